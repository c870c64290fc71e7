set_option maxRecDepth 100000
abbrev cX4_clerkIn : ByteArray := prog_12_method_49_code
def yX4_clerkIn : MethodName := ⟨RX4, "clerkIn", "(II)I"⟩
def dkwX4_clerkIn_0 : List UInt8 := [42, 28, 42, 180, 0, 66, 27, 3, 96, 46, 182, 1, 54, 172]
abbrev dktX4_clerkIn_0 : List UInt8 := dkwX4_clerkIn_0 ++ []
theorem dksX4_clerkIn_0 : cX4_clerkIn.data.toList.drop 0 = dktX4_clerkIn_0 := by decide +kernel
theorem dX4_clerkIn_0 : decode cX4_clerkIn 0 = .ok (.aload_n 0, 1) := dk_42 (dk_at dksX4_clerkIn_0 0 rfl rfl)
theorem dX4_clerkIn_1 : decode cX4_clerkIn 1 = .ok (.iload_n 2, 1) := dk_28 (dk_at dksX4_clerkIn_0 1 rfl rfl)
theorem dX4_clerkIn_2 : decode cX4_clerkIn 2 = .ok (.aload_n 0, 1) := dk_42 (dk_at dksX4_clerkIn_0 2 rfl rfl)
theorem dX4_clerkIn_3 : decode cX4_clerkIn 3 = .ok (.getfield 66, 3) := dk_180 0 66 (dk_at dksX4_clerkIn_0 3 rfl rfl)
theorem dX4_clerkIn_6 : decode cX4_clerkIn 6 = .ok (.iload_n 1, 1) := dk_27 (dk_at dksX4_clerkIn_0 6 rfl rfl)
theorem dX4_clerkIn_7 : decode cX4_clerkIn 7 = .ok (.iconst 0, 1) := dk_3 (dk_at dksX4_clerkIn_0 7 rfl rfl)
theorem dX4_clerkIn_8 : decode cX4_clerkIn 8 = .ok (.iadd, 1) := dk_96 (dk_at dksX4_clerkIn_0 8 rfl rfl)
theorem dX4_clerkIn_9 : decode cX4_clerkIn 9 = .ok (.iaload, 1) := dk_46 (dk_at dksX4_clerkIn_0 9 rfl rfl)
theorem dX4_clerkIn_10 : decode cX4_clerkIn 10 = .ok (.invokevirtual 310, 3) := dk_182 1 54 (dk_at dksX4_clerkIn_0 10 rfl rfl)
theorem dX4_clerkIn_13 : decode cX4_clerkIn 13 = .ok (.ireturn, 1) := dk_172 (dk_at dksX4_clerkIn_0 13 rfl rfl)
abbrev cX4_townOn : ByteArray := prog_12_method_48_code
def yX4_townOn : MethodName := ⟨RX4, "townOn", "(II)I"⟩
def dkwX4_townOn_0 : List UInt8 := [42, 180, 0, 16, 16, 6, 27, 104, 28, 42, 180, 0, 20, 27, 46, 112, 96, 46, 172]
abbrev dktX4_townOn_0 : List UInt8 := dkwX4_townOn_0 ++ []
theorem dksX4_townOn_0 : cX4_townOn.data.toList.drop 0 = dktX4_townOn_0 := by decide +kernel
theorem dX4_townOn_0 : decode cX4_townOn 0 = .ok (.aload_n 0, 1) := dk_42 (dk_at dksX4_townOn_0 0 rfl rfl)
theorem dX4_townOn_1 : decode cX4_townOn 1 = .ok (.getfield 16, 3) := dk_180 0 16 (dk_at dksX4_townOn_0 1 rfl rfl)
theorem dX4_townOn_4 : decode cX4_townOn 4 = .ok (.bipush 6, 2) := dk_16 6 (dk_at dksX4_townOn_0 4 rfl rfl)
theorem dX4_townOn_6 : decode cX4_townOn 6 = .ok (.iload_n 1, 1) := dk_27 (dk_at dksX4_townOn_0 6 rfl rfl)
theorem dX4_townOn_7 : decode cX4_townOn 7 = .ok (.imul, 1) := dk_104 (dk_at dksX4_townOn_0 7 rfl rfl)
theorem dX4_townOn_8 : decode cX4_townOn 8 = .ok (.iload_n 2, 1) := dk_28 (dk_at dksX4_townOn_0 8 rfl rfl)
theorem dX4_townOn_9 : decode cX4_townOn 9 = .ok (.aload_n 0, 1) := dk_42 (dk_at dksX4_townOn_0 9 rfl rfl)
theorem dX4_townOn_10 : decode cX4_townOn 10 = .ok (.getfield 20, 3) := dk_180 0 20 (dk_at dksX4_townOn_0 10 rfl rfl)
theorem dX4_townOn_13 : decode cX4_townOn 13 = .ok (.iload_n 1, 1) := dk_27 (dk_at dksX4_townOn_0 13 rfl rfl)
theorem dX4_townOn_14 : decode cX4_townOn 14 = .ok (.iaload, 1) := dk_46 (dk_at dksX4_townOn_0 14 rfl rfl)
theorem dX4_townOn_15 : decode cX4_townOn 15 = .ok (.irem, 1) := dk_112 (dk_at dksX4_townOn_0 15 rfl rfl)
theorem dX4_townOn_16 : decode cX4_townOn 16 = .ok (.iadd, 1) := dk_96 (dk_at dksX4_townOn_0 16 rfl rfl)
theorem dX4_townOn_17 : decode cX4_townOn 17 = .ok (.iaload, 1) := dk_46 (dk_at dksX4_townOn_0 17 rfl rfl)
theorem dX4_townOn_18 : decode cX4_townOn 18 = .ok (.ireturn, 1) := dk_172 (dk_at dksX4_townOn_0 18 rfl rfl)
abbrev cX4_fitting : ByteArray := prog_12_method_74_code
def yX4_fitting : MethodName := ⟨RX4, "fitting", "(I)I"⟩
def dkwX4_fitting_1 : List UInt8 := [29, 120, 167, 0, 4, 3, 128, 61, 132, 3, 1, 167, 255, 225, 28, 172]
abbrev dktX4_fitting_1 : List UInt8 := dkwX4_fitting_1 ++ []
def dkwX4_fitting_0 : List UInt8 := [3, 61, 3, 62, 29, 42, 180, 1, 24, 162, 0, 29, 28, 42, 3, 27, 29, 182, 1, 75, 153, 0, 9, 4]
abbrev dktX4_fitting_0 : List UInt8 := dkwX4_fitting_0 ++ dktX4_fitting_1
theorem dksX4_fitting_0 : cX4_fitting.data.toList.drop 0 = dktX4_fitting_0 := by decide +kernel
theorem dksX4_fitting_1 : cX4_fitting.data.toList.drop 24 = dktX4_fitting_1 := dk_seg dksX4_fitting_0 24 rfl rfl
theorem dX4_fitting_0 : decode cX4_fitting 0 = .ok (.iconst 0, 1) := dk_3 (dk_at dksX4_fitting_0 0 rfl rfl)
theorem dX4_fitting_1 : decode cX4_fitting 1 = .ok (.istore_n 2, 1) := dk_61 (dk_at dksX4_fitting_0 1 rfl rfl)
theorem dX4_fitting_2 : decode cX4_fitting 2 = .ok (.iconst 0, 1) := dk_3 (dk_at dksX4_fitting_0 2 rfl rfl)
theorem dX4_fitting_3 : decode cX4_fitting 3 = .ok (.istore_n 3, 1) := dk_62 (dk_at dksX4_fitting_0 3 rfl rfl)
theorem dX4_fitting_4 : decode cX4_fitting 4 = .ok (.iload_n 3, 1) := dk_29 (dk_at dksX4_fitting_0 4 rfl rfl)
theorem dX4_fitting_5 : decode cX4_fitting 5 = .ok (.aload_n 0, 1) := dk_42 (dk_at dksX4_fitting_0 5 rfl rfl)
theorem dX4_fitting_6 : decode cX4_fitting 6 = .ok (.getfield 280, 3) := dk_180 1 24 (dk_at dksX4_fitting_0 6 rfl rfl)
theorem dX4_fitting_9 : decode cX4_fitting 9 = .ok (.if_icmp .ge 29, 3) := dk_162 0 29 (dk_at dksX4_fitting_0 9 rfl rfl)
theorem dX4_fitting_12 : decode cX4_fitting 12 = .ok (.iload_n 2, 1) := dk_28 (dk_at dksX4_fitting_0 12 rfl rfl)
theorem dX4_fitting_13 : decode cX4_fitting 13 = .ok (.aload_n 0, 1) := dk_42 (dk_at dksX4_fitting_0 13 rfl rfl)
theorem dX4_fitting_14 : decode cX4_fitting 14 = .ok (.iconst 0, 1) := dk_3 (dk_at dksX4_fitting_0 14 rfl rfl)
theorem dX4_fitting_15 : decode cX4_fitting 15 = .ok (.iload_n 1, 1) := dk_27 (dk_at dksX4_fitting_0 15 rfl rfl)
theorem dX4_fitting_16 : decode cX4_fitting 16 = .ok (.iload_n 3, 1) := dk_29 (dk_at dksX4_fitting_0 16 rfl rfl)
theorem dX4_fitting_17 : decode cX4_fitting 17 = .ok (.invokevirtual 331, 3) := dk_182 1 75 (dk_at dksX4_fitting_0 17 rfl rfl)
theorem dX4_fitting_20 : decode cX4_fitting 20 = .ok (.ifCond .eq 9, 3) := dk_153 0 9 (dk_at dksX4_fitting_0 20 rfl rfl)
theorem dX4_fitting_23 : decode cX4_fitting 23 = .ok (.iconst 1, 1) := dk_4 (dk_at dksX4_fitting_0 23 rfl rfl)
theorem dX4_fitting_24 : decode cX4_fitting 24 = .ok (.iload_n 3, 1) := dk_29 (dk_at dksX4_fitting_1 0 rfl rfl)
theorem dX4_fitting_25 : decode cX4_fitting 25 = .ok (.ishl, 1) := dk_120 (dk_at dksX4_fitting_1 1 rfl rfl)
theorem dX4_fitting_26 : decode cX4_fitting 26 = .ok (.goto 4, 3) := dk_167 0 4 (dk_at dksX4_fitting_1 2 rfl rfl)
theorem dX4_fitting_29 : decode cX4_fitting 29 = .ok (.iconst 0, 1) := dk_3 (dk_at dksX4_fitting_1 5 rfl rfl)
theorem dX4_fitting_30 : decode cX4_fitting 30 = .ok (.ior, 1) := dk_128 (dk_at dksX4_fitting_1 6 rfl rfl)
theorem dX4_fitting_31 : decode cX4_fitting 31 = .ok (.istore_n 2, 1) := dk_61 (dk_at dksX4_fitting_1 7 rfl rfl)
theorem dX4_fitting_32 : decode cX4_fitting 32 = .ok (.iinc 3 1, 3) := dk_132 3 1 (dk_at dksX4_fitting_1 8 rfl rfl)
theorem dX4_fitting_35 : decode cX4_fitting 35 = .ok (.goto (-31), 3) := dk_167 255 225 (dk_at dksX4_fitting_1 11 rfl rfl)
theorem dX4_fitting_38 : decode cX4_fitting 38 = .ok (.iload_n 2, 1) := dk_28 (dk_at dksX4_fitting_1 14 rfl rfl)
theorem dX4_fitting_39 : decode cX4_fitting 39 = .ok (.ireturn, 1) := dk_172 (dk_at dksX4_fitting_1 15 rfl rfl)
abbrev cX4_clerk : ByteArray := prog_12_method_76_code
def yX4_clerk : MethodName := ⟨RX4, "clerk", "(II)I"⟩
def dkwX4_clerk_4 : List UInt8 := [27, 96, 46, 167, 0, 18, 28, 5, 160, 0, 7, 29, 167, 0, 9, 42, 180, 0, 20, 27, 46, 172]
abbrev dktX4_clerk_4 : List UInt8 := dkwX4_clerk_4 ++ []
def dkwX4_clerk_3 : List UInt8 := [28, 154, 0, 12, 42, 3, 27, 182, 1, 57, 167, 0, 35, 28, 4, 160, 0, 15, 42, 180, 0, 66, 16, 28]
abbrev dktX4_clerk_3 : List UInt8 := dkwX4_clerk_3 ++ dktX4_clerk_4
def dkwX4_clerk_2 : List UInt8 := [46, 16, 10, 27, 96, 160, 0, 10, 4, 21, 4, 120, 167, 0, 4, 3, 128, 62, 132, 4, 1, 167, 255, 216]
abbrev dktX4_clerk_2 : List UInt8 := dkwX4_clerk_2 ++ dktX4_clerk_3
def dkwX4_clerk_1 : List UInt8 := [3, 62, 3, 54, 4, 21, 4, 42, 180, 1, 24, 162, 0, 37, 29, 42, 180, 0, 66, 16, 19, 21, 4, 96]
abbrev dktX4_clerk_1 : List UInt8 := dkwX4_clerk_1 ++ dktX4_clerk_2
def dkwX4_clerk_0 : List UInt8 := [42, 3, 181, 0, 102, 42, 27, 182, 1, 131, 153, 0, 12, 42, 28, 6, 182, 1, 125, 154, 0, 5, 3, 172]
abbrev dktX4_clerk_0 : List UInt8 := dkwX4_clerk_0 ++ dktX4_clerk_1
theorem dksX4_clerk_0 : cX4_clerk.data.toList.drop 0 = dktX4_clerk_0 := by decide +kernel
theorem dksX4_clerk_1 : cX4_clerk.data.toList.drop 24 = dktX4_clerk_1 := dk_seg dksX4_clerk_0 24 rfl rfl
theorem dksX4_clerk_2 : cX4_clerk.data.toList.drop 48 = dktX4_clerk_2 := dk_seg dksX4_clerk_1 24 rfl rfl
theorem dksX4_clerk_3 : cX4_clerk.data.toList.drop 72 = dktX4_clerk_3 := dk_seg dksX4_clerk_2 24 rfl rfl
theorem dksX4_clerk_4 : cX4_clerk.data.toList.drop 96 = dktX4_clerk_4 := dk_seg dksX4_clerk_3 24 rfl rfl
theorem dX4_clerk_0 : decode cX4_clerk 0 = .ok (.aload_n 0, 1) := dk_42 (dk_at dksX4_clerk_0 0 rfl rfl)
theorem dX4_clerk_1 : decode cX4_clerk 1 = .ok (.iconst 0, 1) := dk_3 (dk_at dksX4_clerk_0 1 rfl rfl)
theorem dX4_clerk_2 : decode cX4_clerk 2 = .ok (.putfield 102, 3) := dk_181 0 102 (dk_at dksX4_clerk_0 2 rfl rfl)
theorem dX4_clerk_5 : decode cX4_clerk 5 = .ok (.aload_n 0, 1) := dk_42 (dk_at dksX4_clerk_0 5 rfl rfl)
theorem dX4_clerk_6 : decode cX4_clerk 6 = .ok (.iload_n 1, 1) := dk_27 (dk_at dksX4_clerk_0 6 rfl rfl)
theorem dX4_clerk_7 : decode cX4_clerk 7 = .ok (.invokevirtual 387, 3) := dk_182 1 131 (dk_at dksX4_clerk_0 7 rfl rfl)
theorem dX4_clerk_10 : decode cX4_clerk 10 = .ok (.ifCond .eq 12, 3) := dk_153 0 12 (dk_at dksX4_clerk_0 10 rfl rfl)
theorem dX4_clerk_13 : decode cX4_clerk 13 = .ok (.aload_n 0, 1) := dk_42 (dk_at dksX4_clerk_0 13 rfl rfl)
theorem dX4_clerk_14 : decode cX4_clerk 14 = .ok (.iload_n 2, 1) := dk_28 (dk_at dksX4_clerk_0 14 rfl rfl)
theorem dX4_clerk_15 : decode cX4_clerk 15 = .ok (.iconst 3, 1) := dk_6 (dk_at dksX4_clerk_0 15 rfl rfl)
theorem dX4_clerk_16 : decode cX4_clerk 16 = .ok (.invokevirtual 381, 3) := dk_182 1 125 (dk_at dksX4_clerk_0 16 rfl rfl)
theorem dX4_clerk_19 : decode cX4_clerk 19 = .ok (.ifCond .ne 5, 3) := dk_154 0 5 (dk_at dksX4_clerk_0 19 rfl rfl)
theorem dX4_clerk_22 : decode cX4_clerk 22 = .ok (.iconst 0, 1) := dk_3 (dk_at dksX4_clerk_0 22 rfl rfl)
theorem dX4_clerk_23 : decode cX4_clerk 23 = .ok (.ireturn, 1) := dk_172 (dk_at dksX4_clerk_0 23 rfl rfl)
theorem dX4_clerk_24 : decode cX4_clerk 24 = .ok (.iconst 0, 1) := dk_3 (dk_at dksX4_clerk_1 0 rfl rfl)
theorem dX4_clerk_25 : decode cX4_clerk 25 = .ok (.istore_n 3, 1) := dk_62 (dk_at dksX4_clerk_1 1 rfl rfl)
theorem dX4_clerk_26 : decode cX4_clerk 26 = .ok (.iconst 0, 1) := dk_3 (dk_at dksX4_clerk_1 2 rfl rfl)
theorem dX4_clerk_27 : decode cX4_clerk 27 = .ok (.istore 4, 2) := dk_54 4 (dk_at dksX4_clerk_1 3 rfl rfl)
theorem dX4_clerk_29 : decode cX4_clerk 29 = .ok (.iload 4, 2) := dk_21 4 (dk_at dksX4_clerk_1 5 rfl rfl)
theorem dX4_clerk_31 : decode cX4_clerk 31 = .ok (.aload_n 0, 1) := dk_42 (dk_at dksX4_clerk_1 7 rfl rfl)
theorem dX4_clerk_32 : decode cX4_clerk 32 = .ok (.getfield 280, 3) := dk_180 1 24 (dk_at dksX4_clerk_1 8 rfl rfl)
theorem dX4_clerk_35 : decode cX4_clerk 35 = .ok (.if_icmp .ge 37, 3) := dk_162 0 37 (dk_at dksX4_clerk_1 11 rfl rfl)
theorem dX4_clerk_38 : decode cX4_clerk 38 = .ok (.iload_n 3, 1) := dk_29 (dk_at dksX4_clerk_1 14 rfl rfl)
theorem dX4_clerk_39 : decode cX4_clerk 39 = .ok (.aload_n 0, 1) := dk_42 (dk_at dksX4_clerk_1 15 rfl rfl)
theorem dX4_clerk_40 : decode cX4_clerk 40 = .ok (.getfield 66, 3) := dk_180 0 66 (dk_at dksX4_clerk_1 16 rfl rfl)
theorem dX4_clerk_43 : decode cX4_clerk 43 = .ok (.bipush 19, 2) := dk_16 19 (dk_at dksX4_clerk_1 19 rfl rfl)
theorem dX4_clerk_45 : decode cX4_clerk 45 = .ok (.iload 4, 2) := dk_21 4 (dk_at dksX4_clerk_1 21 rfl rfl)
theorem dX4_clerk_47 : decode cX4_clerk 47 = .ok (.iadd, 1) := dk_96 (dk_at dksX4_clerk_1 23 rfl rfl)
theorem dX4_clerk_48 : decode cX4_clerk 48 = .ok (.iaload, 1) := dk_46 (dk_at dksX4_clerk_2 0 rfl rfl)
theorem dX4_clerk_49 : decode cX4_clerk 49 = .ok (.bipush 10, 2) := dk_16 10 (dk_at dksX4_clerk_2 1 rfl rfl)
theorem dX4_clerk_51 : decode cX4_clerk 51 = .ok (.iload_n 1, 1) := dk_27 (dk_at dksX4_clerk_2 3 rfl rfl)
theorem dX4_clerk_52 : decode cX4_clerk 52 = .ok (.iadd, 1) := dk_96 (dk_at dksX4_clerk_2 4 rfl rfl)
theorem dX4_clerk_53 : decode cX4_clerk 53 = .ok (.if_icmp .ne 10, 3) := dk_160 0 10 (dk_at dksX4_clerk_2 5 rfl rfl)
theorem dX4_clerk_56 : decode cX4_clerk 56 = .ok (.iconst 1, 1) := dk_4 (dk_at dksX4_clerk_2 8 rfl rfl)
theorem dX4_clerk_57 : decode cX4_clerk 57 = .ok (.iload 4, 2) := dk_21 4 (dk_at dksX4_clerk_2 9 rfl rfl)
theorem dX4_clerk_59 : decode cX4_clerk 59 = .ok (.ishl, 1) := dk_120 (dk_at dksX4_clerk_2 11 rfl rfl)
theorem dX4_clerk_60 : decode cX4_clerk 60 = .ok (.goto 4, 3) := dk_167 0 4 (dk_at dksX4_clerk_2 12 rfl rfl)
theorem dX4_clerk_63 : decode cX4_clerk 63 = .ok (.iconst 0, 1) := dk_3 (dk_at dksX4_clerk_2 15 rfl rfl)
theorem dX4_clerk_64 : decode cX4_clerk 64 = .ok (.ior, 1) := dk_128 (dk_at dksX4_clerk_2 16 rfl rfl)
theorem dX4_clerk_65 : decode cX4_clerk 65 = .ok (.istore_n 3, 1) := dk_62 (dk_at dksX4_clerk_2 17 rfl rfl)
theorem dX4_clerk_66 : decode cX4_clerk 66 = .ok (.iinc 4 1, 3) := dk_132 4 1 (dk_at dksX4_clerk_2 18 rfl rfl)
theorem dX4_clerk_69 : decode cX4_clerk 69 = .ok (.goto (-40), 3) := dk_167 255 216 (dk_at dksX4_clerk_2 21 rfl rfl)
theorem dX4_clerk_72 : decode cX4_clerk 72 = .ok (.iload_n 2, 1) := dk_28 (dk_at dksX4_clerk_3 0 rfl rfl)
theorem dX4_clerk_73 : decode cX4_clerk 73 = .ok (.ifCond .ne 12, 3) := dk_154 0 12 (dk_at dksX4_clerk_3 1 rfl rfl)
theorem dX4_clerk_76 : decode cX4_clerk 76 = .ok (.aload_n 0, 1) := dk_42 (dk_at dksX4_clerk_3 4 rfl rfl)
theorem dX4_clerk_77 : decode cX4_clerk 77 = .ok (.iconst 0, 1) := dk_3 (dk_at dksX4_clerk_3 5 rfl rfl)
theorem dX4_clerk_78 : decode cX4_clerk 78 = .ok (.iload_n 1, 1) := dk_27 (dk_at dksX4_clerk_3 6 rfl rfl)
theorem dX4_clerk_79 : decode cX4_clerk 79 = .ok (.invokevirtual 313, 3) := dk_182 1 57 (dk_at dksX4_clerk_3 7 rfl rfl)
theorem dX4_clerk_82 : decode cX4_clerk 82 = .ok (.goto 35, 3) := dk_167 0 35 (dk_at dksX4_clerk_3 10 rfl rfl)
theorem dX4_clerk_85 : decode cX4_clerk 85 = .ok (.iload_n 2, 1) := dk_28 (dk_at dksX4_clerk_3 13 rfl rfl)
theorem dX4_clerk_86 : decode cX4_clerk 86 = .ok (.iconst 1, 1) := dk_4 (dk_at dksX4_clerk_3 14 rfl rfl)
theorem dX4_clerk_87 : decode cX4_clerk 87 = .ok (.if_icmp .ne 15, 3) := dk_160 0 15 (dk_at dksX4_clerk_3 15 rfl rfl)
theorem dX4_clerk_90 : decode cX4_clerk 90 = .ok (.aload_n 0, 1) := dk_42 (dk_at dksX4_clerk_3 18 rfl rfl)
theorem dX4_clerk_91 : decode cX4_clerk 91 = .ok (.getfield 66, 3) := dk_180 0 66 (dk_at dksX4_clerk_3 19 rfl rfl)
theorem dX4_clerk_94 : decode cX4_clerk 94 = .ok (.bipush 28, 2) := dk_16 28 (dk_at dksX4_clerk_3 22 rfl rfl)
theorem dX4_clerk_96 : decode cX4_clerk 96 = .ok (.iload_n 1, 1) := dk_27 (dk_at dksX4_clerk_4 0 rfl rfl)
theorem dX4_clerk_97 : decode cX4_clerk 97 = .ok (.iadd, 1) := dk_96 (dk_at dksX4_clerk_4 1 rfl rfl)
theorem dX4_clerk_98 : decode cX4_clerk 98 = .ok (.iaload, 1) := dk_46 (dk_at dksX4_clerk_4 2 rfl rfl)
theorem dX4_clerk_99 : decode cX4_clerk 99 = .ok (.goto 18, 3) := dk_167 0 18 (dk_at dksX4_clerk_4 3 rfl rfl)
theorem dX4_clerk_102 : decode cX4_clerk 102 = .ok (.iload_n 2, 1) := dk_28 (dk_at dksX4_clerk_4 6 rfl rfl)
theorem dX4_clerk_103 : decode cX4_clerk 103 = .ok (.iconst 2, 1) := dk_5 (dk_at dksX4_clerk_4 7 rfl rfl)
theorem dX4_clerk_104 : decode cX4_clerk 104 = .ok (.if_icmp .ne 7, 3) := dk_160 0 7 (dk_at dksX4_clerk_4 8 rfl rfl)
theorem dX4_clerk_107 : decode cX4_clerk 107 = .ok (.iload_n 3, 1) := dk_29 (dk_at dksX4_clerk_4 11 rfl rfl)
theorem dX4_clerk_108 : decode cX4_clerk 108 = .ok (.goto 9, 3) := dk_167 0 9 (dk_at dksX4_clerk_4 12 rfl rfl)
theorem dX4_clerk_111 : decode cX4_clerk 111 = .ok (.aload_n 0, 1) := dk_42 (dk_at dksX4_clerk_4 15 rfl rfl)
theorem dX4_clerk_112 : decode cX4_clerk 112 = .ok (.getfield 20, 3) := dk_180 0 20 (dk_at dksX4_clerk_4 16 rfl rfl)
theorem dX4_clerk_115 : decode cX4_clerk 115 = .ok (.iload_n 1, 1) := dk_27 (dk_at dksX4_clerk_4 19 rfl rfl)
theorem dX4_clerk_116 : decode cX4_clerk 116 = .ok (.iaload, 1) := dk_46 (dk_at dksX4_clerk_4 20 rfl rfl)
theorem dX4_clerk_117 : decode cX4_clerk 117 = .ok (.ireturn, 1) := dk_172 (dk_at dksX4_clerk_4 21 rfl rfl)
abbrev cX4_isClerk : ByteArray := prog_12_method_69_code
def yX4_isClerk : MethodName := ⟨RX4, "isClerk", "(I)Z"⟩
def dkwX4_isClerk_0 : List UInt8 := [42, 27, 155, 0, 15, 27, 42, 180, 1, 27, 162, 0, 7, 4, 167, 0, 4, 3, 4, 182, 1, 17, 172]
abbrev dktX4_isClerk_0 : List UInt8 := dkwX4_isClerk_0 ++ []
theorem dksX4_isClerk_0 : cX4_isClerk.data.toList.drop 0 = dktX4_isClerk_0 := by decide +kernel
theorem dX4_isClerk_0 : decode cX4_isClerk 0 = .ok (.aload_n 0, 1) := dk_42 (dk_at dksX4_isClerk_0 0 rfl rfl)
theorem dX4_isClerk_1 : decode cX4_isClerk 1 = .ok (.iload_n 1, 1) := dk_27 (dk_at dksX4_isClerk_0 1 rfl rfl)
theorem dX4_isClerk_2 : decode cX4_isClerk 2 = .ok (.ifCond .lt 15, 3) := dk_155 0 15 (dk_at dksX4_isClerk_0 2 rfl rfl)
theorem dX4_isClerk_5 : decode cX4_isClerk 5 = .ok (.iload_n 1, 1) := dk_27 (dk_at dksX4_isClerk_0 5 rfl rfl)
theorem dX4_isClerk_6 : decode cX4_isClerk 6 = .ok (.aload_n 0, 1) := dk_42 (dk_at dksX4_isClerk_0 6 rfl rfl)
theorem dX4_isClerk_7 : decode cX4_isClerk 7 = .ok (.getfield 283, 3) := dk_180 1 27 (dk_at dksX4_isClerk_0 7 rfl rfl)
theorem dX4_isClerk_10 : decode cX4_isClerk 10 = .ok (.if_icmp .ge 7, 3) := dk_162 0 7 (dk_at dksX4_isClerk_0 10 rfl rfl)
theorem dX4_isClerk_13 : decode cX4_isClerk 13 = .ok (.iconst 1, 1) := dk_4 (dk_at dksX4_isClerk_0 13 rfl rfl)
theorem dX4_isClerk_14 : decode cX4_isClerk 14 = .ok (.goto 4, 3) := dk_167 0 4 (dk_at dksX4_isClerk_0 14 rfl rfl)
theorem dX4_isClerk_17 : decode cX4_isClerk 17 = .ok (.iconst 0, 1) := dk_3 (dk_at dksX4_isClerk_0 17 rfl rfl)
theorem dX4_isClerk_18 : decode cX4_isClerk 18 = .ok (.iconst 1, 1) := dk_4 (dk_at dksX4_isClerk_0 18 rfl rfl)
theorem dX4_isClerk_19 : decode cX4_isClerk 19 = .ok (.invokevirtual 273, 3) := dk_182 1 17 (dk_at dksX4_isClerk_0 19 rfl rfl)
theorem dX4_isClerk_22 : decode cX4_isClerk 22 = .ok (.ireturn, 1) := dk_172 (dk_at dksX4_isClerk_0 22 rfl rfl)
abbrev cX4_word : ByteArray := prog_12_method_79_code
def yX4_word : MethodName := ⟨RX4, "word", "(II)I"⟩
def dkwX4_word_2 : List UInt8 := [167, 0, 22, 28, 5, 160, 0, 11, 42, 27, 182, 1, 137, 167, 0, 9, 42, 3, 27, 182, 1, 140, 172]
abbrev dktX4_word_2 : List UInt8 := dkwX4_word_2 ++ []
def dkwX4_word_1 : List UInt8 := [28, 154, 0, 12, 42, 180, 0, 23, 27, 46, 167, 0, 36, 28, 4, 160, 0, 12, 42, 180, 0, 26, 27, 46]
abbrev dktX4_word_1 : List UInt8 := dkwX4_word_1 ++ dktX4_word_2
def dkwX4_word_0 : List UInt8 := [42, 3, 181, 0, 102, 42, 27, 182, 1, 134, 153, 0, 12, 42, 28, 6, 182, 1, 125, 154, 0, 5, 3, 172]
abbrev dktX4_word_0 : List UInt8 := dkwX4_word_0 ++ dktX4_word_1
theorem dksX4_word_0 : cX4_word.data.toList.drop 0 = dktX4_word_0 := by decide +kernel
theorem dksX4_word_1 : cX4_word.data.toList.drop 24 = dktX4_word_1 := dk_seg dksX4_word_0 24 rfl rfl
theorem dksX4_word_2 : cX4_word.data.toList.drop 48 = dktX4_word_2 := dk_seg dksX4_word_1 24 rfl rfl
theorem dX4_word_0 : decode cX4_word 0 = .ok (.aload_n 0, 1) := dk_42 (dk_at dksX4_word_0 0 rfl rfl)
theorem dX4_word_1 : decode cX4_word 1 = .ok (.iconst 0, 1) := dk_3 (dk_at dksX4_word_0 1 rfl rfl)
theorem dX4_word_2 : decode cX4_word 2 = .ok (.putfield 102, 3) := dk_181 0 102 (dk_at dksX4_word_0 2 rfl rfl)
theorem dX4_word_5 : decode cX4_word 5 = .ok (.aload_n 0, 1) := dk_42 (dk_at dksX4_word_0 5 rfl rfl)
theorem dX4_word_6 : decode cX4_word 6 = .ok (.iload_n 1, 1) := dk_27 (dk_at dksX4_word_0 6 rfl rfl)
theorem dX4_word_7 : decode cX4_word 7 = .ok (.invokevirtual 390, 3) := dk_182 1 134 (dk_at dksX4_word_0 7 rfl rfl)
theorem dX4_word_10 : decode cX4_word 10 = .ok (.ifCond .eq 12, 3) := dk_153 0 12 (dk_at dksX4_word_0 10 rfl rfl)
theorem dX4_word_13 : decode cX4_word 13 = .ok (.aload_n 0, 1) := dk_42 (dk_at dksX4_word_0 13 rfl rfl)
theorem dX4_word_14 : decode cX4_word 14 = .ok (.iload_n 2, 1) := dk_28 (dk_at dksX4_word_0 14 rfl rfl)
theorem dX4_word_15 : decode cX4_word 15 = .ok (.iconst 3, 1) := dk_6 (dk_at dksX4_word_0 15 rfl rfl)
theorem dX4_word_16 : decode cX4_word 16 = .ok (.invokevirtual 381, 3) := dk_182 1 125 (dk_at dksX4_word_0 16 rfl rfl)
theorem dX4_word_19 : decode cX4_word 19 = .ok (.ifCond .ne 5, 3) := dk_154 0 5 (dk_at dksX4_word_0 19 rfl rfl)
theorem dX4_word_22 : decode cX4_word 22 = .ok (.iconst 0, 1) := dk_3 (dk_at dksX4_word_0 22 rfl rfl)
theorem dX4_word_23 : decode cX4_word 23 = .ok (.ireturn, 1) := dk_172 (dk_at dksX4_word_0 23 rfl rfl)
theorem dX4_word_24 : decode cX4_word 24 = .ok (.iload_n 2, 1) := dk_28 (dk_at dksX4_word_1 0 rfl rfl)
theorem dX4_word_25 : decode cX4_word 25 = .ok (.ifCond .ne 12, 3) := dk_154 0 12 (dk_at dksX4_word_1 1 rfl rfl)
theorem dX4_word_28 : decode cX4_word 28 = .ok (.aload_n 0, 1) := dk_42 (dk_at dksX4_word_1 4 rfl rfl)
theorem dX4_word_29 : decode cX4_word 29 = .ok (.getfield 23, 3) := dk_180 0 23 (dk_at dksX4_word_1 5 rfl rfl)
theorem dX4_word_32 : decode cX4_word 32 = .ok (.iload_n 1, 1) := dk_27 (dk_at dksX4_word_1 8 rfl rfl)
theorem dX4_word_33 : decode cX4_word 33 = .ok (.iaload, 1) := dk_46 (dk_at dksX4_word_1 9 rfl rfl)
theorem dX4_word_34 : decode cX4_word 34 = .ok (.goto 36, 3) := dk_167 0 36 (dk_at dksX4_word_1 10 rfl rfl)
theorem dX4_word_37 : decode cX4_word 37 = .ok (.iload_n 2, 1) := dk_28 (dk_at dksX4_word_1 13 rfl rfl)
theorem dX4_word_38 : decode cX4_word 38 = .ok (.iconst 1, 1) := dk_4 (dk_at dksX4_word_1 14 rfl rfl)
theorem dX4_word_39 : decode cX4_word 39 = .ok (.if_icmp .ne 12, 3) := dk_160 0 12 (dk_at dksX4_word_1 15 rfl rfl)
theorem dX4_word_42 : decode cX4_word 42 = .ok (.aload_n 0, 1) := dk_42 (dk_at dksX4_word_1 18 rfl rfl)
theorem dX4_word_43 : decode cX4_word 43 = .ok (.getfield 26, 3) := dk_180 0 26 (dk_at dksX4_word_1 19 rfl rfl)
theorem dX4_word_46 : decode cX4_word 46 = .ok (.iload_n 1, 1) := dk_27 (dk_at dksX4_word_1 22 rfl rfl)
theorem dX4_word_47 : decode cX4_word 47 = .ok (.iaload, 1) := dk_46 (dk_at dksX4_word_1 23 rfl rfl)
theorem dX4_word_48 : decode cX4_word 48 = .ok (.goto 22, 3) := dk_167 0 22 (dk_at dksX4_word_2 0 rfl rfl)
theorem dX4_word_51 : decode cX4_word 51 = .ok (.iload_n 2, 1) := dk_28 (dk_at dksX4_word_2 3 rfl rfl)
theorem dX4_word_52 : decode cX4_word 52 = .ok (.iconst 2, 1) := dk_5 (dk_at dksX4_word_2 4 rfl rfl)
theorem dX4_word_53 : decode cX4_word 53 = .ok (.if_icmp .ne 11, 3) := dk_160 0 11 (dk_at dksX4_word_2 5 rfl rfl)
theorem dX4_word_56 : decode cX4_word 56 = .ok (.aload_n 0, 1) := dk_42 (dk_at dksX4_word_2 8 rfl rfl)
theorem dX4_word_57 : decode cX4_word 57 = .ok (.iload_n 1, 1) := dk_27 (dk_at dksX4_word_2 9 rfl rfl)
theorem dX4_word_58 : decode cX4_word 58 = .ok (.invokevirtual 393, 3) := dk_182 1 137 (dk_at dksX4_word_2 10 rfl rfl)
theorem dX4_word_61 : decode cX4_word 61 = .ok (.goto 9, 3) := dk_167 0 9 (dk_at dksX4_word_2 13 rfl rfl)
theorem dX4_word_64 : decode cX4_word 64 = .ok (.aload_n 0, 1) := dk_42 (dk_at dksX4_word_2 16 rfl rfl)
theorem dX4_word_65 : decode cX4_word 65 = .ok (.iconst 0, 1) := dk_3 (dk_at dksX4_word_2 17 rfl rfl)
theorem dX4_word_66 : decode cX4_word 66 = .ok (.iload_n 1, 1) := dk_27 (dk_at dksX4_word_2 18 rfl rfl)
theorem dX4_word_67 : decode cX4_word 67 = .ok (.invokevirtual 396, 3) := dk_182 1 140 (dk_at dksX4_word_2 19 rfl rfl)
theorem dX4_word_70 : decode cX4_word 70 = .ok (.ireturn, 1) := dk_172 (dk_at dksX4_word_2 22 rfl rfl)
abbrev cX4_isWord : ByteArray := prog_12_method_70_code
def yX4_isWord : MethodName := ⟨RX4, "isWord", "(I)Z"⟩
def dkwX4_isWord_0 : List UInt8 := [42, 27, 155, 0, 15, 27, 42, 180, 1, 30, 162, 0, 7, 4, 167, 0, 4, 3, 4, 182, 1, 17, 172]
abbrev dktX4_isWord_0 : List UInt8 := dkwX4_isWord_0 ++ []
theorem dksX4_isWord_0 : cX4_isWord.data.toList.drop 0 = dktX4_isWord_0 := by decide +kernel
theorem dX4_isWord_0 : decode cX4_isWord 0 = .ok (.aload_n 0, 1) := dk_42 (dk_at dksX4_isWord_0 0 rfl rfl)
theorem dX4_isWord_1 : decode cX4_isWord 1 = .ok (.iload_n 1, 1) := dk_27 (dk_at dksX4_isWord_0 1 rfl rfl)
theorem dX4_isWord_2 : decode cX4_isWord 2 = .ok (.ifCond .lt 15, 3) := dk_155 0 15 (dk_at dksX4_isWord_0 2 rfl rfl)
theorem dX4_isWord_5 : decode cX4_isWord 5 = .ok (.iload_n 1, 1) := dk_27 (dk_at dksX4_isWord_0 5 rfl rfl)
theorem dX4_isWord_6 : decode cX4_isWord 6 = .ok (.aload_n 0, 1) := dk_42 (dk_at dksX4_isWord_0 6 rfl rfl)
theorem dX4_isWord_7 : decode cX4_isWord 7 = .ok (.getfield 286, 3) := dk_180 1 30 (dk_at dksX4_isWord_0 7 rfl rfl)
theorem dX4_isWord_10 : decode cX4_isWord 10 = .ok (.if_icmp .ge 7, 3) := dk_162 0 7 (dk_at dksX4_isWord_0 10 rfl rfl)
theorem dX4_isWord_13 : decode cX4_isWord 13 = .ok (.iconst 1, 1) := dk_4 (dk_at dksX4_isWord_0 13 rfl rfl)
theorem dX4_isWord_14 : decode cX4_isWord 14 = .ok (.goto 4, 3) := dk_167 0 4 (dk_at dksX4_isWord_0 14 rfl rfl)
theorem dX4_isWord_17 : decode cX4_isWord 17 = .ok (.iconst 0, 1) := dk_3 (dk_at dksX4_isWord_0 17 rfl rfl)
theorem dX4_isWord_18 : decode cX4_isWord 18 = .ok (.iconst 1, 1) := dk_4 (dk_at dksX4_isWord_0 18 rfl rfl)
theorem dX4_isWord_19 : decode cX4_isWord 19 = .ok (.invokevirtual 273, 3) := dk_182 1 17 (dk_at dksX4_isWord_0 19 rfl rfl)
theorem dX4_isWord_22 : decode cX4_isWord 22 = .ok (.ireturn, 1) := dk_172 (dk_at dksX4_isWord_0 22 rfl rfl)
abbrev cX4_showsWhere : ByteArray := prog_12_method_78_code
def yX4_showsWhere : MethodName := ⟨RX4, "showsWhere", "(I)I"⟩
def dkwX4_showsWhere_1 : List UInt8 := [132, 2, 1, 167, 255, 232, 2, 172]
abbrev dktX4_showsWhere_1 : List UInt8 := dkwX4_showsWhere_1 ++ []
def dkwX4_showsWhere_0 : List UInt8 := [3, 61, 28, 7, 162, 0, 25, 42, 3, 28, 182, 1, 91, 27, 122, 4, 126, 4, 160, 0, 5, 28, 172]
abbrev dktX4_showsWhere_0 : List UInt8 := dkwX4_showsWhere_0 ++ dktX4_showsWhere_1
theorem dksX4_showsWhere_0 : cX4_showsWhere.data.toList.drop 0 = dktX4_showsWhere_0 := by decide +kernel
theorem dksX4_showsWhere_1 : cX4_showsWhere.data.toList.drop 23 = dktX4_showsWhere_1 := dk_seg dksX4_showsWhere_0 23 rfl rfl
theorem dX4_showsWhere_0 : decode cX4_showsWhere 0 = .ok (.iconst 0, 1) := dk_3 (dk_at dksX4_showsWhere_0 0 rfl rfl)
theorem dX4_showsWhere_1 : decode cX4_showsWhere 1 = .ok (.istore_n 2, 1) := dk_61 (dk_at dksX4_showsWhere_0 1 rfl rfl)
theorem dX4_showsWhere_2 : decode cX4_showsWhere 2 = .ok (.iload_n 2, 1) := dk_28 (dk_at dksX4_showsWhere_0 2 rfl rfl)
theorem dX4_showsWhere_3 : decode cX4_showsWhere 3 = .ok (.iconst 4, 1) := dk_7 (dk_at dksX4_showsWhere_0 3 rfl rfl)
theorem dX4_showsWhere_4 : decode cX4_showsWhere 4 = .ok (.if_icmp .ge 25, 3) := dk_162 0 25 (dk_at dksX4_showsWhere_0 4 rfl rfl)
theorem dX4_showsWhere_7 : decode cX4_showsWhere 7 = .ok (.aload_n 0, 1) := dk_42 (dk_at dksX4_showsWhere_0 7 rfl rfl)
theorem dX4_showsWhere_8 : decode cX4_showsWhere 8 = .ok (.iconst 0, 1) := dk_3 (dk_at dksX4_showsWhere_0 8 rfl rfl)
theorem dX4_showsWhere_9 : decode cX4_showsWhere 9 = .ok (.iload_n 2, 1) := dk_28 (dk_at dksX4_showsWhere_0 9 rfl rfl)
theorem dX4_showsWhere_10 : decode cX4_showsWhere 10 = .ok (.invokevirtual 347, 3) := dk_182 1 91 (dk_at dksX4_showsWhere_0 10 rfl rfl)
theorem dX4_showsWhere_13 : decode cX4_showsWhere 13 = .ok (.iload_n 1, 1) := dk_27 (dk_at dksX4_showsWhere_0 13 rfl rfl)
theorem dX4_showsWhere_14 : decode cX4_showsWhere 14 = .ok (.ishr, 1) := dk_122 (dk_at dksX4_showsWhere_0 14 rfl rfl)
theorem dX4_showsWhere_15 : decode cX4_showsWhere 15 = .ok (.iconst 1, 1) := dk_4 (dk_at dksX4_showsWhere_0 15 rfl rfl)
theorem dX4_showsWhere_16 : decode cX4_showsWhere 16 = .ok (.iand, 1) := dk_126 (dk_at dksX4_showsWhere_0 16 rfl rfl)
theorem dX4_showsWhere_17 : decode cX4_showsWhere 17 = .ok (.iconst 1, 1) := dk_4 (dk_at dksX4_showsWhere_0 17 rfl rfl)
theorem dX4_showsWhere_18 : decode cX4_showsWhere 18 = .ok (.if_icmp .ne 5, 3) := dk_160 0 5 (dk_at dksX4_showsWhere_0 18 rfl rfl)
theorem dX4_showsWhere_21 : decode cX4_showsWhere 21 = .ok (.iload_n 2, 1) := dk_28 (dk_at dksX4_showsWhere_0 21 rfl rfl)
theorem dX4_showsWhere_22 : decode cX4_showsWhere 22 = .ok (.ireturn, 1) := dk_172 (dk_at dksX4_showsWhere_0 22 rfl rfl)
theorem dX4_showsWhere_23 : decode cX4_showsWhere 23 = .ok (.iinc 2 1, 3) := dk_132 2 1 (dk_at dksX4_showsWhere_1 0 rfl rfl)
theorem dX4_showsWhere_26 : decode cX4_showsWhere 26 = .ok (.goto (-24), 3) := dk_167 255 232 (dk_at dksX4_showsWhere_1 3 rfl rfl)
theorem dX4_showsWhere_29 : decode cX4_showsWhere 29 = .ok (.iconst (-1), 1) := dk_2 (dk_at dksX4_showsWhere_1 6 rfl rfl)
theorem dX4_showsWhere_30 : decode cX4_showsWhere 30 = .ok (.ireturn, 1) := dk_172 (dk_at dksX4_showsWhere_1 7 rfl rfl)
abbrev cX4_showsIn : ByteArray := prog_12_method_56_code
def yX4_showsIn : MethodName := ⟨RX4, "showsIn", "(II)I"⟩
def dkwX4_showsIn_3 : List UInt8 := [153, 0, 10, 4, 21, 5, 120, 167, 0, 4, 3, 128, 54, 4, 132, 5, 1, 167, 255, 184, 21, 4, 172]
abbrev dktX4_showsIn_3 : List UInt8 := dkwX4_showsIn_3 ++ []
def dkwX4_showsIn_2 : List UInt8 := [160, 0, 32, 42, 27, 42, 180, 0, 23, 21, 5, 46, 42, 180, 0, 26, 21, 5, 46, 182, 1, 75]
abbrev dktX4_showsIn_2 : List UInt8 := dkwX4_showsIn_2 ++ dktX4_showsIn_3
def dkwX4_showsIn_1 : List UInt8 := [29, 42, 180, 0, 23, 21, 5, 46, 122, 29, 42, 180, 0, 26, 21, 5, 46, 122, 126, 4, 126, 4]
abbrev dktX4_showsIn_1 : List UInt8 := dkwX4_showsIn_1 ++ dktX4_showsIn_2
def dkwX4_showsIn_0 : List UInt8 := [42, 27, 28, 182, 1, 72, 62, 3, 54, 4, 3, 54, 5, 21, 5, 42, 180, 1, 30, 162, 0, 69, 21, 4]
abbrev dktX4_showsIn_0 : List UInt8 := dkwX4_showsIn_0 ++ dktX4_showsIn_1
theorem dksX4_showsIn_0 : cX4_showsIn.data.toList.drop 0 = dktX4_showsIn_0 := by decide +kernel
theorem dksX4_showsIn_1 : cX4_showsIn.data.toList.drop 24 = dktX4_showsIn_1 := dk_seg dksX4_showsIn_0 24 rfl rfl
theorem dksX4_showsIn_2 : cX4_showsIn.data.toList.drop 46 = dktX4_showsIn_2 := dk_seg dksX4_showsIn_1 22 rfl rfl
theorem dksX4_showsIn_3 : cX4_showsIn.data.toList.drop 68 = dktX4_showsIn_3 := dk_seg dksX4_showsIn_2 22 rfl rfl
theorem dX4_showsIn_0 : decode cX4_showsIn 0 = .ok (.aload_n 0, 1) := dk_42 (dk_at dksX4_showsIn_0 0 rfl rfl)
theorem dX4_showsIn_1 : decode cX4_showsIn 1 = .ok (.iload_n 1, 1) := dk_27 (dk_at dksX4_showsIn_0 1 rfl rfl)
theorem dX4_showsIn_2 : decode cX4_showsIn 2 = .ok (.iload_n 2, 1) := dk_28 (dk_at dksX4_showsIn_0 2 rfl rfl)
theorem dX4_showsIn_3 : decode cX4_showsIn 3 = .ok (.invokevirtual 328, 3) := dk_182 1 72 (dk_at dksX4_showsIn_0 3 rfl rfl)
theorem dX4_showsIn_6 : decode cX4_showsIn 6 = .ok (.istore_n 3, 1) := dk_62 (dk_at dksX4_showsIn_0 6 rfl rfl)
theorem dX4_showsIn_7 : decode cX4_showsIn 7 = .ok (.iconst 0, 1) := dk_3 (dk_at dksX4_showsIn_0 7 rfl rfl)
theorem dX4_showsIn_8 : decode cX4_showsIn 8 = .ok (.istore 4, 2) := dk_54 4 (dk_at dksX4_showsIn_0 8 rfl rfl)
theorem dX4_showsIn_10 : decode cX4_showsIn 10 = .ok (.iconst 0, 1) := dk_3 (dk_at dksX4_showsIn_0 10 rfl rfl)
theorem dX4_showsIn_11 : decode cX4_showsIn 11 = .ok (.istore 5, 2) := dk_54 5 (dk_at dksX4_showsIn_0 11 rfl rfl)
theorem dX4_showsIn_13 : decode cX4_showsIn 13 = .ok (.iload 5, 2) := dk_21 5 (dk_at dksX4_showsIn_0 13 rfl rfl)
theorem dX4_showsIn_15 : decode cX4_showsIn 15 = .ok (.aload_n 0, 1) := dk_42 (dk_at dksX4_showsIn_0 15 rfl rfl)
theorem dX4_showsIn_16 : decode cX4_showsIn 16 = .ok (.getfield 286, 3) := dk_180 1 30 (dk_at dksX4_showsIn_0 16 rfl rfl)
theorem dX4_showsIn_19 : decode cX4_showsIn 19 = .ok (.if_icmp .ge 69, 3) := dk_162 0 69 (dk_at dksX4_showsIn_0 19 rfl rfl)
theorem dX4_showsIn_22 : decode cX4_showsIn 22 = .ok (.iload 4, 2) := dk_21 4 (dk_at dksX4_showsIn_0 22 rfl rfl)
theorem dX4_showsIn_24 : decode cX4_showsIn 24 = .ok (.iload_n 3, 1) := dk_29 (dk_at dksX4_showsIn_1 0 rfl rfl)
theorem dX4_showsIn_25 : decode cX4_showsIn 25 = .ok (.aload_n 0, 1) := dk_42 (dk_at dksX4_showsIn_1 1 rfl rfl)
theorem dX4_showsIn_26 : decode cX4_showsIn 26 = .ok (.getfield 23, 3) := dk_180 0 23 (dk_at dksX4_showsIn_1 2 rfl rfl)
theorem dX4_showsIn_29 : decode cX4_showsIn 29 = .ok (.iload 5, 2) := dk_21 5 (dk_at dksX4_showsIn_1 5 rfl rfl)
theorem dX4_showsIn_31 : decode cX4_showsIn 31 = .ok (.iaload, 1) := dk_46 (dk_at dksX4_showsIn_1 7 rfl rfl)
theorem dX4_showsIn_32 : decode cX4_showsIn 32 = .ok (.ishr, 1) := dk_122 (dk_at dksX4_showsIn_1 8 rfl rfl)
theorem dX4_showsIn_33 : decode cX4_showsIn 33 = .ok (.iload_n 3, 1) := dk_29 (dk_at dksX4_showsIn_1 9 rfl rfl)
theorem dX4_showsIn_34 : decode cX4_showsIn 34 = .ok (.aload_n 0, 1) := dk_42 (dk_at dksX4_showsIn_1 10 rfl rfl)
theorem dX4_showsIn_35 : decode cX4_showsIn 35 = .ok (.getfield 26, 3) := dk_180 0 26 (dk_at dksX4_showsIn_1 11 rfl rfl)
theorem dX4_showsIn_38 : decode cX4_showsIn 38 = .ok (.iload 5, 2) := dk_21 5 (dk_at dksX4_showsIn_1 14 rfl rfl)
theorem dX4_showsIn_40 : decode cX4_showsIn 40 = .ok (.iaload, 1) := dk_46 (dk_at dksX4_showsIn_1 16 rfl rfl)
theorem dX4_showsIn_41 : decode cX4_showsIn 41 = .ok (.ishr, 1) := dk_122 (dk_at dksX4_showsIn_1 17 rfl rfl)
theorem dX4_showsIn_42 : decode cX4_showsIn 42 = .ok (.iand, 1) := dk_126 (dk_at dksX4_showsIn_1 18 rfl rfl)
theorem dX4_showsIn_43 : decode cX4_showsIn 43 = .ok (.iconst 1, 1) := dk_4 (dk_at dksX4_showsIn_1 19 rfl rfl)
theorem dX4_showsIn_44 : decode cX4_showsIn 44 = .ok (.iand, 1) := dk_126 (dk_at dksX4_showsIn_1 20 rfl rfl)
theorem dX4_showsIn_45 : decode cX4_showsIn 45 = .ok (.iconst 1, 1) := dk_4 (dk_at dksX4_showsIn_1 21 rfl rfl)
theorem dX4_showsIn_46 : decode cX4_showsIn 46 = .ok (.if_icmp .ne 32, 3) := dk_160 0 32 (dk_at dksX4_showsIn_2 0 rfl rfl)
theorem dX4_showsIn_49 : decode cX4_showsIn 49 = .ok (.aload_n 0, 1) := dk_42 (dk_at dksX4_showsIn_2 3 rfl rfl)
theorem dX4_showsIn_50 : decode cX4_showsIn 50 = .ok (.iload_n 1, 1) := dk_27 (dk_at dksX4_showsIn_2 4 rfl rfl)
theorem dX4_showsIn_51 : decode cX4_showsIn 51 = .ok (.aload_n 0, 1) := dk_42 (dk_at dksX4_showsIn_2 5 rfl rfl)
theorem dX4_showsIn_52 : decode cX4_showsIn 52 = .ok (.getfield 23, 3) := dk_180 0 23 (dk_at dksX4_showsIn_2 6 rfl rfl)
theorem dX4_showsIn_55 : decode cX4_showsIn 55 = .ok (.iload 5, 2) := dk_21 5 (dk_at dksX4_showsIn_2 9 rfl rfl)
theorem dX4_showsIn_57 : decode cX4_showsIn 57 = .ok (.iaload, 1) := dk_46 (dk_at dksX4_showsIn_2 11 rfl rfl)
theorem dX4_showsIn_58 : decode cX4_showsIn 58 = .ok (.aload_n 0, 1) := dk_42 (dk_at dksX4_showsIn_2 12 rfl rfl)
theorem dX4_showsIn_59 : decode cX4_showsIn 59 = .ok (.getfield 26, 3) := dk_180 0 26 (dk_at dksX4_showsIn_2 13 rfl rfl)
theorem dX4_showsIn_62 : decode cX4_showsIn 62 = .ok (.iload 5, 2) := dk_21 5 (dk_at dksX4_showsIn_2 16 rfl rfl)
theorem dX4_showsIn_64 : decode cX4_showsIn 64 = .ok (.iaload, 1) := dk_46 (dk_at dksX4_showsIn_2 18 rfl rfl)
theorem dX4_showsIn_65 : decode cX4_showsIn 65 = .ok (.invokevirtual 331, 3) := dk_182 1 75 (dk_at dksX4_showsIn_2 19 rfl rfl)
theorem dX4_showsIn_68 : decode cX4_showsIn 68 = .ok (.ifCond .eq 10, 3) := dk_153 0 10 (dk_at dksX4_showsIn_3 0 rfl rfl)
theorem dX4_showsIn_71 : decode cX4_showsIn 71 = .ok (.iconst 1, 1) := dk_4 (dk_at dksX4_showsIn_3 3 rfl rfl)
theorem dX4_showsIn_72 : decode cX4_showsIn 72 = .ok (.iload 5, 2) := dk_21 5 (dk_at dksX4_showsIn_3 4 rfl rfl)
theorem dX4_showsIn_74 : decode cX4_showsIn 74 = .ok (.ishl, 1) := dk_120 (dk_at dksX4_showsIn_3 6 rfl rfl)
theorem dX4_showsIn_75 : decode cX4_showsIn 75 = .ok (.goto 4, 3) := dk_167 0 4 (dk_at dksX4_showsIn_3 7 rfl rfl)
theorem dX4_showsIn_78 : decode cX4_showsIn 78 = .ok (.iconst 0, 1) := dk_3 (dk_at dksX4_showsIn_3 10 rfl rfl)
theorem dX4_showsIn_79 : decode cX4_showsIn 79 = .ok (.ior, 1) := dk_128 (dk_at dksX4_showsIn_3 11 rfl rfl)
theorem dX4_showsIn_80 : decode cX4_showsIn 80 = .ok (.istore 4, 2) := dk_54 4 (dk_at dksX4_showsIn_3 12 rfl rfl)
theorem dX4_showsIn_82 : decode cX4_showsIn 82 = .ok (.iinc 5 1, 3) := dk_132 5 1 (dk_at dksX4_showsIn_3 14 rfl rfl)
theorem dX4_showsIn_85 : decode cX4_showsIn 85 = .ok (.goto (-72), 3) := dk_167 255 184 (dk_at dksX4_showsIn_3 17 rfl rfl)
theorem dX4_showsIn_88 : decode cX4_showsIn 88 = .ok (.iload 4, 2) := dk_21 4 (dk_at dksX4_showsIn_3 20 rfl rfl)
theorem dX4_showsIn_90 : decode cX4_showsIn 90 = .ok (.ireturn, 1) := dk_172 (dk_at dksX4_showsIn_3 22 rfl rfl)
abbrev cX4_sheetsAt : ByteArray := prog_12_method_55_code
def yX4_sheetsAt : MethodName := ⟨RX4, "sheetsAt", "(II)I"⟩
def dkwX4_sheetsAt_1 : List UInt8 := [160, 0, 10, 4, 21, 4, 120, 167, 0, 4, 3, 128, 62, 132, 4, 1, 167, 255, 222, 29, 172]
abbrev dktX4_sheetsAt_1 : List UInt8 := dkwX4_sheetsAt_1 ++ []
def dkwX4_sheetsAt_0 : List UInt8 := [3, 62, 3, 54, 4, 21, 4, 42, 180, 1, 24, 162, 0, 31, 29, 42, 27, 21, 4, 182, 1, 69, 28]
abbrev dktX4_sheetsAt_0 : List UInt8 := dkwX4_sheetsAt_0 ++ dktX4_sheetsAt_1
theorem dksX4_sheetsAt_0 : cX4_sheetsAt.data.toList.drop 0 = dktX4_sheetsAt_0 := by decide +kernel
theorem dksX4_sheetsAt_1 : cX4_sheetsAt.data.toList.drop 23 = dktX4_sheetsAt_1 := dk_seg dksX4_sheetsAt_0 23 rfl rfl
theorem dX4_sheetsAt_0 : decode cX4_sheetsAt 0 = .ok (.iconst 0, 1) := dk_3 (dk_at dksX4_sheetsAt_0 0 rfl rfl)
theorem dX4_sheetsAt_1 : decode cX4_sheetsAt 1 = .ok (.istore_n 3, 1) := dk_62 (dk_at dksX4_sheetsAt_0 1 rfl rfl)
theorem dX4_sheetsAt_2 : decode cX4_sheetsAt 2 = .ok (.iconst 0, 1) := dk_3 (dk_at dksX4_sheetsAt_0 2 rfl rfl)
theorem dX4_sheetsAt_3 : decode cX4_sheetsAt 3 = .ok (.istore 4, 2) := dk_54 4 (dk_at dksX4_sheetsAt_0 3 rfl rfl)
theorem dX4_sheetsAt_5 : decode cX4_sheetsAt 5 = .ok (.iload 4, 2) := dk_21 4 (dk_at dksX4_sheetsAt_0 5 rfl rfl)
theorem dX4_sheetsAt_7 : decode cX4_sheetsAt 7 = .ok (.aload_n 0, 1) := dk_42 (dk_at dksX4_sheetsAt_0 7 rfl rfl)
theorem dX4_sheetsAt_8 : decode cX4_sheetsAt 8 = .ok (.getfield 280, 3) := dk_180 1 24 (dk_at dksX4_sheetsAt_0 8 rfl rfl)
theorem dX4_sheetsAt_11 : decode cX4_sheetsAt 11 = .ok (.if_icmp .ge 31, 3) := dk_162 0 31 (dk_at dksX4_sheetsAt_0 11 rfl rfl)
theorem dX4_sheetsAt_14 : decode cX4_sheetsAt 14 = .ok (.iload_n 3, 1) := dk_29 (dk_at dksX4_sheetsAt_0 14 rfl rfl)
theorem dX4_sheetsAt_15 : decode cX4_sheetsAt 15 = .ok (.aload_n 0, 1) := dk_42 (dk_at dksX4_sheetsAt_0 15 rfl rfl)
theorem dX4_sheetsAt_16 : decode cX4_sheetsAt 16 = .ok (.iload_n 1, 1) := dk_27 (dk_at dksX4_sheetsAt_0 16 rfl rfl)
theorem dX4_sheetsAt_17 : decode cX4_sheetsAt 17 = .ok (.iload 4, 2) := dk_21 4 (dk_at dksX4_sheetsAt_0 17 rfl rfl)
theorem dX4_sheetsAt_19 : decode cX4_sheetsAt 19 = .ok (.invokevirtual 325, 3) := dk_182 1 69 (dk_at dksX4_sheetsAt_0 19 rfl rfl)
theorem dX4_sheetsAt_22 : decode cX4_sheetsAt 22 = .ok (.iload_n 2, 1) := dk_28 (dk_at dksX4_sheetsAt_0 22 rfl rfl)
theorem dX4_sheetsAt_23 : decode cX4_sheetsAt 23 = .ok (.if_icmp .ne 10, 3) := dk_160 0 10 (dk_at dksX4_sheetsAt_1 0 rfl rfl)
theorem dX4_sheetsAt_26 : decode cX4_sheetsAt 26 = .ok (.iconst 1, 1) := dk_4 (dk_at dksX4_sheetsAt_1 3 rfl rfl)
theorem dX4_sheetsAt_27 : decode cX4_sheetsAt 27 = .ok (.iload 4, 2) := dk_21 4 (dk_at dksX4_sheetsAt_1 4 rfl rfl)
theorem dX4_sheetsAt_29 : decode cX4_sheetsAt 29 = .ok (.ishl, 1) := dk_120 (dk_at dksX4_sheetsAt_1 6 rfl rfl)
theorem dX4_sheetsAt_30 : decode cX4_sheetsAt 30 = .ok (.goto 4, 3) := dk_167 0 4 (dk_at dksX4_sheetsAt_1 7 rfl rfl)
theorem dX4_sheetsAt_33 : decode cX4_sheetsAt 33 = .ok (.iconst 0, 1) := dk_3 (dk_at dksX4_sheetsAt_1 10 rfl rfl)
theorem dX4_sheetsAt_34 : decode cX4_sheetsAt 34 = .ok (.ior, 1) := dk_128 (dk_at dksX4_sheetsAt_1 11 rfl rfl)
theorem dX4_sheetsAt_35 : decode cX4_sheetsAt 35 = .ok (.istore_n 3, 1) := dk_62 (dk_at dksX4_sheetsAt_1 12 rfl rfl)
theorem dX4_sheetsAt_36 : decode cX4_sheetsAt 36 = .ok (.iinc 4 1, 3) := dk_132 4 1 (dk_at dksX4_sheetsAt_1 13 rfl rfl)
theorem dX4_sheetsAt_39 : decode cX4_sheetsAt 39 = .ok (.goto (-34), 3) := dk_167 255 222 (dk_at dksX4_sheetsAt_1 16 rfl rfl)
theorem dX4_sheetsAt_42 : decode cX4_sheetsAt 42 = .ok (.iload_n 3, 1) := dk_29 (dk_at dksX4_sheetsAt_1 19 rfl rfl)
theorem dX4_sheetsAt_43 : decode cX4_sheetsAt 43 = .ok (.ireturn, 1) := dk_172 (dk_at dksX4_sheetsAt_1 20 rfl rfl)
abbrev cX4_knowers : ByteArray := prog_12_method_77_code
def yX4_knowers : MethodName := ⟨RX4, "knowers", "(II)I"⟩
def dkwX4_knowers_1 : List UInt8 := [21, 4, 96, 46, 28, 122, 4, 126, 21, 4, 120, 128, 62, 132, 4, 1, 167, 255, 222, 29, 172]
abbrev dktX4_knowers_1 : List UInt8 := dkwX4_knowers_1 ++ []
def dkwX4_knowers_0 : List UInt8 := [3, 62, 3, 54, 4, 21, 4, 42, 180, 1, 27, 162, 0, 31, 29, 42, 180, 0, 66, 27, 16, 28, 96]
abbrev dktX4_knowers_0 : List UInt8 := dkwX4_knowers_0 ++ dktX4_knowers_1
theorem dksX4_knowers_0 : cX4_knowers.data.toList.drop 0 = dktX4_knowers_0 := by decide +kernel
theorem dksX4_knowers_1 : cX4_knowers.data.toList.drop 23 = dktX4_knowers_1 := dk_seg dksX4_knowers_0 23 rfl rfl
theorem dX4_knowers_0 : decode cX4_knowers 0 = .ok (.iconst 0, 1) := dk_3 (dk_at dksX4_knowers_0 0 rfl rfl)
theorem dX4_knowers_1 : decode cX4_knowers 1 = .ok (.istore_n 3, 1) := dk_62 (dk_at dksX4_knowers_0 1 rfl rfl)
theorem dX4_knowers_2 : decode cX4_knowers 2 = .ok (.iconst 0, 1) := dk_3 (dk_at dksX4_knowers_0 2 rfl rfl)
theorem dX4_knowers_3 : decode cX4_knowers 3 = .ok (.istore 4, 2) := dk_54 4 (dk_at dksX4_knowers_0 3 rfl rfl)
theorem dX4_knowers_5 : decode cX4_knowers 5 = .ok (.iload 4, 2) := dk_21 4 (dk_at dksX4_knowers_0 5 rfl rfl)
theorem dX4_knowers_7 : decode cX4_knowers 7 = .ok (.aload_n 0, 1) := dk_42 (dk_at dksX4_knowers_0 7 rfl rfl)
theorem dX4_knowers_8 : decode cX4_knowers 8 = .ok (.getfield 283, 3) := dk_180 1 27 (dk_at dksX4_knowers_0 8 rfl rfl)
theorem dX4_knowers_11 : decode cX4_knowers 11 = .ok (.if_icmp .ge 31, 3) := dk_162 0 31 (dk_at dksX4_knowers_0 11 rfl rfl)
theorem dX4_knowers_14 : decode cX4_knowers 14 = .ok (.iload_n 3, 1) := dk_29 (dk_at dksX4_knowers_0 14 rfl rfl)
theorem dX4_knowers_15 : decode cX4_knowers 15 = .ok (.aload_n 0, 1) := dk_42 (dk_at dksX4_knowers_0 15 rfl rfl)
theorem dX4_knowers_16 : decode cX4_knowers 16 = .ok (.getfield 66, 3) := dk_180 0 66 (dk_at dksX4_knowers_0 16 rfl rfl)
theorem dX4_knowers_19 : decode cX4_knowers 19 = .ok (.iload_n 1, 1) := dk_27 (dk_at dksX4_knowers_0 19 rfl rfl)
theorem dX4_knowers_20 : decode cX4_knowers 20 = .ok (.bipush 28, 2) := dk_16 28 (dk_at dksX4_knowers_0 20 rfl rfl)
theorem dX4_knowers_22 : decode cX4_knowers 22 = .ok (.iadd, 1) := dk_96 (dk_at dksX4_knowers_0 22 rfl rfl)
theorem dX4_knowers_23 : decode cX4_knowers 23 = .ok (.iload 4, 2) := dk_21 4 (dk_at dksX4_knowers_1 0 rfl rfl)
theorem dX4_knowers_25 : decode cX4_knowers 25 = .ok (.iadd, 1) := dk_96 (dk_at dksX4_knowers_1 2 rfl rfl)
theorem dX4_knowers_26 : decode cX4_knowers 26 = .ok (.iaload, 1) := dk_46 (dk_at dksX4_knowers_1 3 rfl rfl)
theorem dX4_knowers_27 : decode cX4_knowers 27 = .ok (.iload_n 2, 1) := dk_28 (dk_at dksX4_knowers_1 4 rfl rfl)
theorem dX4_knowers_28 : decode cX4_knowers 28 = .ok (.ishr, 1) := dk_122 (dk_at dksX4_knowers_1 5 rfl rfl)
theorem dX4_knowers_29 : decode cX4_knowers 29 = .ok (.iconst 1, 1) := dk_4 (dk_at dksX4_knowers_1 6 rfl rfl)
theorem dX4_knowers_30 : decode cX4_knowers 30 = .ok (.iand, 1) := dk_126 (dk_at dksX4_knowers_1 7 rfl rfl)
theorem dX4_knowers_31 : decode cX4_knowers 31 = .ok (.iload 4, 2) := dk_21 4 (dk_at dksX4_knowers_1 8 rfl rfl)
theorem dX4_knowers_33 : decode cX4_knowers 33 = .ok (.ishl, 1) := dk_120 (dk_at dksX4_knowers_1 10 rfl rfl)
theorem dX4_knowers_34 : decode cX4_knowers 34 = .ok (.ior, 1) := dk_128 (dk_at dksX4_knowers_1 11 rfl rfl)
theorem dX4_knowers_35 : decode cX4_knowers 35 = .ok (.istore_n 3, 1) := dk_62 (dk_at dksX4_knowers_1 12 rfl rfl)
theorem dX4_knowers_36 : decode cX4_knowers 36 = .ok (.iinc 4 1, 3) := dk_132 4 1 (dk_at dksX4_knowers_1 13 rfl rfl)
theorem dX4_knowers_39 : decode cX4_knowers 39 = .ok (.goto (-34), 3) := dk_167 255 222 (dk_at dksX4_knowers_1 16 rfl rfl)
theorem dX4_knowers_42 : decode cX4_knowers 42 = .ok (.iload_n 3, 1) := dk_29 (dk_at dksX4_knowers_1 19 rfl rfl)
theorem dX4_knowers_43 : decode cX4_knowers 43 = .ok (.ireturn, 1) := dk_172 (dk_at dksX4_knowers_1 20 rfl rfl)
abbrev cX4_town : ByteArray := prog_12_method_83_code
def yX4_town : MethodName := ⟨RX4, "town", "(II)I"⟩
def dkwX4_town_3 : List UInt8 := [27, 182, 1, 91, 167, 0, 12, 42, 42, 27, 182, 1, 149, 182, 1, 152, 172]
abbrev dktX4_town_3 : List UInt8 := dkwX4_town_3 ++ []
def dkwX4_town_2 : List UInt8 := [167, 0, 40, 28, 5, 160, 0, 12, 42, 3, 27, 182, 1, 79, 167, 0, 26, 28, 6, 160, 0, 12, 42, 3]
abbrev dktX4_town_2 : List UInt8 := dkwX4_town_2 ++ dktX4_town_3
def dkwX4_town_1 : List UInt8 := [28, 154, 0, 11, 42, 27, 182, 1, 149, 167, 0, 54, 28, 4, 160, 0, 12, 42, 3, 27, 182, 1, 72]
abbrev dktX4_town_1 : List UInt8 := dkwX4_town_1 ++ dktX4_town_2
def dkwX4_town_0 : List UInt8 := [42, 3, 181, 0, 102, 42, 27, 182, 1, 146, 153, 0, 12, 42, 28, 7, 182, 1, 125, 154, 0, 5, 3, 172]
abbrev dktX4_town_0 : List UInt8 := dkwX4_town_0 ++ dktX4_town_1
theorem dksX4_town_0 : cX4_town.data.toList.drop 0 = dktX4_town_0 := by decide +kernel
theorem dksX4_town_1 : cX4_town.data.toList.drop 24 = dktX4_town_1 := dk_seg dksX4_town_0 24 rfl rfl
theorem dksX4_town_2 : cX4_town.data.toList.drop 47 = dktX4_town_2 := dk_seg dksX4_town_1 23 rfl rfl
theorem dksX4_town_3 : cX4_town.data.toList.drop 71 = dktX4_town_3 := dk_seg dksX4_town_2 24 rfl rfl
theorem dX4_town_0 : decode cX4_town 0 = .ok (.aload_n 0, 1) := dk_42 (dk_at dksX4_town_0 0 rfl rfl)
theorem dX4_town_1 : decode cX4_town 1 = .ok (.iconst 0, 1) := dk_3 (dk_at dksX4_town_0 1 rfl rfl)
theorem dX4_town_2 : decode cX4_town 2 = .ok (.putfield 102, 3) := dk_181 0 102 (dk_at dksX4_town_0 2 rfl rfl)
theorem dX4_town_5 : decode cX4_town 5 = .ok (.aload_n 0, 1) := dk_42 (dk_at dksX4_town_0 5 rfl rfl)
theorem dX4_town_6 : decode cX4_town 6 = .ok (.iload_n 1, 1) := dk_27 (dk_at dksX4_town_0 6 rfl rfl)
theorem dX4_town_7 : decode cX4_town 7 = .ok (.invokevirtual 402, 3) := dk_182 1 146 (dk_at dksX4_town_0 7 rfl rfl)
theorem dX4_town_10 : decode cX4_town 10 = .ok (.ifCond .eq 12, 3) := dk_153 0 12 (dk_at dksX4_town_0 10 rfl rfl)
theorem dX4_town_13 : decode cX4_town 13 = .ok (.aload_n 0, 1) := dk_42 (dk_at dksX4_town_0 13 rfl rfl)
theorem dX4_town_14 : decode cX4_town 14 = .ok (.iload_n 2, 1) := dk_28 (dk_at dksX4_town_0 14 rfl rfl)
theorem dX4_town_15 : decode cX4_town 15 = .ok (.iconst 4, 1) := dk_7 (dk_at dksX4_town_0 15 rfl rfl)
theorem dX4_town_16 : decode cX4_town 16 = .ok (.invokevirtual 381, 3) := dk_182 1 125 (dk_at dksX4_town_0 16 rfl rfl)
theorem dX4_town_19 : decode cX4_town 19 = .ok (.ifCond .ne 5, 3) := dk_154 0 5 (dk_at dksX4_town_0 19 rfl rfl)
theorem dX4_town_22 : decode cX4_town 22 = .ok (.iconst 0, 1) := dk_3 (dk_at dksX4_town_0 22 rfl rfl)
theorem dX4_town_23 : decode cX4_town 23 = .ok (.ireturn, 1) := dk_172 (dk_at dksX4_town_0 23 rfl rfl)
theorem dX4_town_24 : decode cX4_town 24 = .ok (.iload_n 2, 1) := dk_28 (dk_at dksX4_town_1 0 rfl rfl)
theorem dX4_town_25 : decode cX4_town 25 = .ok (.ifCond .ne 11, 3) := dk_154 0 11 (dk_at dksX4_town_1 1 rfl rfl)
theorem dX4_town_28 : decode cX4_town 28 = .ok (.aload_n 0, 1) := dk_42 (dk_at dksX4_town_1 4 rfl rfl)
theorem dX4_town_29 : decode cX4_town 29 = .ok (.iload_n 1, 1) := dk_27 (dk_at dksX4_town_1 5 rfl rfl)
theorem dX4_town_30 : decode cX4_town 30 = .ok (.invokevirtual 405, 3) := dk_182 1 149 (dk_at dksX4_town_1 6 rfl rfl)
theorem dX4_town_33 : decode cX4_town 33 = .ok (.goto 54, 3) := dk_167 0 54 (dk_at dksX4_town_1 9 rfl rfl)
theorem dX4_town_36 : decode cX4_town 36 = .ok (.iload_n 2, 1) := dk_28 (dk_at dksX4_town_1 12 rfl rfl)
theorem dX4_town_37 : decode cX4_town 37 = .ok (.iconst 1, 1) := dk_4 (dk_at dksX4_town_1 13 rfl rfl)
theorem dX4_town_38 : decode cX4_town 38 = .ok (.if_icmp .ne 12, 3) := dk_160 0 12 (dk_at dksX4_town_1 14 rfl rfl)
theorem dX4_town_41 : decode cX4_town 41 = .ok (.aload_n 0, 1) := dk_42 (dk_at dksX4_town_1 17 rfl rfl)
theorem dX4_town_42 : decode cX4_town 42 = .ok (.iconst 0, 1) := dk_3 (dk_at dksX4_town_1 18 rfl rfl)
theorem dX4_town_43 : decode cX4_town 43 = .ok (.iload_n 1, 1) := dk_27 (dk_at dksX4_town_1 19 rfl rfl)
theorem dX4_town_44 : decode cX4_town 44 = .ok (.invokevirtual 328, 3) := dk_182 1 72 (dk_at dksX4_town_1 20 rfl rfl)
theorem dX4_town_47 : decode cX4_town 47 = .ok (.goto 40, 3) := dk_167 0 40 (dk_at dksX4_town_2 0 rfl rfl)
theorem dX4_town_50 : decode cX4_town 50 = .ok (.iload_n 2, 1) := dk_28 (dk_at dksX4_town_2 3 rfl rfl)
theorem dX4_town_51 : decode cX4_town 51 = .ok (.iconst 2, 1) := dk_5 (dk_at dksX4_town_2 4 rfl rfl)
theorem dX4_town_52 : decode cX4_town 52 = .ok (.if_icmp .ne 12, 3) := dk_160 0 12 (dk_at dksX4_town_2 5 rfl rfl)
theorem dX4_town_55 : decode cX4_town 55 = .ok (.aload_n 0, 1) := dk_42 (dk_at dksX4_town_2 8 rfl rfl)
theorem dX4_town_56 : decode cX4_town 56 = .ok (.iconst 0, 1) := dk_3 (dk_at dksX4_town_2 9 rfl rfl)
theorem dX4_town_57 : decode cX4_town 57 = .ok (.iload_n 1, 1) := dk_27 (dk_at dksX4_town_2 10 rfl rfl)
theorem dX4_town_58 : decode cX4_town 58 = .ok (.invokevirtual 335, 3) := dk_182 1 79 (dk_at dksX4_town_2 11 rfl rfl)
theorem dX4_town_61 : decode cX4_town 61 = .ok (.goto 26, 3) := dk_167 0 26 (dk_at dksX4_town_2 14 rfl rfl)
theorem dX4_town_64 : decode cX4_town 64 = .ok (.iload_n 2, 1) := dk_28 (dk_at dksX4_town_2 17 rfl rfl)
theorem dX4_town_65 : decode cX4_town 65 = .ok (.iconst 3, 1) := dk_6 (dk_at dksX4_town_2 18 rfl rfl)
theorem dX4_town_66 : decode cX4_town 66 = .ok (.if_icmp .ne 12, 3) := dk_160 0 12 (dk_at dksX4_town_2 19 rfl rfl)
theorem dX4_town_69 : decode cX4_town 69 = .ok (.aload_n 0, 1) := dk_42 (dk_at dksX4_town_2 22 rfl rfl)
theorem dX4_town_70 : decode cX4_town 70 = .ok (.iconst 0, 1) := dk_3 (dk_at dksX4_town_2 23 rfl rfl)
theorem dX4_town_71 : decode cX4_town 71 = .ok (.iload_n 1, 1) := dk_27 (dk_at dksX4_town_3 0 rfl rfl)
theorem dX4_town_72 : decode cX4_town 72 = .ok (.invokevirtual 347, 3) := dk_182 1 91 (dk_at dksX4_town_3 1 rfl rfl)
theorem dX4_town_75 : decode cX4_town 75 = .ok (.goto 12, 3) := dk_167 0 12 (dk_at dksX4_town_3 4 rfl rfl)
theorem dX4_town_78 : decode cX4_town 78 = .ok (.aload_n 0, 1) := dk_42 (dk_at dksX4_town_3 7 rfl rfl)
theorem dX4_town_79 : decode cX4_town 79 = .ok (.aload_n 0, 1) := dk_42 (dk_at dksX4_town_3 8 rfl rfl)
theorem dX4_town_80 : decode cX4_town 80 = .ok (.iload_n 1, 1) := dk_27 (dk_at dksX4_town_3 9 rfl rfl)
theorem dX4_town_81 : decode cX4_town 81 = .ok (.invokevirtual 405, 3) := dk_182 1 149 (dk_at dksX4_town_3 10 rfl rfl)
theorem dX4_town_84 : decode cX4_town 84 = .ok (.invokevirtual 408, 3) := dk_182 1 152 (dk_at dksX4_town_3 13 rfl rfl)
theorem dX4_town_87 : decode cX4_town 87 = .ok (.ireturn, 1) := dk_172 (dk_at dksX4_town_3 16 rfl rfl)
abbrev cX4_isTown : ByteArray := prog_12_method_71_code
def yX4_isTown : MethodName := ⟨RX4, "isTown", "(I)Z"⟩
def dkwX4_isTown_0 : List UInt8 := [42, 27, 3, 6, 184, 1, 107, 4, 182, 1, 17, 172]
abbrev dktX4_isTown_0 : List UInt8 := dkwX4_isTown_0 ++ []
theorem dksX4_isTown_0 : cX4_isTown.data.toList.drop 0 = dktX4_isTown_0 := by decide +kernel
theorem dX4_isTown_0 : decode cX4_isTown 0 = .ok (.aload_n 0, 1) := dk_42 (dk_at dksX4_isTown_0 0 rfl rfl)
theorem dX4_isTown_1 : decode cX4_isTown 1 = .ok (.iload_n 1, 1) := dk_27 (dk_at dksX4_isTown_0 1 rfl rfl)
theorem dX4_isTown_2 : decode cX4_isTown 2 = .ok (.iconst 0, 1) := dk_3 (dk_at dksX4_isTown_0 2 rfl rfl)
theorem dX4_isTown_3 : decode cX4_isTown 3 = .ok (.iconst 3, 1) := dk_6 (dk_at dksX4_isTown_0 3 rfl rfl)
theorem dX4_isTown_4 : decode cX4_isTown 4 = .ok (.invokestatic 363, 3) := dk_184 1 107 (dk_at dksX4_isTown_0 4 rfl rfl)
theorem dX4_isTown_7 : decode cX4_isTown 7 = .ok (.iconst 1, 1) := dk_4 (dk_at dksX4_isTown_0 7 rfl rfl)
theorem dX4_isTown_8 : decode cX4_isTown 8 = .ok (.invokevirtual 273, 3) := dk_182 1 17 (dk_at dksX4_isTown_0 8 rfl rfl)
theorem dX4_isTown_11 : decode cX4_isTown 11 = .ok (.ireturn, 1) := dk_172 (dk_at dksX4_isTown_0 11 rfl rfl)
abbrev cX4_archive : ByteArray := prog_12_method_80_code
def yX4_archive : MethodName := ⟨RX4, "archive", "(I)I"⟩
def dkwX4_archive_1 : List UInt8 := [160, 0, 9, 4, 29, 120, 167, 0, 4, 3, 128, 61, 132, 3, 1, 167, 255, 222, 28, 172]
abbrev dktX4_archive_1 : List UInt8 := dkwX4_archive_1 ++ []
def dkwX4_archive_0 : List UInt8 := [3, 61, 3, 62, 29, 42, 180, 1, 24, 162, 0, 32, 28, 42, 180, 0, 66, 16, 19, 29, 96, 46, 27]
abbrev dktX4_archive_0 : List UInt8 := dkwX4_archive_0 ++ dktX4_archive_1
theorem dksX4_archive_0 : cX4_archive.data.toList.drop 0 = dktX4_archive_0 := by decide +kernel
theorem dksX4_archive_1 : cX4_archive.data.toList.drop 23 = dktX4_archive_1 := dk_seg dksX4_archive_0 23 rfl rfl
theorem dX4_archive_0 : decode cX4_archive 0 = .ok (.iconst 0, 1) := dk_3 (dk_at dksX4_archive_0 0 rfl rfl)
theorem dX4_archive_1 : decode cX4_archive 1 = .ok (.istore_n 2, 1) := dk_61 (dk_at dksX4_archive_0 1 rfl rfl)
theorem dX4_archive_2 : decode cX4_archive 2 = .ok (.iconst 0, 1) := dk_3 (dk_at dksX4_archive_0 2 rfl rfl)
theorem dX4_archive_3 : decode cX4_archive 3 = .ok (.istore_n 3, 1) := dk_62 (dk_at dksX4_archive_0 3 rfl rfl)
theorem dX4_archive_4 : decode cX4_archive 4 = .ok (.iload_n 3, 1) := dk_29 (dk_at dksX4_archive_0 4 rfl rfl)
theorem dX4_archive_5 : decode cX4_archive 5 = .ok (.aload_n 0, 1) := dk_42 (dk_at dksX4_archive_0 5 rfl rfl)
theorem dX4_archive_6 : decode cX4_archive 6 = .ok (.getfield 280, 3) := dk_180 1 24 (dk_at dksX4_archive_0 6 rfl rfl)
theorem dX4_archive_9 : decode cX4_archive 9 = .ok (.if_icmp .ge 32, 3) := dk_162 0 32 (dk_at dksX4_archive_0 9 rfl rfl)
theorem dX4_archive_12 : decode cX4_archive 12 = .ok (.iload_n 2, 1) := dk_28 (dk_at dksX4_archive_0 12 rfl rfl)
theorem dX4_archive_13 : decode cX4_archive 13 = .ok (.aload_n 0, 1) := dk_42 (dk_at dksX4_archive_0 13 rfl rfl)
theorem dX4_archive_14 : decode cX4_archive 14 = .ok (.getfield 66, 3) := dk_180 0 66 (dk_at dksX4_archive_0 14 rfl rfl)
theorem dX4_archive_17 : decode cX4_archive 17 = .ok (.bipush 19, 2) := dk_16 19 (dk_at dksX4_archive_0 17 rfl rfl)
theorem dX4_archive_19 : decode cX4_archive 19 = .ok (.iload_n 3, 1) := dk_29 (dk_at dksX4_archive_0 19 rfl rfl)
theorem dX4_archive_20 : decode cX4_archive 20 = .ok (.iadd, 1) := dk_96 (dk_at dksX4_archive_0 20 rfl rfl)
theorem dX4_archive_21 : decode cX4_archive 21 = .ok (.iaload, 1) := dk_46 (dk_at dksX4_archive_0 21 rfl rfl)
theorem dX4_archive_22 : decode cX4_archive 22 = .ok (.iload_n 1, 1) := dk_27 (dk_at dksX4_archive_0 22 rfl rfl)
theorem dX4_archive_23 : decode cX4_archive 23 = .ok (.if_icmp .ne 9, 3) := dk_160 0 9 (dk_at dksX4_archive_1 0 rfl rfl)
theorem dX4_archive_26 : decode cX4_archive 26 = .ok (.iconst 1, 1) := dk_4 (dk_at dksX4_archive_1 3 rfl rfl)
theorem dX4_archive_27 : decode cX4_archive 27 = .ok (.iload_n 3, 1) := dk_29 (dk_at dksX4_archive_1 4 rfl rfl)
theorem dX4_archive_28 : decode cX4_archive 28 = .ok (.ishl, 1) := dk_120 (dk_at dksX4_archive_1 5 rfl rfl)
theorem dX4_archive_29 : decode cX4_archive 29 = .ok (.goto 4, 3) := dk_167 0 4 (dk_at dksX4_archive_1 6 rfl rfl)
theorem dX4_archive_32 : decode cX4_archive 32 = .ok (.iconst 0, 1) := dk_3 (dk_at dksX4_archive_1 9 rfl rfl)
theorem dX4_archive_33 : decode cX4_archive 33 = .ok (.ior, 1) := dk_128 (dk_at dksX4_archive_1 10 rfl rfl)
theorem dX4_archive_34 : decode cX4_archive 34 = .ok (.istore_n 2, 1) := dk_61 (dk_at dksX4_archive_1 11 rfl rfl)
theorem dX4_archive_35 : decode cX4_archive 35 = .ok (.iinc 3 1, 3) := dk_132 3 1 (dk_at dksX4_archive_1 12 rfl rfl)
theorem dX4_archive_38 : decode cX4_archive 38 = .ok (.goto (-34), 3) := dk_167 255 222 (dk_at dksX4_archive_1 15 rfl rfl)
theorem dX4_archive_41 : decode cX4_archive 41 = .ok (.iload_n 2, 1) := dk_28 (dk_at dksX4_archive_1 18 rfl rfl)
theorem dX4_archive_42 : decode cX4_archive 42 = .ok (.ireturn, 1) := dk_172 (dk_at dksX4_archive_1 19 rfl rfl)
abbrev cX4_clerksAt : ByteArray := prog_12_method_54_code
def yX4_clerksAt : MethodName := ⟨RX4, "clerksAt", "(II)I"⟩
def dkwX4_clerksAt_1 : List UInt8 := [160, 0, 10, 4, 21, 4, 120, 167, 0, 4, 3, 128, 62, 132, 4, 1, 167, 255, 222, 29, 172]
abbrev dktX4_clerksAt_1 : List UInt8 := dkwX4_clerksAt_1 ++ []
def dkwX4_clerksAt_0 : List UInt8 := [3, 62, 3, 54, 4, 21, 4, 42, 180, 1, 27, 162, 0, 31, 29, 42, 27, 21, 4, 182, 1, 57, 28]
abbrev dktX4_clerksAt_0 : List UInt8 := dkwX4_clerksAt_0 ++ dktX4_clerksAt_1
theorem dksX4_clerksAt_0 : cX4_clerksAt.data.toList.drop 0 = dktX4_clerksAt_0 := by decide +kernel
theorem dksX4_clerksAt_1 : cX4_clerksAt.data.toList.drop 23 = dktX4_clerksAt_1 := dk_seg dksX4_clerksAt_0 23 rfl rfl
theorem dX4_clerksAt_0 : decode cX4_clerksAt 0 = .ok (.iconst 0, 1) := dk_3 (dk_at dksX4_clerksAt_0 0 rfl rfl)
theorem dX4_clerksAt_1 : decode cX4_clerksAt 1 = .ok (.istore_n 3, 1) := dk_62 (dk_at dksX4_clerksAt_0 1 rfl rfl)
theorem dX4_clerksAt_2 : decode cX4_clerksAt 2 = .ok (.iconst 0, 1) := dk_3 (dk_at dksX4_clerksAt_0 2 rfl rfl)
theorem dX4_clerksAt_3 : decode cX4_clerksAt 3 = .ok (.istore 4, 2) := dk_54 4 (dk_at dksX4_clerksAt_0 3 rfl rfl)
theorem dX4_clerksAt_5 : decode cX4_clerksAt 5 = .ok (.iload 4, 2) := dk_21 4 (dk_at dksX4_clerksAt_0 5 rfl rfl)
theorem dX4_clerksAt_7 : decode cX4_clerksAt 7 = .ok (.aload_n 0, 1) := dk_42 (dk_at dksX4_clerksAt_0 7 rfl rfl)
theorem dX4_clerksAt_8 : decode cX4_clerksAt 8 = .ok (.getfield 283, 3) := dk_180 1 27 (dk_at dksX4_clerksAt_0 8 rfl rfl)
theorem dX4_clerksAt_11 : decode cX4_clerksAt 11 = .ok (.if_icmp .ge 31, 3) := dk_162 0 31 (dk_at dksX4_clerksAt_0 11 rfl rfl)
theorem dX4_clerksAt_14 : decode cX4_clerksAt 14 = .ok (.iload_n 3, 1) := dk_29 (dk_at dksX4_clerksAt_0 14 rfl rfl)
theorem dX4_clerksAt_15 : decode cX4_clerksAt 15 = .ok (.aload_n 0, 1) := dk_42 (dk_at dksX4_clerksAt_0 15 rfl rfl)
theorem dX4_clerksAt_16 : decode cX4_clerksAt 16 = .ok (.iload_n 1, 1) := dk_27 (dk_at dksX4_clerksAt_0 16 rfl rfl)
theorem dX4_clerksAt_17 : decode cX4_clerksAt 17 = .ok (.iload 4, 2) := dk_21 4 (dk_at dksX4_clerksAt_0 17 rfl rfl)
theorem dX4_clerksAt_19 : decode cX4_clerksAt 19 = .ok (.invokevirtual 313, 3) := dk_182 1 57 (dk_at dksX4_clerksAt_0 19 rfl rfl)
theorem dX4_clerksAt_22 : decode cX4_clerksAt 22 = .ok (.iload_n 2, 1) := dk_28 (dk_at dksX4_clerksAt_0 22 rfl rfl)
theorem dX4_clerksAt_23 : decode cX4_clerksAt 23 = .ok (.if_icmp .ne 10, 3) := dk_160 0 10 (dk_at dksX4_clerksAt_1 0 rfl rfl)
theorem dX4_clerksAt_26 : decode cX4_clerksAt 26 = .ok (.iconst 1, 1) := dk_4 (dk_at dksX4_clerksAt_1 3 rfl rfl)
theorem dX4_clerksAt_27 : decode cX4_clerksAt 27 = .ok (.iload 4, 2) := dk_21 4 (dk_at dksX4_clerksAt_1 4 rfl rfl)
theorem dX4_clerksAt_29 : decode cX4_clerksAt 29 = .ok (.ishl, 1) := dk_120 (dk_at dksX4_clerksAt_1 6 rfl rfl)
theorem dX4_clerksAt_30 : decode cX4_clerksAt 30 = .ok (.goto 4, 3) := dk_167 0 4 (dk_at dksX4_clerksAt_1 7 rfl rfl)
theorem dX4_clerksAt_33 : decode cX4_clerksAt 33 = .ok (.iconst 0, 1) := dk_3 (dk_at dksX4_clerksAt_1 10 rfl rfl)
theorem dX4_clerksAt_34 : decode cX4_clerksAt 34 = .ok (.ior, 1) := dk_128 (dk_at dksX4_clerksAt_1 11 rfl rfl)
theorem dX4_clerksAt_35 : decode cX4_clerksAt 35 = .ok (.istore_n 3, 1) := dk_62 (dk_at dksX4_clerksAt_1 12 rfl rfl)
theorem dX4_clerksAt_36 : decode cX4_clerksAt 36 = .ok (.iinc 4 1, 3) := dk_132 4 1 (dk_at dksX4_clerksAt_1 13 rfl rfl)
theorem dX4_clerksAt_39 : decode cX4_clerksAt 39 = .ok (.goto (-34), 3) := dk_167 255 222 (dk_at dksX4_clerksAt_1 16 rfl rfl)
theorem dX4_clerksAt_42 : decode cX4_clerksAt 42 = .ok (.iload_n 3, 1) := dk_29 (dk_at dksX4_clerksAt_1 19 rfl rfl)
theorem dX4_clerksAt_43 : decode cX4_clerksAt 43 = .ok (.ireturn, 1) := dk_172 (dk_at dksX4_clerksAt_1 20 rfl rfl)
abbrev cX4_lostBy : ByteArray := prog_12_method_82_code
def yX4_lostBy : MethodName := ⟨RX4, "lostBy", "(I)I"⟩
def dkwX4_lostBy_2 : List UInt8 := [167, 0, 4, 3, 128, 61, 132, 3, 1, 167, 255, 204, 28, 172]
abbrev dktX4_lostBy_2 : List UInt8 := dkwX4_lostBy_2 ++ []
def dkwX4_lostBy_1 : List UInt8 := [180, 0, 23, 29, 46, 122, 27, 42, 180, 0, 26, 29, 46, 122, 128, 4, 126, 4, 160, 0, 9, 4, 29, 120]
abbrev dktX4_lostBy_1 : List UInt8 := dkwX4_lostBy_1 ++ dktX4_lostBy_2
def dkwX4_lostBy_0 : List UInt8 := [3, 61, 3, 62, 29, 42, 180, 1, 30, 162, 0, 50, 28, 42, 29, 182, 1, 143, 153, 0, 32, 27, 42]
abbrev dktX4_lostBy_0 : List UInt8 := dkwX4_lostBy_0 ++ dktX4_lostBy_1
theorem dksX4_lostBy_0 : cX4_lostBy.data.toList.drop 0 = dktX4_lostBy_0 := by decide +kernel
theorem dksX4_lostBy_1 : cX4_lostBy.data.toList.drop 23 = dktX4_lostBy_1 := dk_seg dksX4_lostBy_0 23 rfl rfl
theorem dksX4_lostBy_2 : cX4_lostBy.data.toList.drop 47 = dktX4_lostBy_2 := dk_seg dksX4_lostBy_1 24 rfl rfl
theorem dX4_lostBy_0 : decode cX4_lostBy 0 = .ok (.iconst 0, 1) := dk_3 (dk_at dksX4_lostBy_0 0 rfl rfl)
theorem dX4_lostBy_1 : decode cX4_lostBy 1 = .ok (.istore_n 2, 1) := dk_61 (dk_at dksX4_lostBy_0 1 rfl rfl)
theorem dX4_lostBy_2 : decode cX4_lostBy 2 = .ok (.iconst 0, 1) := dk_3 (dk_at dksX4_lostBy_0 2 rfl rfl)
theorem dX4_lostBy_3 : decode cX4_lostBy 3 = .ok (.istore_n 3, 1) := dk_62 (dk_at dksX4_lostBy_0 3 rfl rfl)
theorem dX4_lostBy_4 : decode cX4_lostBy 4 = .ok (.iload_n 3, 1) := dk_29 (dk_at dksX4_lostBy_0 4 rfl rfl)
theorem dX4_lostBy_5 : decode cX4_lostBy 5 = .ok (.aload_n 0, 1) := dk_42 (dk_at dksX4_lostBy_0 5 rfl rfl)
theorem dX4_lostBy_6 : decode cX4_lostBy 6 = .ok (.getfield 286, 3) := dk_180 1 30 (dk_at dksX4_lostBy_0 6 rfl rfl)
theorem dX4_lostBy_9 : decode cX4_lostBy 9 = .ok (.if_icmp .ge 50, 3) := dk_162 0 50 (dk_at dksX4_lostBy_0 9 rfl rfl)
theorem dX4_lostBy_12 : decode cX4_lostBy 12 = .ok (.iload_n 2, 1) := dk_28 (dk_at dksX4_lostBy_0 12 rfl rfl)
theorem dX4_lostBy_13 : decode cX4_lostBy 13 = .ok (.aload_n 0, 1) := dk_42 (dk_at dksX4_lostBy_0 13 rfl rfl)
theorem dX4_lostBy_14 : decode cX4_lostBy 14 = .ok (.iload_n 3, 1) := dk_29 (dk_at dksX4_lostBy_0 14 rfl rfl)
theorem dX4_lostBy_15 : decode cX4_lostBy 15 = .ok (.invokevirtual 399, 3) := dk_182 1 143 (dk_at dksX4_lostBy_0 15 rfl rfl)
theorem dX4_lostBy_18 : decode cX4_lostBy 18 = .ok (.ifCond .eq 32, 3) := dk_153 0 32 (dk_at dksX4_lostBy_0 18 rfl rfl)
theorem dX4_lostBy_21 : decode cX4_lostBy 21 = .ok (.iload_n 1, 1) := dk_27 (dk_at dksX4_lostBy_0 21 rfl rfl)
theorem dX4_lostBy_22 : decode cX4_lostBy 22 = .ok (.aload_n 0, 1) := dk_42 (dk_at dksX4_lostBy_0 22 rfl rfl)
theorem dX4_lostBy_23 : decode cX4_lostBy 23 = .ok (.getfield 23, 3) := dk_180 0 23 (dk_at dksX4_lostBy_1 0 rfl rfl)
theorem dX4_lostBy_26 : decode cX4_lostBy 26 = .ok (.iload_n 3, 1) := dk_29 (dk_at dksX4_lostBy_1 3 rfl rfl)
theorem dX4_lostBy_27 : decode cX4_lostBy 27 = .ok (.iaload, 1) := dk_46 (dk_at dksX4_lostBy_1 4 rfl rfl)
theorem dX4_lostBy_28 : decode cX4_lostBy 28 = .ok (.ishr, 1) := dk_122 (dk_at dksX4_lostBy_1 5 rfl rfl)
theorem dX4_lostBy_29 : decode cX4_lostBy 29 = .ok (.iload_n 1, 1) := dk_27 (dk_at dksX4_lostBy_1 6 rfl rfl)
theorem dX4_lostBy_30 : decode cX4_lostBy 30 = .ok (.aload_n 0, 1) := dk_42 (dk_at dksX4_lostBy_1 7 rfl rfl)
theorem dX4_lostBy_31 : decode cX4_lostBy 31 = .ok (.getfield 26, 3) := dk_180 0 26 (dk_at dksX4_lostBy_1 8 rfl rfl)
theorem dX4_lostBy_34 : decode cX4_lostBy 34 = .ok (.iload_n 3, 1) := dk_29 (dk_at dksX4_lostBy_1 11 rfl rfl)
theorem dX4_lostBy_35 : decode cX4_lostBy 35 = .ok (.iaload, 1) := dk_46 (dk_at dksX4_lostBy_1 12 rfl rfl)
theorem dX4_lostBy_36 : decode cX4_lostBy 36 = .ok (.ishr, 1) := dk_122 (dk_at dksX4_lostBy_1 13 rfl rfl)
theorem dX4_lostBy_37 : decode cX4_lostBy 37 = .ok (.ior, 1) := dk_128 (dk_at dksX4_lostBy_1 14 rfl rfl)
theorem dX4_lostBy_38 : decode cX4_lostBy 38 = .ok (.iconst 1, 1) := dk_4 (dk_at dksX4_lostBy_1 15 rfl rfl)
theorem dX4_lostBy_39 : decode cX4_lostBy 39 = .ok (.iand, 1) := dk_126 (dk_at dksX4_lostBy_1 16 rfl rfl)
theorem dX4_lostBy_40 : decode cX4_lostBy 40 = .ok (.iconst 1, 1) := dk_4 (dk_at dksX4_lostBy_1 17 rfl rfl)
theorem dX4_lostBy_41 : decode cX4_lostBy 41 = .ok (.if_icmp .ne 9, 3) := dk_160 0 9 (dk_at dksX4_lostBy_1 18 rfl rfl)
theorem dX4_lostBy_44 : decode cX4_lostBy 44 = .ok (.iconst 1, 1) := dk_4 (dk_at dksX4_lostBy_1 21 rfl rfl)
theorem dX4_lostBy_45 : decode cX4_lostBy 45 = .ok (.iload_n 3, 1) := dk_29 (dk_at dksX4_lostBy_1 22 rfl rfl)
theorem dX4_lostBy_46 : decode cX4_lostBy 46 = .ok (.ishl, 1) := dk_120 (dk_at dksX4_lostBy_1 23 rfl rfl)
theorem dX4_lostBy_47 : decode cX4_lostBy 47 = .ok (.goto 4, 3) := dk_167 0 4 (dk_at dksX4_lostBy_2 0 rfl rfl)
theorem dX4_lostBy_50 : decode cX4_lostBy 50 = .ok (.iconst 0, 1) := dk_3 (dk_at dksX4_lostBy_2 3 rfl rfl)
theorem dX4_lostBy_51 : decode cX4_lostBy 51 = .ok (.ior, 1) := dk_128 (dk_at dksX4_lostBy_2 4 rfl rfl)
theorem dX4_lostBy_52 : decode cX4_lostBy 52 = .ok (.istore_n 2, 1) := dk_61 (dk_at dksX4_lostBy_2 5 rfl rfl)
theorem dX4_lostBy_53 : decode cX4_lostBy 53 = .ok (.iinc 3 1, 3) := dk_132 3 1 (dk_at dksX4_lostBy_2 6 rfl rfl)
theorem dX4_lostBy_56 : decode cX4_lostBy 56 = .ok (.goto (-52), 3) := dk_167 255 204 (dk_at dksX4_lostBy_2 9 rfl rfl)
theorem dX4_lostBy_59 : decode cX4_lostBy 59 = .ok (.iload_n 2, 1) := dk_28 (dk_at dksX4_lostBy_2 12 rfl rfl)
theorem dX4_lostBy_60 : decode cX4_lostBy 60 = .ok (.ireturn, 1) := dk_172 (dk_at dksX4_lostBy_2 13 rfl rfl)
abbrev cX4_isWhole : ByteArray := prog_12_method_81_code
def yX4_isWhole : MethodName := ⟨RX4, "isWhole", "(I)Z"⟩
def dkwX4_isWhole_1 : List UInt8 := [182, 1, 63, 154, 0, 7, 4, 167, 0, 4, 3, 172]
abbrev dktX4_isWhole_1 : List UInt8 := dkwX4_isWhole_1 ++ []
def dkwX4_isWhole_0 : List UInt8 := [42, 3, 42, 180, 0, 23, 27, 46, 182, 1, 63, 154, 0, 21, 42, 3, 42, 180, 0, 26, 27, 46]
abbrev dktX4_isWhole_0 : List UInt8 := dkwX4_isWhole_0 ++ dktX4_isWhole_1
theorem dksX4_isWhole_0 : cX4_isWhole.data.toList.drop 0 = dktX4_isWhole_0 := by decide +kernel
theorem dksX4_isWhole_1 : cX4_isWhole.data.toList.drop 22 = dktX4_isWhole_1 := dk_seg dksX4_isWhole_0 22 rfl rfl
theorem dX4_isWhole_0 : decode cX4_isWhole 0 = .ok (.aload_n 0, 1) := dk_42 (dk_at dksX4_isWhole_0 0 rfl rfl)
theorem dX4_isWhole_1 : decode cX4_isWhole 1 = .ok (.iconst 0, 1) := dk_3 (dk_at dksX4_isWhole_0 1 rfl rfl)
theorem dX4_isWhole_2 : decode cX4_isWhole 2 = .ok (.aload_n 0, 1) := dk_42 (dk_at dksX4_isWhole_0 2 rfl rfl)
theorem dX4_isWhole_3 : decode cX4_isWhole 3 = .ok (.getfield 23, 3) := dk_180 0 23 (dk_at dksX4_isWhole_0 3 rfl rfl)
theorem dX4_isWhole_6 : decode cX4_isWhole 6 = .ok (.iload_n 1, 1) := dk_27 (dk_at dksX4_isWhole_0 6 rfl rfl)
theorem dX4_isWhole_7 : decode cX4_isWhole 7 = .ok (.iaload, 1) := dk_46 (dk_at dksX4_isWhole_0 7 rfl rfl)
theorem dX4_isWhole_8 : decode cX4_isWhole 8 = .ok (.invokevirtual 319, 3) := dk_182 1 63 (dk_at dksX4_isWhole_0 8 rfl rfl)
theorem dX4_isWhole_11 : decode cX4_isWhole 11 = .ok (.ifCond .ne 21, 3) := dk_154 0 21 (dk_at dksX4_isWhole_0 11 rfl rfl)
theorem dX4_isWhole_14 : decode cX4_isWhole 14 = .ok (.aload_n 0, 1) := dk_42 (dk_at dksX4_isWhole_0 14 rfl rfl)
theorem dX4_isWhole_15 : decode cX4_isWhole 15 = .ok (.iconst 0, 1) := dk_3 (dk_at dksX4_isWhole_0 15 rfl rfl)
theorem dX4_isWhole_16 : decode cX4_isWhole 16 = .ok (.aload_n 0, 1) := dk_42 (dk_at dksX4_isWhole_0 16 rfl rfl)
theorem dX4_isWhole_17 : decode cX4_isWhole 17 = .ok (.getfield 26, 3) := dk_180 0 26 (dk_at dksX4_isWhole_0 17 rfl rfl)
theorem dX4_isWhole_20 : decode cX4_isWhole 20 = .ok (.iload_n 1, 1) := dk_27 (dk_at dksX4_isWhole_0 20 rfl rfl)
theorem dX4_isWhole_21 : decode cX4_isWhole 21 = .ok (.iaload, 1) := dk_46 (dk_at dksX4_isWhole_0 21 rfl rfl)
theorem dX4_isWhole_22 : decode cX4_isWhole 22 = .ok (.invokevirtual 319, 3) := dk_182 1 63 (dk_at dksX4_isWhole_1 0 rfl rfl)
theorem dX4_isWhole_25 : decode cX4_isWhole 25 = .ok (.ifCond .ne 7, 3) := dk_154 0 7 (dk_at dksX4_isWhole_1 3 rfl rfl)
theorem dX4_isWhole_28 : decode cX4_isWhole 28 = .ok (.iconst 1, 1) := dk_4 (dk_at dksX4_isWhole_1 6 rfl rfl)
theorem dX4_isWhole_29 : decode cX4_isWhole 29 = .ok (.goto 4, 3) := dk_167 0 4 (dk_at dksX4_isWhole_1 7 rfl rfl)
theorem dX4_isWhole_32 : decode cX4_isWhole 32 = .ok (.iconst 0, 1) := dk_3 (dk_at dksX4_isWhole_1 10 rfl rfl)
theorem dX4_isWhole_33 : decode cX4_isWhole 33 = .ok (.ireturn, 1) := dk_172 (dk_at dksX4_isWhole_1 11 rfl rfl)
abbrev cX4_days : ByteArray := prog_12_method_84_code
def yX4_days : MethodName := ⟨RX4, "days", "(I)I"⟩
def dkwX4_days_2 : List UInt8 := [3, 182, 1, 101, 132, 2, 1, 167, 255, 243, 42, 180, 0, 66, 3, 46, 172]
abbrev dktX4_days_2 : List UInt8 := dkwX4_days_2 ++ []
def dkwX4_days_1 : List UInt8 := [17, 3, 231, 164, 0, 9, 42, 4, 182, 1, 155, 172, 42, 182, 1, 158, 3, 61, 28, 27, 162, 0, 14, 42]
abbrev dktX4_days_1 : List UInt8 := dkwX4_days_1 ++ dktX4_days_2
def dkwX4_days_0 : List UInt8 := [42, 3, 181, 0, 102, 27, 4, 16, 20, 184, 1, 107, 153, 0, 17, 42, 180, 0, 66, 3, 46, 27, 96]
abbrev dktX4_days_0 : List UInt8 := dkwX4_days_0 ++ dktX4_days_1
theorem dksX4_days_0 : cX4_days.data.toList.drop 0 = dktX4_days_0 := by decide +kernel
theorem dksX4_days_1 : cX4_days.data.toList.drop 23 = dktX4_days_1 := dk_seg dksX4_days_0 23 rfl rfl
theorem dksX4_days_2 : cX4_days.data.toList.drop 47 = dktX4_days_2 := dk_seg dksX4_days_1 24 rfl rfl
theorem dX4_days_0 : decode cX4_days 0 = .ok (.aload_n 0, 1) := dk_42 (dk_at dksX4_days_0 0 rfl rfl)
theorem dX4_days_1 : decode cX4_days 1 = .ok (.iconst 0, 1) := dk_3 (dk_at dksX4_days_0 1 rfl rfl)
theorem dX4_days_2 : decode cX4_days 2 = .ok (.putfield 102, 3) := dk_181 0 102 (dk_at dksX4_days_0 2 rfl rfl)
theorem dX4_days_5 : decode cX4_days 5 = .ok (.iload_n 1, 1) := dk_27 (dk_at dksX4_days_0 5 rfl rfl)
theorem dX4_days_6 : decode cX4_days 6 = .ok (.iconst 1, 1) := dk_4 (dk_at dksX4_days_0 6 rfl rfl)
theorem dX4_days_7 : decode cX4_days 7 = .ok (.bipush 20, 2) := dk_16 20 (dk_at dksX4_days_0 7 rfl rfl)
theorem dX4_days_9 : decode cX4_days 9 = .ok (.invokestatic 363, 3) := dk_184 1 107 (dk_at dksX4_days_0 9 rfl rfl)
theorem dX4_days_12 : decode cX4_days 12 = .ok (.ifCond .eq 17, 3) := dk_153 0 17 (dk_at dksX4_days_0 12 rfl rfl)
theorem dX4_days_15 : decode cX4_days 15 = .ok (.aload_n 0, 1) := dk_42 (dk_at dksX4_days_0 15 rfl rfl)
theorem dX4_days_16 : decode cX4_days 16 = .ok (.getfield 66, 3) := dk_180 0 66 (dk_at dksX4_days_0 16 rfl rfl)
theorem dX4_days_19 : decode cX4_days 19 = .ok (.iconst 0, 1) := dk_3 (dk_at dksX4_days_0 19 rfl rfl)
theorem dX4_days_20 : decode cX4_days 20 = .ok (.iaload, 1) := dk_46 (dk_at dksX4_days_0 20 rfl rfl)
theorem dX4_days_21 : decode cX4_days 21 = .ok (.iload_n 1, 1) := dk_27 (dk_at dksX4_days_0 21 rfl rfl)
theorem dX4_days_22 : decode cX4_days 22 = .ok (.iadd, 1) := dk_96 (dk_at dksX4_days_0 22 rfl rfl)
theorem dX4_days_23 : decode cX4_days 23 = .ok (.sipush 999, 3) := dk_17 3 231 (dk_at dksX4_days_1 0 rfl rfl)
theorem dX4_days_26 : decode cX4_days 26 = .ok (.if_icmp .le 9, 3) := dk_164 0 9 (dk_at dksX4_days_1 3 rfl rfl)
theorem dX4_days_29 : decode cX4_days 29 = .ok (.aload_n 0, 1) := dk_42 (dk_at dksX4_days_1 6 rfl rfl)
theorem dX4_days_30 : decode cX4_days 30 = .ok (.iconst 1, 1) := dk_4 (dk_at dksX4_days_1 7 rfl rfl)
theorem dX4_days_31 : decode cX4_days 31 = .ok (.invokevirtual 411, 3) := dk_182 1 155 (dk_at dksX4_days_1 8 rfl rfl)
theorem dX4_days_34 : decode cX4_days 34 = .ok (.ireturn, 1) := dk_172 (dk_at dksX4_days_1 11 rfl rfl)
theorem dX4_days_35 : decode cX4_days 35 = .ok (.aload_n 0, 1) := dk_42 (dk_at dksX4_days_1 12 rfl rfl)
theorem dX4_days_36 : decode cX4_days 36 = .ok (.invokevirtual 414, 3) := dk_182 1 158 (dk_at dksX4_days_1 13 rfl rfl)
theorem dX4_days_39 : decode cX4_days 39 = .ok (.iconst 0, 1) := dk_3 (dk_at dksX4_days_1 16 rfl rfl)
theorem dX4_days_40 : decode cX4_days 40 = .ok (.istore_n 2, 1) := dk_61 (dk_at dksX4_days_1 17 rfl rfl)
theorem dX4_days_41 : decode cX4_days 41 = .ok (.iload_n 2, 1) := dk_28 (dk_at dksX4_days_1 18 rfl rfl)
theorem dX4_days_42 : decode cX4_days 42 = .ok (.iload_n 1, 1) := dk_27 (dk_at dksX4_days_1 19 rfl rfl)
theorem dX4_days_43 : decode cX4_days 43 = .ok (.if_icmp .ge 14, 3) := dk_162 0 14 (dk_at dksX4_days_1 20 rfl rfl)
theorem dX4_days_46 : decode cX4_days 46 = .ok (.aload_n 0, 1) := dk_42 (dk_at dksX4_days_1 23 rfl rfl)
theorem dX4_days_47 : decode cX4_days 47 = .ok (.iconst 0, 1) := dk_3 (dk_at dksX4_days_2 0 rfl rfl)
theorem dX4_days_48 : decode cX4_days 48 = .ok (.invokevirtual 357, 3) := dk_182 1 101 (dk_at dksX4_days_2 1 rfl rfl)
theorem dX4_days_51 : decode cX4_days 51 = .ok (.iinc 2 1, 3) := dk_132 2 1 (dk_at dksX4_days_2 4 rfl rfl)
theorem dX4_days_54 : decode cX4_days 54 = .ok (.goto (-13), 3) := dk_167 255 243 (dk_at dksX4_days_2 7 rfl rfl)
theorem dX4_days_57 : decode cX4_days 57 = .ok (.aload_n 0, 1) := dk_42 (dk_at dksX4_days_2 10 rfl rfl)
theorem dX4_days_58 : decode cX4_days 58 = .ok (.getfield 66, 3) := dk_180 0 66 (dk_at dksX4_days_2 11 rfl rfl)
theorem dX4_days_61 : decode cX4_days 61 = .ok (.iconst 0, 1) := dk_3 (dk_at dksX4_days_2 14 rfl rfl)
theorem dX4_days_62 : decode cX4_days 62 = .ok (.iaload, 1) := dk_46 (dk_at dksX4_days_2 15 rfl rfl)
theorem dX4_days_63 : decode cX4_days 63 = .ok (.ireturn, 1) := dk_172 (dk_at dksX4_days_2 16 rfl rfl)
abbrev cX4_refuses : ByteArray := prog_12_method_43_code
def yX4_refuses : MethodName := ⟨RX4, "refuses", "(I)I"⟩
def dkwX4_refuses_0 : List UInt8 := [42, 180, 0, 38, 27, 92, 46, 4, 96, 79, 2, 172]
abbrev dktX4_refuses_0 : List UInt8 := dkwX4_refuses_0 ++ []
theorem dksX4_refuses_0 : cX4_refuses.data.toList.drop 0 = dktX4_refuses_0 := by decide +kernel
theorem dX4_refuses_0 : decode cX4_refuses 0 = .ok (.aload_n 0, 1) := dk_42 (dk_at dksX4_refuses_0 0 rfl rfl)
theorem dX4_refuses_1 : decode cX4_refuses 1 = .ok (.getfield 38, 3) := dk_180 0 38 (dk_at dksX4_refuses_0 1 rfl rfl)
theorem dX4_refuses_4 : decode cX4_refuses 4 = .ok (.iload_n 1, 1) := dk_27 (dk_at dksX4_refuses_0 4 rfl rfl)
theorem dX4_refuses_5 : decode cX4_refuses 5 = .ok (.dup2, 1) := dk_92 (dk_at dksX4_refuses_0 5 rfl rfl)
theorem dX4_refuses_6 : decode cX4_refuses 6 = .ok (.iaload, 1) := dk_46 (dk_at dksX4_refuses_0 6 rfl rfl)
theorem dX4_refuses_7 : decode cX4_refuses 7 = .ok (.iconst 1, 1) := dk_4 (dk_at dksX4_refuses_0 7 rfl rfl)
theorem dX4_refuses_8 : decode cX4_refuses 8 = .ok (.iadd, 1) := dk_96 (dk_at dksX4_refuses_0 8 rfl rfl)
theorem dX4_refuses_9 : decode cX4_refuses 9 = .ok (.iastore, 1) := dk_79 (dk_at dksX4_refuses_0 9 rfl rfl)
theorem dX4_refuses_10 : decode cX4_refuses 10 = .ok (.iconst (-1), 1) := dk_2 (dk_at dksX4_refuses_0 10 rfl rfl)
theorem dX4_refuses_11 : decode cX4_refuses 11 = .ok (.ireturn, 1) := dk_172 (dk_at dksX4_refuses_0 11 rfl rfl)
abbrev cX4_keeps : ByteArray := prog_12_method_42_code
def yX4_keeps : MethodName := ⟨RX4, "keeps", "()V"⟩
def dkwX4_keeps_3 : List UInt8 := [42, 180, 0, 66, 27, 46, 79, 132, 1, 1, 167, 255, 227, 42, 89, 180, 1, 40, 4, 96, 181, 1, 40, 177]
abbrev dktX4_keeps_3 : List UInt8 := dkwX4_keeps_3 ++ []
def dkwX4_keeps_2 : List UInt8 := [181, 1, 40, 3, 60, 27, 16, 34, 162, 0, 29, 42, 180, 0, 69, 16, 34, 42, 180, 1, 40, 104, 27, 96]
abbrev dktX4_keeps_2 : List UInt8 := dkwX4_keeps_2 ++ dktX4_keeps_3
def dkwX4_keeps_1 : List UInt8 := [16, 34, 100, 42, 180, 0, 69, 27, 46, 79, 132, 1, 1, 167, 255, 231, 42, 89, 180, 1, 40, 4, 100]
abbrev dktX4_keeps_1 : List UInt8 := dkwX4_keeps_1 ++ dktX4_keeps_2
def dkwX4_keeps_0 : List UInt8 := [42, 180, 1, 40, 16, 40, 160, 0, 44, 16, 34, 60, 27, 17, 5, 80, 162, 0, 24, 42, 180, 0, 69, 27]
abbrev dktX4_keeps_0 : List UInt8 := dkwX4_keeps_0 ++ dktX4_keeps_1
theorem dksX4_keeps_0 : cX4_keeps.data.toList.drop 0 = dktX4_keeps_0 := by decide +kernel
theorem dksX4_keeps_1 : cX4_keeps.data.toList.drop 24 = dktX4_keeps_1 := dk_seg dksX4_keeps_0 24 rfl rfl
theorem dksX4_keeps_2 : cX4_keeps.data.toList.drop 47 = dktX4_keeps_2 := dk_seg dksX4_keeps_1 23 rfl rfl
theorem dksX4_keeps_3 : cX4_keeps.data.toList.drop 71 = dktX4_keeps_3 := dk_seg dksX4_keeps_2 24 rfl rfl
theorem dX4_keeps_0 : decode cX4_keeps 0 = .ok (.aload_n 0, 1) := dk_42 (dk_at dksX4_keeps_0 0 rfl rfl)
theorem dX4_keeps_1 : decode cX4_keeps 1 = .ok (.getfield 296, 3) := dk_180 1 40 (dk_at dksX4_keeps_0 1 rfl rfl)
theorem dX4_keeps_4 : decode cX4_keeps 4 = .ok (.bipush 40, 2) := dk_16 40 (dk_at dksX4_keeps_0 4 rfl rfl)
theorem dX4_keeps_6 : decode cX4_keeps 6 = .ok (.if_icmp .ne 44, 3) := dk_160 0 44 (dk_at dksX4_keeps_0 6 rfl rfl)
theorem dX4_keeps_9 : decode cX4_keeps 9 = .ok (.bipush 34, 2) := dk_16 34 (dk_at dksX4_keeps_0 9 rfl rfl)
theorem dX4_keeps_11 : decode cX4_keeps 11 = .ok (.istore_n 1, 1) := dk_60 (dk_at dksX4_keeps_0 11 rfl rfl)
theorem dX4_keeps_12 : decode cX4_keeps 12 = .ok (.iload_n 1, 1) := dk_27 (dk_at dksX4_keeps_0 12 rfl rfl)
theorem dX4_keeps_13 : decode cX4_keeps 13 = .ok (.sipush 1360, 3) := dk_17 5 80 (dk_at dksX4_keeps_0 13 rfl rfl)
theorem dX4_keeps_16 : decode cX4_keeps 16 = .ok (.if_icmp .ge 24, 3) := dk_162 0 24 (dk_at dksX4_keeps_0 16 rfl rfl)
theorem dX4_keeps_19 : decode cX4_keeps 19 = .ok (.aload_n 0, 1) := dk_42 (dk_at dksX4_keeps_0 19 rfl rfl)
theorem dX4_keeps_20 : decode cX4_keeps 20 = .ok (.getfield 69, 3) := dk_180 0 69 (dk_at dksX4_keeps_0 20 rfl rfl)
theorem dX4_keeps_23 : decode cX4_keeps 23 = .ok (.iload_n 1, 1) := dk_27 (dk_at dksX4_keeps_0 23 rfl rfl)
theorem dX4_keeps_24 : decode cX4_keeps 24 = .ok (.bipush 34, 2) := dk_16 34 (dk_at dksX4_keeps_1 0 rfl rfl)
theorem dX4_keeps_26 : decode cX4_keeps 26 = .ok (.isub, 1) := dk_100 (dk_at dksX4_keeps_1 2 rfl rfl)
theorem dX4_keeps_27 : decode cX4_keeps 27 = .ok (.aload_n 0, 1) := dk_42 (dk_at dksX4_keeps_1 3 rfl rfl)
theorem dX4_keeps_28 : decode cX4_keeps 28 = .ok (.getfield 69, 3) := dk_180 0 69 (dk_at dksX4_keeps_1 4 rfl rfl)
theorem dX4_keeps_31 : decode cX4_keeps 31 = .ok (.iload_n 1, 1) := dk_27 (dk_at dksX4_keeps_1 7 rfl rfl)
theorem dX4_keeps_32 : decode cX4_keeps 32 = .ok (.iaload, 1) := dk_46 (dk_at dksX4_keeps_1 8 rfl rfl)
theorem dX4_keeps_33 : decode cX4_keeps 33 = .ok (.iastore, 1) := dk_79 (dk_at dksX4_keeps_1 9 rfl rfl)
theorem dX4_keeps_34 : decode cX4_keeps 34 = .ok (.iinc 1 1, 3) := dk_132 1 1 (dk_at dksX4_keeps_1 10 rfl rfl)
theorem dX4_keeps_37 : decode cX4_keeps 37 = .ok (.goto (-25), 3) := dk_167 255 231 (dk_at dksX4_keeps_1 13 rfl rfl)
theorem dX4_keeps_40 : decode cX4_keeps 40 = .ok (.aload_n 0, 1) := dk_42 (dk_at dksX4_keeps_1 16 rfl rfl)
theorem dX4_keeps_41 : decode cX4_keeps 41 = .ok (.dup, 1) := dk_89 (dk_at dksX4_keeps_1 17 rfl rfl)
theorem dX4_keeps_42 : decode cX4_keeps 42 = .ok (.getfield 296, 3) := dk_180 1 40 (dk_at dksX4_keeps_1 18 rfl rfl)
theorem dX4_keeps_45 : decode cX4_keeps 45 = .ok (.iconst 1, 1) := dk_4 (dk_at dksX4_keeps_1 21 rfl rfl)
theorem dX4_keeps_46 : decode cX4_keeps 46 = .ok (.isub, 1) := dk_100 (dk_at dksX4_keeps_1 22 rfl rfl)
theorem dX4_keeps_47 : decode cX4_keeps 47 = .ok (.putfield 296, 3) := dk_181 1 40 (dk_at dksX4_keeps_2 0 rfl rfl)
theorem dX4_keeps_50 : decode cX4_keeps 50 = .ok (.iconst 0, 1) := dk_3 (dk_at dksX4_keeps_2 3 rfl rfl)
theorem dX4_keeps_51 : decode cX4_keeps 51 = .ok (.istore_n 1, 1) := dk_60 (dk_at dksX4_keeps_2 4 rfl rfl)
theorem dX4_keeps_52 : decode cX4_keeps 52 = .ok (.iload_n 1, 1) := dk_27 (dk_at dksX4_keeps_2 5 rfl rfl)
theorem dX4_keeps_53 : decode cX4_keeps 53 = .ok (.bipush 34, 2) := dk_16 34 (dk_at dksX4_keeps_2 6 rfl rfl)
theorem dX4_keeps_55 : decode cX4_keeps 55 = .ok (.if_icmp .ge 29, 3) := dk_162 0 29 (dk_at dksX4_keeps_2 8 rfl rfl)
theorem dX4_keeps_58 : decode cX4_keeps 58 = .ok (.aload_n 0, 1) := dk_42 (dk_at dksX4_keeps_2 11 rfl rfl)
theorem dX4_keeps_59 : decode cX4_keeps 59 = .ok (.getfield 69, 3) := dk_180 0 69 (dk_at dksX4_keeps_2 12 rfl rfl)
theorem dX4_keeps_62 : decode cX4_keeps 62 = .ok (.bipush 34, 2) := dk_16 34 (dk_at dksX4_keeps_2 15 rfl rfl)
theorem dX4_keeps_64 : decode cX4_keeps 64 = .ok (.aload_n 0, 1) := dk_42 (dk_at dksX4_keeps_2 17 rfl rfl)
theorem dX4_keeps_65 : decode cX4_keeps 65 = .ok (.getfield 296, 3) := dk_180 1 40 (dk_at dksX4_keeps_2 18 rfl rfl)
theorem dX4_keeps_68 : decode cX4_keeps 68 = .ok (.imul, 1) := dk_104 (dk_at dksX4_keeps_2 21 rfl rfl)
theorem dX4_keeps_69 : decode cX4_keeps 69 = .ok (.iload_n 1, 1) := dk_27 (dk_at dksX4_keeps_2 22 rfl rfl)
theorem dX4_keeps_70 : decode cX4_keeps 70 = .ok (.iadd, 1) := dk_96 (dk_at dksX4_keeps_2 23 rfl rfl)
theorem dX4_keeps_71 : decode cX4_keeps 71 = .ok (.aload_n 0, 1) := dk_42 (dk_at dksX4_keeps_3 0 rfl rfl)
theorem dX4_keeps_72 : decode cX4_keeps 72 = .ok (.getfield 66, 3) := dk_180 0 66 (dk_at dksX4_keeps_3 1 rfl rfl)
theorem dX4_keeps_75 : decode cX4_keeps 75 = .ok (.iload_n 1, 1) := dk_27 (dk_at dksX4_keeps_3 4 rfl rfl)
theorem dX4_keeps_76 : decode cX4_keeps 76 = .ok (.iaload, 1) := dk_46 (dk_at dksX4_keeps_3 5 rfl rfl)
theorem dX4_keeps_77 : decode cX4_keeps 77 = .ok (.iastore, 1) := dk_79 (dk_at dksX4_keeps_3 6 rfl rfl)
theorem dX4_keeps_78 : decode cX4_keeps 78 = .ok (.iinc 1 1, 3) := dk_132 1 1 (dk_at dksX4_keeps_3 7 rfl rfl)
theorem dX4_keeps_81 : decode cX4_keeps 81 = .ok (.goto (-29), 3) := dk_167 255 227 (dk_at dksX4_keeps_3 10 rfl rfl)
theorem dX4_keeps_84 : decode cX4_keeps 84 = .ok (.aload_n 0, 1) := dk_42 (dk_at dksX4_keeps_3 13 rfl rfl)
theorem dX4_keeps_85 : decode cX4_keeps 85 = .ok (.dup, 1) := dk_89 (dk_at dksX4_keeps_3 14 rfl rfl)
theorem dX4_keeps_86 : decode cX4_keeps 86 = .ok (.getfield 296, 3) := dk_180 1 40 (dk_at dksX4_keeps_3 15 rfl rfl)
theorem dX4_keeps_89 : decode cX4_keeps 89 = .ok (.iconst 1, 1) := dk_4 (dk_at dksX4_keeps_3 18 rfl rfl)
theorem dX4_keeps_90 : decode cX4_keeps 90 = .ok (.iadd, 1) := dk_96 (dk_at dksX4_keeps_3 19 rfl rfl)
theorem dX4_keeps_91 : decode cX4_keeps 91 = .ok (.putfield 296, 3) := dk_181 1 40 (dk_at dksX4_keeps_3 20 rfl rfl)
theorem dX4_keeps_94 : decode cX4_keeps 94 = .ok (.return_, 1) := dk_177 (dk_at dksX4_keeps_3 23 rfl rfl)
abbrev cX4_dayGoes : ByteArray := prog_12_method_61_code
def yX4_dayGoes : MethodName := ⟨RX4, "dayGoes", "(I)V"⟩
def dkwX4_dayGoes_4 : List UInt8 := [96, 92, 46, 4, 96, 79, 177]
abbrev dktX4_dayGoes_4 : List UInt8 := dkwX4_dayGoes_4 ++ []
def dkwX4_dayGoes_3 : List UInt8 := [182, 1, 63, 154, 0, 9, 42, 27, 28, 182, 1, 98, 132, 2, 1, 167, 255, 222, 42, 180, 0, 66, 27, 3]
abbrev dktX4_dayGoes_3 : List UInt8 := dkwX4_dayGoes_3 ++ dktX4_dayGoes_4
def dkwX4_dayGoes_2 : List UInt8 := [167, 255, 213, 3, 61, 28, 42, 180, 1, 24, 162, 0, 32, 42, 180, 0, 13, 2, 159, 0, 24, 42, 27, 28]
abbrev dktX4_dayGoes_2 : List UInt8 := dkwX4_dayGoes_2 ++ dktX4_dayGoes_3
def dkwX4_dayGoes_1 : List UInt8 := [153, 0, 20, 42, 27, 42, 27, 28, 182, 1, 79, 42, 27, 28, 182, 1, 91, 182, 1, 94, 132, 2, 1]
abbrev dktX4_dayGoes_1 : List UInt8 := dkwX4_dayGoes_1 ++ dktX4_dayGoes_2
def dkwX4_dayGoes_0 : List UInt8 := [3, 61, 28, 7, 162, 0, 44, 42, 27, 28, 182, 1, 79, 153, 0, 29, 42, 27, 28, 182, 1, 88]
abbrev dktX4_dayGoes_0 : List UInt8 := dkwX4_dayGoes_0 ++ dktX4_dayGoes_1
theorem dksX4_dayGoes_0 : cX4_dayGoes.data.toList.drop 0 = dktX4_dayGoes_0 := by decide +kernel
theorem dksX4_dayGoes_1 : cX4_dayGoes.data.toList.drop 22 = dktX4_dayGoes_1 := dk_seg dksX4_dayGoes_0 22 rfl rfl
theorem dksX4_dayGoes_2 : cX4_dayGoes.data.toList.drop 45 = dktX4_dayGoes_2 := dk_seg dksX4_dayGoes_1 23 rfl rfl
theorem dksX4_dayGoes_3 : cX4_dayGoes.data.toList.drop 69 = dktX4_dayGoes_3 := dk_seg dksX4_dayGoes_2 24 rfl rfl
theorem dksX4_dayGoes_4 : cX4_dayGoes.data.toList.drop 93 = dktX4_dayGoes_4 := dk_seg dksX4_dayGoes_3 24 rfl rfl
theorem dX4_dayGoes_0 : decode cX4_dayGoes 0 = .ok (.iconst 0, 1) := dk_3 (dk_at dksX4_dayGoes_0 0 rfl rfl)
theorem dX4_dayGoes_1 : decode cX4_dayGoes 1 = .ok (.istore_n 2, 1) := dk_61 (dk_at dksX4_dayGoes_0 1 rfl rfl)
theorem dX4_dayGoes_2 : decode cX4_dayGoes 2 = .ok (.iload_n 2, 1) := dk_28 (dk_at dksX4_dayGoes_0 2 rfl rfl)
theorem dX4_dayGoes_3 : decode cX4_dayGoes 3 = .ok (.iconst 4, 1) := dk_7 (dk_at dksX4_dayGoes_0 3 rfl rfl)
theorem dX4_dayGoes_4 : decode cX4_dayGoes 4 = .ok (.if_icmp .ge 44, 3) := dk_162 0 44 (dk_at dksX4_dayGoes_0 4 rfl rfl)
theorem dX4_dayGoes_7 : decode cX4_dayGoes 7 = .ok (.aload_n 0, 1) := dk_42 (dk_at dksX4_dayGoes_0 7 rfl rfl)
theorem dX4_dayGoes_8 : decode cX4_dayGoes 8 = .ok (.iload_n 1, 1) := dk_27 (dk_at dksX4_dayGoes_0 8 rfl rfl)
theorem dX4_dayGoes_9 : decode cX4_dayGoes 9 = .ok (.iload_n 2, 1) := dk_28 (dk_at dksX4_dayGoes_0 9 rfl rfl)
theorem dX4_dayGoes_10 : decode cX4_dayGoes 10 = .ok (.invokevirtual 335, 3) := dk_182 1 79 (dk_at dksX4_dayGoes_0 10 rfl rfl)
theorem dX4_dayGoes_13 : decode cX4_dayGoes 13 = .ok (.ifCond .eq 29, 3) := dk_153 0 29 (dk_at dksX4_dayGoes_0 13 rfl rfl)
theorem dX4_dayGoes_16 : decode cX4_dayGoes 16 = .ok (.aload_n 0, 1) := dk_42 (dk_at dksX4_dayGoes_0 16 rfl rfl)
theorem dX4_dayGoes_17 : decode cX4_dayGoes 17 = .ok (.iload_n 1, 1) := dk_27 (dk_at dksX4_dayGoes_0 17 rfl rfl)
theorem dX4_dayGoes_18 : decode cX4_dayGoes 18 = .ok (.iload_n 2, 1) := dk_28 (dk_at dksX4_dayGoes_0 18 rfl rfl)
theorem dX4_dayGoes_19 : decode cX4_dayGoes 19 = .ok (.invokevirtual 344, 3) := dk_182 1 88 (dk_at dksX4_dayGoes_0 19 rfl rfl)
theorem dX4_dayGoes_22 : decode cX4_dayGoes 22 = .ok (.ifCond .eq 20, 3) := dk_153 0 20 (dk_at dksX4_dayGoes_1 0 rfl rfl)
theorem dX4_dayGoes_25 : decode cX4_dayGoes 25 = .ok (.aload_n 0, 1) := dk_42 (dk_at dksX4_dayGoes_1 3 rfl rfl)
theorem dX4_dayGoes_26 : decode cX4_dayGoes 26 = .ok (.iload_n 1, 1) := dk_27 (dk_at dksX4_dayGoes_1 4 rfl rfl)
theorem dX4_dayGoes_27 : decode cX4_dayGoes 27 = .ok (.aload_n 0, 1) := dk_42 (dk_at dksX4_dayGoes_1 5 rfl rfl)
theorem dX4_dayGoes_28 : decode cX4_dayGoes 28 = .ok (.iload_n 1, 1) := dk_27 (dk_at dksX4_dayGoes_1 6 rfl rfl)
theorem dX4_dayGoes_29 : decode cX4_dayGoes 29 = .ok (.iload_n 2, 1) := dk_28 (dk_at dksX4_dayGoes_1 7 rfl rfl)
theorem dX4_dayGoes_30 : decode cX4_dayGoes 30 = .ok (.invokevirtual 335, 3) := dk_182 1 79 (dk_at dksX4_dayGoes_1 8 rfl rfl)
theorem dX4_dayGoes_33 : decode cX4_dayGoes 33 = .ok (.aload_n 0, 1) := dk_42 (dk_at dksX4_dayGoes_1 11 rfl rfl)
theorem dX4_dayGoes_34 : decode cX4_dayGoes 34 = .ok (.iload_n 1, 1) := dk_27 (dk_at dksX4_dayGoes_1 12 rfl rfl)
theorem dX4_dayGoes_35 : decode cX4_dayGoes 35 = .ok (.iload_n 2, 1) := dk_28 (dk_at dksX4_dayGoes_1 13 rfl rfl)
theorem dX4_dayGoes_36 : decode cX4_dayGoes 36 = .ok (.invokevirtual 347, 3) := dk_182 1 91 (dk_at dksX4_dayGoes_1 14 rfl rfl)
theorem dX4_dayGoes_39 : decode cX4_dayGoes 39 = .ok (.invokevirtual 350, 3) := dk_182 1 94 (dk_at dksX4_dayGoes_1 17 rfl rfl)
theorem dX4_dayGoes_42 : decode cX4_dayGoes 42 = .ok (.iinc 2 1, 3) := dk_132 2 1 (dk_at dksX4_dayGoes_1 20 rfl rfl)
theorem dX4_dayGoes_45 : decode cX4_dayGoes 45 = .ok (.goto (-43), 3) := dk_167 255 213 (dk_at dksX4_dayGoes_2 0 rfl rfl)
theorem dX4_dayGoes_48 : decode cX4_dayGoes 48 = .ok (.iconst 0, 1) := dk_3 (dk_at dksX4_dayGoes_2 3 rfl rfl)
theorem dX4_dayGoes_49 : decode cX4_dayGoes 49 = .ok (.istore_n 2, 1) := dk_61 (dk_at dksX4_dayGoes_2 4 rfl rfl)
theorem dX4_dayGoes_50 : decode cX4_dayGoes 50 = .ok (.iload_n 2, 1) := dk_28 (dk_at dksX4_dayGoes_2 5 rfl rfl)
theorem dX4_dayGoes_51 : decode cX4_dayGoes 51 = .ok (.aload_n 0, 1) := dk_42 (dk_at dksX4_dayGoes_2 6 rfl rfl)
theorem dX4_dayGoes_52 : decode cX4_dayGoes 52 = .ok (.getfield 280, 3) := dk_180 1 24 (dk_at dksX4_dayGoes_2 7 rfl rfl)
theorem dX4_dayGoes_55 : decode cX4_dayGoes 55 = .ok (.if_icmp .ge 32, 3) := dk_162 0 32 (dk_at dksX4_dayGoes_2 10 rfl rfl)
theorem dX4_dayGoes_58 : decode cX4_dayGoes 58 = .ok (.aload_n 0, 1) := dk_42 (dk_at dksX4_dayGoes_2 13 rfl rfl)
theorem dX4_dayGoes_59 : decode cX4_dayGoes 59 = .ok (.getfield 13, 3) := dk_180 0 13 (dk_at dksX4_dayGoes_2 14 rfl rfl)
theorem dX4_dayGoes_62 : decode cX4_dayGoes 62 = .ok (.iconst (-1), 1) := dk_2 (dk_at dksX4_dayGoes_2 17 rfl rfl)
theorem dX4_dayGoes_63 : decode cX4_dayGoes 63 = .ok (.if_icmp .eq 24, 3) := dk_159 0 24 (dk_at dksX4_dayGoes_2 18 rfl rfl)
theorem dX4_dayGoes_66 : decode cX4_dayGoes 66 = .ok (.aload_n 0, 1) := dk_42 (dk_at dksX4_dayGoes_2 21 rfl rfl)
theorem dX4_dayGoes_67 : decode cX4_dayGoes 67 = .ok (.iload_n 1, 1) := dk_27 (dk_at dksX4_dayGoes_2 22 rfl rfl)
theorem dX4_dayGoes_68 : decode cX4_dayGoes 68 = .ok (.iload_n 2, 1) := dk_28 (dk_at dksX4_dayGoes_2 23 rfl rfl)
theorem dX4_dayGoes_69 : decode cX4_dayGoes 69 = .ok (.invokevirtual 319, 3) := dk_182 1 63 (dk_at dksX4_dayGoes_3 0 rfl rfl)
theorem dX4_dayGoes_72 : decode cX4_dayGoes 72 = .ok (.ifCond .ne 9, 3) := dk_154 0 9 (dk_at dksX4_dayGoes_3 3 rfl rfl)
theorem dX4_dayGoes_75 : decode cX4_dayGoes 75 = .ok (.aload_n 0, 1) := dk_42 (dk_at dksX4_dayGoes_3 6 rfl rfl)
theorem dX4_dayGoes_76 : decode cX4_dayGoes 76 = .ok (.iload_n 1, 1) := dk_27 (dk_at dksX4_dayGoes_3 7 rfl rfl)
theorem dX4_dayGoes_77 : decode cX4_dayGoes 77 = .ok (.iload_n 2, 1) := dk_28 (dk_at dksX4_dayGoes_3 8 rfl rfl)
theorem dX4_dayGoes_78 : decode cX4_dayGoes 78 = .ok (.invokevirtual 354, 3) := dk_182 1 98 (dk_at dksX4_dayGoes_3 9 rfl rfl)
theorem dX4_dayGoes_81 : decode cX4_dayGoes 81 = .ok (.iinc 2 1, 3) := dk_132 2 1 (dk_at dksX4_dayGoes_3 12 rfl rfl)
theorem dX4_dayGoes_84 : decode cX4_dayGoes 84 = .ok (.goto (-34), 3) := dk_167 255 222 (dk_at dksX4_dayGoes_3 15 rfl rfl)
theorem dX4_dayGoes_87 : decode cX4_dayGoes 87 = .ok (.aload_n 0, 1) := dk_42 (dk_at dksX4_dayGoes_3 18 rfl rfl)
theorem dX4_dayGoes_88 : decode cX4_dayGoes 88 = .ok (.getfield 66, 3) := dk_180 0 66 (dk_at dksX4_dayGoes_3 19 rfl rfl)
theorem dX4_dayGoes_91 : decode cX4_dayGoes 91 = .ok (.iload_n 1, 1) := dk_27 (dk_at dksX4_dayGoes_3 22 rfl rfl)
theorem dX4_dayGoes_92 : decode cX4_dayGoes 92 = .ok (.iconst 0, 1) := dk_3 (dk_at dksX4_dayGoes_3 23 rfl rfl)
theorem dX4_dayGoes_93 : decode cX4_dayGoes 93 = .ok (.iadd, 1) := dk_96 (dk_at dksX4_dayGoes_4 0 rfl rfl)
theorem dX4_dayGoes_94 : decode cX4_dayGoes 94 = .ok (.dup2, 1) := dk_92 (dk_at dksX4_dayGoes_4 1 rfl rfl)
theorem dX4_dayGoes_95 : decode cX4_dayGoes 95 = .ok (.iaload, 1) := dk_46 (dk_at dksX4_dayGoes_4 2 rfl rfl)
theorem dX4_dayGoes_96 : decode cX4_dayGoes 96 = .ok (.iconst 1, 1) := dk_4 (dk_at dksX4_dayGoes_4 3 rfl rfl)
theorem dX4_dayGoes_97 : decode cX4_dayGoes 97 = .ok (.iadd, 1) := dk_96 (dk_at dksX4_dayGoes_4 4 rfl rfl)
theorem dX4_dayGoes_98 : decode cX4_dayGoes 98 = .ok (.iastore, 1) := dk_79 (dk_at dksX4_dayGoes_4 5 rfl rfl)
theorem dX4_dayGoes_99 : decode cX4_dayGoes 99 = .ok (.return_, 1) := dk_177 (dk_at dksX4_dayGoes_4 6 rfl rfl)
abbrev cX4_doesLay : ByteArray := prog_12_method_59_code
def yX4_doesLay : MethodName := ⟨RX4, "doesLay", "(II)Z"⟩
def dkwX4_doesLay_4 : List UInt8 := [4, 167, 0, 4, 3, 172]
abbrev dktX4_doesLay_4 : List UInt8 := dkwX4_doesLay_4 ++ []
def dkwX4_doesLay_3 : List UInt8 := [180, 0, 72, 8, 42, 180, 0, 66, 27, 3, 96, 46, 79, 42, 42, 180, 0, 9, 182, 1, 85, 158, 0, 7]
abbrev dktX4_doesLay_3 : List UInt8 := dkwX4_doesLay_3 ++ dktX4_doesLay_4
def dkwX4_doesLay_2 : List UInt8 := [79, 42, 180, 0, 72, 16, 8, 42, 27, 42, 27, 28, 182, 1, 79, 182, 1, 82, 184, 1, 60, 79, 42]
abbrev dktX4_doesLay_2 : List UInt8 := dkwX4_doesLay_2 ++ dktX4_doesLay_3
def dkwX4_doesLay_1 : List UInt8 := [27, 28, 182, 1, 72, 184, 1, 60, 79, 42, 180, 0, 72, 16, 7, 42, 27, 28, 182, 1, 79, 184, 1, 60]
abbrev dktX4_doesLay_1 : List UInt8 := dkwX4_doesLay_1 ++ dktX4_doesLay_2
def dkwX4_doesLay_0 : List UInt8 := [42, 180, 0, 9, 2, 160, 0, 5, 4, 172, 42, 180, 0, 72, 7, 28, 79, 42, 180, 0, 72, 16, 6, 42]
abbrev dktX4_doesLay_0 : List UInt8 := dkwX4_doesLay_0 ++ dktX4_doesLay_1
theorem dksX4_doesLay_0 : cX4_doesLay.data.toList.drop 0 = dktX4_doesLay_0 := by decide +kernel
theorem dksX4_doesLay_1 : cX4_doesLay.data.toList.drop 24 = dktX4_doesLay_1 := dk_seg dksX4_doesLay_0 24 rfl rfl
theorem dksX4_doesLay_2 : cX4_doesLay.data.toList.drop 48 = dktX4_doesLay_2 := dk_seg dksX4_doesLay_1 24 rfl rfl
theorem dksX4_doesLay_3 : cX4_doesLay.data.toList.drop 71 = dktX4_doesLay_3 := dk_seg dksX4_doesLay_2 23 rfl rfl
theorem dksX4_doesLay_4 : cX4_doesLay.data.toList.drop 95 = dktX4_doesLay_4 := dk_seg dksX4_doesLay_3 24 rfl rfl
theorem dX4_doesLay_0 : decode cX4_doesLay 0 = .ok (.aload_n 0, 1) := dk_42 (dk_at dksX4_doesLay_0 0 rfl rfl)
theorem dX4_doesLay_1 : decode cX4_doesLay 1 = .ok (.getfield 9, 3) := dk_180 0 9 (dk_at dksX4_doesLay_0 1 rfl rfl)
theorem dX4_doesLay_4 : decode cX4_doesLay 4 = .ok (.iconst (-1), 1) := dk_2 (dk_at dksX4_doesLay_0 4 rfl rfl)
theorem dX4_doesLay_5 : decode cX4_doesLay 5 = .ok (.if_icmp .ne 5, 3) := dk_160 0 5 (dk_at dksX4_doesLay_0 5 rfl rfl)
theorem dX4_doesLay_8 : decode cX4_doesLay 8 = .ok (.iconst 1, 1) := dk_4 (dk_at dksX4_doesLay_0 8 rfl rfl)
theorem dX4_doesLay_9 : decode cX4_doesLay 9 = .ok (.ireturn, 1) := dk_172 (dk_at dksX4_doesLay_0 9 rfl rfl)
theorem dX4_doesLay_10 : decode cX4_doesLay 10 = .ok (.aload_n 0, 1) := dk_42 (dk_at dksX4_doesLay_0 10 rfl rfl)
theorem dX4_doesLay_11 : decode cX4_doesLay 11 = .ok (.getfield 72, 3) := dk_180 0 72 (dk_at dksX4_doesLay_0 11 rfl rfl)
theorem dX4_doesLay_14 : decode cX4_doesLay 14 = .ok (.iconst 4, 1) := dk_7 (dk_at dksX4_doesLay_0 14 rfl rfl)
theorem dX4_doesLay_15 : decode cX4_doesLay 15 = .ok (.iload_n 2, 1) := dk_28 (dk_at dksX4_doesLay_0 15 rfl rfl)
theorem dX4_doesLay_16 : decode cX4_doesLay 16 = .ok (.iastore, 1) := dk_79 (dk_at dksX4_doesLay_0 16 rfl rfl)
theorem dX4_doesLay_17 : decode cX4_doesLay 17 = .ok (.aload_n 0, 1) := dk_42 (dk_at dksX4_doesLay_0 17 rfl rfl)
theorem dX4_doesLay_18 : decode cX4_doesLay 18 = .ok (.getfield 72, 3) := dk_180 0 72 (dk_at dksX4_doesLay_0 18 rfl rfl)
theorem dX4_doesLay_21 : decode cX4_doesLay 21 = .ok (.bipush 6, 2) := dk_16 6 (dk_at dksX4_doesLay_0 21 rfl rfl)
theorem dX4_doesLay_23 : decode cX4_doesLay 23 = .ok (.aload_n 0, 1) := dk_42 (dk_at dksX4_doesLay_0 23 rfl rfl)
theorem dX4_doesLay_24 : decode cX4_doesLay 24 = .ok (.iload_n 1, 1) := dk_27 (dk_at dksX4_doesLay_1 0 rfl rfl)
theorem dX4_doesLay_25 : decode cX4_doesLay 25 = .ok (.iload_n 2, 1) := dk_28 (dk_at dksX4_doesLay_1 1 rfl rfl)
theorem dX4_doesLay_26 : decode cX4_doesLay 26 = .ok (.invokevirtual 328, 3) := dk_182 1 72 (dk_at dksX4_doesLay_1 2 rfl rfl)
theorem dX4_doesLay_29 : decode cX4_doesLay 29 = .ok (.invokestatic 316, 3) := dk_184 1 60 (dk_at dksX4_doesLay_1 5 rfl rfl)
theorem dX4_doesLay_32 : decode cX4_doesLay 32 = .ok (.iastore, 1) := dk_79 (dk_at dksX4_doesLay_1 8 rfl rfl)
theorem dX4_doesLay_33 : decode cX4_doesLay 33 = .ok (.aload_n 0, 1) := dk_42 (dk_at dksX4_doesLay_1 9 rfl rfl)
theorem dX4_doesLay_34 : decode cX4_doesLay 34 = .ok (.getfield 72, 3) := dk_180 0 72 (dk_at dksX4_doesLay_1 10 rfl rfl)
theorem dX4_doesLay_37 : decode cX4_doesLay 37 = .ok (.bipush 7, 2) := dk_16 7 (dk_at dksX4_doesLay_1 13 rfl rfl)
theorem dX4_doesLay_39 : decode cX4_doesLay 39 = .ok (.aload_n 0, 1) := dk_42 (dk_at dksX4_doesLay_1 15 rfl rfl)
theorem dX4_doesLay_40 : decode cX4_doesLay 40 = .ok (.iload_n 1, 1) := dk_27 (dk_at dksX4_doesLay_1 16 rfl rfl)
theorem dX4_doesLay_41 : decode cX4_doesLay 41 = .ok (.iload_n 2, 1) := dk_28 (dk_at dksX4_doesLay_1 17 rfl rfl)
theorem dX4_doesLay_42 : decode cX4_doesLay 42 = .ok (.invokevirtual 335, 3) := dk_182 1 79 (dk_at dksX4_doesLay_1 18 rfl rfl)
theorem dX4_doesLay_45 : decode cX4_doesLay 45 = .ok (.invokestatic 316, 3) := dk_184 1 60 (dk_at dksX4_doesLay_1 21 rfl rfl)
theorem dX4_doesLay_48 : decode cX4_doesLay 48 = .ok (.iastore, 1) := dk_79 (dk_at dksX4_doesLay_2 0 rfl rfl)
theorem dX4_doesLay_49 : decode cX4_doesLay 49 = .ok (.aload_n 0, 1) := dk_42 (dk_at dksX4_doesLay_2 1 rfl rfl)
theorem dX4_doesLay_50 : decode cX4_doesLay 50 = .ok (.getfield 72, 3) := dk_180 0 72 (dk_at dksX4_doesLay_2 2 rfl rfl)
theorem dX4_doesLay_53 : decode cX4_doesLay 53 = .ok (.bipush 8, 2) := dk_16 8 (dk_at dksX4_doesLay_2 5 rfl rfl)
theorem dX4_doesLay_55 : decode cX4_doesLay 55 = .ok (.aload_n 0, 1) := dk_42 (dk_at dksX4_doesLay_2 7 rfl rfl)
theorem dX4_doesLay_56 : decode cX4_doesLay 56 = .ok (.iload_n 1, 1) := dk_27 (dk_at dksX4_doesLay_2 8 rfl rfl)
theorem dX4_doesLay_57 : decode cX4_doesLay 57 = .ok (.aload_n 0, 1) := dk_42 (dk_at dksX4_doesLay_2 9 rfl rfl)
theorem dX4_doesLay_58 : decode cX4_doesLay 58 = .ok (.iload_n 1, 1) := dk_27 (dk_at dksX4_doesLay_2 10 rfl rfl)
theorem dX4_doesLay_59 : decode cX4_doesLay 59 = .ok (.iload_n 2, 1) := dk_28 (dk_at dksX4_doesLay_2 11 rfl rfl)
theorem dX4_doesLay_60 : decode cX4_doesLay 60 = .ok (.invokevirtual 335, 3) := dk_182 1 79 (dk_at dksX4_doesLay_2 12 rfl rfl)
theorem dX4_doesLay_63 : decode cX4_doesLay 63 = .ok (.invokevirtual 338, 3) := dk_182 1 82 (dk_at dksX4_doesLay_2 15 rfl rfl)
theorem dX4_doesLay_66 : decode cX4_doesLay 66 = .ok (.invokestatic 316, 3) := dk_184 1 60 (dk_at dksX4_doesLay_2 18 rfl rfl)
theorem dX4_doesLay_69 : decode cX4_doesLay 69 = .ok (.iastore, 1) := dk_79 (dk_at dksX4_doesLay_2 21 rfl rfl)
theorem dX4_doesLay_70 : decode cX4_doesLay 70 = .ok (.aload_n 0, 1) := dk_42 (dk_at dksX4_doesLay_2 22 rfl rfl)
theorem dX4_doesLay_71 : decode cX4_doesLay 71 = .ok (.getfield 72, 3) := dk_180 0 72 (dk_at dksX4_doesLay_3 0 rfl rfl)
theorem dX4_doesLay_74 : decode cX4_doesLay 74 = .ok (.iconst 5, 1) := dk_8 (dk_at dksX4_doesLay_3 3 rfl rfl)
theorem dX4_doesLay_75 : decode cX4_doesLay 75 = .ok (.aload_n 0, 1) := dk_42 (dk_at dksX4_doesLay_3 4 rfl rfl)
theorem dX4_doesLay_76 : decode cX4_doesLay 76 = .ok (.getfield 66, 3) := dk_180 0 66 (dk_at dksX4_doesLay_3 5 rfl rfl)
theorem dX4_doesLay_79 : decode cX4_doesLay 79 = .ok (.iload_n 1, 1) := dk_27 (dk_at dksX4_doesLay_3 8 rfl rfl)
theorem dX4_doesLay_80 : decode cX4_doesLay 80 = .ok (.iconst 0, 1) := dk_3 (dk_at dksX4_doesLay_3 9 rfl rfl)
theorem dX4_doesLay_81 : decode cX4_doesLay 81 = .ok (.iadd, 1) := dk_96 (dk_at dksX4_doesLay_3 10 rfl rfl)
theorem dX4_doesLay_82 : decode cX4_doesLay 82 = .ok (.iaload, 1) := dk_46 (dk_at dksX4_doesLay_3 11 rfl rfl)
theorem dX4_doesLay_83 : decode cX4_doesLay 83 = .ok (.iastore, 1) := dk_79 (dk_at dksX4_doesLay_3 12 rfl rfl)
theorem dX4_doesLay_84 : decode cX4_doesLay 84 = .ok (.aload_n 0, 1) := dk_42 (dk_at dksX4_doesLay_3 13 rfl rfl)
theorem dX4_doesLay_85 : decode cX4_doesLay 85 = .ok (.aload_n 0, 1) := dk_42 (dk_at dksX4_doesLay_3 14 rfl rfl)
theorem dX4_doesLay_86 : decode cX4_doesLay 86 = .ok (.getfield 9, 3) := dk_180 0 9 (dk_at dksX4_doesLay_3 15 rfl rfl)
theorem dX4_doesLay_89 : decode cX4_doesLay 89 = .ok (.invokevirtual 341, 3) := dk_182 1 85 (dk_at dksX4_doesLay_3 18 rfl rfl)
theorem dX4_doesLay_92 : decode cX4_doesLay 92 = .ok (.ifCond .le 7, 3) := dk_158 0 7 (dk_at dksX4_doesLay_3 21 rfl rfl)
theorem dX4_doesLay_95 : decode cX4_doesLay 95 = .ok (.iconst 1, 1) := dk_4 (dk_at dksX4_doesLay_4 0 rfl rfl)
theorem dX4_doesLay_96 : decode cX4_doesLay 96 = .ok (.goto 4, 3) := dk_167 0 4 (dk_at dksX4_doesLay_4 1 rfl rfl)
theorem dX4_doesLay_99 : decode cX4_doesLay 99 = .ok (.iconst 0, 1) := dk_3 (dk_at dksX4_doesLay_4 4 rfl rfl)
theorem dX4_doesLay_100 : decode cX4_doesLay 100 = .ok (.ireturn, 1) := dk_172 (dk_at dksX4_doesLay_4 5 rfl rfl)
abbrev cX4_reckons : ByteArray := prog_12_method_47_code
def yX4_reckons : MethodName := ⟨RX4, "reckons", "(I)I"⟩
def dkwX4_reckons_6 : List UInt8 := [42, 180, 0, 75, 3, 46, 172]
abbrev dktX4_reckons_6 : List UInt8 := dkwX4_reckons_6 ++ []
def dkwX4_reckons_5 : List UInt8 := [100, 21, 4, 42, 180, 0, 75, 28, 4, 100, 46, 42, 180, 0, 75, 28, 46, 184, 1, 50, 79, 167, 255, 120]
abbrev dktX4_reckons_5 : List UInt8 := dkwX4_reckons_5 ++ dktX4_reckons_6
def dkwX4_reckons_4 : List UInt8 := [4, 100, 46, 154, 0, 7, 4, 167, 0, 4, 3, 79, 167, 0, 33, 132, 2, 255, 42, 180, 0, 75, 28, 4]
abbrev dktX4_reckons_4 : List UInt8 := dkwX4_reckons_4 ++ dktX4_reckons_5
def dkwX4_reckons_3 : List UInt8 := [132, 2, 1, 167, 0, 66, 21, 4, 6, 160, 0, 30, 42, 180, 0, 75, 28, 4, 100, 42, 180, 0, 75, 28]
abbrev dktX4_reckons_3 : List UInt8 := dkwX4_reckons_3 ++ dktX4_reckons_4
def dkwX4_reckons_2 : List UInt8 := [180, 0, 29, 29, 46, 167, 0, 14, 42, 180, 0, 72, 42, 180, 0, 29, 29, 46, 46, 79, 132, 3, 1]
abbrev dktX4_reckons_2 : List UInt8 := dkwX4_reckons_2 ++ dktX4_reckons_3
def dkwX4_reckons_1 : List UInt8 := [21, 4, 4, 159, 0, 9, 21, 4, 5, 160, 0, 44, 42, 180, 0, 75, 28, 21, 4, 4, 160, 0, 12, 42]
abbrev dktX4_reckons_1 : List UInt8 := dkwX4_reckons_1 ++ dktX4_reckons_2
def dkwX4_reckons_0 : List UInt8 := [3, 61, 27, 62, 42, 180, 0, 29, 29, 46, 153, 0, 133, 42, 180, 0, 29, 29, 46, 54, 4, 132, 3, 1]
abbrev dktX4_reckons_0 : List UInt8 := dkwX4_reckons_0 ++ dktX4_reckons_1
theorem dksX4_reckons_0 : cX4_reckons.data.toList.drop 0 = dktX4_reckons_0 := by decide +kernel
theorem dksX4_reckons_1 : cX4_reckons.data.toList.drop 24 = dktX4_reckons_1 := dk_seg dksX4_reckons_0 24 rfl rfl
theorem dksX4_reckons_2 : cX4_reckons.data.toList.drop 48 = dktX4_reckons_2 := dk_seg dksX4_reckons_1 24 rfl rfl
theorem dksX4_reckons_3 : cX4_reckons.data.toList.drop 71 = dktX4_reckons_3 := dk_seg dksX4_reckons_2 23 rfl rfl
theorem dksX4_reckons_4 : cX4_reckons.data.toList.drop 95 = dktX4_reckons_4 := dk_seg dksX4_reckons_3 24 rfl rfl
theorem dksX4_reckons_5 : cX4_reckons.data.toList.drop 119 = dktX4_reckons_5 := dk_seg dksX4_reckons_4 24 rfl rfl
theorem dksX4_reckons_6 : cX4_reckons.data.toList.drop 143 = dktX4_reckons_6 := dk_seg dksX4_reckons_5 24 rfl rfl
theorem dX4_reckons_0 : decode cX4_reckons 0 = .ok (.iconst 0, 1) := dk_3 (dk_at dksX4_reckons_0 0 rfl rfl)
theorem dX4_reckons_1 : decode cX4_reckons 1 = .ok (.istore_n 2, 1) := dk_61 (dk_at dksX4_reckons_0 1 rfl rfl)
theorem dX4_reckons_2 : decode cX4_reckons 2 = .ok (.iload_n 1, 1) := dk_27 (dk_at dksX4_reckons_0 2 rfl rfl)
theorem dX4_reckons_3 : decode cX4_reckons 3 = .ok (.istore_n 3, 1) := dk_62 (dk_at dksX4_reckons_0 3 rfl rfl)
theorem dX4_reckons_4 : decode cX4_reckons 4 = .ok (.aload_n 0, 1) := dk_42 (dk_at dksX4_reckons_0 4 rfl rfl)
theorem dX4_reckons_5 : decode cX4_reckons 5 = .ok (.getfield 29, 3) := dk_180 0 29 (dk_at dksX4_reckons_0 5 rfl rfl)
theorem dX4_reckons_8 : decode cX4_reckons 8 = .ok (.iload_n 3, 1) := dk_29 (dk_at dksX4_reckons_0 8 rfl rfl)
theorem dX4_reckons_9 : decode cX4_reckons 9 = .ok (.iaload, 1) := dk_46 (dk_at dksX4_reckons_0 9 rfl rfl)
theorem dX4_reckons_10 : decode cX4_reckons 10 = .ok (.ifCond .eq 133, 3) := dk_153 0 133 (dk_at dksX4_reckons_0 10 rfl rfl)
theorem dX4_reckons_13 : decode cX4_reckons 13 = .ok (.aload_n 0, 1) := dk_42 (dk_at dksX4_reckons_0 13 rfl rfl)
theorem dX4_reckons_14 : decode cX4_reckons 14 = .ok (.getfield 29, 3) := dk_180 0 29 (dk_at dksX4_reckons_0 14 rfl rfl)
theorem dX4_reckons_17 : decode cX4_reckons 17 = .ok (.iload_n 3, 1) := dk_29 (dk_at dksX4_reckons_0 17 rfl rfl)
theorem dX4_reckons_18 : decode cX4_reckons 18 = .ok (.iaload, 1) := dk_46 (dk_at dksX4_reckons_0 18 rfl rfl)
theorem dX4_reckons_19 : decode cX4_reckons 19 = .ok (.istore 4, 2) := dk_54 4 (dk_at dksX4_reckons_0 19 rfl rfl)
theorem dX4_reckons_21 : decode cX4_reckons 21 = .ok (.iinc 3 1, 3) := dk_132 3 1 (dk_at dksX4_reckons_0 21 rfl rfl)
theorem dX4_reckons_24 : decode cX4_reckons 24 = .ok (.iload 4, 2) := dk_21 4 (dk_at dksX4_reckons_1 0 rfl rfl)
theorem dX4_reckons_26 : decode cX4_reckons 26 = .ok (.iconst 1, 1) := dk_4 (dk_at dksX4_reckons_1 2 rfl rfl)
theorem dX4_reckons_27 : decode cX4_reckons 27 = .ok (.if_icmp .eq 9, 3) := dk_159 0 9 (dk_at dksX4_reckons_1 3 rfl rfl)
theorem dX4_reckons_30 : decode cX4_reckons 30 = .ok (.iload 4, 2) := dk_21 4 (dk_at dksX4_reckons_1 6 rfl rfl)
theorem dX4_reckons_32 : decode cX4_reckons 32 = .ok (.iconst 2, 1) := dk_5 (dk_at dksX4_reckons_1 8 rfl rfl)
theorem dX4_reckons_33 : decode cX4_reckons 33 = .ok (.if_icmp .ne 44, 3) := dk_160 0 44 (dk_at dksX4_reckons_1 9 rfl rfl)
theorem dX4_reckons_36 : decode cX4_reckons 36 = .ok (.aload_n 0, 1) := dk_42 (dk_at dksX4_reckons_1 12 rfl rfl)
theorem dX4_reckons_37 : decode cX4_reckons 37 = .ok (.getfield 75, 3) := dk_180 0 75 (dk_at dksX4_reckons_1 13 rfl rfl)
theorem dX4_reckons_40 : decode cX4_reckons 40 = .ok (.iload_n 2, 1) := dk_28 (dk_at dksX4_reckons_1 16 rfl rfl)
theorem dX4_reckons_41 : decode cX4_reckons 41 = .ok (.iload 4, 2) := dk_21 4 (dk_at dksX4_reckons_1 17 rfl rfl)
theorem dX4_reckons_43 : decode cX4_reckons 43 = .ok (.iconst 1, 1) := dk_4 (dk_at dksX4_reckons_1 19 rfl rfl)
theorem dX4_reckons_44 : decode cX4_reckons 44 = .ok (.if_icmp .ne 12, 3) := dk_160 0 12 (dk_at dksX4_reckons_1 20 rfl rfl)
theorem dX4_reckons_47 : decode cX4_reckons 47 = .ok (.aload_n 0, 1) := dk_42 (dk_at dksX4_reckons_1 23 rfl rfl)
theorem dX4_reckons_48 : decode cX4_reckons 48 = .ok (.getfield 29, 3) := dk_180 0 29 (dk_at dksX4_reckons_2 0 rfl rfl)
theorem dX4_reckons_51 : decode cX4_reckons 51 = .ok (.iload_n 3, 1) := dk_29 (dk_at dksX4_reckons_2 3 rfl rfl)
theorem dX4_reckons_52 : decode cX4_reckons 52 = .ok (.iaload, 1) := dk_46 (dk_at dksX4_reckons_2 4 rfl rfl)
theorem dX4_reckons_53 : decode cX4_reckons 53 = .ok (.goto 14, 3) := dk_167 0 14 (dk_at dksX4_reckons_2 5 rfl rfl)
theorem dX4_reckons_56 : decode cX4_reckons 56 = .ok (.aload_n 0, 1) := dk_42 (dk_at dksX4_reckons_2 8 rfl rfl)
theorem dX4_reckons_57 : decode cX4_reckons 57 = .ok (.getfield 72, 3) := dk_180 0 72 (dk_at dksX4_reckons_2 9 rfl rfl)
theorem dX4_reckons_60 : decode cX4_reckons 60 = .ok (.aload_n 0, 1) := dk_42 (dk_at dksX4_reckons_2 12 rfl rfl)
theorem dX4_reckons_61 : decode cX4_reckons 61 = .ok (.getfield 29, 3) := dk_180 0 29 (dk_at dksX4_reckons_2 13 rfl rfl)
theorem dX4_reckons_64 : decode cX4_reckons 64 = .ok (.iload_n 3, 1) := dk_29 (dk_at dksX4_reckons_2 16 rfl rfl)
theorem dX4_reckons_65 : decode cX4_reckons 65 = .ok (.iaload, 1) := dk_46 (dk_at dksX4_reckons_2 17 rfl rfl)
theorem dX4_reckons_66 : decode cX4_reckons 66 = .ok (.iaload, 1) := dk_46 (dk_at dksX4_reckons_2 18 rfl rfl)
theorem dX4_reckons_67 : decode cX4_reckons 67 = .ok (.iastore, 1) := dk_79 (dk_at dksX4_reckons_2 19 rfl rfl)
theorem dX4_reckons_68 : decode cX4_reckons 68 = .ok (.iinc 3 1, 3) := dk_132 3 1 (dk_at dksX4_reckons_2 20 rfl rfl)
theorem dX4_reckons_71 : decode cX4_reckons 71 = .ok (.iinc 2 1, 3) := dk_132 2 1 (dk_at dksX4_reckons_3 0 rfl rfl)
theorem dX4_reckons_74 : decode cX4_reckons 74 = .ok (.goto 66, 3) := dk_167 0 66 (dk_at dksX4_reckons_3 3 rfl rfl)
theorem dX4_reckons_77 : decode cX4_reckons 77 = .ok (.iload 4, 2) := dk_21 4 (dk_at dksX4_reckons_3 6 rfl rfl)
theorem dX4_reckons_79 : decode cX4_reckons 79 = .ok (.iconst 3, 1) := dk_6 (dk_at dksX4_reckons_3 8 rfl rfl)
theorem dX4_reckons_80 : decode cX4_reckons 80 = .ok (.if_icmp .ne 30, 3) := dk_160 0 30 (dk_at dksX4_reckons_3 9 rfl rfl)
theorem dX4_reckons_83 : decode cX4_reckons 83 = .ok (.aload_n 0, 1) := dk_42 (dk_at dksX4_reckons_3 12 rfl rfl)
theorem dX4_reckons_84 : decode cX4_reckons 84 = .ok (.getfield 75, 3) := dk_180 0 75 (dk_at dksX4_reckons_3 13 rfl rfl)
theorem dX4_reckons_87 : decode cX4_reckons 87 = .ok (.iload_n 2, 1) := dk_28 (dk_at dksX4_reckons_3 16 rfl rfl)
theorem dX4_reckons_88 : decode cX4_reckons 88 = .ok (.iconst 1, 1) := dk_4 (dk_at dksX4_reckons_3 17 rfl rfl)
theorem dX4_reckons_89 : decode cX4_reckons 89 = .ok (.isub, 1) := dk_100 (dk_at dksX4_reckons_3 18 rfl rfl)
theorem dX4_reckons_90 : decode cX4_reckons 90 = .ok (.aload_n 0, 1) := dk_42 (dk_at dksX4_reckons_3 19 rfl rfl)
theorem dX4_reckons_91 : decode cX4_reckons 91 = .ok (.getfield 75, 3) := dk_180 0 75 (dk_at dksX4_reckons_3 20 rfl rfl)
theorem dX4_reckons_94 : decode cX4_reckons 94 = .ok (.iload_n 2, 1) := dk_28 (dk_at dksX4_reckons_3 23 rfl rfl)
theorem dX4_reckons_95 : decode cX4_reckons 95 = .ok (.iconst 1, 1) := dk_4 (dk_at dksX4_reckons_4 0 rfl rfl)
theorem dX4_reckons_96 : decode cX4_reckons 96 = .ok (.isub, 1) := dk_100 (dk_at dksX4_reckons_4 1 rfl rfl)
theorem dX4_reckons_97 : decode cX4_reckons 97 = .ok (.iaload, 1) := dk_46 (dk_at dksX4_reckons_4 2 rfl rfl)
theorem dX4_reckons_98 : decode cX4_reckons 98 = .ok (.ifCond .ne 7, 3) := dk_154 0 7 (dk_at dksX4_reckons_4 3 rfl rfl)
theorem dX4_reckons_101 : decode cX4_reckons 101 = .ok (.iconst 1, 1) := dk_4 (dk_at dksX4_reckons_4 6 rfl rfl)
theorem dX4_reckons_102 : decode cX4_reckons 102 = .ok (.goto 4, 3) := dk_167 0 4 (dk_at dksX4_reckons_4 7 rfl rfl)
theorem dX4_reckons_105 : decode cX4_reckons 105 = .ok (.iconst 0, 1) := dk_3 (dk_at dksX4_reckons_4 10 rfl rfl)
theorem dX4_reckons_106 : decode cX4_reckons 106 = .ok (.iastore, 1) := dk_79 (dk_at dksX4_reckons_4 11 rfl rfl)
theorem dX4_reckons_107 : decode cX4_reckons 107 = .ok (.goto 33, 3) := dk_167 0 33 (dk_at dksX4_reckons_4 12 rfl rfl)
theorem dX4_reckons_110 : decode cX4_reckons 110 = .ok (.iinc 2 (-1), 3) := dk_132 2 255 (dk_at dksX4_reckons_4 15 rfl rfl)
theorem dX4_reckons_113 : decode cX4_reckons 113 = .ok (.aload_n 0, 1) := dk_42 (dk_at dksX4_reckons_4 18 rfl rfl)
theorem dX4_reckons_114 : decode cX4_reckons 114 = .ok (.getfield 75, 3) := dk_180 0 75 (dk_at dksX4_reckons_4 19 rfl rfl)
theorem dX4_reckons_117 : decode cX4_reckons 117 = .ok (.iload_n 2, 1) := dk_28 (dk_at dksX4_reckons_4 22 rfl rfl)
theorem dX4_reckons_118 : decode cX4_reckons 118 = .ok (.iconst 1, 1) := dk_4 (dk_at dksX4_reckons_4 23 rfl rfl)
theorem dX4_reckons_119 : decode cX4_reckons 119 = .ok (.isub, 1) := dk_100 (dk_at dksX4_reckons_5 0 rfl rfl)
theorem dX4_reckons_120 : decode cX4_reckons 120 = .ok (.iload 4, 2) := dk_21 4 (dk_at dksX4_reckons_5 1 rfl rfl)
theorem dX4_reckons_122 : decode cX4_reckons 122 = .ok (.aload_n 0, 1) := dk_42 (dk_at dksX4_reckons_5 3 rfl rfl)
theorem dX4_reckons_123 : decode cX4_reckons 123 = .ok (.getfield 75, 3) := dk_180 0 75 (dk_at dksX4_reckons_5 4 rfl rfl)
theorem dX4_reckons_126 : decode cX4_reckons 126 = .ok (.iload_n 2, 1) := dk_28 (dk_at dksX4_reckons_5 7 rfl rfl)
theorem dX4_reckons_127 : decode cX4_reckons 127 = .ok (.iconst 1, 1) := dk_4 (dk_at dksX4_reckons_5 8 rfl rfl)
theorem dX4_reckons_128 : decode cX4_reckons 128 = .ok (.isub, 1) := dk_100 (dk_at dksX4_reckons_5 9 rfl rfl)
theorem dX4_reckons_129 : decode cX4_reckons 129 = .ok (.iaload, 1) := dk_46 (dk_at dksX4_reckons_5 10 rfl rfl)
theorem dX4_reckons_130 : decode cX4_reckons 130 = .ok (.aload_n 0, 1) := dk_42 (dk_at dksX4_reckons_5 11 rfl rfl)
theorem dX4_reckons_131 : decode cX4_reckons 131 = .ok (.getfield 75, 3) := dk_180 0 75 (dk_at dksX4_reckons_5 12 rfl rfl)
theorem dX4_reckons_134 : decode cX4_reckons 134 = .ok (.iload_n 2, 1) := dk_28 (dk_at dksX4_reckons_5 15 rfl rfl)
theorem dX4_reckons_135 : decode cX4_reckons 135 = .ok (.iaload, 1) := dk_46 (dk_at dksX4_reckons_5 16 rfl rfl)
theorem dX4_reckons_136 : decode cX4_reckons 136 = .ok (.invokestatic 306, 3) := dk_184 1 50 (dk_at dksX4_reckons_5 17 rfl rfl)
theorem dX4_reckons_139 : decode cX4_reckons 139 = .ok (.iastore, 1) := dk_79 (dk_at dksX4_reckons_5 20 rfl rfl)
theorem dX4_reckons_140 : decode cX4_reckons 140 = .ok (.goto (-136), 3) := dk_167 255 120 (dk_at dksX4_reckons_5 21 rfl rfl)
theorem dX4_reckons_143 : decode cX4_reckons 143 = .ok (.aload_n 0, 1) := dk_42 (dk_at dksX4_reckons_6 0 rfl rfl)
theorem dX4_reckons_144 : decode cX4_reckons 144 = .ok (.getfield 75, 3) := dk_180 0 75 (dk_at dksX4_reckons_6 1 rfl rfl)
theorem dX4_reckons_147 : decode cX4_reckons 147 = .ok (.iconst 0, 1) := dk_3 (dk_at dksX4_reckons_6 4 rfl rfl)
theorem dX4_reckons_148 : decode cX4_reckons 148 = .ok (.iaload, 1) := dk_46 (dk_at dksX4_reckons_6 5 rfl rfl)
theorem dX4_reckons_149 : decode cX4_reckons 149 = .ok (.ireturn, 1) := dk_172 (dk_at dksX4_reckons_6 6 rfl rfl)
abbrev cX4_works : ByteArray := prog_12_method_46_code
def yX4_works : MethodName := ⟨RX4, "works", "(III)I"⟩
def dkwX4_works_5 : List UInt8 := [167, 0, 6, 27, 28, 108, 172]
abbrev dktX4_works_5 : List UInt8 := dkwX4_works_5 ++ []
def dkwX4_works_4 : List UInt8 := [167, 0, 4, 3, 172, 27, 28, 96, 172, 27, 28, 100, 172, 27, 28, 104, 172, 28, 154, 0, 7, 3]
abbrev dktX4_works_4 : List UInt8 := dkwX4_works_4 ++ dktX4_works_5
def dkwX4_works_3 : List UInt8 := [167, 0, 4, 3, 172, 27, 28, 162, 0, 7, 4, 167, 0, 4, 3, 172, 27, 28, 160, 0, 7, 4]
abbrev dktX4_works_3 : List UInt8 := dkwX4_works_3 ++ dktX4_works_4
def dkwX4_works_2 : List UInt8 := [27, 153, 0, 11, 28, 153, 0, 7, 4, 167, 0, 4, 3, 172, 27, 154, 0, 7, 28, 153, 0, 7, 4]
abbrev dktX4_works_2 : List UInt8 := dkwX4_works_2 ++ dktX4_works_3
def dkwX4_works_1 : List UInt8 := [170, 0, 0, 0, 0, 0, 105, 0, 0, 0, 4, 0, 0, 0, 10, 0, 0, 0, 43, 0, 0, 0, 57, 0, 0, 0, 71, 0, 0, 0, 82, 0, 0, 0, 93, 0, 0, 0, 97, 0, 0, 0, 101]
abbrev dktX4_works_1 : List UInt8 := dkwX4_works_1 ++ dktX4_works_2
def dkwX4_works_0 : List UInt8 := [26]
abbrev dktX4_works_0 : List UInt8 := dkwX4_works_0 ++ dktX4_works_1
theorem dksX4_works_0 : cX4_works.data.toList.drop 0 = dktX4_works_0 := by decide +kernel
theorem dksX4_works_1 : cX4_works.data.toList.drop 1 = dktX4_works_1 := dk_seg dksX4_works_0 1 rfl rfl
theorem dksX4_works_2 : cX4_works.data.toList.drop 44 = dktX4_works_2 := dk_seg dksX4_works_1 43 rfl rfl
theorem dksX4_works_3 : cX4_works.data.toList.drop 67 = dktX4_works_3 := dk_seg dksX4_works_2 23 rfl rfl
theorem dksX4_works_4 : cX4_works.data.toList.drop 89 = dktX4_works_4 := dk_seg dksX4_works_3 22 rfl rfl
theorem dksX4_works_5 : cX4_works.data.toList.drop 111 = dktX4_works_5 := dk_seg dksX4_works_4 22 rfl rfl
theorem dX4_works_0 : decode cX4_works 0 = .ok (.iload_n 0, 1) := dk_26 (dk_at dksX4_works_0 0 rfl rfl)
theorem dX4_works_1 : decode cX4_works 1 = .ok (.tableswitch 105 4 10 #[43, 57, 71, 82, 93, 97, 101], 43) := by decide +kernel
theorem dX4_works_44 : decode cX4_works 44 = .ok (.iload_n 1, 1) := dk_27 (dk_at dksX4_works_2 0 rfl rfl)
theorem dX4_works_45 : decode cX4_works 45 = .ok (.ifCond .eq 11, 3) := dk_153 0 11 (dk_at dksX4_works_2 1 rfl rfl)
theorem dX4_works_48 : decode cX4_works 48 = .ok (.iload_n 2, 1) := dk_28 (dk_at dksX4_works_2 4 rfl rfl)
theorem dX4_works_49 : decode cX4_works 49 = .ok (.ifCond .eq 7, 3) := dk_153 0 7 (dk_at dksX4_works_2 5 rfl rfl)
theorem dX4_works_52 : decode cX4_works 52 = .ok (.iconst 1, 1) := dk_4 (dk_at dksX4_works_2 8 rfl rfl)
theorem dX4_works_53 : decode cX4_works 53 = .ok (.goto 4, 3) := dk_167 0 4 (dk_at dksX4_works_2 9 rfl rfl)
theorem dX4_works_56 : decode cX4_works 56 = .ok (.iconst 0, 1) := dk_3 (dk_at dksX4_works_2 12 rfl rfl)
theorem dX4_works_57 : decode cX4_works 57 = .ok (.ireturn, 1) := dk_172 (dk_at dksX4_works_2 13 rfl rfl)
theorem dX4_works_58 : decode cX4_works 58 = .ok (.iload_n 1, 1) := dk_27 (dk_at dksX4_works_2 14 rfl rfl)
theorem dX4_works_59 : decode cX4_works 59 = .ok (.ifCond .ne 7, 3) := dk_154 0 7 (dk_at dksX4_works_2 15 rfl rfl)
theorem dX4_works_62 : decode cX4_works 62 = .ok (.iload_n 2, 1) := dk_28 (dk_at dksX4_works_2 18 rfl rfl)
theorem dX4_works_63 : decode cX4_works 63 = .ok (.ifCond .eq 7, 3) := dk_153 0 7 (dk_at dksX4_works_2 19 rfl rfl)
theorem dX4_works_66 : decode cX4_works 66 = .ok (.iconst 1, 1) := dk_4 (dk_at dksX4_works_2 22 rfl rfl)
theorem dX4_works_67 : decode cX4_works 67 = .ok (.goto 4, 3) := dk_167 0 4 (dk_at dksX4_works_3 0 rfl rfl)
theorem dX4_works_70 : decode cX4_works 70 = .ok (.iconst 0, 1) := dk_3 (dk_at dksX4_works_3 3 rfl rfl)
theorem dX4_works_71 : decode cX4_works 71 = .ok (.ireturn, 1) := dk_172 (dk_at dksX4_works_3 4 rfl rfl)
theorem dX4_works_72 : decode cX4_works 72 = .ok (.iload_n 1, 1) := dk_27 (dk_at dksX4_works_3 5 rfl rfl)
theorem dX4_works_73 : decode cX4_works 73 = .ok (.iload_n 2, 1) := dk_28 (dk_at dksX4_works_3 6 rfl rfl)
theorem dX4_works_74 : decode cX4_works 74 = .ok (.if_icmp .ge 7, 3) := dk_162 0 7 (dk_at dksX4_works_3 7 rfl rfl)
theorem dX4_works_77 : decode cX4_works 77 = .ok (.iconst 1, 1) := dk_4 (dk_at dksX4_works_3 10 rfl rfl)
theorem dX4_works_78 : decode cX4_works 78 = .ok (.goto 4, 3) := dk_167 0 4 (dk_at dksX4_works_3 11 rfl rfl)
theorem dX4_works_81 : decode cX4_works 81 = .ok (.iconst 0, 1) := dk_3 (dk_at dksX4_works_3 14 rfl rfl)
theorem dX4_works_82 : decode cX4_works 82 = .ok (.ireturn, 1) := dk_172 (dk_at dksX4_works_3 15 rfl rfl)
theorem dX4_works_83 : decode cX4_works 83 = .ok (.iload_n 1, 1) := dk_27 (dk_at dksX4_works_3 16 rfl rfl)
theorem dX4_works_84 : decode cX4_works 84 = .ok (.iload_n 2, 1) := dk_28 (dk_at dksX4_works_3 17 rfl rfl)
theorem dX4_works_85 : decode cX4_works 85 = .ok (.if_icmp .ne 7, 3) := dk_160 0 7 (dk_at dksX4_works_3 18 rfl rfl)
theorem dX4_works_88 : decode cX4_works 88 = .ok (.iconst 1, 1) := dk_4 (dk_at dksX4_works_3 21 rfl rfl)
theorem dX4_works_89 : decode cX4_works 89 = .ok (.goto 4, 3) := dk_167 0 4 (dk_at dksX4_works_4 0 rfl rfl)
theorem dX4_works_92 : decode cX4_works 92 = .ok (.iconst 0, 1) := dk_3 (dk_at dksX4_works_4 3 rfl rfl)
theorem dX4_works_93 : decode cX4_works 93 = .ok (.ireturn, 1) := dk_172 (dk_at dksX4_works_4 4 rfl rfl)
theorem dX4_works_94 : decode cX4_works 94 = .ok (.iload_n 1, 1) := dk_27 (dk_at dksX4_works_4 5 rfl rfl)
theorem dX4_works_95 : decode cX4_works 95 = .ok (.iload_n 2, 1) := dk_28 (dk_at dksX4_works_4 6 rfl rfl)
theorem dX4_works_96 : decode cX4_works 96 = .ok (.iadd, 1) := dk_96 (dk_at dksX4_works_4 7 rfl rfl)
theorem dX4_works_97 : decode cX4_works 97 = .ok (.ireturn, 1) := dk_172 (dk_at dksX4_works_4 8 rfl rfl)
theorem dX4_works_98 : decode cX4_works 98 = .ok (.iload_n 1, 1) := dk_27 (dk_at dksX4_works_4 9 rfl rfl)
theorem dX4_works_99 : decode cX4_works 99 = .ok (.iload_n 2, 1) := dk_28 (dk_at dksX4_works_4 10 rfl rfl)
theorem dX4_works_100 : decode cX4_works 100 = .ok (.isub, 1) := dk_100 (dk_at dksX4_works_4 11 rfl rfl)
theorem dX4_works_101 : decode cX4_works 101 = .ok (.ireturn, 1) := dk_172 (dk_at dksX4_works_4 12 rfl rfl)
theorem dX4_works_102 : decode cX4_works 102 = .ok (.iload_n 1, 1) := dk_27 (dk_at dksX4_works_4 13 rfl rfl)
theorem dX4_works_103 : decode cX4_works 103 = .ok (.iload_n 2, 1) := dk_28 (dk_at dksX4_works_4 14 rfl rfl)
theorem dX4_works_104 : decode cX4_works 104 = .ok (.imul, 1) := dk_104 (dk_at dksX4_works_4 15 rfl rfl)
theorem dX4_works_105 : decode cX4_works 105 = .ok (.ireturn, 1) := dk_172 (dk_at dksX4_works_4 16 rfl rfl)
theorem dX4_works_106 : decode cX4_works 106 = .ok (.iload_n 2, 1) := dk_28 (dk_at dksX4_works_4 17 rfl rfl)
theorem dX4_works_107 : decode cX4_works 107 = .ok (.ifCond .ne 7, 3) := dk_154 0 7 (dk_at dksX4_works_4 18 rfl rfl)
theorem dX4_works_110 : decode cX4_works 110 = .ok (.iconst 0, 1) := dk_3 (dk_at dksX4_works_4 21 rfl rfl)
theorem dX4_works_111 : decode cX4_works 111 = .ok (.goto 6, 3) := dk_167 0 6 (dk_at dksX4_works_5 0 rfl rfl)
theorem dX4_works_114 : decode cX4_works 114 = .ok (.iload_n 1, 1) := dk_27 (dk_at dksX4_works_5 3 rfl rfl)
theorem dX4_works_115 : decode cX4_works 115 = .ok (.iload_n 2, 1) := dk_28 (dk_at dksX4_works_5 4 rfl rfl)
theorem dX4_works_116 : decode cX4_works 116 = .ok (.idiv, 1) := dk_108 (dk_at dksX4_works_5 5 rfl rfl)
theorem dX4_works_117 : decode cX4_works 117 = .ok (.ireturn, 1) := dk_172 (dk_at dksX4_works_5 6 rfl rfl)
abbrev cX4_learns : ByteArray := prog_12_method_58_code
def yX4_learns : MethodName := ⟨RX4, "learns", "(III)V"⟩
def dkwX4_learns_2 : List UInt8 := [177]
abbrev dktX4_learns_2 : List UInt8 := dkwX4_learns_2 ++ []
def dkwX4_learns_1 : List UInt8 := [46, 28, 21, 4, 122, 4, 126, 4, 160, 0, 7, 29, 167, 0, 4, 3, 128, 79, 132, 4, 1, 167, 255, 214]
abbrev dktX4_learns_1 : List UInt8 := dkwX4_learns_1 ++ dktX4_learns_2
def dkwX4_learns_0 : List UInt8 := [3, 54, 4, 21, 4, 42, 180, 1, 27, 162, 0, 39, 42, 180, 0, 66, 27, 16, 28, 96, 21, 4, 96, 92]
abbrev dktX4_learns_0 : List UInt8 := dkwX4_learns_0 ++ dktX4_learns_1
theorem dksX4_learns_0 : cX4_learns.data.toList.drop 0 = dktX4_learns_0 := by decide +kernel
theorem dksX4_learns_1 : cX4_learns.data.toList.drop 24 = dktX4_learns_1 := dk_seg dksX4_learns_0 24 rfl rfl
theorem dksX4_learns_2 : cX4_learns.data.toList.drop 48 = dktX4_learns_2 := dk_seg dksX4_learns_1 24 rfl rfl
theorem dX4_learns_0 : decode cX4_learns 0 = .ok (.iconst 0, 1) := dk_3 (dk_at dksX4_learns_0 0 rfl rfl)
theorem dX4_learns_1 : decode cX4_learns 1 = .ok (.istore 4, 2) := dk_54 4 (dk_at dksX4_learns_0 1 rfl rfl)
theorem dX4_learns_3 : decode cX4_learns 3 = .ok (.iload 4, 2) := dk_21 4 (dk_at dksX4_learns_0 3 rfl rfl)
theorem dX4_learns_5 : decode cX4_learns 5 = .ok (.aload_n 0, 1) := dk_42 (dk_at dksX4_learns_0 5 rfl rfl)
theorem dX4_learns_6 : decode cX4_learns 6 = .ok (.getfield 283, 3) := dk_180 1 27 (dk_at dksX4_learns_0 6 rfl rfl)
theorem dX4_learns_9 : decode cX4_learns 9 = .ok (.if_icmp .ge 39, 3) := dk_162 0 39 (dk_at dksX4_learns_0 9 rfl rfl)
theorem dX4_learns_12 : decode cX4_learns 12 = .ok (.aload_n 0, 1) := dk_42 (dk_at dksX4_learns_0 12 rfl rfl)
theorem dX4_learns_13 : decode cX4_learns 13 = .ok (.getfield 66, 3) := dk_180 0 66 (dk_at dksX4_learns_0 13 rfl rfl)
theorem dX4_learns_16 : decode cX4_learns 16 = .ok (.iload_n 1, 1) := dk_27 (dk_at dksX4_learns_0 16 rfl rfl)
theorem dX4_learns_17 : decode cX4_learns 17 = .ok (.bipush 28, 2) := dk_16 28 (dk_at dksX4_learns_0 17 rfl rfl)
theorem dX4_learns_19 : decode cX4_learns 19 = .ok (.iadd, 1) := dk_96 (dk_at dksX4_learns_0 19 rfl rfl)
theorem dX4_learns_20 : decode cX4_learns 20 = .ok (.iload 4, 2) := dk_21 4 (dk_at dksX4_learns_0 20 rfl rfl)
theorem dX4_learns_22 : decode cX4_learns 22 = .ok (.iadd, 1) := dk_96 (dk_at dksX4_learns_0 22 rfl rfl)
theorem dX4_learns_23 : decode cX4_learns 23 = .ok (.dup2, 1) := dk_92 (dk_at dksX4_learns_0 23 rfl rfl)
theorem dX4_learns_24 : decode cX4_learns 24 = .ok (.iaload, 1) := dk_46 (dk_at dksX4_learns_1 0 rfl rfl)
theorem dX4_learns_25 : decode cX4_learns 25 = .ok (.iload_n 2, 1) := dk_28 (dk_at dksX4_learns_1 1 rfl rfl)
theorem dX4_learns_26 : decode cX4_learns 26 = .ok (.iload 4, 2) := dk_21 4 (dk_at dksX4_learns_1 2 rfl rfl)
theorem dX4_learns_28 : decode cX4_learns 28 = .ok (.ishr, 1) := dk_122 (dk_at dksX4_learns_1 4 rfl rfl)
theorem dX4_learns_29 : decode cX4_learns 29 = .ok (.iconst 1, 1) := dk_4 (dk_at dksX4_learns_1 5 rfl rfl)
theorem dX4_learns_30 : decode cX4_learns 30 = .ok (.iand, 1) := dk_126 (dk_at dksX4_learns_1 6 rfl rfl)
theorem dX4_learns_31 : decode cX4_learns 31 = .ok (.iconst 1, 1) := dk_4 (dk_at dksX4_learns_1 7 rfl rfl)
theorem dX4_learns_32 : decode cX4_learns 32 = .ok (.if_icmp .ne 7, 3) := dk_160 0 7 (dk_at dksX4_learns_1 8 rfl rfl)
theorem dX4_learns_35 : decode cX4_learns 35 = .ok (.iload_n 3, 1) := dk_29 (dk_at dksX4_learns_1 11 rfl rfl)
theorem dX4_learns_36 : decode cX4_learns 36 = .ok (.goto 4, 3) := dk_167 0 4 (dk_at dksX4_learns_1 12 rfl rfl)
theorem dX4_learns_39 : decode cX4_learns 39 = .ok (.iconst 0, 1) := dk_3 (dk_at dksX4_learns_1 15 rfl rfl)
theorem dX4_learns_40 : decode cX4_learns 40 = .ok (.ior, 1) := dk_128 (dk_at dksX4_learns_1 16 rfl rfl)
theorem dX4_learns_41 : decode cX4_learns 41 = .ok (.iastore, 1) := dk_79 (dk_at dksX4_learns_1 17 rfl rfl)
theorem dX4_learns_42 : decode cX4_learns 42 = .ok (.iinc 4 1, 3) := dk_132 4 1 (dk_at dksX4_learns_1 18 rfl rfl)
theorem dX4_learns_45 : decode cX4_learns 45 = .ok (.goto (-42), 3) := dk_167 255 214 (dk_at dksX4_learns_1 21 rfl rfl)
theorem dX4_learns_48 : decode cX4_learns 48 = .ok (.return_, 1) := dk_177 (dk_at dksX4_learns_2 0 rfl rfl)
abbrev cX4_mouldsOn : ByteArray := prog_12_method_60_code
def yX4_mouldsOn : MethodName := ⟨RX4, "mouldsOn", "(II)V"⟩
def dkwX4_mouldsOn_5 : List UInt8 := [4, 29, 4, 100, 16, 8, 112, 120, 130, 79, 177]
abbrev dktX4_mouldsOn_5 : List UInt8 := dkwX4_mouldsOn_5 ++ []
def dkwX4_mouldsOn_4 : List UInt8 := [42, 180, 0, 13, 182, 1, 85, 62, 29, 158, 0, 25, 42, 180, 0, 66, 27, 16, 10, 96, 28, 96, 92, 46]
abbrev dktX4_mouldsOn_4 : List UInt8 := dkwX4_mouldsOn_4 ++ dktX4_mouldsOn_5
def dkwX4_mouldsOn_3 : List UInt8 := [161, 0, 7, 4, 167, 0, 4, 3, 79, 42, 180, 0, 72, 8, 42, 180, 0, 66, 27, 3, 96, 46, 79, 42]
abbrev dktX4_mouldsOn_3 : List UInt8 := dkwX4_mouldsOn_3 ++ dktX4_mouldsOn_4
def dkwX4_mouldsOn_2 : List UInt8 := [27, 28, 182, 1, 69, 79, 42, 180, 0, 72, 6, 42, 180, 0, 66, 27, 16, 19, 96, 28, 96, 46, 16, 10]
abbrev dktX4_mouldsOn_2 : List UInt8 := dkwX4_mouldsOn_2 ++ dktX4_mouldsOn_3
def dkwX4_mouldsOn_1 : List UInt8 := [180, 0, 66, 27, 16, 10, 96, 28, 96, 46, 79, 42, 180, 0, 72, 5, 28, 79, 42, 180, 0, 72, 7, 42]
abbrev dktX4_mouldsOn_1 : List UInt8 := dkwX4_mouldsOn_1 ++ dktX4_mouldsOn_2
def dkwX4_mouldsOn_0 : List UInt8 := [42, 180, 0, 72, 3, 42, 180, 0, 66, 27, 4, 96, 28, 96, 46, 79, 42, 180, 0, 72, 4, 42]
abbrev dktX4_mouldsOn_0 : List UInt8 := dkwX4_mouldsOn_0 ++ dktX4_mouldsOn_1
theorem dksX4_mouldsOn_0 : cX4_mouldsOn.data.toList.drop 0 = dktX4_mouldsOn_0 := by decide +kernel
theorem dksX4_mouldsOn_1 : cX4_mouldsOn.data.toList.drop 22 = dktX4_mouldsOn_1 := dk_seg dksX4_mouldsOn_0 22 rfl rfl
theorem dksX4_mouldsOn_2 : cX4_mouldsOn.data.toList.drop 46 = dktX4_mouldsOn_2 := dk_seg dksX4_mouldsOn_1 24 rfl rfl
theorem dksX4_mouldsOn_3 : cX4_mouldsOn.data.toList.drop 70 = dktX4_mouldsOn_3 := dk_seg dksX4_mouldsOn_2 24 rfl rfl
theorem dksX4_mouldsOn_4 : cX4_mouldsOn.data.toList.drop 94 = dktX4_mouldsOn_4 := dk_seg dksX4_mouldsOn_3 24 rfl rfl
theorem dksX4_mouldsOn_5 : cX4_mouldsOn.data.toList.drop 118 = dktX4_mouldsOn_5 := dk_seg dksX4_mouldsOn_4 24 rfl rfl
theorem dX4_mouldsOn_0 : decode cX4_mouldsOn 0 = .ok (.aload_n 0, 1) := dk_42 (dk_at dksX4_mouldsOn_0 0 rfl rfl)
theorem dX4_mouldsOn_1 : decode cX4_mouldsOn 1 = .ok (.getfield 72, 3) := dk_180 0 72 (dk_at dksX4_mouldsOn_0 1 rfl rfl)
theorem dX4_mouldsOn_4 : decode cX4_mouldsOn 4 = .ok (.iconst 0, 1) := dk_3 (dk_at dksX4_mouldsOn_0 4 rfl rfl)
theorem dX4_mouldsOn_5 : decode cX4_mouldsOn 5 = .ok (.aload_n 0, 1) := dk_42 (dk_at dksX4_mouldsOn_0 5 rfl rfl)
theorem dX4_mouldsOn_6 : decode cX4_mouldsOn 6 = .ok (.getfield 66, 3) := dk_180 0 66 (dk_at dksX4_mouldsOn_0 6 rfl rfl)
theorem dX4_mouldsOn_9 : decode cX4_mouldsOn 9 = .ok (.iload_n 1, 1) := dk_27 (dk_at dksX4_mouldsOn_0 9 rfl rfl)
theorem dX4_mouldsOn_10 : decode cX4_mouldsOn 10 = .ok (.iconst 1, 1) := dk_4 (dk_at dksX4_mouldsOn_0 10 rfl rfl)
theorem dX4_mouldsOn_11 : decode cX4_mouldsOn 11 = .ok (.iadd, 1) := dk_96 (dk_at dksX4_mouldsOn_0 11 rfl rfl)
theorem dX4_mouldsOn_12 : decode cX4_mouldsOn 12 = .ok (.iload_n 2, 1) := dk_28 (dk_at dksX4_mouldsOn_0 12 rfl rfl)
theorem dX4_mouldsOn_13 : decode cX4_mouldsOn 13 = .ok (.iadd, 1) := dk_96 (dk_at dksX4_mouldsOn_0 13 rfl rfl)
theorem dX4_mouldsOn_14 : decode cX4_mouldsOn 14 = .ok (.iaload, 1) := dk_46 (dk_at dksX4_mouldsOn_0 14 rfl rfl)
theorem dX4_mouldsOn_15 : decode cX4_mouldsOn 15 = .ok (.iastore, 1) := dk_79 (dk_at dksX4_mouldsOn_0 15 rfl rfl)
theorem dX4_mouldsOn_16 : decode cX4_mouldsOn 16 = .ok (.aload_n 0, 1) := dk_42 (dk_at dksX4_mouldsOn_0 16 rfl rfl)
theorem dX4_mouldsOn_17 : decode cX4_mouldsOn 17 = .ok (.getfield 72, 3) := dk_180 0 72 (dk_at dksX4_mouldsOn_0 17 rfl rfl)
theorem dX4_mouldsOn_20 : decode cX4_mouldsOn 20 = .ok (.iconst 1, 1) := dk_4 (dk_at dksX4_mouldsOn_0 20 rfl rfl)
theorem dX4_mouldsOn_21 : decode cX4_mouldsOn 21 = .ok (.aload_n 0, 1) := dk_42 (dk_at dksX4_mouldsOn_0 21 rfl rfl)
theorem dX4_mouldsOn_22 : decode cX4_mouldsOn 22 = .ok (.getfield 66, 3) := dk_180 0 66 (dk_at dksX4_mouldsOn_1 0 rfl rfl)
theorem dX4_mouldsOn_25 : decode cX4_mouldsOn 25 = .ok (.iload_n 1, 1) := dk_27 (dk_at dksX4_mouldsOn_1 3 rfl rfl)
theorem dX4_mouldsOn_26 : decode cX4_mouldsOn 26 = .ok (.bipush 10, 2) := dk_16 10 (dk_at dksX4_mouldsOn_1 4 rfl rfl)
theorem dX4_mouldsOn_28 : decode cX4_mouldsOn 28 = .ok (.iadd, 1) := dk_96 (dk_at dksX4_mouldsOn_1 6 rfl rfl)
theorem dX4_mouldsOn_29 : decode cX4_mouldsOn 29 = .ok (.iload_n 2, 1) := dk_28 (dk_at dksX4_mouldsOn_1 7 rfl rfl)
theorem dX4_mouldsOn_30 : decode cX4_mouldsOn 30 = .ok (.iadd, 1) := dk_96 (dk_at dksX4_mouldsOn_1 8 rfl rfl)
theorem dX4_mouldsOn_31 : decode cX4_mouldsOn 31 = .ok (.iaload, 1) := dk_46 (dk_at dksX4_mouldsOn_1 9 rfl rfl)
theorem dX4_mouldsOn_32 : decode cX4_mouldsOn 32 = .ok (.iastore, 1) := dk_79 (dk_at dksX4_mouldsOn_1 10 rfl rfl)
theorem dX4_mouldsOn_33 : decode cX4_mouldsOn 33 = .ok (.aload_n 0, 1) := dk_42 (dk_at dksX4_mouldsOn_1 11 rfl rfl)
theorem dX4_mouldsOn_34 : decode cX4_mouldsOn 34 = .ok (.getfield 72, 3) := dk_180 0 72 (dk_at dksX4_mouldsOn_1 12 rfl rfl)
theorem dX4_mouldsOn_37 : decode cX4_mouldsOn 37 = .ok (.iconst 2, 1) := dk_5 (dk_at dksX4_mouldsOn_1 15 rfl rfl)
theorem dX4_mouldsOn_38 : decode cX4_mouldsOn 38 = .ok (.iload_n 2, 1) := dk_28 (dk_at dksX4_mouldsOn_1 16 rfl rfl)
theorem dX4_mouldsOn_39 : decode cX4_mouldsOn 39 = .ok (.iastore, 1) := dk_79 (dk_at dksX4_mouldsOn_1 17 rfl rfl)
theorem dX4_mouldsOn_40 : decode cX4_mouldsOn 40 = .ok (.aload_n 0, 1) := dk_42 (dk_at dksX4_mouldsOn_1 18 rfl rfl)
theorem dX4_mouldsOn_41 : decode cX4_mouldsOn 41 = .ok (.getfield 72, 3) := dk_180 0 72 (dk_at dksX4_mouldsOn_1 19 rfl rfl)
theorem dX4_mouldsOn_44 : decode cX4_mouldsOn 44 = .ok (.iconst 4, 1) := dk_7 (dk_at dksX4_mouldsOn_1 22 rfl rfl)
theorem dX4_mouldsOn_45 : decode cX4_mouldsOn 45 = .ok (.aload_n 0, 1) := dk_42 (dk_at dksX4_mouldsOn_1 23 rfl rfl)
theorem dX4_mouldsOn_46 : decode cX4_mouldsOn 46 = .ok (.iload_n 1, 1) := dk_27 (dk_at dksX4_mouldsOn_2 0 rfl rfl)
theorem dX4_mouldsOn_47 : decode cX4_mouldsOn 47 = .ok (.iload_n 2, 1) := dk_28 (dk_at dksX4_mouldsOn_2 1 rfl rfl)
theorem dX4_mouldsOn_48 : decode cX4_mouldsOn 48 = .ok (.invokevirtual 325, 3) := dk_182 1 69 (dk_at dksX4_mouldsOn_2 2 rfl rfl)
theorem dX4_mouldsOn_51 : decode cX4_mouldsOn 51 = .ok (.iastore, 1) := dk_79 (dk_at dksX4_mouldsOn_2 5 rfl rfl)
theorem dX4_mouldsOn_52 : decode cX4_mouldsOn 52 = .ok (.aload_n 0, 1) := dk_42 (dk_at dksX4_mouldsOn_2 6 rfl rfl)
theorem dX4_mouldsOn_53 : decode cX4_mouldsOn 53 = .ok (.getfield 72, 3) := dk_180 0 72 (dk_at dksX4_mouldsOn_2 7 rfl rfl)
theorem dX4_mouldsOn_56 : decode cX4_mouldsOn 56 = .ok (.iconst 3, 1) := dk_6 (dk_at dksX4_mouldsOn_2 10 rfl rfl)
theorem dX4_mouldsOn_57 : decode cX4_mouldsOn 57 = .ok (.aload_n 0, 1) := dk_42 (dk_at dksX4_mouldsOn_2 11 rfl rfl)
theorem dX4_mouldsOn_58 : decode cX4_mouldsOn 58 = .ok (.getfield 66, 3) := dk_180 0 66 (dk_at dksX4_mouldsOn_2 12 rfl rfl)
theorem dX4_mouldsOn_61 : decode cX4_mouldsOn 61 = .ok (.iload_n 1, 1) := dk_27 (dk_at dksX4_mouldsOn_2 15 rfl rfl)
theorem dX4_mouldsOn_62 : decode cX4_mouldsOn 62 = .ok (.bipush 19, 2) := dk_16 19 (dk_at dksX4_mouldsOn_2 16 rfl rfl)
theorem dX4_mouldsOn_64 : decode cX4_mouldsOn 64 = .ok (.iadd, 1) := dk_96 (dk_at dksX4_mouldsOn_2 18 rfl rfl)
theorem dX4_mouldsOn_65 : decode cX4_mouldsOn 65 = .ok (.iload_n 2, 1) := dk_28 (dk_at dksX4_mouldsOn_2 19 rfl rfl)
theorem dX4_mouldsOn_66 : decode cX4_mouldsOn 66 = .ok (.iadd, 1) := dk_96 (dk_at dksX4_mouldsOn_2 20 rfl rfl)
theorem dX4_mouldsOn_67 : decode cX4_mouldsOn 67 = .ok (.iaload, 1) := dk_46 (dk_at dksX4_mouldsOn_2 21 rfl rfl)
theorem dX4_mouldsOn_68 : decode cX4_mouldsOn 68 = .ok (.bipush 10, 2) := dk_16 10 (dk_at dksX4_mouldsOn_2 22 rfl rfl)
theorem dX4_mouldsOn_70 : decode cX4_mouldsOn 70 = .ok (.if_icmp .lt 7, 3) := dk_161 0 7 (dk_at dksX4_mouldsOn_3 0 rfl rfl)
theorem dX4_mouldsOn_73 : decode cX4_mouldsOn 73 = .ok (.iconst 1, 1) := dk_4 (dk_at dksX4_mouldsOn_3 3 rfl rfl)
theorem dX4_mouldsOn_74 : decode cX4_mouldsOn 74 = .ok (.goto 4, 3) := dk_167 0 4 (dk_at dksX4_mouldsOn_3 4 rfl rfl)
theorem dX4_mouldsOn_77 : decode cX4_mouldsOn 77 = .ok (.iconst 0, 1) := dk_3 (dk_at dksX4_mouldsOn_3 7 rfl rfl)
theorem dX4_mouldsOn_78 : decode cX4_mouldsOn 78 = .ok (.iastore, 1) := dk_79 (dk_at dksX4_mouldsOn_3 8 rfl rfl)
theorem dX4_mouldsOn_79 : decode cX4_mouldsOn 79 = .ok (.aload_n 0, 1) := dk_42 (dk_at dksX4_mouldsOn_3 9 rfl rfl)
theorem dX4_mouldsOn_80 : decode cX4_mouldsOn 80 = .ok (.getfield 72, 3) := dk_180 0 72 (dk_at dksX4_mouldsOn_3 10 rfl rfl)
theorem dX4_mouldsOn_83 : decode cX4_mouldsOn 83 = .ok (.iconst 5, 1) := dk_8 (dk_at dksX4_mouldsOn_3 13 rfl rfl)
theorem dX4_mouldsOn_84 : decode cX4_mouldsOn 84 = .ok (.aload_n 0, 1) := dk_42 (dk_at dksX4_mouldsOn_3 14 rfl rfl)
theorem dX4_mouldsOn_85 : decode cX4_mouldsOn 85 = .ok (.getfield 66, 3) := dk_180 0 66 (dk_at dksX4_mouldsOn_3 15 rfl rfl)
theorem dX4_mouldsOn_88 : decode cX4_mouldsOn 88 = .ok (.iload_n 1, 1) := dk_27 (dk_at dksX4_mouldsOn_3 18 rfl rfl)
theorem dX4_mouldsOn_89 : decode cX4_mouldsOn 89 = .ok (.iconst 0, 1) := dk_3 (dk_at dksX4_mouldsOn_3 19 rfl rfl)
theorem dX4_mouldsOn_90 : decode cX4_mouldsOn 90 = .ok (.iadd, 1) := dk_96 (dk_at dksX4_mouldsOn_3 20 rfl rfl)
theorem dX4_mouldsOn_91 : decode cX4_mouldsOn 91 = .ok (.iaload, 1) := dk_46 (dk_at dksX4_mouldsOn_3 21 rfl rfl)
theorem dX4_mouldsOn_92 : decode cX4_mouldsOn 92 = .ok (.iastore, 1) := dk_79 (dk_at dksX4_mouldsOn_3 22 rfl rfl)
theorem dX4_mouldsOn_93 : decode cX4_mouldsOn 93 = .ok (.aload_n 0, 1) := dk_42 (dk_at dksX4_mouldsOn_3 23 rfl rfl)
theorem dX4_mouldsOn_94 : decode cX4_mouldsOn 94 = .ok (.aload_n 0, 1) := dk_42 (dk_at dksX4_mouldsOn_4 0 rfl rfl)
theorem dX4_mouldsOn_95 : decode cX4_mouldsOn 95 = .ok (.getfield 13, 3) := dk_180 0 13 (dk_at dksX4_mouldsOn_4 1 rfl rfl)
theorem dX4_mouldsOn_98 : decode cX4_mouldsOn 98 = .ok (.invokevirtual 341, 3) := dk_182 1 85 (dk_at dksX4_mouldsOn_4 4 rfl rfl)
theorem dX4_mouldsOn_101 : decode cX4_mouldsOn 101 = .ok (.istore_n 3, 1) := dk_62 (dk_at dksX4_mouldsOn_4 7 rfl rfl)
theorem dX4_mouldsOn_102 : decode cX4_mouldsOn 102 = .ok (.iload_n 3, 1) := dk_29 (dk_at dksX4_mouldsOn_4 8 rfl rfl)
theorem dX4_mouldsOn_103 : decode cX4_mouldsOn 103 = .ok (.ifCond .le 25, 3) := dk_158 0 25 (dk_at dksX4_mouldsOn_4 9 rfl rfl)
theorem dX4_mouldsOn_106 : decode cX4_mouldsOn 106 = .ok (.aload_n 0, 1) := dk_42 (dk_at dksX4_mouldsOn_4 12 rfl rfl)
theorem dX4_mouldsOn_107 : decode cX4_mouldsOn 107 = .ok (.getfield 66, 3) := dk_180 0 66 (dk_at dksX4_mouldsOn_4 13 rfl rfl)
theorem dX4_mouldsOn_110 : decode cX4_mouldsOn 110 = .ok (.iload_n 1, 1) := dk_27 (dk_at dksX4_mouldsOn_4 16 rfl rfl)
theorem dX4_mouldsOn_111 : decode cX4_mouldsOn 111 = .ok (.bipush 10, 2) := dk_16 10 (dk_at dksX4_mouldsOn_4 17 rfl rfl)
theorem dX4_mouldsOn_113 : decode cX4_mouldsOn 113 = .ok (.iadd, 1) := dk_96 (dk_at dksX4_mouldsOn_4 19 rfl rfl)
theorem dX4_mouldsOn_114 : decode cX4_mouldsOn 114 = .ok (.iload_n 2, 1) := dk_28 (dk_at dksX4_mouldsOn_4 20 rfl rfl)
theorem dX4_mouldsOn_115 : decode cX4_mouldsOn 115 = .ok (.iadd, 1) := dk_96 (dk_at dksX4_mouldsOn_4 21 rfl rfl)
theorem dX4_mouldsOn_116 : decode cX4_mouldsOn 116 = .ok (.dup2, 1) := dk_92 (dk_at dksX4_mouldsOn_4 22 rfl rfl)
theorem dX4_mouldsOn_117 : decode cX4_mouldsOn 117 = .ok (.iaload, 1) := dk_46 (dk_at dksX4_mouldsOn_4 23 rfl rfl)
theorem dX4_mouldsOn_118 : decode cX4_mouldsOn 118 = .ok (.iconst 1, 1) := dk_4 (dk_at dksX4_mouldsOn_5 0 rfl rfl)
theorem dX4_mouldsOn_119 : decode cX4_mouldsOn 119 = .ok (.iload_n 3, 1) := dk_29 (dk_at dksX4_mouldsOn_5 1 rfl rfl)
theorem dX4_mouldsOn_120 : decode cX4_mouldsOn 120 = .ok (.iconst 1, 1) := dk_4 (dk_at dksX4_mouldsOn_5 2 rfl rfl)
theorem dX4_mouldsOn_121 : decode cX4_mouldsOn 121 = .ok (.isub, 1) := dk_100 (dk_at dksX4_mouldsOn_5 3 rfl rfl)
theorem dX4_mouldsOn_122 : decode cX4_mouldsOn 122 = .ok (.bipush 8, 2) := dk_16 8 (dk_at dksX4_mouldsOn_5 4 rfl rfl)
theorem dX4_mouldsOn_124 : decode cX4_mouldsOn 124 = .ok (.irem, 1) := dk_112 (dk_at dksX4_mouldsOn_5 6 rfl rfl)
theorem dX4_mouldsOn_125 : decode cX4_mouldsOn 125 = .ok (.ishl, 1) := dk_120 (dk_at dksX4_mouldsOn_5 7 rfl rfl)
theorem dX4_mouldsOn_126 : decode cX4_mouldsOn 126 = .ok (.ixor, 1) := dk_130 (dk_at dksX4_mouldsOn_5 8 rfl rfl)
theorem dX4_mouldsOn_127 : decode cX4_mouldsOn 127 = .ok (.iastore, 1) := dk_79 (dk_at dksX4_mouldsOn_5 9 rfl rfl)
theorem dX4_mouldsOn_128 : decode cX4_mouldsOn 128 = .ok (.return_, 1) := dk_177 (dk_at dksX4_mouldsOn_5 10 rfl rfl)
abbrev cX4_take : ByteArray := prog_12_method_85_code
def yX4_take : MethodName := ⟨RX4, "take", "(II)Z"⟩
def dkwX4_take_3 : List UInt8 := [96, 79, 4, 172]
abbrev dktX4_take_3 : List UInt8 := dkwX4_take_3 ++ []
def dkwX4_take_2 : List UInt8 := [158, 0, 7, 4, 167, 0, 4, 3, 172, 42, 182, 1, 158, 42, 180, 0, 66, 16, 19, 28, 96, 16, 10, 27]
abbrev dktX4_take_2 : List UInt8 := dkwX4_take_2 ++ dktX4_take_3
def dkwX4_take_1 : List UInt8 := [180, 0, 66, 16, 19, 28, 96, 46, 42, 3, 27, 182, 1, 57, 159, 0, 17, 42, 4, 182, 1, 155]
abbrev dktX4_take_1 : List UInt8 := dkwX4_take_1 ++ dktX4_take_2
def dkwX4_take_0 : List UInt8 := [42, 3, 181, 0, 102, 42, 27, 182, 1, 131, 153, 0, 11, 42, 28, 182, 1, 122, 154, 0, 5, 3, 172, 42]
abbrev dktX4_take_0 : List UInt8 := dkwX4_take_0 ++ dktX4_take_1
theorem dksX4_take_0 : cX4_take.data.toList.drop 0 = dktX4_take_0 := by decide +kernel
theorem dksX4_take_1 : cX4_take.data.toList.drop 24 = dktX4_take_1 := dk_seg dksX4_take_0 24 rfl rfl
theorem dksX4_take_2 : cX4_take.data.toList.drop 46 = dktX4_take_2 := dk_seg dksX4_take_1 22 rfl rfl
theorem dksX4_take_3 : cX4_take.data.toList.drop 70 = dktX4_take_3 := dk_seg dksX4_take_2 24 rfl rfl
theorem dX4_take_0 : decode cX4_take 0 = .ok (.aload_n 0, 1) := dk_42 (dk_at dksX4_take_0 0 rfl rfl)
theorem dX4_take_1 : decode cX4_take 1 = .ok (.iconst 0, 1) := dk_3 (dk_at dksX4_take_0 1 rfl rfl)
theorem dX4_take_2 : decode cX4_take 2 = .ok (.putfield 102, 3) := dk_181 0 102 (dk_at dksX4_take_0 2 rfl rfl)
theorem dX4_take_5 : decode cX4_take 5 = .ok (.aload_n 0, 1) := dk_42 (dk_at dksX4_take_0 5 rfl rfl)
theorem dX4_take_6 : decode cX4_take 6 = .ok (.iload_n 1, 1) := dk_27 (dk_at dksX4_take_0 6 rfl rfl)
theorem dX4_take_7 : decode cX4_take 7 = .ok (.invokevirtual 387, 3) := dk_182 1 131 (dk_at dksX4_take_0 7 rfl rfl)
theorem dX4_take_10 : decode cX4_take 10 = .ok (.ifCond .eq 11, 3) := dk_153 0 11 (dk_at dksX4_take_0 10 rfl rfl)
theorem dX4_take_13 : decode cX4_take 13 = .ok (.aload_n 0, 1) := dk_42 (dk_at dksX4_take_0 13 rfl rfl)
theorem dX4_take_14 : decode cX4_take 14 = .ok (.iload_n 2, 1) := dk_28 (dk_at dksX4_take_0 14 rfl rfl)
theorem dX4_take_15 : decode cX4_take 15 = .ok (.invokevirtual 378, 3) := dk_182 1 122 (dk_at dksX4_take_0 15 rfl rfl)
theorem dX4_take_18 : decode cX4_take 18 = .ok (.ifCond .ne 5, 3) := dk_154 0 5 (dk_at dksX4_take_0 18 rfl rfl)
theorem dX4_take_21 : decode cX4_take 21 = .ok (.iconst 0, 1) := dk_3 (dk_at dksX4_take_0 21 rfl rfl)
theorem dX4_take_22 : decode cX4_take 22 = .ok (.ireturn, 1) := dk_172 (dk_at dksX4_take_0 22 rfl rfl)
theorem dX4_take_23 : decode cX4_take 23 = .ok (.aload_n 0, 1) := dk_42 (dk_at dksX4_take_0 23 rfl rfl)
theorem dX4_take_24 : decode cX4_take 24 = .ok (.getfield 66, 3) := dk_180 0 66 (dk_at dksX4_take_1 0 rfl rfl)
theorem dX4_take_27 : decode cX4_take 27 = .ok (.bipush 19, 2) := dk_16 19 (dk_at dksX4_take_1 3 rfl rfl)
theorem dX4_take_29 : decode cX4_take 29 = .ok (.iload_n 2, 1) := dk_28 (dk_at dksX4_take_1 5 rfl rfl)
theorem dX4_take_30 : decode cX4_take 30 = .ok (.iadd, 1) := dk_96 (dk_at dksX4_take_1 6 rfl rfl)
theorem dX4_take_31 : decode cX4_take 31 = .ok (.iaload, 1) := dk_46 (dk_at dksX4_take_1 7 rfl rfl)
theorem dX4_take_32 : decode cX4_take 32 = .ok (.aload_n 0, 1) := dk_42 (dk_at dksX4_take_1 8 rfl rfl)
theorem dX4_take_33 : decode cX4_take 33 = .ok (.iconst 0, 1) := dk_3 (dk_at dksX4_take_1 9 rfl rfl)
theorem dX4_take_34 : decode cX4_take 34 = .ok (.iload_n 1, 1) := dk_27 (dk_at dksX4_take_1 10 rfl rfl)
theorem dX4_take_35 : decode cX4_take 35 = .ok (.invokevirtual 313, 3) := dk_182 1 57 (dk_at dksX4_take_1 11 rfl rfl)
theorem dX4_take_38 : decode cX4_take 38 = .ok (.if_icmp .eq 17, 3) := dk_159 0 17 (dk_at dksX4_take_1 14 rfl rfl)
theorem dX4_take_41 : decode cX4_take 41 = .ok (.aload_n 0, 1) := dk_42 (dk_at dksX4_take_1 17 rfl rfl)
theorem dX4_take_42 : decode cX4_take 42 = .ok (.iconst 1, 1) := dk_4 (dk_at dksX4_take_1 18 rfl rfl)
theorem dX4_take_43 : decode cX4_take 43 = .ok (.invokevirtual 411, 3) := dk_182 1 155 (dk_at dksX4_take_1 19 rfl rfl)
theorem dX4_take_46 : decode cX4_take 46 = .ok (.ifCond .le 7, 3) := dk_158 0 7 (dk_at dksX4_take_2 0 rfl rfl)
theorem dX4_take_49 : decode cX4_take 49 = .ok (.iconst 1, 1) := dk_4 (dk_at dksX4_take_2 3 rfl rfl)
theorem dX4_take_50 : decode cX4_take 50 = .ok (.goto 4, 3) := dk_167 0 4 (dk_at dksX4_take_2 4 rfl rfl)
theorem dX4_take_53 : decode cX4_take 53 = .ok (.iconst 0, 1) := dk_3 (dk_at dksX4_take_2 7 rfl rfl)
theorem dX4_take_54 : decode cX4_take 54 = .ok (.ireturn, 1) := dk_172 (dk_at dksX4_take_2 8 rfl rfl)
theorem dX4_take_55 : decode cX4_take 55 = .ok (.aload_n 0, 1) := dk_42 (dk_at dksX4_take_2 9 rfl rfl)
theorem dX4_take_56 : decode cX4_take 56 = .ok (.invokevirtual 414, 3) := dk_182 1 158 (dk_at dksX4_take_2 10 rfl rfl)
theorem dX4_take_59 : decode cX4_take 59 = .ok (.aload_n 0, 1) := dk_42 (dk_at dksX4_take_2 13 rfl rfl)
theorem dX4_take_60 : decode cX4_take 60 = .ok (.getfield 66, 3) := dk_180 0 66 (dk_at dksX4_take_2 14 rfl rfl)
theorem dX4_take_63 : decode cX4_take 63 = .ok (.bipush 19, 2) := dk_16 19 (dk_at dksX4_take_2 17 rfl rfl)
theorem dX4_take_65 : decode cX4_take 65 = .ok (.iload_n 2, 1) := dk_28 (dk_at dksX4_take_2 19 rfl rfl)
theorem dX4_take_66 : decode cX4_take 66 = .ok (.iadd, 1) := dk_96 (dk_at dksX4_take_2 20 rfl rfl)
theorem dX4_take_67 : decode cX4_take 67 = .ok (.bipush 10, 2) := dk_16 10 (dk_at dksX4_take_2 21 rfl rfl)
theorem dX4_take_69 : decode cX4_take 69 = .ok (.iload_n 1, 1) := dk_27 (dk_at dksX4_take_2 23 rfl rfl)
theorem dX4_take_70 : decode cX4_take 70 = .ok (.iadd, 1) := dk_96 (dk_at dksX4_take_3 0 rfl rfl)
theorem dX4_take_71 : decode cX4_take 71 = .ok (.iastore, 1) := dk_79 (dk_at dksX4_take_3 1 rfl rfl)
theorem dX4_take_72 : decode cX4_take 72 = .ok (.iconst 1, 1) := dk_4 (dk_at dksX4_take_3 2 rfl rfl)
theorem dX4_take_73 : decode cX4_take 73 = .ok (.ireturn, 1) := dk_172 (dk_at dksX4_take_3 3 rfl rfl)
abbrev cX4_leave : ByteArray := prog_12_method_86_code
def yX4_leave : MethodName := ⟨RX4, "leave", "(II)I"⟩
def dkwX4_leave_3 : List UInt8 := [28, 96, 46, 172]
abbrev dktX4_leave_3 : List UInt8 := dkwX4_leave_3 ++ []
def dkwX4_leave_2 : List UInt8 := [182, 1, 158, 42, 180, 0, 66, 16, 19, 28, 96, 42, 3, 27, 182, 1, 57, 79, 42, 180, 0, 66, 16, 19]
abbrev dktX4_leave_2 : List UInt8 := dkwX4_leave_2 ++ dktX4_leave_3
def dkwX4_leave_1 : List UInt8 := [180, 0, 66, 16, 19, 28, 96, 46, 16, 10, 27, 96, 159, 0, 9, 42, 4, 182, 1, 155, 172, 42]
abbrev dktX4_leave_1 : List UInt8 := dkwX4_leave_1 ++ dktX4_leave_2
def dkwX4_leave_0 : List UInt8 := [42, 3, 181, 0, 102, 42, 27, 182, 1, 131, 153, 0, 11, 42, 28, 182, 1, 122, 154, 0, 5, 3, 172, 42]
abbrev dktX4_leave_0 : List UInt8 := dkwX4_leave_0 ++ dktX4_leave_1
theorem dksX4_leave_0 : cX4_leave.data.toList.drop 0 = dktX4_leave_0 := by decide +kernel
theorem dksX4_leave_1 : cX4_leave.data.toList.drop 24 = dktX4_leave_1 := dk_seg dksX4_leave_0 24 rfl rfl
theorem dksX4_leave_2 : cX4_leave.data.toList.drop 46 = dktX4_leave_2 := dk_seg dksX4_leave_1 22 rfl rfl
theorem dksX4_leave_3 : cX4_leave.data.toList.drop 70 = dktX4_leave_3 := dk_seg dksX4_leave_2 24 rfl rfl
theorem dX4_leave_0 : decode cX4_leave 0 = .ok (.aload_n 0, 1) := dk_42 (dk_at dksX4_leave_0 0 rfl rfl)
theorem dX4_leave_1 : decode cX4_leave 1 = .ok (.iconst 0, 1) := dk_3 (dk_at dksX4_leave_0 1 rfl rfl)
theorem dX4_leave_2 : decode cX4_leave 2 = .ok (.putfield 102, 3) := dk_181 0 102 (dk_at dksX4_leave_0 2 rfl rfl)
theorem dX4_leave_5 : decode cX4_leave 5 = .ok (.aload_n 0, 1) := dk_42 (dk_at dksX4_leave_0 5 rfl rfl)
theorem dX4_leave_6 : decode cX4_leave 6 = .ok (.iload_n 1, 1) := dk_27 (dk_at dksX4_leave_0 6 rfl rfl)
theorem dX4_leave_7 : decode cX4_leave 7 = .ok (.invokevirtual 387, 3) := dk_182 1 131 (dk_at dksX4_leave_0 7 rfl rfl)
theorem dX4_leave_10 : decode cX4_leave 10 = .ok (.ifCond .eq 11, 3) := dk_153 0 11 (dk_at dksX4_leave_0 10 rfl rfl)
theorem dX4_leave_13 : decode cX4_leave 13 = .ok (.aload_n 0, 1) := dk_42 (dk_at dksX4_leave_0 13 rfl rfl)
theorem dX4_leave_14 : decode cX4_leave 14 = .ok (.iload_n 2, 1) := dk_28 (dk_at dksX4_leave_0 14 rfl rfl)
theorem dX4_leave_15 : decode cX4_leave 15 = .ok (.invokevirtual 378, 3) := dk_182 1 122 (dk_at dksX4_leave_0 15 rfl rfl)
theorem dX4_leave_18 : decode cX4_leave 18 = .ok (.ifCond .ne 5, 3) := dk_154 0 5 (dk_at dksX4_leave_0 18 rfl rfl)
theorem dX4_leave_21 : decode cX4_leave 21 = .ok (.iconst 0, 1) := dk_3 (dk_at dksX4_leave_0 21 rfl rfl)
theorem dX4_leave_22 : decode cX4_leave 22 = .ok (.ireturn, 1) := dk_172 (dk_at dksX4_leave_0 22 rfl rfl)
theorem dX4_leave_23 : decode cX4_leave 23 = .ok (.aload_n 0, 1) := dk_42 (dk_at dksX4_leave_0 23 rfl rfl)
theorem dX4_leave_24 : decode cX4_leave 24 = .ok (.getfield 66, 3) := dk_180 0 66 (dk_at dksX4_leave_1 0 rfl rfl)
theorem dX4_leave_27 : decode cX4_leave 27 = .ok (.bipush 19, 2) := dk_16 19 (dk_at dksX4_leave_1 3 rfl rfl)
theorem dX4_leave_29 : decode cX4_leave 29 = .ok (.iload_n 2, 1) := dk_28 (dk_at dksX4_leave_1 5 rfl rfl)
theorem dX4_leave_30 : decode cX4_leave 30 = .ok (.iadd, 1) := dk_96 (dk_at dksX4_leave_1 6 rfl rfl)
theorem dX4_leave_31 : decode cX4_leave 31 = .ok (.iaload, 1) := dk_46 (dk_at dksX4_leave_1 7 rfl rfl)
theorem dX4_leave_32 : decode cX4_leave 32 = .ok (.bipush 10, 2) := dk_16 10 (dk_at dksX4_leave_1 8 rfl rfl)
theorem dX4_leave_34 : decode cX4_leave 34 = .ok (.iload_n 1, 1) := dk_27 (dk_at dksX4_leave_1 10 rfl rfl)
theorem dX4_leave_35 : decode cX4_leave 35 = .ok (.iadd, 1) := dk_96 (dk_at dksX4_leave_1 11 rfl rfl)
theorem dX4_leave_36 : decode cX4_leave 36 = .ok (.if_icmp .eq 9, 3) := dk_159 0 9 (dk_at dksX4_leave_1 12 rfl rfl)
theorem dX4_leave_39 : decode cX4_leave 39 = .ok (.aload_n 0, 1) := dk_42 (dk_at dksX4_leave_1 15 rfl rfl)
theorem dX4_leave_40 : decode cX4_leave 40 = .ok (.iconst 1, 1) := dk_4 (dk_at dksX4_leave_1 16 rfl rfl)
theorem dX4_leave_41 : decode cX4_leave 41 = .ok (.invokevirtual 411, 3) := dk_182 1 155 (dk_at dksX4_leave_1 17 rfl rfl)
theorem dX4_leave_44 : decode cX4_leave 44 = .ok (.ireturn, 1) := dk_172 (dk_at dksX4_leave_1 20 rfl rfl)
theorem dX4_leave_45 : decode cX4_leave 45 = .ok (.aload_n 0, 1) := dk_42 (dk_at dksX4_leave_1 21 rfl rfl)
theorem dX4_leave_46 : decode cX4_leave 46 = .ok (.invokevirtual 414, 3) := dk_182 1 158 (dk_at dksX4_leave_2 0 rfl rfl)
theorem dX4_leave_49 : decode cX4_leave 49 = .ok (.aload_n 0, 1) := dk_42 (dk_at dksX4_leave_2 3 rfl rfl)
theorem dX4_leave_50 : decode cX4_leave 50 = .ok (.getfield 66, 3) := dk_180 0 66 (dk_at dksX4_leave_2 4 rfl rfl)
theorem dX4_leave_53 : decode cX4_leave 53 = .ok (.bipush 19, 2) := dk_16 19 (dk_at dksX4_leave_2 7 rfl rfl)
theorem dX4_leave_55 : decode cX4_leave 55 = .ok (.iload_n 2, 1) := dk_28 (dk_at dksX4_leave_2 9 rfl rfl)
theorem dX4_leave_56 : decode cX4_leave 56 = .ok (.iadd, 1) := dk_96 (dk_at dksX4_leave_2 10 rfl rfl)
theorem dX4_leave_57 : decode cX4_leave 57 = .ok (.aload_n 0, 1) := dk_42 (dk_at dksX4_leave_2 11 rfl rfl)
theorem dX4_leave_58 : decode cX4_leave 58 = .ok (.iconst 0, 1) := dk_3 (dk_at dksX4_leave_2 12 rfl rfl)
theorem dX4_leave_59 : decode cX4_leave 59 = .ok (.iload_n 1, 1) := dk_27 (dk_at dksX4_leave_2 13 rfl rfl)
theorem dX4_leave_60 : decode cX4_leave 60 = .ok (.invokevirtual 313, 3) := dk_182 1 57 (dk_at dksX4_leave_2 14 rfl rfl)
theorem dX4_leave_63 : decode cX4_leave 63 = .ok (.iastore, 1) := dk_79 (dk_at dksX4_leave_2 17 rfl rfl)
theorem dX4_leave_64 : decode cX4_leave 64 = .ok (.aload_n 0, 1) := dk_42 (dk_at dksX4_leave_2 18 rfl rfl)
theorem dX4_leave_65 : decode cX4_leave 65 = .ok (.getfield 66, 3) := dk_180 0 66 (dk_at dksX4_leave_2 19 rfl rfl)
theorem dX4_leave_68 : decode cX4_leave 68 = .ok (.bipush 19, 2) := dk_16 19 (dk_at dksX4_leave_2 22 rfl rfl)
theorem dX4_leave_70 : decode cX4_leave 70 = .ok (.iload_n 2, 1) := dk_28 (dk_at dksX4_leave_3 0 rfl rfl)
theorem dX4_leave_71 : decode cX4_leave 71 = .ok (.iadd, 1) := dk_96 (dk_at dksX4_leave_3 1 rfl rfl)
theorem dX4_leave_72 : decode cX4_leave 72 = .ok (.iaload, 1) := dk_46 (dk_at dksX4_leave_3 2 rfl rfl)
theorem dX4_leave_73 : decode cX4_leave 73 = .ok (.ireturn, 1) := dk_172 (dk_at dksX4_leave_3 3 rfl rfl)
abbrev cX4_forge : ByteArray := prog_12_method_87_code
def yX4_forge : MethodName := ⟨RX4, "forge", "(III)I"⟩
def dkwX4_forge_4 : List UInt8 := [180, 0, 66, 21, 4, 46, 172]
abbrev dktX4_forge_4 : List UInt8 := dkwX4_forge_4 ++ []
def dkwX4_forge_3 : List UInt8 := [167, 0, 5, 16, 10, 27, 96, 54, 4, 42, 180, 0, 66, 21, 4, 92, 46, 4, 29, 120, 130, 79, 42]
abbrev dktX4_forge_3 : List UInt8 := dkwX4_forge_3 ++ dktX4_forge_4
def dkwX4_forge_2 : List UInt8 := [3, 27, 182, 1, 63, 153, 0, 9, 42, 4, 182, 1, 155, 172, 42, 182, 1, 158, 28, 154, 0, 7, 4]
abbrev dktX4_forge_2 : List UInt8 := dkwX4_forge_2 ++ dktX4_forge_3
def dkwX4_forge_1 : List UInt8 := [3, 16, 7, 184, 1, 107, 153, 0, 7, 4, 167, 0, 4, 3, 4, 182, 1, 17, 154, 0, 5, 3, 172, 42]
abbrev dktX4_forge_1 : List UInt8 := dkwX4_forge_1 ++ dktX4_forge_2
def dkwX4_forge_0 : List UInt8 := [42, 3, 181, 0, 102, 42, 27, 182, 1, 122, 153, 0, 35, 42, 28, 3, 4, 184, 1, 107, 153, 0, 17, 29]
abbrev dktX4_forge_0 : List UInt8 := dkwX4_forge_0 ++ dktX4_forge_1
theorem dksX4_forge_0 : cX4_forge.data.toList.drop 0 = dktX4_forge_0 := by decide +kernel
theorem dksX4_forge_1 : cX4_forge.data.toList.drop 24 = dktX4_forge_1 := dk_seg dksX4_forge_0 24 rfl rfl
theorem dksX4_forge_2 : cX4_forge.data.toList.drop 48 = dktX4_forge_2 := dk_seg dksX4_forge_1 24 rfl rfl
theorem dksX4_forge_3 : cX4_forge.data.toList.drop 71 = dktX4_forge_3 := dk_seg dksX4_forge_2 23 rfl rfl
theorem dksX4_forge_4 : cX4_forge.data.toList.drop 94 = dktX4_forge_4 := dk_seg dksX4_forge_3 23 rfl rfl
theorem dX4_forge_0 : decode cX4_forge 0 = .ok (.aload_n 0, 1) := dk_42 (dk_at dksX4_forge_0 0 rfl rfl)
theorem dX4_forge_1 : decode cX4_forge 1 = .ok (.iconst 0, 1) := dk_3 (dk_at dksX4_forge_0 1 rfl rfl)
theorem dX4_forge_2 : decode cX4_forge 2 = .ok (.putfield 102, 3) := dk_181 0 102 (dk_at dksX4_forge_0 2 rfl rfl)
theorem dX4_forge_5 : decode cX4_forge 5 = .ok (.aload_n 0, 1) := dk_42 (dk_at dksX4_forge_0 5 rfl rfl)
theorem dX4_forge_6 : decode cX4_forge 6 = .ok (.iload_n 1, 1) := dk_27 (dk_at dksX4_forge_0 6 rfl rfl)
theorem dX4_forge_7 : decode cX4_forge 7 = .ok (.invokevirtual 378, 3) := dk_182 1 122 (dk_at dksX4_forge_0 7 rfl rfl)
theorem dX4_forge_10 : decode cX4_forge 10 = .ok (.ifCond .eq 35, 3) := dk_153 0 35 (dk_at dksX4_forge_0 10 rfl rfl)
theorem dX4_forge_13 : decode cX4_forge 13 = .ok (.aload_n 0, 1) := dk_42 (dk_at dksX4_forge_0 13 rfl rfl)
theorem dX4_forge_14 : decode cX4_forge 14 = .ok (.iload_n 2, 1) := dk_28 (dk_at dksX4_forge_0 14 rfl rfl)
theorem dX4_forge_15 : decode cX4_forge 15 = .ok (.iconst 0, 1) := dk_3 (dk_at dksX4_forge_0 15 rfl rfl)
theorem dX4_forge_16 : decode cX4_forge 16 = .ok (.iconst 1, 1) := dk_4 (dk_at dksX4_forge_0 16 rfl rfl)
theorem dX4_forge_17 : decode cX4_forge 17 = .ok (.invokestatic 363, 3) := dk_184 1 107 (dk_at dksX4_forge_0 17 rfl rfl)
theorem dX4_forge_20 : decode cX4_forge 20 = .ok (.ifCond .eq 17, 3) := dk_153 0 17 (dk_at dksX4_forge_0 20 rfl rfl)
theorem dX4_forge_23 : decode cX4_forge 23 = .ok (.iload_n 3, 1) := dk_29 (dk_at dksX4_forge_0 23 rfl rfl)
theorem dX4_forge_24 : decode cX4_forge 24 = .ok (.iconst 0, 1) := dk_3 (dk_at dksX4_forge_1 0 rfl rfl)
theorem dX4_forge_25 : decode cX4_forge 25 = .ok (.bipush 7, 2) := dk_16 7 (dk_at dksX4_forge_1 1 rfl rfl)
theorem dX4_forge_27 : decode cX4_forge 27 = .ok (.invokestatic 363, 3) := dk_184 1 107 (dk_at dksX4_forge_1 3 rfl rfl)
theorem dX4_forge_30 : decode cX4_forge 30 = .ok (.ifCond .eq 7, 3) := dk_153 0 7 (dk_at dksX4_forge_1 6 rfl rfl)
theorem dX4_forge_33 : decode cX4_forge 33 = .ok (.iconst 1, 1) := dk_4 (dk_at dksX4_forge_1 9 rfl rfl)
theorem dX4_forge_34 : decode cX4_forge 34 = .ok (.goto 4, 3) := dk_167 0 4 (dk_at dksX4_forge_1 10 rfl rfl)
theorem dX4_forge_37 : decode cX4_forge 37 = .ok (.iconst 0, 1) := dk_3 (dk_at dksX4_forge_1 13 rfl rfl)
theorem dX4_forge_38 : decode cX4_forge 38 = .ok (.iconst 1, 1) := dk_4 (dk_at dksX4_forge_1 14 rfl rfl)
theorem dX4_forge_39 : decode cX4_forge 39 = .ok (.invokevirtual 273, 3) := dk_182 1 17 (dk_at dksX4_forge_1 15 rfl rfl)
theorem dX4_forge_42 : decode cX4_forge 42 = .ok (.ifCond .ne 5, 3) := dk_154 0 5 (dk_at dksX4_forge_1 18 rfl rfl)
theorem dX4_forge_45 : decode cX4_forge 45 = .ok (.iconst 0, 1) := dk_3 (dk_at dksX4_forge_1 21 rfl rfl)
theorem dX4_forge_46 : decode cX4_forge 46 = .ok (.ireturn, 1) := dk_172 (dk_at dksX4_forge_1 22 rfl rfl)
theorem dX4_forge_47 : decode cX4_forge 47 = .ok (.aload_n 0, 1) := dk_42 (dk_at dksX4_forge_1 23 rfl rfl)
theorem dX4_forge_48 : decode cX4_forge 48 = .ok (.iconst 0, 1) := dk_3 (dk_at dksX4_forge_2 0 rfl rfl)
theorem dX4_forge_49 : decode cX4_forge 49 = .ok (.iload_n 1, 1) := dk_27 (dk_at dksX4_forge_2 1 rfl rfl)
theorem dX4_forge_50 : decode cX4_forge 50 = .ok (.invokevirtual 319, 3) := dk_182 1 63 (dk_at dksX4_forge_2 2 rfl rfl)
theorem dX4_forge_53 : decode cX4_forge 53 = .ok (.ifCond .eq 9, 3) := dk_153 0 9 (dk_at dksX4_forge_2 5 rfl rfl)
theorem dX4_forge_56 : decode cX4_forge 56 = .ok (.aload_n 0, 1) := dk_42 (dk_at dksX4_forge_2 8 rfl rfl)
theorem dX4_forge_57 : decode cX4_forge 57 = .ok (.iconst 1, 1) := dk_4 (dk_at dksX4_forge_2 9 rfl rfl)
theorem dX4_forge_58 : decode cX4_forge 58 = .ok (.invokevirtual 411, 3) := dk_182 1 155 (dk_at dksX4_forge_2 10 rfl rfl)
theorem dX4_forge_61 : decode cX4_forge 61 = .ok (.ireturn, 1) := dk_172 (dk_at dksX4_forge_2 13 rfl rfl)
theorem dX4_forge_62 : decode cX4_forge 62 = .ok (.aload_n 0, 1) := dk_42 (dk_at dksX4_forge_2 14 rfl rfl)
theorem dX4_forge_63 : decode cX4_forge 63 = .ok (.invokevirtual 414, 3) := dk_182 1 158 (dk_at dksX4_forge_2 15 rfl rfl)
theorem dX4_forge_66 : decode cX4_forge 66 = .ok (.iload_n 2, 1) := dk_28 (dk_at dksX4_forge_2 18 rfl rfl)
theorem dX4_forge_67 : decode cX4_forge 67 = .ok (.ifCond .ne 7, 3) := dk_154 0 7 (dk_at dksX4_forge_2 19 rfl rfl)
theorem dX4_forge_70 : decode cX4_forge 70 = .ok (.iconst 1, 1) := dk_4 (dk_at dksX4_forge_2 22 rfl rfl)
theorem dX4_forge_71 : decode cX4_forge 71 = .ok (.goto 5, 3) := dk_167 0 5 (dk_at dksX4_forge_3 0 rfl rfl)
theorem dX4_forge_74 : decode cX4_forge 74 = .ok (.bipush 10, 2) := dk_16 10 (dk_at dksX4_forge_3 3 rfl rfl)
theorem dX4_forge_76 : decode cX4_forge 76 = .ok (.iload_n 1, 1) := dk_27 (dk_at dksX4_forge_3 5 rfl rfl)
theorem dX4_forge_77 : decode cX4_forge 77 = .ok (.iadd, 1) := dk_96 (dk_at dksX4_forge_3 6 rfl rfl)
theorem dX4_forge_78 : decode cX4_forge 78 = .ok (.istore 4, 2) := dk_54 4 (dk_at dksX4_forge_3 7 rfl rfl)
theorem dX4_forge_80 : decode cX4_forge 80 = .ok (.aload_n 0, 1) := dk_42 (dk_at dksX4_forge_3 9 rfl rfl)
theorem dX4_forge_81 : decode cX4_forge 81 = .ok (.getfield 66, 3) := dk_180 0 66 (dk_at dksX4_forge_3 10 rfl rfl)
theorem dX4_forge_84 : decode cX4_forge 84 = .ok (.iload 4, 2) := dk_21 4 (dk_at dksX4_forge_3 13 rfl rfl)
theorem dX4_forge_86 : decode cX4_forge 86 = .ok (.dup2, 1) := dk_92 (dk_at dksX4_forge_3 15 rfl rfl)
theorem dX4_forge_87 : decode cX4_forge 87 = .ok (.iaload, 1) := dk_46 (dk_at dksX4_forge_3 16 rfl rfl)
theorem dX4_forge_88 : decode cX4_forge 88 = .ok (.iconst 1, 1) := dk_4 (dk_at dksX4_forge_3 17 rfl rfl)
theorem dX4_forge_89 : decode cX4_forge 89 = .ok (.iload_n 3, 1) := dk_29 (dk_at dksX4_forge_3 18 rfl rfl)
theorem dX4_forge_90 : decode cX4_forge 90 = .ok (.ishl, 1) := dk_120 (dk_at dksX4_forge_3 19 rfl rfl)
theorem dX4_forge_91 : decode cX4_forge 91 = .ok (.ixor, 1) := dk_130 (dk_at dksX4_forge_3 20 rfl rfl)
theorem dX4_forge_92 : decode cX4_forge 92 = .ok (.iastore, 1) := dk_79 (dk_at dksX4_forge_3 21 rfl rfl)
theorem dX4_forge_93 : decode cX4_forge 93 = .ok (.aload_n 0, 1) := dk_42 (dk_at dksX4_forge_3 22 rfl rfl)
theorem dX4_forge_94 : decode cX4_forge 94 = .ok (.getfield 66, 3) := dk_180 0 66 (dk_at dksX4_forge_4 0 rfl rfl)
theorem dX4_forge_97 : decode cX4_forge 97 = .ok (.iload 4, 2) := dk_21 4 (dk_at dksX4_forge_4 3 rfl rfl)
theorem dX4_forge_99 : decode cX4_forge 99 = .ok (.iaload, 1) := dk_46 (dk_at dksX4_forge_4 5 rfl rfl)
theorem dX4_forge_100 : decode cX4_forge 100 = .ok (.ireturn, 1) := dk_172 (dk_at dksX4_forge_4 6 rfl rfl)
abbrev cX4_fire : ByteArray := prog_12_method_89_code
def yX4_fire : MethodName := ⟨RX4, "fire", "(I)I"⟩
def dkwX4_fire_1 : List UInt8 := [154, 0, 9, 42, 4, 182, 1, 155, 172, 42, 182, 1, 158, 42, 3, 27, 182, 1, 161, 28, 172]
abbrev dktX4_fire_1 : List UInt8 := dkwX4_fire_1 ++ []
def dkwX4_fire_0 : List UInt8 := [42, 3, 181, 0, 102, 42, 27, 182, 1, 146, 154, 0, 5, 3, 172, 42, 27, 182, 1, 149, 61, 28]
abbrev dktX4_fire_0 : List UInt8 := dkwX4_fire_0 ++ dktX4_fire_1
theorem dksX4_fire_0 : cX4_fire.data.toList.drop 0 = dktX4_fire_0 := by decide +kernel
theorem dksX4_fire_1 : cX4_fire.data.toList.drop 22 = dktX4_fire_1 := dk_seg dksX4_fire_0 22 rfl rfl
theorem dX4_fire_0 : decode cX4_fire 0 = .ok (.aload_n 0, 1) := dk_42 (dk_at dksX4_fire_0 0 rfl rfl)
theorem dX4_fire_1 : decode cX4_fire 1 = .ok (.iconst 0, 1) := dk_3 (dk_at dksX4_fire_0 1 rfl rfl)
theorem dX4_fire_2 : decode cX4_fire 2 = .ok (.putfield 102, 3) := dk_181 0 102 (dk_at dksX4_fire_0 2 rfl rfl)
theorem dX4_fire_5 : decode cX4_fire 5 = .ok (.aload_n 0, 1) := dk_42 (dk_at dksX4_fire_0 5 rfl rfl)
theorem dX4_fire_6 : decode cX4_fire 6 = .ok (.iload_n 1, 1) := dk_27 (dk_at dksX4_fire_0 6 rfl rfl)
theorem dX4_fire_7 : decode cX4_fire 7 = .ok (.invokevirtual 402, 3) := dk_182 1 146 (dk_at dksX4_fire_0 7 rfl rfl)
theorem dX4_fire_10 : decode cX4_fire 10 = .ok (.ifCond .ne 5, 3) := dk_154 0 5 (dk_at dksX4_fire_0 10 rfl rfl)
theorem dX4_fire_13 : decode cX4_fire 13 = .ok (.iconst 0, 1) := dk_3 (dk_at dksX4_fire_0 13 rfl rfl)
theorem dX4_fire_14 : decode cX4_fire 14 = .ok (.ireturn, 1) := dk_172 (dk_at dksX4_fire_0 14 rfl rfl)
theorem dX4_fire_15 : decode cX4_fire 15 = .ok (.aload_n 0, 1) := dk_42 (dk_at dksX4_fire_0 15 rfl rfl)
theorem dX4_fire_16 : decode cX4_fire 16 = .ok (.iload_n 1, 1) := dk_27 (dk_at dksX4_fire_0 16 rfl rfl)
theorem dX4_fire_17 : decode cX4_fire 17 = .ok (.invokevirtual 405, 3) := dk_182 1 149 (dk_at dksX4_fire_0 17 rfl rfl)
theorem dX4_fire_20 : decode cX4_fire 20 = .ok (.istore_n 2, 1) := dk_61 (dk_at dksX4_fire_0 20 rfl rfl)
theorem dX4_fire_21 : decode cX4_fire 21 = .ok (.iload_n 2, 1) := dk_28 (dk_at dksX4_fire_0 21 rfl rfl)
theorem dX4_fire_22 : decode cX4_fire 22 = .ok (.ifCond .ne 9, 3) := dk_154 0 9 (dk_at dksX4_fire_1 0 rfl rfl)
theorem dX4_fire_25 : decode cX4_fire 25 = .ok (.aload_n 0, 1) := dk_42 (dk_at dksX4_fire_1 3 rfl rfl)
theorem dX4_fire_26 : decode cX4_fire 26 = .ok (.iconst 1, 1) := dk_4 (dk_at dksX4_fire_1 4 rfl rfl)
theorem dX4_fire_27 : decode cX4_fire 27 = .ok (.invokevirtual 411, 3) := dk_182 1 155 (dk_at dksX4_fire_1 5 rfl rfl)
theorem dX4_fire_30 : decode cX4_fire 30 = .ok (.ireturn, 1) := dk_172 (dk_at dksX4_fire_1 8 rfl rfl)
theorem dX4_fire_31 : decode cX4_fire 31 = .ok (.aload_n 0, 1) := dk_42 (dk_at dksX4_fire_1 9 rfl rfl)
theorem dX4_fire_32 : decode cX4_fire 32 = .ok (.invokevirtual 414, 3) := dk_182 1 158 (dk_at dksX4_fire_1 10 rfl rfl)
theorem dX4_fire_35 : decode cX4_fire 35 = .ok (.aload_n 0, 1) := dk_42 (dk_at dksX4_fire_1 13 rfl rfl)
theorem dX4_fire_36 : decode cX4_fire 36 = .ok (.iconst 0, 1) := dk_3 (dk_at dksX4_fire_1 14 rfl rfl)
theorem dX4_fire_37 : decode cX4_fire 37 = .ok (.iload_n 1, 1) := dk_27 (dk_at dksX4_fire_1 15 rfl rfl)
theorem dX4_fire_38 : decode cX4_fire 38 = .ok (.invokevirtual 417, 3) := dk_182 1 161 (dk_at dksX4_fire_1 16 rfl rfl)
theorem dX4_fire_41 : decode cX4_fire 41 = .ok (.iload_n 2, 1) := dk_28 (dk_at dksX4_fire_1 19 rfl rfl)
theorem dX4_fire_42 : decode cX4_fire 42 = .ok (.ireturn, 1) := dk_172 (dk_at dksX4_fire_1 20 rfl rfl)
abbrev cX4_burns : ByteArray := prog_12_method_88_code
def yX4_burns : MethodName := ⟨RX4, "burns", "(II)V"⟩
def dkwX4_burns_1 : List UInt8 := [160, 0, 15, 42, 180, 0, 66, 27, 16, 19, 96, 29, 96, 2, 79, 132, 3, 1, 167, 255, 218, 177]
abbrev dktX4_burns_1 : List UInt8 := dkwX4_burns_1 ++ []
def dkwX4_burns_0 : List UInt8 := [3, 62, 29, 42, 180, 1, 24, 162, 0, 36, 42, 180, 0, 66, 27, 16, 19, 96, 29, 96, 46, 28]
abbrev dktX4_burns_0 : List UInt8 := dkwX4_burns_0 ++ dktX4_burns_1
theorem dksX4_burns_0 : cX4_burns.data.toList.drop 0 = dktX4_burns_0 := by decide +kernel
theorem dksX4_burns_1 : cX4_burns.data.toList.drop 22 = dktX4_burns_1 := dk_seg dksX4_burns_0 22 rfl rfl
theorem dX4_burns_0 : decode cX4_burns 0 = .ok (.iconst 0, 1) := dk_3 (dk_at dksX4_burns_0 0 rfl rfl)
theorem dX4_burns_1 : decode cX4_burns 1 = .ok (.istore_n 3, 1) := dk_62 (dk_at dksX4_burns_0 1 rfl rfl)
theorem dX4_burns_2 : decode cX4_burns 2 = .ok (.iload_n 3, 1) := dk_29 (dk_at dksX4_burns_0 2 rfl rfl)
theorem dX4_burns_3 : decode cX4_burns 3 = .ok (.aload_n 0, 1) := dk_42 (dk_at dksX4_burns_0 3 rfl rfl)
theorem dX4_burns_4 : decode cX4_burns 4 = .ok (.getfield 280, 3) := dk_180 1 24 (dk_at dksX4_burns_0 4 rfl rfl)
theorem dX4_burns_7 : decode cX4_burns 7 = .ok (.if_icmp .ge 36, 3) := dk_162 0 36 (dk_at dksX4_burns_0 7 rfl rfl)
theorem dX4_burns_10 : decode cX4_burns 10 = .ok (.aload_n 0, 1) := dk_42 (dk_at dksX4_burns_0 10 rfl rfl)
theorem dX4_burns_11 : decode cX4_burns 11 = .ok (.getfield 66, 3) := dk_180 0 66 (dk_at dksX4_burns_0 11 rfl rfl)
theorem dX4_burns_14 : decode cX4_burns 14 = .ok (.iload_n 1, 1) := dk_27 (dk_at dksX4_burns_0 14 rfl rfl)
theorem dX4_burns_15 : decode cX4_burns 15 = .ok (.bipush 19, 2) := dk_16 19 (dk_at dksX4_burns_0 15 rfl rfl)
theorem dX4_burns_17 : decode cX4_burns 17 = .ok (.iadd, 1) := dk_96 (dk_at dksX4_burns_0 17 rfl rfl)
theorem dX4_burns_18 : decode cX4_burns 18 = .ok (.iload_n 3, 1) := dk_29 (dk_at dksX4_burns_0 18 rfl rfl)
theorem dX4_burns_19 : decode cX4_burns 19 = .ok (.iadd, 1) := dk_96 (dk_at dksX4_burns_0 19 rfl rfl)
theorem dX4_burns_20 : decode cX4_burns 20 = .ok (.iaload, 1) := dk_46 (dk_at dksX4_burns_0 20 rfl rfl)
theorem dX4_burns_21 : decode cX4_burns 21 = .ok (.iload_n 2, 1) := dk_28 (dk_at dksX4_burns_0 21 rfl rfl)
theorem dX4_burns_22 : decode cX4_burns 22 = .ok (.if_icmp .ne 15, 3) := dk_160 0 15 (dk_at dksX4_burns_1 0 rfl rfl)
theorem dX4_burns_25 : decode cX4_burns 25 = .ok (.aload_n 0, 1) := dk_42 (dk_at dksX4_burns_1 3 rfl rfl)
theorem dX4_burns_26 : decode cX4_burns 26 = .ok (.getfield 66, 3) := dk_180 0 66 (dk_at dksX4_burns_1 4 rfl rfl)
theorem dX4_burns_29 : decode cX4_burns 29 = .ok (.iload_n 1, 1) := dk_27 (dk_at dksX4_burns_1 7 rfl rfl)
theorem dX4_burns_30 : decode cX4_burns 30 = .ok (.bipush 19, 2) := dk_16 19 (dk_at dksX4_burns_1 8 rfl rfl)
theorem dX4_burns_32 : decode cX4_burns 32 = .ok (.iadd, 1) := dk_96 (dk_at dksX4_burns_1 10 rfl rfl)
theorem dX4_burns_33 : decode cX4_burns 33 = .ok (.iload_n 3, 1) := dk_29 (dk_at dksX4_burns_1 11 rfl rfl)
theorem dX4_burns_34 : decode cX4_burns 34 = .ok (.iadd, 1) := dk_96 (dk_at dksX4_burns_1 12 rfl rfl)
theorem dX4_burns_35 : decode cX4_burns 35 = .ok (.iconst (-1), 1) := dk_2 (dk_at dksX4_burns_1 13 rfl rfl)
theorem dX4_burns_36 : decode cX4_burns 36 = .ok (.iastore, 1) := dk_79 (dk_at dksX4_burns_1 14 rfl rfl)
theorem dX4_burns_37 : decode cX4_burns 37 = .ok (.iinc 3 1, 3) := dk_132 3 1 (dk_at dksX4_burns_1 15 rfl rfl)
theorem dX4_burns_40 : decode cX4_burns 40 = .ok (.goto (-38), 3) := dk_167 255 218 (dk_at dksX4_burns_1 18 rfl rfl)
theorem dX4_burns_43 : decode cX4_burns 43 = .ok (.return_, 1) := dk_177 (dk_at dksX4_burns_1 21 rfl rfl)
abbrev cX4_then : ByteArray := prog_12_method_91_code
def yX4_then : MethodName := ⟨RX4, "then", "(III)I"⟩
def dkwX4_then_2 : List UInt8 := [182, 1, 57, 167, 0, 12, 42, 180, 0, 66, 16, 62, 27, 96, 46, 172]
abbrev dktX4_then_2 : List UInt8 := dkwX4_then_2 ++ []
def dkwX4_then_1 : List UInt8 := [3, 5, 182, 1, 170, 154, 0, 5, 3, 172, 42, 28, 182, 1, 173, 29, 154, 0, 13, 42, 16, 34, 27]
abbrev dktX4_then_1 : List UInt8 := dkwX4_then_1 ++ dktX4_then_2
def dkwX4_then_0 : List UInt8 := [42, 3, 181, 0, 102, 42, 27, 182, 1, 131, 153, 0, 22, 42, 29, 4, 182, 1, 125, 153, 0, 13, 42, 28]
abbrev dktX4_then_0 : List UInt8 := dkwX4_then_0 ++ dktX4_then_1
theorem dksX4_then_0 : cX4_then.data.toList.drop 0 = dktX4_then_0 := by decide +kernel
theorem dksX4_then_1 : cX4_then.data.toList.drop 24 = dktX4_then_1 := dk_seg dksX4_then_0 24 rfl rfl
theorem dksX4_then_2 : cX4_then.data.toList.drop 47 = dktX4_then_2 := dk_seg dksX4_then_1 23 rfl rfl
theorem dX4_then_0 : decode cX4_then 0 = .ok (.aload_n 0, 1) := dk_42 (dk_at dksX4_then_0 0 rfl rfl)
theorem dX4_then_1 : decode cX4_then 1 = .ok (.iconst 0, 1) := dk_3 (dk_at dksX4_then_0 1 rfl rfl)
theorem dX4_then_2 : decode cX4_then 2 = .ok (.putfield 102, 3) := dk_181 0 102 (dk_at dksX4_then_0 2 rfl rfl)
theorem dX4_then_5 : decode cX4_then 5 = .ok (.aload_n 0, 1) := dk_42 (dk_at dksX4_then_0 5 rfl rfl)
theorem dX4_then_6 : decode cX4_then 6 = .ok (.iload_n 1, 1) := dk_27 (dk_at dksX4_then_0 6 rfl rfl)
theorem dX4_then_7 : decode cX4_then 7 = .ok (.invokevirtual 387, 3) := dk_182 1 131 (dk_at dksX4_then_0 7 rfl rfl)
theorem dX4_then_10 : decode cX4_then 10 = .ok (.ifCond .eq 22, 3) := dk_153 0 22 (dk_at dksX4_then_0 10 rfl rfl)
theorem dX4_then_13 : decode cX4_then 13 = .ok (.aload_n 0, 1) := dk_42 (dk_at dksX4_then_0 13 rfl rfl)
theorem dX4_then_14 : decode cX4_then 14 = .ok (.iload_n 3, 1) := dk_29 (dk_at dksX4_then_0 14 rfl rfl)
theorem dX4_then_15 : decode cX4_then 15 = .ok (.iconst 1, 1) := dk_4 (dk_at dksX4_then_0 15 rfl rfl)
theorem dX4_then_16 : decode cX4_then 16 = .ok (.invokevirtual 381, 3) := dk_182 1 125 (dk_at dksX4_then_0 16 rfl rfl)
theorem dX4_then_19 : decode cX4_then 19 = .ok (.ifCond .eq 13, 3) := dk_153 0 13 (dk_at dksX4_then_0 19 rfl rfl)
theorem dX4_then_22 : decode cX4_then 22 = .ok (.aload_n 0, 1) := dk_42 (dk_at dksX4_then_0 22 rfl rfl)
theorem dX4_then_23 : decode cX4_then 23 = .ok (.iload_n 2, 1) := dk_28 (dk_at dksX4_then_0 23 rfl rfl)
theorem dX4_then_24 : decode cX4_then 24 = .ok (.iconst 0, 1) := dk_3 (dk_at dksX4_then_1 0 rfl rfl)
theorem dX4_then_25 : decode cX4_then 25 = .ok (.iconst 2, 1) := dk_5 (dk_at dksX4_then_1 1 rfl rfl)
theorem dX4_then_26 : decode cX4_then 26 = .ok (.invokevirtual 426, 3) := dk_182 1 170 (dk_at dksX4_then_1 2 rfl rfl)
theorem dX4_then_29 : decode cX4_then 29 = .ok (.ifCond .ne 5, 3) := dk_154 0 5 (dk_at dksX4_then_1 5 rfl rfl)
theorem dX4_then_32 : decode cX4_then 32 = .ok (.iconst 0, 1) := dk_3 (dk_at dksX4_then_1 8 rfl rfl)
theorem dX4_then_33 : decode cX4_then 33 = .ok (.ireturn, 1) := dk_172 (dk_at dksX4_then_1 9 rfl rfl)
theorem dX4_then_34 : decode cX4_then 34 = .ok (.aload_n 0, 1) := dk_42 (dk_at dksX4_then_1 10 rfl rfl)
theorem dX4_then_35 : decode cX4_then 35 = .ok (.iload_n 2, 1) := dk_28 (dk_at dksX4_then_1 11 rfl rfl)
theorem dX4_then_36 : decode cX4_then 36 = .ok (.invokevirtual 429, 3) := dk_182 1 173 (dk_at dksX4_then_1 12 rfl rfl)
theorem dX4_then_39 : decode cX4_then 39 = .ok (.iload_n 3, 1) := dk_29 (dk_at dksX4_then_1 15 rfl rfl)
theorem dX4_then_40 : decode cX4_then 40 = .ok (.ifCond .ne 13, 3) := dk_154 0 13 (dk_at dksX4_then_1 16 rfl rfl)
theorem dX4_then_43 : decode cX4_then 43 = .ok (.aload_n 0, 1) := dk_42 (dk_at dksX4_then_1 19 rfl rfl)
theorem dX4_then_44 : decode cX4_then 44 = .ok (.bipush 34, 2) := dk_16 34 (dk_at dksX4_then_1 20 rfl rfl)
theorem dX4_then_46 : decode cX4_then 46 = .ok (.iload_n 1, 1) := dk_27 (dk_at dksX4_then_1 22 rfl rfl)
theorem dX4_then_47 : decode cX4_then 47 = .ok (.invokevirtual 313, 3) := dk_182 1 57 (dk_at dksX4_then_2 0 rfl rfl)
theorem dX4_then_50 : decode cX4_then 50 = .ok (.goto 12, 3) := dk_167 0 12 (dk_at dksX4_then_2 3 rfl rfl)
theorem dX4_then_53 : decode cX4_then 53 = .ok (.aload_n 0, 1) := dk_42 (dk_at dksX4_then_2 6 rfl rfl)
theorem dX4_then_54 : decode cX4_then 54 = .ok (.getfield 66, 3) := dk_180 0 66 (dk_at dksX4_then_2 7 rfl rfl)
theorem dX4_then_57 : decode cX4_then 57 = .ok (.bipush 62, 2) := dk_16 62 (dk_at dksX4_then_2 10 rfl rfl)
theorem dX4_then_59 : decode cX4_then 59 = .ok (.iload_n 1, 1) := dk_27 (dk_at dksX4_then_2 12 rfl rfl)
theorem dX4_then_60 : decode cX4_then 60 = .ok (.iadd, 1) := dk_96 (dk_at dksX4_then_2 13 rfl rfl)
theorem dX4_then_61 : decode cX4_then 61 = .ok (.iaload, 1) := dk_46 (dk_at dksX4_then_2 14 rfl rfl)
theorem dX4_then_62 : decode cX4_then 62 = .ok (.ireturn, 1) := dk_172 (dk_at dksX4_then_2 15 rfl rfl)
abbrev cX4_isDays : ByteArray := prog_12_method_73_code
def yX4_isDays : MethodName := ⟨RX4, "isDays", "(III)Z"⟩
def dkwX4_isDays_0 : List UInt8 := [42, 27, 28, 16, 40, 184, 1, 107, 29, 182, 1, 17, 172]
abbrev dktX4_isDays_0 : List UInt8 := dkwX4_isDays_0 ++ []
theorem dksX4_isDays_0 : cX4_isDays.data.toList.drop 0 = dktX4_isDays_0 := by decide +kernel
theorem dX4_isDays_0 : decode cX4_isDays 0 = .ok (.aload_n 0, 1) := dk_42 (dk_at dksX4_isDays_0 0 rfl rfl)
theorem dX4_isDays_1 : decode cX4_isDays 1 = .ok (.iload_n 1, 1) := dk_27 (dk_at dksX4_isDays_0 1 rfl rfl)
theorem dX4_isDays_2 : decode cX4_isDays 2 = .ok (.iload_n 2, 1) := dk_28 (dk_at dksX4_isDays_0 2 rfl rfl)
theorem dX4_isDays_3 : decode cX4_isDays 3 = .ok (.bipush 40, 2) := dk_16 40 (dk_at dksX4_isDays_0 3 rfl rfl)
theorem dX4_isDays_5 : decode cX4_isDays 5 = .ok (.invokestatic 363, 3) := dk_184 1 107 (dk_at dksX4_isDays_0 5 rfl rfl)
theorem dX4_isDays_8 : decode cX4_isDays 8 = .ok (.iload_n 3, 1) := dk_29 (dk_at dksX4_isDays_0 8 rfl rfl)
theorem dX4_isDays_9 : decode cX4_isDays 9 = .ok (.invokevirtual 273, 3) := dk_182 1 17 (dk_at dksX4_isDays_0 9 rfl rfl)
theorem dX4_isDays_12 : decode cX4_isDays 12 = .ok (.ireturn, 1) := dk_172 (dk_at dksX4_isDays_0 12 rfl rfl)
abbrev cX4_goesTo : ByteArray := prog_12_method_90_code
def yX4_goesTo : MethodName := ⟨RX4, "goesTo", "(I)V"⟩
def dkwX4_goesTo_0 : List UInt8 := [42, 182, 1, 164, 42, 27, 182, 1, 167, 177]
abbrev dktX4_goesTo_0 : List UInt8 := dkwX4_goesTo_0 ++ []
theorem dksX4_goesTo_0 : cX4_goesTo.data.toList.drop 0 = dktX4_goesTo_0 := by decide +kernel
theorem dX4_goesTo_0 : decode cX4_goesTo 0 = .ok (.aload_n 0, 1) := dk_42 (dk_at dksX4_goesTo_0 0 rfl rfl)
theorem dX4_goesTo_1 : decode cX4_goesTo 1 = .ok (.invokevirtual 420, 3) := dk_182 1 164 (dk_at dksX4_goesTo_0 1 rfl rfl)
theorem dX4_goesTo_4 : decode cX4_goesTo 4 = .ok (.aload_n 0, 1) := dk_42 (dk_at dksX4_goesTo_0 4 rfl rfl)
theorem dX4_goesTo_5 : decode cX4_goesTo 5 = .ok (.iload_n 1, 1) := dk_27 (dk_at dksX4_goesTo_0 5 rfl rfl)
theorem dX4_goesTo_6 : decode cX4_goesTo 6 = .ok (.invokevirtual 423, 3) := dk_182 1 167 (dk_at dksX4_goesTo_0 6 rfl rfl)
theorem dX4_goesTo_9 : decode cX4_goesTo 9 = .ok (.return_, 1) := dk_177 (dk_at dksX4_goesTo_0 9 rfl rfl)
abbrev cX4_tries : ByteArray := prog_12_method_45_code
def yX4_tries : MethodName := ⟨RX4, "tries", "()V"⟩
def dkwX4_tries_1 : List UInt8 := [132, 1, 1, 167, 255, 232, 177]
abbrev dktX4_tries_1 : List UInt8 := dkwX4_tries_1 ++ []
def dkwX4_tries_0 : List UInt8 := [3, 60, 27, 16, 34, 162, 0, 24, 42, 180, 0, 66, 16, 34, 27, 96, 42, 180, 0, 66, 27, 46, 79]
abbrev dktX4_tries_0 : List UInt8 := dkwX4_tries_0 ++ dktX4_tries_1
theorem dksX4_tries_0 : cX4_tries.data.toList.drop 0 = dktX4_tries_0 := by decide +kernel
theorem dksX4_tries_1 : cX4_tries.data.toList.drop 23 = dktX4_tries_1 := dk_seg dksX4_tries_0 23 rfl rfl
theorem dX4_tries_0 : decode cX4_tries 0 = .ok (.iconst 0, 1) := dk_3 (dk_at dksX4_tries_0 0 rfl rfl)
theorem dX4_tries_1 : decode cX4_tries 1 = .ok (.istore_n 1, 1) := dk_60 (dk_at dksX4_tries_0 1 rfl rfl)
theorem dX4_tries_2 : decode cX4_tries 2 = .ok (.iload_n 1, 1) := dk_27 (dk_at dksX4_tries_0 2 rfl rfl)
theorem dX4_tries_3 : decode cX4_tries 3 = .ok (.bipush 34, 2) := dk_16 34 (dk_at dksX4_tries_0 3 rfl rfl)
theorem dX4_tries_5 : decode cX4_tries 5 = .ok (.if_icmp .ge 24, 3) := dk_162 0 24 (dk_at dksX4_tries_0 5 rfl rfl)
theorem dX4_tries_8 : decode cX4_tries 8 = .ok (.aload_n 0, 1) := dk_42 (dk_at dksX4_tries_0 8 rfl rfl)
theorem dX4_tries_9 : decode cX4_tries 9 = .ok (.getfield 66, 3) := dk_180 0 66 (dk_at dksX4_tries_0 9 rfl rfl)
theorem dX4_tries_12 : decode cX4_tries 12 = .ok (.bipush 34, 2) := dk_16 34 (dk_at dksX4_tries_0 12 rfl rfl)
theorem dX4_tries_14 : decode cX4_tries 14 = .ok (.iload_n 1, 1) := dk_27 (dk_at dksX4_tries_0 14 rfl rfl)
theorem dX4_tries_15 : decode cX4_tries 15 = .ok (.iadd, 1) := dk_96 (dk_at dksX4_tries_0 15 rfl rfl)
theorem dX4_tries_16 : decode cX4_tries 16 = .ok (.aload_n 0, 1) := dk_42 (dk_at dksX4_tries_0 16 rfl rfl)
theorem dX4_tries_17 : decode cX4_tries 17 = .ok (.getfield 66, 3) := dk_180 0 66 (dk_at dksX4_tries_0 17 rfl rfl)
theorem dX4_tries_20 : decode cX4_tries 20 = .ok (.iload_n 1, 1) := dk_27 (dk_at dksX4_tries_0 20 rfl rfl)
theorem dX4_tries_21 : decode cX4_tries 21 = .ok (.iaload, 1) := dk_46 (dk_at dksX4_tries_0 21 rfl rfl)
theorem dX4_tries_22 : decode cX4_tries 22 = .ok (.iastore, 1) := dk_79 (dk_at dksX4_tries_0 22 rfl rfl)
theorem dX4_tries_23 : decode cX4_tries 23 = .ok (.iinc 1 1, 3) := dk_132 1 1 (dk_at dksX4_tries_1 0 rfl rfl)
theorem dX4_tries_26 : decode cX4_tries 26 = .ok (.goto (-24), 3) := dk_167 255 232 (dk_at dksX4_tries_1 3 rfl rfl)
theorem dX4_tries_29 : decode cX4_tries 29 = .ok (.return_, 1) := dk_177 (dk_at dksX4_tries_1 6 rfl rfl)
abbrev cX4_daysGo : ByteArray := prog_12_method_62_code
def yX4_daysGo : MethodName := ⟨RX4, "daysGo", "(I)V"⟩
def dkwX4_daysGo_0 : List UInt8 := [3, 61, 28, 27, 162, 0, 15, 42, 16, 34, 182, 1, 101, 132, 2, 1, 167, 255, 242, 177]
abbrev dktX4_daysGo_0 : List UInt8 := dkwX4_daysGo_0 ++ []
theorem dksX4_daysGo_0 : cX4_daysGo.data.toList.drop 0 = dktX4_daysGo_0 := by decide +kernel
theorem dX4_daysGo_0 : decode cX4_daysGo 0 = .ok (.iconst 0, 1) := dk_3 (dk_at dksX4_daysGo_0 0 rfl rfl)
theorem dX4_daysGo_1 : decode cX4_daysGo 1 = .ok (.istore_n 2, 1) := dk_61 (dk_at dksX4_daysGo_0 1 rfl rfl)
theorem dX4_daysGo_2 : decode cX4_daysGo 2 = .ok (.iload_n 2, 1) := dk_28 (dk_at dksX4_daysGo_0 2 rfl rfl)
theorem dX4_daysGo_3 : decode cX4_daysGo 3 = .ok (.iload_n 1, 1) := dk_27 (dk_at dksX4_daysGo_0 3 rfl rfl)
theorem dX4_daysGo_4 : decode cX4_daysGo 4 = .ok (.if_icmp .ge 15, 3) := dk_162 0 15 (dk_at dksX4_daysGo_0 4 rfl rfl)
theorem dX4_daysGo_7 : decode cX4_daysGo 7 = .ok (.aload_n 0, 1) := dk_42 (dk_at dksX4_daysGo_0 7 rfl rfl)
theorem dX4_daysGo_8 : decode cX4_daysGo 8 = .ok (.bipush 34, 2) := dk_16 34 (dk_at dksX4_daysGo_0 8 rfl rfl)
theorem dX4_daysGo_10 : decode cX4_daysGo 10 = .ok (.invokevirtual 357, 3) := dk_182 1 101 (dk_at dksX4_daysGo_0 10 rfl rfl)
theorem dX4_daysGo_13 : decode cX4_daysGo 13 = .ok (.iinc 2 1, 3) := dk_132 2 1 (dk_at dksX4_daysGo_0 13 rfl rfl)
theorem dX4_daysGo_16 : decode cX4_daysGo 16 = .ok (.goto (-14), 3) := dk_167 255 242 (dk_at dksX4_daysGo_0 16 rfl rfl)
theorem dX4_daysGo_19 : decode cX4_daysGo 19 = .ok (.return_, 1) := dk_177 (dk_at dksX4_daysGo_0 19 rfl rfl)
abbrev cX4_where : ByteArray := prog_12_method_92_code
def yX4_where : MethodName := ⟨RX4, "where", "(II)I"⟩
def dkwX4_where_1 : List UInt8 := [172, 42, 28, 182, 1, 173, 42, 16, 34, 27, 182, 1, 69, 172]
abbrev dktX4_where_1 : List UInt8 := dkwX4_where_1 ++ []
def dkwX4_where_0 : List UInt8 := [42, 3, 181, 0, 102, 42, 27, 182, 1, 122, 153, 0, 13, 42, 28, 3, 5, 182, 1, 170, 154, 0, 5, 3]
abbrev dktX4_where_0 : List UInt8 := dkwX4_where_0 ++ dktX4_where_1
theorem dksX4_where_0 : cX4_where.data.toList.drop 0 = dktX4_where_0 := by decide +kernel
theorem dksX4_where_1 : cX4_where.data.toList.drop 24 = dktX4_where_1 := dk_seg dksX4_where_0 24 rfl rfl
theorem dX4_where_0 : decode cX4_where 0 = .ok (.aload_n 0, 1) := dk_42 (dk_at dksX4_where_0 0 rfl rfl)
theorem dX4_where_1 : decode cX4_where 1 = .ok (.iconst 0, 1) := dk_3 (dk_at dksX4_where_0 1 rfl rfl)
theorem dX4_where_2 : decode cX4_where 2 = .ok (.putfield 102, 3) := dk_181 0 102 (dk_at dksX4_where_0 2 rfl rfl)
theorem dX4_where_5 : decode cX4_where 5 = .ok (.aload_n 0, 1) := dk_42 (dk_at dksX4_where_0 5 rfl rfl)
theorem dX4_where_6 : decode cX4_where 6 = .ok (.iload_n 1, 1) := dk_27 (dk_at dksX4_where_0 6 rfl rfl)
theorem dX4_where_7 : decode cX4_where 7 = .ok (.invokevirtual 378, 3) := dk_182 1 122 (dk_at dksX4_where_0 7 rfl rfl)
theorem dX4_where_10 : decode cX4_where 10 = .ok (.ifCond .eq 13, 3) := dk_153 0 13 (dk_at dksX4_where_0 10 rfl rfl)
theorem dX4_where_13 : decode cX4_where 13 = .ok (.aload_n 0, 1) := dk_42 (dk_at dksX4_where_0 13 rfl rfl)
theorem dX4_where_14 : decode cX4_where 14 = .ok (.iload_n 2, 1) := dk_28 (dk_at dksX4_where_0 14 rfl rfl)
theorem dX4_where_15 : decode cX4_where 15 = .ok (.iconst 0, 1) := dk_3 (dk_at dksX4_where_0 15 rfl rfl)
theorem dX4_where_16 : decode cX4_where 16 = .ok (.iconst 2, 1) := dk_5 (dk_at dksX4_where_0 16 rfl rfl)
theorem dX4_where_17 : decode cX4_where 17 = .ok (.invokevirtual 426, 3) := dk_182 1 170 (dk_at dksX4_where_0 17 rfl rfl)
theorem dX4_where_20 : decode cX4_where 20 = .ok (.ifCond .ne 5, 3) := dk_154 0 5 (dk_at dksX4_where_0 20 rfl rfl)
theorem dX4_where_23 : decode cX4_where 23 = .ok (.iconst 0, 1) := dk_3 (dk_at dksX4_where_0 23 rfl rfl)
theorem dX4_where_24 : decode cX4_where 24 = .ok (.ireturn, 1) := dk_172 (dk_at dksX4_where_1 0 rfl rfl)
theorem dX4_where_25 : decode cX4_where 25 = .ok (.aload_n 0, 1) := dk_42 (dk_at dksX4_where_1 1 rfl rfl)
theorem dX4_where_26 : decode cX4_where 26 = .ok (.iload_n 2, 1) := dk_28 (dk_at dksX4_where_1 2 rfl rfl)
theorem dX4_where_27 : decode cX4_where 27 = .ok (.invokevirtual 429, 3) := dk_182 1 173 (dk_at dksX4_where_1 3 rfl rfl)
theorem dX4_where_30 : decode cX4_where 30 = .ok (.aload_n 0, 1) := dk_42 (dk_at dksX4_where_1 6 rfl rfl)
theorem dX4_where_31 : decode cX4_where 31 = .ok (.bipush 34, 2) := dk_16 34 (dk_at dksX4_where_1 7 rfl rfl)
theorem dX4_where_33 : decode cX4_where 33 = .ok (.iload_n 1, 1) := dk_27 (dk_at dksX4_where_1 9 rfl rfl)
theorem dX4_where_34 : decode cX4_where 34 = .ok (.invokevirtual 325, 3) := dk_182 1 69 (dk_at dksX4_where_1 10 rfl rfl)
theorem dX4_where_37 : decode cX4_where 37 = .ok (.ireturn, 1) := dk_172 (dk_at dksX4_where_1 13 rfl rfl)
abbrev cX4_first : ByteArray := prog_12_method_93_code
def yX4_first : MethodName := ⟨RX4, "first", "(II)I"⟩
def dkwX4_first_2 : List UInt8 := [4, 160, 0, 5, 29, 172, 42, 16, 34, 182, 1, 101, 132, 3, 1, 167, 255, 222, 2, 172]
abbrev dktX4_first_2 : List UInt8 := dkwX4_first_2 ++ []
def dkwX4_first_1 : List UInt8 := [182, 1, 164, 3, 62, 29, 16, 40, 163, 0, 34, 42, 180, 0, 66, 16, 62, 27, 96, 46, 28, 122, 4, 126]
abbrev dktX4_first_1 : List UInt8 := dkwX4_first_1 ++ dktX4_first_2
def dkwX4_first_0 : List UInt8 := [42, 3, 181, 0, 102, 42, 27, 182, 1, 131, 153, 0, 11, 42, 28, 182, 1, 134, 154, 0, 5, 3, 172, 42]
abbrev dktX4_first_0 : List UInt8 := dkwX4_first_0 ++ dktX4_first_1
theorem dksX4_first_0 : cX4_first.data.toList.drop 0 = dktX4_first_0 := by decide +kernel
theorem dksX4_first_1 : cX4_first.data.toList.drop 24 = dktX4_first_1 := dk_seg dksX4_first_0 24 rfl rfl
theorem dksX4_first_2 : cX4_first.data.toList.drop 48 = dktX4_first_2 := dk_seg dksX4_first_1 24 rfl rfl
theorem dX4_first_0 : decode cX4_first 0 = .ok (.aload_n 0, 1) := dk_42 (dk_at dksX4_first_0 0 rfl rfl)
theorem dX4_first_1 : decode cX4_first 1 = .ok (.iconst 0, 1) := dk_3 (dk_at dksX4_first_0 1 rfl rfl)
theorem dX4_first_2 : decode cX4_first 2 = .ok (.putfield 102, 3) := dk_181 0 102 (dk_at dksX4_first_0 2 rfl rfl)
theorem dX4_first_5 : decode cX4_first 5 = .ok (.aload_n 0, 1) := dk_42 (dk_at dksX4_first_0 5 rfl rfl)
theorem dX4_first_6 : decode cX4_first 6 = .ok (.iload_n 1, 1) := dk_27 (dk_at dksX4_first_0 6 rfl rfl)
theorem dX4_first_7 : decode cX4_first 7 = .ok (.invokevirtual 387, 3) := dk_182 1 131 (dk_at dksX4_first_0 7 rfl rfl)
theorem dX4_first_10 : decode cX4_first 10 = .ok (.ifCond .eq 11, 3) := dk_153 0 11 (dk_at dksX4_first_0 10 rfl rfl)
theorem dX4_first_13 : decode cX4_first 13 = .ok (.aload_n 0, 1) := dk_42 (dk_at dksX4_first_0 13 rfl rfl)
theorem dX4_first_14 : decode cX4_first 14 = .ok (.iload_n 2, 1) := dk_28 (dk_at dksX4_first_0 14 rfl rfl)
theorem dX4_first_15 : decode cX4_first 15 = .ok (.invokevirtual 390, 3) := dk_182 1 134 (dk_at dksX4_first_0 15 rfl rfl)
theorem dX4_first_18 : decode cX4_first 18 = .ok (.ifCond .ne 5, 3) := dk_154 0 5 (dk_at dksX4_first_0 18 rfl rfl)
theorem dX4_first_21 : decode cX4_first 21 = .ok (.iconst 0, 1) := dk_3 (dk_at dksX4_first_0 21 rfl rfl)
theorem dX4_first_22 : decode cX4_first 22 = .ok (.ireturn, 1) := dk_172 (dk_at dksX4_first_0 22 rfl rfl)
theorem dX4_first_23 : decode cX4_first 23 = .ok (.aload_n 0, 1) := dk_42 (dk_at dksX4_first_0 23 rfl rfl)
theorem dX4_first_24 : decode cX4_first 24 = .ok (.invokevirtual 420, 3) := dk_182 1 164 (dk_at dksX4_first_1 0 rfl rfl)
theorem dX4_first_27 : decode cX4_first 27 = .ok (.iconst 0, 1) := dk_3 (dk_at dksX4_first_1 3 rfl rfl)
theorem dX4_first_28 : decode cX4_first 28 = .ok (.istore_n 3, 1) := dk_62 (dk_at dksX4_first_1 4 rfl rfl)
theorem dX4_first_29 : decode cX4_first 29 = .ok (.iload_n 3, 1) := dk_29 (dk_at dksX4_first_1 5 rfl rfl)
theorem dX4_first_30 : decode cX4_first 30 = .ok (.bipush 40, 2) := dk_16 40 (dk_at dksX4_first_1 6 rfl rfl)
theorem dX4_first_32 : decode cX4_first 32 = .ok (.if_icmp .gt 34, 3) := dk_163 0 34 (dk_at dksX4_first_1 8 rfl rfl)
theorem dX4_first_35 : decode cX4_first 35 = .ok (.aload_n 0, 1) := dk_42 (dk_at dksX4_first_1 11 rfl rfl)
theorem dX4_first_36 : decode cX4_first 36 = .ok (.getfield 66, 3) := dk_180 0 66 (dk_at dksX4_first_1 12 rfl rfl)
theorem dX4_first_39 : decode cX4_first 39 = .ok (.bipush 62, 2) := dk_16 62 (dk_at dksX4_first_1 15 rfl rfl)
theorem dX4_first_41 : decode cX4_first 41 = .ok (.iload_n 1, 1) := dk_27 (dk_at dksX4_first_1 17 rfl rfl)
theorem dX4_first_42 : decode cX4_first 42 = .ok (.iadd, 1) := dk_96 (dk_at dksX4_first_1 18 rfl rfl)
theorem dX4_first_43 : decode cX4_first 43 = .ok (.iaload, 1) := dk_46 (dk_at dksX4_first_1 19 rfl rfl)
theorem dX4_first_44 : decode cX4_first 44 = .ok (.iload_n 2, 1) := dk_28 (dk_at dksX4_first_1 20 rfl rfl)
theorem dX4_first_45 : decode cX4_first 45 = .ok (.ishr, 1) := dk_122 (dk_at dksX4_first_1 21 rfl rfl)
theorem dX4_first_46 : decode cX4_first 46 = .ok (.iconst 1, 1) := dk_4 (dk_at dksX4_first_1 22 rfl rfl)
theorem dX4_first_47 : decode cX4_first 47 = .ok (.iand, 1) := dk_126 (dk_at dksX4_first_1 23 rfl rfl)
theorem dX4_first_48 : decode cX4_first 48 = .ok (.iconst 1, 1) := dk_4 (dk_at dksX4_first_2 0 rfl rfl)
theorem dX4_first_49 : decode cX4_first 49 = .ok (.if_icmp .ne 5, 3) := dk_160 0 5 (dk_at dksX4_first_2 1 rfl rfl)
theorem dX4_first_52 : decode cX4_first 52 = .ok (.iload_n 3, 1) := dk_29 (dk_at dksX4_first_2 4 rfl rfl)
theorem dX4_first_53 : decode cX4_first 53 = .ok (.ireturn, 1) := dk_172 (dk_at dksX4_first_2 5 rfl rfl)
theorem dX4_first_54 : decode cX4_first 54 = .ok (.aload_n 0, 1) := dk_42 (dk_at dksX4_first_2 6 rfl rfl)
theorem dX4_first_55 : decode cX4_first 55 = .ok (.bipush 34, 2) := dk_16 34 (dk_at dksX4_first_2 7 rfl rfl)
theorem dX4_first_57 : decode cX4_first 57 = .ok (.invokevirtual 357, 3) := dk_182 1 101 (dk_at dksX4_first_2 9 rfl rfl)
theorem dX4_first_60 : decode cX4_first 60 = .ok (.iinc 3 1, 3) := dk_132 3 1 (dk_at dksX4_first_2 12 rfl rfl)
theorem dX4_first_63 : decode cX4_first 63 = .ok (.goto (-34), 3) := dk_167 255 222 (dk_at dksX4_first_2 15 rfl rfl)
theorem dX4_first_66 : decode cX4_first 66 = .ok (.iconst (-1), 1) := dk_2 (dk_at dksX4_first_2 18 rfl rfl)
theorem dX4_first_67 : decode cX4_first 67 = .ok (.ireturn, 1) := dk_172 (dk_at dksX4_first_2 19 rfl rfl)
abbrev cX4_read : ByteArray := prog_12_method_94_code
def yX4_read : MethodName := ⟨RX4, "read", "(II)I"⟩
def dkwX4_read_4 : List UInt8 := [172]
abbrev dktX4_read_4 : List UInt8 := dkwX4_read_4 ++ []
def dkwX4_read_3 : List UInt8 := [132, 4, 1, 167, 255, 218, 28, 154, 0, 16, 42, 16, 34, 42, 182, 1, 116, 182, 1, 82, 167, 0, 4, 29]
abbrev dktX4_read_3 : List UInt8 := dkwX4_read_3 ++ dktX4_read_4
def dkwX4_read_2 : List UInt8 := [16, 34, 21, 4, 182, 1, 140, 184, 1, 60, 4, 160, 0, 10, 4, 21, 4, 120, 167, 0, 4, 3, 128, 62]
abbrev dktX4_read_2 : List UInt8 := dkwX4_read_2 ++ dktX4_read_3
def dkwX4_read_1 : List UInt8 := [3, 172, 42, 27, 182, 1, 173, 3, 62, 3, 54, 4, 21, 4, 42, 180, 1, 30, 162, 0, 35, 29, 42]
abbrev dktX4_read_1 : List UInt8 := dkwX4_read_1 ++ dktX4_read_2
def dkwX4_read_0 : List UInt8 := [42, 3, 181, 0, 102, 42, 28, 4, 182, 1, 125, 153, 0, 13, 42, 27, 3, 5, 182, 1, 170, 154, 0, 5]
abbrev dktX4_read_0 : List UInt8 := dkwX4_read_0 ++ dktX4_read_1
theorem dksX4_read_0 : cX4_read.data.toList.drop 0 = dktX4_read_0 := by decide +kernel
theorem dksX4_read_1 : cX4_read.data.toList.drop 24 = dktX4_read_1 := dk_seg dksX4_read_0 24 rfl rfl
theorem dksX4_read_2 : cX4_read.data.toList.drop 47 = dktX4_read_2 := dk_seg dksX4_read_1 23 rfl rfl
theorem dksX4_read_3 : cX4_read.data.toList.drop 71 = dktX4_read_3 := dk_seg dksX4_read_2 24 rfl rfl
theorem dksX4_read_4 : cX4_read.data.toList.drop 95 = dktX4_read_4 := dk_seg dksX4_read_3 24 rfl rfl
theorem dX4_read_0 : decode cX4_read 0 = .ok (.aload_n 0, 1) := dk_42 (dk_at dksX4_read_0 0 rfl rfl)
theorem dX4_read_1 : decode cX4_read 1 = .ok (.iconst 0, 1) := dk_3 (dk_at dksX4_read_0 1 rfl rfl)
theorem dX4_read_2 : decode cX4_read 2 = .ok (.putfield 102, 3) := dk_181 0 102 (dk_at dksX4_read_0 2 rfl rfl)
theorem dX4_read_5 : decode cX4_read 5 = .ok (.aload_n 0, 1) := dk_42 (dk_at dksX4_read_0 5 rfl rfl)
theorem dX4_read_6 : decode cX4_read 6 = .ok (.iload_n 2, 1) := dk_28 (dk_at dksX4_read_0 6 rfl rfl)
theorem dX4_read_7 : decode cX4_read 7 = .ok (.iconst 1, 1) := dk_4 (dk_at dksX4_read_0 7 rfl rfl)
theorem dX4_read_8 : decode cX4_read 8 = .ok (.invokevirtual 381, 3) := dk_182 1 125 (dk_at dksX4_read_0 8 rfl rfl)
theorem dX4_read_11 : decode cX4_read 11 = .ok (.ifCond .eq 13, 3) := dk_153 0 13 (dk_at dksX4_read_0 11 rfl rfl)
theorem dX4_read_14 : decode cX4_read 14 = .ok (.aload_n 0, 1) := dk_42 (dk_at dksX4_read_0 14 rfl rfl)
theorem dX4_read_15 : decode cX4_read 15 = .ok (.iload_n 1, 1) := dk_27 (dk_at dksX4_read_0 15 rfl rfl)
theorem dX4_read_16 : decode cX4_read 16 = .ok (.iconst 0, 1) := dk_3 (dk_at dksX4_read_0 16 rfl rfl)
theorem dX4_read_17 : decode cX4_read 17 = .ok (.iconst 2, 1) := dk_5 (dk_at dksX4_read_0 17 rfl rfl)
theorem dX4_read_18 : decode cX4_read 18 = .ok (.invokevirtual 426, 3) := dk_182 1 170 (dk_at dksX4_read_0 18 rfl rfl)
theorem dX4_read_21 : decode cX4_read 21 = .ok (.ifCond .ne 5, 3) := dk_154 0 5 (dk_at dksX4_read_0 21 rfl rfl)
theorem dX4_read_24 : decode cX4_read 24 = .ok (.iconst 0, 1) := dk_3 (dk_at dksX4_read_1 0 rfl rfl)
theorem dX4_read_25 : decode cX4_read 25 = .ok (.ireturn, 1) := dk_172 (dk_at dksX4_read_1 1 rfl rfl)
theorem dX4_read_26 : decode cX4_read 26 = .ok (.aload_n 0, 1) := dk_42 (dk_at dksX4_read_1 2 rfl rfl)
theorem dX4_read_27 : decode cX4_read 27 = .ok (.iload_n 1, 1) := dk_27 (dk_at dksX4_read_1 3 rfl rfl)
theorem dX4_read_28 : decode cX4_read 28 = .ok (.invokevirtual 429, 3) := dk_182 1 173 (dk_at dksX4_read_1 4 rfl rfl)
theorem dX4_read_31 : decode cX4_read 31 = .ok (.iconst 0, 1) := dk_3 (dk_at dksX4_read_1 7 rfl rfl)
theorem dX4_read_32 : decode cX4_read 32 = .ok (.istore_n 3, 1) := dk_62 (dk_at dksX4_read_1 8 rfl rfl)
theorem dX4_read_33 : decode cX4_read 33 = .ok (.iconst 0, 1) := dk_3 (dk_at dksX4_read_1 9 rfl rfl)
theorem dX4_read_34 : decode cX4_read 34 = .ok (.istore 4, 2) := dk_54 4 (dk_at dksX4_read_1 10 rfl rfl)
theorem dX4_read_36 : decode cX4_read 36 = .ok (.iload 4, 2) := dk_21 4 (dk_at dksX4_read_1 12 rfl rfl)
theorem dX4_read_38 : decode cX4_read 38 = .ok (.aload_n 0, 1) := dk_42 (dk_at dksX4_read_1 14 rfl rfl)
theorem dX4_read_39 : decode cX4_read 39 = .ok (.getfield 286, 3) := dk_180 1 30 (dk_at dksX4_read_1 15 rfl rfl)
theorem dX4_read_42 : decode cX4_read 42 = .ok (.if_icmp .ge 35, 3) := dk_162 0 35 (dk_at dksX4_read_1 18 rfl rfl)
theorem dX4_read_45 : decode cX4_read 45 = .ok (.iload_n 3, 1) := dk_29 (dk_at dksX4_read_1 21 rfl rfl)
theorem dX4_read_46 : decode cX4_read 46 = .ok (.aload_n 0, 1) := dk_42 (dk_at dksX4_read_1 22 rfl rfl)
theorem dX4_read_47 : decode cX4_read 47 = .ok (.bipush 34, 2) := dk_16 34 (dk_at dksX4_read_2 0 rfl rfl)
theorem dX4_read_49 : decode cX4_read 49 = .ok (.iload 4, 2) := dk_21 4 (dk_at dksX4_read_2 2 rfl rfl)
theorem dX4_read_51 : decode cX4_read 51 = .ok (.invokevirtual 396, 3) := dk_182 1 140 (dk_at dksX4_read_2 4 rfl rfl)
theorem dX4_read_54 : decode cX4_read 54 = .ok (.invokestatic 316, 3) := dk_184 1 60 (dk_at dksX4_read_2 7 rfl rfl)
theorem dX4_read_57 : decode cX4_read 57 = .ok (.iconst 1, 1) := dk_4 (dk_at dksX4_read_2 10 rfl rfl)
theorem dX4_read_58 : decode cX4_read 58 = .ok (.if_icmp .ne 10, 3) := dk_160 0 10 (dk_at dksX4_read_2 11 rfl rfl)
theorem dX4_read_61 : decode cX4_read 61 = .ok (.iconst 1, 1) := dk_4 (dk_at dksX4_read_2 14 rfl rfl)
theorem dX4_read_62 : decode cX4_read 62 = .ok (.iload 4, 2) := dk_21 4 (dk_at dksX4_read_2 15 rfl rfl)
theorem dX4_read_64 : decode cX4_read 64 = .ok (.ishl, 1) := dk_120 (dk_at dksX4_read_2 17 rfl rfl)
theorem dX4_read_65 : decode cX4_read 65 = .ok (.goto 4, 3) := dk_167 0 4 (dk_at dksX4_read_2 18 rfl rfl)
theorem dX4_read_68 : decode cX4_read 68 = .ok (.iconst 0, 1) := dk_3 (dk_at dksX4_read_2 21 rfl rfl)
theorem dX4_read_69 : decode cX4_read 69 = .ok (.ior, 1) := dk_128 (dk_at dksX4_read_2 22 rfl rfl)
theorem dX4_read_70 : decode cX4_read 70 = .ok (.istore_n 3, 1) := dk_62 (dk_at dksX4_read_2 23 rfl rfl)
theorem dX4_read_71 : decode cX4_read 71 = .ok (.iinc 4 1, 3) := dk_132 4 1 (dk_at dksX4_read_3 0 rfl rfl)
theorem dX4_read_74 : decode cX4_read 74 = .ok (.goto (-38), 3) := dk_167 255 218 (dk_at dksX4_read_3 3 rfl rfl)
theorem dX4_read_77 : decode cX4_read 77 = .ok (.iload_n 2, 1) := dk_28 (dk_at dksX4_read_3 6 rfl rfl)
theorem dX4_read_78 : decode cX4_read 78 = .ok (.ifCond .ne 16, 3) := dk_154 0 16 (dk_at dksX4_read_3 7 rfl rfl)
theorem dX4_read_81 : decode cX4_read 81 = .ok (.aload_n 0, 1) := dk_42 (dk_at dksX4_read_3 10 rfl rfl)
theorem dX4_read_82 : decode cX4_read 82 = .ok (.bipush 34, 2) := dk_16 34 (dk_at dksX4_read_3 11 rfl rfl)
theorem dX4_read_84 : decode cX4_read 84 = .ok (.aload_n 0, 1) := dk_42 (dk_at dksX4_read_3 13 rfl rfl)
theorem dX4_read_85 : decode cX4_read 85 = .ok (.invokevirtual 372, 3) := dk_182 1 116 (dk_at dksX4_read_3 14 rfl rfl)
theorem dX4_read_88 : decode cX4_read 88 = .ok (.invokevirtual 338, 3) := dk_182 1 82 (dk_at dksX4_read_3 17 rfl rfl)
theorem dX4_read_91 : decode cX4_read 91 = .ok (.goto 4, 3) := dk_167 0 4 (dk_at dksX4_read_3 20 rfl rfl)
theorem dX4_read_94 : decode cX4_read 94 = .ok (.iload_n 3, 1) := dk_29 (dk_at dksX4_read_3 23 rfl rfl)
theorem dX4_read_95 : decode cX4_read 95 = .ok (.ireturn, 1) := dk_172 (dk_at dksX4_read_4 0 rfl rfl)
abbrev cX4_mould : ByteArray := prog_12_method_95_code
def yX4_mould : MethodName := ⟨RX4, "mould", "(I)I"⟩
def dkwX4_mould_2 : List UInt8 := [27, 96, 46, 159, 0, 5, 28, 172, 132, 2, 1, 167, 255, 218, 2, 172]
abbrev dktX4_mould_2 : List UInt8 := dkwX4_mould_2 ++ []
def dkwX4_mould_1 : List UInt8 := [163, 0, 38, 42, 16, 34, 182, 1, 101, 42, 180, 0, 66, 16, 44, 27, 96, 46, 42, 180, 0, 66, 16, 10]
abbrev dktX4_mould_1 : List UInt8 := dkwX4_mould_1 ++ dktX4_mould_2
def dkwX4_mould_0 : List UInt8 := [42, 3, 181, 0, 102, 42, 27, 182, 1, 122, 154, 0, 5, 3, 172, 42, 182, 1, 164, 4, 61, 28, 16, 40]
abbrev dktX4_mould_0 : List UInt8 := dkwX4_mould_0 ++ dktX4_mould_1
theorem dksX4_mould_0 : cX4_mould.data.toList.drop 0 = dktX4_mould_0 := by decide +kernel
theorem dksX4_mould_1 : cX4_mould.data.toList.drop 24 = dktX4_mould_1 := dk_seg dksX4_mould_0 24 rfl rfl
theorem dksX4_mould_2 : cX4_mould.data.toList.drop 48 = dktX4_mould_2 := dk_seg dksX4_mould_1 24 rfl rfl
theorem dX4_mould_0 : decode cX4_mould 0 = .ok (.aload_n 0, 1) := dk_42 (dk_at dksX4_mould_0 0 rfl rfl)
theorem dX4_mould_1 : decode cX4_mould 1 = .ok (.iconst 0, 1) := dk_3 (dk_at dksX4_mould_0 1 rfl rfl)
theorem dX4_mould_2 : decode cX4_mould 2 = .ok (.putfield 102, 3) := dk_181 0 102 (dk_at dksX4_mould_0 2 rfl rfl)
theorem dX4_mould_5 : decode cX4_mould 5 = .ok (.aload_n 0, 1) := dk_42 (dk_at dksX4_mould_0 5 rfl rfl)
theorem dX4_mould_6 : decode cX4_mould 6 = .ok (.iload_n 1, 1) := dk_27 (dk_at dksX4_mould_0 6 rfl rfl)
theorem dX4_mould_7 : decode cX4_mould 7 = .ok (.invokevirtual 378, 3) := dk_182 1 122 (dk_at dksX4_mould_0 7 rfl rfl)
theorem dX4_mould_10 : decode cX4_mould 10 = .ok (.ifCond .ne 5, 3) := dk_154 0 5 (dk_at dksX4_mould_0 10 rfl rfl)
theorem dX4_mould_13 : decode cX4_mould 13 = .ok (.iconst 0, 1) := dk_3 (dk_at dksX4_mould_0 13 rfl rfl)
theorem dX4_mould_14 : decode cX4_mould 14 = .ok (.ireturn, 1) := dk_172 (dk_at dksX4_mould_0 14 rfl rfl)
theorem dX4_mould_15 : decode cX4_mould 15 = .ok (.aload_n 0, 1) := dk_42 (dk_at dksX4_mould_0 15 rfl rfl)
theorem dX4_mould_16 : decode cX4_mould 16 = .ok (.invokevirtual 420, 3) := dk_182 1 164 (dk_at dksX4_mould_0 16 rfl rfl)
theorem dX4_mould_19 : decode cX4_mould 19 = .ok (.iconst 1, 1) := dk_4 (dk_at dksX4_mould_0 19 rfl rfl)
theorem dX4_mould_20 : decode cX4_mould 20 = .ok (.istore_n 2, 1) := dk_61 (dk_at dksX4_mould_0 20 rfl rfl)
theorem dX4_mould_21 : decode cX4_mould 21 = .ok (.iload_n 2, 1) := dk_28 (dk_at dksX4_mould_0 21 rfl rfl)
theorem dX4_mould_22 : decode cX4_mould 22 = .ok (.bipush 40, 2) := dk_16 40 (dk_at dksX4_mould_0 22 rfl rfl)
theorem dX4_mould_24 : decode cX4_mould 24 = .ok (.if_icmp .gt 38, 3) := dk_163 0 38 (dk_at dksX4_mould_1 0 rfl rfl)
theorem dX4_mould_27 : decode cX4_mould 27 = .ok (.aload_n 0, 1) := dk_42 (dk_at dksX4_mould_1 3 rfl rfl)
theorem dX4_mould_28 : decode cX4_mould 28 = .ok (.bipush 34, 2) := dk_16 34 (dk_at dksX4_mould_1 4 rfl rfl)
theorem dX4_mould_30 : decode cX4_mould 30 = .ok (.invokevirtual 357, 3) := dk_182 1 101 (dk_at dksX4_mould_1 6 rfl rfl)
theorem dX4_mould_33 : decode cX4_mould 33 = .ok (.aload_n 0, 1) := dk_42 (dk_at dksX4_mould_1 9 rfl rfl)
theorem dX4_mould_34 : decode cX4_mould 34 = .ok (.getfield 66, 3) := dk_180 0 66 (dk_at dksX4_mould_1 10 rfl rfl)
theorem dX4_mould_37 : decode cX4_mould 37 = .ok (.bipush 44, 2) := dk_16 44 (dk_at dksX4_mould_1 13 rfl rfl)
theorem dX4_mould_39 : decode cX4_mould 39 = .ok (.iload_n 1, 1) := dk_27 (dk_at dksX4_mould_1 15 rfl rfl)
theorem dX4_mould_40 : decode cX4_mould 40 = .ok (.iadd, 1) := dk_96 (dk_at dksX4_mould_1 16 rfl rfl)
theorem dX4_mould_41 : decode cX4_mould 41 = .ok (.iaload, 1) := dk_46 (dk_at dksX4_mould_1 17 rfl rfl)
theorem dX4_mould_42 : decode cX4_mould 42 = .ok (.aload_n 0, 1) := dk_42 (dk_at dksX4_mould_1 18 rfl rfl)
theorem dX4_mould_43 : decode cX4_mould 43 = .ok (.getfield 66, 3) := dk_180 0 66 (dk_at dksX4_mould_1 19 rfl rfl)
theorem dX4_mould_46 : decode cX4_mould 46 = .ok (.bipush 10, 2) := dk_16 10 (dk_at dksX4_mould_1 22 rfl rfl)
theorem dX4_mould_48 : decode cX4_mould 48 = .ok (.iload_n 1, 1) := dk_27 (dk_at dksX4_mould_2 0 rfl rfl)
theorem dX4_mould_49 : decode cX4_mould 49 = .ok (.iadd, 1) := dk_96 (dk_at dksX4_mould_2 1 rfl rfl)
theorem dX4_mould_50 : decode cX4_mould 50 = .ok (.iaload, 1) := dk_46 (dk_at dksX4_mould_2 2 rfl rfl)
theorem dX4_mould_51 : decode cX4_mould 51 = .ok (.if_icmp .eq 5, 3) := dk_159 0 5 (dk_at dksX4_mould_2 3 rfl rfl)
theorem dX4_mould_54 : decode cX4_mould 54 = .ok (.iload_n 2, 1) := dk_28 (dk_at dksX4_mould_2 6 rfl rfl)
theorem dX4_mould_55 : decode cX4_mould 55 = .ok (.ireturn, 1) := dk_172 (dk_at dksX4_mould_2 7 rfl rfl)
theorem dX4_mould_56 : decode cX4_mould 56 = .ok (.iinc 2 1, 3) := dk_132 2 1 (dk_at dksX4_mould_2 8 rfl rfl)
theorem dX4_mould_59 : decode cX4_mould 59 = .ok (.goto (-38), 3) := dk_167 255 218 (dk_at dksX4_mould_2 11 rfl rfl)
theorem dX4_mould_62 : decode cX4_mould 62 = .ok (.iconst (-1), 1) := dk_2 (dk_at dksX4_mould_2 14 rfl rfl)
theorem dX4_mould_63 : decode cX4_mould 63 = .ok (.ireturn, 1) := dk_172 (dk_at dksX4_mould_2 15 rfl rfl)
abbrev cX4_meet : ByteArray := prog_12_method_96_code
def yX4_meet : MethodName := ⟨RX4, "meet", "(II)I"⟩
def dkwX4_meet_3 : List UInt8 := [182, 1, 69, 160, 0, 5, 29, 172, 42, 16, 34, 182, 1, 101, 132, 3, 1, 167, 255, 222, 2, 172]
abbrev dktX4_meet_3 : List UInt8 := dkwX4_meet_3 ++ []
def dkwX4_meet_2 : List UInt8 := [42, 182, 1, 164, 3, 62, 29, 16, 40, 163, 0, 34, 42, 16, 34, 27, 182, 1, 69, 42, 16, 34, 28]
abbrev dktX4_meet_2 : List UInt8 := dkwX4_meet_2 ++ dktX4_meet_3
def dkwX4_meet_1 : List UInt8 := [28, 159, 0, 21, 42, 3, 27, 182, 1, 63, 154, 0, 12, 42, 3, 28, 182, 1, 63, 153, 0, 5, 2, 172]
abbrev dktX4_meet_1 : List UInt8 := dkwX4_meet_1 ++ dktX4_meet_2
def dkwX4_meet_0 : List UInt8 := [42, 3, 181, 0, 102, 42, 27, 182, 1, 122, 153, 0, 11, 42, 28, 182, 1, 122, 154, 0, 5, 3, 172, 27]
abbrev dktX4_meet_0 : List UInt8 := dkwX4_meet_0 ++ dktX4_meet_1
theorem dksX4_meet_0 : cX4_meet.data.toList.drop 0 = dktX4_meet_0 := by decide +kernel
theorem dksX4_meet_1 : cX4_meet.data.toList.drop 24 = dktX4_meet_1 := dk_seg dksX4_meet_0 24 rfl rfl
theorem dksX4_meet_2 : cX4_meet.data.toList.drop 48 = dktX4_meet_2 := dk_seg dksX4_meet_1 24 rfl rfl
theorem dksX4_meet_3 : cX4_meet.data.toList.drop 71 = dktX4_meet_3 := dk_seg dksX4_meet_2 23 rfl rfl
theorem dX4_meet_0 : decode cX4_meet 0 = .ok (.aload_n 0, 1) := dk_42 (dk_at dksX4_meet_0 0 rfl rfl)
theorem dX4_meet_1 : decode cX4_meet 1 = .ok (.iconst 0, 1) := dk_3 (dk_at dksX4_meet_0 1 rfl rfl)
theorem dX4_meet_2 : decode cX4_meet 2 = .ok (.putfield 102, 3) := dk_181 0 102 (dk_at dksX4_meet_0 2 rfl rfl)
theorem dX4_meet_5 : decode cX4_meet 5 = .ok (.aload_n 0, 1) := dk_42 (dk_at dksX4_meet_0 5 rfl rfl)
theorem dX4_meet_6 : decode cX4_meet 6 = .ok (.iload_n 1, 1) := dk_27 (dk_at dksX4_meet_0 6 rfl rfl)
theorem dX4_meet_7 : decode cX4_meet 7 = .ok (.invokevirtual 378, 3) := dk_182 1 122 (dk_at dksX4_meet_0 7 rfl rfl)
theorem dX4_meet_10 : decode cX4_meet 10 = .ok (.ifCond .eq 11, 3) := dk_153 0 11 (dk_at dksX4_meet_0 10 rfl rfl)
theorem dX4_meet_13 : decode cX4_meet 13 = .ok (.aload_n 0, 1) := dk_42 (dk_at dksX4_meet_0 13 rfl rfl)
theorem dX4_meet_14 : decode cX4_meet 14 = .ok (.iload_n 2, 1) := dk_28 (dk_at dksX4_meet_0 14 rfl rfl)
theorem dX4_meet_15 : decode cX4_meet 15 = .ok (.invokevirtual 378, 3) := dk_182 1 122 (dk_at dksX4_meet_0 15 rfl rfl)
theorem dX4_meet_18 : decode cX4_meet 18 = .ok (.ifCond .ne 5, 3) := dk_154 0 5 (dk_at dksX4_meet_0 18 rfl rfl)
theorem dX4_meet_21 : decode cX4_meet 21 = .ok (.iconst 0, 1) := dk_3 (dk_at dksX4_meet_0 21 rfl rfl)
theorem dX4_meet_22 : decode cX4_meet 22 = .ok (.ireturn, 1) := dk_172 (dk_at dksX4_meet_0 22 rfl rfl)
theorem dX4_meet_23 : decode cX4_meet 23 = .ok (.iload_n 1, 1) := dk_27 (dk_at dksX4_meet_0 23 rfl rfl)
theorem dX4_meet_24 : decode cX4_meet 24 = .ok (.iload_n 2, 1) := dk_28 (dk_at dksX4_meet_1 0 rfl rfl)
theorem dX4_meet_25 : decode cX4_meet 25 = .ok (.if_icmp .eq 21, 3) := dk_159 0 21 (dk_at dksX4_meet_1 1 rfl rfl)
theorem dX4_meet_28 : decode cX4_meet 28 = .ok (.aload_n 0, 1) := dk_42 (dk_at dksX4_meet_1 4 rfl rfl)
theorem dX4_meet_29 : decode cX4_meet 29 = .ok (.iconst 0, 1) := dk_3 (dk_at dksX4_meet_1 5 rfl rfl)
theorem dX4_meet_30 : decode cX4_meet 30 = .ok (.iload_n 1, 1) := dk_27 (dk_at dksX4_meet_1 6 rfl rfl)
theorem dX4_meet_31 : decode cX4_meet 31 = .ok (.invokevirtual 319, 3) := dk_182 1 63 (dk_at dksX4_meet_1 7 rfl rfl)
theorem dX4_meet_34 : decode cX4_meet 34 = .ok (.ifCond .ne 12, 3) := dk_154 0 12 (dk_at dksX4_meet_1 10 rfl rfl)
theorem dX4_meet_37 : decode cX4_meet 37 = .ok (.aload_n 0, 1) := dk_42 (dk_at dksX4_meet_1 13 rfl rfl)
theorem dX4_meet_38 : decode cX4_meet 38 = .ok (.iconst 0, 1) := dk_3 (dk_at dksX4_meet_1 14 rfl rfl)
theorem dX4_meet_39 : decode cX4_meet 39 = .ok (.iload_n 2, 1) := dk_28 (dk_at dksX4_meet_1 15 rfl rfl)
theorem dX4_meet_40 : decode cX4_meet 40 = .ok (.invokevirtual 319, 3) := dk_182 1 63 (dk_at dksX4_meet_1 16 rfl rfl)
theorem dX4_meet_43 : decode cX4_meet 43 = .ok (.ifCond .eq 5, 3) := dk_153 0 5 (dk_at dksX4_meet_1 19 rfl rfl)
theorem dX4_meet_46 : decode cX4_meet 46 = .ok (.iconst (-1), 1) := dk_2 (dk_at dksX4_meet_1 22 rfl rfl)
theorem dX4_meet_47 : decode cX4_meet 47 = .ok (.ireturn, 1) := dk_172 (dk_at dksX4_meet_1 23 rfl rfl)
theorem dX4_meet_48 : decode cX4_meet 48 = .ok (.aload_n 0, 1) := dk_42 (dk_at dksX4_meet_2 0 rfl rfl)
theorem dX4_meet_49 : decode cX4_meet 49 = .ok (.invokevirtual 420, 3) := dk_182 1 164 (dk_at dksX4_meet_2 1 rfl rfl)
theorem dX4_meet_52 : decode cX4_meet 52 = .ok (.iconst 0, 1) := dk_3 (dk_at dksX4_meet_2 4 rfl rfl)
theorem dX4_meet_53 : decode cX4_meet 53 = .ok (.istore_n 3, 1) := dk_62 (dk_at dksX4_meet_2 5 rfl rfl)
theorem dX4_meet_54 : decode cX4_meet 54 = .ok (.iload_n 3, 1) := dk_29 (dk_at dksX4_meet_2 6 rfl rfl)
theorem dX4_meet_55 : decode cX4_meet 55 = .ok (.bipush 40, 2) := dk_16 40 (dk_at dksX4_meet_2 7 rfl rfl)
theorem dX4_meet_57 : decode cX4_meet 57 = .ok (.if_icmp .gt 34, 3) := dk_163 0 34 (dk_at dksX4_meet_2 9 rfl rfl)
theorem dX4_meet_60 : decode cX4_meet 60 = .ok (.aload_n 0, 1) := dk_42 (dk_at dksX4_meet_2 12 rfl rfl)
theorem dX4_meet_61 : decode cX4_meet 61 = .ok (.bipush 34, 2) := dk_16 34 (dk_at dksX4_meet_2 13 rfl rfl)
theorem dX4_meet_63 : decode cX4_meet 63 = .ok (.iload_n 1, 1) := dk_27 (dk_at dksX4_meet_2 15 rfl rfl)
theorem dX4_meet_64 : decode cX4_meet 64 = .ok (.invokevirtual 325, 3) := dk_182 1 69 (dk_at dksX4_meet_2 16 rfl rfl)
theorem dX4_meet_67 : decode cX4_meet 67 = .ok (.aload_n 0, 1) := dk_42 (dk_at dksX4_meet_2 19 rfl rfl)
theorem dX4_meet_68 : decode cX4_meet 68 = .ok (.bipush 34, 2) := dk_16 34 (dk_at dksX4_meet_2 20 rfl rfl)
theorem dX4_meet_70 : decode cX4_meet 70 = .ok (.iload_n 2, 1) := dk_28 (dk_at dksX4_meet_2 22 rfl rfl)
theorem dX4_meet_71 : decode cX4_meet 71 = .ok (.invokevirtual 325, 3) := dk_182 1 69 (dk_at dksX4_meet_3 0 rfl rfl)
theorem dX4_meet_74 : decode cX4_meet 74 = .ok (.if_icmp .ne 5, 3) := dk_160 0 5 (dk_at dksX4_meet_3 3 rfl rfl)
theorem dX4_meet_77 : decode cX4_meet 77 = .ok (.iload_n 3, 1) := dk_29 (dk_at dksX4_meet_3 6 rfl rfl)
theorem dX4_meet_78 : decode cX4_meet 78 = .ok (.ireturn, 1) := dk_172 (dk_at dksX4_meet_3 7 rfl rfl)
theorem dX4_meet_79 : decode cX4_meet 79 = .ok (.aload_n 0, 1) := dk_42 (dk_at dksX4_meet_3 8 rfl rfl)
theorem dX4_meet_80 : decode cX4_meet 80 = .ok (.bipush 34, 2) := dk_16 34 (dk_at dksX4_meet_3 9 rfl rfl)
theorem dX4_meet_82 : decode cX4_meet 82 = .ok (.invokevirtual 357, 3) := dk_182 1 101 (dk_at dksX4_meet_3 11 rfl rfl)
theorem dX4_meet_85 : decode cX4_meet 85 = .ok (.iinc 3 1, 3) := dk_132 3 1 (dk_at dksX4_meet_3 14 rfl rfl)
theorem dX4_meet_88 : decode cX4_meet 88 = .ok (.goto (-34), 3) := dk_167 255 222 (dk_at dksX4_meet_3 17 rfl rfl)
theorem dX4_meet_91 : decode cX4_meet 91 = .ok (.iconst (-1), 1) := dk_2 (dk_at dksX4_meet_3 20 rfl rfl)
theorem dX4_meet_92 : decode cX4_meet 92 = .ok (.ireturn, 1) := dk_172 (dk_at dksX4_meet_3 21 rfl rfl)
abbrev cX4_gathering : ByteArray := prog_12_method_97_code
def yX4_gathering : MethodName := ⟨RX4, "gathering", "(I)I"⟩
def dkwX4_gathering_2 : List UInt8 := [184, 1, 60, 164, 0, 5, 29, 61, 132, 3, 1, 167, 255, 223, 28, 172]
abbrev dktX4_gathering_2 : List UInt8 := dkwX4_gathering_2 ++ []
def dkwX4_gathering_1 : List UInt8 := [4, 62, 29, 7, 162, 0, 34, 42, 16, 34, 29, 182, 1, 72, 184, 1, 60, 42, 16, 34, 28, 182, 1, 72]
abbrev dktX4_gathering_1 : List UInt8 := dkwX4_gathering_1 ++ dktX4_gathering_2
def dkwX4_gathering_0 : List UInt8 := [42, 3, 181, 0, 102, 42, 27, 3, 4, 182, 1, 170, 154, 0, 5, 3, 172, 42, 27, 182, 1, 173, 3, 61]
abbrev dktX4_gathering_0 : List UInt8 := dkwX4_gathering_0 ++ dktX4_gathering_1
theorem dksX4_gathering_0 : cX4_gathering.data.toList.drop 0 = dktX4_gathering_0 := by decide +kernel
theorem dksX4_gathering_1 : cX4_gathering.data.toList.drop 24 = dktX4_gathering_1 := dk_seg dksX4_gathering_0 24 rfl rfl
theorem dksX4_gathering_2 : cX4_gathering.data.toList.drop 48 = dktX4_gathering_2 := dk_seg dksX4_gathering_1 24 rfl rfl
theorem dX4_gathering_0 : decode cX4_gathering 0 = .ok (.aload_n 0, 1) := dk_42 (dk_at dksX4_gathering_0 0 rfl rfl)
theorem dX4_gathering_1 : decode cX4_gathering 1 = .ok (.iconst 0, 1) := dk_3 (dk_at dksX4_gathering_0 1 rfl rfl)
theorem dX4_gathering_2 : decode cX4_gathering 2 = .ok (.putfield 102, 3) := dk_181 0 102 (dk_at dksX4_gathering_0 2 rfl rfl)
theorem dX4_gathering_5 : decode cX4_gathering 5 = .ok (.aload_n 0, 1) := dk_42 (dk_at dksX4_gathering_0 5 rfl rfl)
theorem dX4_gathering_6 : decode cX4_gathering 6 = .ok (.iload_n 1, 1) := dk_27 (dk_at dksX4_gathering_0 6 rfl rfl)
theorem dX4_gathering_7 : decode cX4_gathering 7 = .ok (.iconst 0, 1) := dk_3 (dk_at dksX4_gathering_0 7 rfl rfl)
theorem dX4_gathering_8 : decode cX4_gathering 8 = .ok (.iconst 1, 1) := dk_4 (dk_at dksX4_gathering_0 8 rfl rfl)
theorem dX4_gathering_9 : decode cX4_gathering 9 = .ok (.invokevirtual 426, 3) := dk_182 1 170 (dk_at dksX4_gathering_0 9 rfl rfl)
theorem dX4_gathering_12 : decode cX4_gathering 12 = .ok (.ifCond .ne 5, 3) := dk_154 0 5 (dk_at dksX4_gathering_0 12 rfl rfl)
theorem dX4_gathering_15 : decode cX4_gathering 15 = .ok (.iconst 0, 1) := dk_3 (dk_at dksX4_gathering_0 15 rfl rfl)
theorem dX4_gathering_16 : decode cX4_gathering 16 = .ok (.ireturn, 1) := dk_172 (dk_at dksX4_gathering_0 16 rfl rfl)
theorem dX4_gathering_17 : decode cX4_gathering 17 = .ok (.aload_n 0, 1) := dk_42 (dk_at dksX4_gathering_0 17 rfl rfl)
theorem dX4_gathering_18 : decode cX4_gathering 18 = .ok (.iload_n 1, 1) := dk_27 (dk_at dksX4_gathering_0 18 rfl rfl)
theorem dX4_gathering_19 : decode cX4_gathering 19 = .ok (.invokevirtual 429, 3) := dk_182 1 173 (dk_at dksX4_gathering_0 19 rfl rfl)
theorem dX4_gathering_22 : decode cX4_gathering 22 = .ok (.iconst 0, 1) := dk_3 (dk_at dksX4_gathering_0 22 rfl rfl)
theorem dX4_gathering_23 : decode cX4_gathering 23 = .ok (.istore_n 2, 1) := dk_61 (dk_at dksX4_gathering_0 23 rfl rfl)
theorem dX4_gathering_24 : decode cX4_gathering 24 = .ok (.iconst 1, 1) := dk_4 (dk_at dksX4_gathering_1 0 rfl rfl)
theorem dX4_gathering_25 : decode cX4_gathering 25 = .ok (.istore_n 3, 1) := dk_62 (dk_at dksX4_gathering_1 1 rfl rfl)
theorem dX4_gathering_26 : decode cX4_gathering 26 = .ok (.iload_n 3, 1) := dk_29 (dk_at dksX4_gathering_1 2 rfl rfl)
theorem dX4_gathering_27 : decode cX4_gathering 27 = .ok (.iconst 4, 1) := dk_7 (dk_at dksX4_gathering_1 3 rfl rfl)
theorem dX4_gathering_28 : decode cX4_gathering 28 = .ok (.if_icmp .ge 34, 3) := dk_162 0 34 (dk_at dksX4_gathering_1 4 rfl rfl)
theorem dX4_gathering_31 : decode cX4_gathering 31 = .ok (.aload_n 0, 1) := dk_42 (dk_at dksX4_gathering_1 7 rfl rfl)
theorem dX4_gathering_32 : decode cX4_gathering 32 = .ok (.bipush 34, 2) := dk_16 34 (dk_at dksX4_gathering_1 8 rfl rfl)
theorem dX4_gathering_34 : decode cX4_gathering 34 = .ok (.iload_n 3, 1) := dk_29 (dk_at dksX4_gathering_1 10 rfl rfl)
theorem dX4_gathering_35 : decode cX4_gathering 35 = .ok (.invokevirtual 328, 3) := dk_182 1 72 (dk_at dksX4_gathering_1 11 rfl rfl)
theorem dX4_gathering_38 : decode cX4_gathering 38 = .ok (.invokestatic 316, 3) := dk_184 1 60 (dk_at dksX4_gathering_1 14 rfl rfl)
theorem dX4_gathering_41 : decode cX4_gathering 41 = .ok (.aload_n 0, 1) := dk_42 (dk_at dksX4_gathering_1 17 rfl rfl)
theorem dX4_gathering_42 : decode cX4_gathering 42 = .ok (.bipush 34, 2) := dk_16 34 (dk_at dksX4_gathering_1 18 rfl rfl)
theorem dX4_gathering_44 : decode cX4_gathering 44 = .ok (.iload_n 2, 1) := dk_28 (dk_at dksX4_gathering_1 20 rfl rfl)
theorem dX4_gathering_45 : decode cX4_gathering 45 = .ok (.invokevirtual 328, 3) := dk_182 1 72 (dk_at dksX4_gathering_1 21 rfl rfl)
theorem dX4_gathering_48 : decode cX4_gathering 48 = .ok (.invokestatic 316, 3) := dk_184 1 60 (dk_at dksX4_gathering_2 0 rfl rfl)
theorem dX4_gathering_51 : decode cX4_gathering 51 = .ok (.if_icmp .le 5, 3) := dk_164 0 5 (dk_at dksX4_gathering_2 3 rfl rfl)
theorem dX4_gathering_54 : decode cX4_gathering 54 = .ok (.iload_n 3, 1) := dk_29 (dk_at dksX4_gathering_2 6 rfl rfl)
theorem dX4_gathering_55 : decode cX4_gathering 55 = .ok (.istore_n 2, 1) := dk_61 (dk_at dksX4_gathering_2 7 rfl rfl)
theorem dX4_gathering_56 : decode cX4_gathering 56 = .ok (.iinc 3 1, 3) := dk_132 3 1 (dk_at dksX4_gathering_2 8 rfl rfl)
theorem dX4_gathering_59 : decode cX4_gathering 59 = .ok (.goto (-33), 3) := dk_167 255 223 (dk_at dksX4_gathering_2 11 rfl rfl)
theorem dX4_gathering_62 : decode cX4_gathering 62 = .ok (.iload_n 2, 1) := dk_28 (dk_at dksX4_gathering_2 14 rfl rfl)
theorem dX4_gathering_63 : decode cX4_gathering 63 = .ok (.ireturn, 1) := dk_172 (dk_at dksX4_gathering_2 15 rfl rfl)
abbrev cX4_row : ByteArray := prog_12_method_100_code
def yX4_row : MethodName := ⟨RX4, "row", "(I)I"⟩
def dkwX4_row_9 : List UInt8 := [21, 6, 120, 128, 62, 21, 6, 54, 4, 132, 5, 1, 167, 255, 164, 21, 4, 172]
abbrev dktX4_row_9 : List UInt8 := dkwX4_row_9 ++ []
def dkwX4_row_8 : List UInt8 := [16, 10, 29, 104, 21, 4, 96, 46, 160, 0, 7, 21, 7, 54, 6, 132, 7, 255, 167, 255, 198, 29, 4]
abbrev dktX4_row_8 : List UInt8 := dkwX4_row_8 ++ dktX4_row_9
def dkwX4_row_7 : List UInt8 := [4, 42, 180, 0, 81, 16, 10, 29, 4, 21, 7, 120, 128, 104, 21, 7, 96, 46, 96, 42, 180, 0, 81]
abbrev dktX4_row_7 : List UInt8 := dkwX4_row_7 ++ dktX4_row_8
def dkwX4_row_6 : List UInt8 := [180, 1, 24, 4, 100, 54, 7, 21, 7, 155, 0, 59, 42, 29, 21, 4, 21, 7, 182, 1, 176, 153, 0, 41]
abbrev dktX4_row_6 : List UInt8 := dkwX4_row_6 ++ dktX4_row_7
def dkwX4_row_5 : List UInt8 := [160, 0, 5, 28, 172, 3, 62, 16, 9, 54, 4, 3, 54, 5, 21, 5, 27, 163, 0, 92, 2, 54, 6, 42]
abbrev dktX4_row_5 : List UInt8 := dkwX4_row_5 ++ dktX4_row_6
def dkwX4_row_4 : List UInt8 := [161, 0, 12, 27, 28, 162, 0, 7, 4, 167, 0, 4, 3, 4, 182, 1, 17, 154, 0, 5, 3, 172, 27, 2]
abbrev dktX4_row_4 : List UInt8 := dkwX4_row_4 ++ dktX4_row_5
def dkwX4_row_3 : List UInt8 := [79, 132, 3, 1, 167, 255, 201, 132, 2, 255, 167, 255, 189, 42, 180, 0, 81, 16, 9, 46, 61, 42, 27, 2]
abbrev dktX4_row_3 : List UInt8 := dkwX4_row_3 ++ dktX4_row_4
def dkwX4_row_2 : List UInt8 := [4, 159, 0, 13, 28, 154, 0, 18, 29, 16, 9, 160, 0, 12, 42, 28, 29, 182, 1, 179, 167, 0, 4, 3]
abbrev dktX4_row_2 : List UInt8 := dkwX4_row_2 ++ dktX4_row_3
def dkwX4_row_1 : List UInt8 := [163, 0, 55, 42, 180, 0, 81, 16, 10, 28, 104, 29, 96, 29, 16, 9, 162, 0, 12, 28, 29, 122, 4, 126]
abbrev dktX4_row_1 : List UInt8 := dkwX4_row_1 ++ dktX4_row_2
def dkwX4_row_0 : List UInt8 := [42, 3, 181, 0, 102, 4, 42, 180, 1, 24, 120, 4, 100, 61, 28, 155, 0, 69, 3, 62, 29, 16, 9]
abbrev dktX4_row_0 : List UInt8 := dkwX4_row_0 ++ dktX4_row_1
theorem dksX4_row_0 : cX4_row.data.toList.drop 0 = dktX4_row_0 := by decide +kernel
theorem dksX4_row_1 : cX4_row.data.toList.drop 23 = dktX4_row_1 := dk_seg dksX4_row_0 23 rfl rfl
theorem dksX4_row_2 : cX4_row.data.toList.drop 47 = dktX4_row_2 := dk_seg dksX4_row_1 24 rfl rfl
theorem dksX4_row_3 : cX4_row.data.toList.drop 71 = dktX4_row_3 := dk_seg dksX4_row_2 24 rfl rfl
theorem dksX4_row_4 : cX4_row.data.toList.drop 95 = dktX4_row_4 := dk_seg dksX4_row_3 24 rfl rfl
theorem dksX4_row_5 : cX4_row.data.toList.drop 119 = dktX4_row_5 := dk_seg dksX4_row_4 24 rfl rfl
theorem dksX4_row_6 : cX4_row.data.toList.drop 143 = dktX4_row_6 := dk_seg dksX4_row_5 24 rfl rfl
theorem dksX4_row_7 : cX4_row.data.toList.drop 167 = dktX4_row_7 := dk_seg dksX4_row_6 24 rfl rfl
theorem dksX4_row_8 : cX4_row.data.toList.drop 190 = dktX4_row_8 := dk_seg dksX4_row_7 23 rfl rfl
theorem dksX4_row_9 : cX4_row.data.toList.drop 213 = dktX4_row_9 := dk_seg dksX4_row_8 23 rfl rfl
theorem dX4_row_0 : decode cX4_row 0 = .ok (.aload_n 0, 1) := dk_42 (dk_at dksX4_row_0 0 rfl rfl)
theorem dX4_row_1 : decode cX4_row 1 = .ok (.iconst 0, 1) := dk_3 (dk_at dksX4_row_0 1 rfl rfl)
theorem dX4_row_2 : decode cX4_row 2 = .ok (.putfield 102, 3) := dk_181 0 102 (dk_at dksX4_row_0 2 rfl rfl)
theorem dX4_row_5 : decode cX4_row 5 = .ok (.iconst 1, 1) := dk_4 (dk_at dksX4_row_0 5 rfl rfl)
theorem dX4_row_6 : decode cX4_row 6 = .ok (.aload_n 0, 1) := dk_42 (dk_at dksX4_row_0 6 rfl rfl)
theorem dX4_row_7 : decode cX4_row 7 = .ok (.getfield 280, 3) := dk_180 1 24 (dk_at dksX4_row_0 7 rfl rfl)
theorem dX4_row_10 : decode cX4_row 10 = .ok (.ishl, 1) := dk_120 (dk_at dksX4_row_0 10 rfl rfl)
theorem dX4_row_11 : decode cX4_row 11 = .ok (.iconst 1, 1) := dk_4 (dk_at dksX4_row_0 11 rfl rfl)
theorem dX4_row_12 : decode cX4_row 12 = .ok (.isub, 1) := dk_100 (dk_at dksX4_row_0 12 rfl rfl)
theorem dX4_row_13 : decode cX4_row 13 = .ok (.istore_n 2, 1) := dk_61 (dk_at dksX4_row_0 13 rfl rfl)
theorem dX4_row_14 : decode cX4_row 14 = .ok (.iload_n 2, 1) := dk_28 (dk_at dksX4_row_0 14 rfl rfl)
theorem dX4_row_15 : decode cX4_row 15 = .ok (.ifCond .lt 69, 3) := dk_155 0 69 (dk_at dksX4_row_0 15 rfl rfl)
theorem dX4_row_18 : decode cX4_row 18 = .ok (.iconst 0, 1) := dk_3 (dk_at dksX4_row_0 18 rfl rfl)
theorem dX4_row_19 : decode cX4_row 19 = .ok (.istore_n 3, 1) := dk_62 (dk_at dksX4_row_0 19 rfl rfl)
theorem dX4_row_20 : decode cX4_row 20 = .ok (.iload_n 3, 1) := dk_29 (dk_at dksX4_row_0 20 rfl rfl)
theorem dX4_row_21 : decode cX4_row 21 = .ok (.bipush 9, 2) := dk_16 9 (dk_at dksX4_row_0 21 rfl rfl)
theorem dX4_row_23 : decode cX4_row 23 = .ok (.if_icmp .gt 55, 3) := dk_163 0 55 (dk_at dksX4_row_1 0 rfl rfl)
theorem dX4_row_26 : decode cX4_row 26 = .ok (.aload_n 0, 1) := dk_42 (dk_at dksX4_row_1 3 rfl rfl)
theorem dX4_row_27 : decode cX4_row 27 = .ok (.getfield 81, 3) := dk_180 0 81 (dk_at dksX4_row_1 4 rfl rfl)
theorem dX4_row_30 : decode cX4_row 30 = .ok (.bipush 10, 2) := dk_16 10 (dk_at dksX4_row_1 7 rfl rfl)
theorem dX4_row_32 : decode cX4_row 32 = .ok (.iload_n 2, 1) := dk_28 (dk_at dksX4_row_1 9 rfl rfl)
theorem dX4_row_33 : decode cX4_row 33 = .ok (.imul, 1) := dk_104 (dk_at dksX4_row_1 10 rfl rfl)
theorem dX4_row_34 : decode cX4_row 34 = .ok (.iload_n 3, 1) := dk_29 (dk_at dksX4_row_1 11 rfl rfl)
theorem dX4_row_35 : decode cX4_row 35 = .ok (.iadd, 1) := dk_96 (dk_at dksX4_row_1 12 rfl rfl)
theorem dX4_row_36 : decode cX4_row 36 = .ok (.iload_n 3, 1) := dk_29 (dk_at dksX4_row_1 13 rfl rfl)
theorem dX4_row_37 : decode cX4_row 37 = .ok (.bipush 9, 2) := dk_16 9 (dk_at dksX4_row_1 14 rfl rfl)
theorem dX4_row_39 : decode cX4_row 39 = .ok (.if_icmp .ge 12, 3) := dk_162 0 12 (dk_at dksX4_row_1 16 rfl rfl)
theorem dX4_row_42 : decode cX4_row 42 = .ok (.iload_n 2, 1) := dk_28 (dk_at dksX4_row_1 19 rfl rfl)
theorem dX4_row_43 : decode cX4_row 43 = .ok (.iload_n 3, 1) := dk_29 (dk_at dksX4_row_1 20 rfl rfl)
theorem dX4_row_44 : decode cX4_row 44 = .ok (.ishr, 1) := dk_122 (dk_at dksX4_row_1 21 rfl rfl)
theorem dX4_row_45 : decode cX4_row 45 = .ok (.iconst 1, 1) := dk_4 (dk_at dksX4_row_1 22 rfl rfl)
theorem dX4_row_46 : decode cX4_row 46 = .ok (.iand, 1) := dk_126 (dk_at dksX4_row_1 23 rfl rfl)
theorem dX4_row_47 : decode cX4_row 47 = .ok (.iconst 1, 1) := dk_4 (dk_at dksX4_row_2 0 rfl rfl)
theorem dX4_row_48 : decode cX4_row 48 = .ok (.if_icmp .eq 13, 3) := dk_159 0 13 (dk_at dksX4_row_2 1 rfl rfl)
theorem dX4_row_51 : decode cX4_row 51 = .ok (.iload_n 2, 1) := dk_28 (dk_at dksX4_row_2 4 rfl rfl)
theorem dX4_row_52 : decode cX4_row 52 = .ok (.ifCond .ne 18, 3) := dk_154 0 18 (dk_at dksX4_row_2 5 rfl rfl)
theorem dX4_row_55 : decode cX4_row 55 = .ok (.iload_n 3, 1) := dk_29 (dk_at dksX4_row_2 8 rfl rfl)
theorem dX4_row_56 : decode cX4_row 56 = .ok (.bipush 9, 2) := dk_16 9 (dk_at dksX4_row_2 9 rfl rfl)
theorem dX4_row_58 : decode cX4_row 58 = .ok (.if_icmp .ne 12, 3) := dk_160 0 12 (dk_at dksX4_row_2 11 rfl rfl)
theorem dX4_row_61 : decode cX4_row 61 = .ok (.aload_n 0, 1) := dk_42 (dk_at dksX4_row_2 14 rfl rfl)
theorem dX4_row_62 : decode cX4_row 62 = .ok (.iload_n 2, 1) := dk_28 (dk_at dksX4_row_2 15 rfl rfl)
theorem dX4_row_63 : decode cX4_row 63 = .ok (.iload_n 3, 1) := dk_29 (dk_at dksX4_row_2 16 rfl rfl)
theorem dX4_row_64 : decode cX4_row 64 = .ok (.invokevirtual 435, 3) := dk_182 1 179 (dk_at dksX4_row_2 17 rfl rfl)
theorem dX4_row_67 : decode cX4_row 67 = .ok (.goto 4, 3) := dk_167 0 4 (dk_at dksX4_row_2 20 rfl rfl)
theorem dX4_row_70 : decode cX4_row 70 = .ok (.iconst 0, 1) := dk_3 (dk_at dksX4_row_2 23 rfl rfl)
theorem dX4_row_71 : decode cX4_row 71 = .ok (.iastore, 1) := dk_79 (dk_at dksX4_row_3 0 rfl rfl)
theorem dX4_row_72 : decode cX4_row 72 = .ok (.iinc 3 1, 3) := dk_132 3 1 (dk_at dksX4_row_3 1 rfl rfl)
theorem dX4_row_75 : decode cX4_row 75 = .ok (.goto (-55), 3) := dk_167 255 201 (dk_at dksX4_row_3 4 rfl rfl)
theorem dX4_row_78 : decode cX4_row 78 = .ok (.iinc 2 (-1), 3) := dk_132 2 255 (dk_at dksX4_row_3 7 rfl rfl)
theorem dX4_row_81 : decode cX4_row 81 = .ok (.goto (-67), 3) := dk_167 255 189 (dk_at dksX4_row_3 10 rfl rfl)
theorem dX4_row_84 : decode cX4_row 84 = .ok (.aload_n 0, 1) := dk_42 (dk_at dksX4_row_3 13 rfl rfl)
theorem dX4_row_85 : decode cX4_row 85 = .ok (.getfield 81, 3) := dk_180 0 81 (dk_at dksX4_row_3 14 rfl rfl)
theorem dX4_row_88 : decode cX4_row 88 = .ok (.bipush 9, 2) := dk_16 9 (dk_at dksX4_row_3 17 rfl rfl)
theorem dX4_row_90 : decode cX4_row 90 = .ok (.iaload, 1) := dk_46 (dk_at dksX4_row_3 19 rfl rfl)
theorem dX4_row_91 : decode cX4_row 91 = .ok (.istore_n 2, 1) := dk_61 (dk_at dksX4_row_3 20 rfl rfl)
theorem dX4_row_92 : decode cX4_row 92 = .ok (.aload_n 0, 1) := dk_42 (dk_at dksX4_row_3 21 rfl rfl)
theorem dX4_row_93 : decode cX4_row 93 = .ok (.iload_n 1, 1) := dk_27 (dk_at dksX4_row_3 22 rfl rfl)
theorem dX4_row_94 : decode cX4_row 94 = .ok (.iconst (-1), 1) := dk_2 (dk_at dksX4_row_3 23 rfl rfl)
theorem dX4_row_95 : decode cX4_row 95 = .ok (.if_icmp .lt 12, 3) := dk_161 0 12 (dk_at dksX4_row_4 0 rfl rfl)
theorem dX4_row_98 : decode cX4_row 98 = .ok (.iload_n 1, 1) := dk_27 (dk_at dksX4_row_4 3 rfl rfl)
theorem dX4_row_99 : decode cX4_row 99 = .ok (.iload_n 2, 1) := dk_28 (dk_at dksX4_row_4 4 rfl rfl)
theorem dX4_row_100 : decode cX4_row 100 = .ok (.if_icmp .ge 7, 3) := dk_162 0 7 (dk_at dksX4_row_4 5 rfl rfl)
theorem dX4_row_103 : decode cX4_row 103 = .ok (.iconst 1, 1) := dk_4 (dk_at dksX4_row_4 8 rfl rfl)
theorem dX4_row_104 : decode cX4_row 104 = .ok (.goto 4, 3) := dk_167 0 4 (dk_at dksX4_row_4 9 rfl rfl)
theorem dX4_row_107 : decode cX4_row 107 = .ok (.iconst 0, 1) := dk_3 (dk_at dksX4_row_4 12 rfl rfl)
theorem dX4_row_108 : decode cX4_row 108 = .ok (.iconst 1, 1) := dk_4 (dk_at dksX4_row_4 13 rfl rfl)
theorem dX4_row_109 : decode cX4_row 109 = .ok (.invokevirtual 273, 3) := dk_182 1 17 (dk_at dksX4_row_4 14 rfl rfl)
theorem dX4_row_112 : decode cX4_row 112 = .ok (.ifCond .ne 5, 3) := dk_154 0 5 (dk_at dksX4_row_4 17 rfl rfl)
theorem dX4_row_115 : decode cX4_row 115 = .ok (.iconst 0, 1) := dk_3 (dk_at dksX4_row_4 20 rfl rfl)
theorem dX4_row_116 : decode cX4_row 116 = .ok (.ireturn, 1) := dk_172 (dk_at dksX4_row_4 21 rfl rfl)
theorem dX4_row_117 : decode cX4_row 117 = .ok (.iload_n 1, 1) := dk_27 (dk_at dksX4_row_4 22 rfl rfl)
theorem dX4_row_118 : decode cX4_row 118 = .ok (.iconst (-1), 1) := dk_2 (dk_at dksX4_row_4 23 rfl rfl)
theorem dX4_row_119 : decode cX4_row 119 = .ok (.if_icmp .ne 5, 3) := dk_160 0 5 (dk_at dksX4_row_5 0 rfl rfl)
theorem dX4_row_122 : decode cX4_row 122 = .ok (.iload_n 2, 1) := dk_28 (dk_at dksX4_row_5 3 rfl rfl)
theorem dX4_row_123 : decode cX4_row 123 = .ok (.ireturn, 1) := dk_172 (dk_at dksX4_row_5 4 rfl rfl)
theorem dX4_row_124 : decode cX4_row 124 = .ok (.iconst 0, 1) := dk_3 (dk_at dksX4_row_5 5 rfl rfl)
theorem dX4_row_125 : decode cX4_row 125 = .ok (.istore_n 3, 1) := dk_62 (dk_at dksX4_row_5 6 rfl rfl)
theorem dX4_row_126 : decode cX4_row 126 = .ok (.bipush 9, 2) := dk_16 9 (dk_at dksX4_row_5 7 rfl rfl)
theorem dX4_row_128 : decode cX4_row 128 = .ok (.istore 4, 2) := dk_54 4 (dk_at dksX4_row_5 9 rfl rfl)
theorem dX4_row_130 : decode cX4_row 130 = .ok (.iconst 0, 1) := dk_3 (dk_at dksX4_row_5 11 rfl rfl)
theorem dX4_row_131 : decode cX4_row 131 = .ok (.istore 5, 2) := dk_54 5 (dk_at dksX4_row_5 12 rfl rfl)
theorem dX4_row_133 : decode cX4_row 133 = .ok (.iload 5, 2) := dk_21 5 (dk_at dksX4_row_5 14 rfl rfl)
theorem dX4_row_135 : decode cX4_row 135 = .ok (.iload_n 1, 1) := dk_27 (dk_at dksX4_row_5 16 rfl rfl)
theorem dX4_row_136 : decode cX4_row 136 = .ok (.if_icmp .gt 92, 3) := dk_163 0 92 (dk_at dksX4_row_5 17 rfl rfl)
theorem dX4_row_139 : decode cX4_row 139 = .ok (.iconst (-1), 1) := dk_2 (dk_at dksX4_row_5 20 rfl rfl)
theorem dX4_row_140 : decode cX4_row 140 = .ok (.istore 6, 2) := dk_54 6 (dk_at dksX4_row_5 21 rfl rfl)
theorem dX4_row_142 : decode cX4_row 142 = .ok (.aload_n 0, 1) := dk_42 (dk_at dksX4_row_5 23 rfl rfl)
theorem dX4_row_143 : decode cX4_row 143 = .ok (.getfield 280, 3) := dk_180 1 24 (dk_at dksX4_row_6 0 rfl rfl)
theorem dX4_row_146 : decode cX4_row 146 = .ok (.iconst 1, 1) := dk_4 (dk_at dksX4_row_6 3 rfl rfl)
theorem dX4_row_147 : decode cX4_row 147 = .ok (.isub, 1) := dk_100 (dk_at dksX4_row_6 4 rfl rfl)
theorem dX4_row_148 : decode cX4_row 148 = .ok (.istore 7, 2) := dk_54 7 (dk_at dksX4_row_6 5 rfl rfl)
theorem dX4_row_150 : decode cX4_row 150 = .ok (.iload 7, 2) := dk_21 7 (dk_at dksX4_row_6 7 rfl rfl)
theorem dX4_row_152 : decode cX4_row 152 = .ok (.ifCond .lt 59, 3) := dk_155 0 59 (dk_at dksX4_row_6 9 rfl rfl)
theorem dX4_row_155 : decode cX4_row 155 = .ok (.aload_n 0, 1) := dk_42 (dk_at dksX4_row_6 12 rfl rfl)
theorem dX4_row_156 : decode cX4_row 156 = .ok (.iload_n 3, 1) := dk_29 (dk_at dksX4_row_6 13 rfl rfl)
theorem dX4_row_157 : decode cX4_row 157 = .ok (.iload 4, 2) := dk_21 4 (dk_at dksX4_row_6 14 rfl rfl)
theorem dX4_row_159 : decode cX4_row 159 = .ok (.iload 7, 2) := dk_21 7 (dk_at dksX4_row_6 16 rfl rfl)
theorem dX4_row_161 : decode cX4_row 161 = .ok (.invokevirtual 432, 3) := dk_182 1 176 (dk_at dksX4_row_6 18 rfl rfl)
theorem dX4_row_164 : decode cX4_row 164 = .ok (.ifCond .eq 41, 3) := dk_153 0 41 (dk_at dksX4_row_6 21 rfl rfl)
theorem dX4_row_167 : decode cX4_row 167 = .ok (.iconst 1, 1) := dk_4 (dk_at dksX4_row_7 0 rfl rfl)
theorem dX4_row_168 : decode cX4_row 168 = .ok (.aload_n 0, 1) := dk_42 (dk_at dksX4_row_7 1 rfl rfl)
theorem dX4_row_169 : decode cX4_row 169 = .ok (.getfield 81, 3) := dk_180 0 81 (dk_at dksX4_row_7 2 rfl rfl)
theorem dX4_row_172 : decode cX4_row 172 = .ok (.bipush 10, 2) := dk_16 10 (dk_at dksX4_row_7 5 rfl rfl)
theorem dX4_row_174 : decode cX4_row 174 = .ok (.iload_n 3, 1) := dk_29 (dk_at dksX4_row_7 7 rfl rfl)
theorem dX4_row_175 : decode cX4_row 175 = .ok (.iconst 1, 1) := dk_4 (dk_at dksX4_row_7 8 rfl rfl)
theorem dX4_row_176 : decode cX4_row 176 = .ok (.iload 7, 2) := dk_21 7 (dk_at dksX4_row_7 9 rfl rfl)
theorem dX4_row_178 : decode cX4_row 178 = .ok (.ishl, 1) := dk_120 (dk_at dksX4_row_7 11 rfl rfl)
theorem dX4_row_179 : decode cX4_row 179 = .ok (.ior, 1) := dk_128 (dk_at dksX4_row_7 12 rfl rfl)
theorem dX4_row_180 : decode cX4_row 180 = .ok (.imul, 1) := dk_104 (dk_at dksX4_row_7 13 rfl rfl)
theorem dX4_row_181 : decode cX4_row 181 = .ok (.iload 7, 2) := dk_21 7 (dk_at dksX4_row_7 14 rfl rfl)
theorem dX4_row_183 : decode cX4_row 183 = .ok (.iadd, 1) := dk_96 (dk_at dksX4_row_7 16 rfl rfl)
theorem dX4_row_184 : decode cX4_row 184 = .ok (.iaload, 1) := dk_46 (dk_at dksX4_row_7 17 rfl rfl)
theorem dX4_row_185 : decode cX4_row 185 = .ok (.iadd, 1) := dk_96 (dk_at dksX4_row_7 18 rfl rfl)
theorem dX4_row_186 : decode cX4_row 186 = .ok (.aload_n 0, 1) := dk_42 (dk_at dksX4_row_7 19 rfl rfl)
theorem dX4_row_187 : decode cX4_row 187 = .ok (.getfield 81, 3) := dk_180 0 81 (dk_at dksX4_row_7 20 rfl rfl)
theorem dX4_row_190 : decode cX4_row 190 = .ok (.bipush 10, 2) := dk_16 10 (dk_at dksX4_row_8 0 rfl rfl)
theorem dX4_row_192 : decode cX4_row 192 = .ok (.iload_n 3, 1) := dk_29 (dk_at dksX4_row_8 2 rfl rfl)
theorem dX4_row_193 : decode cX4_row 193 = .ok (.imul, 1) := dk_104 (dk_at dksX4_row_8 3 rfl rfl)
theorem dX4_row_194 : decode cX4_row 194 = .ok (.iload 4, 2) := dk_21 4 (dk_at dksX4_row_8 4 rfl rfl)
theorem dX4_row_196 : decode cX4_row 196 = .ok (.iadd, 1) := dk_96 (dk_at dksX4_row_8 6 rfl rfl)
theorem dX4_row_197 : decode cX4_row 197 = .ok (.iaload, 1) := dk_46 (dk_at dksX4_row_8 7 rfl rfl)
theorem dX4_row_198 : decode cX4_row 198 = .ok (.if_icmp .ne 7, 3) := dk_160 0 7 (dk_at dksX4_row_8 8 rfl rfl)
theorem dX4_row_201 : decode cX4_row 201 = .ok (.iload 7, 2) := dk_21 7 (dk_at dksX4_row_8 11 rfl rfl)
theorem dX4_row_203 : decode cX4_row 203 = .ok (.istore 6, 2) := dk_54 6 (dk_at dksX4_row_8 13 rfl rfl)
theorem dX4_row_205 : decode cX4_row 205 = .ok (.iinc 7 (-1), 3) := dk_132 7 255 (dk_at dksX4_row_8 15 rfl rfl)
theorem dX4_row_208 : decode cX4_row 208 = .ok (.goto (-58), 3) := dk_167 255 198 (dk_at dksX4_row_8 18 rfl rfl)
theorem dX4_row_211 : decode cX4_row 211 = .ok (.iload_n 3, 1) := dk_29 (dk_at dksX4_row_8 21 rfl rfl)
theorem dX4_row_212 : decode cX4_row 212 = .ok (.iconst 1, 1) := dk_4 (dk_at dksX4_row_8 22 rfl rfl)
theorem dX4_row_213 : decode cX4_row 213 = .ok (.iload 6, 2) := dk_21 6 (dk_at dksX4_row_9 0 rfl rfl)
theorem dX4_row_215 : decode cX4_row 215 = .ok (.ishl, 1) := dk_120 (dk_at dksX4_row_9 2 rfl rfl)
theorem dX4_row_216 : decode cX4_row 216 = .ok (.ior, 1) := dk_128 (dk_at dksX4_row_9 3 rfl rfl)
theorem dX4_row_217 : decode cX4_row 217 = .ok (.istore_n 3, 1) := dk_62 (dk_at dksX4_row_9 4 rfl rfl)
theorem dX4_row_218 : decode cX4_row 218 = .ok (.iload 6, 2) := dk_21 6 (dk_at dksX4_row_9 5 rfl rfl)
theorem dX4_row_220 : decode cX4_row 220 = .ok (.istore 4, 2) := dk_54 4 (dk_at dksX4_row_9 7 rfl rfl)
theorem dX4_row_222 : decode cX4_row 222 = .ok (.iinc 5 1, 3) := dk_132 5 1 (dk_at dksX4_row_9 9 rfl rfl)
theorem dX4_row_225 : decode cX4_row 225 = .ok (.goto (-92), 3) := dk_167 255 164 (dk_at dksX4_row_9 12 rfl rfl)
theorem dX4_row_228 : decode cX4_row 228 = .ok (.iload 4, 2) := dk_21 4 (dk_at dksX4_row_9 15 rfl rfl)
theorem dX4_row_230 : decode cX4_row 230 = .ok (.ireturn, 1) := dk_172 (dk_at dksX4_row_9 17 rfl rfl)
abbrev cX4_mostBehind : ByteArray := prog_12_method_98_code
def yX4_mostBehind : MethodName := ⟨RX4, "mostBehind", "(II)I"⟩
def dkwX4_mostBehind_2 : List UInt8 := [184, 1, 104, 62, 132, 4, 1, 167, 255, 209, 29, 172]
abbrev dktX4_mostBehind_2 : List UInt8 := dkwX4_mostBehind_2 ++ []
def dkwX4_mostBehind_1 : List UInt8 := [153, 0, 27, 29, 4, 42, 180, 0, 81, 16, 10, 27, 4, 21, 4, 120, 128, 104, 21, 4, 96, 46, 96]
abbrev dktX4_mostBehind_1 : List UInt8 := dkwX4_mostBehind_1 ++ dktX4_mostBehind_2
def dkwX4_mostBehind_0 : List UInt8 := [3, 62, 3, 54, 4, 21, 4, 42, 180, 1, 24, 162, 0, 44, 42, 27, 28, 21, 4, 182, 1, 176]
abbrev dktX4_mostBehind_0 : List UInt8 := dkwX4_mostBehind_0 ++ dktX4_mostBehind_1
theorem dksX4_mostBehind_0 : cX4_mostBehind.data.toList.drop 0 = dktX4_mostBehind_0 := by decide +kernel
theorem dksX4_mostBehind_1 : cX4_mostBehind.data.toList.drop 22 = dktX4_mostBehind_1 := dk_seg dksX4_mostBehind_0 22 rfl rfl
theorem dksX4_mostBehind_2 : cX4_mostBehind.data.toList.drop 45 = dktX4_mostBehind_2 := dk_seg dksX4_mostBehind_1 23 rfl rfl
theorem dX4_mostBehind_0 : decode cX4_mostBehind 0 = .ok (.iconst 0, 1) := dk_3 (dk_at dksX4_mostBehind_0 0 rfl rfl)
theorem dX4_mostBehind_1 : decode cX4_mostBehind 1 = .ok (.istore_n 3, 1) := dk_62 (dk_at dksX4_mostBehind_0 1 rfl rfl)
theorem dX4_mostBehind_2 : decode cX4_mostBehind 2 = .ok (.iconst 0, 1) := dk_3 (dk_at dksX4_mostBehind_0 2 rfl rfl)
theorem dX4_mostBehind_3 : decode cX4_mostBehind 3 = .ok (.istore 4, 2) := dk_54 4 (dk_at dksX4_mostBehind_0 3 rfl rfl)
theorem dX4_mostBehind_5 : decode cX4_mostBehind 5 = .ok (.iload 4, 2) := dk_21 4 (dk_at dksX4_mostBehind_0 5 rfl rfl)
theorem dX4_mostBehind_7 : decode cX4_mostBehind 7 = .ok (.aload_n 0, 1) := dk_42 (dk_at dksX4_mostBehind_0 7 rfl rfl)
theorem dX4_mostBehind_8 : decode cX4_mostBehind 8 = .ok (.getfield 280, 3) := dk_180 1 24 (dk_at dksX4_mostBehind_0 8 rfl rfl)
theorem dX4_mostBehind_11 : decode cX4_mostBehind 11 = .ok (.if_icmp .ge 44, 3) := dk_162 0 44 (dk_at dksX4_mostBehind_0 11 rfl rfl)
theorem dX4_mostBehind_14 : decode cX4_mostBehind 14 = .ok (.aload_n 0, 1) := dk_42 (dk_at dksX4_mostBehind_0 14 rfl rfl)
theorem dX4_mostBehind_15 : decode cX4_mostBehind 15 = .ok (.iload_n 1, 1) := dk_27 (dk_at dksX4_mostBehind_0 15 rfl rfl)
theorem dX4_mostBehind_16 : decode cX4_mostBehind 16 = .ok (.iload_n 2, 1) := dk_28 (dk_at dksX4_mostBehind_0 16 rfl rfl)
theorem dX4_mostBehind_17 : decode cX4_mostBehind 17 = .ok (.iload 4, 2) := dk_21 4 (dk_at dksX4_mostBehind_0 17 rfl rfl)
theorem dX4_mostBehind_19 : decode cX4_mostBehind 19 = .ok (.invokevirtual 432, 3) := dk_182 1 176 (dk_at dksX4_mostBehind_0 19 rfl rfl)
theorem dX4_mostBehind_22 : decode cX4_mostBehind 22 = .ok (.ifCond .eq 27, 3) := dk_153 0 27 (dk_at dksX4_mostBehind_1 0 rfl rfl)
theorem dX4_mostBehind_25 : decode cX4_mostBehind 25 = .ok (.iload_n 3, 1) := dk_29 (dk_at dksX4_mostBehind_1 3 rfl rfl)
theorem dX4_mostBehind_26 : decode cX4_mostBehind 26 = .ok (.iconst 1, 1) := dk_4 (dk_at dksX4_mostBehind_1 4 rfl rfl)
theorem dX4_mostBehind_27 : decode cX4_mostBehind 27 = .ok (.aload_n 0, 1) := dk_42 (dk_at dksX4_mostBehind_1 5 rfl rfl)
theorem dX4_mostBehind_28 : decode cX4_mostBehind 28 = .ok (.getfield 81, 3) := dk_180 0 81 (dk_at dksX4_mostBehind_1 6 rfl rfl)
theorem dX4_mostBehind_31 : decode cX4_mostBehind 31 = .ok (.bipush 10, 2) := dk_16 10 (dk_at dksX4_mostBehind_1 9 rfl rfl)
theorem dX4_mostBehind_33 : decode cX4_mostBehind 33 = .ok (.iload_n 1, 1) := dk_27 (dk_at dksX4_mostBehind_1 11 rfl rfl)
theorem dX4_mostBehind_34 : decode cX4_mostBehind 34 = .ok (.iconst 1, 1) := dk_4 (dk_at dksX4_mostBehind_1 12 rfl rfl)
theorem dX4_mostBehind_35 : decode cX4_mostBehind 35 = .ok (.iload 4, 2) := dk_21 4 (dk_at dksX4_mostBehind_1 13 rfl rfl)
theorem dX4_mostBehind_37 : decode cX4_mostBehind 37 = .ok (.ishl, 1) := dk_120 (dk_at dksX4_mostBehind_1 15 rfl rfl)
theorem dX4_mostBehind_38 : decode cX4_mostBehind 38 = .ok (.ior, 1) := dk_128 (dk_at dksX4_mostBehind_1 16 rfl rfl)
theorem dX4_mostBehind_39 : decode cX4_mostBehind 39 = .ok (.imul, 1) := dk_104 (dk_at dksX4_mostBehind_1 17 rfl rfl)
theorem dX4_mostBehind_40 : decode cX4_mostBehind 40 = .ok (.iload 4, 2) := dk_21 4 (dk_at dksX4_mostBehind_1 18 rfl rfl)
theorem dX4_mostBehind_42 : decode cX4_mostBehind 42 = .ok (.iadd, 1) := dk_96 (dk_at dksX4_mostBehind_1 20 rfl rfl)
theorem dX4_mostBehind_43 : decode cX4_mostBehind 43 = .ok (.iaload, 1) := dk_46 (dk_at dksX4_mostBehind_1 21 rfl rfl)
theorem dX4_mostBehind_44 : decode cX4_mostBehind 44 = .ok (.iadd, 1) := dk_96 (dk_at dksX4_mostBehind_1 22 rfl rfl)
theorem dX4_mostBehind_45 : decode cX4_mostBehind 45 = .ok (.invokestatic 360, 3) := dk_184 1 104 (dk_at dksX4_mostBehind_2 0 rfl rfl)
theorem dX4_mostBehind_48 : decode cX4_mostBehind 48 = .ok (.istore_n 3, 1) := dk_62 (dk_at dksX4_mostBehind_2 3 rfl rfl)
theorem dX4_mostBehind_49 : decode cX4_mostBehind 49 = .ok (.iinc 4 1, 3) := dk_132 4 1 (dk_at dksX4_mostBehind_2 4 rfl rfl)
theorem dX4_mostBehind_52 : decode cX4_mostBehind 52 = .ok (.goto (-47), 3) := dk_167 255 209 (dk_at dksX4_mostBehind_2 7 rfl rfl)
theorem dX4_mostBehind_55 : decode cX4_mostBehind 55 = .ok (.iload_n 3, 1) := dk_29 (dk_at dksX4_mostBehind_2 10 rfl rfl)
theorem dX4_mostBehind_56 : decode cX4_mostBehind 56 = .ok (.ireturn, 1) := dk_172 (dk_at dksX4_mostBehind_2 11 rfl rfl)
abbrev cX4_canFollow : ByteArray := prog_12_method_99_code
def yX4_canFollow : MethodName := ⟨RX4, "canFollow", "(III)Z"⟩
def dkwX4_canFollow_1 : List UInt8 := [3, 28, 29, 182, 1, 75, 153, 0, 7, 4, 167, 0, 4, 3, 172]
abbrev dktX4_canFollow_1 : List UInt8 := dkwX4_canFollow_1 ++ []
def dkwX4_canFollow_0 : List UInt8 := [27, 29, 122, 4, 126, 154, 0, 32, 42, 3, 29, 182, 1, 63, 154, 0, 23, 28, 16, 9, 159, 0, 13, 42]
abbrev dktX4_canFollow_0 : List UInt8 := dkwX4_canFollow_0 ++ dktX4_canFollow_1
theorem dksX4_canFollow_0 : cX4_canFollow.data.toList.drop 0 = dktX4_canFollow_0 := by decide +kernel
theorem dksX4_canFollow_1 : cX4_canFollow.data.toList.drop 24 = dktX4_canFollow_1 := dk_seg dksX4_canFollow_0 24 rfl rfl
theorem dX4_canFollow_0 : decode cX4_canFollow 0 = .ok (.iload_n 1, 1) := dk_27 (dk_at dksX4_canFollow_0 0 rfl rfl)
theorem dX4_canFollow_1 : decode cX4_canFollow 1 = .ok (.iload_n 3, 1) := dk_29 (dk_at dksX4_canFollow_0 1 rfl rfl)
theorem dX4_canFollow_2 : decode cX4_canFollow 2 = .ok (.ishr, 1) := dk_122 (dk_at dksX4_canFollow_0 2 rfl rfl)
theorem dX4_canFollow_3 : decode cX4_canFollow 3 = .ok (.iconst 1, 1) := dk_4 (dk_at dksX4_canFollow_0 3 rfl rfl)
theorem dX4_canFollow_4 : decode cX4_canFollow 4 = .ok (.iand, 1) := dk_126 (dk_at dksX4_canFollow_0 4 rfl rfl)
theorem dX4_canFollow_5 : decode cX4_canFollow 5 = .ok (.ifCond .ne 32, 3) := dk_154 0 32 (dk_at dksX4_canFollow_0 5 rfl rfl)
theorem dX4_canFollow_8 : decode cX4_canFollow 8 = .ok (.aload_n 0, 1) := dk_42 (dk_at dksX4_canFollow_0 8 rfl rfl)
theorem dX4_canFollow_9 : decode cX4_canFollow 9 = .ok (.iconst 0, 1) := dk_3 (dk_at dksX4_canFollow_0 9 rfl rfl)
theorem dX4_canFollow_10 : decode cX4_canFollow 10 = .ok (.iload_n 3, 1) := dk_29 (dk_at dksX4_canFollow_0 10 rfl rfl)
theorem dX4_canFollow_11 : decode cX4_canFollow 11 = .ok (.invokevirtual 319, 3) := dk_182 1 63 (dk_at dksX4_canFollow_0 11 rfl rfl)
theorem dX4_canFollow_14 : decode cX4_canFollow 14 = .ok (.ifCond .ne 23, 3) := dk_154 0 23 (dk_at dksX4_canFollow_0 14 rfl rfl)
theorem dX4_canFollow_17 : decode cX4_canFollow 17 = .ok (.iload_n 2, 1) := dk_28 (dk_at dksX4_canFollow_0 17 rfl rfl)
theorem dX4_canFollow_18 : decode cX4_canFollow 18 = .ok (.bipush 9, 2) := dk_16 9 (dk_at dksX4_canFollow_0 18 rfl rfl)
theorem dX4_canFollow_20 : decode cX4_canFollow 20 = .ok (.if_icmp .eq 13, 3) := dk_159 0 13 (dk_at dksX4_canFollow_0 20 rfl rfl)
theorem dX4_canFollow_23 : decode cX4_canFollow 23 = .ok (.aload_n 0, 1) := dk_42 (dk_at dksX4_canFollow_0 23 rfl rfl)
theorem dX4_canFollow_24 : decode cX4_canFollow 24 = .ok (.iconst 0, 1) := dk_3 (dk_at dksX4_canFollow_1 0 rfl rfl)
theorem dX4_canFollow_25 : decode cX4_canFollow 25 = .ok (.iload_n 2, 1) := dk_28 (dk_at dksX4_canFollow_1 1 rfl rfl)
theorem dX4_canFollow_26 : decode cX4_canFollow 26 = .ok (.iload_n 3, 1) := dk_29 (dk_at dksX4_canFollow_1 2 rfl rfl)
theorem dX4_canFollow_27 : decode cX4_canFollow 27 = .ok (.invokevirtual 331, 3) := dk_182 1 75 (dk_at dksX4_canFollow_1 3 rfl rfl)
theorem dX4_canFollow_30 : decode cX4_canFollow 30 = .ok (.ifCond .eq 7, 3) := dk_153 0 7 (dk_at dksX4_canFollow_1 6 rfl rfl)
theorem dX4_canFollow_33 : decode cX4_canFollow 33 = .ok (.iconst 1, 1) := dk_4 (dk_at dksX4_canFollow_1 9 rfl rfl)
theorem dX4_canFollow_34 : decode cX4_canFollow 34 = .ok (.goto 4, 3) := dk_167 0 4 (dk_at dksX4_canFollow_1 10 rfl rfl)
theorem dX4_canFollow_37 : decode cX4_canFollow 37 = .ok (.iconst 0, 1) := dk_3 (dk_at dksX4_canFollow_1 13 rfl rfl)
theorem dX4_canFollow_38 : decode cX4_canFollow 38 = .ok (.ireturn, 1) := dk_172 (dk_at dksX4_canFollow_1 14 rfl rfl)
abbrev cX4_toForge : ByteArray := prog_12_method_101_code
def yX4_toForge : MethodName := ⟨RX4, "toForge", "(II)I"⟩
def dkwX4_toForge_2 : List UInt8 := [3, 42, 3, 27, 28, 182, 1, 66, 42, 180, 1, 33, 100, 184, 1, 104, 172]
abbrev dktX4_toForge_2 : List UInt8 := dkwX4_toForge_2 ++ []
def dkwX4_toForge_1 : List UInt8 := [28, 159, 0, 21, 42, 3, 27, 182, 1, 63, 154, 0, 12, 42, 3, 28, 182, 1, 63, 153, 0, 5, 2, 172]
abbrev dktX4_toForge_1 : List UInt8 := dkwX4_toForge_1 ++ dktX4_toForge_2
def dkwX4_toForge_0 : List UInt8 := [42, 3, 181, 0, 102, 42, 27, 182, 1, 122, 153, 0, 11, 42, 28, 182, 1, 122, 154, 0, 5, 3, 172, 27]
abbrev dktX4_toForge_0 : List UInt8 := dkwX4_toForge_0 ++ dktX4_toForge_1
theorem dksX4_toForge_0 : cX4_toForge.data.toList.drop 0 = dktX4_toForge_0 := by decide +kernel
theorem dksX4_toForge_1 : cX4_toForge.data.toList.drop 24 = dktX4_toForge_1 := dk_seg dksX4_toForge_0 24 rfl rfl
theorem dksX4_toForge_2 : cX4_toForge.data.toList.drop 48 = dktX4_toForge_2 := dk_seg dksX4_toForge_1 24 rfl rfl
theorem dX4_toForge_0 : decode cX4_toForge 0 = .ok (.aload_n 0, 1) := dk_42 (dk_at dksX4_toForge_0 0 rfl rfl)
theorem dX4_toForge_1 : decode cX4_toForge 1 = .ok (.iconst 0, 1) := dk_3 (dk_at dksX4_toForge_0 1 rfl rfl)
theorem dX4_toForge_2 : decode cX4_toForge 2 = .ok (.putfield 102, 3) := dk_181 0 102 (dk_at dksX4_toForge_0 2 rfl rfl)
theorem dX4_toForge_5 : decode cX4_toForge 5 = .ok (.aload_n 0, 1) := dk_42 (dk_at dksX4_toForge_0 5 rfl rfl)
theorem dX4_toForge_6 : decode cX4_toForge 6 = .ok (.iload_n 1, 1) := dk_27 (dk_at dksX4_toForge_0 6 rfl rfl)
theorem dX4_toForge_7 : decode cX4_toForge 7 = .ok (.invokevirtual 378, 3) := dk_182 1 122 (dk_at dksX4_toForge_0 7 rfl rfl)
theorem dX4_toForge_10 : decode cX4_toForge 10 = .ok (.ifCond .eq 11, 3) := dk_153 0 11 (dk_at dksX4_toForge_0 10 rfl rfl)
theorem dX4_toForge_13 : decode cX4_toForge 13 = .ok (.aload_n 0, 1) := dk_42 (dk_at dksX4_toForge_0 13 rfl rfl)
theorem dX4_toForge_14 : decode cX4_toForge 14 = .ok (.iload_n 2, 1) := dk_28 (dk_at dksX4_toForge_0 14 rfl rfl)
theorem dX4_toForge_15 : decode cX4_toForge 15 = .ok (.invokevirtual 378, 3) := dk_182 1 122 (dk_at dksX4_toForge_0 15 rfl rfl)
theorem dX4_toForge_18 : decode cX4_toForge 18 = .ok (.ifCond .ne 5, 3) := dk_154 0 5 (dk_at dksX4_toForge_0 18 rfl rfl)
theorem dX4_toForge_21 : decode cX4_toForge 21 = .ok (.iconst 0, 1) := dk_3 (dk_at dksX4_toForge_0 21 rfl rfl)
theorem dX4_toForge_22 : decode cX4_toForge 22 = .ok (.ireturn, 1) := dk_172 (dk_at dksX4_toForge_0 22 rfl rfl)
theorem dX4_toForge_23 : decode cX4_toForge 23 = .ok (.iload_n 1, 1) := dk_27 (dk_at dksX4_toForge_0 23 rfl rfl)
theorem dX4_toForge_24 : decode cX4_toForge 24 = .ok (.iload_n 2, 1) := dk_28 (dk_at dksX4_toForge_1 0 rfl rfl)
theorem dX4_toForge_25 : decode cX4_toForge 25 = .ok (.if_icmp .eq 21, 3) := dk_159 0 21 (dk_at dksX4_toForge_1 1 rfl rfl)
theorem dX4_toForge_28 : decode cX4_toForge 28 = .ok (.aload_n 0, 1) := dk_42 (dk_at dksX4_toForge_1 4 rfl rfl)
theorem dX4_toForge_29 : decode cX4_toForge 29 = .ok (.iconst 0, 1) := dk_3 (dk_at dksX4_toForge_1 5 rfl rfl)
theorem dX4_toForge_30 : decode cX4_toForge 30 = .ok (.iload_n 1, 1) := dk_27 (dk_at dksX4_toForge_1 6 rfl rfl)
theorem dX4_toForge_31 : decode cX4_toForge 31 = .ok (.invokevirtual 319, 3) := dk_182 1 63 (dk_at dksX4_toForge_1 7 rfl rfl)
theorem dX4_toForge_34 : decode cX4_toForge 34 = .ok (.ifCond .ne 12, 3) := dk_154 0 12 (dk_at dksX4_toForge_1 10 rfl rfl)
theorem dX4_toForge_37 : decode cX4_toForge 37 = .ok (.aload_n 0, 1) := dk_42 (dk_at dksX4_toForge_1 13 rfl rfl)
theorem dX4_toForge_38 : decode cX4_toForge 38 = .ok (.iconst 0, 1) := dk_3 (dk_at dksX4_toForge_1 14 rfl rfl)
theorem dX4_toForge_39 : decode cX4_toForge 39 = .ok (.iload_n 2, 1) := dk_28 (dk_at dksX4_toForge_1 15 rfl rfl)
theorem dX4_toForge_40 : decode cX4_toForge 40 = .ok (.invokevirtual 319, 3) := dk_182 1 63 (dk_at dksX4_toForge_1 16 rfl rfl)
theorem dX4_toForge_43 : decode cX4_toForge 43 = .ok (.ifCond .eq 5, 3) := dk_153 0 5 (dk_at dksX4_toForge_1 19 rfl rfl)
theorem dX4_toForge_46 : decode cX4_toForge 46 = .ok (.iconst (-1), 1) := dk_2 (dk_at dksX4_toForge_1 22 rfl rfl)
theorem dX4_toForge_47 : decode cX4_toForge 47 = .ok (.ireturn, 1) := dk_172 (dk_at dksX4_toForge_1 23 rfl rfl)
theorem dX4_toForge_48 : decode cX4_toForge 48 = .ok (.iconst 0, 1) := dk_3 (dk_at dksX4_toForge_2 0 rfl rfl)
theorem dX4_toForge_49 : decode cX4_toForge 49 = .ok (.aload_n 0, 1) := dk_42 (dk_at dksX4_toForge_2 1 rfl rfl)
theorem dX4_toForge_50 : decode cX4_toForge 50 = .ok (.iconst 0, 1) := dk_3 (dk_at dksX4_toForge_2 2 rfl rfl)
theorem dX4_toForge_51 : decode cX4_toForge 51 = .ok (.iload_n 1, 1) := dk_27 (dk_at dksX4_toForge_2 3 rfl rfl)
theorem dX4_toForge_52 : decode cX4_toForge 52 = .ok (.iload_n 2, 1) := dk_28 (dk_at dksX4_toForge_2 4 rfl rfl)
theorem dX4_toForge_53 : decode cX4_toForge 53 = .ok (.invokevirtual 322, 3) := dk_182 1 66 (dk_at dksX4_toForge_2 5 rfl rfl)
theorem dX4_toForge_56 : decode cX4_toForge 56 = .ok (.aload_n 0, 1) := dk_42 (dk_at dksX4_toForge_2 8 rfl rfl)
theorem dX4_toForge_57 : decode cX4_toForge 57 = .ok (.getfield 289, 3) := dk_180 1 33 (dk_at dksX4_toForge_2 9 rfl rfl)
theorem dX4_toForge_60 : decode cX4_toForge 60 = .ok (.isub, 1) := dk_100 (dk_at dksX4_toForge_2 12 rfl rfl)
theorem dX4_toForge_61 : decode cX4_toForge 61 = .ok (.invokestatic 360, 3) := dk_184 1 104 (dk_at dksX4_toForge_2 13 rfl rfl)
theorem dX4_toForge_64 : decode cX4_toForge 64 = .ok (.ireturn, 1) := dk_172 (dk_at dksX4_toForge_2 16 rfl rfl)
abbrev cX4_toSave : ByteArray := prog_12_method_102_code
def yX4_toSave : MethodName := ⟨RX4, "toSave", "(I)I"⟩
def dkwX4_toSave_4 : List UInt8 := [54, 4, 132, 5, 1, 167, 255, 192, 29, 172]
abbrev dktX4_toSave_4 : List UInt8 := dkwX4_toSave_4 ++ []
def dkwX4_toSave_3 : List UInt8 := [161, 0, 6, 167, 0, 23, 21, 5, 62, 42, 28, 4, 21, 5, 120, 2, 130, 126, 182, 1, 152, 184, 1, 60]
abbrev dktX4_toSave_3 : List UInt8 := dkwX4_toSave_3 ++ dktX4_toSave_4
def dkwX4_toSave_2 : List UInt8 := [122, 4, 126, 153, 0, 46, 42, 28, 4, 21, 5, 120, 2, 130, 126, 182, 1, 152, 184, 1, 60, 21, 4]
abbrev dktX4_toSave_2 : List UInt8 := dkwX4_toSave_2 ++ dktX4_toSave_3
def dkwX4_toSave_1 : List UInt8 := [28, 182, 1, 152, 184, 1, 60, 54, 4, 3, 54, 5, 21, 5, 42, 180, 1, 24, 162, 0, 61, 28, 21, 5]
abbrev dktX4_toSave_1 : List UInt8 := dkwX4_toSave_1 ++ dktX4_toSave_2
def dkwX4_toSave_0 : List UInt8 := [42, 3, 181, 0, 102, 42, 27, 182, 1, 146, 154, 0, 5, 3, 172, 42, 27, 182, 1, 149, 61, 2, 62, 42]
abbrev dktX4_toSave_0 : List UInt8 := dkwX4_toSave_0 ++ dktX4_toSave_1
theorem dksX4_toSave_0 : cX4_toSave.data.toList.drop 0 = dktX4_toSave_0 := by decide +kernel
theorem dksX4_toSave_1 : cX4_toSave.data.toList.drop 24 = dktX4_toSave_1 := dk_seg dksX4_toSave_0 24 rfl rfl
theorem dksX4_toSave_2 : cX4_toSave.data.toList.drop 48 = dktX4_toSave_2 := dk_seg dksX4_toSave_1 24 rfl rfl
theorem dksX4_toSave_3 : cX4_toSave.data.toList.drop 71 = dktX4_toSave_3 := dk_seg dksX4_toSave_2 23 rfl rfl
theorem dksX4_toSave_4 : cX4_toSave.data.toList.drop 95 = dktX4_toSave_4 := dk_seg dksX4_toSave_3 24 rfl rfl
theorem dX4_toSave_0 : decode cX4_toSave 0 = .ok (.aload_n 0, 1) := dk_42 (dk_at dksX4_toSave_0 0 rfl rfl)
theorem dX4_toSave_1 : decode cX4_toSave 1 = .ok (.iconst 0, 1) := dk_3 (dk_at dksX4_toSave_0 1 rfl rfl)
theorem dX4_toSave_2 : decode cX4_toSave 2 = .ok (.putfield 102, 3) := dk_181 0 102 (dk_at dksX4_toSave_0 2 rfl rfl)
theorem dX4_toSave_5 : decode cX4_toSave 5 = .ok (.aload_n 0, 1) := dk_42 (dk_at dksX4_toSave_0 5 rfl rfl)
theorem dX4_toSave_6 : decode cX4_toSave 6 = .ok (.iload_n 1, 1) := dk_27 (dk_at dksX4_toSave_0 6 rfl rfl)
theorem dX4_toSave_7 : decode cX4_toSave 7 = .ok (.invokevirtual 402, 3) := dk_182 1 146 (dk_at dksX4_toSave_0 7 rfl rfl)
theorem dX4_toSave_10 : decode cX4_toSave 10 = .ok (.ifCond .ne 5, 3) := dk_154 0 5 (dk_at dksX4_toSave_0 10 rfl rfl)
theorem dX4_toSave_13 : decode cX4_toSave 13 = .ok (.iconst 0, 1) := dk_3 (dk_at dksX4_toSave_0 13 rfl rfl)
theorem dX4_toSave_14 : decode cX4_toSave 14 = .ok (.ireturn, 1) := dk_172 (dk_at dksX4_toSave_0 14 rfl rfl)
theorem dX4_toSave_15 : decode cX4_toSave 15 = .ok (.aload_n 0, 1) := dk_42 (dk_at dksX4_toSave_0 15 rfl rfl)
theorem dX4_toSave_16 : decode cX4_toSave 16 = .ok (.iload_n 1, 1) := dk_27 (dk_at dksX4_toSave_0 16 rfl rfl)
theorem dX4_toSave_17 : decode cX4_toSave 17 = .ok (.invokevirtual 405, 3) := dk_182 1 149 (dk_at dksX4_toSave_0 17 rfl rfl)
theorem dX4_toSave_20 : decode cX4_toSave 20 = .ok (.istore_n 2, 1) := dk_61 (dk_at dksX4_toSave_0 20 rfl rfl)
theorem dX4_toSave_21 : decode cX4_toSave 21 = .ok (.iconst (-1), 1) := dk_2 (dk_at dksX4_toSave_0 21 rfl rfl)
theorem dX4_toSave_22 : decode cX4_toSave 22 = .ok (.istore_n 3, 1) := dk_62 (dk_at dksX4_toSave_0 22 rfl rfl)
theorem dX4_toSave_23 : decode cX4_toSave 23 = .ok (.aload_n 0, 1) := dk_42 (dk_at dksX4_toSave_0 23 rfl rfl)
theorem dX4_toSave_24 : decode cX4_toSave 24 = .ok (.iload_n 2, 1) := dk_28 (dk_at dksX4_toSave_1 0 rfl rfl)
theorem dX4_toSave_25 : decode cX4_toSave 25 = .ok (.invokevirtual 408, 3) := dk_182 1 152 (dk_at dksX4_toSave_1 1 rfl rfl)
theorem dX4_toSave_28 : decode cX4_toSave 28 = .ok (.invokestatic 316, 3) := dk_184 1 60 (dk_at dksX4_toSave_1 4 rfl rfl)
theorem dX4_toSave_31 : decode cX4_toSave 31 = .ok (.istore 4, 2) := dk_54 4 (dk_at dksX4_toSave_1 7 rfl rfl)
theorem dX4_toSave_33 : decode cX4_toSave 33 = .ok (.iconst 0, 1) := dk_3 (dk_at dksX4_toSave_1 9 rfl rfl)
theorem dX4_toSave_34 : decode cX4_toSave 34 = .ok (.istore 5, 2) := dk_54 5 (dk_at dksX4_toSave_1 10 rfl rfl)
theorem dX4_toSave_36 : decode cX4_toSave 36 = .ok (.iload 5, 2) := dk_21 5 (dk_at dksX4_toSave_1 12 rfl rfl)
theorem dX4_toSave_38 : decode cX4_toSave 38 = .ok (.aload_n 0, 1) := dk_42 (dk_at dksX4_toSave_1 14 rfl rfl)
theorem dX4_toSave_39 : decode cX4_toSave 39 = .ok (.getfield 280, 3) := dk_180 1 24 (dk_at dksX4_toSave_1 15 rfl rfl)
theorem dX4_toSave_42 : decode cX4_toSave 42 = .ok (.if_icmp .ge 61, 3) := dk_162 0 61 (dk_at dksX4_toSave_1 18 rfl rfl)
theorem dX4_toSave_45 : decode cX4_toSave 45 = .ok (.iload_n 2, 1) := dk_28 (dk_at dksX4_toSave_1 21 rfl rfl)
theorem dX4_toSave_46 : decode cX4_toSave 46 = .ok (.iload 5, 2) := dk_21 5 (dk_at dksX4_toSave_1 22 rfl rfl)
theorem dX4_toSave_48 : decode cX4_toSave 48 = .ok (.ishr, 1) := dk_122 (dk_at dksX4_toSave_2 0 rfl rfl)
theorem dX4_toSave_49 : decode cX4_toSave 49 = .ok (.iconst 1, 1) := dk_4 (dk_at dksX4_toSave_2 1 rfl rfl)
theorem dX4_toSave_50 : decode cX4_toSave 50 = .ok (.iand, 1) := dk_126 (dk_at dksX4_toSave_2 2 rfl rfl)
theorem dX4_toSave_51 : decode cX4_toSave 51 = .ok (.ifCond .eq 46, 3) := dk_153 0 46 (dk_at dksX4_toSave_2 3 rfl rfl)
theorem dX4_toSave_54 : decode cX4_toSave 54 = .ok (.aload_n 0, 1) := dk_42 (dk_at dksX4_toSave_2 6 rfl rfl)
theorem dX4_toSave_55 : decode cX4_toSave 55 = .ok (.iload_n 2, 1) := dk_28 (dk_at dksX4_toSave_2 7 rfl rfl)
theorem dX4_toSave_56 : decode cX4_toSave 56 = .ok (.iconst 1, 1) := dk_4 (dk_at dksX4_toSave_2 8 rfl rfl)
theorem dX4_toSave_57 : decode cX4_toSave 57 = .ok (.iload 5, 2) := dk_21 5 (dk_at dksX4_toSave_2 9 rfl rfl)
theorem dX4_toSave_59 : decode cX4_toSave 59 = .ok (.ishl, 1) := dk_120 (dk_at dksX4_toSave_2 11 rfl rfl)
theorem dX4_toSave_60 : decode cX4_toSave 60 = .ok (.iconst (-1), 1) := dk_2 (dk_at dksX4_toSave_2 12 rfl rfl)
theorem dX4_toSave_61 : decode cX4_toSave 61 = .ok (.ixor, 1) := dk_130 (dk_at dksX4_toSave_2 13 rfl rfl)
theorem dX4_toSave_62 : decode cX4_toSave 62 = .ok (.iand, 1) := dk_126 (dk_at dksX4_toSave_2 14 rfl rfl)
theorem dX4_toSave_63 : decode cX4_toSave 63 = .ok (.invokevirtual 408, 3) := dk_182 1 152 (dk_at dksX4_toSave_2 15 rfl rfl)
theorem dX4_toSave_66 : decode cX4_toSave 66 = .ok (.invokestatic 316, 3) := dk_184 1 60 (dk_at dksX4_toSave_2 18 rfl rfl)
theorem dX4_toSave_69 : decode cX4_toSave 69 = .ok (.iload 4, 2) := dk_21 4 (dk_at dksX4_toSave_2 21 rfl rfl)
theorem dX4_toSave_71 : decode cX4_toSave 71 = .ok (.if_icmp .lt 6, 3) := dk_161 0 6 (dk_at dksX4_toSave_3 0 rfl rfl)
theorem dX4_toSave_74 : decode cX4_toSave 74 = .ok (.goto 23, 3) := dk_167 0 23 (dk_at dksX4_toSave_3 3 rfl rfl)
theorem dX4_toSave_77 : decode cX4_toSave 77 = .ok (.iload 5, 2) := dk_21 5 (dk_at dksX4_toSave_3 6 rfl rfl)
theorem dX4_toSave_79 : decode cX4_toSave 79 = .ok (.istore_n 3, 1) := dk_62 (dk_at dksX4_toSave_3 8 rfl rfl)
theorem dX4_toSave_80 : decode cX4_toSave 80 = .ok (.aload_n 0, 1) := dk_42 (dk_at dksX4_toSave_3 9 rfl rfl)
theorem dX4_toSave_81 : decode cX4_toSave 81 = .ok (.iload_n 2, 1) := dk_28 (dk_at dksX4_toSave_3 10 rfl rfl)
theorem dX4_toSave_82 : decode cX4_toSave 82 = .ok (.iconst 1, 1) := dk_4 (dk_at dksX4_toSave_3 11 rfl rfl)
theorem dX4_toSave_83 : decode cX4_toSave 83 = .ok (.iload 5, 2) := dk_21 5 (dk_at dksX4_toSave_3 12 rfl rfl)
theorem dX4_toSave_85 : decode cX4_toSave 85 = .ok (.ishl, 1) := dk_120 (dk_at dksX4_toSave_3 14 rfl rfl)
theorem dX4_toSave_86 : decode cX4_toSave 86 = .ok (.iconst (-1), 1) := dk_2 (dk_at dksX4_toSave_3 15 rfl rfl)
theorem dX4_toSave_87 : decode cX4_toSave 87 = .ok (.ixor, 1) := dk_130 (dk_at dksX4_toSave_3 16 rfl rfl)
theorem dX4_toSave_88 : decode cX4_toSave 88 = .ok (.iand, 1) := dk_126 (dk_at dksX4_toSave_3 17 rfl rfl)
theorem dX4_toSave_89 : decode cX4_toSave 89 = .ok (.invokevirtual 408, 3) := dk_182 1 152 (dk_at dksX4_toSave_3 18 rfl rfl)
theorem dX4_toSave_92 : decode cX4_toSave 92 = .ok (.invokestatic 316, 3) := dk_184 1 60 (dk_at dksX4_toSave_3 21 rfl rfl)
theorem dX4_toSave_95 : decode cX4_toSave 95 = .ok (.istore 4, 2) := dk_54 4 (dk_at dksX4_toSave_4 0 rfl rfl)
theorem dX4_toSave_97 : decode cX4_toSave 97 = .ok (.iinc 5 1, 3) := dk_132 5 1 (dk_at dksX4_toSave_4 2 rfl rfl)
theorem dX4_toSave_100 : decode cX4_toSave 100 = .ok (.goto (-64), 3) := dk_167 255 192 (dk_at dksX4_toSave_4 5 rfl rfl)
theorem dX4_toSave_103 : decode cX4_toSave 103 = .ok (.iload_n 3, 1) := dk_29 (dk_at dksX4_toSave_4 8 rfl rfl)
theorem dX4_toSave_104 : decode cX4_toSave 104 = .ok (.ireturn, 1) := dk_172 (dk_at dksX4_toSave_4 9 rfl rfl)
abbrev cX4_toRead : ByteArray := prog_12_method_103_code
def yX4_toRead : MethodName := ⟨RX4, "toRead", "()I"⟩
def dkwX4_toRead_2 : List UInt8 := [180, 0, 26, 28, 46, 120, 128, 167, 0, 4, 3, 128, 60, 132, 2, 1, 167, 255, 201, 27, 172]
abbrev dktX4_toRead_2 : List UInt8 := dkwX4_toRead_2 ++ []
def dkwX4_toRead_1 : List UInt8 := [28, 46, 42, 180, 0, 26, 28, 46, 182, 1, 75, 153, 0, 23, 4, 42, 180, 0, 23, 28, 46, 120, 4, 42]
abbrev dktX4_toRead_1 : List UInt8 := dkwX4_toRead_1 ++ dktX4_toRead_2
def dkwX4_toRead_0 : List UInt8 := [42, 3, 181, 0, 102, 3, 60, 3, 61, 28, 42, 180, 1, 30, 162, 0, 53, 27, 42, 3, 42, 180, 0, 23]
abbrev dktX4_toRead_0 : List UInt8 := dkwX4_toRead_0 ++ dktX4_toRead_1
theorem dksX4_toRead_0 : cX4_toRead.data.toList.drop 0 = dktX4_toRead_0 := by decide +kernel
theorem dksX4_toRead_1 : cX4_toRead.data.toList.drop 24 = dktX4_toRead_1 := dk_seg dksX4_toRead_0 24 rfl rfl
theorem dksX4_toRead_2 : cX4_toRead.data.toList.drop 48 = dktX4_toRead_2 := dk_seg dksX4_toRead_1 24 rfl rfl
theorem dX4_toRead_0 : decode cX4_toRead 0 = .ok (.aload_n 0, 1) := dk_42 (dk_at dksX4_toRead_0 0 rfl rfl)
theorem dX4_toRead_1 : decode cX4_toRead 1 = .ok (.iconst 0, 1) := dk_3 (dk_at dksX4_toRead_0 1 rfl rfl)
theorem dX4_toRead_2 : decode cX4_toRead 2 = .ok (.putfield 102, 3) := dk_181 0 102 (dk_at dksX4_toRead_0 2 rfl rfl)
theorem dX4_toRead_5 : decode cX4_toRead 5 = .ok (.iconst 0, 1) := dk_3 (dk_at dksX4_toRead_0 5 rfl rfl)
theorem dX4_toRead_6 : decode cX4_toRead 6 = .ok (.istore_n 1, 1) := dk_60 (dk_at dksX4_toRead_0 6 rfl rfl)
theorem dX4_toRead_7 : decode cX4_toRead 7 = .ok (.iconst 0, 1) := dk_3 (dk_at dksX4_toRead_0 7 rfl rfl)
theorem dX4_toRead_8 : decode cX4_toRead 8 = .ok (.istore_n 2, 1) := dk_61 (dk_at dksX4_toRead_0 8 rfl rfl)
theorem dX4_toRead_9 : decode cX4_toRead 9 = .ok (.iload_n 2, 1) := dk_28 (dk_at dksX4_toRead_0 9 rfl rfl)
theorem dX4_toRead_10 : decode cX4_toRead 10 = .ok (.aload_n 0, 1) := dk_42 (dk_at dksX4_toRead_0 10 rfl rfl)
theorem dX4_toRead_11 : decode cX4_toRead 11 = .ok (.getfield 286, 3) := dk_180 1 30 (dk_at dksX4_toRead_0 11 rfl rfl)
theorem dX4_toRead_14 : decode cX4_toRead 14 = .ok (.if_icmp .ge 53, 3) := dk_162 0 53 (dk_at dksX4_toRead_0 14 rfl rfl)
theorem dX4_toRead_17 : decode cX4_toRead 17 = .ok (.iload_n 1, 1) := dk_27 (dk_at dksX4_toRead_0 17 rfl rfl)
theorem dX4_toRead_18 : decode cX4_toRead 18 = .ok (.aload_n 0, 1) := dk_42 (dk_at dksX4_toRead_0 18 rfl rfl)
theorem dX4_toRead_19 : decode cX4_toRead 19 = .ok (.iconst 0, 1) := dk_3 (dk_at dksX4_toRead_0 19 rfl rfl)
theorem dX4_toRead_20 : decode cX4_toRead 20 = .ok (.aload_n 0, 1) := dk_42 (dk_at dksX4_toRead_0 20 rfl rfl)
theorem dX4_toRead_21 : decode cX4_toRead 21 = .ok (.getfield 23, 3) := dk_180 0 23 (dk_at dksX4_toRead_0 21 rfl rfl)
theorem dX4_toRead_24 : decode cX4_toRead 24 = .ok (.iload_n 2, 1) := dk_28 (dk_at dksX4_toRead_1 0 rfl rfl)
theorem dX4_toRead_25 : decode cX4_toRead 25 = .ok (.iaload, 1) := dk_46 (dk_at dksX4_toRead_1 1 rfl rfl)
theorem dX4_toRead_26 : decode cX4_toRead 26 = .ok (.aload_n 0, 1) := dk_42 (dk_at dksX4_toRead_1 2 rfl rfl)
theorem dX4_toRead_27 : decode cX4_toRead 27 = .ok (.getfield 26, 3) := dk_180 0 26 (dk_at dksX4_toRead_1 3 rfl rfl)
theorem dX4_toRead_30 : decode cX4_toRead 30 = .ok (.iload_n 2, 1) := dk_28 (dk_at dksX4_toRead_1 6 rfl rfl)
theorem dX4_toRead_31 : decode cX4_toRead 31 = .ok (.iaload, 1) := dk_46 (dk_at dksX4_toRead_1 7 rfl rfl)
theorem dX4_toRead_32 : decode cX4_toRead 32 = .ok (.invokevirtual 331, 3) := dk_182 1 75 (dk_at dksX4_toRead_1 8 rfl rfl)
theorem dX4_toRead_35 : decode cX4_toRead 35 = .ok (.ifCond .eq 23, 3) := dk_153 0 23 (dk_at dksX4_toRead_1 11 rfl rfl)
theorem dX4_toRead_38 : decode cX4_toRead 38 = .ok (.iconst 1, 1) := dk_4 (dk_at dksX4_toRead_1 14 rfl rfl)
theorem dX4_toRead_39 : decode cX4_toRead 39 = .ok (.aload_n 0, 1) := dk_42 (dk_at dksX4_toRead_1 15 rfl rfl)
theorem dX4_toRead_40 : decode cX4_toRead 40 = .ok (.getfield 23, 3) := dk_180 0 23 (dk_at dksX4_toRead_1 16 rfl rfl)
theorem dX4_toRead_43 : decode cX4_toRead 43 = .ok (.iload_n 2, 1) := dk_28 (dk_at dksX4_toRead_1 19 rfl rfl)
theorem dX4_toRead_44 : decode cX4_toRead 44 = .ok (.iaload, 1) := dk_46 (dk_at dksX4_toRead_1 20 rfl rfl)
theorem dX4_toRead_45 : decode cX4_toRead 45 = .ok (.ishl, 1) := dk_120 (dk_at dksX4_toRead_1 21 rfl rfl)
theorem dX4_toRead_46 : decode cX4_toRead 46 = .ok (.iconst 1, 1) := dk_4 (dk_at dksX4_toRead_1 22 rfl rfl)
theorem dX4_toRead_47 : decode cX4_toRead 47 = .ok (.aload_n 0, 1) := dk_42 (dk_at dksX4_toRead_1 23 rfl rfl)
theorem dX4_toRead_48 : decode cX4_toRead 48 = .ok (.getfield 26, 3) := dk_180 0 26 (dk_at dksX4_toRead_2 0 rfl rfl)
theorem dX4_toRead_51 : decode cX4_toRead 51 = .ok (.iload_n 2, 1) := dk_28 (dk_at dksX4_toRead_2 3 rfl rfl)
theorem dX4_toRead_52 : decode cX4_toRead 52 = .ok (.iaload, 1) := dk_46 (dk_at dksX4_toRead_2 4 rfl rfl)
theorem dX4_toRead_53 : decode cX4_toRead 53 = .ok (.ishl, 1) := dk_120 (dk_at dksX4_toRead_2 5 rfl rfl)
theorem dX4_toRead_54 : decode cX4_toRead 54 = .ok (.ior, 1) := dk_128 (dk_at dksX4_toRead_2 6 rfl rfl)
theorem dX4_toRead_55 : decode cX4_toRead 55 = .ok (.goto 4, 3) := dk_167 0 4 (dk_at dksX4_toRead_2 7 rfl rfl)
theorem dX4_toRead_58 : decode cX4_toRead 58 = .ok (.iconst 0, 1) := dk_3 (dk_at dksX4_toRead_2 10 rfl rfl)
theorem dX4_toRead_59 : decode cX4_toRead 59 = .ok (.ior, 1) := dk_128 (dk_at dksX4_toRead_2 11 rfl rfl)
theorem dX4_toRead_60 : decode cX4_toRead 60 = .ok (.istore_n 1, 1) := dk_60 (dk_at dksX4_toRead_2 12 rfl rfl)
theorem dX4_toRead_61 : decode cX4_toRead 61 = .ok (.iinc 2 1, 3) := dk_132 2 1 (dk_at dksX4_toRead_2 13 rfl rfl)
theorem dX4_toRead_64 : decode cX4_toRead 64 = .ok (.goto (-55), 3) := dk_167 255 201 (dk_at dksX4_toRead_2 16 rfl rfl)
theorem dX4_toRead_67 : decode cX4_toRead 67 = .ok (.iload_n 1, 1) := dk_27 (dk_at dksX4_toRead_2 19 rfl rfl)
theorem dX4_toRead_68 : decode cX4_toRead 68 = .ok (.ireturn, 1) := dk_172 (dk_at dksX4_toRead_2 20 rfl rfl)
abbrev cX4_chain : ByteArray := prog_12_method_104_code
def yX4_chain : MethodName := ⟨RX4, "chain", "(II)I"⟩
def dkwX4_chain_4 : List UInt8 := [167, 255, 219, 42, 16, 34, 182, 1, 101, 132, 3, 1, 167, 255, 179, 2, 172]
abbrev dktX4_chain_4 : List UInt8 := dkwX4_chain_4 ++ []
def dkwX4_chain_3 : List UInt8 := [182, 1, 79, 42, 16, 34, 42, 16, 34, 21, 4, 182, 1, 79, 182, 1, 82, 182, 1, 94, 132, 4, 1]
abbrev dktX4_chain_3 : List UInt8 := dkwX4_chain_3 ++ dktX4_chain_4
def dkwX4_chain_2 : List UInt8 := [4, 160, 0, 5, 29, 172, 3, 54, 4, 21, 4, 7, 162, 0, 37, 42, 16, 34, 42, 16, 34, 21, 4]
abbrev dktX4_chain_2 : List UInt8 := dkwX4_chain_2 ++ dktX4_chain_3
def dkwX4_chain_1 : List UInt8 := [182, 1, 164, 3, 62, 29, 16, 40, 163, 0, 77, 42, 180, 0, 66, 16, 62, 27, 96, 46, 28, 122, 4, 126]
abbrev dktX4_chain_1 : List UInt8 := dkwX4_chain_1 ++ dktX4_chain_2
def dkwX4_chain_0 : List UInt8 := [42, 3, 181, 0, 102, 42, 27, 182, 1, 131, 153, 0, 11, 42, 28, 182, 1, 134, 154, 0, 5, 3, 172, 42]
abbrev dktX4_chain_0 : List UInt8 := dkwX4_chain_0 ++ dktX4_chain_1
theorem dksX4_chain_0 : cX4_chain.data.toList.drop 0 = dktX4_chain_0 := by decide +kernel
theorem dksX4_chain_1 : cX4_chain.data.toList.drop 24 = dktX4_chain_1 := dk_seg dksX4_chain_0 24 rfl rfl
theorem dksX4_chain_2 : cX4_chain.data.toList.drop 48 = dktX4_chain_2 := dk_seg dksX4_chain_1 24 rfl rfl
theorem dksX4_chain_3 : cX4_chain.data.toList.drop 71 = dktX4_chain_3 := dk_seg dksX4_chain_2 23 rfl rfl
theorem dksX4_chain_4 : cX4_chain.data.toList.drop 94 = dktX4_chain_4 := dk_seg dksX4_chain_3 23 rfl rfl
theorem dX4_chain_0 : decode cX4_chain 0 = .ok (.aload_n 0, 1) := dk_42 (dk_at dksX4_chain_0 0 rfl rfl)
theorem dX4_chain_1 : decode cX4_chain 1 = .ok (.iconst 0, 1) := dk_3 (dk_at dksX4_chain_0 1 rfl rfl)
theorem dX4_chain_2 : decode cX4_chain 2 = .ok (.putfield 102, 3) := dk_181 0 102 (dk_at dksX4_chain_0 2 rfl rfl)
theorem dX4_chain_5 : decode cX4_chain 5 = .ok (.aload_n 0, 1) := dk_42 (dk_at dksX4_chain_0 5 rfl rfl)
theorem dX4_chain_6 : decode cX4_chain 6 = .ok (.iload_n 1, 1) := dk_27 (dk_at dksX4_chain_0 6 rfl rfl)
theorem dX4_chain_7 : decode cX4_chain 7 = .ok (.invokevirtual 387, 3) := dk_182 1 131 (dk_at dksX4_chain_0 7 rfl rfl)
theorem dX4_chain_10 : decode cX4_chain 10 = .ok (.ifCond .eq 11, 3) := dk_153 0 11 (dk_at dksX4_chain_0 10 rfl rfl)
theorem dX4_chain_13 : decode cX4_chain 13 = .ok (.aload_n 0, 1) := dk_42 (dk_at dksX4_chain_0 13 rfl rfl)
theorem dX4_chain_14 : decode cX4_chain 14 = .ok (.iload_n 2, 1) := dk_28 (dk_at dksX4_chain_0 14 rfl rfl)
theorem dX4_chain_15 : decode cX4_chain 15 = .ok (.invokevirtual 390, 3) := dk_182 1 134 (dk_at dksX4_chain_0 15 rfl rfl)
theorem dX4_chain_18 : decode cX4_chain 18 = .ok (.ifCond .ne 5, 3) := dk_154 0 5 (dk_at dksX4_chain_0 18 rfl rfl)
theorem dX4_chain_21 : decode cX4_chain 21 = .ok (.iconst 0, 1) := dk_3 (dk_at dksX4_chain_0 21 rfl rfl)
theorem dX4_chain_22 : decode cX4_chain 22 = .ok (.ireturn, 1) := dk_172 (dk_at dksX4_chain_0 22 rfl rfl)
theorem dX4_chain_23 : decode cX4_chain 23 = .ok (.aload_n 0, 1) := dk_42 (dk_at dksX4_chain_0 23 rfl rfl)
theorem dX4_chain_24 : decode cX4_chain 24 = .ok (.invokevirtual 420, 3) := dk_182 1 164 (dk_at dksX4_chain_1 0 rfl rfl)
theorem dX4_chain_27 : decode cX4_chain 27 = .ok (.iconst 0, 1) := dk_3 (dk_at dksX4_chain_1 3 rfl rfl)
theorem dX4_chain_28 : decode cX4_chain 28 = .ok (.istore_n 3, 1) := dk_62 (dk_at dksX4_chain_1 4 rfl rfl)
theorem dX4_chain_29 : decode cX4_chain 29 = .ok (.iload_n 3, 1) := dk_29 (dk_at dksX4_chain_1 5 rfl rfl)
theorem dX4_chain_30 : decode cX4_chain 30 = .ok (.bipush 40, 2) := dk_16 40 (dk_at dksX4_chain_1 6 rfl rfl)
theorem dX4_chain_32 : decode cX4_chain 32 = .ok (.if_icmp .gt 77, 3) := dk_163 0 77 (dk_at dksX4_chain_1 8 rfl rfl)
theorem dX4_chain_35 : decode cX4_chain 35 = .ok (.aload_n 0, 1) := dk_42 (dk_at dksX4_chain_1 11 rfl rfl)
theorem dX4_chain_36 : decode cX4_chain 36 = .ok (.getfield 66, 3) := dk_180 0 66 (dk_at dksX4_chain_1 12 rfl rfl)
theorem dX4_chain_39 : decode cX4_chain 39 = .ok (.bipush 62, 2) := dk_16 62 (dk_at dksX4_chain_1 15 rfl rfl)
theorem dX4_chain_41 : decode cX4_chain 41 = .ok (.iload_n 1, 1) := dk_27 (dk_at dksX4_chain_1 17 rfl rfl)
theorem dX4_chain_42 : decode cX4_chain 42 = .ok (.iadd, 1) := dk_96 (dk_at dksX4_chain_1 18 rfl rfl)
theorem dX4_chain_43 : decode cX4_chain 43 = .ok (.iaload, 1) := dk_46 (dk_at dksX4_chain_1 19 rfl rfl)
theorem dX4_chain_44 : decode cX4_chain 44 = .ok (.iload_n 2, 1) := dk_28 (dk_at dksX4_chain_1 20 rfl rfl)
theorem dX4_chain_45 : decode cX4_chain 45 = .ok (.ishr, 1) := dk_122 (dk_at dksX4_chain_1 21 rfl rfl)
theorem dX4_chain_46 : decode cX4_chain 46 = .ok (.iconst 1, 1) := dk_4 (dk_at dksX4_chain_1 22 rfl rfl)
theorem dX4_chain_47 : decode cX4_chain 47 = .ok (.iand, 1) := dk_126 (dk_at dksX4_chain_1 23 rfl rfl)
theorem dX4_chain_48 : decode cX4_chain 48 = .ok (.iconst 1, 1) := dk_4 (dk_at dksX4_chain_2 0 rfl rfl)
theorem dX4_chain_49 : decode cX4_chain 49 = .ok (.if_icmp .ne 5, 3) := dk_160 0 5 (dk_at dksX4_chain_2 1 rfl rfl)
theorem dX4_chain_52 : decode cX4_chain 52 = .ok (.iload_n 3, 1) := dk_29 (dk_at dksX4_chain_2 4 rfl rfl)
theorem dX4_chain_53 : decode cX4_chain 53 = .ok (.ireturn, 1) := dk_172 (dk_at dksX4_chain_2 5 rfl rfl)
theorem dX4_chain_54 : decode cX4_chain 54 = .ok (.iconst 0, 1) := dk_3 (dk_at dksX4_chain_2 6 rfl rfl)
theorem dX4_chain_55 : decode cX4_chain 55 = .ok (.istore 4, 2) := dk_54 4 (dk_at dksX4_chain_2 7 rfl rfl)
theorem dX4_chain_57 : decode cX4_chain 57 = .ok (.iload 4, 2) := dk_21 4 (dk_at dksX4_chain_2 9 rfl rfl)
theorem dX4_chain_59 : decode cX4_chain 59 = .ok (.iconst 4, 1) := dk_7 (dk_at dksX4_chain_2 11 rfl rfl)
theorem dX4_chain_60 : decode cX4_chain 60 = .ok (.if_icmp .ge 37, 3) := dk_162 0 37 (dk_at dksX4_chain_2 12 rfl rfl)
theorem dX4_chain_63 : decode cX4_chain 63 = .ok (.aload_n 0, 1) := dk_42 (dk_at dksX4_chain_2 15 rfl rfl)
theorem dX4_chain_64 : decode cX4_chain 64 = .ok (.bipush 34, 2) := dk_16 34 (dk_at dksX4_chain_2 16 rfl rfl)
theorem dX4_chain_66 : decode cX4_chain 66 = .ok (.aload_n 0, 1) := dk_42 (dk_at dksX4_chain_2 18 rfl rfl)
theorem dX4_chain_67 : decode cX4_chain 67 = .ok (.bipush 34, 2) := dk_16 34 (dk_at dksX4_chain_2 19 rfl rfl)
theorem dX4_chain_69 : decode cX4_chain 69 = .ok (.iload 4, 2) := dk_21 4 (dk_at dksX4_chain_2 21 rfl rfl)
theorem dX4_chain_71 : decode cX4_chain 71 = .ok (.invokevirtual 335, 3) := dk_182 1 79 (dk_at dksX4_chain_3 0 rfl rfl)
theorem dX4_chain_74 : decode cX4_chain 74 = .ok (.aload_n 0, 1) := dk_42 (dk_at dksX4_chain_3 3 rfl rfl)
theorem dX4_chain_75 : decode cX4_chain 75 = .ok (.bipush 34, 2) := dk_16 34 (dk_at dksX4_chain_3 4 rfl rfl)
theorem dX4_chain_77 : decode cX4_chain 77 = .ok (.aload_n 0, 1) := dk_42 (dk_at dksX4_chain_3 6 rfl rfl)
theorem dX4_chain_78 : decode cX4_chain 78 = .ok (.bipush 34, 2) := dk_16 34 (dk_at dksX4_chain_3 7 rfl rfl)
theorem dX4_chain_80 : decode cX4_chain 80 = .ok (.iload 4, 2) := dk_21 4 (dk_at dksX4_chain_3 9 rfl rfl)
theorem dX4_chain_82 : decode cX4_chain 82 = .ok (.invokevirtual 335, 3) := dk_182 1 79 (dk_at dksX4_chain_3 11 rfl rfl)
theorem dX4_chain_85 : decode cX4_chain 85 = .ok (.invokevirtual 338, 3) := dk_182 1 82 (dk_at dksX4_chain_3 14 rfl rfl)
theorem dX4_chain_88 : decode cX4_chain 88 = .ok (.invokevirtual 350, 3) := dk_182 1 94 (dk_at dksX4_chain_3 17 rfl rfl)
theorem dX4_chain_91 : decode cX4_chain 91 = .ok (.iinc 4 1, 3) := dk_132 4 1 (dk_at dksX4_chain_3 20 rfl rfl)
theorem dX4_chain_94 : decode cX4_chain 94 = .ok (.goto (-37), 3) := dk_167 255 219 (dk_at dksX4_chain_4 0 rfl rfl)
theorem dX4_chain_97 : decode cX4_chain 97 = .ok (.aload_n 0, 1) := dk_42 (dk_at dksX4_chain_4 3 rfl rfl)
theorem dX4_chain_98 : decode cX4_chain 98 = .ok (.bipush 34, 2) := dk_16 34 (dk_at dksX4_chain_4 4 rfl rfl)
theorem dX4_chain_100 : decode cX4_chain 100 = .ok (.invokevirtual 357, 3) := dk_182 1 101 (dk_at dksX4_chain_4 6 rfl rfl)
theorem dX4_chain_103 : decode cX4_chain 103 = .ok (.iinc 3 1, 3) := dk_132 3 1 (dk_at dksX4_chain_4 9 rfl rfl)
theorem dX4_chain_106 : decode cX4_chain 106 = .ok (.goto (-77), 3) := dk_167 255 179 (dk_at dksX4_chain_4 12 rfl rfl)
theorem dX4_chain_109 : decode cX4_chain 109 = .ok (.iconst (-1), 1) := dk_2 (dk_at dksX4_chain_4 15 rfl rfl)
theorem dX4_chain_110 : decode cX4_chain 110 = .ok (.ireturn, 1) := dk_172 (dk_at dksX4_chain_4 16 rfl rfl)
abbrev cX4_hear : ByteArray := prog_12_method_105_code
def yX4_hear : MethodName := ⟨RX4, "hear", "(IIIZ)I"⟩
def dkwX4_hear_5 : List UInt8 := [181, 1, 43, 42, 180, 1, 43, 172]
abbrev dktX4_hear_5 : List UInt8 := dkwX4_hear_5 ++ []
def dkwX4_hear_4 : List UInt8 := [180, 1, 43, 104, 6, 96, 21, 4, 153, 0, 7, 4, 167, 0, 4, 3, 79, 42, 89, 180, 1, 43, 4, 96]
abbrev dktX4_hear_4 : List UInt8 := dkwX4_hear_4 ++ dktX4_hear_5
def dkwX4_hear_3 : List UInt8 := [28, 79, 42, 180, 0, 84, 7, 42, 180, 1, 43, 104, 5, 96, 29, 79, 42, 180, 0, 84, 7, 42]
abbrev dktX4_hear_3 : List UInt8 := dkwX4_hear_3 ++ dktX4_hear_4
def dkwX4_hear_2 : List UInt8 := [42, 180, 0, 84, 7, 42, 180, 1, 43, 104, 27, 79, 42, 180, 0, 84, 7, 42, 180, 1, 43, 104, 4, 96]
abbrev dktX4_hear_2 : List UInt8 := dkwX4_hear_2 ++ dktX4_hear_3
def dkwX4_hear_1 : List UInt8 := [180, 1, 43, 16, 8, 159, 0, 13, 29, 3, 16, 12, 184, 1, 107, 154, 0, 9, 42, 5, 182, 1, 155, 172]
abbrev dktX4_hear_1 : List UInt8 := dkwX4_hear_1 ++ dktX4_hear_2
def dkwX4_hear_0 : List UInt8 := [42, 3, 181, 0, 102, 42, 27, 182, 1, 131, 153, 0, 11, 42, 28, 182, 1, 134, 154, 0, 5, 3, 172, 42]
abbrev dktX4_hear_0 : List UInt8 := dkwX4_hear_0 ++ dktX4_hear_1
theorem dksX4_hear_0 : cX4_hear.data.toList.drop 0 = dktX4_hear_0 := by decide +kernel
theorem dksX4_hear_1 : cX4_hear.data.toList.drop 24 = dktX4_hear_1 := dk_seg dksX4_hear_0 24 rfl rfl
theorem dksX4_hear_2 : cX4_hear.data.toList.drop 48 = dktX4_hear_2 := dk_seg dksX4_hear_1 24 rfl rfl
theorem dksX4_hear_3 : cX4_hear.data.toList.drop 72 = dktX4_hear_3 := dk_seg dksX4_hear_2 24 rfl rfl
theorem dksX4_hear_4 : cX4_hear.data.toList.drop 94 = dktX4_hear_4 := dk_seg dksX4_hear_3 22 rfl rfl
theorem dksX4_hear_5 : cX4_hear.data.toList.drop 118 = dktX4_hear_5 := dk_seg dksX4_hear_4 24 rfl rfl
theorem dX4_hear_0 : decode cX4_hear 0 = .ok (.aload_n 0, 1) := dk_42 (dk_at dksX4_hear_0 0 rfl rfl)
theorem dX4_hear_1 : decode cX4_hear 1 = .ok (.iconst 0, 1) := dk_3 (dk_at dksX4_hear_0 1 rfl rfl)
theorem dX4_hear_2 : decode cX4_hear 2 = .ok (.putfield 102, 3) := dk_181 0 102 (dk_at dksX4_hear_0 2 rfl rfl)
theorem dX4_hear_5 : decode cX4_hear 5 = .ok (.aload_n 0, 1) := dk_42 (dk_at dksX4_hear_0 5 rfl rfl)
theorem dX4_hear_6 : decode cX4_hear 6 = .ok (.iload_n 1, 1) := dk_27 (dk_at dksX4_hear_0 6 rfl rfl)
theorem dX4_hear_7 : decode cX4_hear 7 = .ok (.invokevirtual 387, 3) := dk_182 1 131 (dk_at dksX4_hear_0 7 rfl rfl)
theorem dX4_hear_10 : decode cX4_hear 10 = .ok (.ifCond .eq 11, 3) := dk_153 0 11 (dk_at dksX4_hear_0 10 rfl rfl)
theorem dX4_hear_13 : decode cX4_hear 13 = .ok (.aload_n 0, 1) := dk_42 (dk_at dksX4_hear_0 13 rfl rfl)
theorem dX4_hear_14 : decode cX4_hear 14 = .ok (.iload_n 2, 1) := dk_28 (dk_at dksX4_hear_0 14 rfl rfl)
theorem dX4_hear_15 : decode cX4_hear 15 = .ok (.invokevirtual 390, 3) := dk_182 1 134 (dk_at dksX4_hear_0 15 rfl rfl)
theorem dX4_hear_18 : decode cX4_hear 18 = .ok (.ifCond .ne 5, 3) := dk_154 0 5 (dk_at dksX4_hear_0 18 rfl rfl)
theorem dX4_hear_21 : decode cX4_hear 21 = .ok (.iconst 0, 1) := dk_3 (dk_at dksX4_hear_0 21 rfl rfl)
theorem dX4_hear_22 : decode cX4_hear 22 = .ok (.ireturn, 1) := dk_172 (dk_at dksX4_hear_0 22 rfl rfl)
theorem dX4_hear_23 : decode cX4_hear 23 = .ok (.aload_n 0, 1) := dk_42 (dk_at dksX4_hear_0 23 rfl rfl)
theorem dX4_hear_24 : decode cX4_hear 24 = .ok (.getfield 299, 3) := dk_180 1 43 (dk_at dksX4_hear_1 0 rfl rfl)
theorem dX4_hear_27 : decode cX4_hear 27 = .ok (.bipush 8, 2) := dk_16 8 (dk_at dksX4_hear_1 3 rfl rfl)
theorem dX4_hear_29 : decode cX4_hear 29 = .ok (.if_icmp .eq 13, 3) := dk_159 0 13 (dk_at dksX4_hear_1 5 rfl rfl)
theorem dX4_hear_32 : decode cX4_hear 32 = .ok (.iload_n 3, 1) := dk_29 (dk_at dksX4_hear_1 8 rfl rfl)
theorem dX4_hear_33 : decode cX4_hear 33 = .ok (.iconst 0, 1) := dk_3 (dk_at dksX4_hear_1 9 rfl rfl)
theorem dX4_hear_34 : decode cX4_hear 34 = .ok (.bipush 12, 2) := dk_16 12 (dk_at dksX4_hear_1 10 rfl rfl)
theorem dX4_hear_36 : decode cX4_hear 36 = .ok (.invokestatic 363, 3) := dk_184 1 107 (dk_at dksX4_hear_1 12 rfl rfl)
theorem dX4_hear_39 : decode cX4_hear 39 = .ok (.ifCond .ne 9, 3) := dk_154 0 9 (dk_at dksX4_hear_1 15 rfl rfl)
theorem dX4_hear_42 : decode cX4_hear 42 = .ok (.aload_n 0, 1) := dk_42 (dk_at dksX4_hear_1 18 rfl rfl)
theorem dX4_hear_43 : decode cX4_hear 43 = .ok (.iconst 2, 1) := dk_5 (dk_at dksX4_hear_1 19 rfl rfl)
theorem dX4_hear_44 : decode cX4_hear 44 = .ok (.invokevirtual 411, 3) := dk_182 1 155 (dk_at dksX4_hear_1 20 rfl rfl)
theorem dX4_hear_47 : decode cX4_hear 47 = .ok (.ireturn, 1) := dk_172 (dk_at dksX4_hear_1 23 rfl rfl)
theorem dX4_hear_48 : decode cX4_hear 48 = .ok (.aload_n 0, 1) := dk_42 (dk_at dksX4_hear_2 0 rfl rfl)
theorem dX4_hear_49 : decode cX4_hear 49 = .ok (.getfield 84, 3) := dk_180 0 84 (dk_at dksX4_hear_2 1 rfl rfl)
theorem dX4_hear_52 : decode cX4_hear 52 = .ok (.iconst 4, 1) := dk_7 (dk_at dksX4_hear_2 4 rfl rfl)
theorem dX4_hear_53 : decode cX4_hear 53 = .ok (.aload_n 0, 1) := dk_42 (dk_at dksX4_hear_2 5 rfl rfl)
theorem dX4_hear_54 : decode cX4_hear 54 = .ok (.getfield 299, 3) := dk_180 1 43 (dk_at dksX4_hear_2 6 rfl rfl)
theorem dX4_hear_57 : decode cX4_hear 57 = .ok (.imul, 1) := dk_104 (dk_at dksX4_hear_2 9 rfl rfl)
theorem dX4_hear_58 : decode cX4_hear 58 = .ok (.iload_n 1, 1) := dk_27 (dk_at dksX4_hear_2 10 rfl rfl)
theorem dX4_hear_59 : decode cX4_hear 59 = .ok (.iastore, 1) := dk_79 (dk_at dksX4_hear_2 11 rfl rfl)
theorem dX4_hear_60 : decode cX4_hear 60 = .ok (.aload_n 0, 1) := dk_42 (dk_at dksX4_hear_2 12 rfl rfl)
theorem dX4_hear_61 : decode cX4_hear 61 = .ok (.getfield 84, 3) := dk_180 0 84 (dk_at dksX4_hear_2 13 rfl rfl)
theorem dX4_hear_64 : decode cX4_hear 64 = .ok (.iconst 4, 1) := dk_7 (dk_at dksX4_hear_2 16 rfl rfl)
theorem dX4_hear_65 : decode cX4_hear 65 = .ok (.aload_n 0, 1) := dk_42 (dk_at dksX4_hear_2 17 rfl rfl)
theorem dX4_hear_66 : decode cX4_hear 66 = .ok (.getfield 299, 3) := dk_180 1 43 (dk_at dksX4_hear_2 18 rfl rfl)
theorem dX4_hear_69 : decode cX4_hear 69 = .ok (.imul, 1) := dk_104 (dk_at dksX4_hear_2 21 rfl rfl)
theorem dX4_hear_70 : decode cX4_hear 70 = .ok (.iconst 1, 1) := dk_4 (dk_at dksX4_hear_2 22 rfl rfl)
theorem dX4_hear_71 : decode cX4_hear 71 = .ok (.iadd, 1) := dk_96 (dk_at dksX4_hear_2 23 rfl rfl)
theorem dX4_hear_72 : decode cX4_hear 72 = .ok (.iload_n 2, 1) := dk_28 (dk_at dksX4_hear_3 0 rfl rfl)
theorem dX4_hear_73 : decode cX4_hear 73 = .ok (.iastore, 1) := dk_79 (dk_at dksX4_hear_3 1 rfl rfl)
theorem dX4_hear_74 : decode cX4_hear 74 = .ok (.aload_n 0, 1) := dk_42 (dk_at dksX4_hear_3 2 rfl rfl)
theorem dX4_hear_75 : decode cX4_hear 75 = .ok (.getfield 84, 3) := dk_180 0 84 (dk_at dksX4_hear_3 3 rfl rfl)
theorem dX4_hear_78 : decode cX4_hear 78 = .ok (.iconst 4, 1) := dk_7 (dk_at dksX4_hear_3 6 rfl rfl)
theorem dX4_hear_79 : decode cX4_hear 79 = .ok (.aload_n 0, 1) := dk_42 (dk_at dksX4_hear_3 7 rfl rfl)
theorem dX4_hear_80 : decode cX4_hear 80 = .ok (.getfield 299, 3) := dk_180 1 43 (dk_at dksX4_hear_3 8 rfl rfl)
theorem dX4_hear_83 : decode cX4_hear 83 = .ok (.imul, 1) := dk_104 (dk_at dksX4_hear_3 11 rfl rfl)
theorem dX4_hear_84 : decode cX4_hear 84 = .ok (.iconst 2, 1) := dk_5 (dk_at dksX4_hear_3 12 rfl rfl)
theorem dX4_hear_85 : decode cX4_hear 85 = .ok (.iadd, 1) := dk_96 (dk_at dksX4_hear_3 13 rfl rfl)
theorem dX4_hear_86 : decode cX4_hear 86 = .ok (.iload_n 3, 1) := dk_29 (dk_at dksX4_hear_3 14 rfl rfl)
theorem dX4_hear_87 : decode cX4_hear 87 = .ok (.iastore, 1) := dk_79 (dk_at dksX4_hear_3 15 rfl rfl)
theorem dX4_hear_88 : decode cX4_hear 88 = .ok (.aload_n 0, 1) := dk_42 (dk_at dksX4_hear_3 16 rfl rfl)
theorem dX4_hear_89 : decode cX4_hear 89 = .ok (.getfield 84, 3) := dk_180 0 84 (dk_at dksX4_hear_3 17 rfl rfl)
theorem dX4_hear_92 : decode cX4_hear 92 = .ok (.iconst 4, 1) := dk_7 (dk_at dksX4_hear_3 20 rfl rfl)
theorem dX4_hear_93 : decode cX4_hear 93 = .ok (.aload_n 0, 1) := dk_42 (dk_at dksX4_hear_3 21 rfl rfl)
theorem dX4_hear_94 : decode cX4_hear 94 = .ok (.getfield 299, 3) := dk_180 1 43 (dk_at dksX4_hear_4 0 rfl rfl)
theorem dX4_hear_97 : decode cX4_hear 97 = .ok (.imul, 1) := dk_104 (dk_at dksX4_hear_4 3 rfl rfl)
theorem dX4_hear_98 : decode cX4_hear 98 = .ok (.iconst 3, 1) := dk_6 (dk_at dksX4_hear_4 4 rfl rfl)
theorem dX4_hear_99 : decode cX4_hear 99 = .ok (.iadd, 1) := dk_96 (dk_at dksX4_hear_4 5 rfl rfl)
theorem dX4_hear_100 : decode cX4_hear 100 = .ok (.iload 4, 2) := dk_21 4 (dk_at dksX4_hear_4 6 rfl rfl)
theorem dX4_hear_102 : decode cX4_hear 102 = .ok (.ifCond .eq 7, 3) := dk_153 0 7 (dk_at dksX4_hear_4 8 rfl rfl)
theorem dX4_hear_105 : decode cX4_hear 105 = .ok (.iconst 1, 1) := dk_4 (dk_at dksX4_hear_4 11 rfl rfl)
theorem dX4_hear_106 : decode cX4_hear 106 = .ok (.goto 4, 3) := dk_167 0 4 (dk_at dksX4_hear_4 12 rfl rfl)
theorem dX4_hear_109 : decode cX4_hear 109 = .ok (.iconst 0, 1) := dk_3 (dk_at dksX4_hear_4 15 rfl rfl)
theorem dX4_hear_110 : decode cX4_hear 110 = .ok (.iastore, 1) := dk_79 (dk_at dksX4_hear_4 16 rfl rfl)
theorem dX4_hear_111 : decode cX4_hear 111 = .ok (.aload_n 0, 1) := dk_42 (dk_at dksX4_hear_4 17 rfl rfl)
theorem dX4_hear_112 : decode cX4_hear 112 = .ok (.dup, 1) := dk_89 (dk_at dksX4_hear_4 18 rfl rfl)
theorem dX4_hear_113 : decode cX4_hear 113 = .ok (.getfield 299, 3) := dk_180 1 43 (dk_at dksX4_hear_4 19 rfl rfl)
theorem dX4_hear_116 : decode cX4_hear 116 = .ok (.iconst 1, 1) := dk_4 (dk_at dksX4_hear_4 22 rfl rfl)
theorem dX4_hear_117 : decode cX4_hear 117 = .ok (.iadd, 1) := dk_96 (dk_at dksX4_hear_4 23 rfl rfl)
theorem dX4_hear_118 : decode cX4_hear 118 = .ok (.putfield 299, 3) := dk_181 1 43 (dk_at dksX4_hear_5 0 rfl rfl)
theorem dX4_hear_121 : decode cX4_hear 121 = .ok (.aload_n 0, 1) := dk_42 (dk_at dksX4_hear_5 3 rfl rfl)
theorem dX4_hear_122 : decode cX4_hear 122 = .ok (.getfield 299, 3) := dk_180 1 43 (dk_at dksX4_hear_5 4 rfl rfl)
theorem dX4_hear_125 : decode cX4_hear 125 = .ok (.ireturn, 1) := dk_172 (dk_at dksX4_hear_5 7 rfl rfl)
abbrev cX4_forget : ByteArray := prog_12_method_106_code
def yX4_forget : MethodName := ⟨RX4, "forget", "()V"⟩
def dkwX4_forget_0 : List UInt8 := [42, 3, 181, 0, 102, 42, 3, 181, 1, 43, 177]
abbrev dktX4_forget_0 : List UInt8 := dkwX4_forget_0 ++ []
theorem dksX4_forget_0 : cX4_forget.data.toList.drop 0 = dktX4_forget_0 := by decide +kernel
theorem dX4_forget_0 : decode cX4_forget 0 = .ok (.aload_n 0, 1) := dk_42 (dk_at dksX4_forget_0 0 rfl rfl)
theorem dX4_forget_1 : decode cX4_forget 1 = .ok (.iconst 0, 1) := dk_3 (dk_at dksX4_forget_0 1 rfl rfl)
theorem dX4_forget_2 : decode cX4_forget 2 = .ok (.putfield 102, 3) := dk_181 0 102 (dk_at dksX4_forget_0 2 rfl rfl)
theorem dX4_forget_5 : decode cX4_forget 5 = .ok (.aload_n 0, 1) := dk_42 (dk_at dksX4_forget_0 5 rfl rfl)
theorem dX4_forget_6 : decode cX4_forget 6 = .ok (.iconst 0, 1) := dk_3 (dk_at dksX4_forget_0 6 rfl rfl)
theorem dX4_forget_7 : decode cX4_forget 7 = .ok (.putfield 299, 3) := dk_181 1 43 (dk_at dksX4_forget_0 7 rfl rfl)
theorem dX4_forget_10 : decode cX4_forget 10 = .ok (.return_, 1) := dk_177 (dk_at dksX4_forget_0 10 rfl rfl)
abbrev cX4_borne : ByteArray := prog_12_method_109_code
def yX4_borne : MethodName := ⟨RX4, "borne", "(I)I"⟩
def dkwX4_borne_4 : List UInt8 := [132, 4, 1, 167, 255, 206, 27, 154, 0, 7, 28, 167, 0, 4, 29, 172]
abbrev dktX4_borne_4 : List UInt8 := dkwX4_borne_4 ++ []
def dkwX4_borne_3 : List UInt8 := [132, 2, 1, 29, 2, 160, 0, 18, 21, 4, 16, 9, 108, 16, 10, 104, 21, 4, 16, 9, 112, 96, 62]
abbrev dktX4_borne_3 : List UInt8 := dkwX4_borne_3 ++ dktX4_borne_4
def dkwX4_borne_2 : List UInt8 := [21, 4, 16, 9, 42, 180, 1, 27, 104, 162, 0, 44, 42, 21, 4, 182, 1, 185, 154, 0, 6, 167, 0, 26]
abbrev dktX4_borne_2 : List UInt8 := dkwX4_borne_2 ++ dktX4_borne_3
def dkwX4_borne_1 : List UInt8 := [182, 1, 164, 42, 182, 1, 182, 153, 0, 7, 4, 167, 0, 4, 3, 172, 3, 61, 2, 62, 3, 54, 4]
abbrev dktX4_borne_1 : List UInt8 := dkwX4_borne_1 ++ dktX4_borne_2
def dkwX4_borne_0 : List UInt8 := [42, 3, 181, 0, 102, 42, 27, 5, 182, 1, 125, 154, 0, 5, 3, 172, 27, 5, 160, 0, 20, 42]
abbrev dktX4_borne_0 : List UInt8 := dkwX4_borne_0 ++ dktX4_borne_1
theorem dksX4_borne_0 : cX4_borne.data.toList.drop 0 = dktX4_borne_0 := by decide +kernel
theorem dksX4_borne_1 : cX4_borne.data.toList.drop 22 = dktX4_borne_1 := dk_seg dksX4_borne_0 22 rfl rfl
theorem dksX4_borne_2 : cX4_borne.data.toList.drop 45 = dktX4_borne_2 := dk_seg dksX4_borne_1 23 rfl rfl
theorem dksX4_borne_3 : cX4_borne.data.toList.drop 69 = dktX4_borne_3 := dk_seg dksX4_borne_2 24 rfl rfl
theorem dksX4_borne_4 : cX4_borne.data.toList.drop 92 = dktX4_borne_4 := dk_seg dksX4_borne_3 23 rfl rfl
theorem dX4_borne_0 : decode cX4_borne 0 = .ok (.aload_n 0, 1) := dk_42 (dk_at dksX4_borne_0 0 rfl rfl)
theorem dX4_borne_1 : decode cX4_borne 1 = .ok (.iconst 0, 1) := dk_3 (dk_at dksX4_borne_0 1 rfl rfl)
theorem dX4_borne_2 : decode cX4_borne 2 = .ok (.putfield 102, 3) := dk_181 0 102 (dk_at dksX4_borne_0 2 rfl rfl)
theorem dX4_borne_5 : decode cX4_borne 5 = .ok (.aload_n 0, 1) := dk_42 (dk_at dksX4_borne_0 5 rfl rfl)
theorem dX4_borne_6 : decode cX4_borne 6 = .ok (.iload_n 1, 1) := dk_27 (dk_at dksX4_borne_0 6 rfl rfl)
theorem dX4_borne_7 : decode cX4_borne 7 = .ok (.iconst 2, 1) := dk_5 (dk_at dksX4_borne_0 7 rfl rfl)
theorem dX4_borne_8 : decode cX4_borne 8 = .ok (.invokevirtual 381, 3) := dk_182 1 125 (dk_at dksX4_borne_0 8 rfl rfl)
theorem dX4_borne_11 : decode cX4_borne 11 = .ok (.ifCond .ne 5, 3) := dk_154 0 5 (dk_at dksX4_borne_0 11 rfl rfl)
theorem dX4_borne_14 : decode cX4_borne 14 = .ok (.iconst 0, 1) := dk_3 (dk_at dksX4_borne_0 14 rfl rfl)
theorem dX4_borne_15 : decode cX4_borne 15 = .ok (.ireturn, 1) := dk_172 (dk_at dksX4_borne_0 15 rfl rfl)
theorem dX4_borne_16 : decode cX4_borne 16 = .ok (.iload_n 1, 1) := dk_27 (dk_at dksX4_borne_0 16 rfl rfl)
theorem dX4_borne_17 : decode cX4_borne 17 = .ok (.iconst 2, 1) := dk_5 (dk_at dksX4_borne_0 17 rfl rfl)
theorem dX4_borne_18 : decode cX4_borne 18 = .ok (.if_icmp .ne 20, 3) := dk_160 0 20 (dk_at dksX4_borne_0 18 rfl rfl)
theorem dX4_borne_21 : decode cX4_borne 21 = .ok (.aload_n 0, 1) := dk_42 (dk_at dksX4_borne_0 21 rfl rfl)
theorem dX4_borne_22 : decode cX4_borne 22 = .ok (.invokevirtual 420, 3) := dk_182 1 164 (dk_at dksX4_borne_1 0 rfl rfl)
theorem dX4_borne_25 : decode cX4_borne 25 = .ok (.aload_n 0, 1) := dk_42 (dk_at dksX4_borne_1 3 rfl rfl)
theorem dX4_borne_26 : decode cX4_borne 26 = .ok (.invokevirtual 438, 3) := dk_182 1 182 (dk_at dksX4_borne_1 4 rfl rfl)
theorem dX4_borne_29 : decode cX4_borne 29 = .ok (.ifCond .eq 7, 3) := dk_153 0 7 (dk_at dksX4_borne_1 7 rfl rfl)
theorem dX4_borne_32 : decode cX4_borne 32 = .ok (.iconst 1, 1) := dk_4 (dk_at dksX4_borne_1 10 rfl rfl)
theorem dX4_borne_33 : decode cX4_borne 33 = .ok (.goto 4, 3) := dk_167 0 4 (dk_at dksX4_borne_1 11 rfl rfl)
theorem dX4_borne_36 : decode cX4_borne 36 = .ok (.iconst 0, 1) := dk_3 (dk_at dksX4_borne_1 14 rfl rfl)
theorem dX4_borne_37 : decode cX4_borne 37 = .ok (.ireturn, 1) := dk_172 (dk_at dksX4_borne_1 15 rfl rfl)
theorem dX4_borne_38 : decode cX4_borne 38 = .ok (.iconst 0, 1) := dk_3 (dk_at dksX4_borne_1 16 rfl rfl)
theorem dX4_borne_39 : decode cX4_borne 39 = .ok (.istore_n 2, 1) := dk_61 (dk_at dksX4_borne_1 17 rfl rfl)
theorem dX4_borne_40 : decode cX4_borne 40 = .ok (.iconst (-1), 1) := dk_2 (dk_at dksX4_borne_1 18 rfl rfl)
theorem dX4_borne_41 : decode cX4_borne 41 = .ok (.istore_n 3, 1) := dk_62 (dk_at dksX4_borne_1 19 rfl rfl)
theorem dX4_borne_42 : decode cX4_borne 42 = .ok (.iconst 0, 1) := dk_3 (dk_at dksX4_borne_1 20 rfl rfl)
theorem dX4_borne_43 : decode cX4_borne 43 = .ok (.istore 4, 2) := dk_54 4 (dk_at dksX4_borne_1 21 rfl rfl)
theorem dX4_borne_45 : decode cX4_borne 45 = .ok (.iload 4, 2) := dk_21 4 (dk_at dksX4_borne_2 0 rfl rfl)
theorem dX4_borne_47 : decode cX4_borne 47 = .ok (.bipush 9, 2) := dk_16 9 (dk_at dksX4_borne_2 2 rfl rfl)
theorem dX4_borne_49 : decode cX4_borne 49 = .ok (.aload_n 0, 1) := dk_42 (dk_at dksX4_borne_2 4 rfl rfl)
theorem dX4_borne_50 : decode cX4_borne 50 = .ok (.getfield 283, 3) := dk_180 1 27 (dk_at dksX4_borne_2 5 rfl rfl)
theorem dX4_borne_53 : decode cX4_borne 53 = .ok (.imul, 1) := dk_104 (dk_at dksX4_borne_2 8 rfl rfl)
theorem dX4_borne_54 : decode cX4_borne 54 = .ok (.if_icmp .ge 44, 3) := dk_162 0 44 (dk_at dksX4_borne_2 9 rfl rfl)
theorem dX4_borne_57 : decode cX4_borne 57 = .ok (.aload_n 0, 1) := dk_42 (dk_at dksX4_borne_2 12 rfl rfl)
theorem dX4_borne_58 : decode cX4_borne 58 = .ok (.iload 4, 2) := dk_21 4 (dk_at dksX4_borne_2 13 rfl rfl)
theorem dX4_borne_60 : decode cX4_borne 60 = .ok (.invokevirtual 441, 3) := dk_182 1 185 (dk_at dksX4_borne_2 15 rfl rfl)
theorem dX4_borne_63 : decode cX4_borne 63 = .ok (.ifCond .ne 6, 3) := dk_154 0 6 (dk_at dksX4_borne_2 18 rfl rfl)
theorem dX4_borne_66 : decode cX4_borne 66 = .ok (.goto 26, 3) := dk_167 0 26 (dk_at dksX4_borne_2 21 rfl rfl)
theorem dX4_borne_69 : decode cX4_borne 69 = .ok (.iinc 2 1, 3) := dk_132 2 1 (dk_at dksX4_borne_3 0 rfl rfl)
theorem dX4_borne_72 : decode cX4_borne 72 = .ok (.iload_n 3, 1) := dk_29 (dk_at dksX4_borne_3 3 rfl rfl)
theorem dX4_borne_73 : decode cX4_borne 73 = .ok (.iconst (-1), 1) := dk_2 (dk_at dksX4_borne_3 4 rfl rfl)
theorem dX4_borne_74 : decode cX4_borne 74 = .ok (.if_icmp .ne 18, 3) := dk_160 0 18 (dk_at dksX4_borne_3 5 rfl rfl)
theorem dX4_borne_77 : decode cX4_borne 77 = .ok (.iload 4, 2) := dk_21 4 (dk_at dksX4_borne_3 8 rfl rfl)
theorem dX4_borne_79 : decode cX4_borne 79 = .ok (.bipush 9, 2) := dk_16 9 (dk_at dksX4_borne_3 10 rfl rfl)
theorem dX4_borne_81 : decode cX4_borne 81 = .ok (.idiv, 1) := dk_108 (dk_at dksX4_borne_3 12 rfl rfl)
theorem dX4_borne_82 : decode cX4_borne 82 = .ok (.bipush 10, 2) := dk_16 10 (dk_at dksX4_borne_3 13 rfl rfl)
theorem dX4_borne_84 : decode cX4_borne 84 = .ok (.imul, 1) := dk_104 (dk_at dksX4_borne_3 15 rfl rfl)
theorem dX4_borne_85 : decode cX4_borne 85 = .ok (.iload 4, 2) := dk_21 4 (dk_at dksX4_borne_3 16 rfl rfl)
theorem dX4_borne_87 : decode cX4_borne 87 = .ok (.bipush 9, 2) := dk_16 9 (dk_at dksX4_borne_3 18 rfl rfl)
theorem dX4_borne_89 : decode cX4_borne 89 = .ok (.irem, 1) := dk_112 (dk_at dksX4_borne_3 20 rfl rfl)
theorem dX4_borne_90 : decode cX4_borne 90 = .ok (.iadd, 1) := dk_96 (dk_at dksX4_borne_3 21 rfl rfl)
theorem dX4_borne_91 : decode cX4_borne 91 = .ok (.istore_n 3, 1) := dk_62 (dk_at dksX4_borne_3 22 rfl rfl)
theorem dX4_borne_92 : decode cX4_borne 92 = .ok (.iinc 4 1, 3) := dk_132 4 1 (dk_at dksX4_borne_4 0 rfl rfl)
theorem dX4_borne_95 : decode cX4_borne 95 = .ok (.goto (-50), 3) := dk_167 255 206 (dk_at dksX4_borne_4 3 rfl rfl)
theorem dX4_borne_98 : decode cX4_borne 98 = .ok (.iload_n 1, 1) := dk_27 (dk_at dksX4_borne_4 6 rfl rfl)
theorem dX4_borne_99 : decode cX4_borne 99 = .ok (.ifCond .ne 7, 3) := dk_154 0 7 (dk_at dksX4_borne_4 7 rfl rfl)
theorem dX4_borne_102 : decode cX4_borne 102 = .ok (.iload_n 2, 1) := dk_28 (dk_at dksX4_borne_4 10 rfl rfl)
theorem dX4_borne_103 : decode cX4_borne 103 = .ok (.goto 4, 3) := dk_167 0 4 (dk_at dksX4_borne_4 11 rfl rfl)
theorem dX4_borne_106 : decode cX4_borne 106 = .ok (.iload_n 3, 1) := dk_29 (dk_at dksX4_borne_4 14 rfl rfl)
theorem dX4_borne_107 : decode cX4_borne 107 = .ok (.ireturn, 1) := dk_172 (dk_at dksX4_borne_4 15 rfl rfl)
abbrev cX4_isHeard : ByteArray := prog_12_method_107_code
def yX4_isHeard : MethodName := ⟨RX4, "isHeard", "()Z"⟩
def dkwX4_isHeard_5 : List UInt8 := [42, 16, 34, 182, 1, 101, 132, 1, 1, 167, 255, 130, 4, 172]
abbrev dktX4_isHeard_5 : List UInt8 := dkwX4_isHeard_5 ++ []
def dkwX4_isHeard_4 : List UInt8 := [162, 0, 24, 42, 180, 0, 87, 28, 42, 180, 0, 66, 16, 62, 28, 96, 46, 79, 132, 2, 1, 167, 255, 230]
abbrev dktX4_isHeard_4 : List UInt8 := dkwX4_isHeard_4 ++ dktX4_isHeard_5
def dkwX4_isHeard_3 : List UInt8 := [159, 0, 5, 3, 172, 132, 2, 1, 167, 255, 187, 27, 16, 6, 160, 0, 34, 3, 61, 28, 42, 180, 1, 27]
abbrev dktX4_isHeard_3 : List UInt8 := dkwX4_isHeard_3 ++ dktX4_isHeard_4
def dkwX4_isHeard_2 : List UInt8 := [42, 180, 0, 84, 7, 28, 104, 4, 96, 46, 122, 4, 126, 42, 180, 0, 84, 7, 28, 104, 6, 96, 46]
abbrev dktX4_isHeard_2 : List UInt8 := dkwX4_isHeard_2 ++ dktX4_isHeard_3
def dkwX4_isHeard_1 : List UInt8 := [104, 5, 96, 46, 27, 160, 0, 47, 42, 180, 0, 66, 16, 62, 42, 180, 0, 84, 7, 28, 104, 46, 96, 46]
abbrev dktX4_isHeard_1 : List UInt8 := dkwX4_isHeard_1 ++ dktX4_isHeard_2
def dkwX4_isHeard_0 : List UInt8 := [3, 60, 27, 16, 12, 163, 0, 126, 3, 61, 28, 42, 180, 1, 43, 162, 0, 67, 42, 180, 0, 84, 7, 28]
abbrev dktX4_isHeard_0 : List UInt8 := dkwX4_isHeard_0 ++ dktX4_isHeard_1
theorem dksX4_isHeard_0 : cX4_isHeard.data.toList.drop 0 = dktX4_isHeard_0 := by decide +kernel
theorem dksX4_isHeard_1 : cX4_isHeard.data.toList.drop 24 = dktX4_isHeard_1 := dk_seg dksX4_isHeard_0 24 rfl rfl
theorem dksX4_isHeard_2 : cX4_isHeard.data.toList.drop 48 = dktX4_isHeard_2 := dk_seg dksX4_isHeard_1 24 rfl rfl
theorem dksX4_isHeard_3 : cX4_isHeard.data.toList.drop 71 = dktX4_isHeard_3 := dk_seg dksX4_isHeard_2 23 rfl rfl
theorem dksX4_isHeard_4 : cX4_isHeard.data.toList.drop 95 = dktX4_isHeard_4 := dk_seg dksX4_isHeard_3 24 rfl rfl
theorem dksX4_isHeard_5 : cX4_isHeard.data.toList.drop 119 = dktX4_isHeard_5 := dk_seg dksX4_isHeard_4 24 rfl rfl
theorem dX4_isHeard_0 : decode cX4_isHeard 0 = .ok (.iconst 0, 1) := dk_3 (dk_at dksX4_isHeard_0 0 rfl rfl)
theorem dX4_isHeard_1 : decode cX4_isHeard 1 = .ok (.istore_n 1, 1) := dk_60 (dk_at dksX4_isHeard_0 1 rfl rfl)
theorem dX4_isHeard_2 : decode cX4_isHeard 2 = .ok (.iload_n 1, 1) := dk_27 (dk_at dksX4_isHeard_0 2 rfl rfl)
theorem dX4_isHeard_3 : decode cX4_isHeard 3 = .ok (.bipush 12, 2) := dk_16 12 (dk_at dksX4_isHeard_0 3 rfl rfl)
theorem dX4_isHeard_5 : decode cX4_isHeard 5 = .ok (.if_icmp .gt 126, 3) := dk_163 0 126 (dk_at dksX4_isHeard_0 5 rfl rfl)
theorem dX4_isHeard_8 : decode cX4_isHeard 8 = .ok (.iconst 0, 1) := dk_3 (dk_at dksX4_isHeard_0 8 rfl rfl)
theorem dX4_isHeard_9 : decode cX4_isHeard 9 = .ok (.istore_n 2, 1) := dk_61 (dk_at dksX4_isHeard_0 9 rfl rfl)
theorem dX4_isHeard_10 : decode cX4_isHeard 10 = .ok (.iload_n 2, 1) := dk_28 (dk_at dksX4_isHeard_0 10 rfl rfl)
theorem dX4_isHeard_11 : decode cX4_isHeard 11 = .ok (.aload_n 0, 1) := dk_42 (dk_at dksX4_isHeard_0 11 rfl rfl)
theorem dX4_isHeard_12 : decode cX4_isHeard 12 = .ok (.getfield 299, 3) := dk_180 1 43 (dk_at dksX4_isHeard_0 12 rfl rfl)
theorem dX4_isHeard_15 : decode cX4_isHeard 15 = .ok (.if_icmp .ge 67, 3) := dk_162 0 67 (dk_at dksX4_isHeard_0 15 rfl rfl)
theorem dX4_isHeard_18 : decode cX4_isHeard 18 = .ok (.aload_n 0, 1) := dk_42 (dk_at dksX4_isHeard_0 18 rfl rfl)
theorem dX4_isHeard_19 : decode cX4_isHeard 19 = .ok (.getfield 84, 3) := dk_180 0 84 (dk_at dksX4_isHeard_0 19 rfl rfl)
theorem dX4_isHeard_22 : decode cX4_isHeard 22 = .ok (.iconst 4, 1) := dk_7 (dk_at dksX4_isHeard_0 22 rfl rfl)
theorem dX4_isHeard_23 : decode cX4_isHeard 23 = .ok (.iload_n 2, 1) := dk_28 (dk_at dksX4_isHeard_0 23 rfl rfl)
theorem dX4_isHeard_24 : decode cX4_isHeard 24 = .ok (.imul, 1) := dk_104 (dk_at dksX4_isHeard_1 0 rfl rfl)
theorem dX4_isHeard_25 : decode cX4_isHeard 25 = .ok (.iconst 2, 1) := dk_5 (dk_at dksX4_isHeard_1 1 rfl rfl)
theorem dX4_isHeard_26 : decode cX4_isHeard 26 = .ok (.iadd, 1) := dk_96 (dk_at dksX4_isHeard_1 2 rfl rfl)
theorem dX4_isHeard_27 : decode cX4_isHeard 27 = .ok (.iaload, 1) := dk_46 (dk_at dksX4_isHeard_1 3 rfl rfl)
theorem dX4_isHeard_28 : decode cX4_isHeard 28 = .ok (.iload_n 1, 1) := dk_27 (dk_at dksX4_isHeard_1 4 rfl rfl)
theorem dX4_isHeard_29 : decode cX4_isHeard 29 = .ok (.if_icmp .ne 47, 3) := dk_160 0 47 (dk_at dksX4_isHeard_1 5 rfl rfl)
theorem dX4_isHeard_32 : decode cX4_isHeard 32 = .ok (.aload_n 0, 1) := dk_42 (dk_at dksX4_isHeard_1 8 rfl rfl)
theorem dX4_isHeard_33 : decode cX4_isHeard 33 = .ok (.getfield 66, 3) := dk_180 0 66 (dk_at dksX4_isHeard_1 9 rfl rfl)
theorem dX4_isHeard_36 : decode cX4_isHeard 36 = .ok (.bipush 62, 2) := dk_16 62 (dk_at dksX4_isHeard_1 12 rfl rfl)
theorem dX4_isHeard_38 : decode cX4_isHeard 38 = .ok (.aload_n 0, 1) := dk_42 (dk_at dksX4_isHeard_1 14 rfl rfl)
theorem dX4_isHeard_39 : decode cX4_isHeard 39 = .ok (.getfield 84, 3) := dk_180 0 84 (dk_at dksX4_isHeard_1 15 rfl rfl)
theorem dX4_isHeard_42 : decode cX4_isHeard 42 = .ok (.iconst 4, 1) := dk_7 (dk_at dksX4_isHeard_1 18 rfl rfl)
theorem dX4_isHeard_43 : decode cX4_isHeard 43 = .ok (.iload_n 2, 1) := dk_28 (dk_at dksX4_isHeard_1 19 rfl rfl)
theorem dX4_isHeard_44 : decode cX4_isHeard 44 = .ok (.imul, 1) := dk_104 (dk_at dksX4_isHeard_1 20 rfl rfl)
theorem dX4_isHeard_45 : decode cX4_isHeard 45 = .ok (.iaload, 1) := dk_46 (dk_at dksX4_isHeard_1 21 rfl rfl)
theorem dX4_isHeard_46 : decode cX4_isHeard 46 = .ok (.iadd, 1) := dk_96 (dk_at dksX4_isHeard_1 22 rfl rfl)
theorem dX4_isHeard_47 : decode cX4_isHeard 47 = .ok (.iaload, 1) := dk_46 (dk_at dksX4_isHeard_1 23 rfl rfl)
theorem dX4_isHeard_48 : decode cX4_isHeard 48 = .ok (.aload_n 0, 1) := dk_42 (dk_at dksX4_isHeard_2 0 rfl rfl)
theorem dX4_isHeard_49 : decode cX4_isHeard 49 = .ok (.getfield 84, 3) := dk_180 0 84 (dk_at dksX4_isHeard_2 1 rfl rfl)
theorem dX4_isHeard_52 : decode cX4_isHeard 52 = .ok (.iconst 4, 1) := dk_7 (dk_at dksX4_isHeard_2 4 rfl rfl)
theorem dX4_isHeard_53 : decode cX4_isHeard 53 = .ok (.iload_n 2, 1) := dk_28 (dk_at dksX4_isHeard_2 5 rfl rfl)
theorem dX4_isHeard_54 : decode cX4_isHeard 54 = .ok (.imul, 1) := dk_104 (dk_at dksX4_isHeard_2 6 rfl rfl)
theorem dX4_isHeard_55 : decode cX4_isHeard 55 = .ok (.iconst 1, 1) := dk_4 (dk_at dksX4_isHeard_2 7 rfl rfl)
theorem dX4_isHeard_56 : decode cX4_isHeard 56 = .ok (.iadd, 1) := dk_96 (dk_at dksX4_isHeard_2 8 rfl rfl)
theorem dX4_isHeard_57 : decode cX4_isHeard 57 = .ok (.iaload, 1) := dk_46 (dk_at dksX4_isHeard_2 9 rfl rfl)
theorem dX4_isHeard_58 : decode cX4_isHeard 58 = .ok (.ishr, 1) := dk_122 (dk_at dksX4_isHeard_2 10 rfl rfl)
theorem dX4_isHeard_59 : decode cX4_isHeard 59 = .ok (.iconst 1, 1) := dk_4 (dk_at dksX4_isHeard_2 11 rfl rfl)
theorem dX4_isHeard_60 : decode cX4_isHeard 60 = .ok (.iand, 1) := dk_126 (dk_at dksX4_isHeard_2 12 rfl rfl)
theorem dX4_isHeard_61 : decode cX4_isHeard 61 = .ok (.aload_n 0, 1) := dk_42 (dk_at dksX4_isHeard_2 13 rfl rfl)
theorem dX4_isHeard_62 : decode cX4_isHeard 62 = .ok (.getfield 84, 3) := dk_180 0 84 (dk_at dksX4_isHeard_2 14 rfl rfl)
theorem dX4_isHeard_65 : decode cX4_isHeard 65 = .ok (.iconst 4, 1) := dk_7 (dk_at dksX4_isHeard_2 17 rfl rfl)
theorem dX4_isHeard_66 : decode cX4_isHeard 66 = .ok (.iload_n 2, 1) := dk_28 (dk_at dksX4_isHeard_2 18 rfl rfl)
theorem dX4_isHeard_67 : decode cX4_isHeard 67 = .ok (.imul, 1) := dk_104 (dk_at dksX4_isHeard_2 19 rfl rfl)
theorem dX4_isHeard_68 : decode cX4_isHeard 68 = .ok (.iconst 3, 1) := dk_6 (dk_at dksX4_isHeard_2 20 rfl rfl)
theorem dX4_isHeard_69 : decode cX4_isHeard 69 = .ok (.iadd, 1) := dk_96 (dk_at dksX4_isHeard_2 21 rfl rfl)
theorem dX4_isHeard_70 : decode cX4_isHeard 70 = .ok (.iaload, 1) := dk_46 (dk_at dksX4_isHeard_2 22 rfl rfl)
theorem dX4_isHeard_71 : decode cX4_isHeard 71 = .ok (.if_icmp .eq 5, 3) := dk_159 0 5 (dk_at dksX4_isHeard_3 0 rfl rfl)
theorem dX4_isHeard_74 : decode cX4_isHeard 74 = .ok (.iconst 0, 1) := dk_3 (dk_at dksX4_isHeard_3 3 rfl rfl)
theorem dX4_isHeard_75 : decode cX4_isHeard 75 = .ok (.ireturn, 1) := dk_172 (dk_at dksX4_isHeard_3 4 rfl rfl)
theorem dX4_isHeard_76 : decode cX4_isHeard 76 = .ok (.iinc 2 1, 3) := dk_132 2 1 (dk_at dksX4_isHeard_3 5 rfl rfl)
theorem dX4_isHeard_79 : decode cX4_isHeard 79 = .ok (.goto (-69), 3) := dk_167 255 187 (dk_at dksX4_isHeard_3 8 rfl rfl)
theorem dX4_isHeard_82 : decode cX4_isHeard 82 = .ok (.iload_n 1, 1) := dk_27 (dk_at dksX4_isHeard_3 11 rfl rfl)
theorem dX4_isHeard_83 : decode cX4_isHeard 83 = .ok (.bipush 6, 2) := dk_16 6 (dk_at dksX4_isHeard_3 12 rfl rfl)
theorem dX4_isHeard_85 : decode cX4_isHeard 85 = .ok (.if_icmp .ne 34, 3) := dk_160 0 34 (dk_at dksX4_isHeard_3 14 rfl rfl)
theorem dX4_isHeard_88 : decode cX4_isHeard 88 = .ok (.iconst 0, 1) := dk_3 (dk_at dksX4_isHeard_3 17 rfl rfl)
theorem dX4_isHeard_89 : decode cX4_isHeard 89 = .ok (.istore_n 2, 1) := dk_61 (dk_at dksX4_isHeard_3 18 rfl rfl)
theorem dX4_isHeard_90 : decode cX4_isHeard 90 = .ok (.iload_n 2, 1) := dk_28 (dk_at dksX4_isHeard_3 19 rfl rfl)
theorem dX4_isHeard_91 : decode cX4_isHeard 91 = .ok (.aload_n 0, 1) := dk_42 (dk_at dksX4_isHeard_3 20 rfl rfl)
theorem dX4_isHeard_92 : decode cX4_isHeard 92 = .ok (.getfield 283, 3) := dk_180 1 27 (dk_at dksX4_isHeard_3 21 rfl rfl)
theorem dX4_isHeard_95 : decode cX4_isHeard 95 = .ok (.if_icmp .ge 24, 3) := dk_162 0 24 (dk_at dksX4_isHeard_4 0 rfl rfl)
theorem dX4_isHeard_98 : decode cX4_isHeard 98 = .ok (.aload_n 0, 1) := dk_42 (dk_at dksX4_isHeard_4 3 rfl rfl)
theorem dX4_isHeard_99 : decode cX4_isHeard 99 = .ok (.getfield 87, 3) := dk_180 0 87 (dk_at dksX4_isHeard_4 4 rfl rfl)
theorem dX4_isHeard_102 : decode cX4_isHeard 102 = .ok (.iload_n 2, 1) := dk_28 (dk_at dksX4_isHeard_4 7 rfl rfl)
theorem dX4_isHeard_103 : decode cX4_isHeard 103 = .ok (.aload_n 0, 1) := dk_42 (dk_at dksX4_isHeard_4 8 rfl rfl)
theorem dX4_isHeard_104 : decode cX4_isHeard 104 = .ok (.getfield 66, 3) := dk_180 0 66 (dk_at dksX4_isHeard_4 9 rfl rfl)
theorem dX4_isHeard_107 : decode cX4_isHeard 107 = .ok (.bipush 62, 2) := dk_16 62 (dk_at dksX4_isHeard_4 12 rfl rfl)
theorem dX4_isHeard_109 : decode cX4_isHeard 109 = .ok (.iload_n 2, 1) := dk_28 (dk_at dksX4_isHeard_4 14 rfl rfl)
theorem dX4_isHeard_110 : decode cX4_isHeard 110 = .ok (.iadd, 1) := dk_96 (dk_at dksX4_isHeard_4 15 rfl rfl)
theorem dX4_isHeard_111 : decode cX4_isHeard 111 = .ok (.iaload, 1) := dk_46 (dk_at dksX4_isHeard_4 16 rfl rfl)
theorem dX4_isHeard_112 : decode cX4_isHeard 112 = .ok (.iastore, 1) := dk_79 (dk_at dksX4_isHeard_4 17 rfl rfl)
theorem dX4_isHeard_113 : decode cX4_isHeard 113 = .ok (.iinc 2 1, 3) := dk_132 2 1 (dk_at dksX4_isHeard_4 18 rfl rfl)
theorem dX4_isHeard_116 : decode cX4_isHeard 116 = .ok (.goto (-26), 3) := dk_167 255 230 (dk_at dksX4_isHeard_4 21 rfl rfl)
theorem dX4_isHeard_119 : decode cX4_isHeard 119 = .ok (.aload_n 0, 1) := dk_42 (dk_at dksX4_isHeard_5 0 rfl rfl)
theorem dX4_isHeard_120 : decode cX4_isHeard 120 = .ok (.bipush 34, 2) := dk_16 34 (dk_at dksX4_isHeard_5 1 rfl rfl)
theorem dX4_isHeard_122 : decode cX4_isHeard 122 = .ok (.invokevirtual 357, 3) := dk_182 1 101 (dk_at dksX4_isHeard_5 3 rfl rfl)
theorem dX4_isHeard_125 : decode cX4_isHeard 125 = .ok (.iinc 1 1, 3) := dk_132 1 1 (dk_at dksX4_isHeard_5 6 rfl rfl)
theorem dX4_isHeard_128 : decode cX4_isHeard 128 = .ok (.goto (-126), 3) := dk_167 255 130 (dk_at dksX4_isHeard_5 9 rfl rfl)
theorem dX4_isHeard_131 : decode cX4_isHeard 131 = .ok (.iconst 1, 1) := dk_4 (dk_at dksX4_isHeard_5 12 rfl rfl)
theorem dX4_isHeard_132 : decode cX4_isHeard 132 = .ok (.ireturn, 1) := dk_172 (dk_at dksX4_isHeard_5 13 rfl rfl)
abbrev cX4_isGuess : ByteArray := prog_12_method_108_code
def yX4_isGuess : MethodName := ⟨RX4, "isGuess", "(I)Z"⟩
def dkwX4_isGuess_2 : List UInt8 := [182, 1, 164, 42, 180, 0, 66, 16, 53, 29, 96, 16, 10, 28, 96, 79, 42, 182, 1, 182, 172]
abbrev dktX4_isGuess_2 : List UInt8 := dkwX4_isGuess_2 ++ []
def dkwX4_isGuess_1 : List UInt8 := [154, 0, 19, 42, 180, 0, 66, 16, 19, 29, 96, 46, 16, 10, 28, 96, 160, 0, 5, 3, 172, 42]
abbrev dktX4_isGuess_1 : List UInt8 := dkwX4_isGuess_1 ++ dktX4_isGuess_2
def dkwX4_isGuess_0 : List UInt8 := [27, 16, 9, 108, 61, 27, 16, 9, 112, 62, 29, 42, 180, 1, 24, 162, 0, 28, 42, 3, 29, 182, 1, 63]
abbrev dktX4_isGuess_0 : List UInt8 := dkwX4_isGuess_0 ++ dktX4_isGuess_1
theorem dksX4_isGuess_0 : cX4_isGuess.data.toList.drop 0 = dktX4_isGuess_0 := by decide +kernel
theorem dksX4_isGuess_1 : cX4_isGuess.data.toList.drop 24 = dktX4_isGuess_1 := dk_seg dksX4_isGuess_0 24 rfl rfl
theorem dksX4_isGuess_2 : cX4_isGuess.data.toList.drop 46 = dktX4_isGuess_2 := dk_seg dksX4_isGuess_1 22 rfl rfl
theorem dX4_isGuess_0 : decode cX4_isGuess 0 = .ok (.iload_n 1, 1) := dk_27 (dk_at dksX4_isGuess_0 0 rfl rfl)
theorem dX4_isGuess_1 : decode cX4_isGuess 1 = .ok (.bipush 9, 2) := dk_16 9 (dk_at dksX4_isGuess_0 1 rfl rfl)
theorem dX4_isGuess_3 : decode cX4_isGuess 3 = .ok (.idiv, 1) := dk_108 (dk_at dksX4_isGuess_0 3 rfl rfl)
theorem dX4_isGuess_4 : decode cX4_isGuess 4 = .ok (.istore_n 2, 1) := dk_61 (dk_at dksX4_isGuess_0 4 rfl rfl)
theorem dX4_isGuess_5 : decode cX4_isGuess 5 = .ok (.iload_n 1, 1) := dk_27 (dk_at dksX4_isGuess_0 5 rfl rfl)
theorem dX4_isGuess_6 : decode cX4_isGuess 6 = .ok (.bipush 9, 2) := dk_16 9 (dk_at dksX4_isGuess_0 6 rfl rfl)
theorem dX4_isGuess_8 : decode cX4_isGuess 8 = .ok (.irem, 1) := dk_112 (dk_at dksX4_isGuess_0 8 rfl rfl)
theorem dX4_isGuess_9 : decode cX4_isGuess 9 = .ok (.istore_n 3, 1) := dk_62 (dk_at dksX4_isGuess_0 9 rfl rfl)
theorem dX4_isGuess_10 : decode cX4_isGuess 10 = .ok (.iload_n 3, 1) := dk_29 (dk_at dksX4_isGuess_0 10 rfl rfl)
theorem dX4_isGuess_11 : decode cX4_isGuess 11 = .ok (.aload_n 0, 1) := dk_42 (dk_at dksX4_isGuess_0 11 rfl rfl)
theorem dX4_isGuess_12 : decode cX4_isGuess 12 = .ok (.getfield 280, 3) := dk_180 1 24 (dk_at dksX4_isGuess_0 12 rfl rfl)
theorem dX4_isGuess_15 : decode cX4_isGuess 15 = .ok (.if_icmp .ge 28, 3) := dk_162 0 28 (dk_at dksX4_isGuess_0 15 rfl rfl)
theorem dX4_isGuess_18 : decode cX4_isGuess 18 = .ok (.aload_n 0, 1) := dk_42 (dk_at dksX4_isGuess_0 18 rfl rfl)
theorem dX4_isGuess_19 : decode cX4_isGuess 19 = .ok (.iconst 0, 1) := dk_3 (dk_at dksX4_isGuess_0 19 rfl rfl)
theorem dX4_isGuess_20 : decode cX4_isGuess 20 = .ok (.iload_n 3, 1) := dk_29 (dk_at dksX4_isGuess_0 20 rfl rfl)
theorem dX4_isGuess_21 : decode cX4_isGuess 21 = .ok (.invokevirtual 319, 3) := dk_182 1 63 (dk_at dksX4_isGuess_0 21 rfl rfl)
theorem dX4_isGuess_24 : decode cX4_isGuess 24 = .ok (.ifCond .ne 19, 3) := dk_154 0 19 (dk_at dksX4_isGuess_1 0 rfl rfl)
theorem dX4_isGuess_27 : decode cX4_isGuess 27 = .ok (.aload_n 0, 1) := dk_42 (dk_at dksX4_isGuess_1 3 rfl rfl)
theorem dX4_isGuess_28 : decode cX4_isGuess 28 = .ok (.getfield 66, 3) := dk_180 0 66 (dk_at dksX4_isGuess_1 4 rfl rfl)
theorem dX4_isGuess_31 : decode cX4_isGuess 31 = .ok (.bipush 19, 2) := dk_16 19 (dk_at dksX4_isGuess_1 7 rfl rfl)
theorem dX4_isGuess_33 : decode cX4_isGuess 33 = .ok (.iload_n 3, 1) := dk_29 (dk_at dksX4_isGuess_1 9 rfl rfl)
theorem dX4_isGuess_34 : decode cX4_isGuess 34 = .ok (.iadd, 1) := dk_96 (dk_at dksX4_isGuess_1 10 rfl rfl)
theorem dX4_isGuess_35 : decode cX4_isGuess 35 = .ok (.iaload, 1) := dk_46 (dk_at dksX4_isGuess_1 11 rfl rfl)
theorem dX4_isGuess_36 : decode cX4_isGuess 36 = .ok (.bipush 10, 2) := dk_16 10 (dk_at dksX4_isGuess_1 12 rfl rfl)
theorem dX4_isGuess_38 : decode cX4_isGuess 38 = .ok (.iload_n 2, 1) := dk_28 (dk_at dksX4_isGuess_1 14 rfl rfl)
theorem dX4_isGuess_39 : decode cX4_isGuess 39 = .ok (.iadd, 1) := dk_96 (dk_at dksX4_isGuess_1 15 rfl rfl)
theorem dX4_isGuess_40 : decode cX4_isGuess 40 = .ok (.if_icmp .ne 5, 3) := dk_160 0 5 (dk_at dksX4_isGuess_1 16 rfl rfl)
theorem dX4_isGuess_43 : decode cX4_isGuess 43 = .ok (.iconst 0, 1) := dk_3 (dk_at dksX4_isGuess_1 19 rfl rfl)
theorem dX4_isGuess_44 : decode cX4_isGuess 44 = .ok (.ireturn, 1) := dk_172 (dk_at dksX4_isGuess_1 20 rfl rfl)
theorem dX4_isGuess_45 : decode cX4_isGuess 45 = .ok (.aload_n 0, 1) := dk_42 (dk_at dksX4_isGuess_1 21 rfl rfl)
theorem dX4_isGuess_46 : decode cX4_isGuess 46 = .ok (.invokevirtual 420, 3) := dk_182 1 164 (dk_at dksX4_isGuess_2 0 rfl rfl)
theorem dX4_isGuess_49 : decode cX4_isGuess 49 = .ok (.aload_n 0, 1) := dk_42 (dk_at dksX4_isGuess_2 3 rfl rfl)
theorem dX4_isGuess_50 : decode cX4_isGuess 50 = .ok (.getfield 66, 3) := dk_180 0 66 (dk_at dksX4_isGuess_2 4 rfl rfl)
theorem dX4_isGuess_53 : decode cX4_isGuess 53 = .ok (.bipush 53, 2) := dk_16 53 (dk_at dksX4_isGuess_2 7 rfl rfl)
theorem dX4_isGuess_55 : decode cX4_isGuess 55 = .ok (.iload_n 3, 1) := dk_29 (dk_at dksX4_isGuess_2 9 rfl rfl)
theorem dX4_isGuess_56 : decode cX4_isGuess 56 = .ok (.iadd, 1) := dk_96 (dk_at dksX4_isGuess_2 10 rfl rfl)
theorem dX4_isGuess_57 : decode cX4_isGuess 57 = .ok (.bipush 10, 2) := dk_16 10 (dk_at dksX4_isGuess_2 11 rfl rfl)
theorem dX4_isGuess_59 : decode cX4_isGuess 59 = .ok (.iload_n 2, 1) := dk_28 (dk_at dksX4_isGuess_2 13 rfl rfl)
theorem dX4_isGuess_60 : decode cX4_isGuess 60 = .ok (.iadd, 1) := dk_96 (dk_at dksX4_isGuess_2 14 rfl rfl)
theorem dX4_isGuess_61 : decode cX4_isGuess 61 = .ok (.iastore, 1) := dk_79 (dk_at dksX4_isGuess_2 15 rfl rfl)
theorem dX4_isGuess_62 : decode cX4_isGuess 62 = .ok (.aload_n 0, 1) := dk_42 (dk_at dksX4_isGuess_2 16 rfl rfl)
theorem dX4_isGuess_63 : decode cX4_isGuess 63 = .ok (.invokevirtual 438, 3) := dk_182 1 182 (dk_at dksX4_isGuess_2 17 rfl rfl)
theorem dX4_isGuess_66 : decode cX4_isGuess 66 = .ok (.ireturn, 1) := dk_172 (dk_at dksX4_isGuess_2 20 rfl rfl)
abbrev cX4_ask : ByteArray := prog_12_method_110_code
def yX4_ask : MethodName := ⟨RX4, "ask", "(I)I"⟩
def dkwX4_ask_9 : List UInt8 := [132, 5, 1, 167, 255, 134, 27, 154, 0, 7, 29, 167, 0, 5, 21, 4, 172]
abbrev dktX4_ask_9 : List UInt8 := dkwX4_ask_9 ++ []
def dkwX4_ask_8 : List UInt8 := [132, 7, 1, 167, 255, 172, 21, 6, 21, 4, 163, 0, 6, 167, 0, 10, 21, 5, 62, 21, 6, 54, 4]
abbrev dktX4_ask_8 : List UInt8 := dkwX4_ask_8 ++ dktX4_ask_9
def dkwX4_ask_7 : List UInt8 := [3, 54, 8, 132, 9, 1, 167, 255, 205, 21, 6, 21, 8, 153, 0, 7, 4, 167, 0, 4, 3, 96, 54, 6]
abbrev dktX4_ask_7 : List UInt8 := dkwX4_ask_7 ++ dktX4_ask_8
def dkwX4_ask_6 : List UInt8 := [21, 5, 96, 46, 42, 180, 0, 90, 16, 6, 21, 9, 104, 21, 5, 96, 46, 159, 0, 7, 4, 167, 0, 4]
abbrev dktX4_ask_6 : List UInt8 := dkwX4_ask_6 ++ dktX4_ask_7
def dkwX4_ask_5 : List UInt8 := [3, 54, 9, 21, 9, 21, 7, 162, 0, 50, 21, 8, 153, 0, 45, 42, 180, 0, 90, 16, 6, 21, 7, 104]
abbrev dktX4_ask_5 : List UInt8 := dkwX4_ask_5 ++ dktX4_ask_6
def dkwX4_ask_4 : List UInt8 := [21, 5, 42, 180, 1, 27, 162, 0, 119, 3, 54, 6, 3, 54, 7, 21, 7, 28, 162, 0, 84, 4, 54, 8]
abbrev dktX4_ask_4 : List UInt8 := dkwX4_ask_4 ++ dktX4_ask_5
def dkwX4_ask_3 : List UInt8 := [79, 132, 4, 1, 167, 255, 225, 132, 2, 1, 132, 3, 1, 167, 255, 191, 2, 62, 3, 54, 4, 3, 54, 5]
abbrev dktX4_ask_3 : List UInt8 := dkwX4_ask_3 ++ dktX4_ask_4
def dkwX4_ask_2 : List UInt8 := [180, 1, 27, 162, 0, 28, 42, 180, 0, 90, 16, 6, 28, 104, 21, 4, 96, 42, 180, 0, 87, 21, 4, 46]
abbrev dktX4_ask_2 : List UInt8 := dkwX4_ask_2 ++ dktX4_ask_3
def dkwX4_ask_1 : List UInt8 := [180, 1, 27, 104, 162, 0, 60, 42, 29, 182, 1, 185, 154, 0, 6, 167, 0, 43, 3, 54, 4, 21, 4, 42]
abbrev dktX4_ask_1 : List UInt8 := dkwX4_ask_1 ++ dktX4_ask_2
def dkwX4_ask_0 : List UInt8 := [42, 3, 181, 0, 102, 42, 27, 4, 182, 1, 125, 154, 0, 5, 3, 172, 3, 61, 3, 62, 29, 16, 9, 42]
abbrev dktX4_ask_0 : List UInt8 := dkwX4_ask_0 ++ dktX4_ask_1
theorem dksX4_ask_0 : cX4_ask.data.toList.drop 0 = dktX4_ask_0 := by decide +kernel
theorem dksX4_ask_1 : cX4_ask.data.toList.drop 24 = dktX4_ask_1 := dk_seg dksX4_ask_0 24 rfl rfl
theorem dksX4_ask_2 : cX4_ask.data.toList.drop 48 = dktX4_ask_2 := dk_seg dksX4_ask_1 24 rfl rfl
theorem dksX4_ask_3 : cX4_ask.data.toList.drop 72 = dktX4_ask_3 := dk_seg dksX4_ask_2 24 rfl rfl
theorem dksX4_ask_4 : cX4_ask.data.toList.drop 96 = dktX4_ask_4 := dk_seg dksX4_ask_3 24 rfl rfl
theorem dksX4_ask_5 : cX4_ask.data.toList.drop 120 = dktX4_ask_5 := dk_seg dksX4_ask_4 24 rfl rfl
theorem dksX4_ask_6 : cX4_ask.data.toList.drop 144 = dktX4_ask_6 := dk_seg dksX4_ask_5 24 rfl rfl
theorem dksX4_ask_7 : cX4_ask.data.toList.drop 168 = dktX4_ask_7 := dk_seg dksX4_ask_6 24 rfl rfl
theorem dksX4_ask_8 : cX4_ask.data.toList.drop 192 = dktX4_ask_8 := dk_seg dksX4_ask_7 24 rfl rfl
theorem dksX4_ask_9 : cX4_ask.data.toList.drop 215 = dktX4_ask_9 := dk_seg dksX4_ask_8 23 rfl rfl
theorem dX4_ask_0 : decode cX4_ask 0 = .ok (.aload_n 0, 1) := dk_42 (dk_at dksX4_ask_0 0 rfl rfl)
theorem dX4_ask_1 : decode cX4_ask 1 = .ok (.iconst 0, 1) := dk_3 (dk_at dksX4_ask_0 1 rfl rfl)
theorem dX4_ask_2 : decode cX4_ask 2 = .ok (.putfield 102, 3) := dk_181 0 102 (dk_at dksX4_ask_0 2 rfl rfl)
theorem dX4_ask_5 : decode cX4_ask 5 = .ok (.aload_n 0, 1) := dk_42 (dk_at dksX4_ask_0 5 rfl rfl)
theorem dX4_ask_6 : decode cX4_ask 6 = .ok (.iload_n 1, 1) := dk_27 (dk_at dksX4_ask_0 6 rfl rfl)
theorem dX4_ask_7 : decode cX4_ask 7 = .ok (.iconst 1, 1) := dk_4 (dk_at dksX4_ask_0 7 rfl rfl)
theorem dX4_ask_8 : decode cX4_ask 8 = .ok (.invokevirtual 381, 3) := dk_182 1 125 (dk_at dksX4_ask_0 8 rfl rfl)
theorem dX4_ask_11 : decode cX4_ask 11 = .ok (.ifCond .ne 5, 3) := dk_154 0 5 (dk_at dksX4_ask_0 11 rfl rfl)
theorem dX4_ask_14 : decode cX4_ask 14 = .ok (.iconst 0, 1) := dk_3 (dk_at dksX4_ask_0 14 rfl rfl)
theorem dX4_ask_15 : decode cX4_ask 15 = .ok (.ireturn, 1) := dk_172 (dk_at dksX4_ask_0 15 rfl rfl)
theorem dX4_ask_16 : decode cX4_ask 16 = .ok (.iconst 0, 1) := dk_3 (dk_at dksX4_ask_0 16 rfl rfl)
theorem dX4_ask_17 : decode cX4_ask 17 = .ok (.istore_n 2, 1) := dk_61 (dk_at dksX4_ask_0 17 rfl rfl)
theorem dX4_ask_18 : decode cX4_ask 18 = .ok (.iconst 0, 1) := dk_3 (dk_at dksX4_ask_0 18 rfl rfl)
theorem dX4_ask_19 : decode cX4_ask 19 = .ok (.istore_n 3, 1) := dk_62 (dk_at dksX4_ask_0 19 rfl rfl)
theorem dX4_ask_20 : decode cX4_ask 20 = .ok (.iload_n 3, 1) := dk_29 (dk_at dksX4_ask_0 20 rfl rfl)
theorem dX4_ask_21 : decode cX4_ask 21 = .ok (.bipush 9, 2) := dk_16 9 (dk_at dksX4_ask_0 21 rfl rfl)
theorem dX4_ask_23 : decode cX4_ask 23 = .ok (.aload_n 0, 1) := dk_42 (dk_at dksX4_ask_0 23 rfl rfl)
theorem dX4_ask_24 : decode cX4_ask 24 = .ok (.getfield 283, 3) := dk_180 1 27 (dk_at dksX4_ask_1 0 rfl rfl)
theorem dX4_ask_27 : decode cX4_ask 27 = .ok (.imul, 1) := dk_104 (dk_at dksX4_ask_1 3 rfl rfl)
theorem dX4_ask_28 : decode cX4_ask 28 = .ok (.if_icmp .ge 60, 3) := dk_162 0 60 (dk_at dksX4_ask_1 4 rfl rfl)
theorem dX4_ask_31 : decode cX4_ask 31 = .ok (.aload_n 0, 1) := dk_42 (dk_at dksX4_ask_1 7 rfl rfl)
theorem dX4_ask_32 : decode cX4_ask 32 = .ok (.iload_n 3, 1) := dk_29 (dk_at dksX4_ask_1 8 rfl rfl)
theorem dX4_ask_33 : decode cX4_ask 33 = .ok (.invokevirtual 441, 3) := dk_182 1 185 (dk_at dksX4_ask_1 9 rfl rfl)
theorem dX4_ask_36 : decode cX4_ask 36 = .ok (.ifCond .ne 6, 3) := dk_154 0 6 (dk_at dksX4_ask_1 12 rfl rfl)
theorem dX4_ask_39 : decode cX4_ask 39 = .ok (.goto 43, 3) := dk_167 0 43 (dk_at dksX4_ask_1 15 rfl rfl)
theorem dX4_ask_42 : decode cX4_ask 42 = .ok (.iconst 0, 1) := dk_3 (dk_at dksX4_ask_1 18 rfl rfl)
theorem dX4_ask_43 : decode cX4_ask 43 = .ok (.istore 4, 2) := dk_54 4 (dk_at dksX4_ask_1 19 rfl rfl)
theorem dX4_ask_45 : decode cX4_ask 45 = .ok (.iload 4, 2) := dk_21 4 (dk_at dksX4_ask_1 21 rfl rfl)
theorem dX4_ask_47 : decode cX4_ask 47 = .ok (.aload_n 0, 1) := dk_42 (dk_at dksX4_ask_1 23 rfl rfl)
theorem dX4_ask_48 : decode cX4_ask 48 = .ok (.getfield 283, 3) := dk_180 1 27 (dk_at dksX4_ask_2 0 rfl rfl)
theorem dX4_ask_51 : decode cX4_ask 51 = .ok (.if_icmp .ge 28, 3) := dk_162 0 28 (dk_at dksX4_ask_2 3 rfl rfl)
theorem dX4_ask_54 : decode cX4_ask 54 = .ok (.aload_n 0, 1) := dk_42 (dk_at dksX4_ask_2 6 rfl rfl)
theorem dX4_ask_55 : decode cX4_ask 55 = .ok (.getfield 90, 3) := dk_180 0 90 (dk_at dksX4_ask_2 7 rfl rfl)
theorem dX4_ask_58 : decode cX4_ask 58 = .ok (.bipush 6, 2) := dk_16 6 (dk_at dksX4_ask_2 10 rfl rfl)
theorem dX4_ask_60 : decode cX4_ask 60 = .ok (.iload_n 2, 1) := dk_28 (dk_at dksX4_ask_2 12 rfl rfl)
theorem dX4_ask_61 : decode cX4_ask 61 = .ok (.imul, 1) := dk_104 (dk_at dksX4_ask_2 13 rfl rfl)
theorem dX4_ask_62 : decode cX4_ask 62 = .ok (.iload 4, 2) := dk_21 4 (dk_at dksX4_ask_2 14 rfl rfl)
theorem dX4_ask_64 : decode cX4_ask 64 = .ok (.iadd, 1) := dk_96 (dk_at dksX4_ask_2 16 rfl rfl)
theorem dX4_ask_65 : decode cX4_ask 65 = .ok (.aload_n 0, 1) := dk_42 (dk_at dksX4_ask_2 17 rfl rfl)
theorem dX4_ask_66 : decode cX4_ask 66 = .ok (.getfield 87, 3) := dk_180 0 87 (dk_at dksX4_ask_2 18 rfl rfl)
theorem dX4_ask_69 : decode cX4_ask 69 = .ok (.iload 4, 2) := dk_21 4 (dk_at dksX4_ask_2 21 rfl rfl)
theorem dX4_ask_71 : decode cX4_ask 71 = .ok (.iaload, 1) := dk_46 (dk_at dksX4_ask_2 23 rfl rfl)
theorem dX4_ask_72 : decode cX4_ask 72 = .ok (.iastore, 1) := dk_79 (dk_at dksX4_ask_3 0 rfl rfl)
theorem dX4_ask_73 : decode cX4_ask 73 = .ok (.iinc 4 1, 3) := dk_132 4 1 (dk_at dksX4_ask_3 1 rfl rfl)
theorem dX4_ask_76 : decode cX4_ask 76 = .ok (.goto (-31), 3) := dk_167 255 225 (dk_at dksX4_ask_3 4 rfl rfl)
theorem dX4_ask_79 : decode cX4_ask 79 = .ok (.iinc 2 1, 3) := dk_132 2 1 (dk_at dksX4_ask_3 7 rfl rfl)
theorem dX4_ask_82 : decode cX4_ask 82 = .ok (.iinc 3 1, 3) := dk_132 3 1 (dk_at dksX4_ask_3 10 rfl rfl)
theorem dX4_ask_85 : decode cX4_ask 85 = .ok (.goto (-65), 3) := dk_167 255 191 (dk_at dksX4_ask_3 13 rfl rfl)
theorem dX4_ask_88 : decode cX4_ask 88 = .ok (.iconst (-1), 1) := dk_2 (dk_at dksX4_ask_3 16 rfl rfl)
theorem dX4_ask_89 : decode cX4_ask 89 = .ok (.istore_n 3, 1) := dk_62 (dk_at dksX4_ask_3 17 rfl rfl)
theorem dX4_ask_90 : decode cX4_ask 90 = .ok (.iconst 0, 1) := dk_3 (dk_at dksX4_ask_3 18 rfl rfl)
theorem dX4_ask_91 : decode cX4_ask 91 = .ok (.istore 4, 2) := dk_54 4 (dk_at dksX4_ask_3 19 rfl rfl)
theorem dX4_ask_93 : decode cX4_ask 93 = .ok (.iconst 0, 1) := dk_3 (dk_at dksX4_ask_3 21 rfl rfl)
theorem dX4_ask_94 : decode cX4_ask 94 = .ok (.istore 5, 2) := dk_54 5 (dk_at dksX4_ask_3 22 rfl rfl)
theorem dX4_ask_96 : decode cX4_ask 96 = .ok (.iload 5, 2) := dk_21 5 (dk_at dksX4_ask_4 0 rfl rfl)
theorem dX4_ask_98 : decode cX4_ask 98 = .ok (.aload_n 0, 1) := dk_42 (dk_at dksX4_ask_4 2 rfl rfl)
theorem dX4_ask_99 : decode cX4_ask 99 = .ok (.getfield 283, 3) := dk_180 1 27 (dk_at dksX4_ask_4 3 rfl rfl)
theorem dX4_ask_102 : decode cX4_ask 102 = .ok (.if_icmp .ge 119, 3) := dk_162 0 119 (dk_at dksX4_ask_4 6 rfl rfl)
theorem dX4_ask_105 : decode cX4_ask 105 = .ok (.iconst 0, 1) := dk_3 (dk_at dksX4_ask_4 9 rfl rfl)
theorem dX4_ask_106 : decode cX4_ask 106 = .ok (.istore 6, 2) := dk_54 6 (dk_at dksX4_ask_4 10 rfl rfl)
theorem dX4_ask_108 : decode cX4_ask 108 = .ok (.iconst 0, 1) := dk_3 (dk_at dksX4_ask_4 12 rfl rfl)
theorem dX4_ask_109 : decode cX4_ask 109 = .ok (.istore 7, 2) := dk_54 7 (dk_at dksX4_ask_4 13 rfl rfl)
theorem dX4_ask_111 : decode cX4_ask 111 = .ok (.iload 7, 2) := dk_21 7 (dk_at dksX4_ask_4 15 rfl rfl)
theorem dX4_ask_113 : decode cX4_ask 113 = .ok (.iload_n 2, 1) := dk_28 (dk_at dksX4_ask_4 17 rfl rfl)
theorem dX4_ask_114 : decode cX4_ask 114 = .ok (.if_icmp .ge 84, 3) := dk_162 0 84 (dk_at dksX4_ask_4 18 rfl rfl)
theorem dX4_ask_117 : decode cX4_ask 117 = .ok (.iconst 1, 1) := dk_4 (dk_at dksX4_ask_4 21 rfl rfl)
theorem dX4_ask_118 : decode cX4_ask 118 = .ok (.istore 8, 2) := dk_54 8 (dk_at dksX4_ask_4 22 rfl rfl)
theorem dX4_ask_120 : decode cX4_ask 120 = .ok (.iconst 0, 1) := dk_3 (dk_at dksX4_ask_5 0 rfl rfl)
theorem dX4_ask_121 : decode cX4_ask 121 = .ok (.istore 9, 2) := dk_54 9 (dk_at dksX4_ask_5 1 rfl rfl)
theorem dX4_ask_123 : decode cX4_ask 123 = .ok (.iload 9, 2) := dk_21 9 (dk_at dksX4_ask_5 3 rfl rfl)
theorem dX4_ask_125 : decode cX4_ask 125 = .ok (.iload 7, 2) := dk_21 7 (dk_at dksX4_ask_5 5 rfl rfl)
theorem dX4_ask_127 : decode cX4_ask 127 = .ok (.if_icmp .ge 50, 3) := dk_162 0 50 (dk_at dksX4_ask_5 7 rfl rfl)
theorem dX4_ask_130 : decode cX4_ask 130 = .ok (.iload 8, 2) := dk_21 8 (dk_at dksX4_ask_5 10 rfl rfl)
theorem dX4_ask_132 : decode cX4_ask 132 = .ok (.ifCond .eq 45, 3) := dk_153 0 45 (dk_at dksX4_ask_5 12 rfl rfl)
theorem dX4_ask_135 : decode cX4_ask 135 = .ok (.aload_n 0, 1) := dk_42 (dk_at dksX4_ask_5 15 rfl rfl)
theorem dX4_ask_136 : decode cX4_ask 136 = .ok (.getfield 90, 3) := dk_180 0 90 (dk_at dksX4_ask_5 16 rfl rfl)
theorem dX4_ask_139 : decode cX4_ask 139 = .ok (.bipush 6, 2) := dk_16 6 (dk_at dksX4_ask_5 19 rfl rfl)
theorem dX4_ask_141 : decode cX4_ask 141 = .ok (.iload 7, 2) := dk_21 7 (dk_at dksX4_ask_5 21 rfl rfl)
theorem dX4_ask_143 : decode cX4_ask 143 = .ok (.imul, 1) := dk_104 (dk_at dksX4_ask_5 23 rfl rfl)
theorem dX4_ask_144 : decode cX4_ask 144 = .ok (.iload 5, 2) := dk_21 5 (dk_at dksX4_ask_6 0 rfl rfl)
theorem dX4_ask_146 : decode cX4_ask 146 = .ok (.iadd, 1) := dk_96 (dk_at dksX4_ask_6 2 rfl rfl)
theorem dX4_ask_147 : decode cX4_ask 147 = .ok (.iaload, 1) := dk_46 (dk_at dksX4_ask_6 3 rfl rfl)
theorem dX4_ask_148 : decode cX4_ask 148 = .ok (.aload_n 0, 1) := dk_42 (dk_at dksX4_ask_6 4 rfl rfl)
theorem dX4_ask_149 : decode cX4_ask 149 = .ok (.getfield 90, 3) := dk_180 0 90 (dk_at dksX4_ask_6 5 rfl rfl)
theorem dX4_ask_152 : decode cX4_ask 152 = .ok (.bipush 6, 2) := dk_16 6 (dk_at dksX4_ask_6 8 rfl rfl)
theorem dX4_ask_154 : decode cX4_ask 154 = .ok (.iload 9, 2) := dk_21 9 (dk_at dksX4_ask_6 10 rfl rfl)
theorem dX4_ask_156 : decode cX4_ask 156 = .ok (.imul, 1) := dk_104 (dk_at dksX4_ask_6 12 rfl rfl)
theorem dX4_ask_157 : decode cX4_ask 157 = .ok (.iload 5, 2) := dk_21 5 (dk_at dksX4_ask_6 13 rfl rfl)
theorem dX4_ask_159 : decode cX4_ask 159 = .ok (.iadd, 1) := dk_96 (dk_at dksX4_ask_6 15 rfl rfl)
theorem dX4_ask_160 : decode cX4_ask 160 = .ok (.iaload, 1) := dk_46 (dk_at dksX4_ask_6 16 rfl rfl)
theorem dX4_ask_161 : decode cX4_ask 161 = .ok (.if_icmp .eq 7, 3) := dk_159 0 7 (dk_at dksX4_ask_6 17 rfl rfl)
theorem dX4_ask_164 : decode cX4_ask 164 = .ok (.iconst 1, 1) := dk_4 (dk_at dksX4_ask_6 20 rfl rfl)
theorem dX4_ask_165 : decode cX4_ask 165 = .ok (.goto 4, 3) := dk_167 0 4 (dk_at dksX4_ask_6 21 rfl rfl)
theorem dX4_ask_168 : decode cX4_ask 168 = .ok (.iconst 0, 1) := dk_3 (dk_at dksX4_ask_7 0 rfl rfl)
theorem dX4_ask_169 : decode cX4_ask 169 = .ok (.istore 8, 2) := dk_54 8 (dk_at dksX4_ask_7 1 rfl rfl)
theorem dX4_ask_171 : decode cX4_ask 171 = .ok (.iinc 9 1, 3) := dk_132 9 1 (dk_at dksX4_ask_7 3 rfl rfl)
theorem dX4_ask_174 : decode cX4_ask 174 = .ok (.goto (-51), 3) := dk_167 255 205 (dk_at dksX4_ask_7 6 rfl rfl)
theorem dX4_ask_177 : decode cX4_ask 177 = .ok (.iload 6, 2) := dk_21 6 (dk_at dksX4_ask_7 9 rfl rfl)
theorem dX4_ask_179 : decode cX4_ask 179 = .ok (.iload 8, 2) := dk_21 8 (dk_at dksX4_ask_7 11 rfl rfl)
theorem dX4_ask_181 : decode cX4_ask 181 = .ok (.ifCond .eq 7, 3) := dk_153 0 7 (dk_at dksX4_ask_7 13 rfl rfl)
theorem dX4_ask_184 : decode cX4_ask 184 = .ok (.iconst 1, 1) := dk_4 (dk_at dksX4_ask_7 16 rfl rfl)
theorem dX4_ask_185 : decode cX4_ask 185 = .ok (.goto 4, 3) := dk_167 0 4 (dk_at dksX4_ask_7 17 rfl rfl)
theorem dX4_ask_188 : decode cX4_ask 188 = .ok (.iconst 0, 1) := dk_3 (dk_at dksX4_ask_7 20 rfl rfl)
theorem dX4_ask_189 : decode cX4_ask 189 = .ok (.iadd, 1) := dk_96 (dk_at dksX4_ask_7 21 rfl rfl)
theorem dX4_ask_190 : decode cX4_ask 190 = .ok (.istore 6, 2) := dk_54 6 (dk_at dksX4_ask_7 22 rfl rfl)
theorem dX4_ask_192 : decode cX4_ask 192 = .ok (.iinc 7 1, 3) := dk_132 7 1 (dk_at dksX4_ask_8 0 rfl rfl)
theorem dX4_ask_195 : decode cX4_ask 195 = .ok (.goto (-84), 3) := dk_167 255 172 (dk_at dksX4_ask_8 3 rfl rfl)
theorem dX4_ask_198 : decode cX4_ask 198 = .ok (.iload 6, 2) := dk_21 6 (dk_at dksX4_ask_8 6 rfl rfl)
theorem dX4_ask_200 : decode cX4_ask 200 = .ok (.iload 4, 2) := dk_21 4 (dk_at dksX4_ask_8 8 rfl rfl)
theorem dX4_ask_202 : decode cX4_ask 202 = .ok (.if_icmp .gt 6, 3) := dk_163 0 6 (dk_at dksX4_ask_8 10 rfl rfl)
theorem dX4_ask_205 : decode cX4_ask 205 = .ok (.goto 10, 3) := dk_167 0 10 (dk_at dksX4_ask_8 13 rfl rfl)
theorem dX4_ask_208 : decode cX4_ask 208 = .ok (.iload 5, 2) := dk_21 5 (dk_at dksX4_ask_8 16 rfl rfl)
theorem dX4_ask_210 : decode cX4_ask 210 = .ok (.istore_n 3, 1) := dk_62 (dk_at dksX4_ask_8 18 rfl rfl)
theorem dX4_ask_211 : decode cX4_ask 211 = .ok (.iload 6, 2) := dk_21 6 (dk_at dksX4_ask_8 19 rfl rfl)
theorem dX4_ask_213 : decode cX4_ask 213 = .ok (.istore 4, 2) := dk_54 4 (dk_at dksX4_ask_8 21 rfl rfl)
theorem dX4_ask_215 : decode cX4_ask 215 = .ok (.iinc 5 1, 3) := dk_132 5 1 (dk_at dksX4_ask_9 0 rfl rfl)
theorem dX4_ask_218 : decode cX4_ask 218 = .ok (.goto (-122), 3) := dk_167 255 134 (dk_at dksX4_ask_9 3 rfl rfl)
theorem dX4_ask_221 : decode cX4_ask 221 = .ok (.iload_n 1, 1) := dk_27 (dk_at dksX4_ask_9 6 rfl rfl)
theorem dX4_ask_222 : decode cX4_ask 222 = .ok (.ifCond .ne 7, 3) := dk_154 0 7 (dk_at dksX4_ask_9 7 rfl rfl)
theorem dX4_ask_225 : decode cX4_ask 225 = .ok (.iload_n 3, 1) := dk_29 (dk_at dksX4_ask_9 10 rfl rfl)
theorem dX4_ask_226 : decode cX4_ask 226 = .ok (.goto 5, 3) := dk_167 0 5 (dk_at dksX4_ask_9 11 rfl rfl)
theorem dX4_ask_229 : decode cX4_ask 229 = .ok (.iload 4, 2) := dk_21 4 (dk_at dksX4_ask_9 14 rfl rfl)
theorem dX4_ask_231 : decode cX4_ask 231 = .ok (.ireturn, 1) := dk_172 (dk_at dksX4_ask_9 16 rfl rfl)
abbrev cX4_fires : ByteArray := prog_12_method_111_code
def yX4_fires : MethodName := ⟨RX4, "fires", "(II)I"⟩
def dkwX4_fires_6 : List UInt8 := [4, 160, 0, 8, 21, 5, 167, 0, 4, 3, 96, 62, 132, 4, 1, 167, 255, 146, 29, 172]
abbrev dktX4_fires_6 : List UInt8 := dkwX4_fires_6 ++ []
def dkwX4_fires_5 : List UInt8 := [167, 0, 4, 3, 128, 54, 6, 132, 7, 1, 167, 255, 191, 29, 42, 21, 6, 182, 1, 152, 27, 122, 4, 126]
abbrev dktX4_fires_5 : List UInt8 := dkwX4_fires_5 ++ dktX4_fires_6
def dkwX4_fires_4 : List UInt8 := [167, 0, 7, 16, 10, 28, 100, 104, 54, 5, 21, 6, 21, 8, 153, 0, 12, 42, 21, 7, 182, 1, 149]
abbrev dktX4_fires_4 : List UInt8 := dkwX4_fires_4 ++ dktX4_fires_5
def dkwX4_fires_3 : List UInt8 := [21, 7, 122, 4, 126, 4, 160, 0, 7, 4, 167, 0, 4, 3, 54, 8, 21, 5, 21, 8, 153, 0, 7, 28]
abbrev dktX4_fires_3 : List UInt8 := dkwX4_fires_3 ++ dktX4_fires_4
def dkwX4_fires_2 : List UInt8 := [21, 4, 16, 16, 162, 0, 109, 4, 54, 5, 3, 54, 6, 3, 54, 7, 21, 7, 7, 162, 0, 65, 21, 4]
abbrev dktX4_fires_2 : List UInt8 := dkwX4_fires_2 ++ dktX4_fires_3
def dkwX4_fires_1 : List UInt8 := [182, 1, 17, 154, 0, 5, 3, 172, 42, 27, 182, 1, 143, 154, 0, 5, 2, 172, 3, 62, 3, 54, 4]
abbrev dktX4_fires_1 : List UInt8 := dkwX4_fires_1 ++ dktX4_fires_2
def dkwX4_fires_0 : List UInt8 := [42, 3, 181, 0, 102, 42, 27, 182, 1, 134, 153, 0, 18, 42, 28, 3, 16, 10, 184, 1, 107, 5]
abbrev dktX4_fires_0 : List UInt8 := dkwX4_fires_0 ++ dktX4_fires_1
theorem dksX4_fires_0 : cX4_fires.data.toList.drop 0 = dktX4_fires_0 := by decide +kernel
theorem dksX4_fires_1 : cX4_fires.data.toList.drop 22 = dktX4_fires_1 := dk_seg dksX4_fires_0 22 rfl rfl
theorem dksX4_fires_2 : cX4_fires.data.toList.drop 45 = dktX4_fires_2 := dk_seg dksX4_fires_1 23 rfl rfl
theorem dksX4_fires_3 : cX4_fires.data.toList.drop 69 = dktX4_fires_3 := dk_seg dksX4_fires_2 24 rfl rfl
theorem dksX4_fires_4 : cX4_fires.data.toList.drop 93 = dktX4_fires_4 := dk_seg dksX4_fires_3 24 rfl rfl
theorem dksX4_fires_5 : cX4_fires.data.toList.drop 116 = dktX4_fires_5 := dk_seg dksX4_fires_4 23 rfl rfl
theorem dksX4_fires_6 : cX4_fires.data.toList.drop 140 = dktX4_fires_6 := dk_seg dksX4_fires_5 24 rfl rfl
theorem dX4_fires_0 : decode cX4_fires 0 = .ok (.aload_n 0, 1) := dk_42 (dk_at dksX4_fires_0 0 rfl rfl)
theorem dX4_fires_1 : decode cX4_fires 1 = .ok (.iconst 0, 1) := dk_3 (dk_at dksX4_fires_0 1 rfl rfl)
theorem dX4_fires_2 : decode cX4_fires 2 = .ok (.putfield 102, 3) := dk_181 0 102 (dk_at dksX4_fires_0 2 rfl rfl)
theorem dX4_fires_5 : decode cX4_fires 5 = .ok (.aload_n 0, 1) := dk_42 (dk_at dksX4_fires_0 5 rfl rfl)
theorem dX4_fires_6 : decode cX4_fires 6 = .ok (.iload_n 1, 1) := dk_27 (dk_at dksX4_fires_0 6 rfl rfl)
theorem dX4_fires_7 : decode cX4_fires 7 = .ok (.invokevirtual 390, 3) := dk_182 1 134 (dk_at dksX4_fires_0 7 rfl rfl)
theorem dX4_fires_10 : decode cX4_fires 10 = .ok (.ifCond .eq 18, 3) := dk_153 0 18 (dk_at dksX4_fires_0 10 rfl rfl)
theorem dX4_fires_13 : decode cX4_fires 13 = .ok (.aload_n 0, 1) := dk_42 (dk_at dksX4_fires_0 13 rfl rfl)
theorem dX4_fires_14 : decode cX4_fires 14 = .ok (.iload_n 2, 1) := dk_28 (dk_at dksX4_fires_0 14 rfl rfl)
theorem dX4_fires_15 : decode cX4_fires 15 = .ok (.iconst 0, 1) := dk_3 (dk_at dksX4_fires_0 15 rfl rfl)
theorem dX4_fires_16 : decode cX4_fires 16 = .ok (.bipush 10, 2) := dk_16 10 (dk_at dksX4_fires_0 16 rfl rfl)
theorem dX4_fires_18 : decode cX4_fires 18 = .ok (.invokestatic 363, 3) := dk_184 1 107 (dk_at dksX4_fires_0 18 rfl rfl)
theorem dX4_fires_21 : decode cX4_fires 21 = .ok (.iconst 2, 1) := dk_5 (dk_at dksX4_fires_0 21 rfl rfl)
theorem dX4_fires_22 : decode cX4_fires 22 = .ok (.invokevirtual 273, 3) := dk_182 1 17 (dk_at dksX4_fires_1 0 rfl rfl)
theorem dX4_fires_25 : decode cX4_fires 25 = .ok (.ifCond .ne 5, 3) := dk_154 0 5 (dk_at dksX4_fires_1 3 rfl rfl)
theorem dX4_fires_28 : decode cX4_fires 28 = .ok (.iconst 0, 1) := dk_3 (dk_at dksX4_fires_1 6 rfl rfl)
theorem dX4_fires_29 : decode cX4_fires 29 = .ok (.ireturn, 1) := dk_172 (dk_at dksX4_fires_1 7 rfl rfl)
theorem dX4_fires_30 : decode cX4_fires 30 = .ok (.aload_n 0, 1) := dk_42 (dk_at dksX4_fires_1 8 rfl rfl)
theorem dX4_fires_31 : decode cX4_fires 31 = .ok (.iload_n 1, 1) := dk_27 (dk_at dksX4_fires_1 9 rfl rfl)
theorem dX4_fires_32 : decode cX4_fires 32 = .ok (.invokevirtual 399, 3) := dk_182 1 143 (dk_at dksX4_fires_1 10 rfl rfl)
theorem dX4_fires_35 : decode cX4_fires 35 = .ok (.ifCond .ne 5, 3) := dk_154 0 5 (dk_at dksX4_fires_1 13 rfl rfl)
theorem dX4_fires_38 : decode cX4_fires 38 = .ok (.iconst (-1), 1) := dk_2 (dk_at dksX4_fires_1 16 rfl rfl)
theorem dX4_fires_39 : decode cX4_fires 39 = .ok (.ireturn, 1) := dk_172 (dk_at dksX4_fires_1 17 rfl rfl)
theorem dX4_fires_40 : decode cX4_fires 40 = .ok (.iconst 0, 1) := dk_3 (dk_at dksX4_fires_1 18 rfl rfl)
theorem dX4_fires_41 : decode cX4_fires 41 = .ok (.istore_n 3, 1) := dk_62 (dk_at dksX4_fires_1 19 rfl rfl)
theorem dX4_fires_42 : decode cX4_fires 42 = .ok (.iconst 0, 1) := dk_3 (dk_at dksX4_fires_1 20 rfl rfl)
theorem dX4_fires_43 : decode cX4_fires 43 = .ok (.istore 4, 2) := dk_54 4 (dk_at dksX4_fires_1 21 rfl rfl)
theorem dX4_fires_45 : decode cX4_fires 45 = .ok (.iload 4, 2) := dk_21 4 (dk_at dksX4_fires_2 0 rfl rfl)
theorem dX4_fires_47 : decode cX4_fires 47 = .ok (.bipush 16, 2) := dk_16 16 (dk_at dksX4_fires_2 2 rfl rfl)
theorem dX4_fires_49 : decode cX4_fires 49 = .ok (.if_icmp .ge 109, 3) := dk_162 0 109 (dk_at dksX4_fires_2 4 rfl rfl)
theorem dX4_fires_52 : decode cX4_fires 52 = .ok (.iconst 1, 1) := dk_4 (dk_at dksX4_fires_2 7 rfl rfl)
theorem dX4_fires_53 : decode cX4_fires 53 = .ok (.istore 5, 2) := dk_54 5 (dk_at dksX4_fires_2 8 rfl rfl)
theorem dX4_fires_55 : decode cX4_fires 55 = .ok (.iconst 0, 1) := dk_3 (dk_at dksX4_fires_2 10 rfl rfl)
theorem dX4_fires_56 : decode cX4_fires 56 = .ok (.istore 6, 2) := dk_54 6 (dk_at dksX4_fires_2 11 rfl rfl)
theorem dX4_fires_58 : decode cX4_fires 58 = .ok (.iconst 0, 1) := dk_3 (dk_at dksX4_fires_2 13 rfl rfl)
theorem dX4_fires_59 : decode cX4_fires 59 = .ok (.istore 7, 2) := dk_54 7 (dk_at dksX4_fires_2 14 rfl rfl)
theorem dX4_fires_61 : decode cX4_fires 61 = .ok (.iload 7, 2) := dk_21 7 (dk_at dksX4_fires_2 16 rfl rfl)
theorem dX4_fires_63 : decode cX4_fires 63 = .ok (.iconst 4, 1) := dk_7 (dk_at dksX4_fires_2 18 rfl rfl)
theorem dX4_fires_64 : decode cX4_fires 64 = .ok (.if_icmp .ge 65, 3) := dk_162 0 65 (dk_at dksX4_fires_2 19 rfl rfl)
theorem dX4_fires_67 : decode cX4_fires 67 = .ok (.iload 4, 2) := dk_21 4 (dk_at dksX4_fires_2 22 rfl rfl)
theorem dX4_fires_69 : decode cX4_fires 69 = .ok (.iload 7, 2) := dk_21 7 (dk_at dksX4_fires_3 0 rfl rfl)
theorem dX4_fires_71 : decode cX4_fires 71 = .ok (.ishr, 1) := dk_122 (dk_at dksX4_fires_3 2 rfl rfl)
theorem dX4_fires_72 : decode cX4_fires 72 = .ok (.iconst 1, 1) := dk_4 (dk_at dksX4_fires_3 3 rfl rfl)
theorem dX4_fires_73 : decode cX4_fires 73 = .ok (.iand, 1) := dk_126 (dk_at dksX4_fires_3 4 rfl rfl)
theorem dX4_fires_74 : decode cX4_fires 74 = .ok (.iconst 1, 1) := dk_4 (dk_at dksX4_fires_3 5 rfl rfl)
theorem dX4_fires_75 : decode cX4_fires 75 = .ok (.if_icmp .ne 7, 3) := dk_160 0 7 (dk_at dksX4_fires_3 6 rfl rfl)
theorem dX4_fires_78 : decode cX4_fires 78 = .ok (.iconst 1, 1) := dk_4 (dk_at dksX4_fires_3 9 rfl rfl)
theorem dX4_fires_79 : decode cX4_fires 79 = .ok (.goto 4, 3) := dk_167 0 4 (dk_at dksX4_fires_3 10 rfl rfl)
theorem dX4_fires_82 : decode cX4_fires 82 = .ok (.iconst 0, 1) := dk_3 (dk_at dksX4_fires_3 13 rfl rfl)
theorem dX4_fires_83 : decode cX4_fires 83 = .ok (.istore 8, 2) := dk_54 8 (dk_at dksX4_fires_3 14 rfl rfl)
theorem dX4_fires_85 : decode cX4_fires 85 = .ok (.iload 5, 2) := dk_21 5 (dk_at dksX4_fires_3 16 rfl rfl)
theorem dX4_fires_87 : decode cX4_fires 87 = .ok (.iload 8, 2) := dk_21 8 (dk_at dksX4_fires_3 18 rfl rfl)
theorem dX4_fires_89 : decode cX4_fires 89 = .ok (.ifCond .eq 7, 3) := dk_153 0 7 (dk_at dksX4_fires_3 20 rfl rfl)
theorem dX4_fires_92 : decode cX4_fires 92 = .ok (.iload_n 2, 1) := dk_28 (dk_at dksX4_fires_3 23 rfl rfl)
theorem dX4_fires_93 : decode cX4_fires 93 = .ok (.goto 7, 3) := dk_167 0 7 (dk_at dksX4_fires_4 0 rfl rfl)
theorem dX4_fires_96 : decode cX4_fires 96 = .ok (.bipush 10, 2) := dk_16 10 (dk_at dksX4_fires_4 3 rfl rfl)
theorem dX4_fires_98 : decode cX4_fires 98 = .ok (.iload_n 2, 1) := dk_28 (dk_at dksX4_fires_4 5 rfl rfl)
theorem dX4_fires_99 : decode cX4_fires 99 = .ok (.isub, 1) := dk_100 (dk_at dksX4_fires_4 6 rfl rfl)
theorem dX4_fires_100 : decode cX4_fires 100 = .ok (.imul, 1) := dk_104 (dk_at dksX4_fires_4 7 rfl rfl)
theorem dX4_fires_101 : decode cX4_fires 101 = .ok (.istore 5, 2) := dk_54 5 (dk_at dksX4_fires_4 8 rfl rfl)
theorem dX4_fires_103 : decode cX4_fires 103 = .ok (.iload 6, 2) := dk_21 6 (dk_at dksX4_fires_4 10 rfl rfl)
theorem dX4_fires_105 : decode cX4_fires 105 = .ok (.iload 8, 2) := dk_21 8 (dk_at dksX4_fires_4 12 rfl rfl)
theorem dX4_fires_107 : decode cX4_fires 107 = .ok (.ifCond .eq 12, 3) := dk_153 0 12 (dk_at dksX4_fires_4 14 rfl rfl)
theorem dX4_fires_110 : decode cX4_fires 110 = .ok (.aload_n 0, 1) := dk_42 (dk_at dksX4_fires_4 17 rfl rfl)
theorem dX4_fires_111 : decode cX4_fires 111 = .ok (.iload 7, 2) := dk_21 7 (dk_at dksX4_fires_4 18 rfl rfl)
theorem dX4_fires_113 : decode cX4_fires 113 = .ok (.invokevirtual 405, 3) := dk_182 1 149 (dk_at dksX4_fires_4 20 rfl rfl)
theorem dX4_fires_116 : decode cX4_fires 116 = .ok (.goto 4, 3) := dk_167 0 4 (dk_at dksX4_fires_5 0 rfl rfl)
theorem dX4_fires_119 : decode cX4_fires 119 = .ok (.iconst 0, 1) := dk_3 (dk_at dksX4_fires_5 3 rfl rfl)
theorem dX4_fires_120 : decode cX4_fires 120 = .ok (.ior, 1) := dk_128 (dk_at dksX4_fires_5 4 rfl rfl)
theorem dX4_fires_121 : decode cX4_fires 121 = .ok (.istore 6, 2) := dk_54 6 (dk_at dksX4_fires_5 5 rfl rfl)
theorem dX4_fires_123 : decode cX4_fires 123 = .ok (.iinc 7 1, 3) := dk_132 7 1 (dk_at dksX4_fires_5 7 rfl rfl)
theorem dX4_fires_126 : decode cX4_fires 126 = .ok (.goto (-65), 3) := dk_167 255 191 (dk_at dksX4_fires_5 10 rfl rfl)
theorem dX4_fires_129 : decode cX4_fires 129 = .ok (.iload_n 3, 1) := dk_29 (dk_at dksX4_fires_5 13 rfl rfl)
theorem dX4_fires_130 : decode cX4_fires 130 = .ok (.aload_n 0, 1) := dk_42 (dk_at dksX4_fires_5 14 rfl rfl)
theorem dX4_fires_131 : decode cX4_fires 131 = .ok (.iload 6, 2) := dk_21 6 (dk_at dksX4_fires_5 15 rfl rfl)
theorem dX4_fires_133 : decode cX4_fires 133 = .ok (.invokevirtual 408, 3) := dk_182 1 152 (dk_at dksX4_fires_5 17 rfl rfl)
theorem dX4_fires_136 : decode cX4_fires 136 = .ok (.iload_n 1, 1) := dk_27 (dk_at dksX4_fires_5 20 rfl rfl)
theorem dX4_fires_137 : decode cX4_fires 137 = .ok (.ishr, 1) := dk_122 (dk_at dksX4_fires_5 21 rfl rfl)
theorem dX4_fires_138 : decode cX4_fires 138 = .ok (.iconst 1, 1) := dk_4 (dk_at dksX4_fires_5 22 rfl rfl)
theorem dX4_fires_139 : decode cX4_fires 139 = .ok (.iand, 1) := dk_126 (dk_at dksX4_fires_5 23 rfl rfl)
theorem dX4_fires_140 : decode cX4_fires 140 = .ok (.iconst 1, 1) := dk_4 (dk_at dksX4_fires_6 0 rfl rfl)
theorem dX4_fires_141 : decode cX4_fires 141 = .ok (.if_icmp .ne 8, 3) := dk_160 0 8 (dk_at dksX4_fires_6 1 rfl rfl)
theorem dX4_fires_144 : decode cX4_fires 144 = .ok (.iload 5, 2) := dk_21 5 (dk_at dksX4_fires_6 4 rfl rfl)
theorem dX4_fires_146 : decode cX4_fires 146 = .ok (.goto 4, 3) := dk_167 0 4 (dk_at dksX4_fires_6 6 rfl rfl)
theorem dX4_fires_149 : decode cX4_fires 149 = .ok (.iconst 0, 1) := dk_3 (dk_at dksX4_fires_6 9 rfl rfl)
theorem dX4_fires_150 : decode cX4_fires 150 = .ok (.iadd, 1) := dk_96 (dk_at dksX4_fires_6 10 rfl rfl)
theorem dX4_fires_151 : decode cX4_fires 151 = .ok (.istore_n 3, 1) := dk_62 (dk_at dksX4_fires_6 11 rfl rfl)
theorem dX4_fires_152 : decode cX4_fires 152 = .ok (.iinc 4 1, 3) := dk_132 4 1 (dk_at dksX4_fires_6 12 rfl rfl)
theorem dX4_fires_155 : decode cX4_fires 155 = .ok (.goto (-110), 3) := dk_167 255 146 (dk_at dksX4_fires_6 15 rfl rfl)
theorem dX4_fires_158 : decode cX4_fires 158 = .ok (.iload_n 3, 1) := dk_29 (dk_at dksX4_fires_6 18 rfl rfl)
theorem dX4_fires_159 : decode cX4_fires 159 = .ok (.ireturn, 1) := dk_172 (dk_at dksX4_fires_6 19 rfl rfl)
