set_option maxRecDepth 100000
abbrev cX1_odd : ByteArray := prog_1_method_68_code
def yX1_odd : MethodName := ⟨RX1, "odd", "(I)I"⟩
def dkwX1_odd_3 : List UInt8 := [17, 1, 255, 182, 1, 47, 2, 130, 126, 172]
abbrev dktX1_odd_3 : List UInt8 := dkwX1_odd_3 ++ []
def dkwX1_odd_2 : List UInt8 := [180, 0, 22, 180, 0, 96, 185, 0, 99, 1, 0, 120, 4, 100, 28, 2, 130, 126, 42, 180, 0, 31]
abbrev dktX1_odd_2 : List UInt8 := dkwX1_odd_2 ++ dktX1_odd_3
def dkwX1_odd_1 : List UInt8 := [42, 42, 180, 0, 31, 182, 0, 110, 182, 0, 191, 61, 27, 4, 160, 0, 7, 28, 167, 0, 36, 4, 42]
abbrev dktX1_odd_1 : List UInt8 := dkwX1_odd_1 ++ dktX1_odd_2
def dkwX1_odd_0 : List UInt8 := [27, 6, 184, 0, 133, 27, 154, 0, 8, 42, 182, 1, 73, 172, 27, 6, 160, 0, 8, 42, 182, 1, 76, 172]
abbrev dktX1_odd_0 : List UInt8 := dkwX1_odd_0 ++ dktX1_odd_1
theorem dksX1_odd_0 : cX1_odd.data.toList.drop 0 = dktX1_odd_0 := by decide +kernel
theorem dksX1_odd_1 : cX1_odd.data.toList.drop 24 = dktX1_odd_1 := dk_seg dksX1_odd_0 24 rfl rfl
theorem dksX1_odd_2 : cX1_odd.data.toList.drop 47 = dktX1_odd_2 := dk_seg dksX1_odd_1 23 rfl rfl
theorem dksX1_odd_3 : cX1_odd.data.toList.drop 69 = dktX1_odd_3 := dk_seg dksX1_odd_2 22 rfl rfl
theorem dX1_odd_0 : decode cX1_odd 0 = .ok (.iload_n 1, 1) := dk_27 (dk_at dksX1_odd_0 0 rfl rfl)
theorem dX1_odd_1 : decode cX1_odd 1 = .ok (.iconst 3, 1) := dk_6 (dk_at dksX1_odd_0 1 rfl rfl)
theorem dX1_odd_2 : decode cX1_odd 2 = .ok (.invokestatic 133, 3) := dk_184 0 133 (dk_at dksX1_odd_0 2 rfl rfl)
theorem dX1_odd_5 : decode cX1_odd 5 = .ok (.iload_n 1, 1) := dk_27 (dk_at dksX1_odd_0 5 rfl rfl)
theorem dX1_odd_6 : decode cX1_odd 6 = .ok (.ifCond .ne 8, 3) := dk_154 0 8 (dk_at dksX1_odd_0 6 rfl rfl)
theorem dX1_odd_9 : decode cX1_odd 9 = .ok (.aload_n 0, 1) := dk_42 (dk_at dksX1_odd_0 9 rfl rfl)
theorem dX1_odd_10 : decode cX1_odd 10 = .ok (.invokevirtual 329, 3) := dk_182 1 73 (dk_at dksX1_odd_0 10 rfl rfl)
theorem dX1_odd_13 : decode cX1_odd 13 = .ok (.ireturn, 1) := dk_172 (dk_at dksX1_odd_0 13 rfl rfl)
theorem dX1_odd_14 : decode cX1_odd 14 = .ok (.iload_n 1, 1) := dk_27 (dk_at dksX1_odd_0 14 rfl rfl)
theorem dX1_odd_15 : decode cX1_odd 15 = .ok (.iconst 3, 1) := dk_6 (dk_at dksX1_odd_0 15 rfl rfl)
theorem dX1_odd_16 : decode cX1_odd 16 = .ok (.if_icmp .ne 8, 3) := dk_160 0 8 (dk_at dksX1_odd_0 16 rfl rfl)
theorem dX1_odd_19 : decode cX1_odd 19 = .ok (.aload_n 0, 1) := dk_42 (dk_at dksX1_odd_0 19 rfl rfl)
theorem dX1_odd_20 : decode cX1_odd 20 = .ok (.invokevirtual 332, 3) := dk_182 1 76 (dk_at dksX1_odd_0 20 rfl rfl)
theorem dX1_odd_23 : decode cX1_odd 23 = .ok (.ireturn, 1) := dk_172 (dk_at dksX1_odd_0 23 rfl rfl)
theorem dX1_odd_24 : decode cX1_odd 24 = .ok (.aload_n 0, 1) := dk_42 (dk_at dksX1_odd_1 0 rfl rfl)
theorem dX1_odd_25 : decode cX1_odd 25 = .ok (.aload_n 0, 1) := dk_42 (dk_at dksX1_odd_1 1 rfl rfl)
theorem dX1_odd_26 : decode cX1_odd 26 = .ok (.getfield 31, 3) := dk_180 0 31 (dk_at dksX1_odd_1 2 rfl rfl)
theorem dX1_odd_29 : decode cX1_odd 29 = .ok (.invokevirtual 110, 3) := dk_182 0 110 (dk_at dksX1_odd_1 5 rfl rfl)
theorem dX1_odd_32 : decode cX1_odd 32 = .ok (.invokevirtual 191, 3) := dk_182 0 191 (dk_at dksX1_odd_1 8 rfl rfl)
theorem dX1_odd_35 : decode cX1_odd 35 = .ok (.istore_n 2, 1) := dk_61 (dk_at dksX1_odd_1 11 rfl rfl)
theorem dX1_odd_36 : decode cX1_odd 36 = .ok (.iload_n 1, 1) := dk_27 (dk_at dksX1_odd_1 12 rfl rfl)
theorem dX1_odd_37 : decode cX1_odd 37 = .ok (.iconst 1, 1) := dk_4 (dk_at dksX1_odd_1 13 rfl rfl)
theorem dX1_odd_38 : decode cX1_odd 38 = .ok (.if_icmp .ne 7, 3) := dk_160 0 7 (dk_at dksX1_odd_1 14 rfl rfl)
theorem dX1_odd_41 : decode cX1_odd 41 = .ok (.iload_n 2, 1) := dk_28 (dk_at dksX1_odd_1 17 rfl rfl)
theorem dX1_odd_42 : decode cX1_odd 42 = .ok (.goto 36, 3) := dk_167 0 36 (dk_at dksX1_odd_1 18 rfl rfl)
theorem dX1_odd_45 : decode cX1_odd 45 = .ok (.iconst 1, 1) := dk_4 (dk_at dksX1_odd_1 21 rfl rfl)
theorem dX1_odd_46 : decode cX1_odd 46 = .ok (.aload_n 0, 1) := dk_42 (dk_at dksX1_odd_1 22 rfl rfl)
theorem dX1_odd_47 : decode cX1_odd 47 = .ok (.getfield 22, 3) := dk_180 0 22 (dk_at dksX1_odd_2 0 rfl rfl)
theorem dX1_odd_50 : decode cX1_odd 50 = .ok (.getfield 96, 3) := dk_180 0 96 (dk_at dksX1_odd_2 3 rfl rfl)
theorem dX1_odd_53 : decode cX1_odd 53 = .ok (.invokeinterface 99 1, 5) := by decide +kernel
theorem dX1_odd_58 : decode cX1_odd 58 = .ok (.ishl, 1) := dk_120 (dk_at dksX1_odd_2 11 rfl rfl)
theorem dX1_odd_59 : decode cX1_odd 59 = .ok (.iconst 1, 1) := dk_4 (dk_at dksX1_odd_2 12 rfl rfl)
theorem dX1_odd_60 : decode cX1_odd 60 = .ok (.isub, 1) := dk_100 (dk_at dksX1_odd_2 13 rfl rfl)
theorem dX1_odd_61 : decode cX1_odd 61 = .ok (.iload_n 2, 1) := dk_28 (dk_at dksX1_odd_2 14 rfl rfl)
theorem dX1_odd_62 : decode cX1_odd 62 = .ok (.iconst (-1), 1) := dk_2 (dk_at dksX1_odd_2 15 rfl rfl)
theorem dX1_odd_63 : decode cX1_odd 63 = .ok (.ixor, 1) := dk_130 (dk_at dksX1_odd_2 16 rfl rfl)
theorem dX1_odd_64 : decode cX1_odd 64 = .ok (.iand, 1) := dk_126 (dk_at dksX1_odd_2 17 rfl rfl)
theorem dX1_odd_65 : decode cX1_odd 65 = .ok (.aload_n 0, 1) := dk_42 (dk_at dksX1_odd_2 18 rfl rfl)
theorem dX1_odd_66 : decode cX1_odd 66 = .ok (.getfield 31, 3) := dk_180 0 31 (dk_at dksX1_odd_2 19 rfl rfl)
theorem dX1_odd_69 : decode cX1_odd 69 = .ok (.sipush 511, 3) := dk_17 1 255 (dk_at dksX1_odd_3 0 rfl rfl)
theorem dX1_odd_72 : decode cX1_odd 72 = .ok (.invokevirtual 303, 3) := dk_182 1 47 (dk_at dksX1_odd_3 3 rfl rfl)
theorem dX1_odd_75 : decode cX1_odd 75 = .ok (.iconst (-1), 1) := dk_2 (dk_at dksX1_odd_3 6 rfl rfl)
theorem dX1_odd_76 : decode cX1_odd 76 = .ok (.ixor, 1) := dk_130 (dk_at dksX1_odd_3 7 rfl rfl)
theorem dX1_odd_77 : decode cX1_odd 77 = .ok (.iand, 1) := dk_126 (dk_at dksX1_odd_3 8 rfl rfl)
theorem dX1_odd_78 : decode cX1_odd 78 = .ok (.ireturn, 1) := dk_172 (dk_at dksX1_odd_3 9 rfl rfl)
abbrev cX1_orphans : ByteArray := prog_1_method_65_code
def yX1_orphans : MethodName := ⟨RX1, "orphans", "()I"⟩
def dkwX1_orphans_3 : List UInt8 := [184, 0, 171, 154, 0, 9, 27, 4, 29, 120, 128, 60, 132, 3, 1, 167, 255, 206, 27, 172]
abbrev dktX1_orphans_3 : List UInt8 := dkwX1_orphans_3 ++ []
def dkwX1_orphans_2 : List UInt8 := [42, 180, 0, 31, 29, 182, 0, 236, 154, 0, 28, 42, 180, 0, 31, 29, 182, 0, 149, 154, 0, 17, 28, 29]
abbrev dktX1_orphans_2 : List UInt8 := dkwX1_orphans_2 ++ dktX1_orphans_3
def dkwX1_orphans_1 : List UInt8 := [182, 0, 149, 128, 61, 132, 3, 1, 167, 255, 231, 3, 62, 29, 42, 180, 0, 22, 180, 0, 89, 162, 0, 45]
abbrev dktX1_orphans_1 : List UInt8 := dkwX1_orphans_1 ++ dktX1_orphans_2
def dkwX1_orphans_0 : List UInt8 := [3, 60, 3, 61, 3, 62, 29, 42, 180, 0, 22, 180, 0, 89, 162, 0, 20, 28, 42, 180, 0, 31, 29]
abbrev dktX1_orphans_0 : List UInt8 := dkwX1_orphans_0 ++ dktX1_orphans_1
theorem dksX1_orphans_0 : cX1_orphans.data.toList.drop 0 = dktX1_orphans_0 := by decide +kernel
theorem dksX1_orphans_1 : cX1_orphans.data.toList.drop 23 = dktX1_orphans_1 := dk_seg dksX1_orphans_0 23 rfl rfl
theorem dksX1_orphans_2 : cX1_orphans.data.toList.drop 47 = dktX1_orphans_2 := dk_seg dksX1_orphans_1 24 rfl rfl
theorem dksX1_orphans_3 : cX1_orphans.data.toList.drop 71 = dktX1_orphans_3 := dk_seg dksX1_orphans_2 24 rfl rfl
theorem dX1_orphans_0 : decode cX1_orphans 0 = .ok (.iconst 0, 1) := dk_3 (dk_at dksX1_orphans_0 0 rfl rfl)
theorem dX1_orphans_1 : decode cX1_orphans 1 = .ok (.istore_n 1, 1) := dk_60 (dk_at dksX1_orphans_0 1 rfl rfl)
theorem dX1_orphans_2 : decode cX1_orphans 2 = .ok (.iconst 0, 1) := dk_3 (dk_at dksX1_orphans_0 2 rfl rfl)
theorem dX1_orphans_3 : decode cX1_orphans 3 = .ok (.istore_n 2, 1) := dk_61 (dk_at dksX1_orphans_0 3 rfl rfl)
theorem dX1_orphans_4 : decode cX1_orphans 4 = .ok (.iconst 0, 1) := dk_3 (dk_at dksX1_orphans_0 4 rfl rfl)
theorem dX1_orphans_5 : decode cX1_orphans 5 = .ok (.istore_n 3, 1) := dk_62 (dk_at dksX1_orphans_0 5 rfl rfl)
theorem dX1_orphans_6 : decode cX1_orphans 6 = .ok (.iload_n 3, 1) := dk_29 (dk_at dksX1_orphans_0 6 rfl rfl)
theorem dX1_orphans_7 : decode cX1_orphans 7 = .ok (.aload_n 0, 1) := dk_42 (dk_at dksX1_orphans_0 7 rfl rfl)
theorem dX1_orphans_8 : decode cX1_orphans 8 = .ok (.getfield 22, 3) := dk_180 0 22 (dk_at dksX1_orphans_0 8 rfl rfl)
theorem dX1_orphans_11 : decode cX1_orphans 11 = .ok (.getfield 89, 3) := dk_180 0 89 (dk_at dksX1_orphans_0 11 rfl rfl)
theorem dX1_orphans_14 : decode cX1_orphans 14 = .ok (.if_icmp .ge 20, 3) := dk_162 0 20 (dk_at dksX1_orphans_0 14 rfl rfl)
theorem dX1_orphans_17 : decode cX1_orphans 17 = .ok (.iload_n 2, 1) := dk_28 (dk_at dksX1_orphans_0 17 rfl rfl)
theorem dX1_orphans_18 : decode cX1_orphans 18 = .ok (.aload_n 0, 1) := dk_42 (dk_at dksX1_orphans_0 18 rfl rfl)
theorem dX1_orphans_19 : decode cX1_orphans 19 = .ok (.getfield 31, 3) := dk_180 0 31 (dk_at dksX1_orphans_0 19 rfl rfl)
theorem dX1_orphans_22 : decode cX1_orphans 22 = .ok (.iload_n 3, 1) := dk_29 (dk_at dksX1_orphans_0 22 rfl rfl)
theorem dX1_orphans_23 : decode cX1_orphans 23 = .ok (.invokevirtual 149, 3) := dk_182 0 149 (dk_at dksX1_orphans_1 0 rfl rfl)
theorem dX1_orphans_26 : decode cX1_orphans 26 = .ok (.ior, 1) := dk_128 (dk_at dksX1_orphans_1 3 rfl rfl)
theorem dX1_orphans_27 : decode cX1_orphans 27 = .ok (.istore_n 2, 1) := dk_61 (dk_at dksX1_orphans_1 4 rfl rfl)
theorem dX1_orphans_28 : decode cX1_orphans 28 = .ok (.iinc 3 1, 3) := dk_132 3 1 (dk_at dksX1_orphans_1 5 rfl rfl)
theorem dX1_orphans_31 : decode cX1_orphans 31 = .ok (.goto (-25), 3) := dk_167 255 231 (dk_at dksX1_orphans_1 8 rfl rfl)
theorem dX1_orphans_34 : decode cX1_orphans 34 = .ok (.iconst 0, 1) := dk_3 (dk_at dksX1_orphans_1 11 rfl rfl)
theorem dX1_orphans_35 : decode cX1_orphans 35 = .ok (.istore_n 3, 1) := dk_62 (dk_at dksX1_orphans_1 12 rfl rfl)
theorem dX1_orphans_36 : decode cX1_orphans 36 = .ok (.iload_n 3, 1) := dk_29 (dk_at dksX1_orphans_1 13 rfl rfl)
theorem dX1_orphans_37 : decode cX1_orphans 37 = .ok (.aload_n 0, 1) := dk_42 (dk_at dksX1_orphans_1 14 rfl rfl)
theorem dX1_orphans_38 : decode cX1_orphans 38 = .ok (.getfield 22, 3) := dk_180 0 22 (dk_at dksX1_orphans_1 15 rfl rfl)
theorem dX1_orphans_41 : decode cX1_orphans 41 = .ok (.getfield 89, 3) := dk_180 0 89 (dk_at dksX1_orphans_1 18 rfl rfl)
theorem dX1_orphans_44 : decode cX1_orphans 44 = .ok (.if_icmp .ge 45, 3) := dk_162 0 45 (dk_at dksX1_orphans_1 21 rfl rfl)
theorem dX1_orphans_47 : decode cX1_orphans 47 = .ok (.aload_n 0, 1) := dk_42 (dk_at dksX1_orphans_2 0 rfl rfl)
theorem dX1_orphans_48 : decode cX1_orphans 48 = .ok (.getfield 31, 3) := dk_180 0 31 (dk_at dksX1_orphans_2 1 rfl rfl)
theorem dX1_orphans_51 : decode cX1_orphans 51 = .ok (.iload_n 3, 1) := dk_29 (dk_at dksX1_orphans_2 4 rfl rfl)
theorem dX1_orphans_52 : decode cX1_orphans 52 = .ok (.invokevirtual 236, 3) := dk_182 0 236 (dk_at dksX1_orphans_2 5 rfl rfl)
theorem dX1_orphans_55 : decode cX1_orphans 55 = .ok (.ifCond .ne 28, 3) := dk_154 0 28 (dk_at dksX1_orphans_2 8 rfl rfl)
theorem dX1_orphans_58 : decode cX1_orphans 58 = .ok (.aload_n 0, 1) := dk_42 (dk_at dksX1_orphans_2 11 rfl rfl)
theorem dX1_orphans_59 : decode cX1_orphans 59 = .ok (.getfield 31, 3) := dk_180 0 31 (dk_at dksX1_orphans_2 12 rfl rfl)
theorem dX1_orphans_62 : decode cX1_orphans 62 = .ok (.iload_n 3, 1) := dk_29 (dk_at dksX1_orphans_2 15 rfl rfl)
theorem dX1_orphans_63 : decode cX1_orphans 63 = .ok (.invokevirtual 149, 3) := dk_182 0 149 (dk_at dksX1_orphans_2 16 rfl rfl)
theorem dX1_orphans_66 : decode cX1_orphans 66 = .ok (.ifCond .ne 17, 3) := dk_154 0 17 (dk_at dksX1_orphans_2 19 rfl rfl)
theorem dX1_orphans_69 : decode cX1_orphans 69 = .ok (.iload_n 2, 1) := dk_28 (dk_at dksX1_orphans_2 22 rfl rfl)
theorem dX1_orphans_70 : decode cX1_orphans 70 = .ok (.iload_n 3, 1) := dk_29 (dk_at dksX1_orphans_2 23 rfl rfl)
theorem dX1_orphans_71 : decode cX1_orphans 71 = .ok (.invokestatic 171, 3) := dk_184 0 171 (dk_at dksX1_orphans_3 0 rfl rfl)
theorem dX1_orphans_74 : decode cX1_orphans 74 = .ok (.ifCond .ne 9, 3) := dk_154 0 9 (dk_at dksX1_orphans_3 3 rfl rfl)
theorem dX1_orphans_77 : decode cX1_orphans 77 = .ok (.iload_n 1, 1) := dk_27 (dk_at dksX1_orphans_3 6 rfl rfl)
theorem dX1_orphans_78 : decode cX1_orphans 78 = .ok (.iconst 1, 1) := dk_4 (dk_at dksX1_orphans_3 7 rfl rfl)
theorem dX1_orphans_79 : decode cX1_orphans 79 = .ok (.iload_n 3, 1) := dk_29 (dk_at dksX1_orphans_3 8 rfl rfl)
theorem dX1_orphans_80 : decode cX1_orphans 80 = .ok (.ishl, 1) := dk_120 (dk_at dksX1_orphans_3 9 rfl rfl)
theorem dX1_orphans_81 : decode cX1_orphans 81 = .ok (.ior, 1) := dk_128 (dk_at dksX1_orphans_3 10 rfl rfl)
theorem dX1_orphans_82 : decode cX1_orphans 82 = .ok (.istore_n 1, 1) := dk_60 (dk_at dksX1_orphans_3 11 rfl rfl)
theorem dX1_orphans_83 : decode cX1_orphans 83 = .ok (.iinc 3 1, 3) := dk_132 3 1 (dk_at dksX1_orphans_3 12 rfl rfl)
theorem dX1_orphans_86 : decode cX1_orphans 86 = .ok (.goto (-50), 3) := dk_167 255 206 (dk_at dksX1_orphans_3 15 rfl rfl)
theorem dX1_orphans_89 : decode cX1_orphans 89 = .ok (.iload_n 1, 1) := dk_27 (dk_at dksX1_orphans_3 18 rfl rfl)
theorem dX1_orphans_90 : decode cX1_orphans 90 = .ok (.ireturn, 1) := dk_172 (dk_at dksX1_orphans_3 19 rfl rfl)
abbrev cX1_strangers : ByteArray := prog_1_method_67_code
def yX1_strangers : MethodName := ⟨RX1, "strangers", "()I"⟩
def dkwX1_strangers_3 : List UInt8 := [182, 1, 70, 154, 0, 6, 132, 1, 1, 132, 3, 1, 167, 255, 191, 132, 2, 1, 167, 255, 172, 27, 172]
abbrev dktX1_strangers_3 : List UInt8 := dkwX1_strangers_3 ++ []
def dkwX1_strangers_2 : List UInt8 := [167, 0, 4, 3, 54, 4, 21, 4, 153, 0, 24, 42, 28, 29, 182, 1, 70, 154, 0, 15, 42, 29, 28]
abbrev dktX1_strangers_2 : List UInt8 := dkwX1_strangers_2 ++ dktX1_strangers_3
def dkwX1_strangers_1 : List UInt8 := [180, 0, 31, 28, 29, 182, 1, 24, 154, 0, 15, 42, 180, 0, 31, 29, 28, 182, 1, 24, 153, 0, 7, 4]
abbrev dktX1_strangers_1 : List UInt8 := dkwX1_strangers_1 ++ dktX1_strangers_2
def dkwX1_strangers_0 : List UInt8 := [3, 60, 3, 61, 28, 42, 180, 0, 22, 180, 0, 89, 162, 0, 79, 3, 62, 29, 28, 162, 0, 66, 42]
abbrev dktX1_strangers_0 : List UInt8 := dkwX1_strangers_0 ++ dktX1_strangers_1
theorem dksX1_strangers_0 : cX1_strangers.data.toList.drop 0 = dktX1_strangers_0 := by decide +kernel
theorem dksX1_strangers_1 : cX1_strangers.data.toList.drop 23 = dktX1_strangers_1 := dk_seg dksX1_strangers_0 23 rfl rfl
theorem dksX1_strangers_2 : cX1_strangers.data.toList.drop 47 = dktX1_strangers_2 := dk_seg dksX1_strangers_1 24 rfl rfl
theorem dksX1_strangers_3 : cX1_strangers.data.toList.drop 70 = dktX1_strangers_3 := dk_seg dksX1_strangers_2 23 rfl rfl
theorem dX1_strangers_0 : decode cX1_strangers 0 = .ok (.iconst 0, 1) := dk_3 (dk_at dksX1_strangers_0 0 rfl rfl)
theorem dX1_strangers_1 : decode cX1_strangers 1 = .ok (.istore_n 1, 1) := dk_60 (dk_at dksX1_strangers_0 1 rfl rfl)
theorem dX1_strangers_2 : decode cX1_strangers 2 = .ok (.iconst 0, 1) := dk_3 (dk_at dksX1_strangers_0 2 rfl rfl)
theorem dX1_strangers_3 : decode cX1_strangers 3 = .ok (.istore_n 2, 1) := dk_61 (dk_at dksX1_strangers_0 3 rfl rfl)
theorem dX1_strangers_4 : decode cX1_strangers 4 = .ok (.iload_n 2, 1) := dk_28 (dk_at dksX1_strangers_0 4 rfl rfl)
theorem dX1_strangers_5 : decode cX1_strangers 5 = .ok (.aload_n 0, 1) := dk_42 (dk_at dksX1_strangers_0 5 rfl rfl)
theorem dX1_strangers_6 : decode cX1_strangers 6 = .ok (.getfield 22, 3) := dk_180 0 22 (dk_at dksX1_strangers_0 6 rfl rfl)
theorem dX1_strangers_9 : decode cX1_strangers 9 = .ok (.getfield 89, 3) := dk_180 0 89 (dk_at dksX1_strangers_0 9 rfl rfl)
theorem dX1_strangers_12 : decode cX1_strangers 12 = .ok (.if_icmp .ge 79, 3) := dk_162 0 79 (dk_at dksX1_strangers_0 12 rfl rfl)
theorem dX1_strangers_15 : decode cX1_strangers 15 = .ok (.iconst 0, 1) := dk_3 (dk_at dksX1_strangers_0 15 rfl rfl)
theorem dX1_strangers_16 : decode cX1_strangers 16 = .ok (.istore_n 3, 1) := dk_62 (dk_at dksX1_strangers_0 16 rfl rfl)
theorem dX1_strangers_17 : decode cX1_strangers 17 = .ok (.iload_n 3, 1) := dk_29 (dk_at dksX1_strangers_0 17 rfl rfl)
theorem dX1_strangers_18 : decode cX1_strangers 18 = .ok (.iload_n 2, 1) := dk_28 (dk_at dksX1_strangers_0 18 rfl rfl)
theorem dX1_strangers_19 : decode cX1_strangers 19 = .ok (.if_icmp .ge 66, 3) := dk_162 0 66 (dk_at dksX1_strangers_0 19 rfl rfl)
theorem dX1_strangers_22 : decode cX1_strangers 22 = .ok (.aload_n 0, 1) := dk_42 (dk_at dksX1_strangers_0 22 rfl rfl)
theorem dX1_strangers_23 : decode cX1_strangers 23 = .ok (.getfield 31, 3) := dk_180 0 31 (dk_at dksX1_strangers_1 0 rfl rfl)
theorem dX1_strangers_26 : decode cX1_strangers 26 = .ok (.iload_n 2, 1) := dk_28 (dk_at dksX1_strangers_1 3 rfl rfl)
theorem dX1_strangers_27 : decode cX1_strangers 27 = .ok (.iload_n 3, 1) := dk_29 (dk_at dksX1_strangers_1 4 rfl rfl)
theorem dX1_strangers_28 : decode cX1_strangers 28 = .ok (.invokevirtual 280, 3) := dk_182 1 24 (dk_at dksX1_strangers_1 5 rfl rfl)
theorem dX1_strangers_31 : decode cX1_strangers 31 = .ok (.ifCond .ne 15, 3) := dk_154 0 15 (dk_at dksX1_strangers_1 8 rfl rfl)
theorem dX1_strangers_34 : decode cX1_strangers 34 = .ok (.aload_n 0, 1) := dk_42 (dk_at dksX1_strangers_1 11 rfl rfl)
theorem dX1_strangers_35 : decode cX1_strangers 35 = .ok (.getfield 31, 3) := dk_180 0 31 (dk_at dksX1_strangers_1 12 rfl rfl)
theorem dX1_strangers_38 : decode cX1_strangers 38 = .ok (.iload_n 3, 1) := dk_29 (dk_at dksX1_strangers_1 15 rfl rfl)
theorem dX1_strangers_39 : decode cX1_strangers 39 = .ok (.iload_n 2, 1) := dk_28 (dk_at dksX1_strangers_1 16 rfl rfl)
theorem dX1_strangers_40 : decode cX1_strangers 40 = .ok (.invokevirtual 280, 3) := dk_182 1 24 (dk_at dksX1_strangers_1 17 rfl rfl)
theorem dX1_strangers_43 : decode cX1_strangers 43 = .ok (.ifCond .eq 7, 3) := dk_153 0 7 (dk_at dksX1_strangers_1 20 rfl rfl)
theorem dX1_strangers_46 : decode cX1_strangers 46 = .ok (.iconst 1, 1) := dk_4 (dk_at dksX1_strangers_1 23 rfl rfl)
theorem dX1_strangers_47 : decode cX1_strangers 47 = .ok (.goto 4, 3) := dk_167 0 4 (dk_at dksX1_strangers_2 0 rfl rfl)
theorem dX1_strangers_50 : decode cX1_strangers 50 = .ok (.iconst 0, 1) := dk_3 (dk_at dksX1_strangers_2 3 rfl rfl)
theorem dX1_strangers_51 : decode cX1_strangers 51 = .ok (.istore 4, 2) := dk_54 4 (dk_at dksX1_strangers_2 4 rfl rfl)
theorem dX1_strangers_53 : decode cX1_strangers 53 = .ok (.iload 4, 2) := dk_21 4 (dk_at dksX1_strangers_2 6 rfl rfl)
theorem dX1_strangers_55 : decode cX1_strangers 55 = .ok (.ifCond .eq 24, 3) := dk_153 0 24 (dk_at dksX1_strangers_2 8 rfl rfl)
theorem dX1_strangers_58 : decode cX1_strangers 58 = .ok (.aload_n 0, 1) := dk_42 (dk_at dksX1_strangers_2 11 rfl rfl)
theorem dX1_strangers_59 : decode cX1_strangers 59 = .ok (.iload_n 2, 1) := dk_28 (dk_at dksX1_strangers_2 12 rfl rfl)
theorem dX1_strangers_60 : decode cX1_strangers 60 = .ok (.iload_n 3, 1) := dk_29 (dk_at dksX1_strangers_2 13 rfl rfl)
theorem dX1_strangers_61 : decode cX1_strangers 61 = .ok (.invokevirtual 326, 3) := dk_182 1 70 (dk_at dksX1_strangers_2 14 rfl rfl)
theorem dX1_strangers_64 : decode cX1_strangers 64 = .ok (.ifCond .ne 15, 3) := dk_154 0 15 (dk_at dksX1_strangers_2 17 rfl rfl)
theorem dX1_strangers_67 : decode cX1_strangers 67 = .ok (.aload_n 0, 1) := dk_42 (dk_at dksX1_strangers_2 20 rfl rfl)
theorem dX1_strangers_68 : decode cX1_strangers 68 = .ok (.iload_n 3, 1) := dk_29 (dk_at dksX1_strangers_2 21 rfl rfl)
theorem dX1_strangers_69 : decode cX1_strangers 69 = .ok (.iload_n 2, 1) := dk_28 (dk_at dksX1_strangers_2 22 rfl rfl)
theorem dX1_strangers_70 : decode cX1_strangers 70 = .ok (.invokevirtual 326, 3) := dk_182 1 70 (dk_at dksX1_strangers_3 0 rfl rfl)
theorem dX1_strangers_73 : decode cX1_strangers 73 = .ok (.ifCond .ne 6, 3) := dk_154 0 6 (dk_at dksX1_strangers_3 3 rfl rfl)
theorem dX1_strangers_76 : decode cX1_strangers 76 = .ok (.iinc 1 1, 3) := dk_132 1 1 (dk_at dksX1_strangers_3 6 rfl rfl)
theorem dX1_strangers_79 : decode cX1_strangers 79 = .ok (.iinc 3 1, 3) := dk_132 3 1 (dk_at dksX1_strangers_3 9 rfl rfl)
theorem dX1_strangers_82 : decode cX1_strangers 82 = .ok (.goto (-65), 3) := dk_167 255 191 (dk_at dksX1_strangers_3 12 rfl rfl)
theorem dX1_strangers_85 : decode cX1_strangers 85 = .ok (.iinc 2 1, 3) := dk_132 2 1 (dk_at dksX1_strangers_3 15 rfl rfl)
theorem dX1_strangers_88 : decode cX1_strangers 88 = .ok (.goto (-84), 3) := dk_167 255 172 (dk_at dksX1_strangers_3 18 rfl rfl)
theorem dX1_strangers_91 : decode cX1_strangers 91 = .ok (.iload_n 1, 1) := dk_27 (dk_at dksX1_strangers_3 21 rfl rfl)
theorem dX1_strangers_92 : decode cX1_strangers 92 = .ok (.ireturn, 1) := dk_172 (dk_at dksX1_strangers_3 22 rfl rfl)
abbrev cX1_isTold : ByteArray := prog_1_method_66_code
def yX1_isTold : MethodName := ⟨RX1, "isTold", "(II)Z"⟩
def dkwX1_isTold_3 : List UInt8 := [167, 255, 191, 3, 172]
abbrev dktX1_isTold_3 : List UInt8 := dkwX1_isTold_3 ++ []
def dkwX1_isTold_2 : List UInt8 := [180, 0, 96, 29, 185, 0, 167, 2, 0, 192, 0, 175, 4, 46, 28, 160, 0, 5, 4, 172, 132, 3, 1]
abbrev dktX1_isTold_2 : List UInt8 := dkwX1_isTold_2 ++ dktX1_isTold_3
def dkwX1_isTold_1 : List UInt8 := [180, 0, 96, 29, 185, 0, 167, 2, 0, 192, 0, 175, 3, 46, 27, 160, 0, 27, 42, 180, 0, 22]
abbrev dktX1_isTold_1 : List UInt8 := dkwX1_isTold_1 ++ dktX1_isTold_2
def dkwX1_isTold_0 : List UInt8 := [3, 62, 29, 42, 180, 0, 22, 180, 0, 96, 185, 0, 99, 1, 0, 162, 0, 55, 42, 180, 0, 22]
abbrev dktX1_isTold_0 : List UInt8 := dkwX1_isTold_0 ++ dktX1_isTold_1
theorem dksX1_isTold_0 : cX1_isTold.data.toList.drop 0 = dktX1_isTold_0 := by decide +kernel
theorem dksX1_isTold_1 : cX1_isTold.data.toList.drop 22 = dktX1_isTold_1 := dk_seg dksX1_isTold_0 22 rfl rfl
theorem dksX1_isTold_2 : cX1_isTold.data.toList.drop 44 = dktX1_isTold_2 := dk_seg dksX1_isTold_1 22 rfl rfl
theorem dksX1_isTold_3 : cX1_isTold.data.toList.drop 67 = dktX1_isTold_3 := dk_seg dksX1_isTold_2 23 rfl rfl
theorem dX1_isTold_0 : decode cX1_isTold 0 = .ok (.iconst 0, 1) := dk_3 (dk_at dksX1_isTold_0 0 rfl rfl)
theorem dX1_isTold_1 : decode cX1_isTold 1 = .ok (.istore_n 3, 1) := dk_62 (dk_at dksX1_isTold_0 1 rfl rfl)
theorem dX1_isTold_2 : decode cX1_isTold 2 = .ok (.iload_n 3, 1) := dk_29 (dk_at dksX1_isTold_0 2 rfl rfl)
theorem dX1_isTold_3 : decode cX1_isTold 3 = .ok (.aload_n 0, 1) := dk_42 (dk_at dksX1_isTold_0 3 rfl rfl)
theorem dX1_isTold_4 : decode cX1_isTold 4 = .ok (.getfield 22, 3) := dk_180 0 22 (dk_at dksX1_isTold_0 4 rfl rfl)
theorem dX1_isTold_7 : decode cX1_isTold 7 = .ok (.getfield 96, 3) := dk_180 0 96 (dk_at dksX1_isTold_0 7 rfl rfl)
theorem dX1_isTold_10 : decode cX1_isTold 10 = .ok (.invokeinterface 99 1, 5) := by decide +kernel
theorem dX1_isTold_15 : decode cX1_isTold 15 = .ok (.if_icmp .ge 55, 3) := dk_162 0 55 (dk_at dksX1_isTold_0 15 rfl rfl)
theorem dX1_isTold_18 : decode cX1_isTold 18 = .ok (.aload_n 0, 1) := dk_42 (dk_at dksX1_isTold_0 18 rfl rfl)
theorem dX1_isTold_19 : decode cX1_isTold 19 = .ok (.getfield 22, 3) := dk_180 0 22 (dk_at dksX1_isTold_0 19 rfl rfl)
theorem dX1_isTold_22 : decode cX1_isTold 22 = .ok (.getfield 96, 3) := dk_180 0 96 (dk_at dksX1_isTold_1 0 rfl rfl)
theorem dX1_isTold_25 : decode cX1_isTold 25 = .ok (.iload_n 3, 1) := dk_29 (dk_at dksX1_isTold_1 3 rfl rfl)
theorem dX1_isTold_26 : decode cX1_isTold 26 = .ok (.invokeinterface 167 2, 5) := by decide +kernel
theorem dX1_isTold_31 : decode cX1_isTold 31 = .ok (.checkcast 175, 3) := dk_192 0 175 (dk_at dksX1_isTold_1 9 rfl rfl)
theorem dX1_isTold_34 : decode cX1_isTold 34 = .ok (.iconst 0, 1) := dk_3 (dk_at dksX1_isTold_1 12 rfl rfl)
theorem dX1_isTold_35 : decode cX1_isTold 35 = .ok (.iaload, 1) := dk_46 (dk_at dksX1_isTold_1 13 rfl rfl)
theorem dX1_isTold_36 : decode cX1_isTold 36 = .ok (.iload_n 1, 1) := dk_27 (dk_at dksX1_isTold_1 14 rfl rfl)
theorem dX1_isTold_37 : decode cX1_isTold 37 = .ok (.if_icmp .ne 27, 3) := dk_160 0 27 (dk_at dksX1_isTold_1 15 rfl rfl)
theorem dX1_isTold_40 : decode cX1_isTold 40 = .ok (.aload_n 0, 1) := dk_42 (dk_at dksX1_isTold_1 18 rfl rfl)
theorem dX1_isTold_41 : decode cX1_isTold 41 = .ok (.getfield 22, 3) := dk_180 0 22 (dk_at dksX1_isTold_1 19 rfl rfl)
theorem dX1_isTold_44 : decode cX1_isTold 44 = .ok (.getfield 96, 3) := dk_180 0 96 (dk_at dksX1_isTold_2 0 rfl rfl)
theorem dX1_isTold_47 : decode cX1_isTold 47 = .ok (.iload_n 3, 1) := dk_29 (dk_at dksX1_isTold_2 3 rfl rfl)
theorem dX1_isTold_48 : decode cX1_isTold 48 = .ok (.invokeinterface 167 2, 5) := by decide +kernel
theorem dX1_isTold_53 : decode cX1_isTold 53 = .ok (.checkcast 175, 3) := dk_192 0 175 (dk_at dksX1_isTold_2 9 rfl rfl)
theorem dX1_isTold_56 : decode cX1_isTold 56 = .ok (.iconst 1, 1) := dk_4 (dk_at dksX1_isTold_2 12 rfl rfl)
theorem dX1_isTold_57 : decode cX1_isTold 57 = .ok (.iaload, 1) := dk_46 (dk_at dksX1_isTold_2 13 rfl rfl)
theorem dX1_isTold_58 : decode cX1_isTold 58 = .ok (.iload_n 2, 1) := dk_28 (dk_at dksX1_isTold_2 14 rfl rfl)
theorem dX1_isTold_59 : decode cX1_isTold 59 = .ok (.if_icmp .ne 5, 3) := dk_160 0 5 (dk_at dksX1_isTold_2 15 rfl rfl)
theorem dX1_isTold_62 : decode cX1_isTold 62 = .ok (.iconst 1, 1) := dk_4 (dk_at dksX1_isTold_2 18 rfl rfl)
theorem dX1_isTold_63 : decode cX1_isTold 63 = .ok (.ireturn, 1) := dk_172 (dk_at dksX1_isTold_2 19 rfl rfl)
theorem dX1_isTold_64 : decode cX1_isTold 64 = .ok (.iinc 3 1, 3) := dk_132 3 1 (dk_at dksX1_isTold_2 20 rfl rfl)
theorem dX1_isTold_67 : decode cX1_isTold 67 = .ok (.goto (-65), 3) := dk_167 255 191 (dk_at dksX1_isTold_3 0 rfl rfl)
theorem dX1_isTold_70 : decode cX1_isTold 70 = .ok (.iconst 0, 1) := dk_3 (dk_at dksX1_isTold_3 3 rfl rfl)
theorem dX1_isTold_71 : decode cX1_isTold 71 = .ok (.ireturn, 1) := dk_172 (dk_at dksX1_isTold_3 4 rfl rfl)
abbrev cX1_far : ByteArray := prog_1_method_45_code
def yX1_far : MethodName := ⟨RX1, "far", "(II)I"⟩
def dkwX1_far_0 : List UInt8 := [42, 27, 182, 0, 129, 42, 28, 182, 0, 129, 42, 180, 0, 31, 27, 28, 182, 1, 30, 172]
abbrev dktX1_far_0 : List UInt8 := dkwX1_far_0 ++ []
theorem dksX1_far_0 : cX1_far.data.toList.drop 0 = dktX1_far_0 := by decide +kernel
theorem dX1_far_0 : decode cX1_far 0 = .ok (.aload_n 0, 1) := dk_42 (dk_at dksX1_far_0 0 rfl rfl)
theorem dX1_far_1 : decode cX1_far 1 = .ok (.iload_n 1, 1) := dk_27 (dk_at dksX1_far_0 1 rfl rfl)
theorem dX1_far_2 : decode cX1_far 2 = .ok (.invokevirtual 129, 3) := dk_182 0 129 (dk_at dksX1_far_0 2 rfl rfl)
theorem dX1_far_5 : decode cX1_far 5 = .ok (.aload_n 0, 1) := dk_42 (dk_at dksX1_far_0 5 rfl rfl)
theorem dX1_far_6 : decode cX1_far 6 = .ok (.iload_n 2, 1) := dk_28 (dk_at dksX1_far_0 6 rfl rfl)
theorem dX1_far_7 : decode cX1_far 7 = .ok (.invokevirtual 129, 3) := dk_182 0 129 (dk_at dksX1_far_0 7 rfl rfl)
theorem dX1_far_10 : decode cX1_far 10 = .ok (.aload_n 0, 1) := dk_42 (dk_at dksX1_far_0 10 rfl rfl)
theorem dX1_far_11 : decode cX1_far 11 = .ok (.getfield 31, 3) := dk_180 0 31 (dk_at dksX1_far_0 11 rfl rfl)
theorem dX1_far_14 : decode cX1_far 14 = .ok (.iload_n 1, 1) := dk_27 (dk_at dksX1_far_0 14 rfl rfl)
theorem dX1_far_15 : decode cX1_far 15 = .ok (.iload_n 2, 1) := dk_28 (dk_at dksX1_far_0 15 rfl rfl)
theorem dX1_far_16 : decode cX1_far 16 = .ok (.invokevirtual 286, 3) := dk_182 1 30 (dk_at dksX1_far_0 16 rfl rfl)
theorem dX1_far_19 : decode cX1_far 19 = .ok (.ireturn, 1) := dk_172 (dk_at dksX1_far_0 19 rfl rfl)
abbrev cX1_unread : ByteArray := prog_1_method_69_code
def yX1_unread : MethodName := ⟨RX1, "unread", "(I)I"⟩
def dkwX1_unread_1 : List UInt8 := [182, 0, 251, 182, 0, 116, 184, 1, 7, 100, 172]
abbrev dktX1_unread_1 : List UInt8 := dkwX1_unread_1 ++ []
def dkwX1_unread_0 : List UInt8 := [27, 3, 16, 40, 184, 0, 122, 184, 0, 62, 42, 180, 0, 22, 180, 0, 96, 185, 0, 99, 1, 0, 42, 27]
abbrev dktX1_unread_0 : List UInt8 := dkwX1_unread_0 ++ dktX1_unread_1
theorem dksX1_unread_0 : cX1_unread.data.toList.drop 0 = dktX1_unread_0 := by decide +kernel
theorem dksX1_unread_1 : cX1_unread.data.toList.drop 24 = dktX1_unread_1 := dk_seg dksX1_unread_0 24 rfl rfl
theorem dX1_unread_0 : decode cX1_unread 0 = .ok (.iload_n 1, 1) := dk_27 (dk_at dksX1_unread_0 0 rfl rfl)
theorem dX1_unread_1 : decode cX1_unread 1 = .ok (.iconst 0, 1) := dk_3 (dk_at dksX1_unread_0 1 rfl rfl)
theorem dX1_unread_2 : decode cX1_unread 2 = .ok (.bipush 40, 2) := dk_16 40 (dk_at dksX1_unread_0 2 rfl rfl)
theorem dX1_unread_4 : decode cX1_unread 4 = .ok (.invokestatic 122, 3) := dk_184 0 122 (dk_at dksX1_unread_0 4 rfl rfl)
theorem dX1_unread_7 : decode cX1_unread 7 = .ok (.invokestatic 62, 3) := dk_184 0 62 (dk_at dksX1_unread_0 7 rfl rfl)
theorem dX1_unread_10 : decode cX1_unread 10 = .ok (.aload_n 0, 1) := dk_42 (dk_at dksX1_unread_0 10 rfl rfl)
theorem dX1_unread_11 : decode cX1_unread 11 = .ok (.getfield 22, 3) := dk_180 0 22 (dk_at dksX1_unread_0 11 rfl rfl)
theorem dX1_unread_14 : decode cX1_unread 14 = .ok (.getfield 96, 3) := dk_180 0 96 (dk_at dksX1_unread_0 14 rfl rfl)
theorem dX1_unread_17 : decode cX1_unread 17 = .ok (.invokeinterface 99 1, 5) := by decide +kernel
theorem dX1_unread_22 : decode cX1_unread 22 = .ok (.aload_n 0, 1) := dk_42 (dk_at dksX1_unread_0 22 rfl rfl)
theorem dX1_unread_23 : decode cX1_unread 23 = .ok (.iload_n 1, 1) := dk_27 (dk_at dksX1_unread_0 23 rfl rfl)
theorem dX1_unread_24 : decode cX1_unread 24 = .ok (.invokevirtual 251, 3) := dk_182 0 251 (dk_at dksX1_unread_1 0 rfl rfl)
theorem dX1_unread_27 : decode cX1_unread 27 = .ok (.invokevirtual 116, 3) := dk_182 0 116 (dk_at dksX1_unread_1 3 rfl rfl)
theorem dX1_unread_30 : decode cX1_unread 30 = .ok (.invokestatic 263, 3) := dk_184 1 7 (dk_at dksX1_unread_1 6 rfl rfl)
theorem dX1_unread_33 : decode cX1_unread 33 = .ok (.isub, 1) := dk_100 (dk_at dksX1_unread_1 9 rfl rfl)
theorem dX1_unread_34 : decode cX1_unread 34 = .ok (.ireturn, 1) := dk_172 (dk_at dksX1_unread_1 10 rfl rfl)
abbrev cX1_heir : ByteArray := prog_1_method_70_code
def yX1_heir : MethodName := ⟨RX1, "heir", "(I)I"⟩
def dkwX1_heir_3 : List UInt8 := [132, 4, 1, 167, 255, 195, 28, 172]
abbrev dktX1_heir_3 : List UInt8 := dkwX1_heir_3 ++ []
def dkwX1_heir_2 : List UInt8 := [54, 5, 21, 4, 27, 159, 0, 18, 21, 5, 29, 163, 0, 6, 167, 0, 9, 21, 4, 61, 21, 5, 62]
abbrev dktX1_heir_2 : List UInt8 := dkwX1_heir_2 ++ dktX1_heir_3
def dkwX1_heir_1 : List UInt8 := [42, 180, 0, 31, 180, 0, 158, 21, 4, 46, 42, 180, 0, 31, 180, 0, 158, 27, 46, 126, 184, 1, 7]
abbrev dktX1_heir_1 : List UInt8 := dkwX1_heir_1 ++ dktX1_heir_2
def dkwX1_heir_0 : List UInt8 := [42, 27, 182, 0, 152, 2, 61, 2, 62, 3, 54, 4, 21, 4, 42, 180, 0, 22, 182, 0, 92, 162, 0, 55]
abbrev dktX1_heir_0 : List UInt8 := dkwX1_heir_0 ++ dktX1_heir_1
theorem dksX1_heir_0 : cX1_heir.data.toList.drop 0 = dktX1_heir_0 := by decide +kernel
theorem dksX1_heir_1 : cX1_heir.data.toList.drop 24 = dktX1_heir_1 := dk_seg dksX1_heir_0 24 rfl rfl
theorem dksX1_heir_2 : cX1_heir.data.toList.drop 47 = dktX1_heir_2 := dk_seg dksX1_heir_1 23 rfl rfl
theorem dksX1_heir_3 : cX1_heir.data.toList.drop 70 = dktX1_heir_3 := dk_seg dksX1_heir_2 23 rfl rfl
theorem dX1_heir_0 : decode cX1_heir 0 = .ok (.aload_n 0, 1) := dk_42 (dk_at dksX1_heir_0 0 rfl rfl)
theorem dX1_heir_1 : decode cX1_heir 1 = .ok (.iload_n 1, 1) := dk_27 (dk_at dksX1_heir_0 1 rfl rfl)
theorem dX1_heir_2 : decode cX1_heir 2 = .ok (.invokevirtual 152, 3) := dk_182 0 152 (dk_at dksX1_heir_0 2 rfl rfl)
theorem dX1_heir_5 : decode cX1_heir 5 = .ok (.iconst (-1), 1) := dk_2 (dk_at dksX1_heir_0 5 rfl rfl)
theorem dX1_heir_6 : decode cX1_heir 6 = .ok (.istore_n 2, 1) := dk_61 (dk_at dksX1_heir_0 6 rfl rfl)
theorem dX1_heir_7 : decode cX1_heir 7 = .ok (.iconst (-1), 1) := dk_2 (dk_at dksX1_heir_0 7 rfl rfl)
theorem dX1_heir_8 : decode cX1_heir 8 = .ok (.istore_n 3, 1) := dk_62 (dk_at dksX1_heir_0 8 rfl rfl)
theorem dX1_heir_9 : decode cX1_heir 9 = .ok (.iconst 0, 1) := dk_3 (dk_at dksX1_heir_0 9 rfl rfl)
theorem dX1_heir_10 : decode cX1_heir 10 = .ok (.istore 4, 2) := dk_54 4 (dk_at dksX1_heir_0 10 rfl rfl)
theorem dX1_heir_12 : decode cX1_heir 12 = .ok (.iload 4, 2) := dk_21 4 (dk_at dksX1_heir_0 12 rfl rfl)
theorem dX1_heir_14 : decode cX1_heir 14 = .ok (.aload_n 0, 1) := dk_42 (dk_at dksX1_heir_0 14 rfl rfl)
theorem dX1_heir_15 : decode cX1_heir 15 = .ok (.getfield 22, 3) := dk_180 0 22 (dk_at dksX1_heir_0 15 rfl rfl)
theorem dX1_heir_18 : decode cX1_heir 18 = .ok (.invokevirtual 92, 3) := dk_182 0 92 (dk_at dksX1_heir_0 18 rfl rfl)
theorem dX1_heir_21 : decode cX1_heir 21 = .ok (.if_icmp .ge 55, 3) := dk_162 0 55 (dk_at dksX1_heir_0 21 rfl rfl)
theorem dX1_heir_24 : decode cX1_heir 24 = .ok (.aload_n 0, 1) := dk_42 (dk_at dksX1_heir_1 0 rfl rfl)
theorem dX1_heir_25 : decode cX1_heir 25 = .ok (.getfield 31, 3) := dk_180 0 31 (dk_at dksX1_heir_1 1 rfl rfl)
theorem dX1_heir_28 : decode cX1_heir 28 = .ok (.getfield 158, 3) := dk_180 0 158 (dk_at dksX1_heir_1 4 rfl rfl)
theorem dX1_heir_31 : decode cX1_heir 31 = .ok (.iload 4, 2) := dk_21 4 (dk_at dksX1_heir_1 7 rfl rfl)
theorem dX1_heir_33 : decode cX1_heir 33 = .ok (.iaload, 1) := dk_46 (dk_at dksX1_heir_1 9 rfl rfl)
theorem dX1_heir_34 : decode cX1_heir 34 = .ok (.aload_n 0, 1) := dk_42 (dk_at dksX1_heir_1 10 rfl rfl)
theorem dX1_heir_35 : decode cX1_heir 35 = .ok (.getfield 31, 3) := dk_180 0 31 (dk_at dksX1_heir_1 11 rfl rfl)
theorem dX1_heir_38 : decode cX1_heir 38 = .ok (.getfield 158, 3) := dk_180 0 158 (dk_at dksX1_heir_1 14 rfl rfl)
theorem dX1_heir_41 : decode cX1_heir 41 = .ok (.iload_n 1, 1) := dk_27 (dk_at dksX1_heir_1 17 rfl rfl)
theorem dX1_heir_42 : decode cX1_heir 42 = .ok (.iaload, 1) := dk_46 (dk_at dksX1_heir_1 18 rfl rfl)
theorem dX1_heir_43 : decode cX1_heir 43 = .ok (.iand, 1) := dk_126 (dk_at dksX1_heir_1 19 rfl rfl)
theorem dX1_heir_44 : decode cX1_heir 44 = .ok (.invokestatic 263, 3) := dk_184 1 7 (dk_at dksX1_heir_1 20 rfl rfl)
theorem dX1_heir_47 : decode cX1_heir 47 = .ok (.istore 5, 2) := dk_54 5 (dk_at dksX1_heir_2 0 rfl rfl)
theorem dX1_heir_49 : decode cX1_heir 49 = .ok (.iload 4, 2) := dk_21 4 (dk_at dksX1_heir_2 2 rfl rfl)
theorem dX1_heir_51 : decode cX1_heir 51 = .ok (.iload_n 1, 1) := dk_27 (dk_at dksX1_heir_2 4 rfl rfl)
theorem dX1_heir_52 : decode cX1_heir 52 = .ok (.if_icmp .eq 18, 3) := dk_159 0 18 (dk_at dksX1_heir_2 5 rfl rfl)
theorem dX1_heir_55 : decode cX1_heir 55 = .ok (.iload 5, 2) := dk_21 5 (dk_at dksX1_heir_2 8 rfl rfl)
theorem dX1_heir_57 : decode cX1_heir 57 = .ok (.iload_n 3, 1) := dk_29 (dk_at dksX1_heir_2 10 rfl rfl)
theorem dX1_heir_58 : decode cX1_heir 58 = .ok (.if_icmp .gt 6, 3) := dk_163 0 6 (dk_at dksX1_heir_2 11 rfl rfl)
theorem dX1_heir_61 : decode cX1_heir 61 = .ok (.goto 9, 3) := dk_167 0 9 (dk_at dksX1_heir_2 14 rfl rfl)
theorem dX1_heir_64 : decode cX1_heir 64 = .ok (.iload 4, 2) := dk_21 4 (dk_at dksX1_heir_2 17 rfl rfl)
theorem dX1_heir_66 : decode cX1_heir 66 = .ok (.istore_n 2, 1) := dk_61 (dk_at dksX1_heir_2 19 rfl rfl)
theorem dX1_heir_67 : decode cX1_heir 67 = .ok (.iload 5, 2) := dk_21 5 (dk_at dksX1_heir_2 20 rfl rfl)
theorem dX1_heir_69 : decode cX1_heir 69 = .ok (.istore_n 3, 1) := dk_62 (dk_at dksX1_heir_2 22 rfl rfl)
theorem dX1_heir_70 : decode cX1_heir 70 = .ok (.iinc 4 1, 3) := dk_132 4 1 (dk_at dksX1_heir_3 0 rfl rfl)
theorem dX1_heir_73 : decode cX1_heir 73 = .ok (.goto (-61), 3) := dk_167 255 195 (dk_at dksX1_heir_3 3 rfl rfl)
theorem dX1_heir_76 : decode cX1_heir 76 = .ok (.iload_n 2, 1) := dk_28 (dk_at dksX1_heir_3 6 rfl rfl)
theorem dX1_heir_77 : decode cX1_heir 77 = .ok (.ireturn, 1) := dk_172 (dk_at dksX1_heir_3 7 rfl rfl)
abbrev cX1_laid : ByteArray := prog_1_method_72_code
def yX1_laid : MethodName := ⟨RX1, "laid", "(I)I"⟩
def dkwX1_laid_2 : List UInt8 := [182, 1, 79, 21, 4, 164, 0, 6, 132, 2, 1, 132, 3, 1, 167, 255, 222, 28, 172]
abbrev dktX1_laid_2 : List UInt8 := dkwX1_laid_2 ++ []
def dkwX1_laid_1 : List UInt8 := [3, 62, 29, 27, 162, 0, 35, 42, 182, 1, 79, 54, 4, 42, 180, 0, 35, 182, 1, 1, 87, 42]
abbrev dktX1_laid_1 : List UInt8 := dkwX1_laid_1 ++ dktX1_laid_2
def dkwX1_laid_0 : List UInt8 := [27, 4, 16, 40, 184, 0, 122, 184, 0, 62, 3, 61, 42, 180, 0, 35, 42, 180, 0, 31, 182, 0, 247, 87]
abbrev dktX1_laid_0 : List UInt8 := dkwX1_laid_0 ++ dktX1_laid_1
theorem dksX1_laid_0 : cX1_laid.data.toList.drop 0 = dktX1_laid_0 := by decide +kernel
theorem dksX1_laid_1 : cX1_laid.data.toList.drop 24 = dktX1_laid_1 := dk_seg dksX1_laid_0 24 rfl rfl
theorem dksX1_laid_2 : cX1_laid.data.toList.drop 46 = dktX1_laid_2 := dk_seg dksX1_laid_1 22 rfl rfl
theorem dX1_laid_0 : decode cX1_laid 0 = .ok (.iload_n 1, 1) := dk_27 (dk_at dksX1_laid_0 0 rfl rfl)
theorem dX1_laid_1 : decode cX1_laid 1 = .ok (.iconst 1, 1) := dk_4 (dk_at dksX1_laid_0 1 rfl rfl)
theorem dX1_laid_2 : decode cX1_laid 2 = .ok (.bipush 40, 2) := dk_16 40 (dk_at dksX1_laid_0 2 rfl rfl)
theorem dX1_laid_4 : decode cX1_laid 4 = .ok (.invokestatic 122, 3) := dk_184 0 122 (dk_at dksX1_laid_0 4 rfl rfl)
theorem dX1_laid_7 : decode cX1_laid 7 = .ok (.invokestatic 62, 3) := dk_184 0 62 (dk_at dksX1_laid_0 7 rfl rfl)
theorem dX1_laid_10 : decode cX1_laid 10 = .ok (.iconst 0, 1) := dk_3 (dk_at dksX1_laid_0 10 rfl rfl)
theorem dX1_laid_11 : decode cX1_laid 11 = .ok (.istore_n 2, 1) := dk_61 (dk_at dksX1_laid_0 11 rfl rfl)
theorem dX1_laid_12 : decode cX1_laid 12 = .ok (.aload_n 0, 1) := dk_42 (dk_at dksX1_laid_0 12 rfl rfl)
theorem dX1_laid_13 : decode cX1_laid 13 = .ok (.getfield 35, 3) := dk_180 0 35 (dk_at dksX1_laid_0 13 rfl rfl)
theorem dX1_laid_16 : decode cX1_laid 16 = .ok (.aload_n 0, 1) := dk_42 (dk_at dksX1_laid_0 16 rfl rfl)
theorem dX1_laid_17 : decode cX1_laid 17 = .ok (.getfield 31, 3) := dk_180 0 31 (dk_at dksX1_laid_0 17 rfl rfl)
theorem dX1_laid_20 : decode cX1_laid 20 = .ok (.invokevirtual 247, 3) := dk_182 0 247 (dk_at dksX1_laid_0 20 rfl rfl)
theorem dX1_laid_23 : decode cX1_laid 23 = .ok (.pop, 1) := dk_87 (dk_at dksX1_laid_0 23 rfl rfl)
theorem dX1_laid_24 : decode cX1_laid 24 = .ok (.iconst 0, 1) := dk_3 (dk_at dksX1_laid_1 0 rfl rfl)
theorem dX1_laid_25 : decode cX1_laid 25 = .ok (.istore_n 3, 1) := dk_62 (dk_at dksX1_laid_1 1 rfl rfl)
theorem dX1_laid_26 : decode cX1_laid 26 = .ok (.iload_n 3, 1) := dk_29 (dk_at dksX1_laid_1 2 rfl rfl)
theorem dX1_laid_27 : decode cX1_laid 27 = .ok (.iload_n 1, 1) := dk_27 (dk_at dksX1_laid_1 3 rfl rfl)
theorem dX1_laid_28 : decode cX1_laid 28 = .ok (.if_icmp .ge 35, 3) := dk_162 0 35 (dk_at dksX1_laid_1 4 rfl rfl)
theorem dX1_laid_31 : decode cX1_laid 31 = .ok (.aload_n 0, 1) := dk_42 (dk_at dksX1_laid_1 7 rfl rfl)
theorem dX1_laid_32 : decode cX1_laid 32 = .ok (.invokevirtual 335, 3) := dk_182 1 79 (dk_at dksX1_laid_1 8 rfl rfl)
theorem dX1_laid_35 : decode cX1_laid 35 = .ok (.istore 4, 2) := dk_54 4 (dk_at dksX1_laid_1 11 rfl rfl)
theorem dX1_laid_37 : decode cX1_laid 37 = .ok (.aload_n 0, 1) := dk_42 (dk_at dksX1_laid_1 13 rfl rfl)
theorem dX1_laid_38 : decode cX1_laid 38 = .ok (.getfield 35, 3) := dk_180 0 35 (dk_at dksX1_laid_1 14 rfl rfl)
theorem dX1_laid_41 : decode cX1_laid 41 = .ok (.invokevirtual 257, 3) := dk_182 1 1 (dk_at dksX1_laid_1 17 rfl rfl)
theorem dX1_laid_44 : decode cX1_laid 44 = .ok (.pop, 1) := dk_87 (dk_at dksX1_laid_1 20 rfl rfl)
theorem dX1_laid_45 : decode cX1_laid 45 = .ok (.aload_n 0, 1) := dk_42 (dk_at dksX1_laid_1 21 rfl rfl)
theorem dX1_laid_46 : decode cX1_laid 46 = .ok (.invokevirtual 335, 3) := dk_182 1 79 (dk_at dksX1_laid_2 0 rfl rfl)
theorem dX1_laid_49 : decode cX1_laid 49 = .ok (.iload 4, 2) := dk_21 4 (dk_at dksX1_laid_2 3 rfl rfl)
theorem dX1_laid_51 : decode cX1_laid 51 = .ok (.if_icmp .le 6, 3) := dk_164 0 6 (dk_at dksX1_laid_2 5 rfl rfl)
theorem dX1_laid_54 : decode cX1_laid 54 = .ok (.iinc 2 1, 3) := dk_132 2 1 (dk_at dksX1_laid_2 8 rfl rfl)
theorem dX1_laid_57 : decode cX1_laid 57 = .ok (.iinc 3 1, 3) := dk_132 3 1 (dk_at dksX1_laid_2 11 rfl rfl)
theorem dX1_laid_60 : decode cX1_laid 60 = .ok (.goto (-34), 3) := dk_167 255 222 (dk_at dksX1_laid_2 14 rfl rfl)
theorem dX1_laid_63 : decode cX1_laid 63 = .ok (.iload_n 2, 1) := dk_28 (dk_at dksX1_laid_2 17 rfl rfl)
theorem dX1_laid_64 : decode cX1_laid 64 = .ok (.ireturn, 1) := dk_172 (dk_at dksX1_laid_2 18 rfl rfl)
abbrev cX1_allKnown : ByteArray := prog_1_method_71_code
def yX1_allKnown : MethodName := ⟨RX1, "allKnown", "()I"⟩
def dkwX1_allKnown_1 : List UInt8 := [46, 184, 1, 7, 96, 60, 132, 2, 1, 167, 255, 227, 27, 172]
abbrev dktX1_allKnown_1 : List UInt8 := dkwX1_allKnown_1 ++ []
def dkwX1_allKnown_0 : List UInt8 := [3, 60, 3, 61, 28, 42, 180, 0, 22, 182, 0, 92, 162, 0, 24, 27, 42, 180, 0, 35, 180, 0, 158, 28]
abbrev dktX1_allKnown_0 : List UInt8 := dkwX1_allKnown_0 ++ dktX1_allKnown_1
theorem dksX1_allKnown_0 : cX1_allKnown.data.toList.drop 0 = dktX1_allKnown_0 := by decide +kernel
theorem dksX1_allKnown_1 : cX1_allKnown.data.toList.drop 24 = dktX1_allKnown_1 := dk_seg dksX1_allKnown_0 24 rfl rfl
theorem dX1_allKnown_0 : decode cX1_allKnown 0 = .ok (.iconst 0, 1) := dk_3 (dk_at dksX1_allKnown_0 0 rfl rfl)
theorem dX1_allKnown_1 : decode cX1_allKnown 1 = .ok (.istore_n 1, 1) := dk_60 (dk_at dksX1_allKnown_0 1 rfl rfl)
theorem dX1_allKnown_2 : decode cX1_allKnown 2 = .ok (.iconst 0, 1) := dk_3 (dk_at dksX1_allKnown_0 2 rfl rfl)
theorem dX1_allKnown_3 : decode cX1_allKnown 3 = .ok (.istore_n 2, 1) := dk_61 (dk_at dksX1_allKnown_0 3 rfl rfl)
theorem dX1_allKnown_4 : decode cX1_allKnown 4 = .ok (.iload_n 2, 1) := dk_28 (dk_at dksX1_allKnown_0 4 rfl rfl)
theorem dX1_allKnown_5 : decode cX1_allKnown 5 = .ok (.aload_n 0, 1) := dk_42 (dk_at dksX1_allKnown_0 5 rfl rfl)
theorem dX1_allKnown_6 : decode cX1_allKnown 6 = .ok (.getfield 22, 3) := dk_180 0 22 (dk_at dksX1_allKnown_0 6 rfl rfl)
theorem dX1_allKnown_9 : decode cX1_allKnown 9 = .ok (.invokevirtual 92, 3) := dk_182 0 92 (dk_at dksX1_allKnown_0 9 rfl rfl)
theorem dX1_allKnown_12 : decode cX1_allKnown 12 = .ok (.if_icmp .ge 24, 3) := dk_162 0 24 (dk_at dksX1_allKnown_0 12 rfl rfl)
theorem dX1_allKnown_15 : decode cX1_allKnown 15 = .ok (.iload_n 1, 1) := dk_27 (dk_at dksX1_allKnown_0 15 rfl rfl)
theorem dX1_allKnown_16 : decode cX1_allKnown 16 = .ok (.aload_n 0, 1) := dk_42 (dk_at dksX1_allKnown_0 16 rfl rfl)
theorem dX1_allKnown_17 : decode cX1_allKnown 17 = .ok (.getfield 35, 3) := dk_180 0 35 (dk_at dksX1_allKnown_0 17 rfl rfl)
theorem dX1_allKnown_20 : decode cX1_allKnown 20 = .ok (.getfield 158, 3) := dk_180 0 158 (dk_at dksX1_allKnown_0 20 rfl rfl)
theorem dX1_allKnown_23 : decode cX1_allKnown 23 = .ok (.iload_n 2, 1) := dk_28 (dk_at dksX1_allKnown_0 23 rfl rfl)
theorem dX1_allKnown_24 : decode cX1_allKnown 24 = .ok (.iaload, 1) := dk_46 (dk_at dksX1_allKnown_1 0 rfl rfl)
theorem dX1_allKnown_25 : decode cX1_allKnown 25 = .ok (.invokestatic 263, 3) := dk_184 1 7 (dk_at dksX1_allKnown_1 1 rfl rfl)
theorem dX1_allKnown_28 : decode cX1_allKnown 28 = .ok (.iadd, 1) := dk_96 (dk_at dksX1_allKnown_1 4 rfl rfl)
theorem dX1_allKnown_29 : decode cX1_allKnown 29 = .ok (.istore_n 1, 1) := dk_60 (dk_at dksX1_allKnown_1 5 rfl rfl)
theorem dX1_allKnown_30 : decode cX1_allKnown 30 = .ok (.iinc 2 1, 3) := dk_132 2 1 (dk_at dksX1_allKnown_1 6 rfl rfl)
theorem dX1_allKnown_33 : decode cX1_allKnown 33 = .ok (.goto (-29), 3) := dk_167 255 227 (dk_at dksX1_allKnown_1 9 rfl rfl)
theorem dX1_allKnown_36 : decode cX1_allKnown 36 = .ok (.iload_n 1, 1) := dk_27 (dk_at dksX1_allKnown_1 12 rfl rfl)
theorem dX1_allKnown_37 : decode cX1_allKnown 37 = .ok (.ireturn, 1) := dk_172 (dk_at dksX1_allKnown_1 13 rfl rfl)
theorem q135 : (Jvm.Cond.initialized "TwinInk") ∈ lw_all := lw_g (lw_at lw_m1 1 rfl) rfl
theorem q169 : (Jvm.Cond.instantiable "TwinInk" (14 : Nat)) ∈ lw_all := lw_g (lw_at lw_m1 35 rfl) rfl
theorem q171 : (Jvm.Cond.instanceMethod ({ cls := "TwinInk", name := "<init>", desc := "()V" } : Jvm.MethodName)) ∈ lw_all := lw_g (lw_at lw_m1 37 rfl) rfl
theorem q172 : (Jvm.Cond.code ({ cls := "TwinInk", name := "<init>", desc := "()V" } : Jvm.MethodName) prog_1_method_5_code (1 : Nat) (Option.none : Option Jvm.ClassFile.FieldType)) ∈ lw_all := lw_g (lw_at lw_m1 38 rfl) rfl
theorem q173 : (Jvm.Cond.methodLink "TwinInk" (10 : Nat) ({ cls := "java/lang/Object", name := "<init>", desc := "()V" } : Jvm.MethodName)) ∈ lw_all := lw_g (lw_at lw_m1 39 rfl) rfl
theorem q176 : (Jvm.Cond.classLink "TwinInk" (19 : Nat) "TwinInk$Office") ∈ lw_all := lw_g (lw_at lw_m1 42 rfl) rfl
theorem q178 : (Jvm.Cond.methodLinkNest "TwinInk" (21 : Nat) ({ cls := "TwinInk$Office", name := "<init>", desc := "()V" } : Jvm.MethodName) "TwinInk") ∈ lw_tbl := lw_at lw_m1 44 rfl
theorem q210 : (Jvm.Cond.fieldLinkNest "TwinInk" (96 : Nat) "TwinInk$Office" "words" "Ljava/util/List;" "TwinInk") ∈ lw_tbl := lw_at lw_m1 76 rfl
theorem q214 : (Jvm.Cond.fieldLinkNest "TwinInk" (164 : Nat) "TwinInk$Office" "rounds" "Ljava/util/List;" "TwinInk") ∈ lw_tbl := lw_at lw_m1 80 rfl
theorem q216 : (Jvm.Cond.fieldLinkNest "TwinInk" (89 : Nat) "TwinInk$Office" "sheets" "I" "TwinInk") ∈ lw_tbl := lw_at lw_m1 82 rfl
theorem q220 : (Jvm.Cond.fieldLinkNest "TwinInk" (104 : Nat) "TwinInk$Office" "slack" "I" "TwinInk") ∈ lw_tbl := lw_at lw_m1 86 rfl
theorem q239 : (Jvm.Cond.classLink "TwinInk" (26 : Nat) "TwinInk$Service") ∈ lw_all := lw_g (lw_at lw_m1 105 rfl) rfl
theorem q241 : (Jvm.Cond.methodLinkNest "TwinInk" (28 : Nat) ({ cls := "TwinInk$Service", name := "<init>", desc := "(LTwinInk;)V" } : Jvm.MethodName) "TwinInk") ∈ lw_tbl := lw_at lw_m1 107 rfl
theorem q246 : (Jvm.Cond.fieldLinkNest "TwinInk" (137 : Nat) "TwinInk$Service" "left" "[I" "TwinInk") ∈ lw_tbl := lw_at lw_m1 112 rfl
theorem q249 : (Jvm.Cond.fieldLinkNest "TwinInk" (140 : Nat) "TwinInk$Service" "edge" "[I" "TwinInk") ∈ lw_tbl := lw_at lw_m1 115 rfl
theorem q253 : (Jvm.Cond.fieldLinkNest "TwinInk" (230 : Nat) "TwinInk$Service" "at" "[I" "TwinInk") ∈ lw_tbl := lw_at lw_m1 119 rfl
theorem q255 : (Jvm.Cond.fieldLinkNest "TwinInk" (158 : Nat) "TwinInk$Service" "knows" "[I" "TwinInk") ∈ lw_tbl := lw_at lw_m1 121 rfl
theorem q257 : (Jvm.Cond.fieldLinkNest "TwinInk" (107 : Nat) "TwinInk$Service" "day" "I" "TwinInk") ∈ lw_tbl := lw_at lw_m1 123 rfl
theorem q272 : (Jvm.Cond.classLink "TwinInk" (49 : Nat) "java/util/ArrayList") ∈ lw_all := lw_g (lw_at lw_m1 138 rfl) rfl
theorem q273 : (Jvm.Cond.methodLink "TwinInk" (51 : Nat) ({ cls := "java/util/ArrayList", name := "<init>", desc := "()V" } : Jvm.MethodName)) ∈ lw_all := lw_g (lw_at lw_m1 139 rfl) rfl
theorem q274 : (Jvm.Cond.fieldLink "TwinInk" (13 : Nat) "TwinInk" "values" "[I") ∈ lw_all := lw_g (lw_at lw_m1 140 rfl) rfl
theorem q277 : (Jvm.Cond.fieldLink "TwinInk" (22 : Nat) "TwinInk" "office" "LTwinInk$Office;") ∈ lw_all := lw_g (lw_at lw_m1 143 rfl) rfl
theorem q278 : (Jvm.Cond.fieldLink "TwinInk" (31 : Nat) "TwinInk" "service" "LTwinInk$Service;") ∈ lw_all := lw_g (lw_at lw_m1 144 rfl) rfl
theorem q279 : (Jvm.Cond.fieldLink "TwinInk" (35 : Nat) "TwinInk" "tried" "LTwinInk$Service;") ∈ lw_all := lw_g (lw_at lw_m1 145 rfl) rfl
theorem q281 : (Jvm.Cond.fieldLink "TwinInk" (38 : Nat) "TwinInk" "tape" "[B") ∈ lw_all := lw_g (lw_at lw_m1 147 rfl) rfl
theorem q282 : (Jvm.Cond.fieldLink "TwinInk" (59 : Nat) "TwinInk" "taped" "I") ∈ lw_all := lw_g (lw_at lw_m1 148 rfl) rfl
theorem q283 : (Jvm.Cond.fieldLink "TwinInk" (42 : Nat) "TwinInk" "faultPlace" "I") ∈ lw_all := lw_g (lw_at lw_m1 149 rfl) rfl
theorem q284 : (Jvm.Cond.fieldLink "TwinInk" (46 : Nat) "TwinInk" "refused" "[I") ∈ lw_all := lw_g (lw_at lw_m1 150 rfl) rfl
theorem q285 : (Jvm.Cond.fieldLink "TwinInk" (52 : Nat) "TwinInk" "acts" "Ljava/util/List;") ∈ lw_all := lw_g (lw_at lw_m1 151 rfl) rfl
theorem q286 : (Jvm.Cond.fieldLink "TwinInk" (56 : Nat) "TwinInk" "heard" "Ljava/util/List;") ∈ lw_all := lw_g (lw_at lw_m1 152 rfl) rfl
theorem q287 : (Jvm.Cond.fieldLink "TwinInk" (86 : Nat) "TwinInk" "serviceThen" "LTwinInk$Service;") ∈ lw_all := lw_g (lw_at lw_m1 153 rfl) rfl
theorem q288 : (Jvm.Cond.fieldLink "TwinInk" (341 : Nat) "TwinInk" "actsThen" "Ljava/util/List;") ∈ lw_all := lw_g (lw_at lw_m1 154 rfl) rfl
theorem q289 : (Jvm.Cond.fieldLink "TwinInk" (344 : Nat) "TwinInk" "heardThen" "Ljava/util/List;") ∈ lw_all := lw_g (lw_at lw_m1 155 rfl) rfl
theorem q290 : (Jvm.Cond.fieldLink "TwinInk" (314 : Nat) "TwinInk" "seed" "I") ∈ lw_all := lw_g (lw_at lw_m1 156 rfl) rfl
theorem q291 : (Jvm.Cond.laysFinal "TwinInk" "TwinInk" "values" "[I") ∈ lw_all := lw_g (lw_at lw_m1 157 rfl) rfl
theorem q292 : (Jvm.Cond.soleField "TwinInk" "values") ∈ lw_all := lw_g (lw_at lw_m1 158 rfl) rfl
theorem q293 : (Jvm.Cond.lays "TwinInk" "TwinInk" "office" "LTwinInk$Office;") ∈ lw_all := lw_g (lw_at lw_m1 159 rfl) rfl
theorem q294 : (Jvm.Cond.soleField "TwinInk" "office") ∈ lw_all := lw_g (lw_at lw_m1 160 rfl) rfl
theorem q295 : (Jvm.Cond.lays "TwinInk" "TwinInk" "service" "LTwinInk$Service;") ∈ lw_all := lw_g (lw_at lw_m1 161 rfl) rfl
theorem q296 : (Jvm.Cond.soleField "TwinInk" "service") ∈ lw_all := lw_g (lw_at lw_m1 162 rfl) rfl
theorem q297 : (Jvm.Cond.laysFinal "TwinInk" "TwinInk" "tried" "LTwinInk$Service;") ∈ lw_all := lw_g (lw_at lw_m1 163 rfl) rfl
theorem q298 : (Jvm.Cond.soleField "TwinInk" "tried") ∈ lw_all := lw_g (lw_at lw_m1 164 rfl) rfl
theorem q299 : (Jvm.Cond.laysFinal "TwinInk" "TwinInk" "tape" "[B") ∈ lw_all := lw_g (lw_at lw_m1 165 rfl) rfl
theorem q300 : (Jvm.Cond.soleField "TwinInk" "tape") ∈ lw_all := lw_g (lw_at lw_m1 166 rfl) rfl
theorem q301 : (Jvm.Cond.lays "TwinInk" "TwinInk" "taped" "I") ∈ lw_all := lw_g (lw_at lw_m1 167 rfl) rfl
theorem q302 : (Jvm.Cond.soleField "TwinInk" "taped") ∈ lw_all := lw_g (lw_at lw_m1 168 rfl) rfl
theorem q303 : (Jvm.Cond.lays "TwinInk" "TwinInk" "faultPlace" "I") ∈ lw_all := lw_g (lw_at lw_m1 169 rfl) rfl
theorem q304 : (Jvm.Cond.soleField "TwinInk" "faultPlace") ∈ lw_all := lw_g (lw_at lw_m1 170 rfl) rfl
theorem q305 : (Jvm.Cond.laysFinal "TwinInk" "TwinInk" "refused" "[I") ∈ lw_all := lw_g (lw_at lw_m1 171 rfl) rfl
theorem q306 : (Jvm.Cond.soleField "TwinInk" "refused") ∈ lw_all := lw_g (lw_at lw_m1 172 rfl) rfl
theorem q307 : (Jvm.Cond.lays "TwinInk" "TwinInk" "acts" "Ljava/util/List;") ∈ lw_all := lw_g (lw_at lw_m1 173 rfl) rfl
theorem q308 : (Jvm.Cond.soleField "TwinInk" "acts") ∈ lw_all := lw_g (lw_at lw_m1 174 rfl) rfl
theorem q309 : (Jvm.Cond.lays "TwinInk" "TwinInk" "heard" "Ljava/util/List;") ∈ lw_all := lw_g (lw_at lw_m1 175 rfl) rfl
theorem q310 : (Jvm.Cond.soleField "TwinInk" "heard") ∈ lw_all := lw_g (lw_at lw_m1 176 rfl) rfl
theorem q311 : (Jvm.Cond.lays "TwinInk" "TwinInk" "serviceThen" "LTwinInk$Service;") ∈ lw_all := lw_g (lw_at lw_m1 177 rfl) rfl
theorem q312 : (Jvm.Cond.soleField "TwinInk" "serviceThen") ∈ lw_all := lw_g (lw_at lw_m1 178 rfl) rfl
theorem q313 : (Jvm.Cond.lays "TwinInk" "TwinInk" "actsThen" "Ljava/util/List;") ∈ lw_all := lw_g (lw_at lw_m1 179 rfl) rfl
theorem q314 : (Jvm.Cond.soleField "TwinInk" "actsThen") ∈ lw_all := lw_g (lw_at lw_m1 180 rfl) rfl
theorem q315 : (Jvm.Cond.lays "TwinInk" "TwinInk" "heardThen" "Ljava/util/List;") ∈ lw_all := lw_g (lw_at lw_m1 181 rfl) rfl
theorem q316 : (Jvm.Cond.soleField "TwinInk" "heardThen") ∈ lw_all := lw_g (lw_at lw_m1 182 rfl) rfl
theorem q317 : (Jvm.Cond.lays "TwinInk" "TwinInk" "seed" "I") ∈ lw_all := lw_g (lw_at lw_m1 183 rfl) rfl
theorem q318 : (Jvm.Cond.soleField "TwinInk" "seed") ∈ lw_all := lw_g (lw_at lw_m1 184 rfl) rfl
theorem q319 : (Jvm.Cond.superclass "TwinInk" "java/lang/Object") ∈ lw_all := lw_g (lw_at lw_m1 185 rfl) rfl
theorem q322 : (Jvm.Cond.instanceMethod ({ cls := "TwinInk", name := "feed", desc := "(IIIII)I" } : Jvm.MethodName)) ∈ lw_all := lw_g (lw_at lw_m1 188 rfl) rfl
theorem q323 : (Jvm.Cond.selects "TwinInk" ({ cls := "TwinInk", name := "feed", desc := "(IIIII)I" } : Jvm.MethodName) ({ cls := "TwinInk", name := "feed", desc := "(IIIII)I" } : Jvm.MethodName)) ∈ lw_all := lw_g (lw_at lw_m1 189 rfl) rfl
theorem q324 : (Jvm.Cond.code ({ cls := "TwinInk", name := "feed", desc := "(IIIII)I" } : Jvm.MethodName) prog_1_method_6_code (8 : Nat) (Option.some Jvm.ClassFile.FieldType.int)) ∈ lw_all := lw_g (lw_at lw_m1 190 rfl) rfl
theorem q326 : (Jvm.Cond.instanceMethod ({ cls := "TwinInk", name := "fault", desc := "()I" } : Jvm.MethodName)) ∈ lw_all := lw_g (lw_at lw_m1 192 rfl) rfl
theorem q327 : (Jvm.Cond.selects "TwinInk" ({ cls := "TwinInk", name := "fault", desc := "()I" } : Jvm.MethodName) ({ cls := "TwinInk", name := "fault", desc := "()I" } : Jvm.MethodName)) ∈ lw_all := lw_g (lw_at lw_m1 193 rfl) rfl
theorem q328 : (Jvm.Cond.code ({ cls := "TwinInk", name := "fault", desc := "()I" } : Jvm.MethodName) prog_1_method_8_code (1 : Nat) (Option.some Jvm.ClassFile.FieldType.int)) ∈ lw_all := lw_g (lw_at lw_m1 194 rfl) rfl
theorem q330 : (Jvm.Cond.instanceMethod ({ cls := "TwinInk", name := "days", desc := "(I)I" } : Jvm.MethodName)) ∈ lw_all := lw_g (lw_at lw_m1 196 rfl) rfl
theorem q331 : (Jvm.Cond.selects "TwinInk" ({ cls := "TwinInk", name := "days", desc := "(I)I" } : Jvm.MethodName) ({ cls := "TwinInk", name := "days", desc := "(I)I" } : Jvm.MethodName)) ∈ lw_all := lw_g (lw_at lw_m1 197 rfl) rfl
theorem q332 : (Jvm.Cond.code ({ cls := "TwinInk", name := "days", desc := "(I)I" } : Jvm.MethodName) prog_1_method_26_code (2 : Nat) (Option.some Jvm.ClassFile.FieldType.int)) ∈ lw_all := lw_g (lw_at lw_m1 198 rfl) rfl
theorem q333 : (Jvm.Cond.methodLink "TwinInk" (122 : Nat) ({ cls := "TwinInk", name := "in", desc := "(III)Z" } : Jvm.MethodName)) ∈ lw_all := lw_g (lw_at lw_m1 199 rfl) rfl
theorem q334 : (Jvm.Cond.static ({ cls := "TwinInk", name := "in", desc := "(III)Z" } : Jvm.MethodName)) ∈ lw_all := lw_g (lw_at lw_m1 200 rfl) rfl
theorem q335 : (Jvm.Cond.code ({ cls := "TwinInk", name := "in", desc := "(III)Z" } : Jvm.MethodName) prog_1_method_1_code (3 : Nat) (Option.some Jvm.ClassFile.FieldType.boolean)) ∈ lw_all := lw_g (lw_at lw_m1 201 rfl) rfl
theorem q336 : (Jvm.Cond.methodLink "TwinInk" (220 : Nat) ({ cls := "TwinInk", name := "refuse", desc := "(I)I" } : Jvm.MethodName)) ∈ lw_all := lw_g (lw_at lw_m1 202 rfl) rfl
theorem q337 : (Jvm.Cond.privateMethod ({ cls := "TwinInk", name := "refuse", desc := "(I)I" } : Jvm.MethodName)) ∈ lw_tbl := lw_at lw_m1 203 rfl
theorem q338 : (Jvm.Cond.instanceMethod ({ cls := "TwinInk", name := "refuse", desc := "(I)I" } : Jvm.MethodName)) ∈ lw_all := lw_g (lw_at lw_m1 204 rfl) rfl
theorem q339 : (Jvm.Cond.code ({ cls := "TwinInk", name := "refuse", desc := "(I)I" } : Jvm.MethodName) prog_1_method_25_code (2 : Nat) (Option.some Jvm.ClassFile.FieldType.int)) ∈ lw_all := lw_g (lw_at lw_m1 205 rfl) rfl
theorem q340 : (Jvm.Cond.methodLink "TwinInk" (223 : Nat) ({ cls := "TwinInk", name := "keep", desc := "()V" } : Jvm.MethodName)) ∈ lw_all := lw_g (lw_at lw_m1 206 rfl) rfl
theorem q341 : (Jvm.Cond.privateMethod ({ cls := "TwinInk", name := "keep", desc := "()V" } : Jvm.MethodName)) ∈ lw_tbl := lw_at lw_m1 207 rfl
theorem q342 : (Jvm.Cond.instanceMethod ({ cls := "TwinInk", name := "keep", desc := "()V" } : Jvm.MethodName)) ∈ lw_all := lw_g (lw_at lw_m1 208 rfl) rfl
theorem q343 : (Jvm.Cond.code ({ cls := "TwinInk", name := "keep", desc := "()V" } : Jvm.MethodName) prog_1_method_24_code (1 : Nat) (Option.none : Option Jvm.ClassFile.FieldType)) ∈ lw_all := lw_g (lw_at lw_m1 209 rfl) rfl
theorem q344 : (Jvm.Cond.methodLink "TwinInk" (209 : Nat) ({ cls := "TwinInk$Service", name := "copy", desc := "()LTwinInk$Service;" } : Jvm.MethodName)) ∈ lw_all := lw_g (lw_at lw_m1 210 rfl) rfl
theorem q354 : (Jvm.Cond.interfaceEntry "TwinInk" (213 : Nat)) ∈ lw_tbl := lw_at lw_m1 220 rfl
theorem q355 : (Jvm.Cond.methodLink "TwinInk" (213 : Nat) ({ cls := "java/util/List", name := "add", desc := "(Ljava/lang/Object;)Z" } : Jvm.MethodName)) ∈ lw_all := lw_g (lw_at lw_m1 221 rfl) rfl
theorem q392 : (Jvm.Cond.selects "TwinInk" ({ cls := "java/lang/Object", name := "getClass", desc := "()Ljava/lang/Class;" } : Jvm.MethodName) ({ cls := "java/lang/Object", name := "getClass", desc := "()Ljava/lang/Class;" } : Jvm.MethodName)) ∈ lw_all := lw_g (lw_at lw_m2 18 rfl) rfl
theorem q422 : (Jvm.Cond.interfaceEntry "TwinInk" (99 : Nat)) ∈ lw_tbl := lw_at lw_m2 48 rfl
theorem q423 : (Jvm.Cond.methodLink "TwinInk" (99 : Nat) ({ cls := "java/util/List", name := "size", desc := "()I" } : Jvm.MethodName)) ∈ lw_all := lw_g (lw_at lw_m2 49 rfl) rfl
theorem q431 : (Jvm.Cond.interfaceEntry "TwinInk" (217 : Nat)) ∈ lw_tbl := lw_at lw_m2 57 rfl
theorem q432 : (Jvm.Cond.methodLink "TwinInk" (217 : Nat) ({ cls := "java/util/List", name := "remove", desc := "(I)Ljava/lang/Object;" } : Jvm.MethodName)) ∈ lw_all := lw_g (lw_at lw_m2 58 rfl) rfl
theorem q451 : (Jvm.Cond.methodLink "TwinInk" (226 : Nat) ({ cls := "TwinInk$Service", name := "after", desc := "(I)LTwinInk$Service;" } : Jvm.MethodName)) ∈ lw_all := lw_g (lw_at lw_m2 77 rfl) rfl
theorem q519 : (Jvm.Cond.static ({ cls := "TwinInk", name := "isOf", desc := "(II)Z" } : Jvm.MethodName)) ∈ lw_all := lw_g (lw_at lw_m2 145 rfl) rfl
theorem q520 : (Jvm.Cond.code ({ cls := "TwinInk", name := "isOf", desc := "(II)Z" } : Jvm.MethodName) prog_1_method_4_code (2 : Nat) (Option.some Jvm.ClassFile.FieldType.boolean)) ∈ lw_all := lw_g (lw_at lw_m2 146 rfl) rfl
theorem q626 : (Jvm.Cond.instanceMethod ({ cls := "TwinInk", name := "undo", desc := "()I" } : Jvm.MethodName)) ∈ lw_all := lw_g (lw_at lw_m3 12 rfl) rfl
theorem q627 : (Jvm.Cond.selects "TwinInk" ({ cls := "TwinInk", name := "undo", desc := "()I" } : Jvm.MethodName) ({ cls := "TwinInk", name := "undo", desc := "()I" } : Jvm.MethodName)) ∈ lw_all := lw_g (lw_at lw_m3 13 rfl) rfl
theorem q628 : (Jvm.Cond.code ({ cls := "TwinInk", name := "undo", desc := "()I" } : Jvm.MethodName) prog_1_method_31_code (1 : Nat) (Option.some Jvm.ClassFile.FieldType.int)) ∈ lw_all := lw_g (lw_at lw_m3 14 rfl) rfl
theorem q629 : (Jvm.Cond.interfaceEntry "TwinInk" (243 : Nat)) ∈ lw_tbl := lw_at lw_m3 15 rfl
theorem q630 : (Jvm.Cond.methodLink "TwinInk" (243 : Nat) ({ cls := "java/util/List", name := "isEmpty", desc := "()Z" } : Jvm.MethodName)) ∈ lw_all := lw_g (lw_at lw_m3 16 rfl) rfl
theorem q639 : (Jvm.Cond.instanceMethod ({ cls := "TwinInk", name := "toRead", desc := "()I" } : Jvm.MethodName)) ∈ lw_all := lw_g (lw_at lw_m3 25 rfl) rfl
theorem q640 : (Jvm.Cond.selects "TwinInk" ({ cls := "TwinInk", name := "toRead", desc := "()I" } : Jvm.MethodName) ({ cls := "TwinInk", name := "toRead", desc := "()I" } : Jvm.MethodName)) ∈ lw_all := lw_g (lw_at lw_m3 26 rfl) rfl
theorem q641 : (Jvm.Cond.code ({ cls := "TwinInk", name := "toRead", desc := "()I" } : Jvm.MethodName) prog_1_method_48_code (5 : Nat) (Option.some Jvm.ClassFile.FieldType.int)) ∈ lw_all := lw_g (lw_at lw_m3 27 rfl) rfl
theorem q642 : (Jvm.Cond.interfaceEntry "TwinInk" (167 : Nat)) ∈ lw_tbl := lw_at lw_m3 28 rfl
theorem q643 : (Jvm.Cond.methodLink "TwinInk" (167 : Nat) ({ cls := "java/util/List", name := "get", desc := "(I)Ljava/lang/Object;" } : Jvm.MethodName)) ∈ lw_all := lw_g (lw_at lw_m3 29 rfl) rfl
theorem q644 : (Jvm.Cond.classLink "TwinInk" (175 : Nat) "[I") ∈ lw_all := lw_g (lw_at lw_m3 30 rfl) rfl
theorem q645 : (Jvm.Cond.methodLink "TwinInk" (280 : Nat) ({ cls := "TwinInk$Service", name := "fits", desc := "(II)Z" } : Jvm.MethodName)) ∈ lw_all := lw_g (lw_at lw_m3 31 rfl) rfl
theorem q647 : (Jvm.Cond.instanceMethod ({ cls := "TwinInk", name := "forget", desc := "()V" } : Jvm.MethodName)) ∈ lw_all := lw_g (lw_at lw_m3 33 rfl) rfl
theorem q648 : (Jvm.Cond.selects "TwinInk" ({ cls := "TwinInk", name := "forget", desc := "()V" } : Jvm.MethodName) ({ cls := "TwinInk", name := "forget", desc := "()V" } : Jvm.MethodName)) ∈ lw_all := lw_g (lw_at lw_m3 34 rfl) rfl
theorem q649 : (Jvm.Cond.code ({ cls := "TwinInk", name := "forget", desc := "()V" } : Jvm.MethodName) prog_1_method_51_code (1 : Nat) (Option.none : Option Jvm.ClassFile.FieldType)) ∈ lw_all := lw_g (lw_at lw_m3 35 rfl) rfl
theorem q651 : (Jvm.Cond.instanceMethod ({ cls := "TwinInk", name := "image", desc := "()V" } : Jvm.MethodName)) ∈ lw_all := lw_g (lw_at lw_m3 37 rfl) rfl
theorem q652 : (Jvm.Cond.selects "TwinInk" ({ cls := "TwinInk", name := "image", desc := "()V" } : Jvm.MethodName) ({ cls := "TwinInk", name := "image", desc := "()V" } : Jvm.MethodName)) ∈ lw_all := lw_g (lw_at lw_m3 38 rfl) rfl
theorem q653 : (Jvm.Cond.code ({ cls := "TwinInk", name := "image", desc := "()V" } : Jvm.MethodName) prog_1_method_73_code (1 : Nat) (Option.none : Option Jvm.ClassFile.FieldType)) ∈ lw_all := lw_g (lw_at lw_m3 39 rfl) rfl
theorem q654 : (Jvm.Cond.methodLink "TwinInk" (338 : Nat) ({ cls := "java/util/ArrayList", name := "<init>", desc := "(Ljava/util/Collection;)V" } : Jvm.MethodName)) ∈ lw_all := lw_g (lw_at lw_m3 40 rfl) rfl
theorem q679 : (Jvm.Cond.instanceMethod ({ cls := "TwinInk", name := "restore", desc := "()Z" } : Jvm.MethodName)) ∈ lw_all := lw_g (lw_at lw_m3 65 rfl) rfl
theorem q680 : (Jvm.Cond.selects "TwinInk" ({ cls := "TwinInk", name := "restore", desc := "()Z" } : Jvm.MethodName) ({ cls := "TwinInk", name := "restore", desc := "()Z" } : Jvm.MethodName)) ∈ lw_all := lw_g (lw_at lw_m3 66 rfl) rfl
theorem q681 : (Jvm.Cond.code ({ cls := "TwinInk", name := "restore", desc := "()Z" } : Jvm.MethodName) prog_1_method_74_code (1 : Nat) (Option.some Jvm.ClassFile.FieldType.boolean)) ∈ lw_all := lw_g (lw_at lw_m3 67 rfl) rfl
theorem q687 : (Jvm.Cond.instanceMethod ({ cls := "TwinInk", name := "office", desc := "(I)I" } : Jvm.MethodName)) ∈ lw_all := lw_g (lw_at lw_m3 73 rfl) rfl
theorem q688 : (Jvm.Cond.selects "TwinInk" ({ cls := "TwinInk", name := "office", desc := "(I)I" } : Jvm.MethodName) ({ cls := "TwinInk", name := "office", desc := "(I)I" } : Jvm.MethodName)) ∈ lw_all := lw_g (lw_at lw_m3 74 rfl) rfl
theorem q689 : (Jvm.Cond.codeWith ({ cls := "TwinInk", name := "office", desc := "(I)I" } : Jvm.MethodName) prog_1_method_7_code (4 : Nat) (Option.some Jvm.ClassFile.FieldType.int) [((40 : Nat), (48 : Nat), (51 : Nat), (75 : Nat))]) ∈ lw_all := lw_g (lw_at lw_m3 75 rfl) rfl
theorem q690 : (Jvm.Cond.classLink "TwinInk" (75 : Nat) "TwinInk$Wrong") ∈ lw_all := lw_g (lw_at lw_m3 76 rfl) rfl
theorem q691 : (Jvm.Cond.methodLink "TwinInk" (62 : Nat) ({ cls := "TwinInk", name := "right", desc := "(Z)V" } : Jvm.MethodName)) ∈ lw_all := lw_g (lw_at lw_m3 77 rfl) rfl
theorem q692 : (Jvm.Cond.static ({ cls := "TwinInk", name := "right", desc := "(Z)V" } : Jvm.MethodName)) ∈ lw_all := lw_g (lw_at lw_m3 78 rfl) rfl
theorem q693 : (Jvm.Cond.code ({ cls := "TwinInk", name := "right", desc := "(Z)V" } : Jvm.MethodName) prog_1_method_3_code (1 : Nat) (Option.none : Option Jvm.ClassFile.FieldType)) ∈ lw_all := lw_g (lw_at lw_m3 79 rfl) rfl
theorem q694 : (Jvm.Cond.classLink "TwinInk" (7 : Nat) "java/lang/IllegalArgumentException") ∈ lw_all := lw_g (lw_at lw_m3 80 rfl) rfl
theorem q735 : (Jvm.Cond.methodLink "TwinInk" (9 : Nat) ({ cls := "java/lang/IllegalArgumentException", name := "<init>", desc := "()V" } : Jvm.MethodName)) ∈ lw_all := lw_g (lw_at lw_m3 121 rfl) rfl
theorem q758 : (Jvm.Cond.classLink "TwinInk" (66 : Nat) "TwinInk$Reader") ∈ lw_all := lw_g (lw_at lw_m3 144 rfl) rfl
theorem q760 : (Jvm.Cond.methodLink "TwinInk" (68 : Nat) ({ cls := "TwinInk$Reader", name := "<init>", desc := "(LTwinInk;I)V" } : Jvm.MethodName)) ∈ lw_all := lw_g (lw_at lw_m3 146 rfl) rfl
theorem q785 : (Jvm.Cond.fieldLinkNest "TwinInk" (83 : Nat) "TwinInk$Reader" "begun" "LTwinInk$Service;" "TwinInk") ∈ lw_tbl := lw_at lw_m3 171 rfl
theorem q793 : (Jvm.Cond.fieldLinkNest "TwinInk" (77 : Nat) "TwinInk$Reader" "begins" "I" "TwinInk") ∈ lw_tbl := lw_at lw_m3 179 rfl
theorem q827 : (Jvm.Cond.methodLink "TwinInk" (71 : Nat) ({ cls := "TwinInk$Reader", name := "read", desc := "()LTwinInk$Office;" } : Jvm.MethodName)) ∈ lw_all := lw_g (lw_at lw_m3 213 rfl) rfl
theorem q976 : (Jvm.Cond.fieldLinkNest "TwinInk" (80 : Nat) "TwinInk$Wrong" "kind" "I" "TwinInk") ∈ lw_tbl := lw_at lw_m4 122 rfl
theorem q1228 : (Jvm.Cond.instanceMethod ({ cls := "TwinInk", name := "count", desc := "(I)I" } : Jvm.MethodName)) ∈ lw_all := lw_g (lw_at lw_m5 134 rfl) rfl
theorem q1229 : (Jvm.Cond.selects "TwinInk" ({ cls := "TwinInk", name := "count", desc := "(I)I" } : Jvm.MethodName) ({ cls := "TwinInk", name := "count", desc := "(I)I" } : Jvm.MethodName)) ∈ lw_all := lw_g (lw_at lw_m5 135 rfl) rfl
theorem q1230 : (Jvm.Cond.code ({ cls := "TwinInk", name := "count", desc := "(I)I" } : Jvm.MethodName) prog_1_method_9_code (2 : Nat) (Option.some Jvm.ClassFile.FieldType.int)) ∈ lw_all := lw_g (lw_at lw_m5 136 rfl) rfl
theorem q1231 : (Jvm.Cond.methodLink "TwinInk" (92 : Nat) ({ cls := "TwinInk$Office", name := "clerks", desc := "()I" } : Jvm.MethodName)) ∈ lw_all := lw_g (lw_at lw_m5 137 rfl) rfl
theorem q1232 : (Jvm.Cond.methodLink "TwinInk" (110 : Nat) ({ cls := "TwinInk$Service", name := "burnt", desc := "()I" } : Jvm.MethodName)) ∈ lw_all := lw_g (lw_at lw_m5 138 rfl) rfl
theorem q1236 : (Jvm.Cond.methodLink "TwinInk" (113 : Nat) ({ cls := "TwinInk$Service", name := "borne", desc := "()I" } : Jvm.MethodName)) ∈ lw_all := lw_g (lw_at lw_m5 142 rfl) rfl
theorem q1240 : (Jvm.Cond.methodLink "TwinInk" (116 : Nat) ({ cls := "TwinInk$Service", name := "read", desc := "()I" } : Jvm.MethodName)) ∈ lw_all := lw_g (lw_at lw_m5 146 rfl) rfl
theorem q1244 : (Jvm.Cond.methodLink "TwinInk" (118 : Nat) ({ cls := "TwinInk", name := "couples", desc := "(I)I" } : Jvm.MethodName)) ∈ lw_all := lw_g (lw_at lw_m5 150 rfl) rfl
theorem q1245 : (Jvm.Cond.privateMethod ({ cls := "TwinInk", name := "couples", desc := "(I)I" } : Jvm.MethodName)) ∈ lw_tbl := lw_at lw_m5 151 rfl
theorem q1246 : (Jvm.Cond.instanceMethod ({ cls := "TwinInk", name := "couples", desc := "(I)I" } : Jvm.MethodName)) ∈ lw_all := lw_g (lw_at lw_m5 152 rfl) rfl
theorem q1247 : (Jvm.Cond.code ({ cls := "TwinInk", name := "couples", desc := "(I)I" } : Jvm.MethodName) prog_1_method_44_code (6 : Nat) (Option.some Jvm.ClassFile.FieldType.int)) ∈ lw_all := lw_g (lw_at lw_m5 153 rfl) rfl
theorem q1248 : (Jvm.Cond.methodLink "TwinInk" (283 : Nat) ({ cls := "java/lang/Integer", name := "numberOfTrailingZeros", desc := "(I)I" } : Jvm.MethodName)) ∈ lw_all := lw_g (lw_at lw_m5 154 rfl) rfl
theorem q1252 : (Jvm.Cond.methodLink "TwinInk" (171 : Nat) ({ cls := "TwinInk", name := "isOf", desc := "(II)Z" } : Jvm.MethodName)) ∈ lw_all := lw_g (lw_at lw_m5 158 rfl) rfl
theorem q1253 : (Jvm.Cond.methodLink "TwinInk" (270 : Nat) ({ cls := "java/lang/Math", name := "max", desc := "(II)I" } : Jvm.MethodName)) ∈ lw_all := lw_g (lw_at lw_m5 159 rfl) rfl
theorem q1254 : (Jvm.Cond.methodLink "TwinInk" (126 : Nat) ({ cls := "TwinInk", name := "found", desc := "(Z)V" } : Jvm.MethodName)) ∈ lw_all := lw_g (lw_at lw_m5 160 rfl) rfl
theorem q1255 : (Jvm.Cond.static ({ cls := "TwinInk", name := "found", desc := "(Z)V" } : Jvm.MethodName)) ∈ lw_all := lw_g (lw_at lw_m5 161 rfl) rfl
theorem q1256 : (Jvm.Cond.code ({ cls := "TwinInk", name := "found", desc := "(Z)V" } : Jvm.MethodName) prog_1_method_2_code (1 : Nat) (Option.none : Option Jvm.ClassFile.FieldType)) ∈ lw_all := lw_g (lw_at lw_m5 162 rfl) rfl
theorem q1257 : (Jvm.Cond.classLink "TwinInk" (1 : Nat) "java/util/NoSuchElementException") ∈ lw_all := lw_g (lw_at lw_m5 163 rfl) rfl
theorem q1266 : (Jvm.Cond.methodLink "TwinInk" (3 : Nat) ({ cls := "java/util/NoSuchElementException", name := "<init>", desc := "()V" } : Jvm.MethodName)) ∈ lw_all := lw_g (lw_at lw_m5 172 rfl) rfl
theorem q1276 : (Jvm.Cond.instanceMethod ({ cls := "TwinInk", name := "sheet", desc := "(II)I" } : Jvm.MethodName)) ∈ lw_all := lw_g (lw_at lw_m5 182 rfl) rfl
theorem q1277 : (Jvm.Cond.selects "TwinInk" ({ cls := "TwinInk", name := "sheet", desc := "(II)I" } : Jvm.MethodName) ({ cls := "TwinInk", name := "sheet", desc := "(II)I" } : Jvm.MethodName)) ∈ lw_all := lw_g (lw_at lw_m5 183 rfl) rfl
theorem q1278 : (Jvm.Cond.code ({ cls := "TwinInk", name := "sheet", desc := "(II)I" } : Jvm.MethodName) prog_1_method_15_code (3 : Nat) (Option.some Jvm.ClassFile.FieldType.int)) ∈ lw_all := lw_g (lw_at lw_m5 184 rfl) rfl
theorem q1279 : (Jvm.Cond.methodLink "TwinInk" (129 : Nat) ({ cls := "TwinInk", name := "aSheet", desc := "(I)V" } : Jvm.MethodName)) ∈ lw_all := lw_g (lw_at lw_m5 185 rfl) rfl
theorem q1280 : (Jvm.Cond.privateMethod ({ cls := "TwinInk", name := "aSheet", desc := "(I)V" } : Jvm.MethodName)) ∈ lw_tbl := lw_at lw_m5 186 rfl
theorem q1281 : (Jvm.Cond.instanceMethod ({ cls := "TwinInk", name := "aSheet", desc := "(I)V" } : Jvm.MethodName)) ∈ lw_all := lw_g (lw_at lw_m5 187 rfl) rfl
theorem q1282 : (Jvm.Cond.code ({ cls := "TwinInk", name := "aSheet", desc := "(I)V" } : Jvm.MethodName) prog_1_method_10_code (2 : Nat) (Option.none : Option Jvm.ClassFile.FieldType)) ∈ lw_all := lw_g (lw_at lw_m5 188 rfl) rfl
theorem q1283 : (Jvm.Cond.methodLink "TwinInk" (133 : Nat) ({ cls := "TwinInk", name := "oneOf", desc := "(II)V" } : Jvm.MethodName)) ∈ lw_all := lw_g (lw_at lw_m5 189 rfl) rfl
theorem q1284 : (Jvm.Cond.static ({ cls := "TwinInk", name := "oneOf", desc := "(II)V" } : Jvm.MethodName)) ∈ lw_all := lw_g (lw_at lw_m5 190 rfl) rfl
theorem q1285 : (Jvm.Cond.code ({ cls := "TwinInk", name := "oneOf", desc := "(II)V" } : Jvm.MethodName) prog_1_method_14_code (2 : Nat) (Option.none : Option Jvm.ClassFile.FieldType)) ∈ lw_all := lw_g (lw_at lw_m5 191 rfl) rfl
theorem q1286 : (Jvm.Cond.methodLink "TwinInk" (143 : Nat) ({ cls := "TwinInk$Service", name := "where", desc := "(I)I" } : Jvm.MethodName)) ∈ lw_all := lw_g (lw_at lw_m5 192 rfl) rfl
theorem q1287 : (Jvm.Cond.methodLink "TwinInk" (146 : Nat) ({ cls := "TwinInk$Service", name := "bearer", desc := "(I)I" } : Jvm.MethodName)) ∈ lw_all := lw_g (lw_at lw_m5 193 rfl) rfl
theorem q1288 : (Jvm.Cond.methodLink "TwinInk" (149 : Nat) ({ cls := "TwinInk$Service", name := "fitting", desc := "(I)I" } : Jvm.MethodName)) ∈ lw_all := lw_g (lw_at lw_m5 194 rfl) rfl
theorem q1296 : (Jvm.Cond.instanceMethod ({ cls := "TwinInk", name := "clerk", desc := "(II)I" } : Jvm.MethodName)) ∈ lw_all := lw_g (lw_at lw_m5 202 rfl) rfl
theorem q1297 : (Jvm.Cond.selects "TwinInk" ({ cls := "TwinInk", name := "clerk", desc := "(II)I" } : Jvm.MethodName) ({ cls := "TwinInk", name := "clerk", desc := "(II)I" } : Jvm.MethodName)) ∈ lw_all := lw_g (lw_at lw_m5 203 rfl) rfl
theorem q1298 : (Jvm.Cond.code ({ cls := "TwinInk", name := "clerk", desc := "(II)I" } : Jvm.MethodName) prog_1_method_16_code (3 : Nat) (Option.some Jvm.ClassFile.FieldType.int)) ∈ lw_all := lw_g (lw_at lw_m5 204 rfl) rfl
theorem q1299 : (Jvm.Cond.methodLink "TwinInk" (152 : Nat) ({ cls := "TwinInk", name := "aClerk", desc := "(I)V" } : Jvm.MethodName)) ∈ lw_all := lw_g (lw_at lw_m5 205 rfl) rfl
theorem q1300 : (Jvm.Cond.privateMethod ({ cls := "TwinInk", name := "aClerk", desc := "(I)V" } : Jvm.MethodName)) ∈ lw_tbl := lw_at lw_m5 206 rfl
theorem q1301 : (Jvm.Cond.instanceMethod ({ cls := "TwinInk", name := "aClerk", desc := "(I)V" } : Jvm.MethodName)) ∈ lw_all := lw_g (lw_at lw_m5 207 rfl) rfl
theorem q1302 : (Jvm.Cond.code ({ cls := "TwinInk", name := "aClerk", desc := "(I)V" } : Jvm.MethodName) prog_1_method_11_code (2 : Nat) (Option.none : Option Jvm.ClassFile.FieldType)) ∈ lw_all := lw_g (lw_at lw_m5 208 rfl) rfl
theorem q1303 : (Jvm.Cond.methodLink "TwinInk" (155 : Nat) ({ cls := "TwinInk$Service", name := "town", desc := "(I)I" } : Jvm.MethodName)) ∈ lw_all := lw_g (lw_at lw_m5 209 rfl) rfl
theorem q1304 : (Jvm.Cond.methodLink "TwinInk" (161 : Nat) ({ cls := "TwinInk$Service", name := "bornBy", desc := "(I)I" } : Jvm.MethodName)) ∈ lw_all := lw_g (lw_at lw_m5 210 rfl) rfl
theorem q1308 : (Jvm.Cond.classLink "TwinInk" (100 : Nat) "java/util/List") ∈ lw_all := lw_g (lw_at lw_m5 214 rfl) rfl
theorem q1313 : (Jvm.Cond.instanceMethod ({ cls := "TwinInk", name := "word", desc := "(II)I" } : Jvm.MethodName)) ∈ lw_all := lw_g (lw_at lw_m5 219 rfl) rfl
theorem q1314 : (Jvm.Cond.selects "TwinInk" ({ cls := "TwinInk", name := "word", desc := "(II)I" } : Jvm.MethodName) ({ cls := "TwinInk", name := "word", desc := "(II)I" } : Jvm.MethodName)) ∈ lw_all := lw_g (lw_at lw_m5 220 rfl) rfl
theorem q1315 : (Jvm.Cond.code ({ cls := "TwinInk", name := "word", desc := "(II)I" } : Jvm.MethodName) prog_1_method_19_code (3 : Nat) (Option.some Jvm.ClassFile.FieldType.int)) ∈ lw_all := lw_g (lw_at lw_m5 221 rfl) rfl
theorem q1316 : (Jvm.Cond.methodLink "TwinInk" (179 : Nat) ({ cls := "TwinInk", name := "aWord", desc := "(I)V" } : Jvm.MethodName)) ∈ lw_all := lw_g (lw_at lw_m5 222 rfl) rfl
theorem q1317 : (Jvm.Cond.privateMethod ({ cls := "TwinInk", name := "aWord", desc := "(I)V" } : Jvm.MethodName)) ∈ lw_tbl := lw_at lw_m5 223 rfl
theorem q1318 : (Jvm.Cond.instanceMethod ({ cls := "TwinInk", name := "aWord", desc := "(I)V" } : Jvm.MethodName)) ∈ lw_all := lw_g (lw_at lw_m5 224 rfl) rfl
theorem q1319 : (Jvm.Cond.code ({ cls := "TwinInk", name := "aWord", desc := "(I)V" } : Jvm.MethodName) prog_1_method_12_code (2 : Nat) (Option.none : Option Jvm.ClassFile.FieldType)) ∈ lw_all := lw_g (lw_at lw_m5 225 rfl) rfl
theorem q1320 : (Jvm.Cond.methodLink "TwinInk" (182 : Nat) ({ cls := "TwinInk", name := "showsAt", desc := "(I)I" } : Jvm.MethodName)) ∈ lw_all := lw_g (lw_at lw_m5 226 rfl) rfl
theorem q1321 : (Jvm.Cond.privateMethod ({ cls := "TwinInk", name := "showsAt", desc := "(I)I" } : Jvm.MethodName)) ∈ lw_tbl := lw_at lw_m5 227 rfl
theorem q1322 : (Jvm.Cond.instanceMethod ({ cls := "TwinInk", name := "showsAt", desc := "(I)I" } : Jvm.MethodName)) ∈ lw_all := lw_g (lw_at lw_m5 228 rfl) rfl
theorem q1323 : (Jvm.Cond.code ({ cls := "TwinInk", name := "showsAt", desc := "(I)I" } : Jvm.MethodName) prog_1_method_18_code (3 : Nat) (Option.some Jvm.ClassFile.FieldType.int)) ∈ lw_all := lw_g (lw_at lw_m5 229 rfl) rfl
theorem q1324 : (Jvm.Cond.methodLink "TwinInk" (176 : Nat) ({ cls := "TwinInk$Service", name := "shows", desc := "(I)I" } : Jvm.MethodName)) ∈ lw_all := lw_g (lw_at lw_m5 230 rfl) rfl
theorem q1325 : (Jvm.Cond.methodLink "TwinInk" (185 : Nat) ({ cls := "TwinInk", name := "knowers", desc := "(I)I" } : Jvm.MethodName)) ∈ lw_all := lw_g (lw_at lw_m5 231 rfl) rfl
theorem q1326 : (Jvm.Cond.privateMethod ({ cls := "TwinInk", name := "knowers", desc := "(I)I" } : Jvm.MethodName)) ∈ lw_tbl := lw_at lw_m5 232 rfl
theorem q1327 : (Jvm.Cond.instanceMethod ({ cls := "TwinInk", name := "knowers", desc := "(I)I" } : Jvm.MethodName)) ∈ lw_all := lw_g (lw_at lw_m5 233 rfl) rfl
theorem q1328 : (Jvm.Cond.code ({ cls := "TwinInk", name := "knowers", desc := "(I)I" } : Jvm.MethodName) prog_1_method_17_code (4 : Nat) (Option.some Jvm.ClassFile.FieldType.int)) ∈ lw_all := lw_g (lw_at lw_m5 234 rfl) rfl
theorem q1333 : (Jvm.Cond.instanceMethod ({ cls := "TwinInk", name := "town", desc := "(II)I" } : Jvm.MethodName)) ∈ lw_all := lw_g (lw_at lw_m5 239 rfl) rfl
theorem q1334 : (Jvm.Cond.selects "TwinInk" ({ cls := "TwinInk", name := "town", desc := "(II)I" } : Jvm.MethodName) ({ cls := "TwinInk", name := "town", desc := "(II)I" } : Jvm.MethodName)) ∈ lw_all := lw_g (lw_at lw_m6 0 rfl) rfl
theorem q1335 : (Jvm.Cond.code ({ cls := "TwinInk", name := "town", desc := "(II)I" } : Jvm.MethodName) prog_1_method_23_code (3 : Nat) (Option.some Jvm.ClassFile.FieldType.int)) ∈ lw_all := lw_g (lw_at lw_m6 1 rfl) rfl
theorem q1336 : (Jvm.Cond.methodLink "TwinInk" (194 : Nat) ({ cls := "TwinInk", name := "aTown", desc := "(I)V" } : Jvm.MethodName)) ∈ lw_all := lw_g (lw_at lw_m6 2 rfl) rfl
theorem q1337 : (Jvm.Cond.static ({ cls := "TwinInk", name := "aTown", desc := "(I)V" } : Jvm.MethodName)) ∈ lw_all := lw_g (lw_at lw_m6 3 rfl) rfl
theorem q1338 : (Jvm.Cond.code ({ cls := "TwinInk", name := "aTown", desc := "(I)V" } : Jvm.MethodName) prog_1_method_13_code (1 : Nat) (Option.none : Option Jvm.ClassFile.FieldType)) ∈ lw_all := lw_g (lw_at lw_m6 4 rfl) rfl
theorem q1339 : (Jvm.Cond.methodLink "TwinInk" (197 : Nat) ({ cls := "TwinInk$Service", name := "archive", desc := "(I)I" } : Jvm.MethodName)) ∈ lw_all := lw_g (lw_at lw_m6 5 rfl) rfl
theorem q1343 : (Jvm.Cond.methodLink "TwinInk" (200 : Nat) ({ cls := "TwinInk$Service", name := "sheetsIn", desc := "(I)I" } : Jvm.MethodName)) ∈ lw_all := lw_g (lw_at lw_m6 9 rfl) rfl
theorem q1344 : (Jvm.Cond.methodLink "TwinInk" (203 : Nat) ({ cls := "TwinInk$Service", name := "clerksIn", desc := "(I)I" } : Jvm.MethodName)) ∈ lw_all := lw_g (lw_at lw_m6 10 rfl) rfl
theorem q1345 : (Jvm.Cond.methodLink "TwinInk" (206 : Nat) ({ cls := "TwinInk", name := "lost", desc := "(I)I" } : Jvm.MethodName)) ∈ lw_all := lw_g (lw_at lw_m6 11 rfl) rfl
theorem q1346 : (Jvm.Cond.privateMethod ({ cls := "TwinInk", name := "lost", desc := "(I)I" } : Jvm.MethodName)) ∈ lw_tbl := lw_at lw_m6 12 rfl
theorem q1347 : (Jvm.Cond.instanceMethod ({ cls := "TwinInk", name := "lost", desc := "(I)I" } : Jvm.MethodName)) ∈ lw_all := lw_g (lw_at lw_m6 13 rfl) rfl
theorem q1348 : (Jvm.Cond.code ({ cls := "TwinInk", name := "lost", desc := "(I)I" } : Jvm.MethodName) prog_1_method_22_code (2 : Nat) (Option.some Jvm.ClassFile.FieldType.int)) ∈ lw_all := lw_g (lw_at lw_m6 14 rfl) rfl
theorem q1349 : (Jvm.Cond.methodLink "TwinInk" (191 : Nat) ({ cls := "TwinInk", name := "dead", desc := "(I)I" } : Jvm.MethodName)) ∈ lw_all := lw_g (lw_at lw_m6 15 rfl) rfl
theorem q1350 : (Jvm.Cond.privateMethod ({ cls := "TwinInk", name := "dead", desc := "(I)I" } : Jvm.MethodName)) ∈ lw_tbl := lw_at lw_m6 16 rfl
theorem q1351 : (Jvm.Cond.instanceMethod ({ cls := "TwinInk", name := "dead", desc := "(I)I" } : Jvm.MethodName)) ∈ lw_all := lw_g (lw_at lw_m6 17 rfl) rfl
theorem q1352 : (Jvm.Cond.code ({ cls := "TwinInk", name := "dead", desc := "(I)I" } : Jvm.MethodName) prog_1_method_21_code (4 : Nat) (Option.some Jvm.ClassFile.FieldType.int)) ∈ lw_all := lw_g (lw_at lw_m6 18 rfl) rfl
theorem q1353 : (Jvm.Cond.methodLink "TwinInk" (188 : Nat) ({ cls := "TwinInk", name := "isDead", desc := "(II)Z" } : Jvm.MethodName)) ∈ lw_all := lw_g (lw_at lw_m6 19 rfl) rfl
theorem q1354 : (Jvm.Cond.privateMethod ({ cls := "TwinInk", name := "isDead", desc := "(II)Z" } : Jvm.MethodName)) ∈ lw_tbl := lw_at lw_m6 20 rfl
theorem q1355 : (Jvm.Cond.instanceMethod ({ cls := "TwinInk", name := "isDead", desc := "(II)Z" } : Jvm.MethodName)) ∈ lw_all := lw_g (lw_at lw_m6 21 rfl) rfl
theorem q1356 : (Jvm.Cond.code ({ cls := "TwinInk", name := "isDead", desc := "(II)Z" } : Jvm.MethodName) prog_1_method_20_code (3 : Nat) (Option.some Jvm.ClassFile.FieldType.boolean)) ∈ lw_all := lw_g (lw_at lw_m6 22 rfl) rfl
theorem q1361 : (Jvm.Cond.instanceMethod ({ cls := "TwinInk", name := "take", desc := "(II)Z" } : Jvm.MethodName)) ∈ lw_all := lw_g (lw_at lw_m6 27 rfl) rfl
theorem q1362 : (Jvm.Cond.selects "TwinInk" ({ cls := "TwinInk", name := "take", desc := "(II)Z" } : Jvm.MethodName) ({ cls := "TwinInk", name := "take", desc := "(II)Z" } : Jvm.MethodName)) ∈ lw_all := lw_g (lw_at lw_m6 28 rfl) rfl
theorem q1363 : (Jvm.Cond.code ({ cls := "TwinInk", name := "take", desc := "(II)Z" } : Jvm.MethodName) prog_1_method_27_code (3 : Nat) (Option.some Jvm.ClassFile.FieldType.boolean)) ∈ lw_all := lw_g (lw_at lw_m6 29 rfl) rfl
theorem q1364 : (Jvm.Cond.methodLink "TwinInk" (233 : Nat) ({ cls := "TwinInk$Service", name := "take", desc := "(II)V" } : Jvm.MethodName)) ∈ lw_all := lw_g (lw_at lw_m6 30 rfl) rfl
theorem q1372 : (Jvm.Cond.instanceMethod ({ cls := "TwinInk", name := "leave", desc := "(II)I" } : Jvm.MethodName)) ∈ lw_all := lw_g (lw_at lw_m6 38 rfl) rfl
theorem q1373 : (Jvm.Cond.selects "TwinInk" ({ cls := "TwinInk", name := "leave", desc := "(II)I" } : Jvm.MethodName) ({ cls := "TwinInk", name := "leave", desc := "(II)I" } : Jvm.MethodName)) ∈ lw_all := lw_g (lw_at lw_m6 39 rfl) rfl
theorem q1374 : (Jvm.Cond.code ({ cls := "TwinInk", name := "leave", desc := "(II)I" } : Jvm.MethodName) prog_1_method_28_code (3 : Nat) (Option.some Jvm.ClassFile.FieldType.int)) ∈ lw_all := lw_g (lw_at lw_m6 40 rfl) rfl
theorem q1379 : (Jvm.Cond.instanceMethod ({ cls := "TwinInk", name := "forge", desc := "(III)I" } : Jvm.MethodName)) ∈ lw_all := lw_g (lw_at lw_m6 45 rfl) rfl
theorem q1380 : (Jvm.Cond.selects "TwinInk" ({ cls := "TwinInk", name := "forge", desc := "(III)I" } : Jvm.MethodName) ({ cls := "TwinInk", name := "forge", desc := "(III)I" } : Jvm.MethodName)) ∈ lw_all := lw_g (lw_at lw_m6 46 rfl) rfl
theorem q1381 : (Jvm.Cond.code ({ cls := "TwinInk", name := "forge", desc := "(III)I" } : Jvm.MethodName) prog_1_method_29_code (5 : Nat) (Option.some Jvm.ClassFile.FieldType.int)) ∈ lw_all := lw_g (lw_at lw_m6 47 rfl) rfl
theorem q1382 : (Jvm.Cond.methodLink "TwinInk" (236 : Nat) ({ cls := "TwinInk$Service", name := "isBurnt", desc := "(I)Z" } : Jvm.MethodName)) ∈ lw_all := lw_g (lw_at lw_m6 48 rfl) rfl
theorem q1387 : (Jvm.Cond.instanceMethod ({ cls := "TwinInk", name := "fire", desc := "(I)I" } : Jvm.MethodName)) ∈ lw_all := lw_g (lw_at lw_m6 53 rfl) rfl
theorem q1388 : (Jvm.Cond.selects "TwinInk" ({ cls := "TwinInk", name := "fire", desc := "(I)I" } : Jvm.MethodName) ({ cls := "TwinInk", name := "fire", desc := "(I)I" } : Jvm.MethodName)) ∈ lw_all := lw_g (lw_at lw_m6 54 rfl) rfl
theorem q1389 : (Jvm.Cond.code ({ cls := "TwinInk", name := "fire", desc := "(I)I" } : Jvm.MethodName) prog_1_method_30_code (2 : Nat) (Option.some Jvm.ClassFile.FieldType.int)) ∈ lw_all := lw_g (lw_at lw_m6 55 rfl) rfl
theorem q1390 : (Jvm.Cond.methodLink "TwinInk" (240 : Nat) ({ cls := "TwinInk$Service", name := "burn", desc := "(I)I" } : Jvm.MethodName)) ∈ lw_all := lw_g (lw_at lw_m6 56 rfl) rfl
theorem q1399 : (Jvm.Cond.instanceMethod ({ cls := "TwinInk", name := "then", desc := "(III)I" } : Jvm.MethodName)) ∈ lw_all := lw_g (lw_at lw_m6 65 rfl) rfl
theorem q1400 : (Jvm.Cond.selects "TwinInk" ({ cls := "TwinInk", name := "then", desc := "(III)I" } : Jvm.MethodName) ({ cls := "TwinInk", name := "then", desc := "(III)I" } : Jvm.MethodName)) ∈ lw_all := lw_g (lw_at lw_m6 66 rfl) rfl
theorem q1401 : (Jvm.Cond.code ({ cls := "TwinInk", name := "then", desc := "(III)I" } : Jvm.MethodName) prog_1_method_33_code (4 : Nat) (Option.some Jvm.ClassFile.FieldType.int)) ∈ lw_all := lw_g (lw_at lw_m6 67 rfl) rfl
theorem q1402 : (Jvm.Cond.methodLink "TwinInk" (251 : Nat) ({ cls := "TwinInk", name := "later", desc := "(I)LTwinInk$Service;" } : Jvm.MethodName)) ∈ lw_all := lw_g (lw_at lw_m6 68 rfl) rfl
theorem q1403 : (Jvm.Cond.privateMethod ({ cls := "TwinInk", name := "later", desc := "(I)LTwinInk$Service;" } : Jvm.MethodName)) ∈ lw_tbl := lw_at lw_m6 69 rfl
theorem q1404 : (Jvm.Cond.instanceMethod ({ cls := "TwinInk", name := "later", desc := "(I)LTwinInk$Service;" } : Jvm.MethodName)) ∈ lw_all := lw_g (lw_at lw_m6 70 rfl) rfl
theorem q1405 : (Jvm.Cond.code ({ cls := "TwinInk", name := "later", desc := "(I)LTwinInk$Service;" } : Jvm.MethodName) prog_1_method_32_code (2 : Nat) (Option.some (Jvm.ClassFile.FieldType.object "TwinInk$Service"))) ∈ lw_all := lw_g (lw_at lw_m6 71 rfl) rfl
theorem q1406 : (Jvm.Cond.methodLink "TwinInk" (247 : Nat) ({ cls := "TwinInk$Service", name := "be", desc := "(LTwinInk$Service;)LTwinInk$Service;" } : Jvm.MethodName)) ∈ lw_all := lw_g (lw_at lw_m6 72 rfl) rfl
theorem q1411 : (Jvm.Cond.instanceMethod ({ cls := "TwinInk", name := "where", desc := "(II)I" } : Jvm.MethodName)) ∈ lw_all := lw_g (lw_at lw_m6 77 rfl) rfl
theorem q1412 : (Jvm.Cond.selects "TwinInk" ({ cls := "TwinInk", name := "where", desc := "(II)I" } : Jvm.MethodName) ({ cls := "TwinInk", name := "where", desc := "(II)I" } : Jvm.MethodName)) ∈ lw_all := lw_g (lw_at lw_m6 78 rfl) rfl
theorem q1413 : (Jvm.Cond.code ({ cls := "TwinInk", name := "where", desc := "(II)I" } : Jvm.MethodName) prog_1_method_34_code (3 : Nat) (Option.some Jvm.ClassFile.FieldType.int)) ∈ lw_all := lw_g (lw_at lw_m6 79 rfl) rfl
theorem q1418 : (Jvm.Cond.instanceMethod ({ cls := "TwinInk", name := "first", desc := "(II)I" } : Jvm.MethodName)) ∈ lw_all := lw_g (lw_at lw_m6 84 rfl) rfl
theorem q1419 : (Jvm.Cond.selects "TwinInk" ({ cls := "TwinInk", name := "first", desc := "(II)I" } : Jvm.MethodName) ({ cls := "TwinInk", name := "first", desc := "(II)I" } : Jvm.MethodName)) ∈ lw_all := lw_g (lw_at lw_m6 85 rfl) rfl
theorem q1420 : (Jvm.Cond.code ({ cls := "TwinInk", name := "first", desc := "(II)I" } : Jvm.MethodName) prog_1_method_36_code (3 : Nat) (Option.some Jvm.ClassFile.FieldType.int)) ∈ lw_all := lw_g (lw_at lw_m6 86 rfl) rfl
theorem q1421 : (Jvm.Cond.methodLink "TwinInk" (260 : Nat) ({ cls := "TwinInk", name := "knows", desc := "(IIZ)I" } : Jvm.MethodName)) ∈ lw_all := lw_g (lw_at lw_m6 87 rfl) rfl
theorem q1422 : (Jvm.Cond.privateMethod ({ cls := "TwinInk", name := "knows", desc := "(IIZ)I" } : Jvm.MethodName)) ∈ lw_tbl := lw_at lw_m6 88 rfl
theorem q1423 : (Jvm.Cond.instanceMethod ({ cls := "TwinInk", name := "knows", desc := "(IIZ)I" } : Jvm.MethodName)) ∈ lw_all := lw_g (lw_at lw_m6 89 rfl) rfl
theorem q1424 : (Jvm.Cond.code ({ cls := "TwinInk", name := "knows", desc := "(IIZ)I" } : Jvm.MethodName) prog_1_method_35_code (5 : Nat) (Option.some Jvm.ClassFile.FieldType.int)) ∈ lw_all := lw_g (lw_at lw_m6 90 rfl) rfl
theorem q1425 : (Jvm.Cond.methodLink "TwinInk" (254 : Nat) ({ cls := "TwinInk$Service", name := "talk", desc := "()LTwinInk$Service;" } : Jvm.MethodName)) ∈ lw_all := lw_g (lw_at lw_m6 91 rfl) rfl
theorem q1429 : (Jvm.Cond.methodLink "TwinInk" (257 : Nat) ({ cls := "TwinInk$Service", name := "pass", desc := "()LTwinInk$Service;" } : Jvm.MethodName)) ∈ lw_all := lw_g (lw_at lw_m6 95 rfl) rfl
theorem q1434 : (Jvm.Cond.instanceMethod ({ cls := "TwinInk", name := "read", desc := "(II)I" } : Jvm.MethodName)) ∈ lw_all := lw_g (lw_at lw_m6 100 rfl) rfl
theorem q1435 : (Jvm.Cond.selects "TwinInk" ({ cls := "TwinInk", name := "read", desc := "(II)I" } : Jvm.MethodName) ({ cls := "TwinInk", name := "read", desc := "(II)I" } : Jvm.MethodName)) ∈ lw_all := lw_g (lw_at lw_m6 101 rfl) rfl
theorem q1436 : (Jvm.Cond.code ({ cls := "TwinInk", name := "read", desc := "(II)I" } : Jvm.MethodName) prog_1_method_38_code (6 : Nat) (Option.some Jvm.ClassFile.FieldType.int)) ∈ lw_all := lw_g (lw_at lw_m6 102 rfl) rfl
theorem q1441 : (Jvm.Cond.instanceMethod ({ cls := "TwinInk", name := "mould", desc := "(I)I" } : Jvm.MethodName)) ∈ lw_all := lw_g (lw_at lw_m6 107 rfl) rfl
theorem q1442 : (Jvm.Cond.selects "TwinInk" ({ cls := "TwinInk", name := "mould", desc := "(I)I" } : Jvm.MethodName) ({ cls := "TwinInk", name := "mould", desc := "(I)I" } : Jvm.MethodName)) ∈ lw_all := lw_g (lw_at lw_m6 108 rfl) rfl
theorem q1443 : (Jvm.Cond.code ({ cls := "TwinInk", name := "mould", desc := "(I)I" } : Jvm.MethodName) prog_1_method_39_code (3 : Nat) (Option.some Jvm.ClassFile.FieldType.int)) ∈ lw_all := lw_g (lw_at lw_m6 109 rfl) rfl
theorem q1448 : (Jvm.Cond.instanceMethod ({ cls := "TwinInk", name := "meet", desc := "(II)I" } : Jvm.MethodName)) ∈ lw_all := lw_g (lw_at lw_m6 114 rfl) rfl
theorem q1449 : (Jvm.Cond.selects "TwinInk" ({ cls := "TwinInk", name := "meet", desc := "(II)I" } : Jvm.MethodName) ({ cls := "TwinInk", name := "meet", desc := "(II)I" } : Jvm.MethodName)) ∈ lw_all := lw_g (lw_at lw_m6 115 rfl) rfl
theorem q1450 : (Jvm.Cond.code ({ cls := "TwinInk", name := "meet", desc := "(II)I" } : Jvm.MethodName) prog_1_method_40_code (4 : Nat) (Option.some Jvm.ClassFile.FieldType.int)) ∈ lw_all := lw_g (lw_at lw_m6 116 rfl) rfl
theorem q1455 : (Jvm.Cond.instanceMethod ({ cls := "TwinInk", name := "gathering", desc := "(I)I" } : Jvm.MethodName)) ∈ lw_all := lw_g (lw_at lw_m6 121 rfl) rfl
theorem q1456 : (Jvm.Cond.selects "TwinInk" ({ cls := "TwinInk", name := "gathering", desc := "(I)I" } : Jvm.MethodName) ({ cls := "TwinInk", name := "gathering", desc := "(I)I" } : Jvm.MethodName)) ∈ lw_all := lw_g (lw_at lw_m6 122 rfl) rfl
theorem q1457 : (Jvm.Cond.code ({ cls := "TwinInk", name := "gathering", desc := "(I)I" } : Jvm.MethodName) prog_1_method_41_code (4 : Nat) (Option.some Jvm.ClassFile.FieldType.int)) ∈ lw_all := lw_g (lw_at lw_m6 123 rfl) rfl
theorem q1458 : (Jvm.Cond.methodLink "TwinInk" (263 : Nat) ({ cls := "java/lang/Integer", name := "bitCount", desc := "(I)I" } : Jvm.MethodName)) ∈ lw_all := lw_g (lw_at lw_m6 124 rfl) rfl
theorem q1463 : (Jvm.Cond.instanceMethod ({ cls := "TwinInk", name := "row", desc := "(I)I" } : Jvm.MethodName)) ∈ lw_all := lw_g (lw_at lw_m6 129 rfl) rfl
theorem q1464 : (Jvm.Cond.selects "TwinInk" ({ cls := "TwinInk", name := "row", desc := "(I)I" } : Jvm.MethodName) ({ cls := "TwinInk", name := "row", desc := "(I)I" } : Jvm.MethodName)) ∈ lw_all := lw_g (lw_at lw_m6 130 rfl) rfl
theorem q1465 : (Jvm.Cond.code ({ cls := "TwinInk", name := "row", desc := "(I)I" } : Jvm.MethodName) prog_1_method_43_code (10 : Nat) (Option.some Jvm.ClassFile.FieldType.int)) ∈ lw_all := lw_g (lw_at lw_m6 131 rfl) rfl
theorem q1466 : (Jvm.Cond.methodLink "TwinInk" (276 : Nat) ({ cls := "TwinInk", name := "rows", desc := "()[[I" } : Jvm.MethodName)) ∈ lw_all := lw_g (lw_at lw_m6 132 rfl) rfl
theorem q1467 : (Jvm.Cond.privateMethod ({ cls := "TwinInk", name := "rows", desc := "()[[I" } : Jvm.MethodName)) ∈ lw_tbl := lw_at lw_m6 133 rfl
theorem q1468 : (Jvm.Cond.instanceMethod ({ cls := "TwinInk", name := "rows", desc := "()[[I" } : Jvm.MethodName)) ∈ lw_all := lw_g (lw_at lw_m6 134 rfl) rfl
theorem q1469 : (Jvm.Cond.code ({ cls := "TwinInk", name := "rows", desc := "()[[I" } : Jvm.MethodName) prog_1_method_42_code (7 : Nat) (Option.some (Jvm.ClassFile.FieldType.array (Jvm.ClassFile.FieldType.array Jvm.ClassFile.FieldType.int)))) ∈ lw_all := lw_g (lw_at lw_m6 135 rfl) rfl
theorem q1470 : (Jvm.Cond.classLink "TwinInk" (268 : Nat) "[[I") ∈ lw_all := lw_g (lw_at lw_m6 136 rfl) rfl
theorem q1476 : (Jvm.Cond.instanceMethod ({ cls := "TwinInk", name := "toForge", desc := "(II)I" } : Jvm.MethodName)) ∈ lw_all := lw_g (lw_at lw_m6 142 rfl) rfl
theorem q1477 : (Jvm.Cond.selects "TwinInk" ({ cls := "TwinInk", name := "toForge", desc := "(II)I" } : Jvm.MethodName) ({ cls := "TwinInk", name := "toForge", desc := "(II)I" } : Jvm.MethodName)) ∈ lw_all := lw_g (lw_at lw_m6 143 rfl) rfl
theorem q1478 : (Jvm.Cond.code ({ cls := "TwinInk", name := "toForge", desc := "(II)I" } : Jvm.MethodName) prog_1_method_46_code (3 : Nat) (Option.some Jvm.ClassFile.FieldType.int)) ∈ lw_all := lw_g (lw_at lw_m6 144 rfl) rfl
theorem q1479 : (Jvm.Cond.methodLink "TwinInk" (286 : Nat) ({ cls := "TwinInk$Service", name := "far", desc := "(II)I" } : Jvm.MethodName)) ∈ lw_all := lw_g (lw_at lw_m6 145 rfl) rfl
theorem q1484 : (Jvm.Cond.instanceMethod ({ cls := "TwinInk", name := "toSave", desc := "(I)I" } : Jvm.MethodName)) ∈ lw_all := lw_g (lw_at lw_m6 150 rfl) rfl
theorem q1485 : (Jvm.Cond.selects "TwinInk" ({ cls := "TwinInk", name := "toSave", desc := "(I)I" } : Jvm.MethodName) ({ cls := "TwinInk", name := "toSave", desc := "(I)I" } : Jvm.MethodName)) ∈ lw_all := lw_g (lw_at lw_m6 151 rfl) rfl
theorem q1486 : (Jvm.Cond.code ({ cls := "TwinInk", name := "toSave", desc := "(I)I" } : Jvm.MethodName) prog_1_method_47_code (7 : Nat) (Option.some Jvm.ClassFile.FieldType.int)) ∈ lw_all := lw_g (lw_at lw_m6 152 rfl) rfl
theorem q1491 : (Jvm.Cond.instanceMethod ({ cls := "TwinInk", name := "chain", desc := "(II)I" } : Jvm.MethodName)) ∈ lw_all := lw_g (lw_at lw_m6 157 rfl) rfl
theorem q1492 : (Jvm.Cond.selects "TwinInk" ({ cls := "TwinInk", name := "chain", desc := "(II)I" } : Jvm.MethodName) ({ cls := "TwinInk", name := "chain", desc := "(II)I" } : Jvm.MethodName)) ∈ lw_all := lw_g (lw_at lw_m6 158 rfl) rfl
theorem q1493 : (Jvm.Cond.code ({ cls := "TwinInk", name := "chain", desc := "(II)I" } : Jvm.MethodName) prog_1_method_37_code (3 : Nat) (Option.some Jvm.ClassFile.FieldType.int)) ∈ lw_all := lw_g (lw_at lw_m6 159 rfl) rfl
theorem q1498 : (Jvm.Cond.instanceMethod ({ cls := "TwinInk", name := "hear", desc := "(IIIZ)I" } : Jvm.MethodName)) ∈ lw_all := lw_g (lw_at lw_m6 164 rfl) rfl
theorem q1499 : (Jvm.Cond.selects "TwinInk" ({ cls := "TwinInk", name := "hear", desc := "(IIIZ)I" } : Jvm.MethodName) ({ cls := "TwinInk", name := "hear", desc := "(IIIZ)I" } : Jvm.MethodName)) ∈ lw_all := lw_g (lw_at lw_m6 165 rfl) rfl
theorem q1500 : (Jvm.Cond.code ({ cls := "TwinInk", name := "hear", desc := "(IIIZ)I" } : Jvm.MethodName) prog_1_method_50_code (5 : Nat) (Option.some Jvm.ClassFile.FieldType.int)) ∈ lw_all := lw_g (lw_at lw_m6 166 rfl) rfl
theorem q1505 : (Jvm.Cond.instanceMethod ({ cls := "TwinInk", name := "borne", desc := "(I)I" } : Jvm.MethodName)) ∈ lw_all := lw_g (lw_at lw_m6 171 rfl) rfl
theorem q1506 : (Jvm.Cond.selects "TwinInk" ({ cls := "TwinInk", name := "borne", desc := "(I)I" } : Jvm.MethodName) ({ cls := "TwinInk", name := "borne", desc := "(I)I" } : Jvm.MethodName)) ∈ lw_all := lw_g (lw_at lw_m6 172 rfl) rfl
theorem q1507 : (Jvm.Cond.code ({ cls := "TwinInk", name := "borne", desc := "(I)I" } : Jvm.MethodName) prog_1_method_54_code (3 : Nat) (Option.some Jvm.ClassFile.FieldType.int)) ∈ lw_all := lw_g (lw_at lw_m6 173 rfl) rfl
theorem q1508 : (Jvm.Cond.methodLink "TwinInk" (289 : Nat) ({ cls := "TwinInk", name := "isSo", desc := "()Z" } : Jvm.MethodName)) ∈ lw_all := lw_g (lw_at lw_m6 174 rfl) rfl
theorem q1509 : (Jvm.Cond.privateMethod ({ cls := "TwinInk", name := "isSo", desc := "()Z" } : Jvm.MethodName)) ∈ lw_tbl := lw_at lw_m6 175 rfl
theorem q1510 : (Jvm.Cond.instanceMethod ({ cls := "TwinInk", name := "isSo", desc := "()Z" } : Jvm.MethodName)) ∈ lw_all := lw_g (lw_at lw_m6 176 rfl) rfl
theorem q1511 : (Jvm.Cond.code ({ cls := "TwinInk", name := "isSo", desc := "()Z" } : Jvm.MethodName) prog_1_method_52_code (5 : Nat) (Option.some Jvm.ClassFile.FieldType.boolean)) ∈ lw_all := lw_g (lw_at lw_m6 177 rfl) rfl
theorem q1512 : (Jvm.Cond.methodLink "TwinInk" (296 : Nat) ({ cls := "TwinInk", name := "others", desc := "()Ljava/util/List;" } : Jvm.MethodName)) ∈ lw_all := lw_g (lw_at lw_m6 178 rfl) rfl
theorem q1513 : (Jvm.Cond.privateMethod ({ cls := "TwinInk", name := "others", desc := "()Ljava/util/List;" } : Jvm.MethodName)) ∈ lw_tbl := lw_at lw_m6 179 rfl
theorem q1514 : (Jvm.Cond.instanceMethod ({ cls := "TwinInk", name := "others", desc := "()Ljava/util/List;" } : Jvm.MethodName)) ∈ lw_all := lw_g (lw_at lw_m6 180 rfl) rfl
theorem q1515 : (Jvm.Cond.code ({ cls := "TwinInk", name := "others", desc := "()Ljava/util/List;" } : Jvm.MethodName) prog_1_method_53_code (4 : Nat) (Option.some (Jvm.ClassFile.FieldType.object "java/util/List"))) ∈ lw_all := lw_g (lw_at lw_m6 181 rfl) rfl
theorem q1516 : (Jvm.Cond.methodLink "TwinInk" (292 : Nat) ({ cls := "java/lang/Integer", name := "valueOf", desc := "(I)Ljava/lang/Integer;" } : Jvm.MethodName)) ∈ lw_all := lw_g (lw_at lw_m6 182 rfl) rfl
theorem q1517 : (Jvm.Cond.classLink "TwinInk" (264 : Nat) "java/lang/Integer") ∈ lw_all := lw_g (lw_at lw_m6 183 rfl) rfl
theorem q1518 : (Jvm.Cond.methodLink "TwinInk" (300 : Nat) ({ cls := "java/lang/Integer", name := "intValue", desc := "()I" } : Jvm.MethodName)) ∈ lw_all := lw_g (lw_at lw_m6 184 rfl) rfl
theorem q1523 : (Jvm.Cond.instanceMethod ({ cls := "TwinInk", name := "ask", desc := "(I)I" } : Jvm.MethodName)) ∈ lw_all := lw_g (lw_at lw_m6 189 rfl) rfl
theorem q1524 : (Jvm.Cond.selects "TwinInk" ({ cls := "TwinInk", name := "ask", desc := "(I)I" } : Jvm.MethodName) ({ cls := "TwinInk", name := "ask", desc := "(I)I" } : Jvm.MethodName)) ∈ lw_all := lw_g (lw_at lw_m6 190 rfl) rfl
theorem q1525 : (Jvm.Cond.code ({ cls := "TwinInk", name := "ask", desc := "(I)I" } : Jvm.MethodName) prog_1_method_55_code (11 : Nat) (Option.some Jvm.ClassFile.FieldType.int)) ∈ lw_all := lw_g (lw_at lw_m6 191 rfl) rfl
theorem q1530 : (Jvm.Cond.instanceMethod ({ cls := "TwinInk", name := "fires", desc := "(II)I" } : Jvm.MethodName)) ∈ lw_all := lw_g (lw_at lw_m6 196 rfl) rfl
theorem q1531 : (Jvm.Cond.selects "TwinInk" ({ cls := "TwinInk", name := "fires", desc := "(II)I" } : Jvm.MethodName) ({ cls := "TwinInk", name := "fires", desc := "(II)I" } : Jvm.MethodName)) ∈ lw_all := lw_g (lw_at lw_m6 197 rfl) rfl
theorem q1532 : (Jvm.Cond.code ({ cls := "TwinInk", name := "fires", desc := "(II)I" } : Jvm.MethodName) prog_1_method_49_code (8 : Nat) (Option.some Jvm.ClassFile.FieldType.int)) ∈ lw_all := lw_g (lw_at lw_m6 198 rfl) rfl
theorem q1537 : (Jvm.Cond.instanceMethod ({ cls := "TwinInk", name := "game", desc := "(III)I" } : Jvm.MethodName)) ∈ lw_all := lw_g (lw_at lw_m6 203 rfl) rfl
theorem q1538 : (Jvm.Cond.selects "TwinInk" ({ cls := "TwinInk", name := "game", desc := "(III)I" } : Jvm.MethodName) ({ cls := "TwinInk", name := "game", desc := "(III)I" } : Jvm.MethodName)) ∈ lw_all := lw_g (lw_at lw_m6 204 rfl) rfl
theorem q1539 : (Jvm.Cond.code ({ cls := "TwinInk", name := "game", desc := "(III)I" } : Jvm.MethodName) prog_1_method_58_code (8 : Nat) (Option.some Jvm.ClassFile.FieldType.int)) ∈ lw_all := lw_g (lw_at lw_m6 205 rfl) rfl
theorem q1540 : (Jvm.Cond.methodLink "TwinInk" (310 : Nat) ({ cls := "TwinInk", name := "gain", desc := "(IIII)I" } : Jvm.MethodName)) ∈ lw_all := lw_g (lw_at lw_m6 206 rfl) rfl
theorem q1541 : (Jvm.Cond.privateMethod ({ cls := "TwinInk", name := "gain", desc := "(IIII)I" } : Jvm.MethodName)) ∈ lw_tbl := lw_at lw_m6 207 rfl
theorem q1542 : (Jvm.Cond.instanceMethod ({ cls := "TwinInk", name := "gain", desc := "(IIII)I" } : Jvm.MethodName)) ∈ lw_all := lw_g (lw_at lw_m6 208 rfl) rfl
theorem q1543 : (Jvm.Cond.code ({ cls := "TwinInk", name := "gain", desc := "(IIII)I" } : Jvm.MethodName) prog_1_method_57_code (5 : Nat) (Option.some Jvm.ClassFile.FieldType.int)) ∈ lw_all := lw_g (lw_at lw_m6 209 rfl) rfl
theorem q1544 : (Jvm.Cond.methodLink "TwinInk" (306 : Nat) ({ cls := "TwinInk", name := "news", desc := "(III)I" } : Jvm.MethodName)) ∈ lw_all := lw_g (lw_at lw_m6 210 rfl) rfl
theorem q1545 : (Jvm.Cond.privateMethod ({ cls := "TwinInk", name := "news", desc := "(III)I" } : Jvm.MethodName)) ∈ lw_tbl := lw_at lw_m6 211 rfl
theorem q1546 : (Jvm.Cond.instanceMethod ({ cls := "TwinInk", name := "news", desc := "(III)I" } : Jvm.MethodName)) ∈ lw_all := lw_g (lw_at lw_m6 212 rfl) rfl
theorem q1547 : (Jvm.Cond.code ({ cls := "TwinInk", name := "news", desc := "(III)I" } : Jvm.MethodName) prog_1_method_56_code (5 : Nat) (Option.some Jvm.ClassFile.FieldType.int)) ∈ lw_all := lw_g (lw_at lw_m6 213 rfl) rfl
theorem q1548 : (Jvm.Cond.methodLink "TwinInk" (303 : Nat) ({ cls := "TwinInk$Service", name := "readOf", desc := "(I)I" } : Jvm.MethodName)) ∈ lw_all := lw_g (lw_at lw_m6 214 rfl) rfl
theorem q1553 : (Jvm.Cond.instanceMethod ({ cls := "TwinInk", name := "years", desc := "(III)I" } : Jvm.MethodName)) ∈ lw_all := lw_g (lw_at lw_m6 219 rfl) rfl
theorem q1554 : (Jvm.Cond.selects "TwinInk" ({ cls := "TwinInk", name := "years", desc := "(III)I" } : Jvm.MethodName) ({ cls := "TwinInk", name := "years", desc := "(III)I" } : Jvm.MethodName)) ∈ lw_all := lw_g (lw_at lw_m6 220 rfl) rfl
theorem q1555 : (Jvm.Cond.code ({ cls := "TwinInk", name := "years", desc := "(III)I" } : Jvm.MethodName) prog_1_method_61_code (5 : Nat) (Option.some Jvm.ClassFile.FieldType.int)) ∈ lw_all := lw_g (lw_at lw_m6 221 rfl) rfl
theorem q1556 : (Jvm.Cond.methodLink "TwinInk" (321 : Nat) ({ cls := "TwinInk", name := "befalls", desc := "()V" } : Jvm.MethodName)) ∈ lw_all := lw_g (lw_at lw_m6 222 rfl) rfl
theorem q1557 : (Jvm.Cond.privateMethod ({ cls := "TwinInk", name := "befalls", desc := "()V" } : Jvm.MethodName)) ∈ lw_tbl := lw_at lw_m6 223 rfl
theorem q1558 : (Jvm.Cond.instanceMethod ({ cls := "TwinInk", name := "befalls", desc := "()V" } : Jvm.MethodName)) ∈ lw_all := lw_g (lw_at lw_m6 224 rfl) rfl
theorem q1559 : (Jvm.Cond.code ({ cls := "TwinInk", name := "befalls", desc := "()V" } : Jvm.MethodName) prog_1_method_60_code (4 : Nat) (Option.none : Option Jvm.ClassFile.FieldType)) ∈ lw_all := lw_g (lw_at lw_m6 225 rfl) rfl
theorem q1560 : (Jvm.Cond.methodLink "TwinInk" (318 : Nat) ({ cls := "TwinInk", name := "draw", desc := "(I)I" } : Jvm.MethodName)) ∈ lw_all := lw_g (lw_at lw_m6 226 rfl) rfl
theorem q1561 : (Jvm.Cond.privateMethod ({ cls := "TwinInk", name := "draw", desc := "(I)I" } : Jvm.MethodName)) ∈ lw_tbl := lw_at lw_m6 227 rfl
theorem q1562 : (Jvm.Cond.instanceMethod ({ cls := "TwinInk", name := "draw", desc := "(I)I" } : Jvm.MethodName)) ∈ lw_all := lw_g (lw_at lw_m6 228 rfl) rfl
theorem q1563 : (Jvm.Cond.code ({ cls := "TwinInk", name := "draw", desc := "(I)I" } : Jvm.MethodName) prog_1_method_59_code (2 : Nat) (Option.some Jvm.ClassFile.FieldType.int)) ∈ lw_all := lw_g (lw_at lw_m6 229 rfl) rfl
theorem q1564 : (Jvm.Cond.constant "TwinInk" (317 : Nat) (1103515245 : Int32)) ∈ lw_all := lw_g (lw_at lw_m6 230 rfl) rfl
theorem q1569 : (Jvm.Cond.instanceMethod ({ cls := "TwinInk", name := "wisest", desc := "(I)I" } : Jvm.MethodName)) ∈ lw_all := lw_g (lw_at lw_m6 235 rfl) rfl
theorem q1570 : (Jvm.Cond.selects "TwinInk" ({ cls := "TwinInk", name := "wisest", desc := "(I)I" } : Jvm.MethodName) ({ cls := "TwinInk", name := "wisest", desc := "(I)I" } : Jvm.MethodName)) ∈ lw_all := lw_g (lw_at lw_m6 236 rfl) rfl
theorem q1571 : (Jvm.Cond.code ({ cls := "TwinInk", name := "wisest", desc := "(I)I" } : Jvm.MethodName) prog_1_method_62_code (4 : Nat) (Option.some Jvm.ClassFile.FieldType.int)) ∈ lw_all := lw_g (lw_at lw_m6 237 rfl) rfl
theorem q1576 : (Jvm.Cond.instanceMethod ({ cls := "TwinInk", name := "company", desc := "(III)I" } : Jvm.MethodName)) ∈ lw_all := lw_g (lw_at lw_m7 2 rfl) rfl
theorem q1577 : (Jvm.Cond.selects "TwinInk" ({ cls := "TwinInk", name := "company", desc := "(III)I" } : Jvm.MethodName) ({ cls := "TwinInk", name := "company", desc := "(III)I" } : Jvm.MethodName)) ∈ lw_all := lw_g (lw_at lw_m7 3 rfl) rfl
theorem q1578 : (Jvm.Cond.code ({ cls := "TwinInk", name := "company", desc := "(III)I" } : Jvm.MethodName) prog_1_method_63_code (6 : Nat) (Option.some Jvm.ClassFile.FieldType.int)) ∈ lw_all := lw_g (lw_at lw_m7 4 rfl) rfl
theorem q1579 : (Jvm.Cond.methodLink "TwinInk" (324 : Nat) ({ cls := "TwinInk$Office", name := "town", desc := "(II)I" } : Jvm.MethodName)) ∈ lw_all := lw_g (lw_at lw_m7 5 rfl) rfl
theorem q1584 : (Jvm.Cond.instanceMethod ({ cls := "TwinInk", name := "together", desc := "(I)I" } : Jvm.MethodName)) ∈ lw_all := lw_g (lw_at lw_m7 10 rfl) rfl
theorem q1585 : (Jvm.Cond.selects "TwinInk" ({ cls := "TwinInk", name := "together", desc := "(I)I" } : Jvm.MethodName) ({ cls := "TwinInk", name := "together", desc := "(I)I" } : Jvm.MethodName)) ∈ lw_all := lw_g (lw_at lw_m7 11 rfl) rfl
theorem q1586 : (Jvm.Cond.code ({ cls := "TwinInk", name := "together", desc := "(I)I" } : Jvm.MethodName) prog_1_method_64_code (6 : Nat) (Option.some Jvm.ClassFile.FieldType.int)) ∈ lw_all := lw_g (lw_at lw_m7 12 rfl) rfl
theorem q1591 : (Jvm.Cond.instanceMethod ({ cls := "TwinInk", name := "odd", desc := "(I)I" } : Jvm.MethodName)) ∈ lw_all := lw_g (lw_at lw_m7 17 rfl) rfl
theorem q1592 : (Jvm.Cond.selects "TwinInk" ({ cls := "TwinInk", name := "odd", desc := "(I)I" } : Jvm.MethodName) ({ cls := "TwinInk", name := "odd", desc := "(I)I" } : Jvm.MethodName)) ∈ lw_all := lw_g (lw_at lw_m7 18 rfl) rfl
theorem q1593 : (Jvm.Cond.code ({ cls := "TwinInk", name := "odd", desc := "(I)I" } : Jvm.MethodName) prog_1_method_68_code (3 : Nat) (Option.some Jvm.ClassFile.FieldType.int)) ∈ lw_all := lw_g (lw_at lw_m7 19 rfl) rfl
theorem q1594 : (Jvm.Cond.methodLink "TwinInk" (329 : Nat) ({ cls := "TwinInk", name := "orphans", desc := "()I" } : Jvm.MethodName)) ∈ lw_all := lw_g (lw_at lw_m7 20 rfl) rfl
theorem q1595 : (Jvm.Cond.privateMethod ({ cls := "TwinInk", name := "orphans", desc := "()I" } : Jvm.MethodName)) ∈ lw_tbl := lw_at lw_m7 21 rfl
theorem q1596 : (Jvm.Cond.instanceMethod ({ cls := "TwinInk", name := "orphans", desc := "()I" } : Jvm.MethodName)) ∈ lw_all := lw_g (lw_at lw_m7 22 rfl) rfl
theorem q1597 : (Jvm.Cond.code ({ cls := "TwinInk", name := "orphans", desc := "()I" } : Jvm.MethodName) prog_1_method_65_code (4 : Nat) (Option.some Jvm.ClassFile.FieldType.int)) ∈ lw_all := lw_g (lw_at lw_m7 23 rfl) rfl
theorem q1598 : (Jvm.Cond.methodLink "TwinInk" (332 : Nat) ({ cls := "TwinInk", name := "strangers", desc := "()I" } : Jvm.MethodName)) ∈ lw_all := lw_g (lw_at lw_m7 24 rfl) rfl
theorem q1599 : (Jvm.Cond.privateMethod ({ cls := "TwinInk", name := "strangers", desc := "()I" } : Jvm.MethodName)) ∈ lw_tbl := lw_at lw_m7 25 rfl
theorem q1600 : (Jvm.Cond.instanceMethod ({ cls := "TwinInk", name := "strangers", desc := "()I" } : Jvm.MethodName)) ∈ lw_all := lw_g (lw_at lw_m7 26 rfl) rfl
theorem q1601 : (Jvm.Cond.code ({ cls := "TwinInk", name := "strangers", desc := "()I" } : Jvm.MethodName) prog_1_method_67_code (5 : Nat) (Option.some Jvm.ClassFile.FieldType.int)) ∈ lw_all := lw_g (lw_at lw_m7 27 rfl) rfl
theorem q1602 : (Jvm.Cond.methodLink "TwinInk" (326 : Nat) ({ cls := "TwinInk", name := "isTold", desc := "(II)Z" } : Jvm.MethodName)) ∈ lw_all := lw_g (lw_at lw_m7 28 rfl) rfl
theorem q1603 : (Jvm.Cond.privateMethod ({ cls := "TwinInk", name := "isTold", desc := "(II)Z" } : Jvm.MethodName)) ∈ lw_tbl := lw_at lw_m7 29 rfl
theorem q1604 : (Jvm.Cond.instanceMethod ({ cls := "TwinInk", name := "isTold", desc := "(II)Z" } : Jvm.MethodName)) ∈ lw_all := lw_g (lw_at lw_m7 30 rfl) rfl
theorem q1605 : (Jvm.Cond.code ({ cls := "TwinInk", name := "isTold", desc := "(II)Z" } : Jvm.MethodName) prog_1_method_66_code (4 : Nat) (Option.some Jvm.ClassFile.FieldType.boolean)) ∈ lw_all := lw_g (lw_at lw_m7 31 rfl) rfl
theorem q1610 : (Jvm.Cond.instanceMethod ({ cls := "TwinInk", name := "far", desc := "(II)I" } : Jvm.MethodName)) ∈ lw_all := lw_g (lw_at lw_m7 36 rfl) rfl
theorem q1611 : (Jvm.Cond.selects "TwinInk" ({ cls := "TwinInk", name := "far", desc := "(II)I" } : Jvm.MethodName) ({ cls := "TwinInk", name := "far", desc := "(II)I" } : Jvm.MethodName)) ∈ lw_all := lw_g (lw_at lw_m7 37 rfl) rfl
theorem q1612 : (Jvm.Cond.code ({ cls := "TwinInk", name := "far", desc := "(II)I" } : Jvm.MethodName) prog_1_method_45_code (3 : Nat) (Option.some Jvm.ClassFile.FieldType.int)) ∈ lw_all := lw_g (lw_at lw_m7 38 rfl) rfl
theorem q1617 : (Jvm.Cond.instanceMethod ({ cls := "TwinInk", name := "unread", desc := "(I)I" } : Jvm.MethodName)) ∈ lw_all := lw_g (lw_at lw_m7 43 rfl) rfl
theorem q1618 : (Jvm.Cond.selects "TwinInk" ({ cls := "TwinInk", name := "unread", desc := "(I)I" } : Jvm.MethodName) ({ cls := "TwinInk", name := "unread", desc := "(I)I" } : Jvm.MethodName)) ∈ lw_all := lw_g (lw_at lw_m7 44 rfl) rfl
theorem q1619 : (Jvm.Cond.code ({ cls := "TwinInk", name := "unread", desc := "(I)I" } : Jvm.MethodName) prog_1_method_69_code (2 : Nat) (Option.some Jvm.ClassFile.FieldType.int)) ∈ lw_all := lw_g (lw_at lw_m7 45 rfl) rfl
theorem q1624 : (Jvm.Cond.instanceMethod ({ cls := "TwinInk", name := "heir", desc := "(I)I" } : Jvm.MethodName)) ∈ lw_all := lw_g (lw_at lw_m7 50 rfl) rfl
theorem q1625 : (Jvm.Cond.selects "TwinInk" ({ cls := "TwinInk", name := "heir", desc := "(I)I" } : Jvm.MethodName) ({ cls := "TwinInk", name := "heir", desc := "(I)I" } : Jvm.MethodName)) ∈ lw_all := lw_g (lw_at lw_m7 51 rfl) rfl
theorem q1626 : (Jvm.Cond.code ({ cls := "TwinInk", name := "heir", desc := "(I)I" } : Jvm.MethodName) prog_1_method_70_code (6 : Nat) (Option.some Jvm.ClassFile.FieldType.int)) ∈ lw_all := lw_g (lw_at lw_m7 52 rfl) rfl
theorem q1631 : (Jvm.Cond.instanceMethod ({ cls := "TwinInk", name := "laid", desc := "(I)I" } : Jvm.MethodName)) ∈ lw_all := lw_g (lw_at lw_m7 57 rfl) rfl
theorem q1632 : (Jvm.Cond.selects "TwinInk" ({ cls := "TwinInk", name := "laid", desc := "(I)I" } : Jvm.MethodName) ({ cls := "TwinInk", name := "laid", desc := "(I)I" } : Jvm.MethodName)) ∈ lw_all := lw_g (lw_at lw_m7 58 rfl) rfl
theorem q1633 : (Jvm.Cond.code ({ cls := "TwinInk", name := "laid", desc := "(I)I" } : Jvm.MethodName) prog_1_method_72_code (5 : Nat) (Option.some Jvm.ClassFile.FieldType.int)) ∈ lw_all := lw_g (lw_at lw_m7 59 rfl) rfl
theorem q1634 : (Jvm.Cond.methodLink "TwinInk" (335 : Nat) ({ cls := "TwinInk", name := "allKnown", desc := "()I" } : Jvm.MethodName)) ∈ lw_all := lw_g (lw_at lw_m7 60 rfl) rfl
theorem q1635 : (Jvm.Cond.privateMethod ({ cls := "TwinInk", name := "allKnown", desc := "()I" } : Jvm.MethodName)) ∈ lw_tbl := lw_at lw_m7 61 rfl
theorem q1636 : (Jvm.Cond.instanceMethod ({ cls := "TwinInk", name := "allKnown", desc := "()I" } : Jvm.MethodName)) ∈ lw_all := lw_g (lw_at lw_m7 62 rfl) rfl
theorem q1637 : (Jvm.Cond.code ({ cls := "TwinInk", name := "allKnown", desc := "()I" } : Jvm.MethodName) prog_1_method_71_code (3 : Nat) (Option.some Jvm.ClassFile.FieldType.int)) ∈ lw_all := lw_g (lw_at lw_m7 63 rfl) rfl
theorem q2357 : (Jvm.Cond.castable "TwinInk" "java/lang/Object") ∈ lw_tbl := lw_at lw_m10 63 rfl
theorem in_X1 : ∀ w ∈ wsX10, w ∈ lw_all := lw_in wsX10 [291, 293, 295, 297, 299, 301, 303, 305, 307, 309, 311, 313, 315, 317] (by decide +kernel) (by decide +kernel)

