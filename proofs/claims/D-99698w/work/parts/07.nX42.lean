set_option maxRecDepth 100000
abbrev cX4_game : ByteArray := prog_12_method_115_code
def yX4_game : MethodName := ⟨RX4, "game", "(III)I"⟩
def dkwX4_game_7 : List UInt8 := [21, 5, 172]
abbrev dktX4_game_7 : List UInt8 := dkwX4_game_7 ++ []
def dkwX4_game_6 : List UInt8 := [21, 7, 104, 21, 8, 96, 54, 5, 132, 6, 1, 167, 255, 163, 29, 154, 0, 8, 21, 4, 167, 0, 5]
abbrev dktX4_game_6 : List UInt8 := dkwX4_game_6 ++ dktX4_game_7
def dkwX4_game_5 : List UInt8 := [21, 8, 21, 7, 182, 1, 194, 164, 0, 6, 167, 0, 22, 132, 4, 1, 21, 5, 2, 160, 0, 13, 16, 10]
abbrev dktX4_game_5 : List UInt8 := dkwX4_game_5 ++ dktX4_game_6
def dkwX4_game_4 : List UInt8 := [21, 8, 182, 1, 194, 163, 0, 50, 42, 28, 27, 4, 21, 8, 100, 21, 7, 182, 1, 194, 42, 28, 27]
abbrev dktX4_game_4 : List UInt8 := dkwX4_game_4 ++ dktX4_game_5
def dkwX4_game_3 : List UInt8 := [21, 6, 5, 112, 54, 8, 42, 27, 28, 4, 21, 7, 100, 21, 8, 182, 1, 194, 42, 27, 28, 21, 7]
abbrev dktX4_game_3 : List UInt8 := dkwX4_game_3 ++ dktX4_game_4
def dkwX4_game_2 : List UInt8 := [3, 172, 3, 54, 4, 2, 54, 5, 3, 54, 6, 21, 6, 7, 162, 0, 93, 21, 6, 5, 108, 54, 7]
abbrev dktX4_game_2 : List UInt8 := dkwX4_game_2 ++ dktX4_game_3
def dkwX4_game_1 : List UInt8 := [182, 1, 125, 153, 0, 21, 42, 27, 28, 159, 0, 7, 4, 167, 0, 4, 3, 5, 182, 1, 17, 154, 0, 5]
abbrev dktX4_game_1 : List UInt8 := dkwX4_game_1 ++ dktX4_game_2
def dkwX4_game_0 : List UInt8 := [42, 3, 181, 0, 102, 42, 27, 182, 1, 131, 153, 0, 38, 42, 28, 182, 1, 131, 153, 0, 30, 42, 29, 4]
abbrev dktX4_game_0 : List UInt8 := dkwX4_game_0 ++ dktX4_game_1
theorem dksX4_game_0 : cX4_game.data.toList.drop 0 = dktX4_game_0 := by decide +kernel
theorem dksX4_game_1 : cX4_game.data.toList.drop 24 = dktX4_game_1 := dk_seg dksX4_game_0 24 rfl rfl
theorem dksX4_game_2 : cX4_game.data.toList.drop 48 = dktX4_game_2 := dk_seg dksX4_game_1 24 rfl rfl
theorem dksX4_game_3 : cX4_game.data.toList.drop 71 = dktX4_game_3 := dk_seg dksX4_game_2 23 rfl rfl
theorem dksX4_game_4 : cX4_game.data.toList.drop 94 = dktX4_game_4 := dk_seg dksX4_game_3 23 rfl rfl
theorem dksX4_game_5 : cX4_game.data.toList.drop 117 = dktX4_game_5 := dk_seg dksX4_game_4 23 rfl rfl
theorem dksX4_game_6 : cX4_game.data.toList.drop 141 = dktX4_game_6 := dk_seg dksX4_game_5 24 rfl rfl
theorem dksX4_game_7 : cX4_game.data.toList.drop 164 = dktX4_game_7 := dk_seg dksX4_game_6 23 rfl rfl
theorem dX4_game_0 : decode cX4_game 0 = .ok (.aload_n 0, 1) := dk_42 (dk_at dksX4_game_0 0 rfl rfl)
theorem dX4_game_1 : decode cX4_game 1 = .ok (.iconst 0, 1) := dk_3 (dk_at dksX4_game_0 1 rfl rfl)
theorem dX4_game_2 : decode cX4_game 2 = .ok (.putfield 102, 3) := dk_181 0 102 (dk_at dksX4_game_0 2 rfl rfl)
theorem dX4_game_5 : decode cX4_game 5 = .ok (.aload_n 0, 1) := dk_42 (dk_at dksX4_game_0 5 rfl rfl)
theorem dX4_game_6 : decode cX4_game 6 = .ok (.iload_n 1, 1) := dk_27 (dk_at dksX4_game_0 6 rfl rfl)
theorem dX4_game_7 : decode cX4_game 7 = .ok (.invokevirtual 387, 3) := dk_182 1 131 (dk_at dksX4_game_0 7 rfl rfl)
theorem dX4_game_10 : decode cX4_game 10 = .ok (.ifCond .eq 38, 3) := dk_153 0 38 (dk_at dksX4_game_0 10 rfl rfl)
theorem dX4_game_13 : decode cX4_game 13 = .ok (.aload_n 0, 1) := dk_42 (dk_at dksX4_game_0 13 rfl rfl)
theorem dX4_game_14 : decode cX4_game 14 = .ok (.iload_n 2, 1) := dk_28 (dk_at dksX4_game_0 14 rfl rfl)
theorem dX4_game_15 : decode cX4_game 15 = .ok (.invokevirtual 387, 3) := dk_182 1 131 (dk_at dksX4_game_0 15 rfl rfl)
theorem dX4_game_18 : decode cX4_game 18 = .ok (.ifCond .eq 30, 3) := dk_153 0 30 (dk_at dksX4_game_0 18 rfl rfl)
theorem dX4_game_21 : decode cX4_game 21 = .ok (.aload_n 0, 1) := dk_42 (dk_at dksX4_game_0 21 rfl rfl)
theorem dX4_game_22 : decode cX4_game 22 = .ok (.iload_n 3, 1) := dk_29 (dk_at dksX4_game_0 22 rfl rfl)
theorem dX4_game_23 : decode cX4_game 23 = .ok (.iconst 1, 1) := dk_4 (dk_at dksX4_game_0 23 rfl rfl)
theorem dX4_game_24 : decode cX4_game 24 = .ok (.invokevirtual 381, 3) := dk_182 1 125 (dk_at dksX4_game_1 0 rfl rfl)
theorem dX4_game_27 : decode cX4_game 27 = .ok (.ifCond .eq 21, 3) := dk_153 0 21 (dk_at dksX4_game_1 3 rfl rfl)
theorem dX4_game_30 : decode cX4_game 30 = .ok (.aload_n 0, 1) := dk_42 (dk_at dksX4_game_1 6 rfl rfl)
theorem dX4_game_31 : decode cX4_game 31 = .ok (.iload_n 1, 1) := dk_27 (dk_at dksX4_game_1 7 rfl rfl)
theorem dX4_game_32 : decode cX4_game 32 = .ok (.iload_n 2, 1) := dk_28 (dk_at dksX4_game_1 8 rfl rfl)
theorem dX4_game_33 : decode cX4_game 33 = .ok (.if_icmp .eq 7, 3) := dk_159 0 7 (dk_at dksX4_game_1 9 rfl rfl)
theorem dX4_game_36 : decode cX4_game 36 = .ok (.iconst 1, 1) := dk_4 (dk_at dksX4_game_1 12 rfl rfl)
theorem dX4_game_37 : decode cX4_game 37 = .ok (.goto 4, 3) := dk_167 0 4 (dk_at dksX4_game_1 13 rfl rfl)
theorem dX4_game_40 : decode cX4_game 40 = .ok (.iconst 0, 1) := dk_3 (dk_at dksX4_game_1 16 rfl rfl)
theorem dX4_game_41 : decode cX4_game 41 = .ok (.iconst 2, 1) := dk_5 (dk_at dksX4_game_1 17 rfl rfl)
theorem dX4_game_42 : decode cX4_game 42 = .ok (.invokevirtual 273, 3) := dk_182 1 17 (dk_at dksX4_game_1 18 rfl rfl)
theorem dX4_game_45 : decode cX4_game 45 = .ok (.ifCond .ne 5, 3) := dk_154 0 5 (dk_at dksX4_game_1 21 rfl rfl)
theorem dX4_game_48 : decode cX4_game 48 = .ok (.iconst 0, 1) := dk_3 (dk_at dksX4_game_2 0 rfl rfl)
theorem dX4_game_49 : decode cX4_game 49 = .ok (.ireturn, 1) := dk_172 (dk_at dksX4_game_2 1 rfl rfl)
theorem dX4_game_50 : decode cX4_game 50 = .ok (.iconst 0, 1) := dk_3 (dk_at dksX4_game_2 2 rfl rfl)
theorem dX4_game_51 : decode cX4_game 51 = .ok (.istore 4, 2) := dk_54 4 (dk_at dksX4_game_2 3 rfl rfl)
theorem dX4_game_53 : decode cX4_game 53 = .ok (.iconst (-1), 1) := dk_2 (dk_at dksX4_game_2 5 rfl rfl)
theorem dX4_game_54 : decode cX4_game 54 = .ok (.istore 5, 2) := dk_54 5 (dk_at dksX4_game_2 6 rfl rfl)
theorem dX4_game_56 : decode cX4_game 56 = .ok (.iconst 0, 1) := dk_3 (dk_at dksX4_game_2 8 rfl rfl)
theorem dX4_game_57 : decode cX4_game 57 = .ok (.istore 6, 2) := dk_54 6 (dk_at dksX4_game_2 9 rfl rfl)
theorem dX4_game_59 : decode cX4_game 59 = .ok (.iload 6, 2) := dk_21 6 (dk_at dksX4_game_2 11 rfl rfl)
theorem dX4_game_61 : decode cX4_game 61 = .ok (.iconst 4, 1) := dk_7 (dk_at dksX4_game_2 13 rfl rfl)
theorem dX4_game_62 : decode cX4_game 62 = .ok (.if_icmp .ge 93, 3) := dk_162 0 93 (dk_at dksX4_game_2 14 rfl rfl)
theorem dX4_game_65 : decode cX4_game 65 = .ok (.iload 6, 2) := dk_21 6 (dk_at dksX4_game_2 17 rfl rfl)
theorem dX4_game_67 : decode cX4_game 67 = .ok (.iconst 2, 1) := dk_5 (dk_at dksX4_game_2 19 rfl rfl)
theorem dX4_game_68 : decode cX4_game 68 = .ok (.idiv, 1) := dk_108 (dk_at dksX4_game_2 20 rfl rfl)
theorem dX4_game_69 : decode cX4_game 69 = .ok (.istore 7, 2) := dk_54 7 (dk_at dksX4_game_2 21 rfl rfl)
theorem dX4_game_71 : decode cX4_game 71 = .ok (.iload 6, 2) := dk_21 6 (dk_at dksX4_game_3 0 rfl rfl)
theorem dX4_game_73 : decode cX4_game 73 = .ok (.iconst 2, 1) := dk_5 (dk_at dksX4_game_3 2 rfl rfl)
theorem dX4_game_74 : decode cX4_game 74 = .ok (.irem, 1) := dk_112 (dk_at dksX4_game_3 3 rfl rfl)
theorem dX4_game_75 : decode cX4_game 75 = .ok (.istore 8, 2) := dk_54 8 (dk_at dksX4_game_3 4 rfl rfl)
theorem dX4_game_77 : decode cX4_game 77 = .ok (.aload_n 0, 1) := dk_42 (dk_at dksX4_game_3 6 rfl rfl)
theorem dX4_game_78 : decode cX4_game 78 = .ok (.iload_n 1, 1) := dk_27 (dk_at dksX4_game_3 7 rfl rfl)
theorem dX4_game_79 : decode cX4_game 79 = .ok (.iload_n 2, 1) := dk_28 (dk_at dksX4_game_3 8 rfl rfl)
theorem dX4_game_80 : decode cX4_game 80 = .ok (.iconst 1, 1) := dk_4 (dk_at dksX4_game_3 9 rfl rfl)
theorem dX4_game_81 : decode cX4_game 81 = .ok (.iload 7, 2) := dk_21 7 (dk_at dksX4_game_3 10 rfl rfl)
theorem dX4_game_83 : decode cX4_game 83 = .ok (.isub, 1) := dk_100 (dk_at dksX4_game_3 12 rfl rfl)
theorem dX4_game_84 : decode cX4_game 84 = .ok (.iload 8, 2) := dk_21 8 (dk_at dksX4_game_3 13 rfl rfl)
theorem dX4_game_86 : decode cX4_game 86 = .ok (.invokevirtual 450, 3) := dk_182 1 194 (dk_at dksX4_game_3 15 rfl rfl)
theorem dX4_game_89 : decode cX4_game 89 = .ok (.aload_n 0, 1) := dk_42 (dk_at dksX4_game_3 18 rfl rfl)
theorem dX4_game_90 : decode cX4_game 90 = .ok (.iload_n 1, 1) := dk_27 (dk_at dksX4_game_3 19 rfl rfl)
theorem dX4_game_91 : decode cX4_game 91 = .ok (.iload_n 2, 1) := dk_28 (dk_at dksX4_game_3 20 rfl rfl)
theorem dX4_game_92 : decode cX4_game 92 = .ok (.iload 7, 2) := dk_21 7 (dk_at dksX4_game_3 21 rfl rfl)
theorem dX4_game_94 : decode cX4_game 94 = .ok (.iload 8, 2) := dk_21 8 (dk_at dksX4_game_4 0 rfl rfl)
theorem dX4_game_96 : decode cX4_game 96 = .ok (.invokevirtual 450, 3) := dk_182 1 194 (dk_at dksX4_game_4 2 rfl rfl)
theorem dX4_game_99 : decode cX4_game 99 = .ok (.if_icmp .gt 50, 3) := dk_163 0 50 (dk_at dksX4_game_4 5 rfl rfl)
theorem dX4_game_102 : decode cX4_game 102 = .ok (.aload_n 0, 1) := dk_42 (dk_at dksX4_game_4 8 rfl rfl)
theorem dX4_game_103 : decode cX4_game 103 = .ok (.iload_n 2, 1) := dk_28 (dk_at dksX4_game_4 9 rfl rfl)
theorem dX4_game_104 : decode cX4_game 104 = .ok (.iload_n 1, 1) := dk_27 (dk_at dksX4_game_4 10 rfl rfl)
theorem dX4_game_105 : decode cX4_game 105 = .ok (.iconst 1, 1) := dk_4 (dk_at dksX4_game_4 11 rfl rfl)
theorem dX4_game_106 : decode cX4_game 106 = .ok (.iload 8, 2) := dk_21 8 (dk_at dksX4_game_4 12 rfl rfl)
theorem dX4_game_108 : decode cX4_game 108 = .ok (.isub, 1) := dk_100 (dk_at dksX4_game_4 14 rfl rfl)
theorem dX4_game_109 : decode cX4_game 109 = .ok (.iload 7, 2) := dk_21 7 (dk_at dksX4_game_4 15 rfl rfl)
theorem dX4_game_111 : decode cX4_game 111 = .ok (.invokevirtual 450, 3) := dk_182 1 194 (dk_at dksX4_game_4 17 rfl rfl)
theorem dX4_game_114 : decode cX4_game 114 = .ok (.aload_n 0, 1) := dk_42 (dk_at dksX4_game_4 20 rfl rfl)
theorem dX4_game_115 : decode cX4_game 115 = .ok (.iload_n 2, 1) := dk_28 (dk_at dksX4_game_4 21 rfl rfl)
theorem dX4_game_116 : decode cX4_game 116 = .ok (.iload_n 1, 1) := dk_27 (dk_at dksX4_game_4 22 rfl rfl)
theorem dX4_game_117 : decode cX4_game 117 = .ok (.iload 8, 2) := dk_21 8 (dk_at dksX4_game_5 0 rfl rfl)
theorem dX4_game_119 : decode cX4_game 119 = .ok (.iload 7, 2) := dk_21 7 (dk_at dksX4_game_5 2 rfl rfl)
theorem dX4_game_121 : decode cX4_game 121 = .ok (.invokevirtual 450, 3) := dk_182 1 194 (dk_at dksX4_game_5 4 rfl rfl)
theorem dX4_game_124 : decode cX4_game 124 = .ok (.if_icmp .le 6, 3) := dk_164 0 6 (dk_at dksX4_game_5 7 rfl rfl)
theorem dX4_game_127 : decode cX4_game 127 = .ok (.goto 22, 3) := dk_167 0 22 (dk_at dksX4_game_5 10 rfl rfl)
theorem dX4_game_130 : decode cX4_game 130 = .ok (.iinc 4 1, 3) := dk_132 4 1 (dk_at dksX4_game_5 13 rfl rfl)
theorem dX4_game_133 : decode cX4_game 133 = .ok (.iload 5, 2) := dk_21 5 (dk_at dksX4_game_5 16 rfl rfl)
theorem dX4_game_135 : decode cX4_game 135 = .ok (.iconst (-1), 1) := dk_2 (dk_at dksX4_game_5 18 rfl rfl)
theorem dX4_game_136 : decode cX4_game 136 = .ok (.if_icmp .ne 13, 3) := dk_160 0 13 (dk_at dksX4_game_5 19 rfl rfl)
theorem dX4_game_139 : decode cX4_game 139 = .ok (.bipush 10, 2) := dk_16 10 (dk_at dksX4_game_5 22 rfl rfl)
theorem dX4_game_141 : decode cX4_game 141 = .ok (.iload 7, 2) := dk_21 7 (dk_at dksX4_game_6 0 rfl rfl)
theorem dX4_game_143 : decode cX4_game 143 = .ok (.imul, 1) := dk_104 (dk_at dksX4_game_6 2 rfl rfl)
theorem dX4_game_144 : decode cX4_game 144 = .ok (.iload 8, 2) := dk_21 8 (dk_at dksX4_game_6 3 rfl rfl)
theorem dX4_game_146 : decode cX4_game 146 = .ok (.iadd, 1) := dk_96 (dk_at dksX4_game_6 5 rfl rfl)
theorem dX4_game_147 : decode cX4_game 147 = .ok (.istore 5, 2) := dk_54 5 (dk_at dksX4_game_6 6 rfl rfl)
theorem dX4_game_149 : decode cX4_game 149 = .ok (.iinc 6 1, 3) := dk_132 6 1 (dk_at dksX4_game_6 8 rfl rfl)
theorem dX4_game_152 : decode cX4_game 152 = .ok (.goto (-93), 3) := dk_167 255 163 (dk_at dksX4_game_6 11 rfl rfl)
theorem dX4_game_155 : decode cX4_game 155 = .ok (.iload_n 3, 1) := dk_29 (dk_at dksX4_game_6 14 rfl rfl)
theorem dX4_game_156 : decode cX4_game 156 = .ok (.ifCond .ne 8, 3) := dk_154 0 8 (dk_at dksX4_game_6 15 rfl rfl)
theorem dX4_game_159 : decode cX4_game 159 = .ok (.iload 4, 2) := dk_21 4 (dk_at dksX4_game_6 18 rfl rfl)
theorem dX4_game_161 : decode cX4_game 161 = .ok (.goto 5, 3) := dk_167 0 5 (dk_at dksX4_game_6 20 rfl rfl)
theorem dX4_game_164 : decode cX4_game 164 = .ok (.iload 5, 2) := dk_21 5 (dk_at dksX4_game_7 0 rfl rfl)
theorem dX4_game_166 : decode cX4_game 166 = .ok (.ireturn, 1) := dk_172 (dk_at dksX4_game_7 2 rfl rfl)
abbrev cX4_gains : ByteArray := prog_12_method_114_code
def yX4_gains : MethodName := ⟨RX4, "gains", "(IIII)I"⟩
def dkwX4_gains_2 : List UInt8 := [21, 5, 182, 1, 191, 104, 5, 42, 28, 21, 6, 182, 1, 191, 104, 100, 172]
abbrev dktX4_gains_2 : List UInt8 := dkwX4_gains_2 ++ []
def dkwX4_gains_1 : List UInt8 := [28, 182, 1, 188, 29, 4, 160, 0, 11, 42, 27, 182, 1, 188, 167, 0, 4, 3, 128, 54, 6, 6, 42, 27]
abbrev dktX4_gains_1 : List UInt8 := dkwX4_gains_1 ++ dktX4_gains_2
def dkwX4_gains_0 : List UInt8 := [42, 27, 182, 1, 188, 21, 4, 4, 160, 0, 11, 42, 28, 182, 1, 188, 167, 0, 4, 3, 128, 54, 5, 42]
abbrev dktX4_gains_0 : List UInt8 := dkwX4_gains_0 ++ dktX4_gains_1
theorem dksX4_gains_0 : cX4_gains.data.toList.drop 0 = dktX4_gains_0 := by decide +kernel
theorem dksX4_gains_1 : cX4_gains.data.toList.drop 24 = dktX4_gains_1 := dk_seg dksX4_gains_0 24 rfl rfl
theorem dksX4_gains_2 : cX4_gains.data.toList.drop 48 = dktX4_gains_2 := dk_seg dksX4_gains_1 24 rfl rfl
theorem dX4_gains_0 : decode cX4_gains 0 = .ok (.aload_n 0, 1) := dk_42 (dk_at dksX4_gains_0 0 rfl rfl)
theorem dX4_gains_1 : decode cX4_gains 1 = .ok (.iload_n 1, 1) := dk_27 (dk_at dksX4_gains_0 1 rfl rfl)
theorem dX4_gains_2 : decode cX4_gains 2 = .ok (.invokevirtual 444, 3) := dk_182 1 188 (dk_at dksX4_gains_0 2 rfl rfl)
theorem dX4_gains_5 : decode cX4_gains 5 = .ok (.iload 4, 2) := dk_21 4 (dk_at dksX4_gains_0 5 rfl rfl)
theorem dX4_gains_7 : decode cX4_gains 7 = .ok (.iconst 1, 1) := dk_4 (dk_at dksX4_gains_0 7 rfl rfl)
theorem dX4_gains_8 : decode cX4_gains 8 = .ok (.if_icmp .ne 11, 3) := dk_160 0 11 (dk_at dksX4_gains_0 8 rfl rfl)
theorem dX4_gains_11 : decode cX4_gains 11 = .ok (.aload_n 0, 1) := dk_42 (dk_at dksX4_gains_0 11 rfl rfl)
theorem dX4_gains_12 : decode cX4_gains 12 = .ok (.iload_n 2, 1) := dk_28 (dk_at dksX4_gains_0 12 rfl rfl)
theorem dX4_gains_13 : decode cX4_gains 13 = .ok (.invokevirtual 444, 3) := dk_182 1 188 (dk_at dksX4_gains_0 13 rfl rfl)
theorem dX4_gains_16 : decode cX4_gains 16 = .ok (.goto 4, 3) := dk_167 0 4 (dk_at dksX4_gains_0 16 rfl rfl)
theorem dX4_gains_19 : decode cX4_gains 19 = .ok (.iconst 0, 1) := dk_3 (dk_at dksX4_gains_0 19 rfl rfl)
theorem dX4_gains_20 : decode cX4_gains 20 = .ok (.ior, 1) := dk_128 (dk_at dksX4_gains_0 20 rfl rfl)
theorem dX4_gains_21 : decode cX4_gains 21 = .ok (.istore 5, 2) := dk_54 5 (dk_at dksX4_gains_0 21 rfl rfl)
theorem dX4_gains_23 : decode cX4_gains 23 = .ok (.aload_n 0, 1) := dk_42 (dk_at dksX4_gains_0 23 rfl rfl)
theorem dX4_gains_24 : decode cX4_gains 24 = .ok (.iload_n 2, 1) := dk_28 (dk_at dksX4_gains_1 0 rfl rfl)
theorem dX4_gains_25 : decode cX4_gains 25 = .ok (.invokevirtual 444, 3) := dk_182 1 188 (dk_at dksX4_gains_1 1 rfl rfl)
theorem dX4_gains_28 : decode cX4_gains 28 = .ok (.iload_n 3, 1) := dk_29 (dk_at dksX4_gains_1 4 rfl rfl)
theorem dX4_gains_29 : decode cX4_gains 29 = .ok (.iconst 1, 1) := dk_4 (dk_at dksX4_gains_1 5 rfl rfl)
theorem dX4_gains_30 : decode cX4_gains 30 = .ok (.if_icmp .ne 11, 3) := dk_160 0 11 (dk_at dksX4_gains_1 6 rfl rfl)
theorem dX4_gains_33 : decode cX4_gains 33 = .ok (.aload_n 0, 1) := dk_42 (dk_at dksX4_gains_1 9 rfl rfl)
theorem dX4_gains_34 : decode cX4_gains 34 = .ok (.iload_n 1, 1) := dk_27 (dk_at dksX4_gains_1 10 rfl rfl)
theorem dX4_gains_35 : decode cX4_gains 35 = .ok (.invokevirtual 444, 3) := dk_182 1 188 (dk_at dksX4_gains_1 11 rfl rfl)
theorem dX4_gains_38 : decode cX4_gains 38 = .ok (.goto 4, 3) := dk_167 0 4 (dk_at dksX4_gains_1 14 rfl rfl)
theorem dX4_gains_41 : decode cX4_gains 41 = .ok (.iconst 0, 1) := dk_3 (dk_at dksX4_gains_1 17 rfl rfl)
theorem dX4_gains_42 : decode cX4_gains 42 = .ok (.ior, 1) := dk_128 (dk_at dksX4_gains_1 18 rfl rfl)
theorem dX4_gains_43 : decode cX4_gains 43 = .ok (.istore 6, 2) := dk_54 6 (dk_at dksX4_gains_1 19 rfl rfl)
theorem dX4_gains_45 : decode cX4_gains 45 = .ok (.iconst 3, 1) := dk_6 (dk_at dksX4_gains_1 21 rfl rfl)
theorem dX4_gains_46 : decode cX4_gains 46 = .ok (.aload_n 0, 1) := dk_42 (dk_at dksX4_gains_1 22 rfl rfl)
theorem dX4_gains_47 : decode cX4_gains 47 = .ok (.iload_n 1, 1) := dk_27 (dk_at dksX4_gains_1 23 rfl rfl)
theorem dX4_gains_48 : decode cX4_gains 48 = .ok (.iload 5, 2) := dk_21 5 (dk_at dksX4_gains_2 0 rfl rfl)
theorem dX4_gains_50 : decode cX4_gains 50 = .ok (.invokevirtual 447, 3) := dk_182 1 191 (dk_at dksX4_gains_2 2 rfl rfl)
theorem dX4_gains_53 : decode cX4_gains 53 = .ok (.imul, 1) := dk_104 (dk_at dksX4_gains_2 5 rfl rfl)
theorem dX4_gains_54 : decode cX4_gains 54 = .ok (.iconst 2, 1) := dk_5 (dk_at dksX4_gains_2 6 rfl rfl)
theorem dX4_gains_55 : decode cX4_gains 55 = .ok (.aload_n 0, 1) := dk_42 (dk_at dksX4_gains_2 7 rfl rfl)
theorem dX4_gains_56 : decode cX4_gains 56 = .ok (.iload_n 2, 1) := dk_28 (dk_at dksX4_gains_2 8 rfl rfl)
theorem dX4_gains_57 : decode cX4_gains 57 = .ok (.iload 6, 2) := dk_21 6 (dk_at dksX4_gains_2 9 rfl rfl)
theorem dX4_gains_59 : decode cX4_gains 59 = .ok (.invokevirtual 447, 3) := dk_182 1 191 (dk_at dksX4_gains_2 11 rfl rfl)
theorem dX4_gains_62 : decode cX4_gains 62 = .ok (.imul, 1) := dk_104 (dk_at dksX4_gains_2 14 rfl rfl)
theorem dX4_gains_63 : decode cX4_gains 63 = .ok (.isub, 1) := dk_100 (dk_at dksX4_gains_2 15 rfl rfl)
theorem dX4_gains_64 : decode cX4_gains 64 = .ok (.ireturn, 1) := dk_172 (dk_at dksX4_gains_2 16 rfl rfl)
abbrev cX4_bears : ByteArray := prog_12_method_113_code
def yX4_bears : MethodName := ⟨RX4, "bears", "(I)I"⟩
def dkwX4_bears_1 : List UInt8 := [27, 96, 160, 0, 9, 4, 29, 120, 167, 0, 4, 3, 128, 61, 132, 3, 1, 167, 255, 219, 28, 172]
abbrev dktX4_bears_1 : List UInt8 := dkwX4_bears_1 ++ []
def dkwX4_bears_0 : List UInt8 := [3, 61, 3, 62, 29, 42, 180, 1, 24, 162, 0, 35, 28, 42, 180, 0, 66, 16, 19, 29, 96, 46, 16, 10]
abbrev dktX4_bears_0 : List UInt8 := dkwX4_bears_0 ++ dktX4_bears_1
theorem dksX4_bears_0 : cX4_bears.data.toList.drop 0 = dktX4_bears_0 := by decide +kernel
theorem dksX4_bears_1 : cX4_bears.data.toList.drop 24 = dktX4_bears_1 := dk_seg dksX4_bears_0 24 rfl rfl
theorem dX4_bears_0 : decode cX4_bears 0 = .ok (.iconst 0, 1) := dk_3 (dk_at dksX4_bears_0 0 rfl rfl)
theorem dX4_bears_1 : decode cX4_bears 1 = .ok (.istore_n 2, 1) := dk_61 (dk_at dksX4_bears_0 1 rfl rfl)
theorem dX4_bears_2 : decode cX4_bears 2 = .ok (.iconst 0, 1) := dk_3 (dk_at dksX4_bears_0 2 rfl rfl)
theorem dX4_bears_3 : decode cX4_bears 3 = .ok (.istore_n 3, 1) := dk_62 (dk_at dksX4_bears_0 3 rfl rfl)
theorem dX4_bears_4 : decode cX4_bears 4 = .ok (.iload_n 3, 1) := dk_29 (dk_at dksX4_bears_0 4 rfl rfl)
theorem dX4_bears_5 : decode cX4_bears 5 = .ok (.aload_n 0, 1) := dk_42 (dk_at dksX4_bears_0 5 rfl rfl)
theorem dX4_bears_6 : decode cX4_bears 6 = .ok (.getfield 280, 3) := dk_180 1 24 (dk_at dksX4_bears_0 6 rfl rfl)
theorem dX4_bears_9 : decode cX4_bears 9 = .ok (.if_icmp .ge 35, 3) := dk_162 0 35 (dk_at dksX4_bears_0 9 rfl rfl)
theorem dX4_bears_12 : decode cX4_bears 12 = .ok (.iload_n 2, 1) := dk_28 (dk_at dksX4_bears_0 12 rfl rfl)
theorem dX4_bears_13 : decode cX4_bears 13 = .ok (.aload_n 0, 1) := dk_42 (dk_at dksX4_bears_0 13 rfl rfl)
theorem dX4_bears_14 : decode cX4_bears 14 = .ok (.getfield 66, 3) := dk_180 0 66 (dk_at dksX4_bears_0 14 rfl rfl)
theorem dX4_bears_17 : decode cX4_bears 17 = .ok (.bipush 19, 2) := dk_16 19 (dk_at dksX4_bears_0 17 rfl rfl)
theorem dX4_bears_19 : decode cX4_bears 19 = .ok (.iload_n 3, 1) := dk_29 (dk_at dksX4_bears_0 19 rfl rfl)
theorem dX4_bears_20 : decode cX4_bears 20 = .ok (.iadd, 1) := dk_96 (dk_at dksX4_bears_0 20 rfl rfl)
theorem dX4_bears_21 : decode cX4_bears 21 = .ok (.iaload, 1) := dk_46 (dk_at dksX4_bears_0 21 rfl rfl)
theorem dX4_bears_22 : decode cX4_bears 22 = .ok (.bipush 10, 2) := dk_16 10 (dk_at dksX4_bears_0 22 rfl rfl)
theorem dX4_bears_24 : decode cX4_bears 24 = .ok (.iload_n 1, 1) := dk_27 (dk_at dksX4_bears_1 0 rfl rfl)
theorem dX4_bears_25 : decode cX4_bears 25 = .ok (.iadd, 1) := dk_96 (dk_at dksX4_bears_1 1 rfl rfl)
theorem dX4_bears_26 : decode cX4_bears 26 = .ok (.if_icmp .ne 9, 3) := dk_160 0 9 (dk_at dksX4_bears_1 2 rfl rfl)
theorem dX4_bears_29 : decode cX4_bears 29 = .ok (.iconst 1, 1) := dk_4 (dk_at dksX4_bears_1 5 rfl rfl)
theorem dX4_bears_30 : decode cX4_bears 30 = .ok (.iload_n 3, 1) := dk_29 (dk_at dksX4_bears_1 6 rfl rfl)
theorem dX4_bears_31 : decode cX4_bears 31 = .ok (.ishl, 1) := dk_120 (dk_at dksX4_bears_1 7 rfl rfl)
theorem dX4_bears_32 : decode cX4_bears 32 = .ok (.goto 4, 3) := dk_167 0 4 (dk_at dksX4_bears_1 8 rfl rfl)
theorem dX4_bears_35 : decode cX4_bears 35 = .ok (.iconst 0, 1) := dk_3 (dk_at dksX4_bears_1 11 rfl rfl)
theorem dX4_bears_36 : decode cX4_bears 36 = .ok (.ior, 1) := dk_128 (dk_at dksX4_bears_1 12 rfl rfl)
theorem dX4_bears_37 : decode cX4_bears 37 = .ok (.istore_n 2, 1) := dk_61 (dk_at dksX4_bears_1 13 rfl rfl)
theorem dX4_bears_38 : decode cX4_bears 38 = .ok (.iinc 3 1, 3) := dk_132 3 1 (dk_at dksX4_bears_1 14 rfl rfl)
theorem dX4_bears_41 : decode cX4_bears 41 = .ok (.goto (-37), 3) := dk_167 255 219 (dk_at dksX4_bears_1 17 rfl rfl)
theorem dX4_bears_44 : decode cX4_bears 44 = .ok (.iload_n 2, 1) := dk_28 (dk_at dksX4_bears_1 20 rfl rfl)
theorem dX4_bears_45 : decode cX4_bears 45 = .ok (.ireturn, 1) := dk_172 (dk_at dksX4_bears_1 21 rfl rfl)
abbrev cX4_newTo : ByteArray := prog_12_method_112_code
def yX4_newTo : MethodName := ⟨RX4, "newTo", "(II)I"⟩
def dkwX4_newTo_3 : List UInt8 := [21, 4, 122, 4, 126, 154, 0, 7, 4, 167, 0, 4, 3, 96, 62, 132, 4, 1, 167, 255, 172, 29, 172]
abbrev dktX4_newTo_3 : List UInt8 := dkwX4_newTo_3 ++ []
def dkwX4_newTo_2 : List UInt8 := [46, 42, 180, 0, 26, 21, 4, 46, 182, 1, 75, 153, 0, 24, 42, 180, 0, 66, 16, 28, 27, 96, 46]
abbrev dktX4_newTo_2 : List UInt8 := dkwX4_newTo_2 ++ dktX4_newTo_3
def dkwX4_newTo_1 : List UInt8 := [28, 42, 180, 0, 26, 21, 4, 46, 122, 126, 4, 126, 4, 160, 0, 46, 42, 3, 42, 180, 0, 23, 21, 4]
abbrev dktX4_newTo_1 : List UInt8 := dkwX4_newTo_1 ++ dktX4_newTo_2
def dkwX4_newTo_0 : List UInt8 := [3, 62, 3, 54, 4, 21, 4, 42, 180, 1, 30, 162, 0, 81, 29, 28, 42, 180, 0, 23, 21, 4, 46, 122]
abbrev dktX4_newTo_0 : List UInt8 := dkwX4_newTo_0 ++ dktX4_newTo_1
theorem dksX4_newTo_0 : cX4_newTo.data.toList.drop 0 = dktX4_newTo_0 := by decide +kernel
theorem dksX4_newTo_1 : cX4_newTo.data.toList.drop 24 = dktX4_newTo_1 := dk_seg dksX4_newTo_0 24 rfl rfl
theorem dksX4_newTo_2 : cX4_newTo.data.toList.drop 48 = dktX4_newTo_2 := dk_seg dksX4_newTo_1 24 rfl rfl
theorem dksX4_newTo_3 : cX4_newTo.data.toList.drop 71 = dktX4_newTo_3 := dk_seg dksX4_newTo_2 23 rfl rfl
theorem dX4_newTo_0 : decode cX4_newTo 0 = .ok (.iconst 0, 1) := dk_3 (dk_at dksX4_newTo_0 0 rfl rfl)
theorem dX4_newTo_1 : decode cX4_newTo 1 = .ok (.istore_n 3, 1) := dk_62 (dk_at dksX4_newTo_0 1 rfl rfl)
theorem dX4_newTo_2 : decode cX4_newTo 2 = .ok (.iconst 0, 1) := dk_3 (dk_at dksX4_newTo_0 2 rfl rfl)
theorem dX4_newTo_3 : decode cX4_newTo 3 = .ok (.istore 4, 2) := dk_54 4 (dk_at dksX4_newTo_0 3 rfl rfl)
theorem dX4_newTo_5 : decode cX4_newTo 5 = .ok (.iload 4, 2) := dk_21 4 (dk_at dksX4_newTo_0 5 rfl rfl)
theorem dX4_newTo_7 : decode cX4_newTo 7 = .ok (.aload_n 0, 1) := dk_42 (dk_at dksX4_newTo_0 7 rfl rfl)
theorem dX4_newTo_8 : decode cX4_newTo 8 = .ok (.getfield 286, 3) := dk_180 1 30 (dk_at dksX4_newTo_0 8 rfl rfl)
theorem dX4_newTo_11 : decode cX4_newTo 11 = .ok (.if_icmp .ge 81, 3) := dk_162 0 81 (dk_at dksX4_newTo_0 11 rfl rfl)
theorem dX4_newTo_14 : decode cX4_newTo 14 = .ok (.iload_n 3, 1) := dk_29 (dk_at dksX4_newTo_0 14 rfl rfl)
theorem dX4_newTo_15 : decode cX4_newTo 15 = .ok (.iload_n 2, 1) := dk_28 (dk_at dksX4_newTo_0 15 rfl rfl)
theorem dX4_newTo_16 : decode cX4_newTo 16 = .ok (.aload_n 0, 1) := dk_42 (dk_at dksX4_newTo_0 16 rfl rfl)
theorem dX4_newTo_17 : decode cX4_newTo 17 = .ok (.getfield 23, 3) := dk_180 0 23 (dk_at dksX4_newTo_0 17 rfl rfl)
theorem dX4_newTo_20 : decode cX4_newTo 20 = .ok (.iload 4, 2) := dk_21 4 (dk_at dksX4_newTo_0 20 rfl rfl)
theorem dX4_newTo_22 : decode cX4_newTo 22 = .ok (.iaload, 1) := dk_46 (dk_at dksX4_newTo_0 22 rfl rfl)
theorem dX4_newTo_23 : decode cX4_newTo 23 = .ok (.ishr, 1) := dk_122 (dk_at dksX4_newTo_0 23 rfl rfl)
theorem dX4_newTo_24 : decode cX4_newTo 24 = .ok (.iload_n 2, 1) := dk_28 (dk_at dksX4_newTo_1 0 rfl rfl)
theorem dX4_newTo_25 : decode cX4_newTo 25 = .ok (.aload_n 0, 1) := dk_42 (dk_at dksX4_newTo_1 1 rfl rfl)
theorem dX4_newTo_26 : decode cX4_newTo 26 = .ok (.getfield 26, 3) := dk_180 0 26 (dk_at dksX4_newTo_1 2 rfl rfl)
theorem dX4_newTo_29 : decode cX4_newTo 29 = .ok (.iload 4, 2) := dk_21 4 (dk_at dksX4_newTo_1 5 rfl rfl)
theorem dX4_newTo_31 : decode cX4_newTo 31 = .ok (.iaload, 1) := dk_46 (dk_at dksX4_newTo_1 7 rfl rfl)
theorem dX4_newTo_32 : decode cX4_newTo 32 = .ok (.ishr, 1) := dk_122 (dk_at dksX4_newTo_1 8 rfl rfl)
theorem dX4_newTo_33 : decode cX4_newTo 33 = .ok (.iand, 1) := dk_126 (dk_at dksX4_newTo_1 9 rfl rfl)
theorem dX4_newTo_34 : decode cX4_newTo 34 = .ok (.iconst 1, 1) := dk_4 (dk_at dksX4_newTo_1 10 rfl rfl)
theorem dX4_newTo_35 : decode cX4_newTo 35 = .ok (.iand, 1) := dk_126 (dk_at dksX4_newTo_1 11 rfl rfl)
theorem dX4_newTo_36 : decode cX4_newTo 36 = .ok (.iconst 1, 1) := dk_4 (dk_at dksX4_newTo_1 12 rfl rfl)
theorem dX4_newTo_37 : decode cX4_newTo 37 = .ok (.if_icmp .ne 46, 3) := dk_160 0 46 (dk_at dksX4_newTo_1 13 rfl rfl)
theorem dX4_newTo_40 : decode cX4_newTo 40 = .ok (.aload_n 0, 1) := dk_42 (dk_at dksX4_newTo_1 16 rfl rfl)
theorem dX4_newTo_41 : decode cX4_newTo 41 = .ok (.iconst 0, 1) := dk_3 (dk_at dksX4_newTo_1 17 rfl rfl)
theorem dX4_newTo_42 : decode cX4_newTo 42 = .ok (.aload_n 0, 1) := dk_42 (dk_at dksX4_newTo_1 18 rfl rfl)
theorem dX4_newTo_43 : decode cX4_newTo 43 = .ok (.getfield 23, 3) := dk_180 0 23 (dk_at dksX4_newTo_1 19 rfl rfl)
theorem dX4_newTo_46 : decode cX4_newTo 46 = .ok (.iload 4, 2) := dk_21 4 (dk_at dksX4_newTo_1 22 rfl rfl)
theorem dX4_newTo_48 : decode cX4_newTo 48 = .ok (.iaload, 1) := dk_46 (dk_at dksX4_newTo_2 0 rfl rfl)
theorem dX4_newTo_49 : decode cX4_newTo 49 = .ok (.aload_n 0, 1) := dk_42 (dk_at dksX4_newTo_2 1 rfl rfl)
theorem dX4_newTo_50 : decode cX4_newTo 50 = .ok (.getfield 26, 3) := dk_180 0 26 (dk_at dksX4_newTo_2 2 rfl rfl)
theorem dX4_newTo_53 : decode cX4_newTo 53 = .ok (.iload 4, 2) := dk_21 4 (dk_at dksX4_newTo_2 5 rfl rfl)
theorem dX4_newTo_55 : decode cX4_newTo 55 = .ok (.iaload, 1) := dk_46 (dk_at dksX4_newTo_2 7 rfl rfl)
theorem dX4_newTo_56 : decode cX4_newTo 56 = .ok (.invokevirtual 331, 3) := dk_182 1 75 (dk_at dksX4_newTo_2 8 rfl rfl)
theorem dX4_newTo_59 : decode cX4_newTo 59 = .ok (.ifCond .eq 24, 3) := dk_153 0 24 (dk_at dksX4_newTo_2 11 rfl rfl)
theorem dX4_newTo_62 : decode cX4_newTo 62 = .ok (.aload_n 0, 1) := dk_42 (dk_at dksX4_newTo_2 14 rfl rfl)
theorem dX4_newTo_63 : decode cX4_newTo 63 = .ok (.getfield 66, 3) := dk_180 0 66 (dk_at dksX4_newTo_2 15 rfl rfl)
theorem dX4_newTo_66 : decode cX4_newTo 66 = .ok (.bipush 28, 2) := dk_16 28 (dk_at dksX4_newTo_2 18 rfl rfl)
theorem dX4_newTo_68 : decode cX4_newTo 68 = .ok (.iload_n 1, 1) := dk_27 (dk_at dksX4_newTo_2 20 rfl rfl)
theorem dX4_newTo_69 : decode cX4_newTo 69 = .ok (.iadd, 1) := dk_96 (dk_at dksX4_newTo_2 21 rfl rfl)
theorem dX4_newTo_70 : decode cX4_newTo 70 = .ok (.iaload, 1) := dk_46 (dk_at dksX4_newTo_2 22 rfl rfl)
theorem dX4_newTo_71 : decode cX4_newTo 71 = .ok (.iload 4, 2) := dk_21 4 (dk_at dksX4_newTo_3 0 rfl rfl)
theorem dX4_newTo_73 : decode cX4_newTo 73 = .ok (.ishr, 1) := dk_122 (dk_at dksX4_newTo_3 2 rfl rfl)
theorem dX4_newTo_74 : decode cX4_newTo 74 = .ok (.iconst 1, 1) := dk_4 (dk_at dksX4_newTo_3 3 rfl rfl)
theorem dX4_newTo_75 : decode cX4_newTo 75 = .ok (.iand, 1) := dk_126 (dk_at dksX4_newTo_3 4 rfl rfl)
theorem dX4_newTo_76 : decode cX4_newTo 76 = .ok (.ifCond .ne 7, 3) := dk_154 0 7 (dk_at dksX4_newTo_3 5 rfl rfl)
theorem dX4_newTo_79 : decode cX4_newTo 79 = .ok (.iconst 1, 1) := dk_4 (dk_at dksX4_newTo_3 8 rfl rfl)
theorem dX4_newTo_80 : decode cX4_newTo 80 = .ok (.goto 4, 3) := dk_167 0 4 (dk_at dksX4_newTo_3 9 rfl rfl)
theorem dX4_newTo_83 : decode cX4_newTo 83 = .ok (.iconst 0, 1) := dk_3 (dk_at dksX4_newTo_3 12 rfl rfl)
theorem dX4_newTo_84 : decode cX4_newTo 84 = .ok (.iadd, 1) := dk_96 (dk_at dksX4_newTo_3 13 rfl rfl)
theorem dX4_newTo_85 : decode cX4_newTo 85 = .ok (.istore_n 3, 1) := dk_62 (dk_at dksX4_newTo_3 14 rfl rfl)
theorem dX4_newTo_86 : decode cX4_newTo 86 = .ok (.iinc 4 1, 3) := dk_132 4 1 (dk_at dksX4_newTo_3 15 rfl rfl)
theorem dX4_newTo_89 : decode cX4_newTo 89 = .ok (.goto (-84), 3) := dk_167 255 172 (dk_at dksX4_newTo_3 18 rfl rfl)
theorem dX4_newTo_92 : decode cX4_newTo 92 = .ok (.iload_n 3, 1) := dk_29 (dk_at dksX4_newTo_3 21 rfl rfl)
theorem dX4_newTo_93 : decode cX4_newTo 93 = .ok (.ireturn, 1) := dk_172 (dk_at dksX4_newTo_3 22 rfl rfl)
abbrev cX4_years : ByteArray := prog_12_method_119_code
def yX4_years : MethodName := ⟨RX4, "years", "(III)I"⟩
def dkwX4_years_5 : List UInt8 := [167, 0, 22, 29, 4, 160, 0, 8, 21, 4, 167, 0, 12, 42, 16, 34, 182, 1, 113, 184, 1, 60, 172]
abbrev dktX4_years_5 : List UInt8 := dkwX4_years_5 ++ []
def dkwX4_years_4 : List UInt8 := [132, 5, 1, 167, 255, 223, 29, 154, 0, 19, 42, 16, 34, 42, 182, 1, 116, 182, 1, 82, 184, 1, 60]
abbrev dktX4_years_4 : List UInt8 := dkwX4_years_4 ++ dktX4_years_5
def dkwX4_years_3 : List UInt8 := [162, 0, 30, 21, 4, 42, 16, 34, 21, 5, 182, 1, 63, 153, 0, 7, 3, 167, 0, 4, 4, 96, 54, 4]
abbrev dktX4_years_3 : List UInt8 := dkwX4_years_3 ++ dktX4_years_4
def dkwX4_years_2 : List UInt8 := [42, 16, 34, 182, 1, 101, 132, 4, 1, 167, 255, 237, 3, 54, 4, 3, 54, 5, 21, 5, 42, 180, 1, 24]
abbrev dktX4_years_2 : List UInt8 := dkwX4_years_2 ++ dktX4_years_3
def dkwX4_years_1 : List UInt8 := [3, 172, 42, 182, 1, 164, 42, 27, 181, 1, 198, 3, 54, 4, 21, 4, 28, 162, 0, 19, 42, 182, 1, 208]
abbrev dktX4_years_1 : List UInt8 := dkwX4_years_1 ++ dktX4_years_2
def dkwX4_years_0 : List UInt8 := [42, 3, 181, 0, 102, 42, 29, 5, 182, 1, 125, 153, 0, 13, 42, 28, 3, 5, 182, 1, 170, 154, 0, 5]
abbrev dktX4_years_0 : List UInt8 := dkwX4_years_0 ++ dktX4_years_1
theorem dksX4_years_0 : cX4_years.data.toList.drop 0 = dktX4_years_0 := by decide +kernel
theorem dksX4_years_1 : cX4_years.data.toList.drop 24 = dktX4_years_1 := dk_seg dksX4_years_0 24 rfl rfl
theorem dksX4_years_2 : cX4_years.data.toList.drop 48 = dktX4_years_2 := dk_seg dksX4_years_1 24 rfl rfl
theorem dksX4_years_3 : cX4_years.data.toList.drop 72 = dktX4_years_3 := dk_seg dksX4_years_2 24 rfl rfl
theorem dksX4_years_4 : cX4_years.data.toList.drop 96 = dktX4_years_4 := dk_seg dksX4_years_3 24 rfl rfl
theorem dksX4_years_5 : cX4_years.data.toList.drop 119 = dktX4_years_5 := dk_seg dksX4_years_4 23 rfl rfl
theorem dX4_years_0 : decode cX4_years 0 = .ok (.aload_n 0, 1) := dk_42 (dk_at dksX4_years_0 0 rfl rfl)
theorem dX4_years_1 : decode cX4_years 1 = .ok (.iconst 0, 1) := dk_3 (dk_at dksX4_years_0 1 rfl rfl)
theorem dX4_years_2 : decode cX4_years 2 = .ok (.putfield 102, 3) := dk_181 0 102 (dk_at dksX4_years_0 2 rfl rfl)
theorem dX4_years_5 : decode cX4_years 5 = .ok (.aload_n 0, 1) := dk_42 (dk_at dksX4_years_0 5 rfl rfl)
theorem dX4_years_6 : decode cX4_years 6 = .ok (.iload_n 3, 1) := dk_29 (dk_at dksX4_years_0 6 rfl rfl)
theorem dX4_years_7 : decode cX4_years 7 = .ok (.iconst 2, 1) := dk_5 (dk_at dksX4_years_0 7 rfl rfl)
theorem dX4_years_8 : decode cX4_years 8 = .ok (.invokevirtual 381, 3) := dk_182 1 125 (dk_at dksX4_years_0 8 rfl rfl)
theorem dX4_years_11 : decode cX4_years 11 = .ok (.ifCond .eq 13, 3) := dk_153 0 13 (dk_at dksX4_years_0 11 rfl rfl)
theorem dX4_years_14 : decode cX4_years 14 = .ok (.aload_n 0, 1) := dk_42 (dk_at dksX4_years_0 14 rfl rfl)
theorem dX4_years_15 : decode cX4_years 15 = .ok (.iload_n 2, 1) := dk_28 (dk_at dksX4_years_0 15 rfl rfl)
theorem dX4_years_16 : decode cX4_years 16 = .ok (.iconst 0, 1) := dk_3 (dk_at dksX4_years_0 16 rfl rfl)
theorem dX4_years_17 : decode cX4_years 17 = .ok (.iconst 2, 1) := dk_5 (dk_at dksX4_years_0 17 rfl rfl)
theorem dX4_years_18 : decode cX4_years 18 = .ok (.invokevirtual 426, 3) := dk_182 1 170 (dk_at dksX4_years_0 18 rfl rfl)
theorem dX4_years_21 : decode cX4_years 21 = .ok (.ifCond .ne 5, 3) := dk_154 0 5 (dk_at dksX4_years_0 21 rfl rfl)
theorem dX4_years_24 : decode cX4_years 24 = .ok (.iconst 0, 1) := dk_3 (dk_at dksX4_years_1 0 rfl rfl)
theorem dX4_years_25 : decode cX4_years 25 = .ok (.ireturn, 1) := dk_172 (dk_at dksX4_years_1 1 rfl rfl)
theorem dX4_years_26 : decode cX4_years 26 = .ok (.aload_n 0, 1) := dk_42 (dk_at dksX4_years_1 2 rfl rfl)
theorem dX4_years_27 : decode cX4_years 27 = .ok (.invokevirtual 420, 3) := dk_182 1 164 (dk_at dksX4_years_1 3 rfl rfl)
theorem dX4_years_30 : decode cX4_years 30 = .ok (.aload_n 0, 1) := dk_42 (dk_at dksX4_years_1 6 rfl rfl)
theorem dX4_years_31 : decode cX4_years 31 = .ok (.iload_n 1, 1) := dk_27 (dk_at dksX4_years_1 7 rfl rfl)
theorem dX4_years_32 : decode cX4_years 32 = .ok (.putfield 454, 3) := dk_181 1 198 (dk_at dksX4_years_1 8 rfl rfl)
theorem dX4_years_35 : decode cX4_years 35 = .ok (.iconst 0, 1) := dk_3 (dk_at dksX4_years_1 11 rfl rfl)
theorem dX4_years_36 : decode cX4_years 36 = .ok (.istore 4, 2) := dk_54 4 (dk_at dksX4_years_1 12 rfl rfl)
theorem dX4_years_38 : decode cX4_years 38 = .ok (.iload 4, 2) := dk_21 4 (dk_at dksX4_years_1 14 rfl rfl)
theorem dX4_years_40 : decode cX4_years 40 = .ok (.iload_n 2, 1) := dk_28 (dk_at dksX4_years_1 16 rfl rfl)
theorem dX4_years_41 : decode cX4_years 41 = .ok (.if_icmp .ge 19, 3) := dk_162 0 19 (dk_at dksX4_years_1 17 rfl rfl)
theorem dX4_years_44 : decode cX4_years 44 = .ok (.aload_n 0, 1) := dk_42 (dk_at dksX4_years_1 20 rfl rfl)
theorem dX4_years_45 : decode cX4_years 45 = .ok (.invokevirtual 464, 3) := dk_182 1 208 (dk_at dksX4_years_1 21 rfl rfl)
theorem dX4_years_48 : decode cX4_years 48 = .ok (.aload_n 0, 1) := dk_42 (dk_at dksX4_years_2 0 rfl rfl)
theorem dX4_years_49 : decode cX4_years 49 = .ok (.bipush 34, 2) := dk_16 34 (dk_at dksX4_years_2 1 rfl rfl)
theorem dX4_years_51 : decode cX4_years 51 = .ok (.invokevirtual 357, 3) := dk_182 1 101 (dk_at dksX4_years_2 3 rfl rfl)
theorem dX4_years_54 : decode cX4_years 54 = .ok (.iinc 4 1, 3) := dk_132 4 1 (dk_at dksX4_years_2 6 rfl rfl)
theorem dX4_years_57 : decode cX4_years 57 = .ok (.goto (-19), 3) := dk_167 255 237 (dk_at dksX4_years_2 9 rfl rfl)
theorem dX4_years_60 : decode cX4_years 60 = .ok (.iconst 0, 1) := dk_3 (dk_at dksX4_years_2 12 rfl rfl)
theorem dX4_years_61 : decode cX4_years 61 = .ok (.istore 4, 2) := dk_54 4 (dk_at dksX4_years_2 13 rfl rfl)
theorem dX4_years_63 : decode cX4_years 63 = .ok (.iconst 0, 1) := dk_3 (dk_at dksX4_years_2 15 rfl rfl)
theorem dX4_years_64 : decode cX4_years 64 = .ok (.istore 5, 2) := dk_54 5 (dk_at dksX4_years_2 16 rfl rfl)
theorem dX4_years_66 : decode cX4_years 66 = .ok (.iload 5, 2) := dk_21 5 (dk_at dksX4_years_2 18 rfl rfl)
theorem dX4_years_68 : decode cX4_years 68 = .ok (.aload_n 0, 1) := dk_42 (dk_at dksX4_years_2 20 rfl rfl)
theorem dX4_years_69 : decode cX4_years 69 = .ok (.getfield 280, 3) := dk_180 1 24 (dk_at dksX4_years_2 21 rfl rfl)
theorem dX4_years_72 : decode cX4_years 72 = .ok (.if_icmp .ge 30, 3) := dk_162 0 30 (dk_at dksX4_years_3 0 rfl rfl)
theorem dX4_years_75 : decode cX4_years 75 = .ok (.iload 4, 2) := dk_21 4 (dk_at dksX4_years_3 3 rfl rfl)
theorem dX4_years_77 : decode cX4_years 77 = .ok (.aload_n 0, 1) := dk_42 (dk_at dksX4_years_3 5 rfl rfl)
theorem dX4_years_78 : decode cX4_years 78 = .ok (.bipush 34, 2) := dk_16 34 (dk_at dksX4_years_3 6 rfl rfl)
theorem dX4_years_80 : decode cX4_years 80 = .ok (.iload 5, 2) := dk_21 5 (dk_at dksX4_years_3 8 rfl rfl)
theorem dX4_years_82 : decode cX4_years 82 = .ok (.invokevirtual 319, 3) := dk_182 1 63 (dk_at dksX4_years_3 10 rfl rfl)
theorem dX4_years_85 : decode cX4_years 85 = .ok (.ifCond .eq 7, 3) := dk_153 0 7 (dk_at dksX4_years_3 13 rfl rfl)
theorem dX4_years_88 : decode cX4_years 88 = .ok (.iconst 0, 1) := dk_3 (dk_at dksX4_years_3 16 rfl rfl)
theorem dX4_years_89 : decode cX4_years 89 = .ok (.goto 4, 3) := dk_167 0 4 (dk_at dksX4_years_3 17 rfl rfl)
theorem dX4_years_92 : decode cX4_years 92 = .ok (.iconst 1, 1) := dk_4 (dk_at dksX4_years_3 20 rfl rfl)
theorem dX4_years_93 : decode cX4_years 93 = .ok (.iadd, 1) := dk_96 (dk_at dksX4_years_3 21 rfl rfl)
theorem dX4_years_94 : decode cX4_years 94 = .ok (.istore 4, 2) := dk_54 4 (dk_at dksX4_years_3 22 rfl rfl)
theorem dX4_years_96 : decode cX4_years 96 = .ok (.iinc 5 1, 3) := dk_132 5 1 (dk_at dksX4_years_4 0 rfl rfl)
theorem dX4_years_99 : decode cX4_years 99 = .ok (.goto (-33), 3) := dk_167 255 223 (dk_at dksX4_years_4 3 rfl rfl)
theorem dX4_years_102 : decode cX4_years 102 = .ok (.iload_n 3, 1) := dk_29 (dk_at dksX4_years_4 6 rfl rfl)
theorem dX4_years_103 : decode cX4_years 103 = .ok (.ifCond .ne 19, 3) := dk_154 0 19 (dk_at dksX4_years_4 7 rfl rfl)
theorem dX4_years_106 : decode cX4_years 106 = .ok (.aload_n 0, 1) := dk_42 (dk_at dksX4_years_4 10 rfl rfl)
theorem dX4_years_107 : decode cX4_years 107 = .ok (.bipush 34, 2) := dk_16 34 (dk_at dksX4_years_4 11 rfl rfl)
theorem dX4_years_109 : decode cX4_years 109 = .ok (.aload_n 0, 1) := dk_42 (dk_at dksX4_years_4 13 rfl rfl)
theorem dX4_years_110 : decode cX4_years 110 = .ok (.invokevirtual 372, 3) := dk_182 1 116 (dk_at dksX4_years_4 14 rfl rfl)
theorem dX4_years_113 : decode cX4_years 113 = .ok (.invokevirtual 338, 3) := dk_182 1 82 (dk_at dksX4_years_4 17 rfl rfl)
theorem dX4_years_116 : decode cX4_years 116 = .ok (.invokestatic 316, 3) := dk_184 1 60 (dk_at dksX4_years_4 20 rfl rfl)
theorem dX4_years_119 : decode cX4_years 119 = .ok (.goto 22, 3) := dk_167 0 22 (dk_at dksX4_years_5 0 rfl rfl)
theorem dX4_years_122 : decode cX4_years 122 = .ok (.iload_n 3, 1) := dk_29 (dk_at dksX4_years_5 3 rfl rfl)
theorem dX4_years_123 : decode cX4_years 123 = .ok (.iconst 1, 1) := dk_4 (dk_at dksX4_years_5 4 rfl rfl)
theorem dX4_years_124 : decode cX4_years 124 = .ok (.if_icmp .ne 8, 3) := dk_160 0 8 (dk_at dksX4_years_5 5 rfl rfl)
theorem dX4_years_127 : decode cX4_years 127 = .ok (.iload 4, 2) := dk_21 4 (dk_at dksX4_years_5 8 rfl rfl)
theorem dX4_years_129 : decode cX4_years 129 = .ok (.goto 12, 3) := dk_167 0 12 (dk_at dksX4_years_5 10 rfl rfl)
theorem dX4_years_132 : decode cX4_years 132 = .ok (.aload_n 0, 1) := dk_42 (dk_at dksX4_years_5 13 rfl rfl)
theorem dX4_years_133 : decode cX4_years 133 = .ok (.bipush 34, 2) := dk_16 34 (dk_at dksX4_years_5 14 rfl rfl)
theorem dX4_years_135 : decode cX4_years 135 = .ok (.invokevirtual 369, 3) := dk_182 1 113 (dk_at dksX4_years_5 16 rfl rfl)
theorem dX4_years_138 : decode cX4_years 138 = .ok (.invokestatic 316, 3) := dk_184 1 60 (dk_at dksX4_years_5 19 rfl rfl)
theorem dX4_years_141 : decode cX4_years 141 = .ok (.ireturn, 1) := dk_172 (dk_at dksX4_years_5 22 rfl rfl)
abbrev cX4_happens : ByteArray := prog_12_method_118_code
def yX4_happens : MethodName := ⟨RX4, "happens", "()V"⟩
def dkwX4_happens_4 : List UInt8 := [4, 29, 120, 130, 79, 177]
abbrev dktX4_happens_4 : List UInt8 := dkwX4_happens_4 ++ []
def dkwX4_happens_3 : List UInt8 := [182, 1, 202, 62, 42, 16, 34, 28, 182, 1, 63, 154, 0, 18, 42, 180, 0, 66, 16, 35, 28, 96, 92, 46]
abbrev dktX4_happens_3 : List UInt8 := dkwX4_happens_3 ++ dktX4_happens_4
def dkwX4_happens_2 : List UInt8 := [160, 0, 10, 42, 180, 1, 24, 154, 0, 4, 177, 42, 42, 180, 1, 24, 182, 1, 202, 61, 42, 16, 8]
abbrev dktX4_happens_2 : List UInt8 := dkwX4_happens_2 ++ dktX4_happens_3
def dkwX4_happens_1 : List UInt8 := [160, 0, 22, 42, 180, 1, 27, 158, 0, 15, 42, 42, 42, 180, 1, 27, 182, 1, 202, 182, 1, 205, 27, 5]
abbrev dktX4_happens_1 : List UInt8 := dkwX4_happens_1 ++ dktX4_happens_2
def dkwX4_happens_0 : List UInt8 := [42, 16, 6, 182, 1, 202, 60, 27, 154, 0, 14, 42, 16, 34, 42, 7, 182, 1, 202, 182, 1, 161, 27, 4]
abbrev dktX4_happens_0 : List UInt8 := dkwX4_happens_0 ++ dktX4_happens_1
theorem dksX4_happens_0 : cX4_happens.data.toList.drop 0 = dktX4_happens_0 := by decide +kernel
theorem dksX4_happens_1 : cX4_happens.data.toList.drop 24 = dktX4_happens_1 := dk_seg dksX4_happens_0 24 rfl rfl
theorem dksX4_happens_2 : cX4_happens.data.toList.drop 48 = dktX4_happens_2 := dk_seg dksX4_happens_1 24 rfl rfl
theorem dksX4_happens_3 : cX4_happens.data.toList.drop 71 = dktX4_happens_3 := dk_seg dksX4_happens_2 23 rfl rfl
theorem dksX4_happens_4 : cX4_happens.data.toList.drop 95 = dktX4_happens_4 := dk_seg dksX4_happens_3 24 rfl rfl
theorem dX4_happens_0 : decode cX4_happens 0 = .ok (.aload_n 0, 1) := dk_42 (dk_at dksX4_happens_0 0 rfl rfl)
theorem dX4_happens_1 : decode cX4_happens 1 = .ok (.bipush 6, 2) := dk_16 6 (dk_at dksX4_happens_0 1 rfl rfl)
theorem dX4_happens_3 : decode cX4_happens 3 = .ok (.invokevirtual 458, 3) := dk_182 1 202 (dk_at dksX4_happens_0 3 rfl rfl)
theorem dX4_happens_6 : decode cX4_happens 6 = .ok (.istore_n 1, 1) := dk_60 (dk_at dksX4_happens_0 6 rfl rfl)
theorem dX4_happens_7 : decode cX4_happens 7 = .ok (.iload_n 1, 1) := dk_27 (dk_at dksX4_happens_0 7 rfl rfl)
theorem dX4_happens_8 : decode cX4_happens 8 = .ok (.ifCond .ne 14, 3) := dk_154 0 14 (dk_at dksX4_happens_0 8 rfl rfl)
theorem dX4_happens_11 : decode cX4_happens 11 = .ok (.aload_n 0, 1) := dk_42 (dk_at dksX4_happens_0 11 rfl rfl)
theorem dX4_happens_12 : decode cX4_happens 12 = .ok (.bipush 34, 2) := dk_16 34 (dk_at dksX4_happens_0 12 rfl rfl)
theorem dX4_happens_14 : decode cX4_happens 14 = .ok (.aload_n 0, 1) := dk_42 (dk_at dksX4_happens_0 14 rfl rfl)
theorem dX4_happens_15 : decode cX4_happens 15 = .ok (.iconst 4, 1) := dk_7 (dk_at dksX4_happens_0 15 rfl rfl)
theorem dX4_happens_16 : decode cX4_happens 16 = .ok (.invokevirtual 458, 3) := dk_182 1 202 (dk_at dksX4_happens_0 16 rfl rfl)
theorem dX4_happens_19 : decode cX4_happens 19 = .ok (.invokevirtual 417, 3) := dk_182 1 161 (dk_at dksX4_happens_0 19 rfl rfl)
theorem dX4_happens_22 : decode cX4_happens 22 = .ok (.iload_n 1, 1) := dk_27 (dk_at dksX4_happens_0 22 rfl rfl)
theorem dX4_happens_23 : decode cX4_happens 23 = .ok (.iconst 1, 1) := dk_4 (dk_at dksX4_happens_0 23 rfl rfl)
theorem dX4_happens_24 : decode cX4_happens 24 = .ok (.if_icmp .ne 22, 3) := dk_160 0 22 (dk_at dksX4_happens_1 0 rfl rfl)
theorem dX4_happens_27 : decode cX4_happens 27 = .ok (.aload_n 0, 1) := dk_42 (dk_at dksX4_happens_1 3 rfl rfl)
theorem dX4_happens_28 : decode cX4_happens 28 = .ok (.getfield 283, 3) := dk_180 1 27 (dk_at dksX4_happens_1 4 rfl rfl)
theorem dX4_happens_31 : decode cX4_happens 31 = .ok (.ifCond .le 15, 3) := dk_158 0 15 (dk_at dksX4_happens_1 7 rfl rfl)
theorem dX4_happens_34 : decode cX4_happens 34 = .ok (.aload_n 0, 1) := dk_42 (dk_at dksX4_happens_1 10 rfl rfl)
theorem dX4_happens_35 : decode cX4_happens 35 = .ok (.aload_n 0, 1) := dk_42 (dk_at dksX4_happens_1 11 rfl rfl)
theorem dX4_happens_36 : decode cX4_happens 36 = .ok (.aload_n 0, 1) := dk_42 (dk_at dksX4_happens_1 12 rfl rfl)
theorem dX4_happens_37 : decode cX4_happens 37 = .ok (.getfield 283, 3) := dk_180 1 27 (dk_at dksX4_happens_1 13 rfl rfl)
theorem dX4_happens_40 : decode cX4_happens 40 = .ok (.invokevirtual 458, 3) := dk_182 1 202 (dk_at dksX4_happens_1 16 rfl rfl)
theorem dX4_happens_43 : decode cX4_happens 43 = .ok (.invokevirtual 461, 3) := dk_182 1 205 (dk_at dksX4_happens_1 19 rfl rfl)
theorem dX4_happens_46 : decode cX4_happens 46 = .ok (.iload_n 1, 1) := dk_27 (dk_at dksX4_happens_1 22 rfl rfl)
theorem dX4_happens_47 : decode cX4_happens 47 = .ok (.iconst 2, 1) := dk_5 (dk_at dksX4_happens_1 23 rfl rfl)
theorem dX4_happens_48 : decode cX4_happens 48 = .ok (.if_icmp .ne 10, 3) := dk_160 0 10 (dk_at dksX4_happens_2 0 rfl rfl)
theorem dX4_happens_51 : decode cX4_happens 51 = .ok (.aload_n 0, 1) := dk_42 (dk_at dksX4_happens_2 3 rfl rfl)
theorem dX4_happens_52 : decode cX4_happens 52 = .ok (.getfield 280, 3) := dk_180 1 24 (dk_at dksX4_happens_2 4 rfl rfl)
theorem dX4_happens_55 : decode cX4_happens 55 = .ok (.ifCond .ne 4, 3) := dk_154 0 4 (dk_at dksX4_happens_2 7 rfl rfl)
theorem dX4_happens_58 : decode cX4_happens 58 = .ok (.return_, 1) := dk_177 (dk_at dksX4_happens_2 10 rfl rfl)
theorem dX4_happens_59 : decode cX4_happens 59 = .ok (.aload_n 0, 1) := dk_42 (dk_at dksX4_happens_2 11 rfl rfl)
theorem dX4_happens_60 : decode cX4_happens 60 = .ok (.aload_n 0, 1) := dk_42 (dk_at dksX4_happens_2 12 rfl rfl)
theorem dX4_happens_61 : decode cX4_happens 61 = .ok (.getfield 280, 3) := dk_180 1 24 (dk_at dksX4_happens_2 13 rfl rfl)
theorem dX4_happens_64 : decode cX4_happens 64 = .ok (.invokevirtual 458, 3) := dk_182 1 202 (dk_at dksX4_happens_2 16 rfl rfl)
theorem dX4_happens_67 : decode cX4_happens 67 = .ok (.istore_n 2, 1) := dk_61 (dk_at dksX4_happens_2 19 rfl rfl)
theorem dX4_happens_68 : decode cX4_happens 68 = .ok (.aload_n 0, 1) := dk_42 (dk_at dksX4_happens_2 20 rfl rfl)
theorem dX4_happens_69 : decode cX4_happens 69 = .ok (.bipush 8, 2) := dk_16 8 (dk_at dksX4_happens_2 21 rfl rfl)
theorem dX4_happens_71 : decode cX4_happens 71 = .ok (.invokevirtual 458, 3) := dk_182 1 202 (dk_at dksX4_happens_3 0 rfl rfl)
theorem dX4_happens_74 : decode cX4_happens 74 = .ok (.istore_n 3, 1) := dk_62 (dk_at dksX4_happens_3 3 rfl rfl)
theorem dX4_happens_75 : decode cX4_happens 75 = .ok (.aload_n 0, 1) := dk_42 (dk_at dksX4_happens_3 4 rfl rfl)
theorem dX4_happens_76 : decode cX4_happens 76 = .ok (.bipush 34, 2) := dk_16 34 (dk_at dksX4_happens_3 5 rfl rfl)
theorem dX4_happens_78 : decode cX4_happens 78 = .ok (.iload_n 2, 1) := dk_28 (dk_at dksX4_happens_3 7 rfl rfl)
theorem dX4_happens_79 : decode cX4_happens 79 = .ok (.invokevirtual 319, 3) := dk_182 1 63 (dk_at dksX4_happens_3 8 rfl rfl)
theorem dX4_happens_82 : decode cX4_happens 82 = .ok (.ifCond .ne 18, 3) := dk_154 0 18 (dk_at dksX4_happens_3 11 rfl rfl)
theorem dX4_happens_85 : decode cX4_happens 85 = .ok (.aload_n 0, 1) := dk_42 (dk_at dksX4_happens_3 14 rfl rfl)
theorem dX4_happens_86 : decode cX4_happens 86 = .ok (.getfield 66, 3) := dk_180 0 66 (dk_at dksX4_happens_3 15 rfl rfl)
theorem dX4_happens_89 : decode cX4_happens 89 = .ok (.bipush 35, 2) := dk_16 35 (dk_at dksX4_happens_3 18 rfl rfl)
theorem dX4_happens_91 : decode cX4_happens 91 = .ok (.iload_n 2, 1) := dk_28 (dk_at dksX4_happens_3 20 rfl rfl)
theorem dX4_happens_92 : decode cX4_happens 92 = .ok (.iadd, 1) := dk_96 (dk_at dksX4_happens_3 21 rfl rfl)
theorem dX4_happens_93 : decode cX4_happens 93 = .ok (.dup2, 1) := dk_92 (dk_at dksX4_happens_3 22 rfl rfl)
theorem dX4_happens_94 : decode cX4_happens 94 = .ok (.iaload, 1) := dk_46 (dk_at dksX4_happens_3 23 rfl rfl)
theorem dX4_happens_95 : decode cX4_happens 95 = .ok (.iconst 1, 1) := dk_4 (dk_at dksX4_happens_4 0 rfl rfl)
theorem dX4_happens_96 : decode cX4_happens 96 = .ok (.iload_n 3, 1) := dk_29 (dk_at dksX4_happens_4 1 rfl rfl)
theorem dX4_happens_97 : decode cX4_happens 97 = .ok (.ishl, 1) := dk_120 (dk_at dksX4_happens_4 2 rfl rfl)
theorem dX4_happens_98 : decode cX4_happens 98 = .ok (.ixor, 1) := dk_130 (dk_at dksX4_happens_4 3 rfl rfl)
theorem dX4_happens_99 : decode cX4_happens 99 = .ok (.iastore, 1) := dk_79 (dk_at dksX4_happens_4 4 rfl rfl)
theorem dX4_happens_100 : decode cX4_happens 100 = .ok (.return_, 1) := dk_177 (dk_at dksX4_happens_4 5 rfl rfl)
abbrev cX4_draw : ByteArray := prog_12_method_116_code
def yX4_draw : MethodName := ⟨RX4, "draw", "(I)I"⟩
def dkwX4_draw_1 : List UInt8 := [17, 127, 255, 126, 27, 112, 172]
abbrev dktX4_draw_1 : List UInt8 := dkwX4_draw_1 ++ []
def dkwX4_draw_0 : List UInt8 := [42, 42, 180, 1, 198, 19, 1, 201, 104, 17, 48, 57, 96, 181, 1, 198, 42, 180, 1, 198, 16, 16, 122]
abbrev dktX4_draw_0 : List UInt8 := dkwX4_draw_0 ++ dktX4_draw_1
theorem dksX4_draw_0 : cX4_draw.data.toList.drop 0 = dktX4_draw_0 := by decide +kernel
theorem dksX4_draw_1 : cX4_draw.data.toList.drop 23 = dktX4_draw_1 := dk_seg dksX4_draw_0 23 rfl rfl
theorem dX4_draw_0 : decode cX4_draw 0 = .ok (.aload_n 0, 1) := dk_42 (dk_at dksX4_draw_0 0 rfl rfl)
theorem dX4_draw_1 : decode cX4_draw 1 = .ok (.aload_n 0, 1) := dk_42 (dk_at dksX4_draw_0 1 rfl rfl)
theorem dX4_draw_2 : decode cX4_draw 2 = .ok (.getfield 454, 3) := dk_180 1 198 (dk_at dksX4_draw_0 2 rfl rfl)
theorem dX4_draw_5 : decode cX4_draw 5 = .ok (.ldc_w 457, 3) := dk_19 1 201 (dk_at dksX4_draw_0 5 rfl rfl)
theorem dX4_draw_8 : decode cX4_draw 8 = .ok (.imul, 1) := dk_104 (dk_at dksX4_draw_0 8 rfl rfl)
theorem dX4_draw_9 : decode cX4_draw 9 = .ok (.sipush 12345, 3) := dk_17 48 57 (dk_at dksX4_draw_0 9 rfl rfl)
theorem dX4_draw_12 : decode cX4_draw 12 = .ok (.iadd, 1) := dk_96 (dk_at dksX4_draw_0 12 rfl rfl)
theorem dX4_draw_13 : decode cX4_draw 13 = .ok (.putfield 454, 3) := dk_181 1 198 (dk_at dksX4_draw_0 13 rfl rfl)
theorem dX4_draw_16 : decode cX4_draw 16 = .ok (.aload_n 0, 1) := dk_42 (dk_at dksX4_draw_0 16 rfl rfl)
theorem dX4_draw_17 : decode cX4_draw 17 = .ok (.getfield 454, 3) := dk_180 1 198 (dk_at dksX4_draw_0 17 rfl rfl)
theorem dX4_draw_20 : decode cX4_draw 20 = .ok (.bipush 16, 2) := dk_16 16 (dk_at dksX4_draw_0 20 rfl rfl)
theorem dX4_draw_22 : decode cX4_draw 22 = .ok (.ishr, 1) := dk_122 (dk_at dksX4_draw_0 22 rfl rfl)
theorem dX4_draw_23 : decode cX4_draw 23 = .ok (.sipush 32767, 3) := dk_17 127 255 (dk_at dksX4_draw_1 0 rfl rfl)
theorem dX4_draw_26 : decode cX4_draw 26 = .ok (.iand, 1) := dk_126 (dk_at dksX4_draw_1 3 rfl rfl)
theorem dX4_draw_27 : decode cX4_draw 27 = .ok (.iload_n 1, 1) := dk_27 (dk_at dksX4_draw_1 4 rfl rfl)
theorem dX4_draw_28 : decode cX4_draw 28 = .ok (.irem, 1) := dk_112 (dk_at dksX4_draw_1 5 rfl rfl)
theorem dX4_draw_29 : decode cX4_draw 29 = .ok (.ireturn, 1) := dk_172 (dk_at dksX4_draw_1 6 rfl rfl)
abbrev cX4_takesLeast : ByteArray := prog_12_method_117_code
def yX4_takesLeast : MethodName := ⟨RX4, "takesLeast", "(I)V"⟩
def dkwX4_takesLeast_2 : List UInt8 := [132, 2, 1, 167, 255, 209, 177]
abbrev dktX4_takesLeast_2 : List UInt8 := dkwX4_takesLeast_2 ++ []
def dkwX4_takesLeast_1 : List UInt8 := [182, 1, 57, 159, 0, 6, 167, 0, 17, 42, 180, 0, 66, 16, 53, 28, 96, 16, 10, 27, 96, 79, 177]
abbrev dktX4_takesLeast_1 : List UInt8 := dkwX4_takesLeast_1 ++ dktX4_takesLeast_2
def dkwX4_takesLeast_0 : List UInt8 := [3, 61, 28, 42, 180, 1, 24, 162, 0, 45, 42, 180, 0, 66, 16, 53, 28, 96, 46, 42, 16, 34, 27]
abbrev dktX4_takesLeast_0 : List UInt8 := dkwX4_takesLeast_0 ++ dktX4_takesLeast_1
theorem dksX4_takesLeast_0 : cX4_takesLeast.data.toList.drop 0 = dktX4_takesLeast_0 := by decide +kernel
theorem dksX4_takesLeast_1 : cX4_takesLeast.data.toList.drop 23 = dktX4_takesLeast_1 := dk_seg dksX4_takesLeast_0 23 rfl rfl
theorem dksX4_takesLeast_2 : cX4_takesLeast.data.toList.drop 46 = dktX4_takesLeast_2 := dk_seg dksX4_takesLeast_1 23 rfl rfl
theorem dX4_takesLeast_0 : decode cX4_takesLeast 0 = .ok (.iconst 0, 1) := dk_3 (dk_at dksX4_takesLeast_0 0 rfl rfl)
theorem dX4_takesLeast_1 : decode cX4_takesLeast 1 = .ok (.istore_n 2, 1) := dk_61 (dk_at dksX4_takesLeast_0 1 rfl rfl)
theorem dX4_takesLeast_2 : decode cX4_takesLeast 2 = .ok (.iload_n 2, 1) := dk_28 (dk_at dksX4_takesLeast_0 2 rfl rfl)
theorem dX4_takesLeast_3 : decode cX4_takesLeast 3 = .ok (.aload_n 0, 1) := dk_42 (dk_at dksX4_takesLeast_0 3 rfl rfl)
theorem dX4_takesLeast_4 : decode cX4_takesLeast 4 = .ok (.getfield 280, 3) := dk_180 1 24 (dk_at dksX4_takesLeast_0 4 rfl rfl)
theorem dX4_takesLeast_7 : decode cX4_takesLeast 7 = .ok (.if_icmp .ge 45, 3) := dk_162 0 45 (dk_at dksX4_takesLeast_0 7 rfl rfl)
theorem dX4_takesLeast_10 : decode cX4_takesLeast 10 = .ok (.aload_n 0, 1) := dk_42 (dk_at dksX4_takesLeast_0 10 rfl rfl)
theorem dX4_takesLeast_11 : decode cX4_takesLeast 11 = .ok (.getfield 66, 3) := dk_180 0 66 (dk_at dksX4_takesLeast_0 11 rfl rfl)
theorem dX4_takesLeast_14 : decode cX4_takesLeast 14 = .ok (.bipush 53, 2) := dk_16 53 (dk_at dksX4_takesLeast_0 14 rfl rfl)
theorem dX4_takesLeast_16 : decode cX4_takesLeast 16 = .ok (.iload_n 2, 1) := dk_28 (dk_at dksX4_takesLeast_0 16 rfl rfl)
theorem dX4_takesLeast_17 : decode cX4_takesLeast 17 = .ok (.iadd, 1) := dk_96 (dk_at dksX4_takesLeast_0 17 rfl rfl)
theorem dX4_takesLeast_18 : decode cX4_takesLeast 18 = .ok (.iaload, 1) := dk_46 (dk_at dksX4_takesLeast_0 18 rfl rfl)
theorem dX4_takesLeast_19 : decode cX4_takesLeast 19 = .ok (.aload_n 0, 1) := dk_42 (dk_at dksX4_takesLeast_0 19 rfl rfl)
theorem dX4_takesLeast_20 : decode cX4_takesLeast 20 = .ok (.bipush 34, 2) := dk_16 34 (dk_at dksX4_takesLeast_0 20 rfl rfl)
theorem dX4_takesLeast_22 : decode cX4_takesLeast 22 = .ok (.iload_n 1, 1) := dk_27 (dk_at dksX4_takesLeast_0 22 rfl rfl)
theorem dX4_takesLeast_23 : decode cX4_takesLeast 23 = .ok (.invokevirtual 313, 3) := dk_182 1 57 (dk_at dksX4_takesLeast_1 0 rfl rfl)
theorem dX4_takesLeast_26 : decode cX4_takesLeast 26 = .ok (.if_icmp .eq 6, 3) := dk_159 0 6 (dk_at dksX4_takesLeast_1 3 rfl rfl)
theorem dX4_takesLeast_29 : decode cX4_takesLeast 29 = .ok (.goto 17, 3) := dk_167 0 17 (dk_at dksX4_takesLeast_1 6 rfl rfl)
theorem dX4_takesLeast_32 : decode cX4_takesLeast 32 = .ok (.aload_n 0, 1) := dk_42 (dk_at dksX4_takesLeast_1 9 rfl rfl)
theorem dX4_takesLeast_33 : decode cX4_takesLeast 33 = .ok (.getfield 66, 3) := dk_180 0 66 (dk_at dksX4_takesLeast_1 10 rfl rfl)
theorem dX4_takesLeast_36 : decode cX4_takesLeast 36 = .ok (.bipush 53, 2) := dk_16 53 (dk_at dksX4_takesLeast_1 13 rfl rfl)
theorem dX4_takesLeast_38 : decode cX4_takesLeast 38 = .ok (.iload_n 2, 1) := dk_28 (dk_at dksX4_takesLeast_1 15 rfl rfl)
theorem dX4_takesLeast_39 : decode cX4_takesLeast 39 = .ok (.iadd, 1) := dk_96 (dk_at dksX4_takesLeast_1 16 rfl rfl)
theorem dX4_takesLeast_40 : decode cX4_takesLeast 40 = .ok (.bipush 10, 2) := dk_16 10 (dk_at dksX4_takesLeast_1 17 rfl rfl)
theorem dX4_takesLeast_42 : decode cX4_takesLeast 42 = .ok (.iload_n 1, 1) := dk_27 (dk_at dksX4_takesLeast_1 19 rfl rfl)
theorem dX4_takesLeast_43 : decode cX4_takesLeast 43 = .ok (.iadd, 1) := dk_96 (dk_at dksX4_takesLeast_1 20 rfl rfl)
theorem dX4_takesLeast_44 : decode cX4_takesLeast 44 = .ok (.iastore, 1) := dk_79 (dk_at dksX4_takesLeast_1 21 rfl rfl)
theorem dX4_takesLeast_45 : decode cX4_takesLeast 45 = .ok (.return_, 1) := dk_177 (dk_at dksX4_takesLeast_1 22 rfl rfl)
theorem dX4_takesLeast_46 : decode cX4_takesLeast 46 = .ok (.iinc 2 1, 3) := dk_132 2 1 (dk_at dksX4_takesLeast_2 0 rfl rfl)
theorem dX4_takesLeast_49 : decode cX4_takesLeast 49 = .ok (.goto (-47), 3) := dk_167 255 209 (dk_at dksX4_takesLeast_2 3 rfl rfl)
theorem dX4_takesLeast_52 : decode cX4_takesLeast 52 = .ok (.return_, 1) := dk_177 (dk_at dksX4_takesLeast_2 6 rfl rfl)
abbrev cX4_wisest : ByteArray := prog_12_method_120_code
def yX4_wisest : MethodName := ⟨RX4, "wisest", "(I)I"⟩
def dkwX4_wisest_3 : List UInt8 := [167, 255, 211, 28, 172]
abbrev dktX4_wisest_3 : List UInt8 := dkwX4_wisest_3 ++ []
def dkwX4_wisest_2 : List UInt8 := [184, 1, 60, 42, 180, 0, 66, 16, 62, 28, 96, 46, 184, 1, 60, 164, 0, 5, 29, 61, 132, 3, 1]
abbrev dktX4_wisest_2 : List UInt8 := dkwX4_wisest_2 ++ dktX4_wisest_3
def dkwX4_wisest_1 : List UInt8 := [3, 62, 29, 42, 180, 1, 27, 162, 0, 43, 28, 2, 159, 0, 30, 42, 180, 0, 66, 16, 62, 29, 96, 46]
abbrev dktX4_wisest_1 : List UInt8 := dkwX4_wisest_1 ++ dktX4_wisest_2
def dkwX4_wisest_0 : List UInt8 := [42, 3, 181, 0, 102, 42, 27, 3, 4, 182, 1, 170, 154, 0, 5, 3, 172, 42, 27, 182, 1, 173, 2, 61]
abbrev dktX4_wisest_0 : List UInt8 := dkwX4_wisest_0 ++ dktX4_wisest_1
theorem dksX4_wisest_0 : cX4_wisest.data.toList.drop 0 = dktX4_wisest_0 := by decide +kernel
theorem dksX4_wisest_1 : cX4_wisest.data.toList.drop 24 = dktX4_wisest_1 := dk_seg dksX4_wisest_0 24 rfl rfl
theorem dksX4_wisest_2 : cX4_wisest.data.toList.drop 48 = dktX4_wisest_2 := dk_seg dksX4_wisest_1 24 rfl rfl
theorem dksX4_wisest_3 : cX4_wisest.data.toList.drop 71 = dktX4_wisest_3 := dk_seg dksX4_wisest_2 23 rfl rfl
theorem dX4_wisest_0 : decode cX4_wisest 0 = .ok (.aload_n 0, 1) := dk_42 (dk_at dksX4_wisest_0 0 rfl rfl)
theorem dX4_wisest_1 : decode cX4_wisest 1 = .ok (.iconst 0, 1) := dk_3 (dk_at dksX4_wisest_0 1 rfl rfl)
theorem dX4_wisest_2 : decode cX4_wisest 2 = .ok (.putfield 102, 3) := dk_181 0 102 (dk_at dksX4_wisest_0 2 rfl rfl)
theorem dX4_wisest_5 : decode cX4_wisest 5 = .ok (.aload_n 0, 1) := dk_42 (dk_at dksX4_wisest_0 5 rfl rfl)
theorem dX4_wisest_6 : decode cX4_wisest 6 = .ok (.iload_n 1, 1) := dk_27 (dk_at dksX4_wisest_0 6 rfl rfl)
theorem dX4_wisest_7 : decode cX4_wisest 7 = .ok (.iconst 0, 1) := dk_3 (dk_at dksX4_wisest_0 7 rfl rfl)
theorem dX4_wisest_8 : decode cX4_wisest 8 = .ok (.iconst 1, 1) := dk_4 (dk_at dksX4_wisest_0 8 rfl rfl)
theorem dX4_wisest_9 : decode cX4_wisest 9 = .ok (.invokevirtual 426, 3) := dk_182 1 170 (dk_at dksX4_wisest_0 9 rfl rfl)
theorem dX4_wisest_12 : decode cX4_wisest 12 = .ok (.ifCond .ne 5, 3) := dk_154 0 5 (dk_at dksX4_wisest_0 12 rfl rfl)
theorem dX4_wisest_15 : decode cX4_wisest 15 = .ok (.iconst 0, 1) := dk_3 (dk_at dksX4_wisest_0 15 rfl rfl)
theorem dX4_wisest_16 : decode cX4_wisest 16 = .ok (.ireturn, 1) := dk_172 (dk_at dksX4_wisest_0 16 rfl rfl)
theorem dX4_wisest_17 : decode cX4_wisest 17 = .ok (.aload_n 0, 1) := dk_42 (dk_at dksX4_wisest_0 17 rfl rfl)
theorem dX4_wisest_18 : decode cX4_wisest 18 = .ok (.iload_n 1, 1) := dk_27 (dk_at dksX4_wisest_0 18 rfl rfl)
theorem dX4_wisest_19 : decode cX4_wisest 19 = .ok (.invokevirtual 429, 3) := dk_182 1 173 (dk_at dksX4_wisest_0 19 rfl rfl)
theorem dX4_wisest_22 : decode cX4_wisest 22 = .ok (.iconst (-1), 1) := dk_2 (dk_at dksX4_wisest_0 22 rfl rfl)
theorem dX4_wisest_23 : decode cX4_wisest 23 = .ok (.istore_n 2, 1) := dk_61 (dk_at dksX4_wisest_0 23 rfl rfl)
theorem dX4_wisest_24 : decode cX4_wisest 24 = .ok (.iconst 0, 1) := dk_3 (dk_at dksX4_wisest_1 0 rfl rfl)
theorem dX4_wisest_25 : decode cX4_wisest 25 = .ok (.istore_n 3, 1) := dk_62 (dk_at dksX4_wisest_1 1 rfl rfl)
theorem dX4_wisest_26 : decode cX4_wisest 26 = .ok (.iload_n 3, 1) := dk_29 (dk_at dksX4_wisest_1 2 rfl rfl)
theorem dX4_wisest_27 : decode cX4_wisest 27 = .ok (.aload_n 0, 1) := dk_42 (dk_at dksX4_wisest_1 3 rfl rfl)
theorem dX4_wisest_28 : decode cX4_wisest 28 = .ok (.getfield 283, 3) := dk_180 1 27 (dk_at dksX4_wisest_1 4 rfl rfl)
theorem dX4_wisest_31 : decode cX4_wisest 31 = .ok (.if_icmp .ge 43, 3) := dk_162 0 43 (dk_at dksX4_wisest_1 7 rfl rfl)
theorem dX4_wisest_34 : decode cX4_wisest 34 = .ok (.iload_n 2, 1) := dk_28 (dk_at dksX4_wisest_1 10 rfl rfl)
theorem dX4_wisest_35 : decode cX4_wisest 35 = .ok (.iconst (-1), 1) := dk_2 (dk_at dksX4_wisest_1 11 rfl rfl)
theorem dX4_wisest_36 : decode cX4_wisest 36 = .ok (.if_icmp .eq 30, 3) := dk_159 0 30 (dk_at dksX4_wisest_1 12 rfl rfl)
theorem dX4_wisest_39 : decode cX4_wisest 39 = .ok (.aload_n 0, 1) := dk_42 (dk_at dksX4_wisest_1 15 rfl rfl)
theorem dX4_wisest_40 : decode cX4_wisest 40 = .ok (.getfield 66, 3) := dk_180 0 66 (dk_at dksX4_wisest_1 16 rfl rfl)
theorem dX4_wisest_43 : decode cX4_wisest 43 = .ok (.bipush 62, 2) := dk_16 62 (dk_at dksX4_wisest_1 19 rfl rfl)
theorem dX4_wisest_45 : decode cX4_wisest 45 = .ok (.iload_n 3, 1) := dk_29 (dk_at dksX4_wisest_1 21 rfl rfl)
theorem dX4_wisest_46 : decode cX4_wisest 46 = .ok (.iadd, 1) := dk_96 (dk_at dksX4_wisest_1 22 rfl rfl)
theorem dX4_wisest_47 : decode cX4_wisest 47 = .ok (.iaload, 1) := dk_46 (dk_at dksX4_wisest_1 23 rfl rfl)
theorem dX4_wisest_48 : decode cX4_wisest 48 = .ok (.invokestatic 316, 3) := dk_184 1 60 (dk_at dksX4_wisest_2 0 rfl rfl)
theorem dX4_wisest_51 : decode cX4_wisest 51 = .ok (.aload_n 0, 1) := dk_42 (dk_at dksX4_wisest_2 3 rfl rfl)
theorem dX4_wisest_52 : decode cX4_wisest 52 = .ok (.getfield 66, 3) := dk_180 0 66 (dk_at dksX4_wisest_2 4 rfl rfl)
theorem dX4_wisest_55 : decode cX4_wisest 55 = .ok (.bipush 62, 2) := dk_16 62 (dk_at dksX4_wisest_2 7 rfl rfl)
theorem dX4_wisest_57 : decode cX4_wisest 57 = .ok (.iload_n 2, 1) := dk_28 (dk_at dksX4_wisest_2 9 rfl rfl)
theorem dX4_wisest_58 : decode cX4_wisest 58 = .ok (.iadd, 1) := dk_96 (dk_at dksX4_wisest_2 10 rfl rfl)
theorem dX4_wisest_59 : decode cX4_wisest 59 = .ok (.iaload, 1) := dk_46 (dk_at dksX4_wisest_2 11 rfl rfl)
theorem dX4_wisest_60 : decode cX4_wisest 60 = .ok (.invokestatic 316, 3) := dk_184 1 60 (dk_at dksX4_wisest_2 12 rfl rfl)
theorem dX4_wisest_63 : decode cX4_wisest 63 = .ok (.if_icmp .le 5, 3) := dk_164 0 5 (dk_at dksX4_wisest_2 15 rfl rfl)
theorem dX4_wisest_66 : decode cX4_wisest 66 = .ok (.iload_n 3, 1) := dk_29 (dk_at dksX4_wisest_2 18 rfl rfl)
theorem dX4_wisest_67 : decode cX4_wisest 67 = .ok (.istore_n 2, 1) := dk_61 (dk_at dksX4_wisest_2 19 rfl rfl)
theorem dX4_wisest_68 : decode cX4_wisest 68 = .ok (.iinc 3 1, 3) := dk_132 3 1 (dk_at dksX4_wisest_2 20 rfl rfl)
theorem dX4_wisest_71 : decode cX4_wisest 71 = .ok (.goto (-45), 3) := dk_167 255 211 (dk_at dksX4_wisest_3 0 rfl rfl)
theorem dX4_wisest_74 : decode cX4_wisest 74 = .ok (.iload_n 2, 1) := dk_28 (dk_at dksX4_wisest_3 3 rfl rfl)
theorem dX4_wisest_75 : decode cX4_wisest 75 = .ok (.ireturn, 1) := dk_172 (dk_at dksX4_wisest_3 4 rfl rfl)
abbrev cX4_company : ByteArray := prog_12_method_121_code
def yX4_company : MethodName := ⟨RX4, "company", "(III)I"⟩
def dkwX4_company_4 : List UInt8 := [132, 5, 1, 167, 255, 206, 21, 4, 172]
abbrev dktX4_company_4 : List UInt8 := dkwX4_company_4 ++ []
def dkwX4_company_3 : List UInt8 := [180, 0, 66, 3, 46, 21, 5, 96, 182, 1, 54, 160, 0, 7, 4, 167, 0, 4, 3, 96, 54, 4]
abbrev dktX4_company_3 : List UInt8 := dkwX4_company_3 ++ dktX4_company_4
def dkwX4_company_2 : List UInt8 := [162, 0, 50, 21, 4, 42, 27, 42, 180, 0, 66, 3, 46, 21, 5, 96, 182, 1, 54, 42, 28, 42]
abbrev dktX4_company_2 : List UInt8 := dkwX4_company_2 ++ dktX4_company_3
def dkwX4_company_1 : List UInt8 := [16, 60, 184, 1, 107, 5, 182, 1, 17, 154, 0, 5, 3, 172, 3, 54, 4, 3, 54, 5, 21, 5, 29]
abbrev dktX4_company_1 : List UInt8 := dkwX4_company_1 ++ dktX4_company_2
def dkwX4_company_0 : List UInt8 := [42, 3, 181, 0, 102, 42, 27, 182, 1, 131, 153, 0, 26, 42, 28, 182, 1, 131, 153, 0, 18, 42, 29, 4]
abbrev dktX4_company_0 : List UInt8 := dkwX4_company_0 ++ dktX4_company_1
theorem dksX4_company_0 : cX4_company.data.toList.drop 0 = dktX4_company_0 := by decide +kernel
theorem dksX4_company_1 : cX4_company.data.toList.drop 24 = dktX4_company_1 := dk_seg dksX4_company_0 24 rfl rfl
theorem dksX4_company_2 : cX4_company.data.toList.drop 47 = dktX4_company_2 := dk_seg dksX4_company_1 23 rfl rfl
theorem dksX4_company_3 : cX4_company.data.toList.drop 69 = dktX4_company_3 := dk_seg dksX4_company_2 22 rfl rfl
theorem dksX4_company_4 : cX4_company.data.toList.drop 91 = dktX4_company_4 := dk_seg dksX4_company_3 22 rfl rfl
theorem dX4_company_0 : decode cX4_company 0 = .ok (.aload_n 0, 1) := dk_42 (dk_at dksX4_company_0 0 rfl rfl)
theorem dX4_company_1 : decode cX4_company 1 = .ok (.iconst 0, 1) := dk_3 (dk_at dksX4_company_0 1 rfl rfl)
theorem dX4_company_2 : decode cX4_company 2 = .ok (.putfield 102, 3) := dk_181 0 102 (dk_at dksX4_company_0 2 rfl rfl)
theorem dX4_company_5 : decode cX4_company 5 = .ok (.aload_n 0, 1) := dk_42 (dk_at dksX4_company_0 5 rfl rfl)
theorem dX4_company_6 : decode cX4_company 6 = .ok (.iload_n 1, 1) := dk_27 (dk_at dksX4_company_0 6 rfl rfl)
theorem dX4_company_7 : decode cX4_company 7 = .ok (.invokevirtual 387, 3) := dk_182 1 131 (dk_at dksX4_company_0 7 rfl rfl)
theorem dX4_company_10 : decode cX4_company 10 = .ok (.ifCond .eq 26, 3) := dk_153 0 26 (dk_at dksX4_company_0 10 rfl rfl)
theorem dX4_company_13 : decode cX4_company 13 = .ok (.aload_n 0, 1) := dk_42 (dk_at dksX4_company_0 13 rfl rfl)
theorem dX4_company_14 : decode cX4_company 14 = .ok (.iload_n 2, 1) := dk_28 (dk_at dksX4_company_0 14 rfl rfl)
theorem dX4_company_15 : decode cX4_company 15 = .ok (.invokevirtual 387, 3) := dk_182 1 131 (dk_at dksX4_company_0 15 rfl rfl)
theorem dX4_company_18 : decode cX4_company 18 = .ok (.ifCond .eq 18, 3) := dk_153 0 18 (dk_at dksX4_company_0 18 rfl rfl)
theorem dX4_company_21 : decode cX4_company 21 = .ok (.aload_n 0, 1) := dk_42 (dk_at dksX4_company_0 21 rfl rfl)
theorem dX4_company_22 : decode cX4_company 22 = .ok (.iload_n 3, 1) := dk_29 (dk_at dksX4_company_0 22 rfl rfl)
theorem dX4_company_23 : decode cX4_company 23 = .ok (.iconst 1, 1) := dk_4 (dk_at dksX4_company_0 23 rfl rfl)
theorem dX4_company_24 : decode cX4_company 24 = .ok (.bipush 60, 2) := dk_16 60 (dk_at dksX4_company_1 0 rfl rfl)
theorem dX4_company_26 : decode cX4_company 26 = .ok (.invokestatic 363, 3) := dk_184 1 107 (dk_at dksX4_company_1 2 rfl rfl)
theorem dX4_company_29 : decode cX4_company 29 = .ok (.iconst 2, 1) := dk_5 (dk_at dksX4_company_1 5 rfl rfl)
theorem dX4_company_30 : decode cX4_company 30 = .ok (.invokevirtual 273, 3) := dk_182 1 17 (dk_at dksX4_company_1 6 rfl rfl)
theorem dX4_company_33 : decode cX4_company 33 = .ok (.ifCond .ne 5, 3) := dk_154 0 5 (dk_at dksX4_company_1 9 rfl rfl)
theorem dX4_company_36 : decode cX4_company 36 = .ok (.iconst 0, 1) := dk_3 (dk_at dksX4_company_1 12 rfl rfl)
theorem dX4_company_37 : decode cX4_company 37 = .ok (.ireturn, 1) := dk_172 (dk_at dksX4_company_1 13 rfl rfl)
theorem dX4_company_38 : decode cX4_company 38 = .ok (.iconst 0, 1) := dk_3 (dk_at dksX4_company_1 14 rfl rfl)
theorem dX4_company_39 : decode cX4_company 39 = .ok (.istore 4, 2) := dk_54 4 (dk_at dksX4_company_1 15 rfl rfl)
theorem dX4_company_41 : decode cX4_company 41 = .ok (.iconst 0, 1) := dk_3 (dk_at dksX4_company_1 17 rfl rfl)
theorem dX4_company_42 : decode cX4_company 42 = .ok (.istore 5, 2) := dk_54 5 (dk_at dksX4_company_1 18 rfl rfl)
theorem dX4_company_44 : decode cX4_company 44 = .ok (.iload 5, 2) := dk_21 5 (dk_at dksX4_company_1 20 rfl rfl)
theorem dX4_company_46 : decode cX4_company 46 = .ok (.iload_n 3, 1) := dk_29 (dk_at dksX4_company_1 22 rfl rfl)
theorem dX4_company_47 : decode cX4_company 47 = .ok (.if_icmp .ge 50, 3) := dk_162 0 50 (dk_at dksX4_company_2 0 rfl rfl)
theorem dX4_company_50 : decode cX4_company 50 = .ok (.iload 4, 2) := dk_21 4 (dk_at dksX4_company_2 3 rfl rfl)
theorem dX4_company_52 : decode cX4_company 52 = .ok (.aload_n 0, 1) := dk_42 (dk_at dksX4_company_2 5 rfl rfl)
theorem dX4_company_53 : decode cX4_company 53 = .ok (.iload_n 1, 1) := dk_27 (dk_at dksX4_company_2 6 rfl rfl)
theorem dX4_company_54 : decode cX4_company 54 = .ok (.aload_n 0, 1) := dk_42 (dk_at dksX4_company_2 7 rfl rfl)
theorem dX4_company_55 : decode cX4_company 55 = .ok (.getfield 66, 3) := dk_180 0 66 (dk_at dksX4_company_2 8 rfl rfl)
theorem dX4_company_58 : decode cX4_company 58 = .ok (.iconst 0, 1) := dk_3 (dk_at dksX4_company_2 11 rfl rfl)
theorem dX4_company_59 : decode cX4_company 59 = .ok (.iaload, 1) := dk_46 (dk_at dksX4_company_2 12 rfl rfl)
theorem dX4_company_60 : decode cX4_company 60 = .ok (.iload 5, 2) := dk_21 5 (dk_at dksX4_company_2 13 rfl rfl)
theorem dX4_company_62 : decode cX4_company 62 = .ok (.iadd, 1) := dk_96 (dk_at dksX4_company_2 15 rfl rfl)
theorem dX4_company_63 : decode cX4_company 63 = .ok (.invokevirtual 310, 3) := dk_182 1 54 (dk_at dksX4_company_2 16 rfl rfl)
theorem dX4_company_66 : decode cX4_company 66 = .ok (.aload_n 0, 1) := dk_42 (dk_at dksX4_company_2 19 rfl rfl)
theorem dX4_company_67 : decode cX4_company 67 = .ok (.iload_n 2, 1) := dk_28 (dk_at dksX4_company_2 20 rfl rfl)
theorem dX4_company_68 : decode cX4_company 68 = .ok (.aload_n 0, 1) := dk_42 (dk_at dksX4_company_2 21 rfl rfl)
theorem dX4_company_69 : decode cX4_company 69 = .ok (.getfield 66, 3) := dk_180 0 66 (dk_at dksX4_company_3 0 rfl rfl)
theorem dX4_company_72 : decode cX4_company 72 = .ok (.iconst 0, 1) := dk_3 (dk_at dksX4_company_3 3 rfl rfl)
theorem dX4_company_73 : decode cX4_company 73 = .ok (.iaload, 1) := dk_46 (dk_at dksX4_company_3 4 rfl rfl)
theorem dX4_company_74 : decode cX4_company 74 = .ok (.iload 5, 2) := dk_21 5 (dk_at dksX4_company_3 5 rfl rfl)
theorem dX4_company_76 : decode cX4_company 76 = .ok (.iadd, 1) := dk_96 (dk_at dksX4_company_3 7 rfl rfl)
theorem dX4_company_77 : decode cX4_company 77 = .ok (.invokevirtual 310, 3) := dk_182 1 54 (dk_at dksX4_company_3 8 rfl rfl)
theorem dX4_company_80 : decode cX4_company 80 = .ok (.if_icmp .ne 7, 3) := dk_160 0 7 (dk_at dksX4_company_3 11 rfl rfl)
theorem dX4_company_83 : decode cX4_company 83 = .ok (.iconst 1, 1) := dk_4 (dk_at dksX4_company_3 14 rfl rfl)
theorem dX4_company_84 : decode cX4_company 84 = .ok (.goto 4, 3) := dk_167 0 4 (dk_at dksX4_company_3 15 rfl rfl)
theorem dX4_company_87 : decode cX4_company 87 = .ok (.iconst 0, 1) := dk_3 (dk_at dksX4_company_3 18 rfl rfl)
theorem dX4_company_88 : decode cX4_company 88 = .ok (.iadd, 1) := dk_96 (dk_at dksX4_company_3 19 rfl rfl)
theorem dX4_company_89 : decode cX4_company 89 = .ok (.istore 4, 2) := dk_54 4 (dk_at dksX4_company_3 20 rfl rfl)
theorem dX4_company_91 : decode cX4_company 91 = .ok (.iinc 5 1, 3) := dk_132 5 1 (dk_at dksX4_company_4 0 rfl rfl)
theorem dX4_company_94 : decode cX4_company 94 = .ok (.goto (-50), 3) := dk_167 255 206 (dk_at dksX4_company_4 3 rfl rfl)
theorem dX4_company_97 : decode cX4_company 97 = .ok (.iload 4, 2) := dk_21 4 (dk_at dksX4_company_4 6 rfl rfl)
theorem dX4_company_99 : decode cX4_company 99 = .ok (.ireturn, 1) := dk_172 (dk_at dksX4_company_4 8 rfl rfl)
abbrev cX4_together : ByteArray := prog_12_method_122_code
def yX4_together : MethodName := ⟨RX4, "together", "(I)I"⟩
def dkwX4_together_4 : List UInt8 := [172, 132, 3, 1, 167, 255, 191, 132, 2, 1, 167, 255, 177, 2, 172]
abbrev dktX4_together_4 : List UInt8 := dkwX4_together_4 ++ []
def dkwX4_together_3 : List UInt8 := [160, 0, 7, 4, 167, 0, 4, 3, 96, 54, 4, 132, 5, 1, 167, 255, 216, 21, 4, 27, 161, 0, 5, 28]
abbrev dktX4_together_3 : List UInt8 := dkwX4_together_3 ++ dktX4_together_4
def dkwX4_together_2 : List UInt8 := [180, 1, 27, 162, 0, 37, 21, 4, 42, 21, 5, 42, 180, 0, 66, 3, 46, 28, 96, 182, 1, 54, 29]
abbrev dktX4_together_2 : List UInt8 := dkwX4_together_2 ++ dktX4_together_3
def dkwX4_together_1 : List UInt8 := [28, 16, 60, 163, 0, 79, 3, 62, 29, 7, 162, 0, 66, 3, 54, 4, 3, 54, 5, 21, 5, 42]
abbrev dktX4_together_1 : List UInt8 := dkwX4_together_1 ++ dktX4_together_2
def dkwX4_together_0 : List UInt8 := [42, 3, 181, 0, 102, 42, 27, 4, 16, 6, 184, 1, 107, 4, 182, 1, 17, 154, 0, 5, 3, 172, 3, 61]
abbrev dktX4_together_0 : List UInt8 := dkwX4_together_0 ++ dktX4_together_1
theorem dksX4_together_0 : cX4_together.data.toList.drop 0 = dktX4_together_0 := by decide +kernel
theorem dksX4_together_1 : cX4_together.data.toList.drop 24 = dktX4_together_1 := dk_seg dksX4_together_0 24 rfl rfl
theorem dksX4_together_2 : cX4_together.data.toList.drop 46 = dktX4_together_2 := dk_seg dksX4_together_1 22 rfl rfl
theorem dksX4_together_3 : cX4_together.data.toList.drop 69 = dktX4_together_3 := dk_seg dksX4_together_2 23 rfl rfl
theorem dksX4_together_4 : cX4_together.data.toList.drop 93 = dktX4_together_4 := dk_seg dksX4_together_3 24 rfl rfl
theorem dX4_together_0 : decode cX4_together 0 = .ok (.aload_n 0, 1) := dk_42 (dk_at dksX4_together_0 0 rfl rfl)
theorem dX4_together_1 : decode cX4_together 1 = .ok (.iconst 0, 1) := dk_3 (dk_at dksX4_together_0 1 rfl rfl)
theorem dX4_together_2 : decode cX4_together 2 = .ok (.putfield 102, 3) := dk_181 0 102 (dk_at dksX4_together_0 2 rfl rfl)
theorem dX4_together_5 : decode cX4_together 5 = .ok (.aload_n 0, 1) := dk_42 (dk_at dksX4_together_0 5 rfl rfl)
theorem dX4_together_6 : decode cX4_together 6 = .ok (.iload_n 1, 1) := dk_27 (dk_at dksX4_together_0 6 rfl rfl)
theorem dX4_together_7 : decode cX4_together 7 = .ok (.iconst 1, 1) := dk_4 (dk_at dksX4_together_0 7 rfl rfl)
theorem dX4_together_8 : decode cX4_together 8 = .ok (.bipush 6, 2) := dk_16 6 (dk_at dksX4_together_0 8 rfl rfl)
theorem dX4_together_10 : decode cX4_together 10 = .ok (.invokestatic 363, 3) := dk_184 1 107 (dk_at dksX4_together_0 10 rfl rfl)
theorem dX4_together_13 : decode cX4_together 13 = .ok (.iconst 1, 1) := dk_4 (dk_at dksX4_together_0 13 rfl rfl)
theorem dX4_together_14 : decode cX4_together 14 = .ok (.invokevirtual 273, 3) := dk_182 1 17 (dk_at dksX4_together_0 14 rfl rfl)
theorem dX4_together_17 : decode cX4_together 17 = .ok (.ifCond .ne 5, 3) := dk_154 0 5 (dk_at dksX4_together_0 17 rfl rfl)
theorem dX4_together_20 : decode cX4_together 20 = .ok (.iconst 0, 1) := dk_3 (dk_at dksX4_together_0 20 rfl rfl)
theorem dX4_together_21 : decode cX4_together 21 = .ok (.ireturn, 1) := dk_172 (dk_at dksX4_together_0 21 rfl rfl)
theorem dX4_together_22 : decode cX4_together 22 = .ok (.iconst 0, 1) := dk_3 (dk_at dksX4_together_0 22 rfl rfl)
theorem dX4_together_23 : decode cX4_together 23 = .ok (.istore_n 2, 1) := dk_61 (dk_at dksX4_together_0 23 rfl rfl)
theorem dX4_together_24 : decode cX4_together 24 = .ok (.iload_n 2, 1) := dk_28 (dk_at dksX4_together_1 0 rfl rfl)
theorem dX4_together_25 : decode cX4_together 25 = .ok (.bipush 60, 2) := dk_16 60 (dk_at dksX4_together_1 1 rfl rfl)
theorem dX4_together_27 : decode cX4_together 27 = .ok (.if_icmp .gt 79, 3) := dk_163 0 79 (dk_at dksX4_together_1 3 rfl rfl)
theorem dX4_together_30 : decode cX4_together 30 = .ok (.iconst 0, 1) := dk_3 (dk_at dksX4_together_1 6 rfl rfl)
theorem dX4_together_31 : decode cX4_together 31 = .ok (.istore_n 3, 1) := dk_62 (dk_at dksX4_together_1 7 rfl rfl)
theorem dX4_together_32 : decode cX4_together 32 = .ok (.iload_n 3, 1) := dk_29 (dk_at dksX4_together_1 8 rfl rfl)
theorem dX4_together_33 : decode cX4_together 33 = .ok (.iconst 4, 1) := dk_7 (dk_at dksX4_together_1 9 rfl rfl)
theorem dX4_together_34 : decode cX4_together 34 = .ok (.if_icmp .ge 66, 3) := dk_162 0 66 (dk_at dksX4_together_1 10 rfl rfl)
theorem dX4_together_37 : decode cX4_together 37 = .ok (.iconst 0, 1) := dk_3 (dk_at dksX4_together_1 13 rfl rfl)
theorem dX4_together_38 : decode cX4_together 38 = .ok (.istore 4, 2) := dk_54 4 (dk_at dksX4_together_1 14 rfl rfl)
theorem dX4_together_40 : decode cX4_together 40 = .ok (.iconst 0, 1) := dk_3 (dk_at dksX4_together_1 16 rfl rfl)
theorem dX4_together_41 : decode cX4_together 41 = .ok (.istore 5, 2) := dk_54 5 (dk_at dksX4_together_1 17 rfl rfl)
theorem dX4_together_43 : decode cX4_together 43 = .ok (.iload 5, 2) := dk_21 5 (dk_at dksX4_together_1 19 rfl rfl)
theorem dX4_together_45 : decode cX4_together 45 = .ok (.aload_n 0, 1) := dk_42 (dk_at dksX4_together_1 21 rfl rfl)
theorem dX4_together_46 : decode cX4_together 46 = .ok (.getfield 283, 3) := dk_180 1 27 (dk_at dksX4_together_2 0 rfl rfl)
theorem dX4_together_49 : decode cX4_together 49 = .ok (.if_icmp .ge 37, 3) := dk_162 0 37 (dk_at dksX4_together_2 3 rfl rfl)
theorem dX4_together_52 : decode cX4_together 52 = .ok (.iload 4, 2) := dk_21 4 (dk_at dksX4_together_2 6 rfl rfl)
theorem dX4_together_54 : decode cX4_together 54 = .ok (.aload_n 0, 1) := dk_42 (dk_at dksX4_together_2 8 rfl rfl)
theorem dX4_together_55 : decode cX4_together 55 = .ok (.iload 5, 2) := dk_21 5 (dk_at dksX4_together_2 9 rfl rfl)
theorem dX4_together_57 : decode cX4_together 57 = .ok (.aload_n 0, 1) := dk_42 (dk_at dksX4_together_2 11 rfl rfl)
theorem dX4_together_58 : decode cX4_together 58 = .ok (.getfield 66, 3) := dk_180 0 66 (dk_at dksX4_together_2 12 rfl rfl)
theorem dX4_together_61 : decode cX4_together 61 = .ok (.iconst 0, 1) := dk_3 (dk_at dksX4_together_2 15 rfl rfl)
theorem dX4_together_62 : decode cX4_together 62 = .ok (.iaload, 1) := dk_46 (dk_at dksX4_together_2 16 rfl rfl)
theorem dX4_together_63 : decode cX4_together 63 = .ok (.iload_n 2, 1) := dk_28 (dk_at dksX4_together_2 17 rfl rfl)
theorem dX4_together_64 : decode cX4_together 64 = .ok (.iadd, 1) := dk_96 (dk_at dksX4_together_2 18 rfl rfl)
theorem dX4_together_65 : decode cX4_together 65 = .ok (.invokevirtual 310, 3) := dk_182 1 54 (dk_at dksX4_together_2 19 rfl rfl)
theorem dX4_together_68 : decode cX4_together 68 = .ok (.iload_n 3, 1) := dk_29 (dk_at dksX4_together_2 22 rfl rfl)
theorem dX4_together_69 : decode cX4_together 69 = .ok (.if_icmp .ne 7, 3) := dk_160 0 7 (dk_at dksX4_together_3 0 rfl rfl)
theorem dX4_together_72 : decode cX4_together 72 = .ok (.iconst 1, 1) := dk_4 (dk_at dksX4_together_3 3 rfl rfl)
theorem dX4_together_73 : decode cX4_together 73 = .ok (.goto 4, 3) := dk_167 0 4 (dk_at dksX4_together_3 4 rfl rfl)
theorem dX4_together_76 : decode cX4_together 76 = .ok (.iconst 0, 1) := dk_3 (dk_at dksX4_together_3 7 rfl rfl)
theorem dX4_together_77 : decode cX4_together 77 = .ok (.iadd, 1) := dk_96 (dk_at dksX4_together_3 8 rfl rfl)
theorem dX4_together_78 : decode cX4_together 78 = .ok (.istore 4, 2) := dk_54 4 (dk_at dksX4_together_3 9 rfl rfl)
theorem dX4_together_80 : decode cX4_together 80 = .ok (.iinc 5 1, 3) := dk_132 5 1 (dk_at dksX4_together_3 11 rfl rfl)
theorem dX4_together_83 : decode cX4_together 83 = .ok (.goto (-40), 3) := dk_167 255 216 (dk_at dksX4_together_3 14 rfl rfl)
theorem dX4_together_86 : decode cX4_together 86 = .ok (.iload 4, 2) := dk_21 4 (dk_at dksX4_together_3 17 rfl rfl)
theorem dX4_together_88 : decode cX4_together 88 = .ok (.iload_n 1, 1) := dk_27 (dk_at dksX4_together_3 19 rfl rfl)
theorem dX4_together_89 : decode cX4_together 89 = .ok (.if_icmp .lt 5, 3) := dk_161 0 5 (dk_at dksX4_together_3 20 rfl rfl)
theorem dX4_together_92 : decode cX4_together 92 = .ok (.iload_n 2, 1) := dk_28 (dk_at dksX4_together_3 23 rfl rfl)
theorem dX4_together_93 : decode cX4_together 93 = .ok (.ireturn, 1) := dk_172 (dk_at dksX4_together_4 0 rfl rfl)
theorem dX4_together_94 : decode cX4_together 94 = .ok (.iinc 3 1, 3) := dk_132 3 1 (dk_at dksX4_together_4 1 rfl rfl)
theorem dX4_together_97 : decode cX4_together 97 = .ok (.goto (-65), 3) := dk_167 255 191 (dk_at dksX4_together_4 4 rfl rfl)
theorem dX4_together_100 : decode cX4_together 100 = .ok (.iinc 2 1, 3) := dk_132 2 1 (dk_at dksX4_together_4 7 rfl rfl)
theorem dX4_together_103 : decode cX4_together 103 = .ok (.goto (-79), 3) := dk_167 255 177 (dk_at dksX4_together_4 10 rfl rfl)
theorem dX4_together_106 : decode cX4_together 106 = .ok (.iconst (-1), 1) := dk_2 (dk_at dksX4_together_4 13 rfl rfl)
theorem dX4_together_107 : decode cX4_together 107 = .ok (.ireturn, 1) := dk_172 (dk_at dksX4_together_4 14 rfl rfl)
abbrev cX4_odd : ByteArray := prog_12_method_125_code
def yX4_odd : MethodName := ⟨RX4, "odd", "(I)I"⟩
def dkwX4_odd_8 : List UInt8 := [182, 1, 75, 154, 0, 9, 4, 29, 120, 167, 0, 4, 3, 128, 61, 132, 3, 1, 167, 255, 191, 28, 172]
abbrev dktX4_odd_8 : List UInt8 := dkwX4_odd_8 ++ []
def dkwX4_odd_7 : List UInt8 := [42, 29, 182, 1, 143, 153, 0, 29, 42, 3, 42, 180, 0, 23, 29, 46, 42, 180, 0, 26, 29, 46]
abbrev dktX4_odd_7 : List UInt8 := dkwX4_odd_7 ++ dktX4_odd_8
def dkwX4_odd_6 : List UInt8 := [42, 180, 1, 30, 162, 0, 63, 28, 27, 4, 160, 0, 14, 42, 29, 182, 1, 143, 154, 0, 40, 167, 0, 31]
abbrev dktX4_odd_6 : List UInt8 := dkwX4_odd_6 ++ dktX4_odd_7
def dkwX4_odd_5 : List UInt8 := [167, 0, 4, 3, 96, 61, 132, 4, 1, 167, 255, 207, 132, 3, 1, 167, 255, 190, 167, 0, 73, 3, 62, 29]
abbrev dktX4_odd_5 : List UInt8 := dkwX4_odd_5 ++ dktX4_odd_6
def dkwX4_odd_4 : List UInt8 := [42, 3, 21, 4, 29, 182, 1, 75, 153, 0, 17, 42, 29, 21, 4, 182, 1, 214, 154, 0, 7, 4]
abbrev dktX4_odd_4 : List UInt8 := dkwX4_odd_4 ++ dktX4_odd_5
def dkwX4_odd_3 : List UInt8 := [162, 0, 64, 3, 54, 4, 21, 4, 29, 162, 0, 49, 28, 42, 3, 29, 21, 4, 182, 1, 75, 154, 0, 14]
abbrev dktX4_odd_3 : List UInt8 := dkwX4_odd_3 ++ dktX4_odd_4
def dkwX4_odd_2 : List UInt8 := [128, 61, 132, 3, 1, 167, 255, 227, 167, 0, 152, 27, 6, 160, 0, 77, 3, 62, 29, 42, 180, 1, 24]
abbrev dktX4_odd_2 : List UInt8 := dkwX4_odd_2 ++ dktX4_odd_3
def dkwX4_odd_1 : List UInt8 := [29, 42, 180, 1, 24, 162, 0, 27, 28, 42, 29, 182, 1, 211, 153, 0, 9, 4, 29, 120, 167, 0, 4, 3]
abbrev dktX4_odd_1 : List UInt8 := dkwX4_odd_1 ++ dktX4_odd_2
def dkwX4_odd_0 : List UInt8 := [42, 3, 181, 0, 102, 42, 27, 6, 182, 1, 125, 154, 0, 5, 3, 172, 3, 61, 27, 154, 0, 40, 3, 62]
abbrev dktX4_odd_0 : List UInt8 := dkwX4_odd_0 ++ dktX4_odd_1
theorem dksX4_odd_0 : cX4_odd.data.toList.drop 0 = dktX4_odd_0 := by decide +kernel
theorem dksX4_odd_1 : cX4_odd.data.toList.drop 24 = dktX4_odd_1 := dk_seg dksX4_odd_0 24 rfl rfl
theorem dksX4_odd_2 : cX4_odd.data.toList.drop 48 = dktX4_odd_2 := dk_seg dksX4_odd_1 24 rfl rfl
theorem dksX4_odd_3 : cX4_odd.data.toList.drop 71 = dktX4_odd_3 := dk_seg dksX4_odd_2 23 rfl rfl
theorem dksX4_odd_4 : cX4_odd.data.toList.drop 95 = dktX4_odd_4 := dk_seg dksX4_odd_3 24 rfl rfl
theorem dksX4_odd_5 : cX4_odd.data.toList.drop 117 = dktX4_odd_5 := dk_seg dksX4_odd_4 22 rfl rfl
theorem dksX4_odd_6 : cX4_odd.data.toList.drop 141 = dktX4_odd_6 := dk_seg dksX4_odd_5 24 rfl rfl
theorem dksX4_odd_7 : cX4_odd.data.toList.drop 165 = dktX4_odd_7 := dk_seg dksX4_odd_6 24 rfl rfl
theorem dksX4_odd_8 : cX4_odd.data.toList.drop 187 = dktX4_odd_8 := dk_seg dksX4_odd_7 22 rfl rfl
theorem dX4_odd_0 : decode cX4_odd 0 = .ok (.aload_n 0, 1) := dk_42 (dk_at dksX4_odd_0 0 rfl rfl)
theorem dX4_odd_1 : decode cX4_odd 1 = .ok (.iconst 0, 1) := dk_3 (dk_at dksX4_odd_0 1 rfl rfl)
theorem dX4_odd_2 : decode cX4_odd 2 = .ok (.putfield 102, 3) := dk_181 0 102 (dk_at dksX4_odd_0 2 rfl rfl)
theorem dX4_odd_5 : decode cX4_odd 5 = .ok (.aload_n 0, 1) := dk_42 (dk_at dksX4_odd_0 5 rfl rfl)
theorem dX4_odd_6 : decode cX4_odd 6 = .ok (.iload_n 1, 1) := dk_27 (dk_at dksX4_odd_0 6 rfl rfl)
theorem dX4_odd_7 : decode cX4_odd 7 = .ok (.iconst 3, 1) := dk_6 (dk_at dksX4_odd_0 7 rfl rfl)
theorem dX4_odd_8 : decode cX4_odd 8 = .ok (.invokevirtual 381, 3) := dk_182 1 125 (dk_at dksX4_odd_0 8 rfl rfl)
theorem dX4_odd_11 : decode cX4_odd 11 = .ok (.ifCond .ne 5, 3) := dk_154 0 5 (dk_at dksX4_odd_0 11 rfl rfl)
theorem dX4_odd_14 : decode cX4_odd 14 = .ok (.iconst 0, 1) := dk_3 (dk_at dksX4_odd_0 14 rfl rfl)
theorem dX4_odd_15 : decode cX4_odd 15 = .ok (.ireturn, 1) := dk_172 (dk_at dksX4_odd_0 15 rfl rfl)
theorem dX4_odd_16 : decode cX4_odd 16 = .ok (.iconst 0, 1) := dk_3 (dk_at dksX4_odd_0 16 rfl rfl)
theorem dX4_odd_17 : decode cX4_odd 17 = .ok (.istore_n 2, 1) := dk_61 (dk_at dksX4_odd_0 17 rfl rfl)
theorem dX4_odd_18 : decode cX4_odd 18 = .ok (.iload_n 1, 1) := dk_27 (dk_at dksX4_odd_0 18 rfl rfl)
theorem dX4_odd_19 : decode cX4_odd 19 = .ok (.ifCond .ne 40, 3) := dk_154 0 40 (dk_at dksX4_odd_0 19 rfl rfl)
theorem dX4_odd_22 : decode cX4_odd 22 = .ok (.iconst 0, 1) := dk_3 (dk_at dksX4_odd_0 22 rfl rfl)
theorem dX4_odd_23 : decode cX4_odd 23 = .ok (.istore_n 3, 1) := dk_62 (dk_at dksX4_odd_0 23 rfl rfl)
theorem dX4_odd_24 : decode cX4_odd 24 = .ok (.iload_n 3, 1) := dk_29 (dk_at dksX4_odd_1 0 rfl rfl)
theorem dX4_odd_25 : decode cX4_odd 25 = .ok (.aload_n 0, 1) := dk_42 (dk_at dksX4_odd_1 1 rfl rfl)
theorem dX4_odd_26 : decode cX4_odd 26 = .ok (.getfield 280, 3) := dk_180 1 24 (dk_at dksX4_odd_1 2 rfl rfl)
theorem dX4_odd_29 : decode cX4_odd 29 = .ok (.if_icmp .ge 27, 3) := dk_162 0 27 (dk_at dksX4_odd_1 5 rfl rfl)
theorem dX4_odd_32 : decode cX4_odd 32 = .ok (.iload_n 2, 1) := dk_28 (dk_at dksX4_odd_1 8 rfl rfl)
theorem dX4_odd_33 : decode cX4_odd 33 = .ok (.aload_n 0, 1) := dk_42 (dk_at dksX4_odd_1 9 rfl rfl)
theorem dX4_odd_34 : decode cX4_odd 34 = .ok (.iload_n 3, 1) := dk_29 (dk_at dksX4_odd_1 10 rfl rfl)
theorem dX4_odd_35 : decode cX4_odd 35 = .ok (.invokevirtual 467, 3) := dk_182 1 211 (dk_at dksX4_odd_1 11 rfl rfl)
theorem dX4_odd_38 : decode cX4_odd 38 = .ok (.ifCond .eq 9, 3) := dk_153 0 9 (dk_at dksX4_odd_1 14 rfl rfl)
theorem dX4_odd_41 : decode cX4_odd 41 = .ok (.iconst 1, 1) := dk_4 (dk_at dksX4_odd_1 17 rfl rfl)
theorem dX4_odd_42 : decode cX4_odd 42 = .ok (.iload_n 3, 1) := dk_29 (dk_at dksX4_odd_1 18 rfl rfl)
theorem dX4_odd_43 : decode cX4_odd 43 = .ok (.ishl, 1) := dk_120 (dk_at dksX4_odd_1 19 rfl rfl)
theorem dX4_odd_44 : decode cX4_odd 44 = .ok (.goto 4, 3) := dk_167 0 4 (dk_at dksX4_odd_1 20 rfl rfl)
theorem dX4_odd_47 : decode cX4_odd 47 = .ok (.iconst 0, 1) := dk_3 (dk_at dksX4_odd_1 23 rfl rfl)
theorem dX4_odd_48 : decode cX4_odd 48 = .ok (.ior, 1) := dk_128 (dk_at dksX4_odd_2 0 rfl rfl)
theorem dX4_odd_49 : decode cX4_odd 49 = .ok (.istore_n 2, 1) := dk_61 (dk_at dksX4_odd_2 1 rfl rfl)
theorem dX4_odd_50 : decode cX4_odd 50 = .ok (.iinc 3 1, 3) := dk_132 3 1 (dk_at dksX4_odd_2 2 rfl rfl)
theorem dX4_odd_53 : decode cX4_odd 53 = .ok (.goto (-29), 3) := dk_167 255 227 (dk_at dksX4_odd_2 5 rfl rfl)
theorem dX4_odd_56 : decode cX4_odd 56 = .ok (.goto 152, 3) := dk_167 0 152 (dk_at dksX4_odd_2 8 rfl rfl)
theorem dX4_odd_59 : decode cX4_odd 59 = .ok (.iload_n 1, 1) := dk_27 (dk_at dksX4_odd_2 11 rfl rfl)
theorem dX4_odd_60 : decode cX4_odd 60 = .ok (.iconst 3, 1) := dk_6 (dk_at dksX4_odd_2 12 rfl rfl)
theorem dX4_odd_61 : decode cX4_odd 61 = .ok (.if_icmp .ne 77, 3) := dk_160 0 77 (dk_at dksX4_odd_2 13 rfl rfl)
theorem dX4_odd_64 : decode cX4_odd 64 = .ok (.iconst 0, 1) := dk_3 (dk_at dksX4_odd_2 16 rfl rfl)
theorem dX4_odd_65 : decode cX4_odd 65 = .ok (.istore_n 3, 1) := dk_62 (dk_at dksX4_odd_2 17 rfl rfl)
theorem dX4_odd_66 : decode cX4_odd 66 = .ok (.iload_n 3, 1) := dk_29 (dk_at dksX4_odd_2 18 rfl rfl)
theorem dX4_odd_67 : decode cX4_odd 67 = .ok (.aload_n 0, 1) := dk_42 (dk_at dksX4_odd_2 19 rfl rfl)
theorem dX4_odd_68 : decode cX4_odd 68 = .ok (.getfield 280, 3) := dk_180 1 24 (dk_at dksX4_odd_2 20 rfl rfl)
theorem dX4_odd_71 : decode cX4_odd 71 = .ok (.if_icmp .ge 64, 3) := dk_162 0 64 (dk_at dksX4_odd_3 0 rfl rfl)
theorem dX4_odd_74 : decode cX4_odd 74 = .ok (.iconst 0, 1) := dk_3 (dk_at dksX4_odd_3 3 rfl rfl)
theorem dX4_odd_75 : decode cX4_odd 75 = .ok (.istore 4, 2) := dk_54 4 (dk_at dksX4_odd_3 4 rfl rfl)
theorem dX4_odd_77 : decode cX4_odd 77 = .ok (.iload 4, 2) := dk_21 4 (dk_at dksX4_odd_3 6 rfl rfl)
theorem dX4_odd_79 : decode cX4_odd 79 = .ok (.iload_n 3, 1) := dk_29 (dk_at dksX4_odd_3 8 rfl rfl)
theorem dX4_odd_80 : decode cX4_odd 80 = .ok (.if_icmp .ge 49, 3) := dk_162 0 49 (dk_at dksX4_odd_3 9 rfl rfl)
theorem dX4_odd_83 : decode cX4_odd 83 = .ok (.iload_n 2, 1) := dk_28 (dk_at dksX4_odd_3 12 rfl rfl)
theorem dX4_odd_84 : decode cX4_odd 84 = .ok (.aload_n 0, 1) := dk_42 (dk_at dksX4_odd_3 13 rfl rfl)
theorem dX4_odd_85 : decode cX4_odd 85 = .ok (.iconst 0, 1) := dk_3 (dk_at dksX4_odd_3 14 rfl rfl)
theorem dX4_odd_86 : decode cX4_odd 86 = .ok (.iload_n 3, 1) := dk_29 (dk_at dksX4_odd_3 15 rfl rfl)
theorem dX4_odd_87 : decode cX4_odd 87 = .ok (.iload 4, 2) := dk_21 4 (dk_at dksX4_odd_3 16 rfl rfl)
theorem dX4_odd_89 : decode cX4_odd 89 = .ok (.invokevirtual 331, 3) := dk_182 1 75 (dk_at dksX4_odd_3 18 rfl rfl)
theorem dX4_odd_92 : decode cX4_odd 92 = .ok (.ifCond .ne 14, 3) := dk_154 0 14 (dk_at dksX4_odd_3 21 rfl rfl)
theorem dX4_odd_95 : decode cX4_odd 95 = .ok (.aload_n 0, 1) := dk_42 (dk_at dksX4_odd_4 0 rfl rfl)
theorem dX4_odd_96 : decode cX4_odd 96 = .ok (.iconst 0, 1) := dk_3 (dk_at dksX4_odd_4 1 rfl rfl)
theorem dX4_odd_97 : decode cX4_odd 97 = .ok (.iload 4, 2) := dk_21 4 (dk_at dksX4_odd_4 2 rfl rfl)
theorem dX4_odd_99 : decode cX4_odd 99 = .ok (.iload_n 3, 1) := dk_29 (dk_at dksX4_odd_4 4 rfl rfl)
theorem dX4_odd_100 : decode cX4_odd 100 = .ok (.invokevirtual 331, 3) := dk_182 1 75 (dk_at dksX4_odd_4 5 rfl rfl)
theorem dX4_odd_103 : decode cX4_odd 103 = .ok (.ifCond .eq 17, 3) := dk_153 0 17 (dk_at dksX4_odd_4 8 rfl rfl)
theorem dX4_odd_106 : decode cX4_odd 106 = .ok (.aload_n 0, 1) := dk_42 (dk_at dksX4_odd_4 11 rfl rfl)
theorem dX4_odd_107 : decode cX4_odd 107 = .ok (.iload_n 3, 1) := dk_29 (dk_at dksX4_odd_4 12 rfl rfl)
theorem dX4_odd_108 : decode cX4_odd 108 = .ok (.iload 4, 2) := dk_21 4 (dk_at dksX4_odd_4 13 rfl rfl)
theorem dX4_odd_110 : decode cX4_odd 110 = .ok (.invokevirtual 470, 3) := dk_182 1 214 (dk_at dksX4_odd_4 15 rfl rfl)
theorem dX4_odd_113 : decode cX4_odd 113 = .ok (.ifCond .ne 7, 3) := dk_154 0 7 (dk_at dksX4_odd_4 18 rfl rfl)
theorem dX4_odd_116 : decode cX4_odd 116 = .ok (.iconst 1, 1) := dk_4 (dk_at dksX4_odd_4 21 rfl rfl)
theorem dX4_odd_117 : decode cX4_odd 117 = .ok (.goto 4, 3) := dk_167 0 4 (dk_at dksX4_odd_5 0 rfl rfl)
theorem dX4_odd_120 : decode cX4_odd 120 = .ok (.iconst 0, 1) := dk_3 (dk_at dksX4_odd_5 3 rfl rfl)
theorem dX4_odd_121 : decode cX4_odd 121 = .ok (.iadd, 1) := dk_96 (dk_at dksX4_odd_5 4 rfl rfl)
theorem dX4_odd_122 : decode cX4_odd 122 = .ok (.istore_n 2, 1) := dk_61 (dk_at dksX4_odd_5 5 rfl rfl)
theorem dX4_odd_123 : decode cX4_odd 123 = .ok (.iinc 4 1, 3) := dk_132 4 1 (dk_at dksX4_odd_5 6 rfl rfl)
theorem dX4_odd_126 : decode cX4_odd 126 = .ok (.goto (-49), 3) := dk_167 255 207 (dk_at dksX4_odd_5 9 rfl rfl)
theorem dX4_odd_129 : decode cX4_odd 129 = .ok (.iinc 3 1, 3) := dk_132 3 1 (dk_at dksX4_odd_5 12 rfl rfl)
theorem dX4_odd_132 : decode cX4_odd 132 = .ok (.goto (-66), 3) := dk_167 255 190 (dk_at dksX4_odd_5 15 rfl rfl)
theorem dX4_odd_135 : decode cX4_odd 135 = .ok (.goto 73, 3) := dk_167 0 73 (dk_at dksX4_odd_5 18 rfl rfl)
theorem dX4_odd_138 : decode cX4_odd 138 = .ok (.iconst 0, 1) := dk_3 (dk_at dksX4_odd_5 21 rfl rfl)
theorem dX4_odd_139 : decode cX4_odd 139 = .ok (.istore_n 3, 1) := dk_62 (dk_at dksX4_odd_5 22 rfl rfl)
theorem dX4_odd_140 : decode cX4_odd 140 = .ok (.iload_n 3, 1) := dk_29 (dk_at dksX4_odd_5 23 rfl rfl)
theorem dX4_odd_141 : decode cX4_odd 141 = .ok (.aload_n 0, 1) := dk_42 (dk_at dksX4_odd_6 0 rfl rfl)
theorem dX4_odd_142 : decode cX4_odd 142 = .ok (.getfield 286, 3) := dk_180 1 30 (dk_at dksX4_odd_6 1 rfl rfl)
theorem dX4_odd_145 : decode cX4_odd 145 = .ok (.if_icmp .ge 63, 3) := dk_162 0 63 (dk_at dksX4_odd_6 4 rfl rfl)
theorem dX4_odd_148 : decode cX4_odd 148 = .ok (.iload_n 2, 1) := dk_28 (dk_at dksX4_odd_6 7 rfl rfl)
theorem dX4_odd_149 : decode cX4_odd 149 = .ok (.iload_n 1, 1) := dk_27 (dk_at dksX4_odd_6 8 rfl rfl)
theorem dX4_odd_150 : decode cX4_odd 150 = .ok (.iconst 1, 1) := dk_4 (dk_at dksX4_odd_6 9 rfl rfl)
theorem dX4_odd_151 : decode cX4_odd 151 = .ok (.if_icmp .ne 14, 3) := dk_160 0 14 (dk_at dksX4_odd_6 10 rfl rfl)
theorem dX4_odd_154 : decode cX4_odd 154 = .ok (.aload_n 0, 1) := dk_42 (dk_at dksX4_odd_6 13 rfl rfl)
theorem dX4_odd_155 : decode cX4_odd 155 = .ok (.iload_n 3, 1) := dk_29 (dk_at dksX4_odd_6 14 rfl rfl)
theorem dX4_odd_156 : decode cX4_odd 156 = .ok (.invokevirtual 399, 3) := dk_182 1 143 (dk_at dksX4_odd_6 15 rfl rfl)
theorem dX4_odd_159 : decode cX4_odd 159 = .ok (.ifCond .ne 40, 3) := dk_154 0 40 (dk_at dksX4_odd_6 18 rfl rfl)
theorem dX4_odd_162 : decode cX4_odd 162 = .ok (.goto 31, 3) := dk_167 0 31 (dk_at dksX4_odd_6 21 rfl rfl)
theorem dX4_odd_165 : decode cX4_odd 165 = .ok (.aload_n 0, 1) := dk_42 (dk_at dksX4_odd_7 0 rfl rfl)
theorem dX4_odd_166 : decode cX4_odd 166 = .ok (.iload_n 3, 1) := dk_29 (dk_at dksX4_odd_7 1 rfl rfl)
theorem dX4_odd_167 : decode cX4_odd 167 = .ok (.invokevirtual 399, 3) := dk_182 1 143 (dk_at dksX4_odd_7 2 rfl rfl)
theorem dX4_odd_170 : decode cX4_odd 170 = .ok (.ifCond .eq 29, 3) := dk_153 0 29 (dk_at dksX4_odd_7 5 rfl rfl)
theorem dX4_odd_173 : decode cX4_odd 173 = .ok (.aload_n 0, 1) := dk_42 (dk_at dksX4_odd_7 8 rfl rfl)
theorem dX4_odd_174 : decode cX4_odd 174 = .ok (.iconst 0, 1) := dk_3 (dk_at dksX4_odd_7 9 rfl rfl)
theorem dX4_odd_175 : decode cX4_odd 175 = .ok (.aload_n 0, 1) := dk_42 (dk_at dksX4_odd_7 10 rfl rfl)
theorem dX4_odd_176 : decode cX4_odd 176 = .ok (.getfield 23, 3) := dk_180 0 23 (dk_at dksX4_odd_7 11 rfl rfl)
theorem dX4_odd_179 : decode cX4_odd 179 = .ok (.iload_n 3, 1) := dk_29 (dk_at dksX4_odd_7 14 rfl rfl)
theorem dX4_odd_180 : decode cX4_odd 180 = .ok (.iaload, 1) := dk_46 (dk_at dksX4_odd_7 15 rfl rfl)
theorem dX4_odd_181 : decode cX4_odd 181 = .ok (.aload_n 0, 1) := dk_42 (dk_at dksX4_odd_7 16 rfl rfl)
theorem dX4_odd_182 : decode cX4_odd 182 = .ok (.getfield 26, 3) := dk_180 0 26 (dk_at dksX4_odd_7 17 rfl rfl)
theorem dX4_odd_185 : decode cX4_odd 185 = .ok (.iload_n 3, 1) := dk_29 (dk_at dksX4_odd_7 20 rfl rfl)
theorem dX4_odd_186 : decode cX4_odd 186 = .ok (.iaload, 1) := dk_46 (dk_at dksX4_odd_7 21 rfl rfl)
theorem dX4_odd_187 : decode cX4_odd 187 = .ok (.invokevirtual 331, 3) := dk_182 1 75 (dk_at dksX4_odd_8 0 rfl rfl)
theorem dX4_odd_190 : decode cX4_odd 190 = .ok (.ifCond .ne 9, 3) := dk_154 0 9 (dk_at dksX4_odd_8 3 rfl rfl)
theorem dX4_odd_193 : decode cX4_odd 193 = .ok (.iconst 1, 1) := dk_4 (dk_at dksX4_odd_8 6 rfl rfl)
theorem dX4_odd_194 : decode cX4_odd 194 = .ok (.iload_n 3, 1) := dk_29 (dk_at dksX4_odd_8 7 rfl rfl)
theorem dX4_odd_195 : decode cX4_odd 195 = .ok (.ishl, 1) := dk_120 (dk_at dksX4_odd_8 8 rfl rfl)
theorem dX4_odd_196 : decode cX4_odd 196 = .ok (.goto 4, 3) := dk_167 0 4 (dk_at dksX4_odd_8 9 rfl rfl)
theorem dX4_odd_199 : decode cX4_odd 199 = .ok (.iconst 0, 1) := dk_3 (dk_at dksX4_odd_8 12 rfl rfl)
theorem dX4_odd_200 : decode cX4_odd 200 = .ok (.ior, 1) := dk_128 (dk_at dksX4_odd_8 13 rfl rfl)
theorem dX4_odd_201 : decode cX4_odd 201 = .ok (.istore_n 2, 1) := dk_61 (dk_at dksX4_odd_8 14 rfl rfl)
theorem dX4_odd_202 : decode cX4_odd 202 = .ok (.iinc 3 1, 3) := dk_132 3 1 (dk_at dksX4_odd_8 15 rfl rfl)
theorem dX4_odd_205 : decode cX4_odd 205 = .ok (.goto (-65), 3) := dk_167 255 191 (dk_at dksX4_odd_8 18 rfl rfl)
theorem dX4_odd_208 : decode cX4_odd 208 = .ok (.iload_n 2, 1) := dk_28 (dk_at dksX4_odd_8 21 rfl rfl)
theorem dX4_odd_209 : decode cX4_odd 209 = .ok (.ireturn, 1) := dk_172 (dk_at dksX4_odd_8 22 rfl rfl)
abbrev cX4_isOrphan : ByteArray := prog_12_method_123_code
def yX4_isOrphan : MethodName := ⟨RX4, "isOrphan", "(I)Z"⟩
def dkwX4_isOrphan_2 : List UInt8 := [167, 0, 4, 3, 61, 132, 3, 1, 167, 255, 225, 28, 172]
abbrev dktX4_isOrphan_2 : List UInt8 := dkwX4_isOrphan_2 ++ []
def dkwX4_isOrphan_1 : List UInt8 := [62, 29, 42, 180, 1, 24, 162, 0, 29, 28, 153, 0, 17, 42, 3, 29, 27, 182, 1, 75, 154, 0, 7, 4]
abbrev dktX4_isOrphan_1 : List UInt8 := dkwX4_isOrphan_1 ++ dktX4_isOrphan_2
def dkwX4_isOrphan_0 : List UInt8 := [42, 3, 27, 182, 1, 63, 154, 0, 15, 42, 27, 182, 1, 128, 154, 0, 7, 4, 167, 0, 4, 3, 61, 3]
abbrev dktX4_isOrphan_0 : List UInt8 := dkwX4_isOrphan_0 ++ dktX4_isOrphan_1
theorem dksX4_isOrphan_0 : cX4_isOrphan.data.toList.drop 0 = dktX4_isOrphan_0 := by decide +kernel
theorem dksX4_isOrphan_1 : cX4_isOrphan.data.toList.drop 24 = dktX4_isOrphan_1 := dk_seg dksX4_isOrphan_0 24 rfl rfl
theorem dksX4_isOrphan_2 : cX4_isOrphan.data.toList.drop 48 = dktX4_isOrphan_2 := dk_seg dksX4_isOrphan_1 24 rfl rfl
theorem dX4_isOrphan_0 : decode cX4_isOrphan 0 = .ok (.aload_n 0, 1) := dk_42 (dk_at dksX4_isOrphan_0 0 rfl rfl)
theorem dX4_isOrphan_1 : decode cX4_isOrphan 1 = .ok (.iconst 0, 1) := dk_3 (dk_at dksX4_isOrphan_0 1 rfl rfl)
theorem dX4_isOrphan_2 : decode cX4_isOrphan 2 = .ok (.iload_n 1, 1) := dk_27 (dk_at dksX4_isOrphan_0 2 rfl rfl)
theorem dX4_isOrphan_3 : decode cX4_isOrphan 3 = .ok (.invokevirtual 319, 3) := dk_182 1 63 (dk_at dksX4_isOrphan_0 3 rfl rfl)
theorem dX4_isOrphan_6 : decode cX4_isOrphan 6 = .ok (.ifCond .ne 15, 3) := dk_154 0 15 (dk_at dksX4_isOrphan_0 6 rfl rfl)
theorem dX4_isOrphan_9 : decode cX4_isOrphan 9 = .ok (.aload_n 0, 1) := dk_42 (dk_at dksX4_isOrphan_0 9 rfl rfl)
theorem dX4_isOrphan_10 : decode cX4_isOrphan 10 = .ok (.iload_n 1, 1) := dk_27 (dk_at dksX4_isOrphan_0 10 rfl rfl)
theorem dX4_isOrphan_11 : decode cX4_isOrphan 11 = .ok (.invokevirtual 384, 3) := dk_182 1 128 (dk_at dksX4_isOrphan_0 11 rfl rfl)
theorem dX4_isOrphan_14 : decode cX4_isOrphan 14 = .ok (.ifCond .ne 7, 3) := dk_154 0 7 (dk_at dksX4_isOrphan_0 14 rfl rfl)
theorem dX4_isOrphan_17 : decode cX4_isOrphan 17 = .ok (.iconst 1, 1) := dk_4 (dk_at dksX4_isOrphan_0 17 rfl rfl)
theorem dX4_isOrphan_18 : decode cX4_isOrphan 18 = .ok (.goto 4, 3) := dk_167 0 4 (dk_at dksX4_isOrphan_0 18 rfl rfl)
theorem dX4_isOrphan_21 : decode cX4_isOrphan 21 = .ok (.iconst 0, 1) := dk_3 (dk_at dksX4_isOrphan_0 21 rfl rfl)
theorem dX4_isOrphan_22 : decode cX4_isOrphan 22 = .ok (.istore_n 2, 1) := dk_61 (dk_at dksX4_isOrphan_0 22 rfl rfl)
theorem dX4_isOrphan_23 : decode cX4_isOrphan 23 = .ok (.iconst 0, 1) := dk_3 (dk_at dksX4_isOrphan_0 23 rfl rfl)
theorem dX4_isOrphan_24 : decode cX4_isOrphan 24 = .ok (.istore_n 3, 1) := dk_62 (dk_at dksX4_isOrphan_1 0 rfl rfl)
theorem dX4_isOrphan_25 : decode cX4_isOrphan 25 = .ok (.iload_n 3, 1) := dk_29 (dk_at dksX4_isOrphan_1 1 rfl rfl)
theorem dX4_isOrphan_26 : decode cX4_isOrphan 26 = .ok (.aload_n 0, 1) := dk_42 (dk_at dksX4_isOrphan_1 2 rfl rfl)
theorem dX4_isOrphan_27 : decode cX4_isOrphan 27 = .ok (.getfield 280, 3) := dk_180 1 24 (dk_at dksX4_isOrphan_1 3 rfl rfl)
theorem dX4_isOrphan_30 : decode cX4_isOrphan 30 = .ok (.if_icmp .ge 29, 3) := dk_162 0 29 (dk_at dksX4_isOrphan_1 6 rfl rfl)
theorem dX4_isOrphan_33 : decode cX4_isOrphan 33 = .ok (.iload_n 2, 1) := dk_28 (dk_at dksX4_isOrphan_1 9 rfl rfl)
theorem dX4_isOrphan_34 : decode cX4_isOrphan 34 = .ok (.ifCond .eq 17, 3) := dk_153 0 17 (dk_at dksX4_isOrphan_1 10 rfl rfl)
theorem dX4_isOrphan_37 : decode cX4_isOrphan 37 = .ok (.aload_n 0, 1) := dk_42 (dk_at dksX4_isOrphan_1 13 rfl rfl)
theorem dX4_isOrphan_38 : decode cX4_isOrphan 38 = .ok (.iconst 0, 1) := dk_3 (dk_at dksX4_isOrphan_1 14 rfl rfl)
theorem dX4_isOrphan_39 : decode cX4_isOrphan 39 = .ok (.iload_n 3, 1) := dk_29 (dk_at dksX4_isOrphan_1 15 rfl rfl)
theorem dX4_isOrphan_40 : decode cX4_isOrphan 40 = .ok (.iload_n 1, 1) := dk_27 (dk_at dksX4_isOrphan_1 16 rfl rfl)
theorem dX4_isOrphan_41 : decode cX4_isOrphan 41 = .ok (.invokevirtual 331, 3) := dk_182 1 75 (dk_at dksX4_isOrphan_1 17 rfl rfl)
theorem dX4_isOrphan_44 : decode cX4_isOrphan 44 = .ok (.ifCond .ne 7, 3) := dk_154 0 7 (dk_at dksX4_isOrphan_1 20 rfl rfl)
theorem dX4_isOrphan_47 : decode cX4_isOrphan 47 = .ok (.iconst 1, 1) := dk_4 (dk_at dksX4_isOrphan_1 23 rfl rfl)
theorem dX4_isOrphan_48 : decode cX4_isOrphan 48 = .ok (.goto 4, 3) := dk_167 0 4 (dk_at dksX4_isOrphan_2 0 rfl rfl)
theorem dX4_isOrphan_51 : decode cX4_isOrphan 51 = .ok (.iconst 0, 1) := dk_3 (dk_at dksX4_isOrphan_2 3 rfl rfl)
theorem dX4_isOrphan_52 : decode cX4_isOrphan 52 = .ok (.istore_n 2, 1) := dk_61 (dk_at dksX4_isOrphan_2 4 rfl rfl)
theorem dX4_isOrphan_53 : decode cX4_isOrphan 53 = .ok (.iinc 3 1, 3) := dk_132 3 1 (dk_at dksX4_isOrphan_2 5 rfl rfl)
theorem dX4_isOrphan_56 : decode cX4_isOrphan 56 = .ok (.goto (-31), 3) := dk_167 255 225 (dk_at dksX4_isOrphan_2 8 rfl rfl)
theorem dX4_isOrphan_59 : decode cX4_isOrphan 59 = .ok (.iload_n 2, 1) := dk_28 (dk_at dksX4_isOrphan_2 11 rfl rfl)
theorem dX4_isOrphan_60 : decode cX4_isOrphan 60 = .ok (.ireturn, 1) := dk_172 (dk_at dksX4_isOrphan_2 12 rfl rfl)
abbrev cX4_hasWord : ByteArray := prog_12_method_124_code
def yX4_hasWord : MethodName := ⟨RX4, "hasWord", "(II)Z"⟩
def dkwX4_hasWord_2 : List UInt8 := [160, 0, 5, 4, 172, 132, 3, 1, 167, 255, 203, 3, 172]
abbrev dktX4_hasWord_2 : List UInt8 := dkwX4_hasWord_2 ++ []
def dkwX4_hasWord_1 : List UInt8 := [29, 46, 28, 159, 0, 23, 42, 180, 0, 23, 29, 46, 28, 160, 0, 15, 42, 180, 0, 26, 29, 46, 27]
abbrev dktX4_hasWord_1 : List UInt8 := dkwX4_hasWord_1 ++ dktX4_hasWord_2
def dkwX4_hasWord_0 : List UInt8 := [3, 62, 29, 42, 180, 1, 30, 162, 0, 51, 42, 180, 0, 23, 29, 46, 27, 160, 0, 13, 42, 180, 0, 26]
abbrev dktX4_hasWord_0 : List UInt8 := dkwX4_hasWord_0 ++ dktX4_hasWord_1
theorem dksX4_hasWord_0 : cX4_hasWord.data.toList.drop 0 = dktX4_hasWord_0 := by decide +kernel
theorem dksX4_hasWord_1 : cX4_hasWord.data.toList.drop 24 = dktX4_hasWord_1 := dk_seg dksX4_hasWord_0 24 rfl rfl
theorem dksX4_hasWord_2 : cX4_hasWord.data.toList.drop 47 = dktX4_hasWord_2 := dk_seg dksX4_hasWord_1 23 rfl rfl
theorem dX4_hasWord_0 : decode cX4_hasWord 0 = .ok (.iconst 0, 1) := dk_3 (dk_at dksX4_hasWord_0 0 rfl rfl)
theorem dX4_hasWord_1 : decode cX4_hasWord 1 = .ok (.istore_n 3, 1) := dk_62 (dk_at dksX4_hasWord_0 1 rfl rfl)
theorem dX4_hasWord_2 : decode cX4_hasWord 2 = .ok (.iload_n 3, 1) := dk_29 (dk_at dksX4_hasWord_0 2 rfl rfl)
theorem dX4_hasWord_3 : decode cX4_hasWord 3 = .ok (.aload_n 0, 1) := dk_42 (dk_at dksX4_hasWord_0 3 rfl rfl)
theorem dX4_hasWord_4 : decode cX4_hasWord 4 = .ok (.getfield 286, 3) := dk_180 1 30 (dk_at dksX4_hasWord_0 4 rfl rfl)
theorem dX4_hasWord_7 : decode cX4_hasWord 7 = .ok (.if_icmp .ge 51, 3) := dk_162 0 51 (dk_at dksX4_hasWord_0 7 rfl rfl)
theorem dX4_hasWord_10 : decode cX4_hasWord 10 = .ok (.aload_n 0, 1) := dk_42 (dk_at dksX4_hasWord_0 10 rfl rfl)
theorem dX4_hasWord_11 : decode cX4_hasWord 11 = .ok (.getfield 23, 3) := dk_180 0 23 (dk_at dksX4_hasWord_0 11 rfl rfl)
theorem dX4_hasWord_14 : decode cX4_hasWord 14 = .ok (.iload_n 3, 1) := dk_29 (dk_at dksX4_hasWord_0 14 rfl rfl)
theorem dX4_hasWord_15 : decode cX4_hasWord 15 = .ok (.iaload, 1) := dk_46 (dk_at dksX4_hasWord_0 15 rfl rfl)
theorem dX4_hasWord_16 : decode cX4_hasWord 16 = .ok (.iload_n 1, 1) := dk_27 (dk_at dksX4_hasWord_0 16 rfl rfl)
theorem dX4_hasWord_17 : decode cX4_hasWord 17 = .ok (.if_icmp .ne 13, 3) := dk_160 0 13 (dk_at dksX4_hasWord_0 17 rfl rfl)
theorem dX4_hasWord_20 : decode cX4_hasWord 20 = .ok (.aload_n 0, 1) := dk_42 (dk_at dksX4_hasWord_0 20 rfl rfl)
theorem dX4_hasWord_21 : decode cX4_hasWord 21 = .ok (.getfield 26, 3) := dk_180 0 26 (dk_at dksX4_hasWord_0 21 rfl rfl)
theorem dX4_hasWord_24 : decode cX4_hasWord 24 = .ok (.iload_n 3, 1) := dk_29 (dk_at dksX4_hasWord_1 0 rfl rfl)
theorem dX4_hasWord_25 : decode cX4_hasWord 25 = .ok (.iaload, 1) := dk_46 (dk_at dksX4_hasWord_1 1 rfl rfl)
theorem dX4_hasWord_26 : decode cX4_hasWord 26 = .ok (.iload_n 2, 1) := dk_28 (dk_at dksX4_hasWord_1 2 rfl rfl)
theorem dX4_hasWord_27 : decode cX4_hasWord 27 = .ok (.if_icmp .eq 23, 3) := dk_159 0 23 (dk_at dksX4_hasWord_1 3 rfl rfl)
theorem dX4_hasWord_30 : decode cX4_hasWord 30 = .ok (.aload_n 0, 1) := dk_42 (dk_at dksX4_hasWord_1 6 rfl rfl)
theorem dX4_hasWord_31 : decode cX4_hasWord 31 = .ok (.getfield 23, 3) := dk_180 0 23 (dk_at dksX4_hasWord_1 7 rfl rfl)
theorem dX4_hasWord_34 : decode cX4_hasWord 34 = .ok (.iload_n 3, 1) := dk_29 (dk_at dksX4_hasWord_1 10 rfl rfl)
theorem dX4_hasWord_35 : decode cX4_hasWord 35 = .ok (.iaload, 1) := dk_46 (dk_at dksX4_hasWord_1 11 rfl rfl)
theorem dX4_hasWord_36 : decode cX4_hasWord 36 = .ok (.iload_n 2, 1) := dk_28 (dk_at dksX4_hasWord_1 12 rfl rfl)
theorem dX4_hasWord_37 : decode cX4_hasWord 37 = .ok (.if_icmp .ne 15, 3) := dk_160 0 15 (dk_at dksX4_hasWord_1 13 rfl rfl)
theorem dX4_hasWord_40 : decode cX4_hasWord 40 = .ok (.aload_n 0, 1) := dk_42 (dk_at dksX4_hasWord_1 16 rfl rfl)
theorem dX4_hasWord_41 : decode cX4_hasWord 41 = .ok (.getfield 26, 3) := dk_180 0 26 (dk_at dksX4_hasWord_1 17 rfl rfl)
theorem dX4_hasWord_44 : decode cX4_hasWord 44 = .ok (.iload_n 3, 1) := dk_29 (dk_at dksX4_hasWord_1 20 rfl rfl)
theorem dX4_hasWord_45 : decode cX4_hasWord 45 = .ok (.iaload, 1) := dk_46 (dk_at dksX4_hasWord_1 21 rfl rfl)
theorem dX4_hasWord_46 : decode cX4_hasWord 46 = .ok (.iload_n 1, 1) := dk_27 (dk_at dksX4_hasWord_1 22 rfl rfl)
theorem dX4_hasWord_47 : decode cX4_hasWord 47 = .ok (.if_icmp .ne 5, 3) := dk_160 0 5 (dk_at dksX4_hasWord_2 0 rfl rfl)
theorem dX4_hasWord_50 : decode cX4_hasWord 50 = .ok (.iconst 1, 1) := dk_4 (dk_at dksX4_hasWord_2 3 rfl rfl)
theorem dX4_hasWord_51 : decode cX4_hasWord 51 = .ok (.ireturn, 1) := dk_172 (dk_at dksX4_hasWord_2 4 rfl rfl)
theorem dX4_hasWord_52 : decode cX4_hasWord 52 = .ok (.iinc 3 1, 3) := dk_132 3 1 (dk_at dksX4_hasWord_2 5 rfl rfl)
theorem dX4_hasWord_55 : decode cX4_hasWord 55 = .ok (.goto (-53), 3) := dk_167 255 203 (dk_at dksX4_hasWord_2 8 rfl rfl)
theorem dX4_hasWord_58 : decode cX4_hasWord 58 = .ok (.iconst 0, 1) := dk_3 (dk_at dksX4_hasWord_2 11 rfl rfl)
theorem dX4_hasWord_59 : decode cX4_hasWord 59 = .ok (.ireturn, 1) := dk_172 (dk_at dksX4_hasWord_2 12 rfl rfl)
abbrev cX4_far : ByteArray := prog_12_method_126_code
def yX4_far : MethodName := ⟨RX4, "far", "(II)I"⟩
def dkwX4_far_1 : List UInt8 := [28, 182, 1, 66, 167, 0, 4, 3, 172]
abbrev dktX4_far_1 : List UInt8 := dkwX4_far_1 ++ []
def dkwX4_far_0 : List UInt8 := [42, 3, 181, 0, 102, 42, 27, 182, 1, 122, 153, 0, 21, 42, 28, 182, 1, 122, 153, 0, 13, 42, 3, 27]
abbrev dktX4_far_0 : List UInt8 := dkwX4_far_0 ++ dktX4_far_1
theorem dksX4_far_0 : cX4_far.data.toList.drop 0 = dktX4_far_0 := by decide +kernel
theorem dksX4_far_1 : cX4_far.data.toList.drop 24 = dktX4_far_1 := dk_seg dksX4_far_0 24 rfl rfl
theorem dX4_far_0 : decode cX4_far 0 = .ok (.aload_n 0, 1) := dk_42 (dk_at dksX4_far_0 0 rfl rfl)
theorem dX4_far_1 : decode cX4_far 1 = .ok (.iconst 0, 1) := dk_3 (dk_at dksX4_far_0 1 rfl rfl)
theorem dX4_far_2 : decode cX4_far 2 = .ok (.putfield 102, 3) := dk_181 0 102 (dk_at dksX4_far_0 2 rfl rfl)
theorem dX4_far_5 : decode cX4_far 5 = .ok (.aload_n 0, 1) := dk_42 (dk_at dksX4_far_0 5 rfl rfl)
theorem dX4_far_6 : decode cX4_far 6 = .ok (.iload_n 1, 1) := dk_27 (dk_at dksX4_far_0 6 rfl rfl)
theorem dX4_far_7 : decode cX4_far 7 = .ok (.invokevirtual 378, 3) := dk_182 1 122 (dk_at dksX4_far_0 7 rfl rfl)
theorem dX4_far_10 : decode cX4_far 10 = .ok (.ifCond .eq 21, 3) := dk_153 0 21 (dk_at dksX4_far_0 10 rfl rfl)
theorem dX4_far_13 : decode cX4_far 13 = .ok (.aload_n 0, 1) := dk_42 (dk_at dksX4_far_0 13 rfl rfl)
theorem dX4_far_14 : decode cX4_far 14 = .ok (.iload_n 2, 1) := dk_28 (dk_at dksX4_far_0 14 rfl rfl)
theorem dX4_far_15 : decode cX4_far 15 = .ok (.invokevirtual 378, 3) := dk_182 1 122 (dk_at dksX4_far_0 15 rfl rfl)
theorem dX4_far_18 : decode cX4_far 18 = .ok (.ifCond .eq 13, 3) := dk_153 0 13 (dk_at dksX4_far_0 18 rfl rfl)
theorem dX4_far_21 : decode cX4_far 21 = .ok (.aload_n 0, 1) := dk_42 (dk_at dksX4_far_0 21 rfl rfl)
theorem dX4_far_22 : decode cX4_far 22 = .ok (.iconst 0, 1) := dk_3 (dk_at dksX4_far_0 22 rfl rfl)
theorem dX4_far_23 : decode cX4_far 23 = .ok (.iload_n 1, 1) := dk_27 (dk_at dksX4_far_0 23 rfl rfl)
theorem dX4_far_24 : decode cX4_far 24 = .ok (.iload_n 2, 1) := dk_28 (dk_at dksX4_far_1 0 rfl rfl)
theorem dX4_far_25 : decode cX4_far 25 = .ok (.invokevirtual 322, 3) := dk_182 1 66 (dk_at dksX4_far_1 1 rfl rfl)
theorem dX4_far_28 : decode cX4_far 28 = .ok (.goto 4, 3) := dk_167 0 4 (dk_at dksX4_far_1 4 rfl rfl)
theorem dX4_far_31 : decode cX4_far 31 = .ok (.iconst 0, 1) := dk_3 (dk_at dksX4_far_1 7 rfl rfl)
theorem dX4_far_32 : decode cX4_far 32 = .ok (.ireturn, 1) := dk_172 (dk_at dksX4_far_1 8 rfl rfl)
abbrev cX4_unread : ByteArray := prog_12_method_127_code
def yX4_unread : MethodName := ⟨RX4, "unread", "(I)I"⟩
def dkwX4_unread_1 : List UInt8 := [180, 1, 30, 42, 16, 34, 42, 182, 1, 116, 182, 1, 82, 184, 1, 60, 100, 172]
abbrev dktX4_unread_1 : List UInt8 := dkwX4_unread_1 ++ []
def dkwX4_unread_0 : List UInt8 := [42, 3, 181, 0, 102, 42, 27, 3, 4, 182, 1, 170, 154, 0, 5, 3, 172, 42, 27, 182, 1, 173, 42]
abbrev dktX4_unread_0 : List UInt8 := dkwX4_unread_0 ++ dktX4_unread_1
theorem dksX4_unread_0 : cX4_unread.data.toList.drop 0 = dktX4_unread_0 := by decide +kernel
theorem dksX4_unread_1 : cX4_unread.data.toList.drop 23 = dktX4_unread_1 := dk_seg dksX4_unread_0 23 rfl rfl
theorem dX4_unread_0 : decode cX4_unread 0 = .ok (.aload_n 0, 1) := dk_42 (dk_at dksX4_unread_0 0 rfl rfl)
theorem dX4_unread_1 : decode cX4_unread 1 = .ok (.iconst 0, 1) := dk_3 (dk_at dksX4_unread_0 1 rfl rfl)
theorem dX4_unread_2 : decode cX4_unread 2 = .ok (.putfield 102, 3) := dk_181 0 102 (dk_at dksX4_unread_0 2 rfl rfl)
theorem dX4_unread_5 : decode cX4_unread 5 = .ok (.aload_n 0, 1) := dk_42 (dk_at dksX4_unread_0 5 rfl rfl)
theorem dX4_unread_6 : decode cX4_unread 6 = .ok (.iload_n 1, 1) := dk_27 (dk_at dksX4_unread_0 6 rfl rfl)
theorem dX4_unread_7 : decode cX4_unread 7 = .ok (.iconst 0, 1) := dk_3 (dk_at dksX4_unread_0 7 rfl rfl)
theorem dX4_unread_8 : decode cX4_unread 8 = .ok (.iconst 1, 1) := dk_4 (dk_at dksX4_unread_0 8 rfl rfl)
theorem dX4_unread_9 : decode cX4_unread 9 = .ok (.invokevirtual 426, 3) := dk_182 1 170 (dk_at dksX4_unread_0 9 rfl rfl)
theorem dX4_unread_12 : decode cX4_unread 12 = .ok (.ifCond .ne 5, 3) := dk_154 0 5 (dk_at dksX4_unread_0 12 rfl rfl)
theorem dX4_unread_15 : decode cX4_unread 15 = .ok (.iconst 0, 1) := dk_3 (dk_at dksX4_unread_0 15 rfl rfl)
theorem dX4_unread_16 : decode cX4_unread 16 = .ok (.ireturn, 1) := dk_172 (dk_at dksX4_unread_0 16 rfl rfl)
theorem dX4_unread_17 : decode cX4_unread 17 = .ok (.aload_n 0, 1) := dk_42 (dk_at dksX4_unread_0 17 rfl rfl)
theorem dX4_unread_18 : decode cX4_unread 18 = .ok (.iload_n 1, 1) := dk_27 (dk_at dksX4_unread_0 18 rfl rfl)
theorem dX4_unread_19 : decode cX4_unread 19 = .ok (.invokevirtual 429, 3) := dk_182 1 173 (dk_at dksX4_unread_0 19 rfl rfl)
theorem dX4_unread_22 : decode cX4_unread 22 = .ok (.aload_n 0, 1) := dk_42 (dk_at dksX4_unread_0 22 rfl rfl)
theorem dX4_unread_23 : decode cX4_unread 23 = .ok (.getfield 286, 3) := dk_180 1 30 (dk_at dksX4_unread_1 0 rfl rfl)
theorem dX4_unread_26 : decode cX4_unread 26 = .ok (.aload_n 0, 1) := dk_42 (dk_at dksX4_unread_1 3 rfl rfl)
theorem dX4_unread_27 : decode cX4_unread 27 = .ok (.bipush 34, 2) := dk_16 34 (dk_at dksX4_unread_1 4 rfl rfl)
theorem dX4_unread_29 : decode cX4_unread 29 = .ok (.aload_n 0, 1) := dk_42 (dk_at dksX4_unread_1 6 rfl rfl)
theorem dX4_unread_30 : decode cX4_unread 30 = .ok (.invokevirtual 372, 3) := dk_182 1 116 (dk_at dksX4_unread_1 7 rfl rfl)
theorem dX4_unread_33 : decode cX4_unread 33 = .ok (.invokevirtual 338, 3) := dk_182 1 82 (dk_at dksX4_unread_1 10 rfl rfl)
theorem dX4_unread_36 : decode cX4_unread 36 = .ok (.invokestatic 316, 3) := dk_184 1 60 (dk_at dksX4_unread_1 13 rfl rfl)
theorem dX4_unread_39 : decode cX4_unread 39 = .ok (.isub, 1) := dk_100 (dk_at dksX4_unread_1 16 rfl rfl)
theorem dX4_unread_40 : decode cX4_unread 40 = .ok (.ireturn, 1) := dk_172 (dk_at dksX4_unread_1 17 rfl rfl)
abbrev cX4_heir : ByteArray := prog_12_method_128_code
def yX4_heir : MethodName := ⟨RX4, "heir", "(I)I"⟩
def dkwX4_heir_3 : List UInt8 := [21, 4, 61, 21, 5, 62, 132, 4, 1, 167, 255, 198, 28, 172]
abbrev dktX4_heir_3 : List UInt8 := dkwX4_heir_3 ++ []
def dkwX4_heir_2 : List UInt8 := [96, 46, 126, 184, 1, 60, 54, 5, 21, 4, 27, 159, 0, 18, 21, 5, 29, 163, 0, 6, 167, 0, 9]
abbrev dktX4_heir_2 : List UInt8 := dkwX4_heir_2 ++ dktX4_heir_3
def dkwX4_heir_1 : List UInt8 := [42, 180, 1, 27, 162, 0, 55, 42, 180, 0, 66, 16, 28, 27, 96, 46, 42, 180, 0, 66, 16, 28, 21, 4]
abbrev dktX4_heir_1 : List UInt8 := dkwX4_heir_1 ++ dktX4_heir_2
def dkwX4_heir_0 : List UInt8 := [42, 3, 181, 0, 102, 42, 27, 182, 1, 131, 154, 0, 5, 3, 172, 2, 61, 2, 62, 3, 54, 4, 21, 4]
abbrev dktX4_heir_0 : List UInt8 := dkwX4_heir_0 ++ dktX4_heir_1
theorem dksX4_heir_0 : cX4_heir.data.toList.drop 0 = dktX4_heir_0 := by decide +kernel
theorem dksX4_heir_1 : cX4_heir.data.toList.drop 24 = dktX4_heir_1 := dk_seg dksX4_heir_0 24 rfl rfl
theorem dksX4_heir_2 : cX4_heir.data.toList.drop 48 = dktX4_heir_2 := dk_seg dksX4_heir_1 24 rfl rfl
theorem dksX4_heir_3 : cX4_heir.data.toList.drop 71 = dktX4_heir_3 := dk_seg dksX4_heir_2 23 rfl rfl
theorem dX4_heir_0 : decode cX4_heir 0 = .ok (.aload_n 0, 1) := dk_42 (dk_at dksX4_heir_0 0 rfl rfl)
theorem dX4_heir_1 : decode cX4_heir 1 = .ok (.iconst 0, 1) := dk_3 (dk_at dksX4_heir_0 1 rfl rfl)
theorem dX4_heir_2 : decode cX4_heir 2 = .ok (.putfield 102, 3) := dk_181 0 102 (dk_at dksX4_heir_0 2 rfl rfl)
theorem dX4_heir_5 : decode cX4_heir 5 = .ok (.aload_n 0, 1) := dk_42 (dk_at dksX4_heir_0 5 rfl rfl)
theorem dX4_heir_6 : decode cX4_heir 6 = .ok (.iload_n 1, 1) := dk_27 (dk_at dksX4_heir_0 6 rfl rfl)
theorem dX4_heir_7 : decode cX4_heir 7 = .ok (.invokevirtual 387, 3) := dk_182 1 131 (dk_at dksX4_heir_0 7 rfl rfl)
theorem dX4_heir_10 : decode cX4_heir 10 = .ok (.ifCond .ne 5, 3) := dk_154 0 5 (dk_at dksX4_heir_0 10 rfl rfl)
theorem dX4_heir_13 : decode cX4_heir 13 = .ok (.iconst 0, 1) := dk_3 (dk_at dksX4_heir_0 13 rfl rfl)
theorem dX4_heir_14 : decode cX4_heir 14 = .ok (.ireturn, 1) := dk_172 (dk_at dksX4_heir_0 14 rfl rfl)
theorem dX4_heir_15 : decode cX4_heir 15 = .ok (.iconst (-1), 1) := dk_2 (dk_at dksX4_heir_0 15 rfl rfl)
theorem dX4_heir_16 : decode cX4_heir 16 = .ok (.istore_n 2, 1) := dk_61 (dk_at dksX4_heir_0 16 rfl rfl)
theorem dX4_heir_17 : decode cX4_heir 17 = .ok (.iconst (-1), 1) := dk_2 (dk_at dksX4_heir_0 17 rfl rfl)
theorem dX4_heir_18 : decode cX4_heir 18 = .ok (.istore_n 3, 1) := dk_62 (dk_at dksX4_heir_0 18 rfl rfl)
theorem dX4_heir_19 : decode cX4_heir 19 = .ok (.iconst 0, 1) := dk_3 (dk_at dksX4_heir_0 19 rfl rfl)
theorem dX4_heir_20 : decode cX4_heir 20 = .ok (.istore 4, 2) := dk_54 4 (dk_at dksX4_heir_0 20 rfl rfl)
theorem dX4_heir_22 : decode cX4_heir 22 = .ok (.iload 4, 2) := dk_21 4 (dk_at dksX4_heir_0 22 rfl rfl)
theorem dX4_heir_24 : decode cX4_heir 24 = .ok (.aload_n 0, 1) := dk_42 (dk_at dksX4_heir_1 0 rfl rfl)
theorem dX4_heir_25 : decode cX4_heir 25 = .ok (.getfield 283, 3) := dk_180 1 27 (dk_at dksX4_heir_1 1 rfl rfl)
theorem dX4_heir_28 : decode cX4_heir 28 = .ok (.if_icmp .ge 55, 3) := dk_162 0 55 (dk_at dksX4_heir_1 4 rfl rfl)
theorem dX4_heir_31 : decode cX4_heir 31 = .ok (.aload_n 0, 1) := dk_42 (dk_at dksX4_heir_1 7 rfl rfl)
theorem dX4_heir_32 : decode cX4_heir 32 = .ok (.getfield 66, 3) := dk_180 0 66 (dk_at dksX4_heir_1 8 rfl rfl)
theorem dX4_heir_35 : decode cX4_heir 35 = .ok (.bipush 28, 2) := dk_16 28 (dk_at dksX4_heir_1 11 rfl rfl)
theorem dX4_heir_37 : decode cX4_heir 37 = .ok (.iload_n 1, 1) := dk_27 (dk_at dksX4_heir_1 13 rfl rfl)
theorem dX4_heir_38 : decode cX4_heir 38 = .ok (.iadd, 1) := dk_96 (dk_at dksX4_heir_1 14 rfl rfl)
theorem dX4_heir_39 : decode cX4_heir 39 = .ok (.iaload, 1) := dk_46 (dk_at dksX4_heir_1 15 rfl rfl)
theorem dX4_heir_40 : decode cX4_heir 40 = .ok (.aload_n 0, 1) := dk_42 (dk_at dksX4_heir_1 16 rfl rfl)
theorem dX4_heir_41 : decode cX4_heir 41 = .ok (.getfield 66, 3) := dk_180 0 66 (dk_at dksX4_heir_1 17 rfl rfl)
theorem dX4_heir_44 : decode cX4_heir 44 = .ok (.bipush 28, 2) := dk_16 28 (dk_at dksX4_heir_1 20 rfl rfl)
theorem dX4_heir_46 : decode cX4_heir 46 = .ok (.iload 4, 2) := dk_21 4 (dk_at dksX4_heir_1 22 rfl rfl)
theorem dX4_heir_48 : decode cX4_heir 48 = .ok (.iadd, 1) := dk_96 (dk_at dksX4_heir_2 0 rfl rfl)
theorem dX4_heir_49 : decode cX4_heir 49 = .ok (.iaload, 1) := dk_46 (dk_at dksX4_heir_2 1 rfl rfl)
theorem dX4_heir_50 : decode cX4_heir 50 = .ok (.iand, 1) := dk_126 (dk_at dksX4_heir_2 2 rfl rfl)
theorem dX4_heir_51 : decode cX4_heir 51 = .ok (.invokestatic 316, 3) := dk_184 1 60 (dk_at dksX4_heir_2 3 rfl rfl)
theorem dX4_heir_54 : decode cX4_heir 54 = .ok (.istore 5, 2) := dk_54 5 (dk_at dksX4_heir_2 6 rfl rfl)
theorem dX4_heir_56 : decode cX4_heir 56 = .ok (.iload 4, 2) := dk_21 4 (dk_at dksX4_heir_2 8 rfl rfl)
theorem dX4_heir_58 : decode cX4_heir 58 = .ok (.iload_n 1, 1) := dk_27 (dk_at dksX4_heir_2 10 rfl rfl)
theorem dX4_heir_59 : decode cX4_heir 59 = .ok (.if_icmp .eq 18, 3) := dk_159 0 18 (dk_at dksX4_heir_2 11 rfl rfl)
theorem dX4_heir_62 : decode cX4_heir 62 = .ok (.iload 5, 2) := dk_21 5 (dk_at dksX4_heir_2 14 rfl rfl)
theorem dX4_heir_64 : decode cX4_heir 64 = .ok (.iload_n 3, 1) := dk_29 (dk_at dksX4_heir_2 16 rfl rfl)
theorem dX4_heir_65 : decode cX4_heir 65 = .ok (.if_icmp .gt 6, 3) := dk_163 0 6 (dk_at dksX4_heir_2 17 rfl rfl)
theorem dX4_heir_68 : decode cX4_heir 68 = .ok (.goto 9, 3) := dk_167 0 9 (dk_at dksX4_heir_2 20 rfl rfl)
theorem dX4_heir_71 : decode cX4_heir 71 = .ok (.iload 4, 2) := dk_21 4 (dk_at dksX4_heir_3 0 rfl rfl)
theorem dX4_heir_73 : decode cX4_heir 73 = .ok (.istore_n 2, 1) := dk_61 (dk_at dksX4_heir_3 2 rfl rfl)
theorem dX4_heir_74 : decode cX4_heir 74 = .ok (.iload 5, 2) := dk_21 5 (dk_at dksX4_heir_3 3 rfl rfl)
theorem dX4_heir_76 : decode cX4_heir 76 = .ok (.istore_n 3, 1) := dk_62 (dk_at dksX4_heir_3 5 rfl rfl)
theorem dX4_heir_77 : decode cX4_heir 77 = .ok (.iinc 4 1, 3) := dk_132 4 1 (dk_at dksX4_heir_3 6 rfl rfl)
theorem dX4_heir_80 : decode cX4_heir 80 = .ok (.goto (-58), 3) := dk_167 255 198 (dk_at dksX4_heir_3 9 rfl rfl)
theorem dX4_heir_83 : decode cX4_heir 83 = .ok (.iload_n 2, 1) := dk_28 (dk_at dksX4_heir_3 12 rfl rfl)
theorem dX4_heir_84 : decode cX4_heir 84 = .ok (.ireturn, 1) := dk_172 (dk_at dksX4_heir_3 13 rfl rfl)
abbrev cX4_laid : ByteArray := prog_12_method_130_code
def yX4_laid : MethodName := ⟨RX4, "laid", "(I)I"⟩
def dkwX4_laid_2 : List UInt8 := [21, 4, 164, 0, 7, 4, 167, 0, 4, 3, 96, 61, 132, 3, 1, 167, 255, 219, 28, 172]
abbrev dktX4_laid_2 : List UInt8 := dkwX4_laid_2 ++ []
def dkwX4_laid_1 : List UInt8 := [62, 29, 27, 162, 0, 38, 42, 182, 1, 217, 54, 4, 42, 16, 34, 182, 1, 101, 28, 42, 182, 1, 217]
abbrev dktX4_laid_1 : List UInt8 := dkwX4_laid_1 ++ dktX4_laid_2
def dkwX4_laid_0 : List UInt8 := [42, 3, 181, 0, 102, 42, 27, 4, 4, 182, 1, 170, 154, 0, 5, 3, 172, 3, 61, 42, 182, 1, 164, 3]
abbrev dktX4_laid_0 : List UInt8 := dkwX4_laid_0 ++ dktX4_laid_1
theorem dksX4_laid_0 : cX4_laid.data.toList.drop 0 = dktX4_laid_0 := by decide +kernel
theorem dksX4_laid_1 : cX4_laid.data.toList.drop 24 = dktX4_laid_1 := dk_seg dksX4_laid_0 24 rfl rfl
theorem dksX4_laid_2 : cX4_laid.data.toList.drop 47 = dktX4_laid_2 := dk_seg dksX4_laid_1 23 rfl rfl
theorem dX4_laid_0 : decode cX4_laid 0 = .ok (.aload_n 0, 1) := dk_42 (dk_at dksX4_laid_0 0 rfl rfl)
theorem dX4_laid_1 : decode cX4_laid 1 = .ok (.iconst 0, 1) := dk_3 (dk_at dksX4_laid_0 1 rfl rfl)
theorem dX4_laid_2 : decode cX4_laid 2 = .ok (.putfield 102, 3) := dk_181 0 102 (dk_at dksX4_laid_0 2 rfl rfl)
theorem dX4_laid_5 : decode cX4_laid 5 = .ok (.aload_n 0, 1) := dk_42 (dk_at dksX4_laid_0 5 rfl rfl)
theorem dX4_laid_6 : decode cX4_laid 6 = .ok (.iload_n 1, 1) := dk_27 (dk_at dksX4_laid_0 6 rfl rfl)
theorem dX4_laid_7 : decode cX4_laid 7 = .ok (.iconst 1, 1) := dk_4 (dk_at dksX4_laid_0 7 rfl rfl)
theorem dX4_laid_8 : decode cX4_laid 8 = .ok (.iconst 1, 1) := dk_4 (dk_at dksX4_laid_0 8 rfl rfl)
theorem dX4_laid_9 : decode cX4_laid 9 = .ok (.invokevirtual 426, 3) := dk_182 1 170 (dk_at dksX4_laid_0 9 rfl rfl)
theorem dX4_laid_12 : decode cX4_laid 12 = .ok (.ifCond .ne 5, 3) := dk_154 0 5 (dk_at dksX4_laid_0 12 rfl rfl)
theorem dX4_laid_15 : decode cX4_laid 15 = .ok (.iconst 0, 1) := dk_3 (dk_at dksX4_laid_0 15 rfl rfl)
theorem dX4_laid_16 : decode cX4_laid 16 = .ok (.ireturn, 1) := dk_172 (dk_at dksX4_laid_0 16 rfl rfl)
theorem dX4_laid_17 : decode cX4_laid 17 = .ok (.iconst 0, 1) := dk_3 (dk_at dksX4_laid_0 17 rfl rfl)
theorem dX4_laid_18 : decode cX4_laid 18 = .ok (.istore_n 2, 1) := dk_61 (dk_at dksX4_laid_0 18 rfl rfl)
theorem dX4_laid_19 : decode cX4_laid 19 = .ok (.aload_n 0, 1) := dk_42 (dk_at dksX4_laid_0 19 rfl rfl)
theorem dX4_laid_20 : decode cX4_laid 20 = .ok (.invokevirtual 420, 3) := dk_182 1 164 (dk_at dksX4_laid_0 20 rfl rfl)
theorem dX4_laid_23 : decode cX4_laid 23 = .ok (.iconst 0, 1) := dk_3 (dk_at dksX4_laid_0 23 rfl rfl)
theorem dX4_laid_24 : decode cX4_laid 24 = .ok (.istore_n 3, 1) := dk_62 (dk_at dksX4_laid_1 0 rfl rfl)
theorem dX4_laid_25 : decode cX4_laid 25 = .ok (.iload_n 3, 1) := dk_29 (dk_at dksX4_laid_1 1 rfl rfl)
theorem dX4_laid_26 : decode cX4_laid 26 = .ok (.iload_n 1, 1) := dk_27 (dk_at dksX4_laid_1 2 rfl rfl)
theorem dX4_laid_27 : decode cX4_laid 27 = .ok (.if_icmp .ge 38, 3) := dk_162 0 38 (dk_at dksX4_laid_1 3 rfl rfl)
theorem dX4_laid_30 : decode cX4_laid 30 = .ok (.aload_n 0, 1) := dk_42 (dk_at dksX4_laid_1 6 rfl rfl)
theorem dX4_laid_31 : decode cX4_laid 31 = .ok (.invokevirtual 473, 3) := dk_182 1 217 (dk_at dksX4_laid_1 7 rfl rfl)
theorem dX4_laid_34 : decode cX4_laid 34 = .ok (.istore 4, 2) := dk_54 4 (dk_at dksX4_laid_1 10 rfl rfl)
theorem dX4_laid_36 : decode cX4_laid 36 = .ok (.aload_n 0, 1) := dk_42 (dk_at dksX4_laid_1 12 rfl rfl)
theorem dX4_laid_37 : decode cX4_laid 37 = .ok (.bipush 34, 2) := dk_16 34 (dk_at dksX4_laid_1 13 rfl rfl)
theorem dX4_laid_39 : decode cX4_laid 39 = .ok (.invokevirtual 357, 3) := dk_182 1 101 (dk_at dksX4_laid_1 15 rfl rfl)
theorem dX4_laid_42 : decode cX4_laid 42 = .ok (.iload_n 2, 1) := dk_28 (dk_at dksX4_laid_1 18 rfl rfl)
theorem dX4_laid_43 : decode cX4_laid 43 = .ok (.aload_n 0, 1) := dk_42 (dk_at dksX4_laid_1 19 rfl rfl)
theorem dX4_laid_44 : decode cX4_laid 44 = .ok (.invokevirtual 473, 3) := dk_182 1 217 (dk_at dksX4_laid_1 20 rfl rfl)
theorem dX4_laid_47 : decode cX4_laid 47 = .ok (.iload 4, 2) := dk_21 4 (dk_at dksX4_laid_2 0 rfl rfl)
theorem dX4_laid_49 : decode cX4_laid 49 = .ok (.if_icmp .le 7, 3) := dk_164 0 7 (dk_at dksX4_laid_2 2 rfl rfl)
theorem dX4_laid_52 : decode cX4_laid 52 = .ok (.iconst 1, 1) := dk_4 (dk_at dksX4_laid_2 5 rfl rfl)
theorem dX4_laid_53 : decode cX4_laid 53 = .ok (.goto 4, 3) := dk_167 0 4 (dk_at dksX4_laid_2 6 rfl rfl)
theorem dX4_laid_56 : decode cX4_laid 56 = .ok (.iconst 0, 1) := dk_3 (dk_at dksX4_laid_2 9 rfl rfl)
theorem dX4_laid_57 : decode cX4_laid 57 = .ok (.iadd, 1) := dk_96 (dk_at dksX4_laid_2 10 rfl rfl)
theorem dX4_laid_58 : decode cX4_laid 58 = .ok (.istore_n 2, 1) := dk_61 (dk_at dksX4_laid_2 11 rfl rfl)
theorem dX4_laid_59 : decode cX4_laid 59 = .ok (.iinc 3 1, 3) := dk_132 3 1 (dk_at dksX4_laid_2 12 rfl rfl)
theorem dX4_laid_62 : decode cX4_laid 62 = .ok (.goto (-37), 3) := dk_167 255 219 (dk_at dksX4_laid_2 15 rfl rfl)
theorem dX4_laid_65 : decode cX4_laid 65 = .ok (.iload_n 2, 1) := dk_28 (dk_at dksX4_laid_2 18 rfl rfl)
theorem dX4_laid_66 : decode cX4_laid 66 = .ok (.ireturn, 1) := dk_172 (dk_at dksX4_laid_2 19 rfl rfl)
abbrev cX4_knowledge : ByteArray := prog_12_method_129_code
def yX4_knowledge : MethodName := ⟨RX4, "knowledge", "()I"⟩
def dkwX4_knowledge_1 : List UInt8 := [184, 1, 60, 96, 60, 132, 2, 1, 167, 255, 230, 27, 172]
abbrev dktX4_knowledge_1 : List UInt8 := dkwX4_knowledge_1 ++ []
def dkwX4_knowledge_0 : List UInt8 := [3, 60, 3, 61, 28, 42, 180, 1, 27, 162, 0, 24, 27, 42, 180, 0, 66, 16, 62, 28, 96, 46]
abbrev dktX4_knowledge_0 : List UInt8 := dkwX4_knowledge_0 ++ dktX4_knowledge_1
theorem dksX4_knowledge_0 : cX4_knowledge.data.toList.drop 0 = dktX4_knowledge_0 := by decide +kernel
theorem dksX4_knowledge_1 : cX4_knowledge.data.toList.drop 22 = dktX4_knowledge_1 := dk_seg dksX4_knowledge_0 22 rfl rfl
theorem dX4_knowledge_0 : decode cX4_knowledge 0 = .ok (.iconst 0, 1) := dk_3 (dk_at dksX4_knowledge_0 0 rfl rfl)
theorem dX4_knowledge_1 : decode cX4_knowledge 1 = .ok (.istore_n 1, 1) := dk_60 (dk_at dksX4_knowledge_0 1 rfl rfl)
theorem dX4_knowledge_2 : decode cX4_knowledge 2 = .ok (.iconst 0, 1) := dk_3 (dk_at dksX4_knowledge_0 2 rfl rfl)
theorem dX4_knowledge_3 : decode cX4_knowledge 3 = .ok (.istore_n 2, 1) := dk_61 (dk_at dksX4_knowledge_0 3 rfl rfl)
theorem dX4_knowledge_4 : decode cX4_knowledge 4 = .ok (.iload_n 2, 1) := dk_28 (dk_at dksX4_knowledge_0 4 rfl rfl)
theorem dX4_knowledge_5 : decode cX4_knowledge 5 = .ok (.aload_n 0, 1) := dk_42 (dk_at dksX4_knowledge_0 5 rfl rfl)
theorem dX4_knowledge_6 : decode cX4_knowledge 6 = .ok (.getfield 283, 3) := dk_180 1 27 (dk_at dksX4_knowledge_0 6 rfl rfl)
theorem dX4_knowledge_9 : decode cX4_knowledge 9 = .ok (.if_icmp .ge 24, 3) := dk_162 0 24 (dk_at dksX4_knowledge_0 9 rfl rfl)
theorem dX4_knowledge_12 : decode cX4_knowledge 12 = .ok (.iload_n 1, 1) := dk_27 (dk_at dksX4_knowledge_0 12 rfl rfl)
theorem dX4_knowledge_13 : decode cX4_knowledge 13 = .ok (.aload_n 0, 1) := dk_42 (dk_at dksX4_knowledge_0 13 rfl rfl)
theorem dX4_knowledge_14 : decode cX4_knowledge 14 = .ok (.getfield 66, 3) := dk_180 0 66 (dk_at dksX4_knowledge_0 14 rfl rfl)
theorem dX4_knowledge_17 : decode cX4_knowledge 17 = .ok (.bipush 62, 2) := dk_16 62 (dk_at dksX4_knowledge_0 17 rfl rfl)
theorem dX4_knowledge_19 : decode cX4_knowledge 19 = .ok (.iload_n 2, 1) := dk_28 (dk_at dksX4_knowledge_0 19 rfl rfl)
theorem dX4_knowledge_20 : decode cX4_knowledge 20 = .ok (.iadd, 1) := dk_96 (dk_at dksX4_knowledge_0 20 rfl rfl)
theorem dX4_knowledge_21 : decode cX4_knowledge 21 = .ok (.iaload, 1) := dk_46 (dk_at dksX4_knowledge_0 21 rfl rfl)
theorem dX4_knowledge_22 : decode cX4_knowledge 22 = .ok (.invokestatic 316, 3) := dk_184 1 60 (dk_at dksX4_knowledge_1 0 rfl rfl)
theorem dX4_knowledge_25 : decode cX4_knowledge 25 = .ok (.iadd, 1) := dk_96 (dk_at dksX4_knowledge_1 3 rfl rfl)
theorem dX4_knowledge_26 : decode cX4_knowledge 26 = .ok (.istore_n 1, 1) := dk_60 (dk_at dksX4_knowledge_1 4 rfl rfl)
theorem dX4_knowledge_27 : decode cX4_knowledge 27 = .ok (.iinc 2 1, 3) := dk_132 2 1 (dk_at dksX4_knowledge_1 5 rfl rfl)
theorem dX4_knowledge_30 : decode cX4_knowledge 30 = .ok (.goto (-26), 3) := dk_167 255 230 (dk_at dksX4_knowledge_1 8 rfl rfl)
theorem dX4_knowledge_33 : decode cX4_knowledge 33 = .ok (.iload_n 1, 1) := dk_27 (dk_at dksX4_knowledge_1 11 rfl rfl)
theorem dX4_knowledge_34 : decode cX4_knowledge 34 = .ok (.ireturn, 1) := dk_172 (dk_at dksX4_knowledge_1 12 rfl rfl)
abbrev cX4_image : ByteArray := prog_12_method_131_code
def yX4_image : MethodName := ⟨RX4, "image", "()V"⟩
def dkwX4_image_3 : List UInt8 := [180, 0, 99, 182, 1, 36, 177]
abbrev dktX4_image_3 : List UInt8 := dkwX4_image_3 ++ []
def dkwX4_image_2 : List UInt8 := [132, 1, 1, 167, 255, 235, 42, 42, 180, 0, 69, 42, 180, 0, 96, 182, 1, 36, 42, 42, 180, 0, 84, 42]
abbrev dktX4_image_2 : List UInt8 := dkwX4_image_2 ++ dktX4_image_3
def dkwX4_image_1 : List UInt8 := [181, 1, 223, 3, 60, 27, 16, 34, 162, 0, 21, 42, 180, 0, 93, 27, 42, 180, 0, 66, 27, 46, 79]
abbrev dktX4_image_1 : List UInt8 := dkwX4_image_1 ++ dktX4_image_2
def dkwX4_image_0 : List UInt8 := [42, 3, 181, 0, 102, 42, 4, 181, 1, 46, 42, 42, 180, 1, 40, 181, 1, 220, 42, 42, 180, 1, 43]
abbrev dktX4_image_0 : List UInt8 := dkwX4_image_0 ++ dktX4_image_1
theorem dksX4_image_0 : cX4_image.data.toList.drop 0 = dktX4_image_0 := by decide +kernel
theorem dksX4_image_1 : cX4_image.data.toList.drop 23 = dktX4_image_1 := dk_seg dksX4_image_0 23 rfl rfl
theorem dksX4_image_2 : cX4_image.data.toList.drop 46 = dktX4_image_2 := dk_seg dksX4_image_1 23 rfl rfl
theorem dksX4_image_3 : cX4_image.data.toList.drop 70 = dktX4_image_3 := dk_seg dksX4_image_2 24 rfl rfl
theorem dX4_image_0 : decode cX4_image 0 = .ok (.aload_n 0, 1) := dk_42 (dk_at dksX4_image_0 0 rfl rfl)
theorem dX4_image_1 : decode cX4_image 1 = .ok (.iconst 0, 1) := dk_3 (dk_at dksX4_image_0 1 rfl rfl)
theorem dX4_image_2 : decode cX4_image 2 = .ok (.putfield 102, 3) := dk_181 0 102 (dk_at dksX4_image_0 2 rfl rfl)
theorem dX4_image_5 : decode cX4_image 5 = .ok (.aload_n 0, 1) := dk_42 (dk_at dksX4_image_0 5 rfl rfl)
theorem dX4_image_6 : decode cX4_image 6 = .ok (.iconst 1, 1) := dk_4 (dk_at dksX4_image_0 6 rfl rfl)
theorem dX4_image_7 : decode cX4_image 7 = .ok (.putfield 302, 3) := dk_181 1 46 (dk_at dksX4_image_0 7 rfl rfl)
theorem dX4_image_10 : decode cX4_image 10 = .ok (.aload_n 0, 1) := dk_42 (dk_at dksX4_image_0 10 rfl rfl)
theorem dX4_image_11 : decode cX4_image 11 = .ok (.aload_n 0, 1) := dk_42 (dk_at dksX4_image_0 11 rfl rfl)
theorem dX4_image_12 : decode cX4_image 12 = .ok (.getfield 296, 3) := dk_180 1 40 (dk_at dksX4_image_0 12 rfl rfl)
theorem dX4_image_15 : decode cX4_image 15 = .ok (.putfield 476, 3) := dk_181 1 220 (dk_at dksX4_image_0 15 rfl rfl)
theorem dX4_image_18 : decode cX4_image 18 = .ok (.aload_n 0, 1) := dk_42 (dk_at dksX4_image_0 18 rfl rfl)
theorem dX4_image_19 : decode cX4_image 19 = .ok (.aload_n 0, 1) := dk_42 (dk_at dksX4_image_0 19 rfl rfl)
theorem dX4_image_20 : decode cX4_image 20 = .ok (.getfield 299, 3) := dk_180 1 43 (dk_at dksX4_image_0 20 rfl rfl)
theorem dX4_image_23 : decode cX4_image 23 = .ok (.putfield 479, 3) := dk_181 1 223 (dk_at dksX4_image_1 0 rfl rfl)
theorem dX4_image_26 : decode cX4_image 26 = .ok (.iconst 0, 1) := dk_3 (dk_at dksX4_image_1 3 rfl rfl)
theorem dX4_image_27 : decode cX4_image 27 = .ok (.istore_n 1, 1) := dk_60 (dk_at dksX4_image_1 4 rfl rfl)
theorem dX4_image_28 : decode cX4_image 28 = .ok (.iload_n 1, 1) := dk_27 (dk_at dksX4_image_1 5 rfl rfl)
theorem dX4_image_29 : decode cX4_image 29 = .ok (.bipush 34, 2) := dk_16 34 (dk_at dksX4_image_1 6 rfl rfl)
theorem dX4_image_31 : decode cX4_image 31 = .ok (.if_icmp .ge 21, 3) := dk_162 0 21 (dk_at dksX4_image_1 8 rfl rfl)
theorem dX4_image_34 : decode cX4_image 34 = .ok (.aload_n 0, 1) := dk_42 (dk_at dksX4_image_1 11 rfl rfl)
theorem dX4_image_35 : decode cX4_image 35 = .ok (.getfield 93, 3) := dk_180 0 93 (dk_at dksX4_image_1 12 rfl rfl)
theorem dX4_image_38 : decode cX4_image 38 = .ok (.iload_n 1, 1) := dk_27 (dk_at dksX4_image_1 15 rfl rfl)
theorem dX4_image_39 : decode cX4_image 39 = .ok (.aload_n 0, 1) := dk_42 (dk_at dksX4_image_1 16 rfl rfl)
theorem dX4_image_40 : decode cX4_image 40 = .ok (.getfield 66, 3) := dk_180 0 66 (dk_at dksX4_image_1 17 rfl rfl)
theorem dX4_image_43 : decode cX4_image 43 = .ok (.iload_n 1, 1) := dk_27 (dk_at dksX4_image_1 20 rfl rfl)
theorem dX4_image_44 : decode cX4_image 44 = .ok (.iaload, 1) := dk_46 (dk_at dksX4_image_1 21 rfl rfl)
theorem dX4_image_45 : decode cX4_image 45 = .ok (.iastore, 1) := dk_79 (dk_at dksX4_image_1 22 rfl rfl)
theorem dX4_image_46 : decode cX4_image 46 = .ok (.iinc 1 1, 3) := dk_132 1 1 (dk_at dksX4_image_2 0 rfl rfl)
theorem dX4_image_49 : decode cX4_image 49 = .ok (.goto (-21), 3) := dk_167 255 235 (dk_at dksX4_image_2 3 rfl rfl)
theorem dX4_image_52 : decode cX4_image 52 = .ok (.aload_n 0, 1) := dk_42 (dk_at dksX4_image_2 6 rfl rfl)
theorem dX4_image_53 : decode cX4_image 53 = .ok (.aload_n 0, 1) := dk_42 (dk_at dksX4_image_2 7 rfl rfl)
theorem dX4_image_54 : decode cX4_image 54 = .ok (.getfield 69, 3) := dk_180 0 69 (dk_at dksX4_image_2 8 rfl rfl)
theorem dX4_image_57 : decode cX4_image 57 = .ok (.aload_n 0, 1) := dk_42 (dk_at dksX4_image_2 11 rfl rfl)
theorem dX4_image_58 : decode cX4_image 58 = .ok (.getfield 96, 3) := dk_180 0 96 (dk_at dksX4_image_2 12 rfl rfl)
theorem dX4_image_61 : decode cX4_image 61 = .ok (.invokevirtual 292, 3) := dk_182 1 36 (dk_at dksX4_image_2 15 rfl rfl)
theorem dX4_image_64 : decode cX4_image 64 = .ok (.aload_n 0, 1) := dk_42 (dk_at dksX4_image_2 18 rfl rfl)
theorem dX4_image_65 : decode cX4_image 65 = .ok (.aload_n 0, 1) := dk_42 (dk_at dksX4_image_2 19 rfl rfl)
theorem dX4_image_66 : decode cX4_image 66 = .ok (.getfield 84, 3) := dk_180 0 84 (dk_at dksX4_image_2 20 rfl rfl)
theorem dX4_image_69 : decode cX4_image 69 = .ok (.aload_n 0, 1) := dk_42 (dk_at dksX4_image_2 23 rfl rfl)
theorem dX4_image_70 : decode cX4_image 70 = .ok (.getfield 99, 3) := dk_180 0 99 (dk_at dksX4_image_3 0 rfl rfl)
theorem dX4_image_73 : decode cX4_image 73 = .ok (.invokevirtual 292, 3) := dk_182 1 36 (dk_at dksX4_image_3 3 rfl rfl)
theorem dX4_image_76 : decode cX4_image 76 = .ok (.return_, 1) := dk_177 (dk_at dksX4_image_3 6 rfl rfl)
abbrev cX4_restore : ByteArray := prog_12_method_132_code
def yX4_restore : MethodName := ⟨RX4, "restore", "()Z"⟩
def dkwX4_restore_3 : List UInt8 := [180, 0, 99, 42, 180, 0, 84, 182, 1, 36, 4, 172]
abbrev dktX4_restore_3 : List UInt8 := dkwX4_restore_3 ++ []
def dkwX4_restore_2 : List UInt8 := [46, 79, 132, 1, 1, 167, 255, 235, 42, 42, 180, 0, 96, 42, 180, 0, 69, 182, 1, 36, 42, 42]
abbrev dktX4_restore_2 : List UInt8 := dkwX4_restore_2 ++ dktX4_restore_3
def dkwX4_restore_1 : List UInt8 := [180, 1, 223, 181, 1, 43, 3, 60, 27, 16, 34, 162, 0, 21, 42, 180, 0, 66, 27, 42, 180, 0, 93, 27]
abbrev dktX4_restore_1 : List UInt8 := dkwX4_restore_1 ++ dktX4_restore_2
def dkwX4_restore_0 : List UInt8 := [42, 3, 181, 0, 102, 42, 180, 1, 46, 154, 0, 5, 3, 172, 42, 42, 180, 1, 220, 181, 1, 40, 42, 42]
abbrev dktX4_restore_0 : List UInt8 := dkwX4_restore_0 ++ dktX4_restore_1
theorem dksX4_restore_0 : cX4_restore.data.toList.drop 0 = dktX4_restore_0 := by decide +kernel
theorem dksX4_restore_1 : cX4_restore.data.toList.drop 24 = dktX4_restore_1 := dk_seg dksX4_restore_0 24 rfl rfl
theorem dksX4_restore_2 : cX4_restore.data.toList.drop 48 = dktX4_restore_2 := dk_seg dksX4_restore_1 24 rfl rfl
theorem dksX4_restore_3 : cX4_restore.data.toList.drop 70 = dktX4_restore_3 := dk_seg dksX4_restore_2 22 rfl rfl
theorem dX4_restore_0 : decode cX4_restore 0 = .ok (.aload_n 0, 1) := dk_42 (dk_at dksX4_restore_0 0 rfl rfl)
theorem dX4_restore_1 : decode cX4_restore 1 = .ok (.iconst 0, 1) := dk_3 (dk_at dksX4_restore_0 1 rfl rfl)
theorem dX4_restore_2 : decode cX4_restore 2 = .ok (.putfield 102, 3) := dk_181 0 102 (dk_at dksX4_restore_0 2 rfl rfl)
theorem dX4_restore_5 : decode cX4_restore 5 = .ok (.aload_n 0, 1) := dk_42 (dk_at dksX4_restore_0 5 rfl rfl)
theorem dX4_restore_6 : decode cX4_restore 6 = .ok (.getfield 302, 3) := dk_180 1 46 (dk_at dksX4_restore_0 6 rfl rfl)
theorem dX4_restore_9 : decode cX4_restore 9 = .ok (.ifCond .ne 5, 3) := dk_154 0 5 (dk_at dksX4_restore_0 9 rfl rfl)
theorem dX4_restore_12 : decode cX4_restore 12 = .ok (.iconst 0, 1) := dk_3 (dk_at dksX4_restore_0 12 rfl rfl)
theorem dX4_restore_13 : decode cX4_restore 13 = .ok (.ireturn, 1) := dk_172 (dk_at dksX4_restore_0 13 rfl rfl)
theorem dX4_restore_14 : decode cX4_restore 14 = .ok (.aload_n 0, 1) := dk_42 (dk_at dksX4_restore_0 14 rfl rfl)
theorem dX4_restore_15 : decode cX4_restore 15 = .ok (.aload_n 0, 1) := dk_42 (dk_at dksX4_restore_0 15 rfl rfl)
theorem dX4_restore_16 : decode cX4_restore 16 = .ok (.getfield 476, 3) := dk_180 1 220 (dk_at dksX4_restore_0 16 rfl rfl)
theorem dX4_restore_19 : decode cX4_restore 19 = .ok (.putfield 296, 3) := dk_181 1 40 (dk_at dksX4_restore_0 19 rfl rfl)
theorem dX4_restore_22 : decode cX4_restore 22 = .ok (.aload_n 0, 1) := dk_42 (dk_at dksX4_restore_0 22 rfl rfl)
theorem dX4_restore_23 : decode cX4_restore 23 = .ok (.aload_n 0, 1) := dk_42 (dk_at dksX4_restore_0 23 rfl rfl)
theorem dX4_restore_24 : decode cX4_restore 24 = .ok (.getfield 479, 3) := dk_180 1 223 (dk_at dksX4_restore_1 0 rfl rfl)
theorem dX4_restore_27 : decode cX4_restore 27 = .ok (.putfield 299, 3) := dk_181 1 43 (dk_at dksX4_restore_1 3 rfl rfl)
theorem dX4_restore_30 : decode cX4_restore 30 = .ok (.iconst 0, 1) := dk_3 (dk_at dksX4_restore_1 6 rfl rfl)
theorem dX4_restore_31 : decode cX4_restore 31 = .ok (.istore_n 1, 1) := dk_60 (dk_at dksX4_restore_1 7 rfl rfl)
theorem dX4_restore_32 : decode cX4_restore 32 = .ok (.iload_n 1, 1) := dk_27 (dk_at dksX4_restore_1 8 rfl rfl)
theorem dX4_restore_33 : decode cX4_restore 33 = .ok (.bipush 34, 2) := dk_16 34 (dk_at dksX4_restore_1 9 rfl rfl)
theorem dX4_restore_35 : decode cX4_restore 35 = .ok (.if_icmp .ge 21, 3) := dk_162 0 21 (dk_at dksX4_restore_1 11 rfl rfl)
theorem dX4_restore_38 : decode cX4_restore 38 = .ok (.aload_n 0, 1) := dk_42 (dk_at dksX4_restore_1 14 rfl rfl)
theorem dX4_restore_39 : decode cX4_restore 39 = .ok (.getfield 66, 3) := dk_180 0 66 (dk_at dksX4_restore_1 15 rfl rfl)
theorem dX4_restore_42 : decode cX4_restore 42 = .ok (.iload_n 1, 1) := dk_27 (dk_at dksX4_restore_1 18 rfl rfl)
theorem dX4_restore_43 : decode cX4_restore 43 = .ok (.aload_n 0, 1) := dk_42 (dk_at dksX4_restore_1 19 rfl rfl)
theorem dX4_restore_44 : decode cX4_restore 44 = .ok (.getfield 93, 3) := dk_180 0 93 (dk_at dksX4_restore_1 20 rfl rfl)
theorem dX4_restore_47 : decode cX4_restore 47 = .ok (.iload_n 1, 1) := dk_27 (dk_at dksX4_restore_1 23 rfl rfl)
theorem dX4_restore_48 : decode cX4_restore 48 = .ok (.iaload, 1) := dk_46 (dk_at dksX4_restore_2 0 rfl rfl)
theorem dX4_restore_49 : decode cX4_restore 49 = .ok (.iastore, 1) := dk_79 (dk_at dksX4_restore_2 1 rfl rfl)
theorem dX4_restore_50 : decode cX4_restore 50 = .ok (.iinc 1 1, 3) := dk_132 1 1 (dk_at dksX4_restore_2 2 rfl rfl)
theorem dX4_restore_53 : decode cX4_restore 53 = .ok (.goto (-21), 3) := dk_167 255 235 (dk_at dksX4_restore_2 5 rfl rfl)
theorem dX4_restore_56 : decode cX4_restore 56 = .ok (.aload_n 0, 1) := dk_42 (dk_at dksX4_restore_2 8 rfl rfl)
theorem dX4_restore_57 : decode cX4_restore 57 = .ok (.aload_n 0, 1) := dk_42 (dk_at dksX4_restore_2 9 rfl rfl)
theorem dX4_restore_58 : decode cX4_restore 58 = .ok (.getfield 96, 3) := dk_180 0 96 (dk_at dksX4_restore_2 10 rfl rfl)
theorem dX4_restore_61 : decode cX4_restore 61 = .ok (.aload_n 0, 1) := dk_42 (dk_at dksX4_restore_2 13 rfl rfl)
theorem dX4_restore_62 : decode cX4_restore 62 = .ok (.getfield 69, 3) := dk_180 0 69 (dk_at dksX4_restore_2 14 rfl rfl)
theorem dX4_restore_65 : decode cX4_restore 65 = .ok (.invokevirtual 292, 3) := dk_182 1 36 (dk_at dksX4_restore_2 17 rfl rfl)
theorem dX4_restore_68 : decode cX4_restore 68 = .ok (.aload_n 0, 1) := dk_42 (dk_at dksX4_restore_2 20 rfl rfl)
theorem dX4_restore_69 : decode cX4_restore 69 = .ok (.aload_n 0, 1) := dk_42 (dk_at dksX4_restore_2 21 rfl rfl)
theorem dX4_restore_70 : decode cX4_restore 70 = .ok (.getfield 99, 3) := dk_180 0 99 (dk_at dksX4_restore_3 0 rfl rfl)
theorem dX4_restore_73 : decode cX4_restore 73 = .ok (.aload_n 0, 1) := dk_42 (dk_at dksX4_restore_3 3 rfl rfl)
theorem dX4_restore_74 : decode cX4_restore 74 = .ok (.getfield 84, 3) := dk_180 0 84 (dk_at dksX4_restore_3 4 rfl rfl)
theorem dX4_restore_77 : decode cX4_restore 77 = .ok (.invokevirtual 292, 3) := dk_182 1 36 (dk_at dksX4_restore_3 7 rfl rfl)
theorem dX4_restore_80 : decode cX4_restore 80 = .ok (.iconst 1, 1) := dk_4 (dk_at dksX4_restore_3 10 rfl rfl)
theorem dX4_restore_81 : decode cX4_restore 81 = .ok (.ireturn, 1) := dk_172 (dk_at dksX4_restore_3 11 rfl rfl)
theorem q141 : (Jvm.Cond.initialized "TwinInkModel") ∈ lw_all := lw_g (lw_at lw_m1 7 rfl) rfl
theorem q401 : (Jvm.Cond.selects "TwinInkModel" ({ cls := "java/lang/Object", name := "getClass", desc := "()Ljava/lang/Class;" } : Jvm.MethodName) ({ cls := "java/lang/Object", name := "getClass", desc := "()Ljava/lang/Class;" } : Jvm.MethodName)) ∈ lw_all := lw_g (lw_at lw_m2 27 rfl) rfl
theorem q1639 : (Jvm.Cond.instantiable "TwinInkModel" (62 : Nat)) ∈ lw_all := lw_g (lw_at lw_m7 65 rfl) rfl
theorem q1641 : (Jvm.Cond.instanceMethod ({ cls := "TwinInkModel", name := "<init>", desc := "()V" } : Jvm.MethodName)) ∈ lw_all := lw_g (lw_at lw_m7 67 rfl) rfl
theorem q1642 : (Jvm.Cond.code ({ cls := "TwinInkModel", name := "<init>", desc := "()V" } : Jvm.MethodName) prog_12_method_1_code (1 : Nat) (Option.none : Option Jvm.ClassFile.FieldType)) ∈ lw_all := lw_g (lw_at lw_m7 68 rfl) rfl
theorem q1643 : (Jvm.Cond.methodLink "TwinInkModel" (1 : Nat) ({ cls := "java/lang/Object", name := "<init>", desc := "()V" } : Jvm.MethodName)) ∈ lw_all := lw_g (lw_at lw_m7 69 rfl) rfl
theorem q1644 : (Jvm.Cond.fieldLink "TwinInkModel" (102 : Nat) "TwinInkModel" "thrown" "I") ∈ lw_all := lw_g (lw_at lw_m7 70 rfl) rfl
theorem q1645 : (Jvm.Cond.fieldLink "TwinInkModel" (280 : Nat) "TwinInkModel" "sheets" "I") ∈ lw_all := lw_g (lw_at lw_m7 71 rfl) rfl
theorem q1646 : (Jvm.Cond.fieldLink "TwinInkModel" (283 : Nat) "TwinInkModel" "clerks" "I") ∈ lw_all := lw_g (lw_at lw_m7 72 rfl) rfl
theorem q1647 : (Jvm.Cond.fieldLink "TwinInkModel" (286 : Nat) "TwinInkModel" "words" "I") ∈ lw_all := lw_g (lw_at lw_m7 73 rfl) rfl
theorem q1648 : (Jvm.Cond.fieldLink "TwinInkModel" (289 : Nat) "TwinInkModel" "slack" "I") ∈ lw_all := lw_g (lw_at lw_m7 74 rfl) rfl
theorem q1649 : (Jvm.Cond.fieldLink "TwinInkModel" (9 : Nat) "TwinInkModel" "laysAt" "I") ∈ lw_all := lw_g (lw_at lw_m7 75 rfl) rfl
theorem q1650 : (Jvm.Cond.fieldLink "TwinInkModel" (13 : Nat) "TwinInkModel" "mouldsAt" "I") ∈ lw_all := lw_g (lw_at lw_m7 76 rfl) rfl
theorem q1651 : (Jvm.Cond.fieldLink "TwinInkModel" (16 : Nat) "TwinInkModel" "round" "[I") ∈ lw_all := lw_g (lw_at lw_m7 77 rfl) rfl
theorem q1652 : (Jvm.Cond.fieldLink "TwinInkModel" (20 : Nat) "TwinInkModel" "roundLong" "[I") ∈ lw_all := lw_g (lw_at lw_m7 78 rfl) rfl
theorem q1653 : (Jvm.Cond.fieldLink "TwinInkModel" (23 : Nat) "TwinInkModel" "wordLeft" "[I") ∈ lw_all := lw_g (lw_at lw_m7 79 rfl) rfl
theorem q1654 : (Jvm.Cond.fieldLink "TwinInkModel" (26 : Nat) "TwinInkModel" "wordRight" "[I") ∈ lw_all := lw_g (lw_at lw_m7 80 rfl) rfl
theorem q1655 : (Jvm.Cond.fieldLink "TwinInkModel" (29 : Nat) "TwinInkModel" "code" "[I") ∈ lw_all := lw_g (lw_at lw_m7 81 rfl) rfl
theorem q1656 : (Jvm.Cond.fieldLink "TwinInkModel" (32 : Nat) "TwinInkModel" "tape" "[I") ∈ lw_all := lw_g (lw_at lw_m7 82 rfl) rfl
theorem q1657 : (Jvm.Cond.fieldLink "TwinInkModel" (105 : Nat) "TwinInkModel" "taped" "I") ∈ lw_all := lw_g (lw_at lw_m7 83 rfl) rfl
theorem q1658 : (Jvm.Cond.fieldLink "TwinInkModel" (158 : Nat) "TwinInkModel" "faultKind" "I") ∈ lw_all := lw_g (lw_at lw_m7 84 rfl) rfl
theorem q1659 : (Jvm.Cond.fieldLink "TwinInkModel" (35 : Nat) "TwinInkModel" "faultPlace" "I") ∈ lw_all := lw_g (lw_at lw_m7 85 rfl) rfl
theorem q1660 : (Jvm.Cond.fieldLink "TwinInkModel" (38 : Nat) "TwinInkModel" "refused" "[I") ∈ lw_all := lw_g (lw_at lw_m7 86 rfl) rfl
theorem q1661 : (Jvm.Cond.fieldLink "TwinInkModel" (112 : Nat) "TwinInkModel" "long1" "I") ∈ lw_all := lw_g (lw_at lw_m7 87 rfl) rfl
theorem q1662 : (Jvm.Cond.fieldLink "TwinInkModel" (115 : Nat) "TwinInkModel" "next0" "I") ∈ lw_all := lw_g (lw_at lw_m7 88 rfl) rfl
theorem q1663 : (Jvm.Cond.fieldLink "TwinInkModel" (135 : Nat) "TwinInkModel" "sort" "I") ∈ lw_all := lw_g (lw_at lw_m7 89 rfl) rfl
theorem q1664 : (Jvm.Cond.fieldLink "TwinInkModel" (122 : Nat) "TwinInkModel" "place" "I") ∈ lw_all := lw_g (lw_at lw_m7 90 rfl) rfl
theorem q1665 : (Jvm.Cond.fieldLink "TwinInkModel" (145 : Nat) "TwinInkModel" "long0" "I") ∈ lw_all := lw_g (lw_at lw_m7 91 rfl) rfl
theorem q1666 : (Jvm.Cond.fieldLink "TwinInkModel" (129 : Nat) "TwinInkModel" "value" "I") ∈ lw_all := lw_g (lw_at lw_m7 92 rfl) rfl
theorem q1667 : (Jvm.Cond.fieldLink "TwinInkModel" (132 : Nat) "TwinInkModel" "sign" "I") ∈ lw_all := lw_g (lw_at lw_m7 93 rfl) rfl
theorem q1668 : (Jvm.Cond.fieldLink "TwinInkModel" (125 : Nat) "TwinInkModel" "word0" "J") ∈ lw_all := lw_g (lw_at lw_m7 94 rfl) rfl
theorem q1669 : (Jvm.Cond.fieldLink "TwinInkModel" (224 : Nat) "TwinInkModel" "newSheets" "I") ∈ lw_all := lw_g (lw_at lw_m7 95 rfl) rfl
theorem q1670 : (Jvm.Cond.fieldLink "TwinInkModel" (231 : Nat) "TwinInkModel" "newClerks" "I") ∈ lw_all := lw_g (lw_at lw_m7 96 rfl) rfl
theorem q1671 : (Jvm.Cond.fieldLink "TwinInkModel" (234 : Nat) "TwinInkModel" "newWords" "I") ∈ lw_all := lw_g (lw_at lw_m7 97 rfl) rfl
theorem q1672 : (Jvm.Cond.fieldLink "TwinInkModel" (257 : Nat) "TwinInkModel" "newSlack" "I") ∈ lw_all := lw_g (lw_at lw_m7 98 rfl) rfl
theorem q1673 : (Jvm.Cond.fieldLink "TwinInkModel" (260 : Nat) "TwinInkModel" "newLaysAt" "I") ∈ lw_all := lw_g (lw_at lw_m7 99 rfl) rfl
theorem q1674 : (Jvm.Cond.fieldLink "TwinInkModel" (267 : Nat) "TwinInkModel" "newMouldsAt" "I") ∈ lw_all := lw_g (lw_at lw_m7 100 rfl) rfl
theorem q1675 : (Jvm.Cond.fieldLink "TwinInkModel" (171 : Nat) "TwinInkModel" "top" "I") ∈ lw_all := lw_g (lw_at lw_m7 101 rfl) rfl
theorem q1676 : (Jvm.Cond.fieldLink "TwinInkModel" (190 : Nat) "TwinInkModel" "firstValue" "I") ∈ lw_all := lw_g (lw_at lw_m7 102 rfl) rfl
theorem q1677 : (Jvm.Cond.fieldLink "TwinInkModel" (193 : Nat) "TwinInkModel" "lastValue" "I") ∈ lw_all := lw_g (lw_at lw_m7 103 rfl) rfl
theorem q1678 : (Jvm.Cond.fieldLink "TwinInkModel" (174 : Nat) "TwinInkModel" "waiting" "I") ∈ lw_all := lw_g (lw_at lw_m7 104 rfl) rfl
theorem q1679 : (Jvm.Cond.fieldLink "TwinInkModel" (196 : Nat) "TwinInkModel" "depth" "I") ∈ lw_all := lw_g (lw_at lw_m7 105 rfl) rfl
theorem q1680 : (Jvm.Cond.fieldLink "TwinInkModel" (41 : Nat) "TwinInkModel" "newRound" "[I") ∈ lw_all := lw_g (lw_at lw_m7 106 rfl) rfl
theorem q1681 : (Jvm.Cond.fieldLink "TwinInkModel" (44 : Nat) "TwinInkModel" "newRoundLong" "[I") ∈ lw_all := lw_g (lw_at lw_m7 107 rfl) rfl
theorem q1682 : (Jvm.Cond.fieldLink "TwinInkModel" (47 : Nat) "TwinInkModel" "newWordLeft" "[I") ∈ lw_all := lw_g (lw_at lw_m7 108 rfl) rfl
theorem q1683 : (Jvm.Cond.fieldLink "TwinInkModel" (50 : Nat) "TwinInkModel" "newWordRight" "[I") ∈ lw_all := lw_g (lw_at lw_m7 109 rfl) rfl
theorem q1684 : (Jvm.Cond.fieldLink "TwinInkModel" (53 : Nat) "TwinInkModel" "newRow" "[I") ∈ lw_all := lw_g (lw_at lw_m7 110 rfl) rfl
theorem q1685 : (Jvm.Cond.fieldLink "TwinInkModel" (56 : Nat) "TwinInkModel" "readCode" "[I") ∈ lw_all := lw_g (lw_at lw_m7 111 rfl) rfl
theorem q1686 : (Jvm.Cond.fieldLink "TwinInkModel" (59 : Nat) "TwinInkModel" "waits" "[I") ∈ lw_all := lw_g (lw_at lw_m7 112 rfl) rfl
theorem q1687 : (Jvm.Cond.fieldLink "TwinInkModel" (62 : Nat) "TwinInkModel" "tested" "[Z") ∈ lw_all := lw_g (lw_at lw_m7 113 rfl) rfl
theorem q1688 : (Jvm.Cond.fieldLink "TwinInkModel" (66 : Nat) "TwinInkModel" "rows" "[I") ∈ lw_all := lw_g (lw_at lw_m7 114 rfl) rfl
theorem q1689 : (Jvm.Cond.fieldLink "TwinInkModel" (69 : Nat) "TwinInkModel" "ahead" "[I") ∈ lw_all := lw_g (lw_at lw_m7 115 rfl) rfl
theorem q1690 : (Jvm.Cond.fieldLink "TwinInkModel" (296 : Nat) "TwinInkModel" "acts" "I") ∈ lw_all := lw_g (lw_at lw_m7 116 rfl) rfl
theorem q1691 : (Jvm.Cond.fieldLink "TwinInkModel" (72 : Nat) "TwinInkModel" "told" "[I") ∈ lw_all := lw_g (lw_at lw_m7 117 rfl) rfl
theorem q1692 : (Jvm.Cond.fieldLink "TwinInkModel" (75 : Nat) "TwinInkModel" "pile" "[I") ∈ lw_all := lw_g (lw_at lw_m7 118 rfl) rfl
theorem q1693 : (Jvm.Cond.fieldLink "TwinInkModel" (78 : Nat) "TwinInkModel" "couplesOf" "[I") ∈ lw_all := lw_g (lw_at lw_m7 119 rfl) rfl
theorem q1694 : (Jvm.Cond.fieldLink "TwinInkModel" (81 : Nat) "TwinInkModel" "moreOf" "[I") ∈ lw_all := lw_g (lw_at lw_m7 120 rfl) rfl
theorem q1695 : (Jvm.Cond.fieldLink "TwinInkModel" (299 : Nat) "TwinInkModel" "heardMany" "I") ∈ lw_all := lw_g (lw_at lw_m7 121 rfl) rfl
theorem q1696 : (Jvm.Cond.fieldLink "TwinInkModel" (84 : Nat) "TwinInkModel" "heard" "[I") ∈ lw_all := lw_g (lw_at lw_m7 122 rfl) rfl
theorem q1697 : (Jvm.Cond.fieldLink "TwinInkModel" (87 : Nat) "TwinInkModel" "soon" "[I") ∈ lw_all := lw_g (lw_at lw_m7 123 rfl) rfl
theorem q1698 : (Jvm.Cond.fieldLink "TwinInkModel" (90 : Nat) "TwinInkModel" "soonAll" "[I") ∈ lw_all := lw_g (lw_at lw_m7 124 rfl) rfl
theorem q1699 : (Jvm.Cond.fieldLink "TwinInkModel" (454 : Nat) "TwinInkModel" "its0" "I") ∈ lw_all := lw_g (lw_at lw_m7 125 rfl) rfl
theorem q1700 : (Jvm.Cond.fieldLink "TwinInkModel" (302 : Nat) "TwinInkModel" "hasImage" "Z") ∈ lw_all := lw_g (lw_at lw_m7 126 rfl) rfl
theorem q1701 : (Jvm.Cond.fieldLink "TwinInkModel" (476 : Nat) "TwinInkModel" "imageActs" "I") ∈ lw_all := lw_g (lw_at lw_m7 127 rfl) rfl
theorem q1702 : (Jvm.Cond.fieldLink "TwinInkModel" (479 : Nat) "TwinInkModel" "imageHeard" "I") ∈ lw_all := lw_g (lw_at lw_m7 128 rfl) rfl
theorem q1703 : (Jvm.Cond.fieldLink "TwinInkModel" (93 : Nat) "TwinInkModel" "imageRow" "[I") ∈ lw_all := lw_g (lw_at lw_m7 129 rfl) rfl
theorem q1704 : (Jvm.Cond.fieldLink "TwinInkModel" (96 : Nat) "TwinInkModel" "imageAhead" "[I") ∈ lw_all := lw_g (lw_at lw_m7 130 rfl) rfl
theorem q1705 : (Jvm.Cond.fieldLink "TwinInkModel" (99 : Nat) "TwinInkModel" "imageHears" "[I") ∈ lw_all := lw_g (lw_at lw_m7 131 rfl) rfl
theorem q1706 : (Jvm.Cond.lays "TwinInkModel" "TwinInkModel" "thrown" "I") ∈ lw_all := lw_g (lw_at lw_m7 132 rfl) rfl
theorem q1707 : (Jvm.Cond.soleField "TwinInkModel" "thrown") ∈ lw_all := lw_g (lw_at lw_m7 133 rfl) rfl
theorem q1708 : (Jvm.Cond.lays "TwinInkModel" "TwinInkModel" "sheets" "I") ∈ lw_all := lw_g (lw_at lw_m7 134 rfl) rfl
theorem q1709 : (Jvm.Cond.soleField "TwinInkModel" "sheets") ∈ lw_all := lw_g (lw_at lw_m7 135 rfl) rfl
theorem q1710 : (Jvm.Cond.lays "TwinInkModel" "TwinInkModel" "clerks" "I") ∈ lw_all := lw_g (lw_at lw_m7 136 rfl) rfl
theorem q1711 : (Jvm.Cond.soleField "TwinInkModel" "clerks") ∈ lw_all := lw_g (lw_at lw_m7 137 rfl) rfl
theorem q1712 : (Jvm.Cond.lays "TwinInkModel" "TwinInkModel" "words" "I") ∈ lw_all := lw_g (lw_at lw_m7 138 rfl) rfl
theorem q1713 : (Jvm.Cond.soleField "TwinInkModel" "words") ∈ lw_all := lw_g (lw_at lw_m7 139 rfl) rfl
theorem q1714 : (Jvm.Cond.lays "TwinInkModel" "TwinInkModel" "slack" "I") ∈ lw_all := lw_g (lw_at lw_m7 140 rfl) rfl
theorem q1715 : (Jvm.Cond.soleField "TwinInkModel" "slack") ∈ lw_all := lw_g (lw_at lw_m7 141 rfl) rfl
theorem q1716 : (Jvm.Cond.lays "TwinInkModel" "TwinInkModel" "laysAt" "I") ∈ lw_all := lw_g (lw_at lw_m7 142 rfl) rfl
theorem q1717 : (Jvm.Cond.soleField "TwinInkModel" "laysAt") ∈ lw_all := lw_g (lw_at lw_m7 143 rfl) rfl
theorem q1718 : (Jvm.Cond.lays "TwinInkModel" "TwinInkModel" "mouldsAt" "I") ∈ lw_all := lw_g (lw_at lw_m7 144 rfl) rfl
theorem q1719 : (Jvm.Cond.soleField "TwinInkModel" "mouldsAt") ∈ lw_all := lw_g (lw_at lw_m7 145 rfl) rfl
theorem q1720 : (Jvm.Cond.laysFinal "TwinInkModel" "TwinInkModel" "round" "[I") ∈ lw_all := lw_g (lw_at lw_m7 146 rfl) rfl
theorem q1721 : (Jvm.Cond.soleField "TwinInkModel" "round") ∈ lw_all := lw_g (lw_at lw_m7 147 rfl) rfl
theorem q1722 : (Jvm.Cond.laysFinal "TwinInkModel" "TwinInkModel" "roundLong" "[I") ∈ lw_all := lw_g (lw_at lw_m7 148 rfl) rfl
theorem q1723 : (Jvm.Cond.soleField "TwinInkModel" "roundLong") ∈ lw_all := lw_g (lw_at lw_m7 149 rfl) rfl
theorem q1724 : (Jvm.Cond.laysFinal "TwinInkModel" "TwinInkModel" "wordLeft" "[I") ∈ lw_all := lw_g (lw_at lw_m7 150 rfl) rfl
theorem q1725 : (Jvm.Cond.soleField "TwinInkModel" "wordLeft") ∈ lw_all := lw_g (lw_at lw_m7 151 rfl) rfl
theorem q1726 : (Jvm.Cond.laysFinal "TwinInkModel" "TwinInkModel" "wordRight" "[I") ∈ lw_all := lw_g (lw_at lw_m7 152 rfl) rfl
theorem q1727 : (Jvm.Cond.soleField "TwinInkModel" "wordRight") ∈ lw_all := lw_g (lw_at lw_m7 153 rfl) rfl
theorem q1728 : (Jvm.Cond.laysFinal "TwinInkModel" "TwinInkModel" "code" "[I") ∈ lw_all := lw_g (lw_at lw_m7 154 rfl) rfl
theorem q1729 : (Jvm.Cond.soleField "TwinInkModel" "code") ∈ lw_all := lw_g (lw_at lw_m7 155 rfl) rfl
theorem q1730 : (Jvm.Cond.laysFinal "TwinInkModel" "TwinInkModel" "tape" "[I") ∈ lw_all := lw_g (lw_at lw_m7 156 rfl) rfl
theorem q1731 : (Jvm.Cond.soleField "TwinInkModel" "tape") ∈ lw_all := lw_g (lw_at lw_m7 157 rfl) rfl
theorem q1732 : (Jvm.Cond.lays "TwinInkModel" "TwinInkModel" "taped" "I") ∈ lw_all := lw_g (lw_at lw_m7 158 rfl) rfl
theorem q1733 : (Jvm.Cond.soleField "TwinInkModel" "taped") ∈ lw_all := lw_g (lw_at lw_m7 159 rfl) rfl
theorem q1734 : (Jvm.Cond.lays "TwinInkModel" "TwinInkModel" "faultKind" "I") ∈ lw_all := lw_g (lw_at lw_m7 160 rfl) rfl
theorem q1735 : (Jvm.Cond.soleField "TwinInkModel" "faultKind") ∈ lw_all := lw_g (lw_at lw_m7 161 rfl) rfl
theorem q1736 : (Jvm.Cond.lays "TwinInkModel" "TwinInkModel" "faultPlace" "I") ∈ lw_all := lw_g (lw_at lw_m7 162 rfl) rfl
theorem q1737 : (Jvm.Cond.soleField "TwinInkModel" "faultPlace") ∈ lw_all := lw_g (lw_at lw_m7 163 rfl) rfl
theorem q1738 : (Jvm.Cond.laysFinal "TwinInkModel" "TwinInkModel" "refused" "[I") ∈ lw_all := lw_g (lw_at lw_m7 164 rfl) rfl
theorem q1739 : (Jvm.Cond.soleField "TwinInkModel" "refused") ∈ lw_all := lw_g (lw_at lw_m7 165 rfl) rfl
theorem q1740 : (Jvm.Cond.lays "TwinInkModel" "TwinInkModel" "long1" "I") ∈ lw_all := lw_g (lw_at lw_m7 166 rfl) rfl
theorem q1741 : (Jvm.Cond.soleField "TwinInkModel" "long1") ∈ lw_all := lw_g (lw_at lw_m7 167 rfl) rfl
theorem q1742 : (Jvm.Cond.lays "TwinInkModel" "TwinInkModel" "next0" "I") ∈ lw_all := lw_g (lw_at lw_m7 168 rfl) rfl
theorem q1743 : (Jvm.Cond.soleField "TwinInkModel" "next0") ∈ lw_all := lw_g (lw_at lw_m7 169 rfl) rfl
theorem q1744 : (Jvm.Cond.lays "TwinInkModel" "TwinInkModel" "sort" "I") ∈ lw_all := lw_g (lw_at lw_m7 170 rfl) rfl
theorem q1745 : (Jvm.Cond.soleField "TwinInkModel" "sort") ∈ lw_all := lw_g (lw_at lw_m7 171 rfl) rfl
theorem q1746 : (Jvm.Cond.lays "TwinInkModel" "TwinInkModel" "place" "I") ∈ lw_all := lw_g (lw_at lw_m7 172 rfl) rfl
theorem q1747 : (Jvm.Cond.soleField "TwinInkModel" "place") ∈ lw_all := lw_g (lw_at lw_m7 173 rfl) rfl
theorem q1748 : (Jvm.Cond.lays "TwinInkModel" "TwinInkModel" "long0" "I") ∈ lw_all := lw_g (lw_at lw_m7 174 rfl) rfl
theorem q1749 : (Jvm.Cond.soleField "TwinInkModel" "long0") ∈ lw_all := lw_g (lw_at lw_m7 175 rfl) rfl
theorem q1750 : (Jvm.Cond.lays "TwinInkModel" "TwinInkModel" "value" "I") ∈ lw_all := lw_g (lw_at lw_m7 176 rfl) rfl
theorem q1751 : (Jvm.Cond.soleField "TwinInkModel" "value") ∈ lw_all := lw_g (lw_at lw_m7 177 rfl) rfl
theorem q1752 : (Jvm.Cond.lays "TwinInkModel" "TwinInkModel" "sign" "I") ∈ lw_all := lw_g (lw_at lw_m7 178 rfl) rfl
theorem q1753 : (Jvm.Cond.soleField "TwinInkModel" "sign") ∈ lw_all := lw_g (lw_at lw_m7 179 rfl) rfl
theorem q1754 : (Jvm.Cond.lays "TwinInkModel" "TwinInkModel" "word0" "J") ∈ lw_all := lw_g (lw_at lw_m7 180 rfl) rfl
theorem q1755 : (Jvm.Cond.soleField "TwinInkModel" "word0") ∈ lw_all := lw_g (lw_at lw_m7 181 rfl) rfl
theorem q1756 : (Jvm.Cond.lays "TwinInkModel" "TwinInkModel" "newSheets" "I") ∈ lw_all := lw_g (lw_at lw_m7 182 rfl) rfl
theorem q1757 : (Jvm.Cond.soleField "TwinInkModel" "newSheets") ∈ lw_all := lw_g (lw_at lw_m7 183 rfl) rfl
theorem q1758 : (Jvm.Cond.lays "TwinInkModel" "TwinInkModel" "newClerks" "I") ∈ lw_all := lw_g (lw_at lw_m7 184 rfl) rfl
theorem q1759 : (Jvm.Cond.soleField "TwinInkModel" "newClerks") ∈ lw_all := lw_g (lw_at lw_m7 185 rfl) rfl
theorem q1760 : (Jvm.Cond.lays "TwinInkModel" "TwinInkModel" "newWords" "I") ∈ lw_all := lw_g (lw_at lw_m7 186 rfl) rfl
theorem q1761 : (Jvm.Cond.soleField "TwinInkModel" "newWords") ∈ lw_all := lw_g (lw_at lw_m7 187 rfl) rfl
theorem q1762 : (Jvm.Cond.lays "TwinInkModel" "TwinInkModel" "newSlack" "I") ∈ lw_all := lw_g (lw_at lw_m7 188 rfl) rfl
theorem q1763 : (Jvm.Cond.soleField "TwinInkModel" "newSlack") ∈ lw_all := lw_g (lw_at lw_m7 189 rfl) rfl
theorem q1764 : (Jvm.Cond.lays "TwinInkModel" "TwinInkModel" "newLaysAt" "I") ∈ lw_all := lw_g (lw_at lw_m7 190 rfl) rfl
theorem q1765 : (Jvm.Cond.soleField "TwinInkModel" "newLaysAt") ∈ lw_all := lw_g (lw_at lw_m7 191 rfl) rfl
theorem q1766 : (Jvm.Cond.lays "TwinInkModel" "TwinInkModel" "newMouldsAt" "I") ∈ lw_all := lw_g (lw_at lw_m7 192 rfl) rfl
theorem q1767 : (Jvm.Cond.soleField "TwinInkModel" "newMouldsAt") ∈ lw_all := lw_g (lw_at lw_m7 193 rfl) rfl
theorem q1768 : (Jvm.Cond.lays "TwinInkModel" "TwinInkModel" "top" "I") ∈ lw_all := lw_g (lw_at lw_m7 194 rfl) rfl
theorem q1769 : (Jvm.Cond.soleField "TwinInkModel" "top") ∈ lw_all := lw_g (lw_at lw_m7 195 rfl) rfl
theorem q1770 : (Jvm.Cond.lays "TwinInkModel" "TwinInkModel" "firstValue" "I") ∈ lw_all := lw_g (lw_at lw_m7 196 rfl) rfl
theorem q1771 : (Jvm.Cond.soleField "TwinInkModel" "firstValue") ∈ lw_all := lw_g (lw_at lw_m7 197 rfl) rfl
theorem q1772 : (Jvm.Cond.lays "TwinInkModel" "TwinInkModel" "lastValue" "I") ∈ lw_all := lw_g (lw_at lw_m7 198 rfl) rfl
theorem q1773 : (Jvm.Cond.soleField "TwinInkModel" "lastValue") ∈ lw_all := lw_g (lw_at lw_m7 199 rfl) rfl
theorem q1774 : (Jvm.Cond.lays "TwinInkModel" "TwinInkModel" "waiting" "I") ∈ lw_all := lw_g (lw_at lw_m7 200 rfl) rfl
theorem q1775 : (Jvm.Cond.soleField "TwinInkModel" "waiting") ∈ lw_all := lw_g (lw_at lw_m7 201 rfl) rfl
theorem q1776 : (Jvm.Cond.lays "TwinInkModel" "TwinInkModel" "depth" "I") ∈ lw_all := lw_g (lw_at lw_m7 202 rfl) rfl
theorem q1777 : (Jvm.Cond.soleField "TwinInkModel" "depth") ∈ lw_all := lw_g (lw_at lw_m7 203 rfl) rfl
theorem q1778 : (Jvm.Cond.laysFinal "TwinInkModel" "TwinInkModel" "newRound" "[I") ∈ lw_all := lw_g (lw_at lw_m7 204 rfl) rfl
theorem q1779 : (Jvm.Cond.soleField "TwinInkModel" "newRound") ∈ lw_all := lw_g (lw_at lw_m7 205 rfl) rfl
theorem q1780 : (Jvm.Cond.laysFinal "TwinInkModel" "TwinInkModel" "newRoundLong" "[I") ∈ lw_all := lw_g (lw_at lw_m7 206 rfl) rfl
theorem q1781 : (Jvm.Cond.soleField "TwinInkModel" "newRoundLong") ∈ lw_all := lw_g (lw_at lw_m7 207 rfl) rfl
theorem q1782 : (Jvm.Cond.laysFinal "TwinInkModel" "TwinInkModel" "newWordLeft" "[I") ∈ lw_all := lw_g (lw_at lw_m7 208 rfl) rfl
theorem q1783 : (Jvm.Cond.soleField "TwinInkModel" "newWordLeft") ∈ lw_all := lw_g (lw_at lw_m7 209 rfl) rfl
theorem q1784 : (Jvm.Cond.laysFinal "TwinInkModel" "TwinInkModel" "newWordRight" "[I") ∈ lw_all := lw_g (lw_at lw_m7 210 rfl) rfl
theorem q1785 : (Jvm.Cond.soleField "TwinInkModel" "newWordRight") ∈ lw_all := lw_g (lw_at lw_m7 211 rfl) rfl
theorem q1786 : (Jvm.Cond.laysFinal "TwinInkModel" "TwinInkModel" "newRow" "[I") ∈ lw_all := lw_g (lw_at lw_m7 212 rfl) rfl
theorem q1787 : (Jvm.Cond.soleField "TwinInkModel" "newRow") ∈ lw_all := lw_g (lw_at lw_m7 213 rfl) rfl
theorem q1788 : (Jvm.Cond.laysFinal "TwinInkModel" "TwinInkModel" "readCode" "[I") ∈ lw_all := lw_g (lw_at lw_m7 214 rfl) rfl
theorem q1789 : (Jvm.Cond.soleField "TwinInkModel" "readCode") ∈ lw_all := lw_g (lw_at lw_m7 215 rfl) rfl
theorem q1790 : (Jvm.Cond.laysFinal "TwinInkModel" "TwinInkModel" "waits" "[I") ∈ lw_all := lw_g (lw_at lw_m7 216 rfl) rfl
theorem q1791 : (Jvm.Cond.soleField "TwinInkModel" "waits") ∈ lw_all := lw_g (lw_at lw_m7 217 rfl) rfl
theorem q1792 : (Jvm.Cond.laysFinal "TwinInkModel" "TwinInkModel" "tested" "[Z") ∈ lw_all := lw_g (lw_at lw_m7 218 rfl) rfl
theorem q1793 : (Jvm.Cond.soleField "TwinInkModel" "tested") ∈ lw_all := lw_g (lw_at lw_m7 219 rfl) rfl
theorem q1794 : (Jvm.Cond.laysFinal "TwinInkModel" "TwinInkModel" "rows" "[I") ∈ lw_all := lw_g (lw_at lw_m7 220 rfl) rfl
theorem q1795 : (Jvm.Cond.soleField "TwinInkModel" "rows") ∈ lw_all := lw_g (lw_at lw_m7 221 rfl) rfl
theorem q1796 : (Jvm.Cond.laysFinal "TwinInkModel" "TwinInkModel" "ahead" "[I") ∈ lw_all := lw_g (lw_at lw_m7 222 rfl) rfl
theorem q1797 : (Jvm.Cond.soleField "TwinInkModel" "ahead") ∈ lw_all := lw_g (lw_at lw_m7 223 rfl) rfl
theorem q1798 : (Jvm.Cond.lays "TwinInkModel" "TwinInkModel" "acts" "I") ∈ lw_all := lw_g (lw_at lw_m7 224 rfl) rfl
theorem q1799 : (Jvm.Cond.soleField "TwinInkModel" "acts") ∈ lw_all := lw_g (lw_at lw_m7 225 rfl) rfl
theorem q1800 : (Jvm.Cond.laysFinal "TwinInkModel" "TwinInkModel" "told" "[I") ∈ lw_all := lw_g (lw_at lw_m7 226 rfl) rfl
theorem q1801 : (Jvm.Cond.soleField "TwinInkModel" "told") ∈ lw_all := lw_g (lw_at lw_m7 227 rfl) rfl
theorem q1802 : (Jvm.Cond.laysFinal "TwinInkModel" "TwinInkModel" "pile" "[I") ∈ lw_all := lw_g (lw_at lw_m7 228 rfl) rfl
theorem q1803 : (Jvm.Cond.soleField "TwinInkModel" "pile") ∈ lw_all := lw_g (lw_at lw_m7 229 rfl) rfl
theorem q1804 : (Jvm.Cond.laysFinal "TwinInkModel" "TwinInkModel" "couplesOf" "[I") ∈ lw_all := lw_g (lw_at lw_m7 230 rfl) rfl
theorem q1805 : (Jvm.Cond.soleField "TwinInkModel" "couplesOf") ∈ lw_all := lw_g (lw_at lw_m7 231 rfl) rfl
theorem q1806 : (Jvm.Cond.laysFinal "TwinInkModel" "TwinInkModel" "moreOf" "[I") ∈ lw_all := lw_g (lw_at lw_m7 232 rfl) rfl
theorem q1807 : (Jvm.Cond.soleField "TwinInkModel" "moreOf") ∈ lw_all := lw_g (lw_at lw_m7 233 rfl) rfl
theorem q1808 : (Jvm.Cond.lays "TwinInkModel" "TwinInkModel" "heardMany" "I") ∈ lw_all := lw_g (lw_at lw_m7 234 rfl) rfl
theorem q1809 : (Jvm.Cond.soleField "TwinInkModel" "heardMany") ∈ lw_all := lw_g (lw_at lw_m7 235 rfl) rfl
theorem q1810 : (Jvm.Cond.laysFinal "TwinInkModel" "TwinInkModel" "heard" "[I") ∈ lw_all := lw_g (lw_at lw_m7 236 rfl) rfl
theorem q1811 : (Jvm.Cond.soleField "TwinInkModel" "heard") ∈ lw_all := lw_g (lw_at lw_m7 237 rfl) rfl
theorem q1812 : (Jvm.Cond.laysFinal "TwinInkModel" "TwinInkModel" "soon" "[I") ∈ lw_all := lw_g (lw_at lw_m7 238 rfl) rfl
theorem q1813 : (Jvm.Cond.soleField "TwinInkModel" "soon") ∈ lw_all := lw_g (lw_at lw_m7 239 rfl) rfl
theorem q1814 : (Jvm.Cond.laysFinal "TwinInkModel" "TwinInkModel" "soonAll" "[I") ∈ lw_all := lw_g (lw_at lw_m8 0 rfl) rfl
theorem q1815 : (Jvm.Cond.soleField "TwinInkModel" "soonAll") ∈ lw_all := lw_g (lw_at lw_m8 1 rfl) rfl
theorem q1816 : (Jvm.Cond.lays "TwinInkModel" "TwinInkModel" "its0" "I") ∈ lw_all := lw_g (lw_at lw_m8 2 rfl) rfl
theorem q1817 : (Jvm.Cond.soleField "TwinInkModel" "its0") ∈ lw_all := lw_g (lw_at lw_m8 3 rfl) rfl
theorem q1818 : (Jvm.Cond.lays "TwinInkModel" "TwinInkModel" "hasImage" "Z") ∈ lw_all := lw_g (lw_at lw_m8 4 rfl) rfl
theorem q1819 : (Jvm.Cond.soleField "TwinInkModel" "hasImage") ∈ lw_all := lw_g (lw_at lw_m8 5 rfl) rfl
theorem q1820 : (Jvm.Cond.lays "TwinInkModel" "TwinInkModel" "imageActs" "I") ∈ lw_all := lw_g (lw_at lw_m8 6 rfl) rfl
theorem q1821 : (Jvm.Cond.soleField "TwinInkModel" "imageActs") ∈ lw_all := lw_g (lw_at lw_m8 7 rfl) rfl
theorem q1822 : (Jvm.Cond.lays "TwinInkModel" "TwinInkModel" "imageHeard" "I") ∈ lw_all := lw_g (lw_at lw_m8 8 rfl) rfl
theorem q1823 : (Jvm.Cond.soleField "TwinInkModel" "imageHeard") ∈ lw_all := lw_g (lw_at lw_m8 9 rfl) rfl
theorem q1824 : (Jvm.Cond.laysFinal "TwinInkModel" "TwinInkModel" "imageRow" "[I") ∈ lw_all := lw_g (lw_at lw_m8 10 rfl) rfl
theorem q1825 : (Jvm.Cond.soleField "TwinInkModel" "imageRow") ∈ lw_all := lw_g (lw_at lw_m8 11 rfl) rfl
theorem q1826 : (Jvm.Cond.laysFinal "TwinInkModel" "TwinInkModel" "imageAhead" "[I") ∈ lw_all := lw_g (lw_at lw_m8 12 rfl) rfl
theorem q1827 : (Jvm.Cond.soleField "TwinInkModel" "imageAhead") ∈ lw_all := lw_g (lw_at lw_m8 13 rfl) rfl
theorem q1828 : (Jvm.Cond.laysFinal "TwinInkModel" "TwinInkModel" "imageHears" "[I") ∈ lw_all := lw_g (lw_at lw_m8 14 rfl) rfl
theorem q1829 : (Jvm.Cond.soleField "TwinInkModel" "imageHears") ∈ lw_all := lw_g (lw_at lw_m8 15 rfl) rfl
theorem q1830 : (Jvm.Cond.superclass "TwinInkModel" "java/lang/Object") ∈ lw_all := lw_g (lw_at lw_m8 16 rfl) rfl
theorem q1833 : (Jvm.Cond.instanceMethod ({ cls := "TwinInkModel", name := "thrown", desc := "()I" } : Jvm.MethodName)) ∈ lw_all := lw_g (lw_at lw_m8 19 rfl) rfl
theorem q1834 : (Jvm.Cond.selects "TwinInkModel" ({ cls := "TwinInkModel", name := "thrown", desc := "()I" } : Jvm.MethodName) ({ cls := "TwinInkModel", name := "thrown", desc := "()I" } : Jvm.MethodName)) ∈ lw_all := lw_g (lw_at lw_m8 20 rfl) rfl
theorem q1835 : (Jvm.Cond.code ({ cls := "TwinInkModel", name := "thrown", desc := "()I" } : Jvm.MethodName) prog_12_method_2_code (1 : Nat) (Option.some Jvm.ClassFile.FieldType.int)) ∈ lw_all := lw_g (lw_at lw_m8 21 rfl) rfl
theorem q1837 : (Jvm.Cond.instanceMethod ({ cls := "TwinInkModel", name := "feed", desc := "(IIIII)I" } : Jvm.MethodName)) ∈ lw_all := lw_g (lw_at lw_m8 23 rfl) rfl
theorem q1838 : (Jvm.Cond.selects "TwinInkModel" ({ cls := "TwinInkModel", name := "feed", desc := "(IIIII)I" } : Jvm.MethodName) ({ cls := "TwinInkModel", name := "feed", desc := "(IIIII)I" } : Jvm.MethodName)) ∈ lw_all := lw_g (lw_at lw_m8 24 rfl) rfl
theorem q1839 : (Jvm.Cond.code ({ cls := "TwinInkModel", name := "feed", desc := "(IIIII)I" } : Jvm.MethodName) prog_12_method_8_code (6 : Nat) (Option.some Jvm.ClassFile.FieldType.int)) ∈ lw_all := lw_g (lw_at lw_m8 25 rfl) rfl
theorem q1840 : (Jvm.Cond.methodLink "TwinInkModel" (108 : Nat) ({ cls := "TwinInkModel", name := "lays", desc := "(I)V" } : Jvm.MethodName)) ∈ lw_all := lw_g (lw_at lw_m8 26 rfl) rfl
theorem q1841 : (Jvm.Cond.privateMethod ({ cls := "TwinInkModel", name := "lays", desc := "(I)V" } : Jvm.MethodName)) ∈ lw_tbl := lw_at lw_m8 27 rfl
theorem q1842 : (Jvm.Cond.instanceMethod ({ cls := "TwinInkModel", name := "lays", desc := "(I)V" } : Jvm.MethodName)) ∈ lw_all := lw_g (lw_at lw_m8 28 rfl) rfl
theorem q1843 : (Jvm.Cond.code ({ cls := "TwinInkModel", name := "lays", desc := "(I)V" } : Jvm.MethodName) prog_12_method_9_code (3 : Nat) (Option.none : Option Jvm.ClassFile.FieldType)) ∈ lw_all := lw_g (lw_at lw_m8 29 rfl) rfl
theorem q1845 : (Jvm.Cond.instanceMethod ({ cls := "TwinInkModel", name := "office", desc := "(I)I" } : Jvm.MethodName)) ∈ lw_all := lw_g (lw_at lw_m8 31 rfl) rfl
theorem q1846 : (Jvm.Cond.selects "TwinInkModel" ({ cls := "TwinInkModel", name := "office", desc := "(I)I" } : Jvm.MethodName) ({ cls := "TwinInkModel", name := "office", desc := "(I)I" } : Jvm.MethodName)) ∈ lw_all := lw_g (lw_at lw_m8 32 rfl) rfl
theorem q1847 : (Jvm.Cond.code ({ cls := "TwinInkModel", name := "office", desc := "(I)I" } : Jvm.MethodName) prog_12_method_40_code (3 : Nat) (Option.some Jvm.ClassFile.FieldType.int)) ∈ lw_all := lw_g (lw_at lw_m8 33 rfl) rfl
theorem q1848 : (Jvm.Cond.methodLink "TwinInkModel" (273 : Nat) ({ cls := "TwinInkModel", name := "right", desc := "(ZI)Z" } : Jvm.MethodName)) ∈ lw_all := lw_g (lw_at lw_m8 34 rfl) rfl
theorem q1849 : (Jvm.Cond.privateMethod ({ cls := "TwinInkModel", name := "right", desc := "(ZI)Z" } : Jvm.MethodName)) ∈ lw_tbl := lw_at lw_m8 35 rfl
theorem q1850 : (Jvm.Cond.instanceMethod ({ cls := "TwinInkModel", name := "right", desc := "(ZI)Z" } : Jvm.MethodName)) ∈ lw_all := lw_g (lw_at lw_m8 36 rfl) rfl
theorem q1851 : (Jvm.Cond.code ({ cls := "TwinInkModel", name := "right", desc := "(ZI)Z" } : Jvm.MethodName) prog_12_method_3_code (3 : Nat) (Option.some Jvm.ClassFile.FieldType.boolean)) ∈ lw_all := lw_g (lw_at lw_m8 37 rfl) rfl
theorem q1852 : (Jvm.Cond.methodLink "TwinInkModel" (165 : Nat) ({ cls := "TwinInkModel", name := "goes", desc := "()V" } : Jvm.MethodName)) ∈ lw_all := lw_g (lw_at lw_m8 38 rfl) rfl
theorem q1853 : (Jvm.Cond.privateMethod ({ cls := "TwinInkModel", name := "goes", desc := "()V" } : Jvm.MethodName)) ∈ lw_tbl := lw_at lw_m8 39 rfl
theorem q1854 : (Jvm.Cond.instanceMethod ({ cls := "TwinInkModel", name := "goes", desc := "()V" } : Jvm.MethodName)) ∈ lw_all := lw_g (lw_at lw_m8 40 rfl) rfl
theorem q1855 : (Jvm.Cond.code ({ cls := "TwinInkModel", name := "goes", desc := "()V" } : Jvm.MethodName) prog_12_method_13_code (2 : Nat) (Option.none : Option Jvm.ClassFile.FieldType)) ∈ lw_all := lw_g (lw_at lw_m8 41 rfl) rfl
theorem q1856 : (Jvm.Cond.methodLink "TwinInkModel" (118 : Nat) ({ cls := "TwinInkModel", name := "byteAt", desc := "(I)I" } : Jvm.MethodName)) ∈ lw_all := lw_g (lw_at lw_m8 42 rfl) rfl
theorem q1857 : (Jvm.Cond.privateMethod ({ cls := "TwinInkModel", name := "byteAt", desc := "(I)I" } : Jvm.MethodName)) ∈ lw_tbl := lw_at lw_m8 43 rfl
theorem q1858 : (Jvm.Cond.instanceMethod ({ cls := "TwinInkModel", name := "byteAt", desc := "(I)I" } : Jvm.MethodName)) ∈ lw_all := lw_g (lw_at lw_m8 44 rfl) rfl
theorem q1859 : (Jvm.Cond.code ({ cls := "TwinInkModel", name := "byteAt", desc := "(I)I" } : Jvm.MethodName) prog_12_method_10_code (2 : Nat) (Option.some Jvm.ClassFile.FieldType.int)) ∈ lw_all := lw_g (lw_at lw_m8 45 rfl) rfl
theorem q1860 : (Jvm.Cond.methodLink "TwinInkModel" (138 : Nat) ({ cls := "TwinInkModel", name := "isLetter", desc := "(I)Z" } : Jvm.MethodName)) ∈ lw_all := lw_g (lw_at lw_m8 46 rfl) rfl
theorem q1861 : (Jvm.Cond.static ({ cls := "TwinInkModel", name := "isLetter", desc := "(I)Z" } : Jvm.MethodName)) ∈ lw_all := lw_g (lw_at lw_m8 47 rfl) rfl
theorem q1862 : (Jvm.Cond.code ({ cls := "TwinInkModel", name := "isLetter", desc := "(I)Z" } : Jvm.MethodName) prog_12_method_11_code (1 : Nat) (Option.some Jvm.ClassFile.FieldType.boolean)) ∈ lw_all := lw_g (lw_at lw_m8 48 rfl) rfl
theorem q1863 : (Jvm.Cond.methodLink "TwinInkModel" (142 : Nat) ({ cls := "TwinInkModel", name := "isDigit", desc := "(I)Z" } : Jvm.MethodName)) ∈ lw_all := lw_g (lw_at lw_m8 49 rfl) rfl
theorem q1864 : (Jvm.Cond.static ({ cls := "TwinInkModel", name := "isDigit", desc := "(I)Z" } : Jvm.MethodName)) ∈ lw_all := lw_g (lw_at lw_m8 50 rfl) rfl
theorem q1865 : (Jvm.Cond.code ({ cls := "TwinInkModel", name := "isDigit", desc := "(I)Z" } : Jvm.MethodName) prog_12_method_12_code (1 : Nat) (Option.some Jvm.ClassFile.FieldType.boolean)) ∈ lw_all := lw_g (lw_at lw_m8 51 rfl) rfl
theorem q1866 : (Jvm.Cond.methodLink "TwinInkModel" (161 : Nat) ({ cls := "TwinInkModel", name := "isGood", desc := "()Z" } : Jvm.MethodName)) ∈ lw_all := lw_g (lw_at lw_m8 52 rfl) rfl
theorem q1867 : (Jvm.Cond.privateMethod ({ cls := "TwinInkModel", name := "isGood", desc := "()Z" } : Jvm.MethodName)) ∈ lw_tbl := lw_at lw_m8 53 rfl
theorem q1868 : (Jvm.Cond.instanceMethod ({ cls := "TwinInkModel", name := "isGood", desc := "()Z" } : Jvm.MethodName)) ∈ lw_all := lw_g (lw_at lw_m8 54 rfl) rfl
theorem q1869 : (Jvm.Cond.code ({ cls := "TwinInkModel", name := "isGood", desc := "()Z" } : Jvm.MethodName) prog_12_method_18_code (1 : Nat) (Option.some Jvm.ClassFile.FieldType.boolean)) ∈ lw_all := lw_g (lw_at lw_m8 55 rfl) rfl
theorem q1870 : (Jvm.Cond.methodLink "TwinInkModel" (277 : Nat) ({ cls := "TwinInkModel", name := "line", desc := "()V" } : Jvm.MethodName)) ∈ lw_all := lw_g (lw_at lw_m8 56 rfl) rfl
theorem q1871 : (Jvm.Cond.privateMethod ({ cls := "TwinInkModel", name := "line", desc := "()V" } : Jvm.MethodName)) ∈ lw_tbl := lw_at lw_m8 57 rfl
theorem q1872 : (Jvm.Cond.instanceMethod ({ cls := "TwinInkModel", name := "line", desc := "()V" } : Jvm.MethodName)) ∈ lw_all := lw_g (lw_at lw_m8 58 rfl) rfl
theorem q1873 : (Jvm.Cond.code ({ cls := "TwinInkModel", name := "line", desc := "()V" } : Jvm.MethodName) prog_12_method_39_code (2 : Nat) (Option.none : Option Jvm.ClassFile.FieldType)) ∈ lw_all := lw_g (lw_at lw_m8 59 rfl) rfl
theorem q1874 : (Jvm.Cond.methodLink "TwinInkModel" (186 : Nat) ({ cls := "TwinInkModel", name := "knownWord", desc := "()I" } : Jvm.MethodName)) ∈ lw_all := lw_g (lw_at lw_m8 60 rfl) rfl
theorem q1875 : (Jvm.Cond.privateMethod ({ cls := "TwinInkModel", name := "knownWord", desc := "()I" } : Jvm.MethodName)) ∈ lw_tbl := lw_at lw_m8 61 rfl
theorem q1876 : (Jvm.Cond.instanceMethod ({ cls := "TwinInkModel", name := "knownWord", desc := "()I" } : Jvm.MethodName)) ∈ lw_all := lw_g (lw_at lw_m8 62 rfl) rfl
theorem q1877 : (Jvm.Cond.code ({ cls := "TwinInkModel", name := "knownWord", desc := "()I" } : Jvm.MethodName) prog_12_method_16_code (2 : Nat) (Option.some Jvm.ClassFile.FieldType.int)) ∈ lw_all := lw_g (lw_at lw_m8 63 rfl) rfl
theorem q1878 : (Jvm.Cond.methodLink "TwinInkModel" (154 : Nat) ({ cls := "TwinInkModel", name := "letters", desc := "(I)J" } : Jvm.MethodName)) ∈ lw_all := lw_g (lw_at lw_m8 64 rfl) rfl
theorem q1879 : (Jvm.Cond.static ({ cls := "TwinInkModel", name := "letters", desc := "(I)J" } : Jvm.MethodName)) ∈ lw_all := lw_g (lw_at lw_m8 65 rfl) rfl
theorem q1880 : (Jvm.Cond.code ({ cls := "TwinInkModel", name := "letters", desc := "(I)J" } : Jvm.MethodName) prog_12_method_15_code (1 : Nat) (Option.some Jvm.ClassFile.FieldType.long)) ∈ lw_all := lw_g (lw_at lw_m8 66 rfl) rfl
theorem q1881 : (Jvm.Cond.methodLink "TwinInkModel" (150 : Nat) ({ cls := "TwinInkModel", name := "spelled", desc := "(IIIIII)J" } : Jvm.MethodName)) ∈ lw_all := lw_g (lw_at lw_m8 67 rfl) rfl
theorem q1882 : (Jvm.Cond.static ({ cls := "TwinInkModel", name := "spelled", desc := "(IIIIII)J" } : Jvm.MethodName)) ∈ lw_all := lw_g (lw_at lw_m8 68 rfl) rfl
theorem q1883 : (Jvm.Cond.code ({ cls := "TwinInkModel", name := "spelled", desc := "(IIIIII)J" } : Jvm.MethodName) prog_12_method_14_code (8 : Nat) (Option.some Jvm.ClassFile.FieldType.long)) ∈ lw_all := lw_g (lw_at lw_m8 69 rfl) rfl
theorem q1884 : (Jvm.Cond.constantLong "TwinInkModel" (148 : Nat) (96 : Int64)) ∈ lw_all := lw_g (lw_at lw_m8 70 rfl) rfl
theorem q1885 : (Jvm.Cond.methodLink "TwinInkModel" (244 : Nat) ({ cls := "TwinInkModel", name := "begins", desc := "(ZZ)Z" } : Jvm.MethodName)) ∈ lw_all := lw_g (lw_at lw_m8 71 rfl) rfl
theorem q1886 : (Jvm.Cond.privateMethod ({ cls := "TwinInkModel", name := "begins", desc := "(ZZ)Z" } : Jvm.MethodName)) ∈ lw_tbl := lw_at lw_m8 72 rfl
theorem q1887 : (Jvm.Cond.instanceMethod ({ cls := "TwinInkModel", name := "begins", desc := "(ZZ)Z" } : Jvm.MethodName)) ∈ lw_all := lw_g (lw_at lw_m8 73 rfl) rfl
theorem q1888 : (Jvm.Cond.code ({ cls := "TwinInkModel", name := "begins", desc := "(ZZ)Z" } : Jvm.MethodName) prog_12_method_34_code (3 : Nat) (Option.some Jvm.ClassFile.FieldType.boolean)) ∈ lw_all := lw_g (lw_at lw_m8 74 rfl) rfl
theorem q1889 : (Jvm.Cond.methodLink "TwinInkModel" (168 : Nat) ({ cls := "TwinInkModel", name := "wrong", desc := "(I)V" } : Jvm.MethodName)) ∈ lw_all := lw_g (lw_at lw_m8 75 rfl) rfl
theorem q1890 : (Jvm.Cond.privateMethod ({ cls := "TwinInkModel", name := "wrong", desc := "(I)V" } : Jvm.MethodName)) ∈ lw_tbl := lw_at lw_m8 76 rfl
theorem q1891 : (Jvm.Cond.instanceMethod ({ cls := "TwinInkModel", name := "wrong", desc := "(I)V" } : Jvm.MethodName)) ∈ lw_all := lw_g (lw_at lw_m8 77 rfl) rfl
theorem q1892 : (Jvm.Cond.code ({ cls := "TwinInkModel", name := "wrong", desc := "(I)V" } : Jvm.MethodName) prog_12_method_17_code (2 : Nat) (Option.none : Option Jvm.ClassFile.FieldType)) ∈ lw_all := lw_g (lw_at lw_m8 78 rfl) rfl
theorem q1893 : (Jvm.Cond.methodLink "TwinInkModel" (248 : Nat) ({ cls := "TwinInkModel", name := "readsSheet", desc := "()V" } : Jvm.MethodName)) ∈ lw_all := lw_g (lw_at lw_m8 79 rfl) rfl
theorem q1894 : (Jvm.Cond.privateMethod ({ cls := "TwinInkModel", name := "readsSheet", desc := "()V" } : Jvm.MethodName)) ∈ lw_tbl := lw_at lw_m8 80 rfl
theorem q1895 : (Jvm.Cond.instanceMethod ({ cls := "TwinInkModel", name := "readsSheet", desc := "()V" } : Jvm.MethodName)) ∈ lw_all := lw_g (lw_at lw_m8 81 rfl) rfl
theorem q1896 : (Jvm.Cond.code ({ cls := "TwinInkModel", name := "readsSheet", desc := "()V" } : Jvm.MethodName) prog_12_method_35_code (2 : Nat) (Option.none : Option Jvm.ClassFile.FieldType)) ∈ lw_all := lw_g (lw_at lw_m8 82 rfl) rfl
theorem q1897 : (Jvm.Cond.methodLink "TwinInkModel" (227 : Nat) ({ cls := "TwinInkModel", name := "number", desc := "(II)I" } : Jvm.MethodName)) ∈ lw_all := lw_g (lw_at lw_m8 83 rfl) rfl
theorem q1898 : (Jvm.Cond.privateMethod ({ cls := "TwinInkModel", name := "number", desc := "(II)I" } : Jvm.MethodName)) ∈ lw_tbl := lw_at lw_m8 84 rfl
theorem q1899 : (Jvm.Cond.instanceMethod ({ cls := "TwinInkModel", name := "number", desc := "(II)I" } : Jvm.MethodName)) ∈ lw_all := lw_g (lw_at lw_m8 85 rfl) rfl
theorem q1900 : (Jvm.Cond.code ({ cls := "TwinInkModel", name := "number", desc := "(II)I" } : Jvm.MethodName) prog_12_method_21_code (4 : Nat) (Option.some Jvm.ClassFile.FieldType.int)) ∈ lw_all := lw_g (lw_at lw_m8 86 rfl) rfl
theorem q1901 : (Jvm.Cond.methodLink "TwinInkModel" (251 : Nat) ({ cls := "TwinInkModel", name := "readsClerk", desc := "()V" } : Jvm.MethodName)) ∈ lw_all := lw_g (lw_at lw_m8 87 rfl) rfl
theorem q1902 : (Jvm.Cond.privateMethod ({ cls := "TwinInkModel", name := "readsClerk", desc := "()V" } : Jvm.MethodName)) ∈ lw_tbl := lw_at lw_m8 88 rfl
theorem q1903 : (Jvm.Cond.instanceMethod ({ cls := "TwinInkModel", name := "readsClerk", desc := "()V" } : Jvm.MethodName)) ∈ lw_all := lw_g (lw_at lw_m8 89 rfl) rfl
theorem q1904 : (Jvm.Cond.code ({ cls := "TwinInkModel", name := "readsClerk", desc := "()V" } : Jvm.MethodName) prog_12_method_36_code (5 : Nat) (Option.none : Option Jvm.ClassFile.FieldType)) ∈ lw_all := lw_g (lw_at lw_m8 90 rfl) rfl
theorem q1905 : (Jvm.Cond.methodLink "TwinInkModel" (254 : Nat) ({ cls := "TwinInkModel", name := "readsWord", desc := "()V" } : Jvm.MethodName)) ∈ lw_all := lw_g (lw_at lw_m8 91 rfl) rfl
theorem q1906 : (Jvm.Cond.privateMethod ({ cls := "TwinInkModel", name := "readsWord", desc := "()V" } : Jvm.MethodName)) ∈ lw_tbl := lw_at lw_m8 92 rfl
theorem q1907 : (Jvm.Cond.instanceMethod ({ cls := "TwinInkModel", name := "readsWord", desc := "()V" } : Jvm.MethodName)) ∈ lw_all := lw_g (lw_at lw_m8 93 rfl) rfl
theorem q1908 : (Jvm.Cond.code ({ cls := "TwinInkModel", name := "readsWord", desc := "()V" } : Jvm.MethodName) prog_12_method_38_code (2 : Nat) (Option.none : Option Jvm.ClassFile.FieldType)) ∈ lw_all := lw_g (lw_at lw_m8 94 rfl) rfl
theorem q1909 : (Jvm.Cond.methodLink "TwinInkModel" (237 : Nat) ({ cls := "TwinInkModel", name := "amongHere", desc := "(I)Z" } : Jvm.MethodName)) ∈ lw_all := lw_g (lw_at lw_m8 95 rfl) rfl
theorem q1910 : (Jvm.Cond.privateMethod ({ cls := "TwinInkModel", name := "amongHere", desc := "(I)Z" } : Jvm.MethodName)) ∈ lw_tbl := lw_at lw_m8 96 rfl
theorem q1911 : (Jvm.Cond.instanceMethod ({ cls := "TwinInkModel", name := "amongHere", desc := "(I)Z" } : Jvm.MethodName)) ∈ lw_all := lw_g (lw_at lw_m8 97 rfl) rfl
theorem q1912 : (Jvm.Cond.code ({ cls := "TwinInkModel", name := "amongHere", desc := "(I)Z" } : Jvm.MethodName) prog_12_method_22_code (2 : Nat) (Option.some Jvm.ClassFile.FieldType.boolean)) ∈ lw_all := lw_g (lw_at lw_m8 98 rfl) rfl
theorem q1913 : (Jvm.Cond.methodLink "TwinInkModel" (240 : Nat) ({ cls := "TwinInkModel", name := "isWordOf", desc := "(II)Z" } : Jvm.MethodName)) ∈ lw_all := lw_g (lw_at lw_m8 99 rfl) rfl
theorem q1914 : (Jvm.Cond.privateMethod ({ cls := "TwinInkModel", name := "isWordOf", desc := "(II)Z" } : Jvm.MethodName)) ∈ lw_tbl := lw_at lw_m8 100 rfl
theorem q1915 : (Jvm.Cond.instanceMethod ({ cls := "TwinInkModel", name := "isWordOf", desc := "(II)Z" } : Jvm.MethodName)) ∈ lw_all := lw_g (lw_at lw_m8 101 rfl) rfl
theorem q1916 : (Jvm.Cond.code ({ cls := "TwinInkModel", name := "isWordOf", desc := "(II)Z" } : Jvm.MethodName) prog_12_method_37_code (4 : Nat) (Option.some Jvm.ClassFile.FieldType.boolean)) ∈ lw_all := lw_g (lw_at lw_m8 102 rfl) rfl
theorem q1917 : (Jvm.Cond.methodLink "TwinInkModel" (263 : Nat) ({ cls := "TwinInkModel", name := "expression", desc := "(II)V" } : Jvm.MethodName)) ∈ lw_all := lw_g (lw_at lw_m8 103 rfl) rfl
theorem q1918 : (Jvm.Cond.privateMethod ({ cls := "TwinInkModel", name := "expression", desc := "(II)V" } : Jvm.MethodName)) ∈ lw_tbl := lw_at lw_m8 104 rfl
theorem q1919 : (Jvm.Cond.instanceMethod ({ cls := "TwinInkModel", name := "expression", desc := "(II)V" } : Jvm.MethodName)) ∈ lw_all := lw_g (lw_at lw_m8 105 rfl) rfl
theorem q1920 : (Jvm.Cond.code ({ cls := "TwinInkModel", name := "expression", desc := "(II)V" } : Jvm.MethodName) prog_12_method_33_code (5 : Nat) (Option.none : Option Jvm.ClassFile.FieldType)) ∈ lw_all := lw_g (lw_at lw_m8 106 rfl) rfl
theorem q1921 : (Jvm.Cond.methodLink "TwinInkModel" (205 : Nat) ({ cls := "TwinInkModel", name := "deeper", desc := "()V" } : Jvm.MethodName)) ∈ lw_all := lw_g (lw_at lw_m8 107 rfl) rfl
theorem q1922 : (Jvm.Cond.privateMethod ({ cls := "TwinInkModel", name := "deeper", desc := "()V" } : Jvm.MethodName)) ∈ lw_tbl := lw_at lw_m8 108 rfl
theorem q1923 : (Jvm.Cond.instanceMethod ({ cls := "TwinInkModel", name := "deeper", desc := "()V" } : Jvm.MethodName)) ∈ lw_all := lw_g (lw_at lw_m8 109 rfl) rfl
theorem q1924 : (Jvm.Cond.code ({ cls := "TwinInkModel", name := "deeper", desc := "()V" } : Jvm.MethodName) prog_12_method_29_code (1 : Nat) (Option.none : Option Jvm.ClassFile.FieldType)) ∈ lw_all := lw_g (lw_at lw_m8 110 rfl) rfl
theorem q1925 : (Jvm.Cond.methodLink "TwinInkModel" (199 : Nat) ({ cls := "TwinInkModel", name := "isSign", desc := "(I)Z" } : Jvm.MethodName)) ∈ lw_all := lw_g (lw_at lw_m8 111 rfl) rfl
theorem q1926 : (Jvm.Cond.privateMethod ({ cls := "TwinInkModel", name := "isSign", desc := "(I)Z" } : Jvm.MethodName)) ∈ lw_tbl := lw_at lw_m8 112 rfl
theorem q1927 : (Jvm.Cond.instanceMethod ({ cls := "TwinInkModel", name := "isSign", desc := "(I)Z" } : Jvm.MethodName)) ∈ lw_all := lw_g (lw_at lw_m8 113 rfl) rfl
theorem q1928 : (Jvm.Cond.code ({ cls := "TwinInkModel", name := "isSign", desc := "(I)Z" } : Jvm.MethodName) prog_12_method_19_code (2 : Nat) (Option.some Jvm.ClassFile.FieldType.boolean)) ∈ lw_all := lw_g (lw_at lw_m8 114 rfl) rfl
theorem q1929 : (Jvm.Cond.methodLink "TwinInkModel" (214 : Nat) ({ cls := "TwinInkModel", name := "operand", desc := "(Z)V" } : Jvm.MethodName)) ∈ lw_all := lw_g (lw_at lw_m8 115 rfl) rfl
theorem q1930 : (Jvm.Cond.privateMethod ({ cls := "TwinInkModel", name := "operand", desc := "(Z)V" } : Jvm.MethodName)) ∈ lw_tbl := lw_at lw_m8 116 rfl
theorem q1931 : (Jvm.Cond.instanceMethod ({ cls := "TwinInkModel", name := "operand", desc := "(Z)V" } : Jvm.MethodName)) ∈ lw_all := lw_g (lw_at lw_m8 117 rfl) rfl
theorem q1932 : (Jvm.Cond.code ({ cls := "TwinInkModel", name := "operand", desc := "(Z)V" } : Jvm.MethodName) prog_12_method_30_code (5 : Nat) (Option.none : Option Jvm.ClassFile.FieldType)) ∈ lw_all := lw_g (lw_at lw_m8 118 rfl) rfl
theorem q1933 : (Jvm.Cond.methodLink "TwinInkModel" (202 : Nat) ({ cls := "TwinInkModel", name := "waitsFor", desc := "(I)V" } : Jvm.MethodName)) ∈ lw_all := lw_g (lw_at lw_m8 119 rfl) rfl
theorem q1934 : (Jvm.Cond.privateMethod ({ cls := "TwinInkModel", name := "waitsFor", desc := "(I)V" } : Jvm.MethodName)) ∈ lw_tbl := lw_at lw_m8 120 rfl
theorem q1935 : (Jvm.Cond.instanceMethod ({ cls := "TwinInkModel", name := "waitsFor", desc := "(I)V" } : Jvm.MethodName)) ∈ lw_all := lw_g (lw_at lw_m8 121 rfl) rfl
theorem q1936 : (Jvm.Cond.code ({ cls := "TwinInkModel", name := "waitsFor", desc := "(I)V" } : Jvm.MethodName) prog_12_method_27_code (2 : Nat) (Option.none : Option Jvm.ClassFile.FieldType)) ∈ lw_all := lw_g (lw_at lw_m8 122 rfl) rfl
theorem q1937 : (Jvm.Cond.methodLink "TwinInkModel" (208 : Nat) ({ cls := "TwinInkModel", name := "part", desc := "()V" } : Jvm.MethodName)) ∈ lw_all := lw_g (lw_at lw_m8 123 rfl) rfl
theorem q1938 : (Jvm.Cond.privateMethod ({ cls := "TwinInkModel", name := "part", desc := "()V" } : Jvm.MethodName)) ∈ lw_tbl := lw_at lw_m8 124 rfl
theorem q1939 : (Jvm.Cond.instanceMethod ({ cls := "TwinInkModel", name := "part", desc := "()V" } : Jvm.MethodName)) ∈ lw_all := lw_g (lw_at lw_m8 125 rfl) rfl
theorem q1940 : (Jvm.Cond.code ({ cls := "TwinInkModel", name := "part", desc := "()V" } : Jvm.MethodName) prog_12_method_28_code (2 : Nat) (Option.none : Option Jvm.ClassFile.FieldType)) ∈ lw_all := lw_g (lw_at lw_m8 126 rfl) rfl
theorem q1941 : (Jvm.Cond.methodLink "TwinInkModel" (183 : Nat) ({ cls := "TwinInkModel", name := "puts", desc := "(I)V" } : Jvm.MethodName)) ∈ lw_all := lw_g (lw_at lw_m8 127 rfl) rfl
theorem q1942 : (Jvm.Cond.privateMethod ({ cls := "TwinInkModel", name := "puts", desc := "(I)V" } : Jvm.MethodName)) ∈ lw_tbl := lw_at lw_m8 128 rfl
theorem q1943 : (Jvm.Cond.instanceMethod ({ cls := "TwinInkModel", name := "puts", desc := "(I)V" } : Jvm.MethodName)) ∈ lw_all := lw_g (lw_at lw_m8 129 rfl) rfl
theorem q1944 : (Jvm.Cond.code ({ cls := "TwinInkModel", name := "puts", desc := "(I)V" } : Jvm.MethodName) prog_12_method_23_code (2 : Nat) (Option.none : Option Jvm.ClassFile.FieldType)) ∈ lw_all := lw_g (lw_at lw_m8 130 rfl) rfl
theorem q1945 : (Jvm.Cond.methodLink "TwinInkModel" (211 : Nat) ({ cls := "TwinInkModel", name := "drops", desc := "(I)V" } : Jvm.MethodName)) ∈ lw_all := lw_g (lw_at lw_m8 131 rfl) rfl
theorem q1946 : (Jvm.Cond.privateMethod ({ cls := "TwinInkModel", name := "drops", desc := "(I)V" } : Jvm.MethodName)) ∈ lw_tbl := lw_at lw_m8 132 rfl
theorem q1947 : (Jvm.Cond.instanceMethod ({ cls := "TwinInkModel", name := "drops", desc := "(I)V" } : Jvm.MethodName)) ∈ lw_all := lw_g (lw_at lw_m8 133 rfl) rfl
theorem q1948 : (Jvm.Cond.code ({ cls := "TwinInkModel", name := "drops", desc := "(I)V" } : Jvm.MethodName) prog_12_method_26_code (2 : Nat) (Option.none : Option Jvm.ClassFile.FieldType)) ∈ lw_all := lw_g (lw_at lw_m8 134 rfl) rfl
theorem q1949 : (Jvm.Cond.methodLink "TwinInkModel" (177 : Nat) ({ cls := "TwinInkModel", name := "isOpen", desc := "(I)Z" } : Jvm.MethodName)) ∈ lw_all := lw_g (lw_at lw_m8 135 rfl) rfl
theorem q1950 : (Jvm.Cond.static ({ cls := "TwinInkModel", name := "isOpen", desc := "(I)Z" } : Jvm.MethodName)) ∈ lw_all := lw_g (lw_at lw_m8 136 rfl) rfl
theorem q1951 : (Jvm.Cond.code ({ cls := "TwinInkModel", name := "isOpen", desc := "(I)Z" } : Jvm.MethodName) prog_12_method_24_code (1 : Nat) (Option.some Jvm.ClassFile.FieldType.boolean)) ∈ lw_all := lw_g (lw_at lw_m8 137 rfl) rfl
theorem q1952 : (Jvm.Cond.methodLink "TwinInkModel" (180 : Nat) ({ cls := "TwinInkModel", name := "strength", desc := "(I)I" } : Jvm.MethodName)) ∈ lw_all := lw_g (lw_at lw_m8 138 rfl) rfl
theorem q1953 : (Jvm.Cond.static ({ cls := "TwinInkModel", name := "strength", desc := "(I)I" } : Jvm.MethodName)) ∈ lw_all := lw_g (lw_at lw_m8 139 rfl) rfl
theorem q1954 : (Jvm.Cond.code ({ cls := "TwinInkModel", name := "strength", desc := "(I)I" } : Jvm.MethodName) prog_12_method_25_code (1 : Nat) (Option.some Jvm.ClassFile.FieldType.int)) ∈ lw_all := lw_g (lw_at lw_m8 140 rfl) rfl
theorem q1955 : (Jvm.Cond.methodLink "TwinInkModel" (218 : Nat) ({ cls := "TwinInkModel", name := "isOpened", desc := "()Z" } : Jvm.MethodName)) ∈ lw_all := lw_g (lw_at lw_m8 141 rfl) rfl
theorem q1956 : (Jvm.Cond.privateMethod ({ cls := "TwinInkModel", name := "isOpened", desc := "()Z" } : Jvm.MethodName)) ∈ lw_tbl := lw_at lw_m8 142 rfl
theorem q1957 : (Jvm.Cond.instanceMethod ({ cls := "TwinInkModel", name := "isOpened", desc := "()Z" } : Jvm.MethodName)) ∈ lw_all := lw_g (lw_at lw_m8 143 rfl) rfl
theorem q1958 : (Jvm.Cond.code ({ cls := "TwinInkModel", name := "isOpened", desc := "()Z" } : Jvm.MethodName) prog_12_method_31_code (2 : Nat) (Option.some Jvm.ClassFile.FieldType.boolean)) ∈ lw_all := lw_g (lw_at lw_m8 144 rfl) rfl
theorem q1959 : (Jvm.Cond.methodLink "TwinInkModel" (221 : Nat) ({ cls := "TwinInkModel", name := "closes", desc := "()V" } : Jvm.MethodName)) ∈ lw_all := lw_g (lw_at lw_m8 145 rfl) rfl
theorem q1960 : (Jvm.Cond.privateMethod ({ cls := "TwinInkModel", name := "closes", desc := "()V" } : Jvm.MethodName)) ∈ lw_tbl := lw_at lw_m8 146 rfl
theorem q1961 : (Jvm.Cond.instanceMethod ({ cls := "TwinInkModel", name := "closes", desc := "()V" } : Jvm.MethodName)) ∈ lw_all := lw_g (lw_at lw_m8 147 rfl) rfl
theorem q1962 : (Jvm.Cond.code ({ cls := "TwinInkModel", name := "closes", desc := "()V" } : Jvm.MethodName) prog_12_method_32_code (1 : Nat) (Option.none : Option Jvm.ClassFile.FieldType)) ∈ lw_all := lw_g (lw_at lw_m8 148 rfl) rfl
theorem q1963 : (Jvm.Cond.methodLink "TwinInkModel" (270 : Nat) ({ cls := "TwinInkModel", name := "need", desc := "(Z)V" } : Jvm.MethodName)) ∈ lw_all := lw_g (lw_at lw_m8 149 rfl) rfl
theorem q1964 : (Jvm.Cond.privateMethod ({ cls := "TwinInkModel", name := "need", desc := "(Z)V" } : Jvm.MethodName)) ∈ lw_tbl := lw_at lw_m8 150 rfl
theorem q1965 : (Jvm.Cond.instanceMethod ({ cls := "TwinInkModel", name := "need", desc := "(Z)V" } : Jvm.MethodName)) ∈ lw_all := lw_g (lw_at lw_m8 151 rfl) rfl
theorem q1966 : (Jvm.Cond.code ({ cls := "TwinInkModel", name := "need", desc := "(Z)V" } : Jvm.MethodName) prog_12_method_20_code (2 : Nat) (Option.none : Option Jvm.ClassFile.FieldType)) ∈ lw_all := lw_g (lw_at lw_m8 152 rfl) rfl
theorem q1967 : (Jvm.Cond.methodLink "TwinInkModel" (292 : Nat) ({ cls := "TwinInkModel", name := "copies", desc := "([I[I)V" } : Jvm.MethodName)) ∈ lw_all := lw_g (lw_at lw_m8 153 rfl) rfl
theorem q1968 : (Jvm.Cond.privateMethod ({ cls := "TwinInkModel", name := "copies", desc := "([I[I)V" } : Jvm.MethodName)) ∈ lw_tbl := lw_at lw_m8 154 rfl
theorem q1969 : (Jvm.Cond.instanceMethod ({ cls := "TwinInkModel", name := "copies", desc := "([I[I)V" } : Jvm.MethodName)) ∈ lw_all := lw_g (lw_at lw_m8 155 rfl) rfl
theorem q1970 : (Jvm.Cond.code ({ cls := "TwinInkModel", name := "copies", desc := "([I[I)V" } : Jvm.MethodName) prog_12_method_6_code (4 : Nat) (Option.none : Option Jvm.ClassFile.FieldType)) ∈ lw_all := lw_g (lw_at lw_m8 156 rfl) rfl
theorem q1972 : (Jvm.Cond.instanceMethod ({ cls := "TwinInkModel", name := "fault", desc := "()I" } : Jvm.MethodName)) ∈ lw_all := lw_g (lw_at lw_m8 158 rfl) rfl
theorem q1973 : (Jvm.Cond.selects "TwinInkModel" ({ cls := "TwinInkModel", name := "fault", desc := "()I" } : Jvm.MethodName) ({ cls := "TwinInkModel", name := "fault", desc := "()I" } : Jvm.MethodName)) ∈ lw_all := lw_g (lw_at lw_m8 159 rfl) rfl
theorem q1974 : (Jvm.Cond.code ({ cls := "TwinInkModel", name := "fault", desc := "()I" } : Jvm.MethodName) prog_12_method_41_code (1 : Nat) (Option.some Jvm.ClassFile.FieldType.int)) ∈ lw_all := lw_g (lw_at lw_m8 160 rfl) rfl
theorem q1976 : (Jvm.Cond.instanceMethod ({ cls := "TwinInkModel", name := "undo", desc := "()I" } : Jvm.MethodName)) ∈ lw_all := lw_g (lw_at lw_m8 162 rfl) rfl
theorem q1977 : (Jvm.Cond.selects "TwinInkModel" ({ cls := "TwinInkModel", name := "undo", desc := "()I" } : Jvm.MethodName) ({ cls := "TwinInkModel", name := "undo", desc := "()I" } : Jvm.MethodName)) ∈ lw_all := lw_g (lw_at lw_m8 163 rfl) rfl
theorem q1978 : (Jvm.Cond.code ({ cls := "TwinInkModel", name := "undo", desc := "()I" } : Jvm.MethodName) prog_12_method_44_code (2 : Nat) (Option.some Jvm.ClassFile.FieldType.int)) ∈ lw_all := lw_g (lw_at lw_m8 164 rfl) rfl
theorem q1980 : (Jvm.Cond.instanceMethod ({ cls := "TwinInkModel", name := "count", desc := "(I)I" } : Jvm.MethodName)) ∈ lw_all := lw_g (lw_at lw_m8 166 rfl) rfl
theorem q1981 : (Jvm.Cond.selects "TwinInkModel" ({ cls := "TwinInkModel", name := "count", desc := "(I)I" } : Jvm.MethodName) ({ cls := "TwinInkModel", name := "count", desc := "(I)I" } : Jvm.MethodName)) ∈ lw_all := lw_g (lw_at lw_m8 167 rfl) rfl
theorem q1982 : (Jvm.Cond.code ({ cls := "TwinInkModel", name := "count", desc := "(I)I" } : Jvm.MethodName) prog_12_method_67_code (2 : Nat) (Option.some Jvm.ClassFile.FieldType.int)) ∈ lw_all := lw_g (lw_at lw_m8 168 rfl) rfl
theorem q1983 : (Jvm.Cond.methodLink "TwinInkModel" (363 : Nat) ({ cls := "TwinInkModel", name := "within", desc := "(III)Z" } : Jvm.MethodName)) ∈ lw_all := lw_g (lw_at lw_m8 169 rfl) rfl
theorem q1984 : (Jvm.Cond.static ({ cls := "TwinInkModel", name := "within", desc := "(III)Z" } : Jvm.MethodName)) ∈ lw_all := lw_g (lw_at lw_m8 170 rfl) rfl
theorem q1985 : (Jvm.Cond.code ({ cls := "TwinInkModel", name := "within", desc := "(III)Z" } : Jvm.MethodName) prog_12_method_4_code (3 : Nat) (Option.some Jvm.ClassFile.FieldType.boolean)) ∈ lw_all := lw_g (lw_at lw_m8 171 rfl) rfl
theorem q1986 : (Jvm.Cond.methodLink "TwinInkModel" (366 : Nat) ({ cls := "TwinInkModel", name := "burntOnes", desc := "()I" } : Jvm.MethodName)) ∈ lw_all := lw_g (lw_at lw_m8 172 rfl) rfl
theorem q1987 : (Jvm.Cond.privateMethod ({ cls := "TwinInkModel", name := "burntOnes", desc := "()I" } : Jvm.MethodName)) ∈ lw_tbl := lw_at lw_m8 173 rfl
theorem q1988 : (Jvm.Cond.instanceMethod ({ cls := "TwinInkModel", name := "burntOnes", desc := "()I" } : Jvm.MethodName)) ∈ lw_all := lw_g (lw_at lw_m8 174 rfl) rfl
theorem q1989 : (Jvm.Cond.code ({ cls := "TwinInkModel", name := "burntOnes", desc := "()I" } : Jvm.MethodName) prog_12_method_64_code (3 : Nat) (Option.some Jvm.ClassFile.FieldType.int)) ∈ lw_all := lw_g (lw_at lw_m8 175 rfl) rfl
theorem q1990 : (Jvm.Cond.methodLink "TwinInkModel" (319 : Nat) ({ cls := "TwinInkModel", name := "isBurnt", desc := "(II)Z" } : Jvm.MethodName)) ∈ lw_all := lw_g (lw_at lw_m8 176 rfl) rfl
theorem q1991 : (Jvm.Cond.privateMethod ({ cls := "TwinInkModel", name := "isBurnt", desc := "(II)Z" } : Jvm.MethodName)) ∈ lw_tbl := lw_at lw_m8 177 rfl
theorem q1992 : (Jvm.Cond.instanceMethod ({ cls := "TwinInkModel", name := "isBurnt", desc := "(II)Z" } : Jvm.MethodName)) ∈ lw_all := lw_g (lw_at lw_m8 178 rfl) rfl
theorem q1993 : (Jvm.Cond.code ({ cls := "TwinInkModel", name := "isBurnt", desc := "(II)Z" } : Jvm.MethodName) prog_12_method_50_code (3 : Nat) (Option.some Jvm.ClassFile.FieldType.boolean)) ∈ lw_all := lw_g (lw_at lw_m8 179 rfl) rfl
theorem q1994 : (Jvm.Cond.methodLink "TwinInkModel" (369 : Nat) ({ cls := "TwinInkModel", name := "borneOnes", desc := "(I)I" } : Jvm.MethodName)) ∈ lw_all := lw_g (lw_at lw_m8 180 rfl) rfl
theorem q1995 : (Jvm.Cond.privateMethod ({ cls := "TwinInkModel", name := "borneOnes", desc := "(I)I" } : Jvm.MethodName)) ∈ lw_tbl := lw_at lw_m8 181 rfl
theorem q1996 : (Jvm.Cond.instanceMethod ({ cls := "TwinInkModel", name := "borneOnes", desc := "(I)I" } : Jvm.MethodName)) ∈ lw_all := lw_g (lw_at lw_m8 182 rfl) rfl
theorem q1997 : (Jvm.Cond.code ({ cls := "TwinInkModel", name := "borneOnes", desc := "(I)I" } : Jvm.MethodName) prog_12_method_65_code (4 : Nat) (Option.some Jvm.ClassFile.FieldType.int)) ∈ lw_all := lw_g (lw_at lw_m8 183 rfl) rfl
theorem q1998 : (Jvm.Cond.methodLink "TwinInkModel" (372 : Nat) ({ cls := "TwinInkModel", name := "everybody", desc := "()I" } : Jvm.MethodName)) ∈ lw_all := lw_g (lw_at lw_m8 184 rfl) rfl
theorem q1999 : (Jvm.Cond.privateMethod ({ cls := "TwinInkModel", name := "everybody", desc := "()I" } : Jvm.MethodName)) ∈ lw_tbl := lw_at lw_m8 185 rfl
theorem q2000 : (Jvm.Cond.instanceMethod ({ cls := "TwinInkModel", name := "everybody", desc := "()I" } : Jvm.MethodName)) ∈ lw_all := lw_g (lw_at lw_m8 186 rfl) rfl
theorem q2001 : (Jvm.Cond.code ({ cls := "TwinInkModel", name := "everybody", desc := "()I" } : Jvm.MethodName) prog_12_method_63_code (1 : Nat) (Option.some Jvm.ClassFile.FieldType.int)) ∈ lw_all := lw_g (lw_at lw_m8 187 rfl) rfl
theorem q2002 : (Jvm.Cond.methodLink "TwinInkModel" (338 : Nat) ({ cls := "TwinInkModel", name := "knownBy", desc := "(II)I" } : Jvm.MethodName)) ∈ lw_all := lw_g (lw_at lw_m8 188 rfl) rfl
theorem q2003 : (Jvm.Cond.privateMethod ({ cls := "TwinInkModel", name := "knownBy", desc := "(II)I" } : Jvm.MethodName)) ∈ lw_tbl := lw_at lw_m8 189 rfl
theorem q2004 : (Jvm.Cond.instanceMethod ({ cls := "TwinInkModel", name := "knownBy", desc := "(II)I" } : Jvm.MethodName)) ∈ lw_all := lw_g (lw_at lw_m8 190 rfl) rfl
theorem q2005 : (Jvm.Cond.code ({ cls := "TwinInkModel", name := "knownBy", desc := "(II)I" } : Jvm.MethodName) prog_12_method_57_code (5 : Nat) (Option.some Jvm.ClassFile.FieldType.int)) ∈ lw_all := lw_g (lw_at lw_m8 191 rfl) rfl
theorem q2006 : (Jvm.Cond.methodLink "TwinInkModel" (375 : Nat) ({ cls := "TwinInkModel", name := "couples", desc := "()I" } : Jvm.MethodName)) ∈ lw_all := lw_g (lw_at lw_m8 192 rfl) rfl
theorem q2007 : (Jvm.Cond.privateMethod ({ cls := "TwinInkModel", name := "couples", desc := "()I" } : Jvm.MethodName)) ∈ lw_tbl := lw_at lw_m8 193 rfl
theorem q2008 : (Jvm.Cond.instanceMethod ({ cls := "TwinInkModel", name := "couples", desc := "()I" } : Jvm.MethodName)) ∈ lw_all := lw_g (lw_at lw_m8 194 rfl) rfl
theorem q2009 : (Jvm.Cond.code ({ cls := "TwinInkModel", name := "couples", desc := "()I" } : Jvm.MethodName) prog_12_method_66_code (6 : Nat) (Option.some Jvm.ClassFile.FieldType.int)) ∈ lw_all := lw_g (lw_at lw_m8 195 rfl) rfl
theorem q2010 : (Jvm.Cond.methodLink "TwinInkModel" (331 : Nat) ({ cls := "TwinInkModel", name := "doesFit", desc := "(III)Z" } : Jvm.MethodName)) ∈ lw_all := lw_g (lw_at lw_m8 196 rfl) rfl
theorem q2011 : (Jvm.Cond.privateMethod ({ cls := "TwinInkModel", name := "doesFit", desc := "(III)Z" } : Jvm.MethodName)) ∈ lw_tbl := lw_at lw_m8 197 rfl
theorem q2012 : (Jvm.Cond.instanceMethod ({ cls := "TwinInkModel", name := "doesFit", desc := "(III)Z" } : Jvm.MethodName)) ∈ lw_all := lw_g (lw_at lw_m8 198 rfl) rfl
theorem q2013 : (Jvm.Cond.code ({ cls := "TwinInkModel", name := "doesFit", desc := "(III)Z" } : Jvm.MethodName) prog_12_method_53_code (4 : Nat) (Option.some Jvm.ClassFile.FieldType.boolean)) ∈ lw_all := lw_g (lw_at lw_m8 199 rfl) rfl
theorem q2014 : (Jvm.Cond.methodLink "TwinInkModel" (322 : Nat) ({ cls := "TwinInkModel", name := "offBy", desc := "(III)I" } : Jvm.MethodName)) ∈ lw_all := lw_g (lw_at lw_m8 200 rfl) rfl
theorem q2015 : (Jvm.Cond.privateMethod ({ cls := "TwinInkModel", name := "offBy", desc := "(III)I" } : Jvm.MethodName)) ∈ lw_tbl := lw_at lw_m8 201 rfl
theorem q2016 : (Jvm.Cond.instanceMethod ({ cls := "TwinInkModel", name := "offBy", desc := "(III)I" } : Jvm.MethodName)) ∈ lw_all := lw_g (lw_at lw_m8 202 rfl) rfl
theorem q2017 : (Jvm.Cond.code ({ cls := "TwinInkModel", name := "offBy", desc := "(III)I" } : Jvm.MethodName) prog_12_method_52_code (4 : Nat) (Option.some Jvm.ClassFile.FieldType.int)) ∈ lw_all := lw_g (lw_at lw_m8 203 rfl) rfl
theorem q2018 : (Jvm.Cond.methodLink "TwinInkModel" (316 : Nat) ({ cls := "TwinInkModel", name := "bits", desc := "(I)I" } : Jvm.MethodName)) ∈ lw_all := lw_g (lw_at lw_m8 204 rfl) rfl
theorem q2019 : (Jvm.Cond.static ({ cls := "TwinInkModel", name := "bits", desc := "(I)I" } : Jvm.MethodName)) ∈ lw_all := lw_g (lw_at lw_m8 205 rfl) rfl
theorem q2020 : (Jvm.Cond.code ({ cls := "TwinInkModel", name := "bits", desc := "(I)I" } : Jvm.MethodName) prog_12_method_7_code (3 : Nat) (Option.some Jvm.ClassFile.FieldType.int)) ∈ lw_all := lw_g (lw_at lw_m8 206 rfl) rfl
theorem q2021 : (Jvm.Cond.methodLink "TwinInkModel" (360 : Nat) ({ cls := "TwinInkModel", name := "greater", desc := "(II)I" } : Jvm.MethodName)) ∈ lw_all := lw_g (lw_at lw_m8 207 rfl) rfl
theorem q2022 : (Jvm.Cond.static ({ cls := "TwinInkModel", name := "greater", desc := "(II)I" } : Jvm.MethodName)) ∈ lw_all := lw_g (lw_at lw_m8 208 rfl) rfl
theorem q2023 : (Jvm.Cond.code ({ cls := "TwinInkModel", name := "greater", desc := "(II)I" } : Jvm.MethodName) prog_12_method_5_code (2 : Nat) (Option.some Jvm.ClassFile.FieldType.int)) ∈ lw_all := lw_g (lw_at lw_m8 209 rfl) rfl
theorem q2025 : (Jvm.Cond.instanceMethod ({ cls := "TwinInkModel", name := "sheet", desc := "(II)I" } : Jvm.MethodName)) ∈ lw_all := lw_g (lw_at lw_m8 211 rfl) rfl
theorem q2026 : (Jvm.Cond.selects "TwinInkModel" ({ cls := "TwinInkModel", name := "sheet", desc := "(II)I" } : Jvm.MethodName) ({ cls := "TwinInkModel", name := "sheet", desc := "(II)I" } : Jvm.MethodName)) ∈ lw_all := lw_g (lw_at lw_m8 212 rfl) rfl
theorem q2027 : (Jvm.Cond.code ({ cls := "TwinInkModel", name := "sheet", desc := "(II)I" } : Jvm.MethodName) prog_12_method_75_code (3 : Nat) (Option.some Jvm.ClassFile.FieldType.int)) ∈ lw_all := lw_g (lw_at lw_m8 213 rfl) rfl
theorem q2028 : (Jvm.Cond.methodLink "TwinInkModel" (378 : Nat) ({ cls := "TwinInkModel", name := "isSheet", desc := "(I)Z" } : Jvm.MethodName)) ∈ lw_all := lw_g (lw_at lw_m8 214 rfl) rfl
theorem q2029 : (Jvm.Cond.privateMethod ({ cls := "TwinInkModel", name := "isSheet", desc := "(I)Z" } : Jvm.MethodName)) ∈ lw_tbl := lw_at lw_m8 215 rfl
theorem q2030 : (Jvm.Cond.instanceMethod ({ cls := "TwinInkModel", name := "isSheet", desc := "(I)Z" } : Jvm.MethodName)) ∈ lw_all := lw_g (lw_at lw_m8 216 rfl) rfl
theorem q2031 : (Jvm.Cond.code ({ cls := "TwinInkModel", name := "isSheet", desc := "(I)Z" } : Jvm.MethodName) prog_12_method_68_code (2 : Nat) (Option.some Jvm.ClassFile.FieldType.boolean)) ∈ lw_all := lw_g (lw_at lw_m8 217 rfl) rfl
theorem q2032 : (Jvm.Cond.methodLink "TwinInkModel" (381 : Nat) ({ cls := "TwinInkModel", name := "isWhat", desc := "(II)Z" } : Jvm.MethodName)) ∈ lw_all := lw_g (lw_at lw_m8 218 rfl) rfl
theorem q2033 : (Jvm.Cond.privateMethod ({ cls := "TwinInkModel", name := "isWhat", desc := "(II)Z" } : Jvm.MethodName)) ∈ lw_tbl := lw_at lw_m8 219 rfl
theorem q2034 : (Jvm.Cond.instanceMethod ({ cls := "TwinInkModel", name := "isWhat", desc := "(II)Z" } : Jvm.MethodName)) ∈ lw_all := lw_g (lw_at lw_m8 220 rfl) rfl
theorem q2035 : (Jvm.Cond.code ({ cls := "TwinInkModel", name := "isWhat", desc := "(II)Z" } : Jvm.MethodName) prog_12_method_72_code (3 : Nat) (Option.some Jvm.ClassFile.FieldType.boolean)) ∈ lw_all := lw_g (lw_at lw_m8 221 rfl) rfl
theorem q2036 : (Jvm.Cond.methodLink "TwinInkModel" (325 : Nat) ({ cls := "TwinInkModel", name := "sheetIn", desc := "(II)I" } : Jvm.MethodName)) ∈ lw_all := lw_g (lw_at lw_m8 222 rfl) rfl
theorem q2037 : (Jvm.Cond.privateMethod ({ cls := "TwinInkModel", name := "sheetIn", desc := "(II)I" } : Jvm.MethodName)) ∈ lw_tbl := lw_at lw_m8 223 rfl
theorem q2038 : (Jvm.Cond.instanceMethod ({ cls := "TwinInkModel", name := "sheetIn", desc := "(II)I" } : Jvm.MethodName)) ∈ lw_all := lw_g (lw_at lw_m8 224 rfl) rfl
theorem q2039 : (Jvm.Cond.code ({ cls := "TwinInkModel", name := "sheetIn", desc := "(II)I" } : Jvm.MethodName) prog_12_method_51_code (4 : Nat) (Option.some Jvm.ClassFile.FieldType.int)) ∈ lw_all := lw_g (lw_at lw_m8 225 rfl) rfl
theorem q2040 : (Jvm.Cond.methodLink "TwinInkModel" (313 : Nat) ({ cls := "TwinInkModel", name := "clerkIn", desc := "(II)I" } : Jvm.MethodName)) ∈ lw_all := lw_g (lw_at lw_m8 226 rfl) rfl
theorem q2041 : (Jvm.Cond.privateMethod ({ cls := "TwinInkModel", name := "clerkIn", desc := "(II)I" } : Jvm.MethodName)) ∈ lw_tbl := lw_at lw_m8 227 rfl
theorem q2042 : (Jvm.Cond.instanceMethod ({ cls := "TwinInkModel", name := "clerkIn", desc := "(II)I" } : Jvm.MethodName)) ∈ lw_all := lw_g (lw_at lw_m8 228 rfl) rfl
theorem q2043 : (Jvm.Cond.code ({ cls := "TwinInkModel", name := "clerkIn", desc := "(II)I" } : Jvm.MethodName) prog_12_method_49_code (3 : Nat) (Option.some Jvm.ClassFile.FieldType.int)) ∈ lw_all := lw_g (lw_at lw_m8 229 rfl) rfl
theorem q2044 : (Jvm.Cond.methodLink "TwinInkModel" (310 : Nat) ({ cls := "TwinInkModel", name := "townOn", desc := "(II)I" } : Jvm.MethodName)) ∈ lw_all := lw_g (lw_at lw_m8 230 rfl) rfl
theorem q2045 : (Jvm.Cond.privateMethod ({ cls := "TwinInkModel", name := "townOn", desc := "(II)I" } : Jvm.MethodName)) ∈ lw_tbl := lw_at lw_m8 231 rfl
theorem q2046 : (Jvm.Cond.instanceMethod ({ cls := "TwinInkModel", name := "townOn", desc := "(II)I" } : Jvm.MethodName)) ∈ lw_all := lw_g (lw_at lw_m8 232 rfl) rfl
theorem q2047 : (Jvm.Cond.code ({ cls := "TwinInkModel", name := "townOn", desc := "(II)I" } : Jvm.MethodName) prog_12_method_48_code (3 : Nat) (Option.some Jvm.ClassFile.FieldType.int)) ∈ lw_all := lw_g (lw_at lw_m8 233 rfl) rfl
theorem q2048 : (Jvm.Cond.methodLink "TwinInkModel" (384 : Nat) ({ cls := "TwinInkModel", name := "fitting", desc := "(I)I" } : Jvm.MethodName)) ∈ lw_all := lw_g (lw_at lw_m8 234 rfl) rfl
theorem q2049 : (Jvm.Cond.privateMethod ({ cls := "TwinInkModel", name := "fitting", desc := "(I)I" } : Jvm.MethodName)) ∈ lw_tbl := lw_at lw_m8 235 rfl
theorem q2050 : (Jvm.Cond.instanceMethod ({ cls := "TwinInkModel", name := "fitting", desc := "(I)I" } : Jvm.MethodName)) ∈ lw_all := lw_g (lw_at lw_m8 236 rfl) rfl
theorem q2051 : (Jvm.Cond.code ({ cls := "TwinInkModel", name := "fitting", desc := "(I)I" } : Jvm.MethodName) prog_12_method_74_code (4 : Nat) (Option.some Jvm.ClassFile.FieldType.int)) ∈ lw_all := lw_g (lw_at lw_m8 237 rfl) rfl
theorem q2053 : (Jvm.Cond.instanceMethod ({ cls := "TwinInkModel", name := "clerk", desc := "(II)I" } : Jvm.MethodName)) ∈ lw_all := lw_g (lw_at lw_m8 239 rfl) rfl
theorem q2054 : (Jvm.Cond.selects "TwinInkModel" ({ cls := "TwinInkModel", name := "clerk", desc := "(II)I" } : Jvm.MethodName) ({ cls := "TwinInkModel", name := "clerk", desc := "(II)I" } : Jvm.MethodName)) ∈ lw_all := lw_g (lw_at lw_m9 0 rfl) rfl
theorem q2055 : (Jvm.Cond.code ({ cls := "TwinInkModel", name := "clerk", desc := "(II)I" } : Jvm.MethodName) prog_12_method_76_code (5 : Nat) (Option.some Jvm.ClassFile.FieldType.int)) ∈ lw_all := lw_g (lw_at lw_m9 1 rfl) rfl
theorem q2056 : (Jvm.Cond.methodLink "TwinInkModel" (387 : Nat) ({ cls := "TwinInkModel", name := "isClerk", desc := "(I)Z" } : Jvm.MethodName)) ∈ lw_all := lw_g (lw_at lw_m9 2 rfl) rfl
theorem q2057 : (Jvm.Cond.privateMethod ({ cls := "TwinInkModel", name := "isClerk", desc := "(I)Z" } : Jvm.MethodName)) ∈ lw_tbl := lw_at lw_m9 3 rfl
theorem q2058 : (Jvm.Cond.instanceMethod ({ cls := "TwinInkModel", name := "isClerk", desc := "(I)Z" } : Jvm.MethodName)) ∈ lw_all := lw_g (lw_at lw_m9 4 rfl) rfl
theorem q2059 : (Jvm.Cond.code ({ cls := "TwinInkModel", name := "isClerk", desc := "(I)Z" } : Jvm.MethodName) prog_12_method_69_code (2 : Nat) (Option.some Jvm.ClassFile.FieldType.boolean)) ∈ lw_all := lw_g (lw_at lw_m9 5 rfl) rfl
theorem q2061 : (Jvm.Cond.instanceMethod ({ cls := "TwinInkModel", name := "word", desc := "(II)I" } : Jvm.MethodName)) ∈ lw_all := lw_g (lw_at lw_m9 7 rfl) rfl
theorem q2062 : (Jvm.Cond.selects "TwinInkModel" ({ cls := "TwinInkModel", name := "word", desc := "(II)I" } : Jvm.MethodName) ({ cls := "TwinInkModel", name := "word", desc := "(II)I" } : Jvm.MethodName)) ∈ lw_all := lw_g (lw_at lw_m9 8 rfl) rfl
theorem q2063 : (Jvm.Cond.code ({ cls := "TwinInkModel", name := "word", desc := "(II)I" } : Jvm.MethodName) prog_12_method_79_code (3 : Nat) (Option.some Jvm.ClassFile.FieldType.int)) ∈ lw_all := lw_g (lw_at lw_m9 9 rfl) rfl
theorem q2064 : (Jvm.Cond.methodLink "TwinInkModel" (390 : Nat) ({ cls := "TwinInkModel", name := "isWord", desc := "(I)Z" } : Jvm.MethodName)) ∈ lw_all := lw_g (lw_at lw_m9 10 rfl) rfl
theorem q2065 : (Jvm.Cond.privateMethod ({ cls := "TwinInkModel", name := "isWord", desc := "(I)Z" } : Jvm.MethodName)) ∈ lw_tbl := lw_at lw_m9 11 rfl
theorem q2066 : (Jvm.Cond.instanceMethod ({ cls := "TwinInkModel", name := "isWord", desc := "(I)Z" } : Jvm.MethodName)) ∈ lw_all := lw_g (lw_at lw_m9 12 rfl) rfl
theorem q2067 : (Jvm.Cond.code ({ cls := "TwinInkModel", name := "isWord", desc := "(I)Z" } : Jvm.MethodName) prog_12_method_70_code (2 : Nat) (Option.some Jvm.ClassFile.FieldType.boolean)) ∈ lw_all := lw_g (lw_at lw_m9 13 rfl) rfl
theorem q2068 : (Jvm.Cond.methodLink "TwinInkModel" (393 : Nat) ({ cls := "TwinInkModel", name := "showsWhere", desc := "(I)I" } : Jvm.MethodName)) ∈ lw_all := lw_g (lw_at lw_m9 14 rfl) rfl
theorem q2069 : (Jvm.Cond.privateMethod ({ cls := "TwinInkModel", name := "showsWhere", desc := "(I)I" } : Jvm.MethodName)) ∈ lw_tbl := lw_at lw_m9 15 rfl
theorem q2070 : (Jvm.Cond.instanceMethod ({ cls := "TwinInkModel", name := "showsWhere", desc := "(I)I" } : Jvm.MethodName)) ∈ lw_all := lw_g (lw_at lw_m9 16 rfl) rfl
theorem q2071 : (Jvm.Cond.code ({ cls := "TwinInkModel", name := "showsWhere", desc := "(I)I" } : Jvm.MethodName) prog_12_method_78_code (3 : Nat) (Option.some Jvm.ClassFile.FieldType.int)) ∈ lw_all := lw_g (lw_at lw_m9 17 rfl) rfl
theorem q2072 : (Jvm.Cond.methodLink "TwinInkModel" (347 : Nat) ({ cls := "TwinInkModel", name := "showsIn", desc := "(II)I" } : Jvm.MethodName)) ∈ lw_all := lw_g (lw_at lw_m9 18 rfl) rfl
theorem q2073 : (Jvm.Cond.privateMethod ({ cls := "TwinInkModel", name := "showsIn", desc := "(II)I" } : Jvm.MethodName)) ∈ lw_tbl := lw_at lw_m9 19 rfl
theorem q2074 : (Jvm.Cond.instanceMethod ({ cls := "TwinInkModel", name := "showsIn", desc := "(II)I" } : Jvm.MethodName)) ∈ lw_all := lw_g (lw_at lw_m9 20 rfl) rfl
theorem q2075 : (Jvm.Cond.code ({ cls := "TwinInkModel", name := "showsIn", desc := "(II)I" } : Jvm.MethodName) prog_12_method_56_code (6 : Nat) (Option.some Jvm.ClassFile.FieldType.int)) ∈ lw_all := lw_g (lw_at lw_m9 21 rfl) rfl
theorem q2076 : (Jvm.Cond.methodLink "TwinInkModel" (328 : Nat) ({ cls := "TwinInkModel", name := "sheetsAt", desc := "(II)I" } : Jvm.MethodName)) ∈ lw_all := lw_g (lw_at lw_m9 22 rfl) rfl
theorem q2077 : (Jvm.Cond.privateMethod ({ cls := "TwinInkModel", name := "sheetsAt", desc := "(II)I" } : Jvm.MethodName)) ∈ lw_tbl := lw_at lw_m9 23 rfl
theorem q2078 : (Jvm.Cond.instanceMethod ({ cls := "TwinInkModel", name := "sheetsAt", desc := "(II)I" } : Jvm.MethodName)) ∈ lw_all := lw_g (lw_at lw_m9 24 rfl) rfl
theorem q2079 : (Jvm.Cond.code ({ cls := "TwinInkModel", name := "sheetsAt", desc := "(II)I" } : Jvm.MethodName) prog_12_method_55_code (5 : Nat) (Option.some Jvm.ClassFile.FieldType.int)) ∈ lw_all := lw_g (lw_at lw_m9 25 rfl) rfl
theorem q2080 : (Jvm.Cond.methodLink "TwinInkModel" (396 : Nat) ({ cls := "TwinInkModel", name := "knowers", desc := "(II)I" } : Jvm.MethodName)) ∈ lw_all := lw_g (lw_at lw_m9 26 rfl) rfl
theorem q2081 : (Jvm.Cond.privateMethod ({ cls := "TwinInkModel", name := "knowers", desc := "(II)I" } : Jvm.MethodName)) ∈ lw_tbl := lw_at lw_m9 27 rfl
theorem q2082 : (Jvm.Cond.instanceMethod ({ cls := "TwinInkModel", name := "knowers", desc := "(II)I" } : Jvm.MethodName)) ∈ lw_all := lw_g (lw_at lw_m9 28 rfl) rfl
theorem q2083 : (Jvm.Cond.code ({ cls := "TwinInkModel", name := "knowers", desc := "(II)I" } : Jvm.MethodName) prog_12_method_77_code (5 : Nat) (Option.some Jvm.ClassFile.FieldType.int)) ∈ lw_all := lw_g (lw_at lw_m9 29 rfl) rfl
theorem q2085 : (Jvm.Cond.instanceMethod ({ cls := "TwinInkModel", name := "town", desc := "(II)I" } : Jvm.MethodName)) ∈ lw_all := lw_g (lw_at lw_m9 31 rfl) rfl
theorem q2086 : (Jvm.Cond.selects "TwinInkModel" ({ cls := "TwinInkModel", name := "town", desc := "(II)I" } : Jvm.MethodName) ({ cls := "TwinInkModel", name := "town", desc := "(II)I" } : Jvm.MethodName)) ∈ lw_all := lw_g (lw_at lw_m9 32 rfl) rfl
theorem q2087 : (Jvm.Cond.code ({ cls := "TwinInkModel", name := "town", desc := "(II)I" } : Jvm.MethodName) prog_12_method_83_code (3 : Nat) (Option.some Jvm.ClassFile.FieldType.int)) ∈ lw_all := lw_g (lw_at lw_m9 33 rfl) rfl
theorem q2088 : (Jvm.Cond.methodLink "TwinInkModel" (402 : Nat) ({ cls := "TwinInkModel", name := "isTown", desc := "(I)Z" } : Jvm.MethodName)) ∈ lw_all := lw_g (lw_at lw_m9 34 rfl) rfl
theorem q2089 : (Jvm.Cond.privateMethod ({ cls := "TwinInkModel", name := "isTown", desc := "(I)Z" } : Jvm.MethodName)) ∈ lw_tbl := lw_at lw_m9 35 rfl
theorem q2090 : (Jvm.Cond.instanceMethod ({ cls := "TwinInkModel", name := "isTown", desc := "(I)Z" } : Jvm.MethodName)) ∈ lw_all := lw_g (lw_at lw_m9 36 rfl) rfl
theorem q2091 : (Jvm.Cond.code ({ cls := "TwinInkModel", name := "isTown", desc := "(I)Z" } : Jvm.MethodName) prog_12_method_71_code (2 : Nat) (Option.some Jvm.ClassFile.FieldType.boolean)) ∈ lw_all := lw_g (lw_at lw_m9 37 rfl) rfl
theorem q2092 : (Jvm.Cond.methodLink "TwinInkModel" (405 : Nat) ({ cls := "TwinInkModel", name := "archive", desc := "(I)I" } : Jvm.MethodName)) ∈ lw_all := lw_g (lw_at lw_m9 38 rfl) rfl
theorem q2093 : (Jvm.Cond.privateMethod ({ cls := "TwinInkModel", name := "archive", desc := "(I)I" } : Jvm.MethodName)) ∈ lw_tbl := lw_at lw_m9 39 rfl
theorem q2094 : (Jvm.Cond.instanceMethod ({ cls := "TwinInkModel", name := "archive", desc := "(I)I" } : Jvm.MethodName)) ∈ lw_all := lw_g (lw_at lw_m9 40 rfl) rfl
theorem q2095 : (Jvm.Cond.code ({ cls := "TwinInkModel", name := "archive", desc := "(I)I" } : Jvm.MethodName) prog_12_method_80_code (4 : Nat) (Option.some Jvm.ClassFile.FieldType.int)) ∈ lw_all := lw_g (lw_at lw_m9 41 rfl) rfl
theorem q2096 : (Jvm.Cond.methodLink "TwinInkModel" (335 : Nat) ({ cls := "TwinInkModel", name := "clerksAt", desc := "(II)I" } : Jvm.MethodName)) ∈ lw_all := lw_g (lw_at lw_m9 42 rfl) rfl
theorem q2097 : (Jvm.Cond.privateMethod ({ cls := "TwinInkModel", name := "clerksAt", desc := "(II)I" } : Jvm.MethodName)) ∈ lw_tbl := lw_at lw_m9 43 rfl
theorem q2098 : (Jvm.Cond.instanceMethod ({ cls := "TwinInkModel", name := "clerksAt", desc := "(II)I" } : Jvm.MethodName)) ∈ lw_all := lw_g (lw_at lw_m9 44 rfl) rfl
theorem q2099 : (Jvm.Cond.code ({ cls := "TwinInkModel", name := "clerksAt", desc := "(II)I" } : Jvm.MethodName) prog_12_method_54_code (5 : Nat) (Option.some Jvm.ClassFile.FieldType.int)) ∈ lw_all := lw_g (lw_at lw_m9 45 rfl) rfl
theorem q2100 : (Jvm.Cond.methodLink "TwinInkModel" (408 : Nat) ({ cls := "TwinInkModel", name := "lostBy", desc := "(I)I" } : Jvm.MethodName)) ∈ lw_all := lw_g (lw_at lw_m9 46 rfl) rfl
theorem q2101 : (Jvm.Cond.privateMethod ({ cls := "TwinInkModel", name := "lostBy", desc := "(I)I" } : Jvm.MethodName)) ∈ lw_tbl := lw_at lw_m9 47 rfl
theorem q2102 : (Jvm.Cond.instanceMethod ({ cls := "TwinInkModel", name := "lostBy", desc := "(I)I" } : Jvm.MethodName)) ∈ lw_all := lw_g (lw_at lw_m9 48 rfl) rfl
theorem q2103 : (Jvm.Cond.code ({ cls := "TwinInkModel", name := "lostBy", desc := "(I)I" } : Jvm.MethodName) prog_12_method_82_code (4 : Nat) (Option.some Jvm.ClassFile.FieldType.int)) ∈ lw_all := lw_g (lw_at lw_m9 49 rfl) rfl
theorem q2104 : (Jvm.Cond.methodLink "TwinInkModel" (399 : Nat) ({ cls := "TwinInkModel", name := "isWhole", desc := "(I)Z" } : Jvm.MethodName)) ∈ lw_all := lw_g (lw_at lw_m9 50 rfl) rfl
theorem q2105 : (Jvm.Cond.privateMethod ({ cls := "TwinInkModel", name := "isWhole", desc := "(I)Z" } : Jvm.MethodName)) ∈ lw_tbl := lw_at lw_m9 51 rfl
theorem q2106 : (Jvm.Cond.instanceMethod ({ cls := "TwinInkModel", name := "isWhole", desc := "(I)Z" } : Jvm.MethodName)) ∈ lw_all := lw_g (lw_at lw_m9 52 rfl) rfl
theorem q2107 : (Jvm.Cond.code ({ cls := "TwinInkModel", name := "isWhole", desc := "(I)Z" } : Jvm.MethodName) prog_12_method_81_code (2 : Nat) (Option.some Jvm.ClassFile.FieldType.boolean)) ∈ lw_all := lw_g (lw_at lw_m9 53 rfl) rfl
theorem q2109 : (Jvm.Cond.instanceMethod ({ cls := "TwinInkModel", name := "days", desc := "(I)I" } : Jvm.MethodName)) ∈ lw_all := lw_g (lw_at lw_m9 55 rfl) rfl
theorem q2110 : (Jvm.Cond.selects "TwinInkModel" ({ cls := "TwinInkModel", name := "days", desc := "(I)I" } : Jvm.MethodName) ({ cls := "TwinInkModel", name := "days", desc := "(I)I" } : Jvm.MethodName)) ∈ lw_all := lw_g (lw_at lw_m9 56 rfl) rfl
theorem q2111 : (Jvm.Cond.code ({ cls := "TwinInkModel", name := "days", desc := "(I)I" } : Jvm.MethodName) prog_12_method_84_code (3 : Nat) (Option.some Jvm.ClassFile.FieldType.int)) ∈ lw_all := lw_g (lw_at lw_m9 57 rfl) rfl
theorem q2112 : (Jvm.Cond.methodLink "TwinInkModel" (411 : Nat) ({ cls := "TwinInkModel", name := "refuses", desc := "(I)I" } : Jvm.MethodName)) ∈ lw_all := lw_g (lw_at lw_m9 58 rfl) rfl
theorem q2113 : (Jvm.Cond.privateMethod ({ cls := "TwinInkModel", name := "refuses", desc := "(I)I" } : Jvm.MethodName)) ∈ lw_tbl := lw_at lw_m9 59 rfl
theorem q2114 : (Jvm.Cond.instanceMethod ({ cls := "TwinInkModel", name := "refuses", desc := "(I)I" } : Jvm.MethodName)) ∈ lw_all := lw_g (lw_at lw_m9 60 rfl) rfl
theorem q2115 : (Jvm.Cond.code ({ cls := "TwinInkModel", name := "refuses", desc := "(I)I" } : Jvm.MethodName) prog_12_method_43_code (2 : Nat) (Option.some Jvm.ClassFile.FieldType.int)) ∈ lw_all := lw_g (lw_at lw_m9 61 rfl) rfl
theorem q2116 : (Jvm.Cond.methodLink "TwinInkModel" (414 : Nat) ({ cls := "TwinInkModel", name := "keeps", desc := "()V" } : Jvm.MethodName)) ∈ lw_all := lw_g (lw_at lw_m9 62 rfl) rfl
theorem q2117 : (Jvm.Cond.privateMethod ({ cls := "TwinInkModel", name := "keeps", desc := "()V" } : Jvm.MethodName)) ∈ lw_tbl := lw_at lw_m9 63 rfl
theorem q2118 : (Jvm.Cond.instanceMethod ({ cls := "TwinInkModel", name := "keeps", desc := "()V" } : Jvm.MethodName)) ∈ lw_all := lw_g (lw_at lw_m9 64 rfl) rfl
theorem q2119 : (Jvm.Cond.code ({ cls := "TwinInkModel", name := "keeps", desc := "()V" } : Jvm.MethodName) prog_12_method_42_code (2 : Nat) (Option.none : Option Jvm.ClassFile.FieldType)) ∈ lw_all := lw_g (lw_at lw_m9 65 rfl) rfl
theorem q2120 : (Jvm.Cond.methodLink "TwinInkModel" (357 : Nat) ({ cls := "TwinInkModel", name := "dayGoes", desc := "(I)V" } : Jvm.MethodName)) ∈ lw_all := lw_g (lw_at lw_m9 66 rfl) rfl
theorem q2121 : (Jvm.Cond.privateMethod ({ cls := "TwinInkModel", name := "dayGoes", desc := "(I)V" } : Jvm.MethodName)) ∈ lw_tbl := lw_at lw_m9 67 rfl
theorem q2122 : (Jvm.Cond.instanceMethod ({ cls := "TwinInkModel", name := "dayGoes", desc := "(I)V" } : Jvm.MethodName)) ∈ lw_all := lw_g (lw_at lw_m9 68 rfl) rfl
theorem q2123 : (Jvm.Cond.code ({ cls := "TwinInkModel", name := "dayGoes", desc := "(I)V" } : Jvm.MethodName) prog_12_method_61_code (3 : Nat) (Option.none : Option Jvm.ClassFile.FieldType)) ∈ lw_all := lw_g (lw_at lw_m9 69 rfl) rfl
theorem q2124 : (Jvm.Cond.methodLink "TwinInkModel" (344 : Nat) ({ cls := "TwinInkModel", name := "doesLay", desc := "(II)Z" } : Jvm.MethodName)) ∈ lw_all := lw_g (lw_at lw_m9 70 rfl) rfl
theorem q2125 : (Jvm.Cond.privateMethod ({ cls := "TwinInkModel", name := "doesLay", desc := "(II)Z" } : Jvm.MethodName)) ∈ lw_tbl := lw_at lw_m9 71 rfl
theorem q2126 : (Jvm.Cond.instanceMethod ({ cls := "TwinInkModel", name := "doesLay", desc := "(II)Z" } : Jvm.MethodName)) ∈ lw_all := lw_g (lw_at lw_m9 72 rfl) rfl
theorem q2127 : (Jvm.Cond.code ({ cls := "TwinInkModel", name := "doesLay", desc := "(II)Z" } : Jvm.MethodName) prog_12_method_59_code (3 : Nat) (Option.some Jvm.ClassFile.FieldType.boolean)) ∈ lw_all := lw_g (lw_at lw_m9 73 rfl) rfl
theorem q2128 : (Jvm.Cond.methodLink "TwinInkModel" (341 : Nat) ({ cls := "TwinInkModel", name := "reckons", desc := "(I)I" } : Jvm.MethodName)) ∈ lw_all := lw_g (lw_at lw_m9 74 rfl) rfl
theorem q2129 : (Jvm.Cond.privateMethod ({ cls := "TwinInkModel", name := "reckons", desc := "(I)I" } : Jvm.MethodName)) ∈ lw_tbl := lw_at lw_m9 75 rfl
theorem q2130 : (Jvm.Cond.instanceMethod ({ cls := "TwinInkModel", name := "reckons", desc := "(I)I" } : Jvm.MethodName)) ∈ lw_all := lw_g (lw_at lw_m9 76 rfl) rfl
theorem q2131 : (Jvm.Cond.code ({ cls := "TwinInkModel", name := "reckons", desc := "(I)I" } : Jvm.MethodName) prog_12_method_47_code (5 : Nat) (Option.some Jvm.ClassFile.FieldType.int)) ∈ lw_all := lw_g (lw_at lw_m9 77 rfl) rfl
theorem q2132 : (Jvm.Cond.methodLink "TwinInkModel" (306 : Nat) ({ cls := "TwinInkModel", name := "works", desc := "(III)I" } : Jvm.MethodName)) ∈ lw_all := lw_g (lw_at lw_m9 78 rfl) rfl
theorem q2133 : (Jvm.Cond.static ({ cls := "TwinInkModel", name := "works", desc := "(III)I" } : Jvm.MethodName)) ∈ lw_all := lw_g (lw_at lw_m9 79 rfl) rfl
theorem q2134 : (Jvm.Cond.code ({ cls := "TwinInkModel", name := "works", desc := "(III)I" } : Jvm.MethodName) prog_12_method_46_code (3 : Nat) (Option.some Jvm.ClassFile.FieldType.int)) ∈ lw_all := lw_g (lw_at lw_m9 80 rfl) rfl
theorem q2135 : (Jvm.Cond.methodLink "TwinInkModel" (350 : Nat) ({ cls := "TwinInkModel", name := "learns", desc := "(III)V" } : Jvm.MethodName)) ∈ lw_all := lw_g (lw_at lw_m9 81 rfl) rfl
theorem q2136 : (Jvm.Cond.privateMethod ({ cls := "TwinInkModel", name := "learns", desc := "(III)V" } : Jvm.MethodName)) ∈ lw_tbl := lw_at lw_m9 82 rfl
theorem q2137 : (Jvm.Cond.instanceMethod ({ cls := "TwinInkModel", name := "learns", desc := "(III)V" } : Jvm.MethodName)) ∈ lw_all := lw_g (lw_at lw_m9 83 rfl) rfl
theorem q2138 : (Jvm.Cond.code ({ cls := "TwinInkModel", name := "learns", desc := "(III)V" } : Jvm.MethodName) prog_12_method_58_code (5 : Nat) (Option.none : Option Jvm.ClassFile.FieldType)) ∈ lw_all := lw_g (lw_at lw_m9 84 rfl) rfl
theorem q2139 : (Jvm.Cond.methodLink "TwinInkModel" (354 : Nat) ({ cls := "TwinInkModel", name := "mouldsOn", desc := "(II)V" } : Jvm.MethodName)) ∈ lw_all := lw_g (lw_at lw_m9 85 rfl) rfl
theorem q2140 : (Jvm.Cond.privateMethod ({ cls := "TwinInkModel", name := "mouldsOn", desc := "(II)V" } : Jvm.MethodName)) ∈ lw_tbl := lw_at lw_m9 86 rfl
theorem q2141 : (Jvm.Cond.instanceMethod ({ cls := "TwinInkModel", name := "mouldsOn", desc := "(II)V" } : Jvm.MethodName)) ∈ lw_all := lw_g (lw_at lw_m9 87 rfl) rfl
theorem q2142 : (Jvm.Cond.code ({ cls := "TwinInkModel", name := "mouldsOn", desc := "(II)V" } : Jvm.MethodName) prog_12_method_60_code (4 : Nat) (Option.none : Option Jvm.ClassFile.FieldType)) ∈ lw_all := lw_g (lw_at lw_m9 88 rfl) rfl
theorem q2144 : (Jvm.Cond.instanceMethod ({ cls := "TwinInkModel", name := "take", desc := "(II)Z" } : Jvm.MethodName)) ∈ lw_all := lw_g (lw_at lw_m9 90 rfl) rfl
theorem q2145 : (Jvm.Cond.selects "TwinInkModel" ({ cls := "TwinInkModel", name := "take", desc := "(II)Z" } : Jvm.MethodName) ({ cls := "TwinInkModel", name := "take", desc := "(II)Z" } : Jvm.MethodName)) ∈ lw_all := lw_g (lw_at lw_m9 91 rfl) rfl
theorem q2146 : (Jvm.Cond.code ({ cls := "TwinInkModel", name := "take", desc := "(II)Z" } : Jvm.MethodName) prog_12_method_85_code (3 : Nat) (Option.some Jvm.ClassFile.FieldType.boolean)) ∈ lw_all := lw_g (lw_at lw_m9 92 rfl) rfl
theorem q2148 : (Jvm.Cond.instanceMethod ({ cls := "TwinInkModel", name := "leave", desc := "(II)I" } : Jvm.MethodName)) ∈ lw_all := lw_g (lw_at lw_m9 94 rfl) rfl
theorem q2149 : (Jvm.Cond.selects "TwinInkModel" ({ cls := "TwinInkModel", name := "leave", desc := "(II)I" } : Jvm.MethodName) ({ cls := "TwinInkModel", name := "leave", desc := "(II)I" } : Jvm.MethodName)) ∈ lw_all := lw_g (lw_at lw_m9 95 rfl) rfl
theorem q2150 : (Jvm.Cond.code ({ cls := "TwinInkModel", name := "leave", desc := "(II)I" } : Jvm.MethodName) prog_12_method_86_code (3 : Nat) (Option.some Jvm.ClassFile.FieldType.int)) ∈ lw_all := lw_g (lw_at lw_m9 96 rfl) rfl
theorem q2152 : (Jvm.Cond.instanceMethod ({ cls := "TwinInkModel", name := "forge", desc := "(III)I" } : Jvm.MethodName)) ∈ lw_all := lw_g (lw_at lw_m9 98 rfl) rfl
theorem q2153 : (Jvm.Cond.selects "TwinInkModel" ({ cls := "TwinInkModel", name := "forge", desc := "(III)I" } : Jvm.MethodName) ({ cls := "TwinInkModel", name := "forge", desc := "(III)I" } : Jvm.MethodName)) ∈ lw_all := lw_g (lw_at lw_m9 99 rfl) rfl
theorem q2154 : (Jvm.Cond.code ({ cls := "TwinInkModel", name := "forge", desc := "(III)I" } : Jvm.MethodName) prog_12_method_87_code (5 : Nat) (Option.some Jvm.ClassFile.FieldType.int)) ∈ lw_all := lw_g (lw_at lw_m9 100 rfl) rfl
theorem q2156 : (Jvm.Cond.instanceMethod ({ cls := "TwinInkModel", name := "fire", desc := "(I)I" } : Jvm.MethodName)) ∈ lw_all := lw_g (lw_at lw_m9 102 rfl) rfl
theorem q2157 : (Jvm.Cond.selects "TwinInkModel" ({ cls := "TwinInkModel", name := "fire", desc := "(I)I" } : Jvm.MethodName) ({ cls := "TwinInkModel", name := "fire", desc := "(I)I" } : Jvm.MethodName)) ∈ lw_all := lw_g (lw_at lw_m9 103 rfl) rfl
theorem q2158 : (Jvm.Cond.code ({ cls := "TwinInkModel", name := "fire", desc := "(I)I" } : Jvm.MethodName) prog_12_method_89_code (3 : Nat) (Option.some Jvm.ClassFile.FieldType.int)) ∈ lw_all := lw_g (lw_at lw_m9 104 rfl) rfl
theorem q2159 : (Jvm.Cond.methodLink "TwinInkModel" (417 : Nat) ({ cls := "TwinInkModel", name := "burns", desc := "(II)V" } : Jvm.MethodName)) ∈ lw_all := lw_g (lw_at lw_m9 105 rfl) rfl
theorem q2160 : (Jvm.Cond.privateMethod ({ cls := "TwinInkModel", name := "burns", desc := "(II)V" } : Jvm.MethodName)) ∈ lw_tbl := lw_at lw_m9 106 rfl
theorem q2161 : (Jvm.Cond.instanceMethod ({ cls := "TwinInkModel", name := "burns", desc := "(II)V" } : Jvm.MethodName)) ∈ lw_all := lw_g (lw_at lw_m9 107 rfl) rfl
theorem q2162 : (Jvm.Cond.code ({ cls := "TwinInkModel", name := "burns", desc := "(II)V" } : Jvm.MethodName) prog_12_method_88_code (4 : Nat) (Option.none : Option Jvm.ClassFile.FieldType)) ∈ lw_all := lw_g (lw_at lw_m9 108 rfl) rfl
theorem q2164 : (Jvm.Cond.instanceMethod ({ cls := "TwinInkModel", name := "then", desc := "(III)I" } : Jvm.MethodName)) ∈ lw_all := lw_g (lw_at lw_m9 110 rfl) rfl
theorem q2165 : (Jvm.Cond.selects "TwinInkModel" ({ cls := "TwinInkModel", name := "then", desc := "(III)I" } : Jvm.MethodName) ({ cls := "TwinInkModel", name := "then", desc := "(III)I" } : Jvm.MethodName)) ∈ lw_all := lw_g (lw_at lw_m9 111 rfl) rfl
theorem q2166 : (Jvm.Cond.code ({ cls := "TwinInkModel", name := "then", desc := "(III)I" } : Jvm.MethodName) prog_12_method_91_code (4 : Nat) (Option.some Jvm.ClassFile.FieldType.int)) ∈ lw_all := lw_g (lw_at lw_m9 112 rfl) rfl
theorem q2167 : (Jvm.Cond.methodLink "TwinInkModel" (426 : Nat) ({ cls := "TwinInkModel", name := "isDays", desc := "(III)Z" } : Jvm.MethodName)) ∈ lw_all := lw_g (lw_at lw_m9 113 rfl) rfl
theorem q2168 : (Jvm.Cond.privateMethod ({ cls := "TwinInkModel", name := "isDays", desc := "(III)Z" } : Jvm.MethodName)) ∈ lw_tbl := lw_at lw_m9 114 rfl
theorem q2169 : (Jvm.Cond.instanceMethod ({ cls := "TwinInkModel", name := "isDays", desc := "(III)Z" } : Jvm.MethodName)) ∈ lw_all := lw_g (lw_at lw_m9 115 rfl) rfl
theorem q2170 : (Jvm.Cond.code ({ cls := "TwinInkModel", name := "isDays", desc := "(III)Z" } : Jvm.MethodName) prog_12_method_73_code (4 : Nat) (Option.some Jvm.ClassFile.FieldType.boolean)) ∈ lw_all := lw_g (lw_at lw_m9 116 rfl) rfl
theorem q2171 : (Jvm.Cond.methodLink "TwinInkModel" (429 : Nat) ({ cls := "TwinInkModel", name := "goesTo", desc := "(I)V" } : Jvm.MethodName)) ∈ lw_all := lw_g (lw_at lw_m9 117 rfl) rfl
theorem q2172 : (Jvm.Cond.privateMethod ({ cls := "TwinInkModel", name := "goesTo", desc := "(I)V" } : Jvm.MethodName)) ∈ lw_tbl := lw_at lw_m9 118 rfl
theorem q2173 : (Jvm.Cond.instanceMethod ({ cls := "TwinInkModel", name := "goesTo", desc := "(I)V" } : Jvm.MethodName)) ∈ lw_all := lw_g (lw_at lw_m9 119 rfl) rfl
theorem q2174 : (Jvm.Cond.code ({ cls := "TwinInkModel", name := "goesTo", desc := "(I)V" } : Jvm.MethodName) prog_12_method_90_code (2 : Nat) (Option.none : Option Jvm.ClassFile.FieldType)) ∈ lw_all := lw_g (lw_at lw_m9 120 rfl) rfl
theorem q2175 : (Jvm.Cond.methodLink "TwinInkModel" (420 : Nat) ({ cls := "TwinInkModel", name := "tries", desc := "()V" } : Jvm.MethodName)) ∈ lw_all := lw_g (lw_at lw_m9 121 rfl) rfl
theorem q2176 : (Jvm.Cond.privateMethod ({ cls := "TwinInkModel", name := "tries", desc := "()V" } : Jvm.MethodName)) ∈ lw_tbl := lw_at lw_m9 122 rfl
theorem q2177 : (Jvm.Cond.instanceMethod ({ cls := "TwinInkModel", name := "tries", desc := "()V" } : Jvm.MethodName)) ∈ lw_all := lw_g (lw_at lw_m9 123 rfl) rfl
theorem q2178 : (Jvm.Cond.code ({ cls := "TwinInkModel", name := "tries", desc := "()V" } : Jvm.MethodName) prog_12_method_45_code (2 : Nat) (Option.none : Option Jvm.ClassFile.FieldType)) ∈ lw_all := lw_g (lw_at lw_m9 124 rfl) rfl
theorem q2179 : (Jvm.Cond.methodLink "TwinInkModel" (423 : Nat) ({ cls := "TwinInkModel", name := "daysGo", desc := "(I)V" } : Jvm.MethodName)) ∈ lw_all := lw_g (lw_at lw_m9 125 rfl) rfl
theorem q2180 : (Jvm.Cond.privateMethod ({ cls := "TwinInkModel", name := "daysGo", desc := "(I)V" } : Jvm.MethodName)) ∈ lw_tbl := lw_at lw_m9 126 rfl
theorem q2181 : (Jvm.Cond.instanceMethod ({ cls := "TwinInkModel", name := "daysGo", desc := "(I)V" } : Jvm.MethodName)) ∈ lw_all := lw_g (lw_at lw_m9 127 rfl) rfl
theorem q2182 : (Jvm.Cond.code ({ cls := "TwinInkModel", name := "daysGo", desc := "(I)V" } : Jvm.MethodName) prog_12_method_62_code (3 : Nat) (Option.none : Option Jvm.ClassFile.FieldType)) ∈ lw_all := lw_g (lw_at lw_m9 128 rfl) rfl
theorem q2184 : (Jvm.Cond.instanceMethod ({ cls := "TwinInkModel", name := "where", desc := "(II)I" } : Jvm.MethodName)) ∈ lw_all := lw_g (lw_at lw_m9 130 rfl) rfl
theorem q2185 : (Jvm.Cond.selects "TwinInkModel" ({ cls := "TwinInkModel", name := "where", desc := "(II)I" } : Jvm.MethodName) ({ cls := "TwinInkModel", name := "where", desc := "(II)I" } : Jvm.MethodName)) ∈ lw_all := lw_g (lw_at lw_m9 131 rfl) rfl
theorem q2186 : (Jvm.Cond.code ({ cls := "TwinInkModel", name := "where", desc := "(II)I" } : Jvm.MethodName) prog_12_method_92_code (3 : Nat) (Option.some Jvm.ClassFile.FieldType.int)) ∈ lw_all := lw_g (lw_at lw_m9 132 rfl) rfl
theorem q2188 : (Jvm.Cond.instanceMethod ({ cls := "TwinInkModel", name := "first", desc := "(II)I" } : Jvm.MethodName)) ∈ lw_all := lw_g (lw_at lw_m9 134 rfl) rfl
theorem q2189 : (Jvm.Cond.selects "TwinInkModel" ({ cls := "TwinInkModel", name := "first", desc := "(II)I" } : Jvm.MethodName) ({ cls := "TwinInkModel", name := "first", desc := "(II)I" } : Jvm.MethodName)) ∈ lw_all := lw_g (lw_at lw_m9 135 rfl) rfl
theorem q2190 : (Jvm.Cond.code ({ cls := "TwinInkModel", name := "first", desc := "(II)I" } : Jvm.MethodName) prog_12_method_93_code (4 : Nat) (Option.some Jvm.ClassFile.FieldType.int)) ∈ lw_all := lw_g (lw_at lw_m9 136 rfl) rfl
theorem q2192 : (Jvm.Cond.instanceMethod ({ cls := "TwinInkModel", name := "read", desc := "(II)I" } : Jvm.MethodName)) ∈ lw_all := lw_g (lw_at lw_m9 138 rfl) rfl
theorem q2193 : (Jvm.Cond.selects "TwinInkModel" ({ cls := "TwinInkModel", name := "read", desc := "(II)I" } : Jvm.MethodName) ({ cls := "TwinInkModel", name := "read", desc := "(II)I" } : Jvm.MethodName)) ∈ lw_all := lw_g (lw_at lw_m9 139 rfl) rfl
theorem q2194 : (Jvm.Cond.code ({ cls := "TwinInkModel", name := "read", desc := "(II)I" } : Jvm.MethodName) prog_12_method_94_code (5 : Nat) (Option.some Jvm.ClassFile.FieldType.int)) ∈ lw_all := lw_g (lw_at lw_m9 140 rfl) rfl
theorem q2196 : (Jvm.Cond.instanceMethod ({ cls := "TwinInkModel", name := "mould", desc := "(I)I" } : Jvm.MethodName)) ∈ lw_all := lw_g (lw_at lw_m9 142 rfl) rfl
theorem q2197 : (Jvm.Cond.selects "TwinInkModel" ({ cls := "TwinInkModel", name := "mould", desc := "(I)I" } : Jvm.MethodName) ({ cls := "TwinInkModel", name := "mould", desc := "(I)I" } : Jvm.MethodName)) ∈ lw_all := lw_g (lw_at lw_m9 143 rfl) rfl
theorem q2198 : (Jvm.Cond.code ({ cls := "TwinInkModel", name := "mould", desc := "(I)I" } : Jvm.MethodName) prog_12_method_95_code (3 : Nat) (Option.some Jvm.ClassFile.FieldType.int)) ∈ lw_all := lw_g (lw_at lw_m9 144 rfl) rfl
theorem q2200 : (Jvm.Cond.instanceMethod ({ cls := "TwinInkModel", name := "meet", desc := "(II)I" } : Jvm.MethodName)) ∈ lw_all := lw_g (lw_at lw_m9 146 rfl) rfl
theorem q2201 : (Jvm.Cond.selects "TwinInkModel" ({ cls := "TwinInkModel", name := "meet", desc := "(II)I" } : Jvm.MethodName) ({ cls := "TwinInkModel", name := "meet", desc := "(II)I" } : Jvm.MethodName)) ∈ lw_all := lw_g (lw_at lw_m9 147 rfl) rfl
theorem q2202 : (Jvm.Cond.code ({ cls := "TwinInkModel", name := "meet", desc := "(II)I" } : Jvm.MethodName) prog_12_method_96_code (4 : Nat) (Option.some Jvm.ClassFile.FieldType.int)) ∈ lw_all := lw_g (lw_at lw_m9 148 rfl) rfl
theorem q2204 : (Jvm.Cond.instanceMethod ({ cls := "TwinInkModel", name := "gathering", desc := "(I)I" } : Jvm.MethodName)) ∈ lw_all := lw_g (lw_at lw_m9 150 rfl) rfl
theorem q2205 : (Jvm.Cond.selects "TwinInkModel" ({ cls := "TwinInkModel", name := "gathering", desc := "(I)I" } : Jvm.MethodName) ({ cls := "TwinInkModel", name := "gathering", desc := "(I)I" } : Jvm.MethodName)) ∈ lw_all := lw_g (lw_at lw_m9 151 rfl) rfl
theorem q2206 : (Jvm.Cond.code ({ cls := "TwinInkModel", name := "gathering", desc := "(I)I" } : Jvm.MethodName) prog_12_method_97_code (4 : Nat) (Option.some Jvm.ClassFile.FieldType.int)) ∈ lw_all := lw_g (lw_at lw_m9 152 rfl) rfl
theorem q2208 : (Jvm.Cond.instanceMethod ({ cls := "TwinInkModel", name := "row", desc := "(I)I" } : Jvm.MethodName)) ∈ lw_all := lw_g (lw_at lw_m9 154 rfl) rfl
theorem q2209 : (Jvm.Cond.selects "TwinInkModel" ({ cls := "TwinInkModel", name := "row", desc := "(I)I" } : Jvm.MethodName) ({ cls := "TwinInkModel", name := "row", desc := "(I)I" } : Jvm.MethodName)) ∈ lw_all := lw_g (lw_at lw_m9 155 rfl) rfl
theorem q2210 : (Jvm.Cond.code ({ cls := "TwinInkModel", name := "row", desc := "(I)I" } : Jvm.MethodName) prog_12_method_100_code (8 : Nat) (Option.some Jvm.ClassFile.FieldType.int)) ∈ lw_all := lw_g (lw_at lw_m9 156 rfl) rfl
theorem q2211 : (Jvm.Cond.methodLink "TwinInkModel" (435 : Nat) ({ cls := "TwinInkModel", name := "mostBehind", desc := "(II)I" } : Jvm.MethodName)) ∈ lw_all := lw_g (lw_at lw_m9 157 rfl) rfl
theorem q2212 : (Jvm.Cond.privateMethod ({ cls := "TwinInkModel", name := "mostBehind", desc := "(II)I" } : Jvm.MethodName)) ∈ lw_tbl := lw_at lw_m9 158 rfl
theorem q2213 : (Jvm.Cond.instanceMethod ({ cls := "TwinInkModel", name := "mostBehind", desc := "(II)I" } : Jvm.MethodName)) ∈ lw_all := lw_g (lw_at lw_m9 159 rfl) rfl
theorem q2214 : (Jvm.Cond.code ({ cls := "TwinInkModel", name := "mostBehind", desc := "(II)I" } : Jvm.MethodName) prog_12_method_98_code (5 : Nat) (Option.some Jvm.ClassFile.FieldType.int)) ∈ lw_all := lw_g (lw_at lw_m9 160 rfl) rfl
theorem q2215 : (Jvm.Cond.methodLink "TwinInkModel" (432 : Nat) ({ cls := "TwinInkModel", name := "canFollow", desc := "(III)Z" } : Jvm.MethodName)) ∈ lw_all := lw_g (lw_at lw_m9 161 rfl) rfl
theorem q2216 : (Jvm.Cond.privateMethod ({ cls := "TwinInkModel", name := "canFollow", desc := "(III)Z" } : Jvm.MethodName)) ∈ lw_tbl := lw_at lw_m9 162 rfl
theorem q2217 : (Jvm.Cond.instanceMethod ({ cls := "TwinInkModel", name := "canFollow", desc := "(III)Z" } : Jvm.MethodName)) ∈ lw_all := lw_g (lw_at lw_m9 163 rfl) rfl
theorem q2218 : (Jvm.Cond.code ({ cls := "TwinInkModel", name := "canFollow", desc := "(III)Z" } : Jvm.MethodName) prog_12_method_99_code (4 : Nat) (Option.some Jvm.ClassFile.FieldType.boolean)) ∈ lw_all := lw_g (lw_at lw_m9 164 rfl) rfl
theorem q2220 : (Jvm.Cond.instanceMethod ({ cls := "TwinInkModel", name := "toForge", desc := "(II)I" } : Jvm.MethodName)) ∈ lw_all := lw_g (lw_at lw_m9 166 rfl) rfl
theorem q2221 : (Jvm.Cond.selects "TwinInkModel" ({ cls := "TwinInkModel", name := "toForge", desc := "(II)I" } : Jvm.MethodName) ({ cls := "TwinInkModel", name := "toForge", desc := "(II)I" } : Jvm.MethodName)) ∈ lw_all := lw_g (lw_at lw_m9 167 rfl) rfl
theorem q2222 : (Jvm.Cond.code ({ cls := "TwinInkModel", name := "toForge", desc := "(II)I" } : Jvm.MethodName) prog_12_method_101_code (3 : Nat) (Option.some Jvm.ClassFile.FieldType.int)) ∈ lw_all := lw_g (lw_at lw_m9 168 rfl) rfl
theorem q2224 : (Jvm.Cond.instanceMethod ({ cls := "TwinInkModel", name := "toSave", desc := "(I)I" } : Jvm.MethodName)) ∈ lw_all := lw_g (lw_at lw_m9 170 rfl) rfl
theorem q2225 : (Jvm.Cond.selects "TwinInkModel" ({ cls := "TwinInkModel", name := "toSave", desc := "(I)I" } : Jvm.MethodName) ({ cls := "TwinInkModel", name := "toSave", desc := "(I)I" } : Jvm.MethodName)) ∈ lw_all := lw_g (lw_at lw_m9 171 rfl) rfl
theorem q2226 : (Jvm.Cond.code ({ cls := "TwinInkModel", name := "toSave", desc := "(I)I" } : Jvm.MethodName) prog_12_method_102_code (6 : Nat) (Option.some Jvm.ClassFile.FieldType.int)) ∈ lw_all := lw_g (lw_at lw_m9 172 rfl) rfl
theorem q2228 : (Jvm.Cond.instanceMethod ({ cls := "TwinInkModel", name := "toRead", desc := "()I" } : Jvm.MethodName)) ∈ lw_all := lw_g (lw_at lw_m9 174 rfl) rfl
theorem q2229 : (Jvm.Cond.selects "TwinInkModel" ({ cls := "TwinInkModel", name := "toRead", desc := "()I" } : Jvm.MethodName) ({ cls := "TwinInkModel", name := "toRead", desc := "()I" } : Jvm.MethodName)) ∈ lw_all := lw_g (lw_at lw_m9 175 rfl) rfl
theorem q2230 : (Jvm.Cond.code ({ cls := "TwinInkModel", name := "toRead", desc := "()I" } : Jvm.MethodName) prog_12_method_103_code (3 : Nat) (Option.some Jvm.ClassFile.FieldType.int)) ∈ lw_all := lw_g (lw_at lw_m9 176 rfl) rfl
theorem q2232 : (Jvm.Cond.instanceMethod ({ cls := "TwinInkModel", name := "chain", desc := "(II)I" } : Jvm.MethodName)) ∈ lw_all := lw_g (lw_at lw_m9 178 rfl) rfl
theorem q2233 : (Jvm.Cond.selects "TwinInkModel" ({ cls := "TwinInkModel", name := "chain", desc := "(II)I" } : Jvm.MethodName) ({ cls := "TwinInkModel", name := "chain", desc := "(II)I" } : Jvm.MethodName)) ∈ lw_all := lw_g (lw_at lw_m9 179 rfl) rfl
theorem q2234 : (Jvm.Cond.code ({ cls := "TwinInkModel", name := "chain", desc := "(II)I" } : Jvm.MethodName) prog_12_method_104_code (5 : Nat) (Option.some Jvm.ClassFile.FieldType.int)) ∈ lw_all := lw_g (lw_at lw_m9 180 rfl) rfl
theorem q2236 : (Jvm.Cond.instanceMethod ({ cls := "TwinInkModel", name := "hear", desc := "(IIIZ)I" } : Jvm.MethodName)) ∈ lw_all := lw_g (lw_at lw_m9 182 rfl) rfl
theorem q2237 : (Jvm.Cond.selects "TwinInkModel" ({ cls := "TwinInkModel", name := "hear", desc := "(IIIZ)I" } : Jvm.MethodName) ({ cls := "TwinInkModel", name := "hear", desc := "(IIIZ)I" } : Jvm.MethodName)) ∈ lw_all := lw_g (lw_at lw_m9 183 rfl) rfl
theorem q2238 : (Jvm.Cond.code ({ cls := "TwinInkModel", name := "hear", desc := "(IIIZ)I" } : Jvm.MethodName) prog_12_method_105_code (5 : Nat) (Option.some Jvm.ClassFile.FieldType.int)) ∈ lw_all := lw_g (lw_at lw_m9 184 rfl) rfl
theorem q2240 : (Jvm.Cond.instanceMethod ({ cls := "TwinInkModel", name := "forget", desc := "()V" } : Jvm.MethodName)) ∈ lw_all := lw_g (lw_at lw_m9 186 rfl) rfl
theorem q2241 : (Jvm.Cond.selects "TwinInkModel" ({ cls := "TwinInkModel", name := "forget", desc := "()V" } : Jvm.MethodName) ({ cls := "TwinInkModel", name := "forget", desc := "()V" } : Jvm.MethodName)) ∈ lw_all := lw_g (lw_at lw_m9 187 rfl) rfl
theorem q2242 : (Jvm.Cond.code ({ cls := "TwinInkModel", name := "forget", desc := "()V" } : Jvm.MethodName) prog_12_method_106_code (1 : Nat) (Option.none : Option Jvm.ClassFile.FieldType)) ∈ lw_all := lw_g (lw_at lw_m9 188 rfl) rfl
theorem q2244 : (Jvm.Cond.instanceMethod ({ cls := "TwinInkModel", name := "borne", desc := "(I)I" } : Jvm.MethodName)) ∈ lw_all := lw_g (lw_at lw_m9 190 rfl) rfl
theorem q2245 : (Jvm.Cond.selects "TwinInkModel" ({ cls := "TwinInkModel", name := "borne", desc := "(I)I" } : Jvm.MethodName) ({ cls := "TwinInkModel", name := "borne", desc := "(I)I" } : Jvm.MethodName)) ∈ lw_all := lw_g (lw_at lw_m9 191 rfl) rfl
theorem q2246 : (Jvm.Cond.code ({ cls := "TwinInkModel", name := "borne", desc := "(I)I" } : Jvm.MethodName) prog_12_method_109_code (5 : Nat) (Option.some Jvm.ClassFile.FieldType.int)) ∈ lw_all := lw_g (lw_at lw_m9 192 rfl) rfl
theorem q2247 : (Jvm.Cond.methodLink "TwinInkModel" (438 : Nat) ({ cls := "TwinInkModel", name := "isHeard", desc := "()Z" } : Jvm.MethodName)) ∈ lw_all := lw_g (lw_at lw_m9 193 rfl) rfl
theorem q2248 : (Jvm.Cond.privateMethod ({ cls := "TwinInkModel", name := "isHeard", desc := "()Z" } : Jvm.MethodName)) ∈ lw_tbl := lw_at lw_m9 194 rfl
theorem q2249 : (Jvm.Cond.instanceMethod ({ cls := "TwinInkModel", name := "isHeard", desc := "()Z" } : Jvm.MethodName)) ∈ lw_all := lw_g (lw_at lw_m9 195 rfl) rfl
theorem q2250 : (Jvm.Cond.code ({ cls := "TwinInkModel", name := "isHeard", desc := "()Z" } : Jvm.MethodName) prog_12_method_107_code (3 : Nat) (Option.some Jvm.ClassFile.FieldType.boolean)) ∈ lw_all := lw_g (lw_at lw_m9 196 rfl) rfl
theorem q2251 : (Jvm.Cond.methodLink "TwinInkModel" (441 : Nat) ({ cls := "TwinInkModel", name := "isGuess", desc := "(I)Z" } : Jvm.MethodName)) ∈ lw_all := lw_g (lw_at lw_m9 197 rfl) rfl
theorem q2252 : (Jvm.Cond.privateMethod ({ cls := "TwinInkModel", name := "isGuess", desc := "(I)Z" } : Jvm.MethodName)) ∈ lw_tbl := lw_at lw_m9 198 rfl
theorem q2253 : (Jvm.Cond.instanceMethod ({ cls := "TwinInkModel", name := "isGuess", desc := "(I)Z" } : Jvm.MethodName)) ∈ lw_all := lw_g (lw_at lw_m9 199 rfl) rfl
theorem q2254 : (Jvm.Cond.code ({ cls := "TwinInkModel", name := "isGuess", desc := "(I)Z" } : Jvm.MethodName) prog_12_method_108_code (4 : Nat) (Option.some Jvm.ClassFile.FieldType.boolean)) ∈ lw_all := lw_g (lw_at lw_m9 200 rfl) rfl
theorem q2256 : (Jvm.Cond.instanceMethod ({ cls := "TwinInkModel", name := "ask", desc := "(I)I" } : Jvm.MethodName)) ∈ lw_all := lw_g (lw_at lw_m9 202 rfl) rfl
theorem q2257 : (Jvm.Cond.selects "TwinInkModel" ({ cls := "TwinInkModel", name := "ask", desc := "(I)I" } : Jvm.MethodName) ({ cls := "TwinInkModel", name := "ask", desc := "(I)I" } : Jvm.MethodName)) ∈ lw_all := lw_g (lw_at lw_m9 203 rfl) rfl
theorem q2258 : (Jvm.Cond.code ({ cls := "TwinInkModel", name := "ask", desc := "(I)I" } : Jvm.MethodName) prog_12_method_110_code (10 : Nat) (Option.some Jvm.ClassFile.FieldType.int)) ∈ lw_all := lw_g (lw_at lw_m9 204 rfl) rfl
theorem q2260 : (Jvm.Cond.instanceMethod ({ cls := "TwinInkModel", name := "fires", desc := "(II)I" } : Jvm.MethodName)) ∈ lw_all := lw_g (lw_at lw_m9 206 rfl) rfl
theorem q2261 : (Jvm.Cond.selects "TwinInkModel" ({ cls := "TwinInkModel", name := "fires", desc := "(II)I" } : Jvm.MethodName) ({ cls := "TwinInkModel", name := "fires", desc := "(II)I" } : Jvm.MethodName)) ∈ lw_all := lw_g (lw_at lw_m9 207 rfl) rfl
theorem q2262 : (Jvm.Cond.code ({ cls := "TwinInkModel", name := "fires", desc := "(II)I" } : Jvm.MethodName) prog_12_method_111_code (9 : Nat) (Option.some Jvm.ClassFile.FieldType.int)) ∈ lw_all := lw_g (lw_at lw_m9 208 rfl) rfl
theorem q2264 : (Jvm.Cond.instanceMethod ({ cls := "TwinInkModel", name := "game", desc := "(III)I" } : Jvm.MethodName)) ∈ lw_all := lw_g (lw_at lw_m9 210 rfl) rfl
theorem q2265 : (Jvm.Cond.selects "TwinInkModel" ({ cls := "TwinInkModel", name := "game", desc := "(III)I" } : Jvm.MethodName) ({ cls := "TwinInkModel", name := "game", desc := "(III)I" } : Jvm.MethodName)) ∈ lw_all := lw_g (lw_at lw_m9 211 rfl) rfl
theorem q2266 : (Jvm.Cond.code ({ cls := "TwinInkModel", name := "game", desc := "(III)I" } : Jvm.MethodName) prog_12_method_115_code (9 : Nat) (Option.some Jvm.ClassFile.FieldType.int)) ∈ lw_all := lw_g (lw_at lw_m9 212 rfl) rfl
theorem q2267 : (Jvm.Cond.methodLink "TwinInkModel" (450 : Nat) ({ cls := "TwinInkModel", name := "gains", desc := "(IIII)I" } : Jvm.MethodName)) ∈ lw_all := lw_g (lw_at lw_m9 213 rfl) rfl
theorem q2268 : (Jvm.Cond.privateMethod ({ cls := "TwinInkModel", name := "gains", desc := "(IIII)I" } : Jvm.MethodName)) ∈ lw_tbl := lw_at lw_m9 214 rfl
theorem q2269 : (Jvm.Cond.instanceMethod ({ cls := "TwinInkModel", name := "gains", desc := "(IIII)I" } : Jvm.MethodName)) ∈ lw_all := lw_g (lw_at lw_m9 215 rfl) rfl
theorem q2270 : (Jvm.Cond.code ({ cls := "TwinInkModel", name := "gains", desc := "(IIII)I" } : Jvm.MethodName) prog_12_method_114_code (7 : Nat) (Option.some Jvm.ClassFile.FieldType.int)) ∈ lw_all := lw_g (lw_at lw_m9 216 rfl) rfl
theorem q2271 : (Jvm.Cond.methodLink "TwinInkModel" (444 : Nat) ({ cls := "TwinInkModel", name := "bears", desc := "(I)I" } : Jvm.MethodName)) ∈ lw_all := lw_g (lw_at lw_m9 217 rfl) rfl
theorem q2272 : (Jvm.Cond.privateMethod ({ cls := "TwinInkModel", name := "bears", desc := "(I)I" } : Jvm.MethodName)) ∈ lw_tbl := lw_at lw_m9 218 rfl
theorem q2273 : (Jvm.Cond.instanceMethod ({ cls := "TwinInkModel", name := "bears", desc := "(I)I" } : Jvm.MethodName)) ∈ lw_all := lw_g (lw_at lw_m9 219 rfl) rfl
theorem q2274 : (Jvm.Cond.code ({ cls := "TwinInkModel", name := "bears", desc := "(I)I" } : Jvm.MethodName) prog_12_method_113_code (4 : Nat) (Option.some Jvm.ClassFile.FieldType.int)) ∈ lw_all := lw_g (lw_at lw_m9 220 rfl) rfl
theorem q2275 : (Jvm.Cond.methodLink "TwinInkModel" (447 : Nat) ({ cls := "TwinInkModel", name := "newTo", desc := "(II)I" } : Jvm.MethodName)) ∈ lw_all := lw_g (lw_at lw_m9 221 rfl) rfl
theorem q2276 : (Jvm.Cond.privateMethod ({ cls := "TwinInkModel", name := "newTo", desc := "(II)I" } : Jvm.MethodName)) ∈ lw_tbl := lw_at lw_m9 222 rfl
theorem q2277 : (Jvm.Cond.instanceMethod ({ cls := "TwinInkModel", name := "newTo", desc := "(II)I" } : Jvm.MethodName)) ∈ lw_all := lw_g (lw_at lw_m9 223 rfl) rfl
theorem q2278 : (Jvm.Cond.code ({ cls := "TwinInkModel", name := "newTo", desc := "(II)I" } : Jvm.MethodName) prog_12_method_112_code (5 : Nat) (Option.some Jvm.ClassFile.FieldType.int)) ∈ lw_all := lw_g (lw_at lw_m9 224 rfl) rfl
theorem q2280 : (Jvm.Cond.instanceMethod ({ cls := "TwinInkModel", name := "years", desc := "(III)I" } : Jvm.MethodName)) ∈ lw_all := lw_g (lw_at lw_m9 226 rfl) rfl
theorem q2281 : (Jvm.Cond.selects "TwinInkModel" ({ cls := "TwinInkModel", name := "years", desc := "(III)I" } : Jvm.MethodName) ({ cls := "TwinInkModel", name := "years", desc := "(III)I" } : Jvm.MethodName)) ∈ lw_all := lw_g (lw_at lw_m9 227 rfl) rfl
theorem q2282 : (Jvm.Cond.code ({ cls := "TwinInkModel", name := "years", desc := "(III)I" } : Jvm.MethodName) prog_12_method_119_code (6 : Nat) (Option.some Jvm.ClassFile.FieldType.int)) ∈ lw_all := lw_g (lw_at lw_m9 228 rfl) rfl
theorem q2283 : (Jvm.Cond.methodLink "TwinInkModel" (464 : Nat) ({ cls := "TwinInkModel", name := "happens", desc := "()V" } : Jvm.MethodName)) ∈ lw_all := lw_g (lw_at lw_m9 229 rfl) rfl
theorem q2284 : (Jvm.Cond.privateMethod ({ cls := "TwinInkModel", name := "happens", desc := "()V" } : Jvm.MethodName)) ∈ lw_tbl := lw_at lw_m9 230 rfl
theorem q2285 : (Jvm.Cond.instanceMethod ({ cls := "TwinInkModel", name := "happens", desc := "()V" } : Jvm.MethodName)) ∈ lw_all := lw_g (lw_at lw_m9 231 rfl) rfl
theorem q2286 : (Jvm.Cond.code ({ cls := "TwinInkModel", name := "happens", desc := "()V" } : Jvm.MethodName) prog_12_method_118_code (4 : Nat) (Option.none : Option Jvm.ClassFile.FieldType)) ∈ lw_all := lw_g (lw_at lw_m9 232 rfl) rfl
theorem q2287 : (Jvm.Cond.methodLink "TwinInkModel" (458 : Nat) ({ cls := "TwinInkModel", name := "draw", desc := "(I)I" } : Jvm.MethodName)) ∈ lw_all := lw_g (lw_at lw_m9 233 rfl) rfl
theorem q2288 : (Jvm.Cond.privateMethod ({ cls := "TwinInkModel", name := "draw", desc := "(I)I" } : Jvm.MethodName)) ∈ lw_tbl := lw_at lw_m9 234 rfl
theorem q2289 : (Jvm.Cond.instanceMethod ({ cls := "TwinInkModel", name := "draw", desc := "(I)I" } : Jvm.MethodName)) ∈ lw_all := lw_g (lw_at lw_m9 235 rfl) rfl
theorem q2290 : (Jvm.Cond.code ({ cls := "TwinInkModel", name := "draw", desc := "(I)I" } : Jvm.MethodName) prog_12_method_116_code (2 : Nat) (Option.some Jvm.ClassFile.FieldType.int)) ∈ lw_all := lw_g (lw_at lw_m9 236 rfl) rfl
theorem q2291 : (Jvm.Cond.constant "TwinInkModel" (457 : Nat) (1103515245 : Int32)) ∈ lw_all := lw_g (lw_at lw_m9 237 rfl) rfl
theorem q2292 : (Jvm.Cond.methodLink "TwinInkModel" (461 : Nat) ({ cls := "TwinInkModel", name := "takesLeast", desc := "(I)V" } : Jvm.MethodName)) ∈ lw_all := lw_g (lw_at lw_m9 238 rfl) rfl
theorem q2293 : (Jvm.Cond.privateMethod ({ cls := "TwinInkModel", name := "takesLeast", desc := "(I)V" } : Jvm.MethodName)) ∈ lw_tbl := lw_at lw_m9 239 rfl
theorem q2294 : (Jvm.Cond.instanceMethod ({ cls := "TwinInkModel", name := "takesLeast", desc := "(I)V" } : Jvm.MethodName)) ∈ lw_all := lw_g (lw_at lw_m10 0 rfl) rfl
theorem q2295 : (Jvm.Cond.code ({ cls := "TwinInkModel", name := "takesLeast", desc := "(I)V" } : Jvm.MethodName) prog_12_method_117_code (3 : Nat) (Option.none : Option Jvm.ClassFile.FieldType)) ∈ lw_all := lw_g (lw_at lw_m10 1 rfl) rfl
theorem q2297 : (Jvm.Cond.instanceMethod ({ cls := "TwinInkModel", name := "wisest", desc := "(I)I" } : Jvm.MethodName)) ∈ lw_all := lw_g (lw_at lw_m10 3 rfl) rfl
theorem q2298 : (Jvm.Cond.selects "TwinInkModel" ({ cls := "TwinInkModel", name := "wisest", desc := "(I)I" } : Jvm.MethodName) ({ cls := "TwinInkModel", name := "wisest", desc := "(I)I" } : Jvm.MethodName)) ∈ lw_all := lw_g (lw_at lw_m10 4 rfl) rfl
theorem q2299 : (Jvm.Cond.code ({ cls := "TwinInkModel", name := "wisest", desc := "(I)I" } : Jvm.MethodName) prog_12_method_120_code (4 : Nat) (Option.some Jvm.ClassFile.FieldType.int)) ∈ lw_all := lw_g (lw_at lw_m10 5 rfl) rfl
theorem q2301 : (Jvm.Cond.instanceMethod ({ cls := "TwinInkModel", name := "company", desc := "(III)I" } : Jvm.MethodName)) ∈ lw_all := lw_g (lw_at lw_m10 7 rfl) rfl
theorem q2302 : (Jvm.Cond.selects "TwinInkModel" ({ cls := "TwinInkModel", name := "company", desc := "(III)I" } : Jvm.MethodName) ({ cls := "TwinInkModel", name := "company", desc := "(III)I" } : Jvm.MethodName)) ∈ lw_all := lw_g (lw_at lw_m10 8 rfl) rfl
theorem q2303 : (Jvm.Cond.code ({ cls := "TwinInkModel", name := "company", desc := "(III)I" } : Jvm.MethodName) prog_12_method_121_code (6 : Nat) (Option.some Jvm.ClassFile.FieldType.int)) ∈ lw_all := lw_g (lw_at lw_m10 9 rfl) rfl
theorem q2305 : (Jvm.Cond.instanceMethod ({ cls := "TwinInkModel", name := "together", desc := "(I)I" } : Jvm.MethodName)) ∈ lw_all := lw_g (lw_at lw_m10 11 rfl) rfl
theorem q2306 : (Jvm.Cond.selects "TwinInkModel" ({ cls := "TwinInkModel", name := "together", desc := "(I)I" } : Jvm.MethodName) ({ cls := "TwinInkModel", name := "together", desc := "(I)I" } : Jvm.MethodName)) ∈ lw_all := lw_g (lw_at lw_m10 12 rfl) rfl
theorem q2307 : (Jvm.Cond.code ({ cls := "TwinInkModel", name := "together", desc := "(I)I" } : Jvm.MethodName) prog_12_method_122_code (6 : Nat) (Option.some Jvm.ClassFile.FieldType.int)) ∈ lw_all := lw_g (lw_at lw_m10 13 rfl) rfl
theorem q2309 : (Jvm.Cond.instanceMethod ({ cls := "TwinInkModel", name := "odd", desc := "(I)I" } : Jvm.MethodName)) ∈ lw_all := lw_g (lw_at lw_m10 15 rfl) rfl
theorem q2310 : (Jvm.Cond.selects "TwinInkModel" ({ cls := "TwinInkModel", name := "odd", desc := "(I)I" } : Jvm.MethodName) ({ cls := "TwinInkModel", name := "odd", desc := "(I)I" } : Jvm.MethodName)) ∈ lw_all := lw_g (lw_at lw_m10 16 rfl) rfl
theorem q2311 : (Jvm.Cond.code ({ cls := "TwinInkModel", name := "odd", desc := "(I)I" } : Jvm.MethodName) prog_12_method_125_code (5 : Nat) (Option.some Jvm.ClassFile.FieldType.int)) ∈ lw_all := lw_g (lw_at lw_m10 17 rfl) rfl
theorem q2312 : (Jvm.Cond.methodLink "TwinInkModel" (467 : Nat) ({ cls := "TwinInkModel", name := "isOrphan", desc := "(I)Z" } : Jvm.MethodName)) ∈ lw_all := lw_g (lw_at lw_m10 18 rfl) rfl
theorem q2313 : (Jvm.Cond.privateMethod ({ cls := "TwinInkModel", name := "isOrphan", desc := "(I)Z" } : Jvm.MethodName)) ∈ lw_tbl := lw_at lw_m10 19 rfl
theorem q2314 : (Jvm.Cond.instanceMethod ({ cls := "TwinInkModel", name := "isOrphan", desc := "(I)Z" } : Jvm.MethodName)) ∈ lw_all := lw_g (lw_at lw_m10 20 rfl) rfl
theorem q2315 : (Jvm.Cond.code ({ cls := "TwinInkModel", name := "isOrphan", desc := "(I)Z" } : Jvm.MethodName) prog_12_method_123_code (4 : Nat) (Option.some Jvm.ClassFile.FieldType.boolean)) ∈ lw_all := lw_g (lw_at lw_m10 21 rfl) rfl
theorem q2316 : (Jvm.Cond.methodLink "TwinInkModel" (470 : Nat) ({ cls := "TwinInkModel", name := "hasWord", desc := "(II)Z" } : Jvm.MethodName)) ∈ lw_all := lw_g (lw_at lw_m10 22 rfl) rfl
theorem q2317 : (Jvm.Cond.privateMethod ({ cls := "TwinInkModel", name := "hasWord", desc := "(II)Z" } : Jvm.MethodName)) ∈ lw_tbl := lw_at lw_m10 23 rfl
theorem q2318 : (Jvm.Cond.instanceMethod ({ cls := "TwinInkModel", name := "hasWord", desc := "(II)Z" } : Jvm.MethodName)) ∈ lw_all := lw_g (lw_at lw_m10 24 rfl) rfl
theorem q2319 : (Jvm.Cond.code ({ cls := "TwinInkModel", name := "hasWord", desc := "(II)Z" } : Jvm.MethodName) prog_12_method_124_code (4 : Nat) (Option.some Jvm.ClassFile.FieldType.boolean)) ∈ lw_all := lw_g (lw_at lw_m10 25 rfl) rfl
theorem q2321 : (Jvm.Cond.instanceMethod ({ cls := "TwinInkModel", name := "far", desc := "(II)I" } : Jvm.MethodName)) ∈ lw_all := lw_g (lw_at lw_m10 27 rfl) rfl
theorem q2322 : (Jvm.Cond.selects "TwinInkModel" ({ cls := "TwinInkModel", name := "far", desc := "(II)I" } : Jvm.MethodName) ({ cls := "TwinInkModel", name := "far", desc := "(II)I" } : Jvm.MethodName)) ∈ lw_all := lw_g (lw_at lw_m10 28 rfl) rfl
theorem q2323 : (Jvm.Cond.code ({ cls := "TwinInkModel", name := "far", desc := "(II)I" } : Jvm.MethodName) prog_12_method_126_code (3 : Nat) (Option.some Jvm.ClassFile.FieldType.int)) ∈ lw_all := lw_g (lw_at lw_m10 29 rfl) rfl
theorem q2325 : (Jvm.Cond.instanceMethod ({ cls := "TwinInkModel", name := "unread", desc := "(I)I" } : Jvm.MethodName)) ∈ lw_all := lw_g (lw_at lw_m10 31 rfl) rfl
theorem q2326 : (Jvm.Cond.selects "TwinInkModel" ({ cls := "TwinInkModel", name := "unread", desc := "(I)I" } : Jvm.MethodName) ({ cls := "TwinInkModel", name := "unread", desc := "(I)I" } : Jvm.MethodName)) ∈ lw_all := lw_g (lw_at lw_m10 32 rfl) rfl
theorem q2327 : (Jvm.Cond.code ({ cls := "TwinInkModel", name := "unread", desc := "(I)I" } : Jvm.MethodName) prog_12_method_127_code (2 : Nat) (Option.some Jvm.ClassFile.FieldType.int)) ∈ lw_all := lw_g (lw_at lw_m10 33 rfl) rfl
theorem q2329 : (Jvm.Cond.instanceMethod ({ cls := "TwinInkModel", name := "heir", desc := "(I)I" } : Jvm.MethodName)) ∈ lw_all := lw_g (lw_at lw_m10 35 rfl) rfl
theorem q2330 : (Jvm.Cond.selects "TwinInkModel" ({ cls := "TwinInkModel", name := "heir", desc := "(I)I" } : Jvm.MethodName) ({ cls := "TwinInkModel", name := "heir", desc := "(I)I" } : Jvm.MethodName)) ∈ lw_all := lw_g (lw_at lw_m10 36 rfl) rfl
theorem q2331 : (Jvm.Cond.code ({ cls := "TwinInkModel", name := "heir", desc := "(I)I" } : Jvm.MethodName) prog_12_method_128_code (6 : Nat) (Option.some Jvm.ClassFile.FieldType.int)) ∈ lw_all := lw_g (lw_at lw_m10 37 rfl) rfl
theorem q2333 : (Jvm.Cond.instanceMethod ({ cls := "TwinInkModel", name := "laid", desc := "(I)I" } : Jvm.MethodName)) ∈ lw_all := lw_g (lw_at lw_m10 39 rfl) rfl
theorem q2334 : (Jvm.Cond.selects "TwinInkModel" ({ cls := "TwinInkModel", name := "laid", desc := "(I)I" } : Jvm.MethodName) ({ cls := "TwinInkModel", name := "laid", desc := "(I)I" } : Jvm.MethodName)) ∈ lw_all := lw_g (lw_at lw_m10 40 rfl) rfl
theorem q2335 : (Jvm.Cond.code ({ cls := "TwinInkModel", name := "laid", desc := "(I)I" } : Jvm.MethodName) prog_12_method_130_code (5 : Nat) (Option.some Jvm.ClassFile.FieldType.int)) ∈ lw_all := lw_g (lw_at lw_m10 41 rfl) rfl
theorem q2336 : (Jvm.Cond.methodLink "TwinInkModel" (473 : Nat) ({ cls := "TwinInkModel", name := "knowledge", desc := "()I" } : Jvm.MethodName)) ∈ lw_all := lw_g (lw_at lw_m10 42 rfl) rfl
theorem q2337 : (Jvm.Cond.privateMethod ({ cls := "TwinInkModel", name := "knowledge", desc := "()I" } : Jvm.MethodName)) ∈ lw_tbl := lw_at lw_m10 43 rfl
theorem q2338 : (Jvm.Cond.instanceMethod ({ cls := "TwinInkModel", name := "knowledge", desc := "()I" } : Jvm.MethodName)) ∈ lw_all := lw_g (lw_at lw_m10 44 rfl) rfl
theorem q2339 : (Jvm.Cond.code ({ cls := "TwinInkModel", name := "knowledge", desc := "()I" } : Jvm.MethodName) prog_12_method_129_code (3 : Nat) (Option.some Jvm.ClassFile.FieldType.int)) ∈ lw_all := lw_g (lw_at lw_m10 45 rfl) rfl
theorem q2341 : (Jvm.Cond.instanceMethod ({ cls := "TwinInkModel", name := "image", desc := "()V" } : Jvm.MethodName)) ∈ lw_all := lw_g (lw_at lw_m10 47 rfl) rfl
theorem q2342 : (Jvm.Cond.selects "TwinInkModel" ({ cls := "TwinInkModel", name := "image", desc := "()V" } : Jvm.MethodName) ({ cls := "TwinInkModel", name := "image", desc := "()V" } : Jvm.MethodName)) ∈ lw_all := lw_g (lw_at lw_m10 48 rfl) rfl
theorem q2343 : (Jvm.Cond.code ({ cls := "TwinInkModel", name := "image", desc := "()V" } : Jvm.MethodName) prog_12_method_131_code (2 : Nat) (Option.none : Option Jvm.ClassFile.FieldType)) ∈ lw_all := lw_g (lw_at lw_m10 49 rfl) rfl
theorem q2345 : (Jvm.Cond.instanceMethod ({ cls := "TwinInkModel", name := "restore", desc := "()Z" } : Jvm.MethodName)) ∈ lw_all := lw_g (lw_at lw_m10 51 rfl) rfl
theorem q2346 : (Jvm.Cond.selects "TwinInkModel" ({ cls := "TwinInkModel", name := "restore", desc := "()Z" } : Jvm.MethodName) ({ cls := "TwinInkModel", name := "restore", desc := "()Z" } : Jvm.MethodName)) ∈ lw_all := lw_g (lw_at lw_m10 52 rfl) rfl
theorem q2347 : (Jvm.Cond.code ({ cls := "TwinInkModel", name := "restore", desc := "()Z" } : Jvm.MethodName) prog_12_method_132_code (2 : Nat) (Option.some Jvm.ClassFile.FieldType.boolean)) ∈ lw_all := lw_g (lw_at lw_m10 53 rfl) rfl
theorem q2361 : (Jvm.Cond.castable "TwinInkModel" "java/lang/Object") ∈ lw_tbl := lw_at lw_m10 67 rfl
theorem in_X4 : ∀ w ∈ wsX40, w ∈ lw_all := lw_in wsX40 [1706, 1708, 1710, 1712, 1714, 1716, 1718, 1720, 1722, 1724, 1726, 1728, 1730, 1732, 1734, 1736, 1738, 1740, 1742, 1744, 1746, 1748, 1750, 1752, 1754, 1756, 1758, 1760, 1762, 1764, 1766, 1768, 1770, 1772, 1774, 1776, 1778, 1780, 1782, 1784, 1786, 1788, 1790, 1792, 1794, 1796, 1798, 1800, 1802, 1804, 1806, 1808, 1810, 1812, 1814, 1816, 1818, 1820, 1822, 1824, 1826, 1828] (by decide +kernel) (by decide +kernel)

