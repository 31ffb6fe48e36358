/-! walks (printed): Plugboard, Plugboard.Board, PlugboardLaw, PlugboardModel -/
set_option maxRecDepth 100000
abbrev cX5_move : ByteArray := prog_19_method_29_code
def yX5_move : MethodName := ⟨RX5, "move", "(IIII)I"⟩
def dkwX5_move_9 : List UInt8 := [132, 8, 1, 132, 9, 1, 167, 255, 145, 42, 27, 4, 182, 0, 186, 21, 8, 172]
abbrev dktX5_move_9 : List UInt8 := dkwX5_move_9 ++ []
def dkwX5_move_8 : List UInt8 := [21, 9, 182, 0, 141, 21, 6, 96, 104, 42, 21, 9, 182, 0, 145, 96, 21, 7, 96, 182, 0, 179]
abbrev dktX5_move_8 : List UInt8 := dkwX5_move_8 ++ dktX5_move_9
def dkwX5_move_7 : List UInt8 := [21, 9, 28, 159, 0, 11, 21, 10, 154, 0, 6, 167, 0, 37, 42, 16, 12, 21, 9, 96, 16, 32, 42]
abbrev dktX5_move_7 : List UInt8 := dkwX5_move_7 ++ dktX5_move_8
def dkwX5_move_6 : List UInt8 := [182, 0, 196, 153, 0, 17, 42, 27, 21, 9, 182, 0, 190, 154, 0, 7, 4, 167, 0, 4, 3, 54, 10]
abbrev dktX5_move_6 : List UInt8 := dkwX5_move_6 ++ dktX5_move_7
def dkwX5_move_5 : List UInt8 := [42, 180, 0, 22, 28, 51, 153, 0, 36, 42, 21, 9, 182, 0, 125, 153, 0, 27, 42, 21, 9, 28]
abbrev dktX5_move_5 : List UInt8 := dkwX5_move_5 ++ dktX5_move_6
def dkwX5_move_4 : List UInt8 := [100, 54, 7, 3, 54, 8, 3, 54, 9, 21, 9, 42, 180, 0, 119, 162, 0, 108, 21, 9, 28, 159, 0, 45]
abbrev dktX5_move_4 : List UInt8 := dkwX5_move_4 ++ dktX5_move_5
def dkwX5_move_3 : List UInt8 := [180, 0, 97, 158, 0, 5, 3, 172, 29, 42, 28, 182, 0, 141, 100, 54, 6, 21, 4, 42, 28, 182, 0, 145]
abbrev dktX5_move_3 : List UInt8 := dkwX5_move_3 ++ dktX5_move_4
def dkwX5_move_2 : List UInt8 := [182, 0, 168, 154, 0, 9, 42, 4, 182, 0, 172, 172, 42, 42, 27, 28, 182, 0, 193, 181, 0, 97, 42]
abbrev dktX5_move_2 : List UInt8 := dkwX5_move_2 ++ dktX5_move_3
def dkwX5_move_1 : List UInt8 := [153, 0, 30, 21, 5, 153, 0, 31, 42, 29, 21, 4, 42, 180, 0, 9, 28, 46, 42, 180, 0, 13, 28, 46]
abbrev dktX5_move_1 : List UInt8 := dkwX5_move_1 ++ dktX5_move_2
def dkwX5_move_0 : List UInt8 := [42, 3, 181, 0, 97, 28, 3, 42, 180, 0, 119, 4, 100, 184, 0, 101, 54, 5, 27, 184, 0, 165]
abbrev dktX5_move_0 : List UInt8 := dkwX5_move_0 ++ dktX5_move_1
theorem dksX5_move_0 : cX5_move.data.toList.drop 0 = dktX5_move_0 := by decide +kernel
theorem dksX5_move_1 : cX5_move.data.toList.drop 22 = dktX5_move_1 := dk_seg dksX5_move_0 22 rfl rfl
theorem dksX5_move_2 : cX5_move.data.toList.drop 46 = dktX5_move_2 := dk_seg dksX5_move_1 24 rfl rfl
theorem dksX5_move_3 : cX5_move.data.toList.drop 69 = dktX5_move_3 := dk_seg dksX5_move_2 23 rfl rfl
theorem dksX5_move_4 : cX5_move.data.toList.drop 93 = dktX5_move_4 := dk_seg dksX5_move_3 24 rfl rfl
theorem dksX5_move_5 : cX5_move.data.toList.drop 117 = dktX5_move_5 := dk_seg dksX5_move_4 24 rfl rfl
theorem dksX5_move_6 : cX5_move.data.toList.drop 139 = dktX5_move_6 := dk_seg dksX5_move_5 22 rfl rfl
theorem dksX5_move_7 : cX5_move.data.toList.drop 162 = dktX5_move_7 := dk_seg dksX5_move_6 23 rfl rfl
theorem dksX5_move_8 : cX5_move.data.toList.drop 185 = dktX5_move_8 := dk_seg dksX5_move_7 23 rfl rfl
theorem dksX5_move_9 : cX5_move.data.toList.drop 207 = dktX5_move_9 := dk_seg dksX5_move_8 22 rfl rfl
theorem dX5_move_0 : decode cX5_move 0 = .ok (.aload_n 0, 1) := dk_42 (dk_at dksX5_move_0 0 rfl rfl)
theorem dX5_move_1 : decode cX5_move 1 = .ok (.iconst 0, 1) := dk_3 (dk_at dksX5_move_0 1 rfl rfl)
theorem dX5_move_2 : decode cX5_move 2 = .ok (.putfield 97, 3) := dk_181 0 97 (dk_at dksX5_move_0 2 rfl rfl)
theorem dX5_move_5 : decode cX5_move 5 = .ok (.iload_n 2, 1) := dk_28 (dk_at dksX5_move_0 5 rfl rfl)
theorem dX5_move_6 : decode cX5_move 6 = .ok (.iconst 0, 1) := dk_3 (dk_at dksX5_move_0 6 rfl rfl)
theorem dX5_move_7 : decode cX5_move 7 = .ok (.aload_n 0, 1) := dk_42 (dk_at dksX5_move_0 7 rfl rfl)
theorem dX5_move_8 : decode cX5_move 8 = .ok (.getfield 119, 3) := dk_180 0 119 (dk_at dksX5_move_0 8 rfl rfl)
theorem dX5_move_11 : decode cX5_move 11 = .ok (.iconst 1, 1) := dk_4 (dk_at dksX5_move_0 11 rfl rfl)
theorem dX5_move_12 : decode cX5_move 12 = .ok (.isub, 1) := dk_100 (dk_at dksX5_move_0 12 rfl rfl)
theorem dX5_move_13 : decode cX5_move 13 = .ok (.invokestatic 101, 3) := dk_184 0 101 (dk_at dksX5_move_0 13 rfl rfl)
theorem dX5_move_16 : decode cX5_move 16 = .ok (.istore 5, 2) := dk_54 5 (dk_at dksX5_move_0 16 rfl rfl)
theorem dX5_move_18 : decode cX5_move 18 = .ok (.iload_n 1, 1) := dk_27 (dk_at dksX5_move_0 18 rfl rfl)
theorem dX5_move_19 : decode cX5_move 19 = .ok (.invokestatic 165, 3) := dk_184 0 165 (dk_at dksX5_move_0 19 rfl rfl)
theorem dX5_move_22 : decode cX5_move 22 = .ok (.ifCond .eq 30, 3) := dk_153 0 30 (dk_at dksX5_move_1 0 rfl rfl)
theorem dX5_move_25 : decode cX5_move 25 = .ok (.iload 5, 2) := dk_21 5 (dk_at dksX5_move_1 3 rfl rfl)
theorem dX5_move_27 : decode cX5_move 27 = .ok (.ifCond .eq 31, 3) := dk_153 0 31 (dk_at dksX5_move_1 5 rfl rfl)
theorem dX5_move_30 : decode cX5_move 30 = .ok (.aload_n 0, 1) := dk_42 (dk_at dksX5_move_1 8 rfl rfl)
theorem dX5_move_31 : decode cX5_move 31 = .ok (.iload_n 3, 1) := dk_29 (dk_at dksX5_move_1 9 rfl rfl)
theorem dX5_move_32 : decode cX5_move 32 = .ok (.iload 4, 2) := dk_21 4 (dk_at dksX5_move_1 10 rfl rfl)
theorem dX5_move_34 : decode cX5_move 34 = .ok (.aload_n 0, 1) := dk_42 (dk_at dksX5_move_1 12 rfl rfl)
theorem dX5_move_35 : decode cX5_move 35 = .ok (.getfield 9, 3) := dk_180 0 9 (dk_at dksX5_move_1 13 rfl rfl)
theorem dX5_move_38 : decode cX5_move 38 = .ok (.iload_n 2, 1) := dk_28 (dk_at dksX5_move_1 16 rfl rfl)
theorem dX5_move_39 : decode cX5_move 39 = .ok (.iaload, 1) := dk_46 (dk_at dksX5_move_1 17 rfl rfl)
theorem dX5_move_40 : decode cX5_move 40 = .ok (.aload_n 0, 1) := dk_42 (dk_at dksX5_move_1 18 rfl rfl)
theorem dX5_move_41 : decode cX5_move 41 = .ok (.getfield 13, 3) := dk_180 0 13 (dk_at dksX5_move_1 19 rfl rfl)
theorem dX5_move_44 : decode cX5_move 44 = .ok (.iload_n 2, 1) := dk_28 (dk_at dksX5_move_1 22 rfl rfl)
theorem dX5_move_45 : decode cX5_move 45 = .ok (.iaload, 1) := dk_46 (dk_at dksX5_move_1 23 rfl rfl)
theorem dX5_move_46 : decode cX5_move 46 = .ok (.invokevirtual 168, 3) := dk_182 0 168 (dk_at dksX5_move_2 0 rfl rfl)
theorem dX5_move_49 : decode cX5_move 49 = .ok (.ifCond .ne 9, 3) := dk_154 0 9 (dk_at dksX5_move_2 3 rfl rfl)
theorem dX5_move_52 : decode cX5_move 52 = .ok (.aload_n 0, 1) := dk_42 (dk_at dksX5_move_2 6 rfl rfl)
theorem dX5_move_53 : decode cX5_move 53 = .ok (.iconst 1, 1) := dk_4 (dk_at dksX5_move_2 7 rfl rfl)
theorem dX5_move_54 : decode cX5_move 54 = .ok (.invokevirtual 172, 3) := dk_182 0 172 (dk_at dksX5_move_2 8 rfl rfl)
theorem dX5_move_57 : decode cX5_move 57 = .ok (.ireturn, 1) := dk_172 (dk_at dksX5_move_2 11 rfl rfl)
theorem dX5_move_58 : decode cX5_move 58 = .ok (.aload_n 0, 1) := dk_42 (dk_at dksX5_move_2 12 rfl rfl)
theorem dX5_move_59 : decode cX5_move 59 = .ok (.aload_n 0, 1) := dk_42 (dk_at dksX5_move_2 13 rfl rfl)
theorem dX5_move_60 : decode cX5_move 60 = .ok (.iload_n 1, 1) := dk_27 (dk_at dksX5_move_2 14 rfl rfl)
theorem dX5_move_61 : decode cX5_move 61 = .ok (.iload_n 2, 1) := dk_28 (dk_at dksX5_move_2 15 rfl rfl)
theorem dX5_move_62 : decode cX5_move 62 = .ok (.invokevirtual 193, 3) := dk_182 0 193 (dk_at dksX5_move_2 16 rfl rfl)
theorem dX5_move_65 : decode cX5_move 65 = .ok (.putfield 97, 3) := dk_181 0 97 (dk_at dksX5_move_2 19 rfl rfl)
theorem dX5_move_68 : decode cX5_move 68 = .ok (.aload_n 0, 1) := dk_42 (dk_at dksX5_move_2 22 rfl rfl)
theorem dX5_move_69 : decode cX5_move 69 = .ok (.getfield 97, 3) := dk_180 0 97 (dk_at dksX5_move_3 0 rfl rfl)
theorem dX5_move_72 : decode cX5_move 72 = .ok (.ifCond .le 5, 3) := dk_158 0 5 (dk_at dksX5_move_3 3 rfl rfl)
theorem dX5_move_75 : decode cX5_move 75 = .ok (.iconst 0, 1) := dk_3 (dk_at dksX5_move_3 6 rfl rfl)
theorem dX5_move_76 : decode cX5_move 76 = .ok (.ireturn, 1) := dk_172 (dk_at dksX5_move_3 7 rfl rfl)
theorem dX5_move_77 : decode cX5_move 77 = .ok (.iload_n 3, 1) := dk_29 (dk_at dksX5_move_3 8 rfl rfl)
theorem dX5_move_78 : decode cX5_move 78 = .ok (.aload_n 0, 1) := dk_42 (dk_at dksX5_move_3 9 rfl rfl)
theorem dX5_move_79 : decode cX5_move 79 = .ok (.iload_n 2, 1) := dk_28 (dk_at dksX5_move_3 10 rfl rfl)
theorem dX5_move_80 : decode cX5_move 80 = .ok (.invokevirtual 141, 3) := dk_182 0 141 (dk_at dksX5_move_3 11 rfl rfl)
theorem dX5_move_83 : decode cX5_move 83 = .ok (.isub, 1) := dk_100 (dk_at dksX5_move_3 14 rfl rfl)
theorem dX5_move_84 : decode cX5_move 84 = .ok (.istore 6, 2) := dk_54 6 (dk_at dksX5_move_3 15 rfl rfl)
theorem dX5_move_86 : decode cX5_move 86 = .ok (.iload 4, 2) := dk_21 4 (dk_at dksX5_move_3 17 rfl rfl)
theorem dX5_move_88 : decode cX5_move 88 = .ok (.aload_n 0, 1) := dk_42 (dk_at dksX5_move_3 19 rfl rfl)
theorem dX5_move_89 : decode cX5_move 89 = .ok (.iload_n 2, 1) := dk_28 (dk_at dksX5_move_3 20 rfl rfl)
theorem dX5_move_90 : decode cX5_move 90 = .ok (.invokevirtual 145, 3) := dk_182 0 145 (dk_at dksX5_move_3 21 rfl rfl)
theorem dX5_move_93 : decode cX5_move 93 = .ok (.isub, 1) := dk_100 (dk_at dksX5_move_4 0 rfl rfl)
theorem dX5_move_94 : decode cX5_move 94 = .ok (.istore 7, 2) := dk_54 7 (dk_at dksX5_move_4 1 rfl rfl)
theorem dX5_move_96 : decode cX5_move 96 = .ok (.iconst 0, 1) := dk_3 (dk_at dksX5_move_4 3 rfl rfl)
theorem dX5_move_97 : decode cX5_move 97 = .ok (.istore 8, 2) := dk_54 8 (dk_at dksX5_move_4 4 rfl rfl)
theorem dX5_move_99 : decode cX5_move 99 = .ok (.iconst 0, 1) := dk_3 (dk_at dksX5_move_4 6 rfl rfl)
theorem dX5_move_100 : decode cX5_move 100 = .ok (.istore 9, 2) := dk_54 9 (dk_at dksX5_move_4 7 rfl rfl)
theorem dX5_move_102 : decode cX5_move 102 = .ok (.iload 9, 2) := dk_21 9 (dk_at dksX5_move_4 9 rfl rfl)
theorem dX5_move_104 : decode cX5_move 104 = .ok (.aload_n 0, 1) := dk_42 (dk_at dksX5_move_4 11 rfl rfl)
theorem dX5_move_105 : decode cX5_move 105 = .ok (.getfield 119, 3) := dk_180 0 119 (dk_at dksX5_move_4 12 rfl rfl)
theorem dX5_move_108 : decode cX5_move 108 = .ok (.if_icmp .ge 108, 3) := dk_162 0 108 (dk_at dksX5_move_4 15 rfl rfl)
theorem dX5_move_111 : decode cX5_move 111 = .ok (.iload 9, 2) := dk_21 9 (dk_at dksX5_move_4 18 rfl rfl)
theorem dX5_move_113 : decode cX5_move 113 = .ok (.iload_n 2, 1) := dk_28 (dk_at dksX5_move_4 20 rfl rfl)
theorem dX5_move_114 : decode cX5_move 114 = .ok (.if_icmp .eq 45, 3) := dk_159 0 45 (dk_at dksX5_move_4 21 rfl rfl)
theorem dX5_move_117 : decode cX5_move 117 = .ok (.aload_n 0, 1) := dk_42 (dk_at dksX5_move_5 0 rfl rfl)
theorem dX5_move_118 : decode cX5_move 118 = .ok (.getfield 22, 3) := dk_180 0 22 (dk_at dksX5_move_5 1 rfl rfl)
theorem dX5_move_121 : decode cX5_move 121 = .ok (.iload_n 2, 1) := dk_28 (dk_at dksX5_move_5 4 rfl rfl)
theorem dX5_move_122 : decode cX5_move 122 = .ok (.baload, 1) := dk_51 (dk_at dksX5_move_5 5 rfl rfl)
theorem dX5_move_123 : decode cX5_move 123 = .ok (.ifCond .eq 36, 3) := dk_153 0 36 (dk_at dksX5_move_5 6 rfl rfl)
theorem dX5_move_126 : decode cX5_move 126 = .ok (.aload_n 0, 1) := dk_42 (dk_at dksX5_move_5 9 rfl rfl)
theorem dX5_move_127 : decode cX5_move 127 = .ok (.iload 9, 2) := dk_21 9 (dk_at dksX5_move_5 10 rfl rfl)
theorem dX5_move_129 : decode cX5_move 129 = .ok (.invokevirtual 125, 3) := dk_182 0 125 (dk_at dksX5_move_5 12 rfl rfl)
theorem dX5_move_132 : decode cX5_move 132 = .ok (.ifCond .eq 27, 3) := dk_153 0 27 (dk_at dksX5_move_5 15 rfl rfl)
theorem dX5_move_135 : decode cX5_move 135 = .ok (.aload_n 0, 1) := dk_42 (dk_at dksX5_move_5 18 rfl rfl)
theorem dX5_move_136 : decode cX5_move 136 = .ok (.iload 9, 2) := dk_21 9 (dk_at dksX5_move_5 19 rfl rfl)
theorem dX5_move_138 : decode cX5_move 138 = .ok (.iload_n 2, 1) := dk_28 (dk_at dksX5_move_5 21 rfl rfl)
theorem dX5_move_139 : decode cX5_move 139 = .ok (.invokevirtual 196, 3) := dk_182 0 196 (dk_at dksX5_move_6 0 rfl rfl)
theorem dX5_move_142 : decode cX5_move 142 = .ok (.ifCond .eq 17, 3) := dk_153 0 17 (dk_at dksX5_move_6 3 rfl rfl)
theorem dX5_move_145 : decode cX5_move 145 = .ok (.aload_n 0, 1) := dk_42 (dk_at dksX5_move_6 6 rfl rfl)
theorem dX5_move_146 : decode cX5_move 146 = .ok (.iload_n 1, 1) := dk_27 (dk_at dksX5_move_6 7 rfl rfl)
theorem dX5_move_147 : decode cX5_move 147 = .ok (.iload 9, 2) := dk_21 9 (dk_at dksX5_move_6 8 rfl rfl)
theorem dX5_move_149 : decode cX5_move 149 = .ok (.invokevirtual 190, 3) := dk_182 0 190 (dk_at dksX5_move_6 10 rfl rfl)
theorem dX5_move_152 : decode cX5_move 152 = .ok (.ifCond .ne 7, 3) := dk_154 0 7 (dk_at dksX5_move_6 13 rfl rfl)
theorem dX5_move_155 : decode cX5_move 155 = .ok (.iconst 1, 1) := dk_4 (dk_at dksX5_move_6 16 rfl rfl)
theorem dX5_move_156 : decode cX5_move 156 = .ok (.goto 4, 3) := dk_167 0 4 (dk_at dksX5_move_6 17 rfl rfl)
theorem dX5_move_159 : decode cX5_move 159 = .ok (.iconst 0, 1) := dk_3 (dk_at dksX5_move_6 20 rfl rfl)
theorem dX5_move_160 : decode cX5_move 160 = .ok (.istore 10, 2) := dk_54 10 (dk_at dksX5_move_6 21 rfl rfl)
theorem dX5_move_162 : decode cX5_move 162 = .ok (.iload 9, 2) := dk_21 9 (dk_at dksX5_move_7 0 rfl rfl)
theorem dX5_move_164 : decode cX5_move 164 = .ok (.iload_n 2, 1) := dk_28 (dk_at dksX5_move_7 2 rfl rfl)
theorem dX5_move_165 : decode cX5_move 165 = .ok (.if_icmp .eq 11, 3) := dk_159 0 11 (dk_at dksX5_move_7 3 rfl rfl)
theorem dX5_move_168 : decode cX5_move 168 = .ok (.iload 10, 2) := dk_21 10 (dk_at dksX5_move_7 6 rfl rfl)
theorem dX5_move_170 : decode cX5_move 170 = .ok (.ifCond .ne 6, 3) := dk_154 0 6 (dk_at dksX5_move_7 8 rfl rfl)
theorem dX5_move_173 : decode cX5_move 173 = .ok (.goto 37, 3) := dk_167 0 37 (dk_at dksX5_move_7 11 rfl rfl)
theorem dX5_move_176 : decode cX5_move 176 = .ok (.aload_n 0, 1) := dk_42 (dk_at dksX5_move_7 14 rfl rfl)
theorem dX5_move_177 : decode cX5_move 177 = .ok (.bipush 12, 2) := dk_16 12 (dk_at dksX5_move_7 15 rfl rfl)
theorem dX5_move_179 : decode cX5_move 179 = .ok (.iload 9, 2) := dk_21 9 (dk_at dksX5_move_7 17 rfl rfl)
theorem dX5_move_181 : decode cX5_move 181 = .ok (.iadd, 1) := dk_96 (dk_at dksX5_move_7 19 rfl rfl)
theorem dX5_move_182 : decode cX5_move 182 = .ok (.bipush 32, 2) := dk_16 32 (dk_at dksX5_move_7 20 rfl rfl)
theorem dX5_move_184 : decode cX5_move 184 = .ok (.aload_n 0, 1) := dk_42 (dk_at dksX5_move_7 22 rfl rfl)
theorem dX5_move_185 : decode cX5_move 185 = .ok (.iload 9, 2) := dk_21 9 (dk_at dksX5_move_8 0 rfl rfl)
theorem dX5_move_187 : decode cX5_move 187 = .ok (.invokevirtual 141, 3) := dk_182 0 141 (dk_at dksX5_move_8 2 rfl rfl)
theorem dX5_move_190 : decode cX5_move 190 = .ok (.iload 6, 2) := dk_21 6 (dk_at dksX5_move_8 5 rfl rfl)
theorem dX5_move_192 : decode cX5_move 192 = .ok (.iadd, 1) := dk_96 (dk_at dksX5_move_8 7 rfl rfl)
theorem dX5_move_193 : decode cX5_move 193 = .ok (.imul, 1) := dk_104 (dk_at dksX5_move_8 8 rfl rfl)
theorem dX5_move_194 : decode cX5_move 194 = .ok (.aload_n 0, 1) := dk_42 (dk_at dksX5_move_8 9 rfl rfl)
theorem dX5_move_195 : decode cX5_move 195 = .ok (.iload 9, 2) := dk_21 9 (dk_at dksX5_move_8 10 rfl rfl)
theorem dX5_move_197 : decode cX5_move 197 = .ok (.invokevirtual 145, 3) := dk_182 0 145 (dk_at dksX5_move_8 12 rfl rfl)
theorem dX5_move_200 : decode cX5_move 200 = .ok (.iadd, 1) := dk_96 (dk_at dksX5_move_8 15 rfl rfl)
theorem dX5_move_201 : decode cX5_move 201 = .ok (.iload 7, 2) := dk_21 7 (dk_at dksX5_move_8 16 rfl rfl)
theorem dX5_move_203 : decode cX5_move 203 = .ok (.iadd, 1) := dk_96 (dk_at dksX5_move_8 18 rfl rfl)
theorem dX5_move_204 : decode cX5_move 204 = .ok (.invokevirtual 179, 3) := dk_182 0 179 (dk_at dksX5_move_8 19 rfl rfl)
theorem dX5_move_207 : decode cX5_move 207 = .ok (.iinc 8 1, 3) := dk_132 8 1 (dk_at dksX5_move_9 0 rfl rfl)
theorem dX5_move_210 : decode cX5_move 210 = .ok (.iinc 9 1, 3) := dk_132 9 1 (dk_at dksX5_move_9 3 rfl rfl)
theorem dX5_move_213 : decode cX5_move 213 = .ok (.goto (-111), 3) := dk_167 255 145 (dk_at dksX5_move_9 6 rfl rfl)
theorem dX5_move_216 : decode cX5_move 216 = .ok (.aload_n 0, 1) := dk_42 (dk_at dksX5_move_9 9 rfl rfl)
theorem dX5_move_217 : decode cX5_move 217 = .ok (.iload_n 1, 1) := dk_27 (dk_at dksX5_move_9 10 rfl rfl)
theorem dX5_move_218 : decode cX5_move 218 = .ok (.iconst 1, 1) := dk_4 (dk_at dksX5_move_9 11 rfl rfl)
theorem dX5_move_219 : decode cX5_move 219 = .ok (.invokevirtual 186, 3) := dk_182 0 186 (dk_at dksX5_move_9 12 rfl rfl)
theorem dX5_move_222 : decode cX5_move 222 = .ok (.iload 8, 2) := dk_21 8 (dk_at dksX5_move_9 15 rfl rfl)
theorem dX5_move_224 : decode cX5_move 224 = .ok (.ireturn, 1) := dk_172 (dk_at dksX5_move_9 17 rfl rfl)
theorem q2039 : (Jvm.Cond.methodLink "PlugboardModel" (193 : Nat) ({ cls := "PlugboardModel", name := "bar", desc := "(II)I" } : Jvm.MethodName)) ∈ lw_all := lw_g (lw_at lw_m9 49 rfl) rfl
theorem q2041 : (Jvm.Cond.instanceMethod ({ cls := "PlugboardModel", name := "bar", desc := "(II)I" } : Jvm.MethodName)) ∈ lw_all := lw_g (lw_at lw_m9 51 rfl) rfl
theorem q2042 : (Jvm.Cond.code ({ cls := "PlugboardModel", name := "bar", desc := "(II)I" } : Jvm.MethodName) prog_19_method_28_code (3 : Nat) (Option.some Jvm.ClassFile.FieldType.int)) ∈ lw_all := lw_g (lw_at lw_m9 52 rfl) rfl
theorem q2055 : (Jvm.Cond.methodLink "PlugboardModel" (196 : Nat) ({ cls := "PlugboardModel", name := "isInside", desc := "(II)Z" } : Jvm.MethodName)) ∈ lw_all := lw_g (lw_at lw_m9 65 rfl) rfl
theorem q2057 : (Jvm.Cond.instanceMethod ({ cls := "PlugboardModel", name := "isInside", desc := "(II)Z" } : Jvm.MethodName)) ∈ lw_all := lw_g (lw_at lw_m9 67 rfl) rfl
theorem q2058 : (Jvm.Cond.code ({ cls := "PlugboardModel", name := "isInside", desc := "(II)Z" } : Jvm.MethodName) prog_19_method_21_code (3 : Nat) (Option.some Jvm.ClassFile.FieldType.boolean)) ∈ lw_all := lw_g (lw_at lw_m9 68 rfl) rfl
abbrev rm_X5_move : Room := { frames := 4, cells := 0, slots := 0, locals := 90 }
def w_X5_move_176 (P : Int32 → AH → Prop) (Z102 : Int32 → Int32 → AH → Prop) (x0 : Option Nat) (x1 : Int32) (x2 : Int32) (x6 : Int32) (x7 : Int32) (x8 : Int32) (x9 : Int32) (h : AH) : Prop :=
  is_c h x0 [4] (
  w_X5_column x0 x9 h (fun y187 h187 =>
  is_c h187 x0 [4] (
  w_X5_row x0 x9 h187 (fun y197 h197 =>
  is_c h197 x0 [4] (
  w_X5_plans x0 (12 + x9) (((32 * (y187 + x6)) + y197) + x7) h197 (fun h204 =>
  Z102 (x8 + 1) (x9 + 1) h204))))))
def w_X5_move_160 (P : Int32 → AH → Prop) (Z102 : Int32 → Int32 → AH → Prop) (x0 : Option Nat) (x1 : Int32) (x2 : Int32) (x6 : Int32) (x7 : Int32) (x8 : Int32) (x9 : Int32) (t0 : Int32) (h : AH) : Prop :=
  ((x9 = x2 →
    w_X5_move_176 P Z102 x0 x1 x2 x6 x7 x8 x9 h) ∧
   (¬ x9 = x2 →
    ((t0 = 0 →
      Z102 x8 (x9 + 1) h) ∧
     (¬ t0 = 0 →
      w_X5_move_176 P Z102 x0 x1 x2 x6 x7 x8 x9 h))))
def w_X5_move_102 (P : Int32 → AH → Prop) (x0 : Option Nat) (x1 : Int32) (x2 : Int32) (x6 : Int32) (x7 : Int32) (x8 : Int32) (x9 : Int32) (h : AH) : Prop :=
  ∀ Z102 : Int32 → Int32 → AH → Prop, (∀ x8 x9 h, (
      g_i h x0 4 8 fun y105 =>
      ((y105 ≤ x9 →
        is_c h x0 [4] (
        w_X5_makes x0 x1 1 h (fun h219 =>
        P x8 h219))) ∧
       (¬ y105 ≤ x9 →
        ((x9 = x2 →
          w_X5_move_160 P Z102 x0 x1 x2 x6 x7 x8 x9 0 h) ∧
         (¬ x9 = x2 →
          g_q h x0 4 5 fun y118 =>
          l_i h y118 1 x2 fun y122 =>
          ((y122 = 0 →
            w_X5_move_160 P Z102 x0 x1 x2 x6 x7 x8 x9 0 h) ∧
           (¬ y122 = 0 →
            is_c h x0 [4] (
            w_X5_isSeen x0 x9 h (fun y129 h129 =>
            ((y129 = 0 →
              w_X5_move_160 P Z102 x0 x1 x2 x6 x7 x8 x9 0 h129) ∧
             (¬ y129 = 0 →
              is_c h129 x0 [4] (
              w_X5_isInside x0 x9 x2 h129 (fun y139 h139 =>
              ((y139 = 0 →
                w_X5_move_160 P Z102 x0 x1 x2 x6 x7 x8 x9 0 h139) ∧
               (¬ y139 = 0 →
                is_c h139 x0 [4] (
                w_X5_isBarred x0 x1 x9 h139 (fun y149 h149 =>
                ((y149 = 0 →
                  w_X5_move_160 P Z102 x0 x1 x2 x6 x7 x8 x9 1 h149) ∧
                 (¬ y149 = 0 →
                  w_X5_move_160 P Z102 x0 x1 x2 x6 x7 x8 x9 0 h149)))))))))))))))))))
      → Z102 x8 x9 h) → Z102 x8 x9 h
def w_X5_move_58 (P : Int32 → AH → Prop) (x0 : Option Nat) (x1 : Int32) (x2 : Int32) (x3 : Int32) (x4 : Int32) (h : AH) : Prop :=
  is_c h x0 [4] (
  w_X5_bar x0 x1 x2 h (fun y62 h62 =>
  p_v h62 x0 4 0 (vI y62) fun h65 =>
  g_i h65 x0 4 0 fun y69 =>
  ((y69 ≤ 0 →
    is_c h65 x0 [4] (
    w_X5_column x0 x2 h65 (fun y80 h80 =>
    is_c h80 x0 [4] (
    w_X5_row x0 x2 h80 (fun y90 h90 =>
    w_X5_move_102 P x0 x1 x2 (x3 - y80) (x4 - y90) 0 0 h90))))) ∧
   (¬ y69 ≤ 0 →
    P 0 h65))))
def w_X5_move (a0 : Option Nat) (a1 : Int32) (a2 : Int32) (a3 : Int32) (a4 : Int32) (h : AH) (P : Int32 → AH → Prop) : Prop :=
  p_v h a0 4 0 (vI 0) fun h2 =>
  g_i h2 a0 4 8 fun y8 =>
  w_X5_isBetween a2 0 (y8 - 1) h2 (fun y13 h13 =>
  w_X5_isUser a1 h13 (fun y19 h19 =>
  ((y19 = 0 →
    is_c h19 a0 [4] (
    w_X5_fails a0 1 h19 (fun y54 h54 =>
    P y54 h54))) ∧
   (¬ y19 = 0 →
    ((y13 = 0 →
      w_X5_move_58 P a0 a1 a2 a3 a4 h19) ∧
     (¬ y13 = 0 →
      g_q h19 a0 4 1 fun y35 =>
      l_i h19 y35 0 a2 fun y39 =>
      g_q h19 a0 4 2 fun y41 =>
      l_i h19 y41 0 a2 fun y45 =>
      is_c h19 a0 [4] (
      w_X5_isOnBoard a0 a3 a4 y39 y45 h19 (fun y46 h46 =>
      ((y46 = 0 →
        is_c h46 a0 [4] (
        w_X5_fails a0 1 h46 (fun y54 h54 =>
        P y54 h54))) ∧
       (¬ y46 = 0 →
        w_X5_move_58 P a0 a1 a2 a3 a4 h46))))))))))
theorem wk_X5_move_176 {x : CX} (X : Ok x cX5_move RX5 rm_X5_move 11) (er : xrt x = (Option.some Jvm.ClassFile.FieldType.int)) (en : xnm x = yX5_move.name) {P : Int32 → AH → Prop} (hQ : xr_i x P) (Z102 : Int32 → Int32 → AH → Prop) (x0 : Option Nat) (x1 : Int32) (x2 : Int32) (x6 : Int32) (x7 : Int32) (x8 : Int32) (x9 : Int32) (h : AH) (hZ102 : ∀ x8 x9 h, Z102 x8 x9 h → J x h 0 0 102 [(0, vR x0), (1, vI x1), (2, vI x2), (6, vI x6), (7, vI x7), (8, vI x8), (9, vI x9)] []) (hw : w_X5_move_176 P Z102 x0 x1 x2 x6 x7 x8 x9 h) : J x h 0 0 176 [(0, vR x0), (1, vI x1), (2, vI x2), (6, vI x6), (7, vI x7), (8, vI x8), (9, vI x9)] [] := by
  refine j_aload_n X (pc := 176) 0 dX5_move_176 rfl rfl ?_
  refine j_bipush X (pc := 177) 12 dX5_move_177 (by decide) ?_
  refine j_iload X (pc := 179) 6 dX5_move_179 rfl ?_
  refine j_iadd X (pc := 181) dX5_move_181 ?_
  refine j_bipush X (pc := 182) 32 dX5_move_182 (by decide) ?_
  refine j_aload_n X (pc := 184) 0 dX5_move_184 rfl rfl ?_
  refine j_iload X (pc := 185) 6 dX5_move_185 rfl ?_
  obtain ⟨b9, c9, f9, hr9, ho9, hc9, hw⟩ := hw
  obtain rfl := List.mem_singleton.mp hc9
  refine j_calli (j_runV (n8 := 1) (As := [vI x9]) (rest := [vI 32, vI (12 + x9), vR x0]) X (pc := 187) hr9 (met_X5_column (xl x) X.hl (xG x) h x0 x9 _ hw) ho9 (by decide) rfl q2047 q2049 qs46 q78 q2050 (by decide +kernel) dX5_move_187 rfl ⟨Nat.le_of_ble_eq_true rfl, Nat.le_of_ble_eq_true rfl⟩ (Nat.le_of_ble_eq_true rfl) ⟨Nat.le_of_ble_eq_true rfl, Nat.le_of_ble_eq_true rfl⟩) (fun y187 h187 hw => ?_)
  refine j_iload X (pc := 190) 3 dX5_move_190 rfl ?_
  refine j_iadd X (pc := 192) dX5_move_192 ?_
  refine j_imul X (pc := 193) dX5_move_193 ?_
  refine j_aload_n X (pc := 194) 0 dX5_move_194 rfl rfl ?_
  refine j_iload X (pc := 195) 6 dX5_move_195 rfl ?_
  obtain ⟨b9, c9, f9, hr9, ho9, hc9, hw⟩ := hw
  obtain rfl := List.mem_singleton.mp hc9
  refine j_calli (j_runV (n8 := 1) (As := [vI x9]) (rest := [vI (32 * (y187 + x6)), vI (12 + x9), vR x0]) X (pc := 197) hr9 (met_X5_row (xl x) X.hl (xG x) h187 x0 x9 _ hw) ho9 (by decide) rfl q2051 q2053 qs47 q78 q2054 (by decide +kernel) dX5_move_197 rfl ⟨Nat.le_of_ble_eq_true rfl, Nat.le_of_ble_eq_true rfl⟩ (Nat.le_of_ble_eq_true rfl) ⟨Nat.le_of_ble_eq_true rfl, Nat.le_of_ble_eq_true rfl⟩) (fun y197 h197 hw => ?_)
  refine j_iadd X (pc := 200) dX5_move_200 ?_
  refine j_iload X (pc := 201) 4 dX5_move_201 rfl ?_
  refine j_iadd X (pc := 203) dX5_move_203 ?_
  obtain ⟨b9, c9, f9, hr9, ho9, hc9, hw⟩ := hw
  obtain rfl := List.mem_singleton.mp hc9
  refine j_callv (j_runV (n8 := 2) (As := [vI (12 + x9), vI (((32 * (y187 + x6)) + y197) + x7)]) (rest := []) X (pc := 204) hr9 (met_X5_plans (xl x) X.hl (xG x) h197 x0 (12 + x9) (((32 * (y187 + x6)) + y197) + x7) _ hw) ho9 (by decide) rfl q2021 q2023 qs41 q78 q2024 (by decide +kernel) dX5_move_204 rfl ⟨Nat.le_of_ble_eq_true rfl, Nat.le_of_ble_eq_true rfl⟩ (Nat.le_of_ble_eq_true rfl) ⟨Nat.le_of_ble_eq_true rfl, Nat.le_of_ble_eq_true rfl⟩) (fun h204 hw => ?_)
  refine j_iinc X (pc := 207) 5 (x8 + 1) [(8, vI (x8 + 1)), (0, vR x0), (1, vI x1), (2, vI x2), (6, vI x6), (7, vI x7), (9, vI x9)] dX5_move_207 rfl rfl (Nat.le_of_ble_eq_true rfl) rfl ?_
  refine j_iinc X (pc := 210) 6 (x9 + 1) [(9, vI (x9 + 1)), (8, vI (x8 + 1)), (0, vR x0), (1, vI x1), (2, vI x2), (6, vI x6), (7, vI x7)] dX5_move_210 rfl rfl (Nat.le_of_ble_eq_true rfl) rfl ?_
  refine j_goto X (pc := 213) 102 dX5_move_213 (by decide) ?_
  refine j_lv [(0, vR x0), (1, vI x1), (2, vI x2), (6, vI x6), (7, vI x7), (8, vI (x8 + 1)), (9, vI (x9 + 1))] [2, 3, 4, 5, 6, 1, 0] rfl ?_
  refine j_cs (u' := 0) (v' := 0) (Nat.le_of_ble_eq_true rfl) (Nat.le_of_ble_eq_true rfl) ?_
  exact hZ102 (x8 + 1) (x9 + 1) h204 hw
theorem wk_X5_move_160 {x : CX} (X : Ok x cX5_move RX5 rm_X5_move 11) (er : xrt x = (Option.some Jvm.ClassFile.FieldType.int)) (en : xnm x = yX5_move.name) {P : Int32 → AH → Prop} (hQ : xr_i x P) (Z102 : Int32 → Int32 → AH → Prop) (x0 : Option Nat) (x1 : Int32) (x2 : Int32) (x6 : Int32) (x7 : Int32) (x8 : Int32) (x9 : Int32) (t0 : Int32) (h : AH) (hZ102 : ∀ x8 x9 h, Z102 x8 x9 h → J x h 0 0 102 [(0, vR x0), (1, vI x1), (2, vI x2), (6, vI x6), (7, vI x7), (8, vI x8), (9, vI x9)] []) (hw : w_X5_move_160 P Z102 x0 x1 x2 x6 x7 x8 x9 t0 h) : J x h 0 0 160 [(0, vR x0), (1, vI x1), (2, vI x2), (6, vI x6), (7, vI x7), (8, vI x8), (9, vI x9)] [vI t0] := by
  refine j_istore X (pc := 160) [(10, vI t0), (0, vR x0), (1, vI x1), (2, vI x2), (6, vI x6), (7, vI x7), (8, vI x8), (9, vI x9)] dX5_move_160 (Nat.le_of_ble_eq_true rfl) rfl ?_
  refine j_iload X (pc := 162) 7 dX5_move_162 rfl ?_
  refine j_iload_n X (pc := 164) 3 dX5_move_164 rfl rfl ?_
  refine j_icmp_eq X (pc := 165) 176 dX5_move_165 (by decide) hw (fun hw => ?_) (fun hw => ?_)
  · refine j_lv [(0, vR x0), (1, vI x1), (2, vI x2), (6, vI x6), (7, vI x7), (8, vI x8), (9, vI x9)] [1, 2, 3, 4, 5, 6, 7] rfl ?_
    refine j_cs (u' := 0) (v' := 0) (Nat.le_of_ble_eq_true rfl) (Nat.le_of_ble_eq_true rfl) ?_
    exact wk_X5_move_176 X er en hQ _ x0 x1 x2 x6 x7 x8 x9 h hZ102 hw
  · refine j_iload X (pc := 168) 0 dX5_move_168 rfl ?_
    refine j_if_ne X (pc := 170) 176 dX5_move_170 (by decide) hw (fun hw => ?_) (fun hw => ?_)
    · refine j_goto X (pc := 173) 210 dX5_move_173 (by decide) ?_
      refine j_iinc X (pc := 210) 7 (x9 + 1) [(9, vI (x9 + 1)), (10, vI t0), (0, vR x0), (1, vI x1), (2, vI x2), (6, vI x6), (7, vI x7), (8, vI x8)] dX5_move_210 rfl rfl (Nat.le_of_ble_eq_true rfl) rfl ?_
      refine j_goto X (pc := 213) 102 dX5_move_213 (by decide) ?_
      refine j_lv [(0, vR x0), (1, vI x1), (2, vI x2), (6, vI x6), (7, vI x7), (8, vI x8), (9, vI (x9 + 1))] [2, 3, 4, 5, 6, 7, 0] rfl ?_
      refine j_cs (u' := 0) (v' := 0) (Nat.le_of_ble_eq_true rfl) (Nat.le_of_ble_eq_true rfl) ?_
      exact hZ102 x8 (x9 + 1) h hw
    · refine j_lv [(0, vR x0), (1, vI x1), (2, vI x2), (6, vI x6), (7, vI x7), (8, vI x8), (9, vI x9)] [1, 2, 3, 4, 5, 6, 7] rfl ?_
      refine j_cs (u' := 0) (v' := 0) (Nat.le_of_ble_eq_true rfl) (Nat.le_of_ble_eq_true rfl) ?_
      exact wk_X5_move_176 X er en hQ _ x0 x1 x2 x6 x7 x8 x9 h hZ102 hw
theorem wk_X5_move_102 {x : CX} (X : Ok x cX5_move RX5 rm_X5_move 11) (er : xrt x = (Option.some Jvm.ClassFile.FieldType.int)) (en : xnm x = yX5_move.name) {P : Int32 → AH → Prop} (hQ : xr_i x P) (x0 : Option Nat) (x1 : Int32) (x2 : Int32) (x6 : Int32) (x7 : Int32) (x8 : Int32) (x9 : Int32) (h : AH) (hw : w_X5_move_102 P x0 x1 x2 x6 x7 x8 x9 h) : J x h 0 0 102 [(0, vR x0), (1, vI x1), (2, vI x2), (6, vI x6), (7, vI x7), (8, vI x8), (9, vI x9)] [] := by
  refine hw (fun x8 x9 h => J x h 0 0 102 [(0, vR x0), (1, vI x1), (2, vI x2), (6, vI x6), (7, vI x7), (8, vI x8), (9, vI x9)] []) (fun x8 x9 h hw => ?_)
  refine j_iload X (pc := 102) 6 dX5_move_102 rfl ?_
  refine j_aload_n X (pc := 104) 0 dX5_move_104 rfl rfl ?_
  refine j_geti (ci := 4) X (pc := 105) in_X5 rfl (by decide) 8 (by decide) q1880 (Or.inl rfl) dX5_move_105 hw (fun y105 hw => ?_)
  refine j_icmp_ge X (pc := 108) 216 dX5_move_108 (by decide) hw (fun hw => ?_) (fun hw => ?_)
  · refine j_aload_n X (pc := 216) 0 dX5_move_216 rfl rfl ?_
    refine j_iload_n X (pc := 217) 1 dX5_move_217 rfl rfl ?_
    refine j_iconst X (pc := 218) 1 dX5_move_218 (by decide) ?_
    obtain ⟨b9, c9, f9, hr9, ho9, hc9, hw⟩ := hw
    obtain rfl := List.mem_singleton.mp hc9
    refine j_callv (j_runV (n8 := 2) (As := [vI x1, vI 1]) (rest := []) X (pc := 219) hr9 (met_X5_makes (xl x) X.hl (xG x) h x0 x1 1 _ hw) ho9 (by decide) rfl q2030 q2032 qs43 q78 q2033 (by decide +kernel) dX5_move_219 rfl ⟨Nat.le_of_ble_eq_true rfl, Nat.le_of_ble_eq_true rfl⟩ (Nat.le_of_ble_eq_true rfl) ⟨Nat.le_of_ble_eq_true rfl, Nat.le_of_ble_eq_true rfl⟩) (fun h219 hw => ?_)
    refine j_iload X (pc := 222) 5 dX5_move_222 rfl ?_
    exact j_iret X (pc := 224) hQ er (Nat.le_of_ble_eq_true rfl) (Nat.le_of_ble_eq_true rfl) dX5_move_224 hw
  · refine j_iload X (pc := 111) 6 dX5_move_111 rfl ?_
    refine j_iload_n X (pc := 113) 2 dX5_move_113 rfl rfl ?_
    refine j_icmp_eq X (pc := 114) 159 dX5_move_114 (by decide) hw (fun hw => ?_) (fun hw => ?_)
    · refine j_iconst X (pc := 159) 0 dX5_move_159 (by decide) ?_
      refine j_cs (u' := 0) (v' := 0) (Nat.le_of_ble_eq_true rfl) (Nat.le_of_ble_eq_true rfl) ?_
      exact wk_X5_move_160 X er en hQ _ x0 x1 x2 x6 x7 x8 x9 0 h (fun x8_ x9_ h_ hz => hz) hw
    · refine j_aload_n X (pc := 117) 0 dX5_move_117 rfl rfl ?_
      refine j_getq (ci := 4) X (pc := 118) in_X5 rfl (by decide) 5 (by decide) q1877 (Or.inl rfl) dX5_move_118 hw (fun y118 hw => ?_)
      refine j_iload_n X (pc := 121) 2 dX5_move_121 rfl rfl ?_
      refine j_zald X (pc := 122) 1 rfl dX5_move_122 hw (fun y122 hw => ?_)
      refine j_if_eq X (pc := 123) 159 dX5_move_123 (by decide) hw (fun hw => ?_) (fun hw => ?_)
      · refine j_iconst X (pc := 159) 0 dX5_move_159 (by decide) ?_
        refine j_cs (u' := 0) (v' := 0) (Nat.le_of_ble_eq_true rfl) (Nat.le_of_ble_eq_true rfl) ?_
        exact wk_X5_move_160 X er en hQ _ x0 x1 x2 x6 x7 x8 x9 0 h (fun x8_ x9_ h_ hz => hz) hw
      · refine j_aload_n X (pc := 126) 0 dX5_move_126 rfl rfl ?_
        refine j_iload X (pc := 127) 6 dX5_move_127 rfl ?_
        obtain ⟨b9, c9, f9, hr9, ho9, hc9, hw⟩ := hw
        obtain rfl := List.mem_singleton.mp hc9
        refine j_calli (j_runV (n8 := 1) (As := [vI x9]) (rest := []) X (pc := 129) hr9 (met_X5_isSeen (xl x) X.hl (xG x) h x0 x9 _ hw) ho9 (by decide) rfl q2012 q2014 qs39 q78 q2015 (by decide +kernel) dX5_move_129 rfl ⟨Nat.le_of_ble_eq_true rfl, Nat.le_of_ble_eq_true rfl⟩ (Nat.le_of_ble_eq_true rfl) ⟨Nat.le_of_ble_eq_true rfl, Nat.le_of_ble_eq_true rfl⟩) (fun y129 h129 hw => ?_)
        refine j_if_eq X (pc := 132) 159 dX5_move_132 (by decide) hw (fun hw => ?_) (fun hw => ?_)
        · refine j_iconst X (pc := 159) 0 dX5_move_159 (by decide) ?_
          refine j_cs (u' := 0) (v' := 0) (Nat.le_of_ble_eq_true rfl) (Nat.le_of_ble_eq_true rfl) ?_
          exact wk_X5_move_160 X er en hQ _ x0 x1 x2 x6 x7 x8 x9 0 h129 (fun x8_ x9_ h_ hz => hz) hw
        · refine j_aload_n X (pc := 135) 0 dX5_move_135 rfl rfl ?_
          refine j_iload X (pc := 136) 6 dX5_move_136 rfl ?_
          refine j_iload_n X (pc := 138) 2 dX5_move_138 rfl rfl ?_
          obtain ⟨b9, c9, f9, hr9, ho9, hc9, hw⟩ := hw
          obtain rfl := List.mem_singleton.mp hc9
          refine j_calli (j_runV (n8 := 2) (As := [vI x9, vI x2]) (rest := []) X (pc := 139) hr9 (met_X5_isInside (xl x) X.hl (xG x) h129 x0 x9 x2 _ hw) ho9 (by decide) rfl q2055 q2057 qs48 q78 q2058 (by decide +kernel) dX5_move_139 rfl ⟨Nat.le_of_ble_eq_true rfl, Nat.le_of_ble_eq_true rfl⟩ (Nat.le_of_ble_eq_true rfl) ⟨Nat.le_of_ble_eq_true rfl, Nat.le_of_ble_eq_true rfl⟩) (fun y139 h139 hw => ?_)
          refine j_if_eq X (pc := 142) 159 dX5_move_142 (by decide) hw (fun hw => ?_) (fun hw => ?_)
          · refine j_iconst X (pc := 159) 0 dX5_move_159 (by decide) ?_
            refine j_cs (u' := 0) (v' := 0) (Nat.le_of_ble_eq_true rfl) (Nat.le_of_ble_eq_true rfl) ?_
            exact wk_X5_move_160 X er en hQ _ x0 x1 x2 x6 x7 x8 x9 0 h139 (fun x8_ x9_ h_ hz => hz) hw
          · refine j_aload_n X (pc := 145) 0 dX5_move_145 rfl rfl ?_
            refine j_iload_n X (pc := 146) 1 dX5_move_146 rfl rfl ?_
            refine j_iload X (pc := 147) 6 dX5_move_147 rfl ?_
            obtain ⟨b9, c9, f9, hr9, ho9, hc9, hw⟩ := hw
            obtain rfl := List.mem_singleton.mp hc9
            refine j_calli (j_runV (n8 := 2) (As := [vI x1, vI x9]) (rest := []) X (pc := 149) hr9 (met_X5_isBarred (xl x) X.hl (xG x) h139 x0 x1 x9 _ hw) ho9 (by decide) rfl q2043 q2045 qs45 q78 q2046 (by decide +kernel) dX5_move_149 rfl ⟨Nat.le_of_ble_eq_true rfl, Nat.le_of_ble_eq_true rfl⟩ (Nat.le_of_ble_eq_true rfl) ⟨Nat.le_of_ble_eq_true rfl, Nat.le_of_ble_eq_true rfl⟩) (fun y149 h149 hw => ?_)
            refine j_if_ne X (pc := 152) 159 dX5_move_152 (by decide) hw (fun hw => ?_) (fun hw => ?_)
            · refine j_iconst X (pc := 155) 1 dX5_move_155 (by decide) ?_
              refine j_goto X (pc := 156) 160 dX5_move_156 (by decide) ?_
              refine j_cs (u' := 0) (v' := 0) (Nat.le_of_ble_eq_true rfl) (Nat.le_of_ble_eq_true rfl) ?_
              exact wk_X5_move_160 X er en hQ _ x0 x1 x2 x6 x7 x8 x9 1 h149 (fun x8_ x9_ h_ hz => hz) hw
            · refine j_iconst X (pc := 159) 0 dX5_move_159 (by decide) ?_
              refine j_cs (u' := 0) (v' := 0) (Nat.le_of_ble_eq_true rfl) (Nat.le_of_ble_eq_true rfl) ?_
              exact wk_X5_move_160 X er en hQ _ x0 x1 x2 x6 x7 x8 x9 0 h149 (fun x8_ x9_ h_ hz => hz) hw
theorem wk_X5_move_58 {x : CX} (X : Ok x cX5_move RX5 rm_X5_move 11) (er : xrt x = (Option.some Jvm.ClassFile.FieldType.int)) (en : xnm x = yX5_move.name) {P : Int32 → AH → Prop} (hQ : xr_i x P) (x0 : Option Nat) (x1 : Int32) (x2 : Int32) (x3 : Int32) (x4 : Int32) (h : AH) (hw : w_X5_move_58 P x0 x1 x2 x3 x4 h) : J x h 0 0 58 [(0, vR x0), (1, vI x1), (2, vI x2), (3, vI x3), (4, vI x4)] [] := by
  refine j_aload_n X (pc := 58) 0 dX5_move_58 rfl rfl ?_
  refine j_aload_n X (pc := 59) 0 dX5_move_59 rfl rfl ?_
  refine j_iload_n X (pc := 60) 1 dX5_move_60 rfl rfl ?_
  refine j_iload_n X (pc := 61) 2 dX5_move_61 rfl rfl ?_
  obtain ⟨b9, c9, f9, hr9, ho9, hc9, hw⟩ := hw
  obtain rfl := List.mem_singleton.mp hc9
  refine j_calli (j_runV (n8 := 2) (As := [vI x1, vI x2]) (rest := [vR x0]) X (pc := 62) hr9 (met_X5_bar (xl x) X.hl (xG x) h x0 x1 x2 _ hw) ho9 (by decide) rfl q2039 q2041 qs44 q78 q2042 (by decide +kernel) dX5_move_62 rfl ⟨Nat.le_of_ble_eq_true rfl, Nat.le_of_ble_eq_true rfl⟩ (Nat.le_of_ble_eq_true rfl) ⟨Nat.le_of_ble_eq_true rfl, Nat.le_of_ble_eq_true rfl⟩) (fun y62 h62 hw => ?_)
  refine j_put (ci := 4) X (pc := 65) in_X5 rfl (by decide) 0 (by decide) q1872 (Or.inl rfl) tyX5 tyX5_ok nmX5 rfl rfl (ty := .int) (tyX5_ok 0 (by decide)) rfl rfl dX5_move_65 hw (fun h65 hw => ?_)
  refine j_aload_n X (pc := 68) 0 dX5_move_68 rfl rfl ?_
  refine j_geti (ci := 4) X (pc := 69) in_X5 rfl (by decide) 0 (by decide) q1872 (Or.inl rfl) dX5_move_69 hw (fun y69 hw => ?_)
  refine j_if_le X (pc := 72) 77 dX5_move_72 (by decide) hw (fun hw => ?_) (fun hw => ?_)
  · refine j_iload_n X (pc := 77) 3 dX5_move_77 rfl rfl ?_
    refine j_aload_n X (pc := 78) 0 dX5_move_78 rfl rfl ?_
    refine j_iload_n X (pc := 79) 2 dX5_move_79 rfl rfl ?_
    obtain ⟨b9, c9, f9, hr9, ho9, hc9, hw⟩ := hw
    obtain rfl := List.mem_singleton.mp hc9
    refine j_calli (j_runV (n8 := 1) (As := [vI x2]) (rest := [vI x3]) X (pc := 80) hr9 (met_X5_column (xl x) X.hl (xG x) h65 x0 x2 _ hw) ho9 (by decide) rfl q2047 q2049 qs46 q78 q2050 (by decide +kernel) dX5_move_80 rfl ⟨Nat.le_of_ble_eq_true rfl, Nat.le_of_ble_eq_true rfl⟩ (Nat.le_of_ble_eq_true rfl) ⟨Nat.le_of_ble_eq_true rfl, Nat.le_of_ble_eq_true rfl⟩) (fun y80 h80 hw => ?_)
    refine j_isub X (pc := 83) dX5_move_83 ?_
    refine j_istore X (pc := 84) [(6, vI (x3 - y80)), (0, vR x0), (1, vI x1), (2, vI x2), (3, vI x3), (4, vI x4)] dX5_move_84 (Nat.le_of_ble_eq_true rfl) rfl ?_
    refine j_iload X (pc := 86) 5 dX5_move_86 rfl ?_
    refine j_aload_n X (pc := 88) 1 dX5_move_88 rfl rfl ?_
    refine j_iload_n X (pc := 89) 3 dX5_move_89 rfl rfl ?_
    obtain ⟨b9, c9, f9, hr9, ho9, hc9, hw⟩ := hw
    obtain rfl := List.mem_singleton.mp hc9
    refine j_calli (j_runV (n8 := 1) (As := [vI x2]) (rest := [vI x4]) X (pc := 90) hr9 (met_X5_row (xl x) X.hl (xG x) h80 x0 x2 _ hw) ho9 (by decide) rfl q2051 q2053 qs47 q78 q2054 (by decide +kernel) dX5_move_90 rfl ⟨Nat.le_of_ble_eq_true rfl, Nat.le_of_ble_eq_true rfl⟩ (Nat.le_of_ble_eq_true rfl) ⟨Nat.le_of_ble_eq_true rfl, Nat.le_of_ble_eq_true rfl⟩) (fun y90 h90 hw => ?_)
    refine j_isub X (pc := 93) dX5_move_93 ?_
    refine j_istore X (pc := 94) [(7, vI (x4 - y90)), (6, vI (x3 - y80)), (0, vR x0), (1, vI x1), (2, vI x2), (3, vI x3), (4, vI x4)] dX5_move_94 (Nat.le_of_ble_eq_true rfl) rfl ?_
    refine j_iconst X (pc := 96) 0 dX5_move_96 (by decide) ?_
    refine j_istore X (pc := 97) [(8, vI 0), (7, vI (x4 - y90)), (6, vI (x3 - y80)), (0, vR x0), (1, vI x1), (2, vI x2), (3, vI x3), (4, vI x4)] dX5_move_97 (Nat.le_of_ble_eq_true rfl) rfl ?_
    refine j_iconst X (pc := 99) 0 dX5_move_99 (by decide) ?_
    refine j_istore X (pc := 100) [(9, vI 0), (8, vI 0), (7, vI (x4 - y90)), (6, vI (x3 - y80)), (0, vR x0), (1, vI x1), (2, vI x2), (3, vI x3), (4, vI x4)] dX5_move_100 (Nat.le_of_ble_eq_true rfl) rfl ?_
    refine j_lv [(0, vR x0), (1, vI x1), (2, vI x2), (6, vI (x3 - y80)), (7, vI (x4 - y90)), (8, vI 0), (9, vI 0)] [4, 5, 6, 3, 2, 1, 0] rfl ?_
    refine j_cs (u' := 0) (v' := 0) (Nat.le_of_ble_eq_true rfl) (Nat.le_of_ble_eq_true rfl) ?_
    exact wk_X5_move_102 X er en hQ x0 x1 x2 (x3 - y80) (x4 - y90) 0 0 h90 hw
  · refine j_iconst X (pc := 75) 0 dX5_move_75 (by decide) ?_
    exact j_iret X (pc := 76) hQ er (Nat.le_of_ble_eq_true rfl) (Nat.le_of_ble_eq_true rfl) dX5_move_76 hw
theorem met_X5_move (l : Launch) (hlt : l.stackTraces = false) (G : GG) (h : AH) (a0 : Option Nat) (a1 : Int32) (a2 : Int32) (a3 : Int32) (a4 : Int32) (P : Int32 → AH → Prop) (hw : w_X5_move a0 a1 a2 a3 a4 h P) : ct_i l yX5_move (ws_ yX5_move cX5_move 11 (Option.some Jvm.ClassFile.FieldType.int)) rm_X5_move G h [vR a0, vI a1, vI a2, vI a3, vI a4] P := by
  refine j_starti hlt [(0, vR a0), (1, vI a1), (2, vI a2), (3, vI a3), (4, vI a4)] (plainFor_of_name (by decide)) rfl rfl (fun x X eG er en hQ => ?_)
  subst eG
  refine j_aload_n X (pc := 0) 0 dX5_move_0 rfl rfl ?_
  refine j_iconst X (pc := 1) 0 dX5_move_1 (by decide) ?_
  refine j_put (ci := 4) X (pc := 2) in_X5 rfl (by decide) 0 (by decide) q1872 (Or.inl rfl) tyX5 tyX5_ok nmX5 rfl rfl (ty := .int) (tyX5_ok 0 (by decide)) rfl rfl dX5_move_2 hw (fun h2 hw => ?_)
  refine j_iload_n X (pc := 5) 2 dX5_move_5 rfl rfl ?_
  refine j_iconst X (pc := 6) 0 dX5_move_6 (by decide) ?_
  refine j_aload_n X (pc := 7) 0 dX5_move_7 rfl rfl ?_
  refine j_geti (ci := 4) X (pc := 8) in_X5 rfl (by decide) 8 (by decide) q1880 (Or.inl rfl) dX5_move_8 hw (fun y8 hw => ?_)
  refine j_iconst X (pc := 11) 1 dX5_move_11 (by decide) ?_
  refine j_isub X (pc := 12) dX5_move_12 ?_
  refine j_calli (j_runS (n8 := 3) (As := [vI a2, vI 0, vI (y8 - 1)]) (rest := []) X (pc := 13) (met_X5_isBetween (xl x) X.hl (xG x) h2 a2 0 (y8 - 1) _ hw) q1981 q1982 q78 q1983 (by decide +kernel) dX5_move_13 rfl ⟨Nat.le_of_ble_eq_true rfl, Nat.le_of_ble_eq_true rfl⟩ (Nat.le_of_ble_eq_true rfl) ⟨Nat.le_of_ble_eq_true rfl, Nat.le_of_ble_eq_true rfl⟩) (fun y13 h13 hw => ?_)
  refine j_istore X (pc := 16) [(5, vI y13), (0, vR a0), (1, vI a1), (2, vI a2), (3, vI a3), (4, vI a4)] dX5_move_16 (Nat.le_of_ble_eq_true rfl) rfl ?_
  refine j_iload_n X (pc := 18) 2 dX5_move_18 rfl rfl ?_
  refine j_calli (j_runS (n8 := 1) (As := [vI a1]) (rest := []) X (pc := 19) (met_X5_isUser (xl x) X.hl (xG x) h13 a1 _ hw) q1978 q1979 q78 q1980 (by decide +kernel) dX5_move_19 rfl ⟨Nat.le_of_ble_eq_true rfl, Nat.le_of_ble_eq_true rfl⟩ (Nat.le_of_ble_eq_true rfl) ⟨Nat.le_of_ble_eq_true rfl, Nat.le_of_ble_eq_true rfl⟩) (fun y19 h19 hw => ?_)
  refine j_if_eq X (pc := 22) 52 dX5_move_22 (by decide) hw (fun hw => ?_) (fun hw => ?_)
  · refine j_aload_n X (pc := 52) 1 dX5_move_52 rfl rfl ?_
    refine j_iconst X (pc := 53) 1 dX5_move_53 (by decide) ?_
    obtain ⟨b9, c9, f9, hr9, ho9, hc9, hw⟩ := hw
    obtain rfl := List.mem_singleton.mp hc9
    refine j_calli (j_runV (n8 := 1) (As := [vI 1]) (rest := []) X (pc := 54) hr9 (met_X5_fails (xl x) X.hl (xG x) h19 a0 1 _ hw) ho9 (by decide) rfl q1988 q1990 qs33 q78 q1991 (by decide +kernel) dX5_move_54 rfl ⟨Nat.le_of_ble_eq_true rfl, Nat.le_of_ble_eq_true rfl⟩ (Nat.le_of_ble_eq_true rfl) ⟨Nat.le_of_ble_eq_true rfl, Nat.le_of_ble_eq_true rfl⟩) (fun y54 h54 hw => ?_)
    exact j_iret X (pc := 57) hQ er (Nat.le_of_ble_eq_true rfl) (Nat.le_of_ble_eq_true rfl) dX5_move_57 hw
  · refine j_iload X (pc := 25) 0 dX5_move_25 rfl ?_
    refine j_if_eq X (pc := 27) 58 dX5_move_27 (by decide) hw (fun hw => ?_) (fun hw => ?_)
    · refine j_lv [(0, vR a0), (1, vI a1), (2, vI a2), (3, vI a3), (4, vI a4)] [1, 2, 3, 4, 5] rfl ?_
      refine j_cs (u' := 0) (v' := 0) (Nat.le_of_ble_eq_true rfl) (Nat.le_of_ble_eq_true rfl) ?_
      exact wk_X5_move_58 X er en hQ a0 a1 a2 a3 a4 h19 hw
    · refine j_aload_n X (pc := 30) 1 dX5_move_30 rfl rfl ?_
      refine j_iload_n X (pc := 31) 4 dX5_move_31 rfl rfl ?_
      refine j_iload X (pc := 32) 5 dX5_move_32 rfl ?_
      refine j_aload_n X (pc := 34) 1 dX5_move_34 rfl rfl ?_
      refine j_getq (ci := 4) X (pc := 35) in_X5 rfl (by decide) 1 (by decide) q1873 (Or.inl rfl) dX5_move_35 hw (fun y35 hw => ?_)
      refine j_iload_n X (pc := 38) 3 dX5_move_38 rfl rfl ?_
      refine j_iald X (pc := 39) 0 rfl dX5_move_39 hw (fun y39 hw => ?_)
      refine j_aload_n X (pc := 40) 1 dX5_move_40 rfl rfl ?_
      refine j_getq (ci := 4) X (pc := 41) in_X5 rfl (by decide) 2 (by decide) q1874 (Or.inl rfl) dX5_move_41 hw (fun y41 hw => ?_)
      refine j_iload_n X (pc := 44) 3 dX5_move_44 rfl rfl ?_
      refine j_iald X (pc := 45) 0 rfl dX5_move_45 hw (fun y45 hw => ?_)
      obtain ⟨b9, c9, f9, hr9, ho9, hc9, hw⟩ := hw
      obtain rfl := List.mem_singleton.mp hc9
      refine j_calli (j_runV (n8 := 4) (As := [vI a3, vI a4, vI y39, vI y45]) (rest := []) X (pc := 46) hr9 (met_X5_isOnBoard (xl x) X.hl (xG x) h19 a0 a3 a4 y39 y45 _ hw) ho9 (by decide) rfl q1984 q1986 qs32 q78 q1987 (by decide +kernel) dX5_move_46 rfl ⟨Nat.le_of_ble_eq_true rfl, Nat.le_of_ble_eq_true rfl⟩ (Nat.le_of_ble_eq_true rfl) ⟨Nat.le_of_ble_eq_true rfl, Nat.le_of_ble_eq_true rfl⟩) (fun y46 h46 hw => ?_)
      refine j_if_ne X (pc := 49) 58 dX5_move_49 (by decide) hw (fun hw => ?_) (fun hw => ?_)
      · refine j_aload_n X (pc := 52) 1 dX5_move_52 rfl rfl ?_
        refine j_iconst X (pc := 53) 1 dX5_move_53 (by decide) ?_
        obtain ⟨b9, c9, f9, hr9, ho9, hc9, hw⟩ := hw
        obtain rfl := List.mem_singleton.mp hc9
        refine j_calli (j_runV (n8 := 1) (As := [vI 1]) (rest := []) X (pc := 54) hr9 (met_X5_fails (xl x) X.hl (xG x) h46 a0 1 _ hw) ho9 (by decide) rfl q1988 q1990 qs33 q78 q1991 (by decide +kernel) dX5_move_54 rfl ⟨Nat.le_of_ble_eq_true rfl, Nat.le_of_ble_eq_true rfl⟩ (Nat.le_of_ble_eq_true rfl) ⟨Nat.le_of_ble_eq_true rfl, Nat.le_of_ble_eq_true rfl⟩) (fun y54 h54 hw => ?_)
        exact j_iret X (pc := 57) hQ er (Nat.le_of_ble_eq_true rfl) (Nat.le_of_ble_eq_true rfl) dX5_move_57 hw
      · refine j_lv [(0, vR a0), (1, vI a1), (2, vI a2), (3, vI a3), (4, vI a4)] [1, 2, 3, 4, 5] rfl ?_
        refine j_cs (u' := 0) (v' := 0) (Nat.le_of_ble_eq_true rfl) (Nat.le_of_ble_eq_true rfl) ?_
        exact wk_X5_move_58 X er en hQ a0 a1 a2 a3 a4 h46 hw
abbrev cX1_write : ByteArray := prog_1_method_15_code
def yX1_write : MethodName := ⟨RX1, "write", "(LPlugboard$Board;II)V"⟩
def dkwX1_write_0 : List UInt8 := [42, 43, 4, 188, 10, 89, 3, 28, 79, 4, 188, 10, 89, 3, 29, 79, 1, 182, 0, 164, 177]
abbrev dktX1_write_0 : List UInt8 := dkwX1_write_0 ++ []
theorem dksX1_write_0 : cX1_write.data.toList.drop 0 = dktX1_write_0 := by decide +kernel
theorem dX1_write_0 : decode cX1_write 0 = .ok (.aload_n 0, 1) := dk_42 (dk_at dksX1_write_0 0 rfl rfl)
theorem dX1_write_1 : decode cX1_write 1 = .ok (.aload_n 1, 1) := dk_43 (dk_at dksX1_write_0 1 rfl rfl)
theorem dX1_write_2 : decode cX1_write 2 = .ok (.iconst 1, 1) := dk_4 (dk_at dksX1_write_0 2 rfl rfl)
theorem dX1_write_3 : decode cX1_write 3 = .ok (.newarray .int, 2) := dk_188_10 (dk_at dksX1_write_0 3 rfl rfl)
theorem dX1_write_5 : decode cX1_write 5 = .ok (.dup, 1) := dk_89 (dk_at dksX1_write_0 5 rfl rfl)
theorem dX1_write_6 : decode cX1_write 6 = .ok (.iconst 0, 1) := dk_3 (dk_at dksX1_write_0 6 rfl rfl)
theorem dX1_write_7 : decode cX1_write 7 = .ok (.iload_n 2, 1) := dk_28 (dk_at dksX1_write_0 7 rfl rfl)
theorem dX1_write_8 : decode cX1_write 8 = .ok (.iastore, 1) := dk_79 (dk_at dksX1_write_0 8 rfl rfl)
theorem dX1_write_9 : decode cX1_write 9 = .ok (.iconst 1, 1) := dk_4 (dk_at dksX1_write_0 9 rfl rfl)
theorem dX1_write_10 : decode cX1_write 10 = .ok (.newarray .int, 2) := dk_188_10 (dk_at dksX1_write_0 10 rfl rfl)
theorem dX1_write_12 : decode cX1_write 12 = .ok (.dup, 1) := dk_89 (dk_at dksX1_write_0 12 rfl rfl)
theorem dX1_write_13 : decode cX1_write 13 = .ok (.iconst 0, 1) := dk_3 (dk_at dksX1_write_0 13 rfl rfl)
theorem dX1_write_14 : decode cX1_write 14 = .ok (.iload_n 3, 1) := dk_29 (dk_at dksX1_write_0 14 rfl rfl)
theorem dX1_write_15 : decode cX1_write 15 = .ok (.iastore, 1) := dk_79 (dk_at dksX1_write_0 15 rfl rfl)
theorem dX1_write_16 : decode cX1_write 16 = .ok (.aconst_null, 1) := dk_1 (dk_at dksX1_write_0 16 rfl rfl)
theorem dX1_write_17 : decode cX1_write 17 = .ok (.invokevirtual 164, 3) := dk_182 0 164 (dk_at dksX1_write_0 17 rfl rfl)
theorem dX1_write_20 : decode cX1_write 20 = .ok (.return_, 1) := dk_177 (dk_at dksX1_write_0 20 rfl rfl)
abbrev rm_X1_write : Room := { frames := 10, cells := 10, slots := 193, locals := 247 }
def w_X1_write (a0 : Option Nat) (a1 : Option Nat) (a2 : Int32) (a3 : Int32) (h : AH) (P : AH → Prop) : Prop :=
  mk_i h 0 1 1 fun q3 h3 =>
  s_i h3 (some q3) 0 0 a2 fun h8 =>
  mk_i h8 0 1 1 fun q10 h10 =>
  s_i h10 (some q10) 0 0 a3 fun h15 =>
  is_c h15 a0 [0] (
  w_X1_operate a0 a1 (some q3) (some q10) none h15 (fun h17 =>
  P h17))
theorem met_X1_write (l : Launch) (hlt : l.stackTraces = false) (G : GG) (h : AH) (a0 : Option Nat) (a1 : Option Nat) (a2 : Int32) (a3 : Int32) (P : AH → Prop) (hw : w_X1_write a0 a1 a2 a3 h P) : ct_v l yX1_write (ws_ yX1_write cX1_write 4 (Option.none : Option Jvm.ClassFile.FieldType)) rm_X1_write G h [vR a0, vR a1, vI a2, vI a3] P := by
  refine j_startv hlt [(0, vR a0), (1, vR a1), (2, vI a2), (3, vI a3)] (plainFor_of_name (by decide)) rfl rfl (fun x X eG er en hQ => ?_)
  subst eG
  refine j_aload_n X (pc := 0) 0 dX1_write_0 rfl rfl ?_
  refine j_aload_n X (pc := 1) 1 dX1_write_1 rfl rfl ?_
  refine j_iconst X (pc := 2) 1 dX1_write_2 (by decide) ?_
  refine j_newI X (pc := 3) 1 dX1_write_3 q180 (by decide) (Nat.le_of_ble_eq_true rfl) (Nat.le_of_ble_eq_true rfl) hw (fun q3 h3 hw => ?_)
  refine j_dup X (pc := 5) dX1_write_5 rfl ?_
  refine j_iconst X (pc := 6) 0 dX1_write_6 (by decide) ?_
  refine j_iload_n X (pc := 7) 2 dX1_write_7 rfl rfl ?_
  refine j_iast X (pc := 8) 0 rfl rfl dX1_write_8 hw (fun h8 hw => ?_)
  refine j_iconst X (pc := 9) 1 dX1_write_9 (by decide) ?_
  refine j_newI X (pc := 10) 1 dX1_write_10 q180 (by decide) (Nat.le_of_ble_eq_true rfl) (Nat.le_of_ble_eq_true rfl) hw (fun q10 h10 hw => ?_)
  refine j_dup X (pc := 12) dX1_write_12 rfl ?_
  refine j_iconst X (pc := 13) 0 dX1_write_13 (by decide) ?_
  refine j_iload_n X (pc := 14) 3 dX1_write_14 rfl rfl ?_
  refine j_iast X (pc := 15) 0 rfl rfl dX1_write_15 hw (fun h15 hw => ?_)
  refine j_null X (pc := 16) dX1_write_16 ?_
  obtain ⟨b9, c9, f9, hr9, ho9, hc9, hw⟩ := hw
  obtain rfl := List.mem_singleton.mp hc9
  refine j_callv (j_runV (n8 := 4) (As := [vR a1, vR (some q3), vR (some q10), vR none]) (rest := []) X (pc := 17) hr9 (met_X1_operate (xl x) X.hl (xG x) h15 a0 a1 (some q3) (some q10) none _ hw) ho9 (by decide) rfl q688 q690 qs6 q71 q691 (by decide +kernel) dX1_write_17 rfl ⟨Nat.le_of_ble_eq_true rfl, Nat.le_of_ble_eq_true rfl⟩ (Nat.le_of_ble_eq_true rfl) ⟨Nat.le_of_ble_eq_true rfl, Nat.le_of_ble_eq_true rfl⟩) (fun h17 hw => ?_)
  exact j_vret X (pc := 20) hQ er (Nat.le_of_ble_eq_true rfl) (Nat.le_of_ble_eq_true rfl) dX1_write_20 hw
abbrev cX3_isBelow : ByteArray := prog_3_method_14_code
def yX3_isBelow : MethodName := ⟨RX3, "isBelow", "(LPlugboard$Shape;LPlugboard$Shape;)Z"⟩
def dkwX3_isBelow_2 : List UInt8 := [167, 0, 4, 3, 172]
abbrev dktX3_isBelow_2 : List UInt8 := dkwX3_isBelow_2 ++ []
def dkwX3_isBelow_1 : List UInt8 := [156, 0, 7, 4, 167, 0, 23, 3, 167, 0, 19, 43, 180, 0, 103, 44, 180, 0, 103, 162, 0, 7, 4]
abbrev dktX3_isBelow_1 : List UInt8 := dkwX3_isBelow_1 ++ dktX3_isBelow_2
def dkwX3_isBelow_0 : List UInt8 := [42, 43, 182, 0, 144, 70, 42, 44, 182, 0, 144, 56, 4, 37, 23, 4, 149, 153, 0, 18, 37, 23, 4, 150]
abbrev dktX3_isBelow_0 : List UInt8 := dkwX3_isBelow_0 ++ dktX3_isBelow_1
theorem dksX3_isBelow_0 : cX3_isBelow.data.toList.drop 0 = dktX3_isBelow_0 := by decide +kernel
theorem dksX3_isBelow_1 : cX3_isBelow.data.toList.drop 24 = dktX3_isBelow_1 := dk_seg dksX3_isBelow_0 24 rfl rfl
theorem dksX3_isBelow_2 : cX3_isBelow.data.toList.drop 47 = dktX3_isBelow_2 := dk_seg dksX3_isBelow_1 23 rfl rfl
theorem dX3_isBelow_0 : decode cX3_isBelow 0 = .ok (.aload_n 0, 1) := dk_42 (dk_at dksX3_isBelow_0 0 rfl rfl)
theorem dX3_isBelow_1 : decode cX3_isBelow 1 = .ok (.aload_n 1, 1) := dk_43 (dk_at dksX3_isBelow_0 1 rfl rfl)
theorem dX3_isBelow_2 : decode cX3_isBelow 2 = .ok (.invokevirtual 144, 3) := dk_182 0 144 (dk_at dksX3_isBelow_0 2 rfl rfl)
theorem dX3_isBelow_5 : decode cX3_isBelow 5 = .ok (.fstore_n 3, 1) := dk_70 (dk_at dksX3_isBelow_0 5 rfl rfl)
theorem dX3_isBelow_6 : decode cX3_isBelow 6 = .ok (.aload_n 0, 1) := dk_42 (dk_at dksX3_isBelow_0 6 rfl rfl)
theorem dX3_isBelow_7 : decode cX3_isBelow 7 = .ok (.aload_n 2, 1) := dk_44 (dk_at dksX3_isBelow_0 7 rfl rfl)
theorem dX3_isBelow_8 : decode cX3_isBelow 8 = .ok (.invokevirtual 144, 3) := dk_182 0 144 (dk_at dksX3_isBelow_0 8 rfl rfl)
theorem dX3_isBelow_11 : decode cX3_isBelow 11 = .ok (.fstore 4, 2) := dk_56 4 (dk_at dksX3_isBelow_0 11 rfl rfl)
theorem dX3_isBelow_13 : decode cX3_isBelow 13 = .ok (.fload_n 3, 1) := dk_37 (dk_at dksX3_isBelow_0 13 rfl rfl)
theorem dX3_isBelow_14 : decode cX3_isBelow 14 = .ok (.fload 4, 2) := dk_23 4 (dk_at dksX3_isBelow_0 14 rfl rfl)
theorem dX3_isBelow_16 : decode cX3_isBelow 16 = .ok (.fcmp .l, 1) := dk_149 (dk_at dksX3_isBelow_0 16 rfl rfl)
theorem dX3_isBelow_17 : decode cX3_isBelow 17 = .ok (.ifCond .eq 18, 3) := dk_153 0 18 (dk_at dksX3_isBelow_0 17 rfl rfl)
theorem dX3_isBelow_20 : decode cX3_isBelow 20 = .ok (.fload_n 3, 1) := dk_37 (dk_at dksX3_isBelow_0 20 rfl rfl)
theorem dX3_isBelow_21 : decode cX3_isBelow 21 = .ok (.fload 4, 2) := dk_23 4 (dk_at dksX3_isBelow_0 21 rfl rfl)
theorem dX3_isBelow_23 : decode cX3_isBelow 23 = .ok (.fcmp .g, 1) := dk_150 (dk_at dksX3_isBelow_0 23 rfl rfl)
theorem dX3_isBelow_24 : decode cX3_isBelow 24 = .ok (.ifCond .ge 7, 3) := dk_156 0 7 (dk_at dksX3_isBelow_1 0 rfl rfl)
theorem dX3_isBelow_27 : decode cX3_isBelow 27 = .ok (.iconst 1, 1) := dk_4 (dk_at dksX3_isBelow_1 3 rfl rfl)
theorem dX3_isBelow_28 : decode cX3_isBelow 28 = .ok (.goto 23, 3) := dk_167 0 23 (dk_at dksX3_isBelow_1 4 rfl rfl)
theorem dX3_isBelow_31 : decode cX3_isBelow 31 = .ok (.iconst 0, 1) := dk_3 (dk_at dksX3_isBelow_1 7 rfl rfl)
theorem dX3_isBelow_32 : decode cX3_isBelow 32 = .ok (.goto 19, 3) := dk_167 0 19 (dk_at dksX3_isBelow_1 8 rfl rfl)
theorem dX3_isBelow_35 : decode cX3_isBelow 35 = .ok (.aload_n 1, 1) := dk_43 (dk_at dksX3_isBelow_1 11 rfl rfl)
theorem dX3_isBelow_36 : decode cX3_isBelow 36 = .ok (.getfield 103, 3) := dk_180 0 103 (dk_at dksX3_isBelow_1 12 rfl rfl)
theorem dX3_isBelow_39 : decode cX3_isBelow 39 = .ok (.aload_n 2, 1) := dk_44 (dk_at dksX3_isBelow_1 15 rfl rfl)
theorem dX3_isBelow_40 : decode cX3_isBelow 40 = .ok (.getfield 103, 3) := dk_180 0 103 (dk_at dksX3_isBelow_1 16 rfl rfl)
theorem dX3_isBelow_43 : decode cX3_isBelow 43 = .ok (.if_icmp .ge 7, 3) := dk_162 0 7 (dk_at dksX3_isBelow_1 19 rfl rfl)
theorem dX3_isBelow_46 : decode cX3_isBelow 46 = .ok (.iconst 1, 1) := dk_4 (dk_at dksX3_isBelow_1 22 rfl rfl)
theorem dX3_isBelow_47 : decode cX3_isBelow 47 = .ok (.goto 4, 3) := dk_167 0 4 (dk_at dksX3_isBelow_2 0 rfl rfl)
theorem dX3_isBelow_50 : decode cX3_isBelow 50 = .ok (.iconst 0, 1) := dk_3 (dk_at dksX3_isBelow_2 3 rfl rfl)
theorem dX3_isBelow_51 : decode cX3_isBelow 51 = .ok (.ireturn, 1) := dk_172 (dk_at dksX3_isBelow_2 4 rfl rfl)
theorem q1203 : (Jvm.Cond.methodLink "Plugboard$Board" (144 : Nat) ({ cls := "Plugboard$Board", name := "keyOf", desc := "(LPlugboard$Shape;)F" } : Jvm.MethodName)) ∈ lw_all := lw_g (lw_at lw_m5 173 rfl) rfl
abbrev rm_X3_isBelow : Room := { frames := 2, cells := 0, slots := 0, locals := 36 }
def w_X3_isBelow (a0 : Option Nat) (a1 : Option Nat) (a2 : Option Nat) (h : AH) (P : Int32 → AH → Prop) : Prop :=
  is_c h a0 [2] (
  w_X3_keyOf a0 a1 h (fun y2 h2 =>
  is_c h2 a0 [2] (
  w_X3_keyOf a0 a2 h2 (fun y8 h8 =>
  (((Op.cmpValue (FP.fcmp y2 y8) .l) = 0 →
    g_iS h8 a1 0 fun y36 =>
    g_iS h8 a2 0 fun y40 =>
    ((y40 ≤ y36 →
      P 0 h8) ∧
     (¬ y40 ≤ y36 →
      P 1 h8))) ∧
   (¬ (Op.cmpValue (FP.fcmp y2 y8) .l) = 0 →
    ((0 ≤ (Op.cmpValue (FP.fcmp y2 y8) .g) →
      P 0 h8) ∧
     (¬ 0 ≤ (Op.cmpValue (FP.fcmp y2 y8) .g) →
      P 1 h8))))))))
theorem met_X3_isBelow (l : Launch) (hlt : l.stackTraces = false) (G : GG) (h : AH) (a0 : Option Nat) (a1 : Option Nat) (a2 : Option Nat) (P : Int32 → AH → Prop) (hw : w_X3_isBelow a0 a1 a2 h P) : ct_i l yX3_isBelow (ws_ yX3_isBelow cX3_isBelow 5 (Option.some Jvm.ClassFile.FieldType.boolean)) rm_X3_isBelow G h [vR a0, vR a1, vR a2] P := by
  refine j_starti hlt [(0, vR a0), (1, vR a1), (2, vR a2)] (plainFor_of_name (by decide)) rfl rfl (fun x X eG er en hQ => ?_)
  subst eG
  refine j_aload_n X (pc := 0) 0 dX3_isBelow_0 rfl rfl ?_
  refine j_aload_n X (pc := 1) 1 dX3_isBelow_1 rfl rfl ?_
  obtain ⟨b9, c9, f9, hr9, ho9, hc9, hw⟩ := hw
  obtain rfl := List.mem_singleton.mp hc9
  refine j_callf (j_runV (n8 := 1) (As := [vR a1]) (rest := []) X (pc := 2) hr9 (met_X3_keyOf (xl x) X.hl (xG x) h a0 a1 _ hw) ho9 (by decide) rfl q1203 q552 q553 q76 q554 (by decide +kernel) dX3_isBelow_2 rfl ⟨Nat.le_of_ble_eq_true rfl, Nat.le_of_ble_eq_true rfl⟩ (Nat.le_of_ble_eq_true rfl) ⟨Nat.le_of_ble_eq_true rfl, Nat.le_of_ble_eq_true rfl⟩) (fun y2 h2 hw => ?_)
  refine j_fstore_n X (pc := 5) [(3, vF y2), (0, vR a0), (1, vR a1), (2, vR a2)] dX3_isBelow_5 rfl (Nat.le_of_ble_eq_true rfl) rfl ?_
  refine j_aload_n X (pc := 6) 1 dX3_isBelow_6 rfl rfl ?_
  refine j_aload_n X (pc := 7) 3 dX3_isBelow_7 rfl rfl ?_
  obtain ⟨b9, c9, f9, hr9, ho9, hc9, hw⟩ := hw
  obtain rfl := List.mem_singleton.mp hc9
  refine j_callf (j_runV (n8 := 1) (As := [vR a2]) (rest := []) X (pc := 8) hr9 (met_X3_keyOf (xl x) X.hl (xG x) h2 a0 a2 _ hw) ho9 (by decide) rfl q1203 q552 q553 q76 q554 (by decide +kernel) dX3_isBelow_8 rfl ⟨Nat.le_of_ble_eq_true rfl, Nat.le_of_ble_eq_true rfl⟩ (Nat.le_of_ble_eq_true rfl) ⟨Nat.le_of_ble_eq_true rfl, Nat.le_of_ble_eq_true rfl⟩) (fun y8 h8 hw => ?_)
  refine j_fstore X (pc := 11) [(4, vF y8), (3, vF y2), (0, vR a0), (1, vR a1), (2, vR a2)] dX3_isBelow_11 (Nat.le_of_ble_eq_true rfl) rfl ?_
  refine j_fload_n X (pc := 13) 1 dX3_isBelow_13 rfl rfl ?_
  refine j_fload X (pc := 14) 0 dX3_isBelow_14 rfl ?_
  refine j_fcmp X (pc := 16) dX3_isBelow_16 ?_
  refine j_if_eq X (pc := 17) 35 dX3_isBelow_17 (by decide) hw (fun hw => ?_) (fun hw => ?_)
  · refine j_aload_n X (pc := 35) 3 dX3_isBelow_35 rfl rfl ?_
    refine j_getiSN X (pc := 36) 0 (by decide) q577 dX3_isBelow_36 hw (fun y36 hw => ?_)
    refine j_aload_n X (pc := 39) 4 dX3_isBelow_39 rfl rfl ?_
    refine j_getiSN X (pc := 40) 0 (by decide) q577 dX3_isBelow_40 hw (fun y40 hw => ?_)
    refine j_icmp_ge X (pc := 43) 50 dX3_isBelow_43 (by decide) hw (fun hw => ?_) (fun hw => ?_)
    · refine j_iconst X (pc := 50) 0 dX3_isBelow_50 (by decide) ?_
      exact j_zret X (pc := 51) (ty := .boolean) hQ er rfl (Nat.le_of_ble_eq_true rfl) (Nat.le_of_ble_eq_true rfl) dX3_isBelow_51 hw
    · refine j_iconst X (pc := 46) 1 dX3_isBelow_46 (by decide) ?_
      refine j_goto X (pc := 47) 51 dX3_isBelow_47 (by decide) ?_
      exact j_zret X (pc := 51) (ty := .boolean) hQ er rfl (Nat.le_of_ble_eq_true rfl) (Nat.le_of_ble_eq_true rfl) dX3_isBelow_51 hw
  · refine j_fload_n X (pc := 20) 1 dX3_isBelow_20 rfl rfl ?_
    refine j_fload X (pc := 21) 0 dX3_isBelow_21 rfl ?_
    refine j_fcmp X (pc := 23) dX3_isBelow_23 ?_
    refine j_if_ge X (pc := 24) 31 dX3_isBelow_24 (by decide) hw (fun hw => ?_) (fun hw => ?_)
    · refine j_iconst X (pc := 31) 0 dX3_isBelow_31 (by decide) ?_
      refine j_goto X (pc := 32) 51 dX3_isBelow_32 (by decide) ?_
      exact j_zret X (pc := 51) (ty := .boolean) hQ er rfl (Nat.le_of_ble_eq_true rfl) (Nat.le_of_ble_eq_true rfl) dX3_isBelow_51 hw
    · refine j_iconst X (pc := 27) 1 dX3_isBelow_27 (by decide) ?_
      refine j_goto X (pc := 28) 51 dX3_isBelow_28 (by decide) ?_
      exact j_zret X (pc := 51) (ty := .boolean) hQ er rfl (Nat.le_of_ble_eq_true rfl) (Nat.le_of_ble_eq_true rfl) dX3_isBelow_51 hw
abbrev cX3_rankOf : ByteArray := prog_3_method_15_code
def yX3_rankOf : MethodName := ⟨RX3, "rankOf", "(LPlugboard$Shape;)I"⟩
def dkwX3_rankOf_2 : List UInt8 := [153, 0, 7, 4, 167, 0, 4, 3, 96, 61, 132, 3, 1, 167, 255, 201, 28, 172]
abbrev dktX3_rankOf_2 : List UInt8 := dkwX3_rankOf_2 ++ []
def dkwX3_rankOf_1 : List UInt8 := [153, 0, 29, 42, 42, 180, 0, 3, 180, 0, 66, 29, 182, 0, 87, 192, 0, 104, 43, 182, 0, 148]
abbrev dktX3_rankOf_1 : List UInt8 := dkwX3_rankOf_1 ++ dktX3_rankOf_2
def dkwX3_rankOf_0 : List UInt8 := [3, 61, 3, 62, 29, 42, 180, 0, 3, 180, 0, 66, 182, 0, 70, 162, 0, 47, 28, 42, 29, 182, 0, 106]
abbrev dktX3_rankOf_0 : List UInt8 := dkwX3_rankOf_0 ++ dktX3_rankOf_1
theorem dksX3_rankOf_0 : cX3_rankOf.data.toList.drop 0 = dktX3_rankOf_0 := by decide +kernel
theorem dksX3_rankOf_1 : cX3_rankOf.data.toList.drop 24 = dktX3_rankOf_1 := dk_seg dksX3_rankOf_0 24 rfl rfl
theorem dksX3_rankOf_2 : cX3_rankOf.data.toList.drop 46 = dktX3_rankOf_2 := dk_seg dksX3_rankOf_1 22 rfl rfl
theorem dX3_rankOf_0 : decode cX3_rankOf 0 = .ok (.iconst 0, 1) := dk_3 (dk_at dksX3_rankOf_0 0 rfl rfl)
theorem dX3_rankOf_1 : decode cX3_rankOf 1 = .ok (.istore_n 2, 1) := dk_61 (dk_at dksX3_rankOf_0 1 rfl rfl)
theorem dX3_rankOf_2 : decode cX3_rankOf 2 = .ok (.iconst 0, 1) := dk_3 (dk_at dksX3_rankOf_0 2 rfl rfl)
theorem dX3_rankOf_3 : decode cX3_rankOf 3 = .ok (.istore_n 3, 1) := dk_62 (dk_at dksX3_rankOf_0 3 rfl rfl)
theorem dX3_rankOf_4 : decode cX3_rankOf 4 = .ok (.iload_n 3, 1) := dk_29 (dk_at dksX3_rankOf_0 4 rfl rfl)
theorem dX3_rankOf_5 : decode cX3_rankOf 5 = .ok (.aload_n 0, 1) := dk_42 (dk_at dksX3_rankOf_0 5 rfl rfl)
theorem dX3_rankOf_6 : decode cX3_rankOf 6 = .ok (.getfield 3, 3) := dk_180 0 3 (dk_at dksX3_rankOf_0 6 rfl rfl)
theorem dX3_rankOf_9 : decode cX3_rankOf 9 = .ok (.getfield 66, 3) := dk_180 0 66 (dk_at dksX3_rankOf_0 9 rfl rfl)
theorem dX3_rankOf_12 : decode cX3_rankOf 12 = .ok (.invokevirtual 70, 3) := dk_182 0 70 (dk_at dksX3_rankOf_0 12 rfl rfl)
theorem dX3_rankOf_15 : decode cX3_rankOf 15 = .ok (.if_icmp .ge 47, 3) := dk_162 0 47 (dk_at dksX3_rankOf_0 15 rfl rfl)
theorem dX3_rankOf_18 : decode cX3_rankOf 18 = .ok (.iload_n 2, 1) := dk_28 (dk_at dksX3_rankOf_0 18 rfl rfl)
theorem dX3_rankOf_19 : decode cX3_rankOf 19 = .ok (.aload_n 0, 1) := dk_42 (dk_at dksX3_rankOf_0 19 rfl rfl)
theorem dX3_rankOf_20 : decode cX3_rankOf 20 = .ok (.iload_n 3, 1) := dk_29 (dk_at dksX3_rankOf_0 20 rfl rfl)
theorem dX3_rankOf_21 : decode cX3_rankOf 21 = .ok (.invokevirtual 106, 3) := dk_182 0 106 (dk_at dksX3_rankOf_0 21 rfl rfl)
theorem dX3_rankOf_24 : decode cX3_rankOf 24 = .ok (.ifCond .eq 29, 3) := dk_153 0 29 (dk_at dksX3_rankOf_1 0 rfl rfl)
theorem dX3_rankOf_27 : decode cX3_rankOf 27 = .ok (.aload_n 0, 1) := dk_42 (dk_at dksX3_rankOf_1 3 rfl rfl)
theorem dX3_rankOf_28 : decode cX3_rankOf 28 = .ok (.aload_n 0, 1) := dk_42 (dk_at dksX3_rankOf_1 4 rfl rfl)
theorem dX3_rankOf_29 : decode cX3_rankOf 29 = .ok (.getfield 3, 3) := dk_180 0 3 (dk_at dksX3_rankOf_1 5 rfl rfl)
theorem dX3_rankOf_32 : decode cX3_rankOf 32 = .ok (.getfield 66, 3) := dk_180 0 66 (dk_at dksX3_rankOf_1 8 rfl rfl)
theorem dX3_rankOf_35 : decode cX3_rankOf 35 = .ok (.iload_n 3, 1) := dk_29 (dk_at dksX3_rankOf_1 11 rfl rfl)
theorem dX3_rankOf_36 : decode cX3_rankOf 36 = .ok (.invokevirtual 87, 3) := dk_182 0 87 (dk_at dksX3_rankOf_1 12 rfl rfl)
theorem dX3_rankOf_39 : decode cX3_rankOf 39 = .ok (.checkcast 104, 3) := dk_192 0 104 (dk_at dksX3_rankOf_1 15 rfl rfl)
theorem dX3_rankOf_42 : decode cX3_rankOf 42 = .ok (.aload_n 1, 1) := dk_43 (dk_at dksX3_rankOf_1 18 rfl rfl)
theorem dX3_rankOf_43 : decode cX3_rankOf 43 = .ok (.invokevirtual 148, 3) := dk_182 0 148 (dk_at dksX3_rankOf_1 19 rfl rfl)
theorem dX3_rankOf_46 : decode cX3_rankOf 46 = .ok (.ifCond .eq 7, 3) := dk_153 0 7 (dk_at dksX3_rankOf_2 0 rfl rfl)
theorem dX3_rankOf_49 : decode cX3_rankOf 49 = .ok (.iconst 1, 1) := dk_4 (dk_at dksX3_rankOf_2 3 rfl rfl)
theorem dX3_rankOf_50 : decode cX3_rankOf 50 = .ok (.goto 4, 3) := dk_167 0 4 (dk_at dksX3_rankOf_2 4 rfl rfl)
theorem dX3_rankOf_53 : decode cX3_rankOf 53 = .ok (.iconst 0, 1) := dk_3 (dk_at dksX3_rankOf_2 7 rfl rfl)
theorem dX3_rankOf_54 : decode cX3_rankOf 54 = .ok (.iadd, 1) := dk_96 (dk_at dksX3_rankOf_2 8 rfl rfl)
theorem dX3_rankOf_55 : decode cX3_rankOf 55 = .ok (.istore_n 2, 1) := dk_61 (dk_at dksX3_rankOf_2 9 rfl rfl)
theorem dX3_rankOf_56 : decode cX3_rankOf 56 = .ok (.iinc 3 1, 3) := dk_132 3 1 (dk_at dksX3_rankOf_2 10 rfl rfl)
theorem dX3_rankOf_59 : decode cX3_rankOf 59 = .ok (.goto (-55), 3) := dk_167 255 201 (dk_at dksX3_rankOf_2 13 rfl rfl)
theorem dX3_rankOf_62 : decode cX3_rankOf 62 = .ok (.iload_n 2, 1) := dk_28 (dk_at dksX3_rankOf_2 16 rfl rfl)
theorem dX3_rankOf_63 : decode cX3_rankOf 63 = .ok (.ireturn, 1) := dk_172 (dk_at dksX3_rankOf_2 17 rfl rfl)
theorem q1197 : (Jvm.Cond.methodLink "Plugboard$Board" (87 : Nat) ({ cls := "java/util/ArrayList", name := "get", desc := "(I)Ljava/lang/Object;" } : Jvm.MethodName)) ∈ lw_all := lw_g (lw_at lw_m5 167 rfl) rfl
theorem q1198 : (Jvm.Cond.classLink "Plugboard$Board" (104 : Nat) "Plugboard$Shape") ∈ lw_all := lw_g (lw_at lw_m5 168 rfl) rfl
theorem q1199 : (Jvm.Cond.methodLink "Plugboard$Board" (148 : Nat) ({ cls := "Plugboard$Board", name := "isBelow", desc := "(LPlugboard$Shape;LPlugboard$Shape;)Z" } : Jvm.MethodName)) ∈ lw_all := lw_g (lw_at lw_m5 169 rfl) rfl
theorem q1201 : (Jvm.Cond.instanceMethod ({ cls := "Plugboard$Board", name := "isBelow", desc := "(LPlugboard$Shape;LPlugboard$Shape;)Z" } : Jvm.MethodName)) ∈ lw_all := lw_g (lw_at lw_m5 171 rfl) rfl
theorem q1202 : (Jvm.Cond.code ({ cls := "Plugboard$Board", name := "isBelow", desc := "(LPlugboard$Shape;LPlugboard$Shape;)Z" } : Jvm.MethodName) prog_3_method_14_code (5 : Nat) (Option.some Jvm.ClassFile.FieldType.boolean)) ∈ lw_all := lw_g (lw_at lw_m5 172 rfl) rfl
abbrev rm_X3_rankOf : Room := { frames := 3, cells := 0, slots := 0, locals := 64 }
def w_X3_rankOf_4 (P : Int32 → AH → Prop) (x0 : Option Nat) (x1 : Option Nat) (x2 : Int32) (x3 : Int32) (h : AH) : Prop :=
  ∀ Z4 : Int32 → Int32 → AH → Prop, (∀ x2 x3 h, (
      g_q h x0 2 5 fun y6 =>
      g_q h y6 0 0 fun y9 =>
      is_c h y9 [15] (
      w_J2_size y9 h (fun y12 h12 =>
      ((y12 ≤ x3 →
        P x2 h12) ∧
       (¬ y12 ≤ x3 →
        is_c h12 x0 [2] (
        w_X3_sees x0 x3 h12 (fun y21 h21 =>
        ((y21 = 0 →
          Z4 (x2 + 0) (x3 + 1) h21) ∧
         (¬ y21 = 0 →
          g_q h21 x0 2 5 fun y29 =>
          g_q h21 y29 0 0 fun y32 =>
          is_c h21 y32 [15] (
          w_J2_get y32 x3 h21 (fun y36 h36 =>
          is_c h36 y36 [7, 8] (
          is_c h36 x0 [2] (
          w_X3_isBelow x0 y36 x1 h36 (fun y43 h43 =>
          ((y43 = 0 →
            Z4 (x2 + 0) (x3 + 1) h43) ∧
           (¬ y43 = 0 →
            Z4 (x2 + 1) (x3 + 1) h43))))))))))))))))
      → Z4 x2 x3 h) → Z4 x2 x3 h
def w_X3_rankOf (a0 : Option Nat) (a1 : Option Nat) (h : AH) (P : Int32 → AH → Prop) : Prop :=
  w_X3_rankOf_4 P a0 a1 0 0 h
theorem wk_X3_rankOf_4 {x : CX} (X : Ok x cX3_rankOf RX3 rm_X3_rankOf 4) (er : xrt x = (Option.some Jvm.ClassFile.FieldType.int)) (en : xnm x = yX3_rankOf.name) {P : Int32 → AH → Prop} (hQ : xr_i x P) (x0 : Option Nat) (x1 : Option Nat) (x2 : Int32) (x3 : Int32) (h : AH) (hw : w_X3_rankOf_4 P x0 x1 x2 x3 h) : J x h 0 0 4 [(0, vR x0), (1, vR x1), (2, vI x2), (3, vI x3)] [] := by
  refine hw (fun x2 x3 h => J x h 0 0 4 [(0, vR x0), (1, vR x1), (2, vI x2), (3, vI x3)] []) (fun x2 x3 h hw => ?_)
  refine j_iload_n X (pc := 4) 3 dX3_rankOf_4 rfl rfl ?_
  refine j_aload_n X (pc := 5) 0 dX3_rankOf_5 rfl rfl ?_
  refine j_getq (ci := 2) X (pc := 6) in_X3 rfl (by decide) 5 (by decide) q218 (Or.inl rfl) dX3_rankOf_6 hw (fun y6 hw => ?_)
  refine j_getqN (ci := 0) X (pc := 9) in_X1 rfl (by decide) 0 (by decide) q239 (Or.inl rfl) dX3_rankOf_9 hw (fun y9 hw => ?_)
  obtain ⟨b9, c9, f9, hr9, ho9, hc9, hw⟩ := hw
  obtain rfl := List.mem_singleton.mp hc9
  refine j_calli (j_runV (n8 := 0) (As := []) (rest := [vI x3]) X (pc := 12) hr9 (met_J2_size (xl x) X.hl (xG x) h y9 _ hw) ho9 (by decide) rfl q408 q285 q286 q74 q287 (by decide +kernel) dX3_rankOf_12 rfl ⟨Nat.le_of_ble_eq_true rfl, Nat.le_of_ble_eq_true rfl⟩ (Nat.le_of_ble_eq_true rfl) ⟨Nat.le_of_ble_eq_true rfl, Nat.le_of_ble_eq_true rfl⟩) (fun y12 h12 hw => ?_)
  refine j_icmp_ge X (pc := 15) 62 dX3_rankOf_15 (by decide) hw (fun hw => ?_) (fun hw => ?_)
  · refine j_iload_n X (pc := 62) 2 dX3_rankOf_62 rfl rfl ?_
    exact j_iret X (pc := 63) hQ er (Nat.le_of_ble_eq_true rfl) (Nat.le_of_ble_eq_true rfl) dX3_rankOf_63 hw
  · refine j_iload_n X (pc := 18) 2 dX3_rankOf_18 rfl rfl ?_
    refine j_aload_n X (pc := 19) 0 dX3_rankOf_19 rfl rfl ?_
    refine j_iload_n X (pc := 20) 3 dX3_rankOf_20 rfl rfl ?_
    obtain ⟨b9, c9, f9, hr9, ho9, hc9, hw⟩ := hw
    obtain rfl := List.mem_singleton.mp hc9
    refine j_calli (j_runV (n8 := 1) (As := [vI x3]) (rest := [vI x2]) X (pc := 21) hr9 (met_X3_sees (xl x) X.hl (xG x) h12 x0 x3 _ hw) ho9 (by decide) rfl q409 q410 q411 q76 q412 (by decide +kernel) dX3_rankOf_21 rfl ⟨Nat.le_of_ble_eq_true rfl, Nat.le_of_ble_eq_true rfl⟩ (Nat.le_of_ble_eq_true rfl) ⟨Nat.le_of_ble_eq_true rfl, Nat.le_of_ble_eq_true rfl⟩) (fun y21 h21 hw => ?_)
    refine j_if_eq X (pc := 24) 53 dX3_rankOf_24 (by decide) hw (fun hw => ?_) (fun hw => ?_)
    · refine j_iconst X (pc := 53) 0 dX3_rankOf_53 (by decide) ?_
      refine j_iadd X (pc := 54) dX3_rankOf_54 ?_
      refine j_istore_n X (pc := 55) [(2, vI (x2 + 0)), (0, vR x0), (1, vR x1), (3, vI x3)] dX3_rankOf_55 rfl (Nat.le_of_ble_eq_true rfl) rfl ?_
      refine j_iinc X (pc := 56) 3 (x3 + 1) [(3, vI (x3 + 1)), (2, vI (x2 + 0)), (0, vR x0), (1, vR x1)] dX3_rankOf_56 rfl rfl (Nat.le_of_ble_eq_true rfl) rfl ?_
      refine j_goto X (pc := 59) 4 dX3_rankOf_59 (by decide) ?_
      refine j_lv [(0, vR x0), (1, vR x1), (2, vI (x2 + 0)), (3, vI (x3 + 1))] [2, 3, 1, 0] rfl ?_
      refine j_cs (u' := 0) (v' := 0) (Nat.le_of_ble_eq_true rfl) (Nat.le_of_ble_eq_true rfl) ?_
      exact hw
    · refine j_aload_n X (pc := 27) 0 dX3_rankOf_27 rfl rfl ?_
      refine j_aload_n X (pc := 28) 0 dX3_rankOf_28 rfl rfl ?_
      refine j_getq (ci := 2) X (pc := 29) in_X3 rfl (by decide) 5 (by decide) q218 (Or.inl rfl) dX3_rankOf_29 hw (fun y29 hw => ?_)
      refine j_getqN (ci := 0) X (pc := 32) in_X1 rfl (by decide) 0 (by decide) q239 (Or.inl rfl) dX3_rankOf_32 hw (fun y32 hw => ?_)
      refine j_iload_n X (pc := 35) 3 dX3_rankOf_35 rfl rfl ?_
      obtain ⟨b9, c9, f9, hr9, ho9, hc9, hw⟩ := hw
      obtain rfl := List.mem_singleton.mp hc9
      refine j_callq (j_runV (n8 := 1) (As := [vI x3]) (rest := [vR x0, vI x2]) X (pc := 36) hr9 (met_J2_get (xl x) X.hl (xG x) h21 y32 x3 _ hw) ho9 (by decide) rfl q1197 q512 q513 q74 q514 (by decide +kernel) dX3_rankOf_36 rfl ⟨Nat.le_of_ble_eq_true rfl, Nat.le_of_ble_eq_true rfl⟩ (Nat.le_of_ble_eq_true rfl) ⟨Nat.le_of_ble_eq_true rfl, Nat.le_of_ble_eq_true rfl⟩) (fun y36 h36 hw => ?_)
      refine j_chk X (pc := 39) (L := [7, 8]) q1198 (by intro ci hci; simp only [List.mem_cons, List.not_mem_nil, or_false] at hci; rcases hci with rfl | rfl <;> first | exact ⟨by decide, _, _, _, rfl, Or.inr q2343⟩ | exact ⟨by decide, _, _, _, rfl, Or.inr q2344⟩) dX3_rankOf_39 hw (fun hw => ?_)
      refine j_aload_n X (pc := 42) 1 dX3_rankOf_42 rfl rfl ?_
      obtain ⟨b9, c9, f9, hr9, ho9, hc9, hw⟩ := hw
      obtain rfl := List.mem_singleton.mp hc9
      refine j_calli (j_runV (n8 := 2) (As := [vR y36, vR x1]) (rest := [vI x2]) X (pc := 43) hr9 (met_X3_isBelow (xl x) X.hl (xG x) h36 x0 y36 x1 _ hw) ho9 (by decide) rfl q1199 q1201 qs13 q76 q1202 (by decide +kernel) dX3_rankOf_43 rfl ⟨Nat.le_of_ble_eq_true rfl, Nat.le_of_ble_eq_true rfl⟩ (Nat.le_of_ble_eq_true rfl) ⟨Nat.le_of_ble_eq_true rfl, Nat.le_of_ble_eq_true rfl⟩) (fun y43 h43 hw => ?_)
      refine j_if_eq X (pc := 46) 53 dX3_rankOf_46 (by decide) hw (fun hw => ?_) (fun hw => ?_)
      · refine j_iconst X (pc := 53) 0 dX3_rankOf_53 (by decide) ?_
        refine j_iadd X (pc := 54) dX3_rankOf_54 ?_
        refine j_istore_n X (pc := 55) [(2, vI (x2 + 0)), (0, vR x0), (1, vR x1), (3, vI x3)] dX3_rankOf_55 rfl (Nat.le_of_ble_eq_true rfl) rfl ?_
        refine j_iinc X (pc := 56) 3 (x3 + 1) [(3, vI (x3 + 1)), (2, vI (x2 + 0)), (0, vR x0), (1, vR x1)] dX3_rankOf_56 rfl rfl (Nat.le_of_ble_eq_true rfl) rfl ?_
        refine j_goto X (pc := 59) 4 dX3_rankOf_59 (by decide) ?_
        refine j_lv [(0, vR x0), (1, vR x1), (2, vI (x2 + 0)), (3, vI (x3 + 1))] [2, 3, 1, 0] rfl ?_
        refine j_cs (u' := 0) (v' := 0) (Nat.le_of_ble_eq_true rfl) (Nat.le_of_ble_eq_true rfl) ?_
        exact hw
      · refine j_iconst X (pc := 49) 1 dX3_rankOf_49 (by decide) ?_
        refine j_goto X (pc := 50) 54 dX3_rankOf_50 (by decide) ?_
        refine j_iadd X (pc := 54) dX3_rankOf_54 ?_
        refine j_istore_n X (pc := 55) [(2, vI (x2 + 1)), (0, vR x0), (1, vR x1), (3, vI x3)] dX3_rankOf_55 rfl (Nat.le_of_ble_eq_true rfl) rfl ?_
        refine j_iinc X (pc := 56) 3 (x3 + 1) [(3, vI (x3 + 1)), (2, vI (x2 + 1)), (0, vR x0), (1, vR x1)] dX3_rankOf_56 rfl rfl (Nat.le_of_ble_eq_true rfl) rfl ?_
        refine j_goto X (pc := 59) 4 dX3_rankOf_59 (by decide) ?_
        refine j_lv [(0, vR x0), (1, vR x1), (2, vI (x2 + 1)), (3, vI (x3 + 1))] [2, 3, 1, 0] rfl ?_
        refine j_cs (u' := 0) (v' := 0) (Nat.le_of_ble_eq_true rfl) (Nat.le_of_ble_eq_true rfl) ?_
        exact hw
theorem met_X3_rankOf (l : Launch) (hlt : l.stackTraces = false) (G : GG) (h : AH) (a0 : Option Nat) (a1 : Option Nat) (P : Int32 → AH → Prop) (hw : w_X3_rankOf a0 a1 h P) : ct_i l yX3_rankOf (ws_ yX3_rankOf cX3_rankOf 4 (Option.some Jvm.ClassFile.FieldType.int)) rm_X3_rankOf G h [vR a0, vR a1] P := by
  refine j_starti hlt [(0, vR a0), (1, vR a1)] (plainFor_of_name (by decide)) rfl rfl (fun x X eG er en hQ => ?_)
  subst eG
  refine j_iconst X (pc := 0) 0 dX3_rankOf_0 (by decide) ?_
  refine j_istore_n X (pc := 1) [(2, vI 0), (0, vR a0), (1, vR a1)] dX3_rankOf_1 rfl (Nat.le_of_ble_eq_true rfl) rfl ?_
  refine j_iconst X (pc := 2) 0 dX3_rankOf_2 (by decide) ?_
  refine j_istore_n X (pc := 3) [(3, vI 0), (2, vI 0), (0, vR a0), (1, vR a1)] dX3_rankOf_3 rfl (Nat.le_of_ble_eq_true rfl) rfl ?_
  refine j_lv [(0, vR a0), (1, vR a1), (2, vI 0), (3, vI 0)] [2, 3, 1, 0] rfl ?_
  refine j_cs (u' := 0) (v' := 0) (Nat.le_of_ble_eq_true rfl) (Nat.le_of_ble_eq_true rfl) ?_
  exact wk_X3_rankOf_4 X er en hQ a0 a1 0 0 h hw
abbrev cX1_giveKey : ByteArray := prog_1_method_21_code
def yX1_giveKey : MethodName := ⟨RX1, "giveKey", "(LPlugboard$Board;LPlugboard$Shape;F)I"⟩
def dkwX1_giveKey_0 : List UInt8 := [42, 43, 16, 24, 44, 180, 1, 8, 96, 37, 184, 0, 225, 182, 1, 11, 43, 44, 182, 1, 15, 172]
abbrev dktX1_giveKey_0 : List UInt8 := dkwX1_giveKey_0 ++ []
theorem dksX1_giveKey_0 : cX1_giveKey.data.toList.drop 0 = dktX1_giveKey_0 := by decide +kernel
theorem dX1_giveKey_0 : decode cX1_giveKey 0 = .ok (.aload_n 0, 1) := dk_42 (dk_at dksX1_giveKey_0 0 rfl rfl)
theorem dX1_giveKey_1 : decode cX1_giveKey 1 = .ok (.aload_n 1, 1) := dk_43 (dk_at dksX1_giveKey_0 1 rfl rfl)
theorem dX1_giveKey_2 : decode cX1_giveKey 2 = .ok (.bipush 24, 2) := dk_16 24 (dk_at dksX1_giveKey_0 2 rfl rfl)
theorem dX1_giveKey_4 : decode cX1_giveKey 4 = .ok (.aload_n 2, 1) := dk_44 (dk_at dksX1_giveKey_0 4 rfl rfl)
theorem dX1_giveKey_5 : decode cX1_giveKey 5 = .ok (.getfield 264, 3) := dk_180 1 8 (dk_at dksX1_giveKey_0 5 rfl rfl)
theorem dX1_giveKey_8 : decode cX1_giveKey 8 = .ok (.iadd, 1) := dk_96 (dk_at dksX1_giveKey_0 8 rfl rfl)
theorem dX1_giveKey_9 : decode cX1_giveKey 9 = .ok (.fload_n 3, 1) := dk_37 (dk_at dksX1_giveKey_0 9 rfl rfl)
theorem dX1_giveKey_10 : decode cX1_giveKey 10 = .ok (.invokestatic 225, 3) := dk_184 0 225 (dk_at dksX1_giveKey_0 10 rfl rfl)
theorem dX1_giveKey_13 : decode cX1_giveKey 13 = .ok (.invokevirtual 267, 3) := dk_182 1 11 (dk_at dksX1_giveKey_0 13 rfl rfl)
theorem dX1_giveKey_16 : decode cX1_giveKey 16 = .ok (.aload_n 1, 1) := dk_43 (dk_at dksX1_giveKey_0 16 rfl rfl)
theorem dX1_giveKey_17 : decode cX1_giveKey 17 = .ok (.aload_n 2, 1) := dk_44 (dk_at dksX1_giveKey_0 17 rfl rfl)
theorem dX1_giveKey_18 : decode cX1_giveKey 18 = .ok (.invokevirtual 271, 3) := dk_182 1 15 (dk_at dksX1_giveKey_0 18 rfl rfl)
theorem dX1_giveKey_21 : decode cX1_giveKey 21 = .ok (.ireturn, 1) := dk_172 (dk_at dksX1_giveKey_0 21 rfl rfl)
theorem q578 : (Jvm.Cond.fieldLinkNest "Plugboard" (264 : Nat) "Plugboard$Shape" "number" "I" "Plugboard") ∈ lw_tbl := lw_at lw_m3 28 rfl
theorem q1189 : (Jvm.Cond.methodLink "Plugboard" (267 : Nat) ({ cls := "Plugboard", name := "write", desc := "(LPlugboard$Board;II)V" } : Jvm.MethodName)) ∈ lw_all := lw_g (lw_at lw_m5 159 rfl) rfl
theorem q1191 : (Jvm.Cond.instanceMethod ({ cls := "Plugboard", name := "write", desc := "(LPlugboard$Board;II)V" } : Jvm.MethodName)) ∈ lw_all := lw_g (lw_at lw_m5 161 rfl) rfl
theorem q1192 : (Jvm.Cond.code ({ cls := "Plugboard", name := "write", desc := "(LPlugboard$Board;II)V" } : Jvm.MethodName) prog_1_method_15_code (4 : Nat) (Option.none : Option Jvm.ClassFile.FieldType)) ∈ lw_all := lw_g (lw_at lw_m5 162 rfl) rfl
theorem q1193 : (Jvm.Cond.methodLink "Plugboard" (271 : Nat) ({ cls := "Plugboard$Board", name := "rankOf", desc := "(LPlugboard$Shape;)I" } : Jvm.MethodName)) ∈ lw_all := lw_g (lw_at lw_m5 163 rfl) rfl
theorem q1194 : (Jvm.Cond.instanceMethod ({ cls := "Plugboard$Board", name := "rankOf", desc := "(LPlugboard$Shape;)I" } : Jvm.MethodName)) ∈ lw_all := lw_g (lw_at lw_m5 164 rfl) rfl
theorem q1195 : (Jvm.Cond.selects "Plugboard$Board" ({ cls := "Plugboard$Board", name := "rankOf", desc := "(LPlugboard$Shape;)I" } : Jvm.MethodName) ({ cls := "Plugboard$Board", name := "rankOf", desc := "(LPlugboard$Shape;)I" } : Jvm.MethodName)) ∈ lw_all := lw_g (lw_at lw_m5 165 rfl) rfl
theorem q1196 : (Jvm.Cond.code ({ cls := "Plugboard$Board", name := "rankOf", desc := "(LPlugboard$Shape;)I" } : Jvm.MethodName) prog_3_method_15_code (4 : Nat) (Option.some Jvm.ClassFile.FieldType.int)) ∈ lw_all := lw_g (lw_at lw_m5 166 rfl) rfl
abbrev rm_X1_giveKey : Room := { frames := 11, cells := 10, slots := 193, locals := 270 }
def w_X1_giveKey (a0 : Option Nat) (a1 : Option Nat) (a2 : Option Nat) (a3 : UInt32) (h : AH) (P : Int32 → AH → Prop) : Prop :=
  g_iS h a2 0 fun y5 =>
  w_X1_keyBits a3 h (fun y10 h10 =>
  is_c h10 a0 [0] (
  w_X1_write a0 a1 (24 + y5) y10 h10 (fun h13 =>
  is_c h13 a1 [2] (
  w_X3_rankOf a1 a2 h13 (fun y18 h18 =>
  P y18 h18)))))
theorem met_X1_giveKey (l : Launch) (hlt : l.stackTraces = false) (G : GG) (h : AH) (a0 : Option Nat) (a1 : Option Nat) (a2 : Option Nat) (a3 : UInt32) (P : Int32 → AH → Prop) (hw : w_X1_giveKey a0 a1 a2 a3 h P) : ct_i l yX1_giveKey (ws_ yX1_giveKey cX1_giveKey 4 (Option.some Jvm.ClassFile.FieldType.int)) rm_X1_giveKey G h [vR a0, vR a1, vR a2, vF a3] P := by
  refine j_starti hlt [(0, vR a0), (1, vR a1), (2, vR a2), (3, vF a3)] (plainFor_of_name (by decide)) rfl rfl (fun x X eG er en hQ => ?_)
  subst eG
  refine j_aload_n X (pc := 0) 0 dX1_giveKey_0 rfl rfl ?_
  refine j_aload_n X (pc := 1) 1 dX1_giveKey_1 rfl rfl ?_
  refine j_bipush X (pc := 2) 24 dX1_giveKey_2 (by decide) ?_
  refine j_aload_n X (pc := 4) 2 dX1_giveKey_4 rfl rfl ?_
  refine j_getiSN X (pc := 5) 0 (by decide) q578 dX1_giveKey_5 hw (fun y5 hw => ?_)
  refine j_iadd X (pc := 8) dX1_giveKey_8 ?_
  refine j_fload_n X (pc := 9) 3 dX1_giveKey_9 rfl rfl ?_
  refine j_calli (j_runS (n8 := 1) (As := [vF a3]) (rest := [vI (24 + y5), vR a1, vR a0]) X (pc := 10) (met_X1_keyBits (xl x) X.hl (xG x) h a3 _ hw) q677 q678 q71 q679 (by decide +kernel) dX1_giveKey_10 rfl ⟨Nat.le_of_ble_eq_true rfl, Nat.le_of_ble_eq_true rfl⟩ (Nat.le_of_ble_eq_true rfl) ⟨Nat.le_of_ble_eq_true rfl, Nat.le_of_ble_eq_true rfl⟩) (fun y10 h10 hw => ?_)
  obtain ⟨b9, c9, f9, hr9, ho9, hc9, hw⟩ := hw
  obtain rfl := List.mem_singleton.mp hc9
  refine j_callv (j_runV (n8 := 3) (As := [vR a1, vI (24 + y5), vI y10]) (rest := []) X (pc := 13) hr9 (met_X1_write (xl x) X.hl (xG x) h10 a0 a1 (24 + y5) y10 _ hw) ho9 (by decide) rfl q1189 q1191 qs12 q71 q1192 (by decide +kernel) dX1_giveKey_13 rfl ⟨Nat.le_of_ble_eq_true rfl, Nat.le_of_ble_eq_true rfl⟩ (Nat.le_of_ble_eq_true rfl) ⟨Nat.le_of_ble_eq_true rfl, Nat.le_of_ble_eq_true rfl⟩) (fun h13 hw => ?_)
  refine j_aload_n X (pc := 16) 1 dX1_giveKey_16 rfl rfl ?_
  refine j_aload_n X (pc := 17) 2 dX1_giveKey_17 rfl rfl ?_
  obtain ⟨b9, c9, f9, hr9, ho9, hc9, hw⟩ := hw
  obtain rfl := List.mem_singleton.mp hc9
  refine j_calli (j_runV (n8 := 1) (As := [vR a2]) (rest := []) X (pc := 18) hr9 (met_X3_rankOf (xl x) X.hl (xG x) h13 a1 a2 _ hw) ho9 (by decide) rfl q1193 q1194 q1195 q76 q1196 (by decide +kernel) dX1_giveKey_18 rfl ⟨Nat.le_of_ble_eq_true rfl, Nat.le_of_ble_eq_true rfl⟩ (Nat.le_of_ble_eq_true rfl) ⟨Nat.le_of_ble_eq_true rfl, Nat.le_of_ble_eq_true rfl⟩) (fun y18 h18 hw => ?_)
  exact j_iret X (pc := 21) hQ er (Nat.le_of_ble_eq_true rfl) (Nat.le_of_ble_eq_true rfl) dX1_giveKey_21 hw
abbrev cX1_raise : ByteArray := prog_1_method_22_code
def yX1_raise : MethodName := ⟨RX1, "raise", "(II)I"⟩
def dkwX1_raise_1 : List UInt8 := [182, 0, 207, 42, 45, 25, 4, 45, 184, 0, 213, 12, 98, 182, 1, 18, 172]
abbrev dktX1_raise_1 : List UInt8 := dkwX1_raise_1 ++ []
def dkwX1_raise_0 : List UInt8 := [42, 27, 182, 0, 199, 78, 42, 45, 28, 182, 0, 241, 58, 4, 42, 45, 25, 4, 182, 0, 245, 42]
abbrev dktX1_raise_0 : List UInt8 := dkwX1_raise_0 ++ dktX1_raise_1
theorem dksX1_raise_0 : cX1_raise.data.toList.drop 0 = dktX1_raise_0 := by decide +kernel
theorem dksX1_raise_1 : cX1_raise.data.toList.drop 22 = dktX1_raise_1 := dk_seg dksX1_raise_0 22 rfl rfl
theorem dX1_raise_0 : decode cX1_raise 0 = .ok (.aload_n 0, 1) := dk_42 (dk_at dksX1_raise_0 0 rfl rfl)
theorem dX1_raise_1 : decode cX1_raise 1 = .ok (.iload_n 1, 1) := dk_27 (dk_at dksX1_raise_0 1 rfl rfl)
theorem dX1_raise_2 : decode cX1_raise 2 = .ok (.invokevirtual 199, 3) := dk_182 0 199 (dk_at dksX1_raise_0 2 rfl rfl)
theorem dX1_raise_5 : decode cX1_raise 5 = .ok (.astore_n 3, 1) := dk_78 (dk_at dksX1_raise_0 5 rfl rfl)
theorem dX1_raise_6 : decode cX1_raise 6 = .ok (.aload_n 0, 1) := dk_42 (dk_at dksX1_raise_0 6 rfl rfl)
theorem dX1_raise_7 : decode cX1_raise 7 = .ok (.aload_n 3, 1) := dk_45 (dk_at dksX1_raise_0 7 rfl rfl)
theorem dX1_raise_8 : decode cX1_raise 8 = .ok (.iload_n 2, 1) := dk_28 (dk_at dksX1_raise_0 8 rfl rfl)
theorem dX1_raise_9 : decode cX1_raise 9 = .ok (.invokevirtual 241, 3) := dk_182 0 241 (dk_at dksX1_raise_0 9 rfl rfl)
theorem dX1_raise_12 : decode cX1_raise 12 = .ok (.astore 4, 2) := dk_58 4 (dk_at dksX1_raise_0 12 rfl rfl)
theorem dX1_raise_14 : decode cX1_raise 14 = .ok (.aload_n 0, 1) := dk_42 (dk_at dksX1_raise_0 14 rfl rfl)
theorem dX1_raise_15 : decode cX1_raise 15 = .ok (.aload_n 3, 1) := dk_45 (dk_at dksX1_raise_0 15 rfl rfl)
theorem dX1_raise_16 : decode cX1_raise 16 = .ok (.aload 4, 2) := dk_25 4 (dk_at dksX1_raise_0 16 rfl rfl)
theorem dX1_raise_18 : decode cX1_raise 18 = .ok (.invokevirtual 245, 3) := dk_182 0 245 (dk_at dksX1_raise_0 18 rfl rfl)
theorem dX1_raise_21 : decode cX1_raise 21 = .ok (.aload_n 0, 1) := dk_42 (dk_at dksX1_raise_0 21 rfl rfl)
theorem dX1_raise_22 : decode cX1_raise 22 = .ok (.invokevirtual 207, 3) := dk_182 0 207 (dk_at dksX1_raise_1 0 rfl rfl)
theorem dX1_raise_25 : decode cX1_raise 25 = .ok (.aload_n 0, 1) := dk_42 (dk_at dksX1_raise_1 3 rfl rfl)
theorem dX1_raise_26 : decode cX1_raise 26 = .ok (.aload_n 3, 1) := dk_45 (dk_at dksX1_raise_1 4 rfl rfl)
theorem dX1_raise_27 : decode cX1_raise 27 = .ok (.aload 4, 2) := dk_25 4 (dk_at dksX1_raise_1 5 rfl rfl)
theorem dX1_raise_29 : decode cX1_raise 29 = .ok (.aload_n 3, 1) := dk_45 (dk_at dksX1_raise_1 7 rfl rfl)
theorem dX1_raise_30 : decode cX1_raise 30 = .ok (.invokestatic 213, 3) := dk_184 0 213 (dk_at dksX1_raise_1 8 rfl rfl)
theorem dX1_raise_33 : decode cX1_raise 33 = .ok (.fconst 1, 1) := dk_12 (dk_at dksX1_raise_1 11 rfl rfl)
theorem dX1_raise_34 : decode cX1_raise 34 = .ok (.fadd, 1) := dk_98 (dk_at dksX1_raise_1 12 rfl rfl)
theorem dX1_raise_35 : decode cX1_raise 35 = .ok (.invokevirtual 274, 3) := dk_182 1 18 (dk_at dksX1_raise_1 13 rfl rfl)
theorem dX1_raise_38 : decode cX1_raise 38 = .ok (.ireturn, 1) := dk_172 (dk_at dksX1_raise_1 16 rfl rfl)
theorem q1185 : (Jvm.Cond.methodLink "Plugboard" (274 : Nat) ({ cls := "Plugboard", name := "giveKey", desc := "(LPlugboard$Board;LPlugboard$Shape;F)I" } : Jvm.MethodName)) ∈ lw_all := lw_g (lw_at lw_m5 155 rfl) rfl
theorem q1187 : (Jvm.Cond.instanceMethod ({ cls := "Plugboard", name := "giveKey", desc := "(LPlugboard$Board;LPlugboard$Shape;F)I" } : Jvm.MethodName)) ∈ lw_all := lw_g (lw_at lw_m5 157 rfl) rfl
theorem q1188 : (Jvm.Cond.code ({ cls := "Plugboard", name := "giveKey", desc := "(LPlugboard$Board;LPlugboard$Shape;F)I" } : Jvm.MethodName) prog_1_method_21_code (4 : Nat) (Option.some Jvm.ClassFile.FieldType.int)) ∈ lw_all := lw_g (lw_at lw_m5 158 rfl) rfl
abbrev rm_X1_raise : Room := { frames := 12, cells := 17, slots := 221, locals := 293 }
def w_X1_raise (a0 : Option Nat) (a1 : Int32) (a2 : Int32) (h : AH) (P : Int32 → AH → Prop) (PX : String → AH → Prop) : Prop :=
  is_c h a0 [0] (
  w_X1_board a0 a1 h (fun y2 h2 =>
  is_c h2 a0 [0] (
  w_X1_shape a0 y2 a2 h2 (fun y9 h9 =>
  is_c h9 a0 [0] (
  w_X1_requireUnlocked a0 y2 y9 h9 (fun h18 =>
  is_c h18 a0 [0] (
  w_X1_requireRoom a0 h18 (fun h22 =>
  w_X1_greatestKey y2 h22 (fun y30 h30 =>
  vf_n32 (FP.fadd y30 FP.fconst1) ∧
  is_c h30 a0 [0] (
  w_X1_giveKey a0 y2 y9 (FP.fadd y30 FP.fconst1) h30 (fun y35 h35 =>
  P y35 h35)))) PX)) PX)) PX)) PX)
theorem met_X1_raise (l : Launch) (hlt : l.stackTraces = false) (G : GG) (h : AH) (a0 : Option Nat) (a1 : Int32) (a2 : Int32) (P : Int32 → AH → Prop) (PX : String → AH → Prop) (hw : w_X1_raise a0 a1 a2 h P PX) : cx_i l yX1_raise (ws_ yX1_raise cX1_raise 5 (Option.some Jvm.ClassFile.FieldType.int)) rm_X1_raise G h [vR a0, vI a1, vI a2] P PX := by
  refine j_startXi hlt [(0, vR a0), (1, vI a1), (2, vI a2)] (by decide) rfl rfl (fun x X eG er en hQ hT hex => ?_)
  subst eG
  refine j_aload_n X (pc := 0) 0 dX1_raise_0 rfl rfl ?_
  refine j_iload_n X (pc := 1) 1 dX1_raise_1 rfl rfl ?_
  obtain ⟨b9, c9, f9, hr9, ho9, hc9, hw⟩ := hw
  obtain rfl := List.mem_singleton.mp hc9
  refine j_callXq (j_runVX (n8 := 1) (As := [vI a1]) (rest := []) X (pc := 2) hr9 (met_X1_board (xl x) X.hl (xG x) h a0 a1 _ _ hw) ho9 (by decide) rfl q297 q299 qs0 q71 q300 (by decide +kernel) dX1_raise_2 rfl ⟨Nat.le_of_ble_eq_true rfl, Nat.le_of_ble_eq_true rfl⟩ (Nat.le_of_ble_eq_true rfl) ⟨Nat.le_of_ble_eq_true rfl, Nat.le_of_ble_eq_true rfl⟩) (fun E h9 hx => j_out X hT hex (Nat.le_of_ble_eq_true rfl) (Nat.le_of_ble_eq_true rfl) hx) (fun y2 h2 hw => ?_)
  refine j_astore_n X (pc := 5) [(3, vR y2), (0, vR a0), (1, vI a1), (2, vI a2)] dX1_raise_5 rfl (Nat.le_of_ble_eq_true rfl) rfl ?_
  refine j_aload_n X (pc := 6) 1 dX1_raise_6 rfl rfl ?_
  refine j_aload_n X (pc := 7) 0 dX1_raise_7 rfl rfl ?_
  refine j_iload_n X (pc := 8) 3 dX1_raise_8 rfl rfl ?_
  obtain ⟨b9, c9, f9, hr9, ho9, hc9, hw⟩ := hw
  obtain rfl := List.mem_singleton.mp hc9
  refine j_callXq (j_runVX (n8 := 2) (As := [vR y2, vI a2]) (rest := []) X (pc := 9) hr9 (met_X1_shape (xl x) X.hl (xG x) h2 a0 y2 a2 _ _ hw) ho9 (by decide) rfl q1075 q1077 qs9 q71 q1078 (by decide +kernel) dX1_raise_9 rfl ⟨Nat.le_of_ble_eq_true rfl, Nat.le_of_ble_eq_true rfl⟩ (Nat.le_of_ble_eq_true rfl) ⟨Nat.le_of_ble_eq_true rfl, Nat.le_of_ble_eq_true rfl⟩) (fun E h9 hx => j_out X hT hex (Nat.le_of_ble_eq_true rfl) (Nat.le_of_ble_eq_true rfl) hx) (fun y9 h9 hw => ?_)
  refine j_astore X (pc := 12) [(4, vR y9), (3, vR y2), (0, vR a0), (1, vI a1), (2, vI a2)] dX1_raise_12 (Nat.le_of_ble_eq_true rfl) rfl ?_
  refine j_aload_n X (pc := 14) 2 dX1_raise_14 rfl rfl ?_
  refine j_aload_n X (pc := 15) 1 dX1_raise_15 rfl rfl ?_
  refine j_aload X (pc := 16) 0 dX1_raise_16 rfl ?_
  obtain ⟨b9, c9, f9, hr9, ho9, hc9, hw⟩ := hw
  obtain rfl := List.mem_singleton.mp hc9
  refine j_callXv (j_runVX (n8 := 2) (As := [vR y2, vR y9]) (rest := []) X (pc := 18) hr9 (met_X1_requireUnlocked (xl x) X.hl (xG x) h9 a0 y2 y9 _ _ hw) ho9 (by decide) rfl q1085 q1087 qs10 q71 q1088 (by decide +kernel) dX1_raise_18 rfl ⟨Nat.le_of_ble_eq_true rfl, Nat.le_of_ble_eq_true rfl⟩ (Nat.le_of_ble_eq_true rfl) ⟨Nat.le_of_ble_eq_true rfl, Nat.le_of_ble_eq_true rfl⟩) (fun E h9 hx => j_out X hT hex (Nat.le_of_ble_eq_true rfl) (Nat.le_of_ble_eq_true rfl) hx) (fun h18 hw => ?_)
  refine j_aload_n X (pc := 21) 2 dX1_raise_21 rfl rfl ?_
  obtain ⟨b9, c9, f9, hr9, ho9, hc9, hw⟩ := hw
  obtain rfl := List.mem_singleton.mp hc9
  refine j_callXv (j_runVX (n8 := 0) (As := []) (rest := []) X (pc := 22) hr9 (met_X1_requireRoom (xl x) X.hl (xG x) h18 a0 _ _ hw) ho9 (by decide) rfl q400 q402 qs2 q71 q403 (by decide +kernel) dX1_raise_22 rfl ⟨Nat.le_of_ble_eq_true rfl, Nat.le_of_ble_eq_true rfl⟩ (Nat.le_of_ble_eq_true rfl) ⟨Nat.le_of_ble_eq_true rfl, Nat.le_of_ble_eq_true rfl⟩) (fun E h9 hx => j_out X hT hex (Nat.le_of_ble_eq_true rfl) (Nat.le_of_ble_eq_true rfl) hx) (fun h22 hw => ?_)
  refine j_aload_n X (pc := 25) 2 dX1_raise_25 rfl rfl ?_
  refine j_aload_n X (pc := 26) 1 dX1_raise_26 rfl rfl ?_
  refine j_aload X (pc := 27) 0 dX1_raise_27 rfl ?_
  refine j_aload_n X (pc := 29) 1 dX1_raise_29 rfl rfl ?_
  refine j_callf (j_runS (n8 := 1) (As := [vR y2]) (rest := [vR y9, vR y2, vR a0]) X (pc := 30) (met_X1_greatestKey (xl x) X.hl (xG x) h22 y2 _ hw) q414 q415 q71 q416 (by decide +kernel) dX1_raise_30 rfl ⟨Nat.le_of_ble_eq_true rfl, Nat.le_of_ble_eq_true rfl⟩ (Nat.le_of_ble_eq_true rfl) ⟨Nat.le_of_ble_eq_true rfl, Nat.le_of_ble_eq_true rfl⟩) (fun y30 h30 hw => ?_)
  refine j_fconst1 X (pc := 33) dX1_raise_33 ?_
  refine j_fadd X (pc := 34) dX1_raise_34 hw (fun hw => ?_)
  obtain ⟨b9, c9, f9, hr9, ho9, hc9, hw⟩ := hw
  obtain rfl := List.mem_singleton.mp hc9
  refine j_calli (j_runV (n8 := 3) (As := [vR y2, vR y9, vF (FP.fadd y30 FP.fconst1)]) (rest := []) X (pc := 35) hr9 (met_X1_giveKey (xl x) X.hl (xG x) h30 a0 y2 y9 (FP.fadd y30 FP.fconst1) _ hw) ho9 (by decide) rfl q1185 q1187 qs11 q71 q1188 (by decide +kernel) dX1_raise_35 rfl ⟨Nat.le_of_ble_eq_true rfl, Nat.le_of_ble_eq_true rfl⟩ (Nat.le_of_ble_eq_true rfl) ⟨Nat.le_of_ble_eq_true rfl, Nat.le_of_ble_eq_true rfl⟩) (fun y35 h35 hw => ?_)
  exact j_iret X (pc := 38) hQ er (Nat.le_of_ble_eq_true rfl) (Nat.le_of_ble_eq_true rfl) dX1_raise_38 hw
abbrev cX0_raise : ByteArray := method_5_code
def yX0_raise : MethodName := ⟨RX0, "raise", "(LPlugboard;II[J)I"⟩
def dkwX0_raise_1 : List UInt8 := [172, 58, 4, 7, 172, 3, 172]
abbrev dktX0_raise_1 : List UInt8 := dkwX0_raise_1 ++ []
def dkwX0_raise_0 : List UInt8 := [45, 3, 42, 27, 28, 182, 0, 25, 133, 80, 167, 0, 19, 58, 4, 4, 172, 58, 4, 5, 172, 58, 4, 6]
abbrev dktX0_raise_0 : List UInt8 := dkwX0_raise_0 ++ dktX0_raise_1
theorem dksX0_raise_0 : cX0_raise.data.toList.drop 0 = dktX0_raise_0 := by decide +kernel
theorem dksX0_raise_1 : cX0_raise.data.toList.drop 24 = dktX0_raise_1 := dk_seg dksX0_raise_0 24 rfl rfl
theorem dX0_raise_0 : decode cX0_raise 0 = .ok (.aload_n 3, 1) := dk_45 (dk_at dksX0_raise_0 0 rfl rfl)
theorem dX0_raise_1 : decode cX0_raise 1 = .ok (.iconst 0, 1) := dk_3 (dk_at dksX0_raise_0 1 rfl rfl)
theorem dX0_raise_2 : decode cX0_raise 2 = .ok (.aload_n 0, 1) := dk_42 (dk_at dksX0_raise_0 2 rfl rfl)
theorem dX0_raise_3 : decode cX0_raise 3 = .ok (.iload_n 1, 1) := dk_27 (dk_at dksX0_raise_0 3 rfl rfl)
theorem dX0_raise_4 : decode cX0_raise 4 = .ok (.iload_n 2, 1) := dk_28 (dk_at dksX0_raise_0 4 rfl rfl)
theorem dX0_raise_5 : decode cX0_raise 5 = .ok (.invokevirtual 25, 3) := dk_182 0 25 (dk_at dksX0_raise_0 5 rfl rfl)
theorem dX0_raise_8 : decode cX0_raise 8 = .ok (.i2l, 1) := dk_133 (dk_at dksX0_raise_0 8 rfl rfl)
theorem dX0_raise_9 : decode cX0_raise 9 = .ok (.lastore, 1) := dk_80 (dk_at dksX0_raise_0 9 rfl rfl)
theorem dX0_raise_10 : decode cX0_raise 10 = .ok (.goto 19, 3) := dk_167 0 19 (dk_at dksX0_raise_0 10 rfl rfl)
theorem dX0_raise_13 : decode cX0_raise 13 = .ok (.astore 4, 2) := dk_58 4 (dk_at dksX0_raise_0 13 rfl rfl)
theorem dX0_raise_15 : decode cX0_raise 15 = .ok (.iconst 1, 1) := dk_4 (dk_at dksX0_raise_0 15 rfl rfl)
theorem dX0_raise_16 : decode cX0_raise 16 = .ok (.ireturn, 1) := dk_172 (dk_at dksX0_raise_0 16 rfl rfl)
theorem dX0_raise_17 : decode cX0_raise 17 = .ok (.astore 4, 2) := dk_58 4 (dk_at dksX0_raise_0 17 rfl rfl)
theorem dX0_raise_19 : decode cX0_raise 19 = .ok (.iconst 2, 1) := dk_5 (dk_at dksX0_raise_0 19 rfl rfl)
theorem dX0_raise_20 : decode cX0_raise 20 = .ok (.ireturn, 1) := dk_172 (dk_at dksX0_raise_0 20 rfl rfl)
theorem dX0_raise_21 : decode cX0_raise 21 = .ok (.astore 4, 2) := dk_58 4 (dk_at dksX0_raise_0 21 rfl rfl)
theorem dX0_raise_23 : decode cX0_raise 23 = .ok (.iconst 3, 1) := dk_6 (dk_at dksX0_raise_0 23 rfl rfl)
theorem dX0_raise_24 : decode cX0_raise 24 = .ok (.ireturn, 1) := dk_172 (dk_at dksX0_raise_1 0 rfl rfl)
theorem dX0_raise_25 : decode cX0_raise 25 = .ok (.astore 4, 2) := dk_58 4 (dk_at dksX0_raise_1 1 rfl rfl)
theorem dX0_raise_27 : decode cX0_raise 27 = .ok (.iconst 4, 1) := dk_7 (dk_at dksX0_raise_1 3 rfl rfl)
theorem dX0_raise_28 : decode cX0_raise 28 = .ok (.ireturn, 1) := dk_172 (dk_at dksX0_raise_1 4 rfl rfl)
theorem dX0_raise_29 : decode cX0_raise 29 = .ok (.iconst 0, 1) := dk_3 (dk_at dksX0_raise_1 5 rfl rfl)
theorem dX0_raise_30 : decode cX0_raise 30 = .ok (.ireturn, 1) := dk_172 (dk_at dksX0_raise_1 6 rfl rfl)
theorem q1181 : (Jvm.Cond.methodLink "PlugboardLaw" (25 : Nat) ({ cls := "Plugboard", name := "raise", desc := "(II)I" } : Jvm.MethodName)) ∈ lw_all := lw_g (lw_at lw_m5 151 rfl) rfl
theorem q1182 : (Jvm.Cond.instanceMethod ({ cls := "Plugboard", name := "raise", desc := "(II)I" } : Jvm.MethodName)) ∈ lw_all := lw_g (lw_at lw_m5 152 rfl) rfl
theorem q1183 : (Jvm.Cond.selects "Plugboard" ({ cls := "Plugboard", name := "raise", desc := "(II)I" } : Jvm.MethodName) ({ cls := "Plugboard", name := "raise", desc := "(II)I" } : Jvm.MethodName)) ∈ lw_all := lw_g (lw_at lw_m5 153 rfl) rfl
theorem q1184 : (Jvm.Cond.code ({ cls := "Plugboard", name := "raise", desc := "(II)I" } : Jvm.MethodName) prog_1_method_22_code (5 : Nat) (Option.some Jvm.ClassFile.FieldType.int)) ∈ lw_all := lw_g (lw_at lw_m5 154 rfl) rfl
abbrev rm_X0_raise : Room := { frames := 13, cells := 17, slots := 221, locals := 317 }
def w_X0_raise (a0 : Option Nat) (a1 : Int32) (a2 : Int32) (a3 : Option Nat) (h : AH) (P : Int32 → AH → Prop) : Prop :=
  is_c h a0 [0] (
  w_X1_raise a0 a1 a2 h (fun y5 h5 =>
  s_L h5 a3 0 (Int32.toInt64 y5) fun h9 =>
  P 0 h9)
    (fun E9 h9 => (E9 = "java/lang/IllegalArgumentException" ∧ ∀ q9 : Nat,
    P 1 h9) ∨
    (E9 = "java/util/NoSuchElementException" ∧ ∀ q9 : Nat,
    P 2 h9) ∨
    (E9 = "java/lang/UnsupportedOperationException" ∧ ∀ q9 : Nat,
    P 3 h9) ∨
    (E9 = "java/lang/IllegalStateException" ∧ ∀ q9 : Nat,
    P 4 h9)))
theorem met_X0_raise (l : Launch) (hlt : l.stackTraces = false) (G : GG) (h : AH) (a0 : Option Nat) (a1 : Int32) (a2 : Int32) (a3 : Option Nat) (P : Int32 → AH → Prop) (hw : w_X0_raise a0 a1 a2 a3 h P) : ct_i l yX0_raise (wsW_ yX0_raise cX0_raise 5 (Option.some Jvm.ClassFile.FieldType.int) [((0 : Nat), (10 : Nat), (13 : Nat), (13 : Nat)), ((0 : Nat), (10 : Nat), (17 : Nat), (21 : Nat)), ((0 : Nat), (10 : Nat), (21 : Nat), (23 : Nat)), ((0 : Nat), (10 : Nat), (25 : Nat), (15 : Nat))]) rm_X0_raise G h [vR a0, vI a1, vI a2, vR a3] P := by
  refine j_startWi hlt [(0, vR a0), (1, vI a1), (2, vI a2), (3, vR a3)] (by decide) rfl rfl (fun x X eG er en hQ hex => ?_)
  subst eG
  refine j_aload_n X (pc := 0) 3 dX0_raise_0 rfl rfl ?_
  refine j_iconst X (pc := 1) 0 dX0_raise_1 (by decide) ?_
  refine j_aload_n X (pc := 2) 0 dX0_raise_2 rfl rfl ?_
  refine j_iload_n X (pc := 3) 1 dX0_raise_3 rfl rfl ?_
  refine j_iload_n X (pc := 4) 2 dX0_raise_4 rfl rfl ?_
  obtain ⟨b9, c9, f9, hr9, ho9, hc9, hw⟩ := hw
  obtain rfl := List.mem_singleton.mp hc9
  refine j_callXi (j_runVX (n8 := 2) (As := [vI a1, vI a2]) (rest := [vI 0, vR a3]) X (pc := 5) hr9 (met_X1_raise (xl x) X.hl (xG x) h a0 a1 a2 _ _ hw) ho9 (by decide) rfl q1181 q1182 q1183 q71 q1184 (by decide +kernel) dX0_raise_5 rfl ⟨Nat.le_of_ble_eq_true rfl, Nat.le_of_ble_eq_true rfl⟩ (Nat.le_of_ble_eq_true rfl) ⟨Nat.le_of_ble_eq_true rfl, Nat.le_of_ble_eq_true rfl⟩) ?_ (fun y5 h5 hw => ?_)
  · intro E9 h9 hx
    rcases hx with ⟨rfl, hw⟩ | ⟨rfl, hw⟩ | ⟨rfl, hw⟩ | ⟨rfl, hw⟩
    · refine j_catch X (pc := 5) "java/lang/IllegalArgumentException" hex [] [⟨0, 10, 17, 21⟩, ⟨0, 10, 21, 23⟩, ⟨0, 10, 25, 15⟩] ⟨0, 10, 13, 13⟩ rfl (by intro y hy; cases hy) (by decide) (by decide) q291 q312 (fun q9 => ?_)
      have hw := hw q9
      refine j_astore X (pc := 13) [(4, vR (some q9)), (0, vR a0), (1, vI a1), (2, vI a2), (3, vR a3)] dX0_raise_13 (Nat.le_of_ble_eq_true rfl) rfl ?_
      refine j_iconst X (pc := 15) 1 dX0_raise_15 (by decide) ?_
      exact j_iret X (pc := 16) hQ er (Nat.le_of_ble_eq_true rfl) (Nat.le_of_ble_eq_true rfl) dX0_raise_16 hw
    · refine j_catch X (pc := 5) "java/util/NoSuchElementException" hex [⟨0, 10, 13, 13⟩] [⟨0, 10, 21, 23⟩, ⟨0, 10, 25, 15⟩] ⟨0, 10, 17, 21⟩ rfl (by intro y hy; simp only [List.mem_cons, List.not_mem_nil, or_false] at hy; subst hy; exact Or.inr ⟨by decide, "java/lang/IllegalArgumentException", q291, by decide +kernel⟩) (by decide) (by decide) q1068 q537 (fun q9 => ?_)
      have hw := hw q9
      refine j_astore X (pc := 17) [(4, vR (some q9)), (0, vR a0), (1, vI a1), (2, vI a2), (3, vR a3)] dX0_raise_17 (Nat.le_of_ble_eq_true rfl) rfl ?_
      refine j_iconst X (pc := 19) 2 dX0_raise_19 (by decide) ?_
      exact j_iret X (pc := 20) hQ er (Nat.le_of_ble_eq_true rfl) (Nat.le_of_ble_eq_true rfl) dX0_raise_20 hw
    · refine j_catch X (pc := 5) "java/lang/UnsupportedOperationException" hex [⟨0, 10, 13, 13⟩, ⟨0, 10, 17, 21⟩] [⟨0, 10, 25, 15⟩] ⟨0, 10, 21, 23⟩ rfl (by intro y hy; simp only [List.mem_cons, List.not_mem_nil, or_false] at hy; rcases hy with rfl | rfl <;> first | exact Or.inr ⟨by decide, "java/lang/IllegalArgumentException", q291, by decide +kernel⟩ | exact Or.inr ⟨by decide, "java/util/NoSuchElementException", q1068, by decide +kernel⟩) (by decide) (by decide) q1069 q1102 (fun q9 => ?_)
      have hw := hw q9
      refine j_astore X (pc := 21) [(4, vR (some q9)), (0, vR a0), (1, vI a1), (2, vI a2), (3, vR a3)] dX0_raise_21 (Nat.le_of_ble_eq_true rfl) rfl ?_
      refine j_iconst X (pc := 23) 3 dX0_raise_23 (by decide) ?_
      exact j_iret X (pc := 24) hQ er (Nat.le_of_ble_eq_true rfl) (Nat.le_of_ble_eq_true rfl) dX0_raise_24 hw
    · refine j_catch X (pc := 5) "java/lang/IllegalStateException" hex [⟨0, 10, 13, 13⟩, ⟨0, 10, 17, 21⟩, ⟨0, 10, 21, 23⟩] [] ⟨0, 10, 25, 15⟩ rfl (by intro y hy; simp only [List.mem_cons, List.not_mem_nil, or_false] at hy; rcases hy with rfl | rfl | rfl <;> first | exact Or.inr ⟨by decide, "java/lang/IllegalArgumentException", q291, by decide +kernel⟩ | exact Or.inr ⟨by decide, "java/util/NoSuchElementException", q1068, by decide +kernel⟩ | exact Or.inr ⟨by decide, "java/lang/UnsupportedOperationException", q1069, by decide +kernel⟩) (by decide) (by decide) q292 q387 (fun q9 => ?_)
      have hw := hw q9
      refine j_astore X (pc := 25) [(4, vR (some q9)), (0, vR a0), (1, vI a1), (2, vI a2), (3, vR a3)] dX0_raise_25 (Nat.le_of_ble_eq_true rfl) rfl ?_
      refine j_iconst X (pc := 27) 4 dX0_raise_27 (by decide) ?_
      exact j_iret X (pc := 28) hQ er (Nat.le_of_ble_eq_true rfl) (Nat.le_of_ble_eq_true rfl) dX0_raise_28 hw
  refine j_i2l X (pc := 8) dX0_raise_8 ?_
  refine j_last X (pc := 9) dX0_raise_9 hw (fun h9 hw => ?_)
  refine j_goto X (pc := 10) 29 dX0_raise_10 (by decide) ?_
  refine j_iconst X (pc := 29) 0 dX0_raise_29 (by decide) ?_
  exact j_iret X (pc := 30) hQ er (Nat.le_of_ble_eq_true rfl) (Nat.le_of_ble_eq_true rfl) dX0_raise_30 hw
abbrev cX5_rank : ByteArray := prog_19_method_18_code
def yX5_rank : MethodName := ⟨RX5, "rank", "(I)I"⟩
def dkwX5_rank_2 : List UInt8 := [154, 0, 12, 29, 27, 162, 0, 7, 4, 167, 0, 4, 3, 96, 61, 132, 3, 1, 167, 255, 196, 28, 172]
abbrev dktX5_rank_2 : List UInt8 := dkwX5_rank_2 ++ []
def dkwX5_rank_1 : List UInt8 := [182, 0, 138, 42, 27, 182, 0, 138, 150, 155, 0, 22, 42, 29, 182, 0, 138, 42, 27, 182, 0, 138, 149]
abbrev dktX5_rank_1 : List UInt8 := dkwX5_rank_1 ++ dktX5_rank_2
def dkwX5_rank_0 : List UInt8 := [3, 61, 3, 62, 29, 42, 180, 0, 119, 162, 0, 58, 28, 42, 29, 182, 0, 125, 153, 0, 40, 42, 29]
abbrev dktX5_rank_0 : List UInt8 := dkwX5_rank_0 ++ dktX5_rank_1
theorem dksX5_rank_0 : cX5_rank.data.toList.drop 0 = dktX5_rank_0 := by decide +kernel
theorem dksX5_rank_1 : cX5_rank.data.toList.drop 23 = dktX5_rank_1 := dk_seg dksX5_rank_0 23 rfl rfl
theorem dksX5_rank_2 : cX5_rank.data.toList.drop 46 = dktX5_rank_2 := dk_seg dksX5_rank_1 23 rfl rfl
theorem dX5_rank_0 : decode cX5_rank 0 = .ok (.iconst 0, 1) := dk_3 (dk_at dksX5_rank_0 0 rfl rfl)
theorem dX5_rank_1 : decode cX5_rank 1 = .ok (.istore_n 2, 1) := dk_61 (dk_at dksX5_rank_0 1 rfl rfl)
theorem dX5_rank_2 : decode cX5_rank 2 = .ok (.iconst 0, 1) := dk_3 (dk_at dksX5_rank_0 2 rfl rfl)
theorem dX5_rank_3 : decode cX5_rank 3 = .ok (.istore_n 3, 1) := dk_62 (dk_at dksX5_rank_0 3 rfl rfl)
theorem dX5_rank_4 : decode cX5_rank 4 = .ok (.iload_n 3, 1) := dk_29 (dk_at dksX5_rank_0 4 rfl rfl)
theorem dX5_rank_5 : decode cX5_rank 5 = .ok (.aload_n 0, 1) := dk_42 (dk_at dksX5_rank_0 5 rfl rfl)
theorem dX5_rank_6 : decode cX5_rank 6 = .ok (.getfield 119, 3) := dk_180 0 119 (dk_at dksX5_rank_0 6 rfl rfl)
theorem dX5_rank_9 : decode cX5_rank 9 = .ok (.if_icmp .ge 58, 3) := dk_162 0 58 (dk_at dksX5_rank_0 9 rfl rfl)
theorem dX5_rank_12 : decode cX5_rank 12 = .ok (.iload_n 2, 1) := dk_28 (dk_at dksX5_rank_0 12 rfl rfl)
theorem dX5_rank_13 : decode cX5_rank 13 = .ok (.aload_n 0, 1) := dk_42 (dk_at dksX5_rank_0 13 rfl rfl)
theorem dX5_rank_14 : decode cX5_rank 14 = .ok (.iload_n 3, 1) := dk_29 (dk_at dksX5_rank_0 14 rfl rfl)
theorem dX5_rank_15 : decode cX5_rank 15 = .ok (.invokevirtual 125, 3) := dk_182 0 125 (dk_at dksX5_rank_0 15 rfl rfl)
theorem dX5_rank_18 : decode cX5_rank 18 = .ok (.ifCond .eq 40, 3) := dk_153 0 40 (dk_at dksX5_rank_0 18 rfl rfl)
theorem dX5_rank_21 : decode cX5_rank 21 = .ok (.aload_n 0, 1) := dk_42 (dk_at dksX5_rank_0 21 rfl rfl)
theorem dX5_rank_22 : decode cX5_rank 22 = .ok (.iload_n 3, 1) := dk_29 (dk_at dksX5_rank_0 22 rfl rfl)
theorem dX5_rank_23 : decode cX5_rank 23 = .ok (.invokevirtual 138, 3) := dk_182 0 138 (dk_at dksX5_rank_1 0 rfl rfl)
theorem dX5_rank_26 : decode cX5_rank 26 = .ok (.aload_n 0, 1) := dk_42 (dk_at dksX5_rank_1 3 rfl rfl)
theorem dX5_rank_27 : decode cX5_rank 27 = .ok (.iload_n 1, 1) := dk_27 (dk_at dksX5_rank_1 4 rfl rfl)
theorem dX5_rank_28 : decode cX5_rank 28 = .ok (.invokevirtual 138, 3) := dk_182 0 138 (dk_at dksX5_rank_1 5 rfl rfl)
theorem dX5_rank_31 : decode cX5_rank 31 = .ok (.fcmp .g, 1) := dk_150 (dk_at dksX5_rank_1 8 rfl rfl)
theorem dX5_rank_32 : decode cX5_rank 32 = .ok (.ifCond .lt 22, 3) := dk_155 0 22 (dk_at dksX5_rank_1 9 rfl rfl)
theorem dX5_rank_35 : decode cX5_rank 35 = .ok (.aload_n 0, 1) := dk_42 (dk_at dksX5_rank_1 12 rfl rfl)
theorem dX5_rank_36 : decode cX5_rank 36 = .ok (.iload_n 3, 1) := dk_29 (dk_at dksX5_rank_1 13 rfl rfl)
theorem dX5_rank_37 : decode cX5_rank 37 = .ok (.invokevirtual 138, 3) := dk_182 0 138 (dk_at dksX5_rank_1 14 rfl rfl)
theorem dX5_rank_40 : decode cX5_rank 40 = .ok (.aload_n 0, 1) := dk_42 (dk_at dksX5_rank_1 17 rfl rfl)
theorem dX5_rank_41 : decode cX5_rank 41 = .ok (.iload_n 1, 1) := dk_27 (dk_at dksX5_rank_1 18 rfl rfl)
theorem dX5_rank_42 : decode cX5_rank 42 = .ok (.invokevirtual 138, 3) := dk_182 0 138 (dk_at dksX5_rank_1 19 rfl rfl)
theorem dX5_rank_45 : decode cX5_rank 45 = .ok (.fcmp .l, 1) := dk_149 (dk_at dksX5_rank_1 22 rfl rfl)
theorem dX5_rank_46 : decode cX5_rank 46 = .ok (.ifCond .ne 12, 3) := dk_154 0 12 (dk_at dksX5_rank_2 0 rfl rfl)
theorem dX5_rank_49 : decode cX5_rank 49 = .ok (.iload_n 3, 1) := dk_29 (dk_at dksX5_rank_2 3 rfl rfl)
theorem dX5_rank_50 : decode cX5_rank 50 = .ok (.iload_n 1, 1) := dk_27 (dk_at dksX5_rank_2 4 rfl rfl)
theorem dX5_rank_51 : decode cX5_rank 51 = .ok (.if_icmp .ge 7, 3) := dk_162 0 7 (dk_at dksX5_rank_2 5 rfl rfl)
theorem dX5_rank_54 : decode cX5_rank 54 = .ok (.iconst 1, 1) := dk_4 (dk_at dksX5_rank_2 8 rfl rfl)
theorem dX5_rank_55 : decode cX5_rank 55 = .ok (.goto 4, 3) := dk_167 0 4 (dk_at dksX5_rank_2 9 rfl rfl)
theorem dX5_rank_58 : decode cX5_rank 58 = .ok (.iconst 0, 1) := dk_3 (dk_at dksX5_rank_2 12 rfl rfl)
theorem dX5_rank_59 : decode cX5_rank 59 = .ok (.iadd, 1) := dk_96 (dk_at dksX5_rank_2 13 rfl rfl)
theorem dX5_rank_60 : decode cX5_rank 60 = .ok (.istore_n 2, 1) := dk_61 (dk_at dksX5_rank_2 14 rfl rfl)
theorem dX5_rank_61 : decode cX5_rank 61 = .ok (.iinc 3 1, 3) := dk_132 3 1 (dk_at dksX5_rank_2 15 rfl rfl)
theorem dX5_rank_64 : decode cX5_rank 64 = .ok (.goto (-60), 3) := dk_167 255 196 (dk_at dksX5_rank_2 18 rfl rfl)
theorem dX5_rank_67 : decode cX5_rank 67 = .ok (.iload_n 2, 1) := dk_28 (dk_at dksX5_rank_2 21 rfl rfl)
theorem dX5_rank_68 : decode cX5_rank 68 = .ok (.ireturn, 1) := dk_172 (dk_at dksX5_rank_2 22 rfl rfl)
abbrev rm_X5_rank : Room := { frames := 2, cells := 0, slots := 0, locals := 43 }
def w_X5_rank_4 (P : Int32 → AH → Prop) (x0 : Option Nat) (x1 : Int32) (x2 : Int32) (x3 : Int32) (h : AH) : Prop :=
  ∀ Z4 : Int32 → Int32 → AH → Prop, (∀ x2 x3 h, (
      g_i h x0 4 8 fun y6 =>
      ((y6 ≤ x3 →
        P x2 h) ∧
       (¬ y6 ≤ x3 →
        is_c h x0 [4] (
        w_X5_isSeen x0 x3 h (fun y15 h15 =>
        ((y15 = 0 →
          Z4 (x2 + 0) (x3 + 1) h15) ∧
         (¬ y15 = 0 →
          is_c h15 x0 [4] (
          w_X5_key x0 x3 h15 (fun y23 h23 =>
          is_c h23 x0 [4] (
          w_X5_key x0 x1 h23 (fun y28 h28 =>
          (((Op.cmpValue (FP.fcmp y23 y28) .g) < 0 →
            Z4 (x2 + 1) (x3 + 1) h28) ∧
           (¬ (Op.cmpValue (FP.fcmp y23 y28) .g) < 0 →
            is_c h28 x0 [4] (
            w_X5_key x0 x3 h28 (fun y37 h37 =>
            is_c h37 x0 [4] (
            w_X5_key x0 x1 h37 (fun y42 h42 =>
            (((Op.cmpValue (FP.fcmp y37 y42) .l) = 0 →
              ((x1 ≤ x3 →
                Z4 (x2 + 0) (x3 + 1) h42) ∧
               (¬ x1 ≤ x3 →
                Z4 (x2 + 1) (x3 + 1) h42))) ∧
             (¬ (Op.cmpValue (FP.fcmp y37 y42) .l) = 0 →
              Z4 (x2 + 0) (x3 + 1) h42)))))))))))))))))))
      → Z4 x2 x3 h) → Z4 x2 x3 h
def w_X5_rank (a0 : Option Nat) (a1 : Int32) (h : AH) (P : Int32 → AH → Prop) : Prop :=
  w_X5_rank_4 P a0 a1 0 0 h
theorem wk_X5_rank_4 {x : CX} (X : Ok x cX5_rank RX5 rm_X5_rank 4) (er : xrt x = (Option.some Jvm.ClassFile.FieldType.int)) (en : xnm x = yX5_rank.name) {P : Int32 → AH → Prop} (hQ : xr_i x P) (x0 : Option Nat) (x1 : Int32) (x2 : Int32) (x3 : Int32) (h : AH) (hw : w_X5_rank_4 P x0 x1 x2 x3 h) : J x h 0 0 4 [(0, vR x0), (1, vI x1), (2, vI x2), (3, vI x3)] [] := by
  refine hw (fun x2 x3 h => J x h 0 0 4 [(0, vR x0), (1, vI x1), (2, vI x2), (3, vI x3)] []) (fun x2 x3 h hw => ?_)
  refine j_iload_n X (pc := 4) 3 dX5_rank_4 rfl rfl ?_
  refine j_aload_n X (pc := 5) 0 dX5_rank_5 rfl rfl ?_
  refine j_geti (ci := 4) X (pc := 6) in_X5 rfl (by decide) 8 (by decide) q1880 (Or.inl rfl) dX5_rank_6 hw (fun y6 hw => ?_)
  refine j_icmp_ge X (pc := 9) 67 dX5_rank_9 (by decide) hw (fun hw => ?_) (fun hw => ?_)
  · refine j_iload_n X (pc := 67) 2 dX5_rank_67 rfl rfl ?_
    exact j_iret X (pc := 68) hQ er (Nat.le_of_ble_eq_true rfl) (Nat.le_of_ble_eq_true rfl) dX5_rank_68 hw
  · refine j_iload_n X (pc := 12) 2 dX5_rank_12 rfl rfl ?_
    refine j_aload_n X (pc := 13) 0 dX5_rank_13 rfl rfl ?_
    refine j_iload_n X (pc := 14) 3 dX5_rank_14 rfl rfl ?_
    obtain ⟨b9, c9, f9, hr9, ho9, hc9, hw⟩ := hw
    obtain rfl := List.mem_singleton.mp hc9
    refine j_calli (j_runV (n8 := 1) (As := [vI x3]) (rest := [vI x2]) X (pc := 15) hr9 (met_X5_isSeen (xl x) X.hl (xG x) h x0 x3 _ hw) ho9 (by decide) rfl q2012 q2014 qs39 q78 q2015 (by decide +kernel) dX5_rank_15 rfl ⟨Nat.le_of_ble_eq_true rfl, Nat.le_of_ble_eq_true rfl⟩ (Nat.le_of_ble_eq_true rfl) ⟨Nat.le_of_ble_eq_true rfl, Nat.le_of_ble_eq_true rfl⟩) (fun y15 h15 hw => ?_)
    refine j_if_eq X (pc := 18) 58 dX5_rank_18 (by decide) hw (fun hw => ?_) (fun hw => ?_)
    · refine j_iconst X (pc := 58) 0 dX5_rank_58 (by decide) ?_
      refine j_iadd X (pc := 59) dX5_rank_59 ?_
      refine j_istore_n X (pc := 60) [(2, vI (x2 + 0)), (0, vR x0), (1, vI x1), (3, vI x3)] dX5_rank_60 rfl (Nat.le_of_ble_eq_true rfl) rfl ?_
      refine j_iinc X (pc := 61) 3 (x3 + 1) [(3, vI (x3 + 1)), (2, vI (x2 + 0)), (0, vR x0), (1, vI x1)] dX5_rank_61 rfl rfl (Nat.le_of_ble_eq_true rfl) rfl ?_
      refine j_goto X (pc := 64) 4 dX5_rank_64 (by decide) ?_
      refine j_lv [(0, vR x0), (1, vI x1), (2, vI (x2 + 0)), (3, vI (x3 + 1))] [2, 3, 1, 0] rfl ?_
      refine j_cs (u' := 0) (v' := 0) (Nat.le_of_ble_eq_true rfl) (Nat.le_of_ble_eq_true rfl) ?_
      exact hw
    · refine j_aload_n X (pc := 21) 0 dX5_rank_21 rfl rfl ?_
      refine j_iload_n X (pc := 22) 3 dX5_rank_22 rfl rfl ?_
      obtain ⟨b9, c9, f9, hr9, ho9, hc9, hw⟩ := hw
      obtain rfl := List.mem_singleton.mp hc9
      refine j_callf (j_runV (n8 := 1) (As := [vI x3]) (rest := [vI x2]) X (pc := 23) hr9 (met_X5_key (xl x) X.hl (xG x) h15 x0 x3 _ hw) ho9 (by decide) rfl q2016 q2018 qs40 q78 q2019 (by decide +kernel) dX5_rank_23 rfl ⟨Nat.le_of_ble_eq_true rfl, Nat.le_of_ble_eq_true rfl⟩ (Nat.le_of_ble_eq_true rfl) ⟨Nat.le_of_ble_eq_true rfl, Nat.le_of_ble_eq_true rfl⟩) (fun y23 h23 hw => ?_)
      refine j_aload_n X (pc := 26) 0 dX5_rank_26 rfl rfl ?_
      refine j_iload_n X (pc := 27) 1 dX5_rank_27 rfl rfl ?_
      obtain ⟨b9, c9, f9, hr9, ho9, hc9, hw⟩ := hw
      obtain rfl := List.mem_singleton.mp hc9
      refine j_callf (j_runV (n8 := 1) (As := [vI x1]) (rest := [vF y23, vI x2]) X (pc := 28) hr9 (met_X5_key (xl x) X.hl (xG x) h23 x0 x1 _ hw) ho9 (by decide) rfl q2016 q2018 qs40 q78 q2019 (by decide +kernel) dX5_rank_28 rfl ⟨Nat.le_of_ble_eq_true rfl, Nat.le_of_ble_eq_true rfl⟩ (Nat.le_of_ble_eq_true rfl) ⟨Nat.le_of_ble_eq_true rfl, Nat.le_of_ble_eq_true rfl⟩) (fun y28 h28 hw => ?_)
      refine j_fcmp X (pc := 31) dX5_rank_31 ?_
      refine j_if_lt X (pc := 32) 54 dX5_rank_32 (by decide) hw (fun hw => ?_) (fun hw => ?_)
      · refine j_iconst X (pc := 54) 1 dX5_rank_54 (by decide) ?_
        refine j_goto X (pc := 55) 59 dX5_rank_55 (by decide) ?_
        refine j_iadd X (pc := 59) dX5_rank_59 ?_
        refine j_istore_n X (pc := 60) [(2, vI (x2 + 1)), (0, vR x0), (1, vI x1), (3, vI x3)] dX5_rank_60 rfl (Nat.le_of_ble_eq_true rfl) rfl ?_
        refine j_iinc X (pc := 61) 3 (x3 + 1) [(3, vI (x3 + 1)), (2, vI (x2 + 1)), (0, vR x0), (1, vI x1)] dX5_rank_61 rfl rfl (Nat.le_of_ble_eq_true rfl) rfl ?_
        refine j_goto X (pc := 64) 4 dX5_rank_64 (by decide) ?_
        refine j_lv [(0, vR x0), (1, vI x1), (2, vI (x2 + 1)), (3, vI (x3 + 1))] [2, 3, 1, 0] rfl ?_
        refine j_cs (u' := 0) (v' := 0) (Nat.le_of_ble_eq_true rfl) (Nat.le_of_ble_eq_true rfl) ?_
        exact hw
      · refine j_aload_n X (pc := 35) 0 dX5_rank_35 rfl rfl ?_
        refine j_iload_n X (pc := 36) 3 dX5_rank_36 rfl rfl ?_
        obtain ⟨b9, c9, f9, hr9, ho9, hc9, hw⟩ := hw
        obtain rfl := List.mem_singleton.mp hc9
        refine j_callf (j_runV (n8 := 1) (As := [vI x3]) (rest := [vI x2]) X (pc := 37) hr9 (met_X5_key (xl x) X.hl (xG x) h28 x0 x3 _ hw) ho9 (by decide) rfl q2016 q2018 qs40 q78 q2019 (by decide +kernel) dX5_rank_37 rfl ⟨Nat.le_of_ble_eq_true rfl, Nat.le_of_ble_eq_true rfl⟩ (Nat.le_of_ble_eq_true rfl) ⟨Nat.le_of_ble_eq_true rfl, Nat.le_of_ble_eq_true rfl⟩) (fun y37 h37 hw => ?_)
        refine j_aload_n X (pc := 40) 0 dX5_rank_40 rfl rfl ?_
        refine j_iload_n X (pc := 41) 1 dX5_rank_41 rfl rfl ?_
        obtain ⟨b9, c9, f9, hr9, ho9, hc9, hw⟩ := hw
        obtain rfl := List.mem_singleton.mp hc9
        refine j_callf (j_runV (n8 := 1) (As := [vI x1]) (rest := [vF y37, vI x2]) X (pc := 42) hr9 (met_X5_key (xl x) X.hl (xG x) h37 x0 x1 _ hw) ho9 (by decide) rfl q2016 q2018 qs40 q78 q2019 (by decide +kernel) dX5_rank_42 rfl ⟨Nat.le_of_ble_eq_true rfl, Nat.le_of_ble_eq_true rfl⟩ (Nat.le_of_ble_eq_true rfl) ⟨Nat.le_of_ble_eq_true rfl, Nat.le_of_ble_eq_true rfl⟩) (fun y42 h42 hw => ?_)
        refine j_fcmp X (pc := 45) dX5_rank_45 ?_
        refine j_if_ne X (pc := 46) 58 dX5_rank_46 (by decide) hw (fun hw => ?_) (fun hw => ?_)
        · refine j_iload_n X (pc := 49) 3 dX5_rank_49 rfl rfl ?_
          refine j_iload_n X (pc := 50) 1 dX5_rank_50 rfl rfl ?_
          refine j_icmp_ge X (pc := 51) 58 dX5_rank_51 (by decide) hw (fun hw => ?_) (fun hw => ?_)
          · refine j_iconst X (pc := 58) 0 dX5_rank_58 (by decide) ?_
            refine j_iadd X (pc := 59) dX5_rank_59 ?_
            refine j_istore_n X (pc := 60) [(2, vI (x2 + 0)), (0, vR x0), (1, vI x1), (3, vI x3)] dX5_rank_60 rfl (Nat.le_of_ble_eq_true rfl) rfl ?_
            refine j_iinc X (pc := 61) 3 (x3 + 1) [(3, vI (x3 + 1)), (2, vI (x2 + 0)), (0, vR x0), (1, vI x1)] dX5_rank_61 rfl rfl (Nat.le_of_ble_eq_true rfl) rfl ?_
            refine j_goto X (pc := 64) 4 dX5_rank_64 (by decide) ?_
            refine j_lv [(0, vR x0), (1, vI x1), (2, vI (x2 + 0)), (3, vI (x3 + 1))] [2, 3, 1, 0] rfl ?_
            refine j_cs (u' := 0) (v' := 0) (Nat.le_of_ble_eq_true rfl) (Nat.le_of_ble_eq_true rfl) ?_
            exact hw
          · refine j_iconst X (pc := 54) 1 dX5_rank_54 (by decide) ?_
            refine j_goto X (pc := 55) 59 dX5_rank_55 (by decide) ?_
            refine j_iadd X (pc := 59) dX5_rank_59 ?_
            refine j_istore_n X (pc := 60) [(2, vI (x2 + 1)), (0, vR x0), (1, vI x1), (3, vI x3)] dX5_rank_60 rfl (Nat.le_of_ble_eq_true rfl) rfl ?_
            refine j_iinc X (pc := 61) 3 (x3 + 1) [(3, vI (x3 + 1)), (2, vI (x2 + 1)), (0, vR x0), (1, vI x1)] dX5_rank_61 rfl rfl (Nat.le_of_ble_eq_true rfl) rfl ?_
            refine j_goto X (pc := 64) 4 dX5_rank_64 (by decide) ?_
            refine j_lv [(0, vR x0), (1, vI x1), (2, vI (x2 + 1)), (3, vI (x3 + 1))] [2, 3, 1, 0] rfl ?_
            refine j_cs (u' := 0) (v' := 0) (Nat.le_of_ble_eq_true rfl) (Nat.le_of_ble_eq_true rfl) ?_
            exact hw
        · refine j_iconst X (pc := 58) 0 dX5_rank_58 (by decide) ?_
          refine j_iadd X (pc := 59) dX5_rank_59 ?_
          refine j_istore_n X (pc := 60) [(2, vI (x2 + 0)), (0, vR x0), (1, vI x1), (3, vI x3)] dX5_rank_60 rfl (Nat.le_of_ble_eq_true rfl) rfl ?_
          refine j_iinc X (pc := 61) 3 (x3 + 1) [(3, vI (x3 + 1)), (2, vI (x2 + 0)), (0, vR x0), (1, vI x1)] dX5_rank_61 rfl rfl (Nat.le_of_ble_eq_true rfl) rfl ?_
          refine j_goto X (pc := 64) 4 dX5_rank_64 (by decide) ?_
          refine j_lv [(0, vR x0), (1, vI x1), (2, vI (x2 + 0)), (3, vI (x3 + 1))] [2, 3, 1, 0] rfl ?_
          refine j_cs (u' := 0) (v' := 0) (Nat.le_of_ble_eq_true rfl) (Nat.le_of_ble_eq_true rfl) ?_
          exact hw
theorem met_X5_rank (l : Launch) (hlt : l.stackTraces = false) (G : GG) (h : AH) (a0 : Option Nat) (a1 : Int32) (P : Int32 → AH → Prop) (hw : w_X5_rank a0 a1 h P) : ct_i l yX5_rank (ws_ yX5_rank cX5_rank 4 (Option.some Jvm.ClassFile.FieldType.int)) rm_X5_rank G h [vR a0, vI a1] P := by
  refine j_starti hlt [(0, vR a0), (1, vI a1)] (plainFor_of_name (by decide)) rfl rfl (fun x X eG er en hQ => ?_)
  subst eG
  refine j_iconst X (pc := 0) 0 dX5_rank_0 (by decide) ?_
  refine j_istore_n X (pc := 1) [(2, vI 0), (0, vR a0), (1, vI a1)] dX5_rank_1 rfl (Nat.le_of_ble_eq_true rfl) rfl ?_
  refine j_iconst X (pc := 2) 0 dX5_rank_2 (by decide) ?_
  refine j_istore_n X (pc := 3) [(3, vI 0), (2, vI 0), (0, vR a0), (1, vI a1)] dX5_rank_3 rfl (Nat.le_of_ble_eq_true rfl) rfl ?_
  refine j_lv [(0, vR a0), (1, vI a1), (2, vI 0), (3, vI 0)] [2, 3, 1, 0] rfl ?_
  refine j_cs (u' := 0) (v' := 0) (Nat.le_of_ble_eq_true rfl) (Nat.le_of_ble_eq_true rfl) ?_
  exact wk_X5_rank_4 X er en hQ a0 a1 0 0 h hw
abbrev cX5_keys : ByteArray := prog_19_method_30_code
def yX5_keys : MethodName := ⟨RX5, "keys", "(IIF)I"⟩
def dkwX5_keys_0 : List UInt8 := [42, 16, 24, 28, 96, 37, 184, 0, 182, 182, 0, 179, 42, 27, 4, 182, 0, 186, 42, 28, 182, 0, 199, 172]
abbrev dktX5_keys_0 : List UInt8 := dkwX5_keys_0 ++ []
theorem dksX5_keys_0 : cX5_keys.data.toList.drop 0 = dktX5_keys_0 := by decide +kernel
theorem dX5_keys_0 : decode cX5_keys 0 = .ok (.aload_n 0, 1) := dk_42 (dk_at dksX5_keys_0 0 rfl rfl)
theorem dX5_keys_1 : decode cX5_keys 1 = .ok (.bipush 24, 2) := dk_16 24 (dk_at dksX5_keys_0 1 rfl rfl)
theorem dX5_keys_3 : decode cX5_keys 3 = .ok (.iload_n 2, 1) := dk_28 (dk_at dksX5_keys_0 3 rfl rfl)
theorem dX5_keys_4 : decode cX5_keys 4 = .ok (.iadd, 1) := dk_96 (dk_at dksX5_keys_0 4 rfl rfl)
theorem dX5_keys_5 : decode cX5_keys 5 = .ok (.fload_n 3, 1) := dk_37 (dk_at dksX5_keys_0 5 rfl rfl)
theorem dX5_keys_6 : decode cX5_keys 6 = .ok (.invokestatic 182, 3) := dk_184 0 182 (dk_at dksX5_keys_0 6 rfl rfl)
theorem dX5_keys_9 : decode cX5_keys 9 = .ok (.invokevirtual 179, 3) := dk_182 0 179 (dk_at dksX5_keys_0 9 rfl rfl)
theorem dX5_keys_12 : decode cX5_keys 12 = .ok (.aload_n 0, 1) := dk_42 (dk_at dksX5_keys_0 12 rfl rfl)
theorem dX5_keys_13 : decode cX5_keys 13 = .ok (.iload_n 1, 1) := dk_27 (dk_at dksX5_keys_0 13 rfl rfl)
theorem dX5_keys_14 : decode cX5_keys 14 = .ok (.iconst 1, 1) := dk_4 (dk_at dksX5_keys_0 14 rfl rfl)
theorem dX5_keys_15 : decode cX5_keys 15 = .ok (.invokevirtual 186, 3) := dk_182 0 186 (dk_at dksX5_keys_0 15 rfl rfl)
theorem dX5_keys_18 : decode cX5_keys 18 = .ok (.aload_n 0, 1) := dk_42 (dk_at dksX5_keys_0 18 rfl rfl)
theorem dX5_keys_19 : decode cX5_keys 19 = .ok (.iload_n 2, 1) := dk_28 (dk_at dksX5_keys_0 19 rfl rfl)
theorem dX5_keys_20 : decode cX5_keys 20 = .ok (.invokevirtual 199, 3) := dk_182 0 199 (dk_at dksX5_keys_0 20 rfl rfl)
theorem dX5_keys_23 : decode cX5_keys 23 = .ok (.ireturn, 1) := dk_172 (dk_at dksX5_keys_0 23 rfl rfl)
theorem q2067 : (Jvm.Cond.methodLink "PlugboardModel" (199 : Nat) ({ cls := "PlugboardModel", name := "rank", desc := "(I)I" } : Jvm.MethodName)) ∈ lw_all := lw_g (lw_at lw_m9 77 rfl) rfl
theorem q2069 : (Jvm.Cond.instanceMethod ({ cls := "PlugboardModel", name := "rank", desc := "(I)I" } : Jvm.MethodName)) ∈ lw_all := lw_g (lw_at lw_m9 79 rfl) rfl
theorem q2070 : (Jvm.Cond.code ({ cls := "PlugboardModel", name := "rank", desc := "(I)I" } : Jvm.MethodName) prog_19_method_18_code (4 : Nat) (Option.some Jvm.ClassFile.FieldType.int)) ∈ lw_all := lw_g (lw_at lw_m9 80 rfl) rfl
abbrev rm_X5_keys : Room := { frames := 4, cells := 0, slots := 0, locals := 90 }
def w_X5_keys (a0 : Option Nat) (a1 : Int32) (a2 : Int32) (a3 : UInt32) (h : AH) (P : Int32 → AH → Prop) : Prop :=
  w_J13_floatToIntBits a3 h (fun y6 h6 =>
  is_c h6 a0 [4] (
  w_X5_plans a0 (24 + a2) y6 h6 (fun h9 =>
  is_c h9 a0 [4] (
  w_X5_makes a0 a1 1 h9 (fun h15 =>
  is_c h15 a0 [4] (
  w_X5_rank a0 a2 h15 (fun y20 h20 =>
  P y20 h20)))))))
theorem met_X5_keys (l : Launch) (hlt : l.stackTraces = false) (G : GG) (h : AH) (a0 : Option Nat) (a1 : Int32) (a2 : Int32) (a3 : UInt32) (P : Int32 → AH → Prop) (hw : w_X5_keys a0 a1 a2 a3 h P) : ct_i l yX5_keys (ws_ yX5_keys cX5_keys 4 (Option.some Jvm.ClassFile.FieldType.int)) rm_X5_keys G h [vR a0, vI a1, vI a2, vF a3] P := by
  refine j_starti hlt [(0, vR a0), (1, vI a1), (2, vI a2), (3, vF a3)] (plainFor_of_name (by decide)) rfl rfl (fun x X eG er en hQ => ?_)
  subst eG
  refine j_aload_n X (pc := 0) 0 dX5_keys_0 rfl rfl ?_
  refine j_bipush X (pc := 1) 24 dX5_keys_1 (by decide) ?_
  refine j_iload_n X (pc := 3) 2 dX5_keys_3 rfl rfl ?_
  refine j_iadd X (pc := 4) dX5_keys_4 ?_
  refine j_fload_n X (pc := 5) 3 dX5_keys_5 rfl rfl ?_
  refine j_calli (j_runS (n8 := 1) (As := [vF a3]) (rest := [vI (24 + a2), vR a0]) X (pc := 6) (met_J13_floatToIntBits (xl x) X.hl (xG x) h a3 _ hw) q2029 q681 q91 q682 (by decide +kernel) dX5_keys_6 rfl ⟨Nat.le_of_ble_eq_true rfl, Nat.le_of_ble_eq_true rfl⟩ (Nat.le_of_ble_eq_true rfl) ⟨Nat.le_of_ble_eq_true rfl, Nat.le_of_ble_eq_true rfl⟩) (fun y6 h6 hw => ?_)
  obtain ⟨b9, c9, f9, hr9, ho9, hc9, hw⟩ := hw
  obtain rfl := List.mem_singleton.mp hc9
  refine j_callv (j_runV (n8 := 2) (As := [vI (24 + a2), vI y6]) (rest := []) X (pc := 9) hr9 (met_X5_plans (xl x) X.hl (xG x) h6 a0 (24 + a2) y6 _ hw) ho9 (by decide) rfl q2021 q2023 qs41 q78 q2024 (by decide +kernel) dX5_keys_9 rfl ⟨Nat.le_of_ble_eq_true rfl, Nat.le_of_ble_eq_true rfl⟩ (Nat.le_of_ble_eq_true rfl) ⟨Nat.le_of_ble_eq_true rfl, Nat.le_of_ble_eq_true rfl⟩) (fun h9 hw => ?_)
  refine j_aload_n X (pc := 12) 0 dX5_keys_12 rfl rfl ?_
  refine j_iload_n X (pc := 13) 1 dX5_keys_13 rfl rfl ?_
  refine j_iconst X (pc := 14) 1 dX5_keys_14 (by decide) ?_
  obtain ⟨b9, c9, f9, hr9, ho9, hc9, hw⟩ := hw
  obtain rfl := List.mem_singleton.mp hc9
  refine j_callv (j_runV (n8 := 2) (As := [vI a1, vI 1]) (rest := []) X (pc := 15) hr9 (met_X5_makes (xl x) X.hl (xG x) h9 a0 a1 1 _ hw) ho9 (by decide) rfl q2030 q2032 qs43 q78 q2033 (by decide +kernel) dX5_keys_15 rfl ⟨Nat.le_of_ble_eq_true rfl, Nat.le_of_ble_eq_true rfl⟩ (Nat.le_of_ble_eq_true rfl) ⟨Nat.le_of_ble_eq_true rfl, Nat.le_of_ble_eq_true rfl⟩) (fun h15 hw => ?_)
  refine j_aload_n X (pc := 18) 0 dX5_keys_18 rfl rfl ?_
  refine j_iload_n X (pc := 19) 2 dX5_keys_19 rfl rfl ?_
  obtain ⟨b9, c9, f9, hr9, ho9, hc9, hw⟩ := hw
  obtain rfl := List.mem_singleton.mp hc9
  refine j_calli (j_runV (n8 := 1) (As := [vI a2]) (rest := []) X (pc := 20) hr9 (met_X5_rank (xl x) X.hl (xG x) h15 a0 a2 _ hw) ho9 (by decide) rfl q2067 q2069 qs50 q78 q2070 (by decide +kernel) dX5_keys_20 rfl ⟨Nat.le_of_ble_eq_true rfl, Nat.le_of_ble_eq_true rfl⟩ (Nat.le_of_ble_eq_true rfl) ⟨Nat.le_of_ble_eq_true rfl, Nat.le_of_ble_eq_true rfl⟩) (fun y20 h20 hw => ?_)
  exact j_iret X (pc := 23) hQ er (Nat.le_of_ble_eq_true rfl) (Nat.le_of_ble_eq_true rfl) dX5_keys_23 hw
abbrev cX5_raise : ByteArray := prog_19_method_31_code
def yX5_raise : MethodName := ⟨RX5, "raise", "(II)I"⟩
def dkwX5_raise_2 : List UInt8 := [182, 0, 202, 172]
abbrev dktX5_raise_2 : List UInt8 := dkwX5_raise_2 ++ []
def dkwX5_raise_1 : List UInt8 := [180, 0, 97, 158, 0, 7, 3, 167, 0, 19, 42, 27, 28, 42, 42, 182, 0, 175, 182, 0, 138, 12, 98]
abbrev dktX5_raise_1 : List UInt8 := dkwX5_raise_1 ++ dktX5_raise_2
def dkwX5_raise_0 : List UInt8 := [42, 27, 184, 0, 165, 153, 0, 12, 42, 27, 28, 182, 0, 193, 167, 0, 4, 4, 181, 0, 97, 42]
abbrev dktX5_raise_0 : List UInt8 := dkwX5_raise_0 ++ dktX5_raise_1
theorem dksX5_raise_0 : cX5_raise.data.toList.drop 0 = dktX5_raise_0 := by decide +kernel
theorem dksX5_raise_1 : cX5_raise.data.toList.drop 22 = dktX5_raise_1 := dk_seg dksX5_raise_0 22 rfl rfl
theorem dksX5_raise_2 : cX5_raise.data.toList.drop 45 = dktX5_raise_2 := dk_seg dksX5_raise_1 23 rfl rfl
theorem dX5_raise_0 : decode cX5_raise 0 = .ok (.aload_n 0, 1) := dk_42 (dk_at dksX5_raise_0 0 rfl rfl)
theorem dX5_raise_1 : decode cX5_raise 1 = .ok (.iload_n 1, 1) := dk_27 (dk_at dksX5_raise_0 1 rfl rfl)
theorem dX5_raise_2 : decode cX5_raise 2 = .ok (.invokestatic 165, 3) := dk_184 0 165 (dk_at dksX5_raise_0 2 rfl rfl)
theorem dX5_raise_5 : decode cX5_raise 5 = .ok (.ifCond .eq 12, 3) := dk_153 0 12 (dk_at dksX5_raise_0 5 rfl rfl)
theorem dX5_raise_8 : decode cX5_raise 8 = .ok (.aload_n 0, 1) := dk_42 (dk_at dksX5_raise_0 8 rfl rfl)
theorem dX5_raise_9 : decode cX5_raise 9 = .ok (.iload_n 1, 1) := dk_27 (dk_at dksX5_raise_0 9 rfl rfl)
theorem dX5_raise_10 : decode cX5_raise 10 = .ok (.iload_n 2, 1) := dk_28 (dk_at dksX5_raise_0 10 rfl rfl)
theorem dX5_raise_11 : decode cX5_raise 11 = .ok (.invokevirtual 193, 3) := dk_182 0 193 (dk_at dksX5_raise_0 11 rfl rfl)
theorem dX5_raise_14 : decode cX5_raise 14 = .ok (.goto 4, 3) := dk_167 0 4 (dk_at dksX5_raise_0 14 rfl rfl)
theorem dX5_raise_17 : decode cX5_raise 17 = .ok (.iconst 1, 1) := dk_4 (dk_at dksX5_raise_0 17 rfl rfl)
theorem dX5_raise_18 : decode cX5_raise 18 = .ok (.putfield 97, 3) := dk_181 0 97 (dk_at dksX5_raise_0 18 rfl rfl)
theorem dX5_raise_21 : decode cX5_raise 21 = .ok (.aload_n 0, 1) := dk_42 (dk_at dksX5_raise_0 21 rfl rfl)
theorem dX5_raise_22 : decode cX5_raise 22 = .ok (.getfield 97, 3) := dk_180 0 97 (dk_at dksX5_raise_1 0 rfl rfl)
theorem dX5_raise_25 : decode cX5_raise 25 = .ok (.ifCond .le 7, 3) := dk_158 0 7 (dk_at dksX5_raise_1 3 rfl rfl)
theorem dX5_raise_28 : decode cX5_raise 28 = .ok (.iconst 0, 1) := dk_3 (dk_at dksX5_raise_1 6 rfl rfl)
theorem dX5_raise_29 : decode cX5_raise 29 = .ok (.goto 19, 3) := dk_167 0 19 (dk_at dksX5_raise_1 7 rfl rfl)
theorem dX5_raise_32 : decode cX5_raise 32 = .ok (.aload_n 0, 1) := dk_42 (dk_at dksX5_raise_1 10 rfl rfl)
theorem dX5_raise_33 : decode cX5_raise 33 = .ok (.iload_n 1, 1) := dk_27 (dk_at dksX5_raise_1 11 rfl rfl)
theorem dX5_raise_34 : decode cX5_raise 34 = .ok (.iload_n 2, 1) := dk_28 (dk_at dksX5_raise_1 12 rfl rfl)
theorem dX5_raise_35 : decode cX5_raise 35 = .ok (.aload_n 0, 1) := dk_42 (dk_at dksX5_raise_1 13 rfl rfl)
theorem dX5_raise_36 : decode cX5_raise 36 = .ok (.aload_n 0, 1) := dk_42 (dk_at dksX5_raise_1 14 rfl rfl)
theorem dX5_raise_37 : decode cX5_raise 37 = .ok (.invokevirtual 175, 3) := dk_182 0 175 (dk_at dksX5_raise_1 15 rfl rfl)
theorem dX5_raise_40 : decode cX5_raise 40 = .ok (.invokevirtual 138, 3) := dk_182 0 138 (dk_at dksX5_raise_1 18 rfl rfl)
theorem dX5_raise_43 : decode cX5_raise 43 = .ok (.fconst 1, 1) := dk_12 (dk_at dksX5_raise_1 21 rfl rfl)
theorem dX5_raise_44 : decode cX5_raise 44 = .ok (.fadd, 1) := dk_98 (dk_at dksX5_raise_1 22 rfl rfl)
theorem dX5_raise_45 : decode cX5_raise 45 = .ok (.invokevirtual 202, 3) := dk_182 0 202 (dk_at dksX5_raise_2 0 rfl rfl)
theorem dX5_raise_48 : decode cX5_raise 48 = .ok (.ireturn, 1) := dk_172 (dk_at dksX5_raise_2 3 rfl rfl)
theorem q2063 : (Jvm.Cond.methodLink "PlugboardModel" (202 : Nat) ({ cls := "PlugboardModel", name := "keys", desc := "(IIF)I" } : Jvm.MethodName)) ∈ lw_all := lw_g (lw_at lw_m9 73 rfl) rfl
theorem q2065 : (Jvm.Cond.instanceMethod ({ cls := "PlugboardModel", name := "keys", desc := "(IIF)I" } : Jvm.MethodName)) ∈ lw_all := lw_g (lw_at lw_m9 75 rfl) rfl
theorem q2066 : (Jvm.Cond.code ({ cls := "PlugboardModel", name := "keys", desc := "(IIF)I" } : Jvm.MethodName) prog_19_method_30_code (4 : Nat) (Option.some Jvm.ClassFile.FieldType.int)) ∈ lw_all := lw_g (lw_at lw_m9 76 rfl) rfl
abbrev rm_X5_raise : Room := { frames := 5, cells := 0, slots := 0, locals := 113 }
def w_X5_raise_18 (P : Int32 → AH → Prop) (x0 : Option Nat) (x1 : Int32) (x2 : Int32) (t0 : Int32) (t1 : Option Nat) (h : AH) : Prop :=
  p_v h t1 4 0 (vI t0) fun h18 =>
  g_i h18 x0 4 0 fun y22 =>
  ((y22 ≤ 0 →
    is_c h18 x0 [4] (
    w_X5_greatest x0 h18 (fun y37 h37 =>
    is_c h37 x0 [4] (
    w_X5_key x0 y37 h37 (fun y40 h40 =>
    vf_n32 (FP.fadd y40 FP.fconst1) ∧
    is_c h40 x0 [4] (
    w_X5_keys x0 x1 x2 (FP.fadd y40 FP.fconst1) h40 (fun y45 h45 =>
    P y45 h45))))))) ∧
   (¬ y22 ≤ 0 →
    P 0 h18))
def w_X5_raise (a0 : Option Nat) (a1 : Int32) (a2 : Int32) (h : AH) (P : Int32 → AH → Prop) : Prop :=
  w_X5_isUser a1 h (fun y2 h2 =>
  ((y2 = 0 →
    w_X5_raise_18 P a0 a1 a2 1 a0 h2) ∧
   (¬ y2 = 0 →
    is_c h2 a0 [4] (
    w_X5_bar a0 a1 a2 h2 (fun y11 h11 =>
    w_X5_raise_18 P a0 a1 a2 y11 a0 h11)))))
theorem wk_X5_raise_18 {x : CX} (X : Ok x cX5_raise RX5 rm_X5_raise 3) (er : xrt x = (Option.some Jvm.ClassFile.FieldType.int)) (en : xnm x = yX5_raise.name) {P : Int32 → AH → Prop} (hQ : xr_i x P) (x0 : Option Nat) (x1 : Int32) (x2 : Int32) (t0 : Int32) (t1 : Option Nat) (h : AH) (hw : w_X5_raise_18 P x0 x1 x2 t0 t1 h) : J x h 0 0 18 [(0, vR x0), (1, vI x1), (2, vI x2)] [vI t0, vR t1] := by
  refine j_put (ci := 4) X (pc := 18) in_X5 rfl (by decide) 0 (by decide) q1872 (Or.inl rfl) tyX5 tyX5_ok nmX5 rfl rfl (ty := .int) (tyX5_ok 0 (by decide)) rfl rfl dX5_raise_18 hw (fun h18 hw => ?_)
  refine j_aload_n X (pc := 21) 0 dX5_raise_21 rfl rfl ?_
  refine j_geti (ci := 4) X (pc := 22) in_X5 rfl (by decide) 0 (by decide) q1872 (Or.inl rfl) dX5_raise_22 hw (fun y22 hw => ?_)
  refine j_if_le X (pc := 25) 32 dX5_raise_25 (by decide) hw (fun hw => ?_) (fun hw => ?_)
  · refine j_aload_n X (pc := 32) 0 dX5_raise_32 rfl rfl ?_
    refine j_iload_n X (pc := 33) 1 dX5_raise_33 rfl rfl ?_
    refine j_iload_n X (pc := 34) 2 dX5_raise_34 rfl rfl ?_
    refine j_aload_n X (pc := 35) 0 dX5_raise_35 rfl rfl ?_
    refine j_aload_n X (pc := 36) 0 dX5_raise_36 rfl rfl ?_
    obtain ⟨b9, c9, f9, hr9, ho9, hc9, hw⟩ := hw
    obtain rfl := List.mem_singleton.mp hc9
    refine j_calli (j_runV (n8 := 0) (As := []) (rest := [vR x0, vI x2, vI x1, vR x0]) X (pc := 37) hr9 (met_X5_greatest (xl x) X.hl (xG x) h18 x0 _ hw) ho9 (by decide) rfl q2008 q2010 qs38 q78 q2011 (by decide +kernel) dX5_raise_37 rfl ⟨Nat.le_of_ble_eq_true rfl, Nat.le_of_ble_eq_true rfl⟩ (Nat.le_of_ble_eq_true rfl) ⟨Nat.le_of_ble_eq_true rfl, Nat.le_of_ble_eq_true rfl⟩) (fun y37 h37 hw => ?_)
    obtain ⟨b9, c9, f9, hr9, ho9, hc9, hw⟩ := hw
    obtain rfl := List.mem_singleton.mp hc9
    refine j_callf (j_runV (n8 := 1) (As := [vI y37]) (rest := [vI x2, vI x1, vR x0]) X (pc := 40) hr9 (met_X5_key (xl x) X.hl (xG x) h37 x0 y37 _ hw) ho9 (by decide) rfl q2016 q2018 qs40 q78 q2019 (by decide +kernel) dX5_raise_40 rfl ⟨Nat.le_of_ble_eq_true rfl, Nat.le_of_ble_eq_true rfl⟩ (Nat.le_of_ble_eq_true rfl) ⟨Nat.le_of_ble_eq_true rfl, Nat.le_of_ble_eq_true rfl⟩) (fun y40 h40 hw => ?_)
    refine j_fconst1 X (pc := 43) dX5_raise_43 ?_
    refine j_fadd X (pc := 44) dX5_raise_44 hw (fun hw => ?_)
    obtain ⟨b9, c9, f9, hr9, ho9, hc9, hw⟩ := hw
    obtain rfl := List.mem_singleton.mp hc9
    refine j_calli (j_runV (n8 := 3) (As := [vI x1, vI x2, vF (FP.fadd y40 FP.fconst1)]) (rest := []) X (pc := 45) hr9 (met_X5_keys (xl x) X.hl (xG x) h40 x0 x1 x2 (FP.fadd y40 FP.fconst1) _ hw) ho9 (by decide) rfl q2063 q2065 qs49 q78 q2066 (by decide +kernel) dX5_raise_45 rfl ⟨Nat.le_of_ble_eq_true rfl, Nat.le_of_ble_eq_true rfl⟩ (Nat.le_of_ble_eq_true rfl) ⟨Nat.le_of_ble_eq_true rfl, Nat.le_of_ble_eq_true rfl⟩) (fun y45 h45 hw => ?_)
    exact j_iret X (pc := 48) hQ er (Nat.le_of_ble_eq_true rfl) (Nat.le_of_ble_eq_true rfl) dX5_raise_48 hw
  · refine j_iconst X (pc := 28) 0 dX5_raise_28 (by decide) ?_
    refine j_goto X (pc := 29) 48 dX5_raise_29 (by decide) ?_
    exact j_iret X (pc := 48) hQ er (Nat.le_of_ble_eq_true rfl) (Nat.le_of_ble_eq_true rfl) dX5_raise_48 hw
theorem met_X5_raise (l : Launch) (hlt : l.stackTraces = false) (G : GG) (h : AH) (a0 : Option Nat) (a1 : Int32) (a2 : Int32) (P : Int32 → AH → Prop) (hw : w_X5_raise a0 a1 a2 h P) : ct_i l yX5_raise (ws_ yX5_raise cX5_raise 3 (Option.some Jvm.ClassFile.FieldType.int)) rm_X5_raise G h [vR a0, vI a1, vI a2] P := by
  refine j_starti hlt [(0, vR a0), (1, vI a1), (2, vI a2)] (plainFor_of_name (by decide)) rfl rfl (fun x X eG er en hQ => ?_)
  subst eG
  refine j_aload_n X (pc := 0) 0 dX5_raise_0 rfl rfl ?_
  refine j_iload_n X (pc := 1) 1 dX5_raise_1 rfl rfl ?_
  refine j_calli (j_runS (n8 := 1) (As := [vI a1]) (rest := [vR a0]) X (pc := 2) (met_X5_isUser (xl x) X.hl (xG x) h a1 _ hw) q1978 q1979 q78 q1980 (by decide +kernel) dX5_raise_2 rfl ⟨Nat.le_of_ble_eq_true rfl, Nat.le_of_ble_eq_true rfl⟩ (Nat.le_of_ble_eq_true rfl) ⟨Nat.le_of_ble_eq_true rfl, Nat.le_of_ble_eq_true rfl⟩) (fun y2 h2 hw => ?_)
  refine j_if_eq X (pc := 5) 17 dX5_raise_5 (by decide) hw (fun hw => ?_) (fun hw => ?_)
  · refine j_iconst X (pc := 17) 1 dX5_raise_17 (by decide) ?_
    refine j_cs (u' := 0) (v' := 0) (Nat.le_of_ble_eq_true rfl) (Nat.le_of_ble_eq_true rfl) ?_
    exact wk_X5_raise_18 X er en hQ a0 a1 a2 1 a0 h2 hw
  · refine j_aload_n X (pc := 8) 0 dX5_raise_8 rfl rfl ?_
    refine j_iload_n X (pc := 9) 1 dX5_raise_9 rfl rfl ?_
    refine j_iload_n X (pc := 10) 2 dX5_raise_10 rfl rfl ?_
    obtain ⟨b9, c9, f9, hr9, ho9, hc9, hw⟩ := hw
    obtain rfl := List.mem_singleton.mp hc9
    refine j_calli (j_runV (n8 := 2) (As := [vI a1, vI a2]) (rest := [vR a0]) X (pc := 11) hr9 (met_X5_bar (xl x) X.hl (xG x) h2 a0 a1 a2 _ hw) ho9 (by decide) rfl q2039 q2041 qs44 q78 q2042 (by decide +kernel) dX5_raise_11 rfl ⟨Nat.le_of_ble_eq_true rfl, Nat.le_of_ble_eq_true rfl⟩ (Nat.le_of_ble_eq_true rfl) ⟨Nat.le_of_ble_eq_true rfl, Nat.le_of_ble_eq_true rfl⟩) (fun y11 h11 hw => ?_)
    refine j_goto X (pc := 14) 18 dX5_raise_14 (by decide) ?_
    refine j_cs (u' := 0) (v' := 0) (Nat.le_of_ble_eq_true rfl) (Nat.le_of_ble_eq_true rfl) ?_
    exact wk_X5_raise_18 X er en hQ a0 a1 a2 y11 a0 h11 hw
abbrev cX1_lower : ByteArray := prog_1_method_23_code
def yX1_lower : MethodName := ⟨RX1, "lower", "(II)I"⟩
def dkwX1_lower_4 : List UInt8 := [172]
abbrev dktX1_lower_4 : List UInt8 := dkwX1_lower_4 ++ []
def dkwX1_lower_3 : List UInt8 := [25, 7, 182, 0, 189, 184, 1, 23, 56, 5, 167, 255, 221, 42, 45, 25, 4, 23, 5, 12, 102, 182, 1, 18]
abbrev dktX1_lower_3 : List UInt8 := dkwX1_lower_3 ++ dktX1_lower_4
def dkwX1_lower_2 : List UInt8 := [185, 0, 179, 1, 0, 153, 0, 31, 25, 6, 185, 0, 185, 1, 0, 192, 0, 124, 58, 7, 23, 5, 45]
abbrev dktX1_lower_2 : List UInt8 := dkwX1_lower_2 ++ dktX1_lower_3
def dkwX1_lower_1 : List UInt8 := [182, 0, 207, 19, 1, 22, 56, 5, 45, 182, 0, 169, 185, 0, 173, 1, 0, 58, 6, 25, 6]
abbrev dktX1_lower_1 : List UInt8 := dkwX1_lower_1 ++ dktX1_lower_2
def dkwX1_lower_0 : List UInt8 := [42, 27, 182, 0, 199, 78, 42, 45, 28, 182, 0, 241, 58, 4, 42, 45, 25, 4, 182, 0, 245, 42]
abbrev dktX1_lower_0 : List UInt8 := dkwX1_lower_0 ++ dktX1_lower_1
theorem dksX1_lower_0 : cX1_lower.data.toList.drop 0 = dktX1_lower_0 := by decide +kernel
theorem dksX1_lower_1 : cX1_lower.data.toList.drop 22 = dktX1_lower_1 := dk_seg dksX1_lower_0 22 rfl rfl
theorem dksX1_lower_2 : cX1_lower.data.toList.drop 43 = dktX1_lower_2 := dk_seg dksX1_lower_1 21 rfl rfl
theorem dksX1_lower_3 : cX1_lower.data.toList.drop 66 = dktX1_lower_3 := dk_seg dksX1_lower_2 23 rfl rfl
theorem dksX1_lower_4 : cX1_lower.data.toList.drop 90 = dktX1_lower_4 := dk_seg dksX1_lower_3 24 rfl rfl
theorem dX1_lower_0 : decode cX1_lower 0 = .ok (.aload_n 0, 1) := dk_42 (dk_at dksX1_lower_0 0 rfl rfl)
theorem dX1_lower_1 : decode cX1_lower 1 = .ok (.iload_n 1, 1) := dk_27 (dk_at dksX1_lower_0 1 rfl rfl)
theorem dX1_lower_2 : decode cX1_lower 2 = .ok (.invokevirtual 199, 3) := dk_182 0 199 (dk_at dksX1_lower_0 2 rfl rfl)
theorem dX1_lower_5 : decode cX1_lower 5 = .ok (.astore_n 3, 1) := dk_78 (dk_at dksX1_lower_0 5 rfl rfl)
theorem dX1_lower_6 : decode cX1_lower 6 = .ok (.aload_n 0, 1) := dk_42 (dk_at dksX1_lower_0 6 rfl rfl)
theorem dX1_lower_7 : decode cX1_lower 7 = .ok (.aload_n 3, 1) := dk_45 (dk_at dksX1_lower_0 7 rfl rfl)
theorem dX1_lower_8 : decode cX1_lower 8 = .ok (.iload_n 2, 1) := dk_28 (dk_at dksX1_lower_0 8 rfl rfl)
theorem dX1_lower_9 : decode cX1_lower 9 = .ok (.invokevirtual 241, 3) := dk_182 0 241 (dk_at dksX1_lower_0 9 rfl rfl)
theorem dX1_lower_12 : decode cX1_lower 12 = .ok (.astore 4, 2) := dk_58 4 (dk_at dksX1_lower_0 12 rfl rfl)
theorem dX1_lower_14 : decode cX1_lower 14 = .ok (.aload_n 0, 1) := dk_42 (dk_at dksX1_lower_0 14 rfl rfl)
theorem dX1_lower_15 : decode cX1_lower 15 = .ok (.aload_n 3, 1) := dk_45 (dk_at dksX1_lower_0 15 rfl rfl)
theorem dX1_lower_16 : decode cX1_lower 16 = .ok (.aload 4, 2) := dk_25 4 (dk_at dksX1_lower_0 16 rfl rfl)
theorem dX1_lower_18 : decode cX1_lower 18 = .ok (.invokevirtual 245, 3) := dk_182 0 245 (dk_at dksX1_lower_0 18 rfl rfl)
theorem dX1_lower_21 : decode cX1_lower 21 = .ok (.aload_n 0, 1) := dk_42 (dk_at dksX1_lower_0 21 rfl rfl)
theorem dX1_lower_22 : decode cX1_lower 22 = .ok (.invokevirtual 207, 3) := dk_182 0 207 (dk_at dksX1_lower_1 0 rfl rfl)
theorem dX1_lower_25 : decode cX1_lower 25 = .ok (.ldc_w 278, 3) := dk_19 1 22 (dk_at dksX1_lower_1 3 rfl rfl)
theorem dX1_lower_28 : decode cX1_lower 28 = .ok (.fstore 5, 2) := dk_56 5 (dk_at dksX1_lower_1 6 rfl rfl)
theorem dX1_lower_30 : decode cX1_lower 30 = .ok (.aload_n 3, 1) := dk_45 (dk_at dksX1_lower_1 8 rfl rfl)
theorem dX1_lower_31 : decode cX1_lower 31 = .ok (.invokevirtual 169, 3) := dk_182 0 169 (dk_at dksX1_lower_1 9 rfl rfl)
theorem dX1_lower_34 : decode cX1_lower 34 = .ok (.invokeinterface 173 1, 5) := by decide +kernel
theorem dX1_lower_39 : decode cX1_lower 39 = .ok (.astore 6, 2) := dk_58 6 (dk_at dksX1_lower_1 17 rfl rfl)
theorem dX1_lower_41 : decode cX1_lower 41 = .ok (.aload 6, 2) := dk_25 6 (dk_at dksX1_lower_1 19 rfl rfl)
theorem dX1_lower_43 : decode cX1_lower 43 = .ok (.invokeinterface 179 1, 5) := by decide +kernel
theorem dX1_lower_48 : decode cX1_lower 48 = .ok (.ifCond .eq 31, 3) := dk_153 0 31 (dk_at dksX1_lower_2 5 rfl rfl)
theorem dX1_lower_51 : decode cX1_lower 51 = .ok (.aload 6, 2) := dk_25 6 (dk_at dksX1_lower_2 8 rfl rfl)
theorem dX1_lower_53 : decode cX1_lower 53 = .ok (.invokeinterface 185 1, 5) := by decide +kernel
theorem dX1_lower_58 : decode cX1_lower 58 = .ok (.checkcast 124, 3) := dk_192 0 124 (dk_at dksX1_lower_2 15 rfl rfl)
theorem dX1_lower_61 : decode cX1_lower 61 = .ok (.astore 7, 2) := dk_58 7 (dk_at dksX1_lower_2 18 rfl rfl)
theorem dX1_lower_63 : decode cX1_lower 63 = .ok (.fload 5, 2) := dk_23 5 (dk_at dksX1_lower_2 20 rfl rfl)
theorem dX1_lower_65 : decode cX1_lower 65 = .ok (.aload_n 3, 1) := dk_45 (dk_at dksX1_lower_2 22 rfl rfl)
theorem dX1_lower_66 : decode cX1_lower 66 = .ok (.aload 7, 2) := dk_25 7 (dk_at dksX1_lower_3 0 rfl rfl)
theorem dX1_lower_68 : decode cX1_lower 68 = .ok (.invokevirtual 189, 3) := dk_182 0 189 (dk_at dksX1_lower_3 2 rfl rfl)
theorem dX1_lower_71 : decode cX1_lower 71 = .ok (.invokestatic 279, 3) := dk_184 1 23 (dk_at dksX1_lower_3 5 rfl rfl)
theorem dX1_lower_74 : decode cX1_lower 74 = .ok (.fstore 5, 2) := dk_56 5 (dk_at dksX1_lower_3 8 rfl rfl)
theorem dX1_lower_76 : decode cX1_lower 76 = .ok (.goto (-35), 3) := dk_167 255 221 (dk_at dksX1_lower_3 10 rfl rfl)
theorem dX1_lower_79 : decode cX1_lower 79 = .ok (.aload_n 0, 1) := dk_42 (dk_at dksX1_lower_3 13 rfl rfl)
theorem dX1_lower_80 : decode cX1_lower 80 = .ok (.aload_n 3, 1) := dk_45 (dk_at dksX1_lower_3 14 rfl rfl)
theorem dX1_lower_81 : decode cX1_lower 81 = .ok (.aload 4, 2) := dk_25 4 (dk_at dksX1_lower_3 15 rfl rfl)
theorem dX1_lower_83 : decode cX1_lower 83 = .ok (.fload 5, 2) := dk_23 5 (dk_at dksX1_lower_3 17 rfl rfl)
theorem dX1_lower_85 : decode cX1_lower 85 = .ok (.fconst 1, 1) := dk_12 (dk_at dksX1_lower_3 19 rfl rfl)
theorem dX1_lower_86 : decode cX1_lower 86 = .ok (.fsub, 1) := dk_102 (dk_at dksX1_lower_3 20 rfl rfl)
theorem dX1_lower_87 : decode cX1_lower 87 = .ok (.invokevirtual 274, 3) := dk_182 1 18 (dk_at dksX1_lower_3 21 rfl rfl)
theorem dX1_lower_90 : decode cX1_lower 90 = .ok (.ireturn, 1) := dk_172 (dk_at dksX1_lower_4 0 rfl rfl)
theorem q1211 : (Jvm.Cond.constantFloat "Plugboard" (278 : Nat) (2139095040 : UInt32)) ∈ lw_all := lw_g (lw_at lw_m5 181 rfl) rfl
theorem q1212 : (Jvm.Cond.methodLink "Plugboard" (279 : Nat) ({ cls := "java/lang/Math", name := "min", desc := "(FF)F" } : Jvm.MethodName)) ∈ lw_all := lw_g (lw_at lw_m5 182 rfl) rfl
theorem q1213 : (Jvm.Cond.static ({ cls := "java/lang/Math", name := "min", desc := "(FF)F" } : Jvm.MethodName)) ∈ lw_all := lw_g (lw_at lw_m5 183 rfl) rfl
theorem q1214 : (Jvm.Cond.code ({ cls := "java/lang/Math", name := "min", desc := "(FF)F" } : Jvm.MethodName) prog_38_method_71_code (2 : Nat) (Option.some Jvm.ClassFile.FieldType.float)) ∈ lw_all := lw_g (lw_at lw_m5 184 rfl) rfl
abbrev rm_X1_lower : Room := { frames := 12, cells := 17, slots := 221, locals := 293 }
def w_X1_lower_41 (P : Int32 → AH → Prop) (PX : String → AH → Prop) (x0 : Option Nat) (x3 : Option Nat) (x4 : Option Nat) (x5 : UInt32) (x6 : Option Nat) (h : AH) : Prop :=
  ∀ Z41 : UInt32 → AH → Prop, (∀ x5 h, (
      is_c h x6 [6] (
      w_X7_hasNext x6 h (fun y43 h43 =>
      ((y43 = 0 →
        vf_n32 (FP.fsub x5 FP.fconst1) ∧
        is_c h43 x0 [0] (
        w_X1_giveKey x0 x3 x4 (FP.fsub x5 FP.fconst1) h43 (fun y87 h87 =>
        P y87 h87))) ∧
       (¬ y43 = 0 →
        is_c h43 x6 [6] (
        w_X7_next x6 h43 (fun y53 h53 =>
        is_c h53 y53 [7, 8] (
        is_c h53 x3 [2] (
        w_X3_keyOf x3 y53 h53 (fun y68 h68 =>
        (FP.fIsNaN x5 = false ∧ FP.fIsNaN y68 = false) ∧
        Z41 (ni_pick x5 y68) h68))))))))))
      → Z41 x5 h) → Z41 x5 h
def w_X1_lower (a0 : Option Nat) (a1 : Int32) (a2 : Int32) (h : AH) (P : Int32 → AH → Prop) (PX : String → AH → Prop) : Prop :=
  is_c h a0 [0] (
  w_X1_board a0 a1 h (fun y2 h2 =>
  is_c h2 a0 [0] (
  w_X1_shape a0 y2 a2 h2 (fun y9 h9 =>
  is_c h9 a0 [0] (
  w_X1_requireUnlocked a0 y2 y9 h9 (fun h18 =>
  is_c h18 a0 [0] (
  w_X1_requireRoom a0 h18 (fun h22 =>
  is_c h22 y2 [2] (
  w_X3_seen y2 h22 (fun y31 h31 =>
  is_c h31 y31 [5] (
  w_X6_iterator y31 h31 (fun y34 h34 =>
  w_X1_lower_41 P PX a0 y2 y9 (2139095040 : UInt32) y34 h34))))) PX)) PX)) PX)) PX)
theorem wk_X1_lower_41 {x : CX} (X : Ok x cX1_lower RX1 rm_X1_lower 8) (er : xrt x = (Option.some Jvm.ClassFile.FieldType.int)) (en : xnm x = yX1_lower.name) {P : Int32 → AH → Prop} {PX : String → AH → Prop} (hQ : xr_i x P) (hT : xt_ x PX) (hex : ∀ z ∈ x.2.2.2.2.2.2.2.2.2.1.exceptionTable.toList, False) (x0 : Option Nat) (x3 : Option Nat) (x4 : Option Nat) (x5 : UInt32) (x6 : Option Nat) (h : AH) (hw : w_X1_lower_41 P PX x0 x3 x4 x5 x6 h) : J x h 7 28 41 [(0, vR x0), (3, vR x3), (4, vR x4), (5, vF x5), (6, vR x6)] [] := by
  refine hw (fun x5 h => J x h 7 28 41 [(0, vR x0), (3, vR x3), (4, vR x4), (5, vF x5), (6, vR x6)] []) (fun x5 h hw => ?_)
  refine j_aload X (pc := 41) 4 dX1_lower_41 rfl ?_
  obtain ⟨b9, c9, f9, hr9, ho9, hc9, hw⟩ := hw
  obtain rfl := List.mem_singleton.mp hc9
  refine j_call5i (j_runF (n8 := 0) (As := []) (rest := []) X (pc := 43) hr9 (met_X7_hasNext (xl x) X.hl (xG x) h x6 _ hw) ho9 (by decide) rfl q481 q485 q487 q85 q489 (fun U hU => kt_F2 hU) (by decide +kernel) dX1_lower_43 rfl ⟨Nat.le_of_ble_eq_true rfl, Nat.le_of_ble_eq_true rfl⟩ (Nat.le_of_ble_eq_true rfl) ⟨Nat.le_of_ble_eq_true rfl, Nat.le_of_ble_eq_true rfl⟩) (fun y43 h43 hw => ?_)
  refine j_if_eq X (pc := 48) 79 dX1_lower_48 (by decide) hw (fun hw => ?_) (fun hw => ?_)
  · refine j_aload_n X (pc := 79) 0 dX1_lower_79 rfl rfl ?_
    refine j_aload_n X (pc := 80) 1 dX1_lower_80 rfl rfl ?_
    refine j_aload X (pc := 81) 2 dX1_lower_81 rfl ?_
    refine j_fload X (pc := 83) 3 dX1_lower_83 rfl ?_
    refine j_fconst1 X (pc := 85) dX1_lower_85 ?_
    refine j_fsub X (pc := 86) dX1_lower_86 hw (fun hw => ?_)
    obtain ⟨b9, c9, f9, hr9, ho9, hc9, hw⟩ := hw
    obtain rfl := List.mem_singleton.mp hc9
    refine j_calli (j_runV (n8 := 3) (As := [vR x3, vR x4, vF (FP.fsub x5 FP.fconst1)]) (rest := []) X (pc := 87) hr9 (met_X1_giveKey (xl x) X.hl (xG x) h43 x0 x3 x4 (FP.fsub x5 FP.fconst1) _ hw) ho9 (by decide) rfl q1185 q1187 qs11 q71 q1188 (by decide +kernel) dX1_lower_87 rfl ⟨Nat.le_of_ble_eq_true rfl, Nat.le_of_ble_eq_true rfl⟩ (Nat.le_of_ble_eq_true rfl) ⟨Nat.le_of_ble_eq_true rfl, Nat.le_of_ble_eq_true rfl⟩) (fun y87 h87 hw => ?_)
    exact j_iret X (pc := 90) hQ er (Nat.le_of_ble_eq_true rfl) (Nat.le_of_ble_eq_true rfl) dX1_lower_90 hw
  · refine j_aload X (pc := 51) 4 dX1_lower_51 rfl ?_
    obtain ⟨b9, c9, f9, hr9, ho9, hc9, hw⟩ := hw
    obtain rfl := List.mem_singleton.mp hc9
    refine j_call5q (j_runF (n8 := 0) (As := []) (rest := []) X (pc := 53) hr9 (met_X7_next (xl x) X.hl (xG x) h43 x6 _ hw) ho9 (by decide) rfl q499 q502 q504 q85 q506 (fun U hU => kt_F3 hU) (by decide +kernel) dX1_lower_53 rfl ⟨Nat.le_of_ble_eq_true rfl, Nat.le_of_ble_eq_true rfl⟩ (Nat.le_of_ble_eq_true rfl) ⟨Nat.le_of_ble_eq_true rfl, Nat.le_of_ble_eq_true rfl⟩) (fun y53 h53 hw => ?_)
    refine j_chk X (pc := 58) (L := [7, 8]) q550 (by intro ci hci; simp only [List.mem_cons, List.not_mem_nil, or_false] at hci; rcases hci with rfl | rfl <;> first | exact ⟨by decide, _, _, _, rfl, Or.inr q2343⟩ | exact ⟨by decide, _, _, _, rfl, Or.inr q2344⟩) dX1_lower_58 hw (fun hw => ?_)
    refine j_astore X (pc := 61) [(7, vR y53), (0, vR x0), (3, vR x3), (4, vR x4), (5, vF x5), (6, vR x6)] dX1_lower_61 (Nat.le_of_ble_eq_true rfl) rfl ?_
    refine j_fload X (pc := 63) 4 dX1_lower_63 rfl ?_
    refine j_aload_n X (pc := 65) 2 dX1_lower_65 rfl rfl ?_
    refine j_aload X (pc := 66) 0 dX1_lower_66 rfl ?_
    obtain ⟨b9, c9, f9, hr9, ho9, hc9, hw⟩ := hw
    obtain rfl := List.mem_singleton.mp hc9
    refine j_callf (j_runV (n8 := 1) (As := [vR y53]) (rest := [vF x5]) X (pc := 68) hr9 (met_X3_keyOf (xl x) X.hl (xG x) h53 x3 y53 _ hw) ho9 (by decide) rfl q551 q552 q553 q76 q554 (by decide +kernel) dX1_lower_68 rfl ⟨Nat.le_of_ble_eq_true rfl, Nat.le_of_ble_eq_true rfl⟩ (Nat.le_of_ble_eq_true rfl) ⟨Nat.le_of_ble_eq_true rfl, Nat.le_of_ble_eq_true rfl⟩) (fun y68 h68 hw => ?_)
    refine j_mminF X (pc := 71) q1212 q1213 q92 q1214 ⟨Nat.le_of_ble_eq_true rfl, Nat.le_of_ble_eq_true rfl⟩ dX1_lower_71 hw (fun hw => ?_)
    refine j_fstore X (pc := 74) [(5, vF (ni_pick x5 y68)), (7, vR y53), (0, vR x0), (3, vR x3), (4, vR x4), (6, vR x6)] dX1_lower_74 (Nat.le_of_ble_eq_true rfl) rfl ?_
    refine j_goto X (pc := 76) 41 dX1_lower_76 (by decide) ?_
    refine j_lv [(0, vR x0), (3, vR x3), (4, vR x4), (5, vF (ni_pick x5 y68)), (6, vR x6)] [2, 3, 4, 0, 5] rfl ?_
    refine j_cs (u' := 7) (v' := 28) (Nat.le_of_ble_eq_true rfl) (Nat.le_of_ble_eq_true rfl) ?_
    exact hw
theorem met_X1_lower (l : Launch) (hlt : l.stackTraces = false) (G : GG) (h : AH) (a0 : Option Nat) (a1 : Int32) (a2 : Int32) (P : Int32 → AH → Prop) (PX : String → AH → Prop) (hw : w_X1_lower a0 a1 a2 h P PX) : cx_i l yX1_lower (ws_ yX1_lower cX1_lower 8 (Option.some Jvm.ClassFile.FieldType.int)) rm_X1_lower G h [vR a0, vI a1, vI a2] P PX := by
  refine j_startXi hlt [(0, vR a0), (1, vI a1), (2, vI a2)] (by decide) rfl rfl (fun x X eG er en hQ hT hex => ?_)
  subst eG
  refine j_aload_n X (pc := 0) 0 dX1_lower_0 rfl rfl ?_
  refine j_iload_n X (pc := 1) 1 dX1_lower_1 rfl rfl ?_
  obtain ⟨b9, c9, f9, hr9, ho9, hc9, hw⟩ := hw
  obtain rfl := List.mem_singleton.mp hc9
  refine j_callXq (j_runVX (n8 := 1) (As := [vI a1]) (rest := []) X (pc := 2) hr9 (met_X1_board (xl x) X.hl (xG x) h a0 a1 _ _ hw) ho9 (by decide) rfl q297 q299 qs0 q71 q300 (by decide +kernel) dX1_lower_2 rfl ⟨Nat.le_of_ble_eq_true rfl, Nat.le_of_ble_eq_true rfl⟩ (Nat.le_of_ble_eq_true rfl) ⟨Nat.le_of_ble_eq_true rfl, Nat.le_of_ble_eq_true rfl⟩) (fun E h9 hx => j_out X hT hex (Nat.le_of_ble_eq_true rfl) (Nat.le_of_ble_eq_true rfl) hx) (fun y2 h2 hw => ?_)
  refine j_astore_n X (pc := 5) [(3, vR y2), (0, vR a0), (1, vI a1), (2, vI a2)] dX1_lower_5 rfl (Nat.le_of_ble_eq_true rfl) rfl ?_
  refine j_aload_n X (pc := 6) 1 dX1_lower_6 rfl rfl ?_
  refine j_aload_n X (pc := 7) 0 dX1_lower_7 rfl rfl ?_
  refine j_iload_n X (pc := 8) 3 dX1_lower_8 rfl rfl ?_
  obtain ⟨b9, c9, f9, hr9, ho9, hc9, hw⟩ := hw
  obtain rfl := List.mem_singleton.mp hc9
  refine j_callXq (j_runVX (n8 := 2) (As := [vR y2, vI a2]) (rest := []) X (pc := 9) hr9 (met_X1_shape (xl x) X.hl (xG x) h2 a0 y2 a2 _ _ hw) ho9 (by decide) rfl q1075 q1077 qs9 q71 q1078 (by decide +kernel) dX1_lower_9 rfl ⟨Nat.le_of_ble_eq_true rfl, Nat.le_of_ble_eq_true rfl⟩ (Nat.le_of_ble_eq_true rfl) ⟨Nat.le_of_ble_eq_true rfl, Nat.le_of_ble_eq_true rfl⟩) (fun E h9 hx => j_out X hT hex (Nat.le_of_ble_eq_true rfl) (Nat.le_of_ble_eq_true rfl) hx) (fun y9 h9 hw => ?_)
  refine j_astore X (pc := 12) [(4, vR y9), (3, vR y2), (0, vR a0), (1, vI a1), (2, vI a2)] dX1_lower_12 (Nat.le_of_ble_eq_true rfl) rfl ?_
  refine j_aload_n X (pc := 14) 2 dX1_lower_14 rfl rfl ?_
  refine j_aload_n X (pc := 15) 1 dX1_lower_15 rfl rfl ?_
  refine j_aload X (pc := 16) 0 dX1_lower_16 rfl ?_
  obtain ⟨b9, c9, f9, hr9, ho9, hc9, hw⟩ := hw
  obtain rfl := List.mem_singleton.mp hc9
  refine j_callXv (j_runVX (n8 := 2) (As := [vR y2, vR y9]) (rest := []) X (pc := 18) hr9 (met_X1_requireUnlocked (xl x) X.hl (xG x) h9 a0 y2 y9 _ _ hw) ho9 (by decide) rfl q1085 q1087 qs10 q71 q1088 (by decide +kernel) dX1_lower_18 rfl ⟨Nat.le_of_ble_eq_true rfl, Nat.le_of_ble_eq_true rfl⟩ (Nat.le_of_ble_eq_true rfl) ⟨Nat.le_of_ble_eq_true rfl, Nat.le_of_ble_eq_true rfl⟩) (fun E h9 hx => j_out X hT hex (Nat.le_of_ble_eq_true rfl) (Nat.le_of_ble_eq_true rfl) hx) (fun h18 hw => ?_)
  refine j_aload_n X (pc := 21) 2 dX1_lower_21 rfl rfl ?_
  obtain ⟨b9, c9, f9, hr9, ho9, hc9, hw⟩ := hw
  obtain rfl := List.mem_singleton.mp hc9
  refine j_callXv (j_runVX (n8 := 0) (As := []) (rest := []) X (pc := 22) hr9 (met_X1_requireRoom (xl x) X.hl (xG x) h18 a0 _ _ hw) ho9 (by decide) rfl q400 q402 qs2 q71 q403 (by decide +kernel) dX1_lower_22 rfl ⟨Nat.le_of_ble_eq_true rfl, Nat.le_of_ble_eq_true rfl⟩ (Nat.le_of_ble_eq_true rfl) ⟨Nat.le_of_ble_eq_true rfl, Nat.le_of_ble_eq_true rfl⟩) (fun E h9 hx => j_out X hT hex (Nat.le_of_ble_eq_true rfl) (Nat.le_of_ble_eq_true rfl) hx) (fun h22 hw => ?_)
  refine j_ldcwf X (pc := 25) dX1_lower_25 q1211 ?_
  refine j_fstore X (pc := 28) [(5, vF (2139095040 : UInt32)), (4, vR y9), (3, vR y2), (0, vR a0), (1, vI a1), (2, vI a2)] dX1_lower_28 (Nat.le_of_ble_eq_true rfl) rfl ?_
  refine j_aload_n X (pc := 30) 2 dX1_lower_30 rfl rfl ?_
  obtain ⟨b9, c9, f9, hr9, ho9, hc9, hw⟩ := hw
  obtain rfl := List.mem_singleton.mp hc9
  refine j_callq (j_runV (n8 := 0) (As := []) (rest := []) X (pc := 31) hr9 (met_X3_seen (xl x) X.hl (xG x) h22 y2 _ hw) ho9 (by decide) rfl q418 q419 q420 q76 q421 (by decide +kernel) dX1_lower_31 rfl ⟨Nat.le_of_ble_eq_true rfl, Nat.le_of_ble_eq_true rfl⟩ (Nat.le_of_ble_eq_true rfl) ⟨Nat.le_of_ble_eq_true rfl, Nat.le_of_ble_eq_true rfl⟩) (fun y31 h31 hw => ?_)
  obtain ⟨b9, c9, f9, hr9, ho9, hc9, hw⟩ := hw
  obtain rfl := List.mem_singleton.mp hc9
  refine j_call5q (j_runF (n8 := 0) (As := []) (rest := []) X (pc := 34) hr9 (met_X6_iterator (xl x) X.hl (xG x) h31 y31 _ hw) ho9 (by decide) rfl q433 q437 q439 q84 q441 (fun U hU => kt_F1 hU) (by decide +kernel) dX1_lower_34 rfl ⟨Nat.le_of_ble_eq_true rfl, Nat.le_of_ble_eq_true rfl⟩ (Nat.le_of_ble_eq_true rfl) ⟨Nat.le_of_ble_eq_true rfl, Nat.le_of_ble_eq_true rfl⟩) (fun y34 h34 hw => ?_)
  refine j_astore X (pc := 39) [(6, vR y34), (5, vF (2139095040 : UInt32)), (4, vR y9), (3, vR y2), (0, vR a0), (1, vI a1), (2, vI a2)] dX1_lower_39 (Nat.le_of_ble_eq_true rfl) rfl ?_
  refine j_lv [(0, vR a0), (3, vR y2), (4, vR y9), (5, vF (2139095040 : UInt32)), (6, vR y34)] [4, 3, 2, 1, 0] rfl ?_
  refine j_cs (u' := 7) (v' := 28) (Nat.le_of_ble_eq_true rfl) (Nat.le_of_ble_eq_true rfl) ?_
  exact wk_X1_lower_41 X er en hQ hT hex a0 y2 y9 (2139095040 : UInt32) y34 h34 hw
