/-! walks (printed): Plugboard, PlugboardLaw, PlugboardModel -/
set_option maxRecDepth 100000
abbrev cX1_addShape : ByteArray := prog_1_method_18_code
def yX1_addShape : MethodName := ⟨RX1, "addShape", "(IIIIIZ)I"⟩
def dkwX1_addShape_8 : List UInt8 := [23, 9, 184, 0, 225, 79, 1, 182, 0, 164, 21, 8, 172]
abbrev dktX1_addShape_8 : List UInt8 := dkwX1_addShape_8 ++ []
def dkwX1_addShape_7 : List UInt8 := [16, 24, 21, 8, 96, 79, 6, 188, 10, 89, 3, 4, 79, 89, 4, 16, 24, 29, 104, 28, 96, 79, 89, 5]
abbrev dktX1_addShape_7 : List UInt8 := dkwX1_addShape_7 ++ dktX1_addShape_8
def dkwX1_addShape_6 : List UInt8 := [87, 42, 25, 7, 6, 188, 10, 89, 3, 3, 21, 8, 96, 79, 89, 4, 16, 12, 21, 8, 96, 79, 89, 5]
abbrev dktX1_addShape_6 : List UInt8 := dkwX1_addShape_6 ++ dktX1_addShape_7
def dkwX1_addShape_5 : List UInt8 := [21, 5, 183, 0, 219, 167, 0, 16, 187, 0, 222, 89, 21, 8, 21, 4, 21, 5, 183, 0, 224, 182, 0, 157]
abbrev dktX1_addShape_5 : List UInt8 := dkwX1_addShape_5 ++ dktX1_addShape_6
def dkwX1_addShape_4 : List UInt8 := [184, 0, 213, 12, 98, 56, 9, 42, 180, 0, 55, 21, 6, 153, 0, 19, 187, 0, 217, 89, 21, 8, 21, 4]
abbrev dktX1_addShape_4 : List UInt8 := dkwX1_addShape_4 ++ dktX1_addShape_5
def dkwX1_addShape_3 : List UInt8 := [42, 180, 0, 55, 182, 0, 126, 54, 8, 25, 7, 182, 0, 210, 154, 0, 7, 11, 167, 0, 10, 25, 7]
abbrev dktX1_addShape_3 : List UInt8 := dkwX1_addShape_3 ++ dktX1_addShape_4
def dkwX1_addShape_2 : List UInt8 := [42, 180, 0, 55, 182, 0, 126, 16, 12, 162, 0, 7, 4, 167, 0, 4, 3, 184, 0, 127, 42, 182, 0, 207]
abbrev dktX1_addShape_2 : List UInt8 := dkwX1_addShape_2 ++ dktX1_addShape_3
def dkwX1_addShape_1 : List UInt8 := [21, 5, 4, 16, 8, 184, 0, 21, 84, 89, 5, 28, 29, 21, 4, 21, 5, 184, 0, 203, 84, 184, 0, 25]
abbrev dktX1_addShape_1 : List UInt8 := dkwX1_addShape_1 ++ dktX1_addShape_2
def dkwX1_addShape_0 : List UInt8 := [42, 27, 182, 0, 199, 58, 7, 6, 188, 4, 89, 3, 21, 4, 4, 16, 8, 184, 0, 21, 84, 89, 4]
abbrev dktX1_addShape_0 : List UInt8 := dkwX1_addShape_0 ++ dktX1_addShape_1
theorem dksX1_addShape_0 : cX1_addShape.data.toList.drop 0 = dktX1_addShape_0 := by decide +kernel
theorem dksX1_addShape_1 : cX1_addShape.data.toList.drop 23 = dktX1_addShape_1 := dk_seg dksX1_addShape_0 23 rfl rfl
theorem dksX1_addShape_2 : cX1_addShape.data.toList.drop 47 = dktX1_addShape_2 := dk_seg dksX1_addShape_1 24 rfl rfl
theorem dksX1_addShape_3 : cX1_addShape.data.toList.drop 71 = dktX1_addShape_3 := dk_seg dksX1_addShape_2 24 rfl rfl
theorem dksX1_addShape_4 : cX1_addShape.data.toList.drop 94 = dktX1_addShape_4 := dk_seg dksX1_addShape_3 23 rfl rfl
theorem dksX1_addShape_5 : cX1_addShape.data.toList.drop 118 = dktX1_addShape_5 := dk_seg dksX1_addShape_4 24 rfl rfl
theorem dksX1_addShape_6 : cX1_addShape.data.toList.drop 142 = dktX1_addShape_6 := dk_seg dksX1_addShape_5 24 rfl rfl
theorem dksX1_addShape_7 : cX1_addShape.data.toList.drop 166 = dktX1_addShape_7 := dk_seg dksX1_addShape_6 24 rfl rfl
theorem dksX1_addShape_8 : cX1_addShape.data.toList.drop 190 = dktX1_addShape_8 := dk_seg dksX1_addShape_7 24 rfl rfl
theorem dX1_addShape_0 : decode cX1_addShape 0 = .ok (.aload_n 0, 1) := dk_42 (dk_at dksX1_addShape_0 0 rfl rfl)
theorem dX1_addShape_1 : decode cX1_addShape 1 = .ok (.iload_n 1, 1) := dk_27 (dk_at dksX1_addShape_0 1 rfl rfl)
theorem dX1_addShape_2 : decode cX1_addShape 2 = .ok (.invokevirtual 199, 3) := dk_182 0 199 (dk_at dksX1_addShape_0 2 rfl rfl)
theorem dX1_addShape_5 : decode cX1_addShape 5 = .ok (.astore 7, 2) := dk_58 7 (dk_at dksX1_addShape_0 5 rfl rfl)
theorem dX1_addShape_7 : decode cX1_addShape 7 = .ok (.iconst 3, 1) := dk_6 (dk_at dksX1_addShape_0 7 rfl rfl)
theorem dX1_addShape_8 : decode cX1_addShape 8 = .ok (.newarray .boolean, 2) := dk_188_4 (dk_at dksX1_addShape_0 8 rfl rfl)
theorem dX1_addShape_10 : decode cX1_addShape 10 = .ok (.dup, 1) := dk_89 (dk_at dksX1_addShape_0 10 rfl rfl)
theorem dX1_addShape_11 : decode cX1_addShape 11 = .ok (.iconst 0, 1) := dk_3 (dk_at dksX1_addShape_0 11 rfl rfl)
theorem dX1_addShape_12 : decode cX1_addShape 12 = .ok (.iload 4, 2) := dk_21 4 (dk_at dksX1_addShape_0 12 rfl rfl)
theorem dX1_addShape_14 : decode cX1_addShape 14 = .ok (.iconst 1, 1) := dk_4 (dk_at dksX1_addShape_0 14 rfl rfl)
theorem dX1_addShape_15 : decode cX1_addShape 15 = .ok (.bipush 8, 2) := dk_16 8 (dk_at dksX1_addShape_0 15 rfl rfl)
theorem dX1_addShape_17 : decode cX1_addShape 17 = .ok (.invokestatic 21, 3) := dk_184 0 21 (dk_at dksX1_addShape_0 17 rfl rfl)
theorem dX1_addShape_20 : decode cX1_addShape 20 = .ok (.bastore, 1) := dk_84 (dk_at dksX1_addShape_0 20 rfl rfl)
theorem dX1_addShape_21 : decode cX1_addShape 21 = .ok (.dup, 1) := dk_89 (dk_at dksX1_addShape_0 21 rfl rfl)
theorem dX1_addShape_22 : decode cX1_addShape 22 = .ok (.iconst 1, 1) := dk_4 (dk_at dksX1_addShape_0 22 rfl rfl)
theorem dX1_addShape_23 : decode cX1_addShape 23 = .ok (.iload 5, 2) := dk_21 5 (dk_at dksX1_addShape_1 0 rfl rfl)
theorem dX1_addShape_25 : decode cX1_addShape 25 = .ok (.iconst 1, 1) := dk_4 (dk_at dksX1_addShape_1 2 rfl rfl)
theorem dX1_addShape_26 : decode cX1_addShape 26 = .ok (.bipush 8, 2) := dk_16 8 (dk_at dksX1_addShape_1 3 rfl rfl)
theorem dX1_addShape_28 : decode cX1_addShape 28 = .ok (.invokestatic 21, 3) := dk_184 0 21 (dk_at dksX1_addShape_1 5 rfl rfl)
theorem dX1_addShape_31 : decode cX1_addShape 31 = .ok (.bastore, 1) := dk_84 (dk_at dksX1_addShape_1 8 rfl rfl)
theorem dX1_addShape_32 : decode cX1_addShape 32 = .ok (.dup, 1) := dk_89 (dk_at dksX1_addShape_1 9 rfl rfl)
theorem dX1_addShape_33 : decode cX1_addShape 33 = .ok (.iconst 2, 1) := dk_5 (dk_at dksX1_addShape_1 10 rfl rfl)
theorem dX1_addShape_34 : decode cX1_addShape 34 = .ok (.iload_n 2, 1) := dk_28 (dk_at dksX1_addShape_1 11 rfl rfl)
theorem dX1_addShape_35 : decode cX1_addShape 35 = .ok (.iload_n 3, 1) := dk_29 (dk_at dksX1_addShape_1 12 rfl rfl)
theorem dX1_addShape_36 : decode cX1_addShape 36 = .ok (.iload 4, 2) := dk_21 4 (dk_at dksX1_addShape_1 13 rfl rfl)
theorem dX1_addShape_38 : decode cX1_addShape 38 = .ok (.iload 5, 2) := dk_21 5 (dk_at dksX1_addShape_1 15 rfl rfl)
theorem dX1_addShape_40 : decode cX1_addShape 40 = .ok (.invokestatic 203, 3) := dk_184 0 203 (dk_at dksX1_addShape_1 17 rfl rfl)
theorem dX1_addShape_43 : decode cX1_addShape 43 = .ok (.bastore, 1) := dk_84 (dk_at dksX1_addShape_1 20 rfl rfl)
theorem dX1_addShape_44 : decode cX1_addShape 44 = .ok (.invokestatic 25, 3) := dk_184 0 25 (dk_at dksX1_addShape_1 21 rfl rfl)
theorem dX1_addShape_47 : decode cX1_addShape 47 = .ok (.aload_n 0, 1) := dk_42 (dk_at dksX1_addShape_2 0 rfl rfl)
theorem dX1_addShape_48 : decode cX1_addShape 48 = .ok (.getfield 55, 3) := dk_180 0 55 (dk_at dksX1_addShape_2 1 rfl rfl)
theorem dX1_addShape_51 : decode cX1_addShape 51 = .ok (.invokevirtual 126, 3) := dk_182 0 126 (dk_at dksX1_addShape_2 4 rfl rfl)
theorem dX1_addShape_54 : decode cX1_addShape 54 = .ok (.bipush 12, 2) := dk_16 12 (dk_at dksX1_addShape_2 7 rfl rfl)
theorem dX1_addShape_56 : decode cX1_addShape 56 = .ok (.if_icmp .ge 7, 3) := dk_162 0 7 (dk_at dksX1_addShape_2 9 rfl rfl)
theorem dX1_addShape_59 : decode cX1_addShape 59 = .ok (.iconst 1, 1) := dk_4 (dk_at dksX1_addShape_2 12 rfl rfl)
theorem dX1_addShape_60 : decode cX1_addShape 60 = .ok (.goto 4, 3) := dk_167 0 4 (dk_at dksX1_addShape_2 13 rfl rfl)
theorem dX1_addShape_63 : decode cX1_addShape 63 = .ok (.iconst 0, 1) := dk_3 (dk_at dksX1_addShape_2 16 rfl rfl)
theorem dX1_addShape_64 : decode cX1_addShape 64 = .ok (.invokestatic 127, 3) := dk_184 0 127 (dk_at dksX1_addShape_2 17 rfl rfl)
theorem dX1_addShape_67 : decode cX1_addShape 67 = .ok (.aload_n 0, 1) := dk_42 (dk_at dksX1_addShape_2 20 rfl rfl)
theorem dX1_addShape_68 : decode cX1_addShape 68 = .ok (.invokevirtual 207, 3) := dk_182 0 207 (dk_at dksX1_addShape_2 21 rfl rfl)
theorem dX1_addShape_71 : decode cX1_addShape 71 = .ok (.aload_n 0, 1) := dk_42 (dk_at dksX1_addShape_3 0 rfl rfl)
theorem dX1_addShape_72 : decode cX1_addShape 72 = .ok (.getfield 55, 3) := dk_180 0 55 (dk_at dksX1_addShape_3 1 rfl rfl)
theorem dX1_addShape_75 : decode cX1_addShape 75 = .ok (.invokevirtual 126, 3) := dk_182 0 126 (dk_at dksX1_addShape_3 4 rfl rfl)
theorem dX1_addShape_78 : decode cX1_addShape 78 = .ok (.istore 8, 2) := dk_54 8 (dk_at dksX1_addShape_3 7 rfl rfl)
theorem dX1_addShape_80 : decode cX1_addShape 80 = .ok (.aload 7, 2) := dk_25 7 (dk_at dksX1_addShape_3 9 rfl rfl)
theorem dX1_addShape_82 : decode cX1_addShape 82 = .ok (.invokevirtual 210, 3) := dk_182 0 210 (dk_at dksX1_addShape_3 11 rfl rfl)
theorem dX1_addShape_85 : decode cX1_addShape 85 = .ok (.ifCond .ne 7, 3) := dk_154 0 7 (dk_at dksX1_addShape_3 14 rfl rfl)
theorem dX1_addShape_88 : decode cX1_addShape 88 = .ok (.fconst 0, 1) := dk_11 (dk_at dksX1_addShape_3 17 rfl rfl)
theorem dX1_addShape_89 : decode cX1_addShape 89 = .ok (.goto 10, 3) := dk_167 0 10 (dk_at dksX1_addShape_3 18 rfl rfl)
theorem dX1_addShape_92 : decode cX1_addShape 92 = .ok (.aload 7, 2) := dk_25 7 (dk_at dksX1_addShape_3 21 rfl rfl)
theorem dX1_addShape_94 : decode cX1_addShape 94 = .ok (.invokestatic 213, 3) := dk_184 0 213 (dk_at dksX1_addShape_4 0 rfl rfl)
theorem dX1_addShape_97 : decode cX1_addShape 97 = .ok (.fconst 1, 1) := dk_12 (dk_at dksX1_addShape_4 3 rfl rfl)
theorem dX1_addShape_98 : decode cX1_addShape 98 = .ok (.fadd, 1) := dk_98 (dk_at dksX1_addShape_4 4 rfl rfl)
theorem dX1_addShape_99 : decode cX1_addShape 99 = .ok (.fstore 9, 2) := dk_56 9 (dk_at dksX1_addShape_4 5 rfl rfl)
theorem dX1_addShape_101 : decode cX1_addShape 101 = .ok (.aload_n 0, 1) := dk_42 (dk_at dksX1_addShape_4 7 rfl rfl)
theorem dX1_addShape_102 : decode cX1_addShape 102 = .ok (.getfield 55, 3) := dk_180 0 55 (dk_at dksX1_addShape_4 8 rfl rfl)
theorem dX1_addShape_105 : decode cX1_addShape 105 = .ok (.iload 6, 2) := dk_21 6 (dk_at dksX1_addShape_4 11 rfl rfl)
theorem dX1_addShape_107 : decode cX1_addShape 107 = .ok (.ifCond .eq 19, 3) := dk_153 0 19 (dk_at dksX1_addShape_4 13 rfl rfl)
theorem dX1_addShape_110 : decode cX1_addShape 110 = .ok (.new 217, 3) := dk_187 0 217 (dk_at dksX1_addShape_4 16 rfl rfl)
theorem dX1_addShape_113 : decode cX1_addShape 113 = .ok (.dup, 1) := dk_89 (dk_at dksX1_addShape_4 19 rfl rfl)
theorem dX1_addShape_114 : decode cX1_addShape 114 = .ok (.iload 8, 2) := dk_21 8 (dk_at dksX1_addShape_4 20 rfl rfl)
theorem dX1_addShape_116 : decode cX1_addShape 116 = .ok (.iload 4, 2) := dk_21 4 (dk_at dksX1_addShape_4 22 rfl rfl)
theorem dX1_addShape_118 : decode cX1_addShape 118 = .ok (.iload 5, 2) := dk_21 5 (dk_at dksX1_addShape_5 0 rfl rfl)
theorem dX1_addShape_120 : decode cX1_addShape 120 = .ok (.invokespecial 219, 3) := dk_183 0 219 (dk_at dksX1_addShape_5 2 rfl rfl)
theorem dX1_addShape_123 : decode cX1_addShape 123 = .ok (.goto 16, 3) := dk_167 0 16 (dk_at dksX1_addShape_5 5 rfl rfl)
theorem dX1_addShape_126 : decode cX1_addShape 126 = .ok (.new 222, 3) := dk_187 0 222 (dk_at dksX1_addShape_5 8 rfl rfl)
theorem dX1_addShape_129 : decode cX1_addShape 129 = .ok (.dup, 1) := dk_89 (dk_at dksX1_addShape_5 11 rfl rfl)
theorem dX1_addShape_130 : decode cX1_addShape 130 = .ok (.iload 8, 2) := dk_21 8 (dk_at dksX1_addShape_5 12 rfl rfl)
theorem dX1_addShape_132 : decode cX1_addShape 132 = .ok (.iload 4, 2) := dk_21 4 (dk_at dksX1_addShape_5 14 rfl rfl)
theorem dX1_addShape_134 : decode cX1_addShape 134 = .ok (.iload 5, 2) := dk_21 5 (dk_at dksX1_addShape_5 16 rfl rfl)
theorem dX1_addShape_136 : decode cX1_addShape 136 = .ok (.invokespecial 224, 3) := dk_183 0 224 (dk_at dksX1_addShape_5 18 rfl rfl)
theorem dX1_addShape_139 : decode cX1_addShape 139 = .ok (.invokevirtual 157, 3) := dk_182 0 157 (dk_at dksX1_addShape_5 21 rfl rfl)
theorem dX1_addShape_142 : decode cX1_addShape 142 = .ok (.pop, 1) := dk_87 (dk_at dksX1_addShape_6 0 rfl rfl)
theorem dX1_addShape_143 : decode cX1_addShape 143 = .ok (.aload_n 0, 1) := dk_42 (dk_at dksX1_addShape_6 1 rfl rfl)
theorem dX1_addShape_144 : decode cX1_addShape 144 = .ok (.aload 7, 2) := dk_25 7 (dk_at dksX1_addShape_6 2 rfl rfl)
theorem dX1_addShape_146 : decode cX1_addShape 146 = .ok (.iconst 3, 1) := dk_6 (dk_at dksX1_addShape_6 4 rfl rfl)
theorem dX1_addShape_147 : decode cX1_addShape 147 = .ok (.newarray .int, 2) := dk_188_10 (dk_at dksX1_addShape_6 5 rfl rfl)
theorem dX1_addShape_149 : decode cX1_addShape 149 = .ok (.dup, 1) := dk_89 (dk_at dksX1_addShape_6 7 rfl rfl)
theorem dX1_addShape_150 : decode cX1_addShape 150 = .ok (.iconst 0, 1) := dk_3 (dk_at dksX1_addShape_6 8 rfl rfl)
theorem dX1_addShape_151 : decode cX1_addShape 151 = .ok (.iconst 0, 1) := dk_3 (dk_at dksX1_addShape_6 9 rfl rfl)
theorem dX1_addShape_152 : decode cX1_addShape 152 = .ok (.iload 8, 2) := dk_21 8 (dk_at dksX1_addShape_6 10 rfl rfl)
theorem dX1_addShape_154 : decode cX1_addShape 154 = .ok (.iadd, 1) := dk_96 (dk_at dksX1_addShape_6 12 rfl rfl)
theorem dX1_addShape_155 : decode cX1_addShape 155 = .ok (.iastore, 1) := dk_79 (dk_at dksX1_addShape_6 13 rfl rfl)
theorem dX1_addShape_156 : decode cX1_addShape 156 = .ok (.dup, 1) := dk_89 (dk_at dksX1_addShape_6 14 rfl rfl)
theorem dX1_addShape_157 : decode cX1_addShape 157 = .ok (.iconst 1, 1) := dk_4 (dk_at dksX1_addShape_6 15 rfl rfl)
theorem dX1_addShape_158 : decode cX1_addShape 158 = .ok (.bipush 12, 2) := dk_16 12 (dk_at dksX1_addShape_6 16 rfl rfl)
theorem dX1_addShape_160 : decode cX1_addShape 160 = .ok (.iload 8, 2) := dk_21 8 (dk_at dksX1_addShape_6 18 rfl rfl)
theorem dX1_addShape_162 : decode cX1_addShape 162 = .ok (.iadd, 1) := dk_96 (dk_at dksX1_addShape_6 20 rfl rfl)
theorem dX1_addShape_163 : decode cX1_addShape 163 = .ok (.iastore, 1) := dk_79 (dk_at dksX1_addShape_6 21 rfl rfl)
theorem dX1_addShape_164 : decode cX1_addShape 164 = .ok (.dup, 1) := dk_89 (dk_at dksX1_addShape_6 22 rfl rfl)
theorem dX1_addShape_165 : decode cX1_addShape 165 = .ok (.iconst 2, 1) := dk_5 (dk_at dksX1_addShape_6 23 rfl rfl)
theorem dX1_addShape_166 : decode cX1_addShape 166 = .ok (.bipush 24, 2) := dk_16 24 (dk_at dksX1_addShape_7 0 rfl rfl)
theorem dX1_addShape_168 : decode cX1_addShape 168 = .ok (.iload 8, 2) := dk_21 8 (dk_at dksX1_addShape_7 2 rfl rfl)
theorem dX1_addShape_170 : decode cX1_addShape 170 = .ok (.iadd, 1) := dk_96 (dk_at dksX1_addShape_7 4 rfl rfl)
theorem dX1_addShape_171 : decode cX1_addShape 171 = .ok (.iastore, 1) := dk_79 (dk_at dksX1_addShape_7 5 rfl rfl)
theorem dX1_addShape_172 : decode cX1_addShape 172 = .ok (.iconst 3, 1) := dk_6 (dk_at dksX1_addShape_7 6 rfl rfl)
theorem dX1_addShape_173 : decode cX1_addShape 173 = .ok (.newarray .int, 2) := dk_188_10 (dk_at dksX1_addShape_7 7 rfl rfl)
theorem dX1_addShape_175 : decode cX1_addShape 175 = .ok (.dup, 1) := dk_89 (dk_at dksX1_addShape_7 9 rfl rfl)
theorem dX1_addShape_176 : decode cX1_addShape 176 = .ok (.iconst 0, 1) := dk_3 (dk_at dksX1_addShape_7 10 rfl rfl)
theorem dX1_addShape_177 : decode cX1_addShape 177 = .ok (.iconst 1, 1) := dk_4 (dk_at dksX1_addShape_7 11 rfl rfl)
theorem dX1_addShape_178 : decode cX1_addShape 178 = .ok (.iastore, 1) := dk_79 (dk_at dksX1_addShape_7 12 rfl rfl)
theorem dX1_addShape_179 : decode cX1_addShape 179 = .ok (.dup, 1) := dk_89 (dk_at dksX1_addShape_7 13 rfl rfl)
theorem dX1_addShape_180 : decode cX1_addShape 180 = .ok (.iconst 1, 1) := dk_4 (dk_at dksX1_addShape_7 14 rfl rfl)
theorem dX1_addShape_181 : decode cX1_addShape 181 = .ok (.bipush 24, 2) := dk_16 24 (dk_at dksX1_addShape_7 15 rfl rfl)
theorem dX1_addShape_183 : decode cX1_addShape 183 = .ok (.iload_n 3, 1) := dk_29 (dk_at dksX1_addShape_7 17 rfl rfl)
theorem dX1_addShape_184 : decode cX1_addShape 184 = .ok (.imul, 1) := dk_104 (dk_at dksX1_addShape_7 18 rfl rfl)
theorem dX1_addShape_185 : decode cX1_addShape 185 = .ok (.iload_n 2, 1) := dk_28 (dk_at dksX1_addShape_7 19 rfl rfl)
theorem dX1_addShape_186 : decode cX1_addShape 186 = .ok (.iadd, 1) := dk_96 (dk_at dksX1_addShape_7 20 rfl rfl)
theorem dX1_addShape_187 : decode cX1_addShape 187 = .ok (.iastore, 1) := dk_79 (dk_at dksX1_addShape_7 21 rfl rfl)
theorem dX1_addShape_188 : decode cX1_addShape 188 = .ok (.dup, 1) := dk_89 (dk_at dksX1_addShape_7 22 rfl rfl)
theorem dX1_addShape_189 : decode cX1_addShape 189 = .ok (.iconst 2, 1) := dk_5 (dk_at dksX1_addShape_7 23 rfl rfl)
theorem dX1_addShape_190 : decode cX1_addShape 190 = .ok (.fload 9, 2) := dk_23 9 (dk_at dksX1_addShape_8 0 rfl rfl)
theorem dX1_addShape_192 : decode cX1_addShape 192 = .ok (.invokestatic 225, 3) := dk_184 0 225 (dk_at dksX1_addShape_8 2 rfl rfl)
theorem dX1_addShape_195 : decode cX1_addShape 195 = .ok (.iastore, 1) := dk_79 (dk_at dksX1_addShape_8 5 rfl rfl)
theorem dX1_addShape_196 : decode cX1_addShape 196 = .ok (.aconst_null, 1) := dk_1 (dk_at dksX1_addShape_8 6 rfl rfl)
theorem dX1_addShape_197 : decode cX1_addShape 197 = .ok (.invokevirtual 164, 3) := dk_182 0 164 (dk_at dksX1_addShape_8 7 rfl rfl)
theorem dX1_addShape_200 : decode cX1_addShape 200 = .ok (.iload 8, 2) := dk_21 8 (dk_at dksX1_addShape_8 10 rfl rfl)
theorem dX1_addShape_202 : decode cX1_addShape 202 = .ok (.ireturn, 1) := dk_172 (dk_at dksX1_addShape_8 12 rfl rfl)
theorem q94 : (Jvm.Cond.initialized "Plugboard$Frame") ∈ lw_all := lw_g (lw_at lw_m1 24 rfl) rfl
theorem q95 : (Jvm.Cond.initialized "Plugboard$Panel") ∈ lw_all := lw_g (lw_at lw_m1 25 rfl) rfl
theorem q297 : (Jvm.Cond.methodLink "Plugboard" (199 : Nat) ({ cls := "Plugboard", name := "board", desc := "(I)LPlugboard$Board;" } : Jvm.MethodName)) ∈ lw_all := lw_g (lw_at lw_m1 227 rfl) rfl
theorem q299 : (Jvm.Cond.instanceMethod ({ cls := "Plugboard", name := "board", desc := "(I)LPlugboard$Board;" } : Jvm.MethodName)) ∈ lw_all := lw_g (lw_at lw_m1 229 rfl) rfl
theorem q300 : (Jvm.Cond.code ({ cls := "Plugboard", name := "board", desc := "(I)LPlugboard$Board;" } : Jvm.MethodName) prog_1_method_10_code (2 : Nat) (Option.some (Jvm.ClassFile.FieldType.object "Plugboard$Board"))) ∈ lw_all := lw_g (lw_at lw_m1 230 rfl) rfl
theorem q379 : (Jvm.Cond.methodLink "Plugboard" (203 : Nat) ({ cls := "Plugboard", name := "isOnBoard", desc := "(IIII)Z" } : Jvm.MethodName)) ∈ lw_all := lw_g (lw_at lw_m2 69 rfl) rfl
theorem q380 : (Jvm.Cond.static ({ cls := "Plugboard", name := "isOnBoard", desc := "(IIII)Z" } : Jvm.MethodName)) ∈ lw_all := lw_g (lw_at lw_m2 70 rfl) rfl
theorem q381 : (Jvm.Cond.code ({ cls := "Plugboard", name := "isOnBoard", desc := "(IIII)Z" } : Jvm.MethodName) prog_1_method_16_code (4 : Nat) (Option.some Jvm.ClassFile.FieldType.boolean)) ∈ lw_all := lw_g (lw_at lw_m2 71 rfl) rfl
theorem q400 : (Jvm.Cond.methodLink "Plugboard" (207 : Nat) ({ cls := "Plugboard", name := "requireRoom", desc := "()V" } : Jvm.MethodName)) ∈ lw_all := lw_g (lw_at lw_m2 90 rfl) rfl
theorem q402 : (Jvm.Cond.instanceMethod ({ cls := "Plugboard", name := "requireRoom", desc := "()V" } : Jvm.MethodName)) ∈ lw_all := lw_g (lw_at lw_m2 92 rfl) rfl
theorem q403 : (Jvm.Cond.code ({ cls := "Plugboard", name := "requireRoom", desc := "()V" } : Jvm.MethodName) prog_1_method_12_code (1 : Nat) (Option.none : Option Jvm.ClassFile.FieldType)) ∈ lw_all := lw_g (lw_at lw_m2 93 rfl) rfl
theorem q404 : (Jvm.Cond.methodLink "Plugboard" (210 : Nat) ({ cls := "Plugboard$Board", name := "countSeen", desc := "()I" } : Jvm.MethodName)) ∈ lw_all := lw_g (lw_at lw_m2 94 rfl) rfl
theorem q405 : (Jvm.Cond.instanceMethod ({ cls := "Plugboard$Board", name := "countSeen", desc := "()I" } : Jvm.MethodName)) ∈ lw_all := lw_g (lw_at lw_m2 95 rfl) rfl
theorem q406 : (Jvm.Cond.selects "Plugboard$Board" ({ cls := "Plugboard$Board", name := "countSeen", desc := "()I" } : Jvm.MethodName) ({ cls := "Plugboard$Board", name := "countSeen", desc := "()I" } : Jvm.MethodName)) ∈ lw_all := lw_g (lw_at lw_m2 96 rfl) rfl
theorem q407 : (Jvm.Cond.code ({ cls := "Plugboard$Board", name := "countSeen", desc := "()I" } : Jvm.MethodName) prog_3_method_13_code (3 : Nat) (Option.some Jvm.ClassFile.FieldType.int)) ∈ lw_all := lw_g (lw_at lw_m2 97 rfl) rfl
theorem q414 : (Jvm.Cond.methodLink "Plugboard" (213 : Nat) ({ cls := "Plugboard", name := "greatestKey", desc := "(LPlugboard$Board;)F" } : Jvm.MethodName)) ∈ lw_all := lw_g (lw_at lw_m2 104 rfl) rfl
theorem q415 : (Jvm.Cond.static ({ cls := "Plugboard", name := "greatestKey", desc := "(LPlugboard$Board;)F" } : Jvm.MethodName)) ∈ lw_all := lw_g (lw_at lw_m2 105 rfl) rfl
theorem q416 : (Jvm.Cond.code ({ cls := "Plugboard", name := "greatestKey", desc := "(LPlugboard$Board;)F" } : Jvm.MethodName) prog_1_method_17_code (4 : Nat) (Option.some Jvm.ClassFile.FieldType.float)) ∈ lw_all := lw_g (lw_at lw_m2 106 rfl) rfl
theorem q566 : (Jvm.Cond.classLink "Plugboard" (217 : Nat) "Plugboard$Frame") ∈ lw_all := lw_g (lw_at lw_m3 16 rfl) rfl
theorem q567 : (Jvm.Cond.instantiable "Plugboard$Frame" (3 : Nat)) ∈ lw_all := lw_g (lw_at lw_m3 17 rfl) rfl
theorem q568 : (Jvm.Cond.methodLink "Plugboard" (219 : Nat) ({ cls := "Plugboard$Frame", name := "<init>", desc := "(III)V" } : Jvm.MethodName)) ∈ lw_all := lw_g (lw_at lw_m3 18 rfl) rfl
theorem q569 : (Jvm.Cond.instanceMethod ({ cls := "Plugboard$Frame", name := "<init>", desc := "(III)V" } : Jvm.MethodName)) ∈ lw_all := lw_g (lw_at lw_m3 19 rfl) rfl
theorem q570 : (Jvm.Cond.code ({ cls := "Plugboard$Frame", name := "<init>", desc := "(III)V" } : Jvm.MethodName) prog_10_method_1_code (4 : Nat) (Option.none : Option Jvm.ClassFile.FieldType)) ∈ lw_all := lw_g (lw_at lw_m3 20 rfl) rfl
theorem q592 : (Jvm.Cond.classLink "Plugboard" (222 : Nat) "Plugboard$Panel") ∈ lw_all := lw_g (lw_at lw_m3 42 rfl) rfl
theorem q593 : (Jvm.Cond.instantiable "Plugboard$Panel" (3 : Nat)) ∈ lw_all := lw_g (lw_at lw_m3 43 rfl) rfl
theorem q594 : (Jvm.Cond.methodLink "Plugboard" (224 : Nat) ({ cls := "Plugboard$Panel", name := "<init>", desc := "(III)V" } : Jvm.MethodName)) ∈ lw_all := lw_g (lw_at lw_m3 44 rfl) rfl
theorem q595 : (Jvm.Cond.instanceMethod ({ cls := "Plugboard$Panel", name := "<init>", desc := "(III)V" } : Jvm.MethodName)) ∈ lw_all := lw_g (lw_at lw_m3 45 rfl) rfl
theorem q596 : (Jvm.Cond.code ({ cls := "Plugboard$Panel", name := "<init>", desc := "(III)V" } : Jvm.MethodName) prog_15_method_1_code (4 : Nat) (Option.none : Option Jvm.ClassFile.FieldType)) ∈ lw_all := lw_g (lw_at lw_m3 46 rfl) rfl
theorem q677 : (Jvm.Cond.methodLink "Plugboard" (225 : Nat) ({ cls := "Plugboard", name := "keyBits", desc := "(F)I" } : Jvm.MethodName)) ∈ lw_all := lw_g (lw_at lw_m3 127 rfl) rfl
theorem q678 : (Jvm.Cond.static ({ cls := "Plugboard", name := "keyBits", desc := "(F)I" } : Jvm.MethodName)) ∈ lw_all := lw_g (lw_at lw_m3 128 rfl) rfl
theorem q679 : (Jvm.Cond.code ({ cls := "Plugboard", name := "keyBits", desc := "(F)I" } : Jvm.MethodName) prog_1_method_13_code (1 : Nat) (Option.some Jvm.ClassFile.FieldType.int)) ∈ lw_all := lw_g (lw_at lw_m3 129 rfl) rfl
theorem q688 : (Jvm.Cond.methodLink "Plugboard" (164 : Nat) ({ cls := "Plugboard", name := "operate", desc := "(LPlugboard$Board;[I[I[I)V" } : Jvm.MethodName)) ∈ lw_all := lw_g (lw_at lw_m3 138 rfl) rfl
theorem q690 : (Jvm.Cond.instanceMethod ({ cls := "Plugboard", name := "operate", desc := "(LPlugboard$Board;[I[I[I)V" } : Jvm.MethodName)) ∈ lw_all := lw_g (lw_at lw_m3 140 rfl) rfl
theorem q691 : (Jvm.Cond.code ({ cls := "Plugboard", name := "operate", desc := "(LPlugboard$Board;[I[I[I)V" } : Jvm.MethodName) prog_1_method_14_code (11 : Nat) (Option.none : Option Jvm.ClassFile.FieldType)) ∈ lw_all := lw_g (lw_at lw_m3 141 rfl) rfl
abbrev rm_X1_addShape : Room := { frames := 10, cells := 20, slots := 295, locals := 247 }
def w_X1_addShape_139 (P : Int32 → AH → Prop) (PX : String → AH → Prop) (x0 : Option Nat) (x2 : Int32) (x3 : Int32) (x7 : Option Nat) (x8 : Int32) (x9 : UInt32) (t0 : Option Nat) (t1 : Option Nat) (h : AH) : Prop :=
  is_c h t1 [15] (
  w_J2_add t1 t0 h (fun y139 h139 =>
  mk_i h139 0 3 3 fun q147 h147 =>
  s_i h147 (some q147) 0 0 (0 + x8) fun h155 =>
  s_i h155 (some q147) 0 1 (12 + x8) fun h163 =>
  s_i h163 (some q147) 0 2 (24 + x8) fun h171 =>
  mk_i h171 0 3 3 fun q173 h173 =>
  s_i h173 (some q173) 0 0 1 fun h178 =>
  s_i h178 (some q173) 0 1 ((24 * x3) + x2) fun h187 =>
  w_X1_keyBits x9 h187 (fun y192 h192 =>
  s_i h192 (some q173) 0 2 y192 fun h195 =>
  is_c h195 x0 [0] (
  w_X1_operate x0 x7 (some q147) (some q173) none h195 (fun h197 =>
  P x8 h197)))))
def w_X1_addShape_99 (P : Int32 → AH → Prop) (PX : String → AH → Prop) (x0 : Option Nat) (x2 : Int32) (x3 : Int32) (x4 : Int32) (x5 : Int32) (x6 : Int32) (x7 : Option Nat) (x8 : Int32) (t0 : UInt32) (h : AH) : Prop :=
  g_q h x0 0 0 fun y102 =>
  ((x6 = 0 →
    mk h (.inr (8, dvX10)) fun q126 h126 =>
    w_X10_init (some q126) x8 x4 x5 h126 (fun h136 =>
    w_X1_addShape_139 P PX x0 x2 x3 x7 x8 t0 (some q126) y102 h136)) ∧
   (¬ x6 = 0 →
    mk h (.inr (7, dvX9)) fun q110 h110 =>
    w_X9_init (some q110) x8 x4 x5 h110 (fun h120 =>
    w_X1_addShape_139 P PX x0 x2 x3 x7 x8 t0 (some q110) y102 h120)))
def w_X1_addShape_64 (P : Int32 → AH → Prop) (PX : String → AH → Prop) (x0 : Option Nat) (x2 : Int32) (x3 : Int32) (x4 : Int32) (x5 : Int32) (x6 : Int32) (x7 : Option Nat) (t0 : Int32) (h : AH) : Prop :=
  w_X1_requireState t0 h (fun h64 =>
  is_c h64 x0 [0] (
  w_X1_requireRoom x0 h64 (fun h68 =>
  g_q h68 x0 0 0 fun y72 =>
  is_c h68 y72 [15] (
  w_J2_size y72 h68 (fun y75 h75 =>
  is_c h75 x7 [2] (
  w_X3_countSeen x7 h75 (fun y82 h82 =>
  ((y82 = 0 →
    w_X1_addShape_99 P PX x0 x2 x3 x4 x5 x6 x7 y75 FP.fconst0 h82) ∧
   (¬ y82 = 0 →
    w_X1_greatestKey x7 h82 (fun y94 h94 =>
    vf_n32 (FP.fadd y94 FP.fconst1) ∧
    w_X1_addShape_99 P PX x0 x2 x3 x4 x5 x6 x7 y75 (FP.fadd y94 FP.fconst1) h94)))))))) PX)) PX
def w_X1_addShape (a0 : Option Nat) (a1 : Int32) (a2 : Int32) (a3 : Int32) (a4 : Int32) (a5 : Int32) (a6 : Int32) (h : AH) (P : Int32 → AH → Prop) (PX : String → AH → Prop) : Prop :=
  is_c h a0 [0] (
  w_X1_board a0 a1 h (fun y2 h2 =>
  mk_i h2 1 3 3 fun q8 h8 =>
  w_X1_isBetween a4 1 8 h8 (fun y17 h17 =>
  nrw .boolean y17 ∧
  s_i h17 (some q8) 1 0 y17 fun h20 =>
  w_X1_isBetween a5 1 8 h20 (fun y28 h28 =>
  nrw .boolean y28 ∧
  s_i h28 (some q8) 1 1 y28 fun h31 =>
  w_X1_isOnBoard a2 a3 a4 a5 h31 (fun y40 h40 =>
  nrw .boolean y40 ∧
  s_i h40 (some q8) 1 2 y40 fun h43 =>
  w_X1_require (some q8) h43 (fun h44 =>
  g_q h44 a0 0 0 fun y48 =>
  is_c h44 y48 [15] (
  w_J2_size y48 h44 (fun y51 h51 =>
  ((12 ≤ y51 →
    w_X1_addShape_64 P PX a0 a2 a3 a4 a5 a6 y2 0 h51) ∧
   (¬ 12 ≤ y51 →
    w_X1_addShape_64 P PX a0 a2 a3 a4 a5 a6 y2 1 h51))))) PX)))) PX)
theorem wk_X1_addShape_139 {x : CX} (X : Ok x cX1_addShape RX1 rm_X1_addShape 10) (er : xrt x = (Option.some Jvm.ClassFile.FieldType.int)) (en : xnm x = yX1_addShape.name) {P : Int32 → AH → Prop} {PX : String → AH → Prop} (hQ : xr_i x P) (hT : xt_ x PX) (hex : ∀ z ∈ x.2.2.2.2.2.2.2.2.2.1.exceptionTable.toList, False) (x0 : Option Nat) (x2 : Int32) (x3 : Int32) (x7 : Option Nat) (x8 : Int32) (x9 : UInt32) (t0 : Option Nat) (t1 : Option Nat) (h : AH) (hw : w_X1_addShape_139 P PX x0 x2 x3 x7 x8 x9 t0 t1 h) : J x h 9 34 139 [(0, vR x0), (2, vI x2), (3, vI x3), (7, vR x7), (8, vI x8), (9, vF x9)] [vR t0, vR t1] := by
  obtain ⟨b9, c9, f9, hr9, ho9, hc9, hw⟩ := hw
  obtain rfl := List.mem_singleton.mp hc9
  refine j_calli (j_runV (n8 := 1) (As := [vR t0]) (rest := []) X (pc := 139) hr9 (met_J2_add (xl x) X.hl (xG x) h t1 t0 _ hw) ho9 (by decide) rfl q602 q603 q604 q74 q605 (by decide +kernel) dX1_addShape_139 rfl ⟨Nat.le_of_ble_eq_true rfl, Nat.le_of_ble_eq_true rfl⟩ (Nat.le_of_ble_eq_true rfl) ⟨Nat.le_of_ble_eq_true rfl, Nat.le_of_ble_eq_true rfl⟩) (fun y139 h139 hw => ?_)
  refine j_pop X (pc := 142) dX1_addShape_142 rfl ?_
  refine j_aload_n X (pc := 143) 0 dX1_addShape_143 rfl rfl ?_
  refine j_aload X (pc := 144) 3 dX1_addShape_144 rfl ?_
  refine j_iconst X (pc := 146) 3 dX1_addShape_146 (by decide) ?_
  refine j_newI X (pc := 147) 3 dX1_addShape_147 q180 (by decide) (Nat.le_of_ble_eq_true rfl) (Nat.le_of_ble_eq_true rfl) hw (fun q147 h147 hw => ?_)
  refine j_dup X (pc := 149) dX1_addShape_149 rfl ?_
  refine j_iconst X (pc := 150) 0 dX1_addShape_150 (by decide) ?_
  refine j_iconst X (pc := 151) 0 dX1_addShape_151 (by decide) ?_
  refine j_iload X (pc := 152) 4 dX1_addShape_152 rfl ?_
  refine j_iadd X (pc := 154) dX1_addShape_154 ?_
  refine j_iast X (pc := 155) 0 rfl rfl dX1_addShape_155 hw (fun h155 hw => ?_)
  refine j_dup X (pc := 156) dX1_addShape_156 rfl ?_
  refine j_iconst X (pc := 157) 1 dX1_addShape_157 (by decide) ?_
  refine j_bipush X (pc := 158) 12 dX1_addShape_158 (by decide) ?_
  refine j_iload X (pc := 160) 4 dX1_addShape_160 rfl ?_
  refine j_iadd X (pc := 162) dX1_addShape_162 ?_
  refine j_iast X (pc := 163) 0 rfl rfl dX1_addShape_163 hw (fun h163 hw => ?_)
  refine j_dup X (pc := 164) dX1_addShape_164 rfl ?_
  refine j_iconst X (pc := 165) 2 dX1_addShape_165 (by decide) ?_
  refine j_bipush X (pc := 166) 24 dX1_addShape_166 (by decide) ?_
  refine j_iload X (pc := 168) 4 dX1_addShape_168 rfl ?_
  refine j_iadd X (pc := 170) dX1_addShape_170 ?_
  refine j_iast X (pc := 171) 0 rfl rfl dX1_addShape_171 hw (fun h171 hw => ?_)
  refine j_iconst X (pc := 172) 3 dX1_addShape_172 (by decide) ?_
  refine j_newI X (pc := 173) 3 dX1_addShape_173 q180 (by decide) (Nat.le_of_ble_eq_true rfl) (Nat.le_of_ble_eq_true rfl) hw (fun q173 h173 hw => ?_)
  refine j_dup X (pc := 175) dX1_addShape_175 rfl ?_
  refine j_iconst X (pc := 176) 0 dX1_addShape_176 (by decide) ?_
  refine j_iconst X (pc := 177) 1 dX1_addShape_177 (by decide) ?_
  refine j_iast X (pc := 178) 0 rfl rfl dX1_addShape_178 hw (fun h178 hw => ?_)
  refine j_dup X (pc := 179) dX1_addShape_179 rfl ?_
  refine j_iconst X (pc := 180) 1 dX1_addShape_180 (by decide) ?_
  refine j_bipush X (pc := 181) 24 dX1_addShape_181 (by decide) ?_
  refine j_iload_n X (pc := 183) 2 dX1_addShape_183 rfl rfl ?_
  refine j_imul X (pc := 184) dX1_addShape_184 ?_
  refine j_iload_n X (pc := 185) 1 dX1_addShape_185 rfl rfl ?_
  refine j_iadd X (pc := 186) dX1_addShape_186 ?_
  refine j_iast X (pc := 187) 0 rfl rfl dX1_addShape_187 hw (fun h187 hw => ?_)
  refine j_dup X (pc := 188) dX1_addShape_188 rfl ?_
  refine j_iconst X (pc := 189) 2 dX1_addShape_189 (by decide) ?_
  refine j_fload X (pc := 190) 5 dX1_addShape_190 rfl ?_
  refine j_calli (j_runS (n8 := 1) (As := [vF x9]) (rest := [vI 2, vR (some q173), vR (some q173), vR (some q147), vR x7, vR x0]) X (pc := 192) (met_X1_keyBits (xl x) X.hl (xG x) h187 x9 _ hw) q677 q678 q71 q679 (by decide +kernel) dX1_addShape_192 rfl ⟨Nat.le_of_ble_eq_true rfl, Nat.le_of_ble_eq_true rfl⟩ (Nat.le_of_ble_eq_true rfl) ⟨Nat.le_of_ble_eq_true rfl, Nat.le_of_ble_eq_true rfl⟩) (fun y192 h192 hw => ?_)
  refine j_iast X (pc := 195) 0 rfl rfl dX1_addShape_195 hw (fun h195 hw => ?_)
  refine j_null X (pc := 196) dX1_addShape_196 ?_
  obtain ⟨b9, c9, f9, hr9, ho9, hc9, hw⟩ := hw
  obtain rfl := List.mem_singleton.mp hc9
  refine j_callv (j_runV (n8 := 4) (As := [vR x7, vR (some q147), vR (some q173), vR none]) (rest := []) X (pc := 197) hr9 (met_X1_operate (xl x) X.hl (xG x) h195 x0 x7 (some q147) (some q173) none _ hw) ho9 (by decide) rfl q688 q690 qs6 q71 q691 (by decide +kernel) dX1_addShape_197 rfl ⟨Nat.le_of_ble_eq_true rfl, Nat.le_of_ble_eq_true rfl⟩ (Nat.le_of_ble_eq_true rfl) ⟨Nat.le_of_ble_eq_true rfl, Nat.le_of_ble_eq_true rfl⟩) (fun h197 hw => ?_)
  refine j_iload X (pc := 200) 4 dX1_addShape_200 rfl ?_
  exact j_iret X (pc := 202) hQ er (Nat.le_of_ble_eq_true rfl) (Nat.le_of_ble_eq_true rfl) dX1_addShape_202 hw
theorem wk_X1_addShape_99 {x : CX} (X : Ok x cX1_addShape RX1 rm_X1_addShape 10) (er : xrt x = (Option.some Jvm.ClassFile.FieldType.int)) (en : xnm x = yX1_addShape.name) {P : Int32 → AH → Prop} {PX : String → AH → Prop} (hQ : xr_i x P) (hT : xt_ x PX) (hex : ∀ z ∈ x.2.2.2.2.2.2.2.2.2.1.exceptionTable.toList, False) (x0 : Option Nat) (x2 : Int32) (x3 : Int32) (x4 : Int32) (x5 : Int32) (x6 : Int32) (x7 : Option Nat) (x8 : Int32) (t0 : UInt32) (h : AH) (hw : w_X1_addShape_99 P PX x0 x2 x3 x4 x5 x6 x7 x8 t0 h) : J x h 8 31 99 [(0, vR x0), (2, vI x2), (3, vI x3), (4, vI x4), (5, vI x5), (6, vI x6), (7, vR x7), (8, vI x8)] [vF t0] := by
  refine j_fstore X (pc := 99) [(9, vF t0), (0, vR x0), (2, vI x2), (3, vI x3), (4, vI x4), (5, vI x5), (6, vI x6), (7, vR x7), (8, vI x8)] dX1_addShape_99 (Nat.le_of_ble_eq_true rfl) rfl ?_
  refine j_aload_n X (pc := 101) 1 dX1_addShape_101 rfl rfl ?_
  refine j_getq (ci := 0) X (pc := 102) in_X1 rfl (by decide) 0 (by decide) q240 (Or.inl rfl) dX1_addShape_102 hw (fun y102 hw => ?_)
  refine j_iload X (pc := 105) 6 dX1_addShape_105 rfl ?_
  refine j_if_eq X (pc := 107) 126 dX1_addShape_107 (by decide) hw (fun hw => ?_) (fun hw => ?_)
  · refine j_new (ci := 8) X (pc := 126) in_X10 rfl (by decide) tyX10 tyX10_ok q592 q593 q95 (fs := dvX10) dfX10 (Nat.le_of_ble_eq_true rfl) (Nat.le_of_ble_eq_true rfl) dX1_addShape_126 hw (fun q126 h126 hw => ?_)
    refine j_dup X (pc := 129) dX1_addShape_129 rfl ?_
    refine j_iload X (pc := 130) 8 dX1_addShape_130 rfl ?_
    refine j_iload X (pc := 132) 4 dX1_addShape_132 rfl ?_
    refine j_iload X (pc := 134) 5 dX1_addShape_134 rfl ?_
    refine j_callv (j_runI (n8 := 3) (As := [vI x8, vI x4, vI x5]) (rest := [vR (some q126), vR y102]) X (pc := 136) rfl (met_X10_init (xl x) X.hl (xG x) h126 (some q126) x8 x4 x5 _ hw) q594 q595 q95 q596 (by decide +kernel) dX1_addShape_136 rfl ⟨Nat.le_of_ble_eq_true rfl, Nat.le_of_ble_eq_true rfl⟩ (Nat.le_of_ble_eq_true rfl) ⟨Nat.le_of_ble_eq_true rfl, Nat.le_of_ble_eq_true rfl⟩) (fun h136 hw => ?_)
    refine j_lv [(0, vR x0), (2, vI x2), (3, vI x3), (7, vR x7), (8, vI x8), (9, vF t0)] [1, 2, 3, 7, 8, 0] rfl ?_
    refine j_cs (u' := 9) (v' := 34) (Nat.le_of_ble_eq_true rfl) (Nat.le_of_ble_eq_true rfl) ?_
    exact wk_X1_addShape_139 X er en hQ hT hex x0 x2 x3 x7 x8 t0 (some q126) y102 h136 hw
  · refine j_new (ci := 7) X (pc := 110) in_X9 rfl (by decide) tyX9 tyX9_ok q566 q567 q94 (fs := dvX9) dfX9 (Nat.le_of_ble_eq_true rfl) (Nat.le_of_ble_eq_true rfl) dX1_addShape_110 hw (fun q110 h110 hw => ?_)
    refine j_dup X (pc := 113) dX1_addShape_113 rfl ?_
    refine j_iload X (pc := 114) 8 dX1_addShape_114 rfl ?_
    refine j_iload X (pc := 116) 4 dX1_addShape_116 rfl ?_
    refine j_iload X (pc := 118) 5 dX1_addShape_118 rfl ?_
    refine j_callv (j_runI (n8 := 3) (As := [vI x8, vI x4, vI x5]) (rest := [vR (some q110), vR y102]) X (pc := 120) rfl (met_X9_init (xl x) X.hl (xG x) h110 (some q110) x8 x4 x5 _ hw) q568 q569 q94 q570 (by decide +kernel) dX1_addShape_120 rfl ⟨Nat.le_of_ble_eq_true rfl, Nat.le_of_ble_eq_true rfl⟩ (Nat.le_of_ble_eq_true rfl) ⟨Nat.le_of_ble_eq_true rfl, Nat.le_of_ble_eq_true rfl⟩) (fun h120 hw => ?_)
    refine j_goto X (pc := 123) 139 dX1_addShape_123 (by decide) ?_
    refine j_lv [(0, vR x0), (2, vI x2), (3, vI x3), (7, vR x7), (8, vI x8), (9, vF t0)] [1, 2, 3, 7, 8, 0] rfl ?_
    refine j_cs (u' := 9) (v' := 34) (Nat.le_of_ble_eq_true rfl) (Nat.le_of_ble_eq_true rfl) ?_
    exact wk_X1_addShape_139 X er en hQ hT hex x0 x2 x3 x7 x8 t0 (some q110) y102 h120 hw
theorem wk_X1_addShape_64 {x : CX} (X : Ok x cX1_addShape RX1 rm_X1_addShape 10) (er : xrt x = (Option.some Jvm.ClassFile.FieldType.int)) (en : xnm x = yX1_addShape.name) {P : Int32 → AH → Prop} {PX : String → AH → Prop} (hQ : xr_i x P) (hT : xt_ x PX) (hex : ∀ z ∈ x.2.2.2.2.2.2.2.2.2.1.exceptionTable.toList, False) (x0 : Option Nat) (x2 : Int32) (x3 : Int32) (x4 : Int32) (x5 : Int32) (x6 : Int32) (x7 : Option Nat) (t0 : Int32) (h : AH) (hw : w_X1_addShape_64 P PX x0 x2 x3 x4 x5 x6 x7 t0 h) : J x h 4 16 64 [(0, vR x0), (2, vI x2), (3, vI x3), (4, vI x4), (5, vI x5), (6, vI x6), (7, vR x7)] [vI t0] := by
  refine j_callXv (j_runSX (n8 := 1) (As := [vI t0]) (rest := []) X (pc := 64) (met_X1_requireState (xl x) X.hl (xG x) h t0 _ _ hw) q382 q383 q71 q384 (by decide +kernel) dX1_addShape_64 rfl ⟨Nat.le_of_ble_eq_true rfl, Nat.le_of_ble_eq_true rfl⟩ (Nat.le_of_ble_eq_true rfl) ⟨Nat.le_of_ble_eq_true rfl, Nat.le_of_ble_eq_true rfl⟩) (fun E h9 hx => j_out X hT hex (Nat.le_of_ble_eq_true rfl) (Nat.le_of_ble_eq_true rfl) hx) (fun h64 hw => ?_)
  refine j_aload_n X (pc := 67) 0 dX1_addShape_67 rfl rfl ?_
  obtain ⟨b9, c9, f9, hr9, ho9, hc9, hw⟩ := hw
  obtain rfl := List.mem_singleton.mp hc9
  refine j_callXv (j_runVX (n8 := 0) (As := []) (rest := []) X (pc := 68) hr9 (met_X1_requireRoom (xl x) X.hl (xG x) h64 x0 _ _ hw) ho9 (by decide) rfl q400 q402 qs2 q71 q403 (by decide +kernel) dX1_addShape_68 rfl ⟨Nat.le_of_ble_eq_true rfl, Nat.le_of_ble_eq_true rfl⟩ (Nat.le_of_ble_eq_true rfl) ⟨Nat.le_of_ble_eq_true rfl, Nat.le_of_ble_eq_true rfl⟩) (fun E h9 hx => j_out X hT hex (Nat.le_of_ble_eq_true rfl) (Nat.le_of_ble_eq_true rfl) hx) (fun h68 hw => ?_)
  refine j_aload_n X (pc := 71) 0 dX1_addShape_71 rfl rfl ?_
  refine j_getq (ci := 0) X (pc := 72) in_X1 rfl (by decide) 0 (by decide) q240 (Or.inl rfl) dX1_addShape_72 hw (fun y72 hw => ?_)
  obtain ⟨b9, c9, f9, hr9, ho9, hc9, hw⟩ := hw
  obtain rfl := List.mem_singleton.mp hc9
  refine j_calli (j_runV (n8 := 0) (As := []) (rest := []) X (pc := 75) hr9 (met_J2_size (xl x) X.hl (xG x) h68 y72 _ hw) ho9 (by decide) rfl q284 q285 q286 q74 q287 (by decide +kernel) dX1_addShape_75 rfl ⟨Nat.le_of_ble_eq_true rfl, Nat.le_of_ble_eq_true rfl⟩ (Nat.le_of_ble_eq_true rfl) ⟨Nat.le_of_ble_eq_true rfl, Nat.le_of_ble_eq_true rfl⟩) (fun y75 h75 hw => ?_)
  refine j_istore X (pc := 78) [(8, vI y75), (0, vR x0), (2, vI x2), (3, vI x3), (4, vI x4), (5, vI x5), (6, vI x6), (7, vR x7)] dX1_addShape_78 (Nat.le_of_ble_eq_true rfl) rfl ?_
  refine j_aload X (pc := 80) 7 dX1_addShape_80 rfl ?_
  obtain ⟨b9, c9, f9, hr9, ho9, hc9, hw⟩ := hw
  obtain rfl := List.mem_singleton.mp hc9
  refine j_calli (j_runV (n8 := 0) (As := []) (rest := []) X (pc := 82) hr9 (met_X3_countSeen (xl x) X.hl (xG x) h75 x7 _ hw) ho9 (by decide) rfl q404 q405 q406 q76 q407 (by decide +kernel) dX1_addShape_82 rfl ⟨Nat.le_of_ble_eq_true rfl, Nat.le_of_ble_eq_true rfl⟩ (Nat.le_of_ble_eq_true rfl) ⟨Nat.le_of_ble_eq_true rfl, Nat.le_of_ble_eq_true rfl⟩) (fun y82 h82 hw => ?_)
  refine j_if_ne X (pc := 85) 92 dX1_addShape_85 (by decide) hw (fun hw => ?_) (fun hw => ?_)
  · refine j_fconst0 X (pc := 88) dX1_addShape_88 ?_
    refine j_goto X (pc := 89) 99 dX1_addShape_89 (by decide) ?_
    refine j_lv [(0, vR x0), (2, vI x2), (3, vI x3), (4, vI x4), (5, vI x5), (6, vI x6), (7, vR x7), (8, vI y75)] [1, 2, 3, 4, 5, 6, 7, 0] rfl ?_
    refine j_cs (u' := 8) (v' := 31) (Nat.le_of_ble_eq_true rfl) (Nat.le_of_ble_eq_true rfl) ?_
    exact wk_X1_addShape_99 X er en hQ hT hex x0 x2 x3 x4 x5 x6 x7 y75 FP.fconst0 h82 hw
  · refine j_aload X (pc := 92) 7 dX1_addShape_92 rfl ?_
    refine j_callf (j_runS (n8 := 1) (As := [vR x7]) (rest := []) X (pc := 94) (met_X1_greatestKey (xl x) X.hl (xG x) h82 x7 _ hw) q414 q415 q71 q416 (by decide +kernel) dX1_addShape_94 rfl ⟨Nat.le_of_ble_eq_true rfl, Nat.le_of_ble_eq_true rfl⟩ (Nat.le_of_ble_eq_true rfl) ⟨Nat.le_of_ble_eq_true rfl, Nat.le_of_ble_eq_true rfl⟩) (fun y94 h94 hw => ?_)
    refine j_fconst1 X (pc := 97) dX1_addShape_97 ?_
    refine j_fadd X (pc := 98) dX1_addShape_98 hw (fun hw => ?_)
    refine j_lv [(0, vR x0), (2, vI x2), (3, vI x3), (4, vI x4), (5, vI x5), (6, vI x6), (7, vR x7), (8, vI y75)] [1, 2, 3, 4, 5, 6, 7, 0] rfl ?_
    refine j_cs (u' := 8) (v' := 31) (Nat.le_of_ble_eq_true rfl) (Nat.le_of_ble_eq_true rfl) ?_
    exact wk_X1_addShape_99 X er en hQ hT hex x0 x2 x3 x4 x5 x6 x7 y75 (FP.fadd y94 FP.fconst1) h94 hw
theorem met_X1_addShape (l : Launch) (hlt : l.stackTraces = false) (G : GG) (h : AH) (a0 : Option Nat) (a1 : Int32) (a2 : Int32) (a3 : Int32) (a4 : Int32) (a5 : Int32) (a6 : Int32) (P : Int32 → AH → Prop) (PX : String → AH → Prop) (hw : w_X1_addShape a0 a1 a2 a3 a4 a5 a6 h P PX) : cx_i l yX1_addShape (ws_ yX1_addShape cX1_addShape 10 (Option.some Jvm.ClassFile.FieldType.int)) rm_X1_addShape G h [vR a0, vI a1, vI a2, vI a3, vI a4, vI a5, vI a6] P PX := by
  refine j_startXi hlt [(0, vR a0), (1, vI a1), (2, vI a2), (3, vI a3), (4, vI a4), (5, vI a5), (6, vI a6)] (by decide) rfl rfl (fun x X eG er en hQ hT hex => ?_)
  subst eG
  refine j_aload_n X (pc := 0) 0 dX1_addShape_0 rfl rfl ?_
  refine j_iload_n X (pc := 1) 1 dX1_addShape_1 rfl rfl ?_
  obtain ⟨b9, c9, f9, hr9, ho9, hc9, hw⟩ := hw
  obtain rfl := List.mem_singleton.mp hc9
  refine j_callXq (j_runVX (n8 := 1) (As := [vI a1]) (rest := []) X (pc := 2) hr9 (met_X1_board (xl x) X.hl (xG x) h a0 a1 _ _ hw) ho9 (by decide) rfl q297 q299 qs0 q71 q300 (by decide +kernel) dX1_addShape_2 rfl ⟨Nat.le_of_ble_eq_true rfl, Nat.le_of_ble_eq_true rfl⟩ (Nat.le_of_ble_eq_true rfl) ⟨Nat.le_of_ble_eq_true rfl, Nat.le_of_ble_eq_true rfl⟩) (fun E h9 hx => j_out X hT hex (Nat.le_of_ble_eq_true rfl) (Nat.le_of_ble_eq_true rfl) hx) (fun y2 h2 hw => ?_)
  refine j_astore X (pc := 5) [(7, vR y2), (0, vR a0), (1, vI a1), (2, vI a2), (3, vI a3), (4, vI a4), (5, vI a5), (6, vI a6)] dX1_addShape_5 (Nat.le_of_ble_eq_true rfl) rfl ?_
  refine j_iconst X (pc := 7) 3 dX1_addShape_7 (by decide) ?_
  refine j_newZ X (pc := 8) 3 dX1_addShape_8 q233 (by decide) (Nat.le_of_ble_eq_true rfl) (Nat.le_of_ble_eq_true rfl) hw (fun q8 h8 hw => ?_)
  refine j_dup X (pc := 10) dX1_addShape_10 rfl ?_
  refine j_iconst X (pc := 11) 0 dX1_addShape_11 (by decide) ?_
  refine j_iload X (pc := 12) 5 dX1_addShape_12 rfl ?_
  refine j_iconst X (pc := 14) 1 dX1_addShape_14 (by decide) ?_
  refine j_bipush X (pc := 15) 8 dX1_addShape_15 (by decide) ?_
  refine j_calli (j_runS (n8 := 3) (As := [vI a4, vI 1, vI 8]) (rest := [vI 0, vR (some q8), vR (some q8)]) X (pc := 17) (met_X1_isBetween (xl x) X.hl (xG x) h8 a4 1 8 _ hw) q304 q305 q71 q306 (by decide +kernel) dX1_addShape_17 rfl ⟨Nat.le_of_ble_eq_true rfl, Nat.le_of_ble_eq_true rfl⟩ (Nat.le_of_ble_eq_true rfl) ⟨Nat.le_of_ble_eq_true rfl, Nat.le_of_ble_eq_true rfl⟩) (fun y17 h17 hw => ?_)
  have hnr := hw.1
  have hw := hw.2
  refine j_zast X (pc := 20) 1 rfl rfl hnr dX1_addShape_20 hw (fun h20 hw => ?_)
  refine j_dup X (pc := 21) dX1_addShape_21 rfl ?_
  refine j_iconst X (pc := 22) 1 dX1_addShape_22 (by decide) ?_
  refine j_iload X (pc := 23) 6 dX1_addShape_23 rfl ?_
  refine j_iconst X (pc := 25) 1 dX1_addShape_25 (by decide) ?_
  refine j_bipush X (pc := 26) 8 dX1_addShape_26 (by decide) ?_
  refine j_calli (j_runS (n8 := 3) (As := [vI a5, vI 1, vI 8]) (rest := [vI 1, vR (some q8), vR (some q8)]) X (pc := 28) (met_X1_isBetween (xl x) X.hl (xG x) h20 a5 1 8 _ hw) q304 q305 q71 q306 (by decide +kernel) dX1_addShape_28 rfl ⟨Nat.le_of_ble_eq_true rfl, Nat.le_of_ble_eq_true rfl⟩ (Nat.le_of_ble_eq_true rfl) ⟨Nat.le_of_ble_eq_true rfl, Nat.le_of_ble_eq_true rfl⟩) (fun y28 h28 hw => ?_)
  have hnr := hw.1
  have hw := hw.2
  refine j_zast X (pc := 31) 1 rfl rfl hnr dX1_addShape_31 hw (fun h31 hw => ?_)
  refine j_dup X (pc := 32) dX1_addShape_32 rfl ?_
  refine j_iconst X (pc := 33) 2 dX1_addShape_33 (by decide) ?_
  refine j_iload_n X (pc := 34) 3 dX1_addShape_34 rfl rfl ?_
  refine j_iload_n X (pc := 35) 4 dX1_addShape_35 rfl rfl ?_
  refine j_iload X (pc := 36) 5 dX1_addShape_36 rfl ?_
  refine j_iload X (pc := 38) 6 dX1_addShape_38 rfl ?_
  refine j_calli (j_runS (n8 := 4) (As := [vI a2, vI a3, vI a4, vI a5]) (rest := [vI 2, vR (some q8), vR (some q8)]) X (pc := 40) (met_X1_isOnBoard (xl x) X.hl (xG x) h31 a2 a3 a4 a5 _ hw) q379 q380 q71 q381 (by decide +kernel) dX1_addShape_40 rfl ⟨Nat.le_of_ble_eq_true rfl, Nat.le_of_ble_eq_true rfl⟩ (Nat.le_of_ble_eq_true rfl) ⟨Nat.le_of_ble_eq_true rfl, Nat.le_of_ble_eq_true rfl⟩) (fun y40 h40 hw => ?_)
  have hnr := hw.1
  have hw := hw.2
  refine j_zast X (pc := 43) 1 rfl rfl hnr dX1_addShape_43 hw (fun h43 hw => ?_)
  refine j_callXv (j_runSX (n8 := 1) (As := [vR (some q8)]) (rest := []) X (pc := 44) (met_X1_require (xl x) X.hl (xG x) h43 (some q8) _ _ hw) q307 q308 q71 q309 (by decide +kernel) dX1_addShape_44 rfl ⟨Nat.le_of_ble_eq_true rfl, Nat.le_of_ble_eq_true rfl⟩ (Nat.le_of_ble_eq_true rfl) ⟨Nat.le_of_ble_eq_true rfl, Nat.le_of_ble_eq_true rfl⟩) (fun E h9 hx => j_out X hT hex (Nat.le_of_ble_eq_true rfl) (Nat.le_of_ble_eq_true rfl) hx) (fun h44 hw => ?_)
  refine j_aload_n X (pc := 47) 1 dX1_addShape_47 rfl rfl ?_
  refine j_getq (ci := 0) X (pc := 48) in_X1 rfl (by decide) 0 (by decide) q240 (Or.inl rfl) dX1_addShape_48 hw (fun y48 hw => ?_)
  obtain ⟨b9, c9, f9, hr9, ho9, hc9, hw⟩ := hw
  obtain rfl := List.mem_singleton.mp hc9
  refine j_calli (j_runV (n8 := 0) (As := []) (rest := []) X (pc := 51) hr9 (met_J2_size (xl x) X.hl (xG x) h44 y48 _ hw) ho9 (by decide) rfl q284 q285 q286 q74 q287 (by decide +kernel) dX1_addShape_51 rfl ⟨Nat.le_of_ble_eq_true rfl, Nat.le_of_ble_eq_true rfl⟩ (Nat.le_of_ble_eq_true rfl) ⟨Nat.le_of_ble_eq_true rfl, Nat.le_of_ble_eq_true rfl⟩) (fun y51 h51 hw => ?_)
  refine j_bipush X (pc := 54) 12 dX1_addShape_54 (by decide) ?_
  refine j_icmp_ge X (pc := 56) 63 dX1_addShape_56 (by decide) hw (fun hw => ?_) (fun hw => ?_)
  · refine j_iconst X (pc := 63) 0 dX1_addShape_63 (by decide) ?_
    refine j_lv [(0, vR a0), (2, vI a2), (3, vI a3), (4, vI a4), (5, vI a5), (6, vI a6), (7, vR y2)] [1, 3, 4, 5, 6, 7, 0] rfl ?_
    refine j_cs (u' := 4) (v' := 16) (Nat.le_of_ble_eq_true rfl) (Nat.le_of_ble_eq_true rfl) ?_
    exact wk_X1_addShape_64 X er en hQ hT hex a0 a2 a3 a4 a5 a6 y2 0 h51 hw
  · refine j_iconst X (pc := 59) 1 dX1_addShape_59 (by decide) ?_
    refine j_goto X (pc := 60) 64 dX1_addShape_60 (by decide) ?_
    refine j_lv [(0, vR a0), (2, vI a2), (3, vI a3), (4, vI a4), (5, vI a5), (6, vI a6), (7, vR y2)] [1, 3, 4, 5, 6, 7, 0] rfl ?_
    refine j_cs (u' := 4) (v' := 16) (Nat.le_of_ble_eq_true rfl) (Nat.le_of_ble_eq_true rfl) ?_
    exact wk_X1_addShape_64 X er en hQ hT hex a0 a2 a3 a4 a5 a6 y2 1 h51 hw
abbrev cX0_addShape : ByteArray := method_3_code
def yX0_addShape : MethodName := ⟨RX0, "addShape", "(LPlugboard;IIIIIZ[J)I"⟩
def dkwX0_addShape_1 : List UInt8 := [172, 58, 8, 5, 172, 3, 172]
abbrev dktX0_addShape_1 : List UInt8 := dkwX0_addShape_1 ++ []
def dkwX0_addShape_0 : List UInt8 := [25, 7, 3, 42, 27, 28, 29, 21, 4, 21, 5, 21, 6, 182, 0, 7, 133, 80, 167, 0, 11, 58, 8, 4]
abbrev dktX0_addShape_0 : List UInt8 := dkwX0_addShape_0 ++ dktX0_addShape_1
theorem dksX0_addShape_0 : cX0_addShape.data.toList.drop 0 = dktX0_addShape_0 := by decide +kernel
theorem dksX0_addShape_1 : cX0_addShape.data.toList.drop 24 = dktX0_addShape_1 := dk_seg dksX0_addShape_0 24 rfl rfl
theorem dX0_addShape_0 : decode cX0_addShape 0 = .ok (.aload 7, 2) := dk_25 7 (dk_at dksX0_addShape_0 0 rfl rfl)
theorem dX0_addShape_2 : decode cX0_addShape 2 = .ok (.iconst 0, 1) := dk_3 (dk_at dksX0_addShape_0 2 rfl rfl)
theorem dX0_addShape_3 : decode cX0_addShape 3 = .ok (.aload_n 0, 1) := dk_42 (dk_at dksX0_addShape_0 3 rfl rfl)
theorem dX0_addShape_4 : decode cX0_addShape 4 = .ok (.iload_n 1, 1) := dk_27 (dk_at dksX0_addShape_0 4 rfl rfl)
theorem dX0_addShape_5 : decode cX0_addShape 5 = .ok (.iload_n 2, 1) := dk_28 (dk_at dksX0_addShape_0 5 rfl rfl)
theorem dX0_addShape_6 : decode cX0_addShape 6 = .ok (.iload_n 3, 1) := dk_29 (dk_at dksX0_addShape_0 6 rfl rfl)
theorem dX0_addShape_7 : decode cX0_addShape 7 = .ok (.iload 4, 2) := dk_21 4 (dk_at dksX0_addShape_0 7 rfl rfl)
theorem dX0_addShape_9 : decode cX0_addShape 9 = .ok (.iload 5, 2) := dk_21 5 (dk_at dksX0_addShape_0 9 rfl rfl)
theorem dX0_addShape_11 : decode cX0_addShape 11 = .ok (.iload 6, 2) := dk_21 6 (dk_at dksX0_addShape_0 11 rfl rfl)
theorem dX0_addShape_13 : decode cX0_addShape 13 = .ok (.invokevirtual 7, 3) := dk_182 0 7 (dk_at dksX0_addShape_0 13 rfl rfl)
theorem dX0_addShape_16 : decode cX0_addShape 16 = .ok (.i2l, 1) := dk_133 (dk_at dksX0_addShape_0 16 rfl rfl)
theorem dX0_addShape_17 : decode cX0_addShape 17 = .ok (.lastore, 1) := dk_80 (dk_at dksX0_addShape_0 17 rfl rfl)
theorem dX0_addShape_18 : decode cX0_addShape 18 = .ok (.goto 11, 3) := dk_167 0 11 (dk_at dksX0_addShape_0 18 rfl rfl)
theorem dX0_addShape_21 : decode cX0_addShape 21 = .ok (.astore 8, 2) := dk_58 8 (dk_at dksX0_addShape_0 21 rfl rfl)
theorem dX0_addShape_23 : decode cX0_addShape 23 = .ok (.iconst 1, 1) := dk_4 (dk_at dksX0_addShape_0 23 rfl rfl)
theorem dX0_addShape_24 : decode cX0_addShape 24 = .ok (.ireturn, 1) := dk_172 (dk_at dksX0_addShape_1 0 rfl rfl)
theorem dX0_addShape_25 : decode cX0_addShape 25 = .ok (.astore 8, 2) := dk_58 8 (dk_at dksX0_addShape_1 1 rfl rfl)
theorem dX0_addShape_27 : decode cX0_addShape 27 = .ok (.iconst 2, 1) := dk_5 (dk_at dksX0_addShape_1 3 rfl rfl)
theorem dX0_addShape_28 : decode cX0_addShape 28 = .ok (.ireturn, 1) := dk_172 (dk_at dksX0_addShape_1 4 rfl rfl)
theorem dX0_addShape_29 : decode cX0_addShape 29 = .ok (.iconst 0, 1) := dk_3 (dk_at dksX0_addShape_1 5 rfl rfl)
theorem dX0_addShape_30 : decode cX0_addShape 30 = .ok (.ireturn, 1) := dk_172 (dk_at dksX0_addShape_1 6 rfl rfl)
theorem q291 : (Jvm.Cond.classLink "PlugboardLaw" (13 : Nat) "java/lang/IllegalArgumentException") ∈ lw_all := lw_g (lw_at lw_m1 221 rfl) rfl
theorem q292 : (Jvm.Cond.classLink "PlugboardLaw" (15 : Nat) "java/lang/IllegalStateException") ∈ lw_all := lw_g (lw_at lw_m1 222 rfl) rfl
theorem q293 : (Jvm.Cond.methodLink "PlugboardLaw" (7 : Nat) ({ cls := "Plugboard", name := "addShape", desc := "(IIIIIZ)I" } : Jvm.MethodName)) ∈ lw_all := lw_g (lw_at lw_m1 223 rfl) rfl
theorem q294 : (Jvm.Cond.instanceMethod ({ cls := "Plugboard", name := "addShape", desc := "(IIIIIZ)I" } : Jvm.MethodName)) ∈ lw_all := lw_g (lw_at lw_m1 224 rfl) rfl
theorem q295 : (Jvm.Cond.selects "Plugboard" ({ cls := "Plugboard", name := "addShape", desc := "(IIIIIZ)I" } : Jvm.MethodName) ({ cls := "Plugboard", name := "addShape", desc := "(IIIIIZ)I" } : Jvm.MethodName)) ∈ lw_all := lw_g (lw_at lw_m1 225 rfl) rfl
theorem q296 : (Jvm.Cond.code ({ cls := "Plugboard", name := "addShape", desc := "(IIIIIZ)I" } : Jvm.MethodName) prog_1_method_18_code (10 : Nat) (Option.some Jvm.ClassFile.FieldType.int)) ∈ lw_all := lw_g (lw_at lw_m1 226 rfl) rfl
theorem q312 : (Jvm.Cond.castable "java/lang/IllegalArgumentException" "java/lang/IllegalArgumentException") ∈ lw_tbl := lw_at lw_m2 2 rfl
theorem q387 : (Jvm.Cond.castable "java/lang/IllegalStateException" "java/lang/IllegalStateException") ∈ lw_tbl := lw_at lw_m2 77 rfl
abbrev rm_X0_addShape : Room := { frames := 11, cells := 20, slots := 295, locals := 276 }
def w_X0_addShape (a0 : Option Nat) (a1 : Int32) (a2 : Int32) (a3 : Int32) (a4 : Int32) (a5 : Int32) (a6 : Int32) (a7 : Option Nat) (h : AH) (P : Int32 → AH → Prop) : Prop :=
  is_c h a0 [0] (
  w_X1_addShape a0 a1 a2 a3 a4 a5 a6 h (fun y13 h13 =>
  s_L h13 a7 0 (Int32.toInt64 y13) fun h17 =>
  P 0 h17)
    (fun E9 h9 => (E9 = "java/lang/IllegalArgumentException" ∧ ∀ q9 : Nat,
    P 1 h9) ∨
    (E9 = "java/lang/IllegalStateException" ∧ ∀ q9 : Nat,
    P 2 h9)))
theorem met_X0_addShape (l : Launch) (hlt : l.stackTraces = false) (G : GG) (h : AH) (a0 : Option Nat) (a1 : Int32) (a2 : Int32) (a3 : Int32) (a4 : Int32) (a5 : Int32) (a6 : Int32) (a7 : Option Nat) (P : Int32 → AH → Prop) (hw : w_X0_addShape a0 a1 a2 a3 a4 a5 a6 a7 h P) : ct_i l yX0_addShape (wsW_ yX0_addShape cX0_addShape 9 (Option.some Jvm.ClassFile.FieldType.int) [((0 : Nat), (18 : Nat), (21 : Nat), (13 : Nat)), ((0 : Nat), (18 : Nat), (25 : Nat), (15 : Nat))]) rm_X0_addShape G h [vR a0, vI a1, vI a2, vI a3, vI a4, vI a5, vI a6, vR a7] P := by
  refine j_startWi hlt [(0, vR a0), (1, vI a1), (2, vI a2), (3, vI a3), (4, vI a4), (5, vI a5), (6, vI a6), (7, vR a7)] (by decide) rfl rfl (fun x X eG er en hQ hex => ?_)
  subst eG
  refine j_aload X (pc := 0) 7 dX0_addShape_0 rfl ?_
  refine j_iconst X (pc := 2) 0 dX0_addShape_2 (by decide) ?_
  refine j_aload_n X (pc := 3) 0 dX0_addShape_3 rfl rfl ?_
  refine j_iload_n X (pc := 4) 1 dX0_addShape_4 rfl rfl ?_
  refine j_iload_n X (pc := 5) 2 dX0_addShape_5 rfl rfl ?_
  refine j_iload_n X (pc := 6) 3 dX0_addShape_6 rfl rfl ?_
  refine j_iload X (pc := 7) 4 dX0_addShape_7 rfl ?_
  refine j_iload X (pc := 9) 5 dX0_addShape_9 rfl ?_
  refine j_iload X (pc := 11) 6 dX0_addShape_11 rfl ?_
  obtain ⟨b9, c9, f9, hr9, ho9, hc9, hw⟩ := hw
  obtain rfl := List.mem_singleton.mp hc9
  refine j_callXi (j_runVX (n8 := 6) (As := [vI a1, vI a2, vI a3, vI a4, vI a5, vI a6]) (rest := [vI 0, vR a7]) X (pc := 13) hr9 (met_X1_addShape (xl x) X.hl (xG x) h a0 a1 a2 a3 a4 a5 a6 _ _ hw) ho9 (by decide) rfl q293 q294 q295 q71 q296 (by decide +kernel) dX0_addShape_13 rfl ⟨Nat.le_of_ble_eq_true rfl, Nat.le_of_ble_eq_true rfl⟩ (Nat.le_of_ble_eq_true rfl) ⟨Nat.le_of_ble_eq_true rfl, Nat.le_of_ble_eq_true rfl⟩) ?_ (fun y13 h13 hw => ?_)
  · intro E9 h9 hx
    rcases hx with ⟨rfl, hw⟩ | ⟨rfl, hw⟩
    · refine j_catch X (pc := 13) "java/lang/IllegalArgumentException" hex [] [⟨0, 18, 25, 15⟩] ⟨0, 18, 21, 13⟩ rfl (by intro y hy; cases hy) (by decide) (by decide) q291 q312 (fun q9 => ?_)
      have hw := hw q9
      refine j_astore X (pc := 21) [(8, vR (some q9)), (0, vR a0), (1, vI a1), (2, vI a2), (3, vI a3), (4, vI a4), (5, vI a5), (6, vI a6), (7, vR a7)] dX0_addShape_21 (Nat.le_of_ble_eq_true rfl) rfl ?_
      refine j_iconst X (pc := 23) 1 dX0_addShape_23 (by decide) ?_
      exact j_iret X (pc := 24) hQ er (Nat.le_of_ble_eq_true rfl) (Nat.le_of_ble_eq_true rfl) dX0_addShape_24 hw
    · refine j_catch X (pc := 13) "java/lang/IllegalStateException" hex [⟨0, 18, 21, 13⟩] [] ⟨0, 18, 25, 15⟩ rfl (by intro y hy; simp only [List.mem_cons, List.not_mem_nil, or_false] at hy; subst hy; exact Or.inr ⟨by decide, "java/lang/IllegalArgumentException", q291, by decide +kernel⟩) (by decide) (by decide) q292 q387 (fun q9 => ?_)
      have hw := hw q9
      refine j_astore X (pc := 25) [(8, vR (some q9)), (0, vR a0), (1, vI a1), (2, vI a2), (3, vI a3), (4, vI a4), (5, vI a5), (6, vI a6), (7, vR a7)] dX0_addShape_25 (Nat.le_of_ble_eq_true rfl) rfl ?_
      refine j_iconst X (pc := 27) 2 dX0_addShape_27 (by decide) ?_
      exact j_iret X (pc := 28) hQ er (Nat.le_of_ble_eq_true rfl) (Nat.le_of_ble_eq_true rfl) dX0_addShape_28 hw
  refine j_i2l X (pc := 16) dX0_addShape_16 ?_
  refine j_last X (pc := 17) dX0_addShape_17 hw (fun h17 hw => ?_)
  refine j_goto X (pc := 18) 29 dX0_addShape_18 (by decide) ?_
  refine j_iconst X (pc := 29) 0 dX0_addShape_29 (by decide) ?_
  exact j_iret X (pc := 30) hQ er (Nat.le_of_ble_eq_true rfl) (Nat.le_of_ble_eq_true rfl) dX0_addShape_30 hw
abbrev cX5_isBetween : ByteArray := prog_19_method_5_code
def yX5_isBetween : MethodName := ⟨RX5, "isBetween", "(III)Z"⟩
def dkwX5_isBetween_0 : List UInt8 := [27, 26, 163, 0, 12, 26, 28, 163, 0, 7, 4, 167, 0, 4, 3, 172]
abbrev dktX5_isBetween_0 : List UInt8 := dkwX5_isBetween_0 ++ []
theorem dksX5_isBetween_0 : cX5_isBetween.data.toList.drop 0 = dktX5_isBetween_0 := by decide +kernel
theorem dX5_isBetween_0 : decode cX5_isBetween 0 = .ok (.iload_n 1, 1) := dk_27 (dk_at dksX5_isBetween_0 0 rfl rfl)
theorem dX5_isBetween_1 : decode cX5_isBetween 1 = .ok (.iload_n 0, 1) := dk_26 (dk_at dksX5_isBetween_0 1 rfl rfl)
theorem dX5_isBetween_2 : decode cX5_isBetween 2 = .ok (.if_icmp .gt 12, 3) := dk_163 0 12 (dk_at dksX5_isBetween_0 2 rfl rfl)
theorem dX5_isBetween_5 : decode cX5_isBetween 5 = .ok (.iload_n 0, 1) := dk_26 (dk_at dksX5_isBetween_0 5 rfl rfl)
theorem dX5_isBetween_6 : decode cX5_isBetween 6 = .ok (.iload_n 2, 1) := dk_28 (dk_at dksX5_isBetween_0 6 rfl rfl)
theorem dX5_isBetween_7 : decode cX5_isBetween 7 = .ok (.if_icmp .gt 7, 3) := dk_163 0 7 (dk_at dksX5_isBetween_0 7 rfl rfl)
theorem dX5_isBetween_10 : decode cX5_isBetween 10 = .ok (.iconst 1, 1) := dk_4 (dk_at dksX5_isBetween_0 10 rfl rfl)
theorem dX5_isBetween_11 : decode cX5_isBetween 11 = .ok (.goto 4, 3) := dk_167 0 4 (dk_at dksX5_isBetween_0 11 rfl rfl)
theorem dX5_isBetween_14 : decode cX5_isBetween 14 = .ok (.iconst 0, 1) := dk_3 (dk_at dksX5_isBetween_0 14 rfl rfl)
theorem dX5_isBetween_15 : decode cX5_isBetween 15 = .ok (.ireturn, 1) := dk_172 (dk_at dksX5_isBetween_0 15 rfl rfl)
abbrev rm_X5_isBetween : Room := { frames := 0, cells := 0, slots := 0, locals := 0 }
def w_X5_isBetween (a0 : Int32) (a1 : Int32) (a2 : Int32) (h : AH) (P : Int32 → AH → Prop) : Prop :=
  ((a0 < a1 →
    P 0 h) ∧
   (¬ a0 < a1 →
    ((a2 < a0 →
      P 0 h) ∧
     (¬ a2 < a0 →
      P 1 h))))
theorem met_X5_isBetween (l : Launch) (hlt : l.stackTraces = false) (G : GG) (h : AH) (a0 : Int32) (a1 : Int32) (a2 : Int32) (P : Int32 → AH → Prop) (hw : w_X5_isBetween a0 a1 a2 h P) : ct_i l yX5_isBetween (ws_ yX5_isBetween cX5_isBetween 3 (Option.some Jvm.ClassFile.FieldType.boolean)) rm_X5_isBetween G h [vI a0, vI a1, vI a2] P := by
  refine j_starti hlt [(0, vI a0), (1, vI a1), (2, vI a2)] (plainFor_of_name (by decide)) rfl rfl (fun x X eG er en hQ => ?_)
  subst eG
  refine j_iload_n X (pc := 0) 1 dX5_isBetween_0 rfl rfl ?_
  refine j_iload_n X (pc := 1) 0 dX5_isBetween_1 rfl rfl ?_
  refine j_icmp_gt X (pc := 2) 14 dX5_isBetween_2 (by decide) hw (fun hw => ?_) (fun hw => ?_)
  · refine j_iconst X (pc := 14) 0 dX5_isBetween_14 (by decide) ?_
    exact j_zret X (pc := 15) (ty := .boolean) hQ er rfl (Nat.le_of_ble_eq_true rfl) (Nat.le_of_ble_eq_true rfl) dX5_isBetween_15 hw
  · refine j_iload_n X (pc := 5) 0 dX5_isBetween_5 rfl rfl ?_
    refine j_iload_n X (pc := 6) 2 dX5_isBetween_6 rfl rfl ?_
    refine j_icmp_gt X (pc := 7) 14 dX5_isBetween_7 (by decide) hw (fun hw => ?_) (fun hw => ?_)
    · refine j_iconst X (pc := 14) 0 dX5_isBetween_14 (by decide) ?_
      exact j_zret X (pc := 15) (ty := .boolean) hQ er rfl (Nat.le_of_ble_eq_true rfl) (Nat.le_of_ble_eq_true rfl) dX5_isBetween_15 hw
    · refine j_iconst X (pc := 10) 1 dX5_isBetween_10 (by decide) ?_
      refine j_goto X (pc := 11) 15 dX5_isBetween_11 (by decide) ?_
      exact j_zret X (pc := 15) (ty := .boolean) hQ er rfl (Nat.le_of_ble_eq_true rfl) (Nat.le_of_ble_eq_true rfl) dX5_isBetween_15 hw
abbrev cX5_isUser : ByteArray := prog_19_method_6_code
def yX5_isUser : MethodName := ⟨RX5, "isUser", "(I)Z"⟩
def dkwX5_isUser_0 : List UInt8 := [26, 3, 5, 184, 0, 101, 172]
abbrev dktX5_isUser_0 : List UInt8 := dkwX5_isUser_0 ++ []
theorem dksX5_isUser_0 : cX5_isUser.data.toList.drop 0 = dktX5_isUser_0 := by decide +kernel
theorem dX5_isUser_0 : decode cX5_isUser 0 = .ok (.iload_n 0, 1) := dk_26 (dk_at dksX5_isUser_0 0 rfl rfl)
theorem dX5_isUser_1 : decode cX5_isUser 1 = .ok (.iconst 0, 1) := dk_3 (dk_at dksX5_isUser_0 1 rfl rfl)
theorem dX5_isUser_2 : decode cX5_isUser 2 = .ok (.iconst 2, 1) := dk_5 (dk_at dksX5_isUser_0 2 rfl rfl)
theorem dX5_isUser_3 : decode cX5_isUser 3 = .ok (.invokestatic 101, 3) := dk_184 0 101 (dk_at dksX5_isUser_0 3 rfl rfl)
theorem dX5_isUser_6 : decode cX5_isUser 6 = .ok (.ireturn, 1) := dk_172 (dk_at dksX5_isUser_0 6 rfl rfl)
theorem q78 : (Jvm.Cond.initialized "PlugboardModel") ∈ lw_all := lw_g (lw_at lw_m1 8 rfl) rfl
theorem q1981 : (Jvm.Cond.methodLink "PlugboardModel" (101 : Nat) ({ cls := "PlugboardModel", name := "isBetween", desc := "(III)Z" } : Jvm.MethodName)) ∈ lw_all := lw_g (lw_at lw_m8 231 rfl) rfl
theorem q1982 : (Jvm.Cond.static ({ cls := "PlugboardModel", name := "isBetween", desc := "(III)Z" } : Jvm.MethodName)) ∈ lw_all := lw_g (lw_at lw_m8 232 rfl) rfl
theorem q1983 : (Jvm.Cond.code ({ cls := "PlugboardModel", name := "isBetween", desc := "(III)Z" } : Jvm.MethodName) prog_19_method_5_code (3 : Nat) (Option.some Jvm.ClassFile.FieldType.boolean)) ∈ lw_all := lw_g (lw_at lw_m8 233 rfl) rfl
abbrev rm_X5_isUser : Room := { frames := 1, cells := 0, slots := 0, locals := 22 }
def w_X5_isUser (a0 : Int32) (h : AH) (P : Int32 → AH → Prop) : Prop :=
  w_X5_isBetween a0 0 2 h (fun y3 h3 =>
  nrw .boolean y3 ∧
  P y3 h3)
theorem met_X5_isUser (l : Launch) (hlt : l.stackTraces = false) (G : GG) (h : AH) (a0 : Int32) (P : Int32 → AH → Prop) (hw : w_X5_isUser a0 h P) : ct_i l yX5_isUser (ws_ yX5_isUser cX5_isUser 1 (Option.some Jvm.ClassFile.FieldType.boolean)) rm_X5_isUser G h [vI a0] P := by
  refine j_starti hlt [(0, vI a0)] (plainFor_of_name (by decide)) rfl rfl (fun x X eG er en hQ => ?_)
  subst eG
  refine j_iload_n X (pc := 0) 0 dX5_isUser_0 rfl rfl ?_
  refine j_iconst X (pc := 1) 0 dX5_isUser_1 (by decide) ?_
  refine j_iconst X (pc := 2) 2 dX5_isUser_2 (by decide) ?_
  refine j_calli (j_runS (n8 := 3) (As := [vI a0, vI 0, vI 2]) (rest := []) X (pc := 3) (met_X5_isBetween (xl x) X.hl (xG x) h a0 0 2 _ hw) q1981 q1982 q78 q1983 (by decide +kernel) dX5_isUser_3 rfl ⟨Nat.le_of_ble_eq_true rfl, Nat.le_of_ble_eq_true rfl⟩ (Nat.le_of_ble_eq_true rfl) ⟨Nat.le_of_ble_eq_true rfl, Nat.le_of_ble_eq_true rfl⟩) (fun y3 h3 hw => ?_)
  exact j_zret X (pc := 6) (ty := .boolean) hQ er hw.1.1 (Nat.le_of_ble_eq_true rfl) (Nat.le_of_ble_eq_true rfl) dX5_isUser_6 hw.2
abbrev cX5_isOnBoard : ByteArray := prog_19_method_26_code
def yX5_isOnBoard : MethodName := ⟨RX5, "isOnBoard", "(IIII)Z"⟩
def dkwX5_isOnBoard_1 : List UInt8 := [153, 0, 7, 4, 167, 0, 4, 3, 172]
abbrev dktX5_isOnBoard_1 : List UInt8 := dkwX5_isOnBoard_1 ++ []
def dkwX5_isOnBoard_0 : List UInt8 := [27, 3, 16, 24, 29, 100, 184, 0, 101, 153, 0, 20, 28, 3, 16, 16, 21, 4, 100, 184, 0, 101]
abbrev dktX5_isOnBoard_0 : List UInt8 := dkwX5_isOnBoard_0 ++ dktX5_isOnBoard_1
theorem dksX5_isOnBoard_0 : cX5_isOnBoard.data.toList.drop 0 = dktX5_isOnBoard_0 := by decide +kernel
theorem dksX5_isOnBoard_1 : cX5_isOnBoard.data.toList.drop 22 = dktX5_isOnBoard_1 := dk_seg dksX5_isOnBoard_0 22 rfl rfl
theorem dX5_isOnBoard_0 : decode cX5_isOnBoard 0 = .ok (.iload_n 1, 1) := dk_27 (dk_at dksX5_isOnBoard_0 0 rfl rfl)
theorem dX5_isOnBoard_1 : decode cX5_isOnBoard 1 = .ok (.iconst 0, 1) := dk_3 (dk_at dksX5_isOnBoard_0 1 rfl rfl)
theorem dX5_isOnBoard_2 : decode cX5_isOnBoard 2 = .ok (.bipush 24, 2) := dk_16 24 (dk_at dksX5_isOnBoard_0 2 rfl rfl)
theorem dX5_isOnBoard_4 : decode cX5_isOnBoard 4 = .ok (.iload_n 3, 1) := dk_29 (dk_at dksX5_isOnBoard_0 4 rfl rfl)
theorem dX5_isOnBoard_5 : decode cX5_isOnBoard 5 = .ok (.isub, 1) := dk_100 (dk_at dksX5_isOnBoard_0 5 rfl rfl)
theorem dX5_isOnBoard_6 : decode cX5_isOnBoard 6 = .ok (.invokestatic 101, 3) := dk_184 0 101 (dk_at dksX5_isOnBoard_0 6 rfl rfl)
theorem dX5_isOnBoard_9 : decode cX5_isOnBoard 9 = .ok (.ifCond .eq 20, 3) := dk_153 0 20 (dk_at dksX5_isOnBoard_0 9 rfl rfl)
theorem dX5_isOnBoard_12 : decode cX5_isOnBoard 12 = .ok (.iload_n 2, 1) := dk_28 (dk_at dksX5_isOnBoard_0 12 rfl rfl)
theorem dX5_isOnBoard_13 : decode cX5_isOnBoard 13 = .ok (.iconst 0, 1) := dk_3 (dk_at dksX5_isOnBoard_0 13 rfl rfl)
theorem dX5_isOnBoard_14 : decode cX5_isOnBoard 14 = .ok (.bipush 16, 2) := dk_16 16 (dk_at dksX5_isOnBoard_0 14 rfl rfl)
theorem dX5_isOnBoard_16 : decode cX5_isOnBoard 16 = .ok (.iload 4, 2) := dk_21 4 (dk_at dksX5_isOnBoard_0 16 rfl rfl)
theorem dX5_isOnBoard_18 : decode cX5_isOnBoard 18 = .ok (.isub, 1) := dk_100 (dk_at dksX5_isOnBoard_0 18 rfl rfl)
theorem dX5_isOnBoard_19 : decode cX5_isOnBoard 19 = .ok (.invokestatic 101, 3) := dk_184 0 101 (dk_at dksX5_isOnBoard_0 19 rfl rfl)
theorem dX5_isOnBoard_22 : decode cX5_isOnBoard 22 = .ok (.ifCond .eq 7, 3) := dk_153 0 7 (dk_at dksX5_isOnBoard_1 0 rfl rfl)
theorem dX5_isOnBoard_25 : decode cX5_isOnBoard 25 = .ok (.iconst 1, 1) := dk_4 (dk_at dksX5_isOnBoard_1 3 rfl rfl)
theorem dX5_isOnBoard_26 : decode cX5_isOnBoard 26 = .ok (.goto 4, 3) := dk_167 0 4 (dk_at dksX5_isOnBoard_1 4 rfl rfl)
theorem dX5_isOnBoard_29 : decode cX5_isOnBoard 29 = .ok (.iconst 0, 1) := dk_3 (dk_at dksX5_isOnBoard_1 7 rfl rfl)
theorem dX5_isOnBoard_30 : decode cX5_isOnBoard 30 = .ok (.ireturn, 1) := dk_172 (dk_at dksX5_isOnBoard_1 8 rfl rfl)
abbrev rm_X5_isOnBoard : Room := { frames := 1, cells := 0, slots := 0, locals := 22 }
def w_X5_isOnBoard (a0 : Option Nat) (a1 : Int32) (a2 : Int32) (a3 : Int32) (a4 : Int32) (h : AH) (P : Int32 → AH → Prop) : Prop :=
  w_X5_isBetween a1 0 (24 - a3) h (fun y6 h6 =>
  ((y6 = 0 →
    P 0 h6) ∧
   (¬ y6 = 0 →
    w_X5_isBetween a2 0 (16 - a4) h6 (fun y19 h19 =>
    ((y19 = 0 →
      P 0 h19) ∧
     (¬ y19 = 0 →
      P 1 h19))))))
theorem met_X5_isOnBoard (l : Launch) (hlt : l.stackTraces = false) (G : GG) (h : AH) (a0 : Option Nat) (a1 : Int32) (a2 : Int32) (a3 : Int32) (a4 : Int32) (P : Int32 → AH → Prop) (hw : w_X5_isOnBoard a0 a1 a2 a3 a4 h P) : ct_i l yX5_isOnBoard (ws_ yX5_isOnBoard cX5_isOnBoard 5 (Option.some Jvm.ClassFile.FieldType.boolean)) rm_X5_isOnBoard G h [vR a0, vI a1, vI a2, vI a3, vI a4] P := by
  refine j_starti hlt [(0, vR a0), (1, vI a1), (2, vI a2), (3, vI a3), (4, vI a4)] (plainFor_of_name (by decide)) rfl rfl (fun x X eG er en hQ => ?_)
  subst eG
  refine j_iload_n X (pc := 0) 1 dX5_isOnBoard_0 rfl rfl ?_
  refine j_iconst X (pc := 1) 0 dX5_isOnBoard_1 (by decide) ?_
  refine j_bipush X (pc := 2) 24 dX5_isOnBoard_2 (by decide) ?_
  refine j_iload_n X (pc := 4) 3 dX5_isOnBoard_4 rfl rfl ?_
  refine j_isub X (pc := 5) dX5_isOnBoard_5 ?_
  refine j_calli (j_runS (n8 := 3) (As := [vI a1, vI 0, vI (24 - a3)]) (rest := []) X (pc := 6) (met_X5_isBetween (xl x) X.hl (xG x) h a1 0 (24 - a3) _ hw) q1981 q1982 q78 q1983 (by decide +kernel) dX5_isOnBoard_6 rfl ⟨Nat.le_of_ble_eq_true rfl, Nat.le_of_ble_eq_true rfl⟩ (Nat.le_of_ble_eq_true rfl) ⟨Nat.le_of_ble_eq_true rfl, Nat.le_of_ble_eq_true rfl⟩) (fun y6 h6 hw => ?_)
  refine j_if_eq X (pc := 9) 29 dX5_isOnBoard_9 (by decide) hw (fun hw => ?_) (fun hw => ?_)
  · refine j_iconst X (pc := 29) 0 dX5_isOnBoard_29 (by decide) ?_
    exact j_zret X (pc := 30) (ty := .boolean) hQ er rfl (Nat.le_of_ble_eq_true rfl) (Nat.le_of_ble_eq_true rfl) dX5_isOnBoard_30 hw
  · refine j_iload_n X (pc := 12) 2 dX5_isOnBoard_12 rfl rfl ?_
    refine j_iconst X (pc := 13) 0 dX5_isOnBoard_13 (by decide) ?_
    refine j_bipush X (pc := 14) 16 dX5_isOnBoard_14 (by decide) ?_
    refine j_iload X (pc := 16) 4 dX5_isOnBoard_16 rfl ?_
    refine j_isub X (pc := 18) dX5_isOnBoard_18 ?_
    refine j_calli (j_runS (n8 := 3) (As := [vI a2, vI 0, vI (16 - a4)]) (rest := []) X (pc := 19) (met_X5_isBetween (xl x) X.hl (xG x) h6 a2 0 (16 - a4) _ hw) q1981 q1982 q78 q1983 (by decide +kernel) dX5_isOnBoard_19 rfl ⟨Nat.le_of_ble_eq_true rfl, Nat.le_of_ble_eq_true rfl⟩ (Nat.le_of_ble_eq_true rfl) ⟨Nat.le_of_ble_eq_true rfl, Nat.le_of_ble_eq_true rfl⟩) (fun y19 h19 hw => ?_)
    refine j_if_eq X (pc := 22) 29 dX5_isOnBoard_22 (by decide) hw (fun hw => ?_) (fun hw => ?_)
    · refine j_iconst X (pc := 29) 0 dX5_isOnBoard_29 (by decide) ?_
      exact j_zret X (pc := 30) (ty := .boolean) hQ er rfl (Nat.le_of_ble_eq_true rfl) (Nat.le_of_ble_eq_true rfl) dX5_isOnBoard_30 hw
    · refine j_iconst X (pc := 25) 1 dX5_isOnBoard_25 (by decide) ?_
      refine j_goto X (pc := 26) 30 dX5_isOnBoard_26 (by decide) ?_
      exact j_zret X (pc := 30) (ty := .boolean) hQ er rfl (Nat.le_of_ble_eq_true rfl) (Nat.le_of_ble_eq_true rfl) dX5_isOnBoard_30 hw
abbrev cX5_fails : ByteArray := prog_19_method_3_code
def yX5_fails : MethodName := ⟨RX5, "fails", "(I)I"⟩
def dkwX5_fails_0 : List UInt8 := [42, 27, 181, 0, 97, 3, 172]
abbrev dktX5_fails_0 : List UInt8 := dkwX5_fails_0 ++ []
theorem dksX5_fails_0 : cX5_fails.data.toList.drop 0 = dktX5_fails_0 := by decide +kernel
theorem dX5_fails_0 : decode cX5_fails 0 = .ok (.aload_n 0, 1) := dk_42 (dk_at dksX5_fails_0 0 rfl rfl)
theorem dX5_fails_1 : decode cX5_fails 1 = .ok (.iload_n 1, 1) := dk_27 (dk_at dksX5_fails_0 1 rfl rfl)
theorem dX5_fails_2 : decode cX5_fails 2 = .ok (.putfield 97, 3) := dk_181 0 97 (dk_at dksX5_fails_0 2 rfl rfl)
theorem dX5_fails_5 : decode cX5_fails 5 = .ok (.iconst 0, 1) := dk_3 (dk_at dksX5_fails_0 5 rfl rfl)
theorem dX5_fails_6 : decode cX5_fails 6 = .ok (.ireturn, 1) := dk_172 (dk_at dksX5_fails_0 6 rfl rfl)
theorem q1872 : (Jvm.Cond.fieldLink "PlugboardModel" (97 : Nat) "PlugboardModel" "thrown" "I") ∈ lw_all := lw_g (lw_at lw_m8 122 rfl) rfl
abbrev rm_X5_fails : Room := { frames := 0, cells := 0, slots := 0, locals := 0 }
def w_X5_fails (a0 : Option Nat) (a1 : Int32) (h : AH) (P : Int32 → AH → Prop) : Prop :=
  p_v h a0 4 0 (vI a1) fun h2 =>
  P 0 h2
theorem met_X5_fails (l : Launch) (hlt : l.stackTraces = false) (G : GG) (h : AH) (a0 : Option Nat) (a1 : Int32) (P : Int32 → AH → Prop) (hw : w_X5_fails a0 a1 h P) : ct_i l yX5_fails (ws_ yX5_fails cX5_fails 2 (Option.some Jvm.ClassFile.FieldType.int)) rm_X5_fails G h [vR a0, vI a1] P := by
  refine j_starti hlt [(0, vR a0), (1, vI a1)] (plainFor_of_name (by decide)) rfl rfl (fun x X eG er en hQ => ?_)
  subst eG
  refine j_aload_n X (pc := 0) 0 dX5_fails_0 rfl rfl ?_
  refine j_iload_n X (pc := 1) 1 dX5_fails_1 rfl rfl ?_
  refine j_put (ci := 4) X (pc := 2) in_X5 rfl (by decide) 0 (by decide) q1872 (Or.inl rfl) tyX5 tyX5_ok nmX5 rfl rfl (ty := .int) (tyX5_ok 0 (by decide)) rfl rfl dX5_fails_2 hw (fun h2 hw => ?_)
  refine j_iconst X (pc := 5) 0 dX5_fails_5 (by decide) ?_
  exact j_iret X (pc := 6) hQ er (Nat.le_of_ble_eq_true rfl) (Nat.le_of_ble_eq_true rfl) dX5_fails_6 hw
abbrev cX5_empties : ByteArray := prog_19_method_8_code
def yX5_empties : MethodName := ⟨RX5, "empties", "()V"⟩
def dkwX5_empties_2 : List UInt8 := [167, 255, 211, 177]
abbrev dktX5_empties_2 : List UInt8 := dkwX5_empties_2 ++ []
def dkwX5_empties_1 : List UInt8 := [2, 167, 0, 4, 3, 79, 42, 180, 0, 70, 27, 2, 79, 42, 180, 0, 73, 27, 2, 79, 132, 1, 1]
abbrev dktX5_empties_1 : List UInt8 := dkwX5_empties_1 ++ dktX5_empties_2
def dkwX5_empties_0 : List UInt8 := [3, 60, 27, 16, 93, 162, 0, 45, 42, 180, 0, 67, 27, 27, 16, 36, 16, 47, 184, 0, 101, 153, 0, 7]
abbrev dktX5_empties_0 : List UInt8 := dkwX5_empties_0 ++ dktX5_empties_1
theorem dksX5_empties_0 : cX5_empties.data.toList.drop 0 = dktX5_empties_0 := by decide +kernel
theorem dksX5_empties_1 : cX5_empties.data.toList.drop 24 = dktX5_empties_1 := dk_seg dksX5_empties_0 24 rfl rfl
theorem dksX5_empties_2 : cX5_empties.data.toList.drop 47 = dktX5_empties_2 := dk_seg dksX5_empties_1 23 rfl rfl
theorem dX5_empties_0 : decode cX5_empties 0 = .ok (.iconst 0, 1) := dk_3 (dk_at dksX5_empties_0 0 rfl rfl)
theorem dX5_empties_1 : decode cX5_empties 1 = .ok (.istore_n 1, 1) := dk_60 (dk_at dksX5_empties_0 1 rfl rfl)
theorem dX5_empties_2 : decode cX5_empties 2 = .ok (.iload_n 1, 1) := dk_27 (dk_at dksX5_empties_0 2 rfl rfl)
theorem dX5_empties_3 : decode cX5_empties 3 = .ok (.bipush 93, 2) := dk_16 93 (dk_at dksX5_empties_0 3 rfl rfl)
theorem dX5_empties_5 : decode cX5_empties 5 = .ok (.if_icmp .ge 45, 3) := dk_162 0 45 (dk_at dksX5_empties_0 5 rfl rfl)
theorem dX5_empties_8 : decode cX5_empties 8 = .ok (.aload_n 0, 1) := dk_42 (dk_at dksX5_empties_0 8 rfl rfl)
theorem dX5_empties_9 : decode cX5_empties 9 = .ok (.getfield 67, 3) := dk_180 0 67 (dk_at dksX5_empties_0 9 rfl rfl)
theorem dX5_empties_12 : decode cX5_empties 12 = .ok (.iload_n 1, 1) := dk_27 (dk_at dksX5_empties_0 12 rfl rfl)
theorem dX5_empties_13 : decode cX5_empties 13 = .ok (.iload_n 1, 1) := dk_27 (dk_at dksX5_empties_0 13 rfl rfl)
theorem dX5_empties_14 : decode cX5_empties 14 = .ok (.bipush 36, 2) := dk_16 36 (dk_at dksX5_empties_0 14 rfl rfl)
theorem dX5_empties_16 : decode cX5_empties 16 = .ok (.bipush 47, 2) := dk_16 47 (dk_at dksX5_empties_0 16 rfl rfl)
theorem dX5_empties_18 : decode cX5_empties 18 = .ok (.invokestatic 101, 3) := dk_184 0 101 (dk_at dksX5_empties_0 18 rfl rfl)
theorem dX5_empties_21 : decode cX5_empties 21 = .ok (.ifCond .eq 7, 3) := dk_153 0 7 (dk_at dksX5_empties_0 21 rfl rfl)
theorem dX5_empties_24 : decode cX5_empties 24 = .ok (.iconst (-1), 1) := dk_2 (dk_at dksX5_empties_1 0 rfl rfl)
theorem dX5_empties_25 : decode cX5_empties 25 = .ok (.goto 4, 3) := dk_167 0 4 (dk_at dksX5_empties_1 1 rfl rfl)
theorem dX5_empties_28 : decode cX5_empties 28 = .ok (.iconst 0, 1) := dk_3 (dk_at dksX5_empties_1 4 rfl rfl)
theorem dX5_empties_29 : decode cX5_empties 29 = .ok (.iastore, 1) := dk_79 (dk_at dksX5_empties_1 5 rfl rfl)
theorem dX5_empties_30 : decode cX5_empties 30 = .ok (.aload_n 0, 1) := dk_42 (dk_at dksX5_empties_1 6 rfl rfl)
theorem dX5_empties_31 : decode cX5_empties 31 = .ok (.getfield 70, 3) := dk_180 0 70 (dk_at dksX5_empties_1 7 rfl rfl)
theorem dX5_empties_34 : decode cX5_empties 34 = .ok (.iload_n 1, 1) := dk_27 (dk_at dksX5_empties_1 10 rfl rfl)
theorem dX5_empties_35 : decode cX5_empties 35 = .ok (.iconst (-1), 1) := dk_2 (dk_at dksX5_empties_1 11 rfl rfl)
theorem dX5_empties_36 : decode cX5_empties 36 = .ok (.iastore, 1) := dk_79 (dk_at dksX5_empties_1 12 rfl rfl)
theorem dX5_empties_37 : decode cX5_empties 37 = .ok (.aload_n 0, 1) := dk_42 (dk_at dksX5_empties_1 13 rfl rfl)
theorem dX5_empties_38 : decode cX5_empties 38 = .ok (.getfield 73, 3) := dk_180 0 73 (dk_at dksX5_empties_1 14 rfl rfl)
theorem dX5_empties_41 : decode cX5_empties 41 = .ok (.iload_n 1, 1) := dk_27 (dk_at dksX5_empties_1 17 rfl rfl)
theorem dX5_empties_42 : decode cX5_empties 42 = .ok (.iconst (-1), 1) := dk_2 (dk_at dksX5_empties_1 18 rfl rfl)
theorem dX5_empties_43 : decode cX5_empties 43 = .ok (.iastore, 1) := dk_79 (dk_at dksX5_empties_1 19 rfl rfl)
theorem dX5_empties_44 : decode cX5_empties 44 = .ok (.iinc 1 1, 3) := dk_132 1 1 (dk_at dksX5_empties_1 20 rfl rfl)
theorem dX5_empties_47 : decode cX5_empties 47 = .ok (.goto (-45), 3) := dk_167 255 211 (dk_at dksX5_empties_2 0 rfl rfl)
theorem dX5_empties_50 : decode cX5_empties 50 = .ok (.return_, 1) := dk_177 (dk_at dksX5_empties_2 3 rfl rfl)
abbrev rm_X5_empties : Room := { frames := 1, cells := 0, slots := 0, locals := 22 }
def w_X5_empties_29 (P : AH → Prop) (Z2 : Int32 → AH → Prop) (x0 : Option Nat) (x1 : Int32) (t0 : Int32) (t1 : Int32) (t2 : Option Nat) (h : AH) : Prop :=
  s_i h t2 0 t1 t0 fun h29 =>
  g_q h29 x0 4 22 fun y31 =>
  s_i h29 y31 0 x1 (-1) fun h36 =>
  g_q h36 x0 4 23 fun y38 =>
  s_i h36 y38 0 x1 (-1) fun h43 =>
  Z2 (x1 + 1) h43
def w_X5_empties_2 (P : AH → Prop) (x0 : Option Nat) (x1 : Int32) (h : AH) : Prop :=
  ∀ Z2 : Int32 → AH → Prop, (∀ x1 h, (
      ((93 ≤ x1 →
        P h) ∧
       (¬ 93 ≤ x1 →
        g_q h x0 4 21 fun y9 =>
        w_X5_isBetween x1 36 47 h (fun y18 h18 =>
        ((y18 = 0 →
          w_X5_empties_29 P Z2 x0 x1 0 x1 y9 h18) ∧
         (¬ y18 = 0 →
          w_X5_empties_29 P Z2 x0 x1 (-1) x1 y9 h18))))))
      → Z2 x1 h) → Z2 x1 h
def w_X5_empties (a0 : Option Nat) (h : AH) (P : AH → Prop) : Prop :=
  w_X5_empties_2 P a0 0 h
theorem wk_X5_empties_29 {x : CX} (X : Ok x cX5_empties RX5 rm_X5_empties 2) (er : xrt x = (Option.none : Option Jvm.ClassFile.FieldType)) (en : xnm x = yX5_empties.name) {P : AH → Prop} (hQ : xr_v x P) (Z2 : Int32 → AH → Prop) (x0 : Option Nat) (x1 : Int32) (t0 : Int32) (t1 : Int32) (t2 : Option Nat) (h : AH) (hZ2 : ∀ x1 h, Z2 x1 h → J x h 0 0 2 [(0, vR x0), (1, vI x1)] []) (hw : w_X5_empties_29 P Z2 x0 x1 t0 t1 t2 h) : J x h 0 0 29 [(0, vR x0), (1, vI x1)] [vI t0, vI t1, vR t2] := by
  refine j_iast X (pc := 29) 0 rfl rfl dX5_empties_29 hw (fun h29 hw => ?_)
  refine j_aload_n X (pc := 30) 0 dX5_empties_30 rfl rfl ?_
  refine j_getq (ci := 4) X (pc := 31) in_X5 rfl (by decide) 22 (by decide) q1894 (Or.inl rfl) dX5_empties_31 hw (fun y31 hw => ?_)
  refine j_iload_n X (pc := 34) 1 dX5_empties_34 rfl rfl ?_
  refine j_iconst X (pc := 35) (-1) dX5_empties_35 (by decide) ?_
  refine j_iast X (pc := 36) 0 rfl rfl dX5_empties_36 hw (fun h36 hw => ?_)
  refine j_aload_n X (pc := 37) 0 dX5_empties_37 rfl rfl ?_
  refine j_getq (ci := 4) X (pc := 38) in_X5 rfl (by decide) 23 (by decide) q1895 (Or.inl rfl) dX5_empties_38 hw (fun y38 hw => ?_)
  refine j_iload_n X (pc := 41) 1 dX5_empties_41 rfl rfl ?_
  refine j_iconst X (pc := 42) (-1) dX5_empties_42 (by decide) ?_
  refine j_iast X (pc := 43) 0 rfl rfl dX5_empties_43 hw (fun h43 hw => ?_)
  refine j_iinc X (pc := 44) 1 (x1 + 1) [(1, vI (x1 + 1)), (0, vR x0)] dX5_empties_44 rfl rfl (Nat.le_of_ble_eq_true rfl) rfl ?_
  refine j_goto X (pc := 47) 2 dX5_empties_47 (by decide) ?_
  refine j_lv [(0, vR x0), (1, vI (x1 + 1))] [1, 0] rfl ?_
  refine j_cs (u' := 0) (v' := 0) (Nat.le_of_ble_eq_true rfl) (Nat.le_of_ble_eq_true rfl) ?_
  exact hZ2 (x1 + 1) h43 hw
theorem wk_X5_empties_2 {x : CX} (X : Ok x cX5_empties RX5 rm_X5_empties 2) (er : xrt x = (Option.none : Option Jvm.ClassFile.FieldType)) (en : xnm x = yX5_empties.name) {P : AH → Prop} (hQ : xr_v x P) (x0 : Option Nat) (x1 : Int32) (h : AH) (hw : w_X5_empties_2 P x0 x1 h) : J x h 0 0 2 [(0, vR x0), (1, vI x1)] [] := by
  refine hw (fun x1 h => J x h 0 0 2 [(0, vR x0), (1, vI x1)] []) (fun x1 h hw => ?_)
  refine j_iload_n X (pc := 2) 1 dX5_empties_2 rfl rfl ?_
  refine j_bipush X (pc := 3) 93 dX5_empties_3 (by decide) ?_
  refine j_icmp_ge X (pc := 5) 50 dX5_empties_5 (by decide) hw (fun hw => ?_) (fun hw => ?_)
  · exact j_vret X (pc := 50) hQ er (Nat.le_of_ble_eq_true rfl) (Nat.le_of_ble_eq_true rfl) dX5_empties_50 hw
  · refine j_aload_n X (pc := 8) 0 dX5_empties_8 rfl rfl ?_
    refine j_getq (ci := 4) X (pc := 9) in_X5 rfl (by decide) 21 (by decide) q1893 (Or.inl rfl) dX5_empties_9 hw (fun y9 hw => ?_)
    refine j_iload_n X (pc := 12) 1 dX5_empties_12 rfl rfl ?_
    refine j_iload_n X (pc := 13) 1 dX5_empties_13 rfl rfl ?_
    refine j_bipush X (pc := 14) 36 dX5_empties_14 (by decide) ?_
    refine j_bipush X (pc := 16) 47 dX5_empties_16 (by decide) ?_
    refine j_calli (j_runS (n8 := 3) (As := [vI x1, vI 36, vI 47]) (rest := [vI x1, vR y9]) X (pc := 18) (met_X5_isBetween (xl x) X.hl (xG x) h x1 36 47 _ hw) q1981 q1982 q78 q1983 (by decide +kernel) dX5_empties_18 rfl ⟨Nat.le_of_ble_eq_true rfl, Nat.le_of_ble_eq_true rfl⟩ (Nat.le_of_ble_eq_true rfl) ⟨Nat.le_of_ble_eq_true rfl, Nat.le_of_ble_eq_true rfl⟩) (fun y18 h18 hw => ?_)
    refine j_if_eq X (pc := 21) 28 dX5_empties_21 (by decide) hw (fun hw => ?_) (fun hw => ?_)
    · refine j_iconst X (pc := 28) 0 dX5_empties_28 (by decide) ?_
      refine j_cs (u' := 0) (v' := 0) (Nat.le_of_ble_eq_true rfl) (Nat.le_of_ble_eq_true rfl) ?_
      exact wk_X5_empties_29 X er en hQ _ x0 x1 0 x1 y9 h18 (fun x1_ h_ hz => hz) hw
    · refine j_iconst X (pc := 24) (-1) dX5_empties_24 (by decide) ?_
      refine j_goto X (pc := 25) 29 dX5_empties_25 (by decide) ?_
      refine j_cs (u' := 0) (v' := 0) (Nat.le_of_ble_eq_true rfl) (Nat.le_of_ble_eq_true rfl) ?_
      exact wk_X5_empties_29 X er en hQ _ x0 x1 (-1) x1 y9 h18 (fun x1_ h_ hz => hz) hw
theorem met_X5_empties (l : Launch) (hlt : l.stackTraces = false) (G : GG) (h : AH) (a0 : Option Nat) (P : AH → Prop) (hw : w_X5_empties a0 h P) : ct_v l yX5_empties (ws_ yX5_empties cX5_empties 2 (Option.none : Option Jvm.ClassFile.FieldType)) rm_X5_empties G h [vR a0] P := by
  refine j_startv hlt [(0, vR a0)] (plainFor_of_name (by decide)) rfl rfl (fun x X eG er en hQ => ?_)
  subst eG
  refine j_iconst X (pc := 0) 0 dX5_empties_0 (by decide) ?_
  refine j_istore_n X (pc := 1) [(1, vI 0), (0, vR a0)] dX5_empties_1 rfl (Nat.le_of_ble_eq_true rfl) rfl ?_
  refine j_lv [(0, vR a0), (1, vI 0)] [1, 0] rfl ?_
  refine j_cs (u' := 0) (v' := 0) (Nat.le_of_ble_eq_true rfl) (Nat.le_of_ble_eq_true rfl) ?_
  exact wk_X5_empties_2 X er en hQ a0 0 h hw
abbrev cX5_isLater : ByteArray := prog_19_method_7_code
def yX5_isLater : MethodName := ⟨RX5, "isLater", "(II)Z"⟩
def dkwX5_isLater_2 : List UInt8 := [164, 0, 7, 4, 167, 0, 4, 3, 172]
abbrev dktX5_isLater_2 : List UInt8 := dkwX5_isLater_2 ++ []
def dkwX5_isLater_1 : List UInt8 := [27, 46, 42, 180, 0, 36, 28, 46, 160, 0, 22, 42, 180, 0, 33, 27, 46, 42, 180, 0, 33, 28, 46]
abbrev dktX5_isLater_1 : List UInt8 := dkwX5_isLater_1 ++ dktX5_isLater_2
def dkwX5_isLater_0 : List UInt8 := [28, 2, 159, 0, 48, 42, 180, 0, 36, 27, 46, 42, 180, 0, 36, 28, 46, 163, 0, 33, 42, 180, 0, 36]
abbrev dktX5_isLater_0 : List UInt8 := dkwX5_isLater_0 ++ dktX5_isLater_1
theorem dksX5_isLater_0 : cX5_isLater.data.toList.drop 0 = dktX5_isLater_0 := by decide +kernel
theorem dksX5_isLater_1 : cX5_isLater.data.toList.drop 24 = dktX5_isLater_1 := dk_seg dksX5_isLater_0 24 rfl rfl
theorem dksX5_isLater_2 : cX5_isLater.data.toList.drop 47 = dktX5_isLater_2 := dk_seg dksX5_isLater_1 23 rfl rfl
theorem dX5_isLater_0 : decode cX5_isLater 0 = .ok (.iload_n 2, 1) := dk_28 (dk_at dksX5_isLater_0 0 rfl rfl)
theorem dX5_isLater_1 : decode cX5_isLater 1 = .ok (.iconst (-1), 1) := dk_2 (dk_at dksX5_isLater_0 1 rfl rfl)
theorem dX5_isLater_2 : decode cX5_isLater 2 = .ok (.if_icmp .eq 48, 3) := dk_159 0 48 (dk_at dksX5_isLater_0 2 rfl rfl)
theorem dX5_isLater_5 : decode cX5_isLater 5 = .ok (.aload_n 0, 1) := dk_42 (dk_at dksX5_isLater_0 5 rfl rfl)
theorem dX5_isLater_6 : decode cX5_isLater 6 = .ok (.getfield 36, 3) := dk_180 0 36 (dk_at dksX5_isLater_0 6 rfl rfl)
theorem dX5_isLater_9 : decode cX5_isLater 9 = .ok (.iload_n 1, 1) := dk_27 (dk_at dksX5_isLater_0 9 rfl rfl)
theorem dX5_isLater_10 : decode cX5_isLater 10 = .ok (.iaload, 1) := dk_46 (dk_at dksX5_isLater_0 10 rfl rfl)
theorem dX5_isLater_11 : decode cX5_isLater 11 = .ok (.aload_n 0, 1) := dk_42 (dk_at dksX5_isLater_0 11 rfl rfl)
theorem dX5_isLater_12 : decode cX5_isLater 12 = .ok (.getfield 36, 3) := dk_180 0 36 (dk_at dksX5_isLater_0 12 rfl rfl)
theorem dX5_isLater_15 : decode cX5_isLater 15 = .ok (.iload_n 2, 1) := dk_28 (dk_at dksX5_isLater_0 15 rfl rfl)
theorem dX5_isLater_16 : decode cX5_isLater 16 = .ok (.iaload, 1) := dk_46 (dk_at dksX5_isLater_0 16 rfl rfl)
theorem dX5_isLater_17 : decode cX5_isLater 17 = .ok (.if_icmp .gt 33, 3) := dk_163 0 33 (dk_at dksX5_isLater_0 17 rfl rfl)
theorem dX5_isLater_20 : decode cX5_isLater 20 = .ok (.aload_n 0, 1) := dk_42 (dk_at dksX5_isLater_0 20 rfl rfl)
theorem dX5_isLater_21 : decode cX5_isLater 21 = .ok (.getfield 36, 3) := dk_180 0 36 (dk_at dksX5_isLater_0 21 rfl rfl)
theorem dX5_isLater_24 : decode cX5_isLater 24 = .ok (.iload_n 1, 1) := dk_27 (dk_at dksX5_isLater_1 0 rfl rfl)
theorem dX5_isLater_25 : decode cX5_isLater 25 = .ok (.iaload, 1) := dk_46 (dk_at dksX5_isLater_1 1 rfl rfl)
theorem dX5_isLater_26 : decode cX5_isLater 26 = .ok (.aload_n 0, 1) := dk_42 (dk_at dksX5_isLater_1 2 rfl rfl)
theorem dX5_isLater_27 : decode cX5_isLater 27 = .ok (.getfield 36, 3) := dk_180 0 36 (dk_at dksX5_isLater_1 3 rfl rfl)
theorem dX5_isLater_30 : decode cX5_isLater 30 = .ok (.iload_n 2, 1) := dk_28 (dk_at dksX5_isLater_1 6 rfl rfl)
theorem dX5_isLater_31 : decode cX5_isLater 31 = .ok (.iaload, 1) := dk_46 (dk_at dksX5_isLater_1 7 rfl rfl)
theorem dX5_isLater_32 : decode cX5_isLater 32 = .ok (.if_icmp .ne 22, 3) := dk_160 0 22 (dk_at dksX5_isLater_1 8 rfl rfl)
theorem dX5_isLater_35 : decode cX5_isLater 35 = .ok (.aload_n 0, 1) := dk_42 (dk_at dksX5_isLater_1 11 rfl rfl)
theorem dX5_isLater_36 : decode cX5_isLater 36 = .ok (.getfield 33, 3) := dk_180 0 33 (dk_at dksX5_isLater_1 12 rfl rfl)
theorem dX5_isLater_39 : decode cX5_isLater 39 = .ok (.iload_n 1, 1) := dk_27 (dk_at dksX5_isLater_1 15 rfl rfl)
theorem dX5_isLater_40 : decode cX5_isLater 40 = .ok (.iaload, 1) := dk_46 (dk_at dksX5_isLater_1 16 rfl rfl)
theorem dX5_isLater_41 : decode cX5_isLater 41 = .ok (.aload_n 0, 1) := dk_42 (dk_at dksX5_isLater_1 17 rfl rfl)
theorem dX5_isLater_42 : decode cX5_isLater 42 = .ok (.getfield 33, 3) := dk_180 0 33 (dk_at dksX5_isLater_1 18 rfl rfl)
theorem dX5_isLater_45 : decode cX5_isLater 45 = .ok (.iload_n 2, 1) := dk_28 (dk_at dksX5_isLater_1 21 rfl rfl)
theorem dX5_isLater_46 : decode cX5_isLater 46 = .ok (.iaload, 1) := dk_46 (dk_at dksX5_isLater_1 22 rfl rfl)
theorem dX5_isLater_47 : decode cX5_isLater 47 = .ok (.if_icmp .le 7, 3) := dk_164 0 7 (dk_at dksX5_isLater_2 0 rfl rfl)
theorem dX5_isLater_50 : decode cX5_isLater 50 = .ok (.iconst 1, 1) := dk_4 (dk_at dksX5_isLater_2 3 rfl rfl)
theorem dX5_isLater_51 : decode cX5_isLater 51 = .ok (.goto 4, 3) := dk_167 0 4 (dk_at dksX5_isLater_2 4 rfl rfl)
theorem dX5_isLater_54 : decode cX5_isLater 54 = .ok (.iconst 0, 1) := dk_3 (dk_at dksX5_isLater_2 7 rfl rfl)
theorem dX5_isLater_55 : decode cX5_isLater 55 = .ok (.ireturn, 1) := dk_172 (dk_at dksX5_isLater_2 8 rfl rfl)
abbrev rm_X5_isLater : Room := { frames := 0, cells := 0, slots := 0, locals := 0 }
def w_X5_isLater (a0 : Option Nat) (a1 : Int32) (a2 : Int32) (h : AH) (P : Int32 → AH → Prop) : Prop :=
  ((a2 = (-1) →
    P 1 h) ∧
   (¬ a2 = (-1) →
    g_q h a0 4 11 fun y6 =>
    l_i h y6 0 a1 fun y10 =>
    g_q h a0 4 11 fun y12 =>
    l_i h y12 0 a2 fun y16 =>
    ((y16 < y10 →
      P 1 h) ∧
     (¬ y16 < y10 →
      g_q h a0 4 11 fun y21 =>
      l_i h y21 0 a1 fun y25 =>
      g_q h a0 4 11 fun y27 =>
      l_i h y27 0 a2 fun y31 =>
      ((y25 = y31 →
        g_q h a0 4 10 fun y36 =>
        l_i h y36 0 a1 fun y40 =>
        g_q h a0 4 10 fun y42 =>
        l_i h y42 0 a2 fun y46 =>
        ((y40 ≤ y46 →
          P 0 h) ∧
         (¬ y40 ≤ y46 →
          P 1 h))) ∧
       (¬ y25 = y31 →
        P 0 h))))))
theorem met_X5_isLater (l : Launch) (hlt : l.stackTraces = false) (G : GG) (h : AH) (a0 : Option Nat) (a1 : Int32) (a2 : Int32) (P : Int32 → AH → Prop) (hw : w_X5_isLater a0 a1 a2 h P) : ct_i l yX5_isLater (ws_ yX5_isLater cX5_isLater 3 (Option.some Jvm.ClassFile.FieldType.boolean)) rm_X5_isLater G h [vR a0, vI a1, vI a2] P := by
  refine j_starti hlt [(0, vR a0), (1, vI a1), (2, vI a2)] (plainFor_of_name (by decide)) rfl rfl (fun x X eG er en hQ => ?_)
  subst eG
  refine j_iload_n X (pc := 0) 2 dX5_isLater_0 rfl rfl ?_
  refine j_iconst X (pc := 1) (-1) dX5_isLater_1 (by decide) ?_
  refine j_icmp_eq X (pc := 2) 50 dX5_isLater_2 (by decide) hw (fun hw => ?_) (fun hw => ?_)
  · refine j_iconst X (pc := 50) 1 dX5_isLater_50 (by decide) ?_
    refine j_goto X (pc := 51) 55 dX5_isLater_51 (by decide) ?_
    exact j_zret X (pc := 55) (ty := .boolean) hQ er rfl (Nat.le_of_ble_eq_true rfl) (Nat.le_of_ble_eq_true rfl) dX5_isLater_55 hw
  · refine j_aload_n X (pc := 5) 0 dX5_isLater_5 rfl rfl ?_
    refine j_getq (ci := 4) X (pc := 6) in_X5 rfl (by decide) 11 (by decide) q1883 (Or.inl rfl) dX5_isLater_6 hw (fun y6 hw => ?_)
    refine j_iload_n X (pc := 9) 1 dX5_isLater_9 rfl rfl ?_
    refine j_iald X (pc := 10) 0 rfl dX5_isLater_10 hw (fun y10 hw => ?_)
    refine j_aload_n X (pc := 11) 0 dX5_isLater_11 rfl rfl ?_
    refine j_getq (ci := 4) X (pc := 12) in_X5 rfl (by decide) 11 (by decide) q1883 (Or.inl rfl) dX5_isLater_12 hw (fun y12 hw => ?_)
    refine j_iload_n X (pc := 15) 2 dX5_isLater_15 rfl rfl ?_
    refine j_iald X (pc := 16) 0 rfl dX5_isLater_16 hw (fun y16 hw => ?_)
    refine j_icmp_gt X (pc := 17) 50 dX5_isLater_17 (by decide) hw (fun hw => ?_) (fun hw => ?_)
    · refine j_iconst X (pc := 50) 1 dX5_isLater_50 (by decide) ?_
      refine j_goto X (pc := 51) 55 dX5_isLater_51 (by decide) ?_
      exact j_zret X (pc := 55) (ty := .boolean) hQ er rfl (Nat.le_of_ble_eq_true rfl) (Nat.le_of_ble_eq_true rfl) dX5_isLater_55 hw
    · refine j_aload_n X (pc := 20) 0 dX5_isLater_20 rfl rfl ?_
      refine j_getq (ci := 4) X (pc := 21) in_X5 rfl (by decide) 11 (by decide) q1883 (Or.inl rfl) dX5_isLater_21 hw (fun y21 hw => ?_)
      refine j_iload_n X (pc := 24) 1 dX5_isLater_24 rfl rfl ?_
      refine j_iald X (pc := 25) 0 rfl dX5_isLater_25 hw (fun y25 hw => ?_)
      refine j_aload_n X (pc := 26) 0 dX5_isLater_26 rfl rfl ?_
      refine j_getq (ci := 4) X (pc := 27) in_X5 rfl (by decide) 11 (by decide) q1883 (Or.inl rfl) dX5_isLater_27 hw (fun y27 hw => ?_)
      refine j_iload_n X (pc := 30) 2 dX5_isLater_30 rfl rfl ?_
      refine j_iald X (pc := 31) 0 rfl dX5_isLater_31 hw (fun y31 hw => ?_)
      refine j_icmp_ne X (pc := 32) 54 dX5_isLater_32 (by decide) hw (fun hw => ?_) (fun hw => ?_)
      · refine j_aload_n X (pc := 35) 0 dX5_isLater_35 rfl rfl ?_
        refine j_getq (ci := 4) X (pc := 36) in_X5 rfl (by decide) 10 (by decide) q1882 (Or.inl rfl) dX5_isLater_36 hw (fun y36 hw => ?_)
        refine j_iload_n X (pc := 39) 1 dX5_isLater_39 rfl rfl ?_
        refine j_iald X (pc := 40) 0 rfl dX5_isLater_40 hw (fun y40 hw => ?_)
        refine j_aload_n X (pc := 41) 0 dX5_isLater_41 rfl rfl ?_
        refine j_getq (ci := 4) X (pc := 42) in_X5 rfl (by decide) 10 (by decide) q1882 (Or.inl rfl) dX5_isLater_42 hw (fun y42 hw => ?_)
        refine j_iload_n X (pc := 45) 2 dX5_isLater_45 rfl rfl ?_
        refine j_iald X (pc := 46) 0 rfl dX5_isLater_46 hw (fun y46 hw => ?_)
        refine j_icmp_le X (pc := 47) 54 dX5_isLater_47 (by decide) hw (fun hw => ?_) (fun hw => ?_)
        · refine j_iconst X (pc := 54) 0 dX5_isLater_54 (by decide) ?_
          exact j_zret X (pc := 55) (ty := .boolean) hQ er rfl (Nat.le_of_ble_eq_true rfl) (Nat.le_of_ble_eq_true rfl) dX5_isLater_55 hw
        · refine j_iconst X (pc := 50) 1 dX5_isLater_50 (by decide) ?_
          refine j_goto X (pc := 51) 55 dX5_isLater_51 (by decide) ?_
          exact j_zret X (pc := 55) (ty := .boolean) hQ er rfl (Nat.le_of_ble_eq_true rfl) (Nat.le_of_ble_eq_true rfl) dX5_isLater_55 hw
      · refine j_iconst X (pc := 54) 0 dX5_isLater_54 (by decide) ?_
        exact j_zret X (pc := 55) (ty := .boolean) hQ er rfl (Nat.le_of_ble_eq_true rfl) (Nat.le_of_ble_eq_true rfl) dX5_isLater_55 hw
abbrev cX5_writes : ByteArray := prog_19_method_9_code
def yX5_writes : MethodName := ⟨RX5, "writes", "(II)V"⟩
def dkwX5_writes_2 : List UInt8 := [46, 42, 180, 0, 53, 27, 50, 28, 46, 79, 177]
abbrev dktX5_writes_2 : List UInt8 := dkwX5_writes_2 ++ []
def dkwX5_writes_1 : List UInt8 := [180, 0, 70, 42, 180, 0, 44, 27, 50, 28, 46, 27, 79, 42, 180, 0, 73, 42, 180, 0, 44, 27, 50, 28]
abbrev dktX5_writes_1 : List UInt8 := dkwX5_writes_1 ++ dktX5_writes_2
def dkwX5_writes_0 : List UInt8 := [42, 180, 0, 67, 42, 180, 0, 44, 27, 50, 28, 46, 42, 180, 0, 47, 27, 50, 28, 46, 79, 42]
abbrev dktX5_writes_0 : List UInt8 := dkwX5_writes_0 ++ dktX5_writes_1
theorem dksX5_writes_0 : cX5_writes.data.toList.drop 0 = dktX5_writes_0 := by decide +kernel
theorem dksX5_writes_1 : cX5_writes.data.toList.drop 22 = dktX5_writes_1 := dk_seg dksX5_writes_0 22 rfl rfl
theorem dksX5_writes_2 : cX5_writes.data.toList.drop 46 = dktX5_writes_2 := dk_seg dksX5_writes_1 24 rfl rfl
theorem dX5_writes_0 : decode cX5_writes 0 = .ok (.aload_n 0, 1) := dk_42 (dk_at dksX5_writes_0 0 rfl rfl)
theorem dX5_writes_1 : decode cX5_writes 1 = .ok (.getfield 67, 3) := dk_180 0 67 (dk_at dksX5_writes_0 1 rfl rfl)
theorem dX5_writes_4 : decode cX5_writes 4 = .ok (.aload_n 0, 1) := dk_42 (dk_at dksX5_writes_0 4 rfl rfl)
theorem dX5_writes_5 : decode cX5_writes 5 = .ok (.getfield 44, 3) := dk_180 0 44 (dk_at dksX5_writes_0 5 rfl rfl)
theorem dX5_writes_8 : decode cX5_writes 8 = .ok (.iload_n 1, 1) := dk_27 (dk_at dksX5_writes_0 8 rfl rfl)
theorem dX5_writes_9 : decode cX5_writes 9 = .ok (.aaload, 1) := dk_50 (dk_at dksX5_writes_0 9 rfl rfl)
theorem dX5_writes_10 : decode cX5_writes 10 = .ok (.iload_n 2, 1) := dk_28 (dk_at dksX5_writes_0 10 rfl rfl)
theorem dX5_writes_11 : decode cX5_writes 11 = .ok (.iaload, 1) := dk_46 (dk_at dksX5_writes_0 11 rfl rfl)
theorem dX5_writes_12 : decode cX5_writes 12 = .ok (.aload_n 0, 1) := dk_42 (dk_at dksX5_writes_0 12 rfl rfl)
theorem dX5_writes_13 : decode cX5_writes 13 = .ok (.getfield 47, 3) := dk_180 0 47 (dk_at dksX5_writes_0 13 rfl rfl)
theorem dX5_writes_16 : decode cX5_writes 16 = .ok (.iload_n 1, 1) := dk_27 (dk_at dksX5_writes_0 16 rfl rfl)
theorem dX5_writes_17 : decode cX5_writes 17 = .ok (.aaload, 1) := dk_50 (dk_at dksX5_writes_0 17 rfl rfl)
theorem dX5_writes_18 : decode cX5_writes 18 = .ok (.iload_n 2, 1) := dk_28 (dk_at dksX5_writes_0 18 rfl rfl)
theorem dX5_writes_19 : decode cX5_writes 19 = .ok (.iaload, 1) := dk_46 (dk_at dksX5_writes_0 19 rfl rfl)
theorem dX5_writes_20 : decode cX5_writes 20 = .ok (.iastore, 1) := dk_79 (dk_at dksX5_writes_0 20 rfl rfl)
theorem dX5_writes_21 : decode cX5_writes 21 = .ok (.aload_n 0, 1) := dk_42 (dk_at dksX5_writes_0 21 rfl rfl)
theorem dX5_writes_22 : decode cX5_writes 22 = .ok (.getfield 70, 3) := dk_180 0 70 (dk_at dksX5_writes_1 0 rfl rfl)
theorem dX5_writes_25 : decode cX5_writes 25 = .ok (.aload_n 0, 1) := dk_42 (dk_at dksX5_writes_1 3 rfl rfl)
theorem dX5_writes_26 : decode cX5_writes 26 = .ok (.getfield 44, 3) := dk_180 0 44 (dk_at dksX5_writes_1 4 rfl rfl)
theorem dX5_writes_29 : decode cX5_writes 29 = .ok (.iload_n 1, 1) := dk_27 (dk_at dksX5_writes_1 7 rfl rfl)
theorem dX5_writes_30 : decode cX5_writes 30 = .ok (.aaload, 1) := dk_50 (dk_at dksX5_writes_1 8 rfl rfl)
theorem dX5_writes_31 : decode cX5_writes 31 = .ok (.iload_n 2, 1) := dk_28 (dk_at dksX5_writes_1 9 rfl rfl)
theorem dX5_writes_32 : decode cX5_writes 32 = .ok (.iaload, 1) := dk_46 (dk_at dksX5_writes_1 10 rfl rfl)
theorem dX5_writes_33 : decode cX5_writes 33 = .ok (.iload_n 1, 1) := dk_27 (dk_at dksX5_writes_1 11 rfl rfl)
theorem dX5_writes_34 : decode cX5_writes 34 = .ok (.iastore, 1) := dk_79 (dk_at dksX5_writes_1 12 rfl rfl)
theorem dX5_writes_35 : decode cX5_writes 35 = .ok (.aload_n 0, 1) := dk_42 (dk_at dksX5_writes_1 13 rfl rfl)
theorem dX5_writes_36 : decode cX5_writes 36 = .ok (.getfield 73, 3) := dk_180 0 73 (dk_at dksX5_writes_1 14 rfl rfl)
theorem dX5_writes_39 : decode cX5_writes 39 = .ok (.aload_n 0, 1) := dk_42 (dk_at dksX5_writes_1 17 rfl rfl)
theorem dX5_writes_40 : decode cX5_writes 40 = .ok (.getfield 44, 3) := dk_180 0 44 (dk_at dksX5_writes_1 18 rfl rfl)
theorem dX5_writes_43 : decode cX5_writes 43 = .ok (.iload_n 1, 1) := dk_27 (dk_at dksX5_writes_1 21 rfl rfl)
theorem dX5_writes_44 : decode cX5_writes 44 = .ok (.aaload, 1) := dk_50 (dk_at dksX5_writes_1 22 rfl rfl)
theorem dX5_writes_45 : decode cX5_writes 45 = .ok (.iload_n 2, 1) := dk_28 (dk_at dksX5_writes_1 23 rfl rfl)
theorem dX5_writes_46 : decode cX5_writes 46 = .ok (.iaload, 1) := dk_46 (dk_at dksX5_writes_2 0 rfl rfl)
theorem dX5_writes_47 : decode cX5_writes 47 = .ok (.aload_n 0, 1) := dk_42 (dk_at dksX5_writes_2 1 rfl rfl)
theorem dX5_writes_48 : decode cX5_writes 48 = .ok (.getfield 53, 3) := dk_180 0 53 (dk_at dksX5_writes_2 2 rfl rfl)
theorem dX5_writes_51 : decode cX5_writes 51 = .ok (.iload_n 1, 1) := dk_27 (dk_at dksX5_writes_2 5 rfl rfl)
theorem dX5_writes_52 : decode cX5_writes 52 = .ok (.aaload, 1) := dk_50 (dk_at dksX5_writes_2 6 rfl rfl)
theorem dX5_writes_53 : decode cX5_writes 53 = .ok (.iload_n 2, 1) := dk_28 (dk_at dksX5_writes_2 7 rfl rfl)
theorem dX5_writes_54 : decode cX5_writes 54 = .ok (.iaload, 1) := dk_46 (dk_at dksX5_writes_2 8 rfl rfl)
theorem dX5_writes_55 : decode cX5_writes 55 = .ok (.iastore, 1) := dk_79 (dk_at dksX5_writes_2 9 rfl rfl)
theorem dX5_writes_56 : decode cX5_writes 56 = .ok (.return_, 1) := dk_177 (dk_at dksX5_writes_2 10 rfl rfl)
abbrev rm_X5_writes : Room := { frames := 0, cells := 0, slots := 0, locals := 0 }
def w_X5_writes (a0 : Option Nat) (a1 : Int32) (a2 : Int32) (h : AH) (P : AH → Prop) : Prop :=
  g_q h a0 4 21 fun y1 =>
  g_q h a0 4 13 fun y5 =>
  l_q h y5 a1 fun y9 =>
  l_i h y9 0 a2 fun y11 =>
  g_q h a0 4 14 fun y13 =>
  l_q h y13 a1 fun y17 =>
  l_i h y17 0 a2 fun y19 =>
  s_i h y1 0 y11 y19 fun h20 =>
  g_q h20 a0 4 22 fun y22 =>
  g_q h20 a0 4 13 fun y26 =>
  l_q h20 y26 a1 fun y30 =>
  l_i h20 y30 0 a2 fun y32 =>
  s_i h20 y22 0 y32 a1 fun h34 =>
  g_q h34 a0 4 23 fun y36 =>
  g_q h34 a0 4 13 fun y40 =>
  l_q h34 y40 a1 fun y44 =>
  l_i h34 y44 0 a2 fun y46 =>
  g_q h34 a0 4 16 fun y48 =>
  l_q h34 y48 a1 fun y52 =>
  l_i h34 y52 0 a2 fun y54 =>
  s_i h34 y36 0 y46 y54 fun h55 =>
  P h55
theorem met_X5_writes (l : Launch) (hlt : l.stackTraces = false) (G : GG) (h : AH) (a0 : Option Nat) (a1 : Int32) (a2 : Int32) (P : AH → Prop) (hw : w_X5_writes a0 a1 a2 h P) : ct_v l yX5_writes (ws_ yX5_writes cX5_writes 3 (Option.none : Option Jvm.ClassFile.FieldType)) rm_X5_writes G h [vR a0, vI a1, vI a2] P := by
  refine j_startv hlt [(0, vR a0), (1, vI a1), (2, vI a2)] (plainFor_of_name (by decide)) rfl rfl (fun x X eG er en hQ => ?_)
  subst eG
  refine j_aload_n X (pc := 0) 0 dX5_writes_0 rfl rfl ?_
  refine j_getq (ci := 4) X (pc := 1) in_X5 rfl (by decide) 21 (by decide) q1893 (Or.inl rfl) dX5_writes_1 hw (fun y1 hw => ?_)
  refine j_aload_n X (pc := 4) 0 dX5_writes_4 rfl rfl ?_
  refine j_getq (ci := 4) X (pc := 5) in_X5 rfl (by decide) 13 (by decide) q1885 (Or.inl rfl) dX5_writes_5 hw (fun y5 hw => ?_)
  refine j_iload_n X (pc := 8) 1 dX5_writes_8 rfl rfl ?_
  refine j_aald X (pc := 9) dX5_writes_9 hw (fun y9 hw => ?_)
  refine j_iload_n X (pc := 10) 2 dX5_writes_10 rfl rfl ?_
  refine j_iald X (pc := 11) 0 rfl dX5_writes_11 hw (fun y11 hw => ?_)
  refine j_aload_n X (pc := 12) 0 dX5_writes_12 rfl rfl ?_
  refine j_getq (ci := 4) X (pc := 13) in_X5 rfl (by decide) 14 (by decide) q1886 (Or.inl rfl) dX5_writes_13 hw (fun y13 hw => ?_)
  refine j_iload_n X (pc := 16) 1 dX5_writes_16 rfl rfl ?_
  refine j_aald X (pc := 17) dX5_writes_17 hw (fun y17 hw => ?_)
  refine j_iload_n X (pc := 18) 2 dX5_writes_18 rfl rfl ?_
  refine j_iald X (pc := 19) 0 rfl dX5_writes_19 hw (fun y19 hw => ?_)
  refine j_iast X (pc := 20) 0 rfl rfl dX5_writes_20 hw (fun h20 hw => ?_)
  refine j_aload_n X (pc := 21) 0 dX5_writes_21 rfl rfl ?_
  refine j_getq (ci := 4) X (pc := 22) in_X5 rfl (by decide) 22 (by decide) q1894 (Or.inl rfl) dX5_writes_22 hw (fun y22 hw => ?_)
  refine j_aload_n X (pc := 25) 0 dX5_writes_25 rfl rfl ?_
  refine j_getq (ci := 4) X (pc := 26) in_X5 rfl (by decide) 13 (by decide) q1885 (Or.inl rfl) dX5_writes_26 hw (fun y26 hw => ?_)
  refine j_iload_n X (pc := 29) 1 dX5_writes_29 rfl rfl ?_
  refine j_aald X (pc := 30) dX5_writes_30 hw (fun y30 hw => ?_)
  refine j_iload_n X (pc := 31) 2 dX5_writes_31 rfl rfl ?_
  refine j_iald X (pc := 32) 0 rfl dX5_writes_32 hw (fun y32 hw => ?_)
  refine j_iload_n X (pc := 33) 1 dX5_writes_33 rfl rfl ?_
  refine j_iast X (pc := 34) 0 rfl rfl dX5_writes_34 hw (fun h34 hw => ?_)
  refine j_aload_n X (pc := 35) 0 dX5_writes_35 rfl rfl ?_
  refine j_getq (ci := 4) X (pc := 36) in_X5 rfl (by decide) 23 (by decide) q1895 (Or.inl rfl) dX5_writes_36 hw (fun y36 hw => ?_)
  refine j_aload_n X (pc := 39) 0 dX5_writes_39 rfl rfl ?_
  refine j_getq (ci := 4) X (pc := 40) in_X5 rfl (by decide) 13 (by decide) q1885 (Or.inl rfl) dX5_writes_40 hw (fun y40 hw => ?_)
  refine j_iload_n X (pc := 43) 1 dX5_writes_43 rfl rfl ?_
  refine j_aald X (pc := 44) dX5_writes_44 hw (fun y44 hw => ?_)
  refine j_iload_n X (pc := 45) 2 dX5_writes_45 rfl rfl ?_
  refine j_iald X (pc := 46) 0 rfl dX5_writes_46 hw (fun y46 hw => ?_)
  refine j_aload_n X (pc := 47) 0 dX5_writes_47 rfl rfl ?_
  refine j_getq (ci := 4) X (pc := 48) in_X5 rfl (by decide) 16 (by decide) q1888 (Or.inl rfl) dX5_writes_48 hw (fun y48 hw => ?_)
  refine j_iload_n X (pc := 51) 1 dX5_writes_51 rfl rfl ?_
  refine j_aald X (pc := 52) dX5_writes_52 hw (fun y52 hw => ?_)
  refine j_iload_n X (pc := 53) 2 dX5_writes_53 rfl rfl ?_
  refine j_iald X (pc := 54) 0 rfl dX5_writes_54 hw (fun y54 hw => ?_)
  refine j_iast X (pc := 55) 0 rfl rfl dX5_writes_55 hw (fun h55 hw => ?_)
  exact j_vret X (pc := 56) hQ er (Nat.le_of_ble_eq_true rfl) (Nat.le_of_ble_eq_true rfl) dX5_writes_56 hw
abbrev cX5_builds : ByteArray := prog_19_method_10_code
def yX5_builds : MethodName := ⟨RX5, "builds", "(I)V"⟩
def dkwX5_builds_3 : List UInt8 := [132, 2, 1, 167, 255, 189, 177]
abbrev dktX5_builds_3 : List UInt8 := dkwX5_builds_3 ++ []
def dkwX5_builds_2 : List UInt8 := [28, 50, 29, 46, 46, 182, 0, 111, 153, 0, 9, 42, 28, 29, 182, 0, 115, 132, 3, 1, 167, 255, 205]
abbrev dktX5_builds_2 : List UInt8 := dkwX5_builds_2 ++ dktX5_builds_3
def dkwX5_builds_1 : List UInt8 := [162, 0, 47, 42, 180, 0, 64, 27, 50, 28, 51, 153, 0, 36, 42, 28, 42, 180, 0, 70, 42, 180, 0, 44]
abbrev dktX5_builds_1 : List UInt8 := dkwX5_builds_1 ++ dktX5_builds_2
def dkwX5_builds_0 : List UInt8 := [42, 182, 0, 105, 3, 61, 28, 42, 180, 0, 108, 162, 0, 65, 3, 62, 29, 42, 180, 0, 39, 28, 46]
abbrev dktX5_builds_0 : List UInt8 := dkwX5_builds_0 ++ dktX5_builds_1
theorem dksX5_builds_0 : cX5_builds.data.toList.drop 0 = dktX5_builds_0 := by decide +kernel
theorem dksX5_builds_1 : cX5_builds.data.toList.drop 23 = dktX5_builds_1 := dk_seg dksX5_builds_0 23 rfl rfl
theorem dksX5_builds_2 : cX5_builds.data.toList.drop 47 = dktX5_builds_2 := dk_seg dksX5_builds_1 24 rfl rfl
theorem dksX5_builds_3 : cX5_builds.data.toList.drop 70 = dktX5_builds_3 := dk_seg dksX5_builds_2 23 rfl rfl
theorem dX5_builds_0 : decode cX5_builds 0 = .ok (.aload_n 0, 1) := dk_42 (dk_at dksX5_builds_0 0 rfl rfl)
theorem dX5_builds_1 : decode cX5_builds 1 = .ok (.invokevirtual 105, 3) := dk_182 0 105 (dk_at dksX5_builds_0 1 rfl rfl)
theorem dX5_builds_4 : decode cX5_builds 4 = .ok (.iconst 0, 1) := dk_3 (dk_at dksX5_builds_0 4 rfl rfl)
theorem dX5_builds_5 : decode cX5_builds 5 = .ok (.istore_n 2, 1) := dk_61 (dk_at dksX5_builds_0 5 rfl rfl)
theorem dX5_builds_6 : decode cX5_builds 6 = .ok (.iload_n 2, 1) := dk_28 (dk_at dksX5_builds_0 6 rfl rfl)
theorem dX5_builds_7 : decode cX5_builds 7 = .ok (.aload_n 0, 1) := dk_42 (dk_at dksX5_builds_0 7 rfl rfl)
theorem dX5_builds_8 : decode cX5_builds 8 = .ok (.getfield 108, 3) := dk_180 0 108 (dk_at dksX5_builds_0 8 rfl rfl)
theorem dX5_builds_11 : decode cX5_builds 11 = .ok (.if_icmp .ge 65, 3) := dk_162 0 65 (dk_at dksX5_builds_0 11 rfl rfl)
theorem dX5_builds_14 : decode cX5_builds 14 = .ok (.iconst 0, 1) := dk_3 (dk_at dksX5_builds_0 14 rfl rfl)
theorem dX5_builds_15 : decode cX5_builds 15 = .ok (.istore_n 3, 1) := dk_62 (dk_at dksX5_builds_0 15 rfl rfl)
theorem dX5_builds_16 : decode cX5_builds 16 = .ok (.iload_n 3, 1) := dk_29 (dk_at dksX5_builds_0 16 rfl rfl)
theorem dX5_builds_17 : decode cX5_builds 17 = .ok (.aload_n 0, 1) := dk_42 (dk_at dksX5_builds_0 17 rfl rfl)
theorem dX5_builds_18 : decode cX5_builds 18 = .ok (.getfield 39, 3) := dk_180 0 39 (dk_at dksX5_builds_0 18 rfl rfl)
theorem dX5_builds_21 : decode cX5_builds 21 = .ok (.iload_n 2, 1) := dk_28 (dk_at dksX5_builds_0 21 rfl rfl)
theorem dX5_builds_22 : decode cX5_builds 22 = .ok (.iaload, 1) := dk_46 (dk_at dksX5_builds_0 22 rfl rfl)
theorem dX5_builds_23 : decode cX5_builds 23 = .ok (.if_icmp .ge 47, 3) := dk_162 0 47 (dk_at dksX5_builds_1 0 rfl rfl)
theorem dX5_builds_26 : decode cX5_builds 26 = .ok (.aload_n 0, 1) := dk_42 (dk_at dksX5_builds_1 3 rfl rfl)
theorem dX5_builds_27 : decode cX5_builds 27 = .ok (.getfield 64, 3) := dk_180 0 64 (dk_at dksX5_builds_1 4 rfl rfl)
theorem dX5_builds_30 : decode cX5_builds 30 = .ok (.iload_n 1, 1) := dk_27 (dk_at dksX5_builds_1 7 rfl rfl)
theorem dX5_builds_31 : decode cX5_builds 31 = .ok (.aaload, 1) := dk_50 (dk_at dksX5_builds_1 8 rfl rfl)
theorem dX5_builds_32 : decode cX5_builds 32 = .ok (.iload_n 2, 1) := dk_28 (dk_at dksX5_builds_1 9 rfl rfl)
theorem dX5_builds_33 : decode cX5_builds 33 = .ok (.baload, 1) := dk_51 (dk_at dksX5_builds_1 10 rfl rfl)
theorem dX5_builds_34 : decode cX5_builds 34 = .ok (.ifCond .eq 36, 3) := dk_153 0 36 (dk_at dksX5_builds_1 11 rfl rfl)
theorem dX5_builds_37 : decode cX5_builds 37 = .ok (.aload_n 0, 1) := dk_42 (dk_at dksX5_builds_1 14 rfl rfl)
theorem dX5_builds_38 : decode cX5_builds 38 = .ok (.iload_n 2, 1) := dk_28 (dk_at dksX5_builds_1 15 rfl rfl)
theorem dX5_builds_39 : decode cX5_builds 39 = .ok (.aload_n 0, 1) := dk_42 (dk_at dksX5_builds_1 16 rfl rfl)
theorem dX5_builds_40 : decode cX5_builds 40 = .ok (.getfield 70, 3) := dk_180 0 70 (dk_at dksX5_builds_1 17 rfl rfl)
theorem dX5_builds_43 : decode cX5_builds 43 = .ok (.aload_n 0, 1) := dk_42 (dk_at dksX5_builds_1 20 rfl rfl)
theorem dX5_builds_44 : decode cX5_builds 44 = .ok (.getfield 44, 3) := dk_180 0 44 (dk_at dksX5_builds_1 21 rfl rfl)
theorem dX5_builds_47 : decode cX5_builds 47 = .ok (.iload_n 2, 1) := dk_28 (dk_at dksX5_builds_2 0 rfl rfl)
theorem dX5_builds_48 : decode cX5_builds 48 = .ok (.aaload, 1) := dk_50 (dk_at dksX5_builds_2 1 rfl rfl)
theorem dX5_builds_49 : decode cX5_builds 49 = .ok (.iload_n 3, 1) := dk_29 (dk_at dksX5_builds_2 2 rfl rfl)
theorem dX5_builds_50 : decode cX5_builds 50 = .ok (.iaload, 1) := dk_46 (dk_at dksX5_builds_2 3 rfl rfl)
theorem dX5_builds_51 : decode cX5_builds 51 = .ok (.iaload, 1) := dk_46 (dk_at dksX5_builds_2 4 rfl rfl)
theorem dX5_builds_52 : decode cX5_builds 52 = .ok (.invokevirtual 111, 3) := dk_182 0 111 (dk_at dksX5_builds_2 5 rfl rfl)
theorem dX5_builds_55 : decode cX5_builds 55 = .ok (.ifCond .eq 9, 3) := dk_153 0 9 (dk_at dksX5_builds_2 8 rfl rfl)
theorem dX5_builds_58 : decode cX5_builds 58 = .ok (.aload_n 0, 1) := dk_42 (dk_at dksX5_builds_2 11 rfl rfl)
theorem dX5_builds_59 : decode cX5_builds 59 = .ok (.iload_n 2, 1) := dk_28 (dk_at dksX5_builds_2 12 rfl rfl)
theorem dX5_builds_60 : decode cX5_builds 60 = .ok (.iload_n 3, 1) := dk_29 (dk_at dksX5_builds_2 13 rfl rfl)
theorem dX5_builds_61 : decode cX5_builds 61 = .ok (.invokevirtual 115, 3) := dk_182 0 115 (dk_at dksX5_builds_2 14 rfl rfl)
theorem dX5_builds_64 : decode cX5_builds 64 = .ok (.iinc 3 1, 3) := dk_132 3 1 (dk_at dksX5_builds_2 17 rfl rfl)
theorem dX5_builds_67 : decode cX5_builds 67 = .ok (.goto (-51), 3) := dk_167 255 205 (dk_at dksX5_builds_2 20 rfl rfl)
theorem dX5_builds_70 : decode cX5_builds 70 = .ok (.iinc 2 1, 3) := dk_132 2 1 (dk_at dksX5_builds_3 0 rfl rfl)
theorem dX5_builds_73 : decode cX5_builds 73 = .ok (.goto (-67), 3) := dk_167 255 189 (dk_at dksX5_builds_3 3 rfl rfl)
theorem dX5_builds_76 : decode cX5_builds 76 = .ok (.return_, 1) := dk_177 (dk_at dksX5_builds_3 6 rfl rfl)
theorem q1892 : (Jvm.Cond.fieldLink "PlugboardModel" (108 : Nat) "PlugboardModel" "operations" "I") ∈ lw_all := lw_g (lw_at lw_m8 142 rfl) rfl
theorem q1996 : (Jvm.Cond.methodLink "PlugboardModel" (105 : Nat) ({ cls := "PlugboardModel", name := "empties", desc := "()V" } : Jvm.MethodName)) ∈ lw_all := lw_g (lw_at lw_m9 6 rfl) rfl
theorem q1998 : (Jvm.Cond.instanceMethod ({ cls := "PlugboardModel", name := "empties", desc := "()V" } : Jvm.MethodName)) ∈ lw_all := lw_g (lw_at lw_m9 8 rfl) rfl
theorem q1999 : (Jvm.Cond.code ({ cls := "PlugboardModel", name := "empties", desc := "()V" } : Jvm.MethodName) prog_19_method_8_code (2 : Nat) (Option.none : Option Jvm.ClassFile.FieldType)) ∈ lw_all := lw_g (lw_at lw_m9 9 rfl) rfl
theorem q2000 : (Jvm.Cond.methodLink "PlugboardModel" (111 : Nat) ({ cls := "PlugboardModel", name := "isLater", desc := "(II)Z" } : Jvm.MethodName)) ∈ lw_all := lw_g (lw_at lw_m9 10 rfl) rfl
theorem q2002 : (Jvm.Cond.instanceMethod ({ cls := "PlugboardModel", name := "isLater", desc := "(II)Z" } : Jvm.MethodName)) ∈ lw_all := lw_g (lw_at lw_m9 12 rfl) rfl
theorem q2003 : (Jvm.Cond.code ({ cls := "PlugboardModel", name := "isLater", desc := "(II)Z" } : Jvm.MethodName) prog_19_method_7_code (3 : Nat) (Option.some Jvm.ClassFile.FieldType.boolean)) ∈ lw_all := lw_g (lw_at lw_m9 13 rfl) rfl
theorem q2004 : (Jvm.Cond.methodLink "PlugboardModel" (115 : Nat) ({ cls := "PlugboardModel", name := "writes", desc := "(II)V" } : Jvm.MethodName)) ∈ lw_all := lw_g (lw_at lw_m9 14 rfl) rfl
theorem q2006 : (Jvm.Cond.instanceMethod ({ cls := "PlugboardModel", name := "writes", desc := "(II)V" } : Jvm.MethodName)) ∈ lw_all := lw_g (lw_at lw_m9 16 rfl) rfl
theorem q2007 : (Jvm.Cond.code ({ cls := "PlugboardModel", name := "writes", desc := "(II)V" } : Jvm.MethodName) prog_19_method_9_code (3 : Nat) (Option.none : Option Jvm.ClassFile.FieldType)) ∈ lw_all := lw_g (lw_at lw_m9 17 rfl) rfl
abbrev rm_X5_builds : Room := { frames := 2, cells := 0, slots := 0, locals := 43 }
def w_X5_builds_16 (P : AH → Prop) (Z6 : Int32 → AH → Prop) (x0 : Option Nat) (x1 : Int32) (x2 : Int32) (x3 : Int32) (h : AH) : Prop :=
  ∀ Z16 : Int32 → AH → Prop, (∀ x3 h, (
      g_q h x0 4 12 fun y18 =>
      l_i h y18 0 x2 fun y22 =>
      ((y22 ≤ x3 →
        Z6 (x2 + 1) h) ∧
       (¬ y22 ≤ x3 →
        g_q h x0 4 19 fun y27 =>
        l_q h y27 x1 fun y31 =>
        l_i h y31 1 x2 fun y33 =>
        ((y33 = 0 →
          Z6 (x2 + 1) h) ∧
         (¬ y33 = 0 →
          g_q h x0 4 22 fun y40 =>
          g_q h x0 4 13 fun y44 =>
          l_q h y44 x2 fun y48 =>
          l_i h y48 0 x3 fun y50 =>
          l_i h y40 0 y50 fun y51 =>
          is_c h x0 [4] (
          w_X5_isLater x0 x2 y51 h (fun y52 h52 =>
          ((y52 = 0 →
            Z16 (x3 + 1) h52) ∧
           (¬ y52 = 0 →
            is_c h52 x0 [4] (
            w_X5_writes x0 x2 x3 h52 (fun h61 =>
            Z16 (x3 + 1) h61)))))))))))
      → Z16 x3 h) → Z16 x3 h
def w_X5_builds_6 (P : AH → Prop) (x0 : Option Nat) (x1 : Int32) (x2 : Int32) (h : AH) : Prop :=
  ∀ Z6 : Int32 → AH → Prop, (∀ x2 h, (
      g_i h x0 4 20 fun y8 =>
      ((y8 ≤ x2 →
        P h) ∧
       (¬ y8 ≤ x2 →
        w_X5_builds_16 P Z6 x0 x1 x2 0 h)))
      → Z6 x2 h) → Z6 x2 h
def w_X5_builds (a0 : Option Nat) (a1 : Int32) (h : AH) (P : AH → Prop) : Prop :=
  is_c h a0 [4] (
  w_X5_empties a0 h (fun h1 =>
  w_X5_builds_6 P a0 a1 0 h1))
theorem wk_X5_builds_16 {x : CX} (X : Ok x cX5_builds RX5 rm_X5_builds 4) (er : xrt x = (Option.none : Option Jvm.ClassFile.FieldType)) (en : xnm x = yX5_builds.name) {P : AH → Prop} (hQ : xr_v x P) (Z6 : Int32 → AH → Prop) (x0 : Option Nat) (x1 : Int32) (x2 : Int32) (x3 : Int32) (h : AH) (hZ6 : ∀ x2 h, Z6 x2 h → J x h 0 0 6 [(0, vR x0), (1, vI x1), (2, vI x2)] []) (hw : w_X5_builds_16 P Z6 x0 x1 x2 x3 h) : J x h 0 0 16 [(0, vR x0), (1, vI x1), (2, vI x2), (3, vI x3)] [] := by
  refine hw (fun x3 h => J x h 0 0 16 [(0, vR x0), (1, vI x1), (2, vI x2), (3, vI x3)] []) (fun x3 h hw => ?_)
  refine j_iload_n X (pc := 16) 3 dX5_builds_16 rfl rfl ?_
  refine j_aload_n X (pc := 17) 0 dX5_builds_17 rfl rfl ?_
  refine j_getq (ci := 4) X (pc := 18) in_X5 rfl (by decide) 12 (by decide) q1884 (Or.inl rfl) dX5_builds_18 hw (fun y18 hw => ?_)
  refine j_iload_n X (pc := 21) 2 dX5_builds_21 rfl rfl ?_
  refine j_iald X (pc := 22) 0 rfl dX5_builds_22 hw (fun y22 hw => ?_)
  refine j_icmp_ge X (pc := 23) 70 dX5_builds_23 (by decide) hw (fun hw => ?_) (fun hw => ?_)
  · refine j_iinc X (pc := 70) 2 (x2 + 1) [(2, vI (x2 + 1)), (0, vR x0), (1, vI x1), (3, vI x3)] dX5_builds_70 rfl rfl (Nat.le_of_ble_eq_true rfl) rfl ?_
    refine j_goto X (pc := 73) 6 dX5_builds_73 (by decide) ?_
    refine j_lv [(0, vR x0), (1, vI x1), (2, vI (x2 + 1))] [1, 2, 0] rfl ?_
    refine j_cs (u' := 0) (v' := 0) (Nat.le_of_ble_eq_true rfl) (Nat.le_of_ble_eq_true rfl) ?_
    exact hZ6 (x2 + 1) h hw
  · refine j_aload_n X (pc := 26) 0 dX5_builds_26 rfl rfl ?_
    refine j_getq (ci := 4) X (pc := 27) in_X5 rfl (by decide) 19 (by decide) q1891 (Or.inl rfl) dX5_builds_27 hw (fun y27 hw => ?_)
    refine j_iload_n X (pc := 30) 1 dX5_builds_30 rfl rfl ?_
    refine j_aald X (pc := 31) dX5_builds_31 hw (fun y31 hw => ?_)
    refine j_iload_n X (pc := 32) 2 dX5_builds_32 rfl rfl ?_
    refine j_zald X (pc := 33) 1 rfl dX5_builds_33 hw (fun y33 hw => ?_)
    refine j_if_eq X (pc := 34) 70 dX5_builds_34 (by decide) hw (fun hw => ?_) (fun hw => ?_)
    · refine j_iinc X (pc := 70) 2 (x2 + 1) [(2, vI (x2 + 1)), (0, vR x0), (1, vI x1), (3, vI x3)] dX5_builds_70 rfl rfl (Nat.le_of_ble_eq_true rfl) rfl ?_
      refine j_goto X (pc := 73) 6 dX5_builds_73 (by decide) ?_
      refine j_lv [(0, vR x0), (1, vI x1), (2, vI (x2 + 1))] [1, 2, 0] rfl ?_
      refine j_cs (u' := 0) (v' := 0) (Nat.le_of_ble_eq_true rfl) (Nat.le_of_ble_eq_true rfl) ?_
      exact hZ6 (x2 + 1) h hw
    · refine j_aload_n X (pc := 37) 0 dX5_builds_37 rfl rfl ?_
      refine j_iload_n X (pc := 38) 2 dX5_builds_38 rfl rfl ?_
      refine j_aload_n X (pc := 39) 0 dX5_builds_39 rfl rfl ?_
      refine j_getq (ci := 4) X (pc := 40) in_X5 rfl (by decide) 22 (by decide) q1894 (Or.inl rfl) dX5_builds_40 hw (fun y40 hw => ?_)
      refine j_aload_n X (pc := 43) 0 dX5_builds_43 rfl rfl ?_
      refine j_getq (ci := 4) X (pc := 44) in_X5 rfl (by decide) 13 (by decide) q1885 (Or.inl rfl) dX5_builds_44 hw (fun y44 hw => ?_)
      refine j_iload_n X (pc := 47) 2 dX5_builds_47 rfl rfl ?_
      refine j_aald X (pc := 48) dX5_builds_48 hw (fun y48 hw => ?_)
      refine j_iload_n X (pc := 49) 3 dX5_builds_49 rfl rfl ?_
      refine j_iald X (pc := 50) 0 rfl dX5_builds_50 hw (fun y50 hw => ?_)
      refine j_iald X (pc := 51) 0 rfl dX5_builds_51 hw (fun y51 hw => ?_)
      obtain ⟨b9, c9, f9, hr9, ho9, hc9, hw⟩ := hw
      obtain rfl := List.mem_singleton.mp hc9
      refine j_calli (j_runV (n8 := 2) (As := [vI x2, vI y51]) (rest := []) X (pc := 52) hr9 (met_X5_isLater (xl x) X.hl (xG x) h x0 x2 y51 _ hw) ho9 (by decide) rfl q2000 q2002 qs36 q78 q2003 (by decide +kernel) dX5_builds_52 rfl ⟨Nat.le_of_ble_eq_true rfl, Nat.le_of_ble_eq_true rfl⟩ (Nat.le_of_ble_eq_true rfl) ⟨Nat.le_of_ble_eq_true rfl, Nat.le_of_ble_eq_true rfl⟩) (fun y52 h52 hw => ?_)
      refine j_if_eq X (pc := 55) 64 dX5_builds_55 (by decide) hw (fun hw => ?_) (fun hw => ?_)
      · refine j_iinc X (pc := 64) 3 (x3 + 1) [(3, vI (x3 + 1)), (0, vR x0), (1, vI x1), (2, vI x2)] dX5_builds_64 rfl rfl (Nat.le_of_ble_eq_true rfl) rfl ?_
        refine j_goto X (pc := 67) 16 dX5_builds_67 (by decide) ?_
        refine j_lv [(0, vR x0), (1, vI x1), (2, vI x2), (3, vI (x3 + 1))] [1, 2, 3, 0] rfl ?_
        refine j_cs (u' := 0) (v' := 0) (Nat.le_of_ble_eq_true rfl) (Nat.le_of_ble_eq_true rfl) ?_
        exact hw
      · refine j_aload_n X (pc := 58) 0 dX5_builds_58 rfl rfl ?_
        refine j_iload_n X (pc := 59) 2 dX5_builds_59 rfl rfl ?_
        refine j_iload_n X (pc := 60) 3 dX5_builds_60 rfl rfl ?_
        obtain ⟨b9, c9, f9, hr9, ho9, hc9, hw⟩ := hw
        obtain rfl := List.mem_singleton.mp hc9
        refine j_callv (j_runV (n8 := 2) (As := [vI x2, vI x3]) (rest := []) X (pc := 61) hr9 (met_X5_writes (xl x) X.hl (xG x) h52 x0 x2 x3 _ hw) ho9 (by decide) rfl q2004 q2006 qs37 q78 q2007 (by decide +kernel) dX5_builds_61 rfl ⟨Nat.le_of_ble_eq_true rfl, Nat.le_of_ble_eq_true rfl⟩ (Nat.le_of_ble_eq_true rfl) ⟨Nat.le_of_ble_eq_true rfl, Nat.le_of_ble_eq_true rfl⟩) (fun h61 hw => ?_)
        refine j_iinc X (pc := 64) 3 (x3 + 1) [(3, vI (x3 + 1)), (0, vR x0), (1, vI x1), (2, vI x2)] dX5_builds_64 rfl rfl (Nat.le_of_ble_eq_true rfl) rfl ?_
        refine j_goto X (pc := 67) 16 dX5_builds_67 (by decide) ?_
        refine j_lv [(0, vR x0), (1, vI x1), (2, vI x2), (3, vI (x3 + 1))] [1, 2, 3, 0] rfl ?_
        refine j_cs (u' := 0) (v' := 0) (Nat.le_of_ble_eq_true rfl) (Nat.le_of_ble_eq_true rfl) ?_
        exact hw
theorem wk_X5_builds_6 {x : CX} (X : Ok x cX5_builds RX5 rm_X5_builds 4) (er : xrt x = (Option.none : Option Jvm.ClassFile.FieldType)) (en : xnm x = yX5_builds.name) {P : AH → Prop} (hQ : xr_v x P) (x0 : Option Nat) (x1 : Int32) (x2 : Int32) (h : AH) (hw : w_X5_builds_6 P x0 x1 x2 h) : J x h 0 0 6 [(0, vR x0), (1, vI x1), (2, vI x2)] [] := by
  refine hw (fun x2 h => J x h 0 0 6 [(0, vR x0), (1, vI x1), (2, vI x2)] []) (fun x2 h hw => ?_)
  refine j_iload_n X (pc := 6) 2 dX5_builds_6 rfl rfl ?_
  refine j_aload_n X (pc := 7) 0 dX5_builds_7 rfl rfl ?_
  refine j_geti (ci := 4) X (pc := 8) in_X5 rfl (by decide) 20 (by decide) q1892 (Or.inl rfl) dX5_builds_8 hw (fun y8 hw => ?_)
  refine j_icmp_ge X (pc := 11) 76 dX5_builds_11 (by decide) hw (fun hw => ?_) (fun hw => ?_)
  · exact j_vret X (pc := 76) hQ er (Nat.le_of_ble_eq_true rfl) (Nat.le_of_ble_eq_true rfl) dX5_builds_76 hw
  · refine j_iconst X (pc := 14) 0 dX5_builds_14 (by decide) ?_
    refine j_istore_n X (pc := 15) [(3, vI 0), (0, vR x0), (1, vI x1), (2, vI x2)] dX5_builds_15 rfl (Nat.le_of_ble_eq_true rfl) rfl ?_
    refine j_lv [(0, vR x0), (1, vI x1), (2, vI x2), (3, vI 0)] [1, 2, 3, 0] rfl ?_
    refine j_cs (u' := 0) (v' := 0) (Nat.le_of_ble_eq_true rfl) (Nat.le_of_ble_eq_true rfl) ?_
    exact wk_X5_builds_16 X er en hQ _ x0 x1 x2 0 h (fun x2_ h_ hz => hz) hw
theorem met_X5_builds (l : Launch) (hlt : l.stackTraces = false) (G : GG) (h : AH) (a0 : Option Nat) (a1 : Int32) (P : AH → Prop) (hw : w_X5_builds a0 a1 h P) : ct_v l yX5_builds (ws_ yX5_builds cX5_builds 4 (Option.none : Option Jvm.ClassFile.FieldType)) rm_X5_builds G h [vR a0, vI a1] P := by
  refine j_startv hlt [(0, vR a0), (1, vI a1)] (plainFor_of_name (by decide)) rfl rfl (fun x X eG er en hQ => ?_)
  subst eG
  refine j_aload_n X (pc := 0) 0 dX5_builds_0 rfl rfl ?_
  obtain ⟨b9, c9, f9, hr9, ho9, hc9, hw⟩ := hw
  obtain rfl := List.mem_singleton.mp hc9
  refine j_callv (j_runV (n8 := 0) (As := []) (rest := []) X (pc := 1) hr9 (met_X5_empties (xl x) X.hl (xG x) h a0 _ hw) ho9 (by decide) rfl q1996 q1998 qs35 q78 q1999 (by decide +kernel) dX5_builds_1 rfl ⟨Nat.le_of_ble_eq_true rfl, Nat.le_of_ble_eq_true rfl⟩ (Nat.le_of_ble_eq_true rfl) ⟨Nat.le_of_ble_eq_true rfl, Nat.le_of_ble_eq_true rfl⟩) (fun h1 hw => ?_)
  refine j_iconst X (pc := 4) 0 dX5_builds_4 (by decide) ?_
  refine j_istore_n X (pc := 5) [(2, vI 0), (0, vR a0), (1, vI a1)] dX5_builds_5 rfl (Nat.le_of_ble_eq_true rfl) rfl ?_
  refine j_lv [(0, vR a0), (1, vI a1), (2, vI 0)] [1, 2, 0] rfl ?_
  refine j_cs (u' := 0) (v' := 0) (Nat.le_of_ble_eq_true rfl) (Nat.le_of_ble_eq_true rfl) ?_
  exact wk_X5_builds_6 X er en hQ a0 a1 0 h1 hw
abbrev cX5_isSeen : ByteArray := prog_19_method_11_code
def yX5_isSeen : MethodName := ⟨RX5, "isSeen", "(I)Z"⟩
def dkwX5_isSeen_1 : List UInt8 := [4, 167, 0, 4, 3, 172]
abbrev dktX5_isSeen_1 : List UInt8 := dkwX5_isSeen_1 ++ []
def dkwX5_isSeen_0 : List UInt8 := [27, 3, 42, 180, 0, 119, 4, 100, 184, 0, 101, 153, 0, 17, 42, 180, 0, 67, 27, 46, 4, 160, 0, 7]
abbrev dktX5_isSeen_0 : List UInt8 := dkwX5_isSeen_0 ++ dktX5_isSeen_1
theorem dksX5_isSeen_0 : cX5_isSeen.data.toList.drop 0 = dktX5_isSeen_0 := by decide +kernel
theorem dksX5_isSeen_1 : cX5_isSeen.data.toList.drop 24 = dktX5_isSeen_1 := dk_seg dksX5_isSeen_0 24 rfl rfl
theorem dX5_isSeen_0 : decode cX5_isSeen 0 = .ok (.iload_n 1, 1) := dk_27 (dk_at dksX5_isSeen_0 0 rfl rfl)
theorem dX5_isSeen_1 : decode cX5_isSeen 1 = .ok (.iconst 0, 1) := dk_3 (dk_at dksX5_isSeen_0 1 rfl rfl)
theorem dX5_isSeen_2 : decode cX5_isSeen 2 = .ok (.aload_n 0, 1) := dk_42 (dk_at dksX5_isSeen_0 2 rfl rfl)
theorem dX5_isSeen_3 : decode cX5_isSeen 3 = .ok (.getfield 119, 3) := dk_180 0 119 (dk_at dksX5_isSeen_0 3 rfl rfl)
theorem dX5_isSeen_6 : decode cX5_isSeen 6 = .ok (.iconst 1, 1) := dk_4 (dk_at dksX5_isSeen_0 6 rfl rfl)
theorem dX5_isSeen_7 : decode cX5_isSeen 7 = .ok (.isub, 1) := dk_100 (dk_at dksX5_isSeen_0 7 rfl rfl)
theorem dX5_isSeen_8 : decode cX5_isSeen 8 = .ok (.invokestatic 101, 3) := dk_184 0 101 (dk_at dksX5_isSeen_0 8 rfl rfl)
theorem dX5_isSeen_11 : decode cX5_isSeen 11 = .ok (.ifCond .eq 17, 3) := dk_153 0 17 (dk_at dksX5_isSeen_0 11 rfl rfl)
theorem dX5_isSeen_14 : decode cX5_isSeen 14 = .ok (.aload_n 0, 1) := dk_42 (dk_at dksX5_isSeen_0 14 rfl rfl)
theorem dX5_isSeen_15 : decode cX5_isSeen 15 = .ok (.getfield 67, 3) := dk_180 0 67 (dk_at dksX5_isSeen_0 15 rfl rfl)
theorem dX5_isSeen_18 : decode cX5_isSeen 18 = .ok (.iload_n 1, 1) := dk_27 (dk_at dksX5_isSeen_0 18 rfl rfl)
theorem dX5_isSeen_19 : decode cX5_isSeen 19 = .ok (.iaload, 1) := dk_46 (dk_at dksX5_isSeen_0 19 rfl rfl)
theorem dX5_isSeen_20 : decode cX5_isSeen 20 = .ok (.iconst 1, 1) := dk_4 (dk_at dksX5_isSeen_0 20 rfl rfl)
theorem dX5_isSeen_21 : decode cX5_isSeen 21 = .ok (.if_icmp .ne 7, 3) := dk_160 0 7 (dk_at dksX5_isSeen_0 21 rfl rfl)
theorem dX5_isSeen_24 : decode cX5_isSeen 24 = .ok (.iconst 1, 1) := dk_4 (dk_at dksX5_isSeen_1 0 rfl rfl)
theorem dX5_isSeen_25 : decode cX5_isSeen 25 = .ok (.goto 4, 3) := dk_167 0 4 (dk_at dksX5_isSeen_1 1 rfl rfl)
theorem dX5_isSeen_28 : decode cX5_isSeen 28 = .ok (.iconst 0, 1) := dk_3 (dk_at dksX5_isSeen_1 4 rfl rfl)
theorem dX5_isSeen_29 : decode cX5_isSeen 29 = .ok (.ireturn, 1) := dk_172 (dk_at dksX5_isSeen_1 5 rfl rfl)
theorem q1880 : (Jvm.Cond.fieldLink "PlugboardModel" (119 : Nat) "PlugboardModel" "shapes" "I") ∈ lw_all := lw_g (lw_at lw_m8 130 rfl) rfl
abbrev rm_X5_isSeen : Room := { frames := 1, cells := 0, slots := 0, locals := 22 }
def w_X5_isSeen (a0 : Option Nat) (a1 : Int32) (h : AH) (P : Int32 → AH → Prop) : Prop :=
  g_i h a0 4 8 fun y3 =>
  w_X5_isBetween a1 0 (y3 - 1) h (fun y8 h8 =>
  ((y8 = 0 →
    P 0 h8) ∧
   (¬ y8 = 0 →
    g_q h8 a0 4 21 fun y15 =>
    l_i h8 y15 0 a1 fun y19 =>
    ((y19 = 1 →
      P 1 h8) ∧
     (¬ y19 = 1 →
      P 0 h8)))))
theorem met_X5_isSeen (l : Launch) (hlt : l.stackTraces = false) (G : GG) (h : AH) (a0 : Option Nat) (a1 : Int32) (P : Int32 → AH → Prop) (hw : w_X5_isSeen a0 a1 h P) : ct_i l yX5_isSeen (ws_ yX5_isSeen cX5_isSeen 2 (Option.some Jvm.ClassFile.FieldType.boolean)) rm_X5_isSeen G h [vR a0, vI a1] P := by
  refine j_starti hlt [(0, vR a0), (1, vI a1)] (plainFor_of_name (by decide)) rfl rfl (fun x X eG er en hQ => ?_)
  subst eG
  refine j_iload_n X (pc := 0) 1 dX5_isSeen_0 rfl rfl ?_
  refine j_iconst X (pc := 1) 0 dX5_isSeen_1 (by decide) ?_
  refine j_aload_n X (pc := 2) 0 dX5_isSeen_2 rfl rfl ?_
  refine j_geti (ci := 4) X (pc := 3) in_X5 rfl (by decide) 8 (by decide) q1880 (Or.inl rfl) dX5_isSeen_3 hw (fun y3 hw => ?_)
  refine j_iconst X (pc := 6) 1 dX5_isSeen_6 (by decide) ?_
  refine j_isub X (pc := 7) dX5_isSeen_7 ?_
  refine j_calli (j_runS (n8 := 3) (As := [vI a1, vI 0, vI (y3 - 1)]) (rest := []) X (pc := 8) (met_X5_isBetween (xl x) X.hl (xG x) h a1 0 (y3 - 1) _ hw) q1981 q1982 q78 q1983 (by decide +kernel) dX5_isSeen_8 rfl ⟨Nat.le_of_ble_eq_true rfl, Nat.le_of_ble_eq_true rfl⟩ (Nat.le_of_ble_eq_true rfl) ⟨Nat.le_of_ble_eq_true rfl, Nat.le_of_ble_eq_true rfl⟩) (fun y8 h8 hw => ?_)
  refine j_if_eq X (pc := 11) 28 dX5_isSeen_11 (by decide) hw (fun hw => ?_) (fun hw => ?_)
  · refine j_iconst X (pc := 28) 0 dX5_isSeen_28 (by decide) ?_
    exact j_zret X (pc := 29) (ty := .boolean) hQ er rfl (Nat.le_of_ble_eq_true rfl) (Nat.le_of_ble_eq_true rfl) dX5_isSeen_29 hw
  · refine j_aload_n X (pc := 14) 0 dX5_isSeen_14 rfl rfl ?_
    refine j_getq (ci := 4) X (pc := 15) in_X5 rfl (by decide) 21 (by decide) q1893 (Or.inl rfl) dX5_isSeen_15 hw (fun y15 hw => ?_)
    refine j_iload_n X (pc := 18) 1 dX5_isSeen_18 rfl rfl ?_
    refine j_iald X (pc := 19) 0 rfl dX5_isSeen_19 hw (fun y19 hw => ?_)
    refine j_iconst X (pc := 20) 1 dX5_isSeen_20 (by decide) ?_
    refine j_icmp_ne X (pc := 21) 28 dX5_isSeen_21 (by decide) hw (fun hw => ?_) (fun hw => ?_)
    · refine j_iconst X (pc := 24) 1 dX5_isSeen_24 (by decide) ?_
      refine j_goto X (pc := 25) 29 dX5_isSeen_25 (by decide) ?_
      exact j_zret X (pc := 29) (ty := .boolean) hQ er rfl (Nat.le_of_ble_eq_true rfl) (Nat.le_of_ble_eq_true rfl) dX5_isSeen_29 hw
    · refine j_iconst X (pc := 28) 0 dX5_isSeen_28 (by decide) ?_
      exact j_zret X (pc := 29) (ty := .boolean) hQ er rfl (Nat.le_of_ble_eq_true rfl) (Nat.le_of_ble_eq_true rfl) dX5_isSeen_29 hw
abbrev cX5_key : ByteArray := prog_19_method_15_code
def yX5_key : MethodName := ⟨RX5, "key", "(I)F"⟩
def dkwX5_key_0 : List UInt8 := [42, 180, 0, 67, 16, 24, 27, 96, 46, 184, 0, 129, 174]
abbrev dktX5_key_0 : List UInt8 := dkwX5_key_0 ++ []
theorem dksX5_key_0 : cX5_key.data.toList.drop 0 = dktX5_key_0 := by decide +kernel
theorem dX5_key_0 : decode cX5_key 0 = .ok (.aload_n 0, 1) := dk_42 (dk_at dksX5_key_0 0 rfl rfl)
theorem dX5_key_1 : decode cX5_key 1 = .ok (.getfield 67, 3) := dk_180 0 67 (dk_at dksX5_key_0 1 rfl rfl)
theorem dX5_key_4 : decode cX5_key 4 = .ok (.bipush 24, 2) := dk_16 24 (dk_at dksX5_key_0 4 rfl rfl)
theorem dX5_key_6 : decode cX5_key 6 = .ok (.iload_n 1, 1) := dk_27 (dk_at dksX5_key_0 6 rfl rfl)
theorem dX5_key_7 : decode cX5_key 7 = .ok (.iadd, 1) := dk_96 (dk_at dksX5_key_0 7 rfl rfl)
theorem dX5_key_8 : decode cX5_key 8 = .ok (.iaload, 1) := dk_46 (dk_at dksX5_key_0 8 rfl rfl)
theorem dX5_key_9 : decode cX5_key 9 = .ok (.invokestatic 129, 3) := dk_184 0 129 (dk_at dksX5_key_0 9 rfl rfl)
theorem dX5_key_12 : decode cX5_key 12 = .ok (.freturn, 1) := dk_174 (dk_at dksX5_key_0 12 rfl rfl)
theorem q2020 : (Jvm.Cond.methodLink "PlugboardModel" (129 : Nat) ({ cls := "java/lang/Float", name := "intBitsToFloat", desc := "(I)F" } : Jvm.MethodName)) ∈ lw_all := lw_g (lw_at lw_m9 30 rfl) rfl
abbrev rm_X5_key : Room := { frames := 1, cells := 0, slots := 0, locals := 15 }
def w_X5_key (a0 : Option Nat) (a1 : Int32) (h : AH) (P : UInt32 → AH → Prop) : Prop :=
  g_q h a0 4 21 fun y1 =>
  l_i h y1 0 (24 + a1) fun y8 =>
  vn_sni2f y8 = false ∧
  P (Int32.toUInt32 y8) h
theorem met_X5_key (l : Launch) (hlt : l.stackTraces = false) (G : GG) (h : AH) (a0 : Option Nat) (a1 : Int32) (P : UInt32 → AH → Prop) (hw : w_X5_key a0 a1 h P) : ct_f l yX5_key (ws_ yX5_key cX5_key 2 (Option.some Jvm.ClassFile.FieldType.float)) rm_X5_key G h [vR a0, vI a1] P := by
  refine j_startf hlt [(0, vR a0), (1, vI a1)] (plainFor_of_name (by decide)) rfl rfl (fun x X eG er en hQ => ?_)
  subst eG
  refine j_aload_n X (pc := 0) 0 dX5_key_0 rfl rfl ?_
  refine j_getq (ci := 4) X (pc := 1) in_X5 rfl (by decide) 21 (by decide) q1893 (Or.inl rfl) dX5_key_1 hw (fun y1 hw => ?_)
  refine j_bipush X (pc := 4) 24 dX5_key_4 (by decide) ?_
  refine j_iload_n X (pc := 6) 1 dX5_key_6 rfl rfl ?_
  refine j_iadd X (pc := 7) dX5_key_7 ?_
  refine j_iald X (pc := 8) 0 rfl dX5_key_8 hw (fun y8 hw => ?_)
  refine j_i2fb X (pc := 9) q2020 q557 q556 q91 ⟨Nat.le_of_ble_eq_true rfl, Nat.le_of_ble_eq_true rfl⟩ dX5_key_9 hw (fun hw => ?_)
  exact j_fret X (pc := 12) hQ er (Nat.le_of_ble_eq_true rfl) (Nat.le_of_ble_eq_true rfl) dX5_key_12 hw
abbrev cX5_greatest : ByteArray := prog_19_method_19_code
def yX5_greatest : MethodName := ⟨RX5, "greatest", "()I"⟩
def dkwX5_greatest_2 : List UInt8 := [167, 255, 213, 27, 172]
abbrev dktX5_greatest_2 : List UInt8 := dkwX5_greatest_2 ++ []
def dkwX5_greatest_1 : List UInt8 := [42, 28, 182, 0, 138, 42, 27, 182, 0, 138, 149, 158, 0, 7, 28, 167, 0, 4, 27, 60, 132, 2, 1]
abbrev dktX5_greatest_1 : List UInt8 := dkwX5_greatest_1 ++ dktX5_greatest_2
def dkwX5_greatest_0 : List UInt8 := [2, 60, 3, 61, 28, 42, 180, 0, 119, 162, 0, 41, 42, 28, 182, 0, 125, 153, 0, 25, 27, 155, 0, 17]
abbrev dktX5_greatest_0 : List UInt8 := dkwX5_greatest_0 ++ dktX5_greatest_1
theorem dksX5_greatest_0 : cX5_greatest.data.toList.drop 0 = dktX5_greatest_0 := by decide +kernel
theorem dksX5_greatest_1 : cX5_greatest.data.toList.drop 24 = dktX5_greatest_1 := dk_seg dksX5_greatest_0 24 rfl rfl
theorem dksX5_greatest_2 : cX5_greatest.data.toList.drop 47 = dktX5_greatest_2 := dk_seg dksX5_greatest_1 23 rfl rfl
theorem dX5_greatest_0 : decode cX5_greatest 0 = .ok (.iconst (-1), 1) := dk_2 (dk_at dksX5_greatest_0 0 rfl rfl)
theorem dX5_greatest_1 : decode cX5_greatest 1 = .ok (.istore_n 1, 1) := dk_60 (dk_at dksX5_greatest_0 1 rfl rfl)
theorem dX5_greatest_2 : decode cX5_greatest 2 = .ok (.iconst 0, 1) := dk_3 (dk_at dksX5_greatest_0 2 rfl rfl)
theorem dX5_greatest_3 : decode cX5_greatest 3 = .ok (.istore_n 2, 1) := dk_61 (dk_at dksX5_greatest_0 3 rfl rfl)
theorem dX5_greatest_4 : decode cX5_greatest 4 = .ok (.iload_n 2, 1) := dk_28 (dk_at dksX5_greatest_0 4 rfl rfl)
theorem dX5_greatest_5 : decode cX5_greatest 5 = .ok (.aload_n 0, 1) := dk_42 (dk_at dksX5_greatest_0 5 rfl rfl)
theorem dX5_greatest_6 : decode cX5_greatest 6 = .ok (.getfield 119, 3) := dk_180 0 119 (dk_at dksX5_greatest_0 6 rfl rfl)
theorem dX5_greatest_9 : decode cX5_greatest 9 = .ok (.if_icmp .ge 41, 3) := dk_162 0 41 (dk_at dksX5_greatest_0 9 rfl rfl)
theorem dX5_greatest_12 : decode cX5_greatest 12 = .ok (.aload_n 0, 1) := dk_42 (dk_at dksX5_greatest_0 12 rfl rfl)
theorem dX5_greatest_13 : decode cX5_greatest 13 = .ok (.iload_n 2, 1) := dk_28 (dk_at dksX5_greatest_0 13 rfl rfl)
theorem dX5_greatest_14 : decode cX5_greatest 14 = .ok (.invokevirtual 125, 3) := dk_182 0 125 (dk_at dksX5_greatest_0 14 rfl rfl)
theorem dX5_greatest_17 : decode cX5_greatest 17 = .ok (.ifCond .eq 25, 3) := dk_153 0 25 (dk_at dksX5_greatest_0 17 rfl rfl)
theorem dX5_greatest_20 : decode cX5_greatest 20 = .ok (.iload_n 1, 1) := dk_27 (dk_at dksX5_greatest_0 20 rfl rfl)
theorem dX5_greatest_21 : decode cX5_greatest 21 = .ok (.ifCond .lt 17, 3) := dk_155 0 17 (dk_at dksX5_greatest_0 21 rfl rfl)
theorem dX5_greatest_24 : decode cX5_greatest 24 = .ok (.aload_n 0, 1) := dk_42 (dk_at dksX5_greatest_1 0 rfl rfl)
theorem dX5_greatest_25 : decode cX5_greatest 25 = .ok (.iload_n 2, 1) := dk_28 (dk_at dksX5_greatest_1 1 rfl rfl)
theorem dX5_greatest_26 : decode cX5_greatest 26 = .ok (.invokevirtual 138, 3) := dk_182 0 138 (dk_at dksX5_greatest_1 2 rfl rfl)
theorem dX5_greatest_29 : decode cX5_greatest 29 = .ok (.aload_n 0, 1) := dk_42 (dk_at dksX5_greatest_1 5 rfl rfl)
theorem dX5_greatest_30 : decode cX5_greatest 30 = .ok (.iload_n 1, 1) := dk_27 (dk_at dksX5_greatest_1 6 rfl rfl)
theorem dX5_greatest_31 : decode cX5_greatest 31 = .ok (.invokevirtual 138, 3) := dk_182 0 138 (dk_at dksX5_greatest_1 7 rfl rfl)
theorem dX5_greatest_34 : decode cX5_greatest 34 = .ok (.fcmp .l, 1) := dk_149 (dk_at dksX5_greatest_1 10 rfl rfl)
theorem dX5_greatest_35 : decode cX5_greatest 35 = .ok (.ifCond .le 7, 3) := dk_158 0 7 (dk_at dksX5_greatest_1 11 rfl rfl)
theorem dX5_greatest_38 : decode cX5_greatest 38 = .ok (.iload_n 2, 1) := dk_28 (dk_at dksX5_greatest_1 14 rfl rfl)
theorem dX5_greatest_39 : decode cX5_greatest 39 = .ok (.goto 4, 3) := dk_167 0 4 (dk_at dksX5_greatest_1 15 rfl rfl)
theorem dX5_greatest_42 : decode cX5_greatest 42 = .ok (.iload_n 1, 1) := dk_27 (dk_at dksX5_greatest_1 18 rfl rfl)
theorem dX5_greatest_43 : decode cX5_greatest 43 = .ok (.istore_n 1, 1) := dk_60 (dk_at dksX5_greatest_1 19 rfl rfl)
theorem dX5_greatest_44 : decode cX5_greatest 44 = .ok (.iinc 2 1, 3) := dk_132 2 1 (dk_at dksX5_greatest_1 20 rfl rfl)
theorem dX5_greatest_47 : decode cX5_greatest 47 = .ok (.goto (-43), 3) := dk_167 255 213 (dk_at dksX5_greatest_2 0 rfl rfl)
theorem dX5_greatest_50 : decode cX5_greatest 50 = .ok (.iload_n 1, 1) := dk_27 (dk_at dksX5_greatest_2 3 rfl rfl)
theorem dX5_greatest_51 : decode cX5_greatest 51 = .ok (.ireturn, 1) := dk_172 (dk_at dksX5_greatest_2 4 rfl rfl)
theorem q2012 : (Jvm.Cond.methodLink "PlugboardModel" (125 : Nat) ({ cls := "PlugboardModel", name := "isSeen", desc := "(I)Z" } : Jvm.MethodName)) ∈ lw_all := lw_g (lw_at lw_m9 22 rfl) rfl
theorem q2014 : (Jvm.Cond.instanceMethod ({ cls := "PlugboardModel", name := "isSeen", desc := "(I)Z" } : Jvm.MethodName)) ∈ lw_all := lw_g (lw_at lw_m9 24 rfl) rfl
theorem q2015 : (Jvm.Cond.code ({ cls := "PlugboardModel", name := "isSeen", desc := "(I)Z" } : Jvm.MethodName) prog_19_method_11_code (2 : Nat) (Option.some Jvm.ClassFile.FieldType.boolean)) ∈ lw_all := lw_g (lw_at lw_m9 25 rfl) rfl
theorem q2016 : (Jvm.Cond.methodLink "PlugboardModel" (138 : Nat) ({ cls := "PlugboardModel", name := "key", desc := "(I)F" } : Jvm.MethodName)) ∈ lw_all := lw_g (lw_at lw_m9 26 rfl) rfl
theorem q2018 : (Jvm.Cond.instanceMethod ({ cls := "PlugboardModel", name := "key", desc := "(I)F" } : Jvm.MethodName)) ∈ lw_all := lw_g (lw_at lw_m9 28 rfl) rfl
theorem q2019 : (Jvm.Cond.code ({ cls := "PlugboardModel", name := "key", desc := "(I)F" } : Jvm.MethodName) prog_19_method_15_code (2 : Nat) (Option.some Jvm.ClassFile.FieldType.float)) ∈ lw_all := lw_g (lw_at lw_m9 29 rfl) rfl
abbrev rm_X5_greatest : Room := { frames := 2, cells := 0, slots := 0, locals := 43 }
def w_X5_greatest_4 (P : Int32 → AH → Prop) (x0 : Option Nat) (x1 : Int32) (x2 : Int32) (h : AH) : Prop :=
  ∀ Z4 : Int32 → Int32 → AH → Prop, (∀ x1 x2 h, (
      g_i h x0 4 8 fun y6 =>
      ((y6 ≤ x2 →
        P x1 h) ∧
       (¬ y6 ≤ x2 →
        is_c h x0 [4] (
        w_X5_isSeen x0 x2 h (fun y14 h14 =>
        ((y14 = 0 →
          Z4 x1 (x2 + 1) h14) ∧
         (¬ y14 = 0 →
          ((x1 < 0 →
            Z4 x2 (x2 + 1) h14) ∧
           (¬ x1 < 0 →
            is_c h14 x0 [4] (
            w_X5_key x0 x2 h14 (fun y26 h26 =>
            is_c h26 x0 [4] (
            w_X5_key x0 x1 h26 (fun y31 h31 =>
            (((Op.cmpValue (FP.fcmp y26 y31) .l) ≤ 0 →
              Z4 x1 (x2 + 1) h31) ∧
             (¬ (Op.cmpValue (FP.fcmp y26 y31) .l) ≤ 0 →
              Z4 x2 (x2 + 1) h31)))))))))))))))
      → Z4 x1 x2 h) → Z4 x1 x2 h
def w_X5_greatest (a0 : Option Nat) (h : AH) (P : Int32 → AH → Prop) : Prop :=
  w_X5_greatest_4 P a0 (-1) 0 h
theorem wk_X5_greatest_4 {x : CX} (X : Ok x cX5_greatest RX5 rm_X5_greatest 3) (er : xrt x = (Option.some Jvm.ClassFile.FieldType.int)) (en : xnm x = yX5_greatest.name) {P : Int32 → AH → Prop} (hQ : xr_i x P) (x0 : Option Nat) (x1 : Int32) (x2 : Int32) (h : AH) (hw : w_X5_greatest_4 P x0 x1 x2 h) : J x h 0 0 4 [(0, vR x0), (1, vI x1), (2, vI x2)] [] := by
  refine hw (fun x1 x2 h => J x h 0 0 4 [(0, vR x0), (1, vI x1), (2, vI x2)] []) (fun x1 x2 h hw => ?_)
  refine j_iload_n X (pc := 4) 2 dX5_greatest_4 rfl rfl ?_
  refine j_aload_n X (pc := 5) 0 dX5_greatest_5 rfl rfl ?_
  refine j_geti (ci := 4) X (pc := 6) in_X5 rfl (by decide) 8 (by decide) q1880 (Or.inl rfl) dX5_greatest_6 hw (fun y6 hw => ?_)
  refine j_icmp_ge X (pc := 9) 50 dX5_greatest_9 (by decide) hw (fun hw => ?_) (fun hw => ?_)
  · refine j_iload_n X (pc := 50) 1 dX5_greatest_50 rfl rfl ?_
    exact j_iret X (pc := 51) hQ er (Nat.le_of_ble_eq_true rfl) (Nat.le_of_ble_eq_true rfl) dX5_greatest_51 hw
  · refine j_aload_n X (pc := 12) 0 dX5_greatest_12 rfl rfl ?_
    refine j_iload_n X (pc := 13) 2 dX5_greatest_13 rfl rfl ?_
    obtain ⟨b9, c9, f9, hr9, ho9, hc9, hw⟩ := hw
    obtain rfl := List.mem_singleton.mp hc9
    refine j_calli (j_runV (n8 := 1) (As := [vI x2]) (rest := []) X (pc := 14) hr9 (met_X5_isSeen (xl x) X.hl (xG x) h x0 x2 _ hw) ho9 (by decide) rfl q2012 q2014 qs39 q78 q2015 (by decide +kernel) dX5_greatest_14 rfl ⟨Nat.le_of_ble_eq_true rfl, Nat.le_of_ble_eq_true rfl⟩ (Nat.le_of_ble_eq_true rfl) ⟨Nat.le_of_ble_eq_true rfl, Nat.le_of_ble_eq_true rfl⟩) (fun y14 h14 hw => ?_)
    refine j_if_eq X (pc := 17) 42 dX5_greatest_17 (by decide) hw (fun hw => ?_) (fun hw => ?_)
    · refine j_iload_n X (pc := 42) 1 dX5_greatest_42 rfl rfl ?_
      refine j_istore_n X (pc := 43) [(1, vI x1), (0, vR x0), (2, vI x2)] dX5_greatest_43 rfl (Nat.le_of_ble_eq_true rfl) rfl ?_
      refine j_iinc X (pc := 44) 2 (x2 + 1) [(2, vI (x2 + 1)), (1, vI x1), (0, vR x0)] dX5_greatest_44 rfl rfl (Nat.le_of_ble_eq_true rfl) rfl ?_
      refine j_goto X (pc := 47) 4 dX5_greatest_47 (by decide) ?_
      refine j_lv [(0, vR x0), (1, vI x1), (2, vI (x2 + 1))] [2, 1, 0] rfl ?_
      refine j_cs (u' := 0) (v' := 0) (Nat.le_of_ble_eq_true rfl) (Nat.le_of_ble_eq_true rfl) ?_
      exact hw
    · refine j_iload_n X (pc := 20) 1 dX5_greatest_20 rfl rfl ?_
      refine j_if_lt X (pc := 21) 38 dX5_greatest_21 (by decide) hw (fun hw => ?_) (fun hw => ?_)
      · refine j_iload_n X (pc := 38) 2 dX5_greatest_38 rfl rfl ?_
        refine j_goto X (pc := 39) 43 dX5_greatest_39 (by decide) ?_
        refine j_istore_n X (pc := 43) [(1, vI x2), (0, vR x0), (2, vI x2)] dX5_greatest_43 rfl (Nat.le_of_ble_eq_true rfl) rfl ?_
        refine j_iinc X (pc := 44) 2 (x2 + 1) [(2, vI (x2 + 1)), (1, vI x2), (0, vR x0)] dX5_greatest_44 rfl rfl (Nat.le_of_ble_eq_true rfl) rfl ?_
        refine j_goto X (pc := 47) 4 dX5_greatest_47 (by decide) ?_
        refine j_lv [(0, vR x0), (1, vI x2), (2, vI (x2 + 1))] [2, 1, 0] rfl ?_
        refine j_cs (u' := 0) (v' := 0) (Nat.le_of_ble_eq_true rfl) (Nat.le_of_ble_eq_true rfl) ?_
        exact hw
      · refine j_aload_n X (pc := 24) 0 dX5_greatest_24 rfl rfl ?_
        refine j_iload_n X (pc := 25) 2 dX5_greatest_25 rfl rfl ?_
        obtain ⟨b9, c9, f9, hr9, ho9, hc9, hw⟩ := hw
        obtain rfl := List.mem_singleton.mp hc9
        refine j_callf (j_runV (n8 := 1) (As := [vI x2]) (rest := []) X (pc := 26) hr9 (met_X5_key (xl x) X.hl (xG x) h14 x0 x2 _ hw) ho9 (by decide) rfl q2016 q2018 qs40 q78 q2019 (by decide +kernel) dX5_greatest_26 rfl ⟨Nat.le_of_ble_eq_true rfl, Nat.le_of_ble_eq_true rfl⟩ (Nat.le_of_ble_eq_true rfl) ⟨Nat.le_of_ble_eq_true rfl, Nat.le_of_ble_eq_true rfl⟩) (fun y26 h26 hw => ?_)
        refine j_aload_n X (pc := 29) 0 dX5_greatest_29 rfl rfl ?_
        refine j_iload_n X (pc := 30) 1 dX5_greatest_30 rfl rfl ?_
        obtain ⟨b9, c9, f9, hr9, ho9, hc9, hw⟩ := hw
        obtain rfl := List.mem_singleton.mp hc9
        refine j_callf (j_runV (n8 := 1) (As := [vI x1]) (rest := [vF y26]) X (pc := 31) hr9 (met_X5_key (xl x) X.hl (xG x) h26 x0 x1 _ hw) ho9 (by decide) rfl q2016 q2018 qs40 q78 q2019 (by decide +kernel) dX5_greatest_31 rfl ⟨Nat.le_of_ble_eq_true rfl, Nat.le_of_ble_eq_true rfl⟩ (Nat.le_of_ble_eq_true rfl) ⟨Nat.le_of_ble_eq_true rfl, Nat.le_of_ble_eq_true rfl⟩) (fun y31 h31 hw => ?_)
        refine j_fcmp X (pc := 34) dX5_greatest_34 ?_
        refine j_if_le X (pc := 35) 42 dX5_greatest_35 (by decide) hw (fun hw => ?_) (fun hw => ?_)
        · refine j_iload_n X (pc := 42) 1 dX5_greatest_42 rfl rfl ?_
          refine j_istore_n X (pc := 43) [(1, vI x1), (0, vR x0), (2, vI x2)] dX5_greatest_43 rfl (Nat.le_of_ble_eq_true rfl) rfl ?_
          refine j_iinc X (pc := 44) 2 (x2 + 1) [(2, vI (x2 + 1)), (1, vI x1), (0, vR x0)] dX5_greatest_44 rfl rfl (Nat.le_of_ble_eq_true rfl) rfl ?_
          refine j_goto X (pc := 47) 4 dX5_greatest_47 (by decide) ?_
          refine j_lv [(0, vR x0), (1, vI x1), (2, vI (x2 + 1))] [2, 1, 0] rfl ?_
          refine j_cs (u' := 0) (v' := 0) (Nat.le_of_ble_eq_true rfl) (Nat.le_of_ble_eq_true rfl) ?_
          exact hw
        · refine j_iload_n X (pc := 38) 2 dX5_greatest_38 rfl rfl ?_
          refine j_goto X (pc := 39) 43 dX5_greatest_39 (by decide) ?_
          refine j_istore_n X (pc := 43) [(1, vI x2), (0, vR x0), (2, vI x2)] dX5_greatest_43 rfl (Nat.le_of_ble_eq_true rfl) rfl ?_
          refine j_iinc X (pc := 44) 2 (x2 + 1) [(2, vI (x2 + 1)), (1, vI x2), (0, vR x0)] dX5_greatest_44 rfl rfl (Nat.le_of_ble_eq_true rfl) rfl ?_
          refine j_goto X (pc := 47) 4 dX5_greatest_47 (by decide) ?_
          refine j_lv [(0, vR x0), (1, vI x2), (2, vI (x2 + 1))] [2, 1, 0] rfl ?_
          refine j_cs (u' := 0) (v' := 0) (Nat.le_of_ble_eq_true rfl) (Nat.le_of_ble_eq_true rfl) ?_
          exact hw
theorem met_X5_greatest (l : Launch) (hlt : l.stackTraces = false) (G : GG) (h : AH) (a0 : Option Nat) (P : Int32 → AH → Prop) (hw : w_X5_greatest a0 h P) : ct_i l yX5_greatest (ws_ yX5_greatest cX5_greatest 3 (Option.some Jvm.ClassFile.FieldType.int)) rm_X5_greatest G h [vR a0] P := by
  refine j_starti hlt [(0, vR a0)] (plainFor_of_name (by decide)) rfl rfl (fun x X eG er en hQ => ?_)
  subst eG
  refine j_iconst X (pc := 0) (-1) dX5_greatest_0 (by decide) ?_
  refine j_istore_n X (pc := 1) [(1, vI (-1)), (0, vR a0)] dX5_greatest_1 rfl (Nat.le_of_ble_eq_true rfl) rfl ?_
  refine j_iconst X (pc := 2) 0 dX5_greatest_2 (by decide) ?_
  refine j_istore_n X (pc := 3) [(2, vI 0), (1, vI (-1)), (0, vR a0)] dX5_greatest_3 rfl (Nat.le_of_ble_eq_true rfl) rfl ?_
  refine j_lv [(0, vR a0), (1, vI (-1)), (2, vI 0)] [2, 1, 0] rfl ?_
  refine j_cs (u' := 0) (v' := 0) (Nat.le_of_ble_eq_true rfl) (Nat.le_of_ble_eq_true rfl) ?_
  exact wk_X5_greatest_4 X er en hQ a0 (-1) 0 h hw
abbrev cX5_restores : ByteArray := prog_19_method_23_code
def yX5_restores : MethodName := ⟨RX5, "restores", "(III)V"⟩
def dkwX5_restores_1 : List UInt8 := [42, 180, 0, 148, 29, 79, 42, 89, 180, 0, 148, 4, 96, 181, 0, 148, 177]
abbrev dktX5_restores_1 : List UInt8 := dkwX5_restores_1 ++ []
def dkwX5_restores_0 : List UInt8 := [42, 180, 0, 76, 42, 180, 0, 148, 27, 79, 42, 180, 0, 79, 42, 180, 0, 148, 28, 79, 42, 180, 0, 82]
abbrev dktX5_restores_0 : List UInt8 := dkwX5_restores_0 ++ dktX5_restores_1
theorem dksX5_restores_0 : cX5_restores.data.toList.drop 0 = dktX5_restores_0 := by decide +kernel
theorem dksX5_restores_1 : cX5_restores.data.toList.drop 24 = dktX5_restores_1 := dk_seg dksX5_restores_0 24 rfl rfl
theorem dX5_restores_0 : decode cX5_restores 0 = .ok (.aload_n 0, 1) := dk_42 (dk_at dksX5_restores_0 0 rfl rfl)
theorem dX5_restores_1 : decode cX5_restores 1 = .ok (.getfield 76, 3) := dk_180 0 76 (dk_at dksX5_restores_0 1 rfl rfl)
theorem dX5_restores_4 : decode cX5_restores 4 = .ok (.aload_n 0, 1) := dk_42 (dk_at dksX5_restores_0 4 rfl rfl)
theorem dX5_restores_5 : decode cX5_restores 5 = .ok (.getfield 148, 3) := dk_180 0 148 (dk_at dksX5_restores_0 5 rfl rfl)
theorem dX5_restores_8 : decode cX5_restores 8 = .ok (.iload_n 1, 1) := dk_27 (dk_at dksX5_restores_0 8 rfl rfl)
theorem dX5_restores_9 : decode cX5_restores 9 = .ok (.iastore, 1) := dk_79 (dk_at dksX5_restores_0 9 rfl rfl)
theorem dX5_restores_10 : decode cX5_restores 10 = .ok (.aload_n 0, 1) := dk_42 (dk_at dksX5_restores_0 10 rfl rfl)
theorem dX5_restores_11 : decode cX5_restores 11 = .ok (.getfield 79, 3) := dk_180 0 79 (dk_at dksX5_restores_0 11 rfl rfl)
theorem dX5_restores_14 : decode cX5_restores 14 = .ok (.aload_n 0, 1) := dk_42 (dk_at dksX5_restores_0 14 rfl rfl)
theorem dX5_restores_15 : decode cX5_restores 15 = .ok (.getfield 148, 3) := dk_180 0 148 (dk_at dksX5_restores_0 15 rfl rfl)
theorem dX5_restores_18 : decode cX5_restores 18 = .ok (.iload_n 2, 1) := dk_28 (dk_at dksX5_restores_0 18 rfl rfl)
theorem dX5_restores_19 : decode cX5_restores 19 = .ok (.iastore, 1) := dk_79 (dk_at dksX5_restores_0 19 rfl rfl)
theorem dX5_restores_20 : decode cX5_restores 20 = .ok (.aload_n 0, 1) := dk_42 (dk_at dksX5_restores_0 20 rfl rfl)
theorem dX5_restores_21 : decode cX5_restores 21 = .ok (.getfield 82, 3) := dk_180 0 82 (dk_at dksX5_restores_0 21 rfl rfl)
theorem dX5_restores_24 : decode cX5_restores 24 = .ok (.aload_n 0, 1) := dk_42 (dk_at dksX5_restores_1 0 rfl rfl)
theorem dX5_restores_25 : decode cX5_restores 25 = .ok (.getfield 148, 3) := dk_180 0 148 (dk_at dksX5_restores_1 1 rfl rfl)
theorem dX5_restores_28 : decode cX5_restores 28 = .ok (.iload_n 3, 1) := dk_29 (dk_at dksX5_restores_1 4 rfl rfl)
theorem dX5_restores_29 : decode cX5_restores 29 = .ok (.iastore, 1) := dk_79 (dk_at dksX5_restores_1 5 rfl rfl)
theorem dX5_restores_30 : decode cX5_restores 30 = .ok (.aload_n 0, 1) := dk_42 (dk_at dksX5_restores_1 6 rfl rfl)
theorem dX5_restores_31 : decode cX5_restores 31 = .ok (.dup, 1) := dk_89 (dk_at dksX5_restores_1 7 rfl rfl)
theorem dX5_restores_32 : decode cX5_restores 32 = .ok (.getfield 148, 3) := dk_180 0 148 (dk_at dksX5_restores_1 8 rfl rfl)
theorem dX5_restores_35 : decode cX5_restores 35 = .ok (.iconst 1, 1) := dk_4 (dk_at dksX5_restores_1 11 rfl rfl)
theorem dX5_restores_36 : decode cX5_restores 36 = .ok (.iadd, 1) := dk_96 (dk_at dksX5_restores_1 12 rfl rfl)
theorem dX5_restores_37 : decode cX5_restores 37 = .ok (.putfield 148, 3) := dk_181 0 148 (dk_at dksX5_restores_1 13 rfl rfl)
theorem dX5_restores_40 : decode cX5_restores 40 = .ok (.return_, 1) := dk_177 (dk_at dksX5_restores_1 16 rfl rfl)
theorem q1899 : (Jvm.Cond.fieldLink "PlugboardModel" (148 : Nat) "PlugboardModel" "toMany" "I") ∈ lw_all := lw_g (lw_at lw_m8 149 rfl) rfl
abbrev rm_X5_restores : Room := { frames := 0, cells := 0, slots := 0, locals := 0 }
def w_X5_restores (a0 : Option Nat) (a1 : Int32) (a2 : Int32) (a3 : Int32) (h : AH) (P : AH → Prop) : Prop :=
  g_q h a0 4 24 fun y1 =>
  g_i h a0 4 27 fun y5 =>
  s_i h y1 0 y5 a1 fun h9 =>
  g_q h9 a0 4 25 fun y11 =>
  g_i h9 a0 4 27 fun y15 =>
  s_i h9 y11 0 y15 a2 fun h19 =>
  g_q h19 a0 4 26 fun y21 =>
  g_i h19 a0 4 27 fun y25 =>
  s_i h19 y21 0 y25 a3 fun h29 =>
  g_i h29 a0 4 27 fun y32 =>
  p_v h29 a0 4 27 (vI (y32 + 1)) fun h37 =>
  P h37
theorem met_X5_restores (l : Launch) (hlt : l.stackTraces = false) (G : GG) (h : AH) (a0 : Option Nat) (a1 : Int32) (a2 : Int32) (a3 : Int32) (P : AH → Prop) (hw : w_X5_restores a0 a1 a2 a3 h P) : ct_v l yX5_restores (ws_ yX5_restores cX5_restores 4 (Option.none : Option Jvm.ClassFile.FieldType)) rm_X5_restores G h [vR a0, vI a1, vI a2, vI a3] P := by
  refine j_startv hlt [(0, vR a0), (1, vI a1), (2, vI a2), (3, vI a3)] (plainFor_of_name (by decide)) rfl rfl (fun x X eG er en hQ => ?_)
  subst eG
  refine j_aload_n X (pc := 0) 0 dX5_restores_0 rfl rfl ?_
  refine j_getq (ci := 4) X (pc := 1) in_X5 rfl (by decide) 24 (by decide) q1896 (Or.inl rfl) dX5_restores_1 hw (fun y1 hw => ?_)
  refine j_aload_n X (pc := 4) 0 dX5_restores_4 rfl rfl ?_
  refine j_geti (ci := 4) X (pc := 5) in_X5 rfl (by decide) 27 (by decide) q1899 (Or.inl rfl) dX5_restores_5 hw (fun y5 hw => ?_)
  refine j_iload_n X (pc := 8) 1 dX5_restores_8 rfl rfl ?_
  refine j_iast X (pc := 9) 0 rfl rfl dX5_restores_9 hw (fun h9 hw => ?_)
  refine j_aload_n X (pc := 10) 0 dX5_restores_10 rfl rfl ?_
  refine j_getq (ci := 4) X (pc := 11) in_X5 rfl (by decide) 25 (by decide) q1897 (Or.inl rfl) dX5_restores_11 hw (fun y11 hw => ?_)
  refine j_aload_n X (pc := 14) 0 dX5_restores_14 rfl rfl ?_
  refine j_geti (ci := 4) X (pc := 15) in_X5 rfl (by decide) 27 (by decide) q1899 (Or.inl rfl) dX5_restores_15 hw (fun y15 hw => ?_)
  refine j_iload_n X (pc := 18) 2 dX5_restores_18 rfl rfl ?_
  refine j_iast X (pc := 19) 0 rfl rfl dX5_restores_19 hw (fun h19 hw => ?_)
  refine j_aload_n X (pc := 20) 0 dX5_restores_20 rfl rfl ?_
  refine j_getq (ci := 4) X (pc := 21) in_X5 rfl (by decide) 26 (by decide) q1898 (Or.inl rfl) dX5_restores_21 hw (fun y21 hw => ?_)
  refine j_aload_n X (pc := 24) 0 dX5_restores_24 rfl rfl ?_
  refine j_geti (ci := 4) X (pc := 25) in_X5 rfl (by decide) 27 (by decide) q1899 (Or.inl rfl) dX5_restores_25 hw (fun y25 hw => ?_)
  refine j_iload_n X (pc := 28) 3 dX5_restores_28 rfl rfl ?_
  refine j_iast X (pc := 29) 0 rfl rfl dX5_restores_29 hw (fun h29 hw => ?_)
  refine j_aload_n X (pc := 30) 0 dX5_restores_30 rfl rfl ?_
  refine j_dup X (pc := 31) dX5_restores_31 rfl ?_
  refine j_geti (ci := 4) X (pc := 32) in_X5 rfl (by decide) 27 (by decide) q1899 (Or.inl rfl) dX5_restores_32 hw (fun y32 hw => ?_)
  refine j_iconst X (pc := 35) 1 dX5_restores_35 (by decide) ?_
  refine j_iadd X (pc := 36) dX5_restores_36 ?_
  refine j_put (ci := 4) X (pc := 37) in_X5 rfl (by decide) 27 (by decide) q1899 (Or.inl rfl) tyX5 tyX5_ok nmX5 rfl rfl (ty := .int) (tyX5_ok 27 (by decide)) rfl rfl dX5_restores_37 hw (fun h37 hw => ?_)
  exact j_vret X (pc := 40) hQ er (Nat.le_of_ble_eq_true rfl) (Nat.le_of_ble_eq_true rfl) dX5_restores_40 hw
