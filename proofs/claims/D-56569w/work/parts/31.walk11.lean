/-! walks (printed): Plugboard, PlugboardLaw, PlugboardModel -/
set_option maxRecDepth 100000
abbrev cX1_takeBack : ByteArray := prog_1_method_39_code
def yX1_takeBack : MethodName := ⟨RX1, "takeBack", "(I)I"⟩
def dkwX1_takeBack_8 : List UInt8 := [4, 50, 25, 5, 5, 50, 182, 0, 164, 21, 4, 172]
abbrev dktX1_takeBack_8 : List UInt8 := dkwX1_takeBack_8 ++ []
def dkwX1_takeBack_7 : List UInt8 := [46, 79, 132, 6, 1, 132, 7, 1, 167, 255, 176, 45, 4, 181, 1, 73, 42, 44, 25, 5, 3, 50, 25, 5]
abbrev dktX1_takeBack_7 : List UInt8 := dkwX1_takeBack_7 ++ dktX1_takeBack_8
def dkwX1_takeBack_6 : List UInt8 := [4, 50, 21, 6, 45, 180, 1, 84, 21, 7, 46, 79, 25, 5, 5, 50, 21, 6, 45, 180, 1, 87, 21, 7]
abbrev dktX1_takeBack_6 : List UInt8 := dkwX1_takeBack_6 ++ dktX1_takeBack_7
def dkwX1_takeBack_5 : List UInt8 := [46, 45, 180, 1, 82, 160, 0, 48, 25, 5, 3, 50, 21, 6, 45, 180, 1, 80, 21, 7, 46, 79, 25, 5]
abbrev dktX1_takeBack_5 : List UInt8 := dkwX1_takeBack_5 ++ dktX1_takeBack_6
def dkwX1_takeBack_4 : List UInt8 := [21, 7, 45, 180, 1, 80, 190, 162, 0, 76, 44, 180, 0, 136, 180, 0, 142, 45, 180, 1, 80, 21, 7, 46]
abbrev dktX1_takeBack_4 : List UInt8 := dkwX1_takeBack_4 ++ dktX1_takeBack_5
def dkwX1_takeBack_3 : List UInt8 := [96, 54, 4, 132, 7, 1, 167, 255, 212, 6, 21, 4, 197, 1, 83, 2, 58, 5, 3, 54, 6, 3, 54, 7]
abbrev dktX1_takeBack_3 : List UInt8 := dkwX1_takeBack_3 ++ dktX1_takeBack_4
def dkwX1_takeBack_2 : List UInt8 := [21, 4, 44, 180, 0, 136, 180, 0, 142, 21, 8, 46, 45, 180, 1, 82, 160, 0, 7, 4, 167, 0, 4, 3]
abbrev dktX1_takeBack_2 : List UInt8 := dkwX1_takeBack_2 ++ dktX1_takeBack_3
def dkwX1_takeBack_1 : List UInt8 := [58, 5, 25, 5, 190, 54, 6, 3, 54, 7, 21, 7, 21, 6, 162, 0, 43, 25, 5, 21, 7, 46, 54, 8]
abbrev dktX1_takeBack_1 : List UInt8 := dkwX1_takeBack_1 ++ dktX1_takeBack_2
def dkwX1_takeBack_0 : List UInt8 := [42, 27, 182, 0, 199, 77, 42, 27, 182, 1, 76, 78, 42, 182, 0, 207, 3, 54, 4, 45, 180, 1, 80]
abbrev dktX1_takeBack_0 : List UInt8 := dkwX1_takeBack_0 ++ dktX1_takeBack_1
theorem dksX1_takeBack_0 : cX1_takeBack.data.toList.drop 0 = dktX1_takeBack_0 := by decide +kernel
theorem dksX1_takeBack_1 : cX1_takeBack.data.toList.drop 23 = dktX1_takeBack_1 := dk_seg dksX1_takeBack_0 23 rfl rfl
theorem dksX1_takeBack_2 : cX1_takeBack.data.toList.drop 47 = dktX1_takeBack_2 := dk_seg dksX1_takeBack_1 24 rfl rfl
theorem dksX1_takeBack_3 : cX1_takeBack.data.toList.drop 71 = dktX1_takeBack_3 := dk_seg dksX1_takeBack_2 24 rfl rfl
theorem dksX1_takeBack_4 : cX1_takeBack.data.toList.drop 95 = dktX1_takeBack_4 := dk_seg dksX1_takeBack_3 24 rfl rfl
theorem dksX1_takeBack_5 : cX1_takeBack.data.toList.drop 119 = dktX1_takeBack_5 := dk_seg dksX1_takeBack_4 24 rfl rfl
theorem dksX1_takeBack_6 : cX1_takeBack.data.toList.drop 143 = dktX1_takeBack_6 := dk_seg dksX1_takeBack_5 24 rfl rfl
theorem dksX1_takeBack_7 : cX1_takeBack.data.toList.drop 167 = dktX1_takeBack_7 := dk_seg dksX1_takeBack_6 24 rfl rfl
theorem dksX1_takeBack_8 : cX1_takeBack.data.toList.drop 191 = dktX1_takeBack_8 := dk_seg dksX1_takeBack_7 24 rfl rfl
theorem dX1_takeBack_0 : decode cX1_takeBack 0 = .ok (.aload_n 0, 1) := dk_42 (dk_at dksX1_takeBack_0 0 rfl rfl)
theorem dX1_takeBack_1 : decode cX1_takeBack 1 = .ok (.iload_n 1, 1) := dk_27 (dk_at dksX1_takeBack_0 1 rfl rfl)
theorem dX1_takeBack_2 : decode cX1_takeBack 2 = .ok (.invokevirtual 199, 3) := dk_182 0 199 (dk_at dksX1_takeBack_0 2 rfl rfl)
theorem dX1_takeBack_5 : decode cX1_takeBack 5 = .ok (.astore_n 2, 1) := dk_77 (dk_at dksX1_takeBack_0 5 rfl rfl)
theorem dX1_takeBack_6 : decode cX1_takeBack 6 = .ok (.aload_n 0, 1) := dk_42 (dk_at dksX1_takeBack_0 6 rfl rfl)
theorem dX1_takeBack_7 : decode cX1_takeBack 7 = .ok (.iload_n 1, 1) := dk_27 (dk_at dksX1_takeBack_0 7 rfl rfl)
theorem dX1_takeBack_8 : decode cX1_takeBack 8 = .ok (.invokevirtual 332, 3) := dk_182 1 76 (dk_at dksX1_takeBack_0 8 rfl rfl)
theorem dX1_takeBack_11 : decode cX1_takeBack 11 = .ok (.astore_n 3, 1) := dk_78 (dk_at dksX1_takeBack_0 11 rfl rfl)
theorem dX1_takeBack_12 : decode cX1_takeBack 12 = .ok (.aload_n 0, 1) := dk_42 (dk_at dksX1_takeBack_0 12 rfl rfl)
theorem dX1_takeBack_13 : decode cX1_takeBack 13 = .ok (.invokevirtual 207, 3) := dk_182 0 207 (dk_at dksX1_takeBack_0 13 rfl rfl)
theorem dX1_takeBack_16 : decode cX1_takeBack 16 = .ok (.iconst 0, 1) := dk_3 (dk_at dksX1_takeBack_0 16 rfl rfl)
theorem dX1_takeBack_17 : decode cX1_takeBack 17 = .ok (.istore 4, 2) := dk_54 4 (dk_at dksX1_takeBack_0 17 rfl rfl)
theorem dX1_takeBack_19 : decode cX1_takeBack 19 = .ok (.aload_n 3, 1) := dk_45 (dk_at dksX1_takeBack_0 19 rfl rfl)
theorem dX1_takeBack_20 : decode cX1_takeBack 20 = .ok (.getfield 336, 3) := dk_180 1 80 (dk_at dksX1_takeBack_0 20 rfl rfl)
theorem dX1_takeBack_23 : decode cX1_takeBack 23 = .ok (.astore 5, 2) := dk_58 5 (dk_at dksX1_takeBack_1 0 rfl rfl)
theorem dX1_takeBack_25 : decode cX1_takeBack 25 = .ok (.aload 5, 2) := dk_25 5 (dk_at dksX1_takeBack_1 2 rfl rfl)
theorem dX1_takeBack_27 : decode cX1_takeBack 27 = .ok (.arraylength, 1) := dk_190 (dk_at dksX1_takeBack_1 4 rfl rfl)
theorem dX1_takeBack_28 : decode cX1_takeBack 28 = .ok (.istore 6, 2) := dk_54 6 (dk_at dksX1_takeBack_1 5 rfl rfl)
theorem dX1_takeBack_30 : decode cX1_takeBack 30 = .ok (.iconst 0, 1) := dk_3 (dk_at dksX1_takeBack_1 7 rfl rfl)
theorem dX1_takeBack_31 : decode cX1_takeBack 31 = .ok (.istore 7, 2) := dk_54 7 (dk_at dksX1_takeBack_1 8 rfl rfl)
theorem dX1_takeBack_33 : decode cX1_takeBack 33 = .ok (.iload 7, 2) := dk_21 7 (dk_at dksX1_takeBack_1 10 rfl rfl)
theorem dX1_takeBack_35 : decode cX1_takeBack 35 = .ok (.iload 6, 2) := dk_21 6 (dk_at dksX1_takeBack_1 12 rfl rfl)
theorem dX1_takeBack_37 : decode cX1_takeBack 37 = .ok (.if_icmp .ge 43, 3) := dk_162 0 43 (dk_at dksX1_takeBack_1 14 rfl rfl)
theorem dX1_takeBack_40 : decode cX1_takeBack 40 = .ok (.aload 5, 2) := dk_25 5 (dk_at dksX1_takeBack_1 17 rfl rfl)
theorem dX1_takeBack_42 : decode cX1_takeBack 42 = .ok (.iload 7, 2) := dk_21 7 (dk_at dksX1_takeBack_1 19 rfl rfl)
theorem dX1_takeBack_44 : decode cX1_takeBack 44 = .ok (.iaload, 1) := dk_46 (dk_at dksX1_takeBack_1 21 rfl rfl)
theorem dX1_takeBack_45 : decode cX1_takeBack 45 = .ok (.istore 8, 2) := dk_54 8 (dk_at dksX1_takeBack_1 22 rfl rfl)
theorem dX1_takeBack_47 : decode cX1_takeBack 47 = .ok (.iload 4, 2) := dk_21 4 (dk_at dksX1_takeBack_2 0 rfl rfl)
theorem dX1_takeBack_49 : decode cX1_takeBack 49 = .ok (.aload_n 2, 1) := dk_44 (dk_at dksX1_takeBack_2 2 rfl rfl)
theorem dX1_takeBack_50 : decode cX1_takeBack 50 = .ok (.getfield 136, 3) := dk_180 0 136 (dk_at dksX1_takeBack_2 3 rfl rfl)
theorem dX1_takeBack_53 : decode cX1_takeBack 53 = .ok (.getfield 142, 3) := dk_180 0 142 (dk_at dksX1_takeBack_2 6 rfl rfl)
theorem dX1_takeBack_56 : decode cX1_takeBack 56 = .ok (.iload 8, 2) := dk_21 8 (dk_at dksX1_takeBack_2 9 rfl rfl)
theorem dX1_takeBack_58 : decode cX1_takeBack 58 = .ok (.iaload, 1) := dk_46 (dk_at dksX1_takeBack_2 11 rfl rfl)
theorem dX1_takeBack_59 : decode cX1_takeBack 59 = .ok (.aload_n 3, 1) := dk_45 (dk_at dksX1_takeBack_2 12 rfl rfl)
theorem dX1_takeBack_60 : decode cX1_takeBack 60 = .ok (.getfield 338, 3) := dk_180 1 82 (dk_at dksX1_takeBack_2 13 rfl rfl)
theorem dX1_takeBack_63 : decode cX1_takeBack 63 = .ok (.if_icmp .ne 7, 3) := dk_160 0 7 (dk_at dksX1_takeBack_2 16 rfl rfl)
theorem dX1_takeBack_66 : decode cX1_takeBack 66 = .ok (.iconst 1, 1) := dk_4 (dk_at dksX1_takeBack_2 19 rfl rfl)
theorem dX1_takeBack_67 : decode cX1_takeBack 67 = .ok (.goto 4, 3) := dk_167 0 4 (dk_at dksX1_takeBack_2 20 rfl rfl)
theorem dX1_takeBack_70 : decode cX1_takeBack 70 = .ok (.iconst 0, 1) := dk_3 (dk_at dksX1_takeBack_2 23 rfl rfl)
theorem dX1_takeBack_71 : decode cX1_takeBack 71 = .ok (.iadd, 1) := dk_96 (dk_at dksX1_takeBack_3 0 rfl rfl)
theorem dX1_takeBack_72 : decode cX1_takeBack 72 = .ok (.istore 4, 2) := dk_54 4 (dk_at dksX1_takeBack_3 1 rfl rfl)
theorem dX1_takeBack_74 : decode cX1_takeBack 74 = .ok (.iinc 7 1, 3) := dk_132 7 1 (dk_at dksX1_takeBack_3 3 rfl rfl)
theorem dX1_takeBack_77 : decode cX1_takeBack 77 = .ok (.goto (-44), 3) := dk_167 255 212 (dk_at dksX1_takeBack_3 6 rfl rfl)
theorem dX1_takeBack_80 : decode cX1_takeBack 80 = .ok (.iconst 3, 1) := dk_6 (dk_at dksX1_takeBack_3 9 rfl rfl)
theorem dX1_takeBack_81 : decode cX1_takeBack 81 = .ok (.iload 4, 2) := dk_21 4 (dk_at dksX1_takeBack_3 10 rfl rfl)
theorem dX1_takeBack_83 : decode cX1_takeBack 83 = .ok (.multianewarray 339 2, 4) := by decide +kernel
theorem dX1_takeBack_87 : decode cX1_takeBack 87 = .ok (.astore 5, 2) := dk_58 5 (dk_at dksX1_takeBack_3 16 rfl rfl)
theorem dX1_takeBack_89 : decode cX1_takeBack 89 = .ok (.iconst 0, 1) := dk_3 (dk_at dksX1_takeBack_3 18 rfl rfl)
theorem dX1_takeBack_90 : decode cX1_takeBack 90 = .ok (.istore 6, 2) := dk_54 6 (dk_at dksX1_takeBack_3 19 rfl rfl)
theorem dX1_takeBack_92 : decode cX1_takeBack 92 = .ok (.iconst 0, 1) := dk_3 (dk_at dksX1_takeBack_3 21 rfl rfl)
theorem dX1_takeBack_93 : decode cX1_takeBack 93 = .ok (.istore 7, 2) := dk_54 7 (dk_at dksX1_takeBack_3 22 rfl rfl)
theorem dX1_takeBack_95 : decode cX1_takeBack 95 = .ok (.iload 7, 2) := dk_21 7 (dk_at dksX1_takeBack_4 0 rfl rfl)
theorem dX1_takeBack_97 : decode cX1_takeBack 97 = .ok (.aload_n 3, 1) := dk_45 (dk_at dksX1_takeBack_4 2 rfl rfl)
theorem dX1_takeBack_98 : decode cX1_takeBack 98 = .ok (.getfield 336, 3) := dk_180 1 80 (dk_at dksX1_takeBack_4 3 rfl rfl)
theorem dX1_takeBack_101 : decode cX1_takeBack 101 = .ok (.arraylength, 1) := dk_190 (dk_at dksX1_takeBack_4 6 rfl rfl)
theorem dX1_takeBack_102 : decode cX1_takeBack 102 = .ok (.if_icmp .ge 76, 3) := dk_162 0 76 (dk_at dksX1_takeBack_4 7 rfl rfl)
theorem dX1_takeBack_105 : decode cX1_takeBack 105 = .ok (.aload_n 2, 1) := dk_44 (dk_at dksX1_takeBack_4 10 rfl rfl)
theorem dX1_takeBack_106 : decode cX1_takeBack 106 = .ok (.getfield 136, 3) := dk_180 0 136 (dk_at dksX1_takeBack_4 11 rfl rfl)
theorem dX1_takeBack_109 : decode cX1_takeBack 109 = .ok (.getfield 142, 3) := dk_180 0 142 (dk_at dksX1_takeBack_4 14 rfl rfl)
theorem dX1_takeBack_112 : decode cX1_takeBack 112 = .ok (.aload_n 3, 1) := dk_45 (dk_at dksX1_takeBack_4 17 rfl rfl)
theorem dX1_takeBack_113 : decode cX1_takeBack 113 = .ok (.getfield 336, 3) := dk_180 1 80 (dk_at dksX1_takeBack_4 18 rfl rfl)
theorem dX1_takeBack_116 : decode cX1_takeBack 116 = .ok (.iload 7, 2) := dk_21 7 (dk_at dksX1_takeBack_4 21 rfl rfl)
theorem dX1_takeBack_118 : decode cX1_takeBack 118 = .ok (.iaload, 1) := dk_46 (dk_at dksX1_takeBack_4 23 rfl rfl)
theorem dX1_takeBack_119 : decode cX1_takeBack 119 = .ok (.iaload, 1) := dk_46 (dk_at dksX1_takeBack_5 0 rfl rfl)
theorem dX1_takeBack_120 : decode cX1_takeBack 120 = .ok (.aload_n 3, 1) := dk_45 (dk_at dksX1_takeBack_5 1 rfl rfl)
theorem dX1_takeBack_121 : decode cX1_takeBack 121 = .ok (.getfield 338, 3) := dk_180 1 82 (dk_at dksX1_takeBack_5 2 rfl rfl)
theorem dX1_takeBack_124 : decode cX1_takeBack 124 = .ok (.if_icmp .ne 48, 3) := dk_160 0 48 (dk_at dksX1_takeBack_5 5 rfl rfl)
theorem dX1_takeBack_127 : decode cX1_takeBack 127 = .ok (.aload 5, 2) := dk_25 5 (dk_at dksX1_takeBack_5 8 rfl rfl)
theorem dX1_takeBack_129 : decode cX1_takeBack 129 = .ok (.iconst 0, 1) := dk_3 (dk_at dksX1_takeBack_5 10 rfl rfl)
theorem dX1_takeBack_130 : decode cX1_takeBack 130 = .ok (.aaload, 1) := dk_50 (dk_at dksX1_takeBack_5 11 rfl rfl)
theorem dX1_takeBack_131 : decode cX1_takeBack 131 = .ok (.iload 6, 2) := dk_21 6 (dk_at dksX1_takeBack_5 12 rfl rfl)
theorem dX1_takeBack_133 : decode cX1_takeBack 133 = .ok (.aload_n 3, 1) := dk_45 (dk_at dksX1_takeBack_5 14 rfl rfl)
theorem dX1_takeBack_134 : decode cX1_takeBack 134 = .ok (.getfield 336, 3) := dk_180 1 80 (dk_at dksX1_takeBack_5 15 rfl rfl)
theorem dX1_takeBack_137 : decode cX1_takeBack 137 = .ok (.iload 7, 2) := dk_21 7 (dk_at dksX1_takeBack_5 18 rfl rfl)
theorem dX1_takeBack_139 : decode cX1_takeBack 139 = .ok (.iaload, 1) := dk_46 (dk_at dksX1_takeBack_5 20 rfl rfl)
theorem dX1_takeBack_140 : decode cX1_takeBack 140 = .ok (.iastore, 1) := dk_79 (dk_at dksX1_takeBack_5 21 rfl rfl)
theorem dX1_takeBack_141 : decode cX1_takeBack 141 = .ok (.aload 5, 2) := dk_25 5 (dk_at dksX1_takeBack_5 22 rfl rfl)
theorem dX1_takeBack_143 : decode cX1_takeBack 143 = .ok (.iconst 1, 1) := dk_4 (dk_at dksX1_takeBack_6 0 rfl rfl)
theorem dX1_takeBack_144 : decode cX1_takeBack 144 = .ok (.aaload, 1) := dk_50 (dk_at dksX1_takeBack_6 1 rfl rfl)
theorem dX1_takeBack_145 : decode cX1_takeBack 145 = .ok (.iload 6, 2) := dk_21 6 (dk_at dksX1_takeBack_6 2 rfl rfl)
theorem dX1_takeBack_147 : decode cX1_takeBack 147 = .ok (.aload_n 3, 1) := dk_45 (dk_at dksX1_takeBack_6 4 rfl rfl)
theorem dX1_takeBack_148 : decode cX1_takeBack 148 = .ok (.getfield 340, 3) := dk_180 1 84 (dk_at dksX1_takeBack_6 5 rfl rfl)
theorem dX1_takeBack_151 : decode cX1_takeBack 151 = .ok (.iload 7, 2) := dk_21 7 (dk_at dksX1_takeBack_6 8 rfl rfl)
theorem dX1_takeBack_153 : decode cX1_takeBack 153 = .ok (.iaload, 1) := dk_46 (dk_at dksX1_takeBack_6 10 rfl rfl)
theorem dX1_takeBack_154 : decode cX1_takeBack 154 = .ok (.iastore, 1) := dk_79 (dk_at dksX1_takeBack_6 11 rfl rfl)
theorem dX1_takeBack_155 : decode cX1_takeBack 155 = .ok (.aload 5, 2) := dk_25 5 (dk_at dksX1_takeBack_6 12 rfl rfl)
theorem dX1_takeBack_157 : decode cX1_takeBack 157 = .ok (.iconst 2, 1) := dk_5 (dk_at dksX1_takeBack_6 14 rfl rfl)
theorem dX1_takeBack_158 : decode cX1_takeBack 158 = .ok (.aaload, 1) := dk_50 (dk_at dksX1_takeBack_6 15 rfl rfl)
theorem dX1_takeBack_159 : decode cX1_takeBack 159 = .ok (.iload 6, 2) := dk_21 6 (dk_at dksX1_takeBack_6 16 rfl rfl)
theorem dX1_takeBack_161 : decode cX1_takeBack 161 = .ok (.aload_n 3, 1) := dk_45 (dk_at dksX1_takeBack_6 18 rfl rfl)
theorem dX1_takeBack_162 : decode cX1_takeBack 162 = .ok (.getfield 343, 3) := dk_180 1 87 (dk_at dksX1_takeBack_6 19 rfl rfl)
theorem dX1_takeBack_165 : decode cX1_takeBack 165 = .ok (.iload 7, 2) := dk_21 7 (dk_at dksX1_takeBack_6 22 rfl rfl)
theorem dX1_takeBack_167 : decode cX1_takeBack 167 = .ok (.iaload, 1) := dk_46 (dk_at dksX1_takeBack_7 0 rfl rfl)
theorem dX1_takeBack_168 : decode cX1_takeBack 168 = .ok (.iastore, 1) := dk_79 (dk_at dksX1_takeBack_7 1 rfl rfl)
theorem dX1_takeBack_169 : decode cX1_takeBack 169 = .ok (.iinc 6 1, 3) := dk_132 6 1 (dk_at dksX1_takeBack_7 2 rfl rfl)
theorem dX1_takeBack_172 : decode cX1_takeBack 172 = .ok (.iinc 7 1, 3) := dk_132 7 1 (dk_at dksX1_takeBack_7 5 rfl rfl)
theorem dX1_takeBack_175 : decode cX1_takeBack 175 = .ok (.goto (-80), 3) := dk_167 255 176 (dk_at dksX1_takeBack_7 8 rfl rfl)
theorem dX1_takeBack_178 : decode cX1_takeBack 178 = .ok (.aload_n 3, 1) := dk_45 (dk_at dksX1_takeBack_7 11 rfl rfl)
theorem dX1_takeBack_179 : decode cX1_takeBack 179 = .ok (.iconst 1, 1) := dk_4 (dk_at dksX1_takeBack_7 12 rfl rfl)
theorem dX1_takeBack_180 : decode cX1_takeBack 180 = .ok (.putfield 329, 3) := dk_181 1 73 (dk_at dksX1_takeBack_7 13 rfl rfl)
theorem dX1_takeBack_183 : decode cX1_takeBack 183 = .ok (.aload_n 0, 1) := dk_42 (dk_at dksX1_takeBack_7 16 rfl rfl)
theorem dX1_takeBack_184 : decode cX1_takeBack 184 = .ok (.aload_n 2, 1) := dk_44 (dk_at dksX1_takeBack_7 17 rfl rfl)
theorem dX1_takeBack_185 : decode cX1_takeBack 185 = .ok (.aload 5, 2) := dk_25 5 (dk_at dksX1_takeBack_7 18 rfl rfl)
theorem dX1_takeBack_187 : decode cX1_takeBack 187 = .ok (.iconst 0, 1) := dk_3 (dk_at dksX1_takeBack_7 20 rfl rfl)
theorem dX1_takeBack_188 : decode cX1_takeBack 188 = .ok (.aaload, 1) := dk_50 (dk_at dksX1_takeBack_7 21 rfl rfl)
theorem dX1_takeBack_189 : decode cX1_takeBack 189 = .ok (.aload 5, 2) := dk_25 5 (dk_at dksX1_takeBack_7 22 rfl rfl)
theorem dX1_takeBack_191 : decode cX1_takeBack 191 = .ok (.iconst 1, 1) := dk_4 (dk_at dksX1_takeBack_8 0 rfl rfl)
theorem dX1_takeBack_192 : decode cX1_takeBack 192 = .ok (.aaload, 1) := dk_50 (dk_at dksX1_takeBack_8 1 rfl rfl)
theorem dX1_takeBack_193 : decode cX1_takeBack 193 = .ok (.aload 5, 2) := dk_25 5 (dk_at dksX1_takeBack_8 2 rfl rfl)
theorem dX1_takeBack_195 : decode cX1_takeBack 195 = .ok (.iconst 2, 1) := dk_5 (dk_at dksX1_takeBack_8 4 rfl rfl)
theorem dX1_takeBack_196 : decode cX1_takeBack 196 = .ok (.aaload, 1) := dk_50 (dk_at dksX1_takeBack_8 5 rfl rfl)
theorem dX1_takeBack_197 : decode cX1_takeBack 197 = .ok (.invokevirtual 164, 3) := dk_182 0 164 (dk_at dksX1_takeBack_8 6 rfl rfl)
theorem dX1_takeBack_200 : decode cX1_takeBack 200 = .ok (.iload 4, 2) := dk_21 4 (dk_at dksX1_takeBack_8 9 rfl rfl)
theorem dX1_takeBack_202 : decode cX1_takeBack 202 = .ok (.ireturn, 1) := dk_172 (dk_at dksX1_takeBack_8 11 rfl rfl)
theorem q700 : (Jvm.Cond.fieldLinkNest "Plugboard" (338 : Nat) "Plugboard$Operation" "number" "I" "Plugboard") ∈ lw_tbl := lw_at lw_m3 150 rfl
theorem q708 : (Jvm.Cond.fieldLinkNest "Plugboard" (336 : Nat) "Plugboard$Operation" "fields" "[I" "Plugboard") ∈ lw_tbl := lw_at lw_m3 158 rfl
theorem q714 : (Jvm.Cond.fieldLinkNest "Plugboard" (340 : Nat) "Plugboard$Operation" "before" "[I" "Plugboard") ∈ lw_tbl := lw_at lw_m3 164 rfl
theorem q716 : (Jvm.Cond.fieldLinkNest "Plugboard" (343 : Nat) "Plugboard$Operation" "stemmed" "[I" "Plugboard") ∈ lw_tbl := lw_at lw_m3 166 rfl
theorem q1352 : (Jvm.Cond.methodLink "Plugboard" (332 : Nat) ({ cls := "Plugboard", name := "lastStep", desc := "(I)LPlugboard$Operation;" } : Jvm.MethodName)) ∈ lw_all := lw_g (lw_at lw_m6 82 rfl) rfl
theorem q1354 : (Jvm.Cond.instanceMethod ({ cls := "Plugboard", name := "lastStep", desc := "(I)LPlugboard$Operation;" } : Jvm.MethodName)) ∈ lw_all := lw_g (lw_at lw_m6 84 rfl) rfl
theorem q1355 : (Jvm.Cond.code ({ cls := "Plugboard", name := "lastStep", desc := "(I)LPlugboard$Operation;" } : Jvm.MethodName) prog_1_method_38_code (4 : Nat) (Option.some (Jvm.ClassFile.FieldType.object "Plugboard$Operation"))) ∈ lw_all := lw_g (lw_at lw_m6 85 rfl) rfl
theorem q1356 : (Jvm.Cond.classLink "Plugboard" (339 : Nat) "[[I") ∈ lw_all := lw_g (lw_at lw_m6 86 rfl) rfl
abbrev rm_X1_takeBack : Room := { frames := 10, cells := 16, slots := 261, locals := 247 }
def w_X1_takeBack_95 (P : Int32 → AH → Prop) (PX : String → AH → Prop) (x0 : Option Nat) (x2 : Option Nat) (x3 : Option Nat) (x4 : Int32) (x5 : Option Nat) (x6 : Int32) (x7 : Int32) (h : AH) : Prop :=
  ∀ Z95 : Int32 → Int32 → AH → Prop, (∀ x6 x7 h, (
      g_q h x3 9 3 fun y98 =>
      n_a h y98 fun y101 =>
      ((y101 ≤ x7 →
        p_v h x3 9 9 (vI 1) fun h180 =>
        l_q h180 x5 0 fun y188 =>
        l_q h180 x5 1 fun y192 =>
        l_q h180 x5 2 fun y196 =>
        is_c h180 x0 [0] (
        w_X1_operate x0 x2 y188 y192 y196 h180 (fun h197 =>
        P x4 h197))) ∧
       (¬ y101 ≤ x7 →
        g_q h x2 2 1 fun y106 =>
        g_q h y106 1 1 fun y109 =>
        g_q h x3 9 3 fun y113 =>
        l_i h y113 0 x7 fun y118 =>
        l_i h y109 0 y118 fun y119 =>
        g_i h x3 9 0 fun y121 =>
        ((y119 = y121 →
          l_q h x5 0 fun y130 =>
          g_q h x3 9 3 fun y134 =>
          l_i h y134 0 x7 fun y139 =>
          s_i h y130 0 x6 y139 fun h140 =>
          l_q h140 x5 1 fun y144 =>
          g_q h140 x3 9 6 fun y148 =>
          l_i h140 y148 0 x7 fun y153 =>
          s_i h140 y144 0 x6 y153 fun h154 =>
          l_q h154 x5 2 fun y158 =>
          g_q h154 x3 9 7 fun y162 =>
          l_i h154 y162 0 x7 fun y167 =>
          s_i h154 y158 0 x6 y167 fun h168 =>
          Z95 (x6 + 1) (x7 + 1) h168) ∧
         (¬ y119 = y121 →
          Z95 x6 (x7 + 1) h)))))
      → Z95 x6 x7 h) → Z95 x6 x7 h
def w_X1_takeBack_33 (P : Int32 → AH → Prop) (PX : String → AH → Prop) (x0 : Option Nat) (x2 : Option Nat) (x3 : Option Nat) (x4 : Int32) (x5 : Option Nat) (x6 : Int32) (x7 : Int32) (h : AH) : Prop :=
  ∀ Z33 : Int32 → Int32 → Prop, (∀ x4 x7, (
      ((x6 ≤ x7 →
        mk_m h 13 0 3 x4 3 16 fun q83 h83 =>
        w_X1_takeBack_95 P PX x0 x2 x3 x4 (some q83) 0 0 h83) ∧
       (¬ x6 ≤ x7 →
        l_i h x5 0 x7 fun y44 =>
        g_q h x2 2 1 fun y50 =>
        g_q h y50 1 1 fun y53 =>
        l_i h y53 0 y44 fun y58 =>
        g_i h x3 9 0 fun y60 =>
        ((y58 = y60 →
          Z33 (x4 + 1) (x7 + 1)) ∧
         (¬ y58 = y60 →
          Z33 (x4 + 0) (x7 + 1))))))
      → Z33 x4 x7) → Z33 x4 x7
def w_X1_takeBack (a0 : Option Nat) (a1 : Int32) (h : AH) (P : Int32 → AH → Prop) (PX : String → AH → Prop) : Prop :=
  is_c h a0 [0] (
  w_X1_board a0 a1 h (fun y2 h2 =>
  is_c h2 a0 [0] (
  w_X1_lastStep a0 a1 h2 (fun y8 h8 =>
  is_c h8 a0 [0] (
  w_X1_requireRoom a0 h8 (fun h13 =>
  g_q h13 y8 9 3 fun y20 =>
  n_a h13 y20 fun y27 =>
  w_X1_takeBack_33 P PX a0 y2 y8 0 y20 y27 0 h13) PX)) PX)) PX)
theorem wk_X1_takeBack_95 {x : CX} (X : Ok x cX1_takeBack RX1 rm_X1_takeBack 9) (er : xrt x = (Option.some Jvm.ClassFile.FieldType.int)) (en : xnm x = yX1_takeBack.name) {P : Int32 → AH → Prop} {PX : String → AH → Prop} (hQ : xr_i x P) (hT : xt_ x PX) (hex : ∀ z ∈ x.2.2.2.2.2.2.2.2.2.1.exceptionTable.toList, False) (x0 : Option Nat) (x2 : Option Nat) (x3 : Option Nat) (x4 : Int32) (x5 : Option Nat) (x6 : Int32) (x7 : Int32) (h : AH) (hw : w_X1_takeBack_95 P PX x0 x2 x3 x4 x5 x6 x7 h) : J x h 8 70 95 [(0, vR x0), (2, vR x2), (3, vR x3), (4, vI x4), (5, vR x5), (6, vI x6), (7, vI x7)] [] := by
  refine hw (fun x6 x7 h => J x h 8 70 95 [(0, vR x0), (2, vR x2), (3, vR x3), (4, vI x4), (5, vR x5), (6, vI x6), (7, vI x7)] []) (fun x6 x7 h hw => ?_)
  refine j_iload X (pc := 95) 6 dX1_takeBack_95 rfl ?_
  refine j_aload_n X (pc := 97) 2 dX1_takeBack_97 rfl rfl ?_
  refine j_getqN (ci := 9) X (pc := 98) in_X11 rfl (by decide) 3 (by decide) q708 (Or.inl rfl) dX1_takeBack_98 hw (fun y98 hw => ?_)
  refine j_alen X (pc := 101) dX1_takeBack_101 hw (fun y101 hw => ?_)
  refine j_icmp_ge X (pc := 102) 178 dX1_takeBack_102 (by decide) hw (fun hw => ?_) (fun hw => ?_)
  · refine j_aload_n X (pc := 178) 2 dX1_takeBack_178 rfl rfl ?_
    refine j_iconst X (pc := 179) 1 dX1_takeBack_179 (by decide) ?_
    refine j_putN (ci := 9) X (pc := 180) in_X11 rfl (by decide) 9 (by decide) q719 (Or.inl rfl) tyX11 tyX11_ok nmX11 rfl rfl (ty := .boolean) (tyX11_ok 9 (by decide)) rfl rfl dX1_takeBack_180 hw (fun h180 hw => ?_)
    refine j_aload_n X (pc := 183) 0 dX1_takeBack_183 rfl rfl ?_
    refine j_aload_n X (pc := 184) 1 dX1_takeBack_184 rfl rfl ?_
    refine j_aload X (pc := 185) 4 dX1_takeBack_185 rfl ?_
    refine j_iconst X (pc := 187) 0 dX1_takeBack_187 (by decide) ?_
    refine j_aald X (pc := 188) dX1_takeBack_188 hw (fun y188 hw => ?_)
    refine j_aload X (pc := 189) 4 dX1_takeBack_189 rfl ?_
    refine j_iconst X (pc := 191) 1 dX1_takeBack_191 (by decide) ?_
    refine j_aald X (pc := 192) dX1_takeBack_192 hw (fun y192 hw => ?_)
    refine j_aload X (pc := 193) 4 dX1_takeBack_193 rfl ?_
    refine j_iconst X (pc := 195) 2 dX1_takeBack_195 (by decide) ?_
    refine j_aald X (pc := 196) dX1_takeBack_196 hw (fun y196 hw => ?_)
    obtain ⟨b9, c9, f9, hr9, ho9, hc9, hw⟩ := hw
    obtain rfl := List.mem_singleton.mp hc9
    refine j_callv (j_runV (n8 := 4) (As := [vR x2, vR y188, vR y192, vR y196]) (rest := []) X (pc := 197) hr9 (met_X1_operate (xl x) X.hl (xG x) h180 x0 x2 y188 y192 y196 _ hw) ho9 (by decide) rfl q688 q690 qs6 q71 q691 (by decide +kernel) dX1_takeBack_197 rfl ⟨Nat.le_of_ble_eq_true rfl, Nat.le_of_ble_eq_true rfl⟩ (Nat.le_of_ble_eq_true rfl) ⟨Nat.le_of_ble_eq_true rfl, Nat.le_of_ble_eq_true rfl⟩) (fun h197 hw => ?_)
    refine j_iload X (pc := 200) 3 dX1_takeBack_200 rfl ?_
    exact j_iret X (pc := 202) hQ er (Nat.le_of_ble_eq_true rfl) (Nat.le_of_ble_eq_true rfl) dX1_takeBack_202 hw
  · refine j_aload_n X (pc := 105) 1 dX1_takeBack_105 rfl rfl ?_
    refine j_getqN (ci := 2) X (pc := 106) in_X3 rfl (by decide) 1 (by decide) q210 (Or.inl rfl) dX1_takeBack_106 hw (fun y106 hw => ?_)
    refine j_getqN (ci := 1) X (pc := 109) in_X2 rfl (by decide) 1 (by decide) q170 (Or.inl rfl) dX1_takeBack_109 hw (fun y109 hw => ?_)
    refine j_aload_n X (pc := 112) 2 dX1_takeBack_112 rfl rfl ?_
    refine j_getqN (ci := 9) X (pc := 113) in_X11 rfl (by decide) 3 (by decide) q708 (Or.inl rfl) dX1_takeBack_113 hw (fun y113 hw => ?_)
    refine j_iload X (pc := 116) 6 dX1_takeBack_116 rfl ?_
    refine j_iald X (pc := 118) 0 rfl dX1_takeBack_118 hw (fun y118 hw => ?_)
    refine j_iald X (pc := 119) 0 rfl dX1_takeBack_119 hw (fun y119 hw => ?_)
    refine j_aload_n X (pc := 120) 2 dX1_takeBack_120 rfl rfl ?_
    refine j_getiN (ci := 9) X (pc := 121) in_X11 rfl (by decide) 0 (by decide) q700 (Or.inl rfl) dX1_takeBack_121 hw (fun y121 hw => ?_)
    refine j_icmp_ne X (pc := 124) 172 dX1_takeBack_124 (by decide) hw (fun hw => ?_) (fun hw => ?_)
    · refine j_aload X (pc := 127) 4 dX1_takeBack_127 rfl ?_
      refine j_iconst X (pc := 129) 0 dX1_takeBack_129 (by decide) ?_
      refine j_aald X (pc := 130) dX1_takeBack_130 hw (fun y130 hw => ?_)
      refine j_iload X (pc := 131) 5 dX1_takeBack_131 rfl ?_
      refine j_aload_n X (pc := 133) 2 dX1_takeBack_133 rfl rfl ?_
      refine j_getqN (ci := 9) X (pc := 134) in_X11 rfl (by decide) 3 (by decide) q708 (Or.inl rfl) dX1_takeBack_134 hw (fun y134 hw => ?_)
      refine j_iload X (pc := 137) 6 dX1_takeBack_137 rfl ?_
      refine j_iald X (pc := 139) 0 rfl dX1_takeBack_139 hw (fun y139 hw => ?_)
      refine j_iast X (pc := 140) 0 rfl rfl dX1_takeBack_140 hw (fun h140 hw => ?_)
      refine j_aload X (pc := 141) 4 dX1_takeBack_141 rfl ?_
      refine j_iconst X (pc := 143) 1 dX1_takeBack_143 (by decide) ?_
      refine j_aald X (pc := 144) dX1_takeBack_144 hw (fun y144 hw => ?_)
      refine j_iload X (pc := 145) 5 dX1_takeBack_145 rfl ?_
      refine j_aload_n X (pc := 147) 2 dX1_takeBack_147 rfl rfl ?_
      refine j_getqN (ci := 9) X (pc := 148) in_X11 rfl (by decide) 6 (by decide) q714 (Or.inl rfl) dX1_takeBack_148 hw (fun y148 hw => ?_)
      refine j_iload X (pc := 151) 6 dX1_takeBack_151 rfl ?_
      refine j_iald X (pc := 153) 0 rfl dX1_takeBack_153 hw (fun y153 hw => ?_)
      refine j_iast X (pc := 154) 0 rfl rfl dX1_takeBack_154 hw (fun h154 hw => ?_)
      refine j_aload X (pc := 155) 4 dX1_takeBack_155 rfl ?_
      refine j_iconst X (pc := 157) 2 dX1_takeBack_157 (by decide) ?_
      refine j_aald X (pc := 158) dX1_takeBack_158 hw (fun y158 hw => ?_)
      refine j_iload X (pc := 159) 5 dX1_takeBack_159 rfl ?_
      refine j_aload_n X (pc := 161) 2 dX1_takeBack_161 rfl rfl ?_
      refine j_getqN (ci := 9) X (pc := 162) in_X11 rfl (by decide) 7 (by decide) q716 (Or.inl rfl) dX1_takeBack_162 hw (fun y162 hw => ?_)
      refine j_iload X (pc := 165) 6 dX1_takeBack_165 rfl ?_
      refine j_iald X (pc := 167) 0 rfl dX1_takeBack_167 hw (fun y167 hw => ?_)
      refine j_iast X (pc := 168) 0 rfl rfl dX1_takeBack_168 hw (fun h168 hw => ?_)
      refine j_iinc X (pc := 169) 5 (x6 + 1) [(6, vI (x6 + 1)), (0, vR x0), (2, vR x2), (3, vR x3), (4, vI x4), (5, vR x5), (7, vI x7)] dX1_takeBack_169 rfl rfl (Nat.le_of_ble_eq_true rfl) rfl ?_
      refine j_iinc X (pc := 172) 6 (x7 + 1) [(7, vI (x7 + 1)), (6, vI (x6 + 1)), (0, vR x0), (2, vR x2), (3, vR x3), (4, vI x4), (5, vR x5)] dX1_takeBack_172 rfl rfl (Nat.le_of_ble_eq_true rfl) rfl ?_
      refine j_goto X (pc := 175) 95 dX1_takeBack_175 (by decide) ?_
      refine j_lv [(0, vR x0), (2, vR x2), (3, vR x3), (4, vI x4), (5, vR x5), (6, vI (x6 + 1)), (7, vI (x7 + 1))] [2, 3, 4, 5, 6, 1, 0] rfl ?_
      refine j_cs (u' := 8) (v' := 70) (Nat.le_of_ble_eq_true rfl) (Nat.le_of_ble_eq_true rfl) ?_
      exact hw
    · refine j_iinc X (pc := 172) 6 (x7 + 1) [(7, vI (x7 + 1)), (0, vR x0), (2, vR x2), (3, vR x3), (4, vI x4), (5, vR x5), (6, vI x6)] dX1_takeBack_172 rfl rfl (Nat.le_of_ble_eq_true rfl) rfl ?_
      refine j_goto X (pc := 175) 95 dX1_takeBack_175 (by decide) ?_
      refine j_lv [(0, vR x0), (2, vR x2), (3, vR x3), (4, vI x4), (5, vR x5), (6, vI x6), (7, vI (x7 + 1))] [1, 2, 3, 4, 5, 6, 0] rfl ?_
      refine j_cs (u' := 8) (v' := 70) (Nat.le_of_ble_eq_true rfl) (Nat.le_of_ble_eq_true rfl) ?_
      exact hw
theorem wk_X1_takeBack_33 {x : CX} (X : Ok x cX1_takeBack RX1 rm_X1_takeBack 9) (er : xrt x = (Option.some Jvm.ClassFile.FieldType.int)) (en : xnm x = yX1_takeBack.name) {P : Int32 → AH → Prop} {PX : String → AH → Prop} (hQ : xr_i x P) (hT : xt_ x PX) (hex : ∀ z ∈ x.2.2.2.2.2.2.2.2.2.1.exceptionTable.toList, False) (x0 : Option Nat) (x2 : Option Nat) (x3 : Option Nat) (x4 : Int32) (x5 : Option Nat) (x6 : Int32) (x7 : Int32) (h : AH) (hw : w_X1_takeBack_33 P PX x0 x2 x3 x4 x5 x6 x7 h) : J x h 4 19 33 [(0, vR x0), (2, vR x2), (3, vR x3), (4, vI x4), (5, vR x5), (6, vI x6), (7, vI x7)] [] := by
  refine hw (fun x4 x7 => J x h 4 19 33 [(0, vR x0), (2, vR x2), (3, vR x3), (4, vI x4), (5, vR x5), (6, vI x6), (7, vI x7)] []) (fun x4 x7 hw => ?_)
  refine j_iload X (pc := 33) 6 dX1_takeBack_33 rfl ?_
  refine j_iload X (pc := 35) 5 dX1_takeBack_35 rfl ?_
  refine j_icmp_ge X (pc := 37) 80 dX1_takeBack_37 (by decide) hw (fun hw => ?_) (fun hw => ?_)
  · refine j_iconst X (pc := 80) 3 dX1_takeBack_80 (by decide) ?_
    refine j_iload X (pc := 81) 3 dX1_takeBack_81 rfl ?_
    refine j_mul X (pc := 83) 13 0 (ty := .int) rfl (fun U hU => hU) (fun U hU => nm_p (ty := .int) hU rfl) (by decide) (by decide) rfl rfl 3 16 dX1_takeBack_83 q1356 (fun U hU => kt_13 hU) q180 rfl rfl rfl (by decide) (by decide) (by decide) (Nat.le_of_ble_eq_true rfl) (Nat.le_of_ble_eq_true rfl) hw (fun q83 h83 hw => ?_)
    refine j_astore X (pc := 87) [(5, vR (some q83)), (0, vR x0), (2, vR x2), (3, vR x3), (4, vI x4), (6, vI x6), (7, vI x7)] dX1_takeBack_87 (Nat.le_of_ble_eq_true rfl) rfl ?_
    refine j_iconst X (pc := 89) 0 dX1_takeBack_89 (by decide) ?_
    refine j_istore X (pc := 90) [(6, vI 0), (5, vR (some q83)), (0, vR x0), (2, vR x2), (3, vR x3), (4, vI x4), (7, vI x7)] dX1_takeBack_90 (Nat.le_of_ble_eq_true rfl) rfl ?_
    refine j_iconst X (pc := 92) 0 dX1_takeBack_92 (by decide) ?_
    refine j_istore X (pc := 93) [(7, vI 0), (6, vI 0), (5, vR (some q83)), (0, vR x0), (2, vR x2), (3, vR x3), (4, vI x4)] dX1_takeBack_93 (Nat.le_of_ble_eq_true rfl) rfl ?_
    refine j_lv [(0, vR x0), (2, vR x2), (3, vR x3), (4, vI x4), (5, vR (some q83)), (6, vI 0), (7, vI 0)] [3, 4, 5, 6, 2, 1, 0] rfl ?_
    refine j_cs (u' := 8) (v' := 70) (Nat.le_of_ble_eq_true rfl) (Nat.le_of_ble_eq_true rfl) ?_
    exact wk_X1_takeBack_95 X er en hQ hT hex x0 x2 x3 x4 (some q83) 0 0 h83 hw
  · refine j_aload X (pc := 40) 4 dX1_takeBack_40 rfl ?_
    refine j_iload X (pc := 42) 6 dX1_takeBack_42 rfl ?_
    refine j_iald X (pc := 44) 0 rfl dX1_takeBack_44 hw (fun y44 hw => ?_)
    refine j_istore X (pc := 45) [(8, vI y44), (0, vR x0), (2, vR x2), (3, vR x3), (4, vI x4), (5, vR x5), (6, vI x6), (7, vI x7)] dX1_takeBack_45 (Nat.le_of_ble_eq_true rfl) rfl ?_
    refine j_iload X (pc := 47) 4 dX1_takeBack_47 rfl ?_
    refine j_aload_n X (pc := 49) 2 dX1_takeBack_49 rfl rfl ?_
    refine j_getqN (ci := 2) X (pc := 50) in_X3 rfl (by decide) 1 (by decide) q210 (Or.inl rfl) dX1_takeBack_50 hw (fun y50 hw => ?_)
    refine j_getqN (ci := 1) X (pc := 53) in_X2 rfl (by decide) 1 (by decide) q170 (Or.inl rfl) dX1_takeBack_53 hw (fun y53 hw => ?_)
    refine j_iload X (pc := 56) 0 dX1_takeBack_56 rfl ?_
    refine j_iald X (pc := 58) 0 rfl dX1_takeBack_58 hw (fun y58 hw => ?_)
    refine j_aload_n X (pc := 59) 3 dX1_takeBack_59 rfl rfl ?_
    refine j_getiN (ci := 9) X (pc := 60) in_X11 rfl (by decide) 0 (by decide) q700 (Or.inl rfl) dX1_takeBack_60 hw (fun y60 hw => ?_)
    refine j_icmp_ne X (pc := 63) 70 dX1_takeBack_63 (by decide) hw (fun hw => ?_) (fun hw => ?_)
    · refine j_iconst X (pc := 66) 1 dX1_takeBack_66 (by decide) ?_
      refine j_goto X (pc := 67) 71 dX1_takeBack_67 (by decide) ?_
      refine j_iadd X (pc := 71) dX1_takeBack_71 ?_
      refine j_istore X (pc := 72) [(4, vI (x4 + 1)), (8, vI y44), (0, vR x0), (2, vR x2), (3, vR x3), (5, vR x5), (6, vI x6), (7, vI x7)] dX1_takeBack_72 (Nat.le_of_ble_eq_true rfl) rfl ?_
      refine j_iinc X (pc := 74) 7 (x7 + 1) [(7, vI (x7 + 1)), (4, vI (x4 + 1)), (8, vI y44), (0, vR x0), (2, vR x2), (3, vR x3), (5, vR x5), (6, vI x6)] dX1_takeBack_74 rfl rfl (Nat.le_of_ble_eq_true rfl) rfl ?_
      refine j_goto X (pc := 77) 33 dX1_takeBack_77 (by decide) ?_
      refine j_lv [(0, vR x0), (2, vR x2), (3, vR x3), (4, vI (x4 + 1)), (5, vR x5), (6, vI x6), (7, vI (x7 + 1))] [3, 4, 5, 1, 6, 7, 0] rfl ?_
      refine j_cs (u' := 4) (v' := 19) (Nat.le_of_ble_eq_true rfl) (Nat.le_of_ble_eq_true rfl) ?_
      exact hw
    · refine j_iconst X (pc := 70) 0 dX1_takeBack_70 (by decide) ?_
      refine j_iadd X (pc := 71) dX1_takeBack_71 ?_
      refine j_istore X (pc := 72) [(4, vI (x4 + 0)), (8, vI y44), (0, vR x0), (2, vR x2), (3, vR x3), (5, vR x5), (6, vI x6), (7, vI x7)] dX1_takeBack_72 (Nat.le_of_ble_eq_true rfl) rfl ?_
      refine j_iinc X (pc := 74) 7 (x7 + 1) [(7, vI (x7 + 1)), (4, vI (x4 + 0)), (8, vI y44), (0, vR x0), (2, vR x2), (3, vR x3), (5, vR x5), (6, vI x6)] dX1_takeBack_74 rfl rfl (Nat.le_of_ble_eq_true rfl) rfl ?_
      refine j_goto X (pc := 77) 33 dX1_takeBack_77 (by decide) ?_
      refine j_lv [(0, vR x0), (2, vR x2), (3, vR x3), (4, vI (x4 + 0)), (5, vR x5), (6, vI x6), (7, vI (x7 + 1))] [3, 4, 5, 1, 6, 7, 0] rfl ?_
      refine j_cs (u' := 4) (v' := 19) (Nat.le_of_ble_eq_true rfl) (Nat.le_of_ble_eq_true rfl) ?_
      exact hw
theorem met_X1_takeBack (l : Launch) (hlt : l.stackTraces = false) (G : GG) (h : AH) (a0 : Option Nat) (a1 : Int32) (P : Int32 → AH → Prop) (PX : String → AH → Prop) (hw : w_X1_takeBack a0 a1 h P PX) : cx_i l yX1_takeBack (ws_ yX1_takeBack cX1_takeBack 9 (Option.some Jvm.ClassFile.FieldType.int)) rm_X1_takeBack G h [vR a0, vI a1] P PX := by
  refine j_startXi hlt [(0, vR a0), (1, vI a1)] (by decide) rfl rfl (fun x X eG er en hQ hT hex => ?_)
  subst eG
  refine j_aload_n X (pc := 0) 0 dX1_takeBack_0 rfl rfl ?_
  refine j_iload_n X (pc := 1) 1 dX1_takeBack_1 rfl rfl ?_
  obtain ⟨b9, c9, f9, hr9, ho9, hc9, hw⟩ := hw
  obtain rfl := List.mem_singleton.mp hc9
  refine j_callXq (j_runVX (n8 := 1) (As := [vI a1]) (rest := []) X (pc := 2) hr9 (met_X1_board (xl x) X.hl (xG x) h a0 a1 _ _ hw) ho9 (by decide) rfl q297 q299 qs0 q71 q300 (by decide +kernel) dX1_takeBack_2 rfl ⟨Nat.le_of_ble_eq_true rfl, Nat.le_of_ble_eq_true rfl⟩ (Nat.le_of_ble_eq_true rfl) ⟨Nat.le_of_ble_eq_true rfl, Nat.le_of_ble_eq_true rfl⟩) (fun E h9 hx => j_out X hT hex (Nat.le_of_ble_eq_true rfl) (Nat.le_of_ble_eq_true rfl) hx) (fun y2 h2 hw => ?_)
  refine j_astore_n X (pc := 5) [(2, vR y2), (0, vR a0), (1, vI a1)] dX1_takeBack_5 rfl (Nat.le_of_ble_eq_true rfl) rfl ?_
  refine j_aload_n X (pc := 6) 1 dX1_takeBack_6 rfl rfl ?_
  refine j_iload_n X (pc := 7) 2 dX1_takeBack_7 rfl rfl ?_
  obtain ⟨b9, c9, f9, hr9, ho9, hc9, hw⟩ := hw
  obtain rfl := List.mem_singleton.mp hc9
  refine j_callXq (j_runVX (n8 := 1) (As := [vI a1]) (rest := []) X (pc := 8) hr9 (met_X1_lastStep (xl x) X.hl (xG x) h2 a0 a1 _ _ hw) ho9 (by decide) rfl q1352 q1354 qs16 q71 q1355 (by decide +kernel) dX1_takeBack_8 rfl ⟨Nat.le_of_ble_eq_true rfl, Nat.le_of_ble_eq_true rfl⟩ (Nat.le_of_ble_eq_true rfl) ⟨Nat.le_of_ble_eq_true rfl, Nat.le_of_ble_eq_true rfl⟩) (fun E h9 hx => j_out X hT hex (Nat.le_of_ble_eq_true rfl) (Nat.le_of_ble_eq_true rfl) hx) (fun y8 h8 hw => ?_)
  refine j_astore_n X (pc := 11) [(3, vR y8), (2, vR y2), (0, vR a0), (1, vI a1)] dX1_takeBack_11 rfl (Nat.le_of_ble_eq_true rfl) rfl ?_
  refine j_aload_n X (pc := 12) 2 dX1_takeBack_12 rfl rfl ?_
  obtain ⟨b9, c9, f9, hr9, ho9, hc9, hw⟩ := hw
  obtain rfl := List.mem_singleton.mp hc9
  refine j_callXv (j_runVX (n8 := 0) (As := []) (rest := []) X (pc := 13) hr9 (met_X1_requireRoom (xl x) X.hl (xG x) h8 a0 _ _ hw) ho9 (by decide) rfl q400 q402 qs2 q71 q403 (by decide +kernel) dX1_takeBack_13 rfl ⟨Nat.le_of_ble_eq_true rfl, Nat.le_of_ble_eq_true rfl⟩ (Nat.le_of_ble_eq_true rfl) ⟨Nat.le_of_ble_eq_true rfl, Nat.le_of_ble_eq_true rfl⟩) (fun E h9 hx => j_out X hT hex (Nat.le_of_ble_eq_true rfl) (Nat.le_of_ble_eq_true rfl) hx) (fun h13 hw => ?_)
  refine j_iconst X (pc := 16) 0 dX1_takeBack_16 (by decide) ?_
  refine j_istore X (pc := 17) [(4, vI 0), (3, vR y8), (2, vR y2), (0, vR a0), (1, vI a1)] dX1_takeBack_17 (Nat.le_of_ble_eq_true rfl) rfl ?_
  refine j_aload_n X (pc := 19) 1 dX1_takeBack_19 rfl rfl ?_
  refine j_getqN (ci := 9) X (pc := 20) in_X11 rfl (by decide) 3 (by decide) q708 (Or.inl rfl) dX1_takeBack_20 hw (fun y20 hw => ?_)
  refine j_astore X (pc := 23) [(5, vR y20), (4, vI 0), (3, vR y8), (2, vR y2), (0, vR a0), (1, vI a1)] dX1_takeBack_23 (Nat.le_of_ble_eq_true rfl) rfl ?_
  refine j_aload X (pc := 25) 0 dX1_takeBack_25 rfl ?_
  refine j_alen X (pc := 27) dX1_takeBack_27 hw (fun y27 hw => ?_)
  refine j_istore X (pc := 28) [(6, vI y27), (5, vR y20), (4, vI 0), (3, vR y8), (2, vR y2), (0, vR a0), (1, vI a1)] dX1_takeBack_28 (Nat.le_of_ble_eq_true rfl) rfl ?_
  refine j_iconst X (pc := 30) 0 dX1_takeBack_30 (by decide) ?_
  refine j_istore X (pc := 31) [(7, vI 0), (6, vI y27), (5, vR y20), (4, vI 0), (3, vR y8), (2, vR y2), (0, vR a0), (1, vI a1)] dX1_takeBack_31 (Nat.le_of_ble_eq_true rfl) rfl ?_
  refine j_lv [(0, vR a0), (2, vR y2), (3, vR y8), (4, vI 0), (5, vR y20), (6, vI y27), (7, vI 0)] [6, 5, 4, 3, 2, 1, 0] rfl ?_
  refine j_cs (u' := 4) (v' := 19) (Nat.le_of_ble_eq_true rfl) (Nat.le_of_ble_eq_true rfl) ?_
  exact wk_X1_takeBack_33 X er en hQ hT hex a0 y2 y8 0 y20 y27 0 h13 hw
abbrev cX0_takeBack : ByteArray := method_15_code
def yX0_takeBack : MethodName := ⟨RX0, "takeBack", "(LPlugboard;I[J)I"⟩
def dkwX0_takeBack_0 : List UInt8 := [44, 3, 42, 27, 182, 0, 59, 133, 80, 167, 0, 12, 78, 4, 172, 78, 5, 172, 78, 6, 172, 3, 172]
abbrev dktX0_takeBack_0 : List UInt8 := dkwX0_takeBack_0 ++ []
theorem dksX0_takeBack_0 : cX0_takeBack.data.toList.drop 0 = dktX0_takeBack_0 := by decide +kernel
theorem dX0_takeBack_0 : decode cX0_takeBack 0 = .ok (.aload_n 2, 1) := dk_44 (dk_at dksX0_takeBack_0 0 rfl rfl)
theorem dX0_takeBack_1 : decode cX0_takeBack 1 = .ok (.iconst 0, 1) := dk_3 (dk_at dksX0_takeBack_0 1 rfl rfl)
theorem dX0_takeBack_2 : decode cX0_takeBack 2 = .ok (.aload_n 0, 1) := dk_42 (dk_at dksX0_takeBack_0 2 rfl rfl)
theorem dX0_takeBack_3 : decode cX0_takeBack 3 = .ok (.iload_n 1, 1) := dk_27 (dk_at dksX0_takeBack_0 3 rfl rfl)
theorem dX0_takeBack_4 : decode cX0_takeBack 4 = .ok (.invokevirtual 59, 3) := dk_182 0 59 (dk_at dksX0_takeBack_0 4 rfl rfl)
theorem dX0_takeBack_7 : decode cX0_takeBack 7 = .ok (.i2l, 1) := dk_133 (dk_at dksX0_takeBack_0 7 rfl rfl)
theorem dX0_takeBack_8 : decode cX0_takeBack 8 = .ok (.lastore, 1) := dk_80 (dk_at dksX0_takeBack_0 8 rfl rfl)
theorem dX0_takeBack_9 : decode cX0_takeBack 9 = .ok (.goto 12, 3) := dk_167 0 12 (dk_at dksX0_takeBack_0 9 rfl rfl)
theorem dX0_takeBack_12 : decode cX0_takeBack 12 = .ok (.astore_n 3, 1) := dk_78 (dk_at dksX0_takeBack_0 12 rfl rfl)
theorem dX0_takeBack_13 : decode cX0_takeBack 13 = .ok (.iconst 1, 1) := dk_4 (dk_at dksX0_takeBack_0 13 rfl rfl)
theorem dX0_takeBack_14 : decode cX0_takeBack 14 = .ok (.ireturn, 1) := dk_172 (dk_at dksX0_takeBack_0 14 rfl rfl)
theorem dX0_takeBack_15 : decode cX0_takeBack 15 = .ok (.astore_n 3, 1) := dk_78 (dk_at dksX0_takeBack_0 15 rfl rfl)
theorem dX0_takeBack_16 : decode cX0_takeBack 16 = .ok (.iconst 2, 1) := dk_5 (dk_at dksX0_takeBack_0 16 rfl rfl)
theorem dX0_takeBack_17 : decode cX0_takeBack 17 = .ok (.ireturn, 1) := dk_172 (dk_at dksX0_takeBack_0 17 rfl rfl)
theorem dX0_takeBack_18 : decode cX0_takeBack 18 = .ok (.astore_n 3, 1) := dk_78 (dk_at dksX0_takeBack_0 18 rfl rfl)
theorem dX0_takeBack_19 : decode cX0_takeBack 19 = .ok (.iconst 3, 1) := dk_6 (dk_at dksX0_takeBack_0 19 rfl rfl)
theorem dX0_takeBack_20 : decode cX0_takeBack 20 = .ok (.ireturn, 1) := dk_172 (dk_at dksX0_takeBack_0 20 rfl rfl)
theorem dX0_takeBack_21 : decode cX0_takeBack 21 = .ok (.iconst 0, 1) := dk_3 (dk_at dksX0_takeBack_0 21 rfl rfl)
theorem dX0_takeBack_22 : decode cX0_takeBack 22 = .ok (.ireturn, 1) := dk_172 (dk_at dksX0_takeBack_0 22 rfl rfl)
theorem q1348 : (Jvm.Cond.methodLink "PlugboardLaw" (59 : Nat) ({ cls := "Plugboard", name := "takeBack", desc := "(I)I" } : Jvm.MethodName)) ∈ lw_all := lw_g (lw_at lw_m6 78 rfl) rfl
theorem q1349 : (Jvm.Cond.instanceMethod ({ cls := "Plugboard", name := "takeBack", desc := "(I)I" } : Jvm.MethodName)) ∈ lw_all := lw_g (lw_at lw_m6 79 rfl) rfl
theorem q1350 : (Jvm.Cond.selects "Plugboard" ({ cls := "Plugboard", name := "takeBack", desc := "(I)I" } : Jvm.MethodName) ({ cls := "Plugboard", name := "takeBack", desc := "(I)I" } : Jvm.MethodName)) ∈ lw_all := lw_g (lw_at lw_m6 80 rfl) rfl
theorem q1351 : (Jvm.Cond.code ({ cls := "Plugboard", name := "takeBack", desc := "(I)I" } : Jvm.MethodName) prog_1_method_39_code (9 : Nat) (Option.some Jvm.ClassFile.FieldType.int)) ∈ lw_all := lw_g (lw_at lw_m6 81 rfl) rfl
abbrev rm_X0_takeBack : Room := { frames := 11, cells := 16, slots := 261, locals := 275 }
def w_X0_takeBack (a0 : Option Nat) (a1 : Int32) (a2 : Option Nat) (h : AH) (P : Int32 → AH → Prop) : Prop :=
  is_c h a0 [0] (
  w_X1_takeBack a0 a1 h (fun y4 h4 =>
  s_L h4 a2 0 (Int32.toInt64 y4) fun h8 =>
  P 0 h8)
    (fun E9 h9 => (E9 = "java/lang/IllegalArgumentException" ∧ ∀ q9 : Nat,
    P 1 h9) ∨
    (E9 = "java/util/NoSuchElementException" ∧ ∀ q9 : Nat,
    P 2 h9) ∨
    (E9 = "java/lang/IllegalStateException" ∧ ∀ q9 : Nat,
    P 3 h9)))
theorem met_X0_takeBack (l : Launch) (hlt : l.stackTraces = false) (G : GG) (h : AH) (a0 : Option Nat) (a1 : Int32) (a2 : Option Nat) (P : Int32 → AH → Prop) (hw : w_X0_takeBack a0 a1 a2 h P) : ct_i l yX0_takeBack (wsW_ yX0_takeBack cX0_takeBack 4 (Option.some Jvm.ClassFile.FieldType.int) [((0 : Nat), (9 : Nat), (12 : Nat), (13 : Nat)), ((0 : Nat), (9 : Nat), (15 : Nat), (21 : Nat)), ((0 : Nat), (9 : Nat), (18 : Nat), (15 : Nat))]) rm_X0_takeBack G h [vR a0, vI a1, vR a2] P := by
  refine j_startWi hlt [(0, vR a0), (1, vI a1), (2, vR a2)] (by decide) rfl rfl (fun x X eG er en hQ hex => ?_)
  subst eG
  refine j_aload_n X (pc := 0) 2 dX0_takeBack_0 rfl rfl ?_
  refine j_iconst X (pc := 1) 0 dX0_takeBack_1 (by decide) ?_
  refine j_aload_n X (pc := 2) 0 dX0_takeBack_2 rfl rfl ?_
  refine j_iload_n X (pc := 3) 1 dX0_takeBack_3 rfl rfl ?_
  obtain ⟨b9, c9, f9, hr9, ho9, hc9, hw⟩ := hw
  obtain rfl := List.mem_singleton.mp hc9
  refine j_callXi (j_runVX (n8 := 1) (As := [vI a1]) (rest := [vI 0, vR a2]) X (pc := 4) hr9 (met_X1_takeBack (xl x) X.hl (xG x) h a0 a1 _ _ hw) ho9 (by decide) rfl q1348 q1349 q1350 q71 q1351 (by decide +kernel) dX0_takeBack_4 rfl ⟨Nat.le_of_ble_eq_true rfl, Nat.le_of_ble_eq_true rfl⟩ (Nat.le_of_ble_eq_true rfl) ⟨Nat.le_of_ble_eq_true rfl, Nat.le_of_ble_eq_true rfl⟩) ?_ (fun y4 h4 hw => ?_)
  · intro E9 h9 hx
    rcases hx with ⟨rfl, hw⟩ | ⟨rfl, hw⟩ | ⟨rfl, hw⟩
    · refine j_catch X (pc := 4) "java/lang/IllegalArgumentException" hex [] [⟨0, 9, 15, 21⟩, ⟨0, 9, 18, 15⟩] ⟨0, 9, 12, 13⟩ rfl (by intro y hy; cases hy) (by decide) (by decide) q291 q312 (fun q9 => ?_)
      have hw := hw q9
      refine j_astore_n X (pc := 12) [(3, vR (some q9)), (0, vR a0), (1, vI a1), (2, vR a2)] dX0_takeBack_12 rfl (Nat.le_of_ble_eq_true rfl) rfl ?_
      refine j_iconst X (pc := 13) 1 dX0_takeBack_13 (by decide) ?_
      exact j_iret X (pc := 14) hQ er (Nat.le_of_ble_eq_true rfl) (Nat.le_of_ble_eq_true rfl) dX0_takeBack_14 hw
    · refine j_catch X (pc := 4) "java/util/NoSuchElementException" hex [⟨0, 9, 12, 13⟩] [⟨0, 9, 18, 15⟩] ⟨0, 9, 15, 21⟩ rfl (by intro y hy; simp only [List.mem_cons, List.not_mem_nil, or_false] at hy; subst hy; exact Or.inr ⟨by decide, "java/lang/IllegalArgumentException", q291, by decide +kernel⟩) (by decide) (by decide) q1068 q537 (fun q9 => ?_)
      have hw := hw q9
      refine j_astore_n X (pc := 15) [(3, vR (some q9)), (0, vR a0), (1, vI a1), (2, vR a2)] dX0_takeBack_15 rfl (Nat.le_of_ble_eq_true rfl) rfl ?_
      refine j_iconst X (pc := 16) 2 dX0_takeBack_16 (by decide) ?_
      exact j_iret X (pc := 17) hQ er (Nat.le_of_ble_eq_true rfl) (Nat.le_of_ble_eq_true rfl) dX0_takeBack_17 hw
    · refine j_catch X (pc := 4) "java/lang/IllegalStateException" hex [⟨0, 9, 12, 13⟩, ⟨0, 9, 15, 21⟩] [] ⟨0, 9, 18, 15⟩ rfl (by intro y hy; simp only [List.mem_cons, List.not_mem_nil, or_false] at hy; rcases hy with rfl | rfl <;> first | exact Or.inr ⟨by decide, "java/lang/IllegalArgumentException", q291, by decide +kernel⟩ | exact Or.inr ⟨by decide, "java/util/NoSuchElementException", q1068, by decide +kernel⟩) (by decide) (by decide) q292 q387 (fun q9 => ?_)
      have hw := hw q9
      refine j_astore_n X (pc := 18) [(3, vR (some q9)), (0, vR a0), (1, vI a1), (2, vR a2)] dX0_takeBack_18 rfl (Nat.le_of_ble_eq_true rfl) rfl ?_
      refine j_iconst X (pc := 19) 3 dX0_takeBack_19 (by decide) ?_
      exact j_iret X (pc := 20) hQ er (Nat.le_of_ble_eq_true rfl) (Nat.le_of_ble_eq_true rfl) dX0_takeBack_20 hw
  refine j_i2l X (pc := 7) dX0_takeBack_7 ?_
  refine j_last X (pc := 8) dX0_takeBack_8 hw (fun h8 hw => ?_)
  refine j_goto X (pc := 9) 21 dX0_takeBack_9 (by decide) ?_
  refine j_iconst X (pc := 21) 0 dX0_takeBack_21 (by decide) ?_
  exact j_iret X (pc := 22) hQ er (Nat.le_of_ble_eq_true rfl) (Nat.le_of_ble_eq_true rfl) dX0_takeBack_22 hw
abbrev cX5_takeBack : ByteArray := prog_19_method_42_code
def yX5_takeBack : MethodName := ⟨RX5, "takeBack", "(I)I"⟩
def dkwX5_takeBack_7 : List UInt8 := [182, 0, 186, 29, 172]
abbrev dktX5_takeBack_7 : List UInt8 := dkwX5_takeBack_7 ++ []
def dkwX5_takeBack_6 : List UInt8 := [182, 0, 151, 132, 3, 1, 167, 255, 198, 42, 180, 0, 59, 28, 3, 84, 42, 180, 0, 148, 62, 42, 27, 3]
abbrev dktX5_takeBack_6 : List UInt8 := dkwX5_takeBack_6 ++ dktX5_takeBack_7
def dkwX5_takeBack_5 : List UInt8 := [180, 0, 44, 28, 50, 29, 46, 42, 180, 0, 50, 28, 50, 29, 46, 42, 180, 0, 56, 28, 50, 29, 46]
abbrev dktX5_takeBack_5 : List UInt8 := dkwX5_takeBack_5 ++ dktX5_takeBack_6
def dkwX5_takeBack_4 : List UInt8 := [162, 0, 54, 42, 180, 0, 73, 42, 180, 0, 44, 28, 50, 29, 46, 46, 28, 160, 0, 31, 42, 42]
abbrev dktX5_takeBack_4 : List UInt8 := dkwX5_takeBack_4 ++ dktX5_takeBack_5
def dkwX5_takeBack_3 : List UInt8 := [160, 0, 9, 42, 6, 182, 0, 172, 172, 42, 27, 182, 0, 161, 3, 62, 29, 42, 180, 0, 39, 28, 46]
abbrev dktX5_takeBack_3 : List UInt8 := dkwX5_takeBack_3 ++ dktX5_takeBack_4
def dkwX5_takeBack_2 : List UInt8 := [132, 2, 255, 167, 255, 230, 28, 156, 0, 9, 42, 5, 182, 0, 172, 172, 42, 180, 0, 108, 17, 0, 250]
abbrev dktX5_takeBack_2 : List UInt8 := dkwX5_takeBack_2 ++ dktX5_takeBack_3
def dkwX5_takeBack_1 : List UInt8 := [61, 28, 155, 0, 28, 42, 180, 0, 59, 28, 51, 153, 0, 13, 42, 180, 0, 33, 28, 46, 27, 159, 0, 9]
abbrev dktX5_takeBack_1 : List UInt8 := dkwX5_takeBack_1 ++ dktX5_takeBack_2
def dkwX5_takeBack_0 : List UInt8 := [42, 3, 181, 0, 97, 27, 184, 0, 165, 154, 0, 9, 42, 4, 182, 0, 172, 172, 42, 180, 0, 108, 4, 100]
abbrev dktX5_takeBack_0 : List UInt8 := dkwX5_takeBack_0 ++ dktX5_takeBack_1
theorem dksX5_takeBack_0 : cX5_takeBack.data.toList.drop 0 = dktX5_takeBack_0 := by decide +kernel
theorem dksX5_takeBack_1 : cX5_takeBack.data.toList.drop 24 = dktX5_takeBack_1 := dk_seg dksX5_takeBack_0 24 rfl rfl
theorem dksX5_takeBack_2 : cX5_takeBack.data.toList.drop 48 = dktX5_takeBack_2 := dk_seg dksX5_takeBack_1 24 rfl rfl
theorem dksX5_takeBack_3 : cX5_takeBack.data.toList.drop 71 = dktX5_takeBack_3 := dk_seg dksX5_takeBack_2 23 rfl rfl
theorem dksX5_takeBack_4 : cX5_takeBack.data.toList.drop 94 = dktX5_takeBack_4 := dk_seg dksX5_takeBack_3 23 rfl rfl
theorem dksX5_takeBack_5 : cX5_takeBack.data.toList.drop 116 = dktX5_takeBack_5 := dk_seg dksX5_takeBack_4 22 rfl rfl
theorem dksX5_takeBack_6 : cX5_takeBack.data.toList.drop 139 = dktX5_takeBack_6 := dk_seg dksX5_takeBack_5 23 rfl rfl
theorem dksX5_takeBack_7 : cX5_takeBack.data.toList.drop 163 = dktX5_takeBack_7 := dk_seg dksX5_takeBack_6 24 rfl rfl
theorem dX5_takeBack_0 : decode cX5_takeBack 0 = .ok (.aload_n 0, 1) := dk_42 (dk_at dksX5_takeBack_0 0 rfl rfl)
theorem dX5_takeBack_1 : decode cX5_takeBack 1 = .ok (.iconst 0, 1) := dk_3 (dk_at dksX5_takeBack_0 1 rfl rfl)
theorem dX5_takeBack_2 : decode cX5_takeBack 2 = .ok (.putfield 97, 3) := dk_181 0 97 (dk_at dksX5_takeBack_0 2 rfl rfl)
theorem dX5_takeBack_5 : decode cX5_takeBack 5 = .ok (.iload_n 1, 1) := dk_27 (dk_at dksX5_takeBack_0 5 rfl rfl)
theorem dX5_takeBack_6 : decode cX5_takeBack 6 = .ok (.invokestatic 165, 3) := dk_184 0 165 (dk_at dksX5_takeBack_0 6 rfl rfl)
theorem dX5_takeBack_9 : decode cX5_takeBack 9 = .ok (.ifCond .ne 9, 3) := dk_154 0 9 (dk_at dksX5_takeBack_0 9 rfl rfl)
theorem dX5_takeBack_12 : decode cX5_takeBack 12 = .ok (.aload_n 0, 1) := dk_42 (dk_at dksX5_takeBack_0 12 rfl rfl)
theorem dX5_takeBack_13 : decode cX5_takeBack 13 = .ok (.iconst 1, 1) := dk_4 (dk_at dksX5_takeBack_0 13 rfl rfl)
theorem dX5_takeBack_14 : decode cX5_takeBack 14 = .ok (.invokevirtual 172, 3) := dk_182 0 172 (dk_at dksX5_takeBack_0 14 rfl rfl)
theorem dX5_takeBack_17 : decode cX5_takeBack 17 = .ok (.ireturn, 1) := dk_172 (dk_at dksX5_takeBack_0 17 rfl rfl)
theorem dX5_takeBack_18 : decode cX5_takeBack 18 = .ok (.aload_n 0, 1) := dk_42 (dk_at dksX5_takeBack_0 18 rfl rfl)
theorem dX5_takeBack_19 : decode cX5_takeBack 19 = .ok (.getfield 108, 3) := dk_180 0 108 (dk_at dksX5_takeBack_0 19 rfl rfl)
theorem dX5_takeBack_22 : decode cX5_takeBack 22 = .ok (.iconst 1, 1) := dk_4 (dk_at dksX5_takeBack_0 22 rfl rfl)
theorem dX5_takeBack_23 : decode cX5_takeBack 23 = .ok (.isub, 1) := dk_100 (dk_at dksX5_takeBack_0 23 rfl rfl)
theorem dX5_takeBack_24 : decode cX5_takeBack 24 = .ok (.istore_n 2, 1) := dk_61 (dk_at dksX5_takeBack_1 0 rfl rfl)
theorem dX5_takeBack_25 : decode cX5_takeBack 25 = .ok (.iload_n 2, 1) := dk_28 (dk_at dksX5_takeBack_1 1 rfl rfl)
theorem dX5_takeBack_26 : decode cX5_takeBack 26 = .ok (.ifCond .lt 28, 3) := dk_155 0 28 (dk_at dksX5_takeBack_1 2 rfl rfl)
theorem dX5_takeBack_29 : decode cX5_takeBack 29 = .ok (.aload_n 0, 1) := dk_42 (dk_at dksX5_takeBack_1 5 rfl rfl)
theorem dX5_takeBack_30 : decode cX5_takeBack 30 = .ok (.getfield 59, 3) := dk_180 0 59 (dk_at dksX5_takeBack_1 6 rfl rfl)
theorem dX5_takeBack_33 : decode cX5_takeBack 33 = .ok (.iload_n 2, 1) := dk_28 (dk_at dksX5_takeBack_1 9 rfl rfl)
theorem dX5_takeBack_34 : decode cX5_takeBack 34 = .ok (.baload, 1) := dk_51 (dk_at dksX5_takeBack_1 10 rfl rfl)
theorem dX5_takeBack_35 : decode cX5_takeBack 35 = .ok (.ifCond .eq 13, 3) := dk_153 0 13 (dk_at dksX5_takeBack_1 11 rfl rfl)
theorem dX5_takeBack_38 : decode cX5_takeBack 38 = .ok (.aload_n 0, 1) := dk_42 (dk_at dksX5_takeBack_1 14 rfl rfl)
theorem dX5_takeBack_39 : decode cX5_takeBack 39 = .ok (.getfield 33, 3) := dk_180 0 33 (dk_at dksX5_takeBack_1 15 rfl rfl)
theorem dX5_takeBack_42 : decode cX5_takeBack 42 = .ok (.iload_n 2, 1) := dk_28 (dk_at dksX5_takeBack_1 18 rfl rfl)
theorem dX5_takeBack_43 : decode cX5_takeBack 43 = .ok (.iaload, 1) := dk_46 (dk_at dksX5_takeBack_1 19 rfl rfl)
theorem dX5_takeBack_44 : decode cX5_takeBack 44 = .ok (.iload_n 1, 1) := dk_27 (dk_at dksX5_takeBack_1 20 rfl rfl)
theorem dX5_takeBack_45 : decode cX5_takeBack 45 = .ok (.if_icmp .eq 9, 3) := dk_159 0 9 (dk_at dksX5_takeBack_1 21 rfl rfl)
theorem dX5_takeBack_48 : decode cX5_takeBack 48 = .ok (.iinc 2 (-1), 3) := dk_132 2 255 (dk_at dksX5_takeBack_2 0 rfl rfl)
theorem dX5_takeBack_51 : decode cX5_takeBack 51 = .ok (.goto (-26), 3) := dk_167 255 230 (dk_at dksX5_takeBack_2 3 rfl rfl)
theorem dX5_takeBack_54 : decode cX5_takeBack 54 = .ok (.iload_n 2, 1) := dk_28 (dk_at dksX5_takeBack_2 6 rfl rfl)
theorem dX5_takeBack_55 : decode cX5_takeBack 55 = .ok (.ifCond .ge 9, 3) := dk_156 0 9 (dk_at dksX5_takeBack_2 7 rfl rfl)
theorem dX5_takeBack_58 : decode cX5_takeBack 58 = .ok (.aload_n 0, 1) := dk_42 (dk_at dksX5_takeBack_2 10 rfl rfl)
theorem dX5_takeBack_59 : decode cX5_takeBack 59 = .ok (.iconst 2, 1) := dk_5 (dk_at dksX5_takeBack_2 11 rfl rfl)
theorem dX5_takeBack_60 : decode cX5_takeBack 60 = .ok (.invokevirtual 172, 3) := dk_182 0 172 (dk_at dksX5_takeBack_2 12 rfl rfl)
theorem dX5_takeBack_63 : decode cX5_takeBack 63 = .ok (.ireturn, 1) := dk_172 (dk_at dksX5_takeBack_2 15 rfl rfl)
theorem dX5_takeBack_64 : decode cX5_takeBack 64 = .ok (.aload_n 0, 1) := dk_42 (dk_at dksX5_takeBack_2 16 rfl rfl)
theorem dX5_takeBack_65 : decode cX5_takeBack 65 = .ok (.getfield 108, 3) := dk_180 0 108 (dk_at dksX5_takeBack_2 17 rfl rfl)
theorem dX5_takeBack_68 : decode cX5_takeBack 68 = .ok (.sipush 250, 3) := dk_17 0 250 (dk_at dksX5_takeBack_2 20 rfl rfl)
theorem dX5_takeBack_71 : decode cX5_takeBack 71 = .ok (.if_icmp .ne 9, 3) := dk_160 0 9 (dk_at dksX5_takeBack_3 0 rfl rfl)
theorem dX5_takeBack_74 : decode cX5_takeBack 74 = .ok (.aload_n 0, 1) := dk_42 (dk_at dksX5_takeBack_3 3 rfl rfl)
theorem dX5_takeBack_75 : decode cX5_takeBack 75 = .ok (.iconst 3, 1) := dk_6 (dk_at dksX5_takeBack_3 4 rfl rfl)
theorem dX5_takeBack_76 : decode cX5_takeBack 76 = .ok (.invokevirtual 172, 3) := dk_182 0 172 (dk_at dksX5_takeBack_3 5 rfl rfl)
theorem dX5_takeBack_79 : decode cX5_takeBack 79 = .ok (.ireturn, 1) := dk_172 (dk_at dksX5_takeBack_3 8 rfl rfl)
theorem dX5_takeBack_80 : decode cX5_takeBack 80 = .ok (.aload_n 0, 1) := dk_42 (dk_at dksX5_takeBack_3 9 rfl rfl)
theorem dX5_takeBack_81 : decode cX5_takeBack 81 = .ok (.iload_n 1, 1) := dk_27 (dk_at dksX5_takeBack_3 10 rfl rfl)
theorem dX5_takeBack_82 : decode cX5_takeBack 82 = .ok (.invokevirtual 161, 3) := dk_182 0 161 (dk_at dksX5_takeBack_3 11 rfl rfl)
theorem dX5_takeBack_85 : decode cX5_takeBack 85 = .ok (.iconst 0, 1) := dk_3 (dk_at dksX5_takeBack_3 14 rfl rfl)
theorem dX5_takeBack_86 : decode cX5_takeBack 86 = .ok (.istore_n 3, 1) := dk_62 (dk_at dksX5_takeBack_3 15 rfl rfl)
theorem dX5_takeBack_87 : decode cX5_takeBack 87 = .ok (.iload_n 3, 1) := dk_29 (dk_at dksX5_takeBack_3 16 rfl rfl)
theorem dX5_takeBack_88 : decode cX5_takeBack 88 = .ok (.aload_n 0, 1) := dk_42 (dk_at dksX5_takeBack_3 17 rfl rfl)
theorem dX5_takeBack_89 : decode cX5_takeBack 89 = .ok (.getfield 39, 3) := dk_180 0 39 (dk_at dksX5_takeBack_3 18 rfl rfl)
theorem dX5_takeBack_92 : decode cX5_takeBack 92 = .ok (.iload_n 2, 1) := dk_28 (dk_at dksX5_takeBack_3 21 rfl rfl)
theorem dX5_takeBack_93 : decode cX5_takeBack 93 = .ok (.iaload, 1) := dk_46 (dk_at dksX5_takeBack_3 22 rfl rfl)
theorem dX5_takeBack_94 : decode cX5_takeBack 94 = .ok (.if_icmp .ge 54, 3) := dk_162 0 54 (dk_at dksX5_takeBack_4 0 rfl rfl)
theorem dX5_takeBack_97 : decode cX5_takeBack 97 = .ok (.aload_n 0, 1) := dk_42 (dk_at dksX5_takeBack_4 3 rfl rfl)
theorem dX5_takeBack_98 : decode cX5_takeBack 98 = .ok (.getfield 73, 3) := dk_180 0 73 (dk_at dksX5_takeBack_4 4 rfl rfl)
theorem dX5_takeBack_101 : decode cX5_takeBack 101 = .ok (.aload_n 0, 1) := dk_42 (dk_at dksX5_takeBack_4 7 rfl rfl)
theorem dX5_takeBack_102 : decode cX5_takeBack 102 = .ok (.getfield 44, 3) := dk_180 0 44 (dk_at dksX5_takeBack_4 8 rfl rfl)
theorem dX5_takeBack_105 : decode cX5_takeBack 105 = .ok (.iload_n 2, 1) := dk_28 (dk_at dksX5_takeBack_4 11 rfl rfl)
theorem dX5_takeBack_106 : decode cX5_takeBack 106 = .ok (.aaload, 1) := dk_50 (dk_at dksX5_takeBack_4 12 rfl rfl)
theorem dX5_takeBack_107 : decode cX5_takeBack 107 = .ok (.iload_n 3, 1) := dk_29 (dk_at dksX5_takeBack_4 13 rfl rfl)
theorem dX5_takeBack_108 : decode cX5_takeBack 108 = .ok (.iaload, 1) := dk_46 (dk_at dksX5_takeBack_4 14 rfl rfl)
theorem dX5_takeBack_109 : decode cX5_takeBack 109 = .ok (.iaload, 1) := dk_46 (dk_at dksX5_takeBack_4 15 rfl rfl)
theorem dX5_takeBack_110 : decode cX5_takeBack 110 = .ok (.iload_n 2, 1) := dk_28 (dk_at dksX5_takeBack_4 16 rfl rfl)
theorem dX5_takeBack_111 : decode cX5_takeBack 111 = .ok (.if_icmp .ne 31, 3) := dk_160 0 31 (dk_at dksX5_takeBack_4 17 rfl rfl)
theorem dX5_takeBack_114 : decode cX5_takeBack 114 = .ok (.aload_n 0, 1) := dk_42 (dk_at dksX5_takeBack_4 20 rfl rfl)
theorem dX5_takeBack_115 : decode cX5_takeBack 115 = .ok (.aload_n 0, 1) := dk_42 (dk_at dksX5_takeBack_4 21 rfl rfl)
theorem dX5_takeBack_116 : decode cX5_takeBack 116 = .ok (.getfield 44, 3) := dk_180 0 44 (dk_at dksX5_takeBack_5 0 rfl rfl)
theorem dX5_takeBack_119 : decode cX5_takeBack 119 = .ok (.iload_n 2, 1) := dk_28 (dk_at dksX5_takeBack_5 3 rfl rfl)
theorem dX5_takeBack_120 : decode cX5_takeBack 120 = .ok (.aaload, 1) := dk_50 (dk_at dksX5_takeBack_5 4 rfl rfl)
theorem dX5_takeBack_121 : decode cX5_takeBack 121 = .ok (.iload_n 3, 1) := dk_29 (dk_at dksX5_takeBack_5 5 rfl rfl)
theorem dX5_takeBack_122 : decode cX5_takeBack 122 = .ok (.iaload, 1) := dk_46 (dk_at dksX5_takeBack_5 6 rfl rfl)
theorem dX5_takeBack_123 : decode cX5_takeBack 123 = .ok (.aload_n 0, 1) := dk_42 (dk_at dksX5_takeBack_5 7 rfl rfl)
theorem dX5_takeBack_124 : decode cX5_takeBack 124 = .ok (.getfield 50, 3) := dk_180 0 50 (dk_at dksX5_takeBack_5 8 rfl rfl)
theorem dX5_takeBack_127 : decode cX5_takeBack 127 = .ok (.iload_n 2, 1) := dk_28 (dk_at dksX5_takeBack_5 11 rfl rfl)
theorem dX5_takeBack_128 : decode cX5_takeBack 128 = .ok (.aaload, 1) := dk_50 (dk_at dksX5_takeBack_5 12 rfl rfl)
theorem dX5_takeBack_129 : decode cX5_takeBack 129 = .ok (.iload_n 3, 1) := dk_29 (dk_at dksX5_takeBack_5 13 rfl rfl)
theorem dX5_takeBack_130 : decode cX5_takeBack 130 = .ok (.iaload, 1) := dk_46 (dk_at dksX5_takeBack_5 14 rfl rfl)
theorem dX5_takeBack_131 : decode cX5_takeBack 131 = .ok (.aload_n 0, 1) := dk_42 (dk_at dksX5_takeBack_5 15 rfl rfl)
theorem dX5_takeBack_132 : decode cX5_takeBack 132 = .ok (.getfield 56, 3) := dk_180 0 56 (dk_at dksX5_takeBack_5 16 rfl rfl)
theorem dX5_takeBack_135 : decode cX5_takeBack 135 = .ok (.iload_n 2, 1) := dk_28 (dk_at dksX5_takeBack_5 19 rfl rfl)
theorem dX5_takeBack_136 : decode cX5_takeBack 136 = .ok (.aaload, 1) := dk_50 (dk_at dksX5_takeBack_5 20 rfl rfl)
theorem dX5_takeBack_137 : decode cX5_takeBack 137 = .ok (.iload_n 3, 1) := dk_29 (dk_at dksX5_takeBack_5 21 rfl rfl)
theorem dX5_takeBack_138 : decode cX5_takeBack 138 = .ok (.iaload, 1) := dk_46 (dk_at dksX5_takeBack_5 22 rfl rfl)
theorem dX5_takeBack_139 : decode cX5_takeBack 139 = .ok (.invokevirtual 151, 3) := dk_182 0 151 (dk_at dksX5_takeBack_6 0 rfl rfl)
theorem dX5_takeBack_142 : decode cX5_takeBack 142 = .ok (.iinc 3 1, 3) := dk_132 3 1 (dk_at dksX5_takeBack_6 3 rfl rfl)
theorem dX5_takeBack_145 : decode cX5_takeBack 145 = .ok (.goto (-58), 3) := dk_167 255 198 (dk_at dksX5_takeBack_6 6 rfl rfl)
theorem dX5_takeBack_148 : decode cX5_takeBack 148 = .ok (.aload_n 0, 1) := dk_42 (dk_at dksX5_takeBack_6 9 rfl rfl)
theorem dX5_takeBack_149 : decode cX5_takeBack 149 = .ok (.getfield 59, 3) := dk_180 0 59 (dk_at dksX5_takeBack_6 10 rfl rfl)
theorem dX5_takeBack_152 : decode cX5_takeBack 152 = .ok (.iload_n 2, 1) := dk_28 (dk_at dksX5_takeBack_6 13 rfl rfl)
theorem dX5_takeBack_153 : decode cX5_takeBack 153 = .ok (.iconst 0, 1) := dk_3 (dk_at dksX5_takeBack_6 14 rfl rfl)
theorem dX5_takeBack_154 : decode cX5_takeBack 154 = .ok (.bastore, 1) := dk_84 (dk_at dksX5_takeBack_6 15 rfl rfl)
theorem dX5_takeBack_155 : decode cX5_takeBack 155 = .ok (.aload_n 0, 1) := dk_42 (dk_at dksX5_takeBack_6 16 rfl rfl)
theorem dX5_takeBack_156 : decode cX5_takeBack 156 = .ok (.getfield 148, 3) := dk_180 0 148 (dk_at dksX5_takeBack_6 17 rfl rfl)
theorem dX5_takeBack_159 : decode cX5_takeBack 159 = .ok (.istore_n 3, 1) := dk_62 (dk_at dksX5_takeBack_6 20 rfl rfl)
theorem dX5_takeBack_160 : decode cX5_takeBack 160 = .ok (.aload_n 0, 1) := dk_42 (dk_at dksX5_takeBack_6 21 rfl rfl)
theorem dX5_takeBack_161 : decode cX5_takeBack 161 = .ok (.iload_n 1, 1) := dk_27 (dk_at dksX5_takeBack_6 22 rfl rfl)
theorem dX5_takeBack_162 : decode cX5_takeBack 162 = .ok (.iconst 0, 1) := dk_3 (dk_at dksX5_takeBack_6 23 rfl rfl)
theorem dX5_takeBack_163 : decode cX5_takeBack 163 = .ok (.invokevirtual 186, 3) := dk_182 0 186 (dk_at dksX5_takeBack_7 0 rfl rfl)
theorem dX5_takeBack_166 : decode cX5_takeBack 166 = .ok (.iload_n 3, 1) := dk_29 (dk_at dksX5_takeBack_7 3 rfl rfl)
theorem dX5_takeBack_167 : decode cX5_takeBack 167 = .ok (.ireturn, 1) := dk_172 (dk_at dksX5_takeBack_7 4 rfl rfl)
abbrev rm_X5_takeBack : Room := { frames := 4, cells := 0, slots := 0, locals := 90 }
def w_X5_takeBack_87 (P : Int32 → AH → Prop) (x0 : Option Nat) (x1 : Int32) (x2 : Int32) (x3 : Int32) (h : AH) : Prop :=
  ∀ Z87 : Int32 → AH → Prop, (∀ x3 h, (
      g_q h x0 4 12 fun y89 =>
      l_i h y89 0 x2 fun y93 =>
      ((y93 ≤ x3 →
        g_q h x0 4 18 fun y149 =>
        s_i h y149 1 x2 0 fun h154 =>
        g_i h154 x0 4 27 fun y156 =>
        is_c h154 x0 [4] (
        w_X5_makes x0 x1 0 h154 (fun h163 =>
        P y156 h163))) ∧
       (¬ y93 ≤ x3 →
        g_q h x0 4 23 fun y98 =>
        g_q h x0 4 13 fun y102 =>
        l_q h y102 x2 fun y106 =>
        l_i h y106 0 x3 fun y108 =>
        l_i h y98 0 y108 fun y109 =>
        ((y109 = x2 →
          g_q h x0 4 13 fun y116 =>
          l_q h y116 x2 fun y120 =>
          l_i h y120 0 x3 fun y122 =>
          g_q h x0 4 15 fun y124 =>
          l_q h y124 x2 fun y128 =>
          l_i h y128 0 x3 fun y130 =>
          g_q h x0 4 17 fun y132 =>
          l_q h y132 x2 fun y136 =>
          l_i h y136 0 x3 fun y138 =>
          is_c h x0 [4] (
          w_X5_restores x0 y122 y130 y138 h (fun h139 =>
          Z87 (x3 + 1) h139))) ∧
         (¬ y109 = x2 →
          Z87 (x3 + 1) h)))))
      → Z87 x3 h) → Z87 x3 h
def w_X5_takeBack_54 (P : Int32 → AH → Prop) (x0 : Option Nat) (x1 : Int32) (x2 : Int32) (h : AH) : Prop :=
  ((0 ≤ x2 →
    g_i h x0 4 20 fun y65 =>
    ((y65 = 250 →
      is_c h x0 [4] (
      w_X5_fails x0 3 h (fun y76 h76 =>
      P y76 h76))) ∧
     (¬ y65 = 250 →
      is_c h x0 [4] (
      w_X5_builds x0 x1 h (fun h82 =>
      w_X5_takeBack_87 P x0 x1 x2 0 h82))))) ∧
   (¬ 0 ≤ x2 →
    is_c h x0 [4] (
    w_X5_fails x0 2 h (fun y60 h60 =>
    P y60 h60))))
def w_X5_takeBack_25 (P : Int32 → AH → Prop) (x0 : Option Nat) (x1 : Int32) (x2 : Int32) (h : AH) : Prop :=
  ∀ Z25 : Int32 → Prop, (∀ x2, (
      ((x2 < 0 →
        w_X5_takeBack_54 P x0 x1 x2 h) ∧
       (¬ x2 < 0 →
        g_q h x0 4 18 fun y30 =>
        l_i h y30 1 x2 fun y34 =>
        ((y34 = 0 →
          Z25 (x2 + (-1))) ∧
         (¬ y34 = 0 →
          g_q h x0 4 10 fun y39 =>
          l_i h y39 0 x2 fun y43 =>
          ((y43 = x1 →
            w_X5_takeBack_54 P x0 x1 x2 h) ∧
           (¬ y43 = x1 →
            Z25 (x2 + (-1)))))))))
      → Z25 x2) → Z25 x2
def w_X5_takeBack (a0 : Option Nat) (a1 : Int32) (h : AH) (P : Int32 → AH → Prop) : Prop :=
  p_v h a0 4 0 (vI 0) fun h2 =>
  w_X5_isUser a1 h2 (fun y6 h6 =>
  ((y6 = 0 →
    is_c h6 a0 [4] (
    w_X5_fails a0 1 h6 (fun y14 h14 =>
    P y14 h14))) ∧
   (¬ y6 = 0 →
    g_i h6 a0 4 20 fun y19 =>
    w_X5_takeBack_25 P a0 a1 (y19 - 1) h6)))
theorem wk_X5_takeBack_87 {x : CX} (X : Ok x cX5_takeBack RX5 rm_X5_takeBack 4) (er : xrt x = (Option.some Jvm.ClassFile.FieldType.int)) (en : xnm x = yX5_takeBack.name) {P : Int32 → AH → Prop} (hQ : xr_i x P) (x0 : Option Nat) (x1 : Int32) (x2 : Int32) (x3 : Int32) (h : AH) (hw : w_X5_takeBack_87 P x0 x1 x2 x3 h) : J x h 0 0 87 [(0, vR x0), (1, vI x1), (2, vI x2), (3, vI x3)] [] := by
  refine hw (fun x3 h => J x h 0 0 87 [(0, vR x0), (1, vI x1), (2, vI x2), (3, vI x3)] []) (fun x3 h hw => ?_)
  refine j_iload_n X (pc := 87) 3 dX5_takeBack_87 rfl rfl ?_
  refine j_aload_n X (pc := 88) 0 dX5_takeBack_88 rfl rfl ?_
  refine j_getq (ci := 4) X (pc := 89) in_X5 rfl (by decide) 12 (by decide) q1884 (Or.inl rfl) dX5_takeBack_89 hw (fun y89 hw => ?_)
  refine j_iload_n X (pc := 92) 2 dX5_takeBack_92 rfl rfl ?_
  refine j_iald X (pc := 93) 0 rfl dX5_takeBack_93 hw (fun y93 hw => ?_)
  refine j_icmp_ge X (pc := 94) 148 dX5_takeBack_94 (by decide) hw (fun hw => ?_) (fun hw => ?_)
  · refine j_aload_n X (pc := 148) 0 dX5_takeBack_148 rfl rfl ?_
    refine j_getq (ci := 4) X (pc := 149) in_X5 rfl (by decide) 18 (by decide) q1890 (Or.inl rfl) dX5_takeBack_149 hw (fun y149 hw => ?_)
    refine j_iload_n X (pc := 152) 2 dX5_takeBack_152 rfl rfl ?_
    refine j_iconst X (pc := 153) 0 dX5_takeBack_153 (by decide) ?_
    refine j_zast X (pc := 154) 1 rfl rfl ⟨rfl, rfl⟩ dX5_takeBack_154 hw (fun h154 hw => ?_)
    refine j_aload_n X (pc := 155) 0 dX5_takeBack_155 rfl rfl ?_
    refine j_geti (ci := 4) X (pc := 156) in_X5 rfl (by decide) 27 (by decide) q1899 (Or.inl rfl) dX5_takeBack_156 hw (fun y156 hw => ?_)
    refine j_istore_n X (pc := 159) [(3, vI y156), (0, vR x0), (1, vI x1), (2, vI x2)] dX5_takeBack_159 rfl (Nat.le_of_ble_eq_true rfl) rfl ?_
    refine j_aload_n X (pc := 160) 1 dX5_takeBack_160 rfl rfl ?_
    refine j_iload_n X (pc := 161) 2 dX5_takeBack_161 rfl rfl ?_
    refine j_iconst X (pc := 162) 0 dX5_takeBack_162 (by decide) ?_
    obtain ⟨b9, c9, f9, hr9, ho9, hc9, hw⟩ := hw
    obtain rfl := List.mem_singleton.mp hc9
    refine j_callv (j_runV (n8 := 2) (As := [vI x1, vI 0]) (rest := []) X (pc := 163) hr9 (met_X5_makes (xl x) X.hl (xG x) h154 x0 x1 0 _ hw) ho9 (by decide) rfl q2030 q2032 qs43 q78 q2033 (by decide +kernel) dX5_takeBack_163 rfl ⟨Nat.le_of_ble_eq_true rfl, Nat.le_of_ble_eq_true rfl⟩ (Nat.le_of_ble_eq_true rfl) ⟨Nat.le_of_ble_eq_true rfl, Nat.le_of_ble_eq_true rfl⟩) (fun h163 hw => ?_)
    refine j_iload_n X (pc := 166) 0 dX5_takeBack_166 rfl rfl ?_
    exact j_iret X (pc := 167) hQ er (Nat.le_of_ble_eq_true rfl) (Nat.le_of_ble_eq_true rfl) dX5_takeBack_167 hw
  · refine j_aload_n X (pc := 97) 0 dX5_takeBack_97 rfl rfl ?_
    refine j_getq (ci := 4) X (pc := 98) in_X5 rfl (by decide) 23 (by decide) q1895 (Or.inl rfl) dX5_takeBack_98 hw (fun y98 hw => ?_)
    refine j_aload_n X (pc := 101) 0 dX5_takeBack_101 rfl rfl ?_
    refine j_getq (ci := 4) X (pc := 102) in_X5 rfl (by decide) 13 (by decide) q1885 (Or.inl rfl) dX5_takeBack_102 hw (fun y102 hw => ?_)
    refine j_iload_n X (pc := 105) 2 dX5_takeBack_105 rfl rfl ?_
    refine j_aald X (pc := 106) dX5_takeBack_106 hw (fun y106 hw => ?_)
    refine j_iload_n X (pc := 107) 3 dX5_takeBack_107 rfl rfl ?_
    refine j_iald X (pc := 108) 0 rfl dX5_takeBack_108 hw (fun y108 hw => ?_)
    refine j_iald X (pc := 109) 0 rfl dX5_takeBack_109 hw (fun y109 hw => ?_)
    refine j_iload_n X (pc := 110) 2 dX5_takeBack_110 rfl rfl ?_
    refine j_icmp_ne X (pc := 111) 142 dX5_takeBack_111 (by decide) hw (fun hw => ?_) (fun hw => ?_)
    · refine j_aload_n X (pc := 114) 0 dX5_takeBack_114 rfl rfl ?_
      refine j_aload_n X (pc := 115) 0 dX5_takeBack_115 rfl rfl ?_
      refine j_getq (ci := 4) X (pc := 116) in_X5 rfl (by decide) 13 (by decide) q1885 (Or.inl rfl) dX5_takeBack_116 hw (fun y116 hw => ?_)
      refine j_iload_n X (pc := 119) 2 dX5_takeBack_119 rfl rfl ?_
      refine j_aald X (pc := 120) dX5_takeBack_120 hw (fun y120 hw => ?_)
      refine j_iload_n X (pc := 121) 3 dX5_takeBack_121 rfl rfl ?_
      refine j_iald X (pc := 122) 0 rfl dX5_takeBack_122 hw (fun y122 hw => ?_)
      refine j_aload_n X (pc := 123) 0 dX5_takeBack_123 rfl rfl ?_
      refine j_getq (ci := 4) X (pc := 124) in_X5 rfl (by decide) 15 (by decide) q1887 (Or.inl rfl) dX5_takeBack_124 hw (fun y124 hw => ?_)
      refine j_iload_n X (pc := 127) 2 dX5_takeBack_127 rfl rfl ?_
      refine j_aald X (pc := 128) dX5_takeBack_128 hw (fun y128 hw => ?_)
      refine j_iload_n X (pc := 129) 3 dX5_takeBack_129 rfl rfl ?_
      refine j_iald X (pc := 130) 0 rfl dX5_takeBack_130 hw (fun y130 hw => ?_)
      refine j_aload_n X (pc := 131) 0 dX5_takeBack_131 rfl rfl ?_
      refine j_getq (ci := 4) X (pc := 132) in_X5 rfl (by decide) 17 (by decide) q1889 (Or.inl rfl) dX5_takeBack_132 hw (fun y132 hw => ?_)
      refine j_iload_n X (pc := 135) 2 dX5_takeBack_135 rfl rfl ?_
      refine j_aald X (pc := 136) dX5_takeBack_136 hw (fun y136 hw => ?_)
      refine j_iload_n X (pc := 137) 3 dX5_takeBack_137 rfl rfl ?_
      refine j_iald X (pc := 138) 0 rfl dX5_takeBack_138 hw (fun y138 hw => ?_)
      obtain ⟨b9, c9, f9, hr9, ho9, hc9, hw⟩ := hw
      obtain rfl := List.mem_singleton.mp hc9
      refine j_callv (j_runV (n8 := 3) (As := [vI y122, vI y130, vI y138]) (rest := []) X (pc := 139) hr9 (met_X5_restores (xl x) X.hl (xG x) h x0 y122 y130 y138 _ hw) ho9 (by decide) rfl q2025 q2027 qs42 q78 q2028 (by decide +kernel) dX5_takeBack_139 rfl ⟨Nat.le_of_ble_eq_true rfl, Nat.le_of_ble_eq_true rfl⟩ (Nat.le_of_ble_eq_true rfl) ⟨Nat.le_of_ble_eq_true rfl, Nat.le_of_ble_eq_true rfl⟩) (fun h139 hw => ?_)
      refine j_iinc X (pc := 142) 3 (x3 + 1) [(3, vI (x3 + 1)), (0, vR x0), (1, vI x1), (2, vI x2)] dX5_takeBack_142 rfl rfl (Nat.le_of_ble_eq_true rfl) rfl ?_
      refine j_goto X (pc := 145) 87 dX5_takeBack_145 (by decide) ?_
      refine j_lv [(0, vR x0), (1, vI x1), (2, vI x2), (3, vI (x3 + 1))] [1, 2, 3, 0] rfl ?_
      refine j_cs (u' := 0) (v' := 0) (Nat.le_of_ble_eq_true rfl) (Nat.le_of_ble_eq_true rfl) ?_
      exact hw
    · refine j_iinc X (pc := 142) 3 (x3 + 1) [(3, vI (x3 + 1)), (0, vR x0), (1, vI x1), (2, vI x2)] dX5_takeBack_142 rfl rfl (Nat.le_of_ble_eq_true rfl) rfl ?_
      refine j_goto X (pc := 145) 87 dX5_takeBack_145 (by decide) ?_
      refine j_lv [(0, vR x0), (1, vI x1), (2, vI x2), (3, vI (x3 + 1))] [1, 2, 3, 0] rfl ?_
      refine j_cs (u' := 0) (v' := 0) (Nat.le_of_ble_eq_true rfl) (Nat.le_of_ble_eq_true rfl) ?_
      exact hw
theorem wk_X5_takeBack_54 {x : CX} (X : Ok x cX5_takeBack RX5 rm_X5_takeBack 4) (er : xrt x = (Option.some Jvm.ClassFile.FieldType.int)) (en : xnm x = yX5_takeBack.name) {P : Int32 → AH → Prop} (hQ : xr_i x P) (x0 : Option Nat) (x1 : Int32) (x2 : Int32) (h : AH) (hw : w_X5_takeBack_54 P x0 x1 x2 h) : J x h 0 0 54 [(0, vR x0), (1, vI x1), (2, vI x2)] [] := by
  refine j_iload_n X (pc := 54) 2 dX5_takeBack_54 rfl rfl ?_
  refine j_if_ge X (pc := 55) 64 dX5_takeBack_55 (by decide) hw (fun hw => ?_) (fun hw => ?_)
  · refine j_aload_n X (pc := 64) 0 dX5_takeBack_64 rfl rfl ?_
    refine j_geti (ci := 4) X (pc := 65) in_X5 rfl (by decide) 20 (by decide) q1892 (Or.inl rfl) dX5_takeBack_65 hw (fun y65 hw => ?_)
    refine j_sipush X (pc := 68) 250 dX5_takeBack_68 (by decide) ?_
    refine j_icmp_ne X (pc := 71) 80 dX5_takeBack_71 (by decide) hw (fun hw => ?_) (fun hw => ?_)
    · refine j_aload_n X (pc := 74) 0 dX5_takeBack_74 rfl rfl ?_
      refine j_iconst X (pc := 75) 3 dX5_takeBack_75 (by decide) ?_
      obtain ⟨b9, c9, f9, hr9, ho9, hc9, hw⟩ := hw
      obtain rfl := List.mem_singleton.mp hc9
      refine j_calli (j_runV (n8 := 1) (As := [vI 3]) (rest := []) X (pc := 76) hr9 (met_X5_fails (xl x) X.hl (xG x) h x0 3 _ hw) ho9 (by decide) rfl q1988 q1990 qs33 q78 q1991 (by decide +kernel) dX5_takeBack_76 rfl ⟨Nat.le_of_ble_eq_true rfl, Nat.le_of_ble_eq_true rfl⟩ (Nat.le_of_ble_eq_true rfl) ⟨Nat.le_of_ble_eq_true rfl, Nat.le_of_ble_eq_true rfl⟩) (fun y76 h76 hw => ?_)
      exact j_iret X (pc := 79) hQ er (Nat.le_of_ble_eq_true rfl) (Nat.le_of_ble_eq_true rfl) dX5_takeBack_79 hw
    · refine j_aload_n X (pc := 80) 0 dX5_takeBack_80 rfl rfl ?_
      refine j_iload_n X (pc := 81) 1 dX5_takeBack_81 rfl rfl ?_
      obtain ⟨b9, c9, f9, hr9, ho9, hc9, hw⟩ := hw
      obtain rfl := List.mem_singleton.mp hc9
      refine j_callv (j_runV (n8 := 1) (As := [vI x1]) (rest := []) X (pc := 82) hr9 (met_X5_builds (xl x) X.hl (xG x) h x0 x1 _ hw) ho9 (by decide) rfl q1992 q1994 qs34 q78 q1995 (by decide +kernel) dX5_takeBack_82 rfl ⟨Nat.le_of_ble_eq_true rfl, Nat.le_of_ble_eq_true rfl⟩ (Nat.le_of_ble_eq_true rfl) ⟨Nat.le_of_ble_eq_true rfl, Nat.le_of_ble_eq_true rfl⟩) (fun h82 hw => ?_)
      refine j_iconst X (pc := 85) 0 dX5_takeBack_85 (by decide) ?_
      refine j_istore_n X (pc := 86) [(3, vI 0), (0, vR x0), (1, vI x1), (2, vI x2)] dX5_takeBack_86 rfl (Nat.le_of_ble_eq_true rfl) rfl ?_
      refine j_lv [(0, vR x0), (1, vI x1), (2, vI x2), (3, vI 0)] [1, 2, 3, 0] rfl ?_
      refine j_cs (u' := 0) (v' := 0) (Nat.le_of_ble_eq_true rfl) (Nat.le_of_ble_eq_true rfl) ?_
      exact wk_X5_takeBack_87 X er en hQ x0 x1 x2 0 h82 hw
  · refine j_aload_n X (pc := 58) 0 dX5_takeBack_58 rfl rfl ?_
    refine j_iconst X (pc := 59) 2 dX5_takeBack_59 (by decide) ?_
    obtain ⟨b9, c9, f9, hr9, ho9, hc9, hw⟩ := hw
    obtain rfl := List.mem_singleton.mp hc9
    refine j_calli (j_runV (n8 := 1) (As := [vI 2]) (rest := []) X (pc := 60) hr9 (met_X5_fails (xl x) X.hl (xG x) h x0 2 _ hw) ho9 (by decide) rfl q1988 q1990 qs33 q78 q1991 (by decide +kernel) dX5_takeBack_60 rfl ⟨Nat.le_of_ble_eq_true rfl, Nat.le_of_ble_eq_true rfl⟩ (Nat.le_of_ble_eq_true rfl) ⟨Nat.le_of_ble_eq_true rfl, Nat.le_of_ble_eq_true rfl⟩) (fun y60 h60 hw => ?_)
    exact j_iret X (pc := 63) hQ er (Nat.le_of_ble_eq_true rfl) (Nat.le_of_ble_eq_true rfl) dX5_takeBack_63 hw
theorem wk_X5_takeBack_25 {x : CX} (X : Ok x cX5_takeBack RX5 rm_X5_takeBack 4) (er : xrt x = (Option.some Jvm.ClassFile.FieldType.int)) (en : xnm x = yX5_takeBack.name) {P : Int32 → AH → Prop} (hQ : xr_i x P) (x0 : Option Nat) (x1 : Int32) (x2 : Int32) (h : AH) (hw : w_X5_takeBack_25 P x0 x1 x2 h) : J x h 0 0 25 [(0, vR x0), (1, vI x1), (2, vI x2)] [] := by
  refine hw (fun x2 => J x h 0 0 25 [(0, vR x0), (1, vI x1), (2, vI x2)] []) (fun x2 hw => ?_)
  refine j_iload_n X (pc := 25) 2 dX5_takeBack_25 rfl rfl ?_
  refine j_if_lt X (pc := 26) 54 dX5_takeBack_26 (by decide) hw (fun hw => ?_) (fun hw => ?_)
  · refine j_cs (u' := 0) (v' := 0) (Nat.le_of_ble_eq_true rfl) (Nat.le_of_ble_eq_true rfl) ?_
    exact wk_X5_takeBack_54 X er en hQ x0 x1 x2 h hw
  · refine j_aload_n X (pc := 29) 0 dX5_takeBack_29 rfl rfl ?_
    refine j_getq (ci := 4) X (pc := 30) in_X5 rfl (by decide) 18 (by decide) q1890 (Or.inl rfl) dX5_takeBack_30 hw (fun y30 hw => ?_)
    refine j_iload_n X (pc := 33) 2 dX5_takeBack_33 rfl rfl ?_
    refine j_zald X (pc := 34) 1 rfl dX5_takeBack_34 hw (fun y34 hw => ?_)
    refine j_if_eq X (pc := 35) 48 dX5_takeBack_35 (by decide) hw (fun hw => ?_) (fun hw => ?_)
    · refine j_iinc X (pc := 48) 2 (x2 + (-1)) [(2, vI (x2 + (-1))), (0, vR x0), (1, vI x1)] dX5_takeBack_48 rfl rfl (Nat.le_of_ble_eq_true rfl) rfl ?_
      refine j_goto X (pc := 51) 25 dX5_takeBack_51 (by decide) ?_
      refine j_lv [(0, vR x0), (1, vI x1), (2, vI (x2 + (-1)))] [1, 2, 0] rfl ?_
      refine j_cs (u' := 0) (v' := 0) (Nat.le_of_ble_eq_true rfl) (Nat.le_of_ble_eq_true rfl) ?_
      exact hw
    · refine j_aload_n X (pc := 38) 0 dX5_takeBack_38 rfl rfl ?_
      refine j_getq (ci := 4) X (pc := 39) in_X5 rfl (by decide) 10 (by decide) q1882 (Or.inl rfl) dX5_takeBack_39 hw (fun y39 hw => ?_)
      refine j_iload_n X (pc := 42) 2 dX5_takeBack_42 rfl rfl ?_
      refine j_iald X (pc := 43) 0 rfl dX5_takeBack_43 hw (fun y43 hw => ?_)
      refine j_iload_n X (pc := 44) 1 dX5_takeBack_44 rfl rfl ?_
      refine j_icmp_eq X (pc := 45) 54 dX5_takeBack_45 (by decide) hw (fun hw => ?_) (fun hw => ?_)
      · refine j_cs (u' := 0) (v' := 0) (Nat.le_of_ble_eq_true rfl) (Nat.le_of_ble_eq_true rfl) ?_
        exact wk_X5_takeBack_54 X er en hQ x0 x1 x2 h hw
      · refine j_iinc X (pc := 48) 2 (x2 + (-1)) [(2, vI (x2 + (-1))), (0, vR x0), (1, vI x1)] dX5_takeBack_48 rfl rfl (Nat.le_of_ble_eq_true rfl) rfl ?_
        refine j_goto X (pc := 51) 25 dX5_takeBack_51 (by decide) ?_
        refine j_lv [(0, vR x0), (1, vI x1), (2, vI (x2 + (-1)))] [1, 2, 0] rfl ?_
        refine j_cs (u' := 0) (v' := 0) (Nat.le_of_ble_eq_true rfl) (Nat.le_of_ble_eq_true rfl) ?_
        exact hw
theorem met_X5_takeBack (l : Launch) (hlt : l.stackTraces = false) (G : GG) (h : AH) (a0 : Option Nat) (a1 : Int32) (P : Int32 → AH → Prop) (hw : w_X5_takeBack a0 a1 h P) : ct_i l yX5_takeBack (ws_ yX5_takeBack cX5_takeBack 4 (Option.some Jvm.ClassFile.FieldType.int)) rm_X5_takeBack G h [vR a0, vI a1] P := by
  refine j_starti hlt [(0, vR a0), (1, vI a1)] (plainFor_of_name (by decide)) rfl rfl (fun x X eG er en hQ => ?_)
  subst eG
  refine j_aload_n X (pc := 0) 0 dX5_takeBack_0 rfl rfl ?_
  refine j_iconst X (pc := 1) 0 dX5_takeBack_1 (by decide) ?_
  refine j_put (ci := 4) X (pc := 2) in_X5 rfl (by decide) 0 (by decide) q1872 (Or.inl rfl) tyX5 tyX5_ok nmX5 rfl rfl (ty := .int) (tyX5_ok 0 (by decide)) rfl rfl dX5_takeBack_2 hw (fun h2 hw => ?_)
  refine j_iload_n X (pc := 5) 1 dX5_takeBack_5 rfl rfl ?_
  refine j_calli (j_runS (n8 := 1) (As := [vI a1]) (rest := []) X (pc := 6) (met_X5_isUser (xl x) X.hl (xG x) h2 a1 _ hw) q1978 q1979 q78 q1980 (by decide +kernel) dX5_takeBack_6 rfl ⟨Nat.le_of_ble_eq_true rfl, Nat.le_of_ble_eq_true rfl⟩ (Nat.le_of_ble_eq_true rfl) ⟨Nat.le_of_ble_eq_true rfl, Nat.le_of_ble_eq_true rfl⟩) (fun y6 h6 hw => ?_)
  refine j_if_ne X (pc := 9) 18 dX5_takeBack_9 (by decide) hw (fun hw => ?_) (fun hw => ?_)
  · refine j_aload_n X (pc := 12) 0 dX5_takeBack_12 rfl rfl ?_
    refine j_iconst X (pc := 13) 1 dX5_takeBack_13 (by decide) ?_
    obtain ⟨b9, c9, f9, hr9, ho9, hc9, hw⟩ := hw
    obtain rfl := List.mem_singleton.mp hc9
    refine j_calli (j_runV (n8 := 1) (As := [vI 1]) (rest := []) X (pc := 14) hr9 (met_X5_fails (xl x) X.hl (xG x) h6 a0 1 _ hw) ho9 (by decide) rfl q1988 q1990 qs33 q78 q1991 (by decide +kernel) dX5_takeBack_14 rfl ⟨Nat.le_of_ble_eq_true rfl, Nat.le_of_ble_eq_true rfl⟩ (Nat.le_of_ble_eq_true rfl) ⟨Nat.le_of_ble_eq_true rfl, Nat.le_of_ble_eq_true rfl⟩) (fun y14 h14 hw => ?_)
    exact j_iret X (pc := 17) hQ er (Nat.le_of_ble_eq_true rfl) (Nat.le_of_ble_eq_true rfl) dX5_takeBack_17 hw
  · refine j_aload_n X (pc := 18) 0 dX5_takeBack_18 rfl rfl ?_
    refine j_geti (ci := 4) X (pc := 19) in_X5 rfl (by decide) 20 (by decide) q1892 (Or.inl rfl) dX5_takeBack_19 hw (fun y19 hw => ?_)
    refine j_iconst X (pc := 22) 1 dX5_takeBack_22 (by decide) ?_
    refine j_isub X (pc := 23) dX5_takeBack_23 ?_
    refine j_istore_n X (pc := 24) [(2, vI (y19 - 1)), (0, vR a0), (1, vI a1)] dX5_takeBack_24 rfl (Nat.le_of_ble_eq_true rfl) rfl ?_
    refine j_lv [(0, vR a0), (1, vI a1), (2, vI (y19 - 1))] [1, 2, 0] rfl ?_
    refine j_cs (u' := 0) (v' := 0) (Nat.le_of_ble_eq_true rfl) (Nat.le_of_ble_eq_true rfl) ?_
    exact wk_X5_takeBack_25 X er en hQ a0 a1 (y19 - 1) h6 hw
abbrev cX1_operation : ByteArray := prog_1_method_40_code
def yX1_operation : MethodName := ⟨RX1, "operation", "(I)LPlugboard$Operation;"⟩
def dkwX1_operation_1 : List UInt8 := [182, 0, 121, 192, 0, 145, 176]
abbrev dktX1_operation_1 : List UInt8 := dkwX1_operation_1 ++ []
def dkwX1_operation_0 : List UInt8 := [27, 3, 42, 180, 0, 62, 182, 0, 126, 4, 100, 184, 0, 21, 184, 0, 117, 42, 180, 0, 62, 27]
abbrev dktX1_operation_0 : List UInt8 := dkwX1_operation_0 ++ dktX1_operation_1
theorem dksX1_operation_0 : cX1_operation.data.toList.drop 0 = dktX1_operation_0 := by decide +kernel
theorem dksX1_operation_1 : cX1_operation.data.toList.drop 22 = dktX1_operation_1 := dk_seg dksX1_operation_0 22 rfl rfl
theorem dX1_operation_0 : decode cX1_operation 0 = .ok (.iload_n 1, 1) := dk_27 (dk_at dksX1_operation_0 0 rfl rfl)
theorem dX1_operation_1 : decode cX1_operation 1 = .ok (.iconst 0, 1) := dk_3 (dk_at dksX1_operation_0 1 rfl rfl)
theorem dX1_operation_2 : decode cX1_operation 2 = .ok (.aload_n 0, 1) := dk_42 (dk_at dksX1_operation_0 2 rfl rfl)
theorem dX1_operation_3 : decode cX1_operation 3 = .ok (.getfield 62, 3) := dk_180 0 62 (dk_at dksX1_operation_0 3 rfl rfl)
theorem dX1_operation_6 : decode cX1_operation 6 = .ok (.invokevirtual 126, 3) := dk_182 0 126 (dk_at dksX1_operation_0 6 rfl rfl)
theorem dX1_operation_9 : decode cX1_operation 9 = .ok (.iconst 1, 1) := dk_4 (dk_at dksX1_operation_0 9 rfl rfl)
theorem dX1_operation_10 : decode cX1_operation 10 = .ok (.isub, 1) := dk_100 (dk_at dksX1_operation_0 10 rfl rfl)
theorem dX1_operation_11 : decode cX1_operation 11 = .ok (.invokestatic 21, 3) := dk_184 0 21 (dk_at dksX1_operation_0 11 rfl rfl)
theorem dX1_operation_14 : decode cX1_operation 14 = .ok (.invokestatic 117, 3) := dk_184 0 117 (dk_at dksX1_operation_0 14 rfl rfl)
theorem dX1_operation_17 : decode cX1_operation 17 = .ok (.aload_n 0, 1) := dk_42 (dk_at dksX1_operation_0 17 rfl rfl)
theorem dX1_operation_18 : decode cX1_operation 18 = .ok (.getfield 62, 3) := dk_180 0 62 (dk_at dksX1_operation_0 18 rfl rfl)
theorem dX1_operation_21 : decode cX1_operation 21 = .ok (.iload_n 1, 1) := dk_27 (dk_at dksX1_operation_0 21 rfl rfl)
theorem dX1_operation_22 : decode cX1_operation 22 = .ok (.invokevirtual 121, 3) := dk_182 0 121 (dk_at dksX1_operation_1 0 rfl rfl)
theorem dX1_operation_25 : decode cX1_operation 25 = .ok (.checkcast 145, 3) := dk_192 0 145 (dk_at dksX1_operation_1 3 rfl rfl)
theorem dX1_operation_28 : decode cX1_operation 28 = .ok (.areturn, 1) := dk_176 (dk_at dksX1_operation_1 6 rfl rfl)
abbrev rm_X1_operation : Room := { frames := 7, cells := 1, slots := 6, locals := 101 }
def w_X1_operation (a0 : Option Nat) (a1 : Int32) (h : AH) (P : Option Nat → AH → Prop) (PX : String → AH → Prop) : Prop :=
  g_q h a0 0 2 fun y3 =>
  is_c h y3 [15] (
  w_J2_size y3 h (fun y6 h6 =>
  w_X1_isBetween a1 0 (y6 - 1) h6 (fun y11 h11 =>
  w_X1_requireElement y11 h11 (fun h14 =>
  g_q h14 a0 0 2 fun y18 =>
  is_c h14 y18 [15] (
  w_J2_get y18 a1 h14 (fun y22 h22 =>
  is_c h22 y22 [9] (
  P y22 h22)))) PX)))
theorem met_X1_operation (l : Launch) (hlt : l.stackTraces = false) (G : GG) (h : AH) (a0 : Option Nat) (a1 : Int32) (P : Option Nat → AH → Prop) (PX : String → AH → Prop) (hw : w_X1_operation a0 a1 h P PX) : cx_q l yX1_operation (ws_ yX1_operation cX1_operation 2 (Option.some (Jvm.ClassFile.FieldType.object "Plugboard$Operation"))) rm_X1_operation G h [vR a0, vI a1] P PX := by
  refine j_startXq hlt [(0, vR a0), (1, vI a1)] (by decide) rfl rfl (fun x X eG er en hQ hT hex => ?_)
  subst eG
  refine j_iload_n X (pc := 0) 1 dX1_operation_0 rfl rfl ?_
  refine j_iconst X (pc := 1) 0 dX1_operation_1 (by decide) ?_
  refine j_aload_n X (pc := 2) 0 dX1_operation_2 rfl rfl ?_
  refine j_getq (ci := 0) X (pc := 3) in_X1 rfl (by decide) 2 (by decide) q243 (Or.inl rfl) dX1_operation_3 hw (fun y3 hw => ?_)
  obtain ⟨b9, c9, f9, hr9, ho9, hc9, hw⟩ := hw
  obtain rfl := List.mem_singleton.mp hc9
  refine j_calli (j_runV (n8 := 0) (As := []) (rest := [vI 0, vI a1]) X (pc := 6) hr9 (met_J2_size (xl x) X.hl (xG x) h y3 _ hw) ho9 (by decide) rfl q284 q285 q286 q74 q287 (by decide +kernel) dX1_operation_6 rfl ⟨Nat.le_of_ble_eq_true rfl, Nat.le_of_ble_eq_true rfl⟩ (Nat.le_of_ble_eq_true rfl) ⟨Nat.le_of_ble_eq_true rfl, Nat.le_of_ble_eq_true rfl⟩) (fun y6 h6 hw => ?_)
  refine j_iconst X (pc := 9) 1 dX1_operation_9 (by decide) ?_
  refine j_isub X (pc := 10) dX1_operation_10 ?_
  refine j_calli (j_runS (n8 := 3) (As := [vI a1, vI 0, vI (y6 - 1)]) (rest := []) X (pc := 11) (met_X1_isBetween (xl x) X.hl (xG x) h6 a1 0 (y6 - 1) _ hw) q304 q305 q71 q306 (by decide +kernel) dX1_operation_11 rfl ⟨Nat.le_of_ble_eq_true rfl, Nat.le_of_ble_eq_true rfl⟩ (Nat.le_of_ble_eq_true rfl) ⟨Nat.le_of_ble_eq_true rfl, Nat.le_of_ble_eq_true rfl⟩) (fun y11 h11 hw => ?_)
  refine j_callXv (j_runSX (n8 := 1) (As := [vI y11]) (rest := []) X (pc := 14) (met_X1_requireElement (xl x) X.hl (xG x) h11 y11 _ _ hw) q1080 q1081 q71 q1082 (by decide +kernel) dX1_operation_14 rfl ⟨Nat.le_of_ble_eq_true rfl, Nat.le_of_ble_eq_true rfl⟩ (Nat.le_of_ble_eq_true rfl) ⟨Nat.le_of_ble_eq_true rfl, Nat.le_of_ble_eq_true rfl⟩) (fun E h9 hx => j_out X hT hex (Nat.le_of_ble_eq_true rfl) (Nat.le_of_ble_eq_true rfl) hx) (fun h14 hw => ?_)
  refine j_aload_n X (pc := 17) 0 dX1_operation_17 rfl rfl ?_
  refine j_getq (ci := 0) X (pc := 18) in_X1 rfl (by decide) 2 (by decide) q243 (Or.inl rfl) dX1_operation_18 hw (fun y18 hw => ?_)
  refine j_iload_n X (pc := 21) 1 dX1_operation_21 rfl rfl ?_
  obtain ⟨b9, c9, f9, hr9, ho9, hc9, hw⟩ := hw
  obtain rfl := List.mem_singleton.mp hc9
  refine j_callq (j_runV (n8 := 1) (As := [vI a1]) (rest := []) X (pc := 22) hr9 (met_J2_get (xl x) X.hl (xG x) h14 y18 a1 _ hw) ho9 (by decide) rfl q1074 q512 q513 q74 q514 (by decide +kernel) dX1_operation_22 rfl ⟨Nat.le_of_ble_eq_true rfl, Nat.le_of_ble_eq_true rfl⟩ (Nat.le_of_ble_eq_true rfl) ⟨Nat.le_of_ble_eq_true rfl, Nat.le_of_ble_eq_true rfl⟩) (fun y22 h22 hw => ?_)
  refine j_chk X (pc := 25) (L := [9]) q692 (by intro ci hci; obtain rfl := List.mem_singleton.mp hci; exact ⟨by decide, _, _, _, rfl, Or.inl rfl⟩) dX1_operation_25 hw (fun hw => ?_)
  exact j_aret X (pc := 28) (ty := (.object "Plugboard$Operation")) hQ er (Or.inl ⟨_, rfl⟩) (Nat.le_of_ble_eq_true rfl) (Nat.le_of_ble_eq_true rfl) dX1_operation_28 hw
abbrev cX1_deliver : ByteArray := prog_1_method_41_code
def yX1_deliver : MethodName := ⟨RX1, "deliver", "(II)I"⟩
def dkwX1_deliver_1 : List UInt8 := [182, 0, 29, 172]
abbrev dktX1_deliver_1 : List UInt8 := dkwX1_deliver_1 ++ []
def dkwX1_deliver_0 : List UInt8 := [42, 27, 182, 0, 199, 78, 45, 42, 28, 182, 1, 90, 182, 0, 160, 184, 0, 127, 45, 180, 1, 93]
abbrev dktX1_deliver_0 : List UInt8 := dkwX1_deliver_0 ++ dktX1_deliver_1
theorem dksX1_deliver_0 : cX1_deliver.data.toList.drop 0 = dktX1_deliver_0 := by decide +kernel
theorem dksX1_deliver_1 : cX1_deliver.data.toList.drop 22 = dktX1_deliver_1 := dk_seg dksX1_deliver_0 22 rfl rfl
theorem dX1_deliver_0 : decode cX1_deliver 0 = .ok (.aload_n 0, 1) := dk_42 (dk_at dksX1_deliver_0 0 rfl rfl)
theorem dX1_deliver_1 : decode cX1_deliver 1 = .ok (.iload_n 1, 1) := dk_27 (dk_at dksX1_deliver_0 1 rfl rfl)
theorem dX1_deliver_2 : decode cX1_deliver 2 = .ok (.invokevirtual 199, 3) := dk_182 0 199 (dk_at dksX1_deliver_0 2 rfl rfl)
theorem dX1_deliver_5 : decode cX1_deliver 5 = .ok (.astore_n 3, 1) := dk_78 (dk_at dksX1_deliver_0 5 rfl rfl)
theorem dX1_deliver_6 : decode cX1_deliver 6 = .ok (.aload_n 3, 1) := dk_45 (dk_at dksX1_deliver_0 6 rfl rfl)
theorem dX1_deliver_7 : decode cX1_deliver 7 = .ok (.aload_n 0, 1) := dk_42 (dk_at dksX1_deliver_0 7 rfl rfl)
theorem dX1_deliver_8 : decode cX1_deliver 8 = .ok (.iload_n 2, 1) := dk_28 (dk_at dksX1_deliver_0 8 rfl rfl)
theorem dX1_deliver_9 : decode cX1_deliver 9 = .ok (.invokevirtual 346, 3) := dk_182 1 90 (dk_at dksX1_deliver_0 9 rfl rfl)
theorem dX1_deliver_12 : decode cX1_deliver 12 = .ok (.invokevirtual 160, 3) := dk_182 0 160 (dk_at dksX1_deliver_0 12 rfl rfl)
theorem dX1_deliver_15 : decode cX1_deliver 15 = .ok (.invokestatic 127, 3) := dk_184 0 127 (dk_at dksX1_deliver_0 15 rfl rfl)
theorem dX1_deliver_18 : decode cX1_deliver 18 = .ok (.aload_n 3, 1) := dk_45 (dk_at dksX1_deliver_0 18 rfl rfl)
theorem dX1_deliver_19 : decode cX1_deliver 19 = .ok (.getfield 349, 3) := dk_180 1 93 (dk_at dksX1_deliver_0 19 rfl rfl)
theorem dX1_deliver_22 : decode cX1_deliver 22 = .ok (.invokevirtual 29, 3) := dk_182 0 29 (dk_at dksX1_deliver_1 0 rfl rfl)
theorem dX1_deliver_25 : decode cX1_deliver 25 = .ok (.ireturn, 1) := dk_172 (dk_at dksX1_deliver_1 3 rfl rfl)
theorem q213 : (Jvm.Cond.fieldLinkNest "Plugboard" (349 : Nat) "Plugboard$Board" "known" "LPlugboard$Sequence;" "Plugboard") ∈ lw_tbl := lw_at lw_m1 143 rfl
theorem q1364 : (Jvm.Cond.methodLink "Plugboard" (346 : Nat) ({ cls := "Plugboard", name := "operation", desc := "(I)LPlugboard$Operation;" } : Jvm.MethodName)) ∈ lw_all := lw_g (lw_at lw_m6 94 rfl) rfl
theorem q1366 : (Jvm.Cond.instanceMethod ({ cls := "Plugboard", name := "operation", desc := "(I)LPlugboard$Operation;" } : Jvm.MethodName)) ∈ lw_all := lw_g (lw_at lw_m6 96 rfl) rfl
theorem q1367 : (Jvm.Cond.code ({ cls := "Plugboard", name := "operation", desc := "(I)LPlugboard$Operation;" } : Jvm.MethodName) prog_1_method_40_code (2 : Nat) (Option.some (Jvm.ClassFile.FieldType.object "Plugboard$Operation"))) ∈ lw_all := lw_g (lw_at lw_m6 97 rfl) rfl
abbrev rm_X1_deliver : Room := { frames := 9, cells := 6, slots := 83, locals := 217 }
def w_X1_deliver (a0 : Option Nat) (a1 : Int32) (a2 : Int32) (h : AH) (P : Int32 → AH → Prop) (PX : String → AH → Prop) : Prop :=
  is_c h a0 [0] (
  w_X1_board a0 a1 h (fun y2 h2 =>
  is_c h2 a0 [0] (
  w_X1_operation a0 a2 h2 (fun y9 h9 =>
  is_c h9 y2 [2] (
  w_X3_take y2 y9 h9 (fun y12 h12 =>
  w_X1_requireState y12 h12 (fun h15 =>
  g_q h15 y2 2 2 fun y19 =>
  is_c h15 y19 [3] (
  w_X4_size y19 h15 (fun y22 h22 =>
  P y22 h22))) PX))) PX)) PX)
theorem met_X1_deliver (l : Launch) (hlt : l.stackTraces = false) (G : GG) (h : AH) (a0 : Option Nat) (a1 : Int32) (a2 : Int32) (P : Int32 → AH → Prop) (PX : String → AH → Prop) (hw : w_X1_deliver a0 a1 a2 h P PX) : cx_i l yX1_deliver (ws_ yX1_deliver cX1_deliver 4 (Option.some Jvm.ClassFile.FieldType.int)) rm_X1_deliver G h [vR a0, vI a1, vI a2] P PX := by
  refine j_startXi hlt [(0, vR a0), (1, vI a1), (2, vI a2)] (by decide) rfl rfl (fun x X eG er en hQ hT hex => ?_)
  subst eG
  refine j_aload_n X (pc := 0) 0 dX1_deliver_0 rfl rfl ?_
  refine j_iload_n X (pc := 1) 1 dX1_deliver_1 rfl rfl ?_
  obtain ⟨b9, c9, f9, hr9, ho9, hc9, hw⟩ := hw
  obtain rfl := List.mem_singleton.mp hc9
  refine j_callXq (j_runVX (n8 := 1) (As := [vI a1]) (rest := []) X (pc := 2) hr9 (met_X1_board (xl x) X.hl (xG x) h a0 a1 _ _ hw) ho9 (by decide) rfl q297 q299 qs0 q71 q300 (by decide +kernel) dX1_deliver_2 rfl ⟨Nat.le_of_ble_eq_true rfl, Nat.le_of_ble_eq_true rfl⟩ (Nat.le_of_ble_eq_true rfl) ⟨Nat.le_of_ble_eq_true rfl, Nat.le_of_ble_eq_true rfl⟩) (fun E h9 hx => j_out X hT hex (Nat.le_of_ble_eq_true rfl) (Nat.le_of_ble_eq_true rfl) hx) (fun y2 h2 hw => ?_)
  refine j_astore_n X (pc := 5) [(3, vR y2), (0, vR a0), (1, vI a1), (2, vI a2)] dX1_deliver_5 rfl (Nat.le_of_ble_eq_true rfl) rfl ?_
  refine j_aload_n X (pc := 6) 0 dX1_deliver_6 rfl rfl ?_
  refine j_aload_n X (pc := 7) 1 dX1_deliver_7 rfl rfl ?_
  refine j_iload_n X (pc := 8) 3 dX1_deliver_8 rfl rfl ?_
  obtain ⟨b9, c9, f9, hr9, ho9, hc9, hw⟩ := hw
  obtain rfl := List.mem_singleton.mp hc9
  refine j_callXq (j_runVX (n8 := 1) (As := [vI a2]) (rest := [vR y2]) X (pc := 9) hr9 (met_X1_operation (xl x) X.hl (xG x) h2 a0 a2 _ _ hw) ho9 (by decide) rfl q1364 q1366 qs17 q71 q1367 (by decide +kernel) dX1_deliver_9 rfl ⟨Nat.le_of_ble_eq_true rfl, Nat.le_of_ble_eq_true rfl⟩ (Nat.le_of_ble_eq_true rfl) ⟨Nat.le_of_ble_eq_true rfl, Nat.le_of_ble_eq_true rfl⟩) (fun E h9 hx => j_out X hT hex (Nat.le_of_ble_eq_true rfl) (Nat.le_of_ble_eq_true rfl) hx) (fun y9 h9 hw => ?_)
  obtain ⟨b9, c9, f9, hr9, ho9, hc9, hw⟩ := hw
  obtain rfl := List.mem_singleton.mp hc9
  refine j_calli (j_runV (n8 := 1) (As := [vR y9]) (rest := []) X (pc := 12) hr9 (met_X3_take (xl x) X.hl (xG x) h9 y2 y9 _ hw) ho9 (by decide) rfl q741 q742 q743 q76 q744 (by decide +kernel) dX1_deliver_12 rfl ⟨Nat.le_of_ble_eq_true rfl, Nat.le_of_ble_eq_true rfl⟩ (Nat.le_of_ble_eq_true rfl) ⟨Nat.le_of_ble_eq_true rfl, Nat.le_of_ble_eq_true rfl⟩) (fun y12 h12 hw => ?_)
  refine j_callXv (j_runSX (n8 := 1) (As := [vI y12]) (rest := []) X (pc := 15) (met_X1_requireState (xl x) X.hl (xG x) h12 y12 _ _ hw) q382 q383 q71 q384 (by decide +kernel) dX1_deliver_15 rfl ⟨Nat.le_of_ble_eq_true rfl, Nat.le_of_ble_eq_true rfl⟩ (Nat.le_of_ble_eq_true rfl) ⟨Nat.le_of_ble_eq_true rfl, Nat.le_of_ble_eq_true rfl⟩) (fun E h9 hx => j_out X hT hex (Nat.le_of_ble_eq_true rfl) (Nat.le_of_ble_eq_true rfl) hx) (fun h15 hw => ?_)
  refine j_aload_n X (pc := 18) 0 dX1_deliver_18 rfl rfl ?_
  refine j_getqN (ci := 2) X (pc := 19) in_X3 rfl (by decide) 2 (by decide) q213 (Or.inl rfl) dX1_deliver_19 hw (fun y19 hw => ?_)
  obtain ⟨b9, c9, f9, hr9, ho9, hc9, hw⟩ := hw
  obtain rfl := List.mem_singleton.mp hc9
  refine j_calli (j_runV (n8 := 0) (As := []) (rest := []) X (pc := 22) hr9 (met_X4_size (xl x) X.hl (xG x) h15 y19 _ hw) ho9 (by decide) rfl q756 q757 q758 q77 q759 (by decide +kernel) dX1_deliver_22 rfl ⟨Nat.le_of_ble_eq_true rfl, Nat.le_of_ble_eq_true rfl⟩ (Nat.le_of_ble_eq_true rfl) ⟨Nat.le_of_ble_eq_true rfl, Nat.le_of_ble_eq_true rfl⟩) (fun y22 h22 hw => ?_)
  exact j_iret X (pc := 25) hQ er (Nat.le_of_ble_eq_true rfl) (Nat.le_of_ble_eq_true rfl) dX1_deliver_25 hw
abbrev cX0_deliver : ByteArray := method_16_code
def yX0_deliver : MethodName := ⟨RX0, "deliver", "(LPlugboard;II[J)I"⟩
def dkwX0_deliver_1 : List UInt8 := [172, 3, 172]
abbrev dktX0_deliver_1 : List UInt8 := dkwX0_deliver_1 ++ []
def dkwX0_deliver_0 : List UInt8 := [45, 3, 42, 27, 28, 182, 0, 63, 133, 80, 167, 0, 15, 58, 4, 4, 172, 58, 4, 5, 172, 58, 4, 6]
abbrev dktX0_deliver_0 : List UInt8 := dkwX0_deliver_0 ++ dktX0_deliver_1
theorem dksX0_deliver_0 : cX0_deliver.data.toList.drop 0 = dktX0_deliver_0 := by decide +kernel
theorem dksX0_deliver_1 : cX0_deliver.data.toList.drop 24 = dktX0_deliver_1 := dk_seg dksX0_deliver_0 24 rfl rfl
theorem dX0_deliver_0 : decode cX0_deliver 0 = .ok (.aload_n 3, 1) := dk_45 (dk_at dksX0_deliver_0 0 rfl rfl)
theorem dX0_deliver_1 : decode cX0_deliver 1 = .ok (.iconst 0, 1) := dk_3 (dk_at dksX0_deliver_0 1 rfl rfl)
theorem dX0_deliver_2 : decode cX0_deliver 2 = .ok (.aload_n 0, 1) := dk_42 (dk_at dksX0_deliver_0 2 rfl rfl)
theorem dX0_deliver_3 : decode cX0_deliver 3 = .ok (.iload_n 1, 1) := dk_27 (dk_at dksX0_deliver_0 3 rfl rfl)
theorem dX0_deliver_4 : decode cX0_deliver 4 = .ok (.iload_n 2, 1) := dk_28 (dk_at dksX0_deliver_0 4 rfl rfl)
theorem dX0_deliver_5 : decode cX0_deliver 5 = .ok (.invokevirtual 63, 3) := dk_182 0 63 (dk_at dksX0_deliver_0 5 rfl rfl)
theorem dX0_deliver_8 : decode cX0_deliver 8 = .ok (.i2l, 1) := dk_133 (dk_at dksX0_deliver_0 8 rfl rfl)
theorem dX0_deliver_9 : decode cX0_deliver 9 = .ok (.lastore, 1) := dk_80 (dk_at dksX0_deliver_0 9 rfl rfl)
theorem dX0_deliver_10 : decode cX0_deliver 10 = .ok (.goto 15, 3) := dk_167 0 15 (dk_at dksX0_deliver_0 10 rfl rfl)
theorem dX0_deliver_13 : decode cX0_deliver 13 = .ok (.astore 4, 2) := dk_58 4 (dk_at dksX0_deliver_0 13 rfl rfl)
theorem dX0_deliver_15 : decode cX0_deliver 15 = .ok (.iconst 1, 1) := dk_4 (dk_at dksX0_deliver_0 15 rfl rfl)
theorem dX0_deliver_16 : decode cX0_deliver 16 = .ok (.ireturn, 1) := dk_172 (dk_at dksX0_deliver_0 16 rfl rfl)
theorem dX0_deliver_17 : decode cX0_deliver 17 = .ok (.astore 4, 2) := dk_58 4 (dk_at dksX0_deliver_0 17 rfl rfl)
theorem dX0_deliver_19 : decode cX0_deliver 19 = .ok (.iconst 2, 1) := dk_5 (dk_at dksX0_deliver_0 19 rfl rfl)
theorem dX0_deliver_20 : decode cX0_deliver 20 = .ok (.ireturn, 1) := dk_172 (dk_at dksX0_deliver_0 20 rfl rfl)
theorem dX0_deliver_21 : decode cX0_deliver 21 = .ok (.astore 4, 2) := dk_58 4 (dk_at dksX0_deliver_0 21 rfl rfl)
theorem dX0_deliver_23 : decode cX0_deliver 23 = .ok (.iconst 3, 1) := dk_6 (dk_at dksX0_deliver_0 23 rfl rfl)
theorem dX0_deliver_24 : decode cX0_deliver 24 = .ok (.ireturn, 1) := dk_172 (dk_at dksX0_deliver_1 0 rfl rfl)
theorem dX0_deliver_25 : decode cX0_deliver 25 = .ok (.iconst 0, 1) := dk_3 (dk_at dksX0_deliver_1 1 rfl rfl)
theorem dX0_deliver_26 : decode cX0_deliver 26 = .ok (.ireturn, 1) := dk_172 (dk_at dksX0_deliver_1 2 rfl rfl)
theorem q1360 : (Jvm.Cond.methodLink "PlugboardLaw" (63 : Nat) ({ cls := "Plugboard", name := "deliver", desc := "(II)I" } : Jvm.MethodName)) ∈ lw_all := lw_g (lw_at lw_m6 90 rfl) rfl
theorem q1361 : (Jvm.Cond.instanceMethod ({ cls := "Plugboard", name := "deliver", desc := "(II)I" } : Jvm.MethodName)) ∈ lw_all := lw_g (lw_at lw_m6 91 rfl) rfl
theorem q1362 : (Jvm.Cond.selects "Plugboard" ({ cls := "Plugboard", name := "deliver", desc := "(II)I" } : Jvm.MethodName) ({ cls := "Plugboard", name := "deliver", desc := "(II)I" } : Jvm.MethodName)) ∈ lw_all := lw_g (lw_at lw_m6 92 rfl) rfl
theorem q1363 : (Jvm.Cond.code ({ cls := "Plugboard", name := "deliver", desc := "(II)I" } : Jvm.MethodName) prog_1_method_41_code (4 : Nat) (Option.some Jvm.ClassFile.FieldType.int)) ∈ lw_all := lw_g (lw_at lw_m6 93 rfl) rfl
abbrev rm_X0_deliver : Room := { frames := 10, cells := 6, slots := 83, locals := 240 }
def w_X0_deliver (a0 : Option Nat) (a1 : Int32) (a2 : Int32) (a3 : Option Nat) (h : AH) (P : Int32 → AH → Prop) : Prop :=
  is_c h a0 [0] (
  w_X1_deliver a0 a1 a2 h (fun y5 h5 =>
  s_L h5 a3 0 (Int32.toInt64 y5) fun h9 =>
  P 0 h9)
    (fun E9 h9 => (E9 = "java/lang/IllegalArgumentException" ∧ ∀ q9 : Nat,
    P 1 h9) ∨
    (E9 = "java/util/NoSuchElementException" ∧ ∀ q9 : Nat,
    P 2 h9) ∨
    (E9 = "java/lang/IllegalStateException" ∧ ∀ q9 : Nat,
    P 3 h9)))
theorem met_X0_deliver (l : Launch) (hlt : l.stackTraces = false) (G : GG) (h : AH) (a0 : Option Nat) (a1 : Int32) (a2 : Int32) (a3 : Option Nat) (P : Int32 → AH → Prop) (hw : w_X0_deliver a0 a1 a2 a3 h P) : ct_i l yX0_deliver (wsW_ yX0_deliver cX0_deliver 5 (Option.some Jvm.ClassFile.FieldType.int) [((0 : Nat), (10 : Nat), (13 : Nat), (13 : Nat)), ((0 : Nat), (10 : Nat), (17 : Nat), (21 : Nat)), ((0 : Nat), (10 : Nat), (21 : Nat), (15 : Nat))]) rm_X0_deliver G h [vR a0, vI a1, vI a2, vR a3] P := by
  refine j_startWi hlt [(0, vR a0), (1, vI a1), (2, vI a2), (3, vR a3)] (by decide) rfl rfl (fun x X eG er en hQ hex => ?_)
  subst eG
  refine j_aload_n X (pc := 0) 3 dX0_deliver_0 rfl rfl ?_
  refine j_iconst X (pc := 1) 0 dX0_deliver_1 (by decide) ?_
  refine j_aload_n X (pc := 2) 0 dX0_deliver_2 rfl rfl ?_
  refine j_iload_n X (pc := 3) 1 dX0_deliver_3 rfl rfl ?_
  refine j_iload_n X (pc := 4) 2 dX0_deliver_4 rfl rfl ?_
  obtain ⟨b9, c9, f9, hr9, ho9, hc9, hw⟩ := hw
  obtain rfl := List.mem_singleton.mp hc9
  refine j_callXi (j_runVX (n8 := 2) (As := [vI a1, vI a2]) (rest := [vI 0, vR a3]) X (pc := 5) hr9 (met_X1_deliver (xl x) X.hl (xG x) h a0 a1 a2 _ _ hw) ho9 (by decide) rfl q1360 q1361 q1362 q71 q1363 (by decide +kernel) dX0_deliver_5 rfl ⟨Nat.le_of_ble_eq_true rfl, Nat.le_of_ble_eq_true rfl⟩ (Nat.le_of_ble_eq_true rfl) ⟨Nat.le_of_ble_eq_true rfl, Nat.le_of_ble_eq_true rfl⟩) ?_ (fun y5 h5 hw => ?_)
  · intro E9 h9 hx
    rcases hx with ⟨rfl, hw⟩ | ⟨rfl, hw⟩ | ⟨rfl, hw⟩
    · refine j_catch X (pc := 5) "java/lang/IllegalArgumentException" hex [] [⟨0, 10, 17, 21⟩, ⟨0, 10, 21, 15⟩] ⟨0, 10, 13, 13⟩ rfl (by intro y hy; cases hy) (by decide) (by decide) q291 q312 (fun q9 => ?_)
      have hw := hw q9
      refine j_astore X (pc := 13) [(4, vR (some q9)), (0, vR a0), (1, vI a1), (2, vI a2), (3, vR a3)] dX0_deliver_13 (Nat.le_of_ble_eq_true rfl) rfl ?_
      refine j_iconst X (pc := 15) 1 dX0_deliver_15 (by decide) ?_
      exact j_iret X (pc := 16) hQ er (Nat.le_of_ble_eq_true rfl) (Nat.le_of_ble_eq_true rfl) dX0_deliver_16 hw
    · refine j_catch X (pc := 5) "java/util/NoSuchElementException" hex [⟨0, 10, 13, 13⟩] [⟨0, 10, 21, 15⟩] ⟨0, 10, 17, 21⟩ rfl (by intro y hy; simp only [List.mem_cons, List.not_mem_nil, or_false] at hy; subst hy; exact Or.inr ⟨by decide, "java/lang/IllegalArgumentException", q291, by decide +kernel⟩) (by decide) (by decide) q1068 q537 (fun q9 => ?_)
      have hw := hw q9
      refine j_astore X (pc := 17) [(4, vR (some q9)), (0, vR a0), (1, vI a1), (2, vI a2), (3, vR a3)] dX0_deliver_17 (Nat.le_of_ble_eq_true rfl) rfl ?_
      refine j_iconst X (pc := 19) 2 dX0_deliver_19 (by decide) ?_
      exact j_iret X (pc := 20) hQ er (Nat.le_of_ble_eq_true rfl) (Nat.le_of_ble_eq_true rfl) dX0_deliver_20 hw
    · refine j_catch X (pc := 5) "java/lang/IllegalStateException" hex [⟨0, 10, 13, 13⟩, ⟨0, 10, 17, 21⟩] [] ⟨0, 10, 21, 15⟩ rfl (by intro y hy; simp only [List.mem_cons, List.not_mem_nil, or_false] at hy; rcases hy with rfl | rfl <;> first | exact Or.inr ⟨by decide, "java/lang/IllegalArgumentException", q291, by decide +kernel⟩ | exact Or.inr ⟨by decide, "java/util/NoSuchElementException", q1068, by decide +kernel⟩) (by decide) (by decide) q292 q387 (fun q9 => ?_)
      have hw := hw q9
      refine j_astore X (pc := 21) [(4, vR (some q9)), (0, vR a0), (1, vI a1), (2, vI a2), (3, vR a3)] dX0_deliver_21 (Nat.le_of_ble_eq_true rfl) rfl ?_
      refine j_iconst X (pc := 23) 3 dX0_deliver_23 (by decide) ?_
      exact j_iret X (pc := 24) hQ er (Nat.le_of_ble_eq_true rfl) (Nat.le_of_ble_eq_true rfl) dX0_deliver_24 hw
  refine j_i2l X (pc := 8) dX0_deliver_8 ?_
  refine j_last X (pc := 9) dX0_deliver_9 hw (fun h9 hw => ?_)
  refine j_goto X (pc := 10) 25 dX0_deliver_10 (by decide) ?_
  refine j_iconst X (pc := 25) 0 dX0_deliver_25 (by decide) ?_
  exact j_iret X (pc := 26) hQ er (Nat.le_of_ble_eq_true rfl) (Nat.le_of_ble_eq_true rfl) dX0_deliver_26 hw
abbrev cX5_isOperation : ByteArray := prog_19_method_43_code
def yX5_isOperation : MethodName := ⟨RX5, "isOperation", "(I)Z"⟩
def dkwX5_isOperation_0 : List UInt8 := [27, 3, 42, 180, 0, 108, 4, 100, 184, 0, 101, 172]
abbrev dktX5_isOperation_0 : List UInt8 := dkwX5_isOperation_0 ++ []
theorem dksX5_isOperation_0 : cX5_isOperation.data.toList.drop 0 = dktX5_isOperation_0 := by decide +kernel
theorem dX5_isOperation_0 : decode cX5_isOperation 0 = .ok (.iload_n 1, 1) := dk_27 (dk_at dksX5_isOperation_0 0 rfl rfl)
theorem dX5_isOperation_1 : decode cX5_isOperation 1 = .ok (.iconst 0, 1) := dk_3 (dk_at dksX5_isOperation_0 1 rfl rfl)
theorem dX5_isOperation_2 : decode cX5_isOperation 2 = .ok (.aload_n 0, 1) := dk_42 (dk_at dksX5_isOperation_0 2 rfl rfl)
theorem dX5_isOperation_3 : decode cX5_isOperation 3 = .ok (.getfield 108, 3) := dk_180 0 108 (dk_at dksX5_isOperation_0 3 rfl rfl)
theorem dX5_isOperation_6 : decode cX5_isOperation 6 = .ok (.iconst 1, 1) := dk_4 (dk_at dksX5_isOperation_0 6 rfl rfl)
theorem dX5_isOperation_7 : decode cX5_isOperation 7 = .ok (.isub, 1) := dk_100 (dk_at dksX5_isOperation_0 7 rfl rfl)
theorem dX5_isOperation_8 : decode cX5_isOperation 8 = .ok (.invokestatic 101, 3) := dk_184 0 101 (dk_at dksX5_isOperation_0 8 rfl rfl)
theorem dX5_isOperation_11 : decode cX5_isOperation 11 = .ok (.ireturn, 1) := dk_172 (dk_at dksX5_isOperation_0 11 rfl rfl)
abbrev rm_X5_isOperation : Room := { frames := 1, cells := 0, slots := 0, locals := 22 }
def w_X5_isOperation (a0 : Option Nat) (a1 : Int32) (h : AH) (P : Int32 → AH → Prop) : Prop :=
  g_i h a0 4 20 fun y3 =>
  w_X5_isBetween a1 0 (y3 - 1) h (fun y8 h8 =>
  nrw .boolean y8 ∧
  P y8 h8)
theorem met_X5_isOperation (l : Launch) (hlt : l.stackTraces = false) (G : GG) (h : AH) (a0 : Option Nat) (a1 : Int32) (P : Int32 → AH → Prop) (hw : w_X5_isOperation a0 a1 h P) : ct_i l yX5_isOperation (ws_ yX5_isOperation cX5_isOperation 2 (Option.some Jvm.ClassFile.FieldType.boolean)) rm_X5_isOperation G h [vR a0, vI a1] P := by
  refine j_starti hlt [(0, vR a0), (1, vI a1)] (plainFor_of_name (by decide)) rfl rfl (fun x X eG er en hQ => ?_)
  subst eG
  refine j_iload_n X (pc := 0) 1 dX5_isOperation_0 rfl rfl ?_
  refine j_iconst X (pc := 1) 0 dX5_isOperation_1 (by decide) ?_
  refine j_aload_n X (pc := 2) 0 dX5_isOperation_2 rfl rfl ?_
  refine j_geti (ci := 4) X (pc := 3) in_X5 rfl (by decide) 20 (by decide) q1892 (Or.inl rfl) dX5_isOperation_3 hw (fun y3 hw => ?_)
  refine j_iconst X (pc := 6) 1 dX5_isOperation_6 (by decide) ?_
  refine j_isub X (pc := 7) dX5_isOperation_7 ?_
  refine j_calli (j_runS (n8 := 3) (As := [vI a1, vI 0, vI (y3 - 1)]) (rest := []) X (pc := 8) (met_X5_isBetween (xl x) X.hl (xG x) h a1 0 (y3 - 1) _ hw) q1981 q1982 q78 q1983 (by decide +kernel) dX5_isOperation_8 rfl ⟨Nat.le_of_ble_eq_true rfl, Nat.le_of_ble_eq_true rfl⟩ (Nat.le_of_ble_eq_true rfl) ⟨Nat.le_of_ble_eq_true rfl, Nat.le_of_ble_eq_true rfl⟩) (fun y8 h8 hw => ?_)
  exact j_zret X (pc := 11) (ty := .boolean) hQ er hw.1.1 (Nat.le_of_ble_eq_true rfl) (Nat.le_of_ble_eq_true rfl) dX5_isOperation_11 hw.2
abbrev cX5_knownMany : ByteArray := prog_19_method_44_code
def yX5_knownMany : MethodName := ⟨RX5, "knownMany", "(I)I"⟩
def dkwX5_knownMany_1 : List UInt8 := [4, 167, 0, 4, 3, 96, 61, 132, 3, 1, 167, 255, 226, 28, 172]
abbrev dktX5_knownMany_1 : List UInt8 := dkwX5_knownMany_1 ++ []
def dkwX5_knownMany_0 : List UInt8 := [3, 61, 3, 62, 29, 42, 180, 0, 108, 162, 0, 28, 28, 42, 180, 0, 64, 27, 50, 29, 51, 153, 0, 7]
abbrev dktX5_knownMany_0 : List UInt8 := dkwX5_knownMany_0 ++ dktX5_knownMany_1
theorem dksX5_knownMany_0 : cX5_knownMany.data.toList.drop 0 = dktX5_knownMany_0 := by decide +kernel
theorem dksX5_knownMany_1 : cX5_knownMany.data.toList.drop 24 = dktX5_knownMany_1 := dk_seg dksX5_knownMany_0 24 rfl rfl
theorem dX5_knownMany_0 : decode cX5_knownMany 0 = .ok (.iconst 0, 1) := dk_3 (dk_at dksX5_knownMany_0 0 rfl rfl)
theorem dX5_knownMany_1 : decode cX5_knownMany 1 = .ok (.istore_n 2, 1) := dk_61 (dk_at dksX5_knownMany_0 1 rfl rfl)
theorem dX5_knownMany_2 : decode cX5_knownMany 2 = .ok (.iconst 0, 1) := dk_3 (dk_at dksX5_knownMany_0 2 rfl rfl)
theorem dX5_knownMany_3 : decode cX5_knownMany 3 = .ok (.istore_n 3, 1) := dk_62 (dk_at dksX5_knownMany_0 3 rfl rfl)
theorem dX5_knownMany_4 : decode cX5_knownMany 4 = .ok (.iload_n 3, 1) := dk_29 (dk_at dksX5_knownMany_0 4 rfl rfl)
theorem dX5_knownMany_5 : decode cX5_knownMany 5 = .ok (.aload_n 0, 1) := dk_42 (dk_at dksX5_knownMany_0 5 rfl rfl)
theorem dX5_knownMany_6 : decode cX5_knownMany 6 = .ok (.getfield 108, 3) := dk_180 0 108 (dk_at dksX5_knownMany_0 6 rfl rfl)
theorem dX5_knownMany_9 : decode cX5_knownMany 9 = .ok (.if_icmp .ge 28, 3) := dk_162 0 28 (dk_at dksX5_knownMany_0 9 rfl rfl)
theorem dX5_knownMany_12 : decode cX5_knownMany 12 = .ok (.iload_n 2, 1) := dk_28 (dk_at dksX5_knownMany_0 12 rfl rfl)
theorem dX5_knownMany_13 : decode cX5_knownMany 13 = .ok (.aload_n 0, 1) := dk_42 (dk_at dksX5_knownMany_0 13 rfl rfl)
theorem dX5_knownMany_14 : decode cX5_knownMany 14 = .ok (.getfield 64, 3) := dk_180 0 64 (dk_at dksX5_knownMany_0 14 rfl rfl)
theorem dX5_knownMany_17 : decode cX5_knownMany 17 = .ok (.iload_n 1, 1) := dk_27 (dk_at dksX5_knownMany_0 17 rfl rfl)
theorem dX5_knownMany_18 : decode cX5_knownMany 18 = .ok (.aaload, 1) := dk_50 (dk_at dksX5_knownMany_0 18 rfl rfl)
theorem dX5_knownMany_19 : decode cX5_knownMany 19 = .ok (.iload_n 3, 1) := dk_29 (dk_at dksX5_knownMany_0 19 rfl rfl)
theorem dX5_knownMany_20 : decode cX5_knownMany 20 = .ok (.baload, 1) := dk_51 (dk_at dksX5_knownMany_0 20 rfl rfl)
theorem dX5_knownMany_21 : decode cX5_knownMany 21 = .ok (.ifCond .eq 7, 3) := dk_153 0 7 (dk_at dksX5_knownMany_0 21 rfl rfl)
theorem dX5_knownMany_24 : decode cX5_knownMany 24 = .ok (.iconst 1, 1) := dk_4 (dk_at dksX5_knownMany_1 0 rfl rfl)
theorem dX5_knownMany_25 : decode cX5_knownMany 25 = .ok (.goto 4, 3) := dk_167 0 4 (dk_at dksX5_knownMany_1 1 rfl rfl)
theorem dX5_knownMany_28 : decode cX5_knownMany 28 = .ok (.iconst 0, 1) := dk_3 (dk_at dksX5_knownMany_1 4 rfl rfl)
theorem dX5_knownMany_29 : decode cX5_knownMany 29 = .ok (.iadd, 1) := dk_96 (dk_at dksX5_knownMany_1 5 rfl rfl)
theorem dX5_knownMany_30 : decode cX5_knownMany 30 = .ok (.istore_n 2, 1) := dk_61 (dk_at dksX5_knownMany_1 6 rfl rfl)
theorem dX5_knownMany_31 : decode cX5_knownMany 31 = .ok (.iinc 3 1, 3) := dk_132 3 1 (dk_at dksX5_knownMany_1 7 rfl rfl)
theorem dX5_knownMany_34 : decode cX5_knownMany 34 = .ok (.goto (-30), 3) := dk_167 255 226 (dk_at dksX5_knownMany_1 10 rfl rfl)
theorem dX5_knownMany_37 : decode cX5_knownMany 37 = .ok (.iload_n 2, 1) := dk_28 (dk_at dksX5_knownMany_1 13 rfl rfl)
theorem dX5_knownMany_38 : decode cX5_knownMany 38 = .ok (.ireturn, 1) := dk_172 (dk_at dksX5_knownMany_1 14 rfl rfl)
abbrev rm_X5_knownMany : Room := { frames := 0, cells := 0, slots := 0, locals := 0 }
def w_X5_knownMany_4 (P : Int32 → AH → Prop) (x0 : Option Nat) (x1 : Int32) (x2 : Int32) (x3 : Int32) (h : AH) : Prop :=
  ∀ Z4 : Int32 → Int32 → Prop, (∀ x2 x3, (
      g_i h x0 4 20 fun y6 =>
      ((y6 ≤ x3 →
        P x2 h) ∧
       (¬ y6 ≤ x3 →
        g_q h x0 4 19 fun y14 =>
        l_q h y14 x1 fun y18 =>
        l_i h y18 1 x3 fun y20 =>
        ((y20 = 0 →
          Z4 (x2 + 0) (x3 + 1)) ∧
         (¬ y20 = 0 →
          Z4 (x2 + 1) (x3 + 1))))))
      → Z4 x2 x3) → Z4 x2 x3
def w_X5_knownMany (a0 : Option Nat) (a1 : Int32) (h : AH) (P : Int32 → AH → Prop) : Prop :=
  w_X5_knownMany_4 P a0 a1 0 0 h
theorem wk_X5_knownMany_4 {x : CX} (X : Ok x cX5_knownMany RX5 rm_X5_knownMany 4) (er : xrt x = (Option.some Jvm.ClassFile.FieldType.int)) (en : xnm x = yX5_knownMany.name) {P : Int32 → AH → Prop} (hQ : xr_i x P) (x0 : Option Nat) (x1 : Int32) (x2 : Int32) (x3 : Int32) (h : AH) (hw : w_X5_knownMany_4 P x0 x1 x2 x3 h) : J x h 0 0 4 [(0, vR x0), (1, vI x1), (2, vI x2), (3, vI x3)] [] := by
  refine hw (fun x2 x3 => J x h 0 0 4 [(0, vR x0), (1, vI x1), (2, vI x2), (3, vI x3)] []) (fun x2 x3 hw => ?_)
  refine j_iload_n X (pc := 4) 3 dX5_knownMany_4 rfl rfl ?_
  refine j_aload_n X (pc := 5) 0 dX5_knownMany_5 rfl rfl ?_
  refine j_geti (ci := 4) X (pc := 6) in_X5 rfl (by decide) 20 (by decide) q1892 (Or.inl rfl) dX5_knownMany_6 hw (fun y6 hw => ?_)
  refine j_icmp_ge X (pc := 9) 37 dX5_knownMany_9 (by decide) hw (fun hw => ?_) (fun hw => ?_)
  · refine j_iload_n X (pc := 37) 2 dX5_knownMany_37 rfl rfl ?_
    exact j_iret X (pc := 38) hQ er (Nat.le_of_ble_eq_true rfl) (Nat.le_of_ble_eq_true rfl) dX5_knownMany_38 hw
  · refine j_iload_n X (pc := 12) 2 dX5_knownMany_12 rfl rfl ?_
    refine j_aload_n X (pc := 13) 0 dX5_knownMany_13 rfl rfl ?_
    refine j_getq (ci := 4) X (pc := 14) in_X5 rfl (by decide) 19 (by decide) q1891 (Or.inl rfl) dX5_knownMany_14 hw (fun y14 hw => ?_)
    refine j_iload_n X (pc := 17) 1 dX5_knownMany_17 rfl rfl ?_
    refine j_aald X (pc := 18) dX5_knownMany_18 hw (fun y18 hw => ?_)
    refine j_iload_n X (pc := 19) 3 dX5_knownMany_19 rfl rfl ?_
    refine j_zald X (pc := 20) 1 rfl dX5_knownMany_20 hw (fun y20 hw => ?_)
    refine j_if_eq X (pc := 21) 28 dX5_knownMany_21 (by decide) hw (fun hw => ?_) (fun hw => ?_)
    · refine j_iconst X (pc := 28) 0 dX5_knownMany_28 (by decide) ?_
      refine j_iadd X (pc := 29) dX5_knownMany_29 ?_
      refine j_istore_n X (pc := 30) [(2, vI (x2 + 0)), (0, vR x0), (1, vI x1), (3, vI x3)] dX5_knownMany_30 rfl (Nat.le_of_ble_eq_true rfl) rfl ?_
      refine j_iinc X (pc := 31) 3 (x3 + 1) [(3, vI (x3 + 1)), (2, vI (x2 + 0)), (0, vR x0), (1, vI x1)] dX5_knownMany_31 rfl rfl (Nat.le_of_ble_eq_true rfl) rfl ?_
      refine j_goto X (pc := 34) 4 dX5_knownMany_34 (by decide) ?_
      refine j_lv [(0, vR x0), (1, vI x1), (2, vI (x2 + 0)), (3, vI (x3 + 1))] [2, 3, 1, 0] rfl ?_
      refine j_cs (u' := 0) (v' := 0) (Nat.le_of_ble_eq_true rfl) (Nat.le_of_ble_eq_true rfl) ?_
      exact hw
    · refine j_iconst X (pc := 24) 1 dX5_knownMany_24 (by decide) ?_
      refine j_goto X (pc := 25) 29 dX5_knownMany_25 (by decide) ?_
      refine j_iadd X (pc := 29) dX5_knownMany_29 ?_
      refine j_istore_n X (pc := 30) [(2, vI (x2 + 1)), (0, vR x0), (1, vI x1), (3, vI x3)] dX5_knownMany_30 rfl (Nat.le_of_ble_eq_true rfl) rfl ?_
      refine j_iinc X (pc := 31) 3 (x3 + 1) [(3, vI (x3 + 1)), (2, vI (x2 + 1)), (0, vR x0), (1, vI x1)] dX5_knownMany_31 rfl rfl (Nat.le_of_ble_eq_true rfl) rfl ?_
      refine j_goto X (pc := 34) 4 dX5_knownMany_34 (by decide) ?_
      refine j_lv [(0, vR x0), (1, vI x1), (2, vI (x2 + 1)), (3, vI (x3 + 1))] [2, 3, 1, 0] rfl ?_
      refine j_cs (u' := 0) (v' := 0) (Nat.le_of_ble_eq_true rfl) (Nat.le_of_ble_eq_true rfl) ?_
      exact hw
theorem met_X5_knownMany (l : Launch) (hlt : l.stackTraces = false) (G : GG) (h : AH) (a0 : Option Nat) (a1 : Int32) (P : Int32 → AH → Prop) (hw : w_X5_knownMany a0 a1 h P) : ct_i l yX5_knownMany (ws_ yX5_knownMany cX5_knownMany 4 (Option.some Jvm.ClassFile.FieldType.int)) rm_X5_knownMany G h [vR a0, vI a1] P := by
  refine j_starti hlt [(0, vR a0), (1, vI a1)] (plainFor_of_name (by decide)) rfl rfl (fun x X eG er en hQ => ?_)
  subst eG
  refine j_iconst X (pc := 0) 0 dX5_knownMany_0 (by decide) ?_
  refine j_istore_n X (pc := 1) [(2, vI 0), (0, vR a0), (1, vI a1)] dX5_knownMany_1 rfl (Nat.le_of_ble_eq_true rfl) rfl ?_
  refine j_iconst X (pc := 2) 0 dX5_knownMany_2 (by decide) ?_
  refine j_istore_n X (pc := 3) [(3, vI 0), (2, vI 0), (0, vR a0), (1, vI a1)] dX5_knownMany_3 rfl (Nat.le_of_ble_eq_true rfl) rfl ?_
  refine j_lv [(0, vR a0), (1, vI a1), (2, vI 0), (3, vI 0)] [2, 3, 1, 0] rfl ?_
  refine j_cs (u' := 0) (v' := 0) (Nat.le_of_ble_eq_true rfl) (Nat.le_of_ble_eq_true rfl) ?_
  exact wk_X5_knownMany_4 X er en hQ a0 a1 0 0 h hw
abbrev cX5_deliver : ByteArray := prog_19_method_45_code
def yX5_deliver : MethodName := ⟨RX5, "deliver", "(II)I"⟩
def dkwX5_deliver_2 : List UInt8 := [182, 0, 172, 172, 42, 180, 0, 64, 27, 50, 28, 4, 84, 42, 27, 182, 0, 225, 172]
abbrev dktX5_deliver_2 : List UInt8 := dkwX5_deliver_2 ++ []
def dkwX5_deliver_1 : List UInt8 := [154, 0, 9, 42, 5, 182, 0, 172, 172, 42, 180, 0, 64, 27, 50, 28, 51, 153, 0, 9, 42, 6]
abbrev dktX5_deliver_1 : List UInt8 := dkwX5_deliver_1 ++ dktX5_deliver_2
def dkwX5_deliver_0 : List UInt8 := [42, 3, 181, 0, 97, 27, 184, 0, 165, 154, 0, 9, 42, 4, 182, 0, 172, 172, 42, 28, 182, 0, 222]
abbrev dktX5_deliver_0 : List UInt8 := dkwX5_deliver_0 ++ dktX5_deliver_1
theorem dksX5_deliver_0 : cX5_deliver.data.toList.drop 0 = dktX5_deliver_0 := by decide +kernel
theorem dksX5_deliver_1 : cX5_deliver.data.toList.drop 23 = dktX5_deliver_1 := dk_seg dksX5_deliver_0 23 rfl rfl
theorem dksX5_deliver_2 : cX5_deliver.data.toList.drop 45 = dktX5_deliver_2 := dk_seg dksX5_deliver_1 22 rfl rfl
theorem dX5_deliver_0 : decode cX5_deliver 0 = .ok (.aload_n 0, 1) := dk_42 (dk_at dksX5_deliver_0 0 rfl rfl)
theorem dX5_deliver_1 : decode cX5_deliver 1 = .ok (.iconst 0, 1) := dk_3 (dk_at dksX5_deliver_0 1 rfl rfl)
theorem dX5_deliver_2 : decode cX5_deliver 2 = .ok (.putfield 97, 3) := dk_181 0 97 (dk_at dksX5_deliver_0 2 rfl rfl)
theorem dX5_deliver_5 : decode cX5_deliver 5 = .ok (.iload_n 1, 1) := dk_27 (dk_at dksX5_deliver_0 5 rfl rfl)
theorem dX5_deliver_6 : decode cX5_deliver 6 = .ok (.invokestatic 165, 3) := dk_184 0 165 (dk_at dksX5_deliver_0 6 rfl rfl)
theorem dX5_deliver_9 : decode cX5_deliver 9 = .ok (.ifCond .ne 9, 3) := dk_154 0 9 (dk_at dksX5_deliver_0 9 rfl rfl)
theorem dX5_deliver_12 : decode cX5_deliver 12 = .ok (.aload_n 0, 1) := dk_42 (dk_at dksX5_deliver_0 12 rfl rfl)
theorem dX5_deliver_13 : decode cX5_deliver 13 = .ok (.iconst 1, 1) := dk_4 (dk_at dksX5_deliver_0 13 rfl rfl)
theorem dX5_deliver_14 : decode cX5_deliver 14 = .ok (.invokevirtual 172, 3) := dk_182 0 172 (dk_at dksX5_deliver_0 14 rfl rfl)
theorem dX5_deliver_17 : decode cX5_deliver 17 = .ok (.ireturn, 1) := dk_172 (dk_at dksX5_deliver_0 17 rfl rfl)
theorem dX5_deliver_18 : decode cX5_deliver 18 = .ok (.aload_n 0, 1) := dk_42 (dk_at dksX5_deliver_0 18 rfl rfl)
theorem dX5_deliver_19 : decode cX5_deliver 19 = .ok (.iload_n 2, 1) := dk_28 (dk_at dksX5_deliver_0 19 rfl rfl)
theorem dX5_deliver_20 : decode cX5_deliver 20 = .ok (.invokevirtual 222, 3) := dk_182 0 222 (dk_at dksX5_deliver_0 20 rfl rfl)
theorem dX5_deliver_23 : decode cX5_deliver 23 = .ok (.ifCond .ne 9, 3) := dk_154 0 9 (dk_at dksX5_deliver_1 0 rfl rfl)
theorem dX5_deliver_26 : decode cX5_deliver 26 = .ok (.aload_n 0, 1) := dk_42 (dk_at dksX5_deliver_1 3 rfl rfl)
theorem dX5_deliver_27 : decode cX5_deliver 27 = .ok (.iconst 2, 1) := dk_5 (dk_at dksX5_deliver_1 4 rfl rfl)
theorem dX5_deliver_28 : decode cX5_deliver 28 = .ok (.invokevirtual 172, 3) := dk_182 0 172 (dk_at dksX5_deliver_1 5 rfl rfl)
theorem dX5_deliver_31 : decode cX5_deliver 31 = .ok (.ireturn, 1) := dk_172 (dk_at dksX5_deliver_1 8 rfl rfl)
theorem dX5_deliver_32 : decode cX5_deliver 32 = .ok (.aload_n 0, 1) := dk_42 (dk_at dksX5_deliver_1 9 rfl rfl)
theorem dX5_deliver_33 : decode cX5_deliver 33 = .ok (.getfield 64, 3) := dk_180 0 64 (dk_at dksX5_deliver_1 10 rfl rfl)
theorem dX5_deliver_36 : decode cX5_deliver 36 = .ok (.iload_n 1, 1) := dk_27 (dk_at dksX5_deliver_1 13 rfl rfl)
theorem dX5_deliver_37 : decode cX5_deliver 37 = .ok (.aaload, 1) := dk_50 (dk_at dksX5_deliver_1 14 rfl rfl)
theorem dX5_deliver_38 : decode cX5_deliver 38 = .ok (.iload_n 2, 1) := dk_28 (dk_at dksX5_deliver_1 15 rfl rfl)
theorem dX5_deliver_39 : decode cX5_deliver 39 = .ok (.baload, 1) := dk_51 (dk_at dksX5_deliver_1 16 rfl rfl)
theorem dX5_deliver_40 : decode cX5_deliver 40 = .ok (.ifCond .eq 9, 3) := dk_153 0 9 (dk_at dksX5_deliver_1 17 rfl rfl)
theorem dX5_deliver_43 : decode cX5_deliver 43 = .ok (.aload_n 0, 1) := dk_42 (dk_at dksX5_deliver_1 20 rfl rfl)
theorem dX5_deliver_44 : decode cX5_deliver 44 = .ok (.iconst 3, 1) := dk_6 (dk_at dksX5_deliver_1 21 rfl rfl)
theorem dX5_deliver_45 : decode cX5_deliver 45 = .ok (.invokevirtual 172, 3) := dk_182 0 172 (dk_at dksX5_deliver_2 0 rfl rfl)
theorem dX5_deliver_48 : decode cX5_deliver 48 = .ok (.ireturn, 1) := dk_172 (dk_at dksX5_deliver_2 3 rfl rfl)
theorem dX5_deliver_49 : decode cX5_deliver 49 = .ok (.aload_n 0, 1) := dk_42 (dk_at dksX5_deliver_2 4 rfl rfl)
theorem dX5_deliver_50 : decode cX5_deliver 50 = .ok (.getfield 64, 3) := dk_180 0 64 (dk_at dksX5_deliver_2 5 rfl rfl)
theorem dX5_deliver_53 : decode cX5_deliver 53 = .ok (.iload_n 1, 1) := dk_27 (dk_at dksX5_deliver_2 8 rfl rfl)
theorem dX5_deliver_54 : decode cX5_deliver 54 = .ok (.aaload, 1) := dk_50 (dk_at dksX5_deliver_2 9 rfl rfl)
theorem dX5_deliver_55 : decode cX5_deliver 55 = .ok (.iload_n 2, 1) := dk_28 (dk_at dksX5_deliver_2 10 rfl rfl)
theorem dX5_deliver_56 : decode cX5_deliver 56 = .ok (.iconst 1, 1) := dk_4 (dk_at dksX5_deliver_2 11 rfl rfl)
theorem dX5_deliver_57 : decode cX5_deliver 57 = .ok (.bastore, 1) := dk_84 (dk_at dksX5_deliver_2 12 rfl rfl)
theorem dX5_deliver_58 : decode cX5_deliver 58 = .ok (.aload_n 0, 1) := dk_42 (dk_at dksX5_deliver_2 13 rfl rfl)
theorem dX5_deliver_59 : decode cX5_deliver 59 = .ok (.iload_n 1, 1) := dk_27 (dk_at dksX5_deliver_2 14 rfl rfl)
theorem dX5_deliver_60 : decode cX5_deliver 60 = .ok (.invokevirtual 225, 3) := dk_182 0 225 (dk_at dksX5_deliver_2 15 rfl rfl)
theorem dX5_deliver_63 : decode cX5_deliver 63 = .ok (.ireturn, 1) := dk_172 (dk_at dksX5_deliver_2 18 rfl rfl)
theorem q2138 : (Jvm.Cond.methodLink "PlugboardModel" (222 : Nat) ({ cls := "PlugboardModel", name := "isOperation", desc := "(I)Z" } : Jvm.MethodName)) ∈ lw_all := lw_g (lw_at lw_m9 148 rfl) rfl
theorem q2140 : (Jvm.Cond.instanceMethod ({ cls := "PlugboardModel", name := "isOperation", desc := "(I)Z" } : Jvm.MethodName)) ∈ lw_all := lw_g (lw_at lw_m9 150 rfl) rfl
theorem q2141 : (Jvm.Cond.code ({ cls := "PlugboardModel", name := "isOperation", desc := "(I)Z" } : Jvm.MethodName) prog_19_method_43_code (2 : Nat) (Option.some Jvm.ClassFile.FieldType.boolean)) ∈ lw_all := lw_g (lw_at lw_m9 151 rfl) rfl
theorem q2142 : (Jvm.Cond.methodLink "PlugboardModel" (225 : Nat) ({ cls := "PlugboardModel", name := "knownMany", desc := "(I)I" } : Jvm.MethodName)) ∈ lw_all := lw_g (lw_at lw_m9 152 rfl) rfl
theorem q2144 : (Jvm.Cond.instanceMethod ({ cls := "PlugboardModel", name := "knownMany", desc := "(I)I" } : Jvm.MethodName)) ∈ lw_all := lw_g (lw_at lw_m9 154 rfl) rfl
theorem q2145 : (Jvm.Cond.code ({ cls := "PlugboardModel", name := "knownMany", desc := "(I)I" } : Jvm.MethodName) prog_19_method_44_code (4 : Nat) (Option.some Jvm.ClassFile.FieldType.int)) ∈ lw_all := lw_g (lw_at lw_m9 155 rfl) rfl
abbrev rm_X5_deliver : Room := { frames := 2, cells := 0, slots := 0, locals := 43 }
def w_X5_deliver (a0 : Option Nat) (a1 : Int32) (a2 : Int32) (h : AH) (P : Int32 → AH → Prop) : Prop :=
  p_v h a0 4 0 (vI 0) fun h2 =>
  w_X5_isUser a1 h2 (fun y6 h6 =>
  ((y6 = 0 →
    is_c h6 a0 [4] (
    w_X5_fails a0 1 h6 (fun y14 h14 =>
    P y14 h14))) ∧
   (¬ y6 = 0 →
    is_c h6 a0 [4] (
    w_X5_isOperation a0 a2 h6 (fun y20 h20 =>
    ((y20 = 0 →
      is_c h20 a0 [4] (
      w_X5_fails a0 2 h20 (fun y28 h28 =>
      P y28 h28))) ∧
     (¬ y20 = 0 →
      g_q h20 a0 4 19 fun y33 =>
      l_q h20 y33 a1 fun y37 =>
      l_i h20 y37 1 a2 fun y39 =>
      ((y39 = 0 →
        g_q h20 a0 4 19 fun y50 =>
        l_q h20 y50 a1 fun y54 =>
        s_i h20 y54 1 a2 1 fun h57 =>
        is_c h57 a0 [4] (
        w_X5_knownMany a0 a1 h57 (fun y60 h60 =>
        P y60 h60))) ∧
       (¬ y39 = 0 →
        is_c h20 a0 [4] (
        w_X5_fails a0 3 h20 (fun y45 h45 =>
        P y45 h45)))))))))))
theorem met_X5_deliver (l : Launch) (hlt : l.stackTraces = false) (G : GG) (h : AH) (a0 : Option Nat) (a1 : Int32) (a2 : Int32) (P : Int32 → AH → Prop) (hw : w_X5_deliver a0 a1 a2 h P) : ct_i l yX5_deliver (ws_ yX5_deliver cX5_deliver 3 (Option.some Jvm.ClassFile.FieldType.int)) rm_X5_deliver G h [vR a0, vI a1, vI a2] P := by
  refine j_starti hlt [(0, vR a0), (1, vI a1), (2, vI a2)] (plainFor_of_name (by decide)) rfl rfl (fun x X eG er en hQ => ?_)
  subst eG
  refine j_aload_n X (pc := 0) 0 dX5_deliver_0 rfl rfl ?_
  refine j_iconst X (pc := 1) 0 dX5_deliver_1 (by decide) ?_
  refine j_put (ci := 4) X (pc := 2) in_X5 rfl (by decide) 0 (by decide) q1872 (Or.inl rfl) tyX5 tyX5_ok nmX5 rfl rfl (ty := .int) (tyX5_ok 0 (by decide)) rfl rfl dX5_deliver_2 hw (fun h2 hw => ?_)
  refine j_iload_n X (pc := 5) 1 dX5_deliver_5 rfl rfl ?_
  refine j_calli (j_runS (n8 := 1) (As := [vI a1]) (rest := []) X (pc := 6) (met_X5_isUser (xl x) X.hl (xG x) h2 a1 _ hw) q1978 q1979 q78 q1980 (by decide +kernel) dX5_deliver_6 rfl ⟨Nat.le_of_ble_eq_true rfl, Nat.le_of_ble_eq_true rfl⟩ (Nat.le_of_ble_eq_true rfl) ⟨Nat.le_of_ble_eq_true rfl, Nat.le_of_ble_eq_true rfl⟩) (fun y6 h6 hw => ?_)
  refine j_if_ne X (pc := 9) 18 dX5_deliver_9 (by decide) hw (fun hw => ?_) (fun hw => ?_)
  · refine j_aload_n X (pc := 12) 0 dX5_deliver_12 rfl rfl ?_
    refine j_iconst X (pc := 13) 1 dX5_deliver_13 (by decide) ?_
    obtain ⟨b9, c9, f9, hr9, ho9, hc9, hw⟩ := hw
    obtain rfl := List.mem_singleton.mp hc9
    refine j_calli (j_runV (n8 := 1) (As := [vI 1]) (rest := []) X (pc := 14) hr9 (met_X5_fails (xl x) X.hl (xG x) h6 a0 1 _ hw) ho9 (by decide) rfl q1988 q1990 qs33 q78 q1991 (by decide +kernel) dX5_deliver_14 rfl ⟨Nat.le_of_ble_eq_true rfl, Nat.le_of_ble_eq_true rfl⟩ (Nat.le_of_ble_eq_true rfl) ⟨Nat.le_of_ble_eq_true rfl, Nat.le_of_ble_eq_true rfl⟩) (fun y14 h14 hw => ?_)
    exact j_iret X (pc := 17) hQ er (Nat.le_of_ble_eq_true rfl) (Nat.le_of_ble_eq_true rfl) dX5_deliver_17 hw
  · refine j_aload_n X (pc := 18) 0 dX5_deliver_18 rfl rfl ?_
    refine j_iload_n X (pc := 19) 2 dX5_deliver_19 rfl rfl ?_
    obtain ⟨b9, c9, f9, hr9, ho9, hc9, hw⟩ := hw
    obtain rfl := List.mem_singleton.mp hc9
    refine j_calli (j_runV (n8 := 1) (As := [vI a2]) (rest := []) X (pc := 20) hr9 (met_X5_isOperation (xl x) X.hl (xG x) h6 a0 a2 _ hw) ho9 (by decide) rfl q2138 q2140 qs56 q78 q2141 (by decide +kernel) dX5_deliver_20 rfl ⟨Nat.le_of_ble_eq_true rfl, Nat.le_of_ble_eq_true rfl⟩ (Nat.le_of_ble_eq_true rfl) ⟨Nat.le_of_ble_eq_true rfl, Nat.le_of_ble_eq_true rfl⟩) (fun y20 h20 hw => ?_)
    refine j_if_ne X (pc := 23) 32 dX5_deliver_23 (by decide) hw (fun hw => ?_) (fun hw => ?_)
    · refine j_aload_n X (pc := 26) 0 dX5_deliver_26 rfl rfl ?_
      refine j_iconst X (pc := 27) 2 dX5_deliver_27 (by decide) ?_
      obtain ⟨b9, c9, f9, hr9, ho9, hc9, hw⟩ := hw
      obtain rfl := List.mem_singleton.mp hc9
      refine j_calli (j_runV (n8 := 1) (As := [vI 2]) (rest := []) X (pc := 28) hr9 (met_X5_fails (xl x) X.hl (xG x) h20 a0 2 _ hw) ho9 (by decide) rfl q1988 q1990 qs33 q78 q1991 (by decide +kernel) dX5_deliver_28 rfl ⟨Nat.le_of_ble_eq_true rfl, Nat.le_of_ble_eq_true rfl⟩ (Nat.le_of_ble_eq_true rfl) ⟨Nat.le_of_ble_eq_true rfl, Nat.le_of_ble_eq_true rfl⟩) (fun y28 h28 hw => ?_)
      exact j_iret X (pc := 31) hQ er (Nat.le_of_ble_eq_true rfl) (Nat.le_of_ble_eq_true rfl) dX5_deliver_31 hw
    · refine j_aload_n X (pc := 32) 0 dX5_deliver_32 rfl rfl ?_
      refine j_getq (ci := 4) X (pc := 33) in_X5 rfl (by decide) 19 (by decide) q1891 (Or.inl rfl) dX5_deliver_33 hw (fun y33 hw => ?_)
      refine j_iload_n X (pc := 36) 1 dX5_deliver_36 rfl rfl ?_
      refine j_aald X (pc := 37) dX5_deliver_37 hw (fun y37 hw => ?_)
      refine j_iload_n X (pc := 38) 2 dX5_deliver_38 rfl rfl ?_
      refine j_zald X (pc := 39) 1 rfl dX5_deliver_39 hw (fun y39 hw => ?_)
      refine j_if_eq X (pc := 40) 49 dX5_deliver_40 (by decide) hw (fun hw => ?_) (fun hw => ?_)
      · refine j_aload_n X (pc := 49) 0 dX5_deliver_49 rfl rfl ?_
        refine j_getq (ci := 4) X (pc := 50) in_X5 rfl (by decide) 19 (by decide) q1891 (Or.inl rfl) dX5_deliver_50 hw (fun y50 hw => ?_)
        refine j_iload_n X (pc := 53) 1 dX5_deliver_53 rfl rfl ?_
        refine j_aald X (pc := 54) dX5_deliver_54 hw (fun y54 hw => ?_)
        refine j_iload_n X (pc := 55) 2 dX5_deliver_55 rfl rfl ?_
        refine j_iconst X (pc := 56) 1 dX5_deliver_56 (by decide) ?_
        refine j_zast X (pc := 57) 1 rfl rfl ⟨rfl, rfl⟩ dX5_deliver_57 hw (fun h57 hw => ?_)
        refine j_aload_n X (pc := 58) 0 dX5_deliver_58 rfl rfl ?_
        refine j_iload_n X (pc := 59) 1 dX5_deliver_59 rfl rfl ?_
        obtain ⟨b9, c9, f9, hr9, ho9, hc9, hw⟩ := hw
        obtain rfl := List.mem_singleton.mp hc9
        refine j_calli (j_runV (n8 := 1) (As := [vI a1]) (rest := []) X (pc := 60) hr9 (met_X5_knownMany (xl x) X.hl (xG x) h57 a0 a1 _ hw) ho9 (by decide) rfl q2142 q2144 qs57 q78 q2145 (by decide +kernel) dX5_deliver_60 rfl ⟨Nat.le_of_ble_eq_true rfl, Nat.le_of_ble_eq_true rfl⟩ (Nat.le_of_ble_eq_true rfl) ⟨Nat.le_of_ble_eq_true rfl, Nat.le_of_ble_eq_true rfl⟩) (fun y60 h60 hw => ?_)
        exact j_iret X (pc := 63) hQ er (Nat.le_of_ble_eq_true rfl) (Nat.le_of_ble_eq_true rfl) dX5_deliver_63 hw
      · refine j_aload_n X (pc := 43) 0 dX5_deliver_43 rfl rfl ?_
        refine j_iconst X (pc := 44) 3 dX5_deliver_44 (by decide) ?_
        obtain ⟨b9, c9, f9, hr9, ho9, hc9, hw⟩ := hw
        obtain rfl := List.mem_singleton.mp hc9
        refine j_calli (j_runV (n8 := 1) (As := [vI 3]) (rest := []) X (pc := 45) hr9 (met_X5_fails (xl x) X.hl (xG x) h20 a0 3 _ hw) ho9 (by decide) rfl q1988 q1990 qs33 q78 q1991 (by decide +kernel) dX5_deliver_45 rfl ⟨Nat.le_of_ble_eq_true rfl, Nat.le_of_ble_eq_true rfl⟩ (Nat.le_of_ble_eq_true rfl) ⟨Nat.le_of_ble_eq_true rfl, Nat.le_of_ble_eq_true rfl⟩) (fun y45 h45 hw => ?_)
        exact j_iret X (pc := 48) hQ er (Nat.le_of_ble_eq_true rfl) (Nat.le_of_ble_eq_true rfl) dX5_deliver_48 hw
