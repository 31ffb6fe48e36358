/-! walks (printed): PlugboardLaw -/
set_option maxRecDepth 100000
abbrev cL_law : ByteArray := code
def dkwL_law_137 : List UInt8 := [22, 7, 148, 153, 0, 5, 3, 172, 167, 0, 3, 132, 5, 7, 167, 242, 222, 4, 172]
abbrev dktL_law_137 : List UInt8 := dkwL_law_137 ++ []
def dkwL_law_136 : List UInt8 := [182, 1, 63, 55, 7, 44, 182, 0, 175, 21, 6, 159, 0, 5, 3, 172, 21, 6, 154, 0, 14, 45, 3, 47]
abbrev dktL_law_136 : List UInt8 := dkwL_law_136 ++ dktL_law_137
def dkwL_law_135 : List UInt8 := [172, 167, 0, 58, 43, 42, 21, 5, 4, 96, 46, 45, 184, 1, 61, 54, 6, 44, 42, 21, 5, 4, 96, 46]
abbrev dktL_law_135 : List UInt8 := dkwL_law_135 ++ dktL_law_136
def dkwL_law_134 : List UInt8 := [153, 0, 25, 25, 4, 3, 49, 25, 4, 3, 49, 151, 153, 0, 11, 24, 7, 24, 7, 151, 154, 0, 5, 3]
abbrev dktL_law_134 : List UInt8 := dkwL_law_134 ++ dktL_law_135
def dkwL_law_133 : List UInt8 := [44, 182, 0, 175, 21, 6, 159, 0, 5, 3, 172, 21, 6, 154, 0, 35, 25, 4, 3, 49, 24, 7, 151]
abbrev dktL_law_133 : List UInt8 := dkwL_law_133 ++ dktL_law_134
def dkwL_law_132 : List UInt8 := [21, 5, 4, 96, 46, 25, 4, 184, 1, 58, 54, 6, 44, 42, 21, 5, 4, 96, 46, 182, 1, 60, 57, 7]
abbrev dktL_law_132 : List UInt8 := dkwL_law_132 ++ dktL_law_133
def dkwL_law_131 : List UInt8 := [49, 25, 4, 3, 49, 151, 153, 0, 11, 23, 7, 23, 7, 149, 154, 0, 5, 3, 172, 167, 0, 135, 43, 42]
abbrev dktL_law_131 : List UInt8 := dkwL_law_131 ++ dktL_law_132
def dkwL_law_130 : List UInt8 := [159, 0, 5, 3, 172, 21, 6, 154, 0, 36, 25, 4, 3, 49, 23, 7, 141, 151, 153, 0, 25, 25, 4, 3]
abbrev dktL_law_130 : List UInt8 := dkwL_law_130 ++ dktL_law_131
def dkwL_law_129 : List UInt8 := [184, 1, 54, 54, 6, 44, 42, 21, 5, 4, 96, 46, 182, 1, 57, 56, 7, 44, 182, 0, 175, 21, 6]
abbrev dktL_law_129 : List UInt8 := dkwL_law_129 ++ dktL_law_130
def dkwL_law_128 : List UInt8 := [167, 0, 4, 9, 148, 153, 0, 5, 3, 172, 167, 0, 213, 43, 42, 21, 5, 4, 96, 46, 25, 4]
abbrev dktL_law_128 : List UInt8 := dkwL_law_128 ++ dktL_law_129
def dkwL_law_127 : List UInt8 := [182, 0, 175, 21, 6, 159, 0, 5, 3, 172, 21, 6, 154, 0, 22, 45, 3, 47, 21, 7, 153, 0, 7, 10]
abbrev dktL_law_127 : List UInt8 := dkwL_law_127 ++ dktL_law_128
def dkwL_law_126 : List UInt8 := [184, 1, 51, 54, 6, 44, 42, 21, 5, 4, 96, 46, 42, 21, 5, 5, 96, 46, 182, 1, 53, 54, 7, 44]
abbrev dktL_law_126 : List UInt8 := dkwL_law_126 ++ dktL_law_127
def dkwL_law_125 : List UInt8 := [148, 153, 0, 5, 3, 172, 167, 1, 32, 43, 42, 21, 5, 4, 96, 46, 42, 21, 5, 5, 96, 46, 45]
abbrev dktL_law_125 : List UInt8 := dkwL_law_125 ++ dktL_law_126
def dkwL_law_124 : List UInt8 := [54, 7, 44, 182, 0, 175, 21, 6, 159, 0, 5, 3, 172, 21, 6, 154, 0, 15, 45, 3, 47, 21, 7, 133]
abbrev dktL_law_124 : List UInt8 := dkwL_law_124 ++ dktL_law_125
def dkwL_law_123 : List UInt8 := [46, 45, 184, 1, 48, 54, 6, 44, 42, 21, 5, 4, 96, 46, 42, 21, 5, 5, 96, 46, 182, 1, 50]
abbrev dktL_law_123 : List UInt8 := dkwL_law_123 ++ dktL_law_124
def dkwL_law_122 : List UInt8 := [21, 7, 133, 148, 153, 0, 5, 3, 172, 167, 1, 100, 43, 42, 21, 5, 4, 96, 46, 42, 21, 5, 5, 96]
abbrev dktL_law_122 : List UInt8 := dkwL_law_122 ++ dktL_law_123
def dkwL_law_121 : List UInt8 := [182, 1, 47, 54, 7, 44, 182, 0, 175, 21, 6, 159, 0, 5, 3, 172, 21, 6, 154, 0, 15, 45, 3, 47]
abbrev dktL_law_121 : List UInt8 := dkwL_law_121 ++ dktL_law_122
def dkwL_law_120 : List UInt8 := [167, 1, 156, 43, 42, 21, 5, 4, 96, 46, 45, 184, 1, 45, 54, 6, 44, 42, 21, 5, 4, 96, 46]
abbrev dktL_law_120 : List UInt8 := dkwL_law_120 ++ dktL_law_121
def dkwL_law_119 : List UInt8 := [21, 6, 159, 0, 5, 3, 172, 21, 6, 154, 0, 15, 45, 3, 47, 21, 7, 133, 148, 153, 0, 5, 3, 172]
abbrev dktL_law_119 : List UInt8 := dkwL_law_119 ++ dktL_law_120
def dkwL_law_118 : List UInt8 := [46, 45, 184, 1, 42, 54, 6, 44, 42, 21, 5, 4, 96, 46, 182, 1, 44, 54, 7, 44, 182, 0, 175]
abbrev dktL_law_118 : List UInt8 := dkwL_law_118 ++ dktL_law_119
def dkwL_law_117 : List UInt8 := [154, 0, 15, 45, 3, 47, 21, 7, 133, 148, 153, 0, 5, 3, 172, 167, 1, 212, 43, 42, 21, 5, 4, 96]
abbrev dktL_law_117 : List UInt8 := dkwL_law_117 ++ dktL_law_118
def dkwL_law_116 : List UInt8 := [21, 5, 4, 96, 46, 182, 1, 41, 54, 7, 44, 182, 0, 175, 21, 6, 159, 0, 5, 3, 172, 21, 6]
abbrev dktL_law_116 : List UInt8 := dkwL_law_116 ++ dktL_law_117
def dkwL_law_115 : List UInt8 := [153, 0, 5, 3, 172, 167, 2, 12, 43, 42, 21, 5, 4, 96, 46, 45, 184, 1, 39, 54, 6, 44, 42]
abbrev dktL_law_115 : List UInt8 := dkwL_law_115 ++ dktL_law_116
def dkwL_law_114 : List UInt8 := [182, 0, 175, 21, 6, 159, 0, 5, 3, 172, 21, 6, 154, 0, 15, 45, 3, 47, 21, 7, 133, 148]
abbrev dktL_law_114 : List UInt8 := dkwL_law_114 ++ dktL_law_115
def dkwL_law_113 : List UInt8 := [184, 1, 36, 54, 6, 44, 42, 21, 5, 4, 96, 46, 42, 21, 5, 5, 96, 46, 182, 1, 38, 54, 7, 44]
abbrev dktL_law_113 : List UInt8 := dkwL_law_113 ++ dktL_law_114
def dkwL_law_112 : List UInt8 := [153, 0, 5, 3, 172, 167, 2, 80, 43, 42, 21, 5, 4, 96, 46, 42, 21, 5, 5, 96, 46, 45]
abbrev dktL_law_112 : List UInt8 := dkwL_law_112 ++ dktL_law_113
def dkwL_law_111 : List UInt8 := [182, 0, 175, 21, 6, 159, 0, 5, 3, 172, 21, 6, 154, 0, 15, 45, 3, 47, 21, 7, 133, 148]
abbrev dktL_law_111 : List UInt8 := dkwL_law_111 ++ dktL_law_112
def dkwL_law_110 : List UInt8 := [184, 1, 33, 54, 6, 44, 42, 21, 5, 4, 96, 46, 42, 21, 5, 5, 96, 46, 182, 1, 35, 54, 7, 44]
abbrev dktL_law_110 : List UInt8 := dkwL_law_110 ++ dktL_law_111
def dkwL_law_109 : List UInt8 := [148, 153, 0, 5, 3, 172, 167, 2, 148, 43, 42, 21, 5, 4, 96, 46, 42, 21, 5, 5, 96, 46, 45]
abbrev dktL_law_109 : List UInt8 := dkwL_law_109 ++ dktL_law_110
def dkwL_law_108 : List UInt8 := [54, 7, 44, 182, 0, 175, 21, 6, 159, 0, 5, 3, 172, 21, 6, 154, 0, 15, 45, 3, 47, 21, 7, 133]
abbrev dktL_law_108 : List UInt8 := dkwL_law_108 ++ dktL_law_109
def dkwL_law_107 : List UInt8 := [46, 45, 184, 1, 30, 54, 6, 44, 42, 21, 5, 4, 96, 46, 42, 21, 5, 5, 96, 46, 182, 1, 32]
abbrev dktL_law_107 : List UInt8 := dkwL_law_107 ++ dktL_law_108
def dkwL_law_106 : List UInt8 := [21, 7, 133, 148, 153, 0, 5, 3, 172, 167, 2, 216, 43, 42, 21, 5, 4, 96, 46, 42, 21, 5, 5, 96]
abbrev dktL_law_106 : List UInt8 := dkwL_law_106 ++ dktL_law_107
def dkwL_law_105 : List UInt8 := [182, 1, 29, 54, 7, 44, 182, 0, 175, 21, 6, 159, 0, 5, 3, 172, 21, 6, 154, 0, 15, 45, 3, 47]
abbrev dktL_law_105 : List UInt8 := dkwL_law_105 ++ dktL_law_106
def dkwL_law_104 : List UInt8 := [5, 96, 46, 45, 184, 1, 27, 54, 6, 44, 42, 21, 5, 4, 96, 46, 42, 21, 5, 5, 96, 46]
abbrev dktL_law_104 : List UInt8 := dkwL_law_104 ++ dktL_law_105
def dkwL_law_103 : List UInt8 := [3, 47, 21, 7, 133, 148, 153, 0, 5, 3, 172, 167, 3, 28, 43, 42, 21, 5, 4, 96, 46, 42, 21, 5]
abbrev dktL_law_103 : List UInt8 := dkwL_law_103 ++ dktL_law_104
def dkwL_law_102 : List UInt8 := [96, 46, 182, 1, 26, 54, 7, 44, 182, 0, 175, 21, 6, 159, 0, 5, 3, 172, 21, 6, 154, 0, 15, 45]
abbrev dktL_law_102 : List UInt8 := dkwL_law_102 ++ dktL_law_103
def dkwL_law_101 : List UInt8 := [46, 42, 21, 5, 5, 96, 46, 45, 184, 1, 24, 54, 6, 44, 42, 21, 5, 4, 96, 46, 42, 21, 5, 5]
abbrev dktL_law_101 : List UInt8 := dkwL_law_101 ++ dktL_law_102
def dkwL_law_100 : List UInt8 := [154, 0, 15, 45, 3, 47, 21, 7, 133, 148, 153, 0, 5, 3, 172, 167, 3, 96, 43, 42, 21, 5, 4, 96]
abbrev dktL_law_100 : List UInt8 := dkwL_law_100 ++ dktL_law_101
def dkwL_law_99 : List UInt8 := [21, 5, 4, 96, 46, 182, 1, 23, 54, 7, 44, 182, 0, 175, 21, 6, 159, 0, 5, 3, 172, 21, 6]
abbrev dktL_law_99 : List UInt8 := dkwL_law_99 ++ dktL_law_100
def dkwL_law_98 : List UInt8 := [153, 0, 5, 3, 172, 167, 3, 152, 43, 42, 21, 5, 4, 96, 46, 45, 184, 1, 21, 54, 6, 44, 42]
abbrev dktL_law_98 : List UInt8 := dkwL_law_98 ++ dktL_law_99
def dkwL_law_97 : List UInt8 := [182, 0, 175, 21, 6, 159, 0, 5, 3, 172, 21, 6, 154, 0, 15, 45, 3, 47, 21, 7, 133, 148]
abbrev dktL_law_97 : List UInt8 := dkwL_law_97 ++ dktL_law_98
def dkwL_law_96 : List UInt8 := [184, 1, 18, 54, 6, 44, 42, 21, 5, 4, 96, 46, 42, 21, 5, 5, 96, 46, 182, 1, 20, 54, 7, 44]
abbrev dktL_law_96 : List UInt8 := dkwL_law_96 ++ dktL_law_97
def dkwL_law_95 : List UInt8 := [148, 153, 0, 5, 3, 172, 167, 3, 220, 43, 42, 21, 5, 4, 96, 46, 42, 21, 5, 5, 96, 46, 45]
abbrev dktL_law_95 : List UInt8 := dkwL_law_95 ++ dktL_law_96
def dkwL_law_94 : List UInt8 := [54, 7, 44, 182, 0, 175, 21, 6, 159, 0, 5, 3, 172, 21, 6, 154, 0, 15, 45, 3, 47, 21, 7, 133]
abbrev dktL_law_94 : List UInt8 := dkwL_law_94 ++ dktL_law_95
def dkwL_law_93 : List UInt8 := [46, 45, 184, 1, 15, 54, 6, 44, 42, 21, 5, 4, 96, 46, 42, 21, 5, 5, 96, 46, 182, 1, 17]
abbrev dktL_law_93 : List UInt8 := dkwL_law_93 ++ dktL_law_94
def dkwL_law_92 : List UInt8 := [21, 7, 133, 148, 153, 0, 5, 3, 172, 167, 4, 32, 43, 42, 21, 5, 4, 96, 46, 42, 21, 5, 5, 96]
abbrev dktL_law_92 : List UInt8 := dkwL_law_92 ++ dktL_law_93
def dkwL_law_91 : List UInt8 := [182, 1, 14, 54, 7, 44, 182, 0, 175, 21, 6, 159, 0, 5, 3, 172, 21, 6, 154, 0, 15, 45, 3, 47]
abbrev dktL_law_91 : List UInt8 := dkwL_law_91 ++ dktL_law_92
def dkwL_law_90 : List UInt8 := [184, 1, 12, 54, 6, 44, 42, 21, 5, 4, 96, 46, 42, 21, 5, 5, 96, 46, 42, 21, 5, 6, 96, 46]
abbrev dktL_law_90 : List UInt8 := dkwL_law_90 ++ dktL_law_91
def dkwL_law_89 : List UInt8 := [167, 4, 112, 43, 42, 21, 5, 4, 96, 46, 42, 21, 5, 5, 96, 46, 42, 21, 5, 6, 96, 46, 45]
abbrev dktL_law_89 : List UInt8 := dkwL_law_89 ++ dktL_law_90
def dkwL_law_88 : List UInt8 := [159, 0, 5, 3, 172, 21, 6, 154, 0, 15, 45, 3, 47, 21, 7, 133, 148, 153, 0, 5, 3, 172]
abbrev dktL_law_88 : List UInt8 := dkwL_law_88 ++ dktL_law_89
def dkwL_law_87 : List UInt8 := [21, 5, 4, 96, 46, 42, 21, 5, 5, 96, 46, 182, 1, 11, 54, 7, 44, 182, 0, 175, 21, 6]
abbrev dktL_law_87 : List UInt8 := dkwL_law_87 ++ dktL_law_88
def dkwL_law_86 : List UInt8 := [167, 4, 180, 43, 42, 21, 5, 4, 96, 46, 42, 21, 5, 5, 96, 46, 45, 184, 1, 9, 54, 6, 44, 42]
abbrev dktL_law_86 : List UInt8 := dkwL_law_86 ++ dktL_law_87
def dkwL_law_85 : List UInt8 := [159, 0, 5, 3, 172, 21, 6, 154, 0, 15, 45, 3, 47, 21, 7, 133, 148, 153, 0, 5, 3, 172]
abbrev dktL_law_85 : List UInt8 := dkwL_law_85 ++ dktL_law_86
def dkwL_law_84 : List UInt8 := [42, 21, 5, 4, 96, 46, 42, 21, 5, 5, 96, 46, 182, 1, 8, 54, 7, 44, 182, 0, 175, 21, 6]
abbrev dktL_law_84 : List UInt8 := dkwL_law_84 ++ dktL_law_85
def dkwL_law_83 : List UInt8 := [172, 167, 4, 248, 43, 42, 21, 5, 4, 96, 46, 42, 21, 5, 5, 96, 46, 45, 184, 1, 6, 54, 6, 44]
abbrev dktL_law_83 : List UInt8 := dkwL_law_83 ++ dktL_law_84
def dkwL_law_82 : List UInt8 := [153, 0, 25, 25, 4, 3, 49, 25, 4, 3, 49, 151, 153, 0, 11, 23, 7, 23, 7, 149, 154, 0, 5, 3]
abbrev dktL_law_82 : List UInt8 := dkwL_law_82 ++ dktL_law_83
def dkwL_law_81 : List UInt8 := [182, 0, 175, 21, 6, 159, 0, 5, 3, 172, 21, 6, 154, 0, 36, 25, 4, 3, 49, 23, 7, 141, 151]
abbrev dktL_law_81 : List UInt8 := dkwL_law_81 ++ dktL_law_82
def dkwL_law_80 : List UInt8 := [184, 1, 2, 54, 6, 44, 42, 21, 5, 4, 96, 46, 42, 21, 5, 5, 96, 46, 182, 1, 5, 56, 7, 44]
abbrev dktL_law_80 : List UInt8 := dkwL_law_80 ++ dktL_law_81
def dkwL_law_79 : List UInt8 := [153, 0, 5, 3, 172, 167, 5, 82, 43, 42, 21, 5, 4, 96, 46, 42, 21, 5, 5, 96, 46, 25, 4]
abbrev dktL_law_79 : List UInt8 := dkwL_law_79 ++ dktL_law_80
def dkwL_law_78 : List UInt8 := [182, 0, 175, 21, 6, 159, 0, 5, 3, 172, 21, 6, 154, 0, 15, 45, 3, 47, 21, 7, 133, 148]
abbrev dktL_law_78 : List UInt8 := dkwL_law_78 ++ dktL_law_79
def dkwL_law_77 : List UInt8 := [184, 0, 255, 54, 6, 44, 42, 21, 5, 4, 96, 46, 42, 21, 5, 5, 96, 46, 182, 1, 1, 54, 7, 44]
abbrev dktL_law_77 : List UInt8 := dkwL_law_77 ++ dktL_law_78
def dkwL_law_76 : List UInt8 := [153, 0, 5, 3, 172, 167, 5, 150, 43, 42, 21, 5, 4, 96, 46, 42, 21, 5, 5, 96, 46, 45]
abbrev dktL_law_76 : List UInt8 := dkwL_law_76 ++ dktL_law_77
def dkwL_law_75 : List UInt8 := [182, 0, 175, 21, 6, 159, 0, 5, 3, 172, 21, 6, 154, 0, 15, 45, 3, 47, 21, 7, 133, 148]
abbrev dktL_law_75 : List UInt8 := dkwL_law_75 ++ dktL_law_76
def dkwL_law_74 : List UInt8 := [184, 0, 252, 54, 6, 44, 42, 21, 5, 4, 96, 46, 42, 21, 5, 5, 96, 46, 182, 0, 254, 54, 7, 44]
abbrev dktL_law_74 : List UInt8 := dkwL_law_74 ++ dktL_law_75
def dkwL_law_73 : List UInt8 := [153, 0, 5, 3, 172, 167, 5, 218, 43, 42, 21, 5, 4, 96, 46, 42, 21, 5, 5, 96, 46, 45]
abbrev dktL_law_73 : List UInt8 := dkwL_law_73 ++ dktL_law_74
def dkwL_law_72 : List UInt8 := [182, 0, 175, 21, 6, 159, 0, 5, 3, 172, 21, 6, 154, 0, 15, 45, 3, 47, 21, 7, 133, 148]
abbrev dktL_law_72 : List UInt8 := dkwL_law_72 ++ dktL_law_73
def dkwL_law_71 : List UInt8 := [184, 0, 249, 54, 6, 44, 42, 21, 5, 4, 96, 46, 42, 21, 5, 5, 96, 46, 182, 0, 251, 54, 7, 44]
abbrev dktL_law_71 : List UInt8 := dkwL_law_71 ++ dktL_law_72
def dkwL_law_70 : List UInt8 := [148, 153, 0, 5, 3, 172, 167, 6, 30, 43, 42, 21, 5, 4, 96, 46, 42, 21, 5, 5, 96, 46, 45]
abbrev dktL_law_70 : List UInt8 := dkwL_law_70 ++ dktL_law_71
def dkwL_law_69 : List UInt8 := [54, 7, 44, 182, 0, 175, 21, 6, 159, 0, 5, 3, 172, 21, 6, 154, 0, 15, 45, 3, 47, 21, 7, 133]
abbrev dktL_law_69 : List UInt8 := dkwL_law_69 ++ dktL_law_70
def dkwL_law_68 : List UInt8 := [96, 46, 45, 184, 0, 246, 54, 6, 44, 42, 21, 5, 4, 96, 46, 42, 21, 5, 5, 96, 46, 182, 0, 248]
abbrev dktL_law_68 : List UInt8 := dkwL_law_68 ++ dktL_law_69
def dkwL_law_67 : List UInt8 := [167, 0, 4, 9, 148, 153, 0, 5, 3, 172, 167, 6, 98, 43, 42, 21, 5, 4, 96, 46, 42, 21, 5, 5]
abbrev dktL_law_67 : List UInt8 := dkwL_law_67 ++ dktL_law_68
def dkwL_law_66 : List UInt8 := [182, 0, 175, 21, 6, 159, 0, 5, 3, 172, 21, 6, 154, 0, 22, 45, 3, 47, 21, 7, 153, 0, 7, 10]
abbrev dktL_law_66 : List UInt8 := dkwL_law_66 ++ dktL_law_67
def dkwL_law_65 : List UInt8 := [184, 0, 243, 54, 6, 44, 42, 21, 5, 4, 96, 46, 42, 21, 5, 5, 96, 46, 182, 0, 245, 54, 7, 44]
abbrev dktL_law_65 : List UInt8 := dkwL_law_65 ++ dktL_law_66
def dkwL_law_64 : List UInt8 := [153, 0, 5, 3, 172, 167, 6, 173, 43, 42, 21, 5, 4, 96, 46, 42, 21, 5, 5, 96, 46, 45]
abbrev dktL_law_64 : List UInt8 := dkwL_law_64 ++ dktL_law_65
def dkwL_law_63 : List UInt8 := [182, 0, 175, 21, 6, 159, 0, 5, 3, 172, 21, 6, 154, 0, 15, 45, 3, 47, 21, 7, 133, 148]
abbrev dktL_law_63 : List UInt8 := dkwL_law_63 ++ dktL_law_64
def dkwL_law_62 : List UInt8 := [21, 5, 4, 96, 46, 45, 184, 0, 240, 54, 6, 44, 42, 21, 5, 4, 96, 46, 182, 0, 242, 54, 7, 44]
abbrev dktL_law_62 : List UInt8 := dkwL_law_62 ++ dktL_law_63
def dkwL_law_61 : List UInt8 := [3, 47, 21, 7, 153, 0, 7, 10, 167, 0, 4, 9, 148, 153, 0, 5, 3, 172, 167, 6, 229, 43, 42]
abbrev dktL_law_61 : List UInt8 := dkwL_law_61 ++ dktL_law_62
def dkwL_law_60 : List UInt8 := [96, 46, 182, 0, 239, 54, 7, 44, 182, 0, 175, 21, 6, 159, 0, 5, 3, 172, 21, 6, 154, 0, 22, 45]
abbrev dktL_law_60 : List UInt8 := dkwL_law_60 ++ dktL_law_61
def dkwL_law_59 : List UInt8 := [46, 42, 21, 5, 5, 96, 46, 45, 184, 0, 237, 54, 6, 44, 42, 21, 5, 4, 96, 46, 42, 21, 5, 5]
abbrev dktL_law_59 : List UInt8 := dkwL_law_59 ++ dktL_law_60
def dkwL_law_58 : List UInt8 := [154, 0, 15, 45, 3, 47, 21, 7, 133, 148, 153, 0, 5, 3, 172, 167, 7, 48, 43, 42, 21, 5, 4, 96]
abbrev dktL_law_58 : List UInt8 := dkwL_law_58 ++ dktL_law_59
def dkwL_law_57 : List UInt8 := [21, 5, 4, 96, 46, 182, 0, 236, 54, 7, 44, 182, 0, 175, 21, 6, 159, 0, 5, 3, 172, 21, 6]
abbrev dktL_law_57 : List UInt8 := dkwL_law_57 ++ dktL_law_58
def dkwL_law_56 : List UInt8 := [148, 153, 0, 5, 3, 172, 167, 7, 104, 43, 42, 21, 5, 4, 96, 46, 45, 184, 0, 234, 54, 6, 44, 42]
abbrev dktL_law_56 : List UInt8 := dkwL_law_56 ++ dktL_law_57
def dkwL_law_55 : List UInt8 := [54, 7, 44, 182, 0, 175, 21, 6, 159, 0, 5, 3, 172, 21, 6, 154, 0, 15, 45, 3, 47, 21, 7, 133]
abbrev dktL_law_55 : List UInt8 := dkwL_law_55 ++ dktL_law_56
def dkwL_law_54 : List UInt8 := [172, 43, 42, 21, 5, 4, 96, 46, 45, 184, 0, 231, 54, 6, 44, 42, 21, 5, 4, 96, 46, 182, 0, 233]
abbrev dktL_law_54 : List UInt8 := dkwL_law_54 ++ dktL_law_55
def dkwL_law_53 : List UInt8 := [21, 7, 133, 148, 153, 0, 5, 3, 172, 167, 7, 173, 43, 182, 0, 227, 44, 182, 0, 230, 159, 7, 162, 3]
abbrev dktL_law_53 : List UInt8 := dkwL_law_53 ++ dktL_law_54
def dkwL_law_52 : List UInt8 := [182, 0, 226, 54, 7, 44, 182, 0, 175, 21, 6, 159, 0, 5, 3, 172, 21, 6, 154, 0, 15, 45, 3, 47]
abbrev dktL_law_52 : List UInt8 := dkwL_law_52 ++ dktL_law_53
def dkwL_law_51 : List UInt8 := [5, 96, 46, 45, 184, 0, 224, 54, 6, 44, 42, 21, 5, 4, 96, 46, 42, 21, 5, 5, 96, 46]
abbrev dktL_law_51 : List UInt8 := dkwL_law_51 ++ dktL_law_52
def dkwL_law_50 : List UInt8 := [3, 47, 21, 7, 133, 148, 153, 0, 5, 3, 172, 167, 7, 241, 43, 42, 21, 5, 4, 96, 46, 42, 21, 5]
abbrev dktL_law_50 : List UInt8 := dkwL_law_50 ++ dktL_law_51
def dkwL_law_49 : List UInt8 := [96, 46, 182, 0, 223, 54, 7, 44, 182, 0, 175, 21, 6, 159, 0, 5, 3, 172, 21, 6, 154, 0, 15, 45]
abbrev dktL_law_49 : List UInt8 := dkwL_law_49 ++ dktL_law_50
def dkwL_law_48 : List UInt8 := [46, 42, 21, 5, 5, 96, 46, 45, 184, 0, 221, 54, 6, 44, 42, 21, 5, 4, 96, 46, 42, 21, 5, 5]
abbrev dktL_law_48 : List UInt8 := dkwL_law_48 ++ dktL_law_49
def dkwL_law_47 : List UInt8 := [154, 0, 15, 45, 3, 47, 21, 7, 133, 148, 153, 0, 5, 3, 172, 167, 8, 53, 43, 42, 21, 5, 4, 96]
abbrev dktL_law_47 : List UInt8 := dkwL_law_47 ++ dktL_law_48
def dkwL_law_46 : List UInt8 := [21, 5, 4, 96, 46, 182, 0, 220, 54, 7, 44, 182, 0, 175, 21, 6, 159, 0, 5, 3, 172, 21, 6]
abbrev dktL_law_46 : List UInt8 := dkwL_law_46 ++ dktL_law_47
def dkwL_law_45 : List UInt8 := [153, 0, 5, 3, 172, 167, 8, 109, 43, 42, 21, 5, 4, 96, 46, 45, 184, 0, 217, 54, 6, 44, 42]
abbrev dktL_law_45 : List UInt8 := dkwL_law_45 ++ dktL_law_46
def dkwL_law_44 : List UInt8 := [159, 0, 5, 3, 172, 21, 6, 154, 0, 22, 45, 3, 47, 21, 7, 153, 0, 7, 10, 167, 0, 4, 9, 148]
abbrev dktL_law_44 : List UInt8 := dkwL_law_44 ++ dktL_law_45
def dkwL_law_43 : List UInt8 := [21, 5, 5, 96, 46, 153, 0, 7, 4, 167, 0, 4, 3, 182, 0, 216, 54, 7, 44, 182, 0, 175, 21, 6]
abbrev dktL_law_43 : List UInt8 := dkwL_law_43 ++ dktL_law_44
def dkwL_law_42 : List UInt8 := [46, 153, 0, 7, 4, 167, 0, 4, 3, 45, 184, 0, 213, 54, 6, 44, 42, 21, 5, 4, 96, 46, 42]
abbrev dktL_law_42 : List UInt8 := dkwL_law_42 ++ dktL_law_43
def dkwL_law_41 : List UInt8 := [21, 7, 133, 148, 153, 0, 5, 3, 172, 167, 8, 200, 43, 42, 21, 5, 4, 96, 46, 42, 21, 5, 5, 96]
abbrev dktL_law_41 : List UInt8 := dkwL_law_41 ++ dktL_law_42
def dkwL_law_40 : List UInt8 := [182, 0, 212, 54, 7, 44, 182, 0, 175, 21, 6, 159, 0, 5, 3, 172, 21, 6, 154, 0, 15, 45, 3, 47]
abbrev dktL_law_40 : List UInt8 := dkwL_law_40 ++ dktL_law_41
def dkwL_law_39 : List UInt8 := [184, 0, 210, 54, 6, 44, 42, 21, 5, 4, 96, 46, 42, 21, 5, 5, 96, 46, 42, 21, 5, 6, 96, 46]
abbrev dktL_law_39 : List UInt8 := dkwL_law_39 ++ dktL_law_40
def dkwL_law_38 : List UInt8 := [167, 9, 24, 43, 42, 21, 5, 4, 96, 46, 42, 21, 5, 5, 96, 46, 42, 21, 5, 6, 96, 46, 45]
abbrev dktL_law_38 : List UInt8 := dkwL_law_38 ++ dktL_law_39
def dkwL_law_37 : List UInt8 := [159, 0, 5, 3, 172, 21, 6, 154, 0, 15, 45, 3, 47, 21, 7, 133, 148, 153, 0, 5, 3, 172]
abbrev dktL_law_37 : List UInt8 := dkwL_law_37 ++ dktL_law_38
def dkwL_law_36 : List UInt8 := [21, 5, 4, 96, 46, 42, 21, 5, 5, 96, 46, 182, 0, 209, 54, 7, 44, 182, 0, 175, 21, 6]
abbrev dktL_law_36 : List UInt8 := dkwL_law_36 ++ dktL_law_37
def dkwL_law_35 : List UInt8 := [167, 9, 92, 43, 42, 21, 5, 4, 96, 46, 42, 21, 5, 5, 96, 46, 45, 184, 0, 207, 54, 6, 44, 42]
abbrev dktL_law_35 : List UInt8 := dkwL_law_35 ++ dktL_law_36
def dkwL_law_34 : List UInt8 := [159, 0, 5, 3, 172, 21, 6, 154, 0, 15, 45, 3, 47, 21, 7, 133, 148, 153, 0, 5, 3, 172]
abbrev dktL_law_34 : List UInt8 := dkwL_law_34 ++ dktL_law_35
def dkwL_law_33 : List UInt8 := [21, 5, 7, 96, 46, 42, 21, 5, 8, 96, 46, 146, 182, 0, 206, 54, 7, 44, 182, 0, 175, 21, 6]
abbrev dktL_law_33 : List UInt8 := dkwL_law_33 ++ dktL_law_34
def dkwL_law_32 : List UInt8 := [54, 6, 44, 42, 21, 5, 4, 96, 46, 42, 21, 5, 5, 96, 46, 42, 21, 5, 6, 96, 46, 146, 42]
abbrev dktL_law_32 : List UInt8 := dkwL_law_32 ++ dktL_law_33
def dkwL_law_31 : List UInt8 := [21, 5, 6, 96, 46, 146, 42, 21, 5, 7, 96, 46, 42, 21, 5, 8, 96, 46, 146, 45, 184, 0, 203]
abbrev dktL_law_31 : List UInt8 := dkwL_law_31 ++ dktL_law_32
def dkwL_law_30 : List UInt8 := [148, 153, 0, 5, 3, 172, 167, 9, 200, 43, 42, 21, 5, 4, 96, 46, 42, 21, 5, 5, 96, 46, 42]
abbrev dktL_law_30 : List UInt8 := dkwL_law_30 ++ dktL_law_31
def dkwL_law_29 : List UInt8 := [54, 7, 44, 182, 0, 175, 21, 6, 159, 0, 5, 3, 172, 21, 6, 154, 0, 15, 45, 3, 47, 21, 7, 133]
abbrev dktL_law_29 : List UInt8 := dkwL_law_29 ++ dktL_law_30
def dkwL_law_28 : List UInt8 := [46, 45, 184, 0, 200, 54, 6, 44, 42, 21, 5, 4, 96, 46, 42, 21, 5, 5, 96, 46, 182, 0, 202]
abbrev dktL_law_28 : List UInt8 := dkwL_law_28 ++ dktL_law_29
def dkwL_law_27 : List UInt8 := [21, 7, 133, 148, 153, 0, 5, 3, 172, 167, 10, 12, 43, 42, 21, 5, 4, 96, 46, 42, 21, 5, 5, 96]
abbrev dktL_law_27 : List UInt8 := dkwL_law_27 ++ dktL_law_28
def dkwL_law_26 : List UInt8 := [182, 0, 199, 54, 7, 44, 182, 0, 175, 21, 6, 159, 0, 5, 3, 172, 21, 6, 154, 0, 15, 45, 3, 47]
abbrev dktL_law_26 : List UInt8 := dkwL_law_26 ++ dktL_law_27
def dkwL_law_25 : List UInt8 := [5, 96, 46, 45, 184, 0, 197, 54, 6, 44, 42, 21, 5, 4, 96, 46, 42, 21, 5, 5, 96, 46]
abbrev dktL_law_25 : List UInt8 := dkwL_law_25 ++ dktL_law_26
def dkwL_law_24 : List UInt8 := [3, 47, 21, 7, 133, 148, 153, 0, 5, 3, 172, 167, 10, 80, 43, 42, 21, 5, 4, 96, 46, 42, 21, 5]
abbrev dktL_law_24 : List UInt8 := dkwL_law_24 ++ dktL_law_25
def dkwL_law_23 : List UInt8 := [96, 46, 182, 0, 196, 54, 7, 44, 182, 0, 175, 21, 6, 159, 0, 5, 3, 172, 21, 6, 154, 0, 15, 45]
abbrev dktL_law_23 : List UInt8 := dkwL_law_23 ++ dktL_law_24
def dkwL_law_22 : List UInt8 := [46, 42, 21, 5, 5, 96, 46, 45, 184, 0, 194, 54, 6, 44, 42, 21, 5, 4, 96, 46, 42, 21, 5, 5]
abbrev dktL_law_22 : List UInt8 := dkwL_law_22 ++ dktL_law_23
def dkwL_law_21 : List UInt8 := [154, 0, 15, 45, 3, 47, 21, 7, 133, 148, 153, 0, 5, 3, 172, 167, 10, 148, 43, 42, 21, 5, 4, 96]
abbrev dktL_law_21 : List UInt8 := dkwL_law_21 ++ dktL_law_22
def dkwL_law_20 : List UInt8 := [42, 21, 5, 6, 96, 46, 182, 0, 193, 54, 7, 44, 182, 0, 175, 21, 6, 159, 0, 5, 3, 172, 21, 6]
abbrev dktL_law_20 : List UInt8 := dkwL_law_20 ++ dktL_law_21
def dkwL_law_19 : List UInt8 := [21, 5, 6, 96, 46, 45, 184, 0, 190, 54, 6, 44, 42, 21, 5, 4, 96, 46, 42, 21, 5, 5, 96, 46]
abbrev dktL_law_19 : List UInt8 := dkwL_law_19 ++ dktL_law_20
def dkwL_law_18 : List UInt8 := [148, 153, 0, 5, 3, 172, 167, 10, 228, 43, 42, 21, 5, 4, 96, 46, 42, 21, 5, 5, 96, 46, 42]
abbrev dktL_law_18 : List UInt8 := dkwL_law_18 ++ dktL_law_19
def dkwL_law_17 : List UInt8 := [54, 7, 44, 182, 0, 175, 21, 6, 159, 0, 5, 3, 172, 21, 6, 154, 0, 15, 45, 3, 47, 21, 7, 133]
abbrev dktL_law_17 : List UInt8 := dkwL_law_17 ++ dktL_law_18
def dkwL_law_16 : List UInt8 := [46, 45, 184, 0, 187, 54, 6, 44, 42, 21, 5, 4, 96, 46, 42, 21, 5, 5, 96, 46, 182, 0, 189]
abbrev dktL_law_16 : List UInt8 := dkwL_law_16 ++ dktL_law_17
def dkwL_law_15 : List UInt8 := [21, 7, 133, 148, 153, 0, 5, 3, 172, 167, 11, 40, 43, 42, 21, 5, 4, 96, 46, 42, 21, 5, 5, 96]
abbrev dktL_law_15 : List UInt8 := dkwL_law_15 ++ dktL_law_16
def dkwL_law_14 : List UInt8 := [182, 0, 186, 54, 7, 44, 182, 0, 175, 21, 6, 159, 0, 5, 3, 172, 21, 6, 154, 0, 15, 45, 3, 47]
abbrev dktL_law_14 : List UInt8 := dkwL_law_14 ++ dktL_law_15
def dkwL_law_13 : List UInt8 := [21, 5, 5, 96, 46, 45, 184, 0, 183, 54, 6, 44, 42, 21, 5, 4, 96, 46, 42, 21, 5, 5, 96, 46]
abbrev dktL_law_13 : List UInt8 := dkwL_law_13 ++ dktL_law_14
def dkwL_law_12 : List UInt8 := [45, 3, 47, 21, 7, 133, 148, 153, 0, 5, 3, 172, 167, 11, 108, 43, 42, 21, 5, 4, 96, 46, 42]
abbrev dktL_law_12 : List UInt8 := dkwL_law_12 ++ dktL_law_13
def dkwL_law_11 : List UInt8 := [7, 96, 46, 182, 0, 182, 54, 7, 44, 182, 0, 175, 21, 6, 159, 0, 5, 3, 172, 21, 6, 154, 0, 15]
abbrev dktL_law_11 : List UInt8 := dkwL_law_11 ++ dktL_law_12
def dkwL_law_10 : List UInt8 := [54, 6, 44, 42, 21, 5, 4, 96, 46, 42, 21, 5, 5, 96, 46, 42, 21, 5, 6, 96, 46, 42, 21, 5]
abbrev dktL_law_10 : List UInt8 := dkwL_law_10 ++ dktL_law_11
def dkwL_law_9 : List UInt8 := [46, 42, 21, 5, 5, 96, 46, 42, 21, 5, 6, 96, 46, 42, 21, 5, 7, 96, 46, 45, 184, 0, 179]
abbrev dktL_law_9 : List UInt8 := dkwL_law_9 ++ dktL_law_10
def dkwL_law_8 : List UInt8 := [154, 0, 15, 45, 3, 47, 21, 7, 133, 148, 153, 0, 5, 3, 172, 167, 11, 200, 43, 42, 21, 5, 4, 96]
abbrev dktL_law_8 : List UInt8 := dkwL_law_8 ++ dktL_law_9
def dkwL_law_7 : List UInt8 := [167, 0, 4, 3, 182, 0, 174, 54, 7, 44, 182, 0, 175, 21, 6, 159, 0, 5, 3, 172, 21, 6]
abbrev dktL_law_7 : List UInt8 := dkwL_law_7 ++ dktL_law_8
def dkwL_law_6 : List UInt8 := [42, 21, 5, 7, 96, 46, 42, 21, 5, 8, 96, 46, 42, 21, 5, 16, 6, 96, 46, 153, 0, 7, 4]
abbrev dktL_law_6 : List UInt8 := dkwL_law_6 ++ dktL_law_7
def dkwL_law_5 : List UInt8 := [184, 0, 169, 54, 6, 44, 42, 21, 5, 4, 96, 46, 42, 21, 5, 5, 96, 46, 42, 21, 5, 6, 96, 46]
abbrev dktL_law_5 : List UInt8 := dkwL_law_5 ++ dktL_law_6
def dkwL_law_4 : List UInt8 := [46, 42, 21, 5, 8, 96, 46, 42, 21, 5, 16, 6, 96, 46, 153, 0, 7, 4, 167, 0, 4, 3, 45]
abbrev dktL_law_4 : List UInt8 := dkwL_law_4 ++ dktL_law_5
def dkwL_law_3 : List UInt8 := [43, 42, 21, 5, 4, 96, 46, 42, 21, 5, 5, 96, 46, 42, 21, 5, 6, 96, 46, 42, 21, 5, 7, 96]
abbrev dktL_law_3 : List UInt8 := dkwL_law_3 ++ dktL_law_4
def dkwL_law_2 : List UInt8 := [170, 0, 0, 0, 0, 13, 14, 0, 0, 0, 0, 0, 0, 0, 44, 0, 0, 0, 195, 0, 0, 1, 73, 0, 0, 1, 165, 0, 0, 1, 233, 0, 0, 2, 45, 0, 0, 2, 125, 0, 0, 2, 193, 0, 0, 3, 5, 0, 0, 3, 73, 0, 0, 3, 181, 0, 0, 3, 249, 0, 0, 4, 73, 0, 0, 4, 164, 0, 0, 4, 220, 0, 0, 5, 32, 0, 0, 5, 100, 0, 0, 5, 113, 0, 0, 5, 169, 0, 0, 5, 225, 0, 0, 6, 44, 0, 0, 6, 100, 0, 0, 6, 175, 0, 0, 6, 243, 0, 0, 7, 55, 0, 0, 7, 123, 0, 0, 7, 191, 0, 0, 8, 25, 0, 0, 8, 93, 0, 0, 8, 161, 0, 0, 8, 241, 0, 0, 9, 53, 0, 0, 9, 121, 0, 0, 9, 177, 0, 0, 9, 245, 0, 0, 10, 57, 0, 0, 10, 125, 0, 0, 10, 193, 0, 0, 11, 5, 0, 0, 11, 61, 0, 0, 11, 117, 0, 0, 11, 173, 0, 0, 11, 241, 0, 0, 12, 60, 0, 0, 12, 138, 0, 0, 12, 215]
abbrev dktL_law_2 : List UInt8 := dkwL_law_2 ++ dktL_law_3
def dkwL_law_1 : List UInt8 := [58, 4, 3, 54, 5, 21, 5, 42, 190, 16, 7, 100, 163, 13, 30, 42, 21, 5, 46, 16, 63, 126]
abbrev dktL_law_1 : List UInt8 := dkwL_law_1 ++ dktL_law_2
def dkwL_law_0 : List UInt8 := [187, 0, 8, 89, 183, 0, 165, 76, 187, 0, 166, 89, 183, 0, 168, 77, 4, 188, 11, 78, 4, 188, 7]
abbrev dktL_law_0 : List UInt8 := dkwL_law_0 ++ dktL_law_1
theorem dksL_law_0 : cL_law.data.toList.drop 0 = dktL_law_0 := by decide +kernel
theorem dksL_law_1 : cL_law.data.toList.drop 23 = dktL_law_1 := dk_seg dksL_law_0 23 rfl rfl
theorem dksL_law_2 : cL_law.data.toList.drop 45 = dktL_law_2 := dk_seg dksL_law_1 22 rfl rfl
theorem dksL_law_3 : cL_law.data.toList.drop 240 = dktL_law_3 := dk_seg dksL_law_2 195 rfl rfl
theorem dksL_law_4 : cL_law.data.toList.drop 264 = dktL_law_4 := dk_seg dksL_law_3 24 rfl rfl
theorem dksL_law_5 : cL_law.data.toList.drop 287 = dktL_law_5 := dk_seg dksL_law_4 23 rfl rfl
theorem dksL_law_6 : cL_law.data.toList.drop 311 = dktL_law_6 := dk_seg dksL_law_5 24 rfl rfl
theorem dksL_law_7 : cL_law.data.toList.drop 334 = dktL_law_7 := dk_seg dksL_law_6 23 rfl rfl
theorem dksL_law_8 : cL_law.data.toList.drop 356 = dktL_law_8 := dk_seg dksL_law_7 22 rfl rfl
theorem dksL_law_9 : cL_law.data.toList.drop 380 = dktL_law_9 := dk_seg dksL_law_8 24 rfl rfl
theorem dksL_law_10 : cL_law.data.toList.drop 403 = dktL_law_10 := dk_seg dksL_law_9 23 rfl rfl
theorem dksL_law_11 : cL_law.data.toList.drop 427 = dktL_law_11 := dk_seg dksL_law_10 24 rfl rfl
theorem dksL_law_12 : cL_law.data.toList.drop 451 = dktL_law_12 := dk_seg dksL_law_11 24 rfl rfl
theorem dksL_law_13 : cL_law.data.toList.drop 474 = dktL_law_13 := dk_seg dksL_law_12 23 rfl rfl
theorem dksL_law_14 : cL_law.data.toList.drop 498 = dktL_law_14 := dk_seg dksL_law_13 24 rfl rfl
theorem dksL_law_15 : cL_law.data.toList.drop 522 = dktL_law_15 := dk_seg dksL_law_14 24 rfl rfl
theorem dksL_law_16 : cL_law.data.toList.drop 546 = dktL_law_16 := dk_seg dksL_law_15 24 rfl rfl
theorem dksL_law_17 : cL_law.data.toList.drop 569 = dktL_law_17 := dk_seg dksL_law_16 23 rfl rfl
theorem dksL_law_18 : cL_law.data.toList.drop 593 = dktL_law_18 := dk_seg dksL_law_17 24 rfl rfl
theorem dksL_law_19 : cL_law.data.toList.drop 616 = dktL_law_19 := dk_seg dksL_law_18 23 rfl rfl
theorem dksL_law_20 : cL_law.data.toList.drop 640 = dktL_law_20 := dk_seg dksL_law_19 24 rfl rfl
theorem dksL_law_21 : cL_law.data.toList.drop 664 = dktL_law_21 := dk_seg dksL_law_20 24 rfl rfl
theorem dksL_law_22 : cL_law.data.toList.drop 688 = dktL_law_22 := dk_seg dksL_law_21 24 rfl rfl
theorem dksL_law_23 : cL_law.data.toList.drop 712 = dktL_law_23 := dk_seg dksL_law_22 24 rfl rfl
theorem dksL_law_24 : cL_law.data.toList.drop 736 = dktL_law_24 := dk_seg dksL_law_23 24 rfl rfl
theorem dksL_law_25 : cL_law.data.toList.drop 760 = dktL_law_25 := dk_seg dksL_law_24 24 rfl rfl
theorem dksL_law_26 : cL_law.data.toList.drop 782 = dktL_law_26 := dk_seg dksL_law_25 22 rfl rfl
theorem dksL_law_27 : cL_law.data.toList.drop 806 = dktL_law_27 := dk_seg dksL_law_26 24 rfl rfl
theorem dksL_law_28 : cL_law.data.toList.drop 830 = dktL_law_28 := dk_seg dksL_law_27 24 rfl rfl
theorem dksL_law_29 : cL_law.data.toList.drop 853 = dktL_law_29 := dk_seg dksL_law_28 23 rfl rfl
theorem dksL_law_30 : cL_law.data.toList.drop 877 = dktL_law_30 := dk_seg dksL_law_29 24 rfl rfl
theorem dksL_law_31 : cL_law.data.toList.drop 900 = dktL_law_31 := dk_seg dksL_law_30 23 rfl rfl
theorem dksL_law_32 : cL_law.data.toList.drop 923 = dktL_law_32 := dk_seg dksL_law_31 23 rfl rfl
theorem dksL_law_33 : cL_law.data.toList.drop 946 = dktL_law_33 := dk_seg dksL_law_32 23 rfl rfl
theorem dksL_law_34 : cL_law.data.toList.drop 969 = dktL_law_34 := dk_seg dksL_law_33 23 rfl rfl
theorem dksL_law_35 : cL_law.data.toList.drop 991 = dktL_law_35 := dk_seg dksL_law_34 22 rfl rfl
theorem dksL_law_36 : cL_law.data.toList.drop 1015 = dktL_law_36 := dk_seg dksL_law_35 24 rfl rfl
theorem dksL_law_37 : cL_law.data.toList.drop 1037 = dktL_law_37 := dk_seg dksL_law_36 22 rfl rfl
theorem dksL_law_38 : cL_law.data.toList.drop 1059 = dktL_law_38 := dk_seg dksL_law_37 22 rfl rfl
theorem dksL_law_39 : cL_law.data.toList.drop 1082 = dktL_law_39 := dk_seg dksL_law_38 23 rfl rfl
theorem dksL_law_40 : cL_law.data.toList.drop 1106 = dktL_law_40 := dk_seg dksL_law_39 24 rfl rfl
theorem dksL_law_41 : cL_law.data.toList.drop 1130 = dktL_law_41 := dk_seg dksL_law_40 24 rfl rfl
theorem dksL_law_42 : cL_law.data.toList.drop 1154 = dktL_law_42 := dk_seg dksL_law_41 24 rfl rfl
theorem dksL_law_43 : cL_law.data.toList.drop 1177 = dktL_law_43 := dk_seg dksL_law_42 23 rfl rfl
theorem dksL_law_44 : cL_law.data.toList.drop 1201 = dktL_law_44 := dk_seg dksL_law_43 24 rfl rfl
theorem dksL_law_45 : cL_law.data.toList.drop 1225 = dktL_law_45 := dk_seg dksL_law_44 24 rfl rfl
theorem dksL_law_46 : cL_law.data.toList.drop 1248 = dktL_law_46 := dk_seg dksL_law_45 23 rfl rfl
theorem dksL_law_47 : cL_law.data.toList.drop 1271 = dktL_law_47 := dk_seg dksL_law_46 23 rfl rfl
theorem dksL_law_48 : cL_law.data.toList.drop 1295 = dktL_law_48 := dk_seg dksL_law_47 24 rfl rfl
theorem dksL_law_49 : cL_law.data.toList.drop 1319 = dktL_law_49 := dk_seg dksL_law_48 24 rfl rfl
theorem dksL_law_50 : cL_law.data.toList.drop 1343 = dktL_law_50 := dk_seg dksL_law_49 24 rfl rfl
theorem dksL_law_51 : cL_law.data.toList.drop 1367 = dktL_law_51 := dk_seg dksL_law_50 24 rfl rfl
theorem dksL_law_52 : cL_law.data.toList.drop 1389 = dktL_law_52 := dk_seg dksL_law_51 22 rfl rfl
theorem dksL_law_53 : cL_law.data.toList.drop 1413 = dktL_law_53 := dk_seg dksL_law_52 24 rfl rfl
theorem dksL_law_54 : cL_law.data.toList.drop 1437 = dktL_law_54 := dk_seg dksL_law_53 24 rfl rfl
theorem dksL_law_55 : cL_law.data.toList.drop 1461 = dktL_law_55 := dk_seg dksL_law_54 24 rfl rfl
theorem dksL_law_56 : cL_law.data.toList.drop 1485 = dktL_law_56 := dk_seg dksL_law_55 24 rfl rfl
theorem dksL_law_57 : cL_law.data.toList.drop 1509 = dktL_law_57 := dk_seg dksL_law_56 24 rfl rfl
theorem dksL_law_58 : cL_law.data.toList.drop 1532 = dktL_law_58 := dk_seg dksL_law_57 23 rfl rfl
theorem dksL_law_59 : cL_law.data.toList.drop 1556 = dktL_law_59 := dk_seg dksL_law_58 24 rfl rfl
theorem dksL_law_60 : cL_law.data.toList.drop 1580 = dktL_law_60 := dk_seg dksL_law_59 24 rfl rfl
theorem dksL_law_61 : cL_law.data.toList.drop 1604 = dktL_law_61 := dk_seg dksL_law_60 24 rfl rfl
theorem dksL_law_62 : cL_law.data.toList.drop 1627 = dktL_law_62 := dk_seg dksL_law_61 23 rfl rfl
theorem dksL_law_63 : cL_law.data.toList.drop 1651 = dktL_law_63 := dk_seg dksL_law_62 24 rfl rfl
theorem dksL_law_64 : cL_law.data.toList.drop 1673 = dktL_law_64 := dk_seg dksL_law_63 22 rfl rfl
theorem dksL_law_65 : cL_law.data.toList.drop 1695 = dktL_law_65 := dk_seg dksL_law_64 22 rfl rfl
theorem dksL_law_66 : cL_law.data.toList.drop 1719 = dktL_law_66 := dk_seg dksL_law_65 24 rfl rfl
theorem dksL_law_67 : cL_law.data.toList.drop 1743 = dktL_law_67 := dk_seg dksL_law_66 24 rfl rfl
theorem dksL_law_68 : cL_law.data.toList.drop 1767 = dktL_law_68 := dk_seg dksL_law_67 24 rfl rfl
theorem dksL_law_69 : cL_law.data.toList.drop 1791 = dktL_law_69 := dk_seg dksL_law_68 24 rfl rfl
theorem dksL_law_70 : cL_law.data.toList.drop 1815 = dktL_law_70 := dk_seg dksL_law_69 24 rfl rfl
theorem dksL_law_71 : cL_law.data.toList.drop 1838 = dktL_law_71 := dk_seg dksL_law_70 23 rfl rfl
theorem dksL_law_72 : cL_law.data.toList.drop 1862 = dktL_law_72 := dk_seg dksL_law_71 24 rfl rfl
theorem dksL_law_73 : cL_law.data.toList.drop 1884 = dktL_law_73 := dk_seg dksL_law_72 22 rfl rfl
theorem dksL_law_74 : cL_law.data.toList.drop 1906 = dktL_law_74 := dk_seg dksL_law_73 22 rfl rfl
theorem dksL_law_75 : cL_law.data.toList.drop 1930 = dktL_law_75 := dk_seg dksL_law_74 24 rfl rfl
theorem dksL_law_76 : cL_law.data.toList.drop 1952 = dktL_law_76 := dk_seg dksL_law_75 22 rfl rfl
theorem dksL_law_77 : cL_law.data.toList.drop 1974 = dktL_law_77 := dk_seg dksL_law_76 22 rfl rfl
theorem dksL_law_78 : cL_law.data.toList.drop 1998 = dktL_law_78 := dk_seg dksL_law_77 24 rfl rfl
theorem dksL_law_79 : cL_law.data.toList.drop 2020 = dktL_law_79 := dk_seg dksL_law_78 22 rfl rfl
theorem dksL_law_80 : cL_law.data.toList.drop 2043 = dktL_law_80 := dk_seg dksL_law_79 23 rfl rfl
theorem dksL_law_81 : cL_law.data.toList.drop 2067 = dktL_law_81 := dk_seg dksL_law_80 24 rfl rfl
theorem dksL_law_82 : cL_law.data.toList.drop 2090 = dktL_law_82 := dk_seg dksL_law_81 23 rfl rfl
theorem dksL_law_83 : cL_law.data.toList.drop 2114 = dktL_law_83 := dk_seg dksL_law_82 24 rfl rfl
theorem dksL_law_84 : cL_law.data.toList.drop 2138 = dktL_law_84 := dk_seg dksL_law_83 24 rfl rfl
theorem dksL_law_85 : cL_law.data.toList.drop 2161 = dktL_law_85 := dk_seg dksL_law_84 23 rfl rfl
theorem dksL_law_86 : cL_law.data.toList.drop 2183 = dktL_law_86 := dk_seg dksL_law_85 22 rfl rfl
theorem dksL_law_87 : cL_law.data.toList.drop 2207 = dktL_law_87 := dk_seg dksL_law_86 24 rfl rfl
theorem dksL_law_88 : cL_law.data.toList.drop 2229 = dktL_law_88 := dk_seg dksL_law_87 22 rfl rfl
theorem dksL_law_89 : cL_law.data.toList.drop 2251 = dktL_law_89 := dk_seg dksL_law_88 22 rfl rfl
theorem dksL_law_90 : cL_law.data.toList.drop 2274 = dktL_law_90 := dk_seg dksL_law_89 23 rfl rfl
theorem dksL_law_91 : cL_law.data.toList.drop 2298 = dktL_law_91 := dk_seg dksL_law_90 24 rfl rfl
theorem dksL_law_92 : cL_law.data.toList.drop 2322 = dktL_law_92 := dk_seg dksL_law_91 24 rfl rfl
theorem dksL_law_93 : cL_law.data.toList.drop 2346 = dktL_law_93 := dk_seg dksL_law_92 24 rfl rfl
theorem dksL_law_94 : cL_law.data.toList.drop 2369 = dktL_law_94 := dk_seg dksL_law_93 23 rfl rfl
theorem dksL_law_95 : cL_law.data.toList.drop 2393 = dktL_law_95 := dk_seg dksL_law_94 24 rfl rfl
theorem dksL_law_96 : cL_law.data.toList.drop 2416 = dktL_law_96 := dk_seg dksL_law_95 23 rfl rfl
theorem dksL_law_97 : cL_law.data.toList.drop 2440 = dktL_law_97 := dk_seg dksL_law_96 24 rfl rfl
theorem dksL_law_98 : cL_law.data.toList.drop 2462 = dktL_law_98 := dk_seg dksL_law_97 22 rfl rfl
theorem dksL_law_99 : cL_law.data.toList.drop 2485 = dktL_law_99 := dk_seg dksL_law_98 23 rfl rfl
theorem dksL_law_100 : cL_law.data.toList.drop 2508 = dktL_law_100 := dk_seg dksL_law_99 23 rfl rfl
theorem dksL_law_101 : cL_law.data.toList.drop 2532 = dktL_law_101 := dk_seg dksL_law_100 24 rfl rfl
theorem dksL_law_102 : cL_law.data.toList.drop 2556 = dktL_law_102 := dk_seg dksL_law_101 24 rfl rfl
theorem dksL_law_103 : cL_law.data.toList.drop 2580 = dktL_law_103 := dk_seg dksL_law_102 24 rfl rfl
theorem dksL_law_104 : cL_law.data.toList.drop 2604 = dktL_law_104 := dk_seg dksL_law_103 24 rfl rfl
theorem dksL_law_105 : cL_law.data.toList.drop 2626 = dktL_law_105 := dk_seg dksL_law_104 22 rfl rfl
theorem dksL_law_106 : cL_law.data.toList.drop 2650 = dktL_law_106 := dk_seg dksL_law_105 24 rfl rfl
theorem dksL_law_107 : cL_law.data.toList.drop 2674 = dktL_law_107 := dk_seg dksL_law_106 24 rfl rfl
theorem dksL_law_108 : cL_law.data.toList.drop 2697 = dktL_law_108 := dk_seg dksL_law_107 23 rfl rfl
theorem dksL_law_109 : cL_law.data.toList.drop 2721 = dktL_law_109 := dk_seg dksL_law_108 24 rfl rfl
theorem dksL_law_110 : cL_law.data.toList.drop 2744 = dktL_law_110 := dk_seg dksL_law_109 23 rfl rfl
theorem dksL_law_111 : cL_law.data.toList.drop 2768 = dktL_law_111 := dk_seg dksL_law_110 24 rfl rfl
theorem dksL_law_112 : cL_law.data.toList.drop 2790 = dktL_law_112 := dk_seg dksL_law_111 22 rfl rfl
theorem dksL_law_113 : cL_law.data.toList.drop 2812 = dktL_law_113 := dk_seg dksL_law_112 22 rfl rfl
theorem dksL_law_114 : cL_law.data.toList.drop 2836 = dktL_law_114 := dk_seg dksL_law_113 24 rfl rfl
theorem dksL_law_115 : cL_law.data.toList.drop 2858 = dktL_law_115 := dk_seg dksL_law_114 22 rfl rfl
theorem dksL_law_116 : cL_law.data.toList.drop 2881 = dktL_law_116 := dk_seg dksL_law_115 23 rfl rfl
theorem dksL_law_117 : cL_law.data.toList.drop 2904 = dktL_law_117 := dk_seg dksL_law_116 23 rfl rfl
theorem dksL_law_118 : cL_law.data.toList.drop 2928 = dktL_law_118 := dk_seg dksL_law_117 24 rfl rfl
theorem dksL_law_119 : cL_law.data.toList.drop 2951 = dktL_law_119 := dk_seg dksL_law_118 23 rfl rfl
theorem dksL_law_120 : cL_law.data.toList.drop 2975 = dktL_law_120 := dk_seg dksL_law_119 24 rfl rfl
theorem dksL_law_121 : cL_law.data.toList.drop 2998 = dktL_law_121 := dk_seg dksL_law_120 23 rfl rfl
theorem dksL_law_122 : cL_law.data.toList.drop 3022 = dktL_law_122 := dk_seg dksL_law_121 24 rfl rfl
theorem dksL_law_123 : cL_law.data.toList.drop 3046 = dktL_law_123 := dk_seg dksL_law_122 24 rfl rfl
theorem dksL_law_124 : cL_law.data.toList.drop 3069 = dktL_law_124 := dk_seg dksL_law_123 23 rfl rfl
theorem dksL_law_125 : cL_law.data.toList.drop 3093 = dktL_law_125 := dk_seg dksL_law_124 24 rfl rfl
theorem dksL_law_126 : cL_law.data.toList.drop 3116 = dktL_law_126 := dk_seg dksL_law_125 23 rfl rfl
theorem dksL_law_127 : cL_law.data.toList.drop 3140 = dktL_law_127 := dk_seg dksL_law_126 24 rfl rfl
theorem dksL_law_128 : cL_law.data.toList.drop 3164 = dktL_law_128 := dk_seg dksL_law_127 24 rfl rfl
theorem dksL_law_129 : cL_law.data.toList.drop 3186 = dktL_law_129 := dk_seg dksL_law_128 22 rfl rfl
theorem dksL_law_130 : cL_law.data.toList.drop 3209 = dktL_law_130 := dk_seg dksL_law_129 23 rfl rfl
theorem dksL_law_131 : cL_law.data.toList.drop 3233 = dktL_law_131 := dk_seg dksL_law_130 24 rfl rfl
theorem dksL_law_132 : cL_law.data.toList.drop 3257 = dktL_law_132 := dk_seg dksL_law_131 24 rfl rfl
theorem dksL_law_133 : cL_law.data.toList.drop 3281 = dktL_law_133 := dk_seg dksL_law_132 24 rfl rfl
theorem dksL_law_134 : cL_law.data.toList.drop 3304 = dktL_law_134 := dk_seg dksL_law_133 23 rfl rfl
theorem dksL_law_135 : cL_law.data.toList.drop 3328 = dktL_law_135 := dk_seg dksL_law_134 24 rfl rfl
theorem dksL_law_136 : cL_law.data.toList.drop 3352 = dktL_law_136 := dk_seg dksL_law_135 24 rfl rfl
theorem dksL_law_137 : cL_law.data.toList.drop 3376 = dktL_law_137 := dk_seg dksL_law_136 24 rfl rfl
theorem dL_law_0 : decode cL_law 0 = .ok (.new 8, 3) := dk_187 0 8 (dk_at dksL_law_0 0 rfl rfl)
theorem dL_law_3 : decode cL_law 3 = .ok (.dup, 1) := dk_89 (dk_at dksL_law_0 3 rfl rfl)
theorem dL_law_4 : decode cL_law 4 = .ok (.invokespecial 165, 3) := dk_183 0 165 (dk_at dksL_law_0 4 rfl rfl)
theorem dL_law_7 : decode cL_law 7 = .ok (.astore_n 1, 1) := dk_76 (dk_at dksL_law_0 7 rfl rfl)
theorem dL_law_8 : decode cL_law 8 = .ok (.new 166, 3) := dk_187 0 166 (dk_at dksL_law_0 8 rfl rfl)
theorem dL_law_11 : decode cL_law 11 = .ok (.dup, 1) := dk_89 (dk_at dksL_law_0 11 rfl rfl)
theorem dL_law_12 : decode cL_law 12 = .ok (.invokespecial 168, 3) := dk_183 0 168 (dk_at dksL_law_0 12 rfl rfl)
theorem dL_law_15 : decode cL_law 15 = .ok (.astore_n 2, 1) := dk_77 (dk_at dksL_law_0 15 rfl rfl)
theorem dL_law_16 : decode cL_law 16 = .ok (.iconst 1, 1) := dk_4 (dk_at dksL_law_0 16 rfl rfl)
theorem dL_law_17 : decode cL_law 17 = .ok (.newarray .long, 2) := dk_188_11 (dk_at dksL_law_0 17 rfl rfl)
theorem dL_law_19 : decode cL_law 19 = .ok (.astore_n 3, 1) := dk_78 (dk_at dksL_law_0 19 rfl rfl)
theorem dL_law_20 : decode cL_law 20 = .ok (.iconst 1, 1) := dk_4 (dk_at dksL_law_0 20 rfl rfl)
theorem dL_law_21 : decode cL_law 21 = .ok (.newarray .double, 2) := dk_188_7 (dk_at dksL_law_0 21 rfl rfl)
theorem dL_law_23 : decode cL_law 23 = .ok (.astore 4, 2) := dk_58 4 (dk_at dksL_law_1 0 rfl rfl)
theorem dL_law_25 : decode cL_law 25 = .ok (.iconst 0, 1) := dk_3 (dk_at dksL_law_1 2 rfl rfl)
theorem dL_law_26 : decode cL_law 26 = .ok (.istore 5, 2) := dk_54 5 (dk_at dksL_law_1 3 rfl rfl)
theorem dL_law_28 : decode cL_law 28 = .ok (.iload 5, 2) := dk_21 5 (dk_at dksL_law_1 5 rfl rfl)
theorem dL_law_30 : decode cL_law 30 = .ok (.aload_n 0, 1) := dk_42 (dk_at dksL_law_1 7 rfl rfl)
theorem dL_law_31 : decode cL_law 31 = .ok (.arraylength, 1) := dk_190 (dk_at dksL_law_1 8 rfl rfl)
theorem dL_law_32 : decode cL_law 32 = .ok (.bipush 7, 2) := dk_16 7 (dk_at dksL_law_1 9 rfl rfl)
theorem dL_law_34 : decode cL_law 34 = .ok (.isub, 1) := dk_100 (dk_at dksL_law_1 11 rfl rfl)
theorem dL_law_35 : decode cL_law 35 = .ok (.if_icmp .gt 3358, 3) := dk_163 13 30 (dk_at dksL_law_1 12 rfl rfl)
theorem dL_law_38 : decode cL_law 38 = .ok (.aload_n 0, 1) := dk_42 (dk_at dksL_law_1 15 rfl rfl)
theorem dL_law_39 : decode cL_law 39 = .ok (.iload 5, 2) := dk_21 5 (dk_at dksL_law_1 16 rfl rfl)
theorem dL_law_41 : decode cL_law 41 = .ok (.iaload, 1) := dk_46 (dk_at dksL_law_1 18 rfl rfl)
theorem dL_law_42 : decode cL_law 42 = .ok (.bipush 63, 2) := dk_16 63 (dk_at dksL_law_1 19 rfl rfl)
theorem dL_law_44 : decode cL_law 44 = .ok (.iand, 1) := dk_126 (dk_at dksL_law_1 21 rfl rfl)
theorem dL_law_45 : decode cL_law 45 = .ok (.tableswitch 3342 0 44 #[195, 329, 421, 489, 557, 637, 705, 773, 841, 949, 1017, 1097, 1188, 1244, 1312, 1380, 1393, 1449, 1505, 1580, 1636, 1711, 1779, 1847, 1915, 1983, 2073, 2141, 2209, 2289, 2357, 2425, 2481, 2549, 2617, 2685, 2753, 2821, 2877, 2933, 2989, 3057, 3132, 3210, 3287], 195) := by decide +kernel
theorem dL_law_240 : decode cL_law 240 = .ok (.aload_n 1, 1) := dk_43 (dk_at dksL_law_3 0 rfl rfl)
theorem dL_law_241 : decode cL_law 241 = .ok (.aload_n 0, 1) := dk_42 (dk_at dksL_law_3 1 rfl rfl)
theorem dL_law_242 : decode cL_law 242 = .ok (.iload 5, 2) := dk_21 5 (dk_at dksL_law_3 2 rfl rfl)
theorem dL_law_244 : decode cL_law 244 = .ok (.iconst 1, 1) := dk_4 (dk_at dksL_law_3 4 rfl rfl)
theorem dL_law_245 : decode cL_law 245 = .ok (.iadd, 1) := dk_96 (dk_at dksL_law_3 5 rfl rfl)
theorem dL_law_246 : decode cL_law 246 = .ok (.iaload, 1) := dk_46 (dk_at dksL_law_3 6 rfl rfl)
theorem dL_law_247 : decode cL_law 247 = .ok (.aload_n 0, 1) := dk_42 (dk_at dksL_law_3 7 rfl rfl)
theorem dL_law_248 : decode cL_law 248 = .ok (.iload 5, 2) := dk_21 5 (dk_at dksL_law_3 8 rfl rfl)
theorem dL_law_250 : decode cL_law 250 = .ok (.iconst 2, 1) := dk_5 (dk_at dksL_law_3 10 rfl rfl)
theorem dL_law_251 : decode cL_law 251 = .ok (.iadd, 1) := dk_96 (dk_at dksL_law_3 11 rfl rfl)
theorem dL_law_252 : decode cL_law 252 = .ok (.iaload, 1) := dk_46 (dk_at dksL_law_3 12 rfl rfl)
theorem dL_law_253 : decode cL_law 253 = .ok (.aload_n 0, 1) := dk_42 (dk_at dksL_law_3 13 rfl rfl)
theorem dL_law_254 : decode cL_law 254 = .ok (.iload 5, 2) := dk_21 5 (dk_at dksL_law_3 14 rfl rfl)
theorem dL_law_256 : decode cL_law 256 = .ok (.iconst 3, 1) := dk_6 (dk_at dksL_law_3 16 rfl rfl)
theorem dL_law_257 : decode cL_law 257 = .ok (.iadd, 1) := dk_96 (dk_at dksL_law_3 17 rfl rfl)
theorem dL_law_258 : decode cL_law 258 = .ok (.iaload, 1) := dk_46 (dk_at dksL_law_3 18 rfl rfl)
theorem dL_law_259 : decode cL_law 259 = .ok (.aload_n 0, 1) := dk_42 (dk_at dksL_law_3 19 rfl rfl)
theorem dL_law_260 : decode cL_law 260 = .ok (.iload 5, 2) := dk_21 5 (dk_at dksL_law_3 20 rfl rfl)
theorem dL_law_262 : decode cL_law 262 = .ok (.iconst 4, 1) := dk_7 (dk_at dksL_law_3 22 rfl rfl)
theorem dL_law_263 : decode cL_law 263 = .ok (.iadd, 1) := dk_96 (dk_at dksL_law_3 23 rfl rfl)
theorem dL_law_264 : decode cL_law 264 = .ok (.iaload, 1) := dk_46 (dk_at dksL_law_4 0 rfl rfl)
theorem dL_law_265 : decode cL_law 265 = .ok (.aload_n 0, 1) := dk_42 (dk_at dksL_law_4 1 rfl rfl)
theorem dL_law_266 : decode cL_law 266 = .ok (.iload 5, 2) := dk_21 5 (dk_at dksL_law_4 2 rfl rfl)
theorem dL_law_268 : decode cL_law 268 = .ok (.iconst 5, 1) := dk_8 (dk_at dksL_law_4 4 rfl rfl)
theorem dL_law_269 : decode cL_law 269 = .ok (.iadd, 1) := dk_96 (dk_at dksL_law_4 5 rfl rfl)
theorem dL_law_270 : decode cL_law 270 = .ok (.iaload, 1) := dk_46 (dk_at dksL_law_4 6 rfl rfl)
theorem dL_law_271 : decode cL_law 271 = .ok (.aload_n 0, 1) := dk_42 (dk_at dksL_law_4 7 rfl rfl)
theorem dL_law_272 : decode cL_law 272 = .ok (.iload 5, 2) := dk_21 5 (dk_at dksL_law_4 8 rfl rfl)
theorem dL_law_274 : decode cL_law 274 = .ok (.bipush 6, 2) := dk_16 6 (dk_at dksL_law_4 10 rfl rfl)
theorem dL_law_276 : decode cL_law 276 = .ok (.iadd, 1) := dk_96 (dk_at dksL_law_4 12 rfl rfl)
theorem dL_law_277 : decode cL_law 277 = .ok (.iaload, 1) := dk_46 (dk_at dksL_law_4 13 rfl rfl)
theorem dL_law_278 : decode cL_law 278 = .ok (.ifCond .eq 7, 3) := dk_153 0 7 (dk_at dksL_law_4 14 rfl rfl)
theorem dL_law_281 : decode cL_law 281 = .ok (.iconst 1, 1) := dk_4 (dk_at dksL_law_4 17 rfl rfl)
theorem dL_law_282 : decode cL_law 282 = .ok (.goto 4, 3) := dk_167 0 4 (dk_at dksL_law_4 18 rfl rfl)
theorem dL_law_285 : decode cL_law 285 = .ok (.iconst 0, 1) := dk_3 (dk_at dksL_law_4 21 rfl rfl)
theorem dL_law_286 : decode cL_law 286 = .ok (.aload_n 3, 1) := dk_45 (dk_at dksL_law_4 22 rfl rfl)
theorem dL_law_287 : decode cL_law 287 = .ok (.invokestatic 169, 3) := dk_184 0 169 (dk_at dksL_law_5 0 rfl rfl)
theorem dL_law_290 : decode cL_law 290 = .ok (.istore 6, 2) := dk_54 6 (dk_at dksL_law_5 3 rfl rfl)
theorem dL_law_292 : decode cL_law 292 = .ok (.aload_n 2, 1) := dk_44 (dk_at dksL_law_5 5 rfl rfl)
theorem dL_law_293 : decode cL_law 293 = .ok (.aload_n 0, 1) := dk_42 (dk_at dksL_law_5 6 rfl rfl)
theorem dL_law_294 : decode cL_law 294 = .ok (.iload 5, 2) := dk_21 5 (dk_at dksL_law_5 7 rfl rfl)
theorem dL_law_296 : decode cL_law 296 = .ok (.iconst 1, 1) := dk_4 (dk_at dksL_law_5 9 rfl rfl)
theorem dL_law_297 : decode cL_law 297 = .ok (.iadd, 1) := dk_96 (dk_at dksL_law_5 10 rfl rfl)
theorem dL_law_298 : decode cL_law 298 = .ok (.iaload, 1) := dk_46 (dk_at dksL_law_5 11 rfl rfl)
theorem dL_law_299 : decode cL_law 299 = .ok (.aload_n 0, 1) := dk_42 (dk_at dksL_law_5 12 rfl rfl)
theorem dL_law_300 : decode cL_law 300 = .ok (.iload 5, 2) := dk_21 5 (dk_at dksL_law_5 13 rfl rfl)
theorem dL_law_302 : decode cL_law 302 = .ok (.iconst 2, 1) := dk_5 (dk_at dksL_law_5 15 rfl rfl)
theorem dL_law_303 : decode cL_law 303 = .ok (.iadd, 1) := dk_96 (dk_at dksL_law_5 16 rfl rfl)
theorem dL_law_304 : decode cL_law 304 = .ok (.iaload, 1) := dk_46 (dk_at dksL_law_5 17 rfl rfl)
theorem dL_law_305 : decode cL_law 305 = .ok (.aload_n 0, 1) := dk_42 (dk_at dksL_law_5 18 rfl rfl)
theorem dL_law_306 : decode cL_law 306 = .ok (.iload 5, 2) := dk_21 5 (dk_at dksL_law_5 19 rfl rfl)
theorem dL_law_308 : decode cL_law 308 = .ok (.iconst 3, 1) := dk_6 (dk_at dksL_law_5 21 rfl rfl)
theorem dL_law_309 : decode cL_law 309 = .ok (.iadd, 1) := dk_96 (dk_at dksL_law_5 22 rfl rfl)
theorem dL_law_310 : decode cL_law 310 = .ok (.iaload, 1) := dk_46 (dk_at dksL_law_5 23 rfl rfl)
theorem dL_law_311 : decode cL_law 311 = .ok (.aload_n 0, 1) := dk_42 (dk_at dksL_law_6 0 rfl rfl)
theorem dL_law_312 : decode cL_law 312 = .ok (.iload 5, 2) := dk_21 5 (dk_at dksL_law_6 1 rfl rfl)
theorem dL_law_314 : decode cL_law 314 = .ok (.iconst 4, 1) := dk_7 (dk_at dksL_law_6 3 rfl rfl)
theorem dL_law_315 : decode cL_law 315 = .ok (.iadd, 1) := dk_96 (dk_at dksL_law_6 4 rfl rfl)
theorem dL_law_316 : decode cL_law 316 = .ok (.iaload, 1) := dk_46 (dk_at dksL_law_6 5 rfl rfl)
theorem dL_law_317 : decode cL_law 317 = .ok (.aload_n 0, 1) := dk_42 (dk_at dksL_law_6 6 rfl rfl)
theorem dL_law_318 : decode cL_law 318 = .ok (.iload 5, 2) := dk_21 5 (dk_at dksL_law_6 7 rfl rfl)
theorem dL_law_320 : decode cL_law 320 = .ok (.iconst 5, 1) := dk_8 (dk_at dksL_law_6 9 rfl rfl)
theorem dL_law_321 : decode cL_law 321 = .ok (.iadd, 1) := dk_96 (dk_at dksL_law_6 10 rfl rfl)
theorem dL_law_322 : decode cL_law 322 = .ok (.iaload, 1) := dk_46 (dk_at dksL_law_6 11 rfl rfl)
theorem dL_law_323 : decode cL_law 323 = .ok (.aload_n 0, 1) := dk_42 (dk_at dksL_law_6 12 rfl rfl)
theorem dL_law_324 : decode cL_law 324 = .ok (.iload 5, 2) := dk_21 5 (dk_at dksL_law_6 13 rfl rfl)
theorem dL_law_326 : decode cL_law 326 = .ok (.bipush 6, 2) := dk_16 6 (dk_at dksL_law_6 15 rfl rfl)
theorem dL_law_328 : decode cL_law 328 = .ok (.iadd, 1) := dk_96 (dk_at dksL_law_6 17 rfl rfl)
theorem dL_law_329 : decode cL_law 329 = .ok (.iaload, 1) := dk_46 (dk_at dksL_law_6 18 rfl rfl)
theorem dL_law_330 : decode cL_law 330 = .ok (.ifCond .eq 7, 3) := dk_153 0 7 (dk_at dksL_law_6 19 rfl rfl)
theorem dL_law_333 : decode cL_law 333 = .ok (.iconst 1, 1) := dk_4 (dk_at dksL_law_6 22 rfl rfl)
theorem dL_law_334 : decode cL_law 334 = .ok (.goto 4, 3) := dk_167 0 4 (dk_at dksL_law_7 0 rfl rfl)
theorem dL_law_337 : decode cL_law 337 = .ok (.iconst 0, 1) := dk_3 (dk_at dksL_law_7 3 rfl rfl)
theorem dL_law_338 : decode cL_law 338 = .ok (.invokevirtual 174, 3) := dk_182 0 174 (dk_at dksL_law_7 4 rfl rfl)
theorem dL_law_341 : decode cL_law 341 = .ok (.istore 7, 2) := dk_54 7 (dk_at dksL_law_7 7 rfl rfl)
theorem dL_law_343 : decode cL_law 343 = .ok (.aload_n 2, 1) := dk_44 (dk_at dksL_law_7 9 rfl rfl)
theorem dL_law_344 : decode cL_law 344 = .ok (.invokevirtual 175, 3) := dk_182 0 175 (dk_at dksL_law_7 10 rfl rfl)
theorem dL_law_347 : decode cL_law 347 = .ok (.iload 6, 2) := dk_21 6 (dk_at dksL_law_7 13 rfl rfl)
theorem dL_law_349 : decode cL_law 349 = .ok (.if_icmp .eq 5, 3) := dk_159 0 5 (dk_at dksL_law_7 15 rfl rfl)
theorem dL_law_352 : decode cL_law 352 = .ok (.iconst 0, 1) := dk_3 (dk_at dksL_law_7 18 rfl rfl)
theorem dL_law_353 : decode cL_law 353 = .ok (.ireturn, 1) := dk_172 (dk_at dksL_law_7 19 rfl rfl)
theorem dL_law_354 : decode cL_law 354 = .ok (.iload 6, 2) := dk_21 6 (dk_at dksL_law_7 20 rfl rfl)
theorem dL_law_356 : decode cL_law 356 = .ok (.ifCond .ne 15, 3) := dk_154 0 15 (dk_at dksL_law_8 0 rfl rfl)
theorem dL_law_359 : decode cL_law 359 = .ok (.aload_n 3, 1) := dk_45 (dk_at dksL_law_8 3 rfl rfl)
theorem dL_law_360 : decode cL_law 360 = .ok (.iconst 0, 1) := dk_3 (dk_at dksL_law_8 4 rfl rfl)
theorem dL_law_361 : decode cL_law 361 = .ok (.laload, 1) := dk_47 (dk_at dksL_law_8 5 rfl rfl)
theorem dL_law_362 : decode cL_law 362 = .ok (.iload 7, 2) := dk_21 7 (dk_at dksL_law_8 6 rfl rfl)
theorem dL_law_364 : decode cL_law 364 = .ok (.i2l, 1) := dk_133 (dk_at dksL_law_8 8 rfl rfl)
theorem dL_law_365 : decode cL_law 365 = .ok (.lcmp, 1) := dk_148 (dk_at dksL_law_8 9 rfl rfl)
theorem dL_law_366 : decode cL_law 366 = .ok (.ifCond .eq 5, 3) := dk_153 0 5 (dk_at dksL_law_8 10 rfl rfl)
theorem dL_law_369 : decode cL_law 369 = .ok (.iconst 0, 1) := dk_3 (dk_at dksL_law_8 13 rfl rfl)
theorem dL_law_370 : decode cL_law 370 = .ok (.ireturn, 1) := dk_172 (dk_at dksL_law_8 14 rfl rfl)
theorem dL_law_371 : decode cL_law 371 = .ok (.goto 3016, 3) := dk_167 11 200 (dk_at dksL_law_8 15 rfl rfl)
theorem dL_law_374 : decode cL_law 374 = .ok (.aload_n 1, 1) := dk_43 (dk_at dksL_law_8 18 rfl rfl)
theorem dL_law_375 : decode cL_law 375 = .ok (.aload_n 0, 1) := dk_42 (dk_at dksL_law_8 19 rfl rfl)
theorem dL_law_376 : decode cL_law 376 = .ok (.iload 5, 2) := dk_21 5 (dk_at dksL_law_8 20 rfl rfl)
theorem dL_law_378 : decode cL_law 378 = .ok (.iconst 1, 1) := dk_4 (dk_at dksL_law_8 22 rfl rfl)
theorem dL_law_379 : decode cL_law 379 = .ok (.iadd, 1) := dk_96 (dk_at dksL_law_8 23 rfl rfl)
theorem dL_law_380 : decode cL_law 380 = .ok (.iaload, 1) := dk_46 (dk_at dksL_law_9 0 rfl rfl)
theorem dL_law_381 : decode cL_law 381 = .ok (.aload_n 0, 1) := dk_42 (dk_at dksL_law_9 1 rfl rfl)
theorem dL_law_382 : decode cL_law 382 = .ok (.iload 5, 2) := dk_21 5 (dk_at dksL_law_9 2 rfl rfl)
theorem dL_law_384 : decode cL_law 384 = .ok (.iconst 2, 1) := dk_5 (dk_at dksL_law_9 4 rfl rfl)
theorem dL_law_385 : decode cL_law 385 = .ok (.iadd, 1) := dk_96 (dk_at dksL_law_9 5 rfl rfl)
theorem dL_law_386 : decode cL_law 386 = .ok (.iaload, 1) := dk_46 (dk_at dksL_law_9 6 rfl rfl)
theorem dL_law_387 : decode cL_law 387 = .ok (.aload_n 0, 1) := dk_42 (dk_at dksL_law_9 7 rfl rfl)
theorem dL_law_388 : decode cL_law 388 = .ok (.iload 5, 2) := dk_21 5 (dk_at dksL_law_9 8 rfl rfl)
theorem dL_law_390 : decode cL_law 390 = .ok (.iconst 3, 1) := dk_6 (dk_at dksL_law_9 10 rfl rfl)
theorem dL_law_391 : decode cL_law 391 = .ok (.iadd, 1) := dk_96 (dk_at dksL_law_9 11 rfl rfl)
theorem dL_law_392 : decode cL_law 392 = .ok (.iaload, 1) := dk_46 (dk_at dksL_law_9 12 rfl rfl)
theorem dL_law_393 : decode cL_law 393 = .ok (.aload_n 0, 1) := dk_42 (dk_at dksL_law_9 13 rfl rfl)
theorem dL_law_394 : decode cL_law 394 = .ok (.iload 5, 2) := dk_21 5 (dk_at dksL_law_9 14 rfl rfl)
theorem dL_law_396 : decode cL_law 396 = .ok (.iconst 4, 1) := dk_7 (dk_at dksL_law_9 16 rfl rfl)
theorem dL_law_397 : decode cL_law 397 = .ok (.iadd, 1) := dk_96 (dk_at dksL_law_9 17 rfl rfl)
theorem dL_law_398 : decode cL_law 398 = .ok (.iaload, 1) := dk_46 (dk_at dksL_law_9 18 rfl rfl)
theorem dL_law_399 : decode cL_law 399 = .ok (.aload_n 3, 1) := dk_45 (dk_at dksL_law_9 19 rfl rfl)
theorem dL_law_400 : decode cL_law 400 = .ok (.invokestatic 179, 3) := dk_184 0 179 (dk_at dksL_law_9 20 rfl rfl)
theorem dL_law_403 : decode cL_law 403 = .ok (.istore 6, 2) := dk_54 6 (dk_at dksL_law_10 0 rfl rfl)
theorem dL_law_405 : decode cL_law 405 = .ok (.aload_n 2, 1) := dk_44 (dk_at dksL_law_10 2 rfl rfl)
theorem dL_law_406 : decode cL_law 406 = .ok (.aload_n 0, 1) := dk_42 (dk_at dksL_law_10 3 rfl rfl)
theorem dL_law_407 : decode cL_law 407 = .ok (.iload 5, 2) := dk_21 5 (dk_at dksL_law_10 4 rfl rfl)
theorem dL_law_409 : decode cL_law 409 = .ok (.iconst 1, 1) := dk_4 (dk_at dksL_law_10 6 rfl rfl)
theorem dL_law_410 : decode cL_law 410 = .ok (.iadd, 1) := dk_96 (dk_at dksL_law_10 7 rfl rfl)
theorem dL_law_411 : decode cL_law 411 = .ok (.iaload, 1) := dk_46 (dk_at dksL_law_10 8 rfl rfl)
theorem dL_law_412 : decode cL_law 412 = .ok (.aload_n 0, 1) := dk_42 (dk_at dksL_law_10 9 rfl rfl)
theorem dL_law_413 : decode cL_law 413 = .ok (.iload 5, 2) := dk_21 5 (dk_at dksL_law_10 10 rfl rfl)
theorem dL_law_415 : decode cL_law 415 = .ok (.iconst 2, 1) := dk_5 (dk_at dksL_law_10 12 rfl rfl)
theorem dL_law_416 : decode cL_law 416 = .ok (.iadd, 1) := dk_96 (dk_at dksL_law_10 13 rfl rfl)
theorem dL_law_417 : decode cL_law 417 = .ok (.iaload, 1) := dk_46 (dk_at dksL_law_10 14 rfl rfl)
theorem dL_law_418 : decode cL_law 418 = .ok (.aload_n 0, 1) := dk_42 (dk_at dksL_law_10 15 rfl rfl)
theorem dL_law_419 : decode cL_law 419 = .ok (.iload 5, 2) := dk_21 5 (dk_at dksL_law_10 16 rfl rfl)
theorem dL_law_421 : decode cL_law 421 = .ok (.iconst 3, 1) := dk_6 (dk_at dksL_law_10 18 rfl rfl)
theorem dL_law_422 : decode cL_law 422 = .ok (.iadd, 1) := dk_96 (dk_at dksL_law_10 19 rfl rfl)
theorem dL_law_423 : decode cL_law 423 = .ok (.iaload, 1) := dk_46 (dk_at dksL_law_10 20 rfl rfl)
theorem dL_law_424 : decode cL_law 424 = .ok (.aload_n 0, 1) := dk_42 (dk_at dksL_law_10 21 rfl rfl)
theorem dL_law_425 : decode cL_law 425 = .ok (.iload 5, 2) := dk_21 5 (dk_at dksL_law_10 22 rfl rfl)
theorem dL_law_427 : decode cL_law 427 = .ok (.iconst 4, 1) := dk_7 (dk_at dksL_law_11 0 rfl rfl)
theorem dL_law_428 : decode cL_law 428 = .ok (.iadd, 1) := dk_96 (dk_at dksL_law_11 1 rfl rfl)
theorem dL_law_429 : decode cL_law 429 = .ok (.iaload, 1) := dk_46 (dk_at dksL_law_11 2 rfl rfl)
theorem dL_law_430 : decode cL_law 430 = .ok (.invokevirtual 182, 3) := dk_182 0 182 (dk_at dksL_law_11 3 rfl rfl)
theorem dL_law_433 : decode cL_law 433 = .ok (.istore 7, 2) := dk_54 7 (dk_at dksL_law_11 6 rfl rfl)
theorem dL_law_435 : decode cL_law 435 = .ok (.aload_n 2, 1) := dk_44 (dk_at dksL_law_11 8 rfl rfl)
theorem dL_law_436 : decode cL_law 436 = .ok (.invokevirtual 175, 3) := dk_182 0 175 (dk_at dksL_law_11 9 rfl rfl)
theorem dL_law_439 : decode cL_law 439 = .ok (.iload 6, 2) := dk_21 6 (dk_at dksL_law_11 12 rfl rfl)
theorem dL_law_441 : decode cL_law 441 = .ok (.if_icmp .eq 5, 3) := dk_159 0 5 (dk_at dksL_law_11 14 rfl rfl)
theorem dL_law_444 : decode cL_law 444 = .ok (.iconst 0, 1) := dk_3 (dk_at dksL_law_11 17 rfl rfl)
theorem dL_law_445 : decode cL_law 445 = .ok (.ireturn, 1) := dk_172 (dk_at dksL_law_11 18 rfl rfl)
theorem dL_law_446 : decode cL_law 446 = .ok (.iload 6, 2) := dk_21 6 (dk_at dksL_law_11 19 rfl rfl)
theorem dL_law_448 : decode cL_law 448 = .ok (.ifCond .ne 15, 3) := dk_154 0 15 (dk_at dksL_law_11 21 rfl rfl)
theorem dL_law_451 : decode cL_law 451 = .ok (.aload_n 3, 1) := dk_45 (dk_at dksL_law_12 0 rfl rfl)
theorem dL_law_452 : decode cL_law 452 = .ok (.iconst 0, 1) := dk_3 (dk_at dksL_law_12 1 rfl rfl)
theorem dL_law_453 : decode cL_law 453 = .ok (.laload, 1) := dk_47 (dk_at dksL_law_12 2 rfl rfl)
theorem dL_law_454 : decode cL_law 454 = .ok (.iload 7, 2) := dk_21 7 (dk_at dksL_law_12 3 rfl rfl)
theorem dL_law_456 : decode cL_law 456 = .ok (.i2l, 1) := dk_133 (dk_at dksL_law_12 5 rfl rfl)
theorem dL_law_457 : decode cL_law 457 = .ok (.lcmp, 1) := dk_148 (dk_at dksL_law_12 6 rfl rfl)
theorem dL_law_458 : decode cL_law 458 = .ok (.ifCond .eq 5, 3) := dk_153 0 5 (dk_at dksL_law_12 7 rfl rfl)
theorem dL_law_461 : decode cL_law 461 = .ok (.iconst 0, 1) := dk_3 (dk_at dksL_law_12 10 rfl rfl)
theorem dL_law_462 : decode cL_law 462 = .ok (.ireturn, 1) := dk_172 (dk_at dksL_law_12 11 rfl rfl)
theorem dL_law_463 : decode cL_law 463 = .ok (.goto 2924, 3) := dk_167 11 108 (dk_at dksL_law_12 12 rfl rfl)
theorem dL_law_466 : decode cL_law 466 = .ok (.aload_n 1, 1) := dk_43 (dk_at dksL_law_12 15 rfl rfl)
theorem dL_law_467 : decode cL_law 467 = .ok (.aload_n 0, 1) := dk_42 (dk_at dksL_law_12 16 rfl rfl)
theorem dL_law_468 : decode cL_law 468 = .ok (.iload 5, 2) := dk_21 5 (dk_at dksL_law_12 17 rfl rfl)
theorem dL_law_470 : decode cL_law 470 = .ok (.iconst 1, 1) := dk_4 (dk_at dksL_law_12 19 rfl rfl)
theorem dL_law_471 : decode cL_law 471 = .ok (.iadd, 1) := dk_96 (dk_at dksL_law_12 20 rfl rfl)
theorem dL_law_472 : decode cL_law 472 = .ok (.iaload, 1) := dk_46 (dk_at dksL_law_12 21 rfl rfl)
theorem dL_law_473 : decode cL_law 473 = .ok (.aload_n 0, 1) := dk_42 (dk_at dksL_law_12 22 rfl rfl)
theorem dL_law_474 : decode cL_law 474 = .ok (.iload 5, 2) := dk_21 5 (dk_at dksL_law_13 0 rfl rfl)
theorem dL_law_476 : decode cL_law 476 = .ok (.iconst 2, 1) := dk_5 (dk_at dksL_law_13 2 rfl rfl)
theorem dL_law_477 : decode cL_law 477 = .ok (.iadd, 1) := dk_96 (dk_at dksL_law_13 3 rfl rfl)
theorem dL_law_478 : decode cL_law 478 = .ok (.iaload, 1) := dk_46 (dk_at dksL_law_13 4 rfl rfl)
theorem dL_law_479 : decode cL_law 479 = .ok (.aload_n 3, 1) := dk_45 (dk_at dksL_law_13 5 rfl rfl)
theorem dL_law_480 : decode cL_law 480 = .ok (.invokestatic 183, 3) := dk_184 0 183 (dk_at dksL_law_13 6 rfl rfl)
theorem dL_law_483 : decode cL_law 483 = .ok (.istore 6, 2) := dk_54 6 (dk_at dksL_law_13 9 rfl rfl)
theorem dL_law_485 : decode cL_law 485 = .ok (.aload_n 2, 1) := dk_44 (dk_at dksL_law_13 11 rfl rfl)
theorem dL_law_486 : decode cL_law 486 = .ok (.aload_n 0, 1) := dk_42 (dk_at dksL_law_13 12 rfl rfl)
theorem dL_law_487 : decode cL_law 487 = .ok (.iload 5, 2) := dk_21 5 (dk_at dksL_law_13 13 rfl rfl)
theorem dL_law_489 : decode cL_law 489 = .ok (.iconst 1, 1) := dk_4 (dk_at dksL_law_13 15 rfl rfl)
theorem dL_law_490 : decode cL_law 490 = .ok (.iadd, 1) := dk_96 (dk_at dksL_law_13 16 rfl rfl)
theorem dL_law_491 : decode cL_law 491 = .ok (.iaload, 1) := dk_46 (dk_at dksL_law_13 17 rfl rfl)
theorem dL_law_492 : decode cL_law 492 = .ok (.aload_n 0, 1) := dk_42 (dk_at dksL_law_13 18 rfl rfl)
theorem dL_law_493 : decode cL_law 493 = .ok (.iload 5, 2) := dk_21 5 (dk_at dksL_law_13 19 rfl rfl)
theorem dL_law_495 : decode cL_law 495 = .ok (.iconst 2, 1) := dk_5 (dk_at dksL_law_13 21 rfl rfl)
theorem dL_law_496 : decode cL_law 496 = .ok (.iadd, 1) := dk_96 (dk_at dksL_law_13 22 rfl rfl)
theorem dL_law_497 : decode cL_law 497 = .ok (.iaload, 1) := dk_46 (dk_at dksL_law_13 23 rfl rfl)
theorem dL_law_498 : decode cL_law 498 = .ok (.invokevirtual 186, 3) := dk_182 0 186 (dk_at dksL_law_14 0 rfl rfl)
theorem dL_law_501 : decode cL_law 501 = .ok (.istore 7, 2) := dk_54 7 (dk_at dksL_law_14 3 rfl rfl)
theorem dL_law_503 : decode cL_law 503 = .ok (.aload_n 2, 1) := dk_44 (dk_at dksL_law_14 5 rfl rfl)
theorem dL_law_504 : decode cL_law 504 = .ok (.invokevirtual 175, 3) := dk_182 0 175 (dk_at dksL_law_14 6 rfl rfl)
theorem dL_law_507 : decode cL_law 507 = .ok (.iload 6, 2) := dk_21 6 (dk_at dksL_law_14 9 rfl rfl)
theorem dL_law_509 : decode cL_law 509 = .ok (.if_icmp .eq 5, 3) := dk_159 0 5 (dk_at dksL_law_14 11 rfl rfl)
theorem dL_law_512 : decode cL_law 512 = .ok (.iconst 0, 1) := dk_3 (dk_at dksL_law_14 14 rfl rfl)
theorem dL_law_513 : decode cL_law 513 = .ok (.ireturn, 1) := dk_172 (dk_at dksL_law_14 15 rfl rfl)
theorem dL_law_514 : decode cL_law 514 = .ok (.iload 6, 2) := dk_21 6 (dk_at dksL_law_14 16 rfl rfl)
theorem dL_law_516 : decode cL_law 516 = .ok (.ifCond .ne 15, 3) := dk_154 0 15 (dk_at dksL_law_14 18 rfl rfl)
theorem dL_law_519 : decode cL_law 519 = .ok (.aload_n 3, 1) := dk_45 (dk_at dksL_law_14 21 rfl rfl)
theorem dL_law_520 : decode cL_law 520 = .ok (.iconst 0, 1) := dk_3 (dk_at dksL_law_14 22 rfl rfl)
theorem dL_law_521 : decode cL_law 521 = .ok (.laload, 1) := dk_47 (dk_at dksL_law_14 23 rfl rfl)
theorem dL_law_522 : decode cL_law 522 = .ok (.iload 7, 2) := dk_21 7 (dk_at dksL_law_15 0 rfl rfl)
theorem dL_law_524 : decode cL_law 524 = .ok (.i2l, 1) := dk_133 (dk_at dksL_law_15 2 rfl rfl)
theorem dL_law_525 : decode cL_law 525 = .ok (.lcmp, 1) := dk_148 (dk_at dksL_law_15 3 rfl rfl)
theorem dL_law_526 : decode cL_law 526 = .ok (.ifCond .eq 5, 3) := dk_153 0 5 (dk_at dksL_law_15 4 rfl rfl)
theorem dL_law_529 : decode cL_law 529 = .ok (.iconst 0, 1) := dk_3 (dk_at dksL_law_15 7 rfl rfl)
theorem dL_law_530 : decode cL_law 530 = .ok (.ireturn, 1) := dk_172 (dk_at dksL_law_15 8 rfl rfl)
theorem dL_law_531 : decode cL_law 531 = .ok (.goto 2856, 3) := dk_167 11 40 (dk_at dksL_law_15 9 rfl rfl)
theorem dL_law_534 : decode cL_law 534 = .ok (.aload_n 1, 1) := dk_43 (dk_at dksL_law_15 12 rfl rfl)
theorem dL_law_535 : decode cL_law 535 = .ok (.aload_n 0, 1) := dk_42 (dk_at dksL_law_15 13 rfl rfl)
theorem dL_law_536 : decode cL_law 536 = .ok (.iload 5, 2) := dk_21 5 (dk_at dksL_law_15 14 rfl rfl)
theorem dL_law_538 : decode cL_law 538 = .ok (.iconst 1, 1) := dk_4 (dk_at dksL_law_15 16 rfl rfl)
theorem dL_law_539 : decode cL_law 539 = .ok (.iadd, 1) := dk_96 (dk_at dksL_law_15 17 rfl rfl)
theorem dL_law_540 : decode cL_law 540 = .ok (.iaload, 1) := dk_46 (dk_at dksL_law_15 18 rfl rfl)
theorem dL_law_541 : decode cL_law 541 = .ok (.aload_n 0, 1) := dk_42 (dk_at dksL_law_15 19 rfl rfl)
theorem dL_law_542 : decode cL_law 542 = .ok (.iload 5, 2) := dk_21 5 (dk_at dksL_law_15 20 rfl rfl)
theorem dL_law_544 : decode cL_law 544 = .ok (.iconst 2, 1) := dk_5 (dk_at dksL_law_15 22 rfl rfl)
theorem dL_law_545 : decode cL_law 545 = .ok (.iadd, 1) := dk_96 (dk_at dksL_law_15 23 rfl rfl)
theorem dL_law_546 : decode cL_law 546 = .ok (.iaload, 1) := dk_46 (dk_at dksL_law_16 0 rfl rfl)
theorem dL_law_547 : decode cL_law 547 = .ok (.aload_n 3, 1) := dk_45 (dk_at dksL_law_16 1 rfl rfl)
theorem dL_law_548 : decode cL_law 548 = .ok (.invokestatic 187, 3) := dk_184 0 187 (dk_at dksL_law_16 2 rfl rfl)
theorem dL_law_551 : decode cL_law 551 = .ok (.istore 6, 2) := dk_54 6 (dk_at dksL_law_16 5 rfl rfl)
theorem dL_law_553 : decode cL_law 553 = .ok (.aload_n 2, 1) := dk_44 (dk_at dksL_law_16 7 rfl rfl)
theorem dL_law_554 : decode cL_law 554 = .ok (.aload_n 0, 1) := dk_42 (dk_at dksL_law_16 8 rfl rfl)
theorem dL_law_555 : decode cL_law 555 = .ok (.iload 5, 2) := dk_21 5 (dk_at dksL_law_16 9 rfl rfl)
theorem dL_law_557 : decode cL_law 557 = .ok (.iconst 1, 1) := dk_4 (dk_at dksL_law_16 11 rfl rfl)
theorem dL_law_558 : decode cL_law 558 = .ok (.iadd, 1) := dk_96 (dk_at dksL_law_16 12 rfl rfl)
theorem dL_law_559 : decode cL_law 559 = .ok (.iaload, 1) := dk_46 (dk_at dksL_law_16 13 rfl rfl)
theorem dL_law_560 : decode cL_law 560 = .ok (.aload_n 0, 1) := dk_42 (dk_at dksL_law_16 14 rfl rfl)
theorem dL_law_561 : decode cL_law 561 = .ok (.iload 5, 2) := dk_21 5 (dk_at dksL_law_16 15 rfl rfl)
theorem dL_law_563 : decode cL_law 563 = .ok (.iconst 2, 1) := dk_5 (dk_at dksL_law_16 17 rfl rfl)
theorem dL_law_564 : decode cL_law 564 = .ok (.iadd, 1) := dk_96 (dk_at dksL_law_16 18 rfl rfl)
theorem dL_law_565 : decode cL_law 565 = .ok (.iaload, 1) := dk_46 (dk_at dksL_law_16 19 rfl rfl)
theorem dL_law_566 : decode cL_law 566 = .ok (.invokevirtual 189, 3) := dk_182 0 189 (dk_at dksL_law_16 20 rfl rfl)
theorem dL_law_569 : decode cL_law 569 = .ok (.istore 7, 2) := dk_54 7 (dk_at dksL_law_17 0 rfl rfl)
theorem dL_law_571 : decode cL_law 571 = .ok (.aload_n 2, 1) := dk_44 (dk_at dksL_law_17 2 rfl rfl)
theorem dL_law_572 : decode cL_law 572 = .ok (.invokevirtual 175, 3) := dk_182 0 175 (dk_at dksL_law_17 3 rfl rfl)
theorem dL_law_575 : decode cL_law 575 = .ok (.iload 6, 2) := dk_21 6 (dk_at dksL_law_17 6 rfl rfl)
theorem dL_law_577 : decode cL_law 577 = .ok (.if_icmp .eq 5, 3) := dk_159 0 5 (dk_at dksL_law_17 8 rfl rfl)
theorem dL_law_580 : decode cL_law 580 = .ok (.iconst 0, 1) := dk_3 (dk_at dksL_law_17 11 rfl rfl)
theorem dL_law_581 : decode cL_law 581 = .ok (.ireturn, 1) := dk_172 (dk_at dksL_law_17 12 rfl rfl)
theorem dL_law_582 : decode cL_law 582 = .ok (.iload 6, 2) := dk_21 6 (dk_at dksL_law_17 13 rfl rfl)
theorem dL_law_584 : decode cL_law 584 = .ok (.ifCond .ne 15, 3) := dk_154 0 15 (dk_at dksL_law_17 15 rfl rfl)
theorem dL_law_587 : decode cL_law 587 = .ok (.aload_n 3, 1) := dk_45 (dk_at dksL_law_17 18 rfl rfl)
theorem dL_law_588 : decode cL_law 588 = .ok (.iconst 0, 1) := dk_3 (dk_at dksL_law_17 19 rfl rfl)
theorem dL_law_589 : decode cL_law 589 = .ok (.laload, 1) := dk_47 (dk_at dksL_law_17 20 rfl rfl)
theorem dL_law_590 : decode cL_law 590 = .ok (.iload 7, 2) := dk_21 7 (dk_at dksL_law_17 21 rfl rfl)
theorem dL_law_592 : decode cL_law 592 = .ok (.i2l, 1) := dk_133 (dk_at dksL_law_17 23 rfl rfl)
theorem dL_law_593 : decode cL_law 593 = .ok (.lcmp, 1) := dk_148 (dk_at dksL_law_18 0 rfl rfl)
theorem dL_law_594 : decode cL_law 594 = .ok (.ifCond .eq 5, 3) := dk_153 0 5 (dk_at dksL_law_18 1 rfl rfl)
theorem dL_law_597 : decode cL_law 597 = .ok (.iconst 0, 1) := dk_3 (dk_at dksL_law_18 4 rfl rfl)
theorem dL_law_598 : decode cL_law 598 = .ok (.ireturn, 1) := dk_172 (dk_at dksL_law_18 5 rfl rfl)
theorem dL_law_599 : decode cL_law 599 = .ok (.goto 2788, 3) := dk_167 10 228 (dk_at dksL_law_18 6 rfl rfl)
theorem dL_law_602 : decode cL_law 602 = .ok (.aload_n 1, 1) := dk_43 (dk_at dksL_law_18 9 rfl rfl)
theorem dL_law_603 : decode cL_law 603 = .ok (.aload_n 0, 1) := dk_42 (dk_at dksL_law_18 10 rfl rfl)
theorem dL_law_604 : decode cL_law 604 = .ok (.iload 5, 2) := dk_21 5 (dk_at dksL_law_18 11 rfl rfl)
theorem dL_law_606 : decode cL_law 606 = .ok (.iconst 1, 1) := dk_4 (dk_at dksL_law_18 13 rfl rfl)
theorem dL_law_607 : decode cL_law 607 = .ok (.iadd, 1) := dk_96 (dk_at dksL_law_18 14 rfl rfl)
theorem dL_law_608 : decode cL_law 608 = .ok (.iaload, 1) := dk_46 (dk_at dksL_law_18 15 rfl rfl)
theorem dL_law_609 : decode cL_law 609 = .ok (.aload_n 0, 1) := dk_42 (dk_at dksL_law_18 16 rfl rfl)
theorem dL_law_610 : decode cL_law 610 = .ok (.iload 5, 2) := dk_21 5 (dk_at dksL_law_18 17 rfl rfl)
theorem dL_law_612 : decode cL_law 612 = .ok (.iconst 2, 1) := dk_5 (dk_at dksL_law_18 19 rfl rfl)
theorem dL_law_613 : decode cL_law 613 = .ok (.iadd, 1) := dk_96 (dk_at dksL_law_18 20 rfl rfl)
theorem dL_law_614 : decode cL_law 614 = .ok (.iaload, 1) := dk_46 (dk_at dksL_law_18 21 rfl rfl)
theorem dL_law_615 : decode cL_law 615 = .ok (.aload_n 0, 1) := dk_42 (dk_at dksL_law_18 22 rfl rfl)
theorem dL_law_616 : decode cL_law 616 = .ok (.iload 5, 2) := dk_21 5 (dk_at dksL_law_19 0 rfl rfl)
theorem dL_law_618 : decode cL_law 618 = .ok (.iconst 3, 1) := dk_6 (dk_at dksL_law_19 2 rfl rfl)
theorem dL_law_619 : decode cL_law 619 = .ok (.iadd, 1) := dk_96 (dk_at dksL_law_19 3 rfl rfl)
theorem dL_law_620 : decode cL_law 620 = .ok (.iaload, 1) := dk_46 (dk_at dksL_law_19 4 rfl rfl)
theorem dL_law_621 : decode cL_law 621 = .ok (.aload_n 3, 1) := dk_45 (dk_at dksL_law_19 5 rfl rfl)
theorem dL_law_622 : decode cL_law 622 = .ok (.invokestatic 190, 3) := dk_184 0 190 (dk_at dksL_law_19 6 rfl rfl)
theorem dL_law_625 : decode cL_law 625 = .ok (.istore 6, 2) := dk_54 6 (dk_at dksL_law_19 9 rfl rfl)
theorem dL_law_627 : decode cL_law 627 = .ok (.aload_n 2, 1) := dk_44 (dk_at dksL_law_19 11 rfl rfl)
theorem dL_law_628 : decode cL_law 628 = .ok (.aload_n 0, 1) := dk_42 (dk_at dksL_law_19 12 rfl rfl)
theorem dL_law_629 : decode cL_law 629 = .ok (.iload 5, 2) := dk_21 5 (dk_at dksL_law_19 13 rfl rfl)
theorem dL_law_631 : decode cL_law 631 = .ok (.iconst 1, 1) := dk_4 (dk_at dksL_law_19 15 rfl rfl)
theorem dL_law_632 : decode cL_law 632 = .ok (.iadd, 1) := dk_96 (dk_at dksL_law_19 16 rfl rfl)
theorem dL_law_633 : decode cL_law 633 = .ok (.iaload, 1) := dk_46 (dk_at dksL_law_19 17 rfl rfl)
theorem dL_law_634 : decode cL_law 634 = .ok (.aload_n 0, 1) := dk_42 (dk_at dksL_law_19 18 rfl rfl)
theorem dL_law_635 : decode cL_law 635 = .ok (.iload 5, 2) := dk_21 5 (dk_at dksL_law_19 19 rfl rfl)
theorem dL_law_637 : decode cL_law 637 = .ok (.iconst 2, 1) := dk_5 (dk_at dksL_law_19 21 rfl rfl)
theorem dL_law_638 : decode cL_law 638 = .ok (.iadd, 1) := dk_96 (dk_at dksL_law_19 22 rfl rfl)
theorem dL_law_639 : decode cL_law 639 = .ok (.iaload, 1) := dk_46 (dk_at dksL_law_19 23 rfl rfl)
theorem dL_law_640 : decode cL_law 640 = .ok (.aload_n 0, 1) := dk_42 (dk_at dksL_law_20 0 rfl rfl)
theorem dL_law_641 : decode cL_law 641 = .ok (.iload 5, 2) := dk_21 5 (dk_at dksL_law_20 1 rfl rfl)
theorem dL_law_643 : decode cL_law 643 = .ok (.iconst 3, 1) := dk_6 (dk_at dksL_law_20 3 rfl rfl)
theorem dL_law_644 : decode cL_law 644 = .ok (.iadd, 1) := dk_96 (dk_at dksL_law_20 4 rfl rfl)
theorem dL_law_645 : decode cL_law 645 = .ok (.iaload, 1) := dk_46 (dk_at dksL_law_20 5 rfl rfl)
theorem dL_law_646 : decode cL_law 646 = .ok (.invokevirtual 193, 3) := dk_182 0 193 (dk_at dksL_law_20 6 rfl rfl)
theorem dL_law_649 : decode cL_law 649 = .ok (.istore 7, 2) := dk_54 7 (dk_at dksL_law_20 9 rfl rfl)
theorem dL_law_651 : decode cL_law 651 = .ok (.aload_n 2, 1) := dk_44 (dk_at dksL_law_20 11 rfl rfl)
theorem dL_law_652 : decode cL_law 652 = .ok (.invokevirtual 175, 3) := dk_182 0 175 (dk_at dksL_law_20 12 rfl rfl)
theorem dL_law_655 : decode cL_law 655 = .ok (.iload 6, 2) := dk_21 6 (dk_at dksL_law_20 15 rfl rfl)
theorem dL_law_657 : decode cL_law 657 = .ok (.if_icmp .eq 5, 3) := dk_159 0 5 (dk_at dksL_law_20 17 rfl rfl)
theorem dL_law_660 : decode cL_law 660 = .ok (.iconst 0, 1) := dk_3 (dk_at dksL_law_20 20 rfl rfl)
theorem dL_law_661 : decode cL_law 661 = .ok (.ireturn, 1) := dk_172 (dk_at dksL_law_20 21 rfl rfl)
theorem dL_law_662 : decode cL_law 662 = .ok (.iload 6, 2) := dk_21 6 (dk_at dksL_law_20 22 rfl rfl)
theorem dL_law_664 : decode cL_law 664 = .ok (.ifCond .ne 15, 3) := dk_154 0 15 (dk_at dksL_law_21 0 rfl rfl)
theorem dL_law_667 : decode cL_law 667 = .ok (.aload_n 3, 1) := dk_45 (dk_at dksL_law_21 3 rfl rfl)
theorem dL_law_668 : decode cL_law 668 = .ok (.iconst 0, 1) := dk_3 (dk_at dksL_law_21 4 rfl rfl)
theorem dL_law_669 : decode cL_law 669 = .ok (.laload, 1) := dk_47 (dk_at dksL_law_21 5 rfl rfl)
theorem dL_law_670 : decode cL_law 670 = .ok (.iload 7, 2) := dk_21 7 (dk_at dksL_law_21 6 rfl rfl)
theorem dL_law_672 : decode cL_law 672 = .ok (.i2l, 1) := dk_133 (dk_at dksL_law_21 8 rfl rfl)
theorem dL_law_673 : decode cL_law 673 = .ok (.lcmp, 1) := dk_148 (dk_at dksL_law_21 9 rfl rfl)
theorem dL_law_674 : decode cL_law 674 = .ok (.ifCond .eq 5, 3) := dk_153 0 5 (dk_at dksL_law_21 10 rfl rfl)
theorem dL_law_677 : decode cL_law 677 = .ok (.iconst 0, 1) := dk_3 (dk_at dksL_law_21 13 rfl rfl)
theorem dL_law_678 : decode cL_law 678 = .ok (.ireturn, 1) := dk_172 (dk_at dksL_law_21 14 rfl rfl)
theorem dL_law_679 : decode cL_law 679 = .ok (.goto 2708, 3) := dk_167 10 148 (dk_at dksL_law_21 15 rfl rfl)
theorem dL_law_682 : decode cL_law 682 = .ok (.aload_n 1, 1) := dk_43 (dk_at dksL_law_21 18 rfl rfl)
theorem dL_law_683 : decode cL_law 683 = .ok (.aload_n 0, 1) := dk_42 (dk_at dksL_law_21 19 rfl rfl)
theorem dL_law_684 : decode cL_law 684 = .ok (.iload 5, 2) := dk_21 5 (dk_at dksL_law_21 20 rfl rfl)
theorem dL_law_686 : decode cL_law 686 = .ok (.iconst 1, 1) := dk_4 (dk_at dksL_law_21 22 rfl rfl)
theorem dL_law_687 : decode cL_law 687 = .ok (.iadd, 1) := dk_96 (dk_at dksL_law_21 23 rfl rfl)
theorem dL_law_688 : decode cL_law 688 = .ok (.iaload, 1) := dk_46 (dk_at dksL_law_22 0 rfl rfl)
theorem dL_law_689 : decode cL_law 689 = .ok (.aload_n 0, 1) := dk_42 (dk_at dksL_law_22 1 rfl rfl)
theorem dL_law_690 : decode cL_law 690 = .ok (.iload 5, 2) := dk_21 5 (dk_at dksL_law_22 2 rfl rfl)
theorem dL_law_692 : decode cL_law 692 = .ok (.iconst 2, 1) := dk_5 (dk_at dksL_law_22 4 rfl rfl)
theorem dL_law_693 : decode cL_law 693 = .ok (.iadd, 1) := dk_96 (dk_at dksL_law_22 5 rfl rfl)
theorem dL_law_694 : decode cL_law 694 = .ok (.iaload, 1) := dk_46 (dk_at dksL_law_22 6 rfl rfl)
theorem dL_law_695 : decode cL_law 695 = .ok (.aload_n 3, 1) := dk_45 (dk_at dksL_law_22 7 rfl rfl)
theorem dL_law_696 : decode cL_law 696 = .ok (.invokestatic 194, 3) := dk_184 0 194 (dk_at dksL_law_22 8 rfl rfl)
theorem dL_law_699 : decode cL_law 699 = .ok (.istore 6, 2) := dk_54 6 (dk_at dksL_law_22 11 rfl rfl)
theorem dL_law_701 : decode cL_law 701 = .ok (.aload_n 2, 1) := dk_44 (dk_at dksL_law_22 13 rfl rfl)
theorem dL_law_702 : decode cL_law 702 = .ok (.aload_n 0, 1) := dk_42 (dk_at dksL_law_22 14 rfl rfl)
theorem dL_law_703 : decode cL_law 703 = .ok (.iload 5, 2) := dk_21 5 (dk_at dksL_law_22 15 rfl rfl)
theorem dL_law_705 : decode cL_law 705 = .ok (.iconst 1, 1) := dk_4 (dk_at dksL_law_22 17 rfl rfl)
theorem dL_law_706 : decode cL_law 706 = .ok (.iadd, 1) := dk_96 (dk_at dksL_law_22 18 rfl rfl)
theorem dL_law_707 : decode cL_law 707 = .ok (.iaload, 1) := dk_46 (dk_at dksL_law_22 19 rfl rfl)
theorem dL_law_708 : decode cL_law 708 = .ok (.aload_n 0, 1) := dk_42 (dk_at dksL_law_22 20 rfl rfl)
theorem dL_law_709 : decode cL_law 709 = .ok (.iload 5, 2) := dk_21 5 (dk_at dksL_law_22 21 rfl rfl)
theorem dL_law_711 : decode cL_law 711 = .ok (.iconst 2, 1) := dk_5 (dk_at dksL_law_22 23 rfl rfl)
theorem dL_law_712 : decode cL_law 712 = .ok (.iadd, 1) := dk_96 (dk_at dksL_law_23 0 rfl rfl)
theorem dL_law_713 : decode cL_law 713 = .ok (.iaload, 1) := dk_46 (dk_at dksL_law_23 1 rfl rfl)
theorem dL_law_714 : decode cL_law 714 = .ok (.invokevirtual 196, 3) := dk_182 0 196 (dk_at dksL_law_23 2 rfl rfl)
theorem dL_law_717 : decode cL_law 717 = .ok (.istore 7, 2) := dk_54 7 (dk_at dksL_law_23 5 rfl rfl)
theorem dL_law_719 : decode cL_law 719 = .ok (.aload_n 2, 1) := dk_44 (dk_at dksL_law_23 7 rfl rfl)
theorem dL_law_720 : decode cL_law 720 = .ok (.invokevirtual 175, 3) := dk_182 0 175 (dk_at dksL_law_23 8 rfl rfl)
theorem dL_law_723 : decode cL_law 723 = .ok (.iload 6, 2) := dk_21 6 (dk_at dksL_law_23 11 rfl rfl)
theorem dL_law_725 : decode cL_law 725 = .ok (.if_icmp .eq 5, 3) := dk_159 0 5 (dk_at dksL_law_23 13 rfl rfl)
theorem dL_law_728 : decode cL_law 728 = .ok (.iconst 0, 1) := dk_3 (dk_at dksL_law_23 16 rfl rfl)
theorem dL_law_729 : decode cL_law 729 = .ok (.ireturn, 1) := dk_172 (dk_at dksL_law_23 17 rfl rfl)
theorem dL_law_730 : decode cL_law 730 = .ok (.iload 6, 2) := dk_21 6 (dk_at dksL_law_23 18 rfl rfl)
theorem dL_law_732 : decode cL_law 732 = .ok (.ifCond .ne 15, 3) := dk_154 0 15 (dk_at dksL_law_23 20 rfl rfl)
theorem dL_law_735 : decode cL_law 735 = .ok (.aload_n 3, 1) := dk_45 (dk_at dksL_law_23 23 rfl rfl)
theorem dL_law_736 : decode cL_law 736 = .ok (.iconst 0, 1) := dk_3 (dk_at dksL_law_24 0 rfl rfl)
theorem dL_law_737 : decode cL_law 737 = .ok (.laload, 1) := dk_47 (dk_at dksL_law_24 1 rfl rfl)
theorem dL_law_738 : decode cL_law 738 = .ok (.iload 7, 2) := dk_21 7 (dk_at dksL_law_24 2 rfl rfl)
theorem dL_law_740 : decode cL_law 740 = .ok (.i2l, 1) := dk_133 (dk_at dksL_law_24 4 rfl rfl)
theorem dL_law_741 : decode cL_law 741 = .ok (.lcmp, 1) := dk_148 (dk_at dksL_law_24 5 rfl rfl)
theorem dL_law_742 : decode cL_law 742 = .ok (.ifCond .eq 5, 3) := dk_153 0 5 (dk_at dksL_law_24 6 rfl rfl)
theorem dL_law_745 : decode cL_law 745 = .ok (.iconst 0, 1) := dk_3 (dk_at dksL_law_24 9 rfl rfl)
theorem dL_law_746 : decode cL_law 746 = .ok (.ireturn, 1) := dk_172 (dk_at dksL_law_24 10 rfl rfl)
theorem dL_law_747 : decode cL_law 747 = .ok (.goto 2640, 3) := dk_167 10 80 (dk_at dksL_law_24 11 rfl rfl)
theorem dL_law_750 : decode cL_law 750 = .ok (.aload_n 1, 1) := dk_43 (dk_at dksL_law_24 14 rfl rfl)
theorem dL_law_751 : decode cL_law 751 = .ok (.aload_n 0, 1) := dk_42 (dk_at dksL_law_24 15 rfl rfl)
theorem dL_law_752 : decode cL_law 752 = .ok (.iload 5, 2) := dk_21 5 (dk_at dksL_law_24 16 rfl rfl)
theorem dL_law_754 : decode cL_law 754 = .ok (.iconst 1, 1) := dk_4 (dk_at dksL_law_24 18 rfl rfl)
theorem dL_law_755 : decode cL_law 755 = .ok (.iadd, 1) := dk_96 (dk_at dksL_law_24 19 rfl rfl)
theorem dL_law_756 : decode cL_law 756 = .ok (.iaload, 1) := dk_46 (dk_at dksL_law_24 20 rfl rfl)
theorem dL_law_757 : decode cL_law 757 = .ok (.aload_n 0, 1) := dk_42 (dk_at dksL_law_24 21 rfl rfl)
theorem dL_law_758 : decode cL_law 758 = .ok (.iload 5, 2) := dk_21 5 (dk_at dksL_law_24 22 rfl rfl)
theorem dL_law_760 : decode cL_law 760 = .ok (.iconst 2, 1) := dk_5 (dk_at dksL_law_25 0 rfl rfl)
theorem dL_law_761 : decode cL_law 761 = .ok (.iadd, 1) := dk_96 (dk_at dksL_law_25 1 rfl rfl)
theorem dL_law_762 : decode cL_law 762 = .ok (.iaload, 1) := dk_46 (dk_at dksL_law_25 2 rfl rfl)
theorem dL_law_763 : decode cL_law 763 = .ok (.aload_n 3, 1) := dk_45 (dk_at dksL_law_25 3 rfl rfl)
theorem dL_law_764 : decode cL_law 764 = .ok (.invokestatic 197, 3) := dk_184 0 197 (dk_at dksL_law_25 4 rfl rfl)
theorem dL_law_767 : decode cL_law 767 = .ok (.istore 6, 2) := dk_54 6 (dk_at dksL_law_25 7 rfl rfl)
theorem dL_law_769 : decode cL_law 769 = .ok (.aload_n 2, 1) := dk_44 (dk_at dksL_law_25 9 rfl rfl)
theorem dL_law_770 : decode cL_law 770 = .ok (.aload_n 0, 1) := dk_42 (dk_at dksL_law_25 10 rfl rfl)
theorem dL_law_771 : decode cL_law 771 = .ok (.iload 5, 2) := dk_21 5 (dk_at dksL_law_25 11 rfl rfl)
theorem dL_law_773 : decode cL_law 773 = .ok (.iconst 1, 1) := dk_4 (dk_at dksL_law_25 13 rfl rfl)
theorem dL_law_774 : decode cL_law 774 = .ok (.iadd, 1) := dk_96 (dk_at dksL_law_25 14 rfl rfl)
theorem dL_law_775 : decode cL_law 775 = .ok (.iaload, 1) := dk_46 (dk_at dksL_law_25 15 rfl rfl)
theorem dL_law_776 : decode cL_law 776 = .ok (.aload_n 0, 1) := dk_42 (dk_at dksL_law_25 16 rfl rfl)
theorem dL_law_777 : decode cL_law 777 = .ok (.iload 5, 2) := dk_21 5 (dk_at dksL_law_25 17 rfl rfl)
theorem dL_law_779 : decode cL_law 779 = .ok (.iconst 2, 1) := dk_5 (dk_at dksL_law_25 19 rfl rfl)
theorem dL_law_780 : decode cL_law 780 = .ok (.iadd, 1) := dk_96 (dk_at dksL_law_25 20 rfl rfl)
theorem dL_law_781 : decode cL_law 781 = .ok (.iaload, 1) := dk_46 (dk_at dksL_law_25 21 rfl rfl)
theorem dL_law_782 : decode cL_law 782 = .ok (.invokevirtual 199, 3) := dk_182 0 199 (dk_at dksL_law_26 0 rfl rfl)
theorem dL_law_785 : decode cL_law 785 = .ok (.istore 7, 2) := dk_54 7 (dk_at dksL_law_26 3 rfl rfl)
theorem dL_law_787 : decode cL_law 787 = .ok (.aload_n 2, 1) := dk_44 (dk_at dksL_law_26 5 rfl rfl)
theorem dL_law_788 : decode cL_law 788 = .ok (.invokevirtual 175, 3) := dk_182 0 175 (dk_at dksL_law_26 6 rfl rfl)
theorem dL_law_791 : decode cL_law 791 = .ok (.iload 6, 2) := dk_21 6 (dk_at dksL_law_26 9 rfl rfl)
theorem dL_law_793 : decode cL_law 793 = .ok (.if_icmp .eq 5, 3) := dk_159 0 5 (dk_at dksL_law_26 11 rfl rfl)
theorem dL_law_796 : decode cL_law 796 = .ok (.iconst 0, 1) := dk_3 (dk_at dksL_law_26 14 rfl rfl)
theorem dL_law_797 : decode cL_law 797 = .ok (.ireturn, 1) := dk_172 (dk_at dksL_law_26 15 rfl rfl)
theorem dL_law_798 : decode cL_law 798 = .ok (.iload 6, 2) := dk_21 6 (dk_at dksL_law_26 16 rfl rfl)
theorem dL_law_800 : decode cL_law 800 = .ok (.ifCond .ne 15, 3) := dk_154 0 15 (dk_at dksL_law_26 18 rfl rfl)
theorem dL_law_803 : decode cL_law 803 = .ok (.aload_n 3, 1) := dk_45 (dk_at dksL_law_26 21 rfl rfl)
theorem dL_law_804 : decode cL_law 804 = .ok (.iconst 0, 1) := dk_3 (dk_at dksL_law_26 22 rfl rfl)
theorem dL_law_805 : decode cL_law 805 = .ok (.laload, 1) := dk_47 (dk_at dksL_law_26 23 rfl rfl)
theorem dL_law_806 : decode cL_law 806 = .ok (.iload 7, 2) := dk_21 7 (dk_at dksL_law_27 0 rfl rfl)
theorem dL_law_808 : decode cL_law 808 = .ok (.i2l, 1) := dk_133 (dk_at dksL_law_27 2 rfl rfl)
theorem dL_law_809 : decode cL_law 809 = .ok (.lcmp, 1) := dk_148 (dk_at dksL_law_27 3 rfl rfl)
theorem dL_law_810 : decode cL_law 810 = .ok (.ifCond .eq 5, 3) := dk_153 0 5 (dk_at dksL_law_27 4 rfl rfl)
theorem dL_law_813 : decode cL_law 813 = .ok (.iconst 0, 1) := dk_3 (dk_at dksL_law_27 7 rfl rfl)
theorem dL_law_814 : decode cL_law 814 = .ok (.ireturn, 1) := dk_172 (dk_at dksL_law_27 8 rfl rfl)
theorem dL_law_815 : decode cL_law 815 = .ok (.goto 2572, 3) := dk_167 10 12 (dk_at dksL_law_27 9 rfl rfl)
theorem dL_law_818 : decode cL_law 818 = .ok (.aload_n 1, 1) := dk_43 (dk_at dksL_law_27 12 rfl rfl)
theorem dL_law_819 : decode cL_law 819 = .ok (.aload_n 0, 1) := dk_42 (dk_at dksL_law_27 13 rfl rfl)
theorem dL_law_820 : decode cL_law 820 = .ok (.iload 5, 2) := dk_21 5 (dk_at dksL_law_27 14 rfl rfl)
theorem dL_law_822 : decode cL_law 822 = .ok (.iconst 1, 1) := dk_4 (dk_at dksL_law_27 16 rfl rfl)
theorem dL_law_823 : decode cL_law 823 = .ok (.iadd, 1) := dk_96 (dk_at dksL_law_27 17 rfl rfl)
theorem dL_law_824 : decode cL_law 824 = .ok (.iaload, 1) := dk_46 (dk_at dksL_law_27 18 rfl rfl)
theorem dL_law_825 : decode cL_law 825 = .ok (.aload_n 0, 1) := dk_42 (dk_at dksL_law_27 19 rfl rfl)
theorem dL_law_826 : decode cL_law 826 = .ok (.iload 5, 2) := dk_21 5 (dk_at dksL_law_27 20 rfl rfl)
theorem dL_law_828 : decode cL_law 828 = .ok (.iconst 2, 1) := dk_5 (dk_at dksL_law_27 22 rfl rfl)
theorem dL_law_829 : decode cL_law 829 = .ok (.iadd, 1) := dk_96 (dk_at dksL_law_27 23 rfl rfl)
theorem dL_law_830 : decode cL_law 830 = .ok (.iaload, 1) := dk_46 (dk_at dksL_law_28 0 rfl rfl)
theorem dL_law_831 : decode cL_law 831 = .ok (.aload_n 3, 1) := dk_45 (dk_at dksL_law_28 1 rfl rfl)
theorem dL_law_832 : decode cL_law 832 = .ok (.invokestatic 200, 3) := dk_184 0 200 (dk_at dksL_law_28 2 rfl rfl)
theorem dL_law_835 : decode cL_law 835 = .ok (.istore 6, 2) := dk_54 6 (dk_at dksL_law_28 5 rfl rfl)
theorem dL_law_837 : decode cL_law 837 = .ok (.aload_n 2, 1) := dk_44 (dk_at dksL_law_28 7 rfl rfl)
theorem dL_law_838 : decode cL_law 838 = .ok (.aload_n 0, 1) := dk_42 (dk_at dksL_law_28 8 rfl rfl)
theorem dL_law_839 : decode cL_law 839 = .ok (.iload 5, 2) := dk_21 5 (dk_at dksL_law_28 9 rfl rfl)
theorem dL_law_841 : decode cL_law 841 = .ok (.iconst 1, 1) := dk_4 (dk_at dksL_law_28 11 rfl rfl)
theorem dL_law_842 : decode cL_law 842 = .ok (.iadd, 1) := dk_96 (dk_at dksL_law_28 12 rfl rfl)
theorem dL_law_843 : decode cL_law 843 = .ok (.iaload, 1) := dk_46 (dk_at dksL_law_28 13 rfl rfl)
theorem dL_law_844 : decode cL_law 844 = .ok (.aload_n 0, 1) := dk_42 (dk_at dksL_law_28 14 rfl rfl)
theorem dL_law_845 : decode cL_law 845 = .ok (.iload 5, 2) := dk_21 5 (dk_at dksL_law_28 15 rfl rfl)
theorem dL_law_847 : decode cL_law 847 = .ok (.iconst 2, 1) := dk_5 (dk_at dksL_law_28 17 rfl rfl)
theorem dL_law_848 : decode cL_law 848 = .ok (.iadd, 1) := dk_96 (dk_at dksL_law_28 18 rfl rfl)
theorem dL_law_849 : decode cL_law 849 = .ok (.iaload, 1) := dk_46 (dk_at dksL_law_28 19 rfl rfl)
theorem dL_law_850 : decode cL_law 850 = .ok (.invokevirtual 202, 3) := dk_182 0 202 (dk_at dksL_law_28 20 rfl rfl)
theorem dL_law_853 : decode cL_law 853 = .ok (.istore 7, 2) := dk_54 7 (dk_at dksL_law_29 0 rfl rfl)
theorem dL_law_855 : decode cL_law 855 = .ok (.aload_n 2, 1) := dk_44 (dk_at dksL_law_29 2 rfl rfl)
theorem dL_law_856 : decode cL_law 856 = .ok (.invokevirtual 175, 3) := dk_182 0 175 (dk_at dksL_law_29 3 rfl rfl)
theorem dL_law_859 : decode cL_law 859 = .ok (.iload 6, 2) := dk_21 6 (dk_at dksL_law_29 6 rfl rfl)
theorem dL_law_861 : decode cL_law 861 = .ok (.if_icmp .eq 5, 3) := dk_159 0 5 (dk_at dksL_law_29 8 rfl rfl)
theorem dL_law_864 : decode cL_law 864 = .ok (.iconst 0, 1) := dk_3 (dk_at dksL_law_29 11 rfl rfl)
theorem dL_law_865 : decode cL_law 865 = .ok (.ireturn, 1) := dk_172 (dk_at dksL_law_29 12 rfl rfl)
theorem dL_law_866 : decode cL_law 866 = .ok (.iload 6, 2) := dk_21 6 (dk_at dksL_law_29 13 rfl rfl)
theorem dL_law_868 : decode cL_law 868 = .ok (.ifCond .ne 15, 3) := dk_154 0 15 (dk_at dksL_law_29 15 rfl rfl)
theorem dL_law_871 : decode cL_law 871 = .ok (.aload_n 3, 1) := dk_45 (dk_at dksL_law_29 18 rfl rfl)
theorem dL_law_872 : decode cL_law 872 = .ok (.iconst 0, 1) := dk_3 (dk_at dksL_law_29 19 rfl rfl)
theorem dL_law_873 : decode cL_law 873 = .ok (.laload, 1) := dk_47 (dk_at dksL_law_29 20 rfl rfl)
theorem dL_law_874 : decode cL_law 874 = .ok (.iload 7, 2) := dk_21 7 (dk_at dksL_law_29 21 rfl rfl)
theorem dL_law_876 : decode cL_law 876 = .ok (.i2l, 1) := dk_133 (dk_at dksL_law_29 23 rfl rfl)
theorem dL_law_877 : decode cL_law 877 = .ok (.lcmp, 1) := dk_148 (dk_at dksL_law_30 0 rfl rfl)
theorem dL_law_878 : decode cL_law 878 = .ok (.ifCond .eq 5, 3) := dk_153 0 5 (dk_at dksL_law_30 1 rfl rfl)
theorem dL_law_881 : decode cL_law 881 = .ok (.iconst 0, 1) := dk_3 (dk_at dksL_law_30 4 rfl rfl)
theorem dL_law_882 : decode cL_law 882 = .ok (.ireturn, 1) := dk_172 (dk_at dksL_law_30 5 rfl rfl)
theorem dL_law_883 : decode cL_law 883 = .ok (.goto 2504, 3) := dk_167 9 200 (dk_at dksL_law_30 6 rfl rfl)
theorem dL_law_886 : decode cL_law 886 = .ok (.aload_n 1, 1) := dk_43 (dk_at dksL_law_30 9 rfl rfl)
theorem dL_law_887 : decode cL_law 887 = .ok (.aload_n 0, 1) := dk_42 (dk_at dksL_law_30 10 rfl rfl)
theorem dL_law_888 : decode cL_law 888 = .ok (.iload 5, 2) := dk_21 5 (dk_at dksL_law_30 11 rfl rfl)
theorem dL_law_890 : decode cL_law 890 = .ok (.iconst 1, 1) := dk_4 (dk_at dksL_law_30 13 rfl rfl)
theorem dL_law_891 : decode cL_law 891 = .ok (.iadd, 1) := dk_96 (dk_at dksL_law_30 14 rfl rfl)
theorem dL_law_892 : decode cL_law 892 = .ok (.iaload, 1) := dk_46 (dk_at dksL_law_30 15 rfl rfl)
theorem dL_law_893 : decode cL_law 893 = .ok (.aload_n 0, 1) := dk_42 (dk_at dksL_law_30 16 rfl rfl)
theorem dL_law_894 : decode cL_law 894 = .ok (.iload 5, 2) := dk_21 5 (dk_at dksL_law_30 17 rfl rfl)
theorem dL_law_896 : decode cL_law 896 = .ok (.iconst 2, 1) := dk_5 (dk_at dksL_law_30 19 rfl rfl)
theorem dL_law_897 : decode cL_law 897 = .ok (.iadd, 1) := dk_96 (dk_at dksL_law_30 20 rfl rfl)
theorem dL_law_898 : decode cL_law 898 = .ok (.iaload, 1) := dk_46 (dk_at dksL_law_30 21 rfl rfl)
theorem dL_law_899 : decode cL_law 899 = .ok (.aload_n 0, 1) := dk_42 (dk_at dksL_law_30 22 rfl rfl)
theorem dL_law_900 : decode cL_law 900 = .ok (.iload 5, 2) := dk_21 5 (dk_at dksL_law_31 0 rfl rfl)
theorem dL_law_902 : decode cL_law 902 = .ok (.iconst 3, 1) := dk_6 (dk_at dksL_law_31 2 rfl rfl)
theorem dL_law_903 : decode cL_law 903 = .ok (.iadd, 1) := dk_96 (dk_at dksL_law_31 3 rfl rfl)
theorem dL_law_904 : decode cL_law 904 = .ok (.iaload, 1) := dk_46 (dk_at dksL_law_31 4 rfl rfl)
theorem dL_law_905 : decode cL_law 905 = .ok (.i2c, 1) := dk_146 (dk_at dksL_law_31 5 rfl rfl)
theorem dL_law_906 : decode cL_law 906 = .ok (.aload_n 0, 1) := dk_42 (dk_at dksL_law_31 6 rfl rfl)
theorem dL_law_907 : decode cL_law 907 = .ok (.iload 5, 2) := dk_21 5 (dk_at dksL_law_31 7 rfl rfl)
theorem dL_law_909 : decode cL_law 909 = .ok (.iconst 4, 1) := dk_7 (dk_at dksL_law_31 9 rfl rfl)
theorem dL_law_910 : decode cL_law 910 = .ok (.iadd, 1) := dk_96 (dk_at dksL_law_31 10 rfl rfl)
theorem dL_law_911 : decode cL_law 911 = .ok (.iaload, 1) := dk_46 (dk_at dksL_law_31 11 rfl rfl)
theorem dL_law_912 : decode cL_law 912 = .ok (.aload_n 0, 1) := dk_42 (dk_at dksL_law_31 12 rfl rfl)
theorem dL_law_913 : decode cL_law 913 = .ok (.iload 5, 2) := dk_21 5 (dk_at dksL_law_31 13 rfl rfl)
theorem dL_law_915 : decode cL_law 915 = .ok (.iconst 5, 1) := dk_8 (dk_at dksL_law_31 15 rfl rfl)
theorem dL_law_916 : decode cL_law 916 = .ok (.iadd, 1) := dk_96 (dk_at dksL_law_31 16 rfl rfl)
theorem dL_law_917 : decode cL_law 917 = .ok (.iaload, 1) := dk_46 (dk_at dksL_law_31 17 rfl rfl)
theorem dL_law_918 : decode cL_law 918 = .ok (.i2c, 1) := dk_146 (dk_at dksL_law_31 18 rfl rfl)
theorem dL_law_919 : decode cL_law 919 = .ok (.aload_n 3, 1) := dk_45 (dk_at dksL_law_31 19 rfl rfl)
theorem dL_law_920 : decode cL_law 920 = .ok (.invokestatic 203, 3) := dk_184 0 203 (dk_at dksL_law_31 20 rfl rfl)
theorem dL_law_923 : decode cL_law 923 = .ok (.istore 6, 2) := dk_54 6 (dk_at dksL_law_32 0 rfl rfl)
theorem dL_law_925 : decode cL_law 925 = .ok (.aload_n 2, 1) := dk_44 (dk_at dksL_law_32 2 rfl rfl)
theorem dL_law_926 : decode cL_law 926 = .ok (.aload_n 0, 1) := dk_42 (dk_at dksL_law_32 3 rfl rfl)
theorem dL_law_927 : decode cL_law 927 = .ok (.iload 5, 2) := dk_21 5 (dk_at dksL_law_32 4 rfl rfl)
theorem dL_law_929 : decode cL_law 929 = .ok (.iconst 1, 1) := dk_4 (dk_at dksL_law_32 6 rfl rfl)
theorem dL_law_930 : decode cL_law 930 = .ok (.iadd, 1) := dk_96 (dk_at dksL_law_32 7 rfl rfl)
theorem dL_law_931 : decode cL_law 931 = .ok (.iaload, 1) := dk_46 (dk_at dksL_law_32 8 rfl rfl)
theorem dL_law_932 : decode cL_law 932 = .ok (.aload_n 0, 1) := dk_42 (dk_at dksL_law_32 9 rfl rfl)
theorem dL_law_933 : decode cL_law 933 = .ok (.iload 5, 2) := dk_21 5 (dk_at dksL_law_32 10 rfl rfl)
theorem dL_law_935 : decode cL_law 935 = .ok (.iconst 2, 1) := dk_5 (dk_at dksL_law_32 12 rfl rfl)
theorem dL_law_936 : decode cL_law 936 = .ok (.iadd, 1) := dk_96 (dk_at dksL_law_32 13 rfl rfl)
theorem dL_law_937 : decode cL_law 937 = .ok (.iaload, 1) := dk_46 (dk_at dksL_law_32 14 rfl rfl)
theorem dL_law_938 : decode cL_law 938 = .ok (.aload_n 0, 1) := dk_42 (dk_at dksL_law_32 15 rfl rfl)
theorem dL_law_939 : decode cL_law 939 = .ok (.iload 5, 2) := dk_21 5 (dk_at dksL_law_32 16 rfl rfl)
theorem dL_law_941 : decode cL_law 941 = .ok (.iconst 3, 1) := dk_6 (dk_at dksL_law_32 18 rfl rfl)
theorem dL_law_942 : decode cL_law 942 = .ok (.iadd, 1) := dk_96 (dk_at dksL_law_32 19 rfl rfl)
theorem dL_law_943 : decode cL_law 943 = .ok (.iaload, 1) := dk_46 (dk_at dksL_law_32 20 rfl rfl)
theorem dL_law_944 : decode cL_law 944 = .ok (.i2c, 1) := dk_146 (dk_at dksL_law_32 21 rfl rfl)
theorem dL_law_945 : decode cL_law 945 = .ok (.aload_n 0, 1) := dk_42 (dk_at dksL_law_32 22 rfl rfl)
theorem dL_law_946 : decode cL_law 946 = .ok (.iload 5, 2) := dk_21 5 (dk_at dksL_law_33 0 rfl rfl)
theorem dL_law_948 : decode cL_law 948 = .ok (.iconst 4, 1) := dk_7 (dk_at dksL_law_33 2 rfl rfl)
theorem dL_law_949 : decode cL_law 949 = .ok (.iadd, 1) := dk_96 (dk_at dksL_law_33 3 rfl rfl)
theorem dL_law_950 : decode cL_law 950 = .ok (.iaload, 1) := dk_46 (dk_at dksL_law_33 4 rfl rfl)
theorem dL_law_951 : decode cL_law 951 = .ok (.aload_n 0, 1) := dk_42 (dk_at dksL_law_33 5 rfl rfl)
theorem dL_law_952 : decode cL_law 952 = .ok (.iload 5, 2) := dk_21 5 (dk_at dksL_law_33 6 rfl rfl)
theorem dL_law_954 : decode cL_law 954 = .ok (.iconst 5, 1) := dk_8 (dk_at dksL_law_33 8 rfl rfl)
theorem dL_law_955 : decode cL_law 955 = .ok (.iadd, 1) := dk_96 (dk_at dksL_law_33 9 rfl rfl)
theorem dL_law_956 : decode cL_law 956 = .ok (.iaload, 1) := dk_46 (dk_at dksL_law_33 10 rfl rfl)
theorem dL_law_957 : decode cL_law 957 = .ok (.i2c, 1) := dk_146 (dk_at dksL_law_33 11 rfl rfl)
theorem dL_law_958 : decode cL_law 958 = .ok (.invokevirtual 206, 3) := dk_182 0 206 (dk_at dksL_law_33 12 rfl rfl)
theorem dL_law_961 : decode cL_law 961 = .ok (.istore 7, 2) := dk_54 7 (dk_at dksL_law_33 15 rfl rfl)
theorem dL_law_963 : decode cL_law 963 = .ok (.aload_n 2, 1) := dk_44 (dk_at dksL_law_33 17 rfl rfl)
theorem dL_law_964 : decode cL_law 964 = .ok (.invokevirtual 175, 3) := dk_182 0 175 (dk_at dksL_law_33 18 rfl rfl)
theorem dL_law_967 : decode cL_law 967 = .ok (.iload 6, 2) := dk_21 6 (dk_at dksL_law_33 21 rfl rfl)
theorem dL_law_969 : decode cL_law 969 = .ok (.if_icmp .eq 5, 3) := dk_159 0 5 (dk_at dksL_law_34 0 rfl rfl)
theorem dL_law_972 : decode cL_law 972 = .ok (.iconst 0, 1) := dk_3 (dk_at dksL_law_34 3 rfl rfl)
theorem dL_law_973 : decode cL_law 973 = .ok (.ireturn, 1) := dk_172 (dk_at dksL_law_34 4 rfl rfl)
theorem dL_law_974 : decode cL_law 974 = .ok (.iload 6, 2) := dk_21 6 (dk_at dksL_law_34 5 rfl rfl)
theorem dL_law_976 : decode cL_law 976 = .ok (.ifCond .ne 15, 3) := dk_154 0 15 (dk_at dksL_law_34 7 rfl rfl)
theorem dL_law_979 : decode cL_law 979 = .ok (.aload_n 3, 1) := dk_45 (dk_at dksL_law_34 10 rfl rfl)
theorem dL_law_980 : decode cL_law 980 = .ok (.iconst 0, 1) := dk_3 (dk_at dksL_law_34 11 rfl rfl)
theorem dL_law_981 : decode cL_law 981 = .ok (.laload, 1) := dk_47 (dk_at dksL_law_34 12 rfl rfl)
theorem dL_law_982 : decode cL_law 982 = .ok (.iload 7, 2) := dk_21 7 (dk_at dksL_law_34 13 rfl rfl)
theorem dL_law_984 : decode cL_law 984 = .ok (.i2l, 1) := dk_133 (dk_at dksL_law_34 15 rfl rfl)
theorem dL_law_985 : decode cL_law 985 = .ok (.lcmp, 1) := dk_148 (dk_at dksL_law_34 16 rfl rfl)
theorem dL_law_986 : decode cL_law 986 = .ok (.ifCond .eq 5, 3) := dk_153 0 5 (dk_at dksL_law_34 17 rfl rfl)
theorem dL_law_989 : decode cL_law 989 = .ok (.iconst 0, 1) := dk_3 (dk_at dksL_law_34 20 rfl rfl)
theorem dL_law_990 : decode cL_law 990 = .ok (.ireturn, 1) := dk_172 (dk_at dksL_law_34 21 rfl rfl)
theorem dL_law_991 : decode cL_law 991 = .ok (.goto 2396, 3) := dk_167 9 92 (dk_at dksL_law_35 0 rfl rfl)
theorem dL_law_994 : decode cL_law 994 = .ok (.aload_n 1, 1) := dk_43 (dk_at dksL_law_35 3 rfl rfl)
theorem dL_law_995 : decode cL_law 995 = .ok (.aload_n 0, 1) := dk_42 (dk_at dksL_law_35 4 rfl rfl)
theorem dL_law_996 : decode cL_law 996 = .ok (.iload 5, 2) := dk_21 5 (dk_at dksL_law_35 5 rfl rfl)
theorem dL_law_998 : decode cL_law 998 = .ok (.iconst 1, 1) := dk_4 (dk_at dksL_law_35 7 rfl rfl)
theorem dL_law_999 : decode cL_law 999 = .ok (.iadd, 1) := dk_96 (dk_at dksL_law_35 8 rfl rfl)
theorem dL_law_1000 : decode cL_law 1000 = .ok (.iaload, 1) := dk_46 (dk_at dksL_law_35 9 rfl rfl)
theorem dL_law_1001 : decode cL_law 1001 = .ok (.aload_n 0, 1) := dk_42 (dk_at dksL_law_35 10 rfl rfl)
theorem dL_law_1002 : decode cL_law 1002 = .ok (.iload 5, 2) := dk_21 5 (dk_at dksL_law_35 11 rfl rfl)
theorem dL_law_1004 : decode cL_law 1004 = .ok (.iconst 2, 1) := dk_5 (dk_at dksL_law_35 13 rfl rfl)
theorem dL_law_1005 : decode cL_law 1005 = .ok (.iadd, 1) := dk_96 (dk_at dksL_law_35 14 rfl rfl)
theorem dL_law_1006 : decode cL_law 1006 = .ok (.iaload, 1) := dk_46 (dk_at dksL_law_35 15 rfl rfl)
theorem dL_law_1007 : decode cL_law 1007 = .ok (.aload_n 3, 1) := dk_45 (dk_at dksL_law_35 16 rfl rfl)
theorem dL_law_1008 : decode cL_law 1008 = .ok (.invokestatic 207, 3) := dk_184 0 207 (dk_at dksL_law_35 17 rfl rfl)
theorem dL_law_1011 : decode cL_law 1011 = .ok (.istore 6, 2) := dk_54 6 (dk_at dksL_law_35 20 rfl rfl)
theorem dL_law_1013 : decode cL_law 1013 = .ok (.aload_n 2, 1) := dk_44 (dk_at dksL_law_35 22 rfl rfl)
theorem dL_law_1014 : decode cL_law 1014 = .ok (.aload_n 0, 1) := dk_42 (dk_at dksL_law_35 23 rfl rfl)
theorem dL_law_1015 : decode cL_law 1015 = .ok (.iload 5, 2) := dk_21 5 (dk_at dksL_law_36 0 rfl rfl)
theorem dL_law_1017 : decode cL_law 1017 = .ok (.iconst 1, 1) := dk_4 (dk_at dksL_law_36 2 rfl rfl)
theorem dL_law_1018 : decode cL_law 1018 = .ok (.iadd, 1) := dk_96 (dk_at dksL_law_36 3 rfl rfl)
theorem dL_law_1019 : decode cL_law 1019 = .ok (.iaload, 1) := dk_46 (dk_at dksL_law_36 4 rfl rfl)
theorem dL_law_1020 : decode cL_law 1020 = .ok (.aload_n 0, 1) := dk_42 (dk_at dksL_law_36 5 rfl rfl)
theorem dL_law_1021 : decode cL_law 1021 = .ok (.iload 5, 2) := dk_21 5 (dk_at dksL_law_36 6 rfl rfl)
theorem dL_law_1023 : decode cL_law 1023 = .ok (.iconst 2, 1) := dk_5 (dk_at dksL_law_36 8 rfl rfl)
theorem dL_law_1024 : decode cL_law 1024 = .ok (.iadd, 1) := dk_96 (dk_at dksL_law_36 9 rfl rfl)
theorem dL_law_1025 : decode cL_law 1025 = .ok (.iaload, 1) := dk_46 (dk_at dksL_law_36 10 rfl rfl)
theorem dL_law_1026 : decode cL_law 1026 = .ok (.invokevirtual 209, 3) := dk_182 0 209 (dk_at dksL_law_36 11 rfl rfl)
theorem dL_law_1029 : decode cL_law 1029 = .ok (.istore 7, 2) := dk_54 7 (dk_at dksL_law_36 14 rfl rfl)
theorem dL_law_1031 : decode cL_law 1031 = .ok (.aload_n 2, 1) := dk_44 (dk_at dksL_law_36 16 rfl rfl)
theorem dL_law_1032 : decode cL_law 1032 = .ok (.invokevirtual 175, 3) := dk_182 0 175 (dk_at dksL_law_36 17 rfl rfl)
theorem dL_law_1035 : decode cL_law 1035 = .ok (.iload 6, 2) := dk_21 6 (dk_at dksL_law_36 20 rfl rfl)
theorem dL_law_1037 : decode cL_law 1037 = .ok (.if_icmp .eq 5, 3) := dk_159 0 5 (dk_at dksL_law_37 0 rfl rfl)
theorem dL_law_1040 : decode cL_law 1040 = .ok (.iconst 0, 1) := dk_3 (dk_at dksL_law_37 3 rfl rfl)
theorem dL_law_1041 : decode cL_law 1041 = .ok (.ireturn, 1) := dk_172 (dk_at dksL_law_37 4 rfl rfl)
theorem dL_law_1042 : decode cL_law 1042 = .ok (.iload 6, 2) := dk_21 6 (dk_at dksL_law_37 5 rfl rfl)
theorem dL_law_1044 : decode cL_law 1044 = .ok (.ifCond .ne 15, 3) := dk_154 0 15 (dk_at dksL_law_37 7 rfl rfl)
theorem dL_law_1047 : decode cL_law 1047 = .ok (.aload_n 3, 1) := dk_45 (dk_at dksL_law_37 10 rfl rfl)
theorem dL_law_1048 : decode cL_law 1048 = .ok (.iconst 0, 1) := dk_3 (dk_at dksL_law_37 11 rfl rfl)
theorem dL_law_1049 : decode cL_law 1049 = .ok (.laload, 1) := dk_47 (dk_at dksL_law_37 12 rfl rfl)
theorem dL_law_1050 : decode cL_law 1050 = .ok (.iload 7, 2) := dk_21 7 (dk_at dksL_law_37 13 rfl rfl)
theorem dL_law_1052 : decode cL_law 1052 = .ok (.i2l, 1) := dk_133 (dk_at dksL_law_37 15 rfl rfl)
theorem dL_law_1053 : decode cL_law 1053 = .ok (.lcmp, 1) := dk_148 (dk_at dksL_law_37 16 rfl rfl)
theorem dL_law_1054 : decode cL_law 1054 = .ok (.ifCond .eq 5, 3) := dk_153 0 5 (dk_at dksL_law_37 17 rfl rfl)
theorem dL_law_1057 : decode cL_law 1057 = .ok (.iconst 0, 1) := dk_3 (dk_at dksL_law_37 20 rfl rfl)
theorem dL_law_1058 : decode cL_law 1058 = .ok (.ireturn, 1) := dk_172 (dk_at dksL_law_37 21 rfl rfl)
theorem dL_law_1059 : decode cL_law 1059 = .ok (.goto 2328, 3) := dk_167 9 24 (dk_at dksL_law_38 0 rfl rfl)
theorem dL_law_1062 : decode cL_law 1062 = .ok (.aload_n 1, 1) := dk_43 (dk_at dksL_law_38 3 rfl rfl)
theorem dL_law_1063 : decode cL_law 1063 = .ok (.aload_n 0, 1) := dk_42 (dk_at dksL_law_38 4 rfl rfl)
theorem dL_law_1064 : decode cL_law 1064 = .ok (.iload 5, 2) := dk_21 5 (dk_at dksL_law_38 5 rfl rfl)
theorem dL_law_1066 : decode cL_law 1066 = .ok (.iconst 1, 1) := dk_4 (dk_at dksL_law_38 7 rfl rfl)
theorem dL_law_1067 : decode cL_law 1067 = .ok (.iadd, 1) := dk_96 (dk_at dksL_law_38 8 rfl rfl)
theorem dL_law_1068 : decode cL_law 1068 = .ok (.iaload, 1) := dk_46 (dk_at dksL_law_38 9 rfl rfl)
theorem dL_law_1069 : decode cL_law 1069 = .ok (.aload_n 0, 1) := dk_42 (dk_at dksL_law_38 10 rfl rfl)
theorem dL_law_1070 : decode cL_law 1070 = .ok (.iload 5, 2) := dk_21 5 (dk_at dksL_law_38 11 rfl rfl)
theorem dL_law_1072 : decode cL_law 1072 = .ok (.iconst 2, 1) := dk_5 (dk_at dksL_law_38 13 rfl rfl)
theorem dL_law_1073 : decode cL_law 1073 = .ok (.iadd, 1) := dk_96 (dk_at dksL_law_38 14 rfl rfl)
theorem dL_law_1074 : decode cL_law 1074 = .ok (.iaload, 1) := dk_46 (dk_at dksL_law_38 15 rfl rfl)
theorem dL_law_1075 : decode cL_law 1075 = .ok (.aload_n 0, 1) := dk_42 (dk_at dksL_law_38 16 rfl rfl)
theorem dL_law_1076 : decode cL_law 1076 = .ok (.iload 5, 2) := dk_21 5 (dk_at dksL_law_38 17 rfl rfl)
theorem dL_law_1078 : decode cL_law 1078 = .ok (.iconst 3, 1) := dk_6 (dk_at dksL_law_38 19 rfl rfl)
theorem dL_law_1079 : decode cL_law 1079 = .ok (.iadd, 1) := dk_96 (dk_at dksL_law_38 20 rfl rfl)
theorem dL_law_1080 : decode cL_law 1080 = .ok (.iaload, 1) := dk_46 (dk_at dksL_law_38 21 rfl rfl)
theorem dL_law_1081 : decode cL_law 1081 = .ok (.aload_n 3, 1) := dk_45 (dk_at dksL_law_38 22 rfl rfl)
theorem dL_law_1082 : decode cL_law 1082 = .ok (.invokestatic 210, 3) := dk_184 0 210 (dk_at dksL_law_39 0 rfl rfl)
theorem dL_law_1085 : decode cL_law 1085 = .ok (.istore 6, 2) := dk_54 6 (dk_at dksL_law_39 3 rfl rfl)
theorem dL_law_1087 : decode cL_law 1087 = .ok (.aload_n 2, 1) := dk_44 (dk_at dksL_law_39 5 rfl rfl)
theorem dL_law_1088 : decode cL_law 1088 = .ok (.aload_n 0, 1) := dk_42 (dk_at dksL_law_39 6 rfl rfl)
theorem dL_law_1089 : decode cL_law 1089 = .ok (.iload 5, 2) := dk_21 5 (dk_at dksL_law_39 7 rfl rfl)
theorem dL_law_1091 : decode cL_law 1091 = .ok (.iconst 1, 1) := dk_4 (dk_at dksL_law_39 9 rfl rfl)
theorem dL_law_1092 : decode cL_law 1092 = .ok (.iadd, 1) := dk_96 (dk_at dksL_law_39 10 rfl rfl)
theorem dL_law_1093 : decode cL_law 1093 = .ok (.iaload, 1) := dk_46 (dk_at dksL_law_39 11 rfl rfl)
theorem dL_law_1094 : decode cL_law 1094 = .ok (.aload_n 0, 1) := dk_42 (dk_at dksL_law_39 12 rfl rfl)
theorem dL_law_1095 : decode cL_law 1095 = .ok (.iload 5, 2) := dk_21 5 (dk_at dksL_law_39 13 rfl rfl)
theorem dL_law_1097 : decode cL_law 1097 = .ok (.iconst 2, 1) := dk_5 (dk_at dksL_law_39 15 rfl rfl)
theorem dL_law_1098 : decode cL_law 1098 = .ok (.iadd, 1) := dk_96 (dk_at dksL_law_39 16 rfl rfl)
theorem dL_law_1099 : decode cL_law 1099 = .ok (.iaload, 1) := dk_46 (dk_at dksL_law_39 17 rfl rfl)
theorem dL_law_1100 : decode cL_law 1100 = .ok (.aload_n 0, 1) := dk_42 (dk_at dksL_law_39 18 rfl rfl)
theorem dL_law_1101 : decode cL_law 1101 = .ok (.iload 5, 2) := dk_21 5 (dk_at dksL_law_39 19 rfl rfl)
theorem dL_law_1103 : decode cL_law 1103 = .ok (.iconst 3, 1) := dk_6 (dk_at dksL_law_39 21 rfl rfl)
theorem dL_law_1104 : decode cL_law 1104 = .ok (.iadd, 1) := dk_96 (dk_at dksL_law_39 22 rfl rfl)
theorem dL_law_1105 : decode cL_law 1105 = .ok (.iaload, 1) := dk_46 (dk_at dksL_law_39 23 rfl rfl)
theorem dL_law_1106 : decode cL_law 1106 = .ok (.invokevirtual 212, 3) := dk_182 0 212 (dk_at dksL_law_40 0 rfl rfl)
theorem dL_law_1109 : decode cL_law 1109 = .ok (.istore 7, 2) := dk_54 7 (dk_at dksL_law_40 3 rfl rfl)
theorem dL_law_1111 : decode cL_law 1111 = .ok (.aload_n 2, 1) := dk_44 (dk_at dksL_law_40 5 rfl rfl)
theorem dL_law_1112 : decode cL_law 1112 = .ok (.invokevirtual 175, 3) := dk_182 0 175 (dk_at dksL_law_40 6 rfl rfl)
theorem dL_law_1115 : decode cL_law 1115 = .ok (.iload 6, 2) := dk_21 6 (dk_at dksL_law_40 9 rfl rfl)
theorem dL_law_1117 : decode cL_law 1117 = .ok (.if_icmp .eq 5, 3) := dk_159 0 5 (dk_at dksL_law_40 11 rfl rfl)
theorem dL_law_1120 : decode cL_law 1120 = .ok (.iconst 0, 1) := dk_3 (dk_at dksL_law_40 14 rfl rfl)
theorem dL_law_1121 : decode cL_law 1121 = .ok (.ireturn, 1) := dk_172 (dk_at dksL_law_40 15 rfl rfl)
theorem dL_law_1122 : decode cL_law 1122 = .ok (.iload 6, 2) := dk_21 6 (dk_at dksL_law_40 16 rfl rfl)
theorem dL_law_1124 : decode cL_law 1124 = .ok (.ifCond .ne 15, 3) := dk_154 0 15 (dk_at dksL_law_40 18 rfl rfl)
theorem dL_law_1127 : decode cL_law 1127 = .ok (.aload_n 3, 1) := dk_45 (dk_at dksL_law_40 21 rfl rfl)
theorem dL_law_1128 : decode cL_law 1128 = .ok (.iconst 0, 1) := dk_3 (dk_at dksL_law_40 22 rfl rfl)
theorem dL_law_1129 : decode cL_law 1129 = .ok (.laload, 1) := dk_47 (dk_at dksL_law_40 23 rfl rfl)
theorem dL_law_1130 : decode cL_law 1130 = .ok (.iload 7, 2) := dk_21 7 (dk_at dksL_law_41 0 rfl rfl)
theorem dL_law_1132 : decode cL_law 1132 = .ok (.i2l, 1) := dk_133 (dk_at dksL_law_41 2 rfl rfl)
theorem dL_law_1133 : decode cL_law 1133 = .ok (.lcmp, 1) := dk_148 (dk_at dksL_law_41 3 rfl rfl)
theorem dL_law_1134 : decode cL_law 1134 = .ok (.ifCond .eq 5, 3) := dk_153 0 5 (dk_at dksL_law_41 4 rfl rfl)
theorem dL_law_1137 : decode cL_law 1137 = .ok (.iconst 0, 1) := dk_3 (dk_at dksL_law_41 7 rfl rfl)
theorem dL_law_1138 : decode cL_law 1138 = .ok (.ireturn, 1) := dk_172 (dk_at dksL_law_41 8 rfl rfl)
theorem dL_law_1139 : decode cL_law 1139 = .ok (.goto 2248, 3) := dk_167 8 200 (dk_at dksL_law_41 9 rfl rfl)
theorem dL_law_1142 : decode cL_law 1142 = .ok (.aload_n 1, 1) := dk_43 (dk_at dksL_law_41 12 rfl rfl)
theorem dL_law_1143 : decode cL_law 1143 = .ok (.aload_n 0, 1) := dk_42 (dk_at dksL_law_41 13 rfl rfl)
theorem dL_law_1144 : decode cL_law 1144 = .ok (.iload 5, 2) := dk_21 5 (dk_at dksL_law_41 14 rfl rfl)
theorem dL_law_1146 : decode cL_law 1146 = .ok (.iconst 1, 1) := dk_4 (dk_at dksL_law_41 16 rfl rfl)
theorem dL_law_1147 : decode cL_law 1147 = .ok (.iadd, 1) := dk_96 (dk_at dksL_law_41 17 rfl rfl)
theorem dL_law_1148 : decode cL_law 1148 = .ok (.iaload, 1) := dk_46 (dk_at dksL_law_41 18 rfl rfl)
theorem dL_law_1149 : decode cL_law 1149 = .ok (.aload_n 0, 1) := dk_42 (dk_at dksL_law_41 19 rfl rfl)
theorem dL_law_1150 : decode cL_law 1150 = .ok (.iload 5, 2) := dk_21 5 (dk_at dksL_law_41 20 rfl rfl)
theorem dL_law_1152 : decode cL_law 1152 = .ok (.iconst 2, 1) := dk_5 (dk_at dksL_law_41 22 rfl rfl)
theorem dL_law_1153 : decode cL_law 1153 = .ok (.iadd, 1) := dk_96 (dk_at dksL_law_41 23 rfl rfl)
theorem dL_law_1154 : decode cL_law 1154 = .ok (.iaload, 1) := dk_46 (dk_at dksL_law_42 0 rfl rfl)
theorem dL_law_1155 : decode cL_law 1155 = .ok (.ifCond .eq 7, 3) := dk_153 0 7 (dk_at dksL_law_42 1 rfl rfl)
theorem dL_law_1158 : decode cL_law 1158 = .ok (.iconst 1, 1) := dk_4 (dk_at dksL_law_42 4 rfl rfl)
theorem dL_law_1159 : decode cL_law 1159 = .ok (.goto 4, 3) := dk_167 0 4 (dk_at dksL_law_42 5 rfl rfl)
theorem dL_law_1162 : decode cL_law 1162 = .ok (.iconst 0, 1) := dk_3 (dk_at dksL_law_42 8 rfl rfl)
theorem dL_law_1163 : decode cL_law 1163 = .ok (.aload_n 3, 1) := dk_45 (dk_at dksL_law_42 9 rfl rfl)
theorem dL_law_1164 : decode cL_law 1164 = .ok (.invokestatic 213, 3) := dk_184 0 213 (dk_at dksL_law_42 10 rfl rfl)
theorem dL_law_1167 : decode cL_law 1167 = .ok (.istore 6, 2) := dk_54 6 (dk_at dksL_law_42 13 rfl rfl)
theorem dL_law_1169 : decode cL_law 1169 = .ok (.aload_n 2, 1) := dk_44 (dk_at dksL_law_42 15 rfl rfl)
theorem dL_law_1170 : decode cL_law 1170 = .ok (.aload_n 0, 1) := dk_42 (dk_at dksL_law_42 16 rfl rfl)
theorem dL_law_1171 : decode cL_law 1171 = .ok (.iload 5, 2) := dk_21 5 (dk_at dksL_law_42 17 rfl rfl)
theorem dL_law_1173 : decode cL_law 1173 = .ok (.iconst 1, 1) := dk_4 (dk_at dksL_law_42 19 rfl rfl)
theorem dL_law_1174 : decode cL_law 1174 = .ok (.iadd, 1) := dk_96 (dk_at dksL_law_42 20 rfl rfl)
theorem dL_law_1175 : decode cL_law 1175 = .ok (.iaload, 1) := dk_46 (dk_at dksL_law_42 21 rfl rfl)
theorem dL_law_1176 : decode cL_law 1176 = .ok (.aload_n 0, 1) := dk_42 (dk_at dksL_law_42 22 rfl rfl)
theorem dL_law_1177 : decode cL_law 1177 = .ok (.iload 5, 2) := dk_21 5 (dk_at dksL_law_43 0 rfl rfl)
theorem dL_law_1179 : decode cL_law 1179 = .ok (.iconst 2, 1) := dk_5 (dk_at dksL_law_43 2 rfl rfl)
theorem dL_law_1180 : decode cL_law 1180 = .ok (.iadd, 1) := dk_96 (dk_at dksL_law_43 3 rfl rfl)
theorem dL_law_1181 : decode cL_law 1181 = .ok (.iaload, 1) := dk_46 (dk_at dksL_law_43 4 rfl rfl)
theorem dL_law_1182 : decode cL_law 1182 = .ok (.ifCond .eq 7, 3) := dk_153 0 7 (dk_at dksL_law_43 5 rfl rfl)
theorem dL_law_1185 : decode cL_law 1185 = .ok (.iconst 1, 1) := dk_4 (dk_at dksL_law_43 8 rfl rfl)
theorem dL_law_1186 : decode cL_law 1186 = .ok (.goto 4, 3) := dk_167 0 4 (dk_at dksL_law_43 9 rfl rfl)
theorem dL_law_1189 : decode cL_law 1189 = .ok (.iconst 0, 1) := dk_3 (dk_at dksL_law_43 12 rfl rfl)
theorem dL_law_1190 : decode cL_law 1190 = .ok (.invokevirtual 216, 3) := dk_182 0 216 (dk_at dksL_law_43 13 rfl rfl)
theorem dL_law_1193 : decode cL_law 1193 = .ok (.istore 7, 2) := dk_54 7 (dk_at dksL_law_43 16 rfl rfl)
theorem dL_law_1195 : decode cL_law 1195 = .ok (.aload_n 2, 1) := dk_44 (dk_at dksL_law_43 18 rfl rfl)
theorem dL_law_1196 : decode cL_law 1196 = .ok (.invokevirtual 175, 3) := dk_182 0 175 (dk_at dksL_law_43 19 rfl rfl)
theorem dL_law_1199 : decode cL_law 1199 = .ok (.iload 6, 2) := dk_21 6 (dk_at dksL_law_43 22 rfl rfl)
theorem dL_law_1201 : decode cL_law 1201 = .ok (.if_icmp .eq 5, 3) := dk_159 0 5 (dk_at dksL_law_44 0 rfl rfl)
theorem dL_law_1204 : decode cL_law 1204 = .ok (.iconst 0, 1) := dk_3 (dk_at dksL_law_44 3 rfl rfl)
theorem dL_law_1205 : decode cL_law 1205 = .ok (.ireturn, 1) := dk_172 (dk_at dksL_law_44 4 rfl rfl)
theorem dL_law_1206 : decode cL_law 1206 = .ok (.iload 6, 2) := dk_21 6 (dk_at dksL_law_44 5 rfl rfl)
theorem dL_law_1208 : decode cL_law 1208 = .ok (.ifCond .ne 22, 3) := dk_154 0 22 (dk_at dksL_law_44 7 rfl rfl)
theorem dL_law_1211 : decode cL_law 1211 = .ok (.aload_n 3, 1) := dk_45 (dk_at dksL_law_44 10 rfl rfl)
theorem dL_law_1212 : decode cL_law 1212 = .ok (.iconst 0, 1) := dk_3 (dk_at dksL_law_44 11 rfl rfl)
theorem dL_law_1213 : decode cL_law 1213 = .ok (.laload, 1) := dk_47 (dk_at dksL_law_44 12 rfl rfl)
theorem dL_law_1214 : decode cL_law 1214 = .ok (.iload 7, 2) := dk_21 7 (dk_at dksL_law_44 13 rfl rfl)
theorem dL_law_1216 : decode cL_law 1216 = .ok (.ifCond .eq 7, 3) := dk_153 0 7 (dk_at dksL_law_44 15 rfl rfl)
theorem dL_law_1219 : decode cL_law 1219 = .ok (.lconst 1, 1) := dk_10 (dk_at dksL_law_44 18 rfl rfl)
theorem dL_law_1220 : decode cL_law 1220 = .ok (.goto 4, 3) := dk_167 0 4 (dk_at dksL_law_44 19 rfl rfl)
theorem dL_law_1223 : decode cL_law 1223 = .ok (.lconst 0, 1) := dk_9 (dk_at dksL_law_44 22 rfl rfl)
theorem dL_law_1224 : decode cL_law 1224 = .ok (.lcmp, 1) := dk_148 (dk_at dksL_law_44 23 rfl rfl)
theorem dL_law_1225 : decode cL_law 1225 = .ok (.ifCond .eq 5, 3) := dk_153 0 5 (dk_at dksL_law_45 0 rfl rfl)
theorem dL_law_1228 : decode cL_law 1228 = .ok (.iconst 0, 1) := dk_3 (dk_at dksL_law_45 3 rfl rfl)
theorem dL_law_1229 : decode cL_law 1229 = .ok (.ireturn, 1) := dk_172 (dk_at dksL_law_45 4 rfl rfl)
theorem dL_law_1230 : decode cL_law 1230 = .ok (.goto 2157, 3) := dk_167 8 109 (dk_at dksL_law_45 5 rfl rfl)
theorem dL_law_1233 : decode cL_law 1233 = .ok (.aload_n 1, 1) := dk_43 (dk_at dksL_law_45 8 rfl rfl)
theorem dL_law_1234 : decode cL_law 1234 = .ok (.aload_n 0, 1) := dk_42 (dk_at dksL_law_45 9 rfl rfl)
theorem dL_law_1235 : decode cL_law 1235 = .ok (.iload 5, 2) := dk_21 5 (dk_at dksL_law_45 10 rfl rfl)
theorem dL_law_1237 : decode cL_law 1237 = .ok (.iconst 1, 1) := dk_4 (dk_at dksL_law_45 12 rfl rfl)
theorem dL_law_1238 : decode cL_law 1238 = .ok (.iadd, 1) := dk_96 (dk_at dksL_law_45 13 rfl rfl)
theorem dL_law_1239 : decode cL_law 1239 = .ok (.iaload, 1) := dk_46 (dk_at dksL_law_45 14 rfl rfl)
theorem dL_law_1240 : decode cL_law 1240 = .ok (.aload_n 3, 1) := dk_45 (dk_at dksL_law_45 15 rfl rfl)
theorem dL_law_1241 : decode cL_law 1241 = .ok (.invokestatic 217, 3) := dk_184 0 217 (dk_at dksL_law_45 16 rfl rfl)
theorem dL_law_1244 : decode cL_law 1244 = .ok (.istore 6, 2) := dk_54 6 (dk_at dksL_law_45 19 rfl rfl)
theorem dL_law_1246 : decode cL_law 1246 = .ok (.aload_n 2, 1) := dk_44 (dk_at dksL_law_45 21 rfl rfl)
theorem dL_law_1247 : decode cL_law 1247 = .ok (.aload_n 0, 1) := dk_42 (dk_at dksL_law_45 22 rfl rfl)
theorem dL_law_1248 : decode cL_law 1248 = .ok (.iload 5, 2) := dk_21 5 (dk_at dksL_law_46 0 rfl rfl)
theorem dL_law_1250 : decode cL_law 1250 = .ok (.iconst 1, 1) := dk_4 (dk_at dksL_law_46 2 rfl rfl)
theorem dL_law_1251 : decode cL_law 1251 = .ok (.iadd, 1) := dk_96 (dk_at dksL_law_46 3 rfl rfl)
theorem dL_law_1252 : decode cL_law 1252 = .ok (.iaload, 1) := dk_46 (dk_at dksL_law_46 4 rfl rfl)
theorem dL_law_1253 : decode cL_law 1253 = .ok (.invokevirtual 220, 3) := dk_182 0 220 (dk_at dksL_law_46 5 rfl rfl)
theorem dL_law_1256 : decode cL_law 1256 = .ok (.istore 7, 2) := dk_54 7 (dk_at dksL_law_46 8 rfl rfl)
theorem dL_law_1258 : decode cL_law 1258 = .ok (.aload_n 2, 1) := dk_44 (dk_at dksL_law_46 10 rfl rfl)
theorem dL_law_1259 : decode cL_law 1259 = .ok (.invokevirtual 175, 3) := dk_182 0 175 (dk_at dksL_law_46 11 rfl rfl)
theorem dL_law_1262 : decode cL_law 1262 = .ok (.iload 6, 2) := dk_21 6 (dk_at dksL_law_46 14 rfl rfl)
theorem dL_law_1264 : decode cL_law 1264 = .ok (.if_icmp .eq 5, 3) := dk_159 0 5 (dk_at dksL_law_46 16 rfl rfl)
theorem dL_law_1267 : decode cL_law 1267 = .ok (.iconst 0, 1) := dk_3 (dk_at dksL_law_46 19 rfl rfl)
theorem dL_law_1268 : decode cL_law 1268 = .ok (.ireturn, 1) := dk_172 (dk_at dksL_law_46 20 rfl rfl)
theorem dL_law_1269 : decode cL_law 1269 = .ok (.iload 6, 2) := dk_21 6 (dk_at dksL_law_46 21 rfl rfl)
theorem dL_law_1271 : decode cL_law 1271 = .ok (.ifCond .ne 15, 3) := dk_154 0 15 (dk_at dksL_law_47 0 rfl rfl)
theorem dL_law_1274 : decode cL_law 1274 = .ok (.aload_n 3, 1) := dk_45 (dk_at dksL_law_47 3 rfl rfl)
theorem dL_law_1275 : decode cL_law 1275 = .ok (.iconst 0, 1) := dk_3 (dk_at dksL_law_47 4 rfl rfl)
theorem dL_law_1276 : decode cL_law 1276 = .ok (.laload, 1) := dk_47 (dk_at dksL_law_47 5 rfl rfl)
theorem dL_law_1277 : decode cL_law 1277 = .ok (.iload 7, 2) := dk_21 7 (dk_at dksL_law_47 6 rfl rfl)
theorem dL_law_1279 : decode cL_law 1279 = .ok (.i2l, 1) := dk_133 (dk_at dksL_law_47 8 rfl rfl)
theorem dL_law_1280 : decode cL_law 1280 = .ok (.lcmp, 1) := dk_148 (dk_at dksL_law_47 9 rfl rfl)
theorem dL_law_1281 : decode cL_law 1281 = .ok (.ifCond .eq 5, 3) := dk_153 0 5 (dk_at dksL_law_47 10 rfl rfl)
theorem dL_law_1284 : decode cL_law 1284 = .ok (.iconst 0, 1) := dk_3 (dk_at dksL_law_47 13 rfl rfl)
theorem dL_law_1285 : decode cL_law 1285 = .ok (.ireturn, 1) := dk_172 (dk_at dksL_law_47 14 rfl rfl)
theorem dL_law_1286 : decode cL_law 1286 = .ok (.goto 2101, 3) := dk_167 8 53 (dk_at dksL_law_47 15 rfl rfl)
theorem dL_law_1289 : decode cL_law 1289 = .ok (.aload_n 1, 1) := dk_43 (dk_at dksL_law_47 18 rfl rfl)
theorem dL_law_1290 : decode cL_law 1290 = .ok (.aload_n 0, 1) := dk_42 (dk_at dksL_law_47 19 rfl rfl)
theorem dL_law_1291 : decode cL_law 1291 = .ok (.iload 5, 2) := dk_21 5 (dk_at dksL_law_47 20 rfl rfl)
theorem dL_law_1293 : decode cL_law 1293 = .ok (.iconst 1, 1) := dk_4 (dk_at dksL_law_47 22 rfl rfl)
theorem dL_law_1294 : decode cL_law 1294 = .ok (.iadd, 1) := dk_96 (dk_at dksL_law_47 23 rfl rfl)
theorem dL_law_1295 : decode cL_law 1295 = .ok (.iaload, 1) := dk_46 (dk_at dksL_law_48 0 rfl rfl)
theorem dL_law_1296 : decode cL_law 1296 = .ok (.aload_n 0, 1) := dk_42 (dk_at dksL_law_48 1 rfl rfl)
theorem dL_law_1297 : decode cL_law 1297 = .ok (.iload 5, 2) := dk_21 5 (dk_at dksL_law_48 2 rfl rfl)
theorem dL_law_1299 : decode cL_law 1299 = .ok (.iconst 2, 1) := dk_5 (dk_at dksL_law_48 4 rfl rfl)
theorem dL_law_1300 : decode cL_law 1300 = .ok (.iadd, 1) := dk_96 (dk_at dksL_law_48 5 rfl rfl)
theorem dL_law_1301 : decode cL_law 1301 = .ok (.iaload, 1) := dk_46 (dk_at dksL_law_48 6 rfl rfl)
theorem dL_law_1302 : decode cL_law 1302 = .ok (.aload_n 3, 1) := dk_45 (dk_at dksL_law_48 7 rfl rfl)
theorem dL_law_1303 : decode cL_law 1303 = .ok (.invokestatic 221, 3) := dk_184 0 221 (dk_at dksL_law_48 8 rfl rfl)
theorem dL_law_1306 : decode cL_law 1306 = .ok (.istore 6, 2) := dk_54 6 (dk_at dksL_law_48 11 rfl rfl)
theorem dL_law_1308 : decode cL_law 1308 = .ok (.aload_n 2, 1) := dk_44 (dk_at dksL_law_48 13 rfl rfl)
theorem dL_law_1309 : decode cL_law 1309 = .ok (.aload_n 0, 1) := dk_42 (dk_at dksL_law_48 14 rfl rfl)
theorem dL_law_1310 : decode cL_law 1310 = .ok (.iload 5, 2) := dk_21 5 (dk_at dksL_law_48 15 rfl rfl)
theorem dL_law_1312 : decode cL_law 1312 = .ok (.iconst 1, 1) := dk_4 (dk_at dksL_law_48 17 rfl rfl)
theorem dL_law_1313 : decode cL_law 1313 = .ok (.iadd, 1) := dk_96 (dk_at dksL_law_48 18 rfl rfl)
theorem dL_law_1314 : decode cL_law 1314 = .ok (.iaload, 1) := dk_46 (dk_at dksL_law_48 19 rfl rfl)
theorem dL_law_1315 : decode cL_law 1315 = .ok (.aload_n 0, 1) := dk_42 (dk_at dksL_law_48 20 rfl rfl)
theorem dL_law_1316 : decode cL_law 1316 = .ok (.iload 5, 2) := dk_21 5 (dk_at dksL_law_48 21 rfl rfl)
theorem dL_law_1318 : decode cL_law 1318 = .ok (.iconst 2, 1) := dk_5 (dk_at dksL_law_48 23 rfl rfl)
theorem dL_law_1319 : decode cL_law 1319 = .ok (.iadd, 1) := dk_96 (dk_at dksL_law_49 0 rfl rfl)
theorem dL_law_1320 : decode cL_law 1320 = .ok (.iaload, 1) := dk_46 (dk_at dksL_law_49 1 rfl rfl)
theorem dL_law_1321 : decode cL_law 1321 = .ok (.invokevirtual 223, 3) := dk_182 0 223 (dk_at dksL_law_49 2 rfl rfl)
theorem dL_law_1324 : decode cL_law 1324 = .ok (.istore 7, 2) := dk_54 7 (dk_at dksL_law_49 5 rfl rfl)
theorem dL_law_1326 : decode cL_law 1326 = .ok (.aload_n 2, 1) := dk_44 (dk_at dksL_law_49 7 rfl rfl)
theorem dL_law_1327 : decode cL_law 1327 = .ok (.invokevirtual 175, 3) := dk_182 0 175 (dk_at dksL_law_49 8 rfl rfl)
theorem dL_law_1330 : decode cL_law 1330 = .ok (.iload 6, 2) := dk_21 6 (dk_at dksL_law_49 11 rfl rfl)
theorem dL_law_1332 : decode cL_law 1332 = .ok (.if_icmp .eq 5, 3) := dk_159 0 5 (dk_at dksL_law_49 13 rfl rfl)
theorem dL_law_1335 : decode cL_law 1335 = .ok (.iconst 0, 1) := dk_3 (dk_at dksL_law_49 16 rfl rfl)
theorem dL_law_1336 : decode cL_law 1336 = .ok (.ireturn, 1) := dk_172 (dk_at dksL_law_49 17 rfl rfl)
theorem dL_law_1337 : decode cL_law 1337 = .ok (.iload 6, 2) := dk_21 6 (dk_at dksL_law_49 18 rfl rfl)
theorem dL_law_1339 : decode cL_law 1339 = .ok (.ifCond .ne 15, 3) := dk_154 0 15 (dk_at dksL_law_49 20 rfl rfl)
theorem dL_law_1342 : decode cL_law 1342 = .ok (.aload_n 3, 1) := dk_45 (dk_at dksL_law_49 23 rfl rfl)
theorem dL_law_1343 : decode cL_law 1343 = .ok (.iconst 0, 1) := dk_3 (dk_at dksL_law_50 0 rfl rfl)
theorem dL_law_1344 : decode cL_law 1344 = .ok (.laload, 1) := dk_47 (dk_at dksL_law_50 1 rfl rfl)
theorem dL_law_1345 : decode cL_law 1345 = .ok (.iload 7, 2) := dk_21 7 (dk_at dksL_law_50 2 rfl rfl)
theorem dL_law_1347 : decode cL_law 1347 = .ok (.i2l, 1) := dk_133 (dk_at dksL_law_50 4 rfl rfl)
theorem dL_law_1348 : decode cL_law 1348 = .ok (.lcmp, 1) := dk_148 (dk_at dksL_law_50 5 rfl rfl)
theorem dL_law_1349 : decode cL_law 1349 = .ok (.ifCond .eq 5, 3) := dk_153 0 5 (dk_at dksL_law_50 6 rfl rfl)
theorem dL_law_1352 : decode cL_law 1352 = .ok (.iconst 0, 1) := dk_3 (dk_at dksL_law_50 9 rfl rfl)
theorem dL_law_1353 : decode cL_law 1353 = .ok (.ireturn, 1) := dk_172 (dk_at dksL_law_50 10 rfl rfl)
theorem dL_law_1354 : decode cL_law 1354 = .ok (.goto 2033, 3) := dk_167 7 241 (dk_at dksL_law_50 11 rfl rfl)
theorem dL_law_1357 : decode cL_law 1357 = .ok (.aload_n 1, 1) := dk_43 (dk_at dksL_law_50 14 rfl rfl)
theorem dL_law_1358 : decode cL_law 1358 = .ok (.aload_n 0, 1) := dk_42 (dk_at dksL_law_50 15 rfl rfl)
theorem dL_law_1359 : decode cL_law 1359 = .ok (.iload 5, 2) := dk_21 5 (dk_at dksL_law_50 16 rfl rfl)
theorem dL_law_1361 : decode cL_law 1361 = .ok (.iconst 1, 1) := dk_4 (dk_at dksL_law_50 18 rfl rfl)
theorem dL_law_1362 : decode cL_law 1362 = .ok (.iadd, 1) := dk_96 (dk_at dksL_law_50 19 rfl rfl)
theorem dL_law_1363 : decode cL_law 1363 = .ok (.iaload, 1) := dk_46 (dk_at dksL_law_50 20 rfl rfl)
theorem dL_law_1364 : decode cL_law 1364 = .ok (.aload_n 0, 1) := dk_42 (dk_at dksL_law_50 21 rfl rfl)
theorem dL_law_1365 : decode cL_law 1365 = .ok (.iload 5, 2) := dk_21 5 (dk_at dksL_law_50 22 rfl rfl)
theorem dL_law_1367 : decode cL_law 1367 = .ok (.iconst 2, 1) := dk_5 (dk_at dksL_law_51 0 rfl rfl)
theorem dL_law_1368 : decode cL_law 1368 = .ok (.iadd, 1) := dk_96 (dk_at dksL_law_51 1 rfl rfl)
theorem dL_law_1369 : decode cL_law 1369 = .ok (.iaload, 1) := dk_46 (dk_at dksL_law_51 2 rfl rfl)
theorem dL_law_1370 : decode cL_law 1370 = .ok (.aload_n 3, 1) := dk_45 (dk_at dksL_law_51 3 rfl rfl)
theorem dL_law_1371 : decode cL_law 1371 = .ok (.invokestatic 224, 3) := dk_184 0 224 (dk_at dksL_law_51 4 rfl rfl)
theorem dL_law_1374 : decode cL_law 1374 = .ok (.istore 6, 2) := dk_54 6 (dk_at dksL_law_51 7 rfl rfl)
theorem dL_law_1376 : decode cL_law 1376 = .ok (.aload_n 2, 1) := dk_44 (dk_at dksL_law_51 9 rfl rfl)
theorem dL_law_1377 : decode cL_law 1377 = .ok (.aload_n 0, 1) := dk_42 (dk_at dksL_law_51 10 rfl rfl)
theorem dL_law_1378 : decode cL_law 1378 = .ok (.iload 5, 2) := dk_21 5 (dk_at dksL_law_51 11 rfl rfl)
theorem dL_law_1380 : decode cL_law 1380 = .ok (.iconst 1, 1) := dk_4 (dk_at dksL_law_51 13 rfl rfl)
theorem dL_law_1381 : decode cL_law 1381 = .ok (.iadd, 1) := dk_96 (dk_at dksL_law_51 14 rfl rfl)
theorem dL_law_1382 : decode cL_law 1382 = .ok (.iaload, 1) := dk_46 (dk_at dksL_law_51 15 rfl rfl)
theorem dL_law_1383 : decode cL_law 1383 = .ok (.aload_n 0, 1) := dk_42 (dk_at dksL_law_51 16 rfl rfl)
theorem dL_law_1384 : decode cL_law 1384 = .ok (.iload 5, 2) := dk_21 5 (dk_at dksL_law_51 17 rfl rfl)
theorem dL_law_1386 : decode cL_law 1386 = .ok (.iconst 2, 1) := dk_5 (dk_at dksL_law_51 19 rfl rfl)
theorem dL_law_1387 : decode cL_law 1387 = .ok (.iadd, 1) := dk_96 (dk_at dksL_law_51 20 rfl rfl)
theorem dL_law_1388 : decode cL_law 1388 = .ok (.iaload, 1) := dk_46 (dk_at dksL_law_51 21 rfl rfl)
theorem dL_law_1389 : decode cL_law 1389 = .ok (.invokevirtual 226, 3) := dk_182 0 226 (dk_at dksL_law_52 0 rfl rfl)
theorem dL_law_1392 : decode cL_law 1392 = .ok (.istore 7, 2) := dk_54 7 (dk_at dksL_law_52 3 rfl rfl)
theorem dL_law_1394 : decode cL_law 1394 = .ok (.aload_n 2, 1) := dk_44 (dk_at dksL_law_52 5 rfl rfl)
theorem dL_law_1395 : decode cL_law 1395 = .ok (.invokevirtual 175, 3) := dk_182 0 175 (dk_at dksL_law_52 6 rfl rfl)
theorem dL_law_1398 : decode cL_law 1398 = .ok (.iload 6, 2) := dk_21 6 (dk_at dksL_law_52 9 rfl rfl)
theorem dL_law_1400 : decode cL_law 1400 = .ok (.if_icmp .eq 5, 3) := dk_159 0 5 (dk_at dksL_law_52 11 rfl rfl)
theorem dL_law_1403 : decode cL_law 1403 = .ok (.iconst 0, 1) := dk_3 (dk_at dksL_law_52 14 rfl rfl)
theorem dL_law_1404 : decode cL_law 1404 = .ok (.ireturn, 1) := dk_172 (dk_at dksL_law_52 15 rfl rfl)
theorem dL_law_1405 : decode cL_law 1405 = .ok (.iload 6, 2) := dk_21 6 (dk_at dksL_law_52 16 rfl rfl)
theorem dL_law_1407 : decode cL_law 1407 = .ok (.ifCond .ne 15, 3) := dk_154 0 15 (dk_at dksL_law_52 18 rfl rfl)
theorem dL_law_1410 : decode cL_law 1410 = .ok (.aload_n 3, 1) := dk_45 (dk_at dksL_law_52 21 rfl rfl)
theorem dL_law_1411 : decode cL_law 1411 = .ok (.iconst 0, 1) := dk_3 (dk_at dksL_law_52 22 rfl rfl)
theorem dL_law_1412 : decode cL_law 1412 = .ok (.laload, 1) := dk_47 (dk_at dksL_law_52 23 rfl rfl)
theorem dL_law_1413 : decode cL_law 1413 = .ok (.iload 7, 2) := dk_21 7 (dk_at dksL_law_53 0 rfl rfl)
theorem dL_law_1415 : decode cL_law 1415 = .ok (.i2l, 1) := dk_133 (dk_at dksL_law_53 2 rfl rfl)
theorem dL_law_1416 : decode cL_law 1416 = .ok (.lcmp, 1) := dk_148 (dk_at dksL_law_53 3 rfl rfl)
theorem dL_law_1417 : decode cL_law 1417 = .ok (.ifCond .eq 5, 3) := dk_153 0 5 (dk_at dksL_law_53 4 rfl rfl)
theorem dL_law_1420 : decode cL_law 1420 = .ok (.iconst 0, 1) := dk_3 (dk_at dksL_law_53 7 rfl rfl)
theorem dL_law_1421 : decode cL_law 1421 = .ok (.ireturn, 1) := dk_172 (dk_at dksL_law_53 8 rfl rfl)
theorem dL_law_1422 : decode cL_law 1422 = .ok (.goto 1965, 3) := dk_167 7 173 (dk_at dksL_law_53 9 rfl rfl)
theorem dL_law_1425 : decode cL_law 1425 = .ok (.aload_n 1, 1) := dk_43 (dk_at dksL_law_53 12 rfl rfl)
theorem dL_law_1426 : decode cL_law 1426 = .ok (.invokevirtual 227, 3) := dk_182 0 227 (dk_at dksL_law_53 13 rfl rfl)
theorem dL_law_1429 : decode cL_law 1429 = .ok (.aload_n 2, 1) := dk_44 (dk_at dksL_law_53 16 rfl rfl)
theorem dL_law_1430 : decode cL_law 1430 = .ok (.invokevirtual 230, 3) := dk_182 0 230 (dk_at dksL_law_53 17 rfl rfl)
theorem dL_law_1433 : decode cL_law 1433 = .ok (.if_icmp .eq 1954, 3) := dk_159 7 162 (dk_at dksL_law_53 20 rfl rfl)
theorem dL_law_1436 : decode cL_law 1436 = .ok (.iconst 0, 1) := dk_3 (dk_at dksL_law_53 23 rfl rfl)
theorem dL_law_1437 : decode cL_law 1437 = .ok (.ireturn, 1) := dk_172 (dk_at dksL_law_54 0 rfl rfl)
theorem dL_law_1438 : decode cL_law 1438 = .ok (.aload_n 1, 1) := dk_43 (dk_at dksL_law_54 1 rfl rfl)
theorem dL_law_1439 : decode cL_law 1439 = .ok (.aload_n 0, 1) := dk_42 (dk_at dksL_law_54 2 rfl rfl)
theorem dL_law_1440 : decode cL_law 1440 = .ok (.iload 5, 2) := dk_21 5 (dk_at dksL_law_54 3 rfl rfl)
theorem dL_law_1442 : decode cL_law 1442 = .ok (.iconst 1, 1) := dk_4 (dk_at dksL_law_54 5 rfl rfl)
theorem dL_law_1443 : decode cL_law 1443 = .ok (.iadd, 1) := dk_96 (dk_at dksL_law_54 6 rfl rfl)
theorem dL_law_1444 : decode cL_law 1444 = .ok (.iaload, 1) := dk_46 (dk_at dksL_law_54 7 rfl rfl)
theorem dL_law_1445 : decode cL_law 1445 = .ok (.aload_n 3, 1) := dk_45 (dk_at dksL_law_54 8 rfl rfl)
theorem dL_law_1446 : decode cL_law 1446 = .ok (.invokestatic 231, 3) := dk_184 0 231 (dk_at dksL_law_54 9 rfl rfl)
theorem dL_law_1449 : decode cL_law 1449 = .ok (.istore 6, 2) := dk_54 6 (dk_at dksL_law_54 12 rfl rfl)
theorem dL_law_1451 : decode cL_law 1451 = .ok (.aload_n 2, 1) := dk_44 (dk_at dksL_law_54 14 rfl rfl)
theorem dL_law_1452 : decode cL_law 1452 = .ok (.aload_n 0, 1) := dk_42 (dk_at dksL_law_54 15 rfl rfl)
theorem dL_law_1453 : decode cL_law 1453 = .ok (.iload 5, 2) := dk_21 5 (dk_at dksL_law_54 16 rfl rfl)
theorem dL_law_1455 : decode cL_law 1455 = .ok (.iconst 1, 1) := dk_4 (dk_at dksL_law_54 18 rfl rfl)
theorem dL_law_1456 : decode cL_law 1456 = .ok (.iadd, 1) := dk_96 (dk_at dksL_law_54 19 rfl rfl)
theorem dL_law_1457 : decode cL_law 1457 = .ok (.iaload, 1) := dk_46 (dk_at dksL_law_54 20 rfl rfl)
theorem dL_law_1458 : decode cL_law 1458 = .ok (.invokevirtual 233, 3) := dk_182 0 233 (dk_at dksL_law_54 21 rfl rfl)
theorem dL_law_1461 : decode cL_law 1461 = .ok (.istore 7, 2) := dk_54 7 (dk_at dksL_law_55 0 rfl rfl)
theorem dL_law_1463 : decode cL_law 1463 = .ok (.aload_n 2, 1) := dk_44 (dk_at dksL_law_55 2 rfl rfl)
theorem dL_law_1464 : decode cL_law 1464 = .ok (.invokevirtual 175, 3) := dk_182 0 175 (dk_at dksL_law_55 3 rfl rfl)
theorem dL_law_1467 : decode cL_law 1467 = .ok (.iload 6, 2) := dk_21 6 (dk_at dksL_law_55 6 rfl rfl)
theorem dL_law_1469 : decode cL_law 1469 = .ok (.if_icmp .eq 5, 3) := dk_159 0 5 (dk_at dksL_law_55 8 rfl rfl)
theorem dL_law_1472 : decode cL_law 1472 = .ok (.iconst 0, 1) := dk_3 (dk_at dksL_law_55 11 rfl rfl)
theorem dL_law_1473 : decode cL_law 1473 = .ok (.ireturn, 1) := dk_172 (dk_at dksL_law_55 12 rfl rfl)
theorem dL_law_1474 : decode cL_law 1474 = .ok (.iload 6, 2) := dk_21 6 (dk_at dksL_law_55 13 rfl rfl)
theorem dL_law_1476 : decode cL_law 1476 = .ok (.ifCond .ne 15, 3) := dk_154 0 15 (dk_at dksL_law_55 15 rfl rfl)
theorem dL_law_1479 : decode cL_law 1479 = .ok (.aload_n 3, 1) := dk_45 (dk_at dksL_law_55 18 rfl rfl)
theorem dL_law_1480 : decode cL_law 1480 = .ok (.iconst 0, 1) := dk_3 (dk_at dksL_law_55 19 rfl rfl)
theorem dL_law_1481 : decode cL_law 1481 = .ok (.laload, 1) := dk_47 (dk_at dksL_law_55 20 rfl rfl)
theorem dL_law_1482 : decode cL_law 1482 = .ok (.iload 7, 2) := dk_21 7 (dk_at dksL_law_55 21 rfl rfl)
theorem dL_law_1484 : decode cL_law 1484 = .ok (.i2l, 1) := dk_133 (dk_at dksL_law_55 23 rfl rfl)
theorem dL_law_1485 : decode cL_law 1485 = .ok (.lcmp, 1) := dk_148 (dk_at dksL_law_56 0 rfl rfl)
theorem dL_law_1486 : decode cL_law 1486 = .ok (.ifCond .eq 5, 3) := dk_153 0 5 (dk_at dksL_law_56 1 rfl rfl)
theorem dL_law_1489 : decode cL_law 1489 = .ok (.iconst 0, 1) := dk_3 (dk_at dksL_law_56 4 rfl rfl)
theorem dL_law_1490 : decode cL_law 1490 = .ok (.ireturn, 1) := dk_172 (dk_at dksL_law_56 5 rfl rfl)
theorem dL_law_1491 : decode cL_law 1491 = .ok (.goto 1896, 3) := dk_167 7 104 (dk_at dksL_law_56 6 rfl rfl)
theorem dL_law_1494 : decode cL_law 1494 = .ok (.aload_n 1, 1) := dk_43 (dk_at dksL_law_56 9 rfl rfl)
theorem dL_law_1495 : decode cL_law 1495 = .ok (.aload_n 0, 1) := dk_42 (dk_at dksL_law_56 10 rfl rfl)
theorem dL_law_1496 : decode cL_law 1496 = .ok (.iload 5, 2) := dk_21 5 (dk_at dksL_law_56 11 rfl rfl)
theorem dL_law_1498 : decode cL_law 1498 = .ok (.iconst 1, 1) := dk_4 (dk_at dksL_law_56 13 rfl rfl)
theorem dL_law_1499 : decode cL_law 1499 = .ok (.iadd, 1) := dk_96 (dk_at dksL_law_56 14 rfl rfl)
theorem dL_law_1500 : decode cL_law 1500 = .ok (.iaload, 1) := dk_46 (dk_at dksL_law_56 15 rfl rfl)
theorem dL_law_1501 : decode cL_law 1501 = .ok (.aload_n 3, 1) := dk_45 (dk_at dksL_law_56 16 rfl rfl)
theorem dL_law_1502 : decode cL_law 1502 = .ok (.invokestatic 234, 3) := dk_184 0 234 (dk_at dksL_law_56 17 rfl rfl)
theorem dL_law_1505 : decode cL_law 1505 = .ok (.istore 6, 2) := dk_54 6 (dk_at dksL_law_56 20 rfl rfl)
theorem dL_law_1507 : decode cL_law 1507 = .ok (.aload_n 2, 1) := dk_44 (dk_at dksL_law_56 22 rfl rfl)
theorem dL_law_1508 : decode cL_law 1508 = .ok (.aload_n 0, 1) := dk_42 (dk_at dksL_law_56 23 rfl rfl)
theorem dL_law_1509 : decode cL_law 1509 = .ok (.iload 5, 2) := dk_21 5 (dk_at dksL_law_57 0 rfl rfl)
theorem dL_law_1511 : decode cL_law 1511 = .ok (.iconst 1, 1) := dk_4 (dk_at dksL_law_57 2 rfl rfl)
theorem dL_law_1512 : decode cL_law 1512 = .ok (.iadd, 1) := dk_96 (dk_at dksL_law_57 3 rfl rfl)
theorem dL_law_1513 : decode cL_law 1513 = .ok (.iaload, 1) := dk_46 (dk_at dksL_law_57 4 rfl rfl)
theorem dL_law_1514 : decode cL_law 1514 = .ok (.invokevirtual 236, 3) := dk_182 0 236 (dk_at dksL_law_57 5 rfl rfl)
theorem dL_law_1517 : decode cL_law 1517 = .ok (.istore 7, 2) := dk_54 7 (dk_at dksL_law_57 8 rfl rfl)
theorem dL_law_1519 : decode cL_law 1519 = .ok (.aload_n 2, 1) := dk_44 (dk_at dksL_law_57 10 rfl rfl)
theorem dL_law_1520 : decode cL_law 1520 = .ok (.invokevirtual 175, 3) := dk_182 0 175 (dk_at dksL_law_57 11 rfl rfl)
theorem dL_law_1523 : decode cL_law 1523 = .ok (.iload 6, 2) := dk_21 6 (dk_at dksL_law_57 14 rfl rfl)
theorem dL_law_1525 : decode cL_law 1525 = .ok (.if_icmp .eq 5, 3) := dk_159 0 5 (dk_at dksL_law_57 16 rfl rfl)
theorem dL_law_1528 : decode cL_law 1528 = .ok (.iconst 0, 1) := dk_3 (dk_at dksL_law_57 19 rfl rfl)
theorem dL_law_1529 : decode cL_law 1529 = .ok (.ireturn, 1) := dk_172 (dk_at dksL_law_57 20 rfl rfl)
theorem dL_law_1530 : decode cL_law 1530 = .ok (.iload 6, 2) := dk_21 6 (dk_at dksL_law_57 21 rfl rfl)
theorem dL_law_1532 : decode cL_law 1532 = .ok (.ifCond .ne 15, 3) := dk_154 0 15 (dk_at dksL_law_58 0 rfl rfl)
theorem dL_law_1535 : decode cL_law 1535 = .ok (.aload_n 3, 1) := dk_45 (dk_at dksL_law_58 3 rfl rfl)
theorem dL_law_1536 : decode cL_law 1536 = .ok (.iconst 0, 1) := dk_3 (dk_at dksL_law_58 4 rfl rfl)
theorem dL_law_1537 : decode cL_law 1537 = .ok (.laload, 1) := dk_47 (dk_at dksL_law_58 5 rfl rfl)
theorem dL_law_1538 : decode cL_law 1538 = .ok (.iload 7, 2) := dk_21 7 (dk_at dksL_law_58 6 rfl rfl)
theorem dL_law_1540 : decode cL_law 1540 = .ok (.i2l, 1) := dk_133 (dk_at dksL_law_58 8 rfl rfl)
theorem dL_law_1541 : decode cL_law 1541 = .ok (.lcmp, 1) := dk_148 (dk_at dksL_law_58 9 rfl rfl)
theorem dL_law_1542 : decode cL_law 1542 = .ok (.ifCond .eq 5, 3) := dk_153 0 5 (dk_at dksL_law_58 10 rfl rfl)
theorem dL_law_1545 : decode cL_law 1545 = .ok (.iconst 0, 1) := dk_3 (dk_at dksL_law_58 13 rfl rfl)
theorem dL_law_1546 : decode cL_law 1546 = .ok (.ireturn, 1) := dk_172 (dk_at dksL_law_58 14 rfl rfl)
theorem dL_law_1547 : decode cL_law 1547 = .ok (.goto 1840, 3) := dk_167 7 48 (dk_at dksL_law_58 15 rfl rfl)
theorem dL_law_1550 : decode cL_law 1550 = .ok (.aload_n 1, 1) := dk_43 (dk_at dksL_law_58 18 rfl rfl)
theorem dL_law_1551 : decode cL_law 1551 = .ok (.aload_n 0, 1) := dk_42 (dk_at dksL_law_58 19 rfl rfl)
theorem dL_law_1552 : decode cL_law 1552 = .ok (.iload 5, 2) := dk_21 5 (dk_at dksL_law_58 20 rfl rfl)
theorem dL_law_1554 : decode cL_law 1554 = .ok (.iconst 1, 1) := dk_4 (dk_at dksL_law_58 22 rfl rfl)
theorem dL_law_1555 : decode cL_law 1555 = .ok (.iadd, 1) := dk_96 (dk_at dksL_law_58 23 rfl rfl)
theorem dL_law_1556 : decode cL_law 1556 = .ok (.iaload, 1) := dk_46 (dk_at dksL_law_59 0 rfl rfl)
theorem dL_law_1557 : decode cL_law 1557 = .ok (.aload_n 0, 1) := dk_42 (dk_at dksL_law_59 1 rfl rfl)
theorem dL_law_1558 : decode cL_law 1558 = .ok (.iload 5, 2) := dk_21 5 (dk_at dksL_law_59 2 rfl rfl)
theorem dL_law_1560 : decode cL_law 1560 = .ok (.iconst 2, 1) := dk_5 (dk_at dksL_law_59 4 rfl rfl)
theorem dL_law_1561 : decode cL_law 1561 = .ok (.iadd, 1) := dk_96 (dk_at dksL_law_59 5 rfl rfl)
theorem dL_law_1562 : decode cL_law 1562 = .ok (.iaload, 1) := dk_46 (dk_at dksL_law_59 6 rfl rfl)
theorem dL_law_1563 : decode cL_law 1563 = .ok (.aload_n 3, 1) := dk_45 (dk_at dksL_law_59 7 rfl rfl)
theorem dL_law_1564 : decode cL_law 1564 = .ok (.invokestatic 237, 3) := dk_184 0 237 (dk_at dksL_law_59 8 rfl rfl)
theorem dL_law_1567 : decode cL_law 1567 = .ok (.istore 6, 2) := dk_54 6 (dk_at dksL_law_59 11 rfl rfl)
theorem dL_law_1569 : decode cL_law 1569 = .ok (.aload_n 2, 1) := dk_44 (dk_at dksL_law_59 13 rfl rfl)
theorem dL_law_1570 : decode cL_law 1570 = .ok (.aload_n 0, 1) := dk_42 (dk_at dksL_law_59 14 rfl rfl)
theorem dL_law_1571 : decode cL_law 1571 = .ok (.iload 5, 2) := dk_21 5 (dk_at dksL_law_59 15 rfl rfl)
theorem dL_law_1573 : decode cL_law 1573 = .ok (.iconst 1, 1) := dk_4 (dk_at dksL_law_59 17 rfl rfl)
theorem dL_law_1574 : decode cL_law 1574 = .ok (.iadd, 1) := dk_96 (dk_at dksL_law_59 18 rfl rfl)
theorem dL_law_1575 : decode cL_law 1575 = .ok (.iaload, 1) := dk_46 (dk_at dksL_law_59 19 rfl rfl)
theorem dL_law_1576 : decode cL_law 1576 = .ok (.aload_n 0, 1) := dk_42 (dk_at dksL_law_59 20 rfl rfl)
theorem dL_law_1577 : decode cL_law 1577 = .ok (.iload 5, 2) := dk_21 5 (dk_at dksL_law_59 21 rfl rfl)
theorem dL_law_1579 : decode cL_law 1579 = .ok (.iconst 2, 1) := dk_5 (dk_at dksL_law_59 23 rfl rfl)
theorem dL_law_1580 : decode cL_law 1580 = .ok (.iadd, 1) := dk_96 (dk_at dksL_law_60 0 rfl rfl)
theorem dL_law_1581 : decode cL_law 1581 = .ok (.iaload, 1) := dk_46 (dk_at dksL_law_60 1 rfl rfl)
theorem dL_law_1582 : decode cL_law 1582 = .ok (.invokevirtual 239, 3) := dk_182 0 239 (dk_at dksL_law_60 2 rfl rfl)
theorem dL_law_1585 : decode cL_law 1585 = .ok (.istore 7, 2) := dk_54 7 (dk_at dksL_law_60 5 rfl rfl)
theorem dL_law_1587 : decode cL_law 1587 = .ok (.aload_n 2, 1) := dk_44 (dk_at dksL_law_60 7 rfl rfl)
theorem dL_law_1588 : decode cL_law 1588 = .ok (.invokevirtual 175, 3) := dk_182 0 175 (dk_at dksL_law_60 8 rfl rfl)
theorem dL_law_1591 : decode cL_law 1591 = .ok (.iload 6, 2) := dk_21 6 (dk_at dksL_law_60 11 rfl rfl)
theorem dL_law_1593 : decode cL_law 1593 = .ok (.if_icmp .eq 5, 3) := dk_159 0 5 (dk_at dksL_law_60 13 rfl rfl)
theorem dL_law_1596 : decode cL_law 1596 = .ok (.iconst 0, 1) := dk_3 (dk_at dksL_law_60 16 rfl rfl)
theorem dL_law_1597 : decode cL_law 1597 = .ok (.ireturn, 1) := dk_172 (dk_at dksL_law_60 17 rfl rfl)
theorem dL_law_1598 : decode cL_law 1598 = .ok (.iload 6, 2) := dk_21 6 (dk_at dksL_law_60 18 rfl rfl)
theorem dL_law_1600 : decode cL_law 1600 = .ok (.ifCond .ne 22, 3) := dk_154 0 22 (dk_at dksL_law_60 20 rfl rfl)
theorem dL_law_1603 : decode cL_law 1603 = .ok (.aload_n 3, 1) := dk_45 (dk_at dksL_law_60 23 rfl rfl)
theorem dL_law_1604 : decode cL_law 1604 = .ok (.iconst 0, 1) := dk_3 (dk_at dksL_law_61 0 rfl rfl)
theorem dL_law_1605 : decode cL_law 1605 = .ok (.laload, 1) := dk_47 (dk_at dksL_law_61 1 rfl rfl)
theorem dL_law_1606 : decode cL_law 1606 = .ok (.iload 7, 2) := dk_21 7 (dk_at dksL_law_61 2 rfl rfl)
theorem dL_law_1608 : decode cL_law 1608 = .ok (.ifCond .eq 7, 3) := dk_153 0 7 (dk_at dksL_law_61 4 rfl rfl)
theorem dL_law_1611 : decode cL_law 1611 = .ok (.lconst 1, 1) := dk_10 (dk_at dksL_law_61 7 rfl rfl)
theorem dL_law_1612 : decode cL_law 1612 = .ok (.goto 4, 3) := dk_167 0 4 (dk_at dksL_law_61 8 rfl rfl)
theorem dL_law_1615 : decode cL_law 1615 = .ok (.lconst 0, 1) := dk_9 (dk_at dksL_law_61 11 rfl rfl)
theorem dL_law_1616 : decode cL_law 1616 = .ok (.lcmp, 1) := dk_148 (dk_at dksL_law_61 12 rfl rfl)
theorem dL_law_1617 : decode cL_law 1617 = .ok (.ifCond .eq 5, 3) := dk_153 0 5 (dk_at dksL_law_61 13 rfl rfl)
theorem dL_law_1620 : decode cL_law 1620 = .ok (.iconst 0, 1) := dk_3 (dk_at dksL_law_61 16 rfl rfl)
theorem dL_law_1621 : decode cL_law 1621 = .ok (.ireturn, 1) := dk_172 (dk_at dksL_law_61 17 rfl rfl)
theorem dL_law_1622 : decode cL_law 1622 = .ok (.goto 1765, 3) := dk_167 6 229 (dk_at dksL_law_61 18 rfl rfl)
theorem dL_law_1625 : decode cL_law 1625 = .ok (.aload_n 1, 1) := dk_43 (dk_at dksL_law_61 21 rfl rfl)
theorem dL_law_1626 : decode cL_law 1626 = .ok (.aload_n 0, 1) := dk_42 (dk_at dksL_law_61 22 rfl rfl)
theorem dL_law_1627 : decode cL_law 1627 = .ok (.iload 5, 2) := dk_21 5 (dk_at dksL_law_62 0 rfl rfl)
theorem dL_law_1629 : decode cL_law 1629 = .ok (.iconst 1, 1) := dk_4 (dk_at dksL_law_62 2 rfl rfl)
theorem dL_law_1630 : decode cL_law 1630 = .ok (.iadd, 1) := dk_96 (dk_at dksL_law_62 3 rfl rfl)
theorem dL_law_1631 : decode cL_law 1631 = .ok (.iaload, 1) := dk_46 (dk_at dksL_law_62 4 rfl rfl)
theorem dL_law_1632 : decode cL_law 1632 = .ok (.aload_n 3, 1) := dk_45 (dk_at dksL_law_62 5 rfl rfl)
theorem dL_law_1633 : decode cL_law 1633 = .ok (.invokestatic 240, 3) := dk_184 0 240 (dk_at dksL_law_62 6 rfl rfl)
theorem dL_law_1636 : decode cL_law 1636 = .ok (.istore 6, 2) := dk_54 6 (dk_at dksL_law_62 9 rfl rfl)
theorem dL_law_1638 : decode cL_law 1638 = .ok (.aload_n 2, 1) := dk_44 (dk_at dksL_law_62 11 rfl rfl)
theorem dL_law_1639 : decode cL_law 1639 = .ok (.aload_n 0, 1) := dk_42 (dk_at dksL_law_62 12 rfl rfl)
theorem dL_law_1640 : decode cL_law 1640 = .ok (.iload 5, 2) := dk_21 5 (dk_at dksL_law_62 13 rfl rfl)
theorem dL_law_1642 : decode cL_law 1642 = .ok (.iconst 1, 1) := dk_4 (dk_at dksL_law_62 15 rfl rfl)
theorem dL_law_1643 : decode cL_law 1643 = .ok (.iadd, 1) := dk_96 (dk_at dksL_law_62 16 rfl rfl)
theorem dL_law_1644 : decode cL_law 1644 = .ok (.iaload, 1) := dk_46 (dk_at dksL_law_62 17 rfl rfl)
theorem dL_law_1645 : decode cL_law 1645 = .ok (.invokevirtual 242, 3) := dk_182 0 242 (dk_at dksL_law_62 18 rfl rfl)
theorem dL_law_1648 : decode cL_law 1648 = .ok (.istore 7, 2) := dk_54 7 (dk_at dksL_law_62 21 rfl rfl)
theorem dL_law_1650 : decode cL_law 1650 = .ok (.aload_n 2, 1) := dk_44 (dk_at dksL_law_62 23 rfl rfl)
theorem dL_law_1651 : decode cL_law 1651 = .ok (.invokevirtual 175, 3) := dk_182 0 175 (dk_at dksL_law_63 0 rfl rfl)
theorem dL_law_1654 : decode cL_law 1654 = .ok (.iload 6, 2) := dk_21 6 (dk_at dksL_law_63 3 rfl rfl)
theorem dL_law_1656 : decode cL_law 1656 = .ok (.if_icmp .eq 5, 3) := dk_159 0 5 (dk_at dksL_law_63 5 rfl rfl)
theorem dL_law_1659 : decode cL_law 1659 = .ok (.iconst 0, 1) := dk_3 (dk_at dksL_law_63 8 rfl rfl)
theorem dL_law_1660 : decode cL_law 1660 = .ok (.ireturn, 1) := dk_172 (dk_at dksL_law_63 9 rfl rfl)
theorem dL_law_1661 : decode cL_law 1661 = .ok (.iload 6, 2) := dk_21 6 (dk_at dksL_law_63 10 rfl rfl)
theorem dL_law_1663 : decode cL_law 1663 = .ok (.ifCond .ne 15, 3) := dk_154 0 15 (dk_at dksL_law_63 12 rfl rfl)
theorem dL_law_1666 : decode cL_law 1666 = .ok (.aload_n 3, 1) := dk_45 (dk_at dksL_law_63 15 rfl rfl)
theorem dL_law_1667 : decode cL_law 1667 = .ok (.iconst 0, 1) := dk_3 (dk_at dksL_law_63 16 rfl rfl)
theorem dL_law_1668 : decode cL_law 1668 = .ok (.laload, 1) := dk_47 (dk_at dksL_law_63 17 rfl rfl)
theorem dL_law_1669 : decode cL_law 1669 = .ok (.iload 7, 2) := dk_21 7 (dk_at dksL_law_63 18 rfl rfl)
theorem dL_law_1671 : decode cL_law 1671 = .ok (.i2l, 1) := dk_133 (dk_at dksL_law_63 20 rfl rfl)
theorem dL_law_1672 : decode cL_law 1672 = .ok (.lcmp, 1) := dk_148 (dk_at dksL_law_63 21 rfl rfl)
theorem dL_law_1673 : decode cL_law 1673 = .ok (.ifCond .eq 5, 3) := dk_153 0 5 (dk_at dksL_law_64 0 rfl rfl)
theorem dL_law_1676 : decode cL_law 1676 = .ok (.iconst 0, 1) := dk_3 (dk_at dksL_law_64 3 rfl rfl)
theorem dL_law_1677 : decode cL_law 1677 = .ok (.ireturn, 1) := dk_172 (dk_at dksL_law_64 4 rfl rfl)
theorem dL_law_1678 : decode cL_law 1678 = .ok (.goto 1709, 3) := dk_167 6 173 (dk_at dksL_law_64 5 rfl rfl)
theorem dL_law_1681 : decode cL_law 1681 = .ok (.aload_n 1, 1) := dk_43 (dk_at dksL_law_64 8 rfl rfl)
theorem dL_law_1682 : decode cL_law 1682 = .ok (.aload_n 0, 1) := dk_42 (dk_at dksL_law_64 9 rfl rfl)
theorem dL_law_1683 : decode cL_law 1683 = .ok (.iload 5, 2) := dk_21 5 (dk_at dksL_law_64 10 rfl rfl)
theorem dL_law_1685 : decode cL_law 1685 = .ok (.iconst 1, 1) := dk_4 (dk_at dksL_law_64 12 rfl rfl)
theorem dL_law_1686 : decode cL_law 1686 = .ok (.iadd, 1) := dk_96 (dk_at dksL_law_64 13 rfl rfl)
theorem dL_law_1687 : decode cL_law 1687 = .ok (.iaload, 1) := dk_46 (dk_at dksL_law_64 14 rfl rfl)
theorem dL_law_1688 : decode cL_law 1688 = .ok (.aload_n 0, 1) := dk_42 (dk_at dksL_law_64 15 rfl rfl)
theorem dL_law_1689 : decode cL_law 1689 = .ok (.iload 5, 2) := dk_21 5 (dk_at dksL_law_64 16 rfl rfl)
theorem dL_law_1691 : decode cL_law 1691 = .ok (.iconst 2, 1) := dk_5 (dk_at dksL_law_64 18 rfl rfl)
theorem dL_law_1692 : decode cL_law 1692 = .ok (.iadd, 1) := dk_96 (dk_at dksL_law_64 19 rfl rfl)
theorem dL_law_1693 : decode cL_law 1693 = .ok (.iaload, 1) := dk_46 (dk_at dksL_law_64 20 rfl rfl)
theorem dL_law_1694 : decode cL_law 1694 = .ok (.aload_n 3, 1) := dk_45 (dk_at dksL_law_64 21 rfl rfl)
theorem dL_law_1695 : decode cL_law 1695 = .ok (.invokestatic 243, 3) := dk_184 0 243 (dk_at dksL_law_65 0 rfl rfl)
theorem dL_law_1698 : decode cL_law 1698 = .ok (.istore 6, 2) := dk_54 6 (dk_at dksL_law_65 3 rfl rfl)
theorem dL_law_1700 : decode cL_law 1700 = .ok (.aload_n 2, 1) := dk_44 (dk_at dksL_law_65 5 rfl rfl)
theorem dL_law_1701 : decode cL_law 1701 = .ok (.aload_n 0, 1) := dk_42 (dk_at dksL_law_65 6 rfl rfl)
theorem dL_law_1702 : decode cL_law 1702 = .ok (.iload 5, 2) := dk_21 5 (dk_at dksL_law_65 7 rfl rfl)
theorem dL_law_1704 : decode cL_law 1704 = .ok (.iconst 1, 1) := dk_4 (dk_at dksL_law_65 9 rfl rfl)
theorem dL_law_1705 : decode cL_law 1705 = .ok (.iadd, 1) := dk_96 (dk_at dksL_law_65 10 rfl rfl)
theorem dL_law_1706 : decode cL_law 1706 = .ok (.iaload, 1) := dk_46 (dk_at dksL_law_65 11 rfl rfl)
theorem dL_law_1707 : decode cL_law 1707 = .ok (.aload_n 0, 1) := dk_42 (dk_at dksL_law_65 12 rfl rfl)
theorem dL_law_1708 : decode cL_law 1708 = .ok (.iload 5, 2) := dk_21 5 (dk_at dksL_law_65 13 rfl rfl)
theorem dL_law_1710 : decode cL_law 1710 = .ok (.iconst 2, 1) := dk_5 (dk_at dksL_law_65 15 rfl rfl)
theorem dL_law_1711 : decode cL_law 1711 = .ok (.iadd, 1) := dk_96 (dk_at dksL_law_65 16 rfl rfl)
theorem dL_law_1712 : decode cL_law 1712 = .ok (.iaload, 1) := dk_46 (dk_at dksL_law_65 17 rfl rfl)
theorem dL_law_1713 : decode cL_law 1713 = .ok (.invokevirtual 245, 3) := dk_182 0 245 (dk_at dksL_law_65 18 rfl rfl)
theorem dL_law_1716 : decode cL_law 1716 = .ok (.istore 7, 2) := dk_54 7 (dk_at dksL_law_65 21 rfl rfl)
theorem dL_law_1718 : decode cL_law 1718 = .ok (.aload_n 2, 1) := dk_44 (dk_at dksL_law_65 23 rfl rfl)
theorem dL_law_1719 : decode cL_law 1719 = .ok (.invokevirtual 175, 3) := dk_182 0 175 (dk_at dksL_law_66 0 rfl rfl)
theorem dL_law_1722 : decode cL_law 1722 = .ok (.iload 6, 2) := dk_21 6 (dk_at dksL_law_66 3 rfl rfl)
theorem dL_law_1724 : decode cL_law 1724 = .ok (.if_icmp .eq 5, 3) := dk_159 0 5 (dk_at dksL_law_66 5 rfl rfl)
theorem dL_law_1727 : decode cL_law 1727 = .ok (.iconst 0, 1) := dk_3 (dk_at dksL_law_66 8 rfl rfl)
theorem dL_law_1728 : decode cL_law 1728 = .ok (.ireturn, 1) := dk_172 (dk_at dksL_law_66 9 rfl rfl)
theorem dL_law_1729 : decode cL_law 1729 = .ok (.iload 6, 2) := dk_21 6 (dk_at dksL_law_66 10 rfl rfl)
theorem dL_law_1731 : decode cL_law 1731 = .ok (.ifCond .ne 22, 3) := dk_154 0 22 (dk_at dksL_law_66 12 rfl rfl)
theorem dL_law_1734 : decode cL_law 1734 = .ok (.aload_n 3, 1) := dk_45 (dk_at dksL_law_66 15 rfl rfl)
theorem dL_law_1735 : decode cL_law 1735 = .ok (.iconst 0, 1) := dk_3 (dk_at dksL_law_66 16 rfl rfl)
theorem dL_law_1736 : decode cL_law 1736 = .ok (.laload, 1) := dk_47 (dk_at dksL_law_66 17 rfl rfl)
theorem dL_law_1737 : decode cL_law 1737 = .ok (.iload 7, 2) := dk_21 7 (dk_at dksL_law_66 18 rfl rfl)
theorem dL_law_1739 : decode cL_law 1739 = .ok (.ifCond .eq 7, 3) := dk_153 0 7 (dk_at dksL_law_66 20 rfl rfl)
theorem dL_law_1742 : decode cL_law 1742 = .ok (.lconst 1, 1) := dk_10 (dk_at dksL_law_66 23 rfl rfl)
theorem dL_law_1743 : decode cL_law 1743 = .ok (.goto 4, 3) := dk_167 0 4 (dk_at dksL_law_67 0 rfl rfl)
theorem dL_law_1746 : decode cL_law 1746 = .ok (.lconst 0, 1) := dk_9 (dk_at dksL_law_67 3 rfl rfl)
theorem dL_law_1747 : decode cL_law 1747 = .ok (.lcmp, 1) := dk_148 (dk_at dksL_law_67 4 rfl rfl)
theorem dL_law_1748 : decode cL_law 1748 = .ok (.ifCond .eq 5, 3) := dk_153 0 5 (dk_at dksL_law_67 5 rfl rfl)
theorem dL_law_1751 : decode cL_law 1751 = .ok (.iconst 0, 1) := dk_3 (dk_at dksL_law_67 8 rfl rfl)
theorem dL_law_1752 : decode cL_law 1752 = .ok (.ireturn, 1) := dk_172 (dk_at dksL_law_67 9 rfl rfl)
theorem dL_law_1753 : decode cL_law 1753 = .ok (.goto 1634, 3) := dk_167 6 98 (dk_at dksL_law_67 10 rfl rfl)
theorem dL_law_1756 : decode cL_law 1756 = .ok (.aload_n 1, 1) := dk_43 (dk_at dksL_law_67 13 rfl rfl)
theorem dL_law_1757 : decode cL_law 1757 = .ok (.aload_n 0, 1) := dk_42 (dk_at dksL_law_67 14 rfl rfl)
theorem dL_law_1758 : decode cL_law 1758 = .ok (.iload 5, 2) := dk_21 5 (dk_at dksL_law_67 15 rfl rfl)
theorem dL_law_1760 : decode cL_law 1760 = .ok (.iconst 1, 1) := dk_4 (dk_at dksL_law_67 17 rfl rfl)
theorem dL_law_1761 : decode cL_law 1761 = .ok (.iadd, 1) := dk_96 (dk_at dksL_law_67 18 rfl rfl)
theorem dL_law_1762 : decode cL_law 1762 = .ok (.iaload, 1) := dk_46 (dk_at dksL_law_67 19 rfl rfl)
theorem dL_law_1763 : decode cL_law 1763 = .ok (.aload_n 0, 1) := dk_42 (dk_at dksL_law_67 20 rfl rfl)
theorem dL_law_1764 : decode cL_law 1764 = .ok (.iload 5, 2) := dk_21 5 (dk_at dksL_law_67 21 rfl rfl)
theorem dL_law_1766 : decode cL_law 1766 = .ok (.iconst 2, 1) := dk_5 (dk_at dksL_law_67 23 rfl rfl)
theorem dL_law_1767 : decode cL_law 1767 = .ok (.iadd, 1) := dk_96 (dk_at dksL_law_68 0 rfl rfl)
theorem dL_law_1768 : decode cL_law 1768 = .ok (.iaload, 1) := dk_46 (dk_at dksL_law_68 1 rfl rfl)
theorem dL_law_1769 : decode cL_law 1769 = .ok (.aload_n 3, 1) := dk_45 (dk_at dksL_law_68 2 rfl rfl)
theorem dL_law_1770 : decode cL_law 1770 = .ok (.invokestatic 246, 3) := dk_184 0 246 (dk_at dksL_law_68 3 rfl rfl)
theorem dL_law_1773 : decode cL_law 1773 = .ok (.istore 6, 2) := dk_54 6 (dk_at dksL_law_68 6 rfl rfl)
theorem dL_law_1775 : decode cL_law 1775 = .ok (.aload_n 2, 1) := dk_44 (dk_at dksL_law_68 8 rfl rfl)
theorem dL_law_1776 : decode cL_law 1776 = .ok (.aload_n 0, 1) := dk_42 (dk_at dksL_law_68 9 rfl rfl)
theorem dL_law_1777 : decode cL_law 1777 = .ok (.iload 5, 2) := dk_21 5 (dk_at dksL_law_68 10 rfl rfl)
theorem dL_law_1779 : decode cL_law 1779 = .ok (.iconst 1, 1) := dk_4 (dk_at dksL_law_68 12 rfl rfl)
theorem dL_law_1780 : decode cL_law 1780 = .ok (.iadd, 1) := dk_96 (dk_at dksL_law_68 13 rfl rfl)
theorem dL_law_1781 : decode cL_law 1781 = .ok (.iaload, 1) := dk_46 (dk_at dksL_law_68 14 rfl rfl)
theorem dL_law_1782 : decode cL_law 1782 = .ok (.aload_n 0, 1) := dk_42 (dk_at dksL_law_68 15 rfl rfl)
theorem dL_law_1783 : decode cL_law 1783 = .ok (.iload 5, 2) := dk_21 5 (dk_at dksL_law_68 16 rfl rfl)
theorem dL_law_1785 : decode cL_law 1785 = .ok (.iconst 2, 1) := dk_5 (dk_at dksL_law_68 18 rfl rfl)
theorem dL_law_1786 : decode cL_law 1786 = .ok (.iadd, 1) := dk_96 (dk_at dksL_law_68 19 rfl rfl)
theorem dL_law_1787 : decode cL_law 1787 = .ok (.iaload, 1) := dk_46 (dk_at dksL_law_68 20 rfl rfl)
theorem dL_law_1788 : decode cL_law 1788 = .ok (.invokevirtual 248, 3) := dk_182 0 248 (dk_at dksL_law_68 21 rfl rfl)
theorem dL_law_1791 : decode cL_law 1791 = .ok (.istore 7, 2) := dk_54 7 (dk_at dksL_law_69 0 rfl rfl)
theorem dL_law_1793 : decode cL_law 1793 = .ok (.aload_n 2, 1) := dk_44 (dk_at dksL_law_69 2 rfl rfl)
theorem dL_law_1794 : decode cL_law 1794 = .ok (.invokevirtual 175, 3) := dk_182 0 175 (dk_at dksL_law_69 3 rfl rfl)
theorem dL_law_1797 : decode cL_law 1797 = .ok (.iload 6, 2) := dk_21 6 (dk_at dksL_law_69 6 rfl rfl)
theorem dL_law_1799 : decode cL_law 1799 = .ok (.if_icmp .eq 5, 3) := dk_159 0 5 (dk_at dksL_law_69 8 rfl rfl)
theorem dL_law_1802 : decode cL_law 1802 = .ok (.iconst 0, 1) := dk_3 (dk_at dksL_law_69 11 rfl rfl)
theorem dL_law_1803 : decode cL_law 1803 = .ok (.ireturn, 1) := dk_172 (dk_at dksL_law_69 12 rfl rfl)
theorem dL_law_1804 : decode cL_law 1804 = .ok (.iload 6, 2) := dk_21 6 (dk_at dksL_law_69 13 rfl rfl)
theorem dL_law_1806 : decode cL_law 1806 = .ok (.ifCond .ne 15, 3) := dk_154 0 15 (dk_at dksL_law_69 15 rfl rfl)
theorem dL_law_1809 : decode cL_law 1809 = .ok (.aload_n 3, 1) := dk_45 (dk_at dksL_law_69 18 rfl rfl)
theorem dL_law_1810 : decode cL_law 1810 = .ok (.iconst 0, 1) := dk_3 (dk_at dksL_law_69 19 rfl rfl)
theorem dL_law_1811 : decode cL_law 1811 = .ok (.laload, 1) := dk_47 (dk_at dksL_law_69 20 rfl rfl)
theorem dL_law_1812 : decode cL_law 1812 = .ok (.iload 7, 2) := dk_21 7 (dk_at dksL_law_69 21 rfl rfl)
theorem dL_law_1814 : decode cL_law 1814 = .ok (.i2l, 1) := dk_133 (dk_at dksL_law_69 23 rfl rfl)
theorem dL_law_1815 : decode cL_law 1815 = .ok (.lcmp, 1) := dk_148 (dk_at dksL_law_70 0 rfl rfl)
theorem dL_law_1816 : decode cL_law 1816 = .ok (.ifCond .eq 5, 3) := dk_153 0 5 (dk_at dksL_law_70 1 rfl rfl)
theorem dL_law_1819 : decode cL_law 1819 = .ok (.iconst 0, 1) := dk_3 (dk_at dksL_law_70 4 rfl rfl)
theorem dL_law_1820 : decode cL_law 1820 = .ok (.ireturn, 1) := dk_172 (dk_at dksL_law_70 5 rfl rfl)
theorem dL_law_1821 : decode cL_law 1821 = .ok (.goto 1566, 3) := dk_167 6 30 (dk_at dksL_law_70 6 rfl rfl)
theorem dL_law_1824 : decode cL_law 1824 = .ok (.aload_n 1, 1) := dk_43 (dk_at dksL_law_70 9 rfl rfl)
theorem dL_law_1825 : decode cL_law 1825 = .ok (.aload_n 0, 1) := dk_42 (dk_at dksL_law_70 10 rfl rfl)
theorem dL_law_1826 : decode cL_law 1826 = .ok (.iload 5, 2) := dk_21 5 (dk_at dksL_law_70 11 rfl rfl)
theorem dL_law_1828 : decode cL_law 1828 = .ok (.iconst 1, 1) := dk_4 (dk_at dksL_law_70 13 rfl rfl)
theorem dL_law_1829 : decode cL_law 1829 = .ok (.iadd, 1) := dk_96 (dk_at dksL_law_70 14 rfl rfl)
theorem dL_law_1830 : decode cL_law 1830 = .ok (.iaload, 1) := dk_46 (dk_at dksL_law_70 15 rfl rfl)
theorem dL_law_1831 : decode cL_law 1831 = .ok (.aload_n 0, 1) := dk_42 (dk_at dksL_law_70 16 rfl rfl)
theorem dL_law_1832 : decode cL_law 1832 = .ok (.iload 5, 2) := dk_21 5 (dk_at dksL_law_70 17 rfl rfl)
theorem dL_law_1834 : decode cL_law 1834 = .ok (.iconst 2, 1) := dk_5 (dk_at dksL_law_70 19 rfl rfl)
theorem dL_law_1835 : decode cL_law 1835 = .ok (.iadd, 1) := dk_96 (dk_at dksL_law_70 20 rfl rfl)
theorem dL_law_1836 : decode cL_law 1836 = .ok (.iaload, 1) := dk_46 (dk_at dksL_law_70 21 rfl rfl)
theorem dL_law_1837 : decode cL_law 1837 = .ok (.aload_n 3, 1) := dk_45 (dk_at dksL_law_70 22 rfl rfl)
theorem dL_law_1838 : decode cL_law 1838 = .ok (.invokestatic 249, 3) := dk_184 0 249 (dk_at dksL_law_71 0 rfl rfl)
theorem dL_law_1841 : decode cL_law 1841 = .ok (.istore 6, 2) := dk_54 6 (dk_at dksL_law_71 3 rfl rfl)
theorem dL_law_1843 : decode cL_law 1843 = .ok (.aload_n 2, 1) := dk_44 (dk_at dksL_law_71 5 rfl rfl)
theorem dL_law_1844 : decode cL_law 1844 = .ok (.aload_n 0, 1) := dk_42 (dk_at dksL_law_71 6 rfl rfl)
theorem dL_law_1845 : decode cL_law 1845 = .ok (.iload 5, 2) := dk_21 5 (dk_at dksL_law_71 7 rfl rfl)
theorem dL_law_1847 : decode cL_law 1847 = .ok (.iconst 1, 1) := dk_4 (dk_at dksL_law_71 9 rfl rfl)
theorem dL_law_1848 : decode cL_law 1848 = .ok (.iadd, 1) := dk_96 (dk_at dksL_law_71 10 rfl rfl)
theorem dL_law_1849 : decode cL_law 1849 = .ok (.iaload, 1) := dk_46 (dk_at dksL_law_71 11 rfl rfl)
theorem dL_law_1850 : decode cL_law 1850 = .ok (.aload_n 0, 1) := dk_42 (dk_at dksL_law_71 12 rfl rfl)
theorem dL_law_1851 : decode cL_law 1851 = .ok (.iload 5, 2) := dk_21 5 (dk_at dksL_law_71 13 rfl rfl)
theorem dL_law_1853 : decode cL_law 1853 = .ok (.iconst 2, 1) := dk_5 (dk_at dksL_law_71 15 rfl rfl)
theorem dL_law_1854 : decode cL_law 1854 = .ok (.iadd, 1) := dk_96 (dk_at dksL_law_71 16 rfl rfl)
theorem dL_law_1855 : decode cL_law 1855 = .ok (.iaload, 1) := dk_46 (dk_at dksL_law_71 17 rfl rfl)
theorem dL_law_1856 : decode cL_law 1856 = .ok (.invokevirtual 251, 3) := dk_182 0 251 (dk_at dksL_law_71 18 rfl rfl)
theorem dL_law_1859 : decode cL_law 1859 = .ok (.istore 7, 2) := dk_54 7 (dk_at dksL_law_71 21 rfl rfl)
theorem dL_law_1861 : decode cL_law 1861 = .ok (.aload_n 2, 1) := dk_44 (dk_at dksL_law_71 23 rfl rfl)
theorem dL_law_1862 : decode cL_law 1862 = .ok (.invokevirtual 175, 3) := dk_182 0 175 (dk_at dksL_law_72 0 rfl rfl)
theorem dL_law_1865 : decode cL_law 1865 = .ok (.iload 6, 2) := dk_21 6 (dk_at dksL_law_72 3 rfl rfl)
theorem dL_law_1867 : decode cL_law 1867 = .ok (.if_icmp .eq 5, 3) := dk_159 0 5 (dk_at dksL_law_72 5 rfl rfl)
theorem dL_law_1870 : decode cL_law 1870 = .ok (.iconst 0, 1) := dk_3 (dk_at dksL_law_72 8 rfl rfl)
theorem dL_law_1871 : decode cL_law 1871 = .ok (.ireturn, 1) := dk_172 (dk_at dksL_law_72 9 rfl rfl)
theorem dL_law_1872 : decode cL_law 1872 = .ok (.iload 6, 2) := dk_21 6 (dk_at dksL_law_72 10 rfl rfl)
theorem dL_law_1874 : decode cL_law 1874 = .ok (.ifCond .ne 15, 3) := dk_154 0 15 (dk_at dksL_law_72 12 rfl rfl)
theorem dL_law_1877 : decode cL_law 1877 = .ok (.aload_n 3, 1) := dk_45 (dk_at dksL_law_72 15 rfl rfl)
theorem dL_law_1878 : decode cL_law 1878 = .ok (.iconst 0, 1) := dk_3 (dk_at dksL_law_72 16 rfl rfl)
theorem dL_law_1879 : decode cL_law 1879 = .ok (.laload, 1) := dk_47 (dk_at dksL_law_72 17 rfl rfl)
theorem dL_law_1880 : decode cL_law 1880 = .ok (.iload 7, 2) := dk_21 7 (dk_at dksL_law_72 18 rfl rfl)
theorem dL_law_1882 : decode cL_law 1882 = .ok (.i2l, 1) := dk_133 (dk_at dksL_law_72 20 rfl rfl)
theorem dL_law_1883 : decode cL_law 1883 = .ok (.lcmp, 1) := dk_148 (dk_at dksL_law_72 21 rfl rfl)
theorem dL_law_1884 : decode cL_law 1884 = .ok (.ifCond .eq 5, 3) := dk_153 0 5 (dk_at dksL_law_73 0 rfl rfl)
theorem dL_law_1887 : decode cL_law 1887 = .ok (.iconst 0, 1) := dk_3 (dk_at dksL_law_73 3 rfl rfl)
theorem dL_law_1888 : decode cL_law 1888 = .ok (.ireturn, 1) := dk_172 (dk_at dksL_law_73 4 rfl rfl)
theorem dL_law_1889 : decode cL_law 1889 = .ok (.goto 1498, 3) := dk_167 5 218 (dk_at dksL_law_73 5 rfl rfl)
theorem dL_law_1892 : decode cL_law 1892 = .ok (.aload_n 1, 1) := dk_43 (dk_at dksL_law_73 8 rfl rfl)
theorem dL_law_1893 : decode cL_law 1893 = .ok (.aload_n 0, 1) := dk_42 (dk_at dksL_law_73 9 rfl rfl)
theorem dL_law_1894 : decode cL_law 1894 = .ok (.iload 5, 2) := dk_21 5 (dk_at dksL_law_73 10 rfl rfl)
theorem dL_law_1896 : decode cL_law 1896 = .ok (.iconst 1, 1) := dk_4 (dk_at dksL_law_73 12 rfl rfl)
theorem dL_law_1897 : decode cL_law 1897 = .ok (.iadd, 1) := dk_96 (dk_at dksL_law_73 13 rfl rfl)
theorem dL_law_1898 : decode cL_law 1898 = .ok (.iaload, 1) := dk_46 (dk_at dksL_law_73 14 rfl rfl)
theorem dL_law_1899 : decode cL_law 1899 = .ok (.aload_n 0, 1) := dk_42 (dk_at dksL_law_73 15 rfl rfl)
theorem dL_law_1900 : decode cL_law 1900 = .ok (.iload 5, 2) := dk_21 5 (dk_at dksL_law_73 16 rfl rfl)
theorem dL_law_1902 : decode cL_law 1902 = .ok (.iconst 2, 1) := dk_5 (dk_at dksL_law_73 18 rfl rfl)
theorem dL_law_1903 : decode cL_law 1903 = .ok (.iadd, 1) := dk_96 (dk_at dksL_law_73 19 rfl rfl)
theorem dL_law_1904 : decode cL_law 1904 = .ok (.iaload, 1) := dk_46 (dk_at dksL_law_73 20 rfl rfl)
theorem dL_law_1905 : decode cL_law 1905 = .ok (.aload_n 3, 1) := dk_45 (dk_at dksL_law_73 21 rfl rfl)
theorem dL_law_1906 : decode cL_law 1906 = .ok (.invokestatic 252, 3) := dk_184 0 252 (dk_at dksL_law_74 0 rfl rfl)
theorem dL_law_1909 : decode cL_law 1909 = .ok (.istore 6, 2) := dk_54 6 (dk_at dksL_law_74 3 rfl rfl)
theorem dL_law_1911 : decode cL_law 1911 = .ok (.aload_n 2, 1) := dk_44 (dk_at dksL_law_74 5 rfl rfl)
theorem dL_law_1912 : decode cL_law 1912 = .ok (.aload_n 0, 1) := dk_42 (dk_at dksL_law_74 6 rfl rfl)
theorem dL_law_1913 : decode cL_law 1913 = .ok (.iload 5, 2) := dk_21 5 (dk_at dksL_law_74 7 rfl rfl)
theorem dL_law_1915 : decode cL_law 1915 = .ok (.iconst 1, 1) := dk_4 (dk_at dksL_law_74 9 rfl rfl)
theorem dL_law_1916 : decode cL_law 1916 = .ok (.iadd, 1) := dk_96 (dk_at dksL_law_74 10 rfl rfl)
theorem dL_law_1917 : decode cL_law 1917 = .ok (.iaload, 1) := dk_46 (dk_at dksL_law_74 11 rfl rfl)
theorem dL_law_1918 : decode cL_law 1918 = .ok (.aload_n 0, 1) := dk_42 (dk_at dksL_law_74 12 rfl rfl)
theorem dL_law_1919 : decode cL_law 1919 = .ok (.iload 5, 2) := dk_21 5 (dk_at dksL_law_74 13 rfl rfl)
theorem dL_law_1921 : decode cL_law 1921 = .ok (.iconst 2, 1) := dk_5 (dk_at dksL_law_74 15 rfl rfl)
theorem dL_law_1922 : decode cL_law 1922 = .ok (.iadd, 1) := dk_96 (dk_at dksL_law_74 16 rfl rfl)
theorem dL_law_1923 : decode cL_law 1923 = .ok (.iaload, 1) := dk_46 (dk_at dksL_law_74 17 rfl rfl)
theorem dL_law_1924 : decode cL_law 1924 = .ok (.invokevirtual 254, 3) := dk_182 0 254 (dk_at dksL_law_74 18 rfl rfl)
theorem dL_law_1927 : decode cL_law 1927 = .ok (.istore 7, 2) := dk_54 7 (dk_at dksL_law_74 21 rfl rfl)
theorem dL_law_1929 : decode cL_law 1929 = .ok (.aload_n 2, 1) := dk_44 (dk_at dksL_law_74 23 rfl rfl)
theorem dL_law_1930 : decode cL_law 1930 = .ok (.invokevirtual 175, 3) := dk_182 0 175 (dk_at dksL_law_75 0 rfl rfl)
theorem dL_law_1933 : decode cL_law 1933 = .ok (.iload 6, 2) := dk_21 6 (dk_at dksL_law_75 3 rfl rfl)
theorem dL_law_1935 : decode cL_law 1935 = .ok (.if_icmp .eq 5, 3) := dk_159 0 5 (dk_at dksL_law_75 5 rfl rfl)
theorem dL_law_1938 : decode cL_law 1938 = .ok (.iconst 0, 1) := dk_3 (dk_at dksL_law_75 8 rfl rfl)
theorem dL_law_1939 : decode cL_law 1939 = .ok (.ireturn, 1) := dk_172 (dk_at dksL_law_75 9 rfl rfl)
theorem dL_law_1940 : decode cL_law 1940 = .ok (.iload 6, 2) := dk_21 6 (dk_at dksL_law_75 10 rfl rfl)
theorem dL_law_1942 : decode cL_law 1942 = .ok (.ifCond .ne 15, 3) := dk_154 0 15 (dk_at dksL_law_75 12 rfl rfl)
theorem dL_law_1945 : decode cL_law 1945 = .ok (.aload_n 3, 1) := dk_45 (dk_at dksL_law_75 15 rfl rfl)
theorem dL_law_1946 : decode cL_law 1946 = .ok (.iconst 0, 1) := dk_3 (dk_at dksL_law_75 16 rfl rfl)
theorem dL_law_1947 : decode cL_law 1947 = .ok (.laload, 1) := dk_47 (dk_at dksL_law_75 17 rfl rfl)
theorem dL_law_1948 : decode cL_law 1948 = .ok (.iload 7, 2) := dk_21 7 (dk_at dksL_law_75 18 rfl rfl)
theorem dL_law_1950 : decode cL_law 1950 = .ok (.i2l, 1) := dk_133 (dk_at dksL_law_75 20 rfl rfl)
theorem dL_law_1951 : decode cL_law 1951 = .ok (.lcmp, 1) := dk_148 (dk_at dksL_law_75 21 rfl rfl)
theorem dL_law_1952 : decode cL_law 1952 = .ok (.ifCond .eq 5, 3) := dk_153 0 5 (dk_at dksL_law_76 0 rfl rfl)
theorem dL_law_1955 : decode cL_law 1955 = .ok (.iconst 0, 1) := dk_3 (dk_at dksL_law_76 3 rfl rfl)
theorem dL_law_1956 : decode cL_law 1956 = .ok (.ireturn, 1) := dk_172 (dk_at dksL_law_76 4 rfl rfl)
theorem dL_law_1957 : decode cL_law 1957 = .ok (.goto 1430, 3) := dk_167 5 150 (dk_at dksL_law_76 5 rfl rfl)
theorem dL_law_1960 : decode cL_law 1960 = .ok (.aload_n 1, 1) := dk_43 (dk_at dksL_law_76 8 rfl rfl)
theorem dL_law_1961 : decode cL_law 1961 = .ok (.aload_n 0, 1) := dk_42 (dk_at dksL_law_76 9 rfl rfl)
theorem dL_law_1962 : decode cL_law 1962 = .ok (.iload 5, 2) := dk_21 5 (dk_at dksL_law_76 10 rfl rfl)
theorem dL_law_1964 : decode cL_law 1964 = .ok (.iconst 1, 1) := dk_4 (dk_at dksL_law_76 12 rfl rfl)
theorem dL_law_1965 : decode cL_law 1965 = .ok (.iadd, 1) := dk_96 (dk_at dksL_law_76 13 rfl rfl)
theorem dL_law_1966 : decode cL_law 1966 = .ok (.iaload, 1) := dk_46 (dk_at dksL_law_76 14 rfl rfl)
theorem dL_law_1967 : decode cL_law 1967 = .ok (.aload_n 0, 1) := dk_42 (dk_at dksL_law_76 15 rfl rfl)
theorem dL_law_1968 : decode cL_law 1968 = .ok (.iload 5, 2) := dk_21 5 (dk_at dksL_law_76 16 rfl rfl)
theorem dL_law_1970 : decode cL_law 1970 = .ok (.iconst 2, 1) := dk_5 (dk_at dksL_law_76 18 rfl rfl)
theorem dL_law_1971 : decode cL_law 1971 = .ok (.iadd, 1) := dk_96 (dk_at dksL_law_76 19 rfl rfl)
theorem dL_law_1972 : decode cL_law 1972 = .ok (.iaload, 1) := dk_46 (dk_at dksL_law_76 20 rfl rfl)
theorem dL_law_1973 : decode cL_law 1973 = .ok (.aload_n 3, 1) := dk_45 (dk_at dksL_law_76 21 rfl rfl)
theorem dL_law_1974 : decode cL_law 1974 = .ok (.invokestatic 255, 3) := dk_184 0 255 (dk_at dksL_law_77 0 rfl rfl)
theorem dL_law_1977 : decode cL_law 1977 = .ok (.istore 6, 2) := dk_54 6 (dk_at dksL_law_77 3 rfl rfl)
theorem dL_law_1979 : decode cL_law 1979 = .ok (.aload_n 2, 1) := dk_44 (dk_at dksL_law_77 5 rfl rfl)
theorem dL_law_1980 : decode cL_law 1980 = .ok (.aload_n 0, 1) := dk_42 (dk_at dksL_law_77 6 rfl rfl)
theorem dL_law_1981 : decode cL_law 1981 = .ok (.iload 5, 2) := dk_21 5 (dk_at dksL_law_77 7 rfl rfl)
theorem dL_law_1983 : decode cL_law 1983 = .ok (.iconst 1, 1) := dk_4 (dk_at dksL_law_77 9 rfl rfl)
theorem dL_law_1984 : decode cL_law 1984 = .ok (.iadd, 1) := dk_96 (dk_at dksL_law_77 10 rfl rfl)
theorem dL_law_1985 : decode cL_law 1985 = .ok (.iaload, 1) := dk_46 (dk_at dksL_law_77 11 rfl rfl)
theorem dL_law_1986 : decode cL_law 1986 = .ok (.aload_n 0, 1) := dk_42 (dk_at dksL_law_77 12 rfl rfl)
theorem dL_law_1987 : decode cL_law 1987 = .ok (.iload 5, 2) := dk_21 5 (dk_at dksL_law_77 13 rfl rfl)
theorem dL_law_1989 : decode cL_law 1989 = .ok (.iconst 2, 1) := dk_5 (dk_at dksL_law_77 15 rfl rfl)
theorem dL_law_1990 : decode cL_law 1990 = .ok (.iadd, 1) := dk_96 (dk_at dksL_law_77 16 rfl rfl)
theorem dL_law_1991 : decode cL_law 1991 = .ok (.iaload, 1) := dk_46 (dk_at dksL_law_77 17 rfl rfl)
theorem dL_law_1992 : decode cL_law 1992 = .ok (.invokevirtual 257, 3) := dk_182 1 1 (dk_at dksL_law_77 18 rfl rfl)
theorem dL_law_1995 : decode cL_law 1995 = .ok (.istore 7, 2) := dk_54 7 (dk_at dksL_law_77 21 rfl rfl)
theorem dL_law_1997 : decode cL_law 1997 = .ok (.aload_n 2, 1) := dk_44 (dk_at dksL_law_77 23 rfl rfl)
theorem dL_law_1998 : decode cL_law 1998 = .ok (.invokevirtual 175, 3) := dk_182 0 175 (dk_at dksL_law_78 0 rfl rfl)
theorem dL_law_2001 : decode cL_law 2001 = .ok (.iload 6, 2) := dk_21 6 (dk_at dksL_law_78 3 rfl rfl)
theorem dL_law_2003 : decode cL_law 2003 = .ok (.if_icmp .eq 5, 3) := dk_159 0 5 (dk_at dksL_law_78 5 rfl rfl)
theorem dL_law_2006 : decode cL_law 2006 = .ok (.iconst 0, 1) := dk_3 (dk_at dksL_law_78 8 rfl rfl)
theorem dL_law_2007 : decode cL_law 2007 = .ok (.ireturn, 1) := dk_172 (dk_at dksL_law_78 9 rfl rfl)
theorem dL_law_2008 : decode cL_law 2008 = .ok (.iload 6, 2) := dk_21 6 (dk_at dksL_law_78 10 rfl rfl)
theorem dL_law_2010 : decode cL_law 2010 = .ok (.ifCond .ne 15, 3) := dk_154 0 15 (dk_at dksL_law_78 12 rfl rfl)
theorem dL_law_2013 : decode cL_law 2013 = .ok (.aload_n 3, 1) := dk_45 (dk_at dksL_law_78 15 rfl rfl)
theorem dL_law_2014 : decode cL_law 2014 = .ok (.iconst 0, 1) := dk_3 (dk_at dksL_law_78 16 rfl rfl)
theorem dL_law_2015 : decode cL_law 2015 = .ok (.laload, 1) := dk_47 (dk_at dksL_law_78 17 rfl rfl)
theorem dL_law_2016 : decode cL_law 2016 = .ok (.iload 7, 2) := dk_21 7 (dk_at dksL_law_78 18 rfl rfl)
theorem dL_law_2018 : decode cL_law 2018 = .ok (.i2l, 1) := dk_133 (dk_at dksL_law_78 20 rfl rfl)
theorem dL_law_2019 : decode cL_law 2019 = .ok (.lcmp, 1) := dk_148 (dk_at dksL_law_78 21 rfl rfl)
theorem dL_law_2020 : decode cL_law 2020 = .ok (.ifCond .eq 5, 3) := dk_153 0 5 (dk_at dksL_law_79 0 rfl rfl)
theorem dL_law_2023 : decode cL_law 2023 = .ok (.iconst 0, 1) := dk_3 (dk_at dksL_law_79 3 rfl rfl)
theorem dL_law_2024 : decode cL_law 2024 = .ok (.ireturn, 1) := dk_172 (dk_at dksL_law_79 4 rfl rfl)
theorem dL_law_2025 : decode cL_law 2025 = .ok (.goto 1362, 3) := dk_167 5 82 (dk_at dksL_law_79 5 rfl rfl)
theorem dL_law_2028 : decode cL_law 2028 = .ok (.aload_n 1, 1) := dk_43 (dk_at dksL_law_79 8 rfl rfl)
theorem dL_law_2029 : decode cL_law 2029 = .ok (.aload_n 0, 1) := dk_42 (dk_at dksL_law_79 9 rfl rfl)
theorem dL_law_2030 : decode cL_law 2030 = .ok (.iload 5, 2) := dk_21 5 (dk_at dksL_law_79 10 rfl rfl)
theorem dL_law_2032 : decode cL_law 2032 = .ok (.iconst 1, 1) := dk_4 (dk_at dksL_law_79 12 rfl rfl)
theorem dL_law_2033 : decode cL_law 2033 = .ok (.iadd, 1) := dk_96 (dk_at dksL_law_79 13 rfl rfl)
theorem dL_law_2034 : decode cL_law 2034 = .ok (.iaload, 1) := dk_46 (dk_at dksL_law_79 14 rfl rfl)
theorem dL_law_2035 : decode cL_law 2035 = .ok (.aload_n 0, 1) := dk_42 (dk_at dksL_law_79 15 rfl rfl)
theorem dL_law_2036 : decode cL_law 2036 = .ok (.iload 5, 2) := dk_21 5 (dk_at dksL_law_79 16 rfl rfl)
theorem dL_law_2038 : decode cL_law 2038 = .ok (.iconst 2, 1) := dk_5 (dk_at dksL_law_79 18 rfl rfl)
theorem dL_law_2039 : decode cL_law 2039 = .ok (.iadd, 1) := dk_96 (dk_at dksL_law_79 19 rfl rfl)
theorem dL_law_2040 : decode cL_law 2040 = .ok (.iaload, 1) := dk_46 (dk_at dksL_law_79 20 rfl rfl)
theorem dL_law_2041 : decode cL_law 2041 = .ok (.aload 4, 2) := dk_25 4 (dk_at dksL_law_79 21 rfl rfl)
theorem dL_law_2043 : decode cL_law 2043 = .ok (.invokestatic 258, 3) := dk_184 1 2 (dk_at dksL_law_80 0 rfl rfl)
theorem dL_law_2046 : decode cL_law 2046 = .ok (.istore 6, 2) := dk_54 6 (dk_at dksL_law_80 3 rfl rfl)
theorem dL_law_2048 : decode cL_law 2048 = .ok (.aload_n 2, 1) := dk_44 (dk_at dksL_law_80 5 rfl rfl)
theorem dL_law_2049 : decode cL_law 2049 = .ok (.aload_n 0, 1) := dk_42 (dk_at dksL_law_80 6 rfl rfl)
theorem dL_law_2050 : decode cL_law 2050 = .ok (.iload 5, 2) := dk_21 5 (dk_at dksL_law_80 7 rfl rfl)
theorem dL_law_2052 : decode cL_law 2052 = .ok (.iconst 1, 1) := dk_4 (dk_at dksL_law_80 9 rfl rfl)
theorem dL_law_2053 : decode cL_law 2053 = .ok (.iadd, 1) := dk_96 (dk_at dksL_law_80 10 rfl rfl)
theorem dL_law_2054 : decode cL_law 2054 = .ok (.iaload, 1) := dk_46 (dk_at dksL_law_80 11 rfl rfl)
theorem dL_law_2055 : decode cL_law 2055 = .ok (.aload_n 0, 1) := dk_42 (dk_at dksL_law_80 12 rfl rfl)
theorem dL_law_2056 : decode cL_law 2056 = .ok (.iload 5, 2) := dk_21 5 (dk_at dksL_law_80 13 rfl rfl)
theorem dL_law_2058 : decode cL_law 2058 = .ok (.iconst 2, 1) := dk_5 (dk_at dksL_law_80 15 rfl rfl)
theorem dL_law_2059 : decode cL_law 2059 = .ok (.iadd, 1) := dk_96 (dk_at dksL_law_80 16 rfl rfl)
theorem dL_law_2060 : decode cL_law 2060 = .ok (.iaload, 1) := dk_46 (dk_at dksL_law_80 17 rfl rfl)
theorem dL_law_2061 : decode cL_law 2061 = .ok (.invokevirtual 261, 3) := dk_182 1 5 (dk_at dksL_law_80 18 rfl rfl)
theorem dL_law_2064 : decode cL_law 2064 = .ok (.fstore 7, 2) := dk_56 7 (dk_at dksL_law_80 21 rfl rfl)
theorem dL_law_2066 : decode cL_law 2066 = .ok (.aload_n 2, 1) := dk_44 (dk_at dksL_law_80 23 rfl rfl)
theorem dL_law_2067 : decode cL_law 2067 = .ok (.invokevirtual 175, 3) := dk_182 0 175 (dk_at dksL_law_81 0 rfl rfl)
theorem dL_law_2070 : decode cL_law 2070 = .ok (.iload 6, 2) := dk_21 6 (dk_at dksL_law_81 3 rfl rfl)
theorem dL_law_2072 : decode cL_law 2072 = .ok (.if_icmp .eq 5, 3) := dk_159 0 5 (dk_at dksL_law_81 5 rfl rfl)
theorem dL_law_2075 : decode cL_law 2075 = .ok (.iconst 0, 1) := dk_3 (dk_at dksL_law_81 8 rfl rfl)
theorem dL_law_2076 : decode cL_law 2076 = .ok (.ireturn, 1) := dk_172 (dk_at dksL_law_81 9 rfl rfl)
theorem dL_law_2077 : decode cL_law 2077 = .ok (.iload 6, 2) := dk_21 6 (dk_at dksL_law_81 10 rfl rfl)
theorem dL_law_2079 : decode cL_law 2079 = .ok (.ifCond .ne 36, 3) := dk_154 0 36 (dk_at dksL_law_81 12 rfl rfl)
theorem dL_law_2082 : decode cL_law 2082 = .ok (.aload 4, 2) := dk_25 4 (dk_at dksL_law_81 15 rfl rfl)
theorem dL_law_2084 : decode cL_law 2084 = .ok (.iconst 0, 1) := dk_3 (dk_at dksL_law_81 17 rfl rfl)
theorem dL_law_2085 : decode cL_law 2085 = .ok (.daload, 1) := dk_49 (dk_at dksL_law_81 18 rfl rfl)
theorem dL_law_2086 : decode cL_law 2086 = .ok (.fload 7, 2) := dk_23 7 (dk_at dksL_law_81 19 rfl rfl)
theorem dL_law_2088 : decode cL_law 2088 = .ok (.f2d, 1) := dk_141 (dk_at dksL_law_81 21 rfl rfl)
theorem dL_law_2089 : decode cL_law 2089 = .ok (.dcmp .l, 1) := dk_151 (dk_at dksL_law_81 22 rfl rfl)
theorem dL_law_2090 : decode cL_law 2090 = .ok (.ifCond .eq 25, 3) := dk_153 0 25 (dk_at dksL_law_82 0 rfl rfl)
theorem dL_law_2093 : decode cL_law 2093 = .ok (.aload 4, 2) := dk_25 4 (dk_at dksL_law_82 3 rfl rfl)
theorem dL_law_2095 : decode cL_law 2095 = .ok (.iconst 0, 1) := dk_3 (dk_at dksL_law_82 5 rfl rfl)
theorem dL_law_2096 : decode cL_law 2096 = .ok (.daload, 1) := dk_49 (dk_at dksL_law_82 6 rfl rfl)
theorem dL_law_2097 : decode cL_law 2097 = .ok (.aload 4, 2) := dk_25 4 (dk_at dksL_law_82 7 rfl rfl)
theorem dL_law_2099 : decode cL_law 2099 = .ok (.iconst 0, 1) := dk_3 (dk_at dksL_law_82 9 rfl rfl)
theorem dL_law_2100 : decode cL_law 2100 = .ok (.daload, 1) := dk_49 (dk_at dksL_law_82 10 rfl rfl)
theorem dL_law_2101 : decode cL_law 2101 = .ok (.dcmp .l, 1) := dk_151 (dk_at dksL_law_82 11 rfl rfl)
theorem dL_law_2102 : decode cL_law 2102 = .ok (.ifCond .eq 11, 3) := dk_153 0 11 (dk_at dksL_law_82 12 rfl rfl)
theorem dL_law_2105 : decode cL_law 2105 = .ok (.fload 7, 2) := dk_23 7 (dk_at dksL_law_82 15 rfl rfl)
theorem dL_law_2107 : decode cL_law 2107 = .ok (.fload 7, 2) := dk_23 7 (dk_at dksL_law_82 17 rfl rfl)
theorem dL_law_2109 : decode cL_law 2109 = .ok (.fcmp .l, 1) := dk_149 (dk_at dksL_law_82 19 rfl rfl)
theorem dL_law_2110 : decode cL_law 2110 = .ok (.ifCond .ne 5, 3) := dk_154 0 5 (dk_at dksL_law_82 20 rfl rfl)
theorem dL_law_2113 : decode cL_law 2113 = .ok (.iconst 0, 1) := dk_3 (dk_at dksL_law_82 23 rfl rfl)
theorem dL_law_2114 : decode cL_law 2114 = .ok (.ireturn, 1) := dk_172 (dk_at dksL_law_83 0 rfl rfl)
theorem dL_law_2115 : decode cL_law 2115 = .ok (.goto 1272, 3) := dk_167 4 248 (dk_at dksL_law_83 1 rfl rfl)
theorem dL_law_2118 : decode cL_law 2118 = .ok (.aload_n 1, 1) := dk_43 (dk_at dksL_law_83 4 rfl rfl)
theorem dL_law_2119 : decode cL_law 2119 = .ok (.aload_n 0, 1) := dk_42 (dk_at dksL_law_83 5 rfl rfl)
theorem dL_law_2120 : decode cL_law 2120 = .ok (.iload 5, 2) := dk_21 5 (dk_at dksL_law_83 6 rfl rfl)
theorem dL_law_2122 : decode cL_law 2122 = .ok (.iconst 1, 1) := dk_4 (dk_at dksL_law_83 8 rfl rfl)
theorem dL_law_2123 : decode cL_law 2123 = .ok (.iadd, 1) := dk_96 (dk_at dksL_law_83 9 rfl rfl)
theorem dL_law_2124 : decode cL_law 2124 = .ok (.iaload, 1) := dk_46 (dk_at dksL_law_83 10 rfl rfl)
theorem dL_law_2125 : decode cL_law 2125 = .ok (.aload_n 0, 1) := dk_42 (dk_at dksL_law_83 11 rfl rfl)
theorem dL_law_2126 : decode cL_law 2126 = .ok (.iload 5, 2) := dk_21 5 (dk_at dksL_law_83 12 rfl rfl)
theorem dL_law_2128 : decode cL_law 2128 = .ok (.iconst 2, 1) := dk_5 (dk_at dksL_law_83 14 rfl rfl)
theorem dL_law_2129 : decode cL_law 2129 = .ok (.iadd, 1) := dk_96 (dk_at dksL_law_83 15 rfl rfl)
theorem dL_law_2130 : decode cL_law 2130 = .ok (.iaload, 1) := dk_46 (dk_at dksL_law_83 16 rfl rfl)
theorem dL_law_2131 : decode cL_law 2131 = .ok (.aload_n 3, 1) := dk_45 (dk_at dksL_law_83 17 rfl rfl)
theorem dL_law_2132 : decode cL_law 2132 = .ok (.invokestatic 262, 3) := dk_184 1 6 (dk_at dksL_law_83 18 rfl rfl)
theorem dL_law_2135 : decode cL_law 2135 = .ok (.istore 6, 2) := dk_54 6 (dk_at dksL_law_83 21 rfl rfl)
theorem dL_law_2137 : decode cL_law 2137 = .ok (.aload_n 2, 1) := dk_44 (dk_at dksL_law_83 23 rfl rfl)
theorem dL_law_2138 : decode cL_law 2138 = .ok (.aload_n 0, 1) := dk_42 (dk_at dksL_law_84 0 rfl rfl)
theorem dL_law_2139 : decode cL_law 2139 = .ok (.iload 5, 2) := dk_21 5 (dk_at dksL_law_84 1 rfl rfl)
theorem dL_law_2141 : decode cL_law 2141 = .ok (.iconst 1, 1) := dk_4 (dk_at dksL_law_84 3 rfl rfl)
theorem dL_law_2142 : decode cL_law 2142 = .ok (.iadd, 1) := dk_96 (dk_at dksL_law_84 4 rfl rfl)
theorem dL_law_2143 : decode cL_law 2143 = .ok (.iaload, 1) := dk_46 (dk_at dksL_law_84 5 rfl rfl)
theorem dL_law_2144 : decode cL_law 2144 = .ok (.aload_n 0, 1) := dk_42 (dk_at dksL_law_84 6 rfl rfl)
theorem dL_law_2145 : decode cL_law 2145 = .ok (.iload 5, 2) := dk_21 5 (dk_at dksL_law_84 7 rfl rfl)
theorem dL_law_2147 : decode cL_law 2147 = .ok (.iconst 2, 1) := dk_5 (dk_at dksL_law_84 9 rfl rfl)
theorem dL_law_2148 : decode cL_law 2148 = .ok (.iadd, 1) := dk_96 (dk_at dksL_law_84 10 rfl rfl)
theorem dL_law_2149 : decode cL_law 2149 = .ok (.iaload, 1) := dk_46 (dk_at dksL_law_84 11 rfl rfl)
theorem dL_law_2150 : decode cL_law 2150 = .ok (.invokevirtual 264, 3) := dk_182 1 8 (dk_at dksL_law_84 12 rfl rfl)
theorem dL_law_2153 : decode cL_law 2153 = .ok (.istore 7, 2) := dk_54 7 (dk_at dksL_law_84 15 rfl rfl)
theorem dL_law_2155 : decode cL_law 2155 = .ok (.aload_n 2, 1) := dk_44 (dk_at dksL_law_84 17 rfl rfl)
theorem dL_law_2156 : decode cL_law 2156 = .ok (.invokevirtual 175, 3) := dk_182 0 175 (dk_at dksL_law_84 18 rfl rfl)
theorem dL_law_2159 : decode cL_law 2159 = .ok (.iload 6, 2) := dk_21 6 (dk_at dksL_law_84 21 rfl rfl)
theorem dL_law_2161 : decode cL_law 2161 = .ok (.if_icmp .eq 5, 3) := dk_159 0 5 (dk_at dksL_law_85 0 rfl rfl)
theorem dL_law_2164 : decode cL_law 2164 = .ok (.iconst 0, 1) := dk_3 (dk_at dksL_law_85 3 rfl rfl)
theorem dL_law_2165 : decode cL_law 2165 = .ok (.ireturn, 1) := dk_172 (dk_at dksL_law_85 4 rfl rfl)
theorem dL_law_2166 : decode cL_law 2166 = .ok (.iload 6, 2) := dk_21 6 (dk_at dksL_law_85 5 rfl rfl)
theorem dL_law_2168 : decode cL_law 2168 = .ok (.ifCond .ne 15, 3) := dk_154 0 15 (dk_at dksL_law_85 7 rfl rfl)
theorem dL_law_2171 : decode cL_law 2171 = .ok (.aload_n 3, 1) := dk_45 (dk_at dksL_law_85 10 rfl rfl)
theorem dL_law_2172 : decode cL_law 2172 = .ok (.iconst 0, 1) := dk_3 (dk_at dksL_law_85 11 rfl rfl)
theorem dL_law_2173 : decode cL_law 2173 = .ok (.laload, 1) := dk_47 (dk_at dksL_law_85 12 rfl rfl)
theorem dL_law_2174 : decode cL_law 2174 = .ok (.iload 7, 2) := dk_21 7 (dk_at dksL_law_85 13 rfl rfl)
theorem dL_law_2176 : decode cL_law 2176 = .ok (.i2l, 1) := dk_133 (dk_at dksL_law_85 15 rfl rfl)
theorem dL_law_2177 : decode cL_law 2177 = .ok (.lcmp, 1) := dk_148 (dk_at dksL_law_85 16 rfl rfl)
theorem dL_law_2178 : decode cL_law 2178 = .ok (.ifCond .eq 5, 3) := dk_153 0 5 (dk_at dksL_law_85 17 rfl rfl)
theorem dL_law_2181 : decode cL_law 2181 = .ok (.iconst 0, 1) := dk_3 (dk_at dksL_law_85 20 rfl rfl)
theorem dL_law_2182 : decode cL_law 2182 = .ok (.ireturn, 1) := dk_172 (dk_at dksL_law_85 21 rfl rfl)
theorem dL_law_2183 : decode cL_law 2183 = .ok (.goto 1204, 3) := dk_167 4 180 (dk_at dksL_law_86 0 rfl rfl)
theorem dL_law_2186 : decode cL_law 2186 = .ok (.aload_n 1, 1) := dk_43 (dk_at dksL_law_86 3 rfl rfl)
theorem dL_law_2187 : decode cL_law 2187 = .ok (.aload_n 0, 1) := dk_42 (dk_at dksL_law_86 4 rfl rfl)
theorem dL_law_2188 : decode cL_law 2188 = .ok (.iload 5, 2) := dk_21 5 (dk_at dksL_law_86 5 rfl rfl)
theorem dL_law_2190 : decode cL_law 2190 = .ok (.iconst 1, 1) := dk_4 (dk_at dksL_law_86 7 rfl rfl)
theorem dL_law_2191 : decode cL_law 2191 = .ok (.iadd, 1) := dk_96 (dk_at dksL_law_86 8 rfl rfl)
theorem dL_law_2192 : decode cL_law 2192 = .ok (.iaload, 1) := dk_46 (dk_at dksL_law_86 9 rfl rfl)
theorem dL_law_2193 : decode cL_law 2193 = .ok (.aload_n 0, 1) := dk_42 (dk_at dksL_law_86 10 rfl rfl)
theorem dL_law_2194 : decode cL_law 2194 = .ok (.iload 5, 2) := dk_21 5 (dk_at dksL_law_86 11 rfl rfl)
theorem dL_law_2196 : decode cL_law 2196 = .ok (.iconst 2, 1) := dk_5 (dk_at dksL_law_86 13 rfl rfl)
theorem dL_law_2197 : decode cL_law 2197 = .ok (.iadd, 1) := dk_96 (dk_at dksL_law_86 14 rfl rfl)
theorem dL_law_2198 : decode cL_law 2198 = .ok (.iaload, 1) := dk_46 (dk_at dksL_law_86 15 rfl rfl)
theorem dL_law_2199 : decode cL_law 2199 = .ok (.aload_n 3, 1) := dk_45 (dk_at dksL_law_86 16 rfl rfl)
theorem dL_law_2200 : decode cL_law 2200 = .ok (.invokestatic 265, 3) := dk_184 1 9 (dk_at dksL_law_86 17 rfl rfl)
theorem dL_law_2203 : decode cL_law 2203 = .ok (.istore 6, 2) := dk_54 6 (dk_at dksL_law_86 20 rfl rfl)
theorem dL_law_2205 : decode cL_law 2205 = .ok (.aload_n 2, 1) := dk_44 (dk_at dksL_law_86 22 rfl rfl)
theorem dL_law_2206 : decode cL_law 2206 = .ok (.aload_n 0, 1) := dk_42 (dk_at dksL_law_86 23 rfl rfl)
theorem dL_law_2207 : decode cL_law 2207 = .ok (.iload 5, 2) := dk_21 5 (dk_at dksL_law_87 0 rfl rfl)
theorem dL_law_2209 : decode cL_law 2209 = .ok (.iconst 1, 1) := dk_4 (dk_at dksL_law_87 2 rfl rfl)
theorem dL_law_2210 : decode cL_law 2210 = .ok (.iadd, 1) := dk_96 (dk_at dksL_law_87 3 rfl rfl)
theorem dL_law_2211 : decode cL_law 2211 = .ok (.iaload, 1) := dk_46 (dk_at dksL_law_87 4 rfl rfl)
theorem dL_law_2212 : decode cL_law 2212 = .ok (.aload_n 0, 1) := dk_42 (dk_at dksL_law_87 5 rfl rfl)
theorem dL_law_2213 : decode cL_law 2213 = .ok (.iload 5, 2) := dk_21 5 (dk_at dksL_law_87 6 rfl rfl)
theorem dL_law_2215 : decode cL_law 2215 = .ok (.iconst 2, 1) := dk_5 (dk_at dksL_law_87 8 rfl rfl)
theorem dL_law_2216 : decode cL_law 2216 = .ok (.iadd, 1) := dk_96 (dk_at dksL_law_87 9 rfl rfl)
theorem dL_law_2217 : decode cL_law 2217 = .ok (.iaload, 1) := dk_46 (dk_at dksL_law_87 10 rfl rfl)
theorem dL_law_2218 : decode cL_law 2218 = .ok (.invokevirtual 267, 3) := dk_182 1 11 (dk_at dksL_law_87 11 rfl rfl)
theorem dL_law_2221 : decode cL_law 2221 = .ok (.istore 7, 2) := dk_54 7 (dk_at dksL_law_87 14 rfl rfl)
theorem dL_law_2223 : decode cL_law 2223 = .ok (.aload_n 2, 1) := dk_44 (dk_at dksL_law_87 16 rfl rfl)
theorem dL_law_2224 : decode cL_law 2224 = .ok (.invokevirtual 175, 3) := dk_182 0 175 (dk_at dksL_law_87 17 rfl rfl)
theorem dL_law_2227 : decode cL_law 2227 = .ok (.iload 6, 2) := dk_21 6 (dk_at dksL_law_87 20 rfl rfl)
theorem dL_law_2229 : decode cL_law 2229 = .ok (.if_icmp .eq 5, 3) := dk_159 0 5 (dk_at dksL_law_88 0 rfl rfl)
theorem dL_law_2232 : decode cL_law 2232 = .ok (.iconst 0, 1) := dk_3 (dk_at dksL_law_88 3 rfl rfl)
theorem dL_law_2233 : decode cL_law 2233 = .ok (.ireturn, 1) := dk_172 (dk_at dksL_law_88 4 rfl rfl)
theorem dL_law_2234 : decode cL_law 2234 = .ok (.iload 6, 2) := dk_21 6 (dk_at dksL_law_88 5 rfl rfl)
theorem dL_law_2236 : decode cL_law 2236 = .ok (.ifCond .ne 15, 3) := dk_154 0 15 (dk_at dksL_law_88 7 rfl rfl)
theorem dL_law_2239 : decode cL_law 2239 = .ok (.aload_n 3, 1) := dk_45 (dk_at dksL_law_88 10 rfl rfl)
theorem dL_law_2240 : decode cL_law 2240 = .ok (.iconst 0, 1) := dk_3 (dk_at dksL_law_88 11 rfl rfl)
theorem dL_law_2241 : decode cL_law 2241 = .ok (.laload, 1) := dk_47 (dk_at dksL_law_88 12 rfl rfl)
theorem dL_law_2242 : decode cL_law 2242 = .ok (.iload 7, 2) := dk_21 7 (dk_at dksL_law_88 13 rfl rfl)
theorem dL_law_2244 : decode cL_law 2244 = .ok (.i2l, 1) := dk_133 (dk_at dksL_law_88 15 rfl rfl)
theorem dL_law_2245 : decode cL_law 2245 = .ok (.lcmp, 1) := dk_148 (dk_at dksL_law_88 16 rfl rfl)
theorem dL_law_2246 : decode cL_law 2246 = .ok (.ifCond .eq 5, 3) := dk_153 0 5 (dk_at dksL_law_88 17 rfl rfl)
theorem dL_law_2249 : decode cL_law 2249 = .ok (.iconst 0, 1) := dk_3 (dk_at dksL_law_88 20 rfl rfl)
theorem dL_law_2250 : decode cL_law 2250 = .ok (.ireturn, 1) := dk_172 (dk_at dksL_law_88 21 rfl rfl)
theorem dL_law_2251 : decode cL_law 2251 = .ok (.goto 1136, 3) := dk_167 4 112 (dk_at dksL_law_89 0 rfl rfl)
theorem dL_law_2254 : decode cL_law 2254 = .ok (.aload_n 1, 1) := dk_43 (dk_at dksL_law_89 3 rfl rfl)
theorem dL_law_2255 : decode cL_law 2255 = .ok (.aload_n 0, 1) := dk_42 (dk_at dksL_law_89 4 rfl rfl)
theorem dL_law_2256 : decode cL_law 2256 = .ok (.iload 5, 2) := dk_21 5 (dk_at dksL_law_89 5 rfl rfl)
theorem dL_law_2258 : decode cL_law 2258 = .ok (.iconst 1, 1) := dk_4 (dk_at dksL_law_89 7 rfl rfl)
theorem dL_law_2259 : decode cL_law 2259 = .ok (.iadd, 1) := dk_96 (dk_at dksL_law_89 8 rfl rfl)
theorem dL_law_2260 : decode cL_law 2260 = .ok (.iaload, 1) := dk_46 (dk_at dksL_law_89 9 rfl rfl)
theorem dL_law_2261 : decode cL_law 2261 = .ok (.aload_n 0, 1) := dk_42 (dk_at dksL_law_89 10 rfl rfl)
theorem dL_law_2262 : decode cL_law 2262 = .ok (.iload 5, 2) := dk_21 5 (dk_at dksL_law_89 11 rfl rfl)
theorem dL_law_2264 : decode cL_law 2264 = .ok (.iconst 2, 1) := dk_5 (dk_at dksL_law_89 13 rfl rfl)
theorem dL_law_2265 : decode cL_law 2265 = .ok (.iadd, 1) := dk_96 (dk_at dksL_law_89 14 rfl rfl)
theorem dL_law_2266 : decode cL_law 2266 = .ok (.iaload, 1) := dk_46 (dk_at dksL_law_89 15 rfl rfl)
theorem dL_law_2267 : decode cL_law 2267 = .ok (.aload_n 0, 1) := dk_42 (dk_at dksL_law_89 16 rfl rfl)
theorem dL_law_2268 : decode cL_law 2268 = .ok (.iload 5, 2) := dk_21 5 (dk_at dksL_law_89 17 rfl rfl)
theorem dL_law_2270 : decode cL_law 2270 = .ok (.iconst 3, 1) := dk_6 (dk_at dksL_law_89 19 rfl rfl)
theorem dL_law_2271 : decode cL_law 2271 = .ok (.iadd, 1) := dk_96 (dk_at dksL_law_89 20 rfl rfl)
theorem dL_law_2272 : decode cL_law 2272 = .ok (.iaload, 1) := dk_46 (dk_at dksL_law_89 21 rfl rfl)
theorem dL_law_2273 : decode cL_law 2273 = .ok (.aload_n 3, 1) := dk_45 (dk_at dksL_law_89 22 rfl rfl)
theorem dL_law_2274 : decode cL_law 2274 = .ok (.invokestatic 268, 3) := dk_184 1 12 (dk_at dksL_law_90 0 rfl rfl)
theorem dL_law_2277 : decode cL_law 2277 = .ok (.istore 6, 2) := dk_54 6 (dk_at dksL_law_90 3 rfl rfl)
theorem dL_law_2279 : decode cL_law 2279 = .ok (.aload_n 2, 1) := dk_44 (dk_at dksL_law_90 5 rfl rfl)
theorem dL_law_2280 : decode cL_law 2280 = .ok (.aload_n 0, 1) := dk_42 (dk_at dksL_law_90 6 rfl rfl)
theorem dL_law_2281 : decode cL_law 2281 = .ok (.iload 5, 2) := dk_21 5 (dk_at dksL_law_90 7 rfl rfl)
theorem dL_law_2283 : decode cL_law 2283 = .ok (.iconst 1, 1) := dk_4 (dk_at dksL_law_90 9 rfl rfl)
theorem dL_law_2284 : decode cL_law 2284 = .ok (.iadd, 1) := dk_96 (dk_at dksL_law_90 10 rfl rfl)
theorem dL_law_2285 : decode cL_law 2285 = .ok (.iaload, 1) := dk_46 (dk_at dksL_law_90 11 rfl rfl)
theorem dL_law_2286 : decode cL_law 2286 = .ok (.aload_n 0, 1) := dk_42 (dk_at dksL_law_90 12 rfl rfl)
theorem dL_law_2287 : decode cL_law 2287 = .ok (.iload 5, 2) := dk_21 5 (dk_at dksL_law_90 13 rfl rfl)
theorem dL_law_2289 : decode cL_law 2289 = .ok (.iconst 2, 1) := dk_5 (dk_at dksL_law_90 15 rfl rfl)
theorem dL_law_2290 : decode cL_law 2290 = .ok (.iadd, 1) := dk_96 (dk_at dksL_law_90 16 rfl rfl)
theorem dL_law_2291 : decode cL_law 2291 = .ok (.iaload, 1) := dk_46 (dk_at dksL_law_90 17 rfl rfl)
theorem dL_law_2292 : decode cL_law 2292 = .ok (.aload_n 0, 1) := dk_42 (dk_at dksL_law_90 18 rfl rfl)
theorem dL_law_2293 : decode cL_law 2293 = .ok (.iload 5, 2) := dk_21 5 (dk_at dksL_law_90 19 rfl rfl)
theorem dL_law_2295 : decode cL_law 2295 = .ok (.iconst 3, 1) := dk_6 (dk_at dksL_law_90 21 rfl rfl)
theorem dL_law_2296 : decode cL_law 2296 = .ok (.iadd, 1) := dk_96 (dk_at dksL_law_90 22 rfl rfl)
theorem dL_law_2297 : decode cL_law 2297 = .ok (.iaload, 1) := dk_46 (dk_at dksL_law_90 23 rfl rfl)
theorem dL_law_2298 : decode cL_law 2298 = .ok (.invokevirtual 270, 3) := dk_182 1 14 (dk_at dksL_law_91 0 rfl rfl)
theorem dL_law_2301 : decode cL_law 2301 = .ok (.istore 7, 2) := dk_54 7 (dk_at dksL_law_91 3 rfl rfl)
theorem dL_law_2303 : decode cL_law 2303 = .ok (.aload_n 2, 1) := dk_44 (dk_at dksL_law_91 5 rfl rfl)
theorem dL_law_2304 : decode cL_law 2304 = .ok (.invokevirtual 175, 3) := dk_182 0 175 (dk_at dksL_law_91 6 rfl rfl)
theorem dL_law_2307 : decode cL_law 2307 = .ok (.iload 6, 2) := dk_21 6 (dk_at dksL_law_91 9 rfl rfl)
theorem dL_law_2309 : decode cL_law 2309 = .ok (.if_icmp .eq 5, 3) := dk_159 0 5 (dk_at dksL_law_91 11 rfl rfl)
theorem dL_law_2312 : decode cL_law 2312 = .ok (.iconst 0, 1) := dk_3 (dk_at dksL_law_91 14 rfl rfl)
theorem dL_law_2313 : decode cL_law 2313 = .ok (.ireturn, 1) := dk_172 (dk_at dksL_law_91 15 rfl rfl)
theorem dL_law_2314 : decode cL_law 2314 = .ok (.iload 6, 2) := dk_21 6 (dk_at dksL_law_91 16 rfl rfl)
theorem dL_law_2316 : decode cL_law 2316 = .ok (.ifCond .ne 15, 3) := dk_154 0 15 (dk_at dksL_law_91 18 rfl rfl)
theorem dL_law_2319 : decode cL_law 2319 = .ok (.aload_n 3, 1) := dk_45 (dk_at dksL_law_91 21 rfl rfl)
theorem dL_law_2320 : decode cL_law 2320 = .ok (.iconst 0, 1) := dk_3 (dk_at dksL_law_91 22 rfl rfl)
theorem dL_law_2321 : decode cL_law 2321 = .ok (.laload, 1) := dk_47 (dk_at dksL_law_91 23 rfl rfl)
theorem dL_law_2322 : decode cL_law 2322 = .ok (.iload 7, 2) := dk_21 7 (dk_at dksL_law_92 0 rfl rfl)
theorem dL_law_2324 : decode cL_law 2324 = .ok (.i2l, 1) := dk_133 (dk_at dksL_law_92 2 rfl rfl)
theorem dL_law_2325 : decode cL_law 2325 = .ok (.lcmp, 1) := dk_148 (dk_at dksL_law_92 3 rfl rfl)
theorem dL_law_2326 : decode cL_law 2326 = .ok (.ifCond .eq 5, 3) := dk_153 0 5 (dk_at dksL_law_92 4 rfl rfl)
theorem dL_law_2329 : decode cL_law 2329 = .ok (.iconst 0, 1) := dk_3 (dk_at dksL_law_92 7 rfl rfl)
theorem dL_law_2330 : decode cL_law 2330 = .ok (.ireturn, 1) := dk_172 (dk_at dksL_law_92 8 rfl rfl)
theorem dL_law_2331 : decode cL_law 2331 = .ok (.goto 1056, 3) := dk_167 4 32 (dk_at dksL_law_92 9 rfl rfl)
theorem dL_law_2334 : decode cL_law 2334 = .ok (.aload_n 1, 1) := dk_43 (dk_at dksL_law_92 12 rfl rfl)
theorem dL_law_2335 : decode cL_law 2335 = .ok (.aload_n 0, 1) := dk_42 (dk_at dksL_law_92 13 rfl rfl)
theorem dL_law_2336 : decode cL_law 2336 = .ok (.iload 5, 2) := dk_21 5 (dk_at dksL_law_92 14 rfl rfl)
theorem dL_law_2338 : decode cL_law 2338 = .ok (.iconst 1, 1) := dk_4 (dk_at dksL_law_92 16 rfl rfl)
theorem dL_law_2339 : decode cL_law 2339 = .ok (.iadd, 1) := dk_96 (dk_at dksL_law_92 17 rfl rfl)
theorem dL_law_2340 : decode cL_law 2340 = .ok (.iaload, 1) := dk_46 (dk_at dksL_law_92 18 rfl rfl)
theorem dL_law_2341 : decode cL_law 2341 = .ok (.aload_n 0, 1) := dk_42 (dk_at dksL_law_92 19 rfl rfl)
theorem dL_law_2342 : decode cL_law 2342 = .ok (.iload 5, 2) := dk_21 5 (dk_at dksL_law_92 20 rfl rfl)
theorem dL_law_2344 : decode cL_law 2344 = .ok (.iconst 2, 1) := dk_5 (dk_at dksL_law_92 22 rfl rfl)
theorem dL_law_2345 : decode cL_law 2345 = .ok (.iadd, 1) := dk_96 (dk_at dksL_law_92 23 rfl rfl)
theorem dL_law_2346 : decode cL_law 2346 = .ok (.iaload, 1) := dk_46 (dk_at dksL_law_93 0 rfl rfl)
theorem dL_law_2347 : decode cL_law 2347 = .ok (.aload_n 3, 1) := dk_45 (dk_at dksL_law_93 1 rfl rfl)
theorem dL_law_2348 : decode cL_law 2348 = .ok (.invokestatic 271, 3) := dk_184 1 15 (dk_at dksL_law_93 2 rfl rfl)
theorem dL_law_2351 : decode cL_law 2351 = .ok (.istore 6, 2) := dk_54 6 (dk_at dksL_law_93 5 rfl rfl)
theorem dL_law_2353 : decode cL_law 2353 = .ok (.aload_n 2, 1) := dk_44 (dk_at dksL_law_93 7 rfl rfl)
theorem dL_law_2354 : decode cL_law 2354 = .ok (.aload_n 0, 1) := dk_42 (dk_at dksL_law_93 8 rfl rfl)
theorem dL_law_2355 : decode cL_law 2355 = .ok (.iload 5, 2) := dk_21 5 (dk_at dksL_law_93 9 rfl rfl)
theorem dL_law_2357 : decode cL_law 2357 = .ok (.iconst 1, 1) := dk_4 (dk_at dksL_law_93 11 rfl rfl)
theorem dL_law_2358 : decode cL_law 2358 = .ok (.iadd, 1) := dk_96 (dk_at dksL_law_93 12 rfl rfl)
theorem dL_law_2359 : decode cL_law 2359 = .ok (.iaload, 1) := dk_46 (dk_at dksL_law_93 13 rfl rfl)
theorem dL_law_2360 : decode cL_law 2360 = .ok (.aload_n 0, 1) := dk_42 (dk_at dksL_law_93 14 rfl rfl)
theorem dL_law_2361 : decode cL_law 2361 = .ok (.iload 5, 2) := dk_21 5 (dk_at dksL_law_93 15 rfl rfl)
theorem dL_law_2363 : decode cL_law 2363 = .ok (.iconst 2, 1) := dk_5 (dk_at dksL_law_93 17 rfl rfl)
theorem dL_law_2364 : decode cL_law 2364 = .ok (.iadd, 1) := dk_96 (dk_at dksL_law_93 18 rfl rfl)
theorem dL_law_2365 : decode cL_law 2365 = .ok (.iaload, 1) := dk_46 (dk_at dksL_law_93 19 rfl rfl)
theorem dL_law_2366 : decode cL_law 2366 = .ok (.invokevirtual 273, 3) := dk_182 1 17 (dk_at dksL_law_93 20 rfl rfl)
theorem dL_law_2369 : decode cL_law 2369 = .ok (.istore 7, 2) := dk_54 7 (dk_at dksL_law_94 0 rfl rfl)
theorem dL_law_2371 : decode cL_law 2371 = .ok (.aload_n 2, 1) := dk_44 (dk_at dksL_law_94 2 rfl rfl)
theorem dL_law_2372 : decode cL_law 2372 = .ok (.invokevirtual 175, 3) := dk_182 0 175 (dk_at dksL_law_94 3 rfl rfl)
theorem dL_law_2375 : decode cL_law 2375 = .ok (.iload 6, 2) := dk_21 6 (dk_at dksL_law_94 6 rfl rfl)
theorem dL_law_2377 : decode cL_law 2377 = .ok (.if_icmp .eq 5, 3) := dk_159 0 5 (dk_at dksL_law_94 8 rfl rfl)
theorem dL_law_2380 : decode cL_law 2380 = .ok (.iconst 0, 1) := dk_3 (dk_at dksL_law_94 11 rfl rfl)
theorem dL_law_2381 : decode cL_law 2381 = .ok (.ireturn, 1) := dk_172 (dk_at dksL_law_94 12 rfl rfl)
theorem dL_law_2382 : decode cL_law 2382 = .ok (.iload 6, 2) := dk_21 6 (dk_at dksL_law_94 13 rfl rfl)
theorem dL_law_2384 : decode cL_law 2384 = .ok (.ifCond .ne 15, 3) := dk_154 0 15 (dk_at dksL_law_94 15 rfl rfl)
theorem dL_law_2387 : decode cL_law 2387 = .ok (.aload_n 3, 1) := dk_45 (dk_at dksL_law_94 18 rfl rfl)
theorem dL_law_2388 : decode cL_law 2388 = .ok (.iconst 0, 1) := dk_3 (dk_at dksL_law_94 19 rfl rfl)
theorem dL_law_2389 : decode cL_law 2389 = .ok (.laload, 1) := dk_47 (dk_at dksL_law_94 20 rfl rfl)
theorem dL_law_2390 : decode cL_law 2390 = .ok (.iload 7, 2) := dk_21 7 (dk_at dksL_law_94 21 rfl rfl)
theorem dL_law_2392 : decode cL_law 2392 = .ok (.i2l, 1) := dk_133 (dk_at dksL_law_94 23 rfl rfl)
theorem dL_law_2393 : decode cL_law 2393 = .ok (.lcmp, 1) := dk_148 (dk_at dksL_law_95 0 rfl rfl)
theorem dL_law_2394 : decode cL_law 2394 = .ok (.ifCond .eq 5, 3) := dk_153 0 5 (dk_at dksL_law_95 1 rfl rfl)
theorem dL_law_2397 : decode cL_law 2397 = .ok (.iconst 0, 1) := dk_3 (dk_at dksL_law_95 4 rfl rfl)
theorem dL_law_2398 : decode cL_law 2398 = .ok (.ireturn, 1) := dk_172 (dk_at dksL_law_95 5 rfl rfl)
theorem dL_law_2399 : decode cL_law 2399 = .ok (.goto 988, 3) := dk_167 3 220 (dk_at dksL_law_95 6 rfl rfl)
theorem dL_law_2402 : decode cL_law 2402 = .ok (.aload_n 1, 1) := dk_43 (dk_at dksL_law_95 9 rfl rfl)
theorem dL_law_2403 : decode cL_law 2403 = .ok (.aload_n 0, 1) := dk_42 (dk_at dksL_law_95 10 rfl rfl)
theorem dL_law_2404 : decode cL_law 2404 = .ok (.iload 5, 2) := dk_21 5 (dk_at dksL_law_95 11 rfl rfl)
theorem dL_law_2406 : decode cL_law 2406 = .ok (.iconst 1, 1) := dk_4 (dk_at dksL_law_95 13 rfl rfl)
theorem dL_law_2407 : decode cL_law 2407 = .ok (.iadd, 1) := dk_96 (dk_at dksL_law_95 14 rfl rfl)
theorem dL_law_2408 : decode cL_law 2408 = .ok (.iaload, 1) := dk_46 (dk_at dksL_law_95 15 rfl rfl)
theorem dL_law_2409 : decode cL_law 2409 = .ok (.aload_n 0, 1) := dk_42 (dk_at dksL_law_95 16 rfl rfl)
theorem dL_law_2410 : decode cL_law 2410 = .ok (.iload 5, 2) := dk_21 5 (dk_at dksL_law_95 17 rfl rfl)
theorem dL_law_2412 : decode cL_law 2412 = .ok (.iconst 2, 1) := dk_5 (dk_at dksL_law_95 19 rfl rfl)
theorem dL_law_2413 : decode cL_law 2413 = .ok (.iadd, 1) := dk_96 (dk_at dksL_law_95 20 rfl rfl)
theorem dL_law_2414 : decode cL_law 2414 = .ok (.iaload, 1) := dk_46 (dk_at dksL_law_95 21 rfl rfl)
theorem dL_law_2415 : decode cL_law 2415 = .ok (.aload_n 3, 1) := dk_45 (dk_at dksL_law_95 22 rfl rfl)
theorem dL_law_2416 : decode cL_law 2416 = .ok (.invokestatic 274, 3) := dk_184 1 18 (dk_at dksL_law_96 0 rfl rfl)
theorem dL_law_2419 : decode cL_law 2419 = .ok (.istore 6, 2) := dk_54 6 (dk_at dksL_law_96 3 rfl rfl)
theorem dL_law_2421 : decode cL_law 2421 = .ok (.aload_n 2, 1) := dk_44 (dk_at dksL_law_96 5 rfl rfl)
theorem dL_law_2422 : decode cL_law 2422 = .ok (.aload_n 0, 1) := dk_42 (dk_at dksL_law_96 6 rfl rfl)
theorem dL_law_2423 : decode cL_law 2423 = .ok (.iload 5, 2) := dk_21 5 (dk_at dksL_law_96 7 rfl rfl)
theorem dL_law_2425 : decode cL_law 2425 = .ok (.iconst 1, 1) := dk_4 (dk_at dksL_law_96 9 rfl rfl)
theorem dL_law_2426 : decode cL_law 2426 = .ok (.iadd, 1) := dk_96 (dk_at dksL_law_96 10 rfl rfl)
theorem dL_law_2427 : decode cL_law 2427 = .ok (.iaload, 1) := dk_46 (dk_at dksL_law_96 11 rfl rfl)
theorem dL_law_2428 : decode cL_law 2428 = .ok (.aload_n 0, 1) := dk_42 (dk_at dksL_law_96 12 rfl rfl)
theorem dL_law_2429 : decode cL_law 2429 = .ok (.iload 5, 2) := dk_21 5 (dk_at dksL_law_96 13 rfl rfl)
theorem dL_law_2431 : decode cL_law 2431 = .ok (.iconst 2, 1) := dk_5 (dk_at dksL_law_96 15 rfl rfl)
theorem dL_law_2432 : decode cL_law 2432 = .ok (.iadd, 1) := dk_96 (dk_at dksL_law_96 16 rfl rfl)
theorem dL_law_2433 : decode cL_law 2433 = .ok (.iaload, 1) := dk_46 (dk_at dksL_law_96 17 rfl rfl)
theorem dL_law_2434 : decode cL_law 2434 = .ok (.invokevirtual 276, 3) := dk_182 1 20 (dk_at dksL_law_96 18 rfl rfl)
theorem dL_law_2437 : decode cL_law 2437 = .ok (.istore 7, 2) := dk_54 7 (dk_at dksL_law_96 21 rfl rfl)
theorem dL_law_2439 : decode cL_law 2439 = .ok (.aload_n 2, 1) := dk_44 (dk_at dksL_law_96 23 rfl rfl)
theorem dL_law_2440 : decode cL_law 2440 = .ok (.invokevirtual 175, 3) := dk_182 0 175 (dk_at dksL_law_97 0 rfl rfl)
theorem dL_law_2443 : decode cL_law 2443 = .ok (.iload 6, 2) := dk_21 6 (dk_at dksL_law_97 3 rfl rfl)
theorem dL_law_2445 : decode cL_law 2445 = .ok (.if_icmp .eq 5, 3) := dk_159 0 5 (dk_at dksL_law_97 5 rfl rfl)
theorem dL_law_2448 : decode cL_law 2448 = .ok (.iconst 0, 1) := dk_3 (dk_at dksL_law_97 8 rfl rfl)
theorem dL_law_2449 : decode cL_law 2449 = .ok (.ireturn, 1) := dk_172 (dk_at dksL_law_97 9 rfl rfl)
theorem dL_law_2450 : decode cL_law 2450 = .ok (.iload 6, 2) := dk_21 6 (dk_at dksL_law_97 10 rfl rfl)
theorem dL_law_2452 : decode cL_law 2452 = .ok (.ifCond .ne 15, 3) := dk_154 0 15 (dk_at dksL_law_97 12 rfl rfl)
theorem dL_law_2455 : decode cL_law 2455 = .ok (.aload_n 3, 1) := dk_45 (dk_at dksL_law_97 15 rfl rfl)
theorem dL_law_2456 : decode cL_law 2456 = .ok (.iconst 0, 1) := dk_3 (dk_at dksL_law_97 16 rfl rfl)
theorem dL_law_2457 : decode cL_law 2457 = .ok (.laload, 1) := dk_47 (dk_at dksL_law_97 17 rfl rfl)
theorem dL_law_2458 : decode cL_law 2458 = .ok (.iload 7, 2) := dk_21 7 (dk_at dksL_law_97 18 rfl rfl)
theorem dL_law_2460 : decode cL_law 2460 = .ok (.i2l, 1) := dk_133 (dk_at dksL_law_97 20 rfl rfl)
theorem dL_law_2461 : decode cL_law 2461 = .ok (.lcmp, 1) := dk_148 (dk_at dksL_law_97 21 rfl rfl)
theorem dL_law_2462 : decode cL_law 2462 = .ok (.ifCond .eq 5, 3) := dk_153 0 5 (dk_at dksL_law_98 0 rfl rfl)
theorem dL_law_2465 : decode cL_law 2465 = .ok (.iconst 0, 1) := dk_3 (dk_at dksL_law_98 3 rfl rfl)
theorem dL_law_2466 : decode cL_law 2466 = .ok (.ireturn, 1) := dk_172 (dk_at dksL_law_98 4 rfl rfl)
theorem dL_law_2467 : decode cL_law 2467 = .ok (.goto 920, 3) := dk_167 3 152 (dk_at dksL_law_98 5 rfl rfl)
theorem dL_law_2470 : decode cL_law 2470 = .ok (.aload_n 1, 1) := dk_43 (dk_at dksL_law_98 8 rfl rfl)
theorem dL_law_2471 : decode cL_law 2471 = .ok (.aload_n 0, 1) := dk_42 (dk_at dksL_law_98 9 rfl rfl)
theorem dL_law_2472 : decode cL_law 2472 = .ok (.iload 5, 2) := dk_21 5 (dk_at dksL_law_98 10 rfl rfl)
theorem dL_law_2474 : decode cL_law 2474 = .ok (.iconst 1, 1) := dk_4 (dk_at dksL_law_98 12 rfl rfl)
theorem dL_law_2475 : decode cL_law 2475 = .ok (.iadd, 1) := dk_96 (dk_at dksL_law_98 13 rfl rfl)
theorem dL_law_2476 : decode cL_law 2476 = .ok (.iaload, 1) := dk_46 (dk_at dksL_law_98 14 rfl rfl)
theorem dL_law_2477 : decode cL_law 2477 = .ok (.aload_n 3, 1) := dk_45 (dk_at dksL_law_98 15 rfl rfl)
theorem dL_law_2478 : decode cL_law 2478 = .ok (.invokestatic 277, 3) := dk_184 1 21 (dk_at dksL_law_98 16 rfl rfl)
theorem dL_law_2481 : decode cL_law 2481 = .ok (.istore 6, 2) := dk_54 6 (dk_at dksL_law_98 19 rfl rfl)
theorem dL_law_2483 : decode cL_law 2483 = .ok (.aload_n 2, 1) := dk_44 (dk_at dksL_law_98 21 rfl rfl)
theorem dL_law_2484 : decode cL_law 2484 = .ok (.aload_n 0, 1) := dk_42 (dk_at dksL_law_98 22 rfl rfl)
theorem dL_law_2485 : decode cL_law 2485 = .ok (.iload 5, 2) := dk_21 5 (dk_at dksL_law_99 0 rfl rfl)
theorem dL_law_2487 : decode cL_law 2487 = .ok (.iconst 1, 1) := dk_4 (dk_at dksL_law_99 2 rfl rfl)
theorem dL_law_2488 : decode cL_law 2488 = .ok (.iadd, 1) := dk_96 (dk_at dksL_law_99 3 rfl rfl)
theorem dL_law_2489 : decode cL_law 2489 = .ok (.iaload, 1) := dk_46 (dk_at dksL_law_99 4 rfl rfl)
theorem dL_law_2490 : decode cL_law 2490 = .ok (.invokevirtual 279, 3) := dk_182 1 23 (dk_at dksL_law_99 5 rfl rfl)
theorem dL_law_2493 : decode cL_law 2493 = .ok (.istore 7, 2) := dk_54 7 (dk_at dksL_law_99 8 rfl rfl)
theorem dL_law_2495 : decode cL_law 2495 = .ok (.aload_n 2, 1) := dk_44 (dk_at dksL_law_99 10 rfl rfl)
theorem dL_law_2496 : decode cL_law 2496 = .ok (.invokevirtual 175, 3) := dk_182 0 175 (dk_at dksL_law_99 11 rfl rfl)
theorem dL_law_2499 : decode cL_law 2499 = .ok (.iload 6, 2) := dk_21 6 (dk_at dksL_law_99 14 rfl rfl)
theorem dL_law_2501 : decode cL_law 2501 = .ok (.if_icmp .eq 5, 3) := dk_159 0 5 (dk_at dksL_law_99 16 rfl rfl)
theorem dL_law_2504 : decode cL_law 2504 = .ok (.iconst 0, 1) := dk_3 (dk_at dksL_law_99 19 rfl rfl)
theorem dL_law_2505 : decode cL_law 2505 = .ok (.ireturn, 1) := dk_172 (dk_at dksL_law_99 20 rfl rfl)
theorem dL_law_2506 : decode cL_law 2506 = .ok (.iload 6, 2) := dk_21 6 (dk_at dksL_law_99 21 rfl rfl)
theorem dL_law_2508 : decode cL_law 2508 = .ok (.ifCond .ne 15, 3) := dk_154 0 15 (dk_at dksL_law_100 0 rfl rfl)
theorem dL_law_2511 : decode cL_law 2511 = .ok (.aload_n 3, 1) := dk_45 (dk_at dksL_law_100 3 rfl rfl)
theorem dL_law_2512 : decode cL_law 2512 = .ok (.iconst 0, 1) := dk_3 (dk_at dksL_law_100 4 rfl rfl)
theorem dL_law_2513 : decode cL_law 2513 = .ok (.laload, 1) := dk_47 (dk_at dksL_law_100 5 rfl rfl)
theorem dL_law_2514 : decode cL_law 2514 = .ok (.iload 7, 2) := dk_21 7 (dk_at dksL_law_100 6 rfl rfl)
theorem dL_law_2516 : decode cL_law 2516 = .ok (.i2l, 1) := dk_133 (dk_at dksL_law_100 8 rfl rfl)
theorem dL_law_2517 : decode cL_law 2517 = .ok (.lcmp, 1) := dk_148 (dk_at dksL_law_100 9 rfl rfl)
theorem dL_law_2518 : decode cL_law 2518 = .ok (.ifCond .eq 5, 3) := dk_153 0 5 (dk_at dksL_law_100 10 rfl rfl)
theorem dL_law_2521 : decode cL_law 2521 = .ok (.iconst 0, 1) := dk_3 (dk_at dksL_law_100 13 rfl rfl)
theorem dL_law_2522 : decode cL_law 2522 = .ok (.ireturn, 1) := dk_172 (dk_at dksL_law_100 14 rfl rfl)
theorem dL_law_2523 : decode cL_law 2523 = .ok (.goto 864, 3) := dk_167 3 96 (dk_at dksL_law_100 15 rfl rfl)
theorem dL_law_2526 : decode cL_law 2526 = .ok (.aload_n 1, 1) := dk_43 (dk_at dksL_law_100 18 rfl rfl)
theorem dL_law_2527 : decode cL_law 2527 = .ok (.aload_n 0, 1) := dk_42 (dk_at dksL_law_100 19 rfl rfl)
theorem dL_law_2528 : decode cL_law 2528 = .ok (.iload 5, 2) := dk_21 5 (dk_at dksL_law_100 20 rfl rfl)
theorem dL_law_2530 : decode cL_law 2530 = .ok (.iconst 1, 1) := dk_4 (dk_at dksL_law_100 22 rfl rfl)
theorem dL_law_2531 : decode cL_law 2531 = .ok (.iadd, 1) := dk_96 (dk_at dksL_law_100 23 rfl rfl)
theorem dL_law_2532 : decode cL_law 2532 = .ok (.iaload, 1) := dk_46 (dk_at dksL_law_101 0 rfl rfl)
theorem dL_law_2533 : decode cL_law 2533 = .ok (.aload_n 0, 1) := dk_42 (dk_at dksL_law_101 1 rfl rfl)
theorem dL_law_2534 : decode cL_law 2534 = .ok (.iload 5, 2) := dk_21 5 (dk_at dksL_law_101 2 rfl rfl)
theorem dL_law_2536 : decode cL_law 2536 = .ok (.iconst 2, 1) := dk_5 (dk_at dksL_law_101 4 rfl rfl)
theorem dL_law_2537 : decode cL_law 2537 = .ok (.iadd, 1) := dk_96 (dk_at dksL_law_101 5 rfl rfl)
theorem dL_law_2538 : decode cL_law 2538 = .ok (.iaload, 1) := dk_46 (dk_at dksL_law_101 6 rfl rfl)
theorem dL_law_2539 : decode cL_law 2539 = .ok (.aload_n 3, 1) := dk_45 (dk_at dksL_law_101 7 rfl rfl)
theorem dL_law_2540 : decode cL_law 2540 = .ok (.invokestatic 280, 3) := dk_184 1 24 (dk_at dksL_law_101 8 rfl rfl)
theorem dL_law_2543 : decode cL_law 2543 = .ok (.istore 6, 2) := dk_54 6 (dk_at dksL_law_101 11 rfl rfl)
theorem dL_law_2545 : decode cL_law 2545 = .ok (.aload_n 2, 1) := dk_44 (dk_at dksL_law_101 13 rfl rfl)
theorem dL_law_2546 : decode cL_law 2546 = .ok (.aload_n 0, 1) := dk_42 (dk_at dksL_law_101 14 rfl rfl)
theorem dL_law_2547 : decode cL_law 2547 = .ok (.iload 5, 2) := dk_21 5 (dk_at dksL_law_101 15 rfl rfl)
theorem dL_law_2549 : decode cL_law 2549 = .ok (.iconst 1, 1) := dk_4 (dk_at dksL_law_101 17 rfl rfl)
theorem dL_law_2550 : decode cL_law 2550 = .ok (.iadd, 1) := dk_96 (dk_at dksL_law_101 18 rfl rfl)
theorem dL_law_2551 : decode cL_law 2551 = .ok (.iaload, 1) := dk_46 (dk_at dksL_law_101 19 rfl rfl)
theorem dL_law_2552 : decode cL_law 2552 = .ok (.aload_n 0, 1) := dk_42 (dk_at dksL_law_101 20 rfl rfl)
theorem dL_law_2553 : decode cL_law 2553 = .ok (.iload 5, 2) := dk_21 5 (dk_at dksL_law_101 21 rfl rfl)
theorem dL_law_2555 : decode cL_law 2555 = .ok (.iconst 2, 1) := dk_5 (dk_at dksL_law_101 23 rfl rfl)
theorem dL_law_2556 : decode cL_law 2556 = .ok (.iadd, 1) := dk_96 (dk_at dksL_law_102 0 rfl rfl)
theorem dL_law_2557 : decode cL_law 2557 = .ok (.iaload, 1) := dk_46 (dk_at dksL_law_102 1 rfl rfl)
theorem dL_law_2558 : decode cL_law 2558 = .ok (.invokevirtual 282, 3) := dk_182 1 26 (dk_at dksL_law_102 2 rfl rfl)
theorem dL_law_2561 : decode cL_law 2561 = .ok (.istore 7, 2) := dk_54 7 (dk_at dksL_law_102 5 rfl rfl)
theorem dL_law_2563 : decode cL_law 2563 = .ok (.aload_n 2, 1) := dk_44 (dk_at dksL_law_102 7 rfl rfl)
theorem dL_law_2564 : decode cL_law 2564 = .ok (.invokevirtual 175, 3) := dk_182 0 175 (dk_at dksL_law_102 8 rfl rfl)
theorem dL_law_2567 : decode cL_law 2567 = .ok (.iload 6, 2) := dk_21 6 (dk_at dksL_law_102 11 rfl rfl)
theorem dL_law_2569 : decode cL_law 2569 = .ok (.if_icmp .eq 5, 3) := dk_159 0 5 (dk_at dksL_law_102 13 rfl rfl)
theorem dL_law_2572 : decode cL_law 2572 = .ok (.iconst 0, 1) := dk_3 (dk_at dksL_law_102 16 rfl rfl)
theorem dL_law_2573 : decode cL_law 2573 = .ok (.ireturn, 1) := dk_172 (dk_at dksL_law_102 17 rfl rfl)
theorem dL_law_2574 : decode cL_law 2574 = .ok (.iload 6, 2) := dk_21 6 (dk_at dksL_law_102 18 rfl rfl)
theorem dL_law_2576 : decode cL_law 2576 = .ok (.ifCond .ne 15, 3) := dk_154 0 15 (dk_at dksL_law_102 20 rfl rfl)
theorem dL_law_2579 : decode cL_law 2579 = .ok (.aload_n 3, 1) := dk_45 (dk_at dksL_law_102 23 rfl rfl)
theorem dL_law_2580 : decode cL_law 2580 = .ok (.iconst 0, 1) := dk_3 (dk_at dksL_law_103 0 rfl rfl)
theorem dL_law_2581 : decode cL_law 2581 = .ok (.laload, 1) := dk_47 (dk_at dksL_law_103 1 rfl rfl)
theorem dL_law_2582 : decode cL_law 2582 = .ok (.iload 7, 2) := dk_21 7 (dk_at dksL_law_103 2 rfl rfl)
theorem dL_law_2584 : decode cL_law 2584 = .ok (.i2l, 1) := dk_133 (dk_at dksL_law_103 4 rfl rfl)
theorem dL_law_2585 : decode cL_law 2585 = .ok (.lcmp, 1) := dk_148 (dk_at dksL_law_103 5 rfl rfl)
theorem dL_law_2586 : decode cL_law 2586 = .ok (.ifCond .eq 5, 3) := dk_153 0 5 (dk_at dksL_law_103 6 rfl rfl)
theorem dL_law_2589 : decode cL_law 2589 = .ok (.iconst 0, 1) := dk_3 (dk_at dksL_law_103 9 rfl rfl)
theorem dL_law_2590 : decode cL_law 2590 = .ok (.ireturn, 1) := dk_172 (dk_at dksL_law_103 10 rfl rfl)
theorem dL_law_2591 : decode cL_law 2591 = .ok (.goto 796, 3) := dk_167 3 28 (dk_at dksL_law_103 11 rfl rfl)
theorem dL_law_2594 : decode cL_law 2594 = .ok (.aload_n 1, 1) := dk_43 (dk_at dksL_law_103 14 rfl rfl)
theorem dL_law_2595 : decode cL_law 2595 = .ok (.aload_n 0, 1) := dk_42 (dk_at dksL_law_103 15 rfl rfl)
theorem dL_law_2596 : decode cL_law 2596 = .ok (.iload 5, 2) := dk_21 5 (dk_at dksL_law_103 16 rfl rfl)
theorem dL_law_2598 : decode cL_law 2598 = .ok (.iconst 1, 1) := dk_4 (dk_at dksL_law_103 18 rfl rfl)
theorem dL_law_2599 : decode cL_law 2599 = .ok (.iadd, 1) := dk_96 (dk_at dksL_law_103 19 rfl rfl)
theorem dL_law_2600 : decode cL_law 2600 = .ok (.iaload, 1) := dk_46 (dk_at dksL_law_103 20 rfl rfl)
theorem dL_law_2601 : decode cL_law 2601 = .ok (.aload_n 0, 1) := dk_42 (dk_at dksL_law_103 21 rfl rfl)
theorem dL_law_2602 : decode cL_law 2602 = .ok (.iload 5, 2) := dk_21 5 (dk_at dksL_law_103 22 rfl rfl)
theorem dL_law_2604 : decode cL_law 2604 = .ok (.iconst 2, 1) := dk_5 (dk_at dksL_law_104 0 rfl rfl)
theorem dL_law_2605 : decode cL_law 2605 = .ok (.iadd, 1) := dk_96 (dk_at dksL_law_104 1 rfl rfl)
theorem dL_law_2606 : decode cL_law 2606 = .ok (.iaload, 1) := dk_46 (dk_at dksL_law_104 2 rfl rfl)
theorem dL_law_2607 : decode cL_law 2607 = .ok (.aload_n 3, 1) := dk_45 (dk_at dksL_law_104 3 rfl rfl)
theorem dL_law_2608 : decode cL_law 2608 = .ok (.invokestatic 283, 3) := dk_184 1 27 (dk_at dksL_law_104 4 rfl rfl)
theorem dL_law_2611 : decode cL_law 2611 = .ok (.istore 6, 2) := dk_54 6 (dk_at dksL_law_104 7 rfl rfl)
theorem dL_law_2613 : decode cL_law 2613 = .ok (.aload_n 2, 1) := dk_44 (dk_at dksL_law_104 9 rfl rfl)
theorem dL_law_2614 : decode cL_law 2614 = .ok (.aload_n 0, 1) := dk_42 (dk_at dksL_law_104 10 rfl rfl)
theorem dL_law_2615 : decode cL_law 2615 = .ok (.iload 5, 2) := dk_21 5 (dk_at dksL_law_104 11 rfl rfl)
theorem dL_law_2617 : decode cL_law 2617 = .ok (.iconst 1, 1) := dk_4 (dk_at dksL_law_104 13 rfl rfl)
theorem dL_law_2618 : decode cL_law 2618 = .ok (.iadd, 1) := dk_96 (dk_at dksL_law_104 14 rfl rfl)
theorem dL_law_2619 : decode cL_law 2619 = .ok (.iaload, 1) := dk_46 (dk_at dksL_law_104 15 rfl rfl)
theorem dL_law_2620 : decode cL_law 2620 = .ok (.aload_n 0, 1) := dk_42 (dk_at dksL_law_104 16 rfl rfl)
theorem dL_law_2621 : decode cL_law 2621 = .ok (.iload 5, 2) := dk_21 5 (dk_at dksL_law_104 17 rfl rfl)
theorem dL_law_2623 : decode cL_law 2623 = .ok (.iconst 2, 1) := dk_5 (dk_at dksL_law_104 19 rfl rfl)
theorem dL_law_2624 : decode cL_law 2624 = .ok (.iadd, 1) := dk_96 (dk_at dksL_law_104 20 rfl rfl)
theorem dL_law_2625 : decode cL_law 2625 = .ok (.iaload, 1) := dk_46 (dk_at dksL_law_104 21 rfl rfl)
theorem dL_law_2626 : decode cL_law 2626 = .ok (.invokevirtual 285, 3) := dk_182 1 29 (dk_at dksL_law_105 0 rfl rfl)
theorem dL_law_2629 : decode cL_law 2629 = .ok (.istore 7, 2) := dk_54 7 (dk_at dksL_law_105 3 rfl rfl)
theorem dL_law_2631 : decode cL_law 2631 = .ok (.aload_n 2, 1) := dk_44 (dk_at dksL_law_105 5 rfl rfl)
theorem dL_law_2632 : decode cL_law 2632 = .ok (.invokevirtual 175, 3) := dk_182 0 175 (dk_at dksL_law_105 6 rfl rfl)
theorem dL_law_2635 : decode cL_law 2635 = .ok (.iload 6, 2) := dk_21 6 (dk_at dksL_law_105 9 rfl rfl)
theorem dL_law_2637 : decode cL_law 2637 = .ok (.if_icmp .eq 5, 3) := dk_159 0 5 (dk_at dksL_law_105 11 rfl rfl)
theorem dL_law_2640 : decode cL_law 2640 = .ok (.iconst 0, 1) := dk_3 (dk_at dksL_law_105 14 rfl rfl)
theorem dL_law_2641 : decode cL_law 2641 = .ok (.ireturn, 1) := dk_172 (dk_at dksL_law_105 15 rfl rfl)
theorem dL_law_2642 : decode cL_law 2642 = .ok (.iload 6, 2) := dk_21 6 (dk_at dksL_law_105 16 rfl rfl)
theorem dL_law_2644 : decode cL_law 2644 = .ok (.ifCond .ne 15, 3) := dk_154 0 15 (dk_at dksL_law_105 18 rfl rfl)
theorem dL_law_2647 : decode cL_law 2647 = .ok (.aload_n 3, 1) := dk_45 (dk_at dksL_law_105 21 rfl rfl)
theorem dL_law_2648 : decode cL_law 2648 = .ok (.iconst 0, 1) := dk_3 (dk_at dksL_law_105 22 rfl rfl)
theorem dL_law_2649 : decode cL_law 2649 = .ok (.laload, 1) := dk_47 (dk_at dksL_law_105 23 rfl rfl)
theorem dL_law_2650 : decode cL_law 2650 = .ok (.iload 7, 2) := dk_21 7 (dk_at dksL_law_106 0 rfl rfl)
theorem dL_law_2652 : decode cL_law 2652 = .ok (.i2l, 1) := dk_133 (dk_at dksL_law_106 2 rfl rfl)
theorem dL_law_2653 : decode cL_law 2653 = .ok (.lcmp, 1) := dk_148 (dk_at dksL_law_106 3 rfl rfl)
theorem dL_law_2654 : decode cL_law 2654 = .ok (.ifCond .eq 5, 3) := dk_153 0 5 (dk_at dksL_law_106 4 rfl rfl)
theorem dL_law_2657 : decode cL_law 2657 = .ok (.iconst 0, 1) := dk_3 (dk_at dksL_law_106 7 rfl rfl)
theorem dL_law_2658 : decode cL_law 2658 = .ok (.ireturn, 1) := dk_172 (dk_at dksL_law_106 8 rfl rfl)
theorem dL_law_2659 : decode cL_law 2659 = .ok (.goto 728, 3) := dk_167 2 216 (dk_at dksL_law_106 9 rfl rfl)
theorem dL_law_2662 : decode cL_law 2662 = .ok (.aload_n 1, 1) := dk_43 (dk_at dksL_law_106 12 rfl rfl)
theorem dL_law_2663 : decode cL_law 2663 = .ok (.aload_n 0, 1) := dk_42 (dk_at dksL_law_106 13 rfl rfl)
theorem dL_law_2664 : decode cL_law 2664 = .ok (.iload 5, 2) := dk_21 5 (dk_at dksL_law_106 14 rfl rfl)
theorem dL_law_2666 : decode cL_law 2666 = .ok (.iconst 1, 1) := dk_4 (dk_at dksL_law_106 16 rfl rfl)
theorem dL_law_2667 : decode cL_law 2667 = .ok (.iadd, 1) := dk_96 (dk_at dksL_law_106 17 rfl rfl)
theorem dL_law_2668 : decode cL_law 2668 = .ok (.iaload, 1) := dk_46 (dk_at dksL_law_106 18 rfl rfl)
theorem dL_law_2669 : decode cL_law 2669 = .ok (.aload_n 0, 1) := dk_42 (dk_at dksL_law_106 19 rfl rfl)
theorem dL_law_2670 : decode cL_law 2670 = .ok (.iload 5, 2) := dk_21 5 (dk_at dksL_law_106 20 rfl rfl)
theorem dL_law_2672 : decode cL_law 2672 = .ok (.iconst 2, 1) := dk_5 (dk_at dksL_law_106 22 rfl rfl)
theorem dL_law_2673 : decode cL_law 2673 = .ok (.iadd, 1) := dk_96 (dk_at dksL_law_106 23 rfl rfl)
theorem dL_law_2674 : decode cL_law 2674 = .ok (.iaload, 1) := dk_46 (dk_at dksL_law_107 0 rfl rfl)
theorem dL_law_2675 : decode cL_law 2675 = .ok (.aload_n 3, 1) := dk_45 (dk_at dksL_law_107 1 rfl rfl)
theorem dL_law_2676 : decode cL_law 2676 = .ok (.invokestatic 286, 3) := dk_184 1 30 (dk_at dksL_law_107 2 rfl rfl)
theorem dL_law_2679 : decode cL_law 2679 = .ok (.istore 6, 2) := dk_54 6 (dk_at dksL_law_107 5 rfl rfl)
theorem dL_law_2681 : decode cL_law 2681 = .ok (.aload_n 2, 1) := dk_44 (dk_at dksL_law_107 7 rfl rfl)
theorem dL_law_2682 : decode cL_law 2682 = .ok (.aload_n 0, 1) := dk_42 (dk_at dksL_law_107 8 rfl rfl)
theorem dL_law_2683 : decode cL_law 2683 = .ok (.iload 5, 2) := dk_21 5 (dk_at dksL_law_107 9 rfl rfl)
theorem dL_law_2685 : decode cL_law 2685 = .ok (.iconst 1, 1) := dk_4 (dk_at dksL_law_107 11 rfl rfl)
theorem dL_law_2686 : decode cL_law 2686 = .ok (.iadd, 1) := dk_96 (dk_at dksL_law_107 12 rfl rfl)
theorem dL_law_2687 : decode cL_law 2687 = .ok (.iaload, 1) := dk_46 (dk_at dksL_law_107 13 rfl rfl)
theorem dL_law_2688 : decode cL_law 2688 = .ok (.aload_n 0, 1) := dk_42 (dk_at dksL_law_107 14 rfl rfl)
theorem dL_law_2689 : decode cL_law 2689 = .ok (.iload 5, 2) := dk_21 5 (dk_at dksL_law_107 15 rfl rfl)
theorem dL_law_2691 : decode cL_law 2691 = .ok (.iconst 2, 1) := dk_5 (dk_at dksL_law_107 17 rfl rfl)
theorem dL_law_2692 : decode cL_law 2692 = .ok (.iadd, 1) := dk_96 (dk_at dksL_law_107 18 rfl rfl)
theorem dL_law_2693 : decode cL_law 2693 = .ok (.iaload, 1) := dk_46 (dk_at dksL_law_107 19 rfl rfl)
theorem dL_law_2694 : decode cL_law 2694 = .ok (.invokevirtual 288, 3) := dk_182 1 32 (dk_at dksL_law_107 20 rfl rfl)
theorem dL_law_2697 : decode cL_law 2697 = .ok (.istore 7, 2) := dk_54 7 (dk_at dksL_law_108 0 rfl rfl)
theorem dL_law_2699 : decode cL_law 2699 = .ok (.aload_n 2, 1) := dk_44 (dk_at dksL_law_108 2 rfl rfl)
theorem dL_law_2700 : decode cL_law 2700 = .ok (.invokevirtual 175, 3) := dk_182 0 175 (dk_at dksL_law_108 3 rfl rfl)
theorem dL_law_2703 : decode cL_law 2703 = .ok (.iload 6, 2) := dk_21 6 (dk_at dksL_law_108 6 rfl rfl)
theorem dL_law_2705 : decode cL_law 2705 = .ok (.if_icmp .eq 5, 3) := dk_159 0 5 (dk_at dksL_law_108 8 rfl rfl)
theorem dL_law_2708 : decode cL_law 2708 = .ok (.iconst 0, 1) := dk_3 (dk_at dksL_law_108 11 rfl rfl)
theorem dL_law_2709 : decode cL_law 2709 = .ok (.ireturn, 1) := dk_172 (dk_at dksL_law_108 12 rfl rfl)
theorem dL_law_2710 : decode cL_law 2710 = .ok (.iload 6, 2) := dk_21 6 (dk_at dksL_law_108 13 rfl rfl)
theorem dL_law_2712 : decode cL_law 2712 = .ok (.ifCond .ne 15, 3) := dk_154 0 15 (dk_at dksL_law_108 15 rfl rfl)
theorem dL_law_2715 : decode cL_law 2715 = .ok (.aload_n 3, 1) := dk_45 (dk_at dksL_law_108 18 rfl rfl)
theorem dL_law_2716 : decode cL_law 2716 = .ok (.iconst 0, 1) := dk_3 (dk_at dksL_law_108 19 rfl rfl)
theorem dL_law_2717 : decode cL_law 2717 = .ok (.laload, 1) := dk_47 (dk_at dksL_law_108 20 rfl rfl)
theorem dL_law_2718 : decode cL_law 2718 = .ok (.iload 7, 2) := dk_21 7 (dk_at dksL_law_108 21 rfl rfl)
theorem dL_law_2720 : decode cL_law 2720 = .ok (.i2l, 1) := dk_133 (dk_at dksL_law_108 23 rfl rfl)
theorem dL_law_2721 : decode cL_law 2721 = .ok (.lcmp, 1) := dk_148 (dk_at dksL_law_109 0 rfl rfl)
theorem dL_law_2722 : decode cL_law 2722 = .ok (.ifCond .eq 5, 3) := dk_153 0 5 (dk_at dksL_law_109 1 rfl rfl)
theorem dL_law_2725 : decode cL_law 2725 = .ok (.iconst 0, 1) := dk_3 (dk_at dksL_law_109 4 rfl rfl)
theorem dL_law_2726 : decode cL_law 2726 = .ok (.ireturn, 1) := dk_172 (dk_at dksL_law_109 5 rfl rfl)
theorem dL_law_2727 : decode cL_law 2727 = .ok (.goto 660, 3) := dk_167 2 148 (dk_at dksL_law_109 6 rfl rfl)
theorem dL_law_2730 : decode cL_law 2730 = .ok (.aload_n 1, 1) := dk_43 (dk_at dksL_law_109 9 rfl rfl)
theorem dL_law_2731 : decode cL_law 2731 = .ok (.aload_n 0, 1) := dk_42 (dk_at dksL_law_109 10 rfl rfl)
theorem dL_law_2732 : decode cL_law 2732 = .ok (.iload 5, 2) := dk_21 5 (dk_at dksL_law_109 11 rfl rfl)
theorem dL_law_2734 : decode cL_law 2734 = .ok (.iconst 1, 1) := dk_4 (dk_at dksL_law_109 13 rfl rfl)
theorem dL_law_2735 : decode cL_law 2735 = .ok (.iadd, 1) := dk_96 (dk_at dksL_law_109 14 rfl rfl)
theorem dL_law_2736 : decode cL_law 2736 = .ok (.iaload, 1) := dk_46 (dk_at dksL_law_109 15 rfl rfl)
theorem dL_law_2737 : decode cL_law 2737 = .ok (.aload_n 0, 1) := dk_42 (dk_at dksL_law_109 16 rfl rfl)
theorem dL_law_2738 : decode cL_law 2738 = .ok (.iload 5, 2) := dk_21 5 (dk_at dksL_law_109 17 rfl rfl)
theorem dL_law_2740 : decode cL_law 2740 = .ok (.iconst 2, 1) := dk_5 (dk_at dksL_law_109 19 rfl rfl)
theorem dL_law_2741 : decode cL_law 2741 = .ok (.iadd, 1) := dk_96 (dk_at dksL_law_109 20 rfl rfl)
theorem dL_law_2742 : decode cL_law 2742 = .ok (.iaload, 1) := dk_46 (dk_at dksL_law_109 21 rfl rfl)
theorem dL_law_2743 : decode cL_law 2743 = .ok (.aload_n 3, 1) := dk_45 (dk_at dksL_law_109 22 rfl rfl)
theorem dL_law_2744 : decode cL_law 2744 = .ok (.invokestatic 289, 3) := dk_184 1 33 (dk_at dksL_law_110 0 rfl rfl)
theorem dL_law_2747 : decode cL_law 2747 = .ok (.istore 6, 2) := dk_54 6 (dk_at dksL_law_110 3 rfl rfl)
theorem dL_law_2749 : decode cL_law 2749 = .ok (.aload_n 2, 1) := dk_44 (dk_at dksL_law_110 5 rfl rfl)
theorem dL_law_2750 : decode cL_law 2750 = .ok (.aload_n 0, 1) := dk_42 (dk_at dksL_law_110 6 rfl rfl)
theorem dL_law_2751 : decode cL_law 2751 = .ok (.iload 5, 2) := dk_21 5 (dk_at dksL_law_110 7 rfl rfl)
theorem dL_law_2753 : decode cL_law 2753 = .ok (.iconst 1, 1) := dk_4 (dk_at dksL_law_110 9 rfl rfl)
theorem dL_law_2754 : decode cL_law 2754 = .ok (.iadd, 1) := dk_96 (dk_at dksL_law_110 10 rfl rfl)
theorem dL_law_2755 : decode cL_law 2755 = .ok (.iaload, 1) := dk_46 (dk_at dksL_law_110 11 rfl rfl)
theorem dL_law_2756 : decode cL_law 2756 = .ok (.aload_n 0, 1) := dk_42 (dk_at dksL_law_110 12 rfl rfl)
theorem dL_law_2757 : decode cL_law 2757 = .ok (.iload 5, 2) := dk_21 5 (dk_at dksL_law_110 13 rfl rfl)
theorem dL_law_2759 : decode cL_law 2759 = .ok (.iconst 2, 1) := dk_5 (dk_at dksL_law_110 15 rfl rfl)
theorem dL_law_2760 : decode cL_law 2760 = .ok (.iadd, 1) := dk_96 (dk_at dksL_law_110 16 rfl rfl)
theorem dL_law_2761 : decode cL_law 2761 = .ok (.iaload, 1) := dk_46 (dk_at dksL_law_110 17 rfl rfl)
theorem dL_law_2762 : decode cL_law 2762 = .ok (.invokevirtual 291, 3) := dk_182 1 35 (dk_at dksL_law_110 18 rfl rfl)
theorem dL_law_2765 : decode cL_law 2765 = .ok (.istore 7, 2) := dk_54 7 (dk_at dksL_law_110 21 rfl rfl)
theorem dL_law_2767 : decode cL_law 2767 = .ok (.aload_n 2, 1) := dk_44 (dk_at dksL_law_110 23 rfl rfl)
theorem dL_law_2768 : decode cL_law 2768 = .ok (.invokevirtual 175, 3) := dk_182 0 175 (dk_at dksL_law_111 0 rfl rfl)
theorem dL_law_2771 : decode cL_law 2771 = .ok (.iload 6, 2) := dk_21 6 (dk_at dksL_law_111 3 rfl rfl)
theorem dL_law_2773 : decode cL_law 2773 = .ok (.if_icmp .eq 5, 3) := dk_159 0 5 (dk_at dksL_law_111 5 rfl rfl)
theorem dL_law_2776 : decode cL_law 2776 = .ok (.iconst 0, 1) := dk_3 (dk_at dksL_law_111 8 rfl rfl)
theorem dL_law_2777 : decode cL_law 2777 = .ok (.ireturn, 1) := dk_172 (dk_at dksL_law_111 9 rfl rfl)
theorem dL_law_2778 : decode cL_law 2778 = .ok (.iload 6, 2) := dk_21 6 (dk_at dksL_law_111 10 rfl rfl)
theorem dL_law_2780 : decode cL_law 2780 = .ok (.ifCond .ne 15, 3) := dk_154 0 15 (dk_at dksL_law_111 12 rfl rfl)
theorem dL_law_2783 : decode cL_law 2783 = .ok (.aload_n 3, 1) := dk_45 (dk_at dksL_law_111 15 rfl rfl)
theorem dL_law_2784 : decode cL_law 2784 = .ok (.iconst 0, 1) := dk_3 (dk_at dksL_law_111 16 rfl rfl)
theorem dL_law_2785 : decode cL_law 2785 = .ok (.laload, 1) := dk_47 (dk_at dksL_law_111 17 rfl rfl)
theorem dL_law_2786 : decode cL_law 2786 = .ok (.iload 7, 2) := dk_21 7 (dk_at dksL_law_111 18 rfl rfl)
theorem dL_law_2788 : decode cL_law 2788 = .ok (.i2l, 1) := dk_133 (dk_at dksL_law_111 20 rfl rfl)
theorem dL_law_2789 : decode cL_law 2789 = .ok (.lcmp, 1) := dk_148 (dk_at dksL_law_111 21 rfl rfl)
theorem dL_law_2790 : decode cL_law 2790 = .ok (.ifCond .eq 5, 3) := dk_153 0 5 (dk_at dksL_law_112 0 rfl rfl)
theorem dL_law_2793 : decode cL_law 2793 = .ok (.iconst 0, 1) := dk_3 (dk_at dksL_law_112 3 rfl rfl)
theorem dL_law_2794 : decode cL_law 2794 = .ok (.ireturn, 1) := dk_172 (dk_at dksL_law_112 4 rfl rfl)
theorem dL_law_2795 : decode cL_law 2795 = .ok (.goto 592, 3) := dk_167 2 80 (dk_at dksL_law_112 5 rfl rfl)
theorem dL_law_2798 : decode cL_law 2798 = .ok (.aload_n 1, 1) := dk_43 (dk_at dksL_law_112 8 rfl rfl)
theorem dL_law_2799 : decode cL_law 2799 = .ok (.aload_n 0, 1) := dk_42 (dk_at dksL_law_112 9 rfl rfl)
theorem dL_law_2800 : decode cL_law 2800 = .ok (.iload 5, 2) := dk_21 5 (dk_at dksL_law_112 10 rfl rfl)
theorem dL_law_2802 : decode cL_law 2802 = .ok (.iconst 1, 1) := dk_4 (dk_at dksL_law_112 12 rfl rfl)
theorem dL_law_2803 : decode cL_law 2803 = .ok (.iadd, 1) := dk_96 (dk_at dksL_law_112 13 rfl rfl)
theorem dL_law_2804 : decode cL_law 2804 = .ok (.iaload, 1) := dk_46 (dk_at dksL_law_112 14 rfl rfl)
theorem dL_law_2805 : decode cL_law 2805 = .ok (.aload_n 0, 1) := dk_42 (dk_at dksL_law_112 15 rfl rfl)
theorem dL_law_2806 : decode cL_law 2806 = .ok (.iload 5, 2) := dk_21 5 (dk_at dksL_law_112 16 rfl rfl)
theorem dL_law_2808 : decode cL_law 2808 = .ok (.iconst 2, 1) := dk_5 (dk_at dksL_law_112 18 rfl rfl)
theorem dL_law_2809 : decode cL_law 2809 = .ok (.iadd, 1) := dk_96 (dk_at dksL_law_112 19 rfl rfl)
theorem dL_law_2810 : decode cL_law 2810 = .ok (.iaload, 1) := dk_46 (dk_at dksL_law_112 20 rfl rfl)
theorem dL_law_2811 : decode cL_law 2811 = .ok (.aload_n 3, 1) := dk_45 (dk_at dksL_law_112 21 rfl rfl)
theorem dL_law_2812 : decode cL_law 2812 = .ok (.invokestatic 292, 3) := dk_184 1 36 (dk_at dksL_law_113 0 rfl rfl)
theorem dL_law_2815 : decode cL_law 2815 = .ok (.istore 6, 2) := dk_54 6 (dk_at dksL_law_113 3 rfl rfl)
theorem dL_law_2817 : decode cL_law 2817 = .ok (.aload_n 2, 1) := dk_44 (dk_at dksL_law_113 5 rfl rfl)
theorem dL_law_2818 : decode cL_law 2818 = .ok (.aload_n 0, 1) := dk_42 (dk_at dksL_law_113 6 rfl rfl)
theorem dL_law_2819 : decode cL_law 2819 = .ok (.iload 5, 2) := dk_21 5 (dk_at dksL_law_113 7 rfl rfl)
theorem dL_law_2821 : decode cL_law 2821 = .ok (.iconst 1, 1) := dk_4 (dk_at dksL_law_113 9 rfl rfl)
theorem dL_law_2822 : decode cL_law 2822 = .ok (.iadd, 1) := dk_96 (dk_at dksL_law_113 10 rfl rfl)
theorem dL_law_2823 : decode cL_law 2823 = .ok (.iaload, 1) := dk_46 (dk_at dksL_law_113 11 rfl rfl)
theorem dL_law_2824 : decode cL_law 2824 = .ok (.aload_n 0, 1) := dk_42 (dk_at dksL_law_113 12 rfl rfl)
theorem dL_law_2825 : decode cL_law 2825 = .ok (.iload 5, 2) := dk_21 5 (dk_at dksL_law_113 13 rfl rfl)
theorem dL_law_2827 : decode cL_law 2827 = .ok (.iconst 2, 1) := dk_5 (dk_at dksL_law_113 15 rfl rfl)
theorem dL_law_2828 : decode cL_law 2828 = .ok (.iadd, 1) := dk_96 (dk_at dksL_law_113 16 rfl rfl)
theorem dL_law_2829 : decode cL_law 2829 = .ok (.iaload, 1) := dk_46 (dk_at dksL_law_113 17 rfl rfl)
theorem dL_law_2830 : decode cL_law 2830 = .ok (.invokevirtual 294, 3) := dk_182 1 38 (dk_at dksL_law_113 18 rfl rfl)
theorem dL_law_2833 : decode cL_law 2833 = .ok (.istore 7, 2) := dk_54 7 (dk_at dksL_law_113 21 rfl rfl)
theorem dL_law_2835 : decode cL_law 2835 = .ok (.aload_n 2, 1) := dk_44 (dk_at dksL_law_113 23 rfl rfl)
theorem dL_law_2836 : decode cL_law 2836 = .ok (.invokevirtual 175, 3) := dk_182 0 175 (dk_at dksL_law_114 0 rfl rfl)
theorem dL_law_2839 : decode cL_law 2839 = .ok (.iload 6, 2) := dk_21 6 (dk_at dksL_law_114 3 rfl rfl)
theorem dL_law_2841 : decode cL_law 2841 = .ok (.if_icmp .eq 5, 3) := dk_159 0 5 (dk_at dksL_law_114 5 rfl rfl)
theorem dL_law_2844 : decode cL_law 2844 = .ok (.iconst 0, 1) := dk_3 (dk_at dksL_law_114 8 rfl rfl)
theorem dL_law_2845 : decode cL_law 2845 = .ok (.ireturn, 1) := dk_172 (dk_at dksL_law_114 9 rfl rfl)
theorem dL_law_2846 : decode cL_law 2846 = .ok (.iload 6, 2) := dk_21 6 (dk_at dksL_law_114 10 rfl rfl)
theorem dL_law_2848 : decode cL_law 2848 = .ok (.ifCond .ne 15, 3) := dk_154 0 15 (dk_at dksL_law_114 12 rfl rfl)
theorem dL_law_2851 : decode cL_law 2851 = .ok (.aload_n 3, 1) := dk_45 (dk_at dksL_law_114 15 rfl rfl)
theorem dL_law_2852 : decode cL_law 2852 = .ok (.iconst 0, 1) := dk_3 (dk_at dksL_law_114 16 rfl rfl)
theorem dL_law_2853 : decode cL_law 2853 = .ok (.laload, 1) := dk_47 (dk_at dksL_law_114 17 rfl rfl)
theorem dL_law_2854 : decode cL_law 2854 = .ok (.iload 7, 2) := dk_21 7 (dk_at dksL_law_114 18 rfl rfl)
theorem dL_law_2856 : decode cL_law 2856 = .ok (.i2l, 1) := dk_133 (dk_at dksL_law_114 20 rfl rfl)
theorem dL_law_2857 : decode cL_law 2857 = .ok (.lcmp, 1) := dk_148 (dk_at dksL_law_114 21 rfl rfl)
theorem dL_law_2858 : decode cL_law 2858 = .ok (.ifCond .eq 5, 3) := dk_153 0 5 (dk_at dksL_law_115 0 rfl rfl)
theorem dL_law_2861 : decode cL_law 2861 = .ok (.iconst 0, 1) := dk_3 (dk_at dksL_law_115 3 rfl rfl)
theorem dL_law_2862 : decode cL_law 2862 = .ok (.ireturn, 1) := dk_172 (dk_at dksL_law_115 4 rfl rfl)
theorem dL_law_2863 : decode cL_law 2863 = .ok (.goto 524, 3) := dk_167 2 12 (dk_at dksL_law_115 5 rfl rfl)
theorem dL_law_2866 : decode cL_law 2866 = .ok (.aload_n 1, 1) := dk_43 (dk_at dksL_law_115 8 rfl rfl)
theorem dL_law_2867 : decode cL_law 2867 = .ok (.aload_n 0, 1) := dk_42 (dk_at dksL_law_115 9 rfl rfl)
theorem dL_law_2868 : decode cL_law 2868 = .ok (.iload 5, 2) := dk_21 5 (dk_at dksL_law_115 10 rfl rfl)
theorem dL_law_2870 : decode cL_law 2870 = .ok (.iconst 1, 1) := dk_4 (dk_at dksL_law_115 12 rfl rfl)
theorem dL_law_2871 : decode cL_law 2871 = .ok (.iadd, 1) := dk_96 (dk_at dksL_law_115 13 rfl rfl)
theorem dL_law_2872 : decode cL_law 2872 = .ok (.iaload, 1) := dk_46 (dk_at dksL_law_115 14 rfl rfl)
theorem dL_law_2873 : decode cL_law 2873 = .ok (.aload_n 3, 1) := dk_45 (dk_at dksL_law_115 15 rfl rfl)
theorem dL_law_2874 : decode cL_law 2874 = .ok (.invokestatic 295, 3) := dk_184 1 39 (dk_at dksL_law_115 16 rfl rfl)
theorem dL_law_2877 : decode cL_law 2877 = .ok (.istore 6, 2) := dk_54 6 (dk_at dksL_law_115 19 rfl rfl)
theorem dL_law_2879 : decode cL_law 2879 = .ok (.aload_n 2, 1) := dk_44 (dk_at dksL_law_115 21 rfl rfl)
theorem dL_law_2880 : decode cL_law 2880 = .ok (.aload_n 0, 1) := dk_42 (dk_at dksL_law_115 22 rfl rfl)
theorem dL_law_2881 : decode cL_law 2881 = .ok (.iload 5, 2) := dk_21 5 (dk_at dksL_law_116 0 rfl rfl)
theorem dL_law_2883 : decode cL_law 2883 = .ok (.iconst 1, 1) := dk_4 (dk_at dksL_law_116 2 rfl rfl)
theorem dL_law_2884 : decode cL_law 2884 = .ok (.iadd, 1) := dk_96 (dk_at dksL_law_116 3 rfl rfl)
theorem dL_law_2885 : decode cL_law 2885 = .ok (.iaload, 1) := dk_46 (dk_at dksL_law_116 4 rfl rfl)
theorem dL_law_2886 : decode cL_law 2886 = .ok (.invokevirtual 297, 3) := dk_182 1 41 (dk_at dksL_law_116 5 rfl rfl)
theorem dL_law_2889 : decode cL_law 2889 = .ok (.istore 7, 2) := dk_54 7 (dk_at dksL_law_116 8 rfl rfl)
theorem dL_law_2891 : decode cL_law 2891 = .ok (.aload_n 2, 1) := dk_44 (dk_at dksL_law_116 10 rfl rfl)
theorem dL_law_2892 : decode cL_law 2892 = .ok (.invokevirtual 175, 3) := dk_182 0 175 (dk_at dksL_law_116 11 rfl rfl)
theorem dL_law_2895 : decode cL_law 2895 = .ok (.iload 6, 2) := dk_21 6 (dk_at dksL_law_116 14 rfl rfl)
theorem dL_law_2897 : decode cL_law 2897 = .ok (.if_icmp .eq 5, 3) := dk_159 0 5 (dk_at dksL_law_116 16 rfl rfl)
theorem dL_law_2900 : decode cL_law 2900 = .ok (.iconst 0, 1) := dk_3 (dk_at dksL_law_116 19 rfl rfl)
theorem dL_law_2901 : decode cL_law 2901 = .ok (.ireturn, 1) := dk_172 (dk_at dksL_law_116 20 rfl rfl)
theorem dL_law_2902 : decode cL_law 2902 = .ok (.iload 6, 2) := dk_21 6 (dk_at dksL_law_116 21 rfl rfl)
theorem dL_law_2904 : decode cL_law 2904 = .ok (.ifCond .ne 15, 3) := dk_154 0 15 (dk_at dksL_law_117 0 rfl rfl)
theorem dL_law_2907 : decode cL_law 2907 = .ok (.aload_n 3, 1) := dk_45 (dk_at dksL_law_117 3 rfl rfl)
theorem dL_law_2908 : decode cL_law 2908 = .ok (.iconst 0, 1) := dk_3 (dk_at dksL_law_117 4 rfl rfl)
theorem dL_law_2909 : decode cL_law 2909 = .ok (.laload, 1) := dk_47 (dk_at dksL_law_117 5 rfl rfl)
theorem dL_law_2910 : decode cL_law 2910 = .ok (.iload 7, 2) := dk_21 7 (dk_at dksL_law_117 6 rfl rfl)
theorem dL_law_2912 : decode cL_law 2912 = .ok (.i2l, 1) := dk_133 (dk_at dksL_law_117 8 rfl rfl)
theorem dL_law_2913 : decode cL_law 2913 = .ok (.lcmp, 1) := dk_148 (dk_at dksL_law_117 9 rfl rfl)
theorem dL_law_2914 : decode cL_law 2914 = .ok (.ifCond .eq 5, 3) := dk_153 0 5 (dk_at dksL_law_117 10 rfl rfl)
theorem dL_law_2917 : decode cL_law 2917 = .ok (.iconst 0, 1) := dk_3 (dk_at dksL_law_117 13 rfl rfl)
theorem dL_law_2918 : decode cL_law 2918 = .ok (.ireturn, 1) := dk_172 (dk_at dksL_law_117 14 rfl rfl)
theorem dL_law_2919 : decode cL_law 2919 = .ok (.goto 468, 3) := dk_167 1 212 (dk_at dksL_law_117 15 rfl rfl)
theorem dL_law_2922 : decode cL_law 2922 = .ok (.aload_n 1, 1) := dk_43 (dk_at dksL_law_117 18 rfl rfl)
theorem dL_law_2923 : decode cL_law 2923 = .ok (.aload_n 0, 1) := dk_42 (dk_at dksL_law_117 19 rfl rfl)
theorem dL_law_2924 : decode cL_law 2924 = .ok (.iload 5, 2) := dk_21 5 (dk_at dksL_law_117 20 rfl rfl)
theorem dL_law_2926 : decode cL_law 2926 = .ok (.iconst 1, 1) := dk_4 (dk_at dksL_law_117 22 rfl rfl)
theorem dL_law_2927 : decode cL_law 2927 = .ok (.iadd, 1) := dk_96 (dk_at dksL_law_117 23 rfl rfl)
theorem dL_law_2928 : decode cL_law 2928 = .ok (.iaload, 1) := dk_46 (dk_at dksL_law_118 0 rfl rfl)
theorem dL_law_2929 : decode cL_law 2929 = .ok (.aload_n 3, 1) := dk_45 (dk_at dksL_law_118 1 rfl rfl)
theorem dL_law_2930 : decode cL_law 2930 = .ok (.invokestatic 298, 3) := dk_184 1 42 (dk_at dksL_law_118 2 rfl rfl)
theorem dL_law_2933 : decode cL_law 2933 = .ok (.istore 6, 2) := dk_54 6 (dk_at dksL_law_118 5 rfl rfl)
theorem dL_law_2935 : decode cL_law 2935 = .ok (.aload_n 2, 1) := dk_44 (dk_at dksL_law_118 7 rfl rfl)
theorem dL_law_2936 : decode cL_law 2936 = .ok (.aload_n 0, 1) := dk_42 (dk_at dksL_law_118 8 rfl rfl)
theorem dL_law_2937 : decode cL_law 2937 = .ok (.iload 5, 2) := dk_21 5 (dk_at dksL_law_118 9 rfl rfl)
theorem dL_law_2939 : decode cL_law 2939 = .ok (.iconst 1, 1) := dk_4 (dk_at dksL_law_118 11 rfl rfl)
theorem dL_law_2940 : decode cL_law 2940 = .ok (.iadd, 1) := dk_96 (dk_at dksL_law_118 12 rfl rfl)
theorem dL_law_2941 : decode cL_law 2941 = .ok (.iaload, 1) := dk_46 (dk_at dksL_law_118 13 rfl rfl)
theorem dL_law_2942 : decode cL_law 2942 = .ok (.invokevirtual 300, 3) := dk_182 1 44 (dk_at dksL_law_118 14 rfl rfl)
theorem dL_law_2945 : decode cL_law 2945 = .ok (.istore 7, 2) := dk_54 7 (dk_at dksL_law_118 17 rfl rfl)
theorem dL_law_2947 : decode cL_law 2947 = .ok (.aload_n 2, 1) := dk_44 (dk_at dksL_law_118 19 rfl rfl)
theorem dL_law_2948 : decode cL_law 2948 = .ok (.invokevirtual 175, 3) := dk_182 0 175 (dk_at dksL_law_118 20 rfl rfl)
theorem dL_law_2951 : decode cL_law 2951 = .ok (.iload 6, 2) := dk_21 6 (dk_at dksL_law_119 0 rfl rfl)
theorem dL_law_2953 : decode cL_law 2953 = .ok (.if_icmp .eq 5, 3) := dk_159 0 5 (dk_at dksL_law_119 2 rfl rfl)
theorem dL_law_2956 : decode cL_law 2956 = .ok (.iconst 0, 1) := dk_3 (dk_at dksL_law_119 5 rfl rfl)
theorem dL_law_2957 : decode cL_law 2957 = .ok (.ireturn, 1) := dk_172 (dk_at dksL_law_119 6 rfl rfl)
theorem dL_law_2958 : decode cL_law 2958 = .ok (.iload 6, 2) := dk_21 6 (dk_at dksL_law_119 7 rfl rfl)
theorem dL_law_2960 : decode cL_law 2960 = .ok (.ifCond .ne 15, 3) := dk_154 0 15 (dk_at dksL_law_119 9 rfl rfl)
theorem dL_law_2963 : decode cL_law 2963 = .ok (.aload_n 3, 1) := dk_45 (dk_at dksL_law_119 12 rfl rfl)
theorem dL_law_2964 : decode cL_law 2964 = .ok (.iconst 0, 1) := dk_3 (dk_at dksL_law_119 13 rfl rfl)
theorem dL_law_2965 : decode cL_law 2965 = .ok (.laload, 1) := dk_47 (dk_at dksL_law_119 14 rfl rfl)
theorem dL_law_2966 : decode cL_law 2966 = .ok (.iload 7, 2) := dk_21 7 (dk_at dksL_law_119 15 rfl rfl)
theorem dL_law_2968 : decode cL_law 2968 = .ok (.i2l, 1) := dk_133 (dk_at dksL_law_119 17 rfl rfl)
theorem dL_law_2969 : decode cL_law 2969 = .ok (.lcmp, 1) := dk_148 (dk_at dksL_law_119 18 rfl rfl)
theorem dL_law_2970 : decode cL_law 2970 = .ok (.ifCond .eq 5, 3) := dk_153 0 5 (dk_at dksL_law_119 19 rfl rfl)
theorem dL_law_2973 : decode cL_law 2973 = .ok (.iconst 0, 1) := dk_3 (dk_at dksL_law_119 22 rfl rfl)
theorem dL_law_2974 : decode cL_law 2974 = .ok (.ireturn, 1) := dk_172 (dk_at dksL_law_119 23 rfl rfl)
theorem dL_law_2975 : decode cL_law 2975 = .ok (.goto 412, 3) := dk_167 1 156 (dk_at dksL_law_120 0 rfl rfl)
theorem dL_law_2978 : decode cL_law 2978 = .ok (.aload_n 1, 1) := dk_43 (dk_at dksL_law_120 3 rfl rfl)
theorem dL_law_2979 : decode cL_law 2979 = .ok (.aload_n 0, 1) := dk_42 (dk_at dksL_law_120 4 rfl rfl)
theorem dL_law_2980 : decode cL_law 2980 = .ok (.iload 5, 2) := dk_21 5 (dk_at dksL_law_120 5 rfl rfl)
theorem dL_law_2982 : decode cL_law 2982 = .ok (.iconst 1, 1) := dk_4 (dk_at dksL_law_120 7 rfl rfl)
theorem dL_law_2983 : decode cL_law 2983 = .ok (.iadd, 1) := dk_96 (dk_at dksL_law_120 8 rfl rfl)
theorem dL_law_2984 : decode cL_law 2984 = .ok (.iaload, 1) := dk_46 (dk_at dksL_law_120 9 rfl rfl)
theorem dL_law_2985 : decode cL_law 2985 = .ok (.aload_n 3, 1) := dk_45 (dk_at dksL_law_120 10 rfl rfl)
theorem dL_law_2986 : decode cL_law 2986 = .ok (.invokestatic 301, 3) := dk_184 1 45 (dk_at dksL_law_120 11 rfl rfl)
theorem dL_law_2989 : decode cL_law 2989 = .ok (.istore 6, 2) := dk_54 6 (dk_at dksL_law_120 14 rfl rfl)
theorem dL_law_2991 : decode cL_law 2991 = .ok (.aload_n 2, 1) := dk_44 (dk_at dksL_law_120 16 rfl rfl)
theorem dL_law_2992 : decode cL_law 2992 = .ok (.aload_n 0, 1) := dk_42 (dk_at dksL_law_120 17 rfl rfl)
theorem dL_law_2993 : decode cL_law 2993 = .ok (.iload 5, 2) := dk_21 5 (dk_at dksL_law_120 18 rfl rfl)
theorem dL_law_2995 : decode cL_law 2995 = .ok (.iconst 1, 1) := dk_4 (dk_at dksL_law_120 20 rfl rfl)
theorem dL_law_2996 : decode cL_law 2996 = .ok (.iadd, 1) := dk_96 (dk_at dksL_law_120 21 rfl rfl)
theorem dL_law_2997 : decode cL_law 2997 = .ok (.iaload, 1) := dk_46 (dk_at dksL_law_120 22 rfl rfl)
theorem dL_law_2998 : decode cL_law 2998 = .ok (.invokevirtual 303, 3) := dk_182 1 47 (dk_at dksL_law_121 0 rfl rfl)
theorem dL_law_3001 : decode cL_law 3001 = .ok (.istore 7, 2) := dk_54 7 (dk_at dksL_law_121 3 rfl rfl)
theorem dL_law_3003 : decode cL_law 3003 = .ok (.aload_n 2, 1) := dk_44 (dk_at dksL_law_121 5 rfl rfl)
theorem dL_law_3004 : decode cL_law 3004 = .ok (.invokevirtual 175, 3) := dk_182 0 175 (dk_at dksL_law_121 6 rfl rfl)
theorem dL_law_3007 : decode cL_law 3007 = .ok (.iload 6, 2) := dk_21 6 (dk_at dksL_law_121 9 rfl rfl)
theorem dL_law_3009 : decode cL_law 3009 = .ok (.if_icmp .eq 5, 3) := dk_159 0 5 (dk_at dksL_law_121 11 rfl rfl)
theorem dL_law_3012 : decode cL_law 3012 = .ok (.iconst 0, 1) := dk_3 (dk_at dksL_law_121 14 rfl rfl)
theorem dL_law_3013 : decode cL_law 3013 = .ok (.ireturn, 1) := dk_172 (dk_at dksL_law_121 15 rfl rfl)
theorem dL_law_3014 : decode cL_law 3014 = .ok (.iload 6, 2) := dk_21 6 (dk_at dksL_law_121 16 rfl rfl)
theorem dL_law_3016 : decode cL_law 3016 = .ok (.ifCond .ne 15, 3) := dk_154 0 15 (dk_at dksL_law_121 18 rfl rfl)
theorem dL_law_3019 : decode cL_law 3019 = .ok (.aload_n 3, 1) := dk_45 (dk_at dksL_law_121 21 rfl rfl)
theorem dL_law_3020 : decode cL_law 3020 = .ok (.iconst 0, 1) := dk_3 (dk_at dksL_law_121 22 rfl rfl)
theorem dL_law_3021 : decode cL_law 3021 = .ok (.laload, 1) := dk_47 (dk_at dksL_law_121 23 rfl rfl)
theorem dL_law_3022 : decode cL_law 3022 = .ok (.iload 7, 2) := dk_21 7 (dk_at dksL_law_122 0 rfl rfl)
theorem dL_law_3024 : decode cL_law 3024 = .ok (.i2l, 1) := dk_133 (dk_at dksL_law_122 2 rfl rfl)
theorem dL_law_3025 : decode cL_law 3025 = .ok (.lcmp, 1) := dk_148 (dk_at dksL_law_122 3 rfl rfl)
theorem dL_law_3026 : decode cL_law 3026 = .ok (.ifCond .eq 5, 3) := dk_153 0 5 (dk_at dksL_law_122 4 rfl rfl)
theorem dL_law_3029 : decode cL_law 3029 = .ok (.iconst 0, 1) := dk_3 (dk_at dksL_law_122 7 rfl rfl)
theorem dL_law_3030 : decode cL_law 3030 = .ok (.ireturn, 1) := dk_172 (dk_at dksL_law_122 8 rfl rfl)
theorem dL_law_3031 : decode cL_law 3031 = .ok (.goto 356, 3) := dk_167 1 100 (dk_at dksL_law_122 9 rfl rfl)
theorem dL_law_3034 : decode cL_law 3034 = .ok (.aload_n 1, 1) := dk_43 (dk_at dksL_law_122 12 rfl rfl)
theorem dL_law_3035 : decode cL_law 3035 = .ok (.aload_n 0, 1) := dk_42 (dk_at dksL_law_122 13 rfl rfl)
theorem dL_law_3036 : decode cL_law 3036 = .ok (.iload 5, 2) := dk_21 5 (dk_at dksL_law_122 14 rfl rfl)
theorem dL_law_3038 : decode cL_law 3038 = .ok (.iconst 1, 1) := dk_4 (dk_at dksL_law_122 16 rfl rfl)
theorem dL_law_3039 : decode cL_law 3039 = .ok (.iadd, 1) := dk_96 (dk_at dksL_law_122 17 rfl rfl)
theorem dL_law_3040 : decode cL_law 3040 = .ok (.iaload, 1) := dk_46 (dk_at dksL_law_122 18 rfl rfl)
theorem dL_law_3041 : decode cL_law 3041 = .ok (.aload_n 0, 1) := dk_42 (dk_at dksL_law_122 19 rfl rfl)
theorem dL_law_3042 : decode cL_law 3042 = .ok (.iload 5, 2) := dk_21 5 (dk_at dksL_law_122 20 rfl rfl)
theorem dL_law_3044 : decode cL_law 3044 = .ok (.iconst 2, 1) := dk_5 (dk_at dksL_law_122 22 rfl rfl)
theorem dL_law_3045 : decode cL_law 3045 = .ok (.iadd, 1) := dk_96 (dk_at dksL_law_122 23 rfl rfl)
theorem dL_law_3046 : decode cL_law 3046 = .ok (.iaload, 1) := dk_46 (dk_at dksL_law_123 0 rfl rfl)
theorem dL_law_3047 : decode cL_law 3047 = .ok (.aload_n 3, 1) := dk_45 (dk_at dksL_law_123 1 rfl rfl)
theorem dL_law_3048 : decode cL_law 3048 = .ok (.invokestatic 304, 3) := dk_184 1 48 (dk_at dksL_law_123 2 rfl rfl)
theorem dL_law_3051 : decode cL_law 3051 = .ok (.istore 6, 2) := dk_54 6 (dk_at dksL_law_123 5 rfl rfl)
theorem dL_law_3053 : decode cL_law 3053 = .ok (.aload_n 2, 1) := dk_44 (dk_at dksL_law_123 7 rfl rfl)
theorem dL_law_3054 : decode cL_law 3054 = .ok (.aload_n 0, 1) := dk_42 (dk_at dksL_law_123 8 rfl rfl)
theorem dL_law_3055 : decode cL_law 3055 = .ok (.iload 5, 2) := dk_21 5 (dk_at dksL_law_123 9 rfl rfl)
theorem dL_law_3057 : decode cL_law 3057 = .ok (.iconst 1, 1) := dk_4 (dk_at dksL_law_123 11 rfl rfl)
theorem dL_law_3058 : decode cL_law 3058 = .ok (.iadd, 1) := dk_96 (dk_at dksL_law_123 12 rfl rfl)
theorem dL_law_3059 : decode cL_law 3059 = .ok (.iaload, 1) := dk_46 (dk_at dksL_law_123 13 rfl rfl)
theorem dL_law_3060 : decode cL_law 3060 = .ok (.aload_n 0, 1) := dk_42 (dk_at dksL_law_123 14 rfl rfl)
theorem dL_law_3061 : decode cL_law 3061 = .ok (.iload 5, 2) := dk_21 5 (dk_at dksL_law_123 15 rfl rfl)
theorem dL_law_3063 : decode cL_law 3063 = .ok (.iconst 2, 1) := dk_5 (dk_at dksL_law_123 17 rfl rfl)
theorem dL_law_3064 : decode cL_law 3064 = .ok (.iadd, 1) := dk_96 (dk_at dksL_law_123 18 rfl rfl)
theorem dL_law_3065 : decode cL_law 3065 = .ok (.iaload, 1) := dk_46 (dk_at dksL_law_123 19 rfl rfl)
theorem dL_law_3066 : decode cL_law 3066 = .ok (.invokevirtual 306, 3) := dk_182 1 50 (dk_at dksL_law_123 20 rfl rfl)
theorem dL_law_3069 : decode cL_law 3069 = .ok (.istore 7, 2) := dk_54 7 (dk_at dksL_law_124 0 rfl rfl)
theorem dL_law_3071 : decode cL_law 3071 = .ok (.aload_n 2, 1) := dk_44 (dk_at dksL_law_124 2 rfl rfl)
theorem dL_law_3072 : decode cL_law 3072 = .ok (.invokevirtual 175, 3) := dk_182 0 175 (dk_at dksL_law_124 3 rfl rfl)
theorem dL_law_3075 : decode cL_law 3075 = .ok (.iload 6, 2) := dk_21 6 (dk_at dksL_law_124 6 rfl rfl)
theorem dL_law_3077 : decode cL_law 3077 = .ok (.if_icmp .eq 5, 3) := dk_159 0 5 (dk_at dksL_law_124 8 rfl rfl)
theorem dL_law_3080 : decode cL_law 3080 = .ok (.iconst 0, 1) := dk_3 (dk_at dksL_law_124 11 rfl rfl)
theorem dL_law_3081 : decode cL_law 3081 = .ok (.ireturn, 1) := dk_172 (dk_at dksL_law_124 12 rfl rfl)
theorem dL_law_3082 : decode cL_law 3082 = .ok (.iload 6, 2) := dk_21 6 (dk_at dksL_law_124 13 rfl rfl)
theorem dL_law_3084 : decode cL_law 3084 = .ok (.ifCond .ne 15, 3) := dk_154 0 15 (dk_at dksL_law_124 15 rfl rfl)
theorem dL_law_3087 : decode cL_law 3087 = .ok (.aload_n 3, 1) := dk_45 (dk_at dksL_law_124 18 rfl rfl)
theorem dL_law_3088 : decode cL_law 3088 = .ok (.iconst 0, 1) := dk_3 (dk_at dksL_law_124 19 rfl rfl)
theorem dL_law_3089 : decode cL_law 3089 = .ok (.laload, 1) := dk_47 (dk_at dksL_law_124 20 rfl rfl)
theorem dL_law_3090 : decode cL_law 3090 = .ok (.iload 7, 2) := dk_21 7 (dk_at dksL_law_124 21 rfl rfl)
theorem dL_law_3092 : decode cL_law 3092 = .ok (.i2l, 1) := dk_133 (dk_at dksL_law_124 23 rfl rfl)
theorem dL_law_3093 : decode cL_law 3093 = .ok (.lcmp, 1) := dk_148 (dk_at dksL_law_125 0 rfl rfl)
theorem dL_law_3094 : decode cL_law 3094 = .ok (.ifCond .eq 5, 3) := dk_153 0 5 (dk_at dksL_law_125 1 rfl rfl)
theorem dL_law_3097 : decode cL_law 3097 = .ok (.iconst 0, 1) := dk_3 (dk_at dksL_law_125 4 rfl rfl)
theorem dL_law_3098 : decode cL_law 3098 = .ok (.ireturn, 1) := dk_172 (dk_at dksL_law_125 5 rfl rfl)
theorem dL_law_3099 : decode cL_law 3099 = .ok (.goto 288, 3) := dk_167 1 32 (dk_at dksL_law_125 6 rfl rfl)
theorem dL_law_3102 : decode cL_law 3102 = .ok (.aload_n 1, 1) := dk_43 (dk_at dksL_law_125 9 rfl rfl)
theorem dL_law_3103 : decode cL_law 3103 = .ok (.aload_n 0, 1) := dk_42 (dk_at dksL_law_125 10 rfl rfl)
theorem dL_law_3104 : decode cL_law 3104 = .ok (.iload 5, 2) := dk_21 5 (dk_at dksL_law_125 11 rfl rfl)
theorem dL_law_3106 : decode cL_law 3106 = .ok (.iconst 1, 1) := dk_4 (dk_at dksL_law_125 13 rfl rfl)
theorem dL_law_3107 : decode cL_law 3107 = .ok (.iadd, 1) := dk_96 (dk_at dksL_law_125 14 rfl rfl)
theorem dL_law_3108 : decode cL_law 3108 = .ok (.iaload, 1) := dk_46 (dk_at dksL_law_125 15 rfl rfl)
theorem dL_law_3109 : decode cL_law 3109 = .ok (.aload_n 0, 1) := dk_42 (dk_at dksL_law_125 16 rfl rfl)
theorem dL_law_3110 : decode cL_law 3110 = .ok (.iload 5, 2) := dk_21 5 (dk_at dksL_law_125 17 rfl rfl)
theorem dL_law_3112 : decode cL_law 3112 = .ok (.iconst 2, 1) := dk_5 (dk_at dksL_law_125 19 rfl rfl)
theorem dL_law_3113 : decode cL_law 3113 = .ok (.iadd, 1) := dk_96 (dk_at dksL_law_125 20 rfl rfl)
theorem dL_law_3114 : decode cL_law 3114 = .ok (.iaload, 1) := dk_46 (dk_at dksL_law_125 21 rfl rfl)
theorem dL_law_3115 : decode cL_law 3115 = .ok (.aload_n 3, 1) := dk_45 (dk_at dksL_law_125 22 rfl rfl)
theorem dL_law_3116 : decode cL_law 3116 = .ok (.invokestatic 307, 3) := dk_184 1 51 (dk_at dksL_law_126 0 rfl rfl)
theorem dL_law_3119 : decode cL_law 3119 = .ok (.istore 6, 2) := dk_54 6 (dk_at dksL_law_126 3 rfl rfl)
theorem dL_law_3121 : decode cL_law 3121 = .ok (.aload_n 2, 1) := dk_44 (dk_at dksL_law_126 5 rfl rfl)
theorem dL_law_3122 : decode cL_law 3122 = .ok (.aload_n 0, 1) := dk_42 (dk_at dksL_law_126 6 rfl rfl)
theorem dL_law_3123 : decode cL_law 3123 = .ok (.iload 5, 2) := dk_21 5 (dk_at dksL_law_126 7 rfl rfl)
theorem dL_law_3125 : decode cL_law 3125 = .ok (.iconst 1, 1) := dk_4 (dk_at dksL_law_126 9 rfl rfl)
theorem dL_law_3126 : decode cL_law 3126 = .ok (.iadd, 1) := dk_96 (dk_at dksL_law_126 10 rfl rfl)
theorem dL_law_3127 : decode cL_law 3127 = .ok (.iaload, 1) := dk_46 (dk_at dksL_law_126 11 rfl rfl)
theorem dL_law_3128 : decode cL_law 3128 = .ok (.aload_n 0, 1) := dk_42 (dk_at dksL_law_126 12 rfl rfl)
theorem dL_law_3129 : decode cL_law 3129 = .ok (.iload 5, 2) := dk_21 5 (dk_at dksL_law_126 13 rfl rfl)
theorem dL_law_3131 : decode cL_law 3131 = .ok (.iconst 2, 1) := dk_5 (dk_at dksL_law_126 15 rfl rfl)
theorem dL_law_3132 : decode cL_law 3132 = .ok (.iadd, 1) := dk_96 (dk_at dksL_law_126 16 rfl rfl)
theorem dL_law_3133 : decode cL_law 3133 = .ok (.iaload, 1) := dk_46 (dk_at dksL_law_126 17 rfl rfl)
theorem dL_law_3134 : decode cL_law 3134 = .ok (.invokevirtual 309, 3) := dk_182 1 53 (dk_at dksL_law_126 18 rfl rfl)
theorem dL_law_3137 : decode cL_law 3137 = .ok (.istore 7, 2) := dk_54 7 (dk_at dksL_law_126 21 rfl rfl)
theorem dL_law_3139 : decode cL_law 3139 = .ok (.aload_n 2, 1) := dk_44 (dk_at dksL_law_126 23 rfl rfl)
theorem dL_law_3140 : decode cL_law 3140 = .ok (.invokevirtual 175, 3) := dk_182 0 175 (dk_at dksL_law_127 0 rfl rfl)
theorem dL_law_3143 : decode cL_law 3143 = .ok (.iload 6, 2) := dk_21 6 (dk_at dksL_law_127 3 rfl rfl)
theorem dL_law_3145 : decode cL_law 3145 = .ok (.if_icmp .eq 5, 3) := dk_159 0 5 (dk_at dksL_law_127 5 rfl rfl)
theorem dL_law_3148 : decode cL_law 3148 = .ok (.iconst 0, 1) := dk_3 (dk_at dksL_law_127 8 rfl rfl)
theorem dL_law_3149 : decode cL_law 3149 = .ok (.ireturn, 1) := dk_172 (dk_at dksL_law_127 9 rfl rfl)
theorem dL_law_3150 : decode cL_law 3150 = .ok (.iload 6, 2) := dk_21 6 (dk_at dksL_law_127 10 rfl rfl)
theorem dL_law_3152 : decode cL_law 3152 = .ok (.ifCond .ne 22, 3) := dk_154 0 22 (dk_at dksL_law_127 12 rfl rfl)
theorem dL_law_3155 : decode cL_law 3155 = .ok (.aload_n 3, 1) := dk_45 (dk_at dksL_law_127 15 rfl rfl)
theorem dL_law_3156 : decode cL_law 3156 = .ok (.iconst 0, 1) := dk_3 (dk_at dksL_law_127 16 rfl rfl)
theorem dL_law_3157 : decode cL_law 3157 = .ok (.laload, 1) := dk_47 (dk_at dksL_law_127 17 rfl rfl)
theorem dL_law_3158 : decode cL_law 3158 = .ok (.iload 7, 2) := dk_21 7 (dk_at dksL_law_127 18 rfl rfl)
theorem dL_law_3160 : decode cL_law 3160 = .ok (.ifCond .eq 7, 3) := dk_153 0 7 (dk_at dksL_law_127 20 rfl rfl)
theorem dL_law_3163 : decode cL_law 3163 = .ok (.lconst 1, 1) := dk_10 (dk_at dksL_law_127 23 rfl rfl)
theorem dL_law_3164 : decode cL_law 3164 = .ok (.goto 4, 3) := dk_167 0 4 (dk_at dksL_law_128 0 rfl rfl)
theorem dL_law_3167 : decode cL_law 3167 = .ok (.lconst 0, 1) := dk_9 (dk_at dksL_law_128 3 rfl rfl)
theorem dL_law_3168 : decode cL_law 3168 = .ok (.lcmp, 1) := dk_148 (dk_at dksL_law_128 4 rfl rfl)
theorem dL_law_3169 : decode cL_law 3169 = .ok (.ifCond .eq 5, 3) := dk_153 0 5 (dk_at dksL_law_128 5 rfl rfl)
theorem dL_law_3172 : decode cL_law 3172 = .ok (.iconst 0, 1) := dk_3 (dk_at dksL_law_128 8 rfl rfl)
theorem dL_law_3173 : decode cL_law 3173 = .ok (.ireturn, 1) := dk_172 (dk_at dksL_law_128 9 rfl rfl)
theorem dL_law_3174 : decode cL_law 3174 = .ok (.goto 213, 3) := dk_167 0 213 (dk_at dksL_law_128 10 rfl rfl)
theorem dL_law_3177 : decode cL_law 3177 = .ok (.aload_n 1, 1) := dk_43 (dk_at dksL_law_128 13 rfl rfl)
theorem dL_law_3178 : decode cL_law 3178 = .ok (.aload_n 0, 1) := dk_42 (dk_at dksL_law_128 14 rfl rfl)
theorem dL_law_3179 : decode cL_law 3179 = .ok (.iload 5, 2) := dk_21 5 (dk_at dksL_law_128 15 rfl rfl)
theorem dL_law_3181 : decode cL_law 3181 = .ok (.iconst 1, 1) := dk_4 (dk_at dksL_law_128 17 rfl rfl)
theorem dL_law_3182 : decode cL_law 3182 = .ok (.iadd, 1) := dk_96 (dk_at dksL_law_128 18 rfl rfl)
theorem dL_law_3183 : decode cL_law 3183 = .ok (.iaload, 1) := dk_46 (dk_at dksL_law_128 19 rfl rfl)
theorem dL_law_3184 : decode cL_law 3184 = .ok (.aload 4, 2) := dk_25 4 (dk_at dksL_law_128 20 rfl rfl)
theorem dL_law_3186 : decode cL_law 3186 = .ok (.invokestatic 310, 3) := dk_184 1 54 (dk_at dksL_law_129 0 rfl rfl)
theorem dL_law_3189 : decode cL_law 3189 = .ok (.istore 6, 2) := dk_54 6 (dk_at dksL_law_129 3 rfl rfl)
theorem dL_law_3191 : decode cL_law 3191 = .ok (.aload_n 2, 1) := dk_44 (dk_at dksL_law_129 5 rfl rfl)
theorem dL_law_3192 : decode cL_law 3192 = .ok (.aload_n 0, 1) := dk_42 (dk_at dksL_law_129 6 rfl rfl)
theorem dL_law_3193 : decode cL_law 3193 = .ok (.iload 5, 2) := dk_21 5 (dk_at dksL_law_129 7 rfl rfl)
theorem dL_law_3195 : decode cL_law 3195 = .ok (.iconst 1, 1) := dk_4 (dk_at dksL_law_129 9 rfl rfl)
theorem dL_law_3196 : decode cL_law 3196 = .ok (.iadd, 1) := dk_96 (dk_at dksL_law_129 10 rfl rfl)
theorem dL_law_3197 : decode cL_law 3197 = .ok (.iaload, 1) := dk_46 (dk_at dksL_law_129 11 rfl rfl)
theorem dL_law_3198 : decode cL_law 3198 = .ok (.invokevirtual 313, 3) := dk_182 1 57 (dk_at dksL_law_129 12 rfl rfl)
theorem dL_law_3201 : decode cL_law 3201 = .ok (.fstore 7, 2) := dk_56 7 (dk_at dksL_law_129 15 rfl rfl)
theorem dL_law_3203 : decode cL_law 3203 = .ok (.aload_n 2, 1) := dk_44 (dk_at dksL_law_129 17 rfl rfl)
theorem dL_law_3204 : decode cL_law 3204 = .ok (.invokevirtual 175, 3) := dk_182 0 175 (dk_at dksL_law_129 18 rfl rfl)
theorem dL_law_3207 : decode cL_law 3207 = .ok (.iload 6, 2) := dk_21 6 (dk_at dksL_law_129 21 rfl rfl)
theorem dL_law_3209 : decode cL_law 3209 = .ok (.if_icmp .eq 5, 3) := dk_159 0 5 (dk_at dksL_law_130 0 rfl rfl)
theorem dL_law_3212 : decode cL_law 3212 = .ok (.iconst 0, 1) := dk_3 (dk_at dksL_law_130 3 rfl rfl)
theorem dL_law_3213 : decode cL_law 3213 = .ok (.ireturn, 1) := dk_172 (dk_at dksL_law_130 4 rfl rfl)
theorem dL_law_3214 : decode cL_law 3214 = .ok (.iload 6, 2) := dk_21 6 (dk_at dksL_law_130 5 rfl rfl)
theorem dL_law_3216 : decode cL_law 3216 = .ok (.ifCond .ne 36, 3) := dk_154 0 36 (dk_at dksL_law_130 7 rfl rfl)
theorem dL_law_3219 : decode cL_law 3219 = .ok (.aload 4, 2) := dk_25 4 (dk_at dksL_law_130 10 rfl rfl)
theorem dL_law_3221 : decode cL_law 3221 = .ok (.iconst 0, 1) := dk_3 (dk_at dksL_law_130 12 rfl rfl)
theorem dL_law_3222 : decode cL_law 3222 = .ok (.daload, 1) := dk_49 (dk_at dksL_law_130 13 rfl rfl)
theorem dL_law_3223 : decode cL_law 3223 = .ok (.fload 7, 2) := dk_23 7 (dk_at dksL_law_130 14 rfl rfl)
theorem dL_law_3225 : decode cL_law 3225 = .ok (.f2d, 1) := dk_141 (dk_at dksL_law_130 16 rfl rfl)
theorem dL_law_3226 : decode cL_law 3226 = .ok (.dcmp .l, 1) := dk_151 (dk_at dksL_law_130 17 rfl rfl)
theorem dL_law_3227 : decode cL_law 3227 = .ok (.ifCond .eq 25, 3) := dk_153 0 25 (dk_at dksL_law_130 18 rfl rfl)
theorem dL_law_3230 : decode cL_law 3230 = .ok (.aload 4, 2) := dk_25 4 (dk_at dksL_law_130 21 rfl rfl)
theorem dL_law_3232 : decode cL_law 3232 = .ok (.iconst 0, 1) := dk_3 (dk_at dksL_law_130 23 rfl rfl)
theorem dL_law_3233 : decode cL_law 3233 = .ok (.daload, 1) := dk_49 (dk_at dksL_law_131 0 rfl rfl)
theorem dL_law_3234 : decode cL_law 3234 = .ok (.aload 4, 2) := dk_25 4 (dk_at dksL_law_131 1 rfl rfl)
theorem dL_law_3236 : decode cL_law 3236 = .ok (.iconst 0, 1) := dk_3 (dk_at dksL_law_131 3 rfl rfl)
theorem dL_law_3237 : decode cL_law 3237 = .ok (.daload, 1) := dk_49 (dk_at dksL_law_131 4 rfl rfl)
theorem dL_law_3238 : decode cL_law 3238 = .ok (.dcmp .l, 1) := dk_151 (dk_at dksL_law_131 5 rfl rfl)
theorem dL_law_3239 : decode cL_law 3239 = .ok (.ifCond .eq 11, 3) := dk_153 0 11 (dk_at dksL_law_131 6 rfl rfl)
theorem dL_law_3242 : decode cL_law 3242 = .ok (.fload 7, 2) := dk_23 7 (dk_at dksL_law_131 9 rfl rfl)
theorem dL_law_3244 : decode cL_law 3244 = .ok (.fload 7, 2) := dk_23 7 (dk_at dksL_law_131 11 rfl rfl)
theorem dL_law_3246 : decode cL_law 3246 = .ok (.fcmp .l, 1) := dk_149 (dk_at dksL_law_131 13 rfl rfl)
theorem dL_law_3247 : decode cL_law 3247 = .ok (.ifCond .ne 5, 3) := dk_154 0 5 (dk_at dksL_law_131 14 rfl rfl)
theorem dL_law_3250 : decode cL_law 3250 = .ok (.iconst 0, 1) := dk_3 (dk_at dksL_law_131 17 rfl rfl)
theorem dL_law_3251 : decode cL_law 3251 = .ok (.ireturn, 1) := dk_172 (dk_at dksL_law_131 18 rfl rfl)
theorem dL_law_3252 : decode cL_law 3252 = .ok (.goto 135, 3) := dk_167 0 135 (dk_at dksL_law_131 19 rfl rfl)
theorem dL_law_3255 : decode cL_law 3255 = .ok (.aload_n 1, 1) := dk_43 (dk_at dksL_law_131 22 rfl rfl)
theorem dL_law_3256 : decode cL_law 3256 = .ok (.aload_n 0, 1) := dk_42 (dk_at dksL_law_131 23 rfl rfl)
theorem dL_law_3257 : decode cL_law 3257 = .ok (.iload 5, 2) := dk_21 5 (dk_at dksL_law_132 0 rfl rfl)
theorem dL_law_3259 : decode cL_law 3259 = .ok (.iconst 1, 1) := dk_4 (dk_at dksL_law_132 2 rfl rfl)
theorem dL_law_3260 : decode cL_law 3260 = .ok (.iadd, 1) := dk_96 (dk_at dksL_law_132 3 rfl rfl)
theorem dL_law_3261 : decode cL_law 3261 = .ok (.iaload, 1) := dk_46 (dk_at dksL_law_132 4 rfl rfl)
theorem dL_law_3262 : decode cL_law 3262 = .ok (.aload 4, 2) := dk_25 4 (dk_at dksL_law_132 5 rfl rfl)
theorem dL_law_3264 : decode cL_law 3264 = .ok (.invokestatic 314, 3) := dk_184 1 58 (dk_at dksL_law_132 7 rfl rfl)
theorem dL_law_3267 : decode cL_law 3267 = .ok (.istore 6, 2) := dk_54 6 (dk_at dksL_law_132 10 rfl rfl)
theorem dL_law_3269 : decode cL_law 3269 = .ok (.aload_n 2, 1) := dk_44 (dk_at dksL_law_132 12 rfl rfl)
theorem dL_law_3270 : decode cL_law 3270 = .ok (.aload_n 0, 1) := dk_42 (dk_at dksL_law_132 13 rfl rfl)
theorem dL_law_3271 : decode cL_law 3271 = .ok (.iload 5, 2) := dk_21 5 (dk_at dksL_law_132 14 rfl rfl)
theorem dL_law_3273 : decode cL_law 3273 = .ok (.iconst 1, 1) := dk_4 (dk_at dksL_law_132 16 rfl rfl)
theorem dL_law_3274 : decode cL_law 3274 = .ok (.iadd, 1) := dk_96 (dk_at dksL_law_132 17 rfl rfl)
theorem dL_law_3275 : decode cL_law 3275 = .ok (.iaload, 1) := dk_46 (dk_at dksL_law_132 18 rfl rfl)
theorem dL_law_3276 : decode cL_law 3276 = .ok (.invokevirtual 316, 3) := dk_182 1 60 (dk_at dksL_law_132 19 rfl rfl)
theorem dL_law_3279 : decode cL_law 3279 = .ok (.dstore 7, 2) := dk_57 7 (dk_at dksL_law_132 22 rfl rfl)
theorem dL_law_3281 : decode cL_law 3281 = .ok (.aload_n 2, 1) := dk_44 (dk_at dksL_law_133 0 rfl rfl)
theorem dL_law_3282 : decode cL_law 3282 = .ok (.invokevirtual 175, 3) := dk_182 0 175 (dk_at dksL_law_133 1 rfl rfl)
theorem dL_law_3285 : decode cL_law 3285 = .ok (.iload 6, 2) := dk_21 6 (dk_at dksL_law_133 4 rfl rfl)
theorem dL_law_3287 : decode cL_law 3287 = .ok (.if_icmp .eq 5, 3) := dk_159 0 5 (dk_at dksL_law_133 6 rfl rfl)
theorem dL_law_3290 : decode cL_law 3290 = .ok (.iconst 0, 1) := dk_3 (dk_at dksL_law_133 9 rfl rfl)
theorem dL_law_3291 : decode cL_law 3291 = .ok (.ireturn, 1) := dk_172 (dk_at dksL_law_133 10 rfl rfl)
theorem dL_law_3292 : decode cL_law 3292 = .ok (.iload 6, 2) := dk_21 6 (dk_at dksL_law_133 11 rfl rfl)
theorem dL_law_3294 : decode cL_law 3294 = .ok (.ifCond .ne 35, 3) := dk_154 0 35 (dk_at dksL_law_133 13 rfl rfl)
theorem dL_law_3297 : decode cL_law 3297 = .ok (.aload 4, 2) := dk_25 4 (dk_at dksL_law_133 16 rfl rfl)
theorem dL_law_3299 : decode cL_law 3299 = .ok (.iconst 0, 1) := dk_3 (dk_at dksL_law_133 18 rfl rfl)
theorem dL_law_3300 : decode cL_law 3300 = .ok (.daload, 1) := dk_49 (dk_at dksL_law_133 19 rfl rfl)
theorem dL_law_3301 : decode cL_law 3301 = .ok (.dload 7, 2) := dk_24 7 (dk_at dksL_law_133 20 rfl rfl)
theorem dL_law_3303 : decode cL_law 3303 = .ok (.dcmp .l, 1) := dk_151 (dk_at dksL_law_133 22 rfl rfl)
theorem dL_law_3304 : decode cL_law 3304 = .ok (.ifCond .eq 25, 3) := dk_153 0 25 (dk_at dksL_law_134 0 rfl rfl)
theorem dL_law_3307 : decode cL_law 3307 = .ok (.aload 4, 2) := dk_25 4 (dk_at dksL_law_134 3 rfl rfl)
theorem dL_law_3309 : decode cL_law 3309 = .ok (.iconst 0, 1) := dk_3 (dk_at dksL_law_134 5 rfl rfl)
theorem dL_law_3310 : decode cL_law 3310 = .ok (.daload, 1) := dk_49 (dk_at dksL_law_134 6 rfl rfl)
theorem dL_law_3311 : decode cL_law 3311 = .ok (.aload 4, 2) := dk_25 4 (dk_at dksL_law_134 7 rfl rfl)
theorem dL_law_3313 : decode cL_law 3313 = .ok (.iconst 0, 1) := dk_3 (dk_at dksL_law_134 9 rfl rfl)
theorem dL_law_3314 : decode cL_law 3314 = .ok (.daload, 1) := dk_49 (dk_at dksL_law_134 10 rfl rfl)
theorem dL_law_3315 : decode cL_law 3315 = .ok (.dcmp .l, 1) := dk_151 (dk_at dksL_law_134 11 rfl rfl)
theorem dL_law_3316 : decode cL_law 3316 = .ok (.ifCond .eq 11, 3) := dk_153 0 11 (dk_at dksL_law_134 12 rfl rfl)
theorem dL_law_3319 : decode cL_law 3319 = .ok (.dload 7, 2) := dk_24 7 (dk_at dksL_law_134 15 rfl rfl)
theorem dL_law_3321 : decode cL_law 3321 = .ok (.dload 7, 2) := dk_24 7 (dk_at dksL_law_134 17 rfl rfl)
theorem dL_law_3323 : decode cL_law 3323 = .ok (.dcmp .l, 1) := dk_151 (dk_at dksL_law_134 19 rfl rfl)
theorem dL_law_3324 : decode cL_law 3324 = .ok (.ifCond .ne 5, 3) := dk_154 0 5 (dk_at dksL_law_134 20 rfl rfl)
theorem dL_law_3327 : decode cL_law 3327 = .ok (.iconst 0, 1) := dk_3 (dk_at dksL_law_134 23 rfl rfl)
theorem dL_law_3328 : decode cL_law 3328 = .ok (.ireturn, 1) := dk_172 (dk_at dksL_law_135 0 rfl rfl)
theorem dL_law_3329 : decode cL_law 3329 = .ok (.goto 58, 3) := dk_167 0 58 (dk_at dksL_law_135 1 rfl rfl)
theorem dL_law_3332 : decode cL_law 3332 = .ok (.aload_n 1, 1) := dk_43 (dk_at dksL_law_135 4 rfl rfl)
theorem dL_law_3333 : decode cL_law 3333 = .ok (.aload_n 0, 1) := dk_42 (dk_at dksL_law_135 5 rfl rfl)
theorem dL_law_3334 : decode cL_law 3334 = .ok (.iload 5, 2) := dk_21 5 (dk_at dksL_law_135 6 rfl rfl)
theorem dL_law_3336 : decode cL_law 3336 = .ok (.iconst 1, 1) := dk_4 (dk_at dksL_law_135 8 rfl rfl)
theorem dL_law_3337 : decode cL_law 3337 = .ok (.iadd, 1) := dk_96 (dk_at dksL_law_135 9 rfl rfl)
theorem dL_law_3338 : decode cL_law 3338 = .ok (.iaload, 1) := dk_46 (dk_at dksL_law_135 10 rfl rfl)
theorem dL_law_3339 : decode cL_law 3339 = .ok (.aload_n 3, 1) := dk_45 (dk_at dksL_law_135 11 rfl rfl)
theorem dL_law_3340 : decode cL_law 3340 = .ok (.invokestatic 317, 3) := dk_184 1 61 (dk_at dksL_law_135 12 rfl rfl)
theorem dL_law_3343 : decode cL_law 3343 = .ok (.istore 6, 2) := dk_54 6 (dk_at dksL_law_135 15 rfl rfl)
theorem dL_law_3345 : decode cL_law 3345 = .ok (.aload_n 2, 1) := dk_44 (dk_at dksL_law_135 17 rfl rfl)
theorem dL_law_3346 : decode cL_law 3346 = .ok (.aload_n 0, 1) := dk_42 (dk_at dksL_law_135 18 rfl rfl)
theorem dL_law_3347 : decode cL_law 3347 = .ok (.iload 5, 2) := dk_21 5 (dk_at dksL_law_135 19 rfl rfl)
theorem dL_law_3349 : decode cL_law 3349 = .ok (.iconst 1, 1) := dk_4 (dk_at dksL_law_135 21 rfl rfl)
theorem dL_law_3350 : decode cL_law 3350 = .ok (.iadd, 1) := dk_96 (dk_at dksL_law_135 22 rfl rfl)
theorem dL_law_3351 : decode cL_law 3351 = .ok (.iaload, 1) := dk_46 (dk_at dksL_law_135 23 rfl rfl)
theorem dL_law_3352 : decode cL_law 3352 = .ok (.invokevirtual 319, 3) := dk_182 1 63 (dk_at dksL_law_136 0 rfl rfl)
theorem dL_law_3355 : decode cL_law 3355 = .ok (.lstore 7, 2) := dk_55 7 (dk_at dksL_law_136 3 rfl rfl)
theorem dL_law_3357 : decode cL_law 3357 = .ok (.aload_n 2, 1) := dk_44 (dk_at dksL_law_136 5 rfl rfl)
theorem dL_law_3358 : decode cL_law 3358 = .ok (.invokevirtual 175, 3) := dk_182 0 175 (dk_at dksL_law_136 6 rfl rfl)
theorem dL_law_3361 : decode cL_law 3361 = .ok (.iload 6, 2) := dk_21 6 (dk_at dksL_law_136 9 rfl rfl)
theorem dL_law_3363 : decode cL_law 3363 = .ok (.if_icmp .eq 5, 3) := dk_159 0 5 (dk_at dksL_law_136 11 rfl rfl)
theorem dL_law_3366 : decode cL_law 3366 = .ok (.iconst 0, 1) := dk_3 (dk_at dksL_law_136 14 rfl rfl)
theorem dL_law_3367 : decode cL_law 3367 = .ok (.ireturn, 1) := dk_172 (dk_at dksL_law_136 15 rfl rfl)
theorem dL_law_3368 : decode cL_law 3368 = .ok (.iload 6, 2) := dk_21 6 (dk_at dksL_law_136 16 rfl rfl)
theorem dL_law_3370 : decode cL_law 3370 = .ok (.ifCond .ne 14, 3) := dk_154 0 14 (dk_at dksL_law_136 18 rfl rfl)
theorem dL_law_3373 : decode cL_law 3373 = .ok (.aload_n 3, 1) := dk_45 (dk_at dksL_law_136 21 rfl rfl)
theorem dL_law_3374 : decode cL_law 3374 = .ok (.iconst 0, 1) := dk_3 (dk_at dksL_law_136 22 rfl rfl)
theorem dL_law_3375 : decode cL_law 3375 = .ok (.laload, 1) := dk_47 (dk_at dksL_law_136 23 rfl rfl)
theorem dL_law_3376 : decode cL_law 3376 = .ok (.lload 7, 2) := dk_22 7 (dk_at dksL_law_137 0 rfl rfl)
theorem dL_law_3378 : decode cL_law 3378 = .ok (.lcmp, 1) := dk_148 (dk_at dksL_law_137 2 rfl rfl)
theorem dL_law_3379 : decode cL_law 3379 = .ok (.ifCond .eq 5, 3) := dk_153 0 5 (dk_at dksL_law_137 3 rfl rfl)
theorem dL_law_3382 : decode cL_law 3382 = .ok (.iconst 0, 1) := dk_3 (dk_at dksL_law_137 6 rfl rfl)
theorem dL_law_3383 : decode cL_law 3383 = .ok (.ireturn, 1) := dk_172 (dk_at dksL_law_137 7 rfl rfl)
theorem dL_law_3384 : decode cL_law 3384 = .ok (.goto 3, 3) := dk_167 0 3 (dk_at dksL_law_137 8 rfl rfl)
theorem dL_law_3387 : decode cL_law 3387 = .ok (.iinc 5 7, 3) := dk_132 5 7 (dk_at dksL_law_137 11 rfl rfl)
theorem dL_law_3390 : decode cL_law 3390 = .ok (.goto (-3362), 3) := dk_167 242 222 (dk_at dksL_law_137 14 rfl rfl)
theorem dL_law_3393 : decode cL_law 3393 = .ok (.iconst 1, 1) := dk_4 (dk_at dksL_law_137 17 rfl rfl)
theorem dL_law_3394 : decode cL_law 3394 = .ok (.ireturn, 1) := dk_172 (dk_at dksL_law_137 18 rfl rfl)
theorem q70 : (Jvm.Cond.initialized "PlugboardLaw") ∈ lw_all := lw_g (lw_at lw_m1 0 rfl) rfl
theorem q119 : (Jvm.Cond.classLink "PlugboardLaw" (8 : Nat) "Plugboard") ∈ lw_all := lw_g (lw_at lw_m1 49 rfl) rfl
theorem q120 : (Jvm.Cond.instantiable "Plugboard" (12 : Nat)) ∈ lw_all := lw_g (lw_at lw_m1 50 rfl) rfl
theorem q121 : (Jvm.Cond.methodLink "PlugboardLaw" (165 : Nat) ({ cls := "Plugboard", name := "<init>", desc := "()V" } : Jvm.MethodName)) ∈ lw_all := lw_g (lw_at lw_m1 51 rfl) rfl
theorem q122 : (Jvm.Cond.instanceMethod ({ cls := "Plugboard", name := "<init>", desc := "()V" } : Jvm.MethodName)) ∈ lw_all := lw_g (lw_at lw_m1 52 rfl) rfl
theorem q123 : (Jvm.Cond.code ({ cls := "Plugboard", name := "<init>", desc := "()V" } : Jvm.MethodName) prog_1_method_9_code (2 : Nat) (Option.none : Option Jvm.ClassFile.FieldType)) ∈ lw_all := lw_g (lw_at lw_m1 53 rfl) rfl
theorem q280 : (Jvm.Cond.methodLink "PlugboardLaw" (227 : Nat) ({ cls := "Plugboard", name := "operations", desc := "()I" } : Jvm.MethodName)) ∈ lw_all := lw_g (lw_at lw_m1 210 rfl) rfl
theorem q281 : (Jvm.Cond.instanceMethod ({ cls := "Plugboard", name := "operations", desc := "()I" } : Jvm.MethodName)) ∈ lw_all := lw_g (lw_at lw_m1 211 rfl) rfl
theorem q282 : (Jvm.Cond.selects "Plugboard" ({ cls := "Plugboard", name := "operations", desc := "()I" } : Jvm.MethodName) ({ cls := "Plugboard", name := "operations", desc := "()I" } : Jvm.MethodName)) ∈ lw_all := lw_g (lw_at lw_m1 212 rfl) rfl
theorem q283 : (Jvm.Cond.code ({ cls := "Plugboard", name := "operations", desc := "()I" } : Jvm.MethodName) prog_1_method_43_code (1 : Nat) (Option.some Jvm.ClassFile.FieldType.int)) ∈ lw_all := lw_g (lw_at lw_m1 213 rfl) rfl
theorem q288 : (Jvm.Cond.methodLink "PlugboardLaw" (169 : Nat) ({ cls := "PlugboardLaw", name := "addShape", desc := "(LPlugboard;IIIIIZ[J)I" } : Jvm.MethodName)) ∈ lw_all := lw_g (lw_at lw_m1 218 rfl) rfl
theorem q289 : (Jvm.Cond.static ({ cls := "PlugboardLaw", name := "addShape", desc := "(LPlugboard;IIIIIZ[J)I" } : Jvm.MethodName)) ∈ lw_all := lw_g (lw_at lw_m1 219 rfl) rfl
theorem q290 : (Jvm.Cond.codeWith ({ cls := "PlugboardLaw", name := "addShape", desc := "(LPlugboard;IIIIIZ[J)I" } : Jvm.MethodName) method_3_code (9 : Nat) (Option.some Jvm.ClassFile.FieldType.int) [((0 : Nat), (18 : Nat), (21 : Nat), (13 : Nat)), ((0 : Nat), (18 : Nat), (25 : Nat), (15 : Nat))]) ∈ lw_all := lw_g (lw_at lw_m1 220 rfl) rfl
theorem q1065 : (Jvm.Cond.methodLink "PlugboardLaw" (179 : Nat) ({ cls := "PlugboardLaw", name := "move", desc := "(LPlugboard;IIII[J)I" } : Jvm.MethodName)) ∈ lw_all := lw_g (lw_at lw_m5 35 rfl) rfl
theorem q1066 : (Jvm.Cond.static ({ cls := "PlugboardLaw", name := "move", desc := "(LPlugboard;IIII[J)I" } : Jvm.MethodName)) ∈ lw_all := lw_g (lw_at lw_m5 36 rfl) rfl
theorem q1067 : (Jvm.Cond.codeWith ({ cls := "PlugboardLaw", name := "move", desc := "(LPlugboard;IIII[J)I" } : Jvm.MethodName) method_4_code (7 : Nat) (Option.some Jvm.ClassFile.FieldType.int) [((0 : Nat), (14 : Nat), (17 : Nat), (13 : Nat)), ((0 : Nat), (14 : Nat), (21 : Nat), (21 : Nat)), ((0 : Nat), (14 : Nat), (25 : Nat), (23 : Nat)), ((0 : Nat), (14 : Nat), (29 : Nat), (15 : Nat))]) ∈ lw_all := lw_g (lw_at lw_m5 37 rfl) rfl
theorem q1178 : (Jvm.Cond.methodLink "PlugboardLaw" (183 : Nat) ({ cls := "PlugboardLaw", name := "raise", desc := "(LPlugboard;II[J)I" } : Jvm.MethodName)) ∈ lw_all := lw_g (lw_at lw_m5 148 rfl) rfl
theorem q1179 : (Jvm.Cond.static ({ cls := "PlugboardLaw", name := "raise", desc := "(LPlugboard;II[J)I" } : Jvm.MethodName)) ∈ lw_all := lw_g (lw_at lw_m5 149 rfl) rfl
theorem q1180 : (Jvm.Cond.codeWith ({ cls := "PlugboardLaw", name := "raise", desc := "(LPlugboard;II[J)I" } : Jvm.MethodName) method_5_code (5 : Nat) (Option.some Jvm.ClassFile.FieldType.int) [((0 : Nat), (10 : Nat), (13 : Nat), (13 : Nat)), ((0 : Nat), (10 : Nat), (17 : Nat), (21 : Nat)), ((0 : Nat), (10 : Nat), (21 : Nat), (23 : Nat)), ((0 : Nat), (10 : Nat), (25 : Nat), (15 : Nat))]) ∈ lw_all := lw_g (lw_at lw_m5 150 rfl) rfl
theorem q1204 : (Jvm.Cond.methodLink "PlugboardLaw" (187 : Nat) ({ cls := "PlugboardLaw", name := "lower", desc := "(LPlugboard;II[J)I" } : Jvm.MethodName)) ∈ lw_all := lw_g (lw_at lw_m5 174 rfl) rfl
theorem q1205 : (Jvm.Cond.static ({ cls := "PlugboardLaw", name := "lower", desc := "(LPlugboard;II[J)I" } : Jvm.MethodName)) ∈ lw_all := lw_g (lw_at lw_m5 175 rfl) rfl
theorem q1206 : (Jvm.Cond.codeWith ({ cls := "PlugboardLaw", name := "lower", desc := "(LPlugboard;II[J)I" } : Jvm.MethodName) method_6_code (5 : Nat) (Option.some Jvm.ClassFile.FieldType.int) [((0 : Nat), (10 : Nat), (13 : Nat), (13 : Nat)), ((0 : Nat), (10 : Nat), (17 : Nat), (21 : Nat)), ((0 : Nat), (10 : Nat), (21 : Nat), (23 : Nat)), ((0 : Nat), (10 : Nat), (25 : Nat), (15 : Nat))]) ∈ lw_all := lw_g (lw_at lw_m5 176 rfl) rfl
theorem q1215 : (Jvm.Cond.methodLink "PlugboardLaw" (190 : Nat) ({ cls := "PlugboardLaw", name := "putAbove", desc := "(LPlugboard;III[J)I" } : Jvm.MethodName)) ∈ lw_all := lw_g (lw_at lw_m5 185 rfl) rfl
theorem q1216 : (Jvm.Cond.static ({ cls := "PlugboardLaw", name := "putAbove", desc := "(LPlugboard;III[J)I" } : Jvm.MethodName)) ∈ lw_all := lw_g (lw_at lw_m5 186 rfl) rfl
theorem q1217 : (Jvm.Cond.codeWith ({ cls := "PlugboardLaw", name := "putAbove", desc := "(LPlugboard;III[J)I" } : Jvm.MethodName) method_7_code (6 : Nat) (Option.some Jvm.ClassFile.FieldType.int) [((0 : Nat), (12 : Nat), (15 : Nat), (13 : Nat)), ((0 : Nat), (12 : Nat), (19 : Nat), (21 : Nat)), ((0 : Nat), (12 : Nat), (23 : Nat), (23 : Nat)), ((0 : Nat), (12 : Nat), (27 : Nat), (15 : Nat))]) ∈ lw_all := lw_g (lw_at lw_m5 187 rfl) rfl
theorem q1222 : (Jvm.Cond.methodLink "PlugboardLaw" (194 : Nat) ({ cls := "PlugboardLaw", name := "remove", desc := "(LPlugboard;II[J)I" } : Jvm.MethodName)) ∈ lw_all := lw_g (lw_at lw_m5 192 rfl) rfl
theorem q1223 : (Jvm.Cond.static ({ cls := "PlugboardLaw", name := "remove", desc := "(LPlugboard;II[J)I" } : Jvm.MethodName)) ∈ lw_all := lw_g (lw_at lw_m5 193 rfl) rfl
theorem q1224 : (Jvm.Cond.codeWith ({ cls := "PlugboardLaw", name := "remove", desc := "(LPlugboard;II[J)I" } : Jvm.MethodName) method_8_code (5 : Nat) (Option.some Jvm.ClassFile.FieldType.int) [((0 : Nat), (10 : Nat), (13 : Nat), (13 : Nat)), ((0 : Nat), (10 : Nat), (17 : Nat), (21 : Nat)), ((0 : Nat), (10 : Nat), (21 : Nat), (23 : Nat)), ((0 : Nat), (10 : Nat), (25 : Nat), (15 : Nat))]) ∈ lw_all := lw_g (lw_at lw_m5 194 rfl) rfl
theorem q1229 : (Jvm.Cond.methodLink "PlugboardLaw" (197 : Nat) ({ cls := "PlugboardLaw", name := "lock", desc := "(LPlugboard;II[J)I" } : Jvm.MethodName)) ∈ lw_all := lw_g (lw_at lw_m5 199 rfl) rfl
theorem q1230 : (Jvm.Cond.static ({ cls := "PlugboardLaw", name := "lock", desc := "(LPlugboard;II[J)I" } : Jvm.MethodName)) ∈ lw_all := lw_g (lw_at lw_m5 200 rfl) rfl
theorem q1231 : (Jvm.Cond.codeWith ({ cls := "PlugboardLaw", name := "lock", desc := "(LPlugboard;II[J)I" } : Jvm.MethodName) method_9_code (5 : Nat) (Option.some Jvm.ClassFile.FieldType.int) [((0 : Nat), (10 : Nat), (13 : Nat), (13 : Nat)), ((0 : Nat), (10 : Nat), (17 : Nat), (21 : Nat)), ((0 : Nat), (10 : Nat), (21 : Nat), (23 : Nat)), ((0 : Nat), (10 : Nat), (25 : Nat), (15 : Nat))]) ∈ lw_all := lw_g (lw_at lw_m5 201 rfl) rfl
theorem q1237 : (Jvm.Cond.methodLink "PlugboardLaw" (200 : Nat) ({ cls := "PlugboardLaw", name := "unlock", desc := "(LPlugboard;II[J)I" } : Jvm.MethodName)) ∈ lw_all := lw_g (lw_at lw_m5 207 rfl) rfl
theorem q1238 : (Jvm.Cond.static ({ cls := "PlugboardLaw", name := "unlock", desc := "(LPlugboard;II[J)I" } : Jvm.MethodName)) ∈ lw_all := lw_g (lw_at lw_m5 208 rfl) rfl
theorem q1239 : (Jvm.Cond.codeWith ({ cls := "PlugboardLaw", name := "unlock", desc := "(LPlugboard;II[J)I" } : Jvm.MethodName) method_10_code (5 : Nat) (Option.some Jvm.ClassFile.FieldType.int) [((0 : Nat), (10 : Nat), (13 : Nat), (13 : Nat)), ((0 : Nat), (10 : Nat), (17 : Nat), (21 : Nat)), ((0 : Nat), (10 : Nat), (21 : Nat), (23 : Nat)), ((0 : Nat), (10 : Nat), (25 : Nat), (15 : Nat))]) ∈ lw_all := lw_g (lw_at lw_m5 209 rfl) rfl
theorem q1244 : (Jvm.Cond.methodLink "PlugboardLaw" (203 : Nat) ({ cls := "PlugboardLaw", name := "connect", desc := "(LPlugboard;IICIC[J)I" } : Jvm.MethodName)) ∈ lw_all := lw_g (lw_at lw_m5 214 rfl) rfl
theorem q1245 : (Jvm.Cond.static ({ cls := "PlugboardLaw", name := "connect", desc := "(LPlugboard;IICIC[J)I" } : Jvm.MethodName)) ∈ lw_all := lw_g (lw_at lw_m5 215 rfl) rfl
theorem q1246 : (Jvm.Cond.codeWith ({ cls := "PlugboardLaw", name := "connect", desc := "(LPlugboard;IICIC[J)I" } : Jvm.MethodName) method_11_code (8 : Nat) (Option.some Jvm.ClassFile.FieldType.int) [((0 : Nat), (16 : Nat), (19 : Nat), (13 : Nat)), ((0 : Nat), (16 : Nat), (23 : Nat), (21 : Nat)), ((0 : Nat), (16 : Nat), (27 : Nat), (15 : Nat))]) ∈ lw_all := lw_g (lw_at lw_m5 216 rfl) rfl
theorem q1286 : (Jvm.Cond.methodLink "PlugboardLaw" (207 : Nat) ({ cls := "PlugboardLaw", name := "disconnect", desc := "(LPlugboard;II[J)I" } : Jvm.MethodName)) ∈ lw_all := lw_g (lw_at lw_m6 16 rfl) rfl
theorem q1287 : (Jvm.Cond.static ({ cls := "PlugboardLaw", name := "disconnect", desc := "(LPlugboard;II[J)I" } : Jvm.MethodName)) ∈ lw_all := lw_g (lw_at lw_m6 17 rfl) rfl
theorem q1288 : (Jvm.Cond.codeWith ({ cls := "PlugboardLaw", name := "disconnect", desc := "(LPlugboard;II[J)I" } : Jvm.MethodName) method_12_code (5 : Nat) (Option.some Jvm.ClassFile.FieldType.int) [((0 : Nat), (10 : Nat), (13 : Nat), (13 : Nat)), ((0 : Nat), (10 : Nat), (17 : Nat), (21 : Nat)), ((0 : Nat), (10 : Nat), (21 : Nat), (15 : Nat))]) ∈ lw_all := lw_g (lw_at lw_m6 18 rfl) rfl
theorem q1322 : (Jvm.Cond.methodLink "PlugboardLaw" (210 : Nat) ({ cls := "PlugboardLaw", name := "vote", desc := "(LPlugboard;III[J)I" } : Jvm.MethodName)) ∈ lw_all := lw_g (lw_at lw_m6 52 rfl) rfl
theorem q1323 : (Jvm.Cond.static ({ cls := "PlugboardLaw", name := "vote", desc := "(LPlugboard;III[J)I" } : Jvm.MethodName)) ∈ lw_all := lw_g (lw_at lw_m6 53 rfl) rfl
theorem q1324 : (Jvm.Cond.codeWith ({ cls := "PlugboardLaw", name := "vote", desc := "(LPlugboard;III[J)I" } : Jvm.MethodName) method_13_code (6 : Nat) (Option.some Jvm.ClassFile.FieldType.int) [((0 : Nat), (12 : Nat), (15 : Nat), (13 : Nat)), ((0 : Nat), (12 : Nat), (19 : Nat), (21 : Nat)), ((0 : Nat), (12 : Nat), (23 : Nat), (23 : Nat)), ((0 : Nat), (12 : Nat), (27 : Nat), (15 : Nat))]) ∈ lw_all := lw_g (lw_at lw_m6 54 rfl) rfl
theorem q1338 : (Jvm.Cond.methodLink "PlugboardLaw" (213 : Nat) ({ cls := "PlugboardLaw", name := "show", desc := "(LPlugboard;IZ[J)I" } : Jvm.MethodName)) ∈ lw_all := lw_g (lw_at lw_m6 68 rfl) rfl
theorem q1339 : (Jvm.Cond.static ({ cls := "PlugboardLaw", name := "show", desc := "(LPlugboard;IZ[J)I" } : Jvm.MethodName)) ∈ lw_all := lw_g (lw_at lw_m6 69 rfl) rfl
theorem q1340 : (Jvm.Cond.codeWith ({ cls := "PlugboardLaw", name := "show", desc := "(LPlugboard;IZ[J)I" } : Jvm.MethodName) method_14_code (5 : Nat) (Option.some Jvm.ClassFile.FieldType.int) [((0 : Nat), (17 : Nat), (20 : Nat), (13 : Nat)), ((0 : Nat), (17 : Nat), (24 : Nat), (15 : Nat))]) ∈ lw_all := lw_g (lw_at lw_m6 70 rfl) rfl
theorem q1345 : (Jvm.Cond.methodLink "PlugboardLaw" (217 : Nat) ({ cls := "PlugboardLaw", name := "takeBack", desc := "(LPlugboard;I[J)I" } : Jvm.MethodName)) ∈ lw_all := lw_g (lw_at lw_m6 75 rfl) rfl
theorem q1346 : (Jvm.Cond.static ({ cls := "PlugboardLaw", name := "takeBack", desc := "(LPlugboard;I[J)I" } : Jvm.MethodName)) ∈ lw_all := lw_g (lw_at lw_m6 76 rfl) rfl
theorem q1347 : (Jvm.Cond.codeWith ({ cls := "PlugboardLaw", name := "takeBack", desc := "(LPlugboard;I[J)I" } : Jvm.MethodName) method_15_code (4 : Nat) (Option.some Jvm.ClassFile.FieldType.int) [((0 : Nat), (9 : Nat), (12 : Nat), (13 : Nat)), ((0 : Nat), (9 : Nat), (15 : Nat), (21 : Nat)), ((0 : Nat), (9 : Nat), (18 : Nat), (15 : Nat))]) ∈ lw_all := lw_g (lw_at lw_m6 77 rfl) rfl
theorem q1357 : (Jvm.Cond.methodLink "PlugboardLaw" (221 : Nat) ({ cls := "PlugboardLaw", name := "deliver", desc := "(LPlugboard;II[J)I" } : Jvm.MethodName)) ∈ lw_all := lw_g (lw_at lw_m6 87 rfl) rfl
theorem q1358 : (Jvm.Cond.static ({ cls := "PlugboardLaw", name := "deliver", desc := "(LPlugboard;II[J)I" } : Jvm.MethodName)) ∈ lw_all := lw_g (lw_at lw_m6 88 rfl) rfl
theorem q1359 : (Jvm.Cond.codeWith ({ cls := "PlugboardLaw", name := "deliver", desc := "(LPlugboard;II[J)I" } : Jvm.MethodName) method_16_code (5 : Nat) (Option.some Jvm.ClassFile.FieldType.int) [((0 : Nat), (10 : Nat), (13 : Nat), (13 : Nat)), ((0 : Nat), (10 : Nat), (17 : Nat), (21 : Nat)), ((0 : Nat), (10 : Nat), (21 : Nat), (15 : Nat))]) ∈ lw_all := lw_g (lw_at lw_m6 89 rfl) rfl
theorem q1368 : (Jvm.Cond.methodLink "PlugboardLaw" (224 : Nat) ({ cls := "PlugboardLaw", name := "sync", desc := "(LPlugboard;II[J)I" } : Jvm.MethodName)) ∈ lw_all := lw_g (lw_at lw_m6 98 rfl) rfl
theorem q1369 : (Jvm.Cond.static ({ cls := "PlugboardLaw", name := "sync", desc := "(LPlugboard;II[J)I" } : Jvm.MethodName)) ∈ lw_all := lw_g (lw_at lw_m6 99 rfl) rfl
theorem q1370 : (Jvm.Cond.codeWith ({ cls := "PlugboardLaw", name := "sync", desc := "(LPlugboard;II[J)I" } : Jvm.MethodName) method_17_code (5 : Nat) (Option.some Jvm.ClassFile.FieldType.int) [((0 : Nat), (10 : Nat), (13 : Nat), (13 : Nat))]) ∈ lw_all := lw_g (lw_at lw_m6 100 rfl) rfl
theorem q1375 : (Jvm.Cond.methodLink "PlugboardLaw" (231 : Nat) ({ cls := "PlugboardLaw", name := "userOf", desc := "(LPlugboard;I[J)I" } : Jvm.MethodName)) ∈ lw_all := lw_g (lw_at lw_m6 105 rfl) rfl
theorem q1376 : (Jvm.Cond.static ({ cls := "PlugboardLaw", name := "userOf", desc := "(LPlugboard;I[J)I" } : Jvm.MethodName)) ∈ lw_all := lw_g (lw_at lw_m6 106 rfl) rfl
theorem q1377 : (Jvm.Cond.codeWith ({ cls := "PlugboardLaw", name := "userOf", desc := "(LPlugboard;I[J)I" } : Jvm.MethodName) method_18_code (4 : Nat) (Option.some Jvm.ClassFile.FieldType.int) [((0 : Nat), (9 : Nat), (12 : Nat), (21 : Nat))]) ∈ lw_all := lw_g (lw_at lw_m6 107 rfl) rfl
theorem q1382 : (Jvm.Cond.methodLink "PlugboardLaw" (234 : Nat) ({ cls := "PlugboardLaw", name := "clockOf", desc := "(LPlugboard;I[J)I" } : Jvm.MethodName)) ∈ lw_all := lw_g (lw_at lw_m6 112 rfl) rfl
theorem q1383 : (Jvm.Cond.static ({ cls := "PlugboardLaw", name := "clockOf", desc := "(LPlugboard;I[J)I" } : Jvm.MethodName)) ∈ lw_all := lw_g (lw_at lw_m6 113 rfl) rfl
theorem q1384 : (Jvm.Cond.codeWith ({ cls := "PlugboardLaw", name := "clockOf", desc := "(LPlugboard;I[J)I" } : Jvm.MethodName) method_19_code (4 : Nat) (Option.some Jvm.ClassFile.FieldType.int) [((0 : Nat), (9 : Nat), (12 : Nat), (21 : Nat))]) ∈ lw_all := lw_g (lw_at lw_m6 114 rfl) rfl
theorem q1389 : (Jvm.Cond.methodLink "PlugboardLaw" (237 : Nat) ({ cls := "PlugboardLaw", name := "knows", desc := "(LPlugboard;II[J)I" } : Jvm.MethodName)) ∈ lw_all := lw_g (lw_at lw_m6 119 rfl) rfl
theorem q1390 : (Jvm.Cond.static ({ cls := "PlugboardLaw", name := "knows", desc := "(LPlugboard;II[J)I" } : Jvm.MethodName)) ∈ lw_all := lw_g (lw_at lw_m6 120 rfl) rfl
theorem q1391 : (Jvm.Cond.codeWith ({ cls := "PlugboardLaw", name := "knows", desc := "(LPlugboard;II[J)I" } : Jvm.MethodName) method_20_code (5 : Nat) (Option.some Jvm.ClassFile.FieldType.int) [((0 : Nat), (17 : Nat), (20 : Nat), (13 : Nat)), ((0 : Nat), (17 : Nat), (24 : Nat), (21 : Nat))]) ∈ lw_all := lw_g (lw_at lw_m6 121 rfl) rfl
theorem q1396 : (Jvm.Cond.methodLink "PlugboardLaw" (240 : Nat) ({ cls := "PlugboardLaw", name := "shapes", desc := "(LPlugboard;I[J)I" } : Jvm.MethodName)) ∈ lw_all := lw_g (lw_at lw_m6 126 rfl) rfl
theorem q1397 : (Jvm.Cond.static ({ cls := "PlugboardLaw", name := "shapes", desc := "(LPlugboard;I[J)I" } : Jvm.MethodName)) ∈ lw_all := lw_g (lw_at lw_m6 127 rfl) rfl
theorem q1398 : (Jvm.Cond.codeWith ({ cls := "PlugboardLaw", name := "shapes", desc := "(LPlugboard;I[J)I" } : Jvm.MethodName) method_21_code (4 : Nat) (Option.some Jvm.ClassFile.FieldType.int) [((0 : Nat), (9 : Nat), (12 : Nat), (13 : Nat))]) ∈ lw_all := lw_g (lw_at lw_m6 128 rfl) rfl
theorem q1403 : (Jvm.Cond.methodLink "PlugboardLaw" (243 : Nat) ({ cls := "PlugboardLaw", name := "sees", desc := "(LPlugboard;II[J)I" } : Jvm.MethodName)) ∈ lw_all := lw_g (lw_at lw_m6 133 rfl) rfl
theorem q1404 : (Jvm.Cond.static ({ cls := "PlugboardLaw", name := "sees", desc := "(LPlugboard;II[J)I" } : Jvm.MethodName)) ∈ lw_all := lw_g (lw_at lw_m6 134 rfl) rfl
theorem q1405 : (Jvm.Cond.codeWith ({ cls := "PlugboardLaw", name := "sees", desc := "(LPlugboard;II[J)I" } : Jvm.MethodName) method_22_code (5 : Nat) (Option.some Jvm.ClassFile.FieldType.int) [((0 : Nat), (17 : Nat), (20 : Nat), (13 : Nat))]) ∈ lw_all := lw_g (lw_at lw_m6 135 rfl) rfl
theorem q1410 : (Jvm.Cond.methodLink "PlugboardLaw" (246 : Nat) ({ cls := "PlugboardLaw", name := "columnOf", desc := "(LPlugboard;II[J)I" } : Jvm.MethodName)) ∈ lw_all := lw_g (lw_at lw_m6 140 rfl) rfl
theorem q1411 : (Jvm.Cond.static ({ cls := "PlugboardLaw", name := "columnOf", desc := "(LPlugboard;II[J)I" } : Jvm.MethodName)) ∈ lw_all := lw_g (lw_at lw_m6 141 rfl) rfl
theorem q1412 : (Jvm.Cond.codeWith ({ cls := "PlugboardLaw", name := "columnOf", desc := "(LPlugboard;II[J)I" } : Jvm.MethodName) method_23_code (5 : Nat) (Option.some Jvm.ClassFile.FieldType.int) [((0 : Nat), (10 : Nat), (13 : Nat), (13 : Nat)), ((0 : Nat), (10 : Nat), (17 : Nat), (21 : Nat))]) ∈ lw_all := lw_g (lw_at lw_m6 142 rfl) rfl
theorem q1417 : (Jvm.Cond.methodLink "PlugboardLaw" (249 : Nat) ({ cls := "PlugboardLaw", name := "rowOf", desc := "(LPlugboard;II[J)I" } : Jvm.MethodName)) ∈ lw_all := lw_g (lw_at lw_m6 147 rfl) rfl
theorem q1418 : (Jvm.Cond.static ({ cls := "PlugboardLaw", name := "rowOf", desc := "(LPlugboard;II[J)I" } : Jvm.MethodName)) ∈ lw_all := lw_g (lw_at lw_m6 148 rfl) rfl
theorem q1419 : (Jvm.Cond.codeWith ({ cls := "PlugboardLaw", name := "rowOf", desc := "(LPlugboard;II[J)I" } : Jvm.MethodName) method_24_code (5 : Nat) (Option.some Jvm.ClassFile.FieldType.int) [((0 : Nat), (10 : Nat), (13 : Nat), (13 : Nat)), ((0 : Nat), (10 : Nat), (17 : Nat), (21 : Nat))]) ∈ lw_all := lw_g (lw_at lw_m6 149 rfl) rfl
theorem q1424 : (Jvm.Cond.methodLink "PlugboardLaw" (252 : Nat) ({ cls := "PlugboardLaw", name := "rankOf", desc := "(LPlugboard;II[J)I" } : Jvm.MethodName)) ∈ lw_all := lw_g (lw_at lw_m6 154 rfl) rfl
theorem q1425 : (Jvm.Cond.static ({ cls := "PlugboardLaw", name := "rankOf", desc := "(LPlugboard;II[J)I" } : Jvm.MethodName)) ∈ lw_all := lw_g (lw_at lw_m6 155 rfl) rfl
theorem q1426 : (Jvm.Cond.codeWith ({ cls := "PlugboardLaw", name := "rankOf", desc := "(LPlugboard;II[J)I" } : Jvm.MethodName) method_25_code (5 : Nat) (Option.some Jvm.ClassFile.FieldType.int) [((0 : Nat), (10 : Nat), (13 : Nat), (13 : Nat)), ((0 : Nat), (10 : Nat), (17 : Nat), (21 : Nat))]) ∈ lw_all := lw_g (lw_at lw_m6 156 rfl) rfl
theorem q1431 : (Jvm.Cond.methodLink "PlugboardLaw" (255 : Nat) ({ cls := "PlugboardLaw", name := "shapeAt", desc := "(LPlugboard;II[J)I" } : Jvm.MethodName)) ∈ lw_all := lw_g (lw_at lw_m6 161 rfl) rfl
theorem q1432 : (Jvm.Cond.static ({ cls := "PlugboardLaw", name := "shapeAt", desc := "(LPlugboard;II[J)I" } : Jvm.MethodName)) ∈ lw_all := lw_g (lw_at lw_m6 162 rfl) rfl
theorem q1433 : (Jvm.Cond.codeWith ({ cls := "PlugboardLaw", name := "shapeAt", desc := "(LPlugboard;II[J)I" } : Jvm.MethodName) method_26_code (5 : Nat) (Option.some Jvm.ClassFile.FieldType.int) [((0 : Nat), (10 : Nat), (13 : Nat), (13 : Nat)), ((0 : Nat), (10 : Nat), (17 : Nat), (97 : Nat))]) ∈ lw_all := lw_g (lw_at lw_m6 163 rfl) rfl
theorem q1462 : (Jvm.Cond.methodLink "PlugboardLaw" (258 : Nat) ({ cls := "PlugboardLaw", name := "keyOf", desc := "(LPlugboard;II[D)I" } : Jvm.MethodName)) ∈ lw_all := lw_g (lw_at lw_m6 192 rfl) rfl
theorem q1463 : (Jvm.Cond.static ({ cls := "PlugboardLaw", name := "keyOf", desc := "(LPlugboard;II[D)I" } : Jvm.MethodName)) ∈ lw_all := lw_g (lw_at lw_m6 193 rfl) rfl
theorem q1464 : (Jvm.Cond.codeWith ({ cls := "PlugboardLaw", name := "keyOf", desc := "(LPlugboard;II[D)I" } : Jvm.MethodName) method_27_code (5 : Nat) (Option.some Jvm.ClassFile.FieldType.int) [((0 : Nat), (10 : Nat), (13 : Nat), (13 : Nat)), ((0 : Nat), (10 : Nat), (17 : Nat), (21 : Nat))]) ∈ lw_all := lw_g (lw_at lw_m6 194 rfl) rfl
theorem q1469 : (Jvm.Cond.methodLink "PlugboardLaw" (262 : Nat) ({ cls := "PlugboardLaw", name := "keyBits", desc := "(LPlugboard;II[J)I" } : Jvm.MethodName)) ∈ lw_all := lw_g (lw_at lw_m6 199 rfl) rfl
theorem q1470 : (Jvm.Cond.static ({ cls := "PlugboardLaw", name := "keyBits", desc := "(LPlugboard;II[J)I" } : Jvm.MethodName)) ∈ lw_all := lw_g (lw_at lw_m6 200 rfl) rfl
theorem q1471 : (Jvm.Cond.codeWith ({ cls := "PlugboardLaw", name := "keyBits", desc := "(LPlugboard;II[J)I" } : Jvm.MethodName) method_28_code (5 : Nat) (Option.some Jvm.ClassFile.FieldType.int) [((0 : Nat), (10 : Nat), (13 : Nat), (13 : Nat)), ((0 : Nat), (10 : Nat), (17 : Nat), (21 : Nat))]) ∈ lw_all := lw_g (lw_at lw_m6 201 rfl) rfl
theorem q1476 : (Jvm.Cond.methodLink "PlugboardLaw" (265 : Nat) ({ cls := "PlugboardLaw", name := "keyCut", desc := "(LPlugboard;II[J)I" } : Jvm.MethodName)) ∈ lw_all := lw_g (lw_at lw_m6 206 rfl) rfl
theorem q1477 : (Jvm.Cond.static ({ cls := "PlugboardLaw", name := "keyCut", desc := "(LPlugboard;II[J)I" } : Jvm.MethodName)) ∈ lw_all := lw_g (lw_at lw_m6 207 rfl) rfl
theorem q1478 : (Jvm.Cond.codeWith ({ cls := "PlugboardLaw", name := "keyCut", desc := "(LPlugboard;II[J)I" } : Jvm.MethodName) method_29_code (5 : Nat) (Option.some Jvm.ClassFile.FieldType.int) [((0 : Nat), (10 : Nat), (13 : Nat), (13 : Nat)), ((0 : Nat), (10 : Nat), (17 : Nat), (21 : Nat))]) ∈ lw_all := lw_g (lw_at lw_m6 208 rfl) rfl
theorem q1484 : (Jvm.Cond.methodLink "PlugboardLaw" (268 : Nat) ({ cls := "PlugboardLaw", name := "topAt", desc := "(LPlugboard;III[J)I" } : Jvm.MethodName)) ∈ lw_all := lw_g (lw_at lw_m6 214 rfl) rfl
theorem q1485 : (Jvm.Cond.static ({ cls := "PlugboardLaw", name := "topAt", desc := "(LPlugboard;III[J)I" } : Jvm.MethodName)) ∈ lw_all := lw_g (lw_at lw_m6 215 rfl) rfl
theorem q1486 : (Jvm.Cond.codeWith ({ cls := "PlugboardLaw", name := "topAt", desc := "(LPlugboard;III[J)I" } : Jvm.MethodName) method_30_code (6 : Nat) (Option.some Jvm.ClassFile.FieldType.int) [((0 : Nat), (12 : Nat), (15 : Nat), (13 : Nat)), ((0 : Nat), (12 : Nat), (19 : Nat), (21 : Nat))]) ∈ lw_all := lw_g (lw_at lw_m6 216 rfl) rfl
theorem q1498 : (Jvm.Cond.methodLink "PlugboardLaw" (271 : Nat) ({ cls := "PlugboardLaw", name := "lockedBy", desc := "(LPlugboard;II[J)I" } : Jvm.MethodName)) ∈ lw_all := lw_g (lw_at lw_m6 228 rfl) rfl
theorem q1499 : (Jvm.Cond.static ({ cls := "PlugboardLaw", name := "lockedBy", desc := "(LPlugboard;II[J)I" } : Jvm.MethodName)) ∈ lw_all := lw_g (lw_at lw_m6 229 rfl) rfl
theorem q1500 : (Jvm.Cond.codeWith ({ cls := "PlugboardLaw", name := "lockedBy", desc := "(LPlugboard;II[J)I" } : Jvm.MethodName) method_31_code (5 : Nat) (Option.some Jvm.ClassFile.FieldType.int) [((0 : Nat), (10 : Nat), (13 : Nat), (13 : Nat)), ((0 : Nat), (10 : Nat), (17 : Nat), (21 : Nat))]) ∈ lw_all := lw_g (lw_at lw_m6 230 rfl) rfl
theorem q1505 : (Jvm.Cond.methodLink "PlugboardLaw" (274 : Nat) ({ cls := "PlugboardLaw", name := "inside", desc := "(LPlugboard;II[J)I" } : Jvm.MethodName)) ∈ lw_all := lw_g (lw_at lw_m6 235 rfl) rfl
theorem q1506 : (Jvm.Cond.static ({ cls := "PlugboardLaw", name := "inside", desc := "(LPlugboard;II[J)I" } : Jvm.MethodName)) ∈ lw_all := lw_g (lw_at lw_m6 236 rfl) rfl
theorem q1507 : (Jvm.Cond.codeWith ({ cls := "PlugboardLaw", name := "inside", desc := "(LPlugboard;II[J)I" } : Jvm.MethodName) method_32_code (5 : Nat) (Option.some Jvm.ClassFile.FieldType.int) [((0 : Nat), (10 : Nat), (13 : Nat), (13 : Nat)), ((0 : Nat), (10 : Nat), (17 : Nat), (21 : Nat))]) ∈ lw_all := lw_g (lw_at lw_m6 237 rfl) rfl
theorem q1513 : (Jvm.Cond.methodLink "PlugboardLaw" (277 : Nat) ({ cls := "PlugboardLaw", name := "connectors", desc := "(LPlugboard;I[J)I" } : Jvm.MethodName)) ∈ lw_all := lw_g (lw_at lw_m7 3 rfl) rfl
theorem q1514 : (Jvm.Cond.static ({ cls := "PlugboardLaw", name := "connectors", desc := "(LPlugboard;I[J)I" } : Jvm.MethodName)) ∈ lw_all := lw_g (lw_at lw_m7 4 rfl) rfl
theorem q1515 : (Jvm.Cond.codeWith ({ cls := "PlugboardLaw", name := "connectors", desc := "(LPlugboard;I[J)I" } : Jvm.MethodName) method_33_code (4 : Nat) (Option.some Jvm.ClassFile.FieldType.int) [((0 : Nat), (9 : Nat), (12 : Nat), (13 : Nat))]) ∈ lw_all := lw_g (lw_at lw_m7 5 rfl) rfl
theorem q1520 : (Jvm.Cond.methodLink "PlugboardLaw" (280 : Nat) ({ cls := "PlugboardLaw", name := "bends", desc := "(LPlugboard;II[J)I" } : Jvm.MethodName)) ∈ lw_all := lw_g (lw_at lw_m7 10 rfl) rfl
theorem q1521 : (Jvm.Cond.static ({ cls := "PlugboardLaw", name := "bends", desc := "(LPlugboard;II[J)I" } : Jvm.MethodName)) ∈ lw_all := lw_g (lw_at lw_m7 11 rfl) rfl
theorem q1522 : (Jvm.Cond.codeWith ({ cls := "PlugboardLaw", name := "bends", desc := "(LPlugboard;II[J)I" } : Jvm.MethodName) method_34_code (5 : Nat) (Option.some Jvm.ClassFile.FieldType.int) [((0 : Nat), (10 : Nat), (13 : Nat), (13 : Nat)), ((0 : Nat), (10 : Nat), (17 : Nat), (21 : Nat)), ((0 : Nat), (10 : Nat), (21 : Nat), (23 : Nat))]) ∈ lw_all := lw_g (lw_at lw_m7 12 rfl) rfl
theorem q1570 : (Jvm.Cond.methodLink "PlugboardLaw" (283 : Nat) ({ cls := "PlugboardLaw", name := "bendsByRounds", desc := "(LPlugboard;II[J)I" } : Jvm.MethodName)) ∈ lw_all := lw_g (lw_at lw_m7 60 rfl) rfl
theorem q1571 : (Jvm.Cond.static ({ cls := "PlugboardLaw", name := "bendsByRounds", desc := "(LPlugboard;II[J)I" } : Jvm.MethodName)) ∈ lw_all := lw_g (lw_at lw_m7 61 rfl) rfl
theorem q1572 : (Jvm.Cond.codeWith ({ cls := "PlugboardLaw", name := "bendsByRounds", desc := "(LPlugboard;II[J)I" } : Jvm.MethodName) method_35_code (5 : Nat) (Option.some Jvm.ClassFile.FieldType.int) [((0 : Nat), (10 : Nat), (13 : Nat), (13 : Nat)), ((0 : Nat), (10 : Nat), (17 : Nat), (21 : Nat)), ((0 : Nat), (10 : Nat), (21 : Nat), (23 : Nat))]) ∈ lw_all := lw_g (lw_at lw_m7 62 rfl) rfl
theorem q1581 : (Jvm.Cond.methodLink "PlugboardLaw" (286 : Nat) ({ cls := "PlugboardLaw", name := "routeLength", desc := "(LPlugboard;II[J)I" } : Jvm.MethodName)) ∈ lw_all := lw_g (lw_at lw_m7 71 rfl) rfl
theorem q1582 : (Jvm.Cond.static ({ cls := "PlugboardLaw", name := "routeLength", desc := "(LPlugboard;II[J)I" } : Jvm.MethodName)) ∈ lw_all := lw_g (lw_at lw_m7 72 rfl) rfl
theorem q1583 : (Jvm.Cond.codeWith ({ cls := "PlugboardLaw", name := "routeLength", desc := "(LPlugboard;II[J)I" } : Jvm.MethodName) method_36_code (5 : Nat) (Option.some Jvm.ClassFile.FieldType.int) [((0 : Nat), (10 : Nat), (13 : Nat), (13 : Nat)), ((0 : Nat), (10 : Nat), (17 : Nat), (21 : Nat)), ((0 : Nat), (10 : Nat), (21 : Nat), (23 : Nat))]) ∈ lw_all := lw_g (lw_at lw_m7 73 rfl) rfl
theorem q1588 : (Jvm.Cond.methodLink "PlugboardLaw" (289 : Nat) ({ cls := "PlugboardLaw", name := "ownVotes", desc := "(LPlugboard;II[J)I" } : Jvm.MethodName)) ∈ lw_all := lw_g (lw_at lw_m7 78 rfl) rfl
theorem q1589 : (Jvm.Cond.static ({ cls := "PlugboardLaw", name := "ownVotes", desc := "(LPlugboard;II[J)I" } : Jvm.MethodName)) ∈ lw_all := lw_g (lw_at lw_m7 79 rfl) rfl
theorem q1590 : (Jvm.Cond.codeWith ({ cls := "PlugboardLaw", name := "ownVotes", desc := "(LPlugboard;II[J)I" } : Jvm.MethodName) method_37_code (5 : Nat) (Option.some Jvm.ClassFile.FieldType.int) [((0 : Nat), (10 : Nat), (13 : Nat), (13 : Nat)), ((0 : Nat), (10 : Nat), (17 : Nat), (21 : Nat))]) ∈ lw_all := lw_g (lw_at lw_m7 80 rfl) rfl
theorem q1595 : (Jvm.Cond.methodLink "PlugboardLaw" (292 : Nat) ({ cls := "PlugboardLaw", name := "votesFor", desc := "(LPlugboard;II[J)I" } : Jvm.MethodName)) ∈ lw_all := lw_g (lw_at lw_m7 85 rfl) rfl
theorem q1596 : (Jvm.Cond.static ({ cls := "PlugboardLaw", name := "votesFor", desc := "(LPlugboard;II[J)I" } : Jvm.MethodName)) ∈ lw_all := lw_g (lw_at lw_m7 86 rfl) rfl
theorem q1597 : (Jvm.Cond.codeWith ({ cls := "PlugboardLaw", name := "votesFor", desc := "(LPlugboard;II[J)I" } : Jvm.MethodName) method_38_code (5 : Nat) (Option.some Jvm.ClassFile.FieldType.int) [((0 : Nat), (10 : Nat), (13 : Nat), (13 : Nat)), ((0 : Nat), (10 : Nat), (17 : Nat), (21 : Nat)), ((0 : Nat), (10 : Nat), (21 : Nat), (23 : Nat))]) ∈ lw_all := lw_g (lw_at lw_m7 87 rfl) rfl
theorem q1605 : (Jvm.Cond.methodLink "PlugboardLaw" (295 : Nat) ({ cls := "PlugboardLaw", name := "winner", desc := "(LPlugboard;I[J)I" } : Jvm.MethodName)) ∈ lw_all := lw_g (lw_at lw_m7 95 rfl) rfl
theorem q1606 : (Jvm.Cond.static ({ cls := "PlugboardLaw", name := "winner", desc := "(LPlugboard;I[J)I" } : Jvm.MethodName)) ∈ lw_all := lw_g (lw_at lw_m7 96 rfl) rfl
theorem q1607 : (Jvm.Cond.codeWith ({ cls := "PlugboardLaw", name := "winner", desc := "(LPlugboard;I[J)I" } : Jvm.MethodName) method_39_code (4 : Nat) (Option.some Jvm.ClassFile.FieldType.int) [((0 : Nat), (9 : Nat), (12 : Nat), (13 : Nat)), ((0 : Nat), (9 : Nat), (15 : Nat), (23 : Nat)), ((0 : Nat), (9 : Nat), (18 : Nat), (21 : Nat))]) ∈ lw_all := lw_g (lw_at lw_m7 97 rfl) rfl
theorem q1613 : (Jvm.Cond.methodLink "PlugboardLaw" (298 : Nat) ({ cls := "PlugboardLaw", name := "outcome", desc := "(LPlugboard;I[J)I" } : Jvm.MethodName)) ∈ lw_all := lw_g (lw_at lw_m7 103 rfl) rfl
theorem q1614 : (Jvm.Cond.static ({ cls := "PlugboardLaw", name := "outcome", desc := "(LPlugboard;I[J)I" } : Jvm.MethodName)) ∈ lw_all := lw_g (lw_at lw_m7 104 rfl) rfl
theorem q1615 : (Jvm.Cond.codeWith ({ cls := "PlugboardLaw", name := "outcome", desc := "(LPlugboard;I[J)I" } : Jvm.MethodName) method_40_code (4 : Nat) (Option.some Jvm.ClassFile.FieldType.int) [((0 : Nat), (9 : Nat), (12 : Nat), (13 : Nat))]) ∈ lw_all := lw_g (lw_at lw_m7 105 rfl) rfl
theorem q1650 : (Jvm.Cond.methodLink "PlugboardLaw" (301 : Nat) ({ cls := "PlugboardLaw", name := "outcomeAnew", desc := "(LPlugboard;I[J)I" } : Jvm.MethodName)) ∈ lw_all := lw_g (lw_at lw_m7 140 rfl) rfl
theorem q1651 : (Jvm.Cond.static ({ cls := "PlugboardLaw", name := "outcomeAnew", desc := "(LPlugboard;I[J)I" } : Jvm.MethodName)) ∈ lw_all := lw_g (lw_at lw_m7 141 rfl) rfl
theorem q1652 : (Jvm.Cond.codeWith ({ cls := "PlugboardLaw", name := "outcomeAnew", desc := "(LPlugboard;I[J)I" } : Jvm.MethodName) method_41_code (4 : Nat) (Option.some Jvm.ClassFile.FieldType.int) [((0 : Nat), (9 : Nat), (12 : Nat), (13 : Nat))]) ∈ lw_all := lw_g (lw_at lw_m7 142 rfl) rfl
theorem q1663 : (Jvm.Cond.methodLink "PlugboardLaw" (304 : Nat) ({ cls := "PlugboardLaw", name := "outcomes", desc := "(LPlugboard;II[J)I" } : Jvm.MethodName)) ∈ lw_all := lw_g (lw_at lw_m7 153 rfl) rfl
theorem q1664 : (Jvm.Cond.static ({ cls := "PlugboardLaw", name := "outcomes", desc := "(LPlugboard;II[J)I" } : Jvm.MethodName)) ∈ lw_all := lw_g (lw_at lw_m7 154 rfl) rfl
theorem q1665 : (Jvm.Cond.codeWith ({ cls := "PlugboardLaw", name := "outcomes", desc := "(LPlugboard;II[J)I" } : Jvm.MethodName) method_42_code (5 : Nat) (Option.some Jvm.ClassFile.FieldType.int) [((0 : Nat), (10 : Nat), (13 : Nat), (13 : Nat))]) ∈ lw_all := lw_g (lw_at lw_m7 155 rfl) rfl
theorem q1799 : (Jvm.Cond.methodLink "PlugboardLaw" (307 : Nat) ({ cls := "PlugboardLaw", name := "areAlike", desc := "(LPlugboard;II[J)I" } : Jvm.MethodName)) ∈ lw_all := lw_g (lw_at lw_m8 49 rfl) rfl
theorem q1800 : (Jvm.Cond.static ({ cls := "PlugboardLaw", name := "areAlike", desc := "(LPlugboard;II[J)I" } : Jvm.MethodName)) ∈ lw_all := lw_g (lw_at lw_m8 50 rfl) rfl
theorem q1801 : (Jvm.Cond.codeWith ({ cls := "PlugboardLaw", name := "areAlike", desc := "(LPlugboard;II[J)I" } : Jvm.MethodName) method_43_code (5 : Nat) (Option.some Jvm.ClassFile.FieldType.int) [((0 : Nat), (17 : Nat), (20 : Nat), (13 : Nat))]) ∈ lw_all := lw_g (lw_at lw_m8 51 rfl) rfl
theorem q1806 : (Jvm.Cond.methodLink "PlugboardLaw" (310 : Nat) ({ cls := "PlugboardLaw", name := "frameShare", desc := "(LPlugboard;I[D)I" } : Jvm.MethodName)) ∈ lw_all := lw_g (lw_at lw_m8 56 rfl) rfl
theorem q1807 : (Jvm.Cond.static ({ cls := "PlugboardLaw", name := "frameShare", desc := "(LPlugboard;I[D)I" } : Jvm.MethodName)) ∈ lw_all := lw_g (lw_at lw_m8 57 rfl) rfl
theorem q1808 : (Jvm.Cond.codeWith ({ cls := "PlugboardLaw", name := "frameShare", desc := "(LPlugboard;I[D)I" } : Jvm.MethodName) method_44_code (4 : Nat) (Option.some Jvm.ClassFile.FieldType.int) [((0 : Nat), (9 : Nat), (12 : Nat), (13 : Nat)), ((0 : Nat), (9 : Nat), (15 : Nat), (155 : Nat))]) ∈ lw_all := lw_g (lw_at lw_m8 58 rfl) rfl
theorem q1850 : (Jvm.Cond.methodLink "PlugboardLaw" (314 : Nat) ({ cls := "PlugboardLaw", name := "meanRoute", desc := "(LPlugboard;I[D)I" } : Jvm.MethodName)) ∈ lw_all := lw_g (lw_at lw_m8 100 rfl) rfl
theorem q1851 : (Jvm.Cond.static ({ cls := "PlugboardLaw", name := "meanRoute", desc := "(LPlugboard;I[D)I" } : Jvm.MethodName)) ∈ lw_all := lw_g (lw_at lw_m8 101 rfl) rfl
theorem q1852 : (Jvm.Cond.codeWith ({ cls := "PlugboardLaw", name := "meanRoute", desc := "(LPlugboard;I[D)I" } : Jvm.MethodName) method_45_code (4 : Nat) (Option.some Jvm.ClassFile.FieldType.int) [((0 : Nat), (8 : Nat), (11 : Nat), (13 : Nat)), ((0 : Nat), (8 : Nat), (14 : Nat), (155 : Nat))]) ∈ lw_all := lw_g (lw_at lw_m8 102 rfl) rfl
theorem q1857 : (Jvm.Cond.methodLink "PlugboardLaw" (317 : Nat) ({ cls := "PlugboardLaw", name := "area", desc := "(LPlugboard;I[J)I" } : Jvm.MethodName)) ∈ lw_all := lw_g (lw_at lw_m8 107 rfl) rfl
theorem q1858 : (Jvm.Cond.static ({ cls := "PlugboardLaw", name := "area", desc := "(LPlugboard;I[J)I" } : Jvm.MethodName)) ∈ lw_all := lw_g (lw_at lw_m8 108 rfl) rfl
theorem q1859 : (Jvm.Cond.codeWith ({ cls := "PlugboardLaw", name := "area", desc := "(LPlugboard;I[J)I" } : Jvm.MethodName) method_46_code (4 : Nat) (Option.some Jvm.ClassFile.FieldType.int) [((0 : Nat), (8 : Nat), (11 : Nat), (13 : Nat))]) ∈ lw_all := lw_g (lw_at lw_m8 109 rfl) rfl
theorem q1864 : (Jvm.Cond.classLink "PlugboardLaw" (166 : Nat) "PlugboardModel") ∈ lw_all := lw_g (lw_at lw_m8 114 rfl) rfl
theorem q1865 : (Jvm.Cond.instantiable "PlugboardModel" (32 : Nat)) ∈ lw_all := lw_g (lw_at lw_m8 115 rfl) rfl
theorem q1866 : (Jvm.Cond.methodLink "PlugboardLaw" (168 : Nat) ({ cls := "PlugboardModel", name := "<init>", desc := "()V" } : Jvm.MethodName)) ∈ lw_all := lw_g (lw_at lw_m8 116 rfl) rfl
theorem q1867 : (Jvm.Cond.instanceMethod ({ cls := "PlugboardModel", name := "<init>", desc := "()V" } : Jvm.MethodName)) ∈ lw_all := lw_g (lw_at lw_m8 117 rfl) rfl
theorem q1868 : (Jvm.Cond.code ({ cls := "PlugboardModel", name := "<init>", desc := "()V" } : Jvm.MethodName) prog_19_method_1_code (1 : Nat) (Option.none : Option Jvm.ClassFile.FieldType)) ∈ lw_all := lw_g (lw_at lw_m8 118 rfl) rfl
theorem q1970 : (Jvm.Cond.methodLink "PlugboardLaw" (175 : Nat) ({ cls := "PlugboardModel", name := "thrown", desc := "()I" } : Jvm.MethodName)) ∈ lw_all := lw_g (lw_at lw_m8 220 rfl) rfl
theorem q1971 : (Jvm.Cond.instanceMethod ({ cls := "PlugboardModel", name := "thrown", desc := "()I" } : Jvm.MethodName)) ∈ lw_all := lw_g (lw_at lw_m8 221 rfl) rfl
theorem q1972 : (Jvm.Cond.selects "PlugboardModel" ({ cls := "PlugboardModel", name := "thrown", desc := "()I" } : Jvm.MethodName) ({ cls := "PlugboardModel", name := "thrown", desc := "()I" } : Jvm.MethodName)) ∈ lw_all := lw_g (lw_at lw_m8 222 rfl) rfl
theorem q1973 : (Jvm.Cond.code ({ cls := "PlugboardModel", name := "thrown", desc := "()I" } : Jvm.MethodName) prog_19_method_2_code (1 : Nat) (Option.some Jvm.ClassFile.FieldType.int)) ∈ lw_all := lw_g (lw_at lw_m8 223 rfl) rfl
theorem q1974 : (Jvm.Cond.methodLink "PlugboardLaw" (174 : Nat) ({ cls := "PlugboardModel", name := "addShape", desc := "(IIIIIZ)I" } : Jvm.MethodName)) ∈ lw_all := lw_g (lw_at lw_m8 224 rfl) rfl
theorem q1975 : (Jvm.Cond.instanceMethod ({ cls := "PlugboardModel", name := "addShape", desc := "(IIIIIZ)I" } : Jvm.MethodName)) ∈ lw_all := lw_g (lw_at lw_m8 225 rfl) rfl
theorem q1976 : (Jvm.Cond.selects "PlugboardModel" ({ cls := "PlugboardModel", name := "addShape", desc := "(IIIIIZ)I" } : Jvm.MethodName) ({ cls := "PlugboardModel", name := "addShape", desc := "(IIIIIZ)I" } : Jvm.MethodName)) ∈ lw_all := lw_g (lw_at lw_m8 226 rfl) rfl
theorem q1977 : (Jvm.Cond.code ({ cls := "PlugboardModel", name := "addShape", desc := "(IIIIIZ)I" } : Jvm.MethodName) prog_19_method_27_code (8 : Nat) (Option.some Jvm.ClassFile.FieldType.int)) ∈ lw_all := lw_g (lw_at lw_m8 227 rfl) rfl
theorem q2035 : (Jvm.Cond.methodLink "PlugboardLaw" (182 : Nat) ({ cls := "PlugboardModel", name := "move", desc := "(IIII)I" } : Jvm.MethodName)) ∈ lw_all := lw_g (lw_at lw_m9 45 rfl) rfl
theorem q2036 : (Jvm.Cond.instanceMethod ({ cls := "PlugboardModel", name := "move", desc := "(IIII)I" } : Jvm.MethodName)) ∈ lw_all := lw_g (lw_at lw_m9 46 rfl) rfl
theorem q2037 : (Jvm.Cond.selects "PlugboardModel" ({ cls := "PlugboardModel", name := "move", desc := "(IIII)I" } : Jvm.MethodName) ({ cls := "PlugboardModel", name := "move", desc := "(IIII)I" } : Jvm.MethodName)) ∈ lw_all := lw_g (lw_at lw_m9 47 rfl) rfl
theorem q2038 : (Jvm.Cond.code ({ cls := "PlugboardModel", name := "move", desc := "(IIII)I" } : Jvm.MethodName) prog_19_method_29_code (11 : Nat) (Option.some Jvm.ClassFile.FieldType.int)) ∈ lw_all := lw_g (lw_at lw_m9 48 rfl) rfl
theorem q2059 : (Jvm.Cond.methodLink "PlugboardLaw" (186 : Nat) ({ cls := "PlugboardModel", name := "raise", desc := "(II)I" } : Jvm.MethodName)) ∈ lw_all := lw_g (lw_at lw_m9 69 rfl) rfl
theorem q2060 : (Jvm.Cond.instanceMethod ({ cls := "PlugboardModel", name := "raise", desc := "(II)I" } : Jvm.MethodName)) ∈ lw_all := lw_g (lw_at lw_m9 70 rfl) rfl
theorem q2061 : (Jvm.Cond.selects "PlugboardModel" ({ cls := "PlugboardModel", name := "raise", desc := "(II)I" } : Jvm.MethodName) ({ cls := "PlugboardModel", name := "raise", desc := "(II)I" } : Jvm.MethodName)) ∈ lw_all := lw_g (lw_at lw_m9 71 rfl) rfl
theorem q2062 : (Jvm.Cond.code ({ cls := "PlugboardModel", name := "raise", desc := "(II)I" } : Jvm.MethodName) prog_19_method_31_code (3 : Nat) (Option.some Jvm.ClassFile.FieldType.int)) ∈ lw_all := lw_g (lw_at lw_m9 72 rfl) rfl
theorem q2071 : (Jvm.Cond.methodLink "PlugboardLaw" (189 : Nat) ({ cls := "PlugboardModel", name := "lower", desc := "(II)I" } : Jvm.MethodName)) ∈ lw_all := lw_g (lw_at lw_m9 81 rfl) rfl
theorem q2072 : (Jvm.Cond.instanceMethod ({ cls := "PlugboardModel", name := "lower", desc := "(II)I" } : Jvm.MethodName)) ∈ lw_all := lw_g (lw_at lw_m9 82 rfl) rfl
theorem q2073 : (Jvm.Cond.selects "PlugboardModel" ({ cls := "PlugboardModel", name := "lower", desc := "(II)I" } : Jvm.MethodName) ({ cls := "PlugboardModel", name := "lower", desc := "(II)I" } : Jvm.MethodName)) ∈ lw_all := lw_g (lw_at lw_m9 83 rfl) rfl
theorem q2074 : (Jvm.Cond.code ({ cls := "PlugboardModel", name := "lower", desc := "(II)I" } : Jvm.MethodName) prog_19_method_32_code (3 : Nat) (Option.some Jvm.ClassFile.FieldType.int)) ∈ lw_all := lw_g (lw_at lw_m9 84 rfl) rfl
theorem q2079 : (Jvm.Cond.methodLink "PlugboardLaw" (193 : Nat) ({ cls := "PlugboardModel", name := "putAbove", desc := "(III)I" } : Jvm.MethodName)) ∈ lw_all := lw_g (lw_at lw_m9 89 rfl) rfl
theorem q2080 : (Jvm.Cond.instanceMethod ({ cls := "PlugboardModel", name := "putAbove", desc := "(III)I" } : Jvm.MethodName)) ∈ lw_all := lw_g (lw_at lw_m9 90 rfl) rfl
theorem q2081 : (Jvm.Cond.selects "PlugboardModel" ({ cls := "PlugboardModel", name := "putAbove", desc := "(III)I" } : Jvm.MethodName) ({ cls := "PlugboardModel", name := "putAbove", desc := "(III)I" } : Jvm.MethodName)) ∈ lw_all := lw_g (lw_at lw_m9 91 rfl) rfl
theorem q2082 : (Jvm.Cond.code ({ cls := "PlugboardModel", name := "putAbove", desc := "(III)I" } : Jvm.MethodName) prog_19_method_33_code (6 : Nat) (Option.some Jvm.ClassFile.FieldType.int)) ∈ lw_all := lw_g (lw_at lw_m9 92 rfl) rfl
theorem q2083 : (Jvm.Cond.methodLink "PlugboardLaw" (196 : Nat) ({ cls := "PlugboardModel", name := "remove", desc := "(II)I" } : Jvm.MethodName)) ∈ lw_all := lw_g (lw_at lw_m9 93 rfl) rfl
theorem q2084 : (Jvm.Cond.instanceMethod ({ cls := "PlugboardModel", name := "remove", desc := "(II)I" } : Jvm.MethodName)) ∈ lw_all := lw_g (lw_at lw_m9 94 rfl) rfl
theorem q2085 : (Jvm.Cond.selects "PlugboardModel" ({ cls := "PlugboardModel", name := "remove", desc := "(II)I" } : Jvm.MethodName) ({ cls := "PlugboardModel", name := "remove", desc := "(II)I" } : Jvm.MethodName)) ∈ lw_all := lw_g (lw_at lw_m9 95 rfl) rfl
theorem q2086 : (Jvm.Cond.code ({ cls := "PlugboardModel", name := "remove", desc := "(II)I" } : Jvm.MethodName) prog_19_method_34_code (3 : Nat) (Option.some Jvm.ClassFile.FieldType.int)) ∈ lw_all := lw_g (lw_at lw_m9 96 rfl) rfl
theorem q2091 : (Jvm.Cond.methodLink "PlugboardLaw" (199 : Nat) ({ cls := "PlugboardModel", name := "lock", desc := "(II)I" } : Jvm.MethodName)) ∈ lw_all := lw_g (lw_at lw_m9 101 rfl) rfl
theorem q2092 : (Jvm.Cond.instanceMethod ({ cls := "PlugboardModel", name := "lock", desc := "(II)I" } : Jvm.MethodName)) ∈ lw_all := lw_g (lw_at lw_m9 102 rfl) rfl
theorem q2093 : (Jvm.Cond.selects "PlugboardModel" ({ cls := "PlugboardModel", name := "lock", desc := "(II)I" } : Jvm.MethodName) ({ cls := "PlugboardModel", name := "lock", desc := "(II)I" } : Jvm.MethodName)) ∈ lw_all := lw_g (lw_at lw_m9 103 rfl) rfl
theorem q2094 : (Jvm.Cond.code ({ cls := "PlugboardModel", name := "lock", desc := "(II)I" } : Jvm.MethodName) prog_19_method_35_code (5 : Nat) (Option.some Jvm.ClassFile.FieldType.int)) ∈ lw_all := lw_g (lw_at lw_m9 104 rfl) rfl
theorem q2095 : (Jvm.Cond.methodLink "PlugboardLaw" (202 : Nat) ({ cls := "PlugboardModel", name := "unlock", desc := "(II)I" } : Jvm.MethodName)) ∈ lw_all := lw_g (lw_at lw_m9 105 rfl) rfl
theorem q2096 : (Jvm.Cond.instanceMethod ({ cls := "PlugboardModel", name := "unlock", desc := "(II)I" } : Jvm.MethodName)) ∈ lw_all := lw_g (lw_at lw_m9 106 rfl) rfl
theorem q2097 : (Jvm.Cond.selects "PlugboardModel" ({ cls := "PlugboardModel", name := "unlock", desc := "(II)I" } : Jvm.MethodName) ({ cls := "PlugboardModel", name := "unlock", desc := "(II)I" } : Jvm.MethodName)) ∈ lw_all := lw_g (lw_at lw_m9 107 rfl) rfl
theorem q2098 : (Jvm.Cond.code ({ cls := "PlugboardModel", name := "unlock", desc := "(II)I" } : Jvm.MethodName) prog_19_method_36_code (4 : Nat) (Option.some Jvm.ClassFile.FieldType.int)) ∈ lw_all := lw_g (lw_at lw_m9 108 rfl) rfl
theorem q2099 : (Jvm.Cond.methodLink "PlugboardLaw" (206 : Nat) ({ cls := "PlugboardModel", name := "connect", desc := "(IICIC)I" } : Jvm.MethodName)) ∈ lw_all := lw_g (lw_at lw_m9 109 rfl) rfl
theorem q2100 : (Jvm.Cond.instanceMethod ({ cls := "PlugboardModel", name := "connect", desc := "(IICIC)I" } : Jvm.MethodName)) ∈ lw_all := lw_g (lw_at lw_m9 110 rfl) rfl
theorem q2101 : (Jvm.Cond.selects "PlugboardModel" ({ cls := "PlugboardModel", name := "connect", desc := "(IICIC)I" } : Jvm.MethodName) ({ cls := "PlugboardModel", name := "connect", desc := "(IICIC)I" } : Jvm.MethodName)) ∈ lw_all := lw_g (lw_at lw_m9 111 rfl) rfl
theorem q2102 : (Jvm.Cond.code ({ cls := "PlugboardModel", name := "connect", desc := "(IICIC)I" } : Jvm.MethodName) prog_19_method_38_code (6 : Nat) (Option.some Jvm.ClassFile.FieldType.int)) ∈ lw_all := lw_g (lw_at lw_m9 112 rfl) rfl
theorem q2106 : (Jvm.Cond.methodLink "PlugboardLaw" (209 : Nat) ({ cls := "PlugboardModel", name := "disconnect", desc := "(II)I" } : Jvm.MethodName)) ∈ lw_all := lw_g (lw_at lw_m9 116 rfl) rfl
theorem q2107 : (Jvm.Cond.instanceMethod ({ cls := "PlugboardModel", name := "disconnect", desc := "(II)I" } : Jvm.MethodName)) ∈ lw_all := lw_g (lw_at lw_m9 117 rfl) rfl
theorem q2108 : (Jvm.Cond.selects "PlugboardModel" ({ cls := "PlugboardModel", name := "disconnect", desc := "(II)I" } : Jvm.MethodName) ({ cls := "PlugboardModel", name := "disconnect", desc := "(II)I" } : Jvm.MethodName)) ∈ lw_all := lw_g (lw_at lw_m9 118 rfl) rfl
theorem q2109 : (Jvm.Cond.code ({ cls := "PlugboardModel", name := "disconnect", desc := "(II)I" } : Jvm.MethodName) prog_19_method_39_code (3 : Nat) (Option.some Jvm.ClassFile.FieldType.int)) ∈ lw_all := lw_g (lw_at lw_m9 119 rfl) rfl
theorem q2118 : (Jvm.Cond.methodLink "PlugboardLaw" (212 : Nat) ({ cls := "PlugboardModel", name := "vote", desc := "(III)I" } : Jvm.MethodName)) ∈ lw_all := lw_g (lw_at lw_m9 128 rfl) rfl
theorem q2119 : (Jvm.Cond.instanceMethod ({ cls := "PlugboardModel", name := "vote", desc := "(III)I" } : Jvm.MethodName)) ∈ lw_all := lw_g (lw_at lw_m9 129 rfl) rfl
theorem q2120 : (Jvm.Cond.selects "PlugboardModel" ({ cls := "PlugboardModel", name := "vote", desc := "(III)I" } : Jvm.MethodName) ({ cls := "PlugboardModel", name := "vote", desc := "(III)I" } : Jvm.MethodName)) ∈ lw_all := lw_g (lw_at lw_m9 130 rfl) rfl
theorem q2121 : (Jvm.Cond.code ({ cls := "PlugboardModel", name := "vote", desc := "(III)I" } : Jvm.MethodName) prog_19_method_40_code (7 : Nat) (Option.some Jvm.ClassFile.FieldType.int)) ∈ lw_all := lw_g (lw_at lw_m9 131 rfl) rfl
theorem q2122 : (Jvm.Cond.methodLink "PlugboardLaw" (216 : Nat) ({ cls := "PlugboardModel", name := "show", desc := "(IZ)Z" } : Jvm.MethodName)) ∈ lw_all := lw_g (lw_at lw_m9 132 rfl) rfl
theorem q2123 : (Jvm.Cond.instanceMethod ({ cls := "PlugboardModel", name := "show", desc := "(IZ)Z" } : Jvm.MethodName)) ∈ lw_all := lw_g (lw_at lw_m9 133 rfl) rfl
theorem q2124 : (Jvm.Cond.selects "PlugboardModel" ({ cls := "PlugboardModel", name := "show", desc := "(IZ)Z" } : Jvm.MethodName) ({ cls := "PlugboardModel", name := "show", desc := "(IZ)Z" } : Jvm.MethodName)) ∈ lw_all := lw_g (lw_at lw_m9 134 rfl) rfl
theorem q2125 : (Jvm.Cond.code ({ cls := "PlugboardModel", name := "show", desc := "(IZ)Z" } : Jvm.MethodName) prog_19_method_41_code (4 : Nat) (Option.some Jvm.ClassFile.FieldType.boolean)) ∈ lw_all := lw_g (lw_at lw_m9 135 rfl) rfl
theorem q2130 : (Jvm.Cond.methodLink "PlugboardLaw" (220 : Nat) ({ cls := "PlugboardModel", name := "takeBack", desc := "(I)I" } : Jvm.MethodName)) ∈ lw_all := lw_g (lw_at lw_m9 140 rfl) rfl
theorem q2131 : (Jvm.Cond.instanceMethod ({ cls := "PlugboardModel", name := "takeBack", desc := "(I)I" } : Jvm.MethodName)) ∈ lw_all := lw_g (lw_at lw_m9 141 rfl) rfl
theorem q2132 : (Jvm.Cond.selects "PlugboardModel" ({ cls := "PlugboardModel", name := "takeBack", desc := "(I)I" } : Jvm.MethodName) ({ cls := "PlugboardModel", name := "takeBack", desc := "(I)I" } : Jvm.MethodName)) ∈ lw_all := lw_g (lw_at lw_m9 142 rfl) rfl
theorem q2133 : (Jvm.Cond.code ({ cls := "PlugboardModel", name := "takeBack", desc := "(I)I" } : Jvm.MethodName) prog_19_method_42_code (4 : Nat) (Option.some Jvm.ClassFile.FieldType.int)) ∈ lw_all := lw_g (lw_at lw_m9 143 rfl) rfl
theorem q2134 : (Jvm.Cond.methodLink "PlugboardLaw" (223 : Nat) ({ cls := "PlugboardModel", name := "deliver", desc := "(II)I" } : Jvm.MethodName)) ∈ lw_all := lw_g (lw_at lw_m9 144 rfl) rfl
theorem q2135 : (Jvm.Cond.instanceMethod ({ cls := "PlugboardModel", name := "deliver", desc := "(II)I" } : Jvm.MethodName)) ∈ lw_all := lw_g (lw_at lw_m9 145 rfl) rfl
theorem q2136 : (Jvm.Cond.selects "PlugboardModel" ({ cls := "PlugboardModel", name := "deliver", desc := "(II)I" } : Jvm.MethodName) ({ cls := "PlugboardModel", name := "deliver", desc := "(II)I" } : Jvm.MethodName)) ∈ lw_all := lw_g (lw_at lw_m9 146 rfl) rfl
theorem q2137 : (Jvm.Cond.code ({ cls := "PlugboardModel", name := "deliver", desc := "(II)I" } : Jvm.MethodName) prog_19_method_45_code (3 : Nat) (Option.some Jvm.ClassFile.FieldType.int)) ∈ lw_all := lw_g (lw_at lw_m9 147 rfl) rfl
theorem q2146 : (Jvm.Cond.methodLink "PlugboardLaw" (226 : Nat) ({ cls := "PlugboardModel", name := "sync", desc := "(II)I" } : Jvm.MethodName)) ∈ lw_all := lw_g (lw_at lw_m9 156 rfl) rfl
theorem q2147 : (Jvm.Cond.instanceMethod ({ cls := "PlugboardModel", name := "sync", desc := "(II)I" } : Jvm.MethodName)) ∈ lw_all := lw_g (lw_at lw_m9 157 rfl) rfl
theorem q2148 : (Jvm.Cond.selects "PlugboardModel" ({ cls := "PlugboardModel", name := "sync", desc := "(II)I" } : Jvm.MethodName) ({ cls := "PlugboardModel", name := "sync", desc := "(II)I" } : Jvm.MethodName)) ∈ lw_all := lw_g (lw_at lw_m9 158 rfl) rfl
theorem q2149 : (Jvm.Cond.code ({ cls := "PlugboardModel", name := "sync", desc := "(II)I" } : Jvm.MethodName) prog_19_method_46_code (5 : Nat) (Option.some Jvm.ClassFile.FieldType.int)) ∈ lw_all := lw_g (lw_at lw_m9 159 rfl) rfl
theorem q2150 : (Jvm.Cond.methodLink "PlugboardLaw" (230 : Nat) ({ cls := "PlugboardModel", name := "operations", desc := "()I" } : Jvm.MethodName)) ∈ lw_all := lw_g (lw_at lw_m9 160 rfl) rfl
theorem q2151 : (Jvm.Cond.instanceMethod ({ cls := "PlugboardModel", name := "operations", desc := "()I" } : Jvm.MethodName)) ∈ lw_all := lw_g (lw_at lw_m9 161 rfl) rfl
theorem q2152 : (Jvm.Cond.selects "PlugboardModel" ({ cls := "PlugboardModel", name := "operations", desc := "()I" } : Jvm.MethodName) ({ cls := "PlugboardModel", name := "operations", desc := "()I" } : Jvm.MethodName)) ∈ lw_all := lw_g (lw_at lw_m9 162 rfl) rfl
theorem q2153 : (Jvm.Cond.code ({ cls := "PlugboardModel", name := "operations", desc := "()I" } : Jvm.MethodName) prog_19_method_47_code (1 : Nat) (Option.some Jvm.ClassFile.FieldType.int)) ∈ lw_all := lw_g (lw_at lw_m9 163 rfl) rfl
theorem q2154 : (Jvm.Cond.methodLink "PlugboardLaw" (233 : Nat) ({ cls := "PlugboardModel", name := "userOf", desc := "(I)I" } : Jvm.MethodName)) ∈ lw_all := lw_g (lw_at lw_m9 164 rfl) rfl
theorem q2155 : (Jvm.Cond.instanceMethod ({ cls := "PlugboardModel", name := "userOf", desc := "(I)I" } : Jvm.MethodName)) ∈ lw_all := lw_g (lw_at lw_m9 165 rfl) rfl
theorem q2156 : (Jvm.Cond.selects "PlugboardModel" ({ cls := "PlugboardModel", name := "userOf", desc := "(I)I" } : Jvm.MethodName) ({ cls := "PlugboardModel", name := "userOf", desc := "(I)I" } : Jvm.MethodName)) ∈ lw_all := lw_g (lw_at lw_m9 166 rfl) rfl
theorem q2157 : (Jvm.Cond.code ({ cls := "PlugboardModel", name := "userOf", desc := "(I)I" } : Jvm.MethodName) prog_19_method_48_code (2 : Nat) (Option.some Jvm.ClassFile.FieldType.int)) ∈ lw_all := lw_g (lw_at lw_m9 167 rfl) rfl
theorem q2158 : (Jvm.Cond.methodLink "PlugboardLaw" (236 : Nat) ({ cls := "PlugboardModel", name := "clockOf", desc := "(I)I" } : Jvm.MethodName)) ∈ lw_all := lw_g (lw_at lw_m9 168 rfl) rfl
theorem q2159 : (Jvm.Cond.instanceMethod ({ cls := "PlugboardModel", name := "clockOf", desc := "(I)I" } : Jvm.MethodName)) ∈ lw_all := lw_g (lw_at lw_m9 169 rfl) rfl
theorem q2160 : (Jvm.Cond.selects "PlugboardModel" ({ cls := "PlugboardModel", name := "clockOf", desc := "(I)I" } : Jvm.MethodName) ({ cls := "PlugboardModel", name := "clockOf", desc := "(I)I" } : Jvm.MethodName)) ∈ lw_all := lw_g (lw_at lw_m9 170 rfl) rfl
theorem q2161 : (Jvm.Cond.code ({ cls := "PlugboardModel", name := "clockOf", desc := "(I)I" } : Jvm.MethodName) prog_19_method_49_code (2 : Nat) (Option.some Jvm.ClassFile.FieldType.int)) ∈ lw_all := lw_g (lw_at lw_m9 171 rfl) rfl
theorem q2162 : (Jvm.Cond.methodLink "PlugboardLaw" (239 : Nat) ({ cls := "PlugboardModel", name := "knows", desc := "(II)Z" } : Jvm.MethodName)) ∈ lw_all := lw_g (lw_at lw_m9 172 rfl) rfl
theorem q2163 : (Jvm.Cond.instanceMethod ({ cls := "PlugboardModel", name := "knows", desc := "(II)Z" } : Jvm.MethodName)) ∈ lw_all := lw_g (lw_at lw_m9 173 rfl) rfl
theorem q2164 : (Jvm.Cond.selects "PlugboardModel" ({ cls := "PlugboardModel", name := "knows", desc := "(II)Z" } : Jvm.MethodName) ({ cls := "PlugboardModel", name := "knows", desc := "(II)Z" } : Jvm.MethodName)) ∈ lw_all := lw_g (lw_at lw_m9 174 rfl) rfl
theorem q2165 : (Jvm.Cond.code ({ cls := "PlugboardModel", name := "knows", desc := "(II)Z" } : Jvm.MethodName) prog_19_method_50_code (3 : Nat) (Option.some Jvm.ClassFile.FieldType.boolean)) ∈ lw_all := lw_g (lw_at lw_m9 175 rfl) rfl
theorem q2166 : (Jvm.Cond.methodLink "PlugboardLaw" (242 : Nat) ({ cls := "PlugboardModel", name := "shapes", desc := "(I)I" } : Jvm.MethodName)) ∈ lw_all := lw_g (lw_at lw_m9 176 rfl) rfl
theorem q2167 : (Jvm.Cond.instanceMethod ({ cls := "PlugboardModel", name := "shapes", desc := "(I)I" } : Jvm.MethodName)) ∈ lw_all := lw_g (lw_at lw_m9 177 rfl) rfl
theorem q2168 : (Jvm.Cond.selects "PlugboardModel" ({ cls := "PlugboardModel", name := "shapes", desc := "(I)I" } : Jvm.MethodName) ({ cls := "PlugboardModel", name := "shapes", desc := "(I)I" } : Jvm.MethodName)) ∈ lw_all := lw_g (lw_at lw_m9 178 rfl) rfl
theorem q2169 : (Jvm.Cond.code ({ cls := "PlugboardModel", name := "shapes", desc := "(I)I" } : Jvm.MethodName) prog_19_method_53_code (2 : Nat) (Option.some Jvm.ClassFile.FieldType.int)) ∈ lw_all := lw_g (lw_at lw_m9 179 rfl) rfl
theorem q2174 : (Jvm.Cond.methodLink "PlugboardLaw" (245 : Nat) ({ cls := "PlugboardModel", name := "sees", desc := "(II)Z" } : Jvm.MethodName)) ∈ lw_all := lw_g (lw_at lw_m9 184 rfl) rfl
theorem q2175 : (Jvm.Cond.instanceMethod ({ cls := "PlugboardModel", name := "sees", desc := "(II)Z" } : Jvm.MethodName)) ∈ lw_all := lw_g (lw_at lw_m9 185 rfl) rfl
theorem q2176 : (Jvm.Cond.selects "PlugboardModel" ({ cls := "PlugboardModel", name := "sees", desc := "(II)Z" } : Jvm.MethodName) ({ cls := "PlugboardModel", name := "sees", desc := "(II)Z" } : Jvm.MethodName)) ∈ lw_all := lw_g (lw_at lw_m9 186 rfl) rfl
theorem q2177 : (Jvm.Cond.code ({ cls := "PlugboardModel", name := "sees", desc := "(II)Z" } : Jvm.MethodName) prog_19_method_54_code (3 : Nat) (Option.some Jvm.ClassFile.FieldType.boolean)) ∈ lw_all := lw_g (lw_at lw_m9 187 rfl) rfl
theorem q2178 : (Jvm.Cond.methodLink "PlugboardLaw" (248 : Nat) ({ cls := "PlugboardModel", name := "columnOf", desc := "(II)I" } : Jvm.MethodName)) ∈ lw_all := lw_g (lw_at lw_m9 188 rfl) rfl
theorem q2179 : (Jvm.Cond.instanceMethod ({ cls := "PlugboardModel", name := "columnOf", desc := "(II)I" } : Jvm.MethodName)) ∈ lw_all := lw_g (lw_at lw_m9 189 rfl) rfl
theorem q2180 : (Jvm.Cond.selects "PlugboardModel" ({ cls := "PlugboardModel", name := "columnOf", desc := "(II)I" } : Jvm.MethodName) ({ cls := "PlugboardModel", name := "columnOf", desc := "(II)I" } : Jvm.MethodName)) ∈ lw_all := lw_g (lw_at lw_m9 190 rfl) rfl
theorem q2181 : (Jvm.Cond.code ({ cls := "PlugboardModel", name := "columnOf", desc := "(II)I" } : Jvm.MethodName) prog_19_method_55_code (3 : Nat) (Option.some Jvm.ClassFile.FieldType.int)) ∈ lw_all := lw_g (lw_at lw_m9 191 rfl) rfl
theorem q2186 : (Jvm.Cond.methodLink "PlugboardLaw" (251 : Nat) ({ cls := "PlugboardModel", name := "rowOf", desc := "(II)I" } : Jvm.MethodName)) ∈ lw_all := lw_g (lw_at lw_m9 196 rfl) rfl
theorem q2187 : (Jvm.Cond.instanceMethod ({ cls := "PlugboardModel", name := "rowOf", desc := "(II)I" } : Jvm.MethodName)) ∈ lw_all := lw_g (lw_at lw_m9 197 rfl) rfl
theorem q2188 : (Jvm.Cond.selects "PlugboardModel" ({ cls := "PlugboardModel", name := "rowOf", desc := "(II)I" } : Jvm.MethodName) ({ cls := "PlugboardModel", name := "rowOf", desc := "(II)I" } : Jvm.MethodName)) ∈ lw_all := lw_g (lw_at lw_m9 198 rfl) rfl
theorem q2189 : (Jvm.Cond.code ({ cls := "PlugboardModel", name := "rowOf", desc := "(II)I" } : Jvm.MethodName) prog_19_method_56_code (3 : Nat) (Option.some Jvm.ClassFile.FieldType.int)) ∈ lw_all := lw_g (lw_at lw_m9 199 rfl) rfl
theorem q2190 : (Jvm.Cond.methodLink "PlugboardLaw" (254 : Nat) ({ cls := "PlugboardModel", name := "rankOf", desc := "(II)I" } : Jvm.MethodName)) ∈ lw_all := lw_g (lw_at lw_m9 200 rfl) rfl
theorem q2191 : (Jvm.Cond.instanceMethod ({ cls := "PlugboardModel", name := "rankOf", desc := "(II)I" } : Jvm.MethodName)) ∈ lw_all := lw_g (lw_at lw_m9 201 rfl) rfl
theorem q2192 : (Jvm.Cond.selects "PlugboardModel" ({ cls := "PlugboardModel", name := "rankOf", desc := "(II)I" } : Jvm.MethodName) ({ cls := "PlugboardModel", name := "rankOf", desc := "(II)I" } : Jvm.MethodName)) ∈ lw_all := lw_g (lw_at lw_m9 202 rfl) rfl
theorem q2193 : (Jvm.Cond.code ({ cls := "PlugboardModel", name := "rankOf", desc := "(II)I" } : Jvm.MethodName) prog_19_method_57_code (3 : Nat) (Option.some Jvm.ClassFile.FieldType.int)) ∈ lw_all := lw_g (lw_at lw_m9 203 rfl) rfl
theorem q2194 : (Jvm.Cond.methodLink "PlugboardLaw" (257 : Nat) ({ cls := "PlugboardModel", name := "shapeAt", desc := "(II)I" } : Jvm.MethodName)) ∈ lw_all := lw_g (lw_at lw_m9 204 rfl) rfl
theorem q2195 : (Jvm.Cond.instanceMethod ({ cls := "PlugboardModel", name := "shapeAt", desc := "(II)I" } : Jvm.MethodName)) ∈ lw_all := lw_g (lw_at lw_m9 205 rfl) rfl
theorem q2196 : (Jvm.Cond.selects "PlugboardModel" ({ cls := "PlugboardModel", name := "shapeAt", desc := "(II)I" } : Jvm.MethodName) ({ cls := "PlugboardModel", name := "shapeAt", desc := "(II)I" } : Jvm.MethodName)) ∈ lw_all := lw_g (lw_at lw_m9 206 rfl) rfl
theorem q2197 : (Jvm.Cond.code ({ cls := "PlugboardModel", name := "shapeAt", desc := "(II)I" } : Jvm.MethodName) prog_19_method_58_code (4 : Nat) (Option.some Jvm.ClassFile.FieldType.int)) ∈ lw_all := lw_g (lw_at lw_m9 207 rfl) rfl
theorem q2198 : (Jvm.Cond.methodLink "PlugboardLaw" (261 : Nat) ({ cls := "PlugboardModel", name := "keyOf", desc := "(II)F" } : Jvm.MethodName)) ∈ lw_all := lw_g (lw_at lw_m9 208 rfl) rfl
theorem q2199 : (Jvm.Cond.instanceMethod ({ cls := "PlugboardModel", name := "keyOf", desc := "(II)F" } : Jvm.MethodName)) ∈ lw_all := lw_g (lw_at lw_m9 209 rfl) rfl
theorem q2200 : (Jvm.Cond.selects "PlugboardModel" ({ cls := "PlugboardModel", name := "keyOf", desc := "(II)F" } : Jvm.MethodName) ({ cls := "PlugboardModel", name := "keyOf", desc := "(II)F" } : Jvm.MethodName)) ∈ lw_all := lw_g (lw_at lw_m9 210 rfl) rfl
theorem q2201 : (Jvm.Cond.code ({ cls := "PlugboardModel", name := "keyOf", desc := "(II)F" } : Jvm.MethodName) prog_19_method_59_code (3 : Nat) (Option.some Jvm.ClassFile.FieldType.float)) ∈ lw_all := lw_g (lw_at lw_m9 211 rfl) rfl
theorem q2202 : (Jvm.Cond.methodLink "PlugboardLaw" (264 : Nat) ({ cls := "PlugboardModel", name := "keyBits", desc := "(II)I" } : Jvm.MethodName)) ∈ lw_all := lw_g (lw_at lw_m9 212 rfl) rfl
theorem q2203 : (Jvm.Cond.instanceMethod ({ cls := "PlugboardModel", name := "keyBits", desc := "(II)I" } : Jvm.MethodName)) ∈ lw_all := lw_g (lw_at lw_m9 213 rfl) rfl
theorem q2204 : (Jvm.Cond.selects "PlugboardModel" ({ cls := "PlugboardModel", name := "keyBits", desc := "(II)I" } : Jvm.MethodName) ({ cls := "PlugboardModel", name := "keyBits", desc := "(II)I" } : Jvm.MethodName)) ∈ lw_all := lw_g (lw_at lw_m9 214 rfl) rfl
theorem q2205 : (Jvm.Cond.code ({ cls := "PlugboardModel", name := "keyBits", desc := "(II)I" } : Jvm.MethodName) prog_19_method_60_code (3 : Nat) (Option.some Jvm.ClassFile.FieldType.int)) ∈ lw_all := lw_g (lw_at lw_m9 215 rfl) rfl
theorem q2206 : (Jvm.Cond.methodLink "PlugboardLaw" (267 : Nat) ({ cls := "PlugboardModel", name := "keyCut", desc := "(II)I" } : Jvm.MethodName)) ∈ lw_all := lw_g (lw_at lw_m9 216 rfl) rfl
theorem q2207 : (Jvm.Cond.instanceMethod ({ cls := "PlugboardModel", name := "keyCut", desc := "(II)I" } : Jvm.MethodName)) ∈ lw_all := lw_g (lw_at lw_m9 217 rfl) rfl
theorem q2208 : (Jvm.Cond.selects "PlugboardModel" ({ cls := "PlugboardModel", name := "keyCut", desc := "(II)I" } : Jvm.MethodName) ({ cls := "PlugboardModel", name := "keyCut", desc := "(II)I" } : Jvm.MethodName)) ∈ lw_all := lw_g (lw_at lw_m9 218 rfl) rfl
theorem q2209 : (Jvm.Cond.code ({ cls := "PlugboardModel", name := "keyCut", desc := "(II)I" } : Jvm.MethodName) prog_19_method_61_code (3 : Nat) (Option.some Jvm.ClassFile.FieldType.int)) ∈ lw_all := lw_g (lw_at lw_m9 219 rfl) rfl
theorem q2211 : (Jvm.Cond.methodLink "PlugboardLaw" (270 : Nat) ({ cls := "PlugboardModel", name := "topAt", desc := "(III)I" } : Jvm.MethodName)) ∈ lw_all := lw_g (lw_at lw_m9 221 rfl) rfl
theorem q2212 : (Jvm.Cond.instanceMethod ({ cls := "PlugboardModel", name := "topAt", desc := "(III)I" } : Jvm.MethodName)) ∈ lw_all := lw_g (lw_at lw_m9 222 rfl) rfl
theorem q2213 : (Jvm.Cond.selects "PlugboardModel" ({ cls := "PlugboardModel", name := "topAt", desc := "(III)I" } : Jvm.MethodName) ({ cls := "PlugboardModel", name := "topAt", desc := "(III)I" } : Jvm.MethodName)) ∈ lw_all := lw_g (lw_at lw_m9 223 rfl) rfl
theorem q2214 : (Jvm.Cond.code ({ cls := "PlugboardModel", name := "topAt", desc := "(III)I" } : Jvm.MethodName) prog_19_method_63_code (6 : Nat) (Option.some Jvm.ClassFile.FieldType.int)) ∈ lw_all := lw_g (lw_at lw_m9 224 rfl) rfl
theorem q2219 : (Jvm.Cond.methodLink "PlugboardLaw" (273 : Nat) ({ cls := "PlugboardModel", name := "lockedBy", desc := "(II)I" } : Jvm.MethodName)) ∈ lw_all := lw_g (lw_at lw_m9 229 rfl) rfl
theorem q2220 : (Jvm.Cond.instanceMethod ({ cls := "PlugboardModel", name := "lockedBy", desc := "(II)I" } : Jvm.MethodName)) ∈ lw_all := lw_g (lw_at lw_m9 230 rfl) rfl
theorem q2221 : (Jvm.Cond.selects "PlugboardModel" ({ cls := "PlugboardModel", name := "lockedBy", desc := "(II)I" } : Jvm.MethodName) ({ cls := "PlugboardModel", name := "lockedBy", desc := "(II)I" } : Jvm.MethodName)) ∈ lw_all := lw_g (lw_at lw_m9 231 rfl) rfl
theorem q2222 : (Jvm.Cond.code ({ cls := "PlugboardModel", name := "lockedBy", desc := "(II)I" } : Jvm.MethodName) prog_19_method_64_code (3 : Nat) (Option.some Jvm.ClassFile.FieldType.int)) ∈ lw_all := lw_g (lw_at lw_m9 232 rfl) rfl
theorem q2223 : (Jvm.Cond.methodLink "PlugboardLaw" (276 : Nat) ({ cls := "PlugboardModel", name := "inside", desc := "(II)I" } : Jvm.MethodName)) ∈ lw_all := lw_g (lw_at lw_m9 233 rfl) rfl
theorem q2224 : (Jvm.Cond.instanceMethod ({ cls := "PlugboardModel", name := "inside", desc := "(II)I" } : Jvm.MethodName)) ∈ lw_all := lw_g (lw_at lw_m9 234 rfl) rfl
theorem q2225 : (Jvm.Cond.selects "PlugboardModel" ({ cls := "PlugboardModel", name := "inside", desc := "(II)I" } : Jvm.MethodName) ({ cls := "PlugboardModel", name := "inside", desc := "(II)I" } : Jvm.MethodName)) ∈ lw_all := lw_g (lw_at lw_m9 235 rfl) rfl
theorem q2226 : (Jvm.Cond.code ({ cls := "PlugboardModel", name := "inside", desc := "(II)I" } : Jvm.MethodName) prog_19_method_65_code (5 : Nat) (Option.some Jvm.ClassFile.FieldType.int)) ∈ lw_all := lw_g (lw_at lw_m9 236 rfl) rfl
theorem q2227 : (Jvm.Cond.methodLink "PlugboardLaw" (279 : Nat) ({ cls := "PlugboardModel", name := "connectors", desc := "(I)I" } : Jvm.MethodName)) ∈ lw_all := lw_g (lw_at lw_m9 237 rfl) rfl
theorem q2228 : (Jvm.Cond.instanceMethod ({ cls := "PlugboardModel", name := "connectors", desc := "(I)I" } : Jvm.MethodName)) ∈ lw_all := lw_g (lw_at lw_m9 238 rfl) rfl
theorem q2229 : (Jvm.Cond.selects "PlugboardModel" ({ cls := "PlugboardModel", name := "connectors", desc := "(I)I" } : Jvm.MethodName) ({ cls := "PlugboardModel", name := "connectors", desc := "(I)I" } : Jvm.MethodName)) ∈ lw_all := lw_g (lw_at lw_m9 239 rfl) rfl
theorem q2230 : (Jvm.Cond.code ({ cls := "PlugboardModel", name := "connectors", desc := "(I)I" } : Jvm.MethodName) prog_19_method_66_code (2 : Nat) (Option.some Jvm.ClassFile.FieldType.int)) ∈ lw_all := lw_g (lw_at lw_m10 0 rfl) rfl
theorem q2231 : (Jvm.Cond.methodLink "PlugboardLaw" (282 : Nat) ({ cls := "PlugboardModel", name := "bends", desc := "(II)I" } : Jvm.MethodName)) ∈ lw_all := lw_g (lw_at lw_m10 1 rfl) rfl
theorem q2267 : (Jvm.Cond.methodLink "PlugboardLaw" (285 : Nat) ({ cls := "PlugboardModel", name := "bendsByRounds", desc := "(II)I" } : Jvm.MethodName)) ∈ lw_all := lw_g (lw_at lw_m10 37 rfl) rfl
theorem q2268 : (Jvm.Cond.instanceMethod ({ cls := "PlugboardModel", name := "bendsByRounds", desc := "(II)I" } : Jvm.MethodName)) ∈ lw_all := lw_g (lw_at lw_m10 38 rfl) rfl
theorem q2269 : (Jvm.Cond.selects "PlugboardModel" ({ cls := "PlugboardModel", name := "bendsByRounds", desc := "(II)I" } : Jvm.MethodName) ({ cls := "PlugboardModel", name := "bendsByRounds", desc := "(II)I" } : Jvm.MethodName)) ∈ lw_all := lw_g (lw_at lw_m10 39 rfl) rfl
theorem q2270 : (Jvm.Cond.code ({ cls := "PlugboardModel", name := "bendsByRounds", desc := "(II)I" } : Jvm.MethodName) prog_19_method_76_code (3 : Nat) (Option.some Jvm.ClassFile.FieldType.int)) ∈ lw_all := lw_g (lw_at lw_m10 40 rfl) rfl
theorem q2272 : (Jvm.Cond.methodLink "PlugboardLaw" (288 : Nat) ({ cls := "PlugboardModel", name := "routeLength", desc := "(II)I" } : Jvm.MethodName)) ∈ lw_all := lw_g (lw_at lw_m10 42 rfl) rfl
theorem q2273 : (Jvm.Cond.instanceMethod ({ cls := "PlugboardModel", name := "routeLength", desc := "(II)I" } : Jvm.MethodName)) ∈ lw_all := lw_g (lw_at lw_m10 43 rfl) rfl
theorem q2274 : (Jvm.Cond.selects "PlugboardModel" ({ cls := "PlugboardModel", name := "routeLength", desc := "(II)I" } : Jvm.MethodName) ({ cls := "PlugboardModel", name := "routeLength", desc := "(II)I" } : Jvm.MethodName)) ∈ lw_all := lw_g (lw_at lw_m10 44 rfl) rfl
theorem q2275 : (Jvm.Cond.code ({ cls := "PlugboardModel", name := "routeLength", desc := "(II)I" } : Jvm.MethodName) prog_19_method_77_code (3 : Nat) (Option.some Jvm.ClassFile.FieldType.int)) ∈ lw_all := lw_g (lw_at lw_m10 45 rfl) rfl
theorem q2276 : (Jvm.Cond.methodLink "PlugboardLaw" (291 : Nat) ({ cls := "PlugboardModel", name := "ownVotes", desc := "(II)I" } : Jvm.MethodName)) ∈ lw_all := lw_g (lw_at lw_m10 46 rfl) rfl
theorem q2277 : (Jvm.Cond.instanceMethod ({ cls := "PlugboardModel", name := "ownVotes", desc := "(II)I" } : Jvm.MethodName)) ∈ lw_all := lw_g (lw_at lw_m10 47 rfl) rfl
theorem q2278 : (Jvm.Cond.selects "PlugboardModel" ({ cls := "PlugboardModel", name := "ownVotes", desc := "(II)I" } : Jvm.MethodName) ({ cls := "PlugboardModel", name := "ownVotes", desc := "(II)I" } : Jvm.MethodName)) ∈ lw_all := lw_g (lw_at lw_m10 48 rfl) rfl
theorem q2279 : (Jvm.Cond.code ({ cls := "PlugboardModel", name := "ownVotes", desc := "(II)I" } : Jvm.MethodName) prog_19_method_78_code (3 : Nat) (Option.some Jvm.ClassFile.FieldType.int)) ∈ lw_all := lw_g (lw_at lw_m10 49 rfl) rfl
theorem q2280 : (Jvm.Cond.methodLink "PlugboardLaw" (294 : Nat) ({ cls := "PlugboardModel", name := "votesFor", desc := "(II)I" } : Jvm.MethodName)) ∈ lw_all := lw_g (lw_at lw_m10 50 rfl) rfl
theorem q2281 : (Jvm.Cond.instanceMethod ({ cls := "PlugboardModel", name := "votesFor", desc := "(II)I" } : Jvm.MethodName)) ∈ lw_all := lw_g (lw_at lw_m10 51 rfl) rfl
theorem q2282 : (Jvm.Cond.selects "PlugboardModel" ({ cls := "PlugboardModel", name := "votesFor", desc := "(II)I" } : Jvm.MethodName) ({ cls := "PlugboardModel", name := "votesFor", desc := "(II)I" } : Jvm.MethodName)) ∈ lw_all := lw_g (lw_at lw_m10 52 rfl) rfl
theorem q2283 : (Jvm.Cond.code ({ cls := "PlugboardModel", name := "votesFor", desc := "(II)I" } : Jvm.MethodName) prog_19_method_80_code (3 : Nat) (Option.some Jvm.ClassFile.FieldType.int)) ∈ lw_all := lw_g (lw_at lw_m10 53 rfl) rfl
theorem q2288 : (Jvm.Cond.methodLink "PlugboardLaw" (297 : Nat) ({ cls := "PlugboardModel", name := "winner", desc := "(I)I" } : Jvm.MethodName)) ∈ lw_all := lw_g (lw_at lw_m10 58 rfl) rfl
theorem q2289 : (Jvm.Cond.instanceMethod ({ cls := "PlugboardModel", name := "winner", desc := "(I)I" } : Jvm.MethodName)) ∈ lw_all := lw_g (lw_at lw_m10 59 rfl) rfl
theorem q2290 : (Jvm.Cond.selects "PlugboardModel" ({ cls := "PlugboardModel", name := "winner", desc := "(I)I" } : Jvm.MethodName) ({ cls := "PlugboardModel", name := "winner", desc := "(I)I" } : Jvm.MethodName)) ∈ lw_all := lw_g (lw_at lw_m10 60 rfl) rfl
theorem q2291 : (Jvm.Cond.code ({ cls := "PlugboardModel", name := "winner", desc := "(I)I" } : Jvm.MethodName) prog_19_method_81_code (4 : Nat) (Option.some Jvm.ClassFile.FieldType.int)) ∈ lw_all := lw_g (lw_at lw_m10 61 rfl) rfl
theorem q2292 : (Jvm.Cond.methodLink "PlugboardLaw" (300 : Nat) ({ cls := "PlugboardModel", name := "outcome", desc := "(I)I" } : Jvm.MethodName)) ∈ lw_all := lw_g (lw_at lw_m10 62 rfl) rfl
theorem q2305 : (Jvm.Cond.methodLink "PlugboardLaw" (303 : Nat) ({ cls := "PlugboardModel", name := "outcomeAnew", desc := "(I)I" } : Jvm.MethodName)) ∈ lw_all := lw_g (lw_at lw_m10 75 rfl) rfl
theorem q2306 : (Jvm.Cond.instanceMethod ({ cls := "PlugboardModel", name := "outcomeAnew", desc := "(I)I" } : Jvm.MethodName)) ∈ lw_all := lw_g (lw_at lw_m10 76 rfl) rfl
theorem q2307 : (Jvm.Cond.selects "PlugboardModel" ({ cls := "PlugboardModel", name := "outcomeAnew", desc := "(I)I" } : Jvm.MethodName) ({ cls := "PlugboardModel", name := "outcomeAnew", desc := "(I)I" } : Jvm.MethodName)) ∈ lw_all := lw_g (lw_at lw_m10 77 rfl) rfl
theorem q2308 : (Jvm.Cond.code ({ cls := "PlugboardModel", name := "outcomeAnew", desc := "(I)I" } : Jvm.MethodName) prog_19_method_85_code (2 : Nat) (Option.some Jvm.ClassFile.FieldType.int)) ∈ lw_all := lw_g (lw_at lw_m10 78 rfl) rfl
theorem q2310 : (Jvm.Cond.methodLink "PlugboardLaw" (306 : Nat) ({ cls := "PlugboardModel", name := "outcomes", desc := "(II)I" } : Jvm.MethodName)) ∈ lw_all := lw_g (lw_at lw_m10 80 rfl) rfl
theorem q2311 : (Jvm.Cond.instanceMethod ({ cls := "PlugboardModel", name := "outcomes", desc := "(II)I" } : Jvm.MethodName)) ∈ lw_all := lw_g (lw_at lw_m10 81 rfl) rfl
theorem q2312 : (Jvm.Cond.selects "PlugboardModel" ({ cls := "PlugboardModel", name := "outcomes", desc := "(II)I" } : Jvm.MethodName) ({ cls := "PlugboardModel", name := "outcomes", desc := "(II)I" } : Jvm.MethodName)) ∈ lw_all := lw_g (lw_at lw_m10 82 rfl) rfl
theorem q2313 : (Jvm.Cond.code ({ cls := "PlugboardModel", name := "outcomes", desc := "(II)I" } : Jvm.MethodName) prog_19_method_86_code (3 : Nat) (Option.some Jvm.ClassFile.FieldType.int)) ∈ lw_all := lw_g (lw_at lw_m10 83 rfl) rfl
theorem q2314 : (Jvm.Cond.methodLink "PlugboardLaw" (309 : Nat) ({ cls := "PlugboardModel", name := "areAlike", desc := "(II)Z" } : Jvm.MethodName)) ∈ lw_all := lw_g (lw_at lw_m10 84 rfl) rfl
theorem q2315 : (Jvm.Cond.instanceMethod ({ cls := "PlugboardModel", name := "areAlike", desc := "(II)Z" } : Jvm.MethodName)) ∈ lw_all := lw_g (lw_at lw_m10 85 rfl) rfl
theorem q2316 : (Jvm.Cond.selects "PlugboardModel" ({ cls := "PlugboardModel", name := "areAlike", desc := "(II)Z" } : Jvm.MethodName) ({ cls := "PlugboardModel", name := "areAlike", desc := "(II)Z" } : Jvm.MethodName)) ∈ lw_all := lw_g (lw_at lw_m10 86 rfl) rfl
theorem q2317 : (Jvm.Cond.code ({ cls := "PlugboardModel", name := "areAlike", desc := "(II)Z" } : Jvm.MethodName) prog_19_method_87_code (5 : Nat) (Option.some Jvm.ClassFile.FieldType.boolean)) ∈ lw_all := lw_g (lw_at lw_m10 87 rfl) rfl
theorem q2318 : (Jvm.Cond.methodLink "PlugboardLaw" (313 : Nat) ({ cls := "PlugboardModel", name := "frameShare", desc := "(I)F" } : Jvm.MethodName)) ∈ lw_all := lw_g (lw_at lw_m10 88 rfl) rfl
theorem q2319 : (Jvm.Cond.instanceMethod ({ cls := "PlugboardModel", name := "frameShare", desc := "(I)F" } : Jvm.MethodName)) ∈ lw_all := lw_g (lw_at lw_m10 89 rfl) rfl
theorem q2320 : (Jvm.Cond.selects "PlugboardModel" ({ cls := "PlugboardModel", name := "frameShare", desc := "(I)F" } : Jvm.MethodName) ({ cls := "PlugboardModel", name := "frameShare", desc := "(I)F" } : Jvm.MethodName)) ∈ lw_all := lw_g (lw_at lw_m10 90 rfl) rfl
theorem q2321 : (Jvm.Cond.code ({ cls := "PlugboardModel", name := "frameShare", desc := "(I)F" } : Jvm.MethodName) prog_19_method_88_code (4 : Nat) (Option.some Jvm.ClassFile.FieldType.float)) ∈ lw_all := lw_g (lw_at lw_m10 91 rfl) rfl
theorem q2322 : (Jvm.Cond.methodLink "PlugboardLaw" (316 : Nat) ({ cls := "PlugboardModel", name := "meanRoute", desc := "(I)D" } : Jvm.MethodName)) ∈ lw_all := lw_g (lw_at lw_m10 92 rfl) rfl
theorem q2323 : (Jvm.Cond.instanceMethod ({ cls := "PlugboardModel", name := "meanRoute", desc := "(I)D" } : Jvm.MethodName)) ∈ lw_all := lw_g (lw_at lw_m10 93 rfl) rfl
theorem q2324 : (Jvm.Cond.selects "PlugboardModel" ({ cls := "PlugboardModel", name := "meanRoute", desc := "(I)D" } : Jvm.MethodName) ({ cls := "PlugboardModel", name := "meanRoute", desc := "(I)D" } : Jvm.MethodName)) ∈ lw_all := lw_g (lw_at lw_m10 94 rfl) rfl
theorem q2325 : (Jvm.Cond.code ({ cls := "PlugboardModel", name := "meanRoute", desc := "(I)D" } : Jvm.MethodName) prog_19_method_89_code (6 : Nat) (Option.some Jvm.ClassFile.FieldType.double)) ∈ lw_all := lw_g (lw_at lw_m10 95 rfl) rfl
theorem q2326 : (Jvm.Cond.methodLink "PlugboardLaw" (319 : Nat) ({ cls := "PlugboardModel", name := "area", desc := "(I)J" } : Jvm.MethodName)) ∈ lw_all := lw_g (lw_at lw_m10 96 rfl) rfl
theorem q2327 : (Jvm.Cond.instanceMethod ({ cls := "PlugboardModel", name := "area", desc := "(I)J" } : Jvm.MethodName)) ∈ lw_all := lw_g (lw_at lw_m10 97 rfl) rfl
theorem q2328 : (Jvm.Cond.selects "PlugboardModel" ({ cls := "PlugboardModel", name := "area", desc := "(I)J" } : Jvm.MethodName) ({ cls := "PlugboardModel", name := "area", desc := "(I)J" } : Jvm.MethodName)) ∈ lw_all := lw_g (lw_at lw_m10 98 rfl) rfl
theorem q2329 : (Jvm.Cond.code ({ cls := "PlugboardModel", name := "area", desc := "(I)J" } : Jvm.MethodName) prog_19_method_90_code (5 : Nat) (Option.some Jvm.ClassFile.FieldType.long)) ∈ lw_all := lw_g (lw_at lw_m10 99 rfl) rfl
theorem q2330 : (Jvm.Cond.arrayClass Jvm.ClassFile.FieldType.long) ∈ lw_all := lw_g (lw_at lw_m10 100 rfl) rfl
theorem q2331 : (Jvm.Cond.arrayClass Jvm.ClassFile.FieldType.double) ∈ lw_all := lw_g (lw_at lw_m10 101 rfl) rfl
abbrev rm_L_law : Room := { frames := 8192, cells := 1200144, slots := 5496826, locals := 104096 }
def w_L_law_338 (P : Int32 → AH → Prop) (Z28 : Int32 → Nat → Nat → AH → Prop) (x0 : Option Nat) (x1 : Option Nat) (x2 : Option Nat) (x3 : Option Nat) (x4 : Option Nat) (x5 : Int32) (x6 : Int32) (t0 : Int32) (t1 : Int32) (t2 : Int32) (t3 : Int32) (t4 : Int32) (t5 : Int32) (t6 : Option Nat) (u9 : Nat) (v9 : Nat) (h : AH) : Prop :=
  u9 + 0 ≤ 1200144 ∧ v9 + 0 ≤ 5496826 ∧
  is_c h t6 [4] (
  w_X5_addShape t6 t5 t4 t3 t2 t1 t0 h (fun y338 h338 =>
  u9 + 0 ≤ 1200144 ∧ v9 + 0 ≤ 5496826 ∧
  is_c h338 x2 [4] (
  w_X5_thrown x2 h338 (fun y344 h344 =>
  ((y344 = x6 →
    ((x6 = 0 →
      l_L h344 x3 0 fun y361 =>
      (((lg_cmp y361 (Int32.toInt64 y338)) = 0 →
        Z28 (x5 + 7) u9 v9 h344) ∧
       (¬ (lg_cmp y361 (Int32.toInt64 y338)) = 0 →
        u9 ≤ 1200144 ∧ v9 ≤ 5496826 ∧
        P 0 h344))) ∧
     (¬ x6 = 0 →
      Z28 (x5 + 7) u9 v9 h344))) ∧
   (¬ y344 = x6 →
    u9 ≤ 1200144 ∧ v9 ≤ 5496826 ∧
    P 0 h344))))))
def w_L_law_286 (P : Int32 → AH → Prop) (Z28 : Int32 → Nat → Nat → AH → Prop) (x0 : Option Nat) (x1 : Option Nat) (x2 : Option Nat) (x3 : Option Nat) (x4 : Option Nat) (x5 : Int32) (t0 : Int32) (t1 : Int32) (t2 : Int32) (t3 : Int32) (t4 : Int32) (t5 : Int32) (t6 : Option Nat) (u9 : Nat) (v9 : Nat) (h : AH) : Prop :=
  u9 + 20 ≤ 1200144 ∧ v9 + 295 ≤ 5496826 ∧
  w_X0_addShape t6 t5 t4 t3 t2 t1 t0 x3 h (fun y287 h287 =>
  l_i h287 x0 32 (x5 + 1) fun y298 =>
  l_i h287 x0 32 (x5 + 2) fun y304 =>
  l_i h287 x0 32 (x5 + 3) fun y310 =>
  l_i h287 x0 32 (x5 + 4) fun y316 =>
  l_i h287 x0 32 (x5 + 5) fun y322 =>
  l_i h287 x0 32 (x5 + 6) fun y329 =>
  ((y329 = 0 →
    w_L_law_338 P Z28 x0 x1 x2 x3 x4 x5 y287 0 y322 y316 y310 y304 y298 x2 (u9 + 20) (v9 + 295) h287) ∧
   (¬ y329 = 0 →
    w_L_law_338 P Z28 x0 x1 x2 x3 x4 x5 y287 1 y322 y316 y310 y304 y298 x2 (u9 + 20) (v9 + 295) h287)))
def w_L_law_1224 (P : Int32 → AH → Prop) (Z28 : Int32 → Nat → Nat → AH → Prop) (x0 : Option Nat) (x1 : Option Nat) (x2 : Option Nat) (x3 : Option Nat) (x4 : Option Nat) (x5 : Int32) (t0 : Int64) (t1 : Int64) (u9 : Nat) (v9 : Nat) (h : AH) : Prop :=
  (((lg_cmp t1 t0) = 0 →
    Z28 (x5 + 7) u9 v9 h) ∧
   (¬ (lg_cmp t1 t0) = 0 →
    u9 ≤ 1200144 ∧ v9 ≤ 5496826 ∧
    P 0 h))
def w_L_law_1190 (P : Int32 → AH → Prop) (Z28 : Int32 → Nat → Nat → AH → Prop) (x0 : Option Nat) (x1 : Option Nat) (x2 : Option Nat) (x3 : Option Nat) (x4 : Option Nat) (x5 : Int32) (x6 : Int32) (t0 : Int32) (t1 : Int32) (t2 : Option Nat) (u9 : Nat) (v9 : Nat) (h : AH) : Prop :=
  u9 + 0 ≤ 1200144 ∧ v9 + 0 ≤ 5496826 ∧
  is_c h t2 [4] (
  w_X5_show t2 t1 t0 h (fun y1190 h1190 =>
  u9 + 0 ≤ 1200144 ∧ v9 + 0 ≤ 5496826 ∧
  is_c h1190 x2 [4] (
  w_X5_thrown x2 h1190 (fun y1196 h1196 =>
  ((y1196 = x6 →
    ((x6 = 0 →
      l_L h1196 x3 0 fun y1213 =>
      ((y1190 = 0 →
        w_L_law_1224 P Z28 x0 x1 x2 x3 x4 x5 0 y1213 u9 v9 h1196) ∧
       (¬ y1190 = 0 →
        w_L_law_1224 P Z28 x0 x1 x2 x3 x4 x5 1 y1213 u9 v9 h1196))) ∧
     (¬ x6 = 0 →
      Z28 (x5 + 7) u9 v9 h1196))) ∧
   (¬ y1196 = x6 →
    u9 ≤ 1200144 ∧ v9 ≤ 5496826 ∧
    P 0 h1196))))))
def w_L_law_1163 (P : Int32 → AH → Prop) (Z28 : Int32 → Nat → Nat → AH → Prop) (x0 : Option Nat) (x1 : Option Nat) (x2 : Option Nat) (x3 : Option Nat) (x4 : Option Nat) (x5 : Int32) (t0 : Int32) (t1 : Int32) (t2 : Option Nat) (u9 : Nat) (v9 : Nat) (h : AH) : Prop :=
  u9 + 13 ≤ 1200144 ∧ v9 + 206 ≤ 5496826 ∧
  w_X0_show t2 t1 t0 x3 h (fun y1164 h1164 =>
  l_i h1164 x0 32 (x5 + 1) fun y1175 =>
  l_i h1164 x0 32 (x5 + 2) fun y1181 =>
  ((y1181 = 0 →
    w_L_law_1190 P Z28 x0 x1 x2 x3 x4 x5 y1164 0 y1175 x2 (u9 + 13) (v9 + 206) h1164) ∧
   (¬ y1181 = 0 →
    w_L_law_1190 P Z28 x0 x1 x2 x3 x4 x5 y1164 1 y1175 x2 (u9 + 13) (v9 + 206) h1164)))
def w_L_law_1616 (P : Int32 → AH → Prop) (Z28 : Int32 → Nat → Nat → AH → Prop) (x0 : Option Nat) (x1 : Option Nat) (x2 : Option Nat) (x3 : Option Nat) (x4 : Option Nat) (x5 : Int32) (t0 : Int64) (t1 : Int64) (u9 : Nat) (v9 : Nat) (h : AH) : Prop :=
  (((lg_cmp t1 t0) = 0 →
    Z28 (x5 + 7) u9 v9 h) ∧
   (¬ (lg_cmp t1 t0) = 0 →
    u9 ≤ 1200144 ∧ v9 ≤ 5496826 ∧
    P 0 h))
def w_L_law_1747 (P : Int32 → AH → Prop) (Z28 : Int32 → Nat → Nat → AH → Prop) (x0 : Option Nat) (x1 : Option Nat) (x2 : Option Nat) (x3 : Option Nat) (x4 : Option Nat) (x5 : Int32) (t0 : Int64) (t1 : Int64) (u9 : Nat) (v9 : Nat) (h : AH) : Prop :=
  (((lg_cmp t1 t0) = 0 →
    Z28 (x5 + 7) u9 v9 h) ∧
   (¬ (lg_cmp t1 t0) = 0 →
    u9 ≤ 1200144 ∧ v9 ≤ 5496826 ∧
    P 0 h))
def w_L_law_3168 (P : Int32 → AH → Prop) (Z28 : Int32 → Nat → Nat → AH → Prop) (x0 : Option Nat) (x1 : Option Nat) (x2 : Option Nat) (x3 : Option Nat) (x4 : Option Nat) (x5 : Int32) (t0 : Int64) (t1 : Int64) (u9 : Nat) (v9 : Nat) (h : AH) : Prop :=
  (((lg_cmp t1 t0) = 0 →
    Z28 (x5 + 7) u9 v9 h) ∧
   (¬ (lg_cmp t1 t0) = 0 →
    u9 ≤ 1200144 ∧ v9 ≤ 5496826 ∧
    P 0 h))
def w_L_law_28 (P : Int32 → AH → Prop) (x0 : Option Nat) (x1 : Option Nat) (x2 : Option Nat) (x3 : Option Nat) (x4 : Option Nat) (x5 : Int32) (u9 : Nat) (v9 : Nat) (h : AH) : Prop :=
  ∀ Z28 : Int32 → Nat → Nat → AH → Prop, (∀ x5 u9 v9 h, (
      n_a h x0 fun y31 =>
      (((y31 - 7) < x5 →
        u9 ≤ 1200144 ∧ v9 ≤ 5496826 ∧
        P 1 h) ∧
       (¬ (y31 - 7) < x5 →
        l_i h x0 32 x5 fun y41 =>
        (((y41 &&& 63) = Int32.ofNat 0 →
          l_i h x0 32 (x5 + 1) fun y246 =>
          l_i h x0 32 (x5 + 2) fun y252 =>
          l_i h x0 32 (x5 + 3) fun y258 =>
          l_i h x0 32 (x5 + 4) fun y264 =>
          l_i h x0 32 (x5 + 5) fun y270 =>
          l_i h x0 32 (x5 + 6) fun y277 =>
          ((y277 = 0 →
            w_L_law_286 P Z28 x0 x1 x2 x3 x4 x5 0 y270 y264 y258 y252 y246 x1 u9 v9 h) ∧
           (¬ y277 = 0 →
            w_L_law_286 P Z28 x0 x1 x2 x3 x4 x5 1 y270 y264 y258 y252 y246 x1 u9 v9 h))) ∧
         ((y41 &&& 63) = Int32.ofNat 1 →
          l_i h x0 32 (x5 + 1) fun y380 =>
          l_i h x0 32 (x5 + 2) fun y386 =>
          l_i h x0 32 (x5 + 3) fun y392 =>
          l_i h x0 32 (x5 + 4) fun y398 =>
          u9 + 21 ≤ 1200144 ∧ v9 + 275 ≤ 5496826 ∧
          w_X0_move x1 y380 y386 y392 y398 x3 h (fun y400 h400 =>
          l_i h400 x0 32 (x5 + 1) fun y411 =>
          l_i h400 x0 32 (x5 + 2) fun y417 =>
          l_i h400 x0 32 (x5 + 3) fun y423 =>
          l_i h400 x0 32 (x5 + 4) fun y429 =>
          u9 + 21 + 0 ≤ 1200144 ∧ v9 + 275 + 0 ≤ 5496826 ∧
          is_c h400 x2 [4] (
          w_X5_move x2 y411 y417 y423 y429 h400 (fun y430 h430 =>
          u9 + 21 + 0 ≤ 1200144 ∧ v9 + 275 + 0 ≤ 5496826 ∧
          is_c h430 x2 [4] (
          w_X5_thrown x2 h430 (fun y436 h436 =>
          ((y436 = y400 →
            ((y400 = 0 →
              l_L h436 x3 0 fun y453 =>
              (((lg_cmp y453 (Int32.toInt64 y430)) = 0 →
                Z28 (x5 + 7) (u9 + 21) (v9 + 275) h436) ∧
               (¬ (lg_cmp y453 (Int32.toInt64 y430)) = 0 →
                u9 + 21 ≤ 1200144 ∧ v9 + 275 ≤ 5496826 ∧
                P 0 h436))) ∧
             (¬ y400 = 0 →
              Z28 (x5 + 7) (u9 + 21) (v9 + 275) h436))) ∧
           (¬ y436 = y400 →
            u9 + 21 ≤ 1200144 ∧ v9 + 275 ≤ 5496826 ∧
            P 0 h436)))))))) ∧
         ((y41 &&& 63) = Int32.ofNat 2 →
          l_i h x0 32 (x5 + 1) fun y472 =>
          l_i h x0 32 (x5 + 2) fun y478 =>
          u9 + 17 ≤ 1200144 ∧ v9 + 221 ≤ 5496826 ∧
          w_X0_raise x1 y472 y478 x3 h (fun y480 h480 =>
          l_i h480 x0 32 (x5 + 1) fun y491 =>
          l_i h480 x0 32 (x5 + 2) fun y497 =>
          u9 + 17 + 0 ≤ 1200144 ∧ v9 + 221 + 0 ≤ 5496826 ∧
          is_c h480 x2 [4] (
          w_X5_raise x2 y491 y497 h480 (fun y498 h498 =>
          u9 + 17 + 0 ≤ 1200144 ∧ v9 + 221 + 0 ≤ 5496826 ∧
          is_c h498 x2 [4] (
          w_X5_thrown x2 h498 (fun y504 h504 =>
          ((y504 = y480 →
            ((y480 = 0 →
              l_L h504 x3 0 fun y521 =>
              (((lg_cmp y521 (Int32.toInt64 y498)) = 0 →
                Z28 (x5 + 7) (u9 + 17) (v9 + 221) h504) ∧
               (¬ (lg_cmp y521 (Int32.toInt64 y498)) = 0 →
                u9 + 17 ≤ 1200144 ∧ v9 + 221 ≤ 5496826 ∧
                P 0 h504))) ∧
             (¬ y480 = 0 →
              Z28 (x5 + 7) (u9 + 17) (v9 + 221) h504))) ∧
           (¬ y504 = y480 →
            u9 + 17 ≤ 1200144 ∧ v9 + 221 ≤ 5496826 ∧
            P 0 h504)))))))) ∧
         ((y41 &&& 63) = Int32.ofNat 3 →
          l_i h x0 32 (x5 + 1) fun y540 =>
          l_i h x0 32 (x5 + 2) fun y546 =>
          u9 + 17 ≤ 1200144 ∧ v9 + 221 ≤ 5496826 ∧
          w_X0_lower x1 y540 y546 x3 h (fun y548 h548 =>
          l_i h548 x0 32 (x5 + 1) fun y559 =>
          l_i h548 x0 32 (x5 + 2) fun y565 =>
          u9 + 17 + 0 ≤ 1200144 ∧ v9 + 221 + 0 ≤ 5496826 ∧
          is_c h548 x2 [4] (
          w_X5_lower x2 y559 y565 h548 (fun y566 h566 =>
          u9 + 17 + 0 ≤ 1200144 ∧ v9 + 221 + 0 ≤ 5496826 ∧
          is_c h566 x2 [4] (
          w_X5_thrown x2 h566 (fun y572 h572 =>
          ((y572 = y548 →
            ((y548 = 0 →
              l_L h572 x3 0 fun y589 =>
              (((lg_cmp y589 (Int32.toInt64 y566)) = 0 →
                Z28 (x5 + 7) (u9 + 17) (v9 + 221) h572) ∧
               (¬ (lg_cmp y589 (Int32.toInt64 y566)) = 0 →
                u9 + 17 ≤ 1200144 ∧ v9 + 221 ≤ 5496826 ∧
                P 0 h572))) ∧
             (¬ y548 = 0 →
              Z28 (x5 + 7) (u9 + 17) (v9 + 221) h572))) ∧
           (¬ y572 = y548 →
            u9 + 17 ≤ 1200144 ∧ v9 + 221 ≤ 5496826 ∧
            P 0 h572)))))))) ∧
         ((y41 &&& 63) = Int32.ofNat 4 →
          l_i h x0 32 (x5 + 1) fun y608 =>
          l_i h x0 32 (x5 + 2) fun y614 =>
          l_i h x0 32 (x5 + 3) fun y620 =>
          u9 + 21 ≤ 1200144 ∧ v9 + 240 ≤ 5496826 ∧
          w_X0_putAbove x1 y608 y614 y620 x3 h (fun y622 h622 =>
          l_i h622 x0 32 (x5 + 1) fun y633 =>
          l_i h622 x0 32 (x5 + 2) fun y639 =>
          l_i h622 x0 32 (x5 + 3) fun y645 =>
          u9 + 21 + 0 ≤ 1200144 ∧ v9 + 240 + 0 ≤ 5496826 ∧
          is_c h622 x2 [4] (
          w_X5_putAbove x2 y633 y639 y645 h622 (fun y646 h646 =>
          u9 + 21 + 0 ≤ 1200144 ∧ v9 + 240 + 0 ≤ 5496826 ∧
          is_c h646 x2 [4] (
          w_X5_thrown x2 h646 (fun y652 h652 =>
          ((y652 = y622 →
            ((y622 = 0 →
              l_L h652 x3 0 fun y669 =>
              (((lg_cmp y669 (Int32.toInt64 y646)) = 0 →
                Z28 (x5 + 7) (u9 + 21) (v9 + 240) h652) ∧
               (¬ (lg_cmp y669 (Int32.toInt64 y646)) = 0 →
                u9 + 21 ≤ 1200144 ∧ v9 + 240 ≤ 5496826 ∧
                P 0 h652))) ∧
             (¬ y622 = 0 →
              Z28 (x5 + 7) (u9 + 21) (v9 + 240) h652))) ∧
           (¬ y652 = y622 →
            u9 + 21 ≤ 1200144 ∧ v9 + 240 ≤ 5496826 ∧
            P 0 h652)))))))) ∧
         ((y41 &&& 63) = Int32.ofNat 5 →
          l_i h x0 32 (x5 + 1) fun y688 =>
          l_i h x0 32 (x5 + 2) fun y694 =>
          u9 + 15 ≤ 1200144 ∧ v9 + 218 ≤ 5496826 ∧
          w_X0_remove x1 y688 y694 x3 h (fun y696 h696 =>
          l_i h696 x0 32 (x5 + 1) fun y707 =>
          l_i h696 x0 32 (x5 + 2) fun y713 =>
          u9 + 15 + 0 ≤ 1200144 ∧ v9 + 218 + 0 ≤ 5496826 ∧
          is_c h696 x2 [4] (
          w_X5_remove x2 y707 y713 h696 (fun y714 h714 =>
          u9 + 15 + 0 ≤ 1200144 ∧ v9 + 218 + 0 ≤ 5496826 ∧
          is_c h714 x2 [4] (
          w_X5_thrown x2 h714 (fun y720 h720 =>
          ((y720 = y696 →
            ((y696 = 0 →
              l_L h720 x3 0 fun y737 =>
              (((lg_cmp y737 (Int32.toInt64 y714)) = 0 →
                Z28 (x5 + 7) (u9 + 15) (v9 + 218) h720) ∧
               (¬ (lg_cmp y737 (Int32.toInt64 y714)) = 0 →
                u9 + 15 ≤ 1200144 ∧ v9 + 218 ≤ 5496826 ∧
                P 0 h720))) ∧
             (¬ y696 = 0 →
              Z28 (x5 + 7) (u9 + 15) (v9 + 218) h720))) ∧
           (¬ y720 = y696 →
            u9 + 15 ≤ 1200144 ∧ v9 + 218 ≤ 5496826 ∧
            P 0 h720)))))))) ∧
         ((y41 &&& 63) = Int32.ofNat 6 →
          l_i h x0 32 (x5 + 1) fun y756 =>
          l_i h x0 32 (x5 + 2) fun y762 =>
          u9 + 17 ≤ 1200144 ∧ v9 + 221 ≤ 5496826 ∧
          w_X0_lock x1 y756 y762 x3 h (fun y764 h764 =>
          l_i h764 x0 32 (x5 + 1) fun y775 =>
          l_i h764 x0 32 (x5 + 2) fun y781 =>
          u9 + 17 + 0 ≤ 1200144 ∧ v9 + 221 + 0 ≤ 5496826 ∧
          is_c h764 x2 [4] (
          w_X5_lock x2 y775 y781 h764 (fun y782 h782 =>
          u9 + 17 + 0 ≤ 1200144 ∧ v9 + 221 + 0 ≤ 5496826 ∧
          is_c h782 x2 [4] (
          w_X5_thrown x2 h782 (fun y788 h788 =>
          ((y788 = y764 →
            ((y764 = 0 →
              l_L h788 x3 0 fun y805 =>
              (((lg_cmp y805 (Int32.toInt64 y782)) = 0 →
                Z28 (x5 + 7) (u9 + 17) (v9 + 221) h788) ∧
               (¬ (lg_cmp y805 (Int32.toInt64 y782)) = 0 →
                u9 + 17 ≤ 1200144 ∧ v9 + 221 ≤ 5496826 ∧
                P 0 h788))) ∧
             (¬ y764 = 0 →
              Z28 (x5 + 7) (u9 + 17) (v9 + 221) h788))) ∧
           (¬ y788 = y764 →
            u9 + 17 ≤ 1200144 ∧ v9 + 221 ≤ 5496826 ∧
            P 0 h788)))))))) ∧
         ((y41 &&& 63) = Int32.ofNat 7 →
          l_i h x0 32 (x5 + 1) fun y824 =>
          l_i h x0 32 (x5 + 2) fun y830 =>
          u9 + 15 ≤ 1200144 ∧ v9 + 218 ≤ 5496826 ∧
          w_X0_unlock x1 y824 y830 x3 h (fun y832 h832 =>
          l_i h832 x0 32 (x5 + 1) fun y843 =>
          l_i h832 x0 32 (x5 + 2) fun y849 =>
          u9 + 15 + 0 ≤ 1200144 ∧ v9 + 218 + 0 ≤ 5496826 ∧
          is_c h832 x2 [4] (
          w_X5_unlock x2 y843 y849 h832 (fun y850 h850 =>
          u9 + 15 + 0 ≤ 1200144 ∧ v9 + 218 + 0 ≤ 5496826 ∧
          is_c h850 x2 [4] (
          w_X5_thrown x2 h850 (fun y856 h856 =>
          ((y856 = y832 →
            ((y832 = 0 →
              l_L h856 x3 0 fun y873 =>
              (((lg_cmp y873 (Int32.toInt64 y850)) = 0 →
                Z28 (x5 + 7) (u9 + 15) (v9 + 218) h856) ∧
               (¬ (lg_cmp y873 (Int32.toInt64 y850)) = 0 →
                u9 + 15 ≤ 1200144 ∧ v9 + 218 ≤ 5496826 ∧
                P 0 h856))) ∧
             (¬ y832 = 0 →
              Z28 (x5 + 7) (u9 + 15) (v9 + 218) h856))) ∧
           (¬ y856 = y832 →
            u9 + 15 ≤ 1200144 ∧ v9 + 218 ≤ 5496826 ∧
            P 0 h856)))))))) ∧
         ((y41 &&& 63) = Int32.ofNat 8 →
          l_i h x0 32 (x5 + 1) fun y892 =>
          l_i h x0 32 (x5 + 2) fun y898 =>
          l_i h x0 32 (x5 + 3) fun y904 =>
          l_i h x0 32 (x5 + 4) fun y911 =>
          l_i h x0 32 (x5 + 5) fun y917 =>
          u9 + 22 ≤ 1200144 ∧ v9 + 304 ≤ 5496826 ∧
          w_X0_connect x1 y892 y898 ((Int32.toUInt32 y904 % 65536).toInt32) y911 ((Int32.toUInt32 y917 % 65536).toInt32) x3 h (fun y920 h920 =>
          l_i h920 x0 32 (x5 + 1) fun y931 =>
          l_i h920 x0 32 (x5 + 2) fun y937 =>
          l_i h920 x0 32 (x5 + 3) fun y943 =>
          l_i h920 x0 32 (x5 + 4) fun y950 =>
          l_i h920 x0 32 (x5 + 5) fun y956 =>
          u9 + 22 + 0 ≤ 1200144 ∧ v9 + 304 + 0 ≤ 5496826 ∧
          is_c h920 x2 [4] (
          w_X5_connect x2 y931 y937 ((Int32.toUInt32 y943 % 65536).toInt32) y950 ((Int32.toUInt32 y956 % 65536).toInt32) h920 (fun y958 h958 =>
          u9 + 22 + 0 ≤ 1200144 ∧ v9 + 304 + 0 ≤ 5496826 ∧
          is_c h958 x2 [4] (
          w_X5_thrown x2 h958 (fun y964 h964 =>
          ((y964 = y920 →
            ((y920 = 0 →
              l_L h964 x3 0 fun y981 =>
              (((lg_cmp y981 (Int32.toInt64 y958)) = 0 →
                Z28 (x5 + 7) (u9 + 22) (v9 + 304) h964) ∧
               (¬ (lg_cmp y981 (Int32.toInt64 y958)) = 0 →
                u9 + 22 ≤ 1200144 ∧ v9 + 304 ≤ 5496826 ∧
                P 0 h964))) ∧
             (¬ y920 = 0 →
              Z28 (x5 + 7) (u9 + 22) (v9 + 304) h964))) ∧
           (¬ y964 = y920 →
            u9 + 22 ≤ 1200144 ∧ v9 + 304 ≤ 5496826 ∧
            P 0 h964)))))))) ∧
         ((y41 &&& 63) = Int32.ofNat 9 →
          l_i h x0 32 (x5 + 1) fun y1000 =>
          l_i h x0 32 (x5 + 2) fun y1006 =>
          u9 + 14 ≤ 1200144 ∧ v9 + 212 ≤ 5496826 ∧
          w_X0_disconnect x1 y1000 y1006 x3 h (fun y1008 h1008 =>
          l_i h1008 x0 32 (x5 + 1) fun y1019 =>
          l_i h1008 x0 32 (x5 + 2) fun y1025 =>
          u9 + 14 + 0 ≤ 1200144 ∧ v9 + 212 + 0 ≤ 5496826 ∧
          is_c h1008 x2 [4] (
          w_X5_disconnect x2 y1019 y1025 h1008 (fun y1026 h1026 =>
          u9 + 14 + 0 ≤ 1200144 ∧ v9 + 212 + 0 ≤ 5496826 ∧
          is_c h1026 x2 [4] (
          w_X5_thrown x2 h1026 (fun y1032 h1032 =>
          ((y1032 = y1008 →
            ((y1008 = 0 →
              l_L h1032 x3 0 fun y1049 =>
              (((lg_cmp y1049 (Int32.toInt64 y1026)) = 0 →
                Z28 (x5 + 7) (u9 + 14) (v9 + 212) h1032) ∧
               (¬ (lg_cmp y1049 (Int32.toInt64 y1026)) = 0 →
                u9 + 14 ≤ 1200144 ∧ v9 + 212 ≤ 5496826 ∧
                P 0 h1032))) ∧
             (¬ y1008 = 0 →
              Z28 (x5 + 7) (u9 + 14) (v9 + 212) h1032))) ∧
           (¬ y1032 = y1008 →
            u9 + 14 ≤ 1200144 ∧ v9 + 212 ≤ 5496826 ∧
            P 0 h1032)))))))) ∧
         ((y41 &&& 63) = Int32.ofNat 10 →
          l_i h x0 32 (x5 + 1) fun y1068 =>
          l_i h x0 32 (x5 + 2) fun y1074 =>
          l_i h x0 32 (x5 + 3) fun y1080 =>
          u9 + 17 ≤ 1200144 ∧ v9 + 225 ≤ 5496826 ∧
          w_X0_vote x1 y1068 y1074 y1080 x3 h (fun y1082 h1082 =>
          l_i h1082 x0 32 (x5 + 1) fun y1093 =>
          l_i h1082 x0 32 (x5 + 2) fun y1099 =>
          l_i h1082 x0 32 (x5 + 3) fun y1105 =>
          u9 + 17 + 0 ≤ 1200144 ∧ v9 + 225 + 0 ≤ 5496826 ∧
          is_c h1082 x2 [4] (
          w_X5_vote x2 y1093 y1099 y1105 h1082 (fun y1106 h1106 =>
          u9 + 17 + 0 ≤ 1200144 ∧ v9 + 225 + 0 ≤ 5496826 ∧
          is_c h1106 x2 [4] (
          w_X5_thrown x2 h1106 (fun y1112 h1112 =>
          ((y1112 = y1082 →
            ((y1082 = 0 →
              l_L h1112 x3 0 fun y1129 =>
              (((lg_cmp y1129 (Int32.toInt64 y1106)) = 0 →
                Z28 (x5 + 7) (u9 + 17) (v9 + 225) h1112) ∧
               (¬ (lg_cmp y1129 (Int32.toInt64 y1106)) = 0 →
                u9 + 17 ≤ 1200144 ∧ v9 + 225 ≤ 5496826 ∧
                P 0 h1112))) ∧
             (¬ y1082 = 0 →
              Z28 (x5 + 7) (u9 + 17) (v9 + 225) h1112))) ∧
           (¬ y1112 = y1082 →
            u9 + 17 ≤ 1200144 ∧ v9 + 225 ≤ 5496826 ∧
            P 0 h1112)))))))) ∧
         ((y41 &&& 63) = Int32.ofNat 11 →
          l_i h x0 32 (x5 + 1) fun y1148 =>
          l_i h x0 32 (x5 + 2) fun y1154 =>
          ((y1154 = 0 →
            w_L_law_1163 P Z28 x0 x1 x2 x3 x4 x5 0 y1148 x1 u9 v9 h) ∧
           (¬ y1154 = 0 →
            w_L_law_1163 P Z28 x0 x1 x2 x3 x4 x5 1 y1148 x1 u9 v9 h))) ∧
         ((y41 &&& 63) = Int32.ofNat 12 →
          l_i h x0 32 (x5 + 1) fun y1239 =>
          u9 + 16 ≤ 1200144 ∧ v9 + 261 ≤ 5496826 ∧
          w_X0_takeBack x1 y1239 x3 h (fun y1241 h1241 =>
          l_i h1241 x0 32 (x5 + 1) fun y1252 =>
          u9 + 16 + 0 ≤ 1200144 ∧ v9 + 261 + 0 ≤ 5496826 ∧
          is_c h1241 x2 [4] (
          w_X5_takeBack x2 y1252 h1241 (fun y1253 h1253 =>
          u9 + 16 + 0 ≤ 1200144 ∧ v9 + 261 + 0 ≤ 5496826 ∧
          is_c h1253 x2 [4] (
          w_X5_thrown x2 h1253 (fun y1259 h1259 =>
          ((y1259 = y1241 →
            ((y1241 = 0 →
              l_L h1259 x3 0 fun y1276 =>
              (((lg_cmp y1276 (Int32.toInt64 y1253)) = 0 →
                Z28 (x5 + 7) (u9 + 16) (v9 + 261) h1259) ∧
               (¬ (lg_cmp y1276 (Int32.toInt64 y1253)) = 0 →
                u9 + 16 ≤ 1200144 ∧ v9 + 261 ≤ 5496826 ∧
                P 0 h1259))) ∧
             (¬ y1241 = 0 →
              Z28 (x5 + 7) (u9 + 16) (v9 + 261) h1259))) ∧
           (¬ y1259 = y1241 →
            u9 + 16 ≤ 1200144 ∧ v9 + 261 ≤ 5496826 ∧
            P 0 h1259)))))))) ∧
         ((y41 &&& 63) = Int32.ofNat 13 →
          l_i h x0 32 (x5 + 1) fun y1295 =>
          l_i h x0 32 (x5 + 2) fun y1301 =>
          u9 + 6 ≤ 1200144 ∧ v9 + 83 ≤ 5496826 ∧
          w_X0_deliver x1 y1295 y1301 x3 h (fun y1303 h1303 =>
          l_i h1303 x0 32 (x5 + 1) fun y1314 =>
          l_i h1303 x0 32 (x5 + 2) fun y1320 =>
          u9 + 6 + 0 ≤ 1200144 ∧ v9 + 83 + 0 ≤ 5496826 ∧
          is_c h1303 x2 [4] (
          w_X5_deliver x2 y1314 y1320 h1303 (fun y1321 h1321 =>
          u9 + 6 + 0 ≤ 1200144 ∧ v9 + 83 + 0 ≤ 5496826 ∧
          is_c h1321 x2 [4] (
          w_X5_thrown x2 h1321 (fun y1327 h1327 =>
          ((y1327 = y1303 →
            ((y1303 = 0 →
              l_L h1327 x3 0 fun y1344 =>
              (((lg_cmp y1344 (Int32.toInt64 y1321)) = 0 →
                Z28 (x5 + 7) (u9 + 6) (v9 + 83) h1327) ∧
               (¬ (lg_cmp y1344 (Int32.toInt64 y1321)) = 0 →
                u9 + 6 ≤ 1200144 ∧ v9 + 83 ≤ 5496826 ∧
                P 0 h1327))) ∧
             (¬ y1303 = 0 →
              Z28 (x5 + 7) (u9 + 6) (v9 + 83) h1327))) ∧
           (¬ y1327 = y1303 →
            u9 + 6 ≤ 1200144 ∧ v9 + 83 ≤ 5496826 ∧
            P 0 h1327)))))))) ∧
         ((y41 &&& 63) = Int32.ofNat 14 →
          l_i h x0 32 (x5 + 1) fun y1363 =>
          l_i h x0 32 (x5 + 2) fun y1369 =>
          u9 + 4000 ≤ 1200144 ∧ v9 + 60000 ≤ 5496826 ∧
          w_X0_sync x1 y1363 y1369 x3 h (fun y1371 h1371 =>
          l_i h1371 x0 32 (x5 + 1) fun y1382 =>
          l_i h1371 x0 32 (x5 + 2) fun y1388 =>
          u9 + 4000 + 0 ≤ 1200144 ∧ v9 + 60000 + 0 ≤ 5496826 ∧
          is_c h1371 x2 [4] (
          w_X5_sync x2 y1382 y1388 h1371 (fun y1389 h1389 =>
          u9 + 4000 + 0 ≤ 1200144 ∧ v9 + 60000 + 0 ≤ 5496826 ∧
          is_c h1389 x2 [4] (
          w_X5_thrown x2 h1389 (fun y1395 h1395 =>
          ((y1395 = y1371 →
            ((y1371 = 0 →
              l_L h1395 x3 0 fun y1412 =>
              (((lg_cmp y1412 (Int32.toInt64 y1389)) = 0 →
                Z28 (x5 + 7) (u9 + 4000) (v9 + 60000) h1395) ∧
               (¬ (lg_cmp y1412 (Int32.toInt64 y1389)) = 0 →
                u9 + 4000 ≤ 1200144 ∧ v9 + 60000 ≤ 5496826 ∧
                P 0 h1395))) ∧
             (¬ y1371 = 0 →
              Z28 (x5 + 7) (u9 + 4000) (v9 + 60000) h1395))) ∧
           (¬ y1395 = y1371 →
            u9 + 4000 ≤ 1200144 ∧ v9 + 60000 ≤ 5496826 ∧
            P 0 h1395)))))))) ∧
         ((y41 &&& 63) = Int32.ofNat 15 →
          u9 + 0 ≤ 1200144 ∧ v9 + 0 ≤ 5496826 ∧
          is_c h x1 [0] (
          w_X1_operations x1 h (fun y1426 h1426 =>
          u9 + 0 ≤ 1200144 ∧ v9 + 0 ≤ 5496826 ∧
          is_c h1426 x2 [4] (
          w_X5_operations x2 h1426 (fun y1430 h1430 =>
          ((y1426 = y1430 →
            Z28 (x5 + 7) u9 v9 h1430) ∧
           (¬ y1426 = y1430 →
            u9 ≤ 1200144 ∧ v9 ≤ 5496826 ∧
            P 0 h1430))))))) ∧
         ((y41 &&& 63) = Int32.ofNat 16 →
          l_i h x0 32 (x5 + 1) fun y1444 =>
          u9 + 1 ≤ 1200144 ∧ v9 + 6 ≤ 5496826 ∧
          w_X0_userOf x1 y1444 x3 h (fun y1446 h1446 =>
          l_i h1446 x0 32 (x5 + 1) fun y1457 =>
          u9 + 1 + 0 ≤ 1200144 ∧ v9 + 6 + 0 ≤ 5496826 ∧
          is_c h1446 x2 [4] (
          w_X5_userOf x2 y1457 h1446 (fun y1458 h1458 =>
          u9 + 1 + 0 ≤ 1200144 ∧ v9 + 6 + 0 ≤ 5496826 ∧
          is_c h1458 x2 [4] (
          w_X5_thrown x2 h1458 (fun y1464 h1464 =>
          ((y1464 = y1446 →
            ((y1446 = 0 →
              l_L h1464 x3 0 fun y1481 =>
              (((lg_cmp y1481 (Int32.toInt64 y1458)) = 0 →
                Z28 (x5 + 7) (u9 + 1) (v9 + 6) h1464) ∧
               (¬ (lg_cmp y1481 (Int32.toInt64 y1458)) = 0 →
                u9 + 1 ≤ 1200144 ∧ v9 + 6 ≤ 5496826 ∧
                P 0 h1464))) ∧
             (¬ y1446 = 0 →
              Z28 (x5 + 7) (u9 + 1) (v9 + 6) h1464))) ∧
           (¬ y1464 = y1446 →
            u9 + 1 ≤ 1200144 ∧ v9 + 6 ≤ 5496826 ∧
            P 0 h1464)))))))) ∧
         ((y41 &&& 63) = Int32.ofNat 17 →
          l_i h x0 32 (x5 + 1) fun y1500 =>
          u9 + 1 ≤ 1200144 ∧ v9 + 6 ≤ 5496826 ∧
          w_X0_clockOf x1 y1500 x3 h (fun y1502 h1502 =>
          l_i h1502 x0 32 (x5 + 1) fun y1513 =>
          u9 + 1 + 0 ≤ 1200144 ∧ v9 + 6 + 0 ≤ 5496826 ∧
          is_c h1502 x2 [4] (
          w_X5_clockOf x2 y1513 h1502 (fun y1514 h1514 =>
          u9 + 1 + 0 ≤ 1200144 ∧ v9 + 6 + 0 ≤ 5496826 ∧
          is_c h1514 x2 [4] (
          w_X5_thrown x2 h1514 (fun y1520 h1520 =>
          ((y1520 = y1502 →
            ((y1502 = 0 →
              l_L h1520 x3 0 fun y1537 =>
              (((lg_cmp y1537 (Int32.toInt64 y1514)) = 0 →
                Z28 (x5 + 7) (u9 + 1) (v9 + 6) h1520) ∧
               (¬ (lg_cmp y1537 (Int32.toInt64 y1514)) = 0 →
                u9 + 1 ≤ 1200144 ∧ v9 + 6 ≤ 5496826 ∧
                P 0 h1520))) ∧
             (¬ y1502 = 0 →
              Z28 (x5 + 7) (u9 + 1) (v9 + 6) h1520))) ∧
           (¬ y1520 = y1502 →
            u9 + 1 ≤ 1200144 ∧ v9 + 6 ≤ 5496826 ∧
            P 0 h1520)))))))) ∧
         ((y41 &&& 63) = Int32.ofNat 18 →
          l_i h x0 32 (x5 + 1) fun y1556 =>
          l_i h x0 32 (x5 + 2) fun y1562 =>
          u9 + 3 ≤ 1200144 ∧ v9 + 13 ≤ 5496826 ∧
          w_X0_knows x1 y1556 y1562 x3 h (fun y1564 h1564 =>
          l_i h1564 x0 32 (x5 + 1) fun y1575 =>
          l_i h1564 x0 32 (x5 + 2) fun y1581 =>
          u9 + 3 + 0 ≤ 1200144 ∧ v9 + 13 + 0 ≤ 5496826 ∧
          is_c h1564 x2 [4] (
          w_X5_knows x2 y1575 y1581 h1564 (fun y1582 h1582 =>
          u9 + 3 + 0 ≤ 1200144 ∧ v9 + 13 + 0 ≤ 5496826 ∧
          is_c h1582 x2 [4] (
          w_X5_thrown x2 h1582 (fun y1588 h1588 =>
          ((y1588 = y1564 →
            ((y1564 = 0 →
              l_L h1588 x3 0 fun y1605 =>
              ((y1582 = 0 →
                w_L_law_1616 P Z28 x0 x1 x2 x3 x4 x5 0 y1605 (u9 + 3) (v9 + 13) h1588) ∧
               (¬ y1582 = 0 →
                w_L_law_1616 P Z28 x0 x1 x2 x3 x4 x5 1 y1605 (u9 + 3) (v9 + 13) h1588))) ∧
             (¬ y1564 = 0 →
              Z28 (x5 + 7) (u9 + 3) (v9 + 13) h1588))) ∧
           (¬ y1588 = y1564 →
            u9 + 3 ≤ 1200144 ∧ v9 + 13 ≤ 5496826 ∧
            P 0 h1588)))))))) ∧
         ((y41 &&& 63) = Int32.ofNat 19 →
          l_i h x0 32 (x5 + 1) fun y1631 =>
          u9 + 2 ≤ 1200144 ∧ v9 + 7 ≤ 5496826 ∧
          w_X0_shapes x1 y1631 x3 h (fun y1633 h1633 =>
          l_i h1633 x0 32 (x5 + 1) fun y1644 =>
          u9 + 2 + 0 ≤ 1200144 ∧ v9 + 7 + 0 ≤ 5496826 ∧
          is_c h1633 x2 [4] (
          w_X5_shapes x2 y1644 h1633 (fun y1645 h1645 =>
          u9 + 2 + 0 ≤ 1200144 ∧ v9 + 7 + 0 ≤ 5496826 ∧
          is_c h1645 x2 [4] (
          w_X5_thrown x2 h1645 (fun y1651 h1651 =>
          ((y1651 = y1633 →
            ((y1633 = 0 →
              l_L h1651 x3 0 fun y1668 =>
              (((lg_cmp y1668 (Int32.toInt64 y1645)) = 0 →
                Z28 (x5 + 7) (u9 + 2) (v9 + 7) h1651) ∧
               (¬ (lg_cmp y1668 (Int32.toInt64 y1645)) = 0 →
                u9 + 2 ≤ 1200144 ∧ v9 + 7 ≤ 5496826 ∧
                P 0 h1651))) ∧
             (¬ y1633 = 0 →
              Z28 (x5 + 7) (u9 + 2) (v9 + 7) h1651))) ∧
           (¬ y1651 = y1633 →
            u9 + 2 ≤ 1200144 ∧ v9 + 7 ≤ 5496826 ∧
            P 0 h1651)))))))) ∧
         ((y41 &&& 63) = Int32.ofNat 20 →
          l_i h x0 32 (x5 + 1) fun y1687 =>
          l_i h x0 32 (x5 + 2) fun y1693 =>
          u9 + 2 ≤ 1200144 ∧ v9 + 7 ≤ 5496826 ∧
          w_X0_sees x1 y1687 y1693 x3 h (fun y1695 h1695 =>
          l_i h1695 x0 32 (x5 + 1) fun y1706 =>
          l_i h1695 x0 32 (x5 + 2) fun y1712 =>
          u9 + 2 + 0 ≤ 1200144 ∧ v9 + 7 + 0 ≤ 5496826 ∧
          is_c h1695 x2 [4] (
          w_X5_sees x2 y1706 y1712 h1695 (fun y1713 h1713 =>
          u9 + 2 + 0 ≤ 1200144 ∧ v9 + 7 + 0 ≤ 5496826 ∧
          is_c h1713 x2 [4] (
          w_X5_thrown x2 h1713 (fun y1719 h1719 =>
          ((y1719 = y1695 →
            ((y1695 = 0 →
              l_L h1719 x3 0 fun y1736 =>
              ((y1713 = 0 →
                w_L_law_1747 P Z28 x0 x1 x2 x3 x4 x5 0 y1736 (u9 + 2) (v9 + 7) h1719) ∧
               (¬ y1713 = 0 →
                w_L_law_1747 P Z28 x0 x1 x2 x3 x4 x5 1 y1736 (u9 + 2) (v9 + 7) h1719))) ∧
             (¬ y1695 = 0 →
              Z28 (x5 + 7) (u9 + 2) (v9 + 7) h1719))) ∧
           (¬ y1719 = y1695 →
            u9 + 2 ≤ 1200144 ∧ v9 + 7 ≤ 5496826 ∧
            P 0 h1719)))))))) ∧
         ((y41 &&& 63) = Int32.ofNat 21 →
          l_i h x0 32 (x5 + 1) fun y1762 =>
          l_i h x0 32 (x5 + 2) fun y1768 =>
          u9 + 3 ≤ 1200144 ∧ v9 + 13 ≤ 5496826 ∧
          w_X0_columnOf x1 y1762 y1768 x3 h (fun y1770 h1770 =>
          l_i h1770 x0 32 (x5 + 1) fun y1781 =>
          l_i h1770 x0 32 (x5 + 2) fun y1787 =>
          u9 + 3 + 0 ≤ 1200144 ∧ v9 + 13 + 0 ≤ 5496826 ∧
          is_c h1770 x2 [4] (
          w_X5_columnOf x2 y1781 y1787 h1770 (fun y1788 h1788 =>
          u9 + 3 + 0 ≤ 1200144 ∧ v9 + 13 + 0 ≤ 5496826 ∧
          is_c h1788 x2 [4] (
          w_X5_thrown x2 h1788 (fun y1794 h1794 =>
          ((y1794 = y1770 →
            ((y1770 = 0 →
              l_L h1794 x3 0 fun y1811 =>
              (((lg_cmp y1811 (Int32.toInt64 y1788)) = 0 →
                Z28 (x5 + 7) (u9 + 3) (v9 + 13) h1794) ∧
               (¬ (lg_cmp y1811 (Int32.toInt64 y1788)) = 0 →
                u9 + 3 ≤ 1200144 ∧ v9 + 13 ≤ 5496826 ∧
                P 0 h1794))) ∧
             (¬ y1770 = 0 →
              Z28 (x5 + 7) (u9 + 3) (v9 + 13) h1794))) ∧
           (¬ y1794 = y1770 →
            u9 + 3 ≤ 1200144 ∧ v9 + 13 ≤ 5496826 ∧
            P 0 h1794)))))))) ∧
         ((y41 &&& 63) = Int32.ofNat 22 →
          l_i h x0 32 (x5 + 1) fun y1830 =>
          l_i h x0 32 (x5 + 2) fun y1836 =>
          u9 + 3 ≤ 1200144 ∧ v9 + 13 ≤ 5496826 ∧
          w_X0_rowOf x1 y1830 y1836 x3 h (fun y1838 h1838 =>
          l_i h1838 x0 32 (x5 + 1) fun y1849 =>
          l_i h1838 x0 32 (x5 + 2) fun y1855 =>
          u9 + 3 + 0 ≤ 1200144 ∧ v9 + 13 + 0 ≤ 5496826 ∧
          is_c h1838 x2 [4] (
          w_X5_rowOf x2 y1849 y1855 h1838 (fun y1856 h1856 =>
          u9 + 3 + 0 ≤ 1200144 ∧ v9 + 13 + 0 ≤ 5496826 ∧
          is_c h1856 x2 [4] (
          w_X5_thrown x2 h1856 (fun y1862 h1862 =>
          ((y1862 = y1838 →
            ((y1838 = 0 →
              l_L h1862 x3 0 fun y1879 =>
              (((lg_cmp y1879 (Int32.toInt64 y1856)) = 0 →
                Z28 (x5 + 7) (u9 + 3) (v9 + 13) h1862) ∧
               (¬ (lg_cmp y1879 (Int32.toInt64 y1856)) = 0 →
                u9 + 3 ≤ 1200144 ∧ v9 + 13 ≤ 5496826 ∧
                P 0 h1862))) ∧
             (¬ y1838 = 0 →
              Z28 (x5 + 7) (u9 + 3) (v9 + 13) h1862))) ∧
           (¬ y1862 = y1838 →
            u9 + 3 ≤ 1200144 ∧ v9 + 13 ≤ 5496826 ∧
            P 0 h1862)))))))) ∧
         ((y41 &&& 63) = Int32.ofNat 23 →
          l_i h x0 32 (x5 + 1) fun y1898 =>
          l_i h x0 32 (x5 + 2) fun y1904 =>
          u9 + 3 ≤ 1200144 ∧ v9 + 13 ≤ 5496826 ∧
          w_X0_rankOf x1 y1898 y1904 x3 h (fun y1906 h1906 =>
          l_i h1906 x0 32 (x5 + 1) fun y1917 =>
          l_i h1906 x0 32 (x5 + 2) fun y1923 =>
          u9 + 3 + 0 ≤ 1200144 ∧ v9 + 13 + 0 ≤ 5496826 ∧
          is_c h1906 x2 [4] (
          w_X5_rankOf x2 y1917 y1923 h1906 (fun y1924 h1924 =>
          u9 + 3 + 0 ≤ 1200144 ∧ v9 + 13 + 0 ≤ 5496826 ∧
          is_c h1924 x2 [4] (
          w_X5_thrown x2 h1924 (fun y1930 h1930 =>
          ((y1930 = y1906 →
            ((y1906 = 0 →
              l_L h1930 x3 0 fun y1947 =>
              (((lg_cmp y1947 (Int32.toInt64 y1924)) = 0 →
                Z28 (x5 + 7) (u9 + 3) (v9 + 13) h1930) ∧
               (¬ (lg_cmp y1947 (Int32.toInt64 y1924)) = 0 →
                u9 + 3 ≤ 1200144 ∧ v9 + 13 ≤ 5496826 ∧
                P 0 h1930))) ∧
             (¬ y1906 = 0 →
              Z28 (x5 + 7) (u9 + 3) (v9 + 13) h1930))) ∧
           (¬ y1930 = y1906 →
            u9 + 3 ≤ 1200144 ∧ v9 + 13 ≤ 5496826 ∧
            P 0 h1930)))))))) ∧
         ((y41 &&& 63) = Int32.ofNat 24 →
          l_i h x0 32 (x5 + 1) fun y1966 =>
          l_i h x0 32 (x5 + 2) fun y1972 =>
          u9 + 5 ≤ 1200144 ∧ v9 + 16 ≤ 5496826 ∧
          w_X0_shapeAt x1 y1966 y1972 x3 h (fun y1974 h1974 =>
          l_i h1974 x0 32 (x5 + 1) fun y1985 =>
          l_i h1974 x0 32 (x5 + 2) fun y1991 =>
          u9 + 5 + 0 ≤ 1200144 ∧ v9 + 16 + 0 ≤ 5496826 ∧
          is_c h1974 x2 [4] (
          w_X5_shapeAt x2 y1985 y1991 h1974 (fun y1992 h1992 =>
          u9 + 5 + 0 ≤ 1200144 ∧ v9 + 16 + 0 ≤ 5496826 ∧
          is_c h1992 x2 [4] (
          w_X5_thrown x2 h1992 (fun y1998 h1998 =>
          ((y1998 = y1974 →
            ((y1974 = 0 →
              l_L h1998 x3 0 fun y2015 =>
              (((lg_cmp y2015 (Int32.toInt64 y1992)) = 0 →
                Z28 (x5 + 7) (u9 + 5) (v9 + 16) h1998) ∧
               (¬ (lg_cmp y2015 (Int32.toInt64 y1992)) = 0 →
                u9 + 5 ≤ 1200144 ∧ v9 + 16 ≤ 5496826 ∧
                P 0 h1998))) ∧
             (¬ y1974 = 0 →
              Z28 (x5 + 7) (u9 + 5) (v9 + 16) h1998))) ∧
           (¬ y1998 = y1974 →
            u9 + 5 ≤ 1200144 ∧ v9 + 16 ≤ 5496826 ∧
            P 0 h1998)))))))) ∧
         ((y41 &&& 63) = Int32.ofNat 25 →
          l_i h x0 32 (x5 + 1) fun y2034 =>
          l_i h x0 32 (x5 + 2) fun y2040 =>
          u9 + 3 ≤ 1200144 ∧ v9 + 13 ≤ 5496826 ∧
          w_X0_keyOf x1 y2034 y2040 x4 h (fun y2043 h2043 =>
          l_i h2043 x0 32 (x5 + 1) fun y2054 =>
          l_i h2043 x0 32 (x5 + 2) fun y2060 =>
          u9 + 3 + 0 ≤ 1200144 ∧ v9 + 13 + 0 ≤ 5496826 ∧
          is_c h2043 x2 [4] (
          w_X5_keyOf x2 y2054 y2060 h2043 (fun y2061 h2061 =>
          u9 + 3 + 0 ≤ 1200144 ∧ v9 + 13 + 0 ≤ 5496826 ∧
          is_c h2061 x2 [4] (
          w_X5_thrown x2 h2061 (fun y2067 h2067 =>
          ((y2067 = y2043 →
            ((y2043 = 0 →
              l_D h2067 x4 0 fun y2085 =>
              vf_n64 (FP.f2d y2061) ∧
              (((Op.cmpValue (FP.dcmp y2085 (FP.f2d y2061)) .l) = 0 →
                Z28 (x5 + 7) (u9 + 3) (v9 + 13) h2067) ∧
               (¬ (Op.cmpValue (FP.dcmp y2085 (FP.f2d y2061)) .l) = 0 →
                l_D h2067 x4 0 fun y2096 =>
                l_D h2067 x4 0 fun y2100 =>
                (((Op.cmpValue (FP.dcmp y2096 y2100) .l) = 0 →
                  u9 + 3 ≤ 1200144 ∧ v9 + 13 ≤ 5496826 ∧
                  P 0 h2067) ∧
                 (¬ (Op.cmpValue (FP.dcmp y2096 y2100) .l) = 0 →
                  (((Op.cmpValue (FP.fcmp y2061 y2061) .l) = 0 →
                    u9 + 3 ≤ 1200144 ∧ v9 + 13 ≤ 5496826 ∧
                    P 0 h2067) ∧
                   (¬ (Op.cmpValue (FP.fcmp y2061 y2061) .l) = 0 →
                    Z28 (x5 + 7) (u9 + 3) (v9 + 13) h2067))))))) ∧
             (¬ y2043 = 0 →
              Z28 (x5 + 7) (u9 + 3) (v9 + 13) h2067))) ∧
           (¬ y2067 = y2043 →
            u9 + 3 ≤ 1200144 ∧ v9 + 13 ≤ 5496826 ∧
            P 0 h2067)))))))) ∧
         ((y41 &&& 63) = Int32.ofNat 26 →
          l_i h x0 32 (x5 + 1) fun y2124 =>
          l_i h x0 32 (x5 + 2) fun y2130 =>
          u9 + 3 ≤ 1200144 ∧ v9 + 13 ≤ 5496826 ∧
          w_X0_keyBits x1 y2124 y2130 x3 h (fun y2132 h2132 =>
          l_i h2132 x0 32 (x5 + 1) fun y2143 =>
          l_i h2132 x0 32 (x5 + 2) fun y2149 =>
          u9 + 3 + 0 ≤ 1200144 ∧ v9 + 13 + 0 ≤ 5496826 ∧
          is_c h2132 x2 [4] (
          w_X5_keyBits x2 y2143 y2149 h2132 (fun y2150 h2150 =>
          u9 + 3 + 0 ≤ 1200144 ∧ v9 + 13 + 0 ≤ 5496826 ∧
          is_c h2150 x2 [4] (
          w_X5_thrown x2 h2150 (fun y2156 h2156 =>
          ((y2156 = y2132 →
            ((y2132 = 0 →
              l_L h2156 x3 0 fun y2173 =>
              (((lg_cmp y2173 (Int32.toInt64 y2150)) = 0 →
                Z28 (x5 + 7) (u9 + 3) (v9 + 13) h2156) ∧
               (¬ (lg_cmp y2173 (Int32.toInt64 y2150)) = 0 →
                u9 + 3 ≤ 1200144 ∧ v9 + 13 ≤ 5496826 ∧
                P 0 h2156))) ∧
             (¬ y2132 = 0 →
              Z28 (x5 + 7) (u9 + 3) (v9 + 13) h2156))) ∧
           (¬ y2156 = y2132 →
            u9 + 3 ≤ 1200144 ∧ v9 + 13 ≤ 5496826 ∧
            P 0 h2156)))))))) ∧
         ((y41 &&& 63) = Int32.ofNat 27 →
          l_i h x0 32 (x5 + 1) fun y2192 =>
          l_i h x0 32 (x5 + 2) fun y2198 =>
          u9 + 3 ≤ 1200144 ∧ v9 + 13 ≤ 5496826 ∧
          w_X0_keyCut x1 y2192 y2198 x3 h (fun y2200 h2200 =>
          l_i h2200 x0 32 (x5 + 1) fun y2211 =>
          l_i h2200 x0 32 (x5 + 2) fun y2217 =>
          u9 + 3 + 0 ≤ 1200144 ∧ v9 + 13 + 0 ≤ 5496826 ∧
          is_c h2200 x2 [4] (
          w_X5_keyCut x2 y2211 y2217 h2200 (fun y2218 h2218 =>
          u9 + 3 + 0 ≤ 1200144 ∧ v9 + 13 + 0 ≤ 5496826 ∧
          is_c h2218 x2 [4] (
          w_X5_thrown x2 h2218 (fun y2224 h2224 =>
          ((y2224 = y2200 →
            ((y2200 = 0 →
              l_L h2224 x3 0 fun y2241 =>
              (((lg_cmp y2241 (Int32.toInt64 y2218)) = 0 →
                Z28 (x5 + 7) (u9 + 3) (v9 + 13) h2224) ∧
               (¬ (lg_cmp y2241 (Int32.toInt64 y2218)) = 0 →
                u9 + 3 ≤ 1200144 ∧ v9 + 13 ≤ 5496826 ∧
                P 0 h2224))) ∧
             (¬ y2200 = 0 →
              Z28 (x5 + 7) (u9 + 3) (v9 + 13) h2224))) ∧
           (¬ y2224 = y2200 →
            u9 + 3 ≤ 1200144 ∧ v9 + 13 ≤ 5496826 ∧
            P 0 h2224)))))))) ∧
         ((y41 &&& 63) = Int32.ofNat 28 →
          l_i h x0 32 (x5 + 1) fun y2260 =>
          l_i h x0 32 (x5 + 2) fun y2266 =>
          l_i h x0 32 (x5 + 3) fun y2272 =>
          u9 + 5 ≤ 1200144 ∧ v9 + 20 ≤ 5496826 ∧
          w_X0_topAt x1 y2260 y2266 y2272 x3 h (fun y2274 h2274 =>
          l_i h2274 x0 32 (x5 + 1) fun y2285 =>
          l_i h2274 x0 32 (x5 + 2) fun y2291 =>
          l_i h2274 x0 32 (x5 + 3) fun y2297 =>
          u9 + 5 + 0 ≤ 1200144 ∧ v9 + 20 + 0 ≤ 5496826 ∧
          is_c h2274 x2 [4] (
          w_X5_topAt x2 y2285 y2291 y2297 h2274 (fun y2298 h2298 =>
          u9 + 5 + 0 ≤ 1200144 ∧ v9 + 20 + 0 ≤ 5496826 ∧
          is_c h2298 x2 [4] (
          w_X5_thrown x2 h2298 (fun y2304 h2304 =>
          ((y2304 = y2274 →
            ((y2274 = 0 →
              l_L h2304 x3 0 fun y2321 =>
              (((lg_cmp y2321 (Int32.toInt64 y2298)) = 0 →
                Z28 (x5 + 7) (u9 + 5) (v9 + 20) h2304) ∧
               (¬ (lg_cmp y2321 (Int32.toInt64 y2298)) = 0 →
                u9 + 5 ≤ 1200144 ∧ v9 + 20 ≤ 5496826 ∧
                P 0 h2304))) ∧
             (¬ y2274 = 0 →
              Z28 (x5 + 7) (u9 + 5) (v9 + 20) h2304))) ∧
           (¬ y2304 = y2274 →
            u9 + 5 ≤ 1200144 ∧ v9 + 20 ≤ 5496826 ∧
            P 0 h2304)))))))) ∧
         ((y41 &&& 63) = Int32.ofNat 29 →
          l_i h x0 32 (x5 + 1) fun y2340 =>
          l_i h x0 32 (x5 + 2) fun y2346 =>
          u9 + 3 ≤ 1200144 ∧ v9 + 13 ≤ 5496826 ∧
          w_X0_lockedBy x1 y2340 y2346 x3 h (fun y2348 h2348 =>
          l_i h2348 x0 32 (x5 + 1) fun y2359 =>
          l_i h2348 x0 32 (x5 + 2) fun y2365 =>
          u9 + 3 + 0 ≤ 1200144 ∧ v9 + 13 + 0 ≤ 5496826 ∧
          is_c h2348 x2 [4] (
          w_X5_lockedBy x2 y2359 y2365 h2348 (fun y2366 h2366 =>
          u9 + 3 + 0 ≤ 1200144 ∧ v9 + 13 + 0 ≤ 5496826 ∧
          is_c h2366 x2 [4] (
          w_X5_thrown x2 h2366 (fun y2372 h2372 =>
          ((y2372 = y2348 →
            ((y2348 = 0 →
              l_L h2372 x3 0 fun y2389 =>
              (((lg_cmp y2389 (Int32.toInt64 y2366)) = 0 →
                Z28 (x5 + 7) (u9 + 3) (v9 + 13) h2372) ∧
               (¬ (lg_cmp y2389 (Int32.toInt64 y2366)) = 0 →
                u9 + 3 ≤ 1200144 ∧ v9 + 13 ≤ 5496826 ∧
                P 0 h2372))) ∧
             (¬ y2348 = 0 →
              Z28 (x5 + 7) (u9 + 3) (v9 + 13) h2372))) ∧
           (¬ y2372 = y2348 →
            u9 + 3 ≤ 1200144 ∧ v9 + 13 ≤ 5496826 ∧
            P 0 h2372)))))))) ∧
         ((y41 &&& 63) = Int32.ofNat 30 →
          l_i h x0 32 (x5 + 1) fun y2408 =>
          l_i h x0 32 (x5 + 2) fun y2414 =>
          u9 + 5 ≤ 1200144 ∧ v9 + 16 ≤ 5496826 ∧
          w_X0_inside x1 y2408 y2414 x3 h (fun y2416 h2416 =>
          l_i h2416 x0 32 (x5 + 1) fun y2427 =>
          l_i h2416 x0 32 (x5 + 2) fun y2433 =>
          u9 + 5 + 0 ≤ 1200144 ∧ v9 + 16 + 0 ≤ 5496826 ∧
          is_c h2416 x2 [4] (
          w_X5_inside x2 y2427 y2433 h2416 (fun y2434 h2434 =>
          u9 + 5 + 0 ≤ 1200144 ∧ v9 + 16 + 0 ≤ 5496826 ∧
          is_c h2434 x2 [4] (
          w_X5_thrown x2 h2434 (fun y2440 h2440 =>
          ((y2440 = y2416 →
            ((y2416 = 0 →
              l_L h2440 x3 0 fun y2457 =>
              (((lg_cmp y2457 (Int32.toInt64 y2434)) = 0 →
                Z28 (x5 + 7) (u9 + 5) (v9 + 16) h2440) ∧
               (¬ (lg_cmp y2457 (Int32.toInt64 y2434)) = 0 →
                u9 + 5 ≤ 1200144 ∧ v9 + 16 ≤ 5496826 ∧
                P 0 h2440))) ∧
             (¬ y2416 = 0 →
              Z28 (x5 + 7) (u9 + 5) (v9 + 16) h2440))) ∧
           (¬ y2440 = y2416 →
            u9 + 5 ≤ 1200144 ∧ v9 + 16 ≤ 5496826 ∧
            P 0 h2440)))))))) ∧
         ((y41 &&& 63) = Int32.ofNat 31 →
          l_i h x0 32 (x5 + 1) fun y2476 =>
          u9 + 2 ≤ 1200144 ∧ v9 + 7 ≤ 5496826 ∧
          w_X0_connectors x1 y2476 x3 h (fun y2478 h2478 =>
          l_i h2478 x0 32 (x5 + 1) fun y2489 =>
          u9 + 2 + 0 ≤ 1200144 ∧ v9 + 7 + 0 ≤ 5496826 ∧
          is_c h2478 x2 [4] (
          w_X5_connectors x2 y2489 h2478 (fun y2490 h2490 =>
          u9 + 2 + 0 ≤ 1200144 ∧ v9 + 7 + 0 ≤ 5496826 ∧
          is_c h2490 x2 [4] (
          w_X5_thrown x2 h2490 (fun y2496 h2496 =>
          ((y2496 = y2478 →
            ((y2478 = 0 →
              l_L h2496 x3 0 fun y2513 =>
              (((lg_cmp y2513 (Int32.toInt64 y2490)) = 0 →
                Z28 (x5 + 7) (u9 + 2) (v9 + 7) h2496) ∧
               (¬ (lg_cmp y2513 (Int32.toInt64 y2490)) = 0 →
                u9 + 2 ≤ 1200144 ∧ v9 + 7 ≤ 5496826 ∧
                P 0 h2496))) ∧
             (¬ y2478 = 0 →
              Z28 (x5 + 7) (u9 + 2) (v9 + 7) h2496))) ∧
           (¬ y2496 = y2478 →
            u9 + 2 ≤ 1200144 ∧ v9 + 7 ≤ 5496826 ∧
            P 0 h2496)))))))) ∧
         ((y41 &&& 63) = Int32.ofNat 32 →
          l_i h x0 32 (x5 + 1) fun y2532 =>
          l_i h x0 32 (x5 + 2) fun y2538 =>
          u9 + 4 ≤ 1200144 ∧ v9 + 19 ≤ 5496826 ∧
          w_X0_bends x1 y2532 y2538 x3 h (fun y2540 h2540 =>
          l_i h2540 x0 32 (x5 + 1) fun y2551 =>
          l_i h2540 x0 32 (x5 + 2) fun y2557 =>
          u9 + 4 + 0 ≤ 1200144 ∧ v9 + 19 + 0 ≤ 5496826 ∧
          is_c h2540 x2 [4] (
          w_X5_bends x2 y2551 y2557 h2540 (fun y2558 h2558 =>
          u9 + 4 + 0 ≤ 1200144 ∧ v9 + 19 + 0 ≤ 5496826 ∧
          is_c h2558 x2 [4] (
          w_X5_thrown x2 h2558 (fun y2564 h2564 =>
          ((y2564 = y2540 →
            ((y2540 = 0 →
              l_L h2564 x3 0 fun y2581 =>
              (((lg_cmp y2581 (Int32.toInt64 y2558)) = 0 →
                Z28 (x5 + 7) (u9 + 4) (v9 + 19) h2564) ∧
               (¬ (lg_cmp y2581 (Int32.toInt64 y2558)) = 0 →
                u9 + 4 ≤ 1200144 ∧ v9 + 19 ≤ 5496826 ∧
                P 0 h2564))) ∧
             (¬ y2540 = 0 →
              Z28 (x5 + 7) (u9 + 4) (v9 + 19) h2564))) ∧
           (¬ y2564 = y2540 →
            u9 + 4 ≤ 1200144 ∧ v9 + 19 ≤ 5496826 ∧
            P 0 h2564)))))))) ∧
         ((y41 &&& 63) = Int32.ofNat 33 →
          l_i h x0 32 (x5 + 1) fun y2600 =>
          l_i h x0 32 (x5 + 2) fun y2606 =>
          u9 + 4 ≤ 1200144 ∧ v9 + 19 ≤ 5496826 ∧
          w_X0_bendsByRounds x1 y2600 y2606 x3 h (fun y2608 h2608 =>
          l_i h2608 x0 32 (x5 + 1) fun y2619 =>
          l_i h2608 x0 32 (x5 + 2) fun y2625 =>
          u9 + 4 + 0 ≤ 1200144 ∧ v9 + 19 + 0 ≤ 5496826 ∧
          is_c h2608 x2 [4] (
          w_X5_bendsByRounds x2 y2619 y2625 h2608 (fun y2626 h2626 =>
          u9 + 4 + 0 ≤ 1200144 ∧ v9 + 19 + 0 ≤ 5496826 ∧
          is_c h2626 x2 [4] (
          w_X5_thrown x2 h2626 (fun y2632 h2632 =>
          ((y2632 = y2608 →
            ((y2608 = 0 →
              l_L h2632 x3 0 fun y2649 =>
              (((lg_cmp y2649 (Int32.toInt64 y2626)) = 0 →
                Z28 (x5 + 7) (u9 + 4) (v9 + 19) h2632) ∧
               (¬ (lg_cmp y2649 (Int32.toInt64 y2626)) = 0 →
                u9 + 4 ≤ 1200144 ∧ v9 + 19 ≤ 5496826 ∧
                P 0 h2632))) ∧
             (¬ y2608 = 0 →
              Z28 (x5 + 7) (u9 + 4) (v9 + 19) h2632))) ∧
           (¬ y2632 = y2608 →
            u9 + 4 ≤ 1200144 ∧ v9 + 19 ≤ 5496826 ∧
            P 0 h2632)))))))) ∧
         ((y41 &&& 63) = Int32.ofNat 34 →
          l_i h x0 32 (x5 + 1) fun y2668 =>
          l_i h x0 32 (x5 + 2) fun y2674 =>
          u9 + 4 ≤ 1200144 ∧ v9 + 19 ≤ 5496826 ∧
          w_X0_routeLength x1 y2668 y2674 x3 h (fun y2676 h2676 =>
          l_i h2676 x0 32 (x5 + 1) fun y2687 =>
          l_i h2676 x0 32 (x5 + 2) fun y2693 =>
          u9 + 4 + 0 ≤ 1200144 ∧ v9 + 19 + 0 ≤ 5496826 ∧
          is_c h2676 x2 [4] (
          w_X5_routeLength x2 y2687 y2693 h2676 (fun y2694 h2694 =>
          u9 + 4 + 0 ≤ 1200144 ∧ v9 + 19 + 0 ≤ 5496826 ∧
          is_c h2694 x2 [4] (
          w_X5_thrown x2 h2694 (fun y2700 h2700 =>
          ((y2700 = y2676 →
            ((y2676 = 0 →
              l_L h2700 x3 0 fun y2717 =>
              (((lg_cmp y2717 (Int32.toInt64 y2694)) = 0 →
                Z28 (x5 + 7) (u9 + 4) (v9 + 19) h2700) ∧
               (¬ (lg_cmp y2717 (Int32.toInt64 y2694)) = 0 →
                u9 + 4 ≤ 1200144 ∧ v9 + 19 ≤ 5496826 ∧
                P 0 h2700))) ∧
             (¬ y2676 = 0 →
              Z28 (x5 + 7) (u9 + 4) (v9 + 19) h2700))) ∧
           (¬ y2700 = y2676 →
            u9 + 4 ≤ 1200144 ∧ v9 + 19 ≤ 5496826 ∧
            P 0 h2700)))))))) ∧
         ((y41 &&& 63) = Int32.ofNat 35 →
          l_i h x0 32 (x5 + 1) fun y2736 =>
          l_i h x0 32 (x5 + 2) fun y2742 =>
          u9 + 3 ≤ 1200144 ∧ v9 + 13 ≤ 5496826 ∧
          w_X0_ownVotes x1 y2736 y2742 x3 h (fun y2744 h2744 =>
          l_i h2744 x0 32 (x5 + 1) fun y2755 =>
          l_i h2744 x0 32 (x5 + 2) fun y2761 =>
          u9 + 3 + 0 ≤ 1200144 ∧ v9 + 13 + 0 ≤ 5496826 ∧
          is_c h2744 x2 [4] (
          w_X5_ownVotes x2 y2755 y2761 h2744 (fun y2762 h2762 =>
          u9 + 3 + 0 ≤ 1200144 ∧ v9 + 13 + 0 ≤ 5496826 ∧
          is_c h2762 x2 [4] (
          w_X5_thrown x2 h2762 (fun y2768 h2768 =>
          ((y2768 = y2744 →
            ((y2744 = 0 →
              l_L h2768 x3 0 fun y2785 =>
              (((lg_cmp y2785 (Int32.toInt64 y2762)) = 0 →
                Z28 (x5 + 7) (u9 + 3) (v9 + 13) h2768) ∧
               (¬ (lg_cmp y2785 (Int32.toInt64 y2762)) = 0 →
                u9 + 3 ≤ 1200144 ∧ v9 + 13 ≤ 5496826 ∧
                P 0 h2768))) ∧
             (¬ y2744 = 0 →
              Z28 (x5 + 7) (u9 + 3) (v9 + 13) h2768))) ∧
           (¬ y2768 = y2744 →
            u9 + 3 ≤ 1200144 ∧ v9 + 13 ≤ 5496826 ∧
            P 0 h2768)))))))) ∧
         ((y41 &&& 63) = Int32.ofNat 36 →
          l_i h x0 32 (x5 + 1) fun y2804 =>
          l_i h x0 32 (x5 + 2) fun y2810 =>
          u9 + 4 ≤ 1200144 ∧ v9 + 19 ≤ 5496826 ∧
          w_X0_votesFor x1 y2804 y2810 x3 h (fun y2812 h2812 =>
          l_i h2812 x0 32 (x5 + 1) fun y2823 =>
          l_i h2812 x0 32 (x5 + 2) fun y2829 =>
          u9 + 4 + 0 ≤ 1200144 ∧ v9 + 19 + 0 ≤ 5496826 ∧
          is_c h2812 x2 [4] (
          w_X5_votesFor x2 y2823 y2829 h2812 (fun y2830 h2830 =>
          u9 + 4 + 0 ≤ 1200144 ∧ v9 + 19 + 0 ≤ 5496826 ∧
          is_c h2830 x2 [4] (
          w_X5_thrown x2 h2830 (fun y2836 h2836 =>
          ((y2836 = y2812 →
            ((y2812 = 0 →
              l_L h2836 x3 0 fun y2853 =>
              (((lg_cmp y2853 (Int32.toInt64 y2830)) = 0 →
                Z28 (x5 + 7) (u9 + 4) (v9 + 19) h2836) ∧
               (¬ (lg_cmp y2853 (Int32.toInt64 y2830)) = 0 →
                u9 + 4 ≤ 1200144 ∧ v9 + 19 ≤ 5496826 ∧
                P 0 h2836))) ∧
             (¬ y2812 = 0 →
              Z28 (x5 + 7) (u9 + 4) (v9 + 19) h2836))) ∧
           (¬ y2836 = y2812 →
            u9 + 4 ≤ 1200144 ∧ v9 + 19 ≤ 5496826 ∧
            P 0 h2836)))))))) ∧
         ((y41 &&& 63) = Int32.ofNat 37 →
          l_i h x0 32 (x5 + 1) fun y2872 =>
          u9 + 6 ≤ 1200144 ∧ v9 + 22 ≤ 5496826 ∧
          w_X0_winner x1 y2872 x3 h (fun y2874 h2874 =>
          l_i h2874 x0 32 (x5 + 1) fun y2885 =>
          u9 + 6 + 0 ≤ 1200144 ∧ v9 + 22 + 0 ≤ 5496826 ∧
          is_c h2874 x2 [4] (
          w_X5_winner x2 y2885 h2874 (fun y2886 h2886 =>
          u9 + 6 + 0 ≤ 1200144 ∧ v9 + 22 + 0 ≤ 5496826 ∧
          is_c h2886 x2 [4] (
          w_X5_thrown x2 h2886 (fun y2892 h2892 =>
          ((y2892 = y2874 →
            ((y2874 = 0 →
              l_L h2892 x3 0 fun y2909 =>
              (((lg_cmp y2909 (Int32.toInt64 y2886)) = 0 →
                Z28 (x5 + 7) (u9 + 6) (v9 + 22) h2892) ∧
               (¬ (lg_cmp y2909 (Int32.toInt64 y2886)) = 0 →
                u9 + 6 ≤ 1200144 ∧ v9 + 22 ≤ 5496826 ∧
                P 0 h2892))) ∧
             (¬ y2874 = 0 →
              Z28 (x5 + 7) (u9 + 6) (v9 + 22) h2892))) ∧
           (¬ y2892 = y2874 →
            u9 + 6 ≤ 1200144 ∧ v9 + 22 ≤ 5496826 ∧
            P 0 h2892)))))))) ∧
         ((y41 &&& 63) = Int32.ofNat 38 →
          l_i h x0 32 (x5 + 1) fun y2928 =>
          u9 + 8 ≤ 1200144 ∧ v9 + 17 ≤ 5496826 ∧
          w_X0_outcome x1 y2928 x3 h (fun y2930 h2930 =>
          l_i h2930 x0 32 (x5 + 1) fun y2941 =>
          u9 + 8 + 0 ≤ 1200144 ∧ v9 + 17 + 0 ≤ 5496826 ∧
          is_c h2930 x2 [4] (
          w_X5_outcome x2 y2941 h2930 (fun y2942 h2942 =>
          u9 + 8 + 0 ≤ 1200144 ∧ v9 + 17 + 0 ≤ 5496826 ∧
          is_c h2942 x2 [4] (
          w_X5_thrown x2 h2942 (fun y2948 h2948 =>
          ((y2948 = y2930 →
            ((y2930 = 0 →
              l_L h2948 x3 0 fun y2965 =>
              (((lg_cmp y2965 (Int32.toInt64 y2942)) = 0 →
                Z28 (x5 + 7) (u9 + 8) (v9 + 17) h2948) ∧
               (¬ (lg_cmp y2965 (Int32.toInt64 y2942)) = 0 →
                u9 + 8 ≤ 1200144 ∧ v9 + 17 ≤ 5496826 ∧
                P 0 h2948))) ∧
             (¬ y2930 = 0 →
              Z28 (x5 + 7) (u9 + 8) (v9 + 17) h2948))) ∧
           (¬ y2948 = y2930 →
            u9 + 8 ≤ 1200144 ∧ v9 + 17 ≤ 5496826 ∧
            P 0 h2948)))))))) ∧
         ((y41 &&& 63) = Int32.ofNat 39 →
          l_i h x0 32 (x5 + 1) fun y2984 =>
          u9 + 8 ≤ 1200144 ∧ v9 + 17 ≤ 5496826 ∧
          w_X0_outcomeAnew x1 y2984 x3 h (fun y2986 h2986 =>
          l_i h2986 x0 32 (x5 + 1) fun y2997 =>
          u9 + 8 + 0 ≤ 1200144 ∧ v9 + 17 + 0 ≤ 5496826 ∧
          is_c h2986 x2 [4] (
          w_X5_outcomeAnew x2 y2997 h2986 (fun y2998 h2998 =>
          u9 + 8 + 0 ≤ 1200144 ∧ v9 + 17 + 0 ≤ 5496826 ∧
          is_c h2998 x2 [4] (
          w_X5_thrown x2 h2998 (fun y3004 h3004 =>
          ((y3004 = y2986 →
            ((y2986 = 0 →
              l_L h3004 x3 0 fun y3021 =>
              (((lg_cmp y3021 (Int32.toInt64 y2998)) = 0 →
                Z28 (x5 + 7) (u9 + 8) (v9 + 17) h3004) ∧
               (¬ (lg_cmp y3021 (Int32.toInt64 y2998)) = 0 →
                u9 + 8 ≤ 1200144 ∧ v9 + 17 ≤ 5496826 ∧
                P 0 h3004))) ∧
             (¬ y2986 = 0 →
              Z28 (x5 + 7) (u9 + 8) (v9 + 17) h3004))) ∧
           (¬ y3004 = y2986 →
            u9 + 8 ≤ 1200144 ∧ v9 + 17 ≤ 5496826 ∧
            P 0 h3004)))))))) ∧
         ((y41 &&& 63) = Int32.ofNat 40 →
          l_i h x0 32 (x5 + 1) fun y3040 =>
          l_i h x0 32 (x5 + 2) fun y3046 =>
          u9 + 3417 ≤ 1200144 ∧ v9 + 69594 ≤ 5496826 ∧
          w_X0_outcomes x1 y3040 y3046 x3 h (fun y3048 h3048 =>
          l_i h3048 x0 32 (x5 + 1) fun y3059 =>
          l_i h3048 x0 32 (x5 + 2) fun y3065 =>
          u9 + 3417 + 0 ≤ 1200144 ∧ v9 + 69594 + 0 ≤ 5496826 ∧
          is_c h3048 x2 [4] (
          w_X5_outcomes x2 y3059 y3065 h3048 (fun y3066 h3066 =>
          u9 + 3417 + 0 ≤ 1200144 ∧ v9 + 69594 + 0 ≤ 5496826 ∧
          is_c h3066 x2 [4] (
          w_X5_thrown x2 h3066 (fun y3072 h3072 =>
          ((y3072 = y3048 →
            ((y3048 = 0 →
              l_L h3072 x3 0 fun y3089 =>
              (((lg_cmp y3089 (Int32.toInt64 y3066)) = 0 →
                Z28 (x5 + 7) (u9 + 3417) (v9 + 69594) h3072) ∧
               (¬ (lg_cmp y3089 (Int32.toInt64 y3066)) = 0 →
                u9 + 3417 ≤ 1200144 ∧ v9 + 69594 ≤ 5496826 ∧
                P 0 h3072))) ∧
             (¬ y3048 = 0 →
              Z28 (x5 + 7) (u9 + 3417) (v9 + 69594) h3072))) ∧
           (¬ y3072 = y3048 →
            u9 + 3417 ≤ 1200144 ∧ v9 + 69594 ≤ 5496826 ∧
            P 0 h3072)))))))) ∧
         ((y41 &&& 63) = Int32.ofNat 41 →
          l_i h x0 32 (x5 + 1) fun y3108 =>
          l_i h x0 32 (x5 + 2) fun y3114 =>
          u9 + 4 ≤ 1200144 ∧ v9 + 14 ≤ 5496826 ∧
          w_X0_areAlike x1 y3108 y3114 x3 h (fun y3116 h3116 =>
          l_i h3116 x0 32 (x5 + 1) fun y3127 =>
          l_i h3116 x0 32 (x5 + 2) fun y3133 =>
          u9 + 4 + 1 ≤ 1200144 ∧ v9 + 14 + 93 ≤ 5496826 ∧
          is_c h3116 x2 [4] (
          w_X5_areAlike x2 y3127 y3133 h3116 (fun y3134 h3134 =>
          u9 + 5 + 0 ≤ 1200144 ∧ v9 + 107 + 0 ≤ 5496826 ∧
          is_c h3134 x2 [4] (
          w_X5_thrown x2 h3134 (fun y3140 h3140 =>
          ((y3140 = y3116 →
            ((y3116 = 0 →
              l_L h3140 x3 0 fun y3157 =>
              ((y3134 = 0 →
                w_L_law_3168 P Z28 x0 x1 x2 x3 x4 x5 0 y3157 (u9 + 5) (v9 + 107) h3140) ∧
               (¬ y3134 = 0 →
                w_L_law_3168 P Z28 x0 x1 x2 x3 x4 x5 1 y3157 (u9 + 5) (v9 + 107) h3140))) ∧
             (¬ y3116 = 0 →
              Z28 (x5 + 7) (u9 + 5) (v9 + 107) h3140))) ∧
           (¬ y3140 = y3116 →
            u9 + 5 ≤ 1200144 ∧ v9 + 107 ≤ 5496826 ∧
            P 0 h3140)))))))) ∧
         ((y41 &&& 63) = Int32.ofNat 42 →
          l_i h x0 32 (x5 + 1) fun y3183 =>
          u9 + 102 ≤ 1200144 ∧ v9 + 1007 ≤ 5496826 ∧
          w_X0_frameShare x1 y3183 x4 h (fun y3186 h3186 =>
          l_i h3186 x0 32 (x5 + 1) fun y3197 =>
          u9 + 102 + 0 ≤ 1200144 ∧ v9 + 1007 + 0 ≤ 5496826 ∧
          is_c h3186 x2 [4] (
          w_X5_frameShare x2 y3197 h3186 (fun y3198 h3198 =>
          u9 + 102 + 0 ≤ 1200144 ∧ v9 + 1007 + 0 ≤ 5496826 ∧
          is_c h3198 x2 [4] (
          w_X5_thrown x2 h3198 (fun y3204 h3204 =>
          ((y3204 = y3186 →
            ((y3186 = 0 →
              l_D h3204 x4 0 fun y3222 =>
              vf_n64 (FP.f2d y3198) ∧
              (((Op.cmpValue (FP.dcmp y3222 (FP.f2d y3198)) .l) = 0 →
                Z28 (x5 + 7) (u9 + 102) (v9 + 1007) h3204) ∧
               (¬ (Op.cmpValue (FP.dcmp y3222 (FP.f2d y3198)) .l) = 0 →
                l_D h3204 x4 0 fun y3233 =>
                l_D h3204 x4 0 fun y3237 =>
                (((Op.cmpValue (FP.dcmp y3233 y3237) .l) = 0 →
                  u9 + 102 ≤ 1200144 ∧ v9 + 1007 ≤ 5496826 ∧
                  P 0 h3204) ∧
                 (¬ (Op.cmpValue (FP.dcmp y3233 y3237) .l) = 0 →
                  (((Op.cmpValue (FP.fcmp y3198 y3198) .l) = 0 →
                    u9 + 102 ≤ 1200144 ∧ v9 + 1007 ≤ 5496826 ∧
                    P 0 h3204) ∧
                   (¬ (Op.cmpValue (FP.fcmp y3198 y3198) .l) = 0 →
                    Z28 (x5 + 7) (u9 + 102) (v9 + 1007) h3204))))))) ∧
             (¬ y3186 = 0 →
              Z28 (x5 + 7) (u9 + 102) (v9 + 1007) h3204))) ∧
           (¬ y3204 = y3186 →
            u9 + 102 ≤ 1200144 ∧ v9 + 1007 ≤ 5496826 ∧
            P 0 h3204)))))))) ∧
         ((y41 &&& 63) = Int32.ofNat 43 →
          l_i h x0 32 (x5 + 1) fun y3261 =>
          u9 + 3 ≤ 1200144 ∧ v9 + 13 ≤ 5496826 ∧
          w_X0_meanRoute x1 y3261 x4 h (fun y3264 h3264 =>
          l_i h3264 x0 32 (x5 + 1) fun y3275 =>
          u9 + 3 + 0 ≤ 1200144 ∧ v9 + 13 + 0 ≤ 5496826 ∧
          is_c h3264 x2 [4] (
          w_X5_meanRoute x2 y3275 h3264 (fun y3276 h3276 =>
          u9 + 3 + 0 ≤ 1200144 ∧ v9 + 13 + 0 ≤ 5496826 ∧
          is_c h3276 x2 [4] (
          w_X5_thrown x2 h3276 (fun y3282 h3282 =>
          ((y3282 = y3264 →
            ((y3264 = 0 →
              l_D h3282 x4 0 fun y3300 =>
              (((Op.cmpValue (FP.dcmp y3300 y3276) .l) = 0 →
                Z28 (x5 + 7) (u9 + 3) (v9 + 13) h3282) ∧
               (¬ (Op.cmpValue (FP.dcmp y3300 y3276) .l) = 0 →
                l_D h3282 x4 0 fun y3310 =>
                l_D h3282 x4 0 fun y3314 =>
                (((Op.cmpValue (FP.dcmp y3310 y3314) .l) = 0 →
                  u9 + 3 ≤ 1200144 ∧ v9 + 13 ≤ 5496826 ∧
                  P 0 h3282) ∧
                 (¬ (Op.cmpValue (FP.dcmp y3310 y3314) .l) = 0 →
                  (((Op.cmpValue (FP.dcmp y3276 y3276) .l) = 0 →
                    u9 + 3 ≤ 1200144 ∧ v9 + 13 ≤ 5496826 ∧
                    P 0 h3282) ∧
                   (¬ (Op.cmpValue (FP.dcmp y3276 y3276) .l) = 0 →
                    Z28 (x5 + 7) (u9 + 3) (v9 + 13) h3282))))))) ∧
             (¬ y3264 = 0 →
              Z28 (x5 + 7) (u9 + 3) (v9 + 13) h3282))) ∧
           (¬ y3282 = y3264 →
            u9 + 3 ≤ 1200144 ∧ v9 + 13 ≤ 5496826 ∧
            P 0 h3282)))))))) ∧
         ((y41 &&& 63) = Int32.ofNat 44 →
          l_i h x0 32 (x5 + 1) fun y3338 =>
          u9 + 4 ≤ 1200144 ∧ v9 + 10 ≤ 5496826 ∧
          w_X0_area x1 y3338 x3 h (fun y3340 h3340 =>
          l_i h3340 x0 32 (x5 + 1) fun y3351 =>
          u9 + 4 + 0 ≤ 1200144 ∧ v9 + 10 + 0 ≤ 5496826 ∧
          is_c h3340 x2 [4] (
          w_X5_area x2 y3351 h3340 (fun y3352 h3352 =>
          u9 + 4 + 0 ≤ 1200144 ∧ v9 + 10 + 0 ≤ 5496826 ∧
          is_c h3352 x2 [4] (
          w_X5_thrown x2 h3352 (fun y3358 h3358 =>
          ((y3358 = y3340 →
            ((y3340 = 0 →
              l_L h3358 x3 0 fun y3375 =>
              (((lg_cmp y3375 y3352) = 0 →
                Z28 (x5 + 7) (u9 + 4) (v9 + 10) h3358) ∧
               (¬ (lg_cmp y3375 y3352) = 0 →
                u9 + 4 ≤ 1200144 ∧ v9 + 10 ≤ 5496826 ∧
                P 0 h3358))) ∧
             (¬ y3340 = 0 →
              Z28 (x5 + 7) (u9 + 4) (v9 + 10) h3358))) ∧
           (¬ y3358 = y3340 →
            u9 + 4 ≤ 1200144 ∧ v9 + 10 ≤ 5496826 ∧
            P 0 h3358)))))))) ∧
         (¬ (y41 &&& 63) = Int32.ofNat 0 → ¬ (y41 &&& 63) = Int32.ofNat 1 → ¬ (y41 &&& 63) = Int32.ofNat 2 → ¬ (y41 &&& 63) = Int32.ofNat 3 → ¬ (y41 &&& 63) = Int32.ofNat 4 → ¬ (y41 &&& 63) = Int32.ofNat 5 → ¬ (y41 &&& 63) = Int32.ofNat 6 → ¬ (y41 &&& 63) = Int32.ofNat 7 → ¬ (y41 &&& 63) = Int32.ofNat 8 → ¬ (y41 &&& 63) = Int32.ofNat 9 → ¬ (y41 &&& 63) = Int32.ofNat 10 → ¬ (y41 &&& 63) = Int32.ofNat 11 → ¬ (y41 &&& 63) = Int32.ofNat 12 → ¬ (y41 &&& 63) = Int32.ofNat 13 → ¬ (y41 &&& 63) = Int32.ofNat 14 → ¬ (y41 &&& 63) = Int32.ofNat 15 → ¬ (y41 &&& 63) = Int32.ofNat 16 → ¬ (y41 &&& 63) = Int32.ofNat 17 → ¬ (y41 &&& 63) = Int32.ofNat 18 → ¬ (y41 &&& 63) = Int32.ofNat 19 → ¬ (y41 &&& 63) = Int32.ofNat 20 → ¬ (y41 &&& 63) = Int32.ofNat 21 → ¬ (y41 &&& 63) = Int32.ofNat 22 → ¬ (y41 &&& 63) = Int32.ofNat 23 → ¬ (y41 &&& 63) = Int32.ofNat 24 → ¬ (y41 &&& 63) = Int32.ofNat 25 → ¬ (y41 &&& 63) = Int32.ofNat 26 → ¬ (y41 &&& 63) = Int32.ofNat 27 → ¬ (y41 &&& 63) = Int32.ofNat 28 → ¬ (y41 &&& 63) = Int32.ofNat 29 → ¬ (y41 &&& 63) = Int32.ofNat 30 → ¬ (y41 &&& 63) = Int32.ofNat 31 → ¬ (y41 &&& 63) = Int32.ofNat 32 → ¬ (y41 &&& 63) = Int32.ofNat 33 → ¬ (y41 &&& 63) = Int32.ofNat 34 → ¬ (y41 &&& 63) = Int32.ofNat 35 → ¬ (y41 &&& 63) = Int32.ofNat 36 → ¬ (y41 &&& 63) = Int32.ofNat 37 → ¬ (y41 &&& 63) = Int32.ofNat 38 → ¬ (y41 &&& 63) = Int32.ofNat 39 → ¬ (y41 &&& 63) = Int32.ofNat 40 → ¬ (y41 &&& 63) = Int32.ofNat 41 → ¬ (y41 &&& 63) = Int32.ofNat 42 → ¬ (y41 &&& 63) = Int32.ofNat 43 → ¬ (y41 &&& 63) = Int32.ofNat 44 → 
          Z28 (x5 + 7) u9 v9 h)))))
      → Z28 x5 u9 v9 h) → Z28 x5 u9 v9 h
def w_L_law (a0 : Option Nat) (h : AH) (P : Int32 → AH → Prop) : Prop :=
  mk h (.inr (0, dvX1)) fun q0 h0 =>
  w_X1_init (some q0) h0 (fun h4 =>
  mk h4 (.inr (4, dvX5)) fun q8 h8 =>
  w_X5_init (some q8) h8 (fun h12 =>
  mk h12 (.inl (5, 1, .inr (.inl fun _ => 0))) fun q17 h17 =>
  mk h17 (.inl (7, 1, .inr (.inr (.inr (.inl fun _ => 0))))) fun q21 h21 =>
  w_L_law_28 P a0 (some q0) (some q8) (some q17) (some q21) 0 1684 44677 h21))
theorem wk_L_law_338 {x : CX} (X : Ok x cL_law RX0 rm_L_law 9) (er : xrt x = (Option.some Jvm.ClassFile.FieldType.boolean)) (en : xnm x = "law") {P : Int32 → AH → Prop} (hG : (xG x).2.2.1 99 < (xG x).2.1) (hQ : xl_ x P) (Z28 : Int32 → Nat → Nat → AH → Prop) (x0 : Option Nat) (x1 : Option Nat) (x2 : Option Nat) (x3 : Option Nat) (x4 : Option Nat) (x5 : Int32) (x6 : Int32) (t0 : Int32) (t1 : Int32) (t2 : Int32) (t3 : Int32) (t4 : Int32) (t5 : Int32) (t6 : Option Nat) (u9 : Nat) (v9 : Nat) (h : AH) (hZ28 : ∀ x5 u9 v9 h, Z28 x5 u9 v9 h → J x h u9 v9 28 [(0, vR x0), (1, vR x1), (2, vR x2), (3, vR x3), (4, vR x4), (5, vI x5)] []) (hw : w_L_law_338 P Z28 x0 x1 x2 x3 x4 x5 x6 t0 t1 t2 t3 t4 t5 t6 u9 v9 h) : J x h u9 v9 338 [(0, vR x0), (1, vR x1), (2, vR x2), (3, vR x3), (4, vR x4), (5, vI x5), (6, vI x6)] [vI t0, vI t1, vI t2, vI t3, vI t4, vI t5, vR t6] := by
  obtain ⟨hu9, hv9, hw⟩ := hw
  obtain ⟨b9, c9, f9, hr9, ho9, hc9, hw⟩ := hw
  obtain rfl := List.mem_singleton.mp hc9
  refine j_calli (j_runV (n8 := 6) (As := [vI t5, vI t4, vI t3, vI t2, vI t1, vI t0]) (rest := []) X (pc := 338) hr9 (met_X5_addShape (xl x) X.hl (xG x) h t6 t5 t4 t3 t2 t1 t0 _ hw) ho9 (by decide) rfl q1974 q1975 q1976 q78 q1977 (by decide +kernel) dL_law_338 rfl ⟨Nat.le_of_ble_eq_true rfl, Nat.le_of_ble_eq_true rfl⟩ (Nat.le_of_ble_eq_true rfl) ⟨hu9, hv9⟩) (fun y338 h338 hw => ?_)
  refine j_istore X (pc := 341) [(7, vI y338), (0, vR x0), (1, vR x1), (2, vR x2), (3, vR x3), (4, vR x4), (5, vI x5), (6, vI x6)] dL_law_341 (Nat.le_of_ble_eq_true rfl) rfl ?_
  refine j_aload_n X (pc := 343) 3 dL_law_343 rfl rfl ?_
  obtain ⟨hu9, hv9, hw⟩ := hw
  obtain ⟨b9, c9, f9, hr9, ho9, hc9, hw⟩ := hw
  obtain rfl := List.mem_singleton.mp hc9
  refine j_calli (j_runV (n8 := 0) (As := []) (rest := []) X (pc := 344) hr9 (met_X5_thrown (xl x) X.hl (xG x) h338 x2 _ hw) ho9 (by decide) rfl q1970 q1971 q1972 q78 q1973 (by decide +kernel) dL_law_344 rfl ⟨Nat.le_of_ble_eq_true rfl, Nat.le_of_ble_eq_true rfl⟩ (Nat.le_of_ble_eq_true rfl) ⟨hu9, hv9⟩) (fun y344 h344 hw => ?_)
  refine j_iload X (pc := 347) 7 dL_law_347 rfl ?_
  refine j_icmp_eq X (pc := 349) 354 dL_law_349 (by decide) hw (fun hw => ?_) (fun hw => ?_)
  · refine j_iload X (pc := 354) 7 dL_law_354 rfl ?_
    refine j_if_ne X (pc := 356) 371 dL_law_356 (by decide) hw (fun hw => ?_) (fun hw => ?_)
    · refine j_aload_n X (pc := 359) 4 dL_law_359 rfl rfl ?_
      refine j_iconst X (pc := 360) 0 dL_law_360 (by decide) ?_
      refine j_lald X (pc := 361) dL_law_361 hw (fun y361 hw => ?_)
      refine j_iload X (pc := 362) 0 dL_law_362 rfl ?_
      refine j_i2l X (pc := 364) dL_law_364 ?_
      refine j_lcmp X (pc := 365) dL_law_365 ?_
      refine j_if_eq X (pc := 366) 371 dL_law_366 (by decide) hw (fun hw => ?_) (fun hw => ?_)
      · refine j_goto X (pc := 371) 3387 dL_law_371 (by decide) ?_
        refine j_iinc X (pc := 3387) 6 (x5 + 7) [(5, vI (x5 + 7)), (7, vI y338), (0, vR x0), (1, vR x1), (2, vR x2), (3, vR x3), (4, vR x4), (6, vI x6)] dL_law_3387 rfl rfl (Nat.le_of_ble_eq_true rfl) rfl ?_
        refine j_goto X (pc := 3390) 28 dL_law_3390 (by decide) ?_
        refine j_lv [(0, vR x0), (1, vR x1), (2, vR x2), (3, vR x3), (4, vR x4), (5, vI (x5 + 7))] [2, 3, 4, 5, 6, 0] rfl ?_
        exact hZ28 (x5 + 7) u9 v9 h344 hw
      · refine j_iconst X (pc := 369) 0 dL_law_369 (by decide) ?_
        obtain ⟨hu9, hv9, hw⟩ := hw
        exact j_endL X (pc := 370) hQ hu9 hv9 dL_law_370 hw
    · refine j_goto X (pc := 371) 3387 dL_law_371 (by decide) ?_
      refine j_iinc X (pc := 3387) 6 (x5 + 7) [(5, vI (x5 + 7)), (7, vI y338), (0, vR x0), (1, vR x1), (2, vR x2), (3, vR x3), (4, vR x4), (6, vI x6)] dL_law_3387 rfl rfl (Nat.le_of_ble_eq_true rfl) rfl ?_
      refine j_goto X (pc := 3390) 28 dL_law_3390 (by decide) ?_
      refine j_lv [(0, vR x0), (1, vR x1), (2, vR x2), (3, vR x3), (4, vR x4), (5, vI (x5 + 7))] [2, 3, 4, 5, 6, 0] rfl ?_
      exact hZ28 (x5 + 7) u9 v9 h344 hw
  · refine j_iconst X (pc := 352) 0 dL_law_352 (by decide) ?_
    obtain ⟨hu9, hv9, hw⟩ := hw
    exact j_endL X (pc := 353) hQ hu9 hv9 dL_law_353 hw
theorem wk_L_law_286 {x : CX} (X : Ok x cL_law RX0 rm_L_law 9) (er : xrt x = (Option.some Jvm.ClassFile.FieldType.boolean)) (en : xnm x = "law") {P : Int32 → AH → Prop} (hG : (xG x).2.2.1 99 < (xG x).2.1) (hQ : xl_ x P) (Z28 : Int32 → Nat → Nat → AH → Prop) (x0 : Option Nat) (x1 : Option Nat) (x2 : Option Nat) (x3 : Option Nat) (x4 : Option Nat) (x5 : Int32) (t0 : Int32) (t1 : Int32) (t2 : Int32) (t3 : Int32) (t4 : Int32) (t5 : Int32) (t6 : Option Nat) (u9 : Nat) (v9 : Nat) (h : AH) (hZ28 : ∀ x5 u9 v9 h, Z28 x5 u9 v9 h → J x h u9 v9 28 [(0, vR x0), (1, vR x1), (2, vR x2), (3, vR x3), (4, vR x4), (5, vI x5)] []) (hw : w_L_law_286 P Z28 x0 x1 x2 x3 x4 x5 t0 t1 t2 t3 t4 t5 t6 u9 v9 h) : J x h u9 v9 286 [(0, vR x0), (1, vR x1), (2, vR x2), (3, vR x3), (4, vR x4), (5, vI x5)] [vI t0, vI t1, vI t2, vI t3, vI t4, vI t5, vR t6] := by
  refine j_aload_n X (pc := 286) 3 dL_law_286 rfl rfl ?_
  obtain ⟨hu9, hv9, hw⟩ := hw
  refine j_calli (j_runSW (n8 := 8) (As := [vR t6, vI t5, vI t4, vI t3, vI t2, vI t1, vI t0, vR x3]) (rest := []) X (pc := 287) (met_X0_addShape (xl x) X.hl (xG x) h t6 t5 t4 t3 t2 t1 t0 x3 _ hw) q288 q289 q70 q290 (by decide +kernel) dL_law_287 rfl ⟨Nat.le_of_ble_eq_true rfl, Nat.le_of_ble_eq_true rfl⟩ (Nat.le_of_ble_eq_true rfl) ⟨hu9, hv9⟩) (fun y287 h287 hw => ?_)
  refine j_istore X (pc := 290) [(6, vI y287), (0, vR x0), (1, vR x1), (2, vR x2), (3, vR x3), (4, vR x4), (5, vI x5)] dL_law_290 (Nat.le_of_ble_eq_true rfl) rfl ?_
  refine j_aload_n X (pc := 292) 3 dL_law_292 rfl rfl ?_
  refine j_aload_n X (pc := 293) 1 dL_law_293 rfl rfl ?_
  refine j_iload X (pc := 294) 6 dL_law_294 rfl ?_
  refine j_iconst X (pc := 296) 1 dL_law_296 (by decide) ?_
  refine j_iadd X (pc := 297) dL_law_297 ?_
  refine j_iald X (pc := 298) 32 rfl dL_law_298 hw (fun y298 hw => ?_)
  refine j_aload_n X (pc := 299) 1 dL_law_299 rfl rfl ?_
  refine j_iload X (pc := 300) 6 dL_law_300 rfl ?_
  refine j_iconst X (pc := 302) 2 dL_law_302 (by decide) ?_
  refine j_iadd X (pc := 303) dL_law_303 ?_
  refine j_iald X (pc := 304) 32 rfl dL_law_304 hw (fun y304 hw => ?_)
  refine j_aload_n X (pc := 305) 1 dL_law_305 rfl rfl ?_
  refine j_iload X (pc := 306) 6 dL_law_306 rfl ?_
  refine j_iconst X (pc := 308) 3 dL_law_308 (by decide) ?_
  refine j_iadd X (pc := 309) dL_law_309 ?_
  refine j_iald X (pc := 310) 32 rfl dL_law_310 hw (fun y310 hw => ?_)
  refine j_aload_n X (pc := 311) 1 dL_law_311 rfl rfl ?_
  refine j_iload X (pc := 312) 6 dL_law_312 rfl ?_
  refine j_iconst X (pc := 314) 4 dL_law_314 (by decide) ?_
  refine j_iadd X (pc := 315) dL_law_315 ?_
  refine j_iald X (pc := 316) 32 rfl dL_law_316 hw (fun y316 hw => ?_)
  refine j_aload_n X (pc := 317) 1 dL_law_317 rfl rfl ?_
  refine j_iload X (pc := 318) 6 dL_law_318 rfl ?_
  refine j_iconst X (pc := 320) 5 dL_law_320 (by decide) ?_
  refine j_iadd X (pc := 321) dL_law_321 ?_
  refine j_iald X (pc := 322) 32 rfl dL_law_322 hw (fun y322 hw => ?_)
  refine j_aload_n X (pc := 323) 1 dL_law_323 rfl rfl ?_
  refine j_iload X (pc := 324) 6 dL_law_324 rfl ?_
  refine j_bipush X (pc := 326) 6 dL_law_326 (by decide) ?_
  refine j_iadd X (pc := 328) dL_law_328 ?_
  refine j_iald X (pc := 329) 32 rfl dL_law_329 hw (fun y329 hw => ?_)
  refine j_if_eq X (pc := 330) 337 dL_law_330 (by decide) hw (fun hw => ?_) (fun hw => ?_)
  · refine j_iconst X (pc := 337) 0 dL_law_337 (by decide) ?_
    refine j_lv [(0, vR x0), (1, vR x1), (2, vR x2), (3, vR x3), (4, vR x4), (5, vI x5), (6, vI y287)] [1, 2, 3, 4, 5, 6, 0] rfl ?_
    exact wk_L_law_338 X er en hG hQ _ x0 x1 x2 x3 x4 x5 y287 0 y322 y316 y310 y304 y298 x2 (u9 + 20) (v9 + 295) h287 hZ28 hw
  · refine j_iconst X (pc := 333) 1 dL_law_333 (by decide) ?_
    refine j_goto X (pc := 334) 338 dL_law_334 (by decide) ?_
    refine j_lv [(0, vR x0), (1, vR x1), (2, vR x2), (3, vR x3), (4, vR x4), (5, vI x5), (6, vI y287)] [1, 2, 3, 4, 5, 6, 0] rfl ?_
    exact wk_L_law_338 X er en hG hQ _ x0 x1 x2 x3 x4 x5 y287 1 y322 y316 y310 y304 y298 x2 (u9 + 20) (v9 + 295) h287 hZ28 hw
theorem wk_L_law_1224 {x : CX} (X : Ok x cL_law RX0 rm_L_law 9) (er : xrt x = (Option.some Jvm.ClassFile.FieldType.boolean)) (en : xnm x = "law") {P : Int32 → AH → Prop} (hG : (xG x).2.2.1 99 < (xG x).2.1) (hQ : xl_ x P) (Z28 : Int32 → Nat → Nat → AH → Prop) (x0 : Option Nat) (x1 : Option Nat) (x2 : Option Nat) (x3 : Option Nat) (x4 : Option Nat) (x5 : Int32) (t0 : Int64) (t1 : Int64) (u9 : Nat) (v9 : Nat) (h : AH) (hZ28 : ∀ x5 u9 v9 h, Z28 x5 u9 v9 h → J x h u9 v9 28 [(0, vR x0), (1, vR x1), (2, vR x2), (3, vR x3), (4, vR x4), (5, vI x5)] []) (hw : w_L_law_1224 P Z28 x0 x1 x2 x3 x4 x5 t0 t1 u9 v9 h) : J x h u9 v9 1224 [(0, vR x0), (1, vR x1), (2, vR x2), (3, vR x3), (4, vR x4), (5, vI x5)] [vL t0, vL t1] := by
  refine j_lcmp X (pc := 1224) dL_law_1224 ?_
  refine j_if_eq X (pc := 1225) 1230 dL_law_1225 (by decide) hw (fun hw => ?_) (fun hw => ?_)
  · refine j_goto X (pc := 1230) 3387 dL_law_1230 (by decide) ?_
    refine j_iinc X (pc := 3387) 5 (x5 + 7) [(5, vI (x5 + 7)), (0, vR x0), (1, vR x1), (2, vR x2), (3, vR x3), (4, vR x4)] dL_law_3387 rfl rfl (Nat.le_of_ble_eq_true rfl) rfl ?_
    refine j_goto X (pc := 3390) 28 dL_law_3390 (by decide) ?_
    refine j_lv [(0, vR x0), (1, vR x1), (2, vR x2), (3, vR x3), (4, vR x4), (5, vI (x5 + 7))] [1, 2, 3, 4, 5, 0] rfl ?_
    exact hZ28 (x5 + 7) u9 v9 h hw
  · refine j_iconst X (pc := 1228) 0 dL_law_1228 (by decide) ?_
    obtain ⟨hu9, hv9, hw⟩ := hw
    exact j_endL X (pc := 1229) hQ hu9 hv9 dL_law_1229 hw
theorem wk_L_law_1190 {x : CX} (X : Ok x cL_law RX0 rm_L_law 9) (er : xrt x = (Option.some Jvm.ClassFile.FieldType.boolean)) (en : xnm x = "law") {P : Int32 → AH → Prop} (hG : (xG x).2.2.1 99 < (xG x).2.1) (hQ : xl_ x P) (Z28 : Int32 → Nat → Nat → AH → Prop) (x0 : Option Nat) (x1 : Option Nat) (x2 : Option Nat) (x3 : Option Nat) (x4 : Option Nat) (x5 : Int32) (x6 : Int32) (t0 : Int32) (t1 : Int32) (t2 : Option Nat) (u9 : Nat) (v9 : Nat) (h : AH) (hZ28 : ∀ x5 u9 v9 h, Z28 x5 u9 v9 h → J x h u9 v9 28 [(0, vR x0), (1, vR x1), (2, vR x2), (3, vR x3), (4, vR x4), (5, vI x5)] []) (hw : w_L_law_1190 P Z28 x0 x1 x2 x3 x4 x5 x6 t0 t1 t2 u9 v9 h) : J x h u9 v9 1190 [(0, vR x0), (1, vR x1), (2, vR x2), (3, vR x3), (4, vR x4), (5, vI x5), (6, vI x6)] [vI t0, vI t1, vR t2] := by
  obtain ⟨hu9, hv9, hw⟩ := hw
  obtain ⟨b9, c9, f9, hr9, ho9, hc9, hw⟩ := hw
  obtain rfl := List.mem_singleton.mp hc9
  refine j_calli (j_runV (n8 := 2) (As := [vI t1, vI t0]) (rest := []) X (pc := 1190) hr9 (met_X5_show (xl x) X.hl (xG x) h t2 t1 t0 _ hw) ho9 (by decide) rfl q2122 q2123 q2124 q78 q2125 (by decide +kernel) dL_law_1190 rfl ⟨Nat.le_of_ble_eq_true rfl, Nat.le_of_ble_eq_true rfl⟩ (Nat.le_of_ble_eq_true rfl) ⟨hu9, hv9⟩) (fun y1190 h1190 hw => ?_)
  refine j_istore X (pc := 1193) [(7, vI y1190), (0, vR x0), (1, vR x1), (2, vR x2), (3, vR x3), (4, vR x4), (5, vI x5), (6, vI x6)] dL_law_1193 (Nat.le_of_ble_eq_true rfl) rfl ?_
  refine j_aload_n X (pc := 1195) 3 dL_law_1195 rfl rfl ?_
  obtain ⟨hu9, hv9, hw⟩ := hw
  obtain ⟨b9, c9, f9, hr9, ho9, hc9, hw⟩ := hw
  obtain rfl := List.mem_singleton.mp hc9
  refine j_calli (j_runV (n8 := 0) (As := []) (rest := []) X (pc := 1196) hr9 (met_X5_thrown (xl x) X.hl (xG x) h1190 x2 _ hw) ho9 (by decide) rfl q1970 q1971 q1972 q78 q1973 (by decide +kernel) dL_law_1196 rfl ⟨Nat.le_of_ble_eq_true rfl, Nat.le_of_ble_eq_true rfl⟩ (Nat.le_of_ble_eq_true rfl) ⟨hu9, hv9⟩) (fun y1196 h1196 hw => ?_)
  refine j_iload X (pc := 1199) 7 dL_law_1199 rfl ?_
  refine j_icmp_eq X (pc := 1201) 1206 dL_law_1201 (by decide) hw (fun hw => ?_) (fun hw => ?_)
  · refine j_iload X (pc := 1206) 7 dL_law_1206 rfl ?_
    refine j_if_ne X (pc := 1208) 1230 dL_law_1208 (by decide) hw (fun hw => ?_) (fun hw => ?_)
    · refine j_aload_n X (pc := 1211) 4 dL_law_1211 rfl rfl ?_
      refine j_iconst X (pc := 1212) 0 dL_law_1212 (by decide) ?_
      refine j_lald X (pc := 1213) dL_law_1213 hw (fun y1213 hw => ?_)
      refine j_iload X (pc := 1214) 0 dL_law_1214 rfl ?_
      refine j_if_eq X (pc := 1216) 1223 dL_law_1216 (by decide) hw (fun hw => ?_) (fun hw => ?_)
      · refine j_lconst X (pc := 1223) 0 dL_law_1223 (by decide) ?_
        refine j_lv [(0, vR x0), (1, vR x1), (2, vR x2), (3, vR x3), (4, vR x4), (5, vI x5)] [1, 2, 3, 4, 5, 6] rfl ?_
        exact wk_L_law_1224 X er en hG hQ _ x0 x1 x2 x3 x4 x5 0 y1213 u9 v9 h1196 hZ28 hw
      · refine j_lconst X (pc := 1219) 1 dL_law_1219 (by decide) ?_
        refine j_goto X (pc := 1220) 1224 dL_law_1220 (by decide) ?_
        refine j_lv [(0, vR x0), (1, vR x1), (2, vR x2), (3, vR x3), (4, vR x4), (5, vI x5)] [1, 2, 3, 4, 5, 6] rfl ?_
        exact wk_L_law_1224 X er en hG hQ _ x0 x1 x2 x3 x4 x5 1 y1213 u9 v9 h1196 hZ28 hw
    · refine j_goto X (pc := 1230) 3387 dL_law_1230 (by decide) ?_
      refine j_iinc X (pc := 3387) 6 (x5 + 7) [(5, vI (x5 + 7)), (7, vI y1190), (0, vR x0), (1, vR x1), (2, vR x2), (3, vR x3), (4, vR x4), (6, vI x6)] dL_law_3387 rfl rfl (Nat.le_of_ble_eq_true rfl) rfl ?_
      refine j_goto X (pc := 3390) 28 dL_law_3390 (by decide) ?_
      refine j_lv [(0, vR x0), (1, vR x1), (2, vR x2), (3, vR x3), (4, vR x4), (5, vI (x5 + 7))] [2, 3, 4, 5, 6, 0] rfl ?_
      exact hZ28 (x5 + 7) u9 v9 h1196 hw
  · refine j_iconst X (pc := 1204) 0 dL_law_1204 (by decide) ?_
    obtain ⟨hu9, hv9, hw⟩ := hw
    exact j_endL X (pc := 1205) hQ hu9 hv9 dL_law_1205 hw
theorem wk_L_law_1163 {x : CX} (X : Ok x cL_law RX0 rm_L_law 9) (er : xrt x = (Option.some Jvm.ClassFile.FieldType.boolean)) (en : xnm x = "law") {P : Int32 → AH → Prop} (hG : (xG x).2.2.1 99 < (xG x).2.1) (hQ : xl_ x P) (Z28 : Int32 → Nat → Nat → AH → Prop) (x0 : Option Nat) (x1 : Option Nat) (x2 : Option Nat) (x3 : Option Nat) (x4 : Option Nat) (x5 : Int32) (t0 : Int32) (t1 : Int32) (t2 : Option Nat) (u9 : Nat) (v9 : Nat) (h : AH) (hZ28 : ∀ x5 u9 v9 h, Z28 x5 u9 v9 h → J x h u9 v9 28 [(0, vR x0), (1, vR x1), (2, vR x2), (3, vR x3), (4, vR x4), (5, vI x5)] []) (hw : w_L_law_1163 P Z28 x0 x1 x2 x3 x4 x5 t0 t1 t2 u9 v9 h) : J x h u9 v9 1163 [(0, vR x0), (1, vR x1), (2, vR x2), (3, vR x3), (4, vR x4), (5, vI x5)] [vI t0, vI t1, vR t2] := by
  refine j_aload_n X (pc := 1163) 3 dL_law_1163 rfl rfl ?_
  obtain ⟨hu9, hv9, hw⟩ := hw
  refine j_calli (j_runSW (n8 := 4) (As := [vR t2, vI t1, vI t0, vR x3]) (rest := []) X (pc := 1164) (met_X0_show (xl x) X.hl (xG x) h t2 t1 t0 x3 _ hw) q1338 q1339 q70 q1340 (by decide +kernel) dL_law_1164 rfl ⟨Nat.le_of_ble_eq_true rfl, Nat.le_of_ble_eq_true rfl⟩ (Nat.le_of_ble_eq_true rfl) ⟨hu9, hv9⟩) (fun y1164 h1164 hw => ?_)
  refine j_istore X (pc := 1167) [(6, vI y1164), (0, vR x0), (1, vR x1), (2, vR x2), (3, vR x3), (4, vR x4), (5, vI x5)] dL_law_1167 (Nat.le_of_ble_eq_true rfl) rfl ?_
  refine j_aload_n X (pc := 1169) 3 dL_law_1169 rfl rfl ?_
  refine j_aload_n X (pc := 1170) 1 dL_law_1170 rfl rfl ?_
  refine j_iload X (pc := 1171) 6 dL_law_1171 rfl ?_
  refine j_iconst X (pc := 1173) 1 dL_law_1173 (by decide) ?_
  refine j_iadd X (pc := 1174) dL_law_1174 ?_
  refine j_iald X (pc := 1175) 32 rfl dL_law_1175 hw (fun y1175 hw => ?_)
  refine j_aload_n X (pc := 1176) 1 dL_law_1176 rfl rfl ?_
  refine j_iload X (pc := 1177) 6 dL_law_1177 rfl ?_
  refine j_iconst X (pc := 1179) 2 dL_law_1179 (by decide) ?_
  refine j_iadd X (pc := 1180) dL_law_1180 ?_
  refine j_iald X (pc := 1181) 32 rfl dL_law_1181 hw (fun y1181 hw => ?_)
  refine j_if_eq X (pc := 1182) 1189 dL_law_1182 (by decide) hw (fun hw => ?_) (fun hw => ?_)
  · refine j_iconst X (pc := 1189) 0 dL_law_1189 (by decide) ?_
    refine j_lv [(0, vR x0), (1, vR x1), (2, vR x2), (3, vR x3), (4, vR x4), (5, vI x5), (6, vI y1164)] [1, 2, 3, 4, 5, 6, 0] rfl ?_
    exact wk_L_law_1190 X er en hG hQ _ x0 x1 x2 x3 x4 x5 y1164 0 y1175 x2 (u9 + 13) (v9 + 206) h1164 hZ28 hw
  · refine j_iconst X (pc := 1185) 1 dL_law_1185 (by decide) ?_
    refine j_goto X (pc := 1186) 1190 dL_law_1186 (by decide) ?_
    refine j_lv [(0, vR x0), (1, vR x1), (2, vR x2), (3, vR x3), (4, vR x4), (5, vI x5), (6, vI y1164)] [1, 2, 3, 4, 5, 6, 0] rfl ?_
    exact wk_L_law_1190 X er en hG hQ _ x0 x1 x2 x3 x4 x5 y1164 1 y1175 x2 (u9 + 13) (v9 + 206) h1164 hZ28 hw
theorem wk_L_law_1616 {x : CX} (X : Ok x cL_law RX0 rm_L_law 9) (er : xrt x = (Option.some Jvm.ClassFile.FieldType.boolean)) (en : xnm x = "law") {P : Int32 → AH → Prop} (hG : (xG x).2.2.1 99 < (xG x).2.1) (hQ : xl_ x P) (Z28 : Int32 → Nat → Nat → AH → Prop) (x0 : Option Nat) (x1 : Option Nat) (x2 : Option Nat) (x3 : Option Nat) (x4 : Option Nat) (x5 : Int32) (t0 : Int64) (t1 : Int64) (u9 : Nat) (v9 : Nat) (h : AH) (hZ28 : ∀ x5 u9 v9 h, Z28 x5 u9 v9 h → J x h u9 v9 28 [(0, vR x0), (1, vR x1), (2, vR x2), (3, vR x3), (4, vR x4), (5, vI x5)] []) (hw : w_L_law_1616 P Z28 x0 x1 x2 x3 x4 x5 t0 t1 u9 v9 h) : J x h u9 v9 1616 [(0, vR x0), (1, vR x1), (2, vR x2), (3, vR x3), (4, vR x4), (5, vI x5)] [vL t0, vL t1] := by
  refine j_lcmp X (pc := 1616) dL_law_1616 ?_
  refine j_if_eq X (pc := 1617) 1622 dL_law_1617 (by decide) hw (fun hw => ?_) (fun hw => ?_)
  · refine j_goto X (pc := 1622) 3387 dL_law_1622 (by decide) ?_
    refine j_iinc X (pc := 3387) 5 (x5 + 7) [(5, vI (x5 + 7)), (0, vR x0), (1, vR x1), (2, vR x2), (3, vR x3), (4, vR x4)] dL_law_3387 rfl rfl (Nat.le_of_ble_eq_true rfl) rfl ?_
    refine j_goto X (pc := 3390) 28 dL_law_3390 (by decide) ?_
    refine j_lv [(0, vR x0), (1, vR x1), (2, vR x2), (3, vR x3), (4, vR x4), (5, vI (x5 + 7))] [1, 2, 3, 4, 5, 0] rfl ?_
    exact hZ28 (x5 + 7) u9 v9 h hw
  · refine j_iconst X (pc := 1620) 0 dL_law_1620 (by decide) ?_
    obtain ⟨hu9, hv9, hw⟩ := hw
    exact j_endL X (pc := 1621) hQ hu9 hv9 dL_law_1621 hw
theorem wk_L_law_1747 {x : CX} (X : Ok x cL_law RX0 rm_L_law 9) (er : xrt x = (Option.some Jvm.ClassFile.FieldType.boolean)) (en : xnm x = "law") {P : Int32 → AH → Prop} (hG : (xG x).2.2.1 99 < (xG x).2.1) (hQ : xl_ x P) (Z28 : Int32 → Nat → Nat → AH → Prop) (x0 : Option Nat) (x1 : Option Nat) (x2 : Option Nat) (x3 : Option Nat) (x4 : Option Nat) (x5 : Int32) (t0 : Int64) (t1 : Int64) (u9 : Nat) (v9 : Nat) (h : AH) (hZ28 : ∀ x5 u9 v9 h, Z28 x5 u9 v9 h → J x h u9 v9 28 [(0, vR x0), (1, vR x1), (2, vR x2), (3, vR x3), (4, vR x4), (5, vI x5)] []) (hw : w_L_law_1747 P Z28 x0 x1 x2 x3 x4 x5 t0 t1 u9 v9 h) : J x h u9 v9 1747 [(0, vR x0), (1, vR x1), (2, vR x2), (3, vR x3), (4, vR x4), (5, vI x5)] [vL t0, vL t1] := by
  refine j_lcmp X (pc := 1747) dL_law_1747 ?_
  refine j_if_eq X (pc := 1748) 1753 dL_law_1748 (by decide) hw (fun hw => ?_) (fun hw => ?_)
  · refine j_goto X (pc := 1753) 3387 dL_law_1753 (by decide) ?_
    refine j_iinc X (pc := 3387) 5 (x5 + 7) [(5, vI (x5 + 7)), (0, vR x0), (1, vR x1), (2, vR x2), (3, vR x3), (4, vR x4)] dL_law_3387 rfl rfl (Nat.le_of_ble_eq_true rfl) rfl ?_
    refine j_goto X (pc := 3390) 28 dL_law_3390 (by decide) ?_
    refine j_lv [(0, vR x0), (1, vR x1), (2, vR x2), (3, vR x3), (4, vR x4), (5, vI (x5 + 7))] [1, 2, 3, 4, 5, 0] rfl ?_
    exact hZ28 (x5 + 7) u9 v9 h hw
  · refine j_iconst X (pc := 1751) 0 dL_law_1751 (by decide) ?_
    obtain ⟨hu9, hv9, hw⟩ := hw
    exact j_endL X (pc := 1752) hQ hu9 hv9 dL_law_1752 hw
theorem wk_L_law_3168 {x : CX} (X : Ok x cL_law RX0 rm_L_law 9) (er : xrt x = (Option.some Jvm.ClassFile.FieldType.boolean)) (en : xnm x = "law") {P : Int32 → AH → Prop} (hG : (xG x).2.2.1 99 < (xG x).2.1) (hQ : xl_ x P) (Z28 : Int32 → Nat → Nat → AH → Prop) (x0 : Option Nat) (x1 : Option Nat) (x2 : Option Nat) (x3 : Option Nat) (x4 : Option Nat) (x5 : Int32) (t0 : Int64) (t1 : Int64) (u9 : Nat) (v9 : Nat) (h : AH) (hZ28 : ∀ x5 u9 v9 h, Z28 x5 u9 v9 h → J x h u9 v9 28 [(0, vR x0), (1, vR x1), (2, vR x2), (3, vR x3), (4, vR x4), (5, vI x5)] []) (hw : w_L_law_3168 P Z28 x0 x1 x2 x3 x4 x5 t0 t1 u9 v9 h) : J x h u9 v9 3168 [(0, vR x0), (1, vR x1), (2, vR x2), (3, vR x3), (4, vR x4), (5, vI x5)] [vL t0, vL t1] := by
  refine j_lcmp X (pc := 3168) dL_law_3168 ?_
  refine j_if_eq X (pc := 3169) 3174 dL_law_3169 (by decide) hw (fun hw => ?_) (fun hw => ?_)
  · refine j_goto X (pc := 3174) 3387 dL_law_3174 (by decide) ?_
    refine j_iinc X (pc := 3387) 5 (x5 + 7) [(5, vI (x5 + 7)), (0, vR x0), (1, vR x1), (2, vR x2), (3, vR x3), (4, vR x4)] dL_law_3387 rfl rfl (Nat.le_of_ble_eq_true rfl) rfl ?_
    refine j_goto X (pc := 3390) 28 dL_law_3390 (by decide) ?_
    refine j_lv [(0, vR x0), (1, vR x1), (2, vR x2), (3, vR x3), (4, vR x4), (5, vI (x5 + 7))] [1, 2, 3, 4, 5, 0] rfl ?_
    exact hZ28 (x5 + 7) u9 v9 h hw
  · refine j_iconst X (pc := 3172) 0 dL_law_3172 (by decide) ?_
    obtain ⟨hu9, hv9, hw⟩ := hw
    exact j_endL X (pc := 3173) hQ hu9 hv9 dL_law_3173 hw
theorem wk_L_law_28 {x : CX} (X : Ok x cL_law RX0 rm_L_law 9) (er : xrt x = (Option.some Jvm.ClassFile.FieldType.boolean)) (en : xnm x = "law") {P : Int32 → AH → Prop} (hG : (xG x).2.2.1 99 < (xG x).2.1) (hQ : xl_ x P) (x0 : Option Nat) (x1 : Option Nat) (x2 : Option Nat) (x3 : Option Nat) (x4 : Option Nat) (x5 : Int32) (u9 : Nat) (v9 : Nat) (h : AH) (hw : w_L_law_28 P x0 x1 x2 x3 x4 x5 u9 v9 h) : J x h u9 v9 28 [(0, vR x0), (1, vR x1), (2, vR x2), (3, vR x3), (4, vR x4), (5, vI x5)] [] := by
  refine hw (fun x5 u9 v9 h => J x h u9 v9 28 [(0, vR x0), (1, vR x1), (2, vR x2), (3, vR x3), (4, vR x4), (5, vI x5)] []) (fun x5 u9 v9 h hw => ?_)
  refine j_iload X (pc := 28) 5 dL_law_28 rfl ?_
  refine j_aload_n X (pc := 30) 0 dL_law_30 rfl rfl ?_
  refine j_alen X (pc := 31) dL_law_31 hw (fun y31 hw => ?_)
  refine j_bipush X (pc := 32) 7 dL_law_32 (by decide) ?_
  refine j_isub X (pc := 34) dL_law_34 ?_
  refine j_icmp_gt X (pc := 35) 3393 dL_law_35 (by decide) hw (fun hw => ?_) (fun hw => ?_)
  · refine j_iconst X (pc := 3393) 1 dL_law_3393 (by decide) ?_
    obtain ⟨hu9, hv9, hw⟩ := hw
    exact j_endL X (pc := 3394) hQ hu9 hv9 dL_law_3394 hw
  · refine j_aload_n X (pc := 38) 0 dL_law_38 rfl rfl ?_
    refine j_iload X (pc := 39) 5 dL_law_39 rfl ?_
    refine j_iald X (pc := 41) 32 rfl dL_law_41 hw (fun y41 hw => ?_)
    refine j_bipush X (pc := 42) 63 dL_law_42 (by decide) ?_
    refine j_iand X (pc := 44) dL_law_44 ?_
    refine j_tab X (pc := 45) dL_law_45 (by decide) (by decide) (fun i off ho ha => ?_) (fun hd => ?_)
    · match i, ho, ha with
        | 0, ho, ha =>
          cases ho
          have hw := hw.1 ha
          refine ⟨240, by decide, ?_⟩
          refine j_aload_n X (pc := 240) 1 dL_law_240 rfl rfl ?_
          refine j_aload_n X (pc := 241) 0 dL_law_241 rfl rfl ?_
          refine j_iload X (pc := 242) 5 dL_law_242 rfl ?_
          refine j_iconst X (pc := 244) 1 dL_law_244 (by decide) ?_
          refine j_iadd X (pc := 245) dL_law_245 ?_
          refine j_iald X (pc := 246) 32 rfl dL_law_246 hw (fun y246 hw => ?_)
          refine j_aload_n X (pc := 247) 0 dL_law_247 rfl rfl ?_
          refine j_iload X (pc := 248) 5 dL_law_248 rfl ?_
          refine j_iconst X (pc := 250) 2 dL_law_250 (by decide) ?_
          refine j_iadd X (pc := 251) dL_law_251 ?_
          refine j_iald X (pc := 252) 32 rfl dL_law_252 hw (fun y252 hw => ?_)
          refine j_aload_n X (pc := 253) 0 dL_law_253 rfl rfl ?_
          refine j_iload X (pc := 254) 5 dL_law_254 rfl ?_
          refine j_iconst X (pc := 256) 3 dL_law_256 (by decide) ?_
          refine j_iadd X (pc := 257) dL_law_257 ?_
          refine j_iald X (pc := 258) 32 rfl dL_law_258 hw (fun y258 hw => ?_)
          refine j_aload_n X (pc := 259) 0 dL_law_259 rfl rfl ?_
          refine j_iload X (pc := 260) 5 dL_law_260 rfl ?_
          refine j_iconst X (pc := 262) 4 dL_law_262 (by decide) ?_
          refine j_iadd X (pc := 263) dL_law_263 ?_
          refine j_iald X (pc := 264) 32 rfl dL_law_264 hw (fun y264 hw => ?_)
          refine j_aload_n X (pc := 265) 0 dL_law_265 rfl rfl ?_
          refine j_iload X (pc := 266) 5 dL_law_266 rfl ?_
          refine j_iconst X (pc := 268) 5 dL_law_268 (by decide) ?_
          refine j_iadd X (pc := 269) dL_law_269 ?_
          refine j_iald X (pc := 270) 32 rfl dL_law_270 hw (fun y270 hw => ?_)
          refine j_aload_n X (pc := 271) 0 dL_law_271 rfl rfl ?_
          refine j_iload X (pc := 272) 5 dL_law_272 rfl ?_
          refine j_bipush X (pc := 274) 6 dL_law_274 (by decide) ?_
          refine j_iadd X (pc := 276) dL_law_276 ?_
          refine j_iald X (pc := 277) 32 rfl dL_law_277 hw (fun y277 hw => ?_)
          refine j_if_eq X (pc := 278) 285 dL_law_278 (by decide) hw (fun hw => ?_) (fun hw => ?_)
          · refine j_iconst X (pc := 285) 0 dL_law_285 (by decide) ?_
            exact wk_L_law_286 X er en hG hQ _ x0 x1 x2 x3 x4 x5 0 y270 y264 y258 y252 y246 x1 u9 v9 h (fun x5_ u9_ v9_ h_ hz => hz) hw
          · refine j_iconst X (pc := 281) 1 dL_law_281 (by decide) ?_
            refine j_goto X (pc := 282) 286 dL_law_282 (by decide) ?_
            exact wk_L_law_286 X er en hG hQ _ x0 x1 x2 x3 x4 x5 1 y270 y264 y258 y252 y246 x1 u9 v9 h (fun x5_ u9_ v9_ h_ hz => hz) hw
        | 1, ho, ha =>
          cases ho
          have hw := hw.2.1 ha
          refine ⟨374, by decide, ?_⟩
          refine j_aload_n X (pc := 374) 1 dL_law_374 rfl rfl ?_
          refine j_aload_n X (pc := 375) 0 dL_law_375 rfl rfl ?_
          refine j_iload X (pc := 376) 5 dL_law_376 rfl ?_
          refine j_iconst X (pc := 378) 1 dL_law_378 (by decide) ?_
          refine j_iadd X (pc := 379) dL_law_379 ?_
          refine j_iald X (pc := 380) 32 rfl dL_law_380 hw (fun y380 hw => ?_)
          refine j_aload_n X (pc := 381) 0 dL_law_381 rfl rfl ?_
          refine j_iload X (pc := 382) 5 dL_law_382 rfl ?_
          refine j_iconst X (pc := 384) 2 dL_law_384 (by decide) ?_
          refine j_iadd X (pc := 385) dL_law_385 ?_
          refine j_iald X (pc := 386) 32 rfl dL_law_386 hw (fun y386 hw => ?_)
          refine j_aload_n X (pc := 387) 0 dL_law_387 rfl rfl ?_
          refine j_iload X (pc := 388) 5 dL_law_388 rfl ?_
          refine j_iconst X (pc := 390) 3 dL_law_390 (by decide) ?_
          refine j_iadd X (pc := 391) dL_law_391 ?_
          refine j_iald X (pc := 392) 32 rfl dL_law_392 hw (fun y392 hw => ?_)
          refine j_aload_n X (pc := 393) 0 dL_law_393 rfl rfl ?_
          refine j_iload X (pc := 394) 5 dL_law_394 rfl ?_
          refine j_iconst X (pc := 396) 4 dL_law_396 (by decide) ?_
          refine j_iadd X (pc := 397) dL_law_397 ?_
          refine j_iald X (pc := 398) 32 rfl dL_law_398 hw (fun y398 hw => ?_)
          refine j_aload_n X (pc := 399) 3 dL_law_399 rfl rfl ?_
          obtain ⟨hu9, hv9, hw⟩ := hw
          refine j_calli (j_runSW (n8 := 6) (As := [vR x1, vI y380, vI y386, vI y392, vI y398, vR x3]) (rest := []) X (pc := 400) (met_X0_move (xl x) X.hl (xG x) h x1 y380 y386 y392 y398 x3 _ hw) q1065 q1066 q70 q1067 (by decide +kernel) dL_law_400 rfl ⟨Nat.le_of_ble_eq_true rfl, Nat.le_of_ble_eq_true rfl⟩ (Nat.le_of_ble_eq_true rfl) ⟨hu9, hv9⟩) (fun y400 h400 hw => ?_)
          refine j_istore X (pc := 403) [(6, vI y400), (0, vR x0), (1, vR x1), (2, vR x2), (3, vR x3), (4, vR x4), (5, vI x5)] dL_law_403 (Nat.le_of_ble_eq_true rfl) rfl ?_
          refine j_aload_n X (pc := 405) 3 dL_law_405 rfl rfl ?_
          refine j_aload_n X (pc := 406) 1 dL_law_406 rfl rfl ?_
          refine j_iload X (pc := 407) 6 dL_law_407 rfl ?_
          refine j_iconst X (pc := 409) 1 dL_law_409 (by decide) ?_
          refine j_iadd X (pc := 410) dL_law_410 ?_
          refine j_iald X (pc := 411) 32 rfl dL_law_411 hw (fun y411 hw => ?_)
          refine j_aload_n X (pc := 412) 1 dL_law_412 rfl rfl ?_
          refine j_iload X (pc := 413) 6 dL_law_413 rfl ?_
          refine j_iconst X (pc := 415) 2 dL_law_415 (by decide) ?_
          refine j_iadd X (pc := 416) dL_law_416 ?_
          refine j_iald X (pc := 417) 32 rfl dL_law_417 hw (fun y417 hw => ?_)
          refine j_aload_n X (pc := 418) 1 dL_law_418 rfl rfl ?_
          refine j_iload X (pc := 419) 6 dL_law_419 rfl ?_
          refine j_iconst X (pc := 421) 3 dL_law_421 (by decide) ?_
          refine j_iadd X (pc := 422) dL_law_422 ?_
          refine j_iald X (pc := 423) 32 rfl dL_law_423 hw (fun y423 hw => ?_)
          refine j_aload_n X (pc := 424) 1 dL_law_424 rfl rfl ?_
          refine j_iload X (pc := 425) 6 dL_law_425 rfl ?_
          refine j_iconst X (pc := 427) 4 dL_law_427 (by decide) ?_
          refine j_iadd X (pc := 428) dL_law_428 ?_
          refine j_iald X (pc := 429) 32 rfl dL_law_429 hw (fun y429 hw => ?_)
          obtain ⟨hu9, hv9, hw⟩ := hw
          obtain ⟨b9, c9, f9, hr9, ho9, hc9, hw⟩ := hw
          obtain rfl := List.mem_singleton.mp hc9
          refine j_calli (j_runV (n8 := 4) (As := [vI y411, vI y417, vI y423, vI y429]) (rest := []) X (pc := 430) hr9 (met_X5_move (xl x) X.hl (xG x) h400 x2 y411 y417 y423 y429 _ hw) ho9 (by decide) rfl q2035 q2036 q2037 q78 q2038 (by decide +kernel) dL_law_430 rfl ⟨Nat.le_of_ble_eq_true rfl, Nat.le_of_ble_eq_true rfl⟩ (Nat.le_of_ble_eq_true rfl) ⟨hu9, hv9⟩) (fun y430 h430 hw => ?_)
          refine j_istore X (pc := 433) [(7, vI y430), (6, vI y400), (0, vR x0), (1, vR x1), (2, vR x2), (3, vR x3), (4, vR x4), (5, vI x5)] dL_law_433 (Nat.le_of_ble_eq_true rfl) rfl ?_
          refine j_aload_n X (pc := 435) 4 dL_law_435 rfl rfl ?_
          obtain ⟨hu9, hv9, hw⟩ := hw
          obtain ⟨b9, c9, f9, hr9, ho9, hc9, hw⟩ := hw
          obtain rfl := List.mem_singleton.mp hc9
          refine j_calli (j_runV (n8 := 0) (As := []) (rest := []) X (pc := 436) hr9 (met_X5_thrown (xl x) X.hl (xG x) h430 x2 _ hw) ho9 (by decide) rfl q1970 q1971 q1972 q78 q1973 (by decide +kernel) dL_law_436 rfl ⟨Nat.le_of_ble_eq_true rfl, Nat.le_of_ble_eq_true rfl⟩ (Nat.le_of_ble_eq_true rfl) ⟨hu9, hv9⟩) (fun y436 h436 hw => ?_)
          refine j_iload X (pc := 439) 1 dL_law_439 rfl ?_
          refine j_icmp_eq X (pc := 441) 446 dL_law_441 (by decide) hw (fun hw => ?_) (fun hw => ?_)
          · refine j_iload X (pc := 446) 1 dL_law_446 rfl ?_
            refine j_if_ne X (pc := 448) 463 dL_law_448 (by decide) hw (fun hw => ?_) (fun hw => ?_)
            · refine j_aload_n X (pc := 451) 5 dL_law_451 rfl rfl ?_
              refine j_iconst X (pc := 452) 0 dL_law_452 (by decide) ?_
              refine j_lald X (pc := 453) dL_law_453 hw (fun y453 hw => ?_)
              refine j_iload X (pc := 454) 0 dL_law_454 rfl ?_
              refine j_i2l X (pc := 456) dL_law_456 ?_
              refine j_lcmp X (pc := 457) dL_law_457 ?_
              refine j_if_eq X (pc := 458) 463 dL_law_458 (by decide) hw (fun hw => ?_) (fun hw => ?_)
              · refine j_goto X (pc := 463) 3387 dL_law_463 (by decide) ?_
                refine j_iinc X (pc := 3387) 7 (x5 + 7) [(5, vI (x5 + 7)), (7, vI y430), (6, vI y400), (0, vR x0), (1, vR x1), (2, vR x2), (3, vR x3), (4, vR x4)] dL_law_3387 rfl rfl (Nat.le_of_ble_eq_true rfl) rfl ?_
                refine j_goto X (pc := 3390) 28 dL_law_3390 (by decide) ?_
                refine j_lv [(0, vR x0), (1, vR x1), (2, vR x2), (3, vR x3), (4, vR x4), (5, vI (x5 + 7))] [3, 4, 5, 6, 7, 0] rfl ?_
                exact hw
              · refine j_iconst X (pc := 461) 0 dL_law_461 (by decide) ?_
                obtain ⟨hu9, hv9, hw⟩ := hw
                exact j_endL X (pc := 462) hQ hu9 hv9 dL_law_462 hw
            · refine j_goto X (pc := 463) 3387 dL_law_463 (by decide) ?_
              refine j_iinc X (pc := 3387) 7 (x5 + 7) [(5, vI (x5 + 7)), (7, vI y430), (6, vI y400), (0, vR x0), (1, vR x1), (2, vR x2), (3, vR x3), (4, vR x4)] dL_law_3387 rfl rfl (Nat.le_of_ble_eq_true rfl) rfl ?_
              refine j_goto X (pc := 3390) 28 dL_law_3390 (by decide) ?_
              refine j_lv [(0, vR x0), (1, vR x1), (2, vR x2), (3, vR x3), (4, vR x4), (5, vI (x5 + 7))] [3, 4, 5, 6, 7, 0] rfl ?_
              exact hw
          · refine j_iconst X (pc := 444) 0 dL_law_444 (by decide) ?_
            obtain ⟨hu9, hv9, hw⟩ := hw
            exact j_endL X (pc := 445) hQ hu9 hv9 dL_law_445 hw
        | 2, ho, ha =>
          cases ho
          have hw := hw.2.2.1 ha
          refine ⟨466, by decide, ?_⟩
          refine j_aload_n X (pc := 466) 1 dL_law_466 rfl rfl ?_
          refine j_aload_n X (pc := 467) 0 dL_law_467 rfl rfl ?_
          refine j_iload X (pc := 468) 5 dL_law_468 rfl ?_
          refine j_iconst X (pc := 470) 1 dL_law_470 (by decide) ?_
          refine j_iadd X (pc := 471) dL_law_471 ?_
          refine j_iald X (pc := 472) 32 rfl dL_law_472 hw (fun y472 hw => ?_)
          refine j_aload_n X (pc := 473) 0 dL_law_473 rfl rfl ?_
          refine j_iload X (pc := 474) 5 dL_law_474 rfl ?_
          refine j_iconst X (pc := 476) 2 dL_law_476 (by decide) ?_
          refine j_iadd X (pc := 477) dL_law_477 ?_
          refine j_iald X (pc := 478) 32 rfl dL_law_478 hw (fun y478 hw => ?_)
          refine j_aload_n X (pc := 479) 3 dL_law_479 rfl rfl ?_
          obtain ⟨hu9, hv9, hw⟩ := hw
          refine j_calli (j_runSW (n8 := 4) (As := [vR x1, vI y472, vI y478, vR x3]) (rest := []) X (pc := 480) (met_X0_raise (xl x) X.hl (xG x) h x1 y472 y478 x3 _ hw) q1178 q1179 q70 q1180 (by decide +kernel) dL_law_480 rfl ⟨Nat.le_of_ble_eq_true rfl, Nat.le_of_ble_eq_true rfl⟩ (Nat.le_of_ble_eq_true rfl) ⟨hu9, hv9⟩) (fun y480 h480 hw => ?_)
          refine j_istore X (pc := 483) [(6, vI y480), (0, vR x0), (1, vR x1), (2, vR x2), (3, vR x3), (4, vR x4), (5, vI x5)] dL_law_483 (Nat.le_of_ble_eq_true rfl) rfl ?_
          refine j_aload_n X (pc := 485) 3 dL_law_485 rfl rfl ?_
          refine j_aload_n X (pc := 486) 1 dL_law_486 rfl rfl ?_
          refine j_iload X (pc := 487) 6 dL_law_487 rfl ?_
          refine j_iconst X (pc := 489) 1 dL_law_489 (by decide) ?_
          refine j_iadd X (pc := 490) dL_law_490 ?_
          refine j_iald X (pc := 491) 32 rfl dL_law_491 hw (fun y491 hw => ?_)
          refine j_aload_n X (pc := 492) 1 dL_law_492 rfl rfl ?_
          refine j_iload X (pc := 493) 6 dL_law_493 rfl ?_
          refine j_iconst X (pc := 495) 2 dL_law_495 (by decide) ?_
          refine j_iadd X (pc := 496) dL_law_496 ?_
          refine j_iald X (pc := 497) 32 rfl dL_law_497 hw (fun y497 hw => ?_)
          obtain ⟨hu9, hv9, hw⟩ := hw
          obtain ⟨b9, c9, f9, hr9, ho9, hc9, hw⟩ := hw
          obtain rfl := List.mem_singleton.mp hc9
          refine j_calli (j_runV (n8 := 2) (As := [vI y491, vI y497]) (rest := []) X (pc := 498) hr9 (met_X5_raise (xl x) X.hl (xG x) h480 x2 y491 y497 _ hw) ho9 (by decide) rfl q2059 q2060 q2061 q78 q2062 (by decide +kernel) dL_law_498 rfl ⟨Nat.le_of_ble_eq_true rfl, Nat.le_of_ble_eq_true rfl⟩ (Nat.le_of_ble_eq_true rfl) ⟨hu9, hv9⟩) (fun y498 h498 hw => ?_)
          refine j_istore X (pc := 501) [(7, vI y498), (6, vI y480), (0, vR x0), (1, vR x1), (2, vR x2), (3, vR x3), (4, vR x4), (5, vI x5)] dL_law_501 (Nat.le_of_ble_eq_true rfl) rfl ?_
          refine j_aload_n X (pc := 503) 4 dL_law_503 rfl rfl ?_
          obtain ⟨hu9, hv9, hw⟩ := hw
          obtain ⟨b9, c9, f9, hr9, ho9, hc9, hw⟩ := hw
          obtain rfl := List.mem_singleton.mp hc9
          refine j_calli (j_runV (n8 := 0) (As := []) (rest := []) X (pc := 504) hr9 (met_X5_thrown (xl x) X.hl (xG x) h498 x2 _ hw) ho9 (by decide) rfl q1970 q1971 q1972 q78 q1973 (by decide +kernel) dL_law_504 rfl ⟨Nat.le_of_ble_eq_true rfl, Nat.le_of_ble_eq_true rfl⟩ (Nat.le_of_ble_eq_true rfl) ⟨hu9, hv9⟩) (fun y504 h504 hw => ?_)
          refine j_iload X (pc := 507) 1 dL_law_507 rfl ?_
          refine j_icmp_eq X (pc := 509) 514 dL_law_509 (by decide) hw (fun hw => ?_) (fun hw => ?_)
          · refine j_iload X (pc := 514) 1 dL_law_514 rfl ?_
            refine j_if_ne X (pc := 516) 531 dL_law_516 (by decide) hw (fun hw => ?_) (fun hw => ?_)
            · refine j_aload_n X (pc := 519) 5 dL_law_519 rfl rfl ?_
              refine j_iconst X (pc := 520) 0 dL_law_520 (by decide) ?_
              refine j_lald X (pc := 521) dL_law_521 hw (fun y521 hw => ?_)
              refine j_iload X (pc := 522) 0 dL_law_522 rfl ?_
              refine j_i2l X (pc := 524) dL_law_524 ?_
              refine j_lcmp X (pc := 525) dL_law_525 ?_
              refine j_if_eq X (pc := 526) 531 dL_law_526 (by decide) hw (fun hw => ?_) (fun hw => ?_)
              · refine j_goto X (pc := 531) 3387 dL_law_531 (by decide) ?_
                refine j_iinc X (pc := 3387) 7 (x5 + 7) [(5, vI (x5 + 7)), (7, vI y498), (6, vI y480), (0, vR x0), (1, vR x1), (2, vR x2), (3, vR x3), (4, vR x4)] dL_law_3387 rfl rfl (Nat.le_of_ble_eq_true rfl) rfl ?_
                refine j_goto X (pc := 3390) 28 dL_law_3390 (by decide) ?_
                refine j_lv [(0, vR x0), (1, vR x1), (2, vR x2), (3, vR x3), (4, vR x4), (5, vI (x5 + 7))] [3, 4, 5, 6, 7, 0] rfl ?_
                exact hw
              · refine j_iconst X (pc := 529) 0 dL_law_529 (by decide) ?_
                obtain ⟨hu9, hv9, hw⟩ := hw
                exact j_endL X (pc := 530) hQ hu9 hv9 dL_law_530 hw
            · refine j_goto X (pc := 531) 3387 dL_law_531 (by decide) ?_
              refine j_iinc X (pc := 3387) 7 (x5 + 7) [(5, vI (x5 + 7)), (7, vI y498), (6, vI y480), (0, vR x0), (1, vR x1), (2, vR x2), (3, vR x3), (4, vR x4)] dL_law_3387 rfl rfl (Nat.le_of_ble_eq_true rfl) rfl ?_
              refine j_goto X (pc := 3390) 28 dL_law_3390 (by decide) ?_
              refine j_lv [(0, vR x0), (1, vR x1), (2, vR x2), (3, vR x3), (4, vR x4), (5, vI (x5 + 7))] [3, 4, 5, 6, 7, 0] rfl ?_
              exact hw
          · refine j_iconst X (pc := 512) 0 dL_law_512 (by decide) ?_
            obtain ⟨hu9, hv9, hw⟩ := hw
            exact j_endL X (pc := 513) hQ hu9 hv9 dL_law_513 hw
        | 3, ho, ha =>
          cases ho
          have hw := hw.2.2.2.1 ha
          refine ⟨534, by decide, ?_⟩
          refine j_aload_n X (pc := 534) 1 dL_law_534 rfl rfl ?_
          refine j_aload_n X (pc := 535) 0 dL_law_535 rfl rfl ?_
          refine j_iload X (pc := 536) 5 dL_law_536 rfl ?_
          refine j_iconst X (pc := 538) 1 dL_law_538 (by decide) ?_
          refine j_iadd X (pc := 539) dL_law_539 ?_
          refine j_iald X (pc := 540) 32 rfl dL_law_540 hw (fun y540 hw => ?_)
          refine j_aload_n X (pc := 541) 0 dL_law_541 rfl rfl ?_
          refine j_iload X (pc := 542) 5 dL_law_542 rfl ?_
          refine j_iconst X (pc := 544) 2 dL_law_544 (by decide) ?_
          refine j_iadd X (pc := 545) dL_law_545 ?_
          refine j_iald X (pc := 546) 32 rfl dL_law_546 hw (fun y546 hw => ?_)
          refine j_aload_n X (pc := 547) 3 dL_law_547 rfl rfl ?_
          obtain ⟨hu9, hv9, hw⟩ := hw
          refine j_calli (j_runSW (n8 := 4) (As := [vR x1, vI y540, vI y546, vR x3]) (rest := []) X (pc := 548) (met_X0_lower (xl x) X.hl (xG x) h x1 y540 y546 x3 _ hw) q1204 q1205 q70 q1206 (by decide +kernel) dL_law_548 rfl ⟨Nat.le_of_ble_eq_true rfl, Nat.le_of_ble_eq_true rfl⟩ (Nat.le_of_ble_eq_true rfl) ⟨hu9, hv9⟩) (fun y548 h548 hw => ?_)
          refine j_istore X (pc := 551) [(6, vI y548), (0, vR x0), (1, vR x1), (2, vR x2), (3, vR x3), (4, vR x4), (5, vI x5)] dL_law_551 (Nat.le_of_ble_eq_true rfl) rfl ?_
          refine j_aload_n X (pc := 553) 3 dL_law_553 rfl rfl ?_
          refine j_aload_n X (pc := 554) 1 dL_law_554 rfl rfl ?_
          refine j_iload X (pc := 555) 6 dL_law_555 rfl ?_
          refine j_iconst X (pc := 557) 1 dL_law_557 (by decide) ?_
          refine j_iadd X (pc := 558) dL_law_558 ?_
          refine j_iald X (pc := 559) 32 rfl dL_law_559 hw (fun y559 hw => ?_)
          refine j_aload_n X (pc := 560) 1 dL_law_560 rfl rfl ?_
          refine j_iload X (pc := 561) 6 dL_law_561 rfl ?_
          refine j_iconst X (pc := 563) 2 dL_law_563 (by decide) ?_
          refine j_iadd X (pc := 564) dL_law_564 ?_
          refine j_iald X (pc := 565) 32 rfl dL_law_565 hw (fun y565 hw => ?_)
          obtain ⟨hu9, hv9, hw⟩ := hw
          obtain ⟨b9, c9, f9, hr9, ho9, hc9, hw⟩ := hw
          obtain rfl := List.mem_singleton.mp hc9
          refine j_calli (j_runV (n8 := 2) (As := [vI y559, vI y565]) (rest := []) X (pc := 566) hr9 (met_X5_lower (xl x) X.hl (xG x) h548 x2 y559 y565 _ hw) ho9 (by decide) rfl q2071 q2072 q2073 q78 q2074 (by decide +kernel) dL_law_566 rfl ⟨Nat.le_of_ble_eq_true rfl, Nat.le_of_ble_eq_true rfl⟩ (Nat.le_of_ble_eq_true rfl) ⟨hu9, hv9⟩) (fun y566 h566 hw => ?_)
          refine j_istore X (pc := 569) [(7, vI y566), (6, vI y548), (0, vR x0), (1, vR x1), (2, vR x2), (3, vR x3), (4, vR x4), (5, vI x5)] dL_law_569 (Nat.le_of_ble_eq_true rfl) rfl ?_
          refine j_aload_n X (pc := 571) 4 dL_law_571 rfl rfl ?_
          obtain ⟨hu9, hv9, hw⟩ := hw
          obtain ⟨b9, c9, f9, hr9, ho9, hc9, hw⟩ := hw
          obtain rfl := List.mem_singleton.mp hc9
          refine j_calli (j_runV (n8 := 0) (As := []) (rest := []) X (pc := 572) hr9 (met_X5_thrown (xl x) X.hl (xG x) h566 x2 _ hw) ho9 (by decide) rfl q1970 q1971 q1972 q78 q1973 (by decide +kernel) dL_law_572 rfl ⟨Nat.le_of_ble_eq_true rfl, Nat.le_of_ble_eq_true rfl⟩ (Nat.le_of_ble_eq_true rfl) ⟨hu9, hv9⟩) (fun y572 h572 hw => ?_)
          refine j_iload X (pc := 575) 1 dL_law_575 rfl ?_
          refine j_icmp_eq X (pc := 577) 582 dL_law_577 (by decide) hw (fun hw => ?_) (fun hw => ?_)
          · refine j_iload X (pc := 582) 1 dL_law_582 rfl ?_
            refine j_if_ne X (pc := 584) 599 dL_law_584 (by decide) hw (fun hw => ?_) (fun hw => ?_)
            · refine j_aload_n X (pc := 587) 5 dL_law_587 rfl rfl ?_
              refine j_iconst X (pc := 588) 0 dL_law_588 (by decide) ?_
              refine j_lald X (pc := 589) dL_law_589 hw (fun y589 hw => ?_)
              refine j_iload X (pc := 590) 0 dL_law_590 rfl ?_
              refine j_i2l X (pc := 592) dL_law_592 ?_
              refine j_lcmp X (pc := 593) dL_law_593 ?_
              refine j_if_eq X (pc := 594) 599 dL_law_594 (by decide) hw (fun hw => ?_) (fun hw => ?_)
              · refine j_goto X (pc := 599) 3387 dL_law_599 (by decide) ?_
                refine j_iinc X (pc := 3387) 7 (x5 + 7) [(5, vI (x5 + 7)), (7, vI y566), (6, vI y548), (0, vR x0), (1, vR x1), (2, vR x2), (3, vR x3), (4, vR x4)] dL_law_3387 rfl rfl (Nat.le_of_ble_eq_true rfl) rfl ?_
                refine j_goto X (pc := 3390) 28 dL_law_3390 (by decide) ?_
                refine j_lv [(0, vR x0), (1, vR x1), (2, vR x2), (3, vR x3), (4, vR x4), (5, vI (x5 + 7))] [3, 4, 5, 6, 7, 0] rfl ?_
                exact hw
              · refine j_iconst X (pc := 597) 0 dL_law_597 (by decide) ?_
                obtain ⟨hu9, hv9, hw⟩ := hw
                exact j_endL X (pc := 598) hQ hu9 hv9 dL_law_598 hw
            · refine j_goto X (pc := 599) 3387 dL_law_599 (by decide) ?_
              refine j_iinc X (pc := 3387) 7 (x5 + 7) [(5, vI (x5 + 7)), (7, vI y566), (6, vI y548), (0, vR x0), (1, vR x1), (2, vR x2), (3, vR x3), (4, vR x4)] dL_law_3387 rfl rfl (Nat.le_of_ble_eq_true rfl) rfl ?_
              refine j_goto X (pc := 3390) 28 dL_law_3390 (by decide) ?_
              refine j_lv [(0, vR x0), (1, vR x1), (2, vR x2), (3, vR x3), (4, vR x4), (5, vI (x5 + 7))] [3, 4, 5, 6, 7, 0] rfl ?_
              exact hw
          · refine j_iconst X (pc := 580) 0 dL_law_580 (by decide) ?_
            obtain ⟨hu9, hv9, hw⟩ := hw
            exact j_endL X (pc := 581) hQ hu9 hv9 dL_law_581 hw
        | 4, ho, ha =>
          cases ho
          have hw := hw.2.2.2.2.1 ha
          refine ⟨602, by decide, ?_⟩
          refine j_aload_n X (pc := 602) 1 dL_law_602 rfl rfl ?_
          refine j_aload_n X (pc := 603) 0 dL_law_603 rfl rfl ?_
          refine j_iload X (pc := 604) 5 dL_law_604 rfl ?_
          refine j_iconst X (pc := 606) 1 dL_law_606 (by decide) ?_
          refine j_iadd X (pc := 607) dL_law_607 ?_
          refine j_iald X (pc := 608) 32 rfl dL_law_608 hw (fun y608 hw => ?_)
          refine j_aload_n X (pc := 609) 0 dL_law_609 rfl rfl ?_
          refine j_iload X (pc := 610) 5 dL_law_610 rfl ?_
          refine j_iconst X (pc := 612) 2 dL_law_612 (by decide) ?_
          refine j_iadd X (pc := 613) dL_law_613 ?_
          refine j_iald X (pc := 614) 32 rfl dL_law_614 hw (fun y614 hw => ?_)
          refine j_aload_n X (pc := 615) 0 dL_law_615 rfl rfl ?_
          refine j_iload X (pc := 616) 5 dL_law_616 rfl ?_
          refine j_iconst X (pc := 618) 3 dL_law_618 (by decide) ?_
          refine j_iadd X (pc := 619) dL_law_619 ?_
          refine j_iald X (pc := 620) 32 rfl dL_law_620 hw (fun y620 hw => ?_)
          refine j_aload_n X (pc := 621) 3 dL_law_621 rfl rfl ?_
          obtain ⟨hu9, hv9, hw⟩ := hw
          refine j_calli (j_runSW (n8 := 5) (As := [vR x1, vI y608, vI y614, vI y620, vR x3]) (rest := []) X (pc := 622) (met_X0_putAbove (xl x) X.hl (xG x) h x1 y608 y614 y620 x3 _ hw) q1215 q1216 q70 q1217 (by decide +kernel) dL_law_622 rfl ⟨Nat.le_of_ble_eq_true rfl, Nat.le_of_ble_eq_true rfl⟩ (Nat.le_of_ble_eq_true rfl) ⟨hu9, hv9⟩) (fun y622 h622 hw => ?_)
          refine j_istore X (pc := 625) [(6, vI y622), (0, vR x0), (1, vR x1), (2, vR x2), (3, vR x3), (4, vR x4), (5, vI x5)] dL_law_625 (Nat.le_of_ble_eq_true rfl) rfl ?_
          refine j_aload_n X (pc := 627) 3 dL_law_627 rfl rfl ?_
          refine j_aload_n X (pc := 628) 1 dL_law_628 rfl rfl ?_
          refine j_iload X (pc := 629) 6 dL_law_629 rfl ?_
          refine j_iconst X (pc := 631) 1 dL_law_631 (by decide) ?_
          refine j_iadd X (pc := 632) dL_law_632 ?_
          refine j_iald X (pc := 633) 32 rfl dL_law_633 hw (fun y633 hw => ?_)
          refine j_aload_n X (pc := 634) 1 dL_law_634 rfl rfl ?_
          refine j_iload X (pc := 635) 6 dL_law_635 rfl ?_
          refine j_iconst X (pc := 637) 2 dL_law_637 (by decide) ?_
          refine j_iadd X (pc := 638) dL_law_638 ?_
          refine j_iald X (pc := 639) 32 rfl dL_law_639 hw (fun y639 hw => ?_)
          refine j_aload_n X (pc := 640) 1 dL_law_640 rfl rfl ?_
          refine j_iload X (pc := 641) 6 dL_law_641 rfl ?_
          refine j_iconst X (pc := 643) 3 dL_law_643 (by decide) ?_
          refine j_iadd X (pc := 644) dL_law_644 ?_
          refine j_iald X (pc := 645) 32 rfl dL_law_645 hw (fun y645 hw => ?_)
          obtain ⟨hu9, hv9, hw⟩ := hw
          obtain ⟨b9, c9, f9, hr9, ho9, hc9, hw⟩ := hw
          obtain rfl := List.mem_singleton.mp hc9
          refine j_calli (j_runV (n8 := 3) (As := [vI y633, vI y639, vI y645]) (rest := []) X (pc := 646) hr9 (met_X5_putAbove (xl x) X.hl (xG x) h622 x2 y633 y639 y645 _ hw) ho9 (by decide) rfl q2079 q2080 q2081 q78 q2082 (by decide +kernel) dL_law_646 rfl ⟨Nat.le_of_ble_eq_true rfl, Nat.le_of_ble_eq_true rfl⟩ (Nat.le_of_ble_eq_true rfl) ⟨hu9, hv9⟩) (fun y646 h646 hw => ?_)
          refine j_istore X (pc := 649) [(7, vI y646), (6, vI y622), (0, vR x0), (1, vR x1), (2, vR x2), (3, vR x3), (4, vR x4), (5, vI x5)] dL_law_649 (Nat.le_of_ble_eq_true rfl) rfl ?_
          refine j_aload_n X (pc := 651) 4 dL_law_651 rfl rfl ?_
          obtain ⟨hu9, hv9, hw⟩ := hw
          obtain ⟨b9, c9, f9, hr9, ho9, hc9, hw⟩ := hw
          obtain rfl := List.mem_singleton.mp hc9
          refine j_calli (j_runV (n8 := 0) (As := []) (rest := []) X (pc := 652) hr9 (met_X5_thrown (xl x) X.hl (xG x) h646 x2 _ hw) ho9 (by decide) rfl q1970 q1971 q1972 q78 q1973 (by decide +kernel) dL_law_652 rfl ⟨Nat.le_of_ble_eq_true rfl, Nat.le_of_ble_eq_true rfl⟩ (Nat.le_of_ble_eq_true rfl) ⟨hu9, hv9⟩) (fun y652 h652 hw => ?_)
          refine j_iload X (pc := 655) 1 dL_law_655 rfl ?_
          refine j_icmp_eq X (pc := 657) 662 dL_law_657 (by decide) hw (fun hw => ?_) (fun hw => ?_)
          · refine j_iload X (pc := 662) 1 dL_law_662 rfl ?_
            refine j_if_ne X (pc := 664) 679 dL_law_664 (by decide) hw (fun hw => ?_) (fun hw => ?_)
            · refine j_aload_n X (pc := 667) 5 dL_law_667 rfl rfl ?_
              refine j_iconst X (pc := 668) 0 dL_law_668 (by decide) ?_
              refine j_lald X (pc := 669) dL_law_669 hw (fun y669 hw => ?_)
              refine j_iload X (pc := 670) 0 dL_law_670 rfl ?_
              refine j_i2l X (pc := 672) dL_law_672 ?_
              refine j_lcmp X (pc := 673) dL_law_673 ?_
              refine j_if_eq X (pc := 674) 679 dL_law_674 (by decide) hw (fun hw => ?_) (fun hw => ?_)
              · refine j_goto X (pc := 679) 3387 dL_law_679 (by decide) ?_
                refine j_iinc X (pc := 3387) 7 (x5 + 7) [(5, vI (x5 + 7)), (7, vI y646), (6, vI y622), (0, vR x0), (1, vR x1), (2, vR x2), (3, vR x3), (4, vR x4)] dL_law_3387 rfl rfl (Nat.le_of_ble_eq_true rfl) rfl ?_
                refine j_goto X (pc := 3390) 28 dL_law_3390 (by decide) ?_
                refine j_lv [(0, vR x0), (1, vR x1), (2, vR x2), (3, vR x3), (4, vR x4), (5, vI (x5 + 7))] [3, 4, 5, 6, 7, 0] rfl ?_
                exact hw
              · refine j_iconst X (pc := 677) 0 dL_law_677 (by decide) ?_
                obtain ⟨hu9, hv9, hw⟩ := hw
                exact j_endL X (pc := 678) hQ hu9 hv9 dL_law_678 hw
            · refine j_goto X (pc := 679) 3387 dL_law_679 (by decide) ?_
              refine j_iinc X (pc := 3387) 7 (x5 + 7) [(5, vI (x5 + 7)), (7, vI y646), (6, vI y622), (0, vR x0), (1, vR x1), (2, vR x2), (3, vR x3), (4, vR x4)] dL_law_3387 rfl rfl (Nat.le_of_ble_eq_true rfl) rfl ?_
              refine j_goto X (pc := 3390) 28 dL_law_3390 (by decide) ?_
              refine j_lv [(0, vR x0), (1, vR x1), (2, vR x2), (3, vR x3), (4, vR x4), (5, vI (x5 + 7))] [3, 4, 5, 6, 7, 0] rfl ?_
              exact hw
          · refine j_iconst X (pc := 660) 0 dL_law_660 (by decide) ?_
            obtain ⟨hu9, hv9, hw⟩ := hw
            exact j_endL X (pc := 661) hQ hu9 hv9 dL_law_661 hw
        | 5, ho, ha =>
          cases ho
          have hw := hw.2.2.2.2.2.1 ha
          refine ⟨682, by decide, ?_⟩
          refine j_aload_n X (pc := 682) 1 dL_law_682 rfl rfl ?_
          refine j_aload_n X (pc := 683) 0 dL_law_683 rfl rfl ?_
          refine j_iload X (pc := 684) 5 dL_law_684 rfl ?_
          refine j_iconst X (pc := 686) 1 dL_law_686 (by decide) ?_
          refine j_iadd X (pc := 687) dL_law_687 ?_
          refine j_iald X (pc := 688) 32 rfl dL_law_688 hw (fun y688 hw => ?_)
          refine j_aload_n X (pc := 689) 0 dL_law_689 rfl rfl ?_
          refine j_iload X (pc := 690) 5 dL_law_690 rfl ?_
          refine j_iconst X (pc := 692) 2 dL_law_692 (by decide) ?_
          refine j_iadd X (pc := 693) dL_law_693 ?_
          refine j_iald X (pc := 694) 32 rfl dL_law_694 hw (fun y694 hw => ?_)
          refine j_aload_n X (pc := 695) 3 dL_law_695 rfl rfl ?_
          obtain ⟨hu9, hv9, hw⟩ := hw
          refine j_calli (j_runSW (n8 := 4) (As := [vR x1, vI y688, vI y694, vR x3]) (rest := []) X (pc := 696) (met_X0_remove (xl x) X.hl (xG x) h x1 y688 y694 x3 _ hw) q1222 q1223 q70 q1224 (by decide +kernel) dL_law_696 rfl ⟨Nat.le_of_ble_eq_true rfl, Nat.le_of_ble_eq_true rfl⟩ (Nat.le_of_ble_eq_true rfl) ⟨hu9, hv9⟩) (fun y696 h696 hw => ?_)
          refine j_istore X (pc := 699) [(6, vI y696), (0, vR x0), (1, vR x1), (2, vR x2), (3, vR x3), (4, vR x4), (5, vI x5)] dL_law_699 (Nat.le_of_ble_eq_true rfl) rfl ?_
          refine j_aload_n X (pc := 701) 3 dL_law_701 rfl rfl ?_
          refine j_aload_n X (pc := 702) 1 dL_law_702 rfl rfl ?_
          refine j_iload X (pc := 703) 6 dL_law_703 rfl ?_
          refine j_iconst X (pc := 705) 1 dL_law_705 (by decide) ?_
          refine j_iadd X (pc := 706) dL_law_706 ?_
          refine j_iald X (pc := 707) 32 rfl dL_law_707 hw (fun y707 hw => ?_)
          refine j_aload_n X (pc := 708) 1 dL_law_708 rfl rfl ?_
          refine j_iload X (pc := 709) 6 dL_law_709 rfl ?_
          refine j_iconst X (pc := 711) 2 dL_law_711 (by decide) ?_
          refine j_iadd X (pc := 712) dL_law_712 ?_
          refine j_iald X (pc := 713) 32 rfl dL_law_713 hw (fun y713 hw => ?_)
          obtain ⟨hu9, hv9, hw⟩ := hw
          obtain ⟨b9, c9, f9, hr9, ho9, hc9, hw⟩ := hw
          obtain rfl := List.mem_singleton.mp hc9
          refine j_calli (j_runV (n8 := 2) (As := [vI y707, vI y713]) (rest := []) X (pc := 714) hr9 (met_X5_remove (xl x) X.hl (xG x) h696 x2 y707 y713 _ hw) ho9 (by decide) rfl q2083 q2084 q2085 q78 q2086 (by decide +kernel) dL_law_714 rfl ⟨Nat.le_of_ble_eq_true rfl, Nat.le_of_ble_eq_true rfl⟩ (Nat.le_of_ble_eq_true rfl) ⟨hu9, hv9⟩) (fun y714 h714 hw => ?_)
          refine j_istore X (pc := 717) [(7, vI y714), (6, vI y696), (0, vR x0), (1, vR x1), (2, vR x2), (3, vR x3), (4, vR x4), (5, vI x5)] dL_law_717 (Nat.le_of_ble_eq_true rfl) rfl ?_
          refine j_aload_n X (pc := 719) 4 dL_law_719 rfl rfl ?_
          obtain ⟨hu9, hv9, hw⟩ := hw
          obtain ⟨b9, c9, f9, hr9, ho9, hc9, hw⟩ := hw
          obtain rfl := List.mem_singleton.mp hc9
          refine j_calli (j_runV (n8 := 0) (As := []) (rest := []) X (pc := 720) hr9 (met_X5_thrown (xl x) X.hl (xG x) h714 x2 _ hw) ho9 (by decide) rfl q1970 q1971 q1972 q78 q1973 (by decide +kernel) dL_law_720 rfl ⟨Nat.le_of_ble_eq_true rfl, Nat.le_of_ble_eq_true rfl⟩ (Nat.le_of_ble_eq_true rfl) ⟨hu9, hv9⟩) (fun y720 h720 hw => ?_)
          refine j_iload X (pc := 723) 1 dL_law_723 rfl ?_
          refine j_icmp_eq X (pc := 725) 730 dL_law_725 (by decide) hw (fun hw => ?_) (fun hw => ?_)
          · refine j_iload X (pc := 730) 1 dL_law_730 rfl ?_
            refine j_if_ne X (pc := 732) 747 dL_law_732 (by decide) hw (fun hw => ?_) (fun hw => ?_)
            · refine j_aload_n X (pc := 735) 5 dL_law_735 rfl rfl ?_
              refine j_iconst X (pc := 736) 0 dL_law_736 (by decide) ?_
              refine j_lald X (pc := 737) dL_law_737 hw (fun y737 hw => ?_)
              refine j_iload X (pc := 738) 0 dL_law_738 rfl ?_
              refine j_i2l X (pc := 740) dL_law_740 ?_
              refine j_lcmp X (pc := 741) dL_law_741 ?_
              refine j_if_eq X (pc := 742) 747 dL_law_742 (by decide) hw (fun hw => ?_) (fun hw => ?_)
              · refine j_goto X (pc := 747) 3387 dL_law_747 (by decide) ?_
                refine j_iinc X (pc := 3387) 7 (x5 + 7) [(5, vI (x5 + 7)), (7, vI y714), (6, vI y696), (0, vR x0), (1, vR x1), (2, vR x2), (3, vR x3), (4, vR x4)] dL_law_3387 rfl rfl (Nat.le_of_ble_eq_true rfl) rfl ?_
                refine j_goto X (pc := 3390) 28 dL_law_3390 (by decide) ?_
                refine j_lv [(0, vR x0), (1, vR x1), (2, vR x2), (3, vR x3), (4, vR x4), (5, vI (x5 + 7))] [3, 4, 5, 6, 7, 0] rfl ?_
                exact hw
              · refine j_iconst X (pc := 745) 0 dL_law_745 (by decide) ?_
                obtain ⟨hu9, hv9, hw⟩ := hw
                exact j_endL X (pc := 746) hQ hu9 hv9 dL_law_746 hw
            · refine j_goto X (pc := 747) 3387 dL_law_747 (by decide) ?_
              refine j_iinc X (pc := 3387) 7 (x5 + 7) [(5, vI (x5 + 7)), (7, vI y714), (6, vI y696), (0, vR x0), (1, vR x1), (2, vR x2), (3, vR x3), (4, vR x4)] dL_law_3387 rfl rfl (Nat.le_of_ble_eq_true rfl) rfl ?_
              refine j_goto X (pc := 3390) 28 dL_law_3390 (by decide) ?_
              refine j_lv [(0, vR x0), (1, vR x1), (2, vR x2), (3, vR x3), (4, vR x4), (5, vI (x5 + 7))] [3, 4, 5, 6, 7, 0] rfl ?_
              exact hw
          · refine j_iconst X (pc := 728) 0 dL_law_728 (by decide) ?_
            obtain ⟨hu9, hv9, hw⟩ := hw
            exact j_endL X (pc := 729) hQ hu9 hv9 dL_law_729 hw
        | 6, ho, ha =>
          cases ho
          have hw := hw.2.2.2.2.2.2.1 ha
          refine ⟨750, by decide, ?_⟩
          refine j_aload_n X (pc := 750) 1 dL_law_750 rfl rfl ?_
          refine j_aload_n X (pc := 751) 0 dL_law_751 rfl rfl ?_
          refine j_iload X (pc := 752) 5 dL_law_752 rfl ?_
          refine j_iconst X (pc := 754) 1 dL_law_754 (by decide) ?_
          refine j_iadd X (pc := 755) dL_law_755 ?_
          refine j_iald X (pc := 756) 32 rfl dL_law_756 hw (fun y756 hw => ?_)
          refine j_aload_n X (pc := 757) 0 dL_law_757 rfl rfl ?_
          refine j_iload X (pc := 758) 5 dL_law_758 rfl ?_
          refine j_iconst X (pc := 760) 2 dL_law_760 (by decide) ?_
          refine j_iadd X (pc := 761) dL_law_761 ?_
          refine j_iald X (pc := 762) 32 rfl dL_law_762 hw (fun y762 hw => ?_)
          refine j_aload_n X (pc := 763) 3 dL_law_763 rfl rfl ?_
          obtain ⟨hu9, hv9, hw⟩ := hw
          refine j_calli (j_runSW (n8 := 4) (As := [vR x1, vI y756, vI y762, vR x3]) (rest := []) X (pc := 764) (met_X0_lock (xl x) X.hl (xG x) h x1 y756 y762 x3 _ hw) q1229 q1230 q70 q1231 (by decide +kernel) dL_law_764 rfl ⟨Nat.le_of_ble_eq_true rfl, Nat.le_of_ble_eq_true rfl⟩ (Nat.le_of_ble_eq_true rfl) ⟨hu9, hv9⟩) (fun y764 h764 hw => ?_)
          refine j_istore X (pc := 767) [(6, vI y764), (0, vR x0), (1, vR x1), (2, vR x2), (3, vR x3), (4, vR x4), (5, vI x5)] dL_law_767 (Nat.le_of_ble_eq_true rfl) rfl ?_
          refine j_aload_n X (pc := 769) 3 dL_law_769 rfl rfl ?_
          refine j_aload_n X (pc := 770) 1 dL_law_770 rfl rfl ?_
          refine j_iload X (pc := 771) 6 dL_law_771 rfl ?_
          refine j_iconst X (pc := 773) 1 dL_law_773 (by decide) ?_
          refine j_iadd X (pc := 774) dL_law_774 ?_
          refine j_iald X (pc := 775) 32 rfl dL_law_775 hw (fun y775 hw => ?_)
          refine j_aload_n X (pc := 776) 1 dL_law_776 rfl rfl ?_
          refine j_iload X (pc := 777) 6 dL_law_777 rfl ?_
          refine j_iconst X (pc := 779) 2 dL_law_779 (by decide) ?_
          refine j_iadd X (pc := 780) dL_law_780 ?_
          refine j_iald X (pc := 781) 32 rfl dL_law_781 hw (fun y781 hw => ?_)
          obtain ⟨hu9, hv9, hw⟩ := hw
          obtain ⟨b9, c9, f9, hr9, ho9, hc9, hw⟩ := hw
          obtain rfl := List.mem_singleton.mp hc9
          refine j_calli (j_runV (n8 := 2) (As := [vI y775, vI y781]) (rest := []) X (pc := 782) hr9 (met_X5_lock (xl x) X.hl (xG x) h764 x2 y775 y781 _ hw) ho9 (by decide) rfl q2091 q2092 q2093 q78 q2094 (by decide +kernel) dL_law_782 rfl ⟨Nat.le_of_ble_eq_true rfl, Nat.le_of_ble_eq_true rfl⟩ (Nat.le_of_ble_eq_true rfl) ⟨hu9, hv9⟩) (fun y782 h782 hw => ?_)
          refine j_istore X (pc := 785) [(7, vI y782), (6, vI y764), (0, vR x0), (1, vR x1), (2, vR x2), (3, vR x3), (4, vR x4), (5, vI x5)] dL_law_785 (Nat.le_of_ble_eq_true rfl) rfl ?_
          refine j_aload_n X (pc := 787) 4 dL_law_787 rfl rfl ?_
          obtain ⟨hu9, hv9, hw⟩ := hw
          obtain ⟨b9, c9, f9, hr9, ho9, hc9, hw⟩ := hw
          obtain rfl := List.mem_singleton.mp hc9
          refine j_calli (j_runV (n8 := 0) (As := []) (rest := []) X (pc := 788) hr9 (met_X5_thrown (xl x) X.hl (xG x) h782 x2 _ hw) ho9 (by decide) rfl q1970 q1971 q1972 q78 q1973 (by decide +kernel) dL_law_788 rfl ⟨Nat.le_of_ble_eq_true rfl, Nat.le_of_ble_eq_true rfl⟩ (Nat.le_of_ble_eq_true rfl) ⟨hu9, hv9⟩) (fun y788 h788 hw => ?_)
          refine j_iload X (pc := 791) 1 dL_law_791 rfl ?_
          refine j_icmp_eq X (pc := 793) 798 dL_law_793 (by decide) hw (fun hw => ?_) (fun hw => ?_)
          · refine j_iload X (pc := 798) 1 dL_law_798 rfl ?_
            refine j_if_ne X (pc := 800) 815 dL_law_800 (by decide) hw (fun hw => ?_) (fun hw => ?_)
            · refine j_aload_n X (pc := 803) 5 dL_law_803 rfl rfl ?_
              refine j_iconst X (pc := 804) 0 dL_law_804 (by decide) ?_
              refine j_lald X (pc := 805) dL_law_805 hw (fun y805 hw => ?_)
              refine j_iload X (pc := 806) 0 dL_law_806 rfl ?_
              refine j_i2l X (pc := 808) dL_law_808 ?_
              refine j_lcmp X (pc := 809) dL_law_809 ?_
              refine j_if_eq X (pc := 810) 815 dL_law_810 (by decide) hw (fun hw => ?_) (fun hw => ?_)
              · refine j_goto X (pc := 815) 3387 dL_law_815 (by decide) ?_
                refine j_iinc X (pc := 3387) 7 (x5 + 7) [(5, vI (x5 + 7)), (7, vI y782), (6, vI y764), (0, vR x0), (1, vR x1), (2, vR x2), (3, vR x3), (4, vR x4)] dL_law_3387 rfl rfl (Nat.le_of_ble_eq_true rfl) rfl ?_
                refine j_goto X (pc := 3390) 28 dL_law_3390 (by decide) ?_
                refine j_lv [(0, vR x0), (1, vR x1), (2, vR x2), (3, vR x3), (4, vR x4), (5, vI (x5 + 7))] [3, 4, 5, 6, 7, 0] rfl ?_
                exact hw
              · refine j_iconst X (pc := 813) 0 dL_law_813 (by decide) ?_
                obtain ⟨hu9, hv9, hw⟩ := hw
                exact j_endL X (pc := 814) hQ hu9 hv9 dL_law_814 hw
            · refine j_goto X (pc := 815) 3387 dL_law_815 (by decide) ?_
              refine j_iinc X (pc := 3387) 7 (x5 + 7) [(5, vI (x5 + 7)), (7, vI y782), (6, vI y764), (0, vR x0), (1, vR x1), (2, vR x2), (3, vR x3), (4, vR x4)] dL_law_3387 rfl rfl (Nat.le_of_ble_eq_true rfl) rfl ?_
              refine j_goto X (pc := 3390) 28 dL_law_3390 (by decide) ?_
              refine j_lv [(0, vR x0), (1, vR x1), (2, vR x2), (3, vR x3), (4, vR x4), (5, vI (x5 + 7))] [3, 4, 5, 6, 7, 0] rfl ?_
              exact hw
          · refine j_iconst X (pc := 796) 0 dL_law_796 (by decide) ?_
            obtain ⟨hu9, hv9, hw⟩ := hw
            exact j_endL X (pc := 797) hQ hu9 hv9 dL_law_797 hw
        | 7, ho, ha =>
          cases ho
          have hw := hw.2.2.2.2.2.2.2.1 ha
          refine ⟨818, by decide, ?_⟩
          refine j_aload_n X (pc := 818) 1 dL_law_818 rfl rfl ?_
          refine j_aload_n X (pc := 819) 0 dL_law_819 rfl rfl ?_
          refine j_iload X (pc := 820) 5 dL_law_820 rfl ?_
          refine j_iconst X (pc := 822) 1 dL_law_822 (by decide) ?_
          refine j_iadd X (pc := 823) dL_law_823 ?_
          refine j_iald X (pc := 824) 32 rfl dL_law_824 hw (fun y824 hw => ?_)
          refine j_aload_n X (pc := 825) 0 dL_law_825 rfl rfl ?_
          refine j_iload X (pc := 826) 5 dL_law_826 rfl ?_
          refine j_iconst X (pc := 828) 2 dL_law_828 (by decide) ?_
          refine j_iadd X (pc := 829) dL_law_829 ?_
          refine j_iald X (pc := 830) 32 rfl dL_law_830 hw (fun y830 hw => ?_)
          refine j_aload_n X (pc := 831) 3 dL_law_831 rfl rfl ?_
          obtain ⟨hu9, hv9, hw⟩ := hw
          refine j_calli (j_runSW (n8 := 4) (As := [vR x1, vI y824, vI y830, vR x3]) (rest := []) X (pc := 832) (met_X0_unlock (xl x) X.hl (xG x) h x1 y824 y830 x3 _ hw) q1237 q1238 q70 q1239 (by decide +kernel) dL_law_832 rfl ⟨Nat.le_of_ble_eq_true rfl, Nat.le_of_ble_eq_true rfl⟩ (Nat.le_of_ble_eq_true rfl) ⟨hu9, hv9⟩) (fun y832 h832 hw => ?_)
          refine j_istore X (pc := 835) [(6, vI y832), (0, vR x0), (1, vR x1), (2, vR x2), (3, vR x3), (4, vR x4), (5, vI x5)] dL_law_835 (Nat.le_of_ble_eq_true rfl) rfl ?_
          refine j_aload_n X (pc := 837) 3 dL_law_837 rfl rfl ?_
          refine j_aload_n X (pc := 838) 1 dL_law_838 rfl rfl ?_
          refine j_iload X (pc := 839) 6 dL_law_839 rfl ?_
          refine j_iconst X (pc := 841) 1 dL_law_841 (by decide) ?_
          refine j_iadd X (pc := 842) dL_law_842 ?_
          refine j_iald X (pc := 843) 32 rfl dL_law_843 hw (fun y843 hw => ?_)
          refine j_aload_n X (pc := 844) 1 dL_law_844 rfl rfl ?_
          refine j_iload X (pc := 845) 6 dL_law_845 rfl ?_
          refine j_iconst X (pc := 847) 2 dL_law_847 (by decide) ?_
          refine j_iadd X (pc := 848) dL_law_848 ?_
          refine j_iald X (pc := 849) 32 rfl dL_law_849 hw (fun y849 hw => ?_)
          obtain ⟨hu9, hv9, hw⟩ := hw
          obtain ⟨b9, c9, f9, hr9, ho9, hc9, hw⟩ := hw
          obtain rfl := List.mem_singleton.mp hc9
          refine j_calli (j_runV (n8 := 2) (As := [vI y843, vI y849]) (rest := []) X (pc := 850) hr9 (met_X5_unlock (xl x) X.hl (xG x) h832 x2 y843 y849 _ hw) ho9 (by decide) rfl q2095 q2096 q2097 q78 q2098 (by decide +kernel) dL_law_850 rfl ⟨Nat.le_of_ble_eq_true rfl, Nat.le_of_ble_eq_true rfl⟩ (Nat.le_of_ble_eq_true rfl) ⟨hu9, hv9⟩) (fun y850 h850 hw => ?_)
          refine j_istore X (pc := 853) [(7, vI y850), (6, vI y832), (0, vR x0), (1, vR x1), (2, vR x2), (3, vR x3), (4, vR x4), (5, vI x5)] dL_law_853 (Nat.le_of_ble_eq_true rfl) rfl ?_
          refine j_aload_n X (pc := 855) 4 dL_law_855 rfl rfl ?_
          obtain ⟨hu9, hv9, hw⟩ := hw
          obtain ⟨b9, c9, f9, hr9, ho9, hc9, hw⟩ := hw
          obtain rfl := List.mem_singleton.mp hc9
          refine j_calli (j_runV (n8 := 0) (As := []) (rest := []) X (pc := 856) hr9 (met_X5_thrown (xl x) X.hl (xG x) h850 x2 _ hw) ho9 (by decide) rfl q1970 q1971 q1972 q78 q1973 (by decide +kernel) dL_law_856 rfl ⟨Nat.le_of_ble_eq_true rfl, Nat.le_of_ble_eq_true rfl⟩ (Nat.le_of_ble_eq_true rfl) ⟨hu9, hv9⟩) (fun y856 h856 hw => ?_)
          refine j_iload X (pc := 859) 1 dL_law_859 rfl ?_
          refine j_icmp_eq X (pc := 861) 866 dL_law_861 (by decide) hw (fun hw => ?_) (fun hw => ?_)
          · refine j_iload X (pc := 866) 1 dL_law_866 rfl ?_
            refine j_if_ne X (pc := 868) 883 dL_law_868 (by decide) hw (fun hw => ?_) (fun hw => ?_)
            · refine j_aload_n X (pc := 871) 5 dL_law_871 rfl rfl ?_
              refine j_iconst X (pc := 872) 0 dL_law_872 (by decide) ?_
              refine j_lald X (pc := 873) dL_law_873 hw (fun y873 hw => ?_)
              refine j_iload X (pc := 874) 0 dL_law_874 rfl ?_
              refine j_i2l X (pc := 876) dL_law_876 ?_
              refine j_lcmp X (pc := 877) dL_law_877 ?_
              refine j_if_eq X (pc := 878) 883 dL_law_878 (by decide) hw (fun hw => ?_) (fun hw => ?_)
              · refine j_goto X (pc := 883) 3387 dL_law_883 (by decide) ?_
                refine j_iinc X (pc := 3387) 7 (x5 + 7) [(5, vI (x5 + 7)), (7, vI y850), (6, vI y832), (0, vR x0), (1, vR x1), (2, vR x2), (3, vR x3), (4, vR x4)] dL_law_3387 rfl rfl (Nat.le_of_ble_eq_true rfl) rfl ?_
                refine j_goto X (pc := 3390) 28 dL_law_3390 (by decide) ?_
                refine j_lv [(0, vR x0), (1, vR x1), (2, vR x2), (3, vR x3), (4, vR x4), (5, vI (x5 + 7))] [3, 4, 5, 6, 7, 0] rfl ?_
                exact hw
              · refine j_iconst X (pc := 881) 0 dL_law_881 (by decide) ?_
                obtain ⟨hu9, hv9, hw⟩ := hw
                exact j_endL X (pc := 882) hQ hu9 hv9 dL_law_882 hw
            · refine j_goto X (pc := 883) 3387 dL_law_883 (by decide) ?_
              refine j_iinc X (pc := 3387) 7 (x5 + 7) [(5, vI (x5 + 7)), (7, vI y850), (6, vI y832), (0, vR x0), (1, vR x1), (2, vR x2), (3, vR x3), (4, vR x4)] dL_law_3387 rfl rfl (Nat.le_of_ble_eq_true rfl) rfl ?_
              refine j_goto X (pc := 3390) 28 dL_law_3390 (by decide) ?_
              refine j_lv [(0, vR x0), (1, vR x1), (2, vR x2), (3, vR x3), (4, vR x4), (5, vI (x5 + 7))] [3, 4, 5, 6, 7, 0] rfl ?_
              exact hw
          · refine j_iconst X (pc := 864) 0 dL_law_864 (by decide) ?_
            obtain ⟨hu9, hv9, hw⟩ := hw
            exact j_endL X (pc := 865) hQ hu9 hv9 dL_law_865 hw
        | 8, ho, ha =>
          cases ho
          have hw := hw.2.2.2.2.2.2.2.2.1 ha
          refine ⟨886, by decide, ?_⟩
          refine j_aload_n X (pc := 886) 1 dL_law_886 rfl rfl ?_
          refine j_aload_n X (pc := 887) 0 dL_law_887 rfl rfl ?_
          refine j_iload X (pc := 888) 5 dL_law_888 rfl ?_
          refine j_iconst X (pc := 890) 1 dL_law_890 (by decide) ?_
          refine j_iadd X (pc := 891) dL_law_891 ?_
          refine j_iald X (pc := 892) 32 rfl dL_law_892 hw (fun y892 hw => ?_)
          refine j_aload_n X (pc := 893) 0 dL_law_893 rfl rfl ?_
          refine j_iload X (pc := 894) 5 dL_law_894 rfl ?_
          refine j_iconst X (pc := 896) 2 dL_law_896 (by decide) ?_
          refine j_iadd X (pc := 897) dL_law_897 ?_
          refine j_iald X (pc := 898) 32 rfl dL_law_898 hw (fun y898 hw => ?_)
          refine j_aload_n X (pc := 899) 0 dL_law_899 rfl rfl ?_
          refine j_iload X (pc := 900) 5 dL_law_900 rfl ?_
          refine j_iconst X (pc := 902) 3 dL_law_902 (by decide) ?_
          refine j_iadd X (pc := 903) dL_law_903 ?_
          refine j_iald X (pc := 904) 32 rfl dL_law_904 hw (fun y904 hw => ?_)
          refine j_i2c X (pc := 905) dL_law_905 ?_
          refine j_aload_n X (pc := 906) 0 dL_law_906 rfl rfl ?_
          refine j_iload X (pc := 907) 5 dL_law_907 rfl ?_
          refine j_iconst X (pc := 909) 4 dL_law_909 (by decide) ?_
          refine j_iadd X (pc := 910) dL_law_910 ?_
          refine j_iald X (pc := 911) 32 rfl dL_law_911 hw (fun y911 hw => ?_)
          refine j_aload_n X (pc := 912) 0 dL_law_912 rfl rfl ?_
          refine j_iload X (pc := 913) 5 dL_law_913 rfl ?_
          refine j_iconst X (pc := 915) 5 dL_law_915 (by decide) ?_
          refine j_iadd X (pc := 916) dL_law_916 ?_
          refine j_iald X (pc := 917) 32 rfl dL_law_917 hw (fun y917 hw => ?_)
          refine j_i2c X (pc := 918) dL_law_918 ?_
          refine j_aload_n X (pc := 919) 3 dL_law_919 rfl rfl ?_
          obtain ⟨hu9, hv9, hw⟩ := hw
          refine j_calli (j_runSW (n8 := 7) (As := [vR x1, vI y892, vI y898, vI ((Int32.toUInt32 y904 % 65536).toInt32), vI y911, vI ((Int32.toUInt32 y917 % 65536).toInt32), vR x3]) (rest := []) X (pc := 920) (met_X0_connect (xl x) X.hl (xG x) h x1 y892 y898 ((Int32.toUInt32 y904 % 65536).toInt32) y911 ((Int32.toUInt32 y917 % 65536).toInt32) x3 _ hw) q1244 q1245 q70 q1246 (by decide +kernel) dL_law_920 rfl ⟨Nat.le_of_ble_eq_true rfl, Nat.le_of_ble_eq_true rfl⟩ (Nat.le_of_ble_eq_true rfl) ⟨hu9, hv9⟩) (fun y920 h920 hw => ?_)
          refine j_istore X (pc := 923) [(6, vI y920), (0, vR x0), (1, vR x1), (2, vR x2), (3, vR x3), (4, vR x4), (5, vI x5)] dL_law_923 (Nat.le_of_ble_eq_true rfl) rfl ?_
          refine j_aload_n X (pc := 925) 3 dL_law_925 rfl rfl ?_
          refine j_aload_n X (pc := 926) 1 dL_law_926 rfl rfl ?_
          refine j_iload X (pc := 927) 6 dL_law_927 rfl ?_
          refine j_iconst X (pc := 929) 1 dL_law_929 (by decide) ?_
          refine j_iadd X (pc := 930) dL_law_930 ?_
          refine j_iald X (pc := 931) 32 rfl dL_law_931 hw (fun y931 hw => ?_)
          refine j_aload_n X (pc := 932) 1 dL_law_932 rfl rfl ?_
          refine j_iload X (pc := 933) 6 dL_law_933 rfl ?_
          refine j_iconst X (pc := 935) 2 dL_law_935 (by decide) ?_
          refine j_iadd X (pc := 936) dL_law_936 ?_
          refine j_iald X (pc := 937) 32 rfl dL_law_937 hw (fun y937 hw => ?_)
          refine j_aload_n X (pc := 938) 1 dL_law_938 rfl rfl ?_
          refine j_iload X (pc := 939) 6 dL_law_939 rfl ?_
          refine j_iconst X (pc := 941) 3 dL_law_941 (by decide) ?_
          refine j_iadd X (pc := 942) dL_law_942 ?_
          refine j_iald X (pc := 943) 32 rfl dL_law_943 hw (fun y943 hw => ?_)
          refine j_i2c X (pc := 944) dL_law_944 ?_
          refine j_aload_n X (pc := 945) 1 dL_law_945 rfl rfl ?_
          refine j_iload X (pc := 946) 6 dL_law_946 rfl ?_
          refine j_iconst X (pc := 948) 4 dL_law_948 (by decide) ?_
          refine j_iadd X (pc := 949) dL_law_949 ?_
          refine j_iald X (pc := 950) 32 rfl dL_law_950 hw (fun y950 hw => ?_)
          refine j_aload_n X (pc := 951) 1 dL_law_951 rfl rfl ?_
          refine j_iload X (pc := 952) 6 dL_law_952 rfl ?_
          refine j_iconst X (pc := 954) 5 dL_law_954 (by decide) ?_
          refine j_iadd X (pc := 955) dL_law_955 ?_
          refine j_iald X (pc := 956) 32 rfl dL_law_956 hw (fun y956 hw => ?_)
          refine j_i2c X (pc := 957) dL_law_957 ?_
          obtain ⟨hu9, hv9, hw⟩ := hw
          obtain ⟨b9, c9, f9, hr9, ho9, hc9, hw⟩ := hw
          obtain rfl := List.mem_singleton.mp hc9
          refine j_calli (j_runV (n8 := 5) (As := [vI y931, vI y937, vI ((Int32.toUInt32 y943 % 65536).toInt32), vI y950, vI ((Int32.toUInt32 y956 % 65536).toInt32)]) (rest := []) X (pc := 958) hr9 (met_X5_connect (xl x) X.hl (xG x) h920 x2 y931 y937 ((Int32.toUInt32 y943 % 65536).toInt32) y950 ((Int32.toUInt32 y956 % 65536).toInt32) _ hw) ho9 (by decide) rfl q2099 q2100 q2101 q78 q2102 (by decide +kernel) dL_law_958 rfl ⟨Nat.le_of_ble_eq_true rfl, Nat.le_of_ble_eq_true rfl⟩ (Nat.le_of_ble_eq_true rfl) ⟨hu9, hv9⟩) (fun y958 h958 hw => ?_)
          refine j_istore X (pc := 961) [(7, vI y958), (6, vI y920), (0, vR x0), (1, vR x1), (2, vR x2), (3, vR x3), (4, vR x4), (5, vI x5)] dL_law_961 (Nat.le_of_ble_eq_true rfl) rfl ?_
          refine j_aload_n X (pc := 963) 4 dL_law_963 rfl rfl ?_
          obtain ⟨hu9, hv9, hw⟩ := hw
          obtain ⟨b9, c9, f9, hr9, ho9, hc9, hw⟩ := hw
          obtain rfl := List.mem_singleton.mp hc9
          refine j_calli (j_runV (n8 := 0) (As := []) (rest := []) X (pc := 964) hr9 (met_X5_thrown (xl x) X.hl (xG x) h958 x2 _ hw) ho9 (by decide) rfl q1970 q1971 q1972 q78 q1973 (by decide +kernel) dL_law_964 rfl ⟨Nat.le_of_ble_eq_true rfl, Nat.le_of_ble_eq_true rfl⟩ (Nat.le_of_ble_eq_true rfl) ⟨hu9, hv9⟩) (fun y964 h964 hw => ?_)
          refine j_iload X (pc := 967) 1 dL_law_967 rfl ?_
          refine j_icmp_eq X (pc := 969) 974 dL_law_969 (by decide) hw (fun hw => ?_) (fun hw => ?_)
          · refine j_iload X (pc := 974) 1 dL_law_974 rfl ?_
            refine j_if_ne X (pc := 976) 991 dL_law_976 (by decide) hw (fun hw => ?_) (fun hw => ?_)
            · refine j_aload_n X (pc := 979) 5 dL_law_979 rfl rfl ?_
              refine j_iconst X (pc := 980) 0 dL_law_980 (by decide) ?_
              refine j_lald X (pc := 981) dL_law_981 hw (fun y981 hw => ?_)
              refine j_iload X (pc := 982) 0 dL_law_982 rfl ?_
              refine j_i2l X (pc := 984) dL_law_984 ?_
              refine j_lcmp X (pc := 985) dL_law_985 ?_
              refine j_if_eq X (pc := 986) 991 dL_law_986 (by decide) hw (fun hw => ?_) (fun hw => ?_)
              · refine j_goto X (pc := 991) 3387 dL_law_991 (by decide) ?_
                refine j_iinc X (pc := 3387) 7 (x5 + 7) [(5, vI (x5 + 7)), (7, vI y958), (6, vI y920), (0, vR x0), (1, vR x1), (2, vR x2), (3, vR x3), (4, vR x4)] dL_law_3387 rfl rfl (Nat.le_of_ble_eq_true rfl) rfl ?_
                refine j_goto X (pc := 3390) 28 dL_law_3390 (by decide) ?_
                refine j_lv [(0, vR x0), (1, vR x1), (2, vR x2), (3, vR x3), (4, vR x4), (5, vI (x5 + 7))] [3, 4, 5, 6, 7, 0] rfl ?_
                exact hw
              · refine j_iconst X (pc := 989) 0 dL_law_989 (by decide) ?_
                obtain ⟨hu9, hv9, hw⟩ := hw
                exact j_endL X (pc := 990) hQ hu9 hv9 dL_law_990 hw
            · refine j_goto X (pc := 991) 3387 dL_law_991 (by decide) ?_
              refine j_iinc X (pc := 3387) 7 (x5 + 7) [(5, vI (x5 + 7)), (7, vI y958), (6, vI y920), (0, vR x0), (1, vR x1), (2, vR x2), (3, vR x3), (4, vR x4)] dL_law_3387 rfl rfl (Nat.le_of_ble_eq_true rfl) rfl ?_
              refine j_goto X (pc := 3390) 28 dL_law_3390 (by decide) ?_
              refine j_lv [(0, vR x0), (1, vR x1), (2, vR x2), (3, vR x3), (4, vR x4), (5, vI (x5 + 7))] [3, 4, 5, 6, 7, 0] rfl ?_
              exact hw
          · refine j_iconst X (pc := 972) 0 dL_law_972 (by decide) ?_
            obtain ⟨hu9, hv9, hw⟩ := hw
            exact j_endL X (pc := 973) hQ hu9 hv9 dL_law_973 hw
        | 9, ho, ha =>
          cases ho
          have hw := hw.2.2.2.2.2.2.2.2.2.1 ha
          refine ⟨994, by decide, ?_⟩
          refine j_aload_n X (pc := 994) 1 dL_law_994 rfl rfl ?_
          refine j_aload_n X (pc := 995) 0 dL_law_995 rfl rfl ?_
          refine j_iload X (pc := 996) 5 dL_law_996 rfl ?_
          refine j_iconst X (pc := 998) 1 dL_law_998 (by decide) ?_
          refine j_iadd X (pc := 999) dL_law_999 ?_
          refine j_iald X (pc := 1000) 32 rfl dL_law_1000 hw (fun y1000 hw => ?_)
          refine j_aload_n X (pc := 1001) 0 dL_law_1001 rfl rfl ?_
          refine j_iload X (pc := 1002) 5 dL_law_1002 rfl ?_
          refine j_iconst X (pc := 1004) 2 dL_law_1004 (by decide) ?_
          refine j_iadd X (pc := 1005) dL_law_1005 ?_
          refine j_iald X (pc := 1006) 32 rfl dL_law_1006 hw (fun y1006 hw => ?_)
          refine j_aload_n X (pc := 1007) 3 dL_law_1007 rfl rfl ?_
          obtain ⟨hu9, hv9, hw⟩ := hw
          refine j_calli (j_runSW (n8 := 4) (As := [vR x1, vI y1000, vI y1006, vR x3]) (rest := []) X (pc := 1008) (met_X0_disconnect (xl x) X.hl (xG x) h x1 y1000 y1006 x3 _ hw) q1286 q1287 q70 q1288 (by decide +kernel) dL_law_1008 rfl ⟨Nat.le_of_ble_eq_true rfl, Nat.le_of_ble_eq_true rfl⟩ (Nat.le_of_ble_eq_true rfl) ⟨hu9, hv9⟩) (fun y1008 h1008 hw => ?_)
          refine j_istore X (pc := 1011) [(6, vI y1008), (0, vR x0), (1, vR x1), (2, vR x2), (3, vR x3), (4, vR x4), (5, vI x5)] dL_law_1011 (Nat.le_of_ble_eq_true rfl) rfl ?_
          refine j_aload_n X (pc := 1013) 3 dL_law_1013 rfl rfl ?_
          refine j_aload_n X (pc := 1014) 1 dL_law_1014 rfl rfl ?_
          refine j_iload X (pc := 1015) 6 dL_law_1015 rfl ?_
          refine j_iconst X (pc := 1017) 1 dL_law_1017 (by decide) ?_
          refine j_iadd X (pc := 1018) dL_law_1018 ?_
          refine j_iald X (pc := 1019) 32 rfl dL_law_1019 hw (fun y1019 hw => ?_)
          refine j_aload_n X (pc := 1020) 1 dL_law_1020 rfl rfl ?_
          refine j_iload X (pc := 1021) 6 dL_law_1021 rfl ?_
          refine j_iconst X (pc := 1023) 2 dL_law_1023 (by decide) ?_
          refine j_iadd X (pc := 1024) dL_law_1024 ?_
          refine j_iald X (pc := 1025) 32 rfl dL_law_1025 hw (fun y1025 hw => ?_)
          obtain ⟨hu9, hv9, hw⟩ := hw
          obtain ⟨b9, c9, f9, hr9, ho9, hc9, hw⟩ := hw
          obtain rfl := List.mem_singleton.mp hc9
          refine j_calli (j_runV (n8 := 2) (As := [vI y1019, vI y1025]) (rest := []) X (pc := 1026) hr9 (met_X5_disconnect (xl x) X.hl (xG x) h1008 x2 y1019 y1025 _ hw) ho9 (by decide) rfl q2106 q2107 q2108 q78 q2109 (by decide +kernel) dL_law_1026 rfl ⟨Nat.le_of_ble_eq_true rfl, Nat.le_of_ble_eq_true rfl⟩ (Nat.le_of_ble_eq_true rfl) ⟨hu9, hv9⟩) (fun y1026 h1026 hw => ?_)
          refine j_istore X (pc := 1029) [(7, vI y1026), (6, vI y1008), (0, vR x0), (1, vR x1), (2, vR x2), (3, vR x3), (4, vR x4), (5, vI x5)] dL_law_1029 (Nat.le_of_ble_eq_true rfl) rfl ?_
          refine j_aload_n X (pc := 1031) 4 dL_law_1031 rfl rfl ?_
          obtain ⟨hu9, hv9, hw⟩ := hw
          obtain ⟨b9, c9, f9, hr9, ho9, hc9, hw⟩ := hw
          obtain rfl := List.mem_singleton.mp hc9
          refine j_calli (j_runV (n8 := 0) (As := []) (rest := []) X (pc := 1032) hr9 (met_X5_thrown (xl x) X.hl (xG x) h1026 x2 _ hw) ho9 (by decide) rfl q1970 q1971 q1972 q78 q1973 (by decide +kernel) dL_law_1032 rfl ⟨Nat.le_of_ble_eq_true rfl, Nat.le_of_ble_eq_true rfl⟩ (Nat.le_of_ble_eq_true rfl) ⟨hu9, hv9⟩) (fun y1032 h1032 hw => ?_)
          refine j_iload X (pc := 1035) 1 dL_law_1035 rfl ?_
          refine j_icmp_eq X (pc := 1037) 1042 dL_law_1037 (by decide) hw (fun hw => ?_) (fun hw => ?_)
          · refine j_iload X (pc := 1042) 1 dL_law_1042 rfl ?_
            refine j_if_ne X (pc := 1044) 1059 dL_law_1044 (by decide) hw (fun hw => ?_) (fun hw => ?_)
            · refine j_aload_n X (pc := 1047) 5 dL_law_1047 rfl rfl ?_
              refine j_iconst X (pc := 1048) 0 dL_law_1048 (by decide) ?_
              refine j_lald X (pc := 1049) dL_law_1049 hw (fun y1049 hw => ?_)
              refine j_iload X (pc := 1050) 0 dL_law_1050 rfl ?_
              refine j_i2l X (pc := 1052) dL_law_1052 ?_
              refine j_lcmp X (pc := 1053) dL_law_1053 ?_
              refine j_if_eq X (pc := 1054) 1059 dL_law_1054 (by decide) hw (fun hw => ?_) (fun hw => ?_)
              · refine j_goto X (pc := 1059) 3387 dL_law_1059 (by decide) ?_
                refine j_iinc X (pc := 3387) 7 (x5 + 7) [(5, vI (x5 + 7)), (7, vI y1026), (6, vI y1008), (0, vR x0), (1, vR x1), (2, vR x2), (3, vR x3), (4, vR x4)] dL_law_3387 rfl rfl (Nat.le_of_ble_eq_true rfl) rfl ?_
                refine j_goto X (pc := 3390) 28 dL_law_3390 (by decide) ?_
                refine j_lv [(0, vR x0), (1, vR x1), (2, vR x2), (3, vR x3), (4, vR x4), (5, vI (x5 + 7))] [3, 4, 5, 6, 7, 0] rfl ?_
                exact hw
              · refine j_iconst X (pc := 1057) 0 dL_law_1057 (by decide) ?_
                obtain ⟨hu9, hv9, hw⟩ := hw
                exact j_endL X (pc := 1058) hQ hu9 hv9 dL_law_1058 hw
            · refine j_goto X (pc := 1059) 3387 dL_law_1059 (by decide) ?_
              refine j_iinc X (pc := 3387) 7 (x5 + 7) [(5, vI (x5 + 7)), (7, vI y1026), (6, vI y1008), (0, vR x0), (1, vR x1), (2, vR x2), (3, vR x3), (4, vR x4)] dL_law_3387 rfl rfl (Nat.le_of_ble_eq_true rfl) rfl ?_
              refine j_goto X (pc := 3390) 28 dL_law_3390 (by decide) ?_
              refine j_lv [(0, vR x0), (1, vR x1), (2, vR x2), (3, vR x3), (4, vR x4), (5, vI (x5 + 7))] [3, 4, 5, 6, 7, 0] rfl ?_
              exact hw
          · refine j_iconst X (pc := 1040) 0 dL_law_1040 (by decide) ?_
            obtain ⟨hu9, hv9, hw⟩ := hw
            exact j_endL X (pc := 1041) hQ hu9 hv9 dL_law_1041 hw
        | 10, ho, ha =>
          cases ho
          have hw := hw.2.2.2.2.2.2.2.2.2.2.1 ha
          refine ⟨1062, by decide, ?_⟩
          refine j_aload_n X (pc := 1062) 1 dL_law_1062 rfl rfl ?_
          refine j_aload_n X (pc := 1063) 0 dL_law_1063 rfl rfl ?_
          refine j_iload X (pc := 1064) 5 dL_law_1064 rfl ?_
          refine j_iconst X (pc := 1066) 1 dL_law_1066 (by decide) ?_
          refine j_iadd X (pc := 1067) dL_law_1067 ?_
          refine j_iald X (pc := 1068) 32 rfl dL_law_1068 hw (fun y1068 hw => ?_)
          refine j_aload_n X (pc := 1069) 0 dL_law_1069 rfl rfl ?_
          refine j_iload X (pc := 1070) 5 dL_law_1070 rfl ?_
          refine j_iconst X (pc := 1072) 2 dL_law_1072 (by decide) ?_
          refine j_iadd X (pc := 1073) dL_law_1073 ?_
          refine j_iald X (pc := 1074) 32 rfl dL_law_1074 hw (fun y1074 hw => ?_)
          refine j_aload_n X (pc := 1075) 0 dL_law_1075 rfl rfl ?_
          refine j_iload X (pc := 1076) 5 dL_law_1076 rfl ?_
          refine j_iconst X (pc := 1078) 3 dL_law_1078 (by decide) ?_
          refine j_iadd X (pc := 1079) dL_law_1079 ?_
          refine j_iald X (pc := 1080) 32 rfl dL_law_1080 hw (fun y1080 hw => ?_)
          refine j_aload_n X (pc := 1081) 3 dL_law_1081 rfl rfl ?_
          obtain ⟨hu9, hv9, hw⟩ := hw
          refine j_calli (j_runSW (n8 := 5) (As := [vR x1, vI y1068, vI y1074, vI y1080, vR x3]) (rest := []) X (pc := 1082) (met_X0_vote (xl x) X.hl (xG x) h x1 y1068 y1074 y1080 x3 _ hw) q1322 q1323 q70 q1324 (by decide +kernel) dL_law_1082 rfl ⟨Nat.le_of_ble_eq_true rfl, Nat.le_of_ble_eq_true rfl⟩ (Nat.le_of_ble_eq_true rfl) ⟨hu9, hv9⟩) (fun y1082 h1082 hw => ?_)
          refine j_istore X (pc := 1085) [(6, vI y1082), (0, vR x0), (1, vR x1), (2, vR x2), (3, vR x3), (4, vR x4), (5, vI x5)] dL_law_1085 (Nat.le_of_ble_eq_true rfl) rfl ?_
          refine j_aload_n X (pc := 1087) 3 dL_law_1087 rfl rfl ?_
          refine j_aload_n X (pc := 1088) 1 dL_law_1088 rfl rfl ?_
          refine j_iload X (pc := 1089) 6 dL_law_1089 rfl ?_
          refine j_iconst X (pc := 1091) 1 dL_law_1091 (by decide) ?_
          refine j_iadd X (pc := 1092) dL_law_1092 ?_
          refine j_iald X (pc := 1093) 32 rfl dL_law_1093 hw (fun y1093 hw => ?_)
          refine j_aload_n X (pc := 1094) 1 dL_law_1094 rfl rfl ?_
          refine j_iload X (pc := 1095) 6 dL_law_1095 rfl ?_
          refine j_iconst X (pc := 1097) 2 dL_law_1097 (by decide) ?_
          refine j_iadd X (pc := 1098) dL_law_1098 ?_
          refine j_iald X (pc := 1099) 32 rfl dL_law_1099 hw (fun y1099 hw => ?_)
          refine j_aload_n X (pc := 1100) 1 dL_law_1100 rfl rfl ?_
          refine j_iload X (pc := 1101) 6 dL_law_1101 rfl ?_
          refine j_iconst X (pc := 1103) 3 dL_law_1103 (by decide) ?_
          refine j_iadd X (pc := 1104) dL_law_1104 ?_
          refine j_iald X (pc := 1105) 32 rfl dL_law_1105 hw (fun y1105 hw => ?_)
          obtain ⟨hu9, hv9, hw⟩ := hw
          obtain ⟨b9, c9, f9, hr9, ho9, hc9, hw⟩ := hw
          obtain rfl := List.mem_singleton.mp hc9
          refine j_calli (j_runV (n8 := 3) (As := [vI y1093, vI y1099, vI y1105]) (rest := []) X (pc := 1106) hr9 (met_X5_vote (xl x) X.hl (xG x) h1082 x2 y1093 y1099 y1105 _ hw) ho9 (by decide) rfl q2118 q2119 q2120 q78 q2121 (by decide +kernel) dL_law_1106 rfl ⟨Nat.le_of_ble_eq_true rfl, Nat.le_of_ble_eq_true rfl⟩ (Nat.le_of_ble_eq_true rfl) ⟨hu9, hv9⟩) (fun y1106 h1106 hw => ?_)
          refine j_istore X (pc := 1109) [(7, vI y1106), (6, vI y1082), (0, vR x0), (1, vR x1), (2, vR x2), (3, vR x3), (4, vR x4), (5, vI x5)] dL_law_1109 (Nat.le_of_ble_eq_true rfl) rfl ?_
          refine j_aload_n X (pc := 1111) 4 dL_law_1111 rfl rfl ?_
          obtain ⟨hu9, hv9, hw⟩ := hw
          obtain ⟨b9, c9, f9, hr9, ho9, hc9, hw⟩ := hw
          obtain rfl := List.mem_singleton.mp hc9
          refine j_calli (j_runV (n8 := 0) (As := []) (rest := []) X (pc := 1112) hr9 (met_X5_thrown (xl x) X.hl (xG x) h1106 x2 _ hw) ho9 (by decide) rfl q1970 q1971 q1972 q78 q1973 (by decide +kernel) dL_law_1112 rfl ⟨Nat.le_of_ble_eq_true rfl, Nat.le_of_ble_eq_true rfl⟩ (Nat.le_of_ble_eq_true rfl) ⟨hu9, hv9⟩) (fun y1112 h1112 hw => ?_)
          refine j_iload X (pc := 1115) 1 dL_law_1115 rfl ?_
          refine j_icmp_eq X (pc := 1117) 1122 dL_law_1117 (by decide) hw (fun hw => ?_) (fun hw => ?_)
          · refine j_iload X (pc := 1122) 1 dL_law_1122 rfl ?_
            refine j_if_ne X (pc := 1124) 1139 dL_law_1124 (by decide) hw (fun hw => ?_) (fun hw => ?_)
            · refine j_aload_n X (pc := 1127) 5 dL_law_1127 rfl rfl ?_
              refine j_iconst X (pc := 1128) 0 dL_law_1128 (by decide) ?_
              refine j_lald X (pc := 1129) dL_law_1129 hw (fun y1129 hw => ?_)
              refine j_iload X (pc := 1130) 0 dL_law_1130 rfl ?_
              refine j_i2l X (pc := 1132) dL_law_1132 ?_
              refine j_lcmp X (pc := 1133) dL_law_1133 ?_
              refine j_if_eq X (pc := 1134) 1139 dL_law_1134 (by decide) hw (fun hw => ?_) (fun hw => ?_)
              · refine j_goto X (pc := 1139) 3387 dL_law_1139 (by decide) ?_
                refine j_iinc X (pc := 3387) 7 (x5 + 7) [(5, vI (x5 + 7)), (7, vI y1106), (6, vI y1082), (0, vR x0), (1, vR x1), (2, vR x2), (3, vR x3), (4, vR x4)] dL_law_3387 rfl rfl (Nat.le_of_ble_eq_true rfl) rfl ?_
                refine j_goto X (pc := 3390) 28 dL_law_3390 (by decide) ?_
                refine j_lv [(0, vR x0), (1, vR x1), (2, vR x2), (3, vR x3), (4, vR x4), (5, vI (x5 + 7))] [3, 4, 5, 6, 7, 0] rfl ?_
                exact hw
              · refine j_iconst X (pc := 1137) 0 dL_law_1137 (by decide) ?_
                obtain ⟨hu9, hv9, hw⟩ := hw
                exact j_endL X (pc := 1138) hQ hu9 hv9 dL_law_1138 hw
            · refine j_goto X (pc := 1139) 3387 dL_law_1139 (by decide) ?_
              refine j_iinc X (pc := 3387) 7 (x5 + 7) [(5, vI (x5 + 7)), (7, vI y1106), (6, vI y1082), (0, vR x0), (1, vR x1), (2, vR x2), (3, vR x3), (4, vR x4)] dL_law_3387 rfl rfl (Nat.le_of_ble_eq_true rfl) rfl ?_
              refine j_goto X (pc := 3390) 28 dL_law_3390 (by decide) ?_
              refine j_lv [(0, vR x0), (1, vR x1), (2, vR x2), (3, vR x3), (4, vR x4), (5, vI (x5 + 7))] [3, 4, 5, 6, 7, 0] rfl ?_
              exact hw
          · refine j_iconst X (pc := 1120) 0 dL_law_1120 (by decide) ?_
            obtain ⟨hu9, hv9, hw⟩ := hw
            exact j_endL X (pc := 1121) hQ hu9 hv9 dL_law_1121 hw
        | 11, ho, ha =>
          cases ho
          have hw := hw.2.2.2.2.2.2.2.2.2.2.2.1 ha
          refine ⟨1142, by decide, ?_⟩
          refine j_aload_n X (pc := 1142) 1 dL_law_1142 rfl rfl ?_
          refine j_aload_n X (pc := 1143) 0 dL_law_1143 rfl rfl ?_
          refine j_iload X (pc := 1144) 5 dL_law_1144 rfl ?_
          refine j_iconst X (pc := 1146) 1 dL_law_1146 (by decide) ?_
          refine j_iadd X (pc := 1147) dL_law_1147 ?_
          refine j_iald X (pc := 1148) 32 rfl dL_law_1148 hw (fun y1148 hw => ?_)
          refine j_aload_n X (pc := 1149) 0 dL_law_1149 rfl rfl ?_
          refine j_iload X (pc := 1150) 5 dL_law_1150 rfl ?_
          refine j_iconst X (pc := 1152) 2 dL_law_1152 (by decide) ?_
          refine j_iadd X (pc := 1153) dL_law_1153 ?_
          refine j_iald X (pc := 1154) 32 rfl dL_law_1154 hw (fun y1154 hw => ?_)
          refine j_if_eq X (pc := 1155) 1162 dL_law_1155 (by decide) hw (fun hw => ?_) (fun hw => ?_)
          · refine j_iconst X (pc := 1162) 0 dL_law_1162 (by decide) ?_
            exact wk_L_law_1163 X er en hG hQ _ x0 x1 x2 x3 x4 x5 0 y1148 x1 u9 v9 h (fun x5_ u9_ v9_ h_ hz => hz) hw
          · refine j_iconst X (pc := 1158) 1 dL_law_1158 (by decide) ?_
            refine j_goto X (pc := 1159) 1163 dL_law_1159 (by decide) ?_
            exact wk_L_law_1163 X er en hG hQ _ x0 x1 x2 x3 x4 x5 1 y1148 x1 u9 v9 h (fun x5_ u9_ v9_ h_ hz => hz) hw
        | 12, ho, ha =>
          cases ho
          have hw := hw.2.2.2.2.2.2.2.2.2.2.2.2.1 ha
          refine ⟨1233, by decide, ?_⟩
          refine j_aload_n X (pc := 1233) 1 dL_law_1233 rfl rfl ?_
          refine j_aload_n X (pc := 1234) 0 dL_law_1234 rfl rfl ?_
          refine j_iload X (pc := 1235) 5 dL_law_1235 rfl ?_
          refine j_iconst X (pc := 1237) 1 dL_law_1237 (by decide) ?_
          refine j_iadd X (pc := 1238) dL_law_1238 ?_
          refine j_iald X (pc := 1239) 32 rfl dL_law_1239 hw (fun y1239 hw => ?_)
          refine j_aload_n X (pc := 1240) 3 dL_law_1240 rfl rfl ?_
          obtain ⟨hu9, hv9, hw⟩ := hw
          refine j_calli (j_runSW (n8 := 3) (As := [vR x1, vI y1239, vR x3]) (rest := []) X (pc := 1241) (met_X0_takeBack (xl x) X.hl (xG x) h x1 y1239 x3 _ hw) q1345 q1346 q70 q1347 (by decide +kernel) dL_law_1241 rfl ⟨Nat.le_of_ble_eq_true rfl, Nat.le_of_ble_eq_true rfl⟩ (Nat.le_of_ble_eq_true rfl) ⟨hu9, hv9⟩) (fun y1241 h1241 hw => ?_)
          refine j_istore X (pc := 1244) [(6, vI y1241), (0, vR x0), (1, vR x1), (2, vR x2), (3, vR x3), (4, vR x4), (5, vI x5)] dL_law_1244 (Nat.le_of_ble_eq_true rfl) rfl ?_
          refine j_aload_n X (pc := 1246) 3 dL_law_1246 rfl rfl ?_
          refine j_aload_n X (pc := 1247) 1 dL_law_1247 rfl rfl ?_
          refine j_iload X (pc := 1248) 6 dL_law_1248 rfl ?_
          refine j_iconst X (pc := 1250) 1 dL_law_1250 (by decide) ?_
          refine j_iadd X (pc := 1251) dL_law_1251 ?_
          refine j_iald X (pc := 1252) 32 rfl dL_law_1252 hw (fun y1252 hw => ?_)
          obtain ⟨hu9, hv9, hw⟩ := hw
          obtain ⟨b9, c9, f9, hr9, ho9, hc9, hw⟩ := hw
          obtain rfl := List.mem_singleton.mp hc9
          refine j_calli (j_runV (n8 := 1) (As := [vI y1252]) (rest := []) X (pc := 1253) hr9 (met_X5_takeBack (xl x) X.hl (xG x) h1241 x2 y1252 _ hw) ho9 (by decide) rfl q2130 q2131 q2132 q78 q2133 (by decide +kernel) dL_law_1253 rfl ⟨Nat.le_of_ble_eq_true rfl, Nat.le_of_ble_eq_true rfl⟩ (Nat.le_of_ble_eq_true rfl) ⟨hu9, hv9⟩) (fun y1253 h1253 hw => ?_)
          refine j_istore X (pc := 1256) [(7, vI y1253), (6, vI y1241), (0, vR x0), (1, vR x1), (2, vR x2), (3, vR x3), (4, vR x4), (5, vI x5)] dL_law_1256 (Nat.le_of_ble_eq_true rfl) rfl ?_
          refine j_aload_n X (pc := 1258) 4 dL_law_1258 rfl rfl ?_
          obtain ⟨hu9, hv9, hw⟩ := hw
          obtain ⟨b9, c9, f9, hr9, ho9, hc9, hw⟩ := hw
          obtain rfl := List.mem_singleton.mp hc9
          refine j_calli (j_runV (n8 := 0) (As := []) (rest := []) X (pc := 1259) hr9 (met_X5_thrown (xl x) X.hl (xG x) h1253 x2 _ hw) ho9 (by decide) rfl q1970 q1971 q1972 q78 q1973 (by decide +kernel) dL_law_1259 rfl ⟨Nat.le_of_ble_eq_true rfl, Nat.le_of_ble_eq_true rfl⟩ (Nat.le_of_ble_eq_true rfl) ⟨hu9, hv9⟩) (fun y1259 h1259 hw => ?_)
          refine j_iload X (pc := 1262) 1 dL_law_1262 rfl ?_
          refine j_icmp_eq X (pc := 1264) 1269 dL_law_1264 (by decide) hw (fun hw => ?_) (fun hw => ?_)
          · refine j_iload X (pc := 1269) 1 dL_law_1269 rfl ?_
            refine j_if_ne X (pc := 1271) 1286 dL_law_1271 (by decide) hw (fun hw => ?_) (fun hw => ?_)
            · refine j_aload_n X (pc := 1274) 5 dL_law_1274 rfl rfl ?_
              refine j_iconst X (pc := 1275) 0 dL_law_1275 (by decide) ?_
              refine j_lald X (pc := 1276) dL_law_1276 hw (fun y1276 hw => ?_)
              refine j_iload X (pc := 1277) 0 dL_law_1277 rfl ?_
              refine j_i2l X (pc := 1279) dL_law_1279 ?_
              refine j_lcmp X (pc := 1280) dL_law_1280 ?_
              refine j_if_eq X (pc := 1281) 1286 dL_law_1281 (by decide) hw (fun hw => ?_) (fun hw => ?_)
              · refine j_goto X (pc := 1286) 3387 dL_law_1286 (by decide) ?_
                refine j_iinc X (pc := 3387) 7 (x5 + 7) [(5, vI (x5 + 7)), (7, vI y1253), (6, vI y1241), (0, vR x0), (1, vR x1), (2, vR x2), (3, vR x3), (4, vR x4)] dL_law_3387 rfl rfl (Nat.le_of_ble_eq_true rfl) rfl ?_
                refine j_goto X (pc := 3390) 28 dL_law_3390 (by decide) ?_
                refine j_lv [(0, vR x0), (1, vR x1), (2, vR x2), (3, vR x3), (4, vR x4), (5, vI (x5 + 7))] [3, 4, 5, 6, 7, 0] rfl ?_
                exact hw
              · refine j_iconst X (pc := 1284) 0 dL_law_1284 (by decide) ?_
                obtain ⟨hu9, hv9, hw⟩ := hw
                exact j_endL X (pc := 1285) hQ hu9 hv9 dL_law_1285 hw
            · refine j_goto X (pc := 1286) 3387 dL_law_1286 (by decide) ?_
              refine j_iinc X (pc := 3387) 7 (x5 + 7) [(5, vI (x5 + 7)), (7, vI y1253), (6, vI y1241), (0, vR x0), (1, vR x1), (2, vR x2), (3, vR x3), (4, vR x4)] dL_law_3387 rfl rfl (Nat.le_of_ble_eq_true rfl) rfl ?_
              refine j_goto X (pc := 3390) 28 dL_law_3390 (by decide) ?_
              refine j_lv [(0, vR x0), (1, vR x1), (2, vR x2), (3, vR x3), (4, vR x4), (5, vI (x5 + 7))] [3, 4, 5, 6, 7, 0] rfl ?_
              exact hw
          · refine j_iconst X (pc := 1267) 0 dL_law_1267 (by decide) ?_
            obtain ⟨hu9, hv9, hw⟩ := hw
            exact j_endL X (pc := 1268) hQ hu9 hv9 dL_law_1268 hw
        | 13, ho, ha =>
          cases ho
          have hw := hw.2.2.2.2.2.2.2.2.2.2.2.2.2.1 ha
          refine ⟨1289, by decide, ?_⟩
          refine j_aload_n X (pc := 1289) 1 dL_law_1289 rfl rfl ?_
          refine j_aload_n X (pc := 1290) 0 dL_law_1290 rfl rfl ?_
          refine j_iload X (pc := 1291) 5 dL_law_1291 rfl ?_
          refine j_iconst X (pc := 1293) 1 dL_law_1293 (by decide) ?_
          refine j_iadd X (pc := 1294) dL_law_1294 ?_
          refine j_iald X (pc := 1295) 32 rfl dL_law_1295 hw (fun y1295 hw => ?_)
          refine j_aload_n X (pc := 1296) 0 dL_law_1296 rfl rfl ?_
          refine j_iload X (pc := 1297) 5 dL_law_1297 rfl ?_
          refine j_iconst X (pc := 1299) 2 dL_law_1299 (by decide) ?_
          refine j_iadd X (pc := 1300) dL_law_1300 ?_
          refine j_iald X (pc := 1301) 32 rfl dL_law_1301 hw (fun y1301 hw => ?_)
          refine j_aload_n X (pc := 1302) 3 dL_law_1302 rfl rfl ?_
          obtain ⟨hu9, hv9, hw⟩ := hw
          refine j_calli (j_runSW (n8 := 4) (As := [vR x1, vI y1295, vI y1301, vR x3]) (rest := []) X (pc := 1303) (met_X0_deliver (xl x) X.hl (xG x) h x1 y1295 y1301 x3 _ hw) q1357 q1358 q70 q1359 (by decide +kernel) dL_law_1303 rfl ⟨Nat.le_of_ble_eq_true rfl, Nat.le_of_ble_eq_true rfl⟩ (Nat.le_of_ble_eq_true rfl) ⟨hu9, hv9⟩) (fun y1303 h1303 hw => ?_)
          refine j_istore X (pc := 1306) [(6, vI y1303), (0, vR x0), (1, vR x1), (2, vR x2), (3, vR x3), (4, vR x4), (5, vI x5)] dL_law_1306 (Nat.le_of_ble_eq_true rfl) rfl ?_
          refine j_aload_n X (pc := 1308) 3 dL_law_1308 rfl rfl ?_
          refine j_aload_n X (pc := 1309) 1 dL_law_1309 rfl rfl ?_
          refine j_iload X (pc := 1310) 6 dL_law_1310 rfl ?_
          refine j_iconst X (pc := 1312) 1 dL_law_1312 (by decide) ?_
          refine j_iadd X (pc := 1313) dL_law_1313 ?_
          refine j_iald X (pc := 1314) 32 rfl dL_law_1314 hw (fun y1314 hw => ?_)
          refine j_aload_n X (pc := 1315) 1 dL_law_1315 rfl rfl ?_
          refine j_iload X (pc := 1316) 6 dL_law_1316 rfl ?_
          refine j_iconst X (pc := 1318) 2 dL_law_1318 (by decide) ?_
          refine j_iadd X (pc := 1319) dL_law_1319 ?_
          refine j_iald X (pc := 1320) 32 rfl dL_law_1320 hw (fun y1320 hw => ?_)
          obtain ⟨hu9, hv9, hw⟩ := hw
          obtain ⟨b9, c9, f9, hr9, ho9, hc9, hw⟩ := hw
          obtain rfl := List.mem_singleton.mp hc9
          refine j_calli (j_runV (n8 := 2) (As := [vI y1314, vI y1320]) (rest := []) X (pc := 1321) hr9 (met_X5_deliver (xl x) X.hl (xG x) h1303 x2 y1314 y1320 _ hw) ho9 (by decide) rfl q2134 q2135 q2136 q78 q2137 (by decide +kernel) dL_law_1321 rfl ⟨Nat.le_of_ble_eq_true rfl, Nat.le_of_ble_eq_true rfl⟩ (Nat.le_of_ble_eq_true rfl) ⟨hu9, hv9⟩) (fun y1321 h1321 hw => ?_)
          refine j_istore X (pc := 1324) [(7, vI y1321), (6, vI y1303), (0, vR x0), (1, vR x1), (2, vR x2), (3, vR x3), (4, vR x4), (5, vI x5)] dL_law_1324 (Nat.le_of_ble_eq_true rfl) rfl ?_
          refine j_aload_n X (pc := 1326) 4 dL_law_1326 rfl rfl ?_
          obtain ⟨hu9, hv9, hw⟩ := hw
          obtain ⟨b9, c9, f9, hr9, ho9, hc9, hw⟩ := hw
          obtain rfl := List.mem_singleton.mp hc9
          refine j_calli (j_runV (n8 := 0) (As := []) (rest := []) X (pc := 1327) hr9 (met_X5_thrown (xl x) X.hl (xG x) h1321 x2 _ hw) ho9 (by decide) rfl q1970 q1971 q1972 q78 q1973 (by decide +kernel) dL_law_1327 rfl ⟨Nat.le_of_ble_eq_true rfl, Nat.le_of_ble_eq_true rfl⟩ (Nat.le_of_ble_eq_true rfl) ⟨hu9, hv9⟩) (fun y1327 h1327 hw => ?_)
          refine j_iload X (pc := 1330) 1 dL_law_1330 rfl ?_
          refine j_icmp_eq X (pc := 1332) 1337 dL_law_1332 (by decide) hw (fun hw => ?_) (fun hw => ?_)
          · refine j_iload X (pc := 1337) 1 dL_law_1337 rfl ?_
            refine j_if_ne X (pc := 1339) 1354 dL_law_1339 (by decide) hw (fun hw => ?_) (fun hw => ?_)
            · refine j_aload_n X (pc := 1342) 5 dL_law_1342 rfl rfl ?_
              refine j_iconst X (pc := 1343) 0 dL_law_1343 (by decide) ?_
              refine j_lald X (pc := 1344) dL_law_1344 hw (fun y1344 hw => ?_)
              refine j_iload X (pc := 1345) 0 dL_law_1345 rfl ?_
              refine j_i2l X (pc := 1347) dL_law_1347 ?_
              refine j_lcmp X (pc := 1348) dL_law_1348 ?_
              refine j_if_eq X (pc := 1349) 1354 dL_law_1349 (by decide) hw (fun hw => ?_) (fun hw => ?_)
              · refine j_goto X (pc := 1354) 3387 dL_law_1354 (by decide) ?_
                refine j_iinc X (pc := 3387) 7 (x5 + 7) [(5, vI (x5 + 7)), (7, vI y1321), (6, vI y1303), (0, vR x0), (1, vR x1), (2, vR x2), (3, vR x3), (4, vR x4)] dL_law_3387 rfl rfl (Nat.le_of_ble_eq_true rfl) rfl ?_
                refine j_goto X (pc := 3390) 28 dL_law_3390 (by decide) ?_
                refine j_lv [(0, vR x0), (1, vR x1), (2, vR x2), (3, vR x3), (4, vR x4), (5, vI (x5 + 7))] [3, 4, 5, 6, 7, 0] rfl ?_
                exact hw
              · refine j_iconst X (pc := 1352) 0 dL_law_1352 (by decide) ?_
                obtain ⟨hu9, hv9, hw⟩ := hw
                exact j_endL X (pc := 1353) hQ hu9 hv9 dL_law_1353 hw
            · refine j_goto X (pc := 1354) 3387 dL_law_1354 (by decide) ?_
              refine j_iinc X (pc := 3387) 7 (x5 + 7) [(5, vI (x5 + 7)), (7, vI y1321), (6, vI y1303), (0, vR x0), (1, vR x1), (2, vR x2), (3, vR x3), (4, vR x4)] dL_law_3387 rfl rfl (Nat.le_of_ble_eq_true rfl) rfl ?_
              refine j_goto X (pc := 3390) 28 dL_law_3390 (by decide) ?_
              refine j_lv [(0, vR x0), (1, vR x1), (2, vR x2), (3, vR x3), (4, vR x4), (5, vI (x5 + 7))] [3, 4, 5, 6, 7, 0] rfl ?_
              exact hw
          · refine j_iconst X (pc := 1335) 0 dL_law_1335 (by decide) ?_
            obtain ⟨hu9, hv9, hw⟩ := hw
            exact j_endL X (pc := 1336) hQ hu9 hv9 dL_law_1336 hw
        | 14, ho, ha =>
          cases ho
          have hw := hw.2.2.2.2.2.2.2.2.2.2.2.2.2.2.1 ha
          refine ⟨1357, by decide, ?_⟩
          refine j_aload_n X (pc := 1357) 1 dL_law_1357 rfl rfl ?_
          refine j_aload_n X (pc := 1358) 0 dL_law_1358 rfl rfl ?_
          refine j_iload X (pc := 1359) 5 dL_law_1359 rfl ?_
          refine j_iconst X (pc := 1361) 1 dL_law_1361 (by decide) ?_
          refine j_iadd X (pc := 1362) dL_law_1362 ?_
          refine j_iald X (pc := 1363) 32 rfl dL_law_1363 hw (fun y1363 hw => ?_)
          refine j_aload_n X (pc := 1364) 0 dL_law_1364 rfl rfl ?_
          refine j_iload X (pc := 1365) 5 dL_law_1365 rfl ?_
          refine j_iconst X (pc := 1367) 2 dL_law_1367 (by decide) ?_
          refine j_iadd X (pc := 1368) dL_law_1368 ?_
          refine j_iald X (pc := 1369) 32 rfl dL_law_1369 hw (fun y1369 hw => ?_)
          refine j_aload_n X (pc := 1370) 3 dL_law_1370 rfl rfl ?_
          obtain ⟨hu9, hv9, hw⟩ := hw
          refine j_calli (j_runSW (n8 := 4) (As := [vR x1, vI y1363, vI y1369, vR x3]) (rest := []) X (pc := 1371) (met_X0_sync (xl x) X.hl (xG x) hG h x1 y1363 y1369 x3 _ hw) q1368 q1369 q70 q1370 (by decide +kernel) dL_law_1371 rfl ⟨Nat.le_of_ble_eq_true rfl, Nat.le_of_ble_eq_true rfl⟩ (Nat.le_of_ble_eq_true rfl) ⟨hu9, hv9⟩) (fun y1371 h1371 hw => ?_)
          refine j_istore X (pc := 1374) [(6, vI y1371), (0, vR x0), (1, vR x1), (2, vR x2), (3, vR x3), (4, vR x4), (5, vI x5)] dL_law_1374 (Nat.le_of_ble_eq_true rfl) rfl ?_
          refine j_aload_n X (pc := 1376) 3 dL_law_1376 rfl rfl ?_
          refine j_aload_n X (pc := 1377) 1 dL_law_1377 rfl rfl ?_
          refine j_iload X (pc := 1378) 6 dL_law_1378 rfl ?_
          refine j_iconst X (pc := 1380) 1 dL_law_1380 (by decide) ?_
          refine j_iadd X (pc := 1381) dL_law_1381 ?_
          refine j_iald X (pc := 1382) 32 rfl dL_law_1382 hw (fun y1382 hw => ?_)
          refine j_aload_n X (pc := 1383) 1 dL_law_1383 rfl rfl ?_
          refine j_iload X (pc := 1384) 6 dL_law_1384 rfl ?_
          refine j_iconst X (pc := 1386) 2 dL_law_1386 (by decide) ?_
          refine j_iadd X (pc := 1387) dL_law_1387 ?_
          refine j_iald X (pc := 1388) 32 rfl dL_law_1388 hw (fun y1388 hw => ?_)
          obtain ⟨hu9, hv9, hw⟩ := hw
          obtain ⟨b9, c9, f9, hr9, ho9, hc9, hw⟩ := hw
          obtain rfl := List.mem_singleton.mp hc9
          refine j_calli (j_runV (n8 := 2) (As := [vI y1382, vI y1388]) (rest := []) X (pc := 1389) hr9 (met_X5_sync (xl x) X.hl (xG x) h1371 x2 y1382 y1388 _ hw) ho9 (by decide) rfl q2146 q2147 q2148 q78 q2149 (by decide +kernel) dL_law_1389 rfl ⟨Nat.le_of_ble_eq_true rfl, Nat.le_of_ble_eq_true rfl⟩ (Nat.le_of_ble_eq_true rfl) ⟨hu9, hv9⟩) (fun y1389 h1389 hw => ?_)
          refine j_istore X (pc := 1392) [(7, vI y1389), (6, vI y1371), (0, vR x0), (1, vR x1), (2, vR x2), (3, vR x3), (4, vR x4), (5, vI x5)] dL_law_1392 (Nat.le_of_ble_eq_true rfl) rfl ?_
          refine j_aload_n X (pc := 1394) 4 dL_law_1394 rfl rfl ?_
          obtain ⟨hu9, hv9, hw⟩ := hw
          obtain ⟨b9, c9, f9, hr9, ho9, hc9, hw⟩ := hw
          obtain rfl := List.mem_singleton.mp hc9
          refine j_calli (j_runV (n8 := 0) (As := []) (rest := []) X (pc := 1395) hr9 (met_X5_thrown (xl x) X.hl (xG x) h1389 x2 _ hw) ho9 (by decide) rfl q1970 q1971 q1972 q78 q1973 (by decide +kernel) dL_law_1395 rfl ⟨Nat.le_of_ble_eq_true rfl, Nat.le_of_ble_eq_true rfl⟩ (Nat.le_of_ble_eq_true rfl) ⟨hu9, hv9⟩) (fun y1395 h1395 hw => ?_)
          refine j_iload X (pc := 1398) 1 dL_law_1398 rfl ?_
          refine j_icmp_eq X (pc := 1400) 1405 dL_law_1400 (by decide) hw (fun hw => ?_) (fun hw => ?_)
          · refine j_iload X (pc := 1405) 1 dL_law_1405 rfl ?_
            refine j_if_ne X (pc := 1407) 1422 dL_law_1407 (by decide) hw (fun hw => ?_) (fun hw => ?_)
            · refine j_aload_n X (pc := 1410) 5 dL_law_1410 rfl rfl ?_
              refine j_iconst X (pc := 1411) 0 dL_law_1411 (by decide) ?_
              refine j_lald X (pc := 1412) dL_law_1412 hw (fun y1412 hw => ?_)
              refine j_iload X (pc := 1413) 0 dL_law_1413 rfl ?_
              refine j_i2l X (pc := 1415) dL_law_1415 ?_
              refine j_lcmp X (pc := 1416) dL_law_1416 ?_
              refine j_if_eq X (pc := 1417) 1422 dL_law_1417 (by decide) hw (fun hw => ?_) (fun hw => ?_)
              · refine j_goto X (pc := 1422) 3387 dL_law_1422 (by decide) ?_
                refine j_iinc X (pc := 3387) 7 (x5 + 7) [(5, vI (x5 + 7)), (7, vI y1389), (6, vI y1371), (0, vR x0), (1, vR x1), (2, vR x2), (3, vR x3), (4, vR x4)] dL_law_3387 rfl rfl (Nat.le_of_ble_eq_true rfl) rfl ?_
                refine j_goto X (pc := 3390) 28 dL_law_3390 (by decide) ?_
                refine j_lv [(0, vR x0), (1, vR x1), (2, vR x2), (3, vR x3), (4, vR x4), (5, vI (x5 + 7))] [3, 4, 5, 6, 7, 0] rfl ?_
                exact hw
              · refine j_iconst X (pc := 1420) 0 dL_law_1420 (by decide) ?_
                obtain ⟨hu9, hv9, hw⟩ := hw
                exact j_endL X (pc := 1421) hQ hu9 hv9 dL_law_1421 hw
            · refine j_goto X (pc := 1422) 3387 dL_law_1422 (by decide) ?_
              refine j_iinc X (pc := 3387) 7 (x5 + 7) [(5, vI (x5 + 7)), (7, vI y1389), (6, vI y1371), (0, vR x0), (1, vR x1), (2, vR x2), (3, vR x3), (4, vR x4)] dL_law_3387 rfl rfl (Nat.le_of_ble_eq_true rfl) rfl ?_
              refine j_goto X (pc := 3390) 28 dL_law_3390 (by decide) ?_
              refine j_lv [(0, vR x0), (1, vR x1), (2, vR x2), (3, vR x3), (4, vR x4), (5, vI (x5 + 7))] [3, 4, 5, 6, 7, 0] rfl ?_
              exact hw
          · refine j_iconst X (pc := 1403) 0 dL_law_1403 (by decide) ?_
            obtain ⟨hu9, hv9, hw⟩ := hw
            exact j_endL X (pc := 1404) hQ hu9 hv9 dL_law_1404 hw
        | 15, ho, ha =>
          cases ho
          have hw := hw.2.2.2.2.2.2.2.2.2.2.2.2.2.2.2.1 ha
          refine ⟨1425, by decide, ?_⟩
          refine j_aload_n X (pc := 1425) 1 dL_law_1425 rfl rfl ?_
          obtain ⟨hu9, hv9, hw⟩ := hw
          obtain ⟨b9, c9, f9, hr9, ho9, hc9, hw⟩ := hw
          obtain rfl := List.mem_singleton.mp hc9
          refine j_calli (j_runV (n8 := 0) (As := []) (rest := []) X (pc := 1426) hr9 (met_X1_operations (xl x) X.hl (xG x) h x1 _ hw) ho9 (by decide) rfl q280 q281 q282 q71 q283 (by decide +kernel) dL_law_1426 rfl ⟨Nat.le_of_ble_eq_true rfl, Nat.le_of_ble_eq_true rfl⟩ (Nat.le_of_ble_eq_true rfl) ⟨hu9, hv9⟩) (fun y1426 h1426 hw => ?_)
          refine j_aload_n X (pc := 1429) 2 dL_law_1429 rfl rfl ?_
          obtain ⟨hu9, hv9, hw⟩ := hw
          obtain ⟨b9, c9, f9, hr9, ho9, hc9, hw⟩ := hw
          obtain rfl := List.mem_singleton.mp hc9
          refine j_calli (j_runV (n8 := 0) (As := []) (rest := [vI y1426]) X (pc := 1430) hr9 (met_X5_operations (xl x) X.hl (xG x) h1426 x2 _ hw) ho9 (by decide) rfl q2150 q2151 q2152 q78 q2153 (by decide +kernel) dL_law_1430 rfl ⟨Nat.le_of_ble_eq_true rfl, Nat.le_of_ble_eq_true rfl⟩ (Nat.le_of_ble_eq_true rfl) ⟨hu9, hv9⟩) (fun y1430 h1430 hw => ?_)
          refine j_icmp_eq X (pc := 1433) 3387 dL_law_1433 (by decide) hw (fun hw => ?_) (fun hw => ?_)
          · refine j_iinc X (pc := 3387) 5 (x5 + 7) [(5, vI (x5 + 7)), (0, vR x0), (1, vR x1), (2, vR x2), (3, vR x3), (4, vR x4)] dL_law_3387 rfl rfl (Nat.le_of_ble_eq_true rfl) rfl ?_
            refine j_goto X (pc := 3390) 28 dL_law_3390 (by decide) ?_
            refine j_lv [(0, vR x0), (1, vR x1), (2, vR x2), (3, vR x3), (4, vR x4), (5, vI (x5 + 7))] [1, 2, 3, 4, 5, 0] rfl ?_
            exact hw
          · refine j_iconst X (pc := 1436) 0 dL_law_1436 (by decide) ?_
            obtain ⟨hu9, hv9, hw⟩ := hw
            exact j_endL X (pc := 1437) hQ hu9 hv9 dL_law_1437 hw
        | 16, ho, ha =>
          cases ho
          have hw := hw.2.2.2.2.2.2.2.2.2.2.2.2.2.2.2.2.1 ha
          refine ⟨1438, by decide, ?_⟩
          refine j_aload_n X (pc := 1438) 1 dL_law_1438 rfl rfl ?_
          refine j_aload_n X (pc := 1439) 0 dL_law_1439 rfl rfl ?_
          refine j_iload X (pc := 1440) 5 dL_law_1440 rfl ?_
          refine j_iconst X (pc := 1442) 1 dL_law_1442 (by decide) ?_
          refine j_iadd X (pc := 1443) dL_law_1443 ?_
          refine j_iald X (pc := 1444) 32 rfl dL_law_1444 hw (fun y1444 hw => ?_)
          refine j_aload_n X (pc := 1445) 3 dL_law_1445 rfl rfl ?_
          obtain ⟨hu9, hv9, hw⟩ := hw
          refine j_calli (j_runSW (n8 := 3) (As := [vR x1, vI y1444, vR x3]) (rest := []) X (pc := 1446) (met_X0_userOf (xl x) X.hl (xG x) h x1 y1444 x3 _ hw) q1375 q1376 q70 q1377 (by decide +kernel) dL_law_1446 rfl ⟨Nat.le_of_ble_eq_true rfl, Nat.le_of_ble_eq_true rfl⟩ (Nat.le_of_ble_eq_true rfl) ⟨hu9, hv9⟩) (fun y1446 h1446 hw => ?_)
          refine j_istore X (pc := 1449) [(6, vI y1446), (0, vR x0), (1, vR x1), (2, vR x2), (3, vR x3), (4, vR x4), (5, vI x5)] dL_law_1449 (Nat.le_of_ble_eq_true rfl) rfl ?_
          refine j_aload_n X (pc := 1451) 3 dL_law_1451 rfl rfl ?_
          refine j_aload_n X (pc := 1452) 1 dL_law_1452 rfl rfl ?_
          refine j_iload X (pc := 1453) 6 dL_law_1453 rfl ?_
          refine j_iconst X (pc := 1455) 1 dL_law_1455 (by decide) ?_
          refine j_iadd X (pc := 1456) dL_law_1456 ?_
          refine j_iald X (pc := 1457) 32 rfl dL_law_1457 hw (fun y1457 hw => ?_)
          obtain ⟨hu9, hv9, hw⟩ := hw
          obtain ⟨b9, c9, f9, hr9, ho9, hc9, hw⟩ := hw
          obtain rfl := List.mem_singleton.mp hc9
          refine j_calli (j_runV (n8 := 1) (As := [vI y1457]) (rest := []) X (pc := 1458) hr9 (met_X5_userOf (xl x) X.hl (xG x) h1446 x2 y1457 _ hw) ho9 (by decide) rfl q2154 q2155 q2156 q78 q2157 (by decide +kernel) dL_law_1458 rfl ⟨Nat.le_of_ble_eq_true rfl, Nat.le_of_ble_eq_true rfl⟩ (Nat.le_of_ble_eq_true rfl) ⟨hu9, hv9⟩) (fun y1458 h1458 hw => ?_)
          refine j_istore X (pc := 1461) [(7, vI y1458), (6, vI y1446), (0, vR x0), (1, vR x1), (2, vR x2), (3, vR x3), (4, vR x4), (5, vI x5)] dL_law_1461 (Nat.le_of_ble_eq_true rfl) rfl ?_
          refine j_aload_n X (pc := 1463) 4 dL_law_1463 rfl rfl ?_
          obtain ⟨hu9, hv9, hw⟩ := hw
          obtain ⟨b9, c9, f9, hr9, ho9, hc9, hw⟩ := hw
          obtain rfl := List.mem_singleton.mp hc9
          refine j_calli (j_runV (n8 := 0) (As := []) (rest := []) X (pc := 1464) hr9 (met_X5_thrown (xl x) X.hl (xG x) h1458 x2 _ hw) ho9 (by decide) rfl q1970 q1971 q1972 q78 q1973 (by decide +kernel) dL_law_1464 rfl ⟨Nat.le_of_ble_eq_true rfl, Nat.le_of_ble_eq_true rfl⟩ (Nat.le_of_ble_eq_true rfl) ⟨hu9, hv9⟩) (fun y1464 h1464 hw => ?_)
          refine j_iload X (pc := 1467) 1 dL_law_1467 rfl ?_
          refine j_icmp_eq X (pc := 1469) 1474 dL_law_1469 (by decide) hw (fun hw => ?_) (fun hw => ?_)
          · refine j_iload X (pc := 1474) 1 dL_law_1474 rfl ?_
            refine j_if_ne X (pc := 1476) 1491 dL_law_1476 (by decide) hw (fun hw => ?_) (fun hw => ?_)
            · refine j_aload_n X (pc := 1479) 5 dL_law_1479 rfl rfl ?_
              refine j_iconst X (pc := 1480) 0 dL_law_1480 (by decide) ?_
              refine j_lald X (pc := 1481) dL_law_1481 hw (fun y1481 hw => ?_)
              refine j_iload X (pc := 1482) 0 dL_law_1482 rfl ?_
              refine j_i2l X (pc := 1484) dL_law_1484 ?_
              refine j_lcmp X (pc := 1485) dL_law_1485 ?_
              refine j_if_eq X (pc := 1486) 1491 dL_law_1486 (by decide) hw (fun hw => ?_) (fun hw => ?_)
              · refine j_goto X (pc := 1491) 3387 dL_law_1491 (by decide) ?_
                refine j_iinc X (pc := 3387) 7 (x5 + 7) [(5, vI (x5 + 7)), (7, vI y1458), (6, vI y1446), (0, vR x0), (1, vR x1), (2, vR x2), (3, vR x3), (4, vR x4)] dL_law_3387 rfl rfl (Nat.le_of_ble_eq_true rfl) rfl ?_
                refine j_goto X (pc := 3390) 28 dL_law_3390 (by decide) ?_
                refine j_lv [(0, vR x0), (1, vR x1), (2, vR x2), (3, vR x3), (4, vR x4), (5, vI (x5 + 7))] [3, 4, 5, 6, 7, 0] rfl ?_
                exact hw
              · refine j_iconst X (pc := 1489) 0 dL_law_1489 (by decide) ?_
                obtain ⟨hu9, hv9, hw⟩ := hw
                exact j_endL X (pc := 1490) hQ hu9 hv9 dL_law_1490 hw
            · refine j_goto X (pc := 1491) 3387 dL_law_1491 (by decide) ?_
              refine j_iinc X (pc := 3387) 7 (x5 + 7) [(5, vI (x5 + 7)), (7, vI y1458), (6, vI y1446), (0, vR x0), (1, vR x1), (2, vR x2), (3, vR x3), (4, vR x4)] dL_law_3387 rfl rfl (Nat.le_of_ble_eq_true rfl) rfl ?_
              refine j_goto X (pc := 3390) 28 dL_law_3390 (by decide) ?_
              refine j_lv [(0, vR x0), (1, vR x1), (2, vR x2), (3, vR x3), (4, vR x4), (5, vI (x5 + 7))] [3, 4, 5, 6, 7, 0] rfl ?_
              exact hw
          · refine j_iconst X (pc := 1472) 0 dL_law_1472 (by decide) ?_
            obtain ⟨hu9, hv9, hw⟩ := hw
            exact j_endL X (pc := 1473) hQ hu9 hv9 dL_law_1473 hw
        | 17, ho, ha =>
          cases ho
          have hw := hw.2.2.2.2.2.2.2.2.2.2.2.2.2.2.2.2.2.1 ha
          refine ⟨1494, by decide, ?_⟩
          refine j_aload_n X (pc := 1494) 1 dL_law_1494 rfl rfl ?_
          refine j_aload_n X (pc := 1495) 0 dL_law_1495 rfl rfl ?_
          refine j_iload X (pc := 1496) 5 dL_law_1496 rfl ?_
          refine j_iconst X (pc := 1498) 1 dL_law_1498 (by decide) ?_
          refine j_iadd X (pc := 1499) dL_law_1499 ?_
          refine j_iald X (pc := 1500) 32 rfl dL_law_1500 hw (fun y1500 hw => ?_)
          refine j_aload_n X (pc := 1501) 3 dL_law_1501 rfl rfl ?_
          obtain ⟨hu9, hv9, hw⟩ := hw
          refine j_calli (j_runSW (n8 := 3) (As := [vR x1, vI y1500, vR x3]) (rest := []) X (pc := 1502) (met_X0_clockOf (xl x) X.hl (xG x) h x1 y1500 x3 _ hw) q1382 q1383 q70 q1384 (by decide +kernel) dL_law_1502 rfl ⟨Nat.le_of_ble_eq_true rfl, Nat.le_of_ble_eq_true rfl⟩ (Nat.le_of_ble_eq_true rfl) ⟨hu9, hv9⟩) (fun y1502 h1502 hw => ?_)
          refine j_istore X (pc := 1505) [(6, vI y1502), (0, vR x0), (1, vR x1), (2, vR x2), (3, vR x3), (4, vR x4), (5, vI x5)] dL_law_1505 (Nat.le_of_ble_eq_true rfl) rfl ?_
          refine j_aload_n X (pc := 1507) 3 dL_law_1507 rfl rfl ?_
          refine j_aload_n X (pc := 1508) 1 dL_law_1508 rfl rfl ?_
          refine j_iload X (pc := 1509) 6 dL_law_1509 rfl ?_
          refine j_iconst X (pc := 1511) 1 dL_law_1511 (by decide) ?_
          refine j_iadd X (pc := 1512) dL_law_1512 ?_
          refine j_iald X (pc := 1513) 32 rfl dL_law_1513 hw (fun y1513 hw => ?_)
          obtain ⟨hu9, hv9, hw⟩ := hw
          obtain ⟨b9, c9, f9, hr9, ho9, hc9, hw⟩ := hw
          obtain rfl := List.mem_singleton.mp hc9
          refine j_calli (j_runV (n8 := 1) (As := [vI y1513]) (rest := []) X (pc := 1514) hr9 (met_X5_clockOf (xl x) X.hl (xG x) h1502 x2 y1513 _ hw) ho9 (by decide) rfl q2158 q2159 q2160 q78 q2161 (by decide +kernel) dL_law_1514 rfl ⟨Nat.le_of_ble_eq_true rfl, Nat.le_of_ble_eq_true rfl⟩ (Nat.le_of_ble_eq_true rfl) ⟨hu9, hv9⟩) (fun y1514 h1514 hw => ?_)
          refine j_istore X (pc := 1517) [(7, vI y1514), (6, vI y1502), (0, vR x0), (1, vR x1), (2, vR x2), (3, vR x3), (4, vR x4), (5, vI x5)] dL_law_1517 (Nat.le_of_ble_eq_true rfl) rfl ?_
          refine j_aload_n X (pc := 1519) 4 dL_law_1519 rfl rfl ?_
          obtain ⟨hu9, hv9, hw⟩ := hw
          obtain ⟨b9, c9, f9, hr9, ho9, hc9, hw⟩ := hw
          obtain rfl := List.mem_singleton.mp hc9
          refine j_calli (j_runV (n8 := 0) (As := []) (rest := []) X (pc := 1520) hr9 (met_X5_thrown (xl x) X.hl (xG x) h1514 x2 _ hw) ho9 (by decide) rfl q1970 q1971 q1972 q78 q1973 (by decide +kernel) dL_law_1520 rfl ⟨Nat.le_of_ble_eq_true rfl, Nat.le_of_ble_eq_true rfl⟩ (Nat.le_of_ble_eq_true rfl) ⟨hu9, hv9⟩) (fun y1520 h1520 hw => ?_)
          refine j_iload X (pc := 1523) 1 dL_law_1523 rfl ?_
          refine j_icmp_eq X (pc := 1525) 1530 dL_law_1525 (by decide) hw (fun hw => ?_) (fun hw => ?_)
          · refine j_iload X (pc := 1530) 1 dL_law_1530 rfl ?_
            refine j_if_ne X (pc := 1532) 1547 dL_law_1532 (by decide) hw (fun hw => ?_) (fun hw => ?_)
            · refine j_aload_n X (pc := 1535) 5 dL_law_1535 rfl rfl ?_
              refine j_iconst X (pc := 1536) 0 dL_law_1536 (by decide) ?_
              refine j_lald X (pc := 1537) dL_law_1537 hw (fun y1537 hw => ?_)
              refine j_iload X (pc := 1538) 0 dL_law_1538 rfl ?_
              refine j_i2l X (pc := 1540) dL_law_1540 ?_
              refine j_lcmp X (pc := 1541) dL_law_1541 ?_
              refine j_if_eq X (pc := 1542) 1547 dL_law_1542 (by decide) hw (fun hw => ?_) (fun hw => ?_)
              · refine j_goto X (pc := 1547) 3387 dL_law_1547 (by decide) ?_
                refine j_iinc X (pc := 3387) 7 (x5 + 7) [(5, vI (x5 + 7)), (7, vI y1514), (6, vI y1502), (0, vR x0), (1, vR x1), (2, vR x2), (3, vR x3), (4, vR x4)] dL_law_3387 rfl rfl (Nat.le_of_ble_eq_true rfl) rfl ?_
                refine j_goto X (pc := 3390) 28 dL_law_3390 (by decide) ?_
                refine j_lv [(0, vR x0), (1, vR x1), (2, vR x2), (3, vR x3), (4, vR x4), (5, vI (x5 + 7))] [3, 4, 5, 6, 7, 0] rfl ?_
                exact hw
              · refine j_iconst X (pc := 1545) 0 dL_law_1545 (by decide) ?_
                obtain ⟨hu9, hv9, hw⟩ := hw
                exact j_endL X (pc := 1546) hQ hu9 hv9 dL_law_1546 hw
            · refine j_goto X (pc := 1547) 3387 dL_law_1547 (by decide) ?_
              refine j_iinc X (pc := 3387) 7 (x5 + 7) [(5, vI (x5 + 7)), (7, vI y1514), (6, vI y1502), (0, vR x0), (1, vR x1), (2, vR x2), (3, vR x3), (4, vR x4)] dL_law_3387 rfl rfl (Nat.le_of_ble_eq_true rfl) rfl ?_
              refine j_goto X (pc := 3390) 28 dL_law_3390 (by decide) ?_
              refine j_lv [(0, vR x0), (1, vR x1), (2, vR x2), (3, vR x3), (4, vR x4), (5, vI (x5 + 7))] [3, 4, 5, 6, 7, 0] rfl ?_
              exact hw
          · refine j_iconst X (pc := 1528) 0 dL_law_1528 (by decide) ?_
            obtain ⟨hu9, hv9, hw⟩ := hw
            exact j_endL X (pc := 1529) hQ hu9 hv9 dL_law_1529 hw
        | 18, ho, ha =>
          cases ho
          have hw := hw.2.2.2.2.2.2.2.2.2.2.2.2.2.2.2.2.2.2.1 ha
          refine ⟨1550, by decide, ?_⟩
          refine j_aload_n X (pc := 1550) 1 dL_law_1550 rfl rfl ?_
          refine j_aload_n X (pc := 1551) 0 dL_law_1551 rfl rfl ?_
          refine j_iload X (pc := 1552) 5 dL_law_1552 rfl ?_
          refine j_iconst X (pc := 1554) 1 dL_law_1554 (by decide) ?_
          refine j_iadd X (pc := 1555) dL_law_1555 ?_
          refine j_iald X (pc := 1556) 32 rfl dL_law_1556 hw (fun y1556 hw => ?_)
          refine j_aload_n X (pc := 1557) 0 dL_law_1557 rfl rfl ?_
          refine j_iload X (pc := 1558) 5 dL_law_1558 rfl ?_
          refine j_iconst X (pc := 1560) 2 dL_law_1560 (by decide) ?_
          refine j_iadd X (pc := 1561) dL_law_1561 ?_
          refine j_iald X (pc := 1562) 32 rfl dL_law_1562 hw (fun y1562 hw => ?_)
          refine j_aload_n X (pc := 1563) 3 dL_law_1563 rfl rfl ?_
          obtain ⟨hu9, hv9, hw⟩ := hw
          refine j_calli (j_runSW (n8 := 4) (As := [vR x1, vI y1556, vI y1562, vR x3]) (rest := []) X (pc := 1564) (met_X0_knows (xl x) X.hl (xG x) h x1 y1556 y1562 x3 _ hw) q1389 q1390 q70 q1391 (by decide +kernel) dL_law_1564 rfl ⟨Nat.le_of_ble_eq_true rfl, Nat.le_of_ble_eq_true rfl⟩ (Nat.le_of_ble_eq_true rfl) ⟨hu9, hv9⟩) (fun y1564 h1564 hw => ?_)
          refine j_istore X (pc := 1567) [(6, vI y1564), (0, vR x0), (1, vR x1), (2, vR x2), (3, vR x3), (4, vR x4), (5, vI x5)] dL_law_1567 (Nat.le_of_ble_eq_true rfl) rfl ?_
          refine j_aload_n X (pc := 1569) 3 dL_law_1569 rfl rfl ?_
          refine j_aload_n X (pc := 1570) 1 dL_law_1570 rfl rfl ?_
          refine j_iload X (pc := 1571) 6 dL_law_1571 rfl ?_
          refine j_iconst X (pc := 1573) 1 dL_law_1573 (by decide) ?_
          refine j_iadd X (pc := 1574) dL_law_1574 ?_
          refine j_iald X (pc := 1575) 32 rfl dL_law_1575 hw (fun y1575 hw => ?_)
          refine j_aload_n X (pc := 1576) 1 dL_law_1576 rfl rfl ?_
          refine j_iload X (pc := 1577) 6 dL_law_1577 rfl ?_
          refine j_iconst X (pc := 1579) 2 dL_law_1579 (by decide) ?_
          refine j_iadd X (pc := 1580) dL_law_1580 ?_
          refine j_iald X (pc := 1581) 32 rfl dL_law_1581 hw (fun y1581 hw => ?_)
          obtain ⟨hu9, hv9, hw⟩ := hw
          obtain ⟨b9, c9, f9, hr9, ho9, hc9, hw⟩ := hw
          obtain rfl := List.mem_singleton.mp hc9
          refine j_calli (j_runV (n8 := 2) (As := [vI y1575, vI y1581]) (rest := []) X (pc := 1582) hr9 (met_X5_knows (xl x) X.hl (xG x) h1564 x2 y1575 y1581 _ hw) ho9 (by decide) rfl q2162 q2163 q2164 q78 q2165 (by decide +kernel) dL_law_1582 rfl ⟨Nat.le_of_ble_eq_true rfl, Nat.le_of_ble_eq_true rfl⟩ (Nat.le_of_ble_eq_true rfl) ⟨hu9, hv9⟩) (fun y1582 h1582 hw => ?_)
          refine j_istore X (pc := 1585) [(7, vI y1582), (6, vI y1564), (0, vR x0), (1, vR x1), (2, vR x2), (3, vR x3), (4, vR x4), (5, vI x5)] dL_law_1585 (Nat.le_of_ble_eq_true rfl) rfl ?_
          refine j_aload_n X (pc := 1587) 4 dL_law_1587 rfl rfl ?_
          obtain ⟨hu9, hv9, hw⟩ := hw
          obtain ⟨b9, c9, f9, hr9, ho9, hc9, hw⟩ := hw
          obtain rfl := List.mem_singleton.mp hc9
          refine j_calli (j_runV (n8 := 0) (As := []) (rest := []) X (pc := 1588) hr9 (met_X5_thrown (xl x) X.hl (xG x) h1582 x2 _ hw) ho9 (by decide) rfl q1970 q1971 q1972 q78 q1973 (by decide +kernel) dL_law_1588 rfl ⟨Nat.le_of_ble_eq_true rfl, Nat.le_of_ble_eq_true rfl⟩ (Nat.le_of_ble_eq_true rfl) ⟨hu9, hv9⟩) (fun y1588 h1588 hw => ?_)
          refine j_iload X (pc := 1591) 1 dL_law_1591 rfl ?_
          refine j_icmp_eq X (pc := 1593) 1598 dL_law_1593 (by decide) hw (fun hw => ?_) (fun hw => ?_)
          · refine j_iload X (pc := 1598) 1 dL_law_1598 rfl ?_
            refine j_if_ne X (pc := 1600) 1622 dL_law_1600 (by decide) hw (fun hw => ?_) (fun hw => ?_)
            · refine j_aload_n X (pc := 1603) 5 dL_law_1603 rfl rfl ?_
              refine j_iconst X (pc := 1604) 0 dL_law_1604 (by decide) ?_
              refine j_lald X (pc := 1605) dL_law_1605 hw (fun y1605 hw => ?_)
              refine j_iload X (pc := 1606) 0 dL_law_1606 rfl ?_
              refine j_if_eq X (pc := 1608) 1615 dL_law_1608 (by decide) hw (fun hw => ?_) (fun hw => ?_)
              · refine j_lconst X (pc := 1615) 0 dL_law_1615 (by decide) ?_
                refine j_lv [(0, vR x0), (1, vR x1), (2, vR x2), (3, vR x3), (4, vR x4), (5, vI x5)] [2, 3, 4, 5, 6, 7] rfl ?_
                exact wk_L_law_1616 X er en hG hQ _ x0 x1 x2 x3 x4 x5 0 y1605 (u9 + 3) (v9 + 13) h1588 (fun x5_ u9_ v9_ h_ hz => hz) hw
              · refine j_lconst X (pc := 1611) 1 dL_law_1611 (by decide) ?_
                refine j_goto X (pc := 1612) 1616 dL_law_1612 (by decide) ?_
                refine j_lv [(0, vR x0), (1, vR x1), (2, vR x2), (3, vR x3), (4, vR x4), (5, vI x5)] [2, 3, 4, 5, 6, 7] rfl ?_
                exact wk_L_law_1616 X er en hG hQ _ x0 x1 x2 x3 x4 x5 1 y1605 (u9 + 3) (v9 + 13) h1588 (fun x5_ u9_ v9_ h_ hz => hz) hw
            · refine j_goto X (pc := 1622) 3387 dL_law_1622 (by decide) ?_
              refine j_iinc X (pc := 3387) 7 (x5 + 7) [(5, vI (x5 + 7)), (7, vI y1582), (6, vI y1564), (0, vR x0), (1, vR x1), (2, vR x2), (3, vR x3), (4, vR x4)] dL_law_3387 rfl rfl (Nat.le_of_ble_eq_true rfl) rfl ?_
              refine j_goto X (pc := 3390) 28 dL_law_3390 (by decide) ?_
              refine j_lv [(0, vR x0), (1, vR x1), (2, vR x2), (3, vR x3), (4, vR x4), (5, vI (x5 + 7))] [3, 4, 5, 6, 7, 0] rfl ?_
              exact hw
          · refine j_iconst X (pc := 1596) 0 dL_law_1596 (by decide) ?_
            obtain ⟨hu9, hv9, hw⟩ := hw
            exact j_endL X (pc := 1597) hQ hu9 hv9 dL_law_1597 hw
        | 19, ho, ha =>
          cases ho
          have hw := hw.2.2.2.2.2.2.2.2.2.2.2.2.2.2.2.2.2.2.2.1 ha
          refine ⟨1625, by decide, ?_⟩
          refine j_aload_n X (pc := 1625) 1 dL_law_1625 rfl rfl ?_
          refine j_aload_n X (pc := 1626) 0 dL_law_1626 rfl rfl ?_
          refine j_iload X (pc := 1627) 5 dL_law_1627 rfl ?_
          refine j_iconst X (pc := 1629) 1 dL_law_1629 (by decide) ?_
          refine j_iadd X (pc := 1630) dL_law_1630 ?_
          refine j_iald X (pc := 1631) 32 rfl dL_law_1631 hw (fun y1631 hw => ?_)
          refine j_aload_n X (pc := 1632) 3 dL_law_1632 rfl rfl ?_
          obtain ⟨hu9, hv9, hw⟩ := hw
          refine j_calli (j_runSW (n8 := 3) (As := [vR x1, vI y1631, vR x3]) (rest := []) X (pc := 1633) (met_X0_shapes (xl x) X.hl (xG x) h x1 y1631 x3 _ hw) q1396 q1397 q70 q1398 (by decide +kernel) dL_law_1633 rfl ⟨Nat.le_of_ble_eq_true rfl, Nat.le_of_ble_eq_true rfl⟩ (Nat.le_of_ble_eq_true rfl) ⟨hu9, hv9⟩) (fun y1633 h1633 hw => ?_)
          refine j_istore X (pc := 1636) [(6, vI y1633), (0, vR x0), (1, vR x1), (2, vR x2), (3, vR x3), (4, vR x4), (5, vI x5)] dL_law_1636 (Nat.le_of_ble_eq_true rfl) rfl ?_
          refine j_aload_n X (pc := 1638) 3 dL_law_1638 rfl rfl ?_
          refine j_aload_n X (pc := 1639) 1 dL_law_1639 rfl rfl ?_
          refine j_iload X (pc := 1640) 6 dL_law_1640 rfl ?_
          refine j_iconst X (pc := 1642) 1 dL_law_1642 (by decide) ?_
          refine j_iadd X (pc := 1643) dL_law_1643 ?_
          refine j_iald X (pc := 1644) 32 rfl dL_law_1644 hw (fun y1644 hw => ?_)
          obtain ⟨hu9, hv9, hw⟩ := hw
          obtain ⟨b9, c9, f9, hr9, ho9, hc9, hw⟩ := hw
          obtain rfl := List.mem_singleton.mp hc9
          refine j_calli (j_runV (n8 := 1) (As := [vI y1644]) (rest := []) X (pc := 1645) hr9 (met_X5_shapes (xl x) X.hl (xG x) h1633 x2 y1644 _ hw) ho9 (by decide) rfl q2166 q2167 q2168 q78 q2169 (by decide +kernel) dL_law_1645 rfl ⟨Nat.le_of_ble_eq_true rfl, Nat.le_of_ble_eq_true rfl⟩ (Nat.le_of_ble_eq_true rfl) ⟨hu9, hv9⟩) (fun y1645 h1645 hw => ?_)
          refine j_istore X (pc := 1648) [(7, vI y1645), (6, vI y1633), (0, vR x0), (1, vR x1), (2, vR x2), (3, vR x3), (4, vR x4), (5, vI x5)] dL_law_1648 (Nat.le_of_ble_eq_true rfl) rfl ?_
          refine j_aload_n X (pc := 1650) 4 dL_law_1650 rfl rfl ?_
          obtain ⟨hu9, hv9, hw⟩ := hw
          obtain ⟨b9, c9, f9, hr9, ho9, hc9, hw⟩ := hw
          obtain rfl := List.mem_singleton.mp hc9
          refine j_calli (j_runV (n8 := 0) (As := []) (rest := []) X (pc := 1651) hr9 (met_X5_thrown (xl x) X.hl (xG x) h1645 x2 _ hw) ho9 (by decide) rfl q1970 q1971 q1972 q78 q1973 (by decide +kernel) dL_law_1651 rfl ⟨Nat.le_of_ble_eq_true rfl, Nat.le_of_ble_eq_true rfl⟩ (Nat.le_of_ble_eq_true rfl) ⟨hu9, hv9⟩) (fun y1651 h1651 hw => ?_)
          refine j_iload X (pc := 1654) 1 dL_law_1654 rfl ?_
          refine j_icmp_eq X (pc := 1656) 1661 dL_law_1656 (by decide) hw (fun hw => ?_) (fun hw => ?_)
          · refine j_iload X (pc := 1661) 1 dL_law_1661 rfl ?_
            refine j_if_ne X (pc := 1663) 1678 dL_law_1663 (by decide) hw (fun hw => ?_) (fun hw => ?_)
            · refine j_aload_n X (pc := 1666) 5 dL_law_1666 rfl rfl ?_
              refine j_iconst X (pc := 1667) 0 dL_law_1667 (by decide) ?_
              refine j_lald X (pc := 1668) dL_law_1668 hw (fun y1668 hw => ?_)
              refine j_iload X (pc := 1669) 0 dL_law_1669 rfl ?_
              refine j_i2l X (pc := 1671) dL_law_1671 ?_
              refine j_lcmp X (pc := 1672) dL_law_1672 ?_
              refine j_if_eq X (pc := 1673) 1678 dL_law_1673 (by decide) hw (fun hw => ?_) (fun hw => ?_)
              · refine j_goto X (pc := 1678) 3387 dL_law_1678 (by decide) ?_
                refine j_iinc X (pc := 3387) 7 (x5 + 7) [(5, vI (x5 + 7)), (7, vI y1645), (6, vI y1633), (0, vR x0), (1, vR x1), (2, vR x2), (3, vR x3), (4, vR x4)] dL_law_3387 rfl rfl (Nat.le_of_ble_eq_true rfl) rfl ?_
                refine j_goto X (pc := 3390) 28 dL_law_3390 (by decide) ?_
                refine j_lv [(0, vR x0), (1, vR x1), (2, vR x2), (3, vR x3), (4, vR x4), (5, vI (x5 + 7))] [3, 4, 5, 6, 7, 0] rfl ?_
                exact hw
              · refine j_iconst X (pc := 1676) 0 dL_law_1676 (by decide) ?_
                obtain ⟨hu9, hv9, hw⟩ := hw
                exact j_endL X (pc := 1677) hQ hu9 hv9 dL_law_1677 hw
            · refine j_goto X (pc := 1678) 3387 dL_law_1678 (by decide) ?_
              refine j_iinc X (pc := 3387) 7 (x5 + 7) [(5, vI (x5 + 7)), (7, vI y1645), (6, vI y1633), (0, vR x0), (1, vR x1), (2, vR x2), (3, vR x3), (4, vR x4)] dL_law_3387 rfl rfl (Nat.le_of_ble_eq_true rfl) rfl ?_
              refine j_goto X (pc := 3390) 28 dL_law_3390 (by decide) ?_
              refine j_lv [(0, vR x0), (1, vR x1), (2, vR x2), (3, vR x3), (4, vR x4), (5, vI (x5 + 7))] [3, 4, 5, 6, 7, 0] rfl ?_
              exact hw
          · refine j_iconst X (pc := 1659) 0 dL_law_1659 (by decide) ?_
            obtain ⟨hu9, hv9, hw⟩ := hw
            exact j_endL X (pc := 1660) hQ hu9 hv9 dL_law_1660 hw
        | 20, ho, ha =>
          cases ho
          have hw := hw.2.2.2.2.2.2.2.2.2.2.2.2.2.2.2.2.2.2.2.2.1 ha
          refine ⟨1681, by decide, ?_⟩
          refine j_aload_n X (pc := 1681) 1 dL_law_1681 rfl rfl ?_
          refine j_aload_n X (pc := 1682) 0 dL_law_1682 rfl rfl ?_
          refine j_iload X (pc := 1683) 5 dL_law_1683 rfl ?_
          refine j_iconst X (pc := 1685) 1 dL_law_1685 (by decide) ?_
          refine j_iadd X (pc := 1686) dL_law_1686 ?_
          refine j_iald X (pc := 1687) 32 rfl dL_law_1687 hw (fun y1687 hw => ?_)
          refine j_aload_n X (pc := 1688) 0 dL_law_1688 rfl rfl ?_
          refine j_iload X (pc := 1689) 5 dL_law_1689 rfl ?_
          refine j_iconst X (pc := 1691) 2 dL_law_1691 (by decide) ?_
          refine j_iadd X (pc := 1692) dL_law_1692 ?_
          refine j_iald X (pc := 1693) 32 rfl dL_law_1693 hw (fun y1693 hw => ?_)
          refine j_aload_n X (pc := 1694) 3 dL_law_1694 rfl rfl ?_
          obtain ⟨hu9, hv9, hw⟩ := hw
          refine j_calli (j_runSW (n8 := 4) (As := [vR x1, vI y1687, vI y1693, vR x3]) (rest := []) X (pc := 1695) (met_X0_sees (xl x) X.hl (xG x) h x1 y1687 y1693 x3 _ hw) q1403 q1404 q70 q1405 (by decide +kernel) dL_law_1695 rfl ⟨Nat.le_of_ble_eq_true rfl, Nat.le_of_ble_eq_true rfl⟩ (Nat.le_of_ble_eq_true rfl) ⟨hu9, hv9⟩) (fun y1695 h1695 hw => ?_)
          refine j_istore X (pc := 1698) [(6, vI y1695), (0, vR x0), (1, vR x1), (2, vR x2), (3, vR x3), (4, vR x4), (5, vI x5)] dL_law_1698 (Nat.le_of_ble_eq_true rfl) rfl ?_
          refine j_aload_n X (pc := 1700) 3 dL_law_1700 rfl rfl ?_
          refine j_aload_n X (pc := 1701) 1 dL_law_1701 rfl rfl ?_
          refine j_iload X (pc := 1702) 6 dL_law_1702 rfl ?_
          refine j_iconst X (pc := 1704) 1 dL_law_1704 (by decide) ?_
          refine j_iadd X (pc := 1705) dL_law_1705 ?_
          refine j_iald X (pc := 1706) 32 rfl dL_law_1706 hw (fun y1706 hw => ?_)
          refine j_aload_n X (pc := 1707) 1 dL_law_1707 rfl rfl ?_
          refine j_iload X (pc := 1708) 6 dL_law_1708 rfl ?_
          refine j_iconst X (pc := 1710) 2 dL_law_1710 (by decide) ?_
          refine j_iadd X (pc := 1711) dL_law_1711 ?_
          refine j_iald X (pc := 1712) 32 rfl dL_law_1712 hw (fun y1712 hw => ?_)
          obtain ⟨hu9, hv9, hw⟩ := hw
          obtain ⟨b9, c9, f9, hr9, ho9, hc9, hw⟩ := hw
          obtain rfl := List.mem_singleton.mp hc9
          refine j_calli (j_runV (n8 := 2) (As := [vI y1706, vI y1712]) (rest := []) X (pc := 1713) hr9 (met_X5_sees (xl x) X.hl (xG x) h1695 x2 y1706 y1712 _ hw) ho9 (by decide) rfl q2174 q2175 q2176 q78 q2177 (by decide +kernel) dL_law_1713 rfl ⟨Nat.le_of_ble_eq_true rfl, Nat.le_of_ble_eq_true rfl⟩ (Nat.le_of_ble_eq_true rfl) ⟨hu9, hv9⟩) (fun y1713 h1713 hw => ?_)
          refine j_istore X (pc := 1716) [(7, vI y1713), (6, vI y1695), (0, vR x0), (1, vR x1), (2, vR x2), (3, vR x3), (4, vR x4), (5, vI x5)] dL_law_1716 (Nat.le_of_ble_eq_true rfl) rfl ?_
          refine j_aload_n X (pc := 1718) 4 dL_law_1718 rfl rfl ?_
          obtain ⟨hu9, hv9, hw⟩ := hw
          obtain ⟨b9, c9, f9, hr9, ho9, hc9, hw⟩ := hw
          obtain rfl := List.mem_singleton.mp hc9
          refine j_calli (j_runV (n8 := 0) (As := []) (rest := []) X (pc := 1719) hr9 (met_X5_thrown (xl x) X.hl (xG x) h1713 x2 _ hw) ho9 (by decide) rfl q1970 q1971 q1972 q78 q1973 (by decide +kernel) dL_law_1719 rfl ⟨Nat.le_of_ble_eq_true rfl, Nat.le_of_ble_eq_true rfl⟩ (Nat.le_of_ble_eq_true rfl) ⟨hu9, hv9⟩) (fun y1719 h1719 hw => ?_)
          refine j_iload X (pc := 1722) 1 dL_law_1722 rfl ?_
          refine j_icmp_eq X (pc := 1724) 1729 dL_law_1724 (by decide) hw (fun hw => ?_) (fun hw => ?_)
          · refine j_iload X (pc := 1729) 1 dL_law_1729 rfl ?_
            refine j_if_ne X (pc := 1731) 1753 dL_law_1731 (by decide) hw (fun hw => ?_) (fun hw => ?_)
            · refine j_aload_n X (pc := 1734) 5 dL_law_1734 rfl rfl ?_
              refine j_iconst X (pc := 1735) 0 dL_law_1735 (by decide) ?_
              refine j_lald X (pc := 1736) dL_law_1736 hw (fun y1736 hw => ?_)
              refine j_iload X (pc := 1737) 0 dL_law_1737 rfl ?_
              refine j_if_eq X (pc := 1739) 1746 dL_law_1739 (by decide) hw (fun hw => ?_) (fun hw => ?_)
              · refine j_lconst X (pc := 1746) 0 dL_law_1746 (by decide) ?_
                refine j_lv [(0, vR x0), (1, vR x1), (2, vR x2), (3, vR x3), (4, vR x4), (5, vI x5)] [2, 3, 4, 5, 6, 7] rfl ?_
                exact wk_L_law_1747 X er en hG hQ _ x0 x1 x2 x3 x4 x5 0 y1736 (u9 + 2) (v9 + 7) h1719 (fun x5_ u9_ v9_ h_ hz => hz) hw
              · refine j_lconst X (pc := 1742) 1 dL_law_1742 (by decide) ?_
                refine j_goto X (pc := 1743) 1747 dL_law_1743 (by decide) ?_
                refine j_lv [(0, vR x0), (1, vR x1), (2, vR x2), (3, vR x3), (4, vR x4), (5, vI x5)] [2, 3, 4, 5, 6, 7] rfl ?_
                exact wk_L_law_1747 X er en hG hQ _ x0 x1 x2 x3 x4 x5 1 y1736 (u9 + 2) (v9 + 7) h1719 (fun x5_ u9_ v9_ h_ hz => hz) hw
            · refine j_goto X (pc := 1753) 3387 dL_law_1753 (by decide) ?_
              refine j_iinc X (pc := 3387) 7 (x5 + 7) [(5, vI (x5 + 7)), (7, vI y1713), (6, vI y1695), (0, vR x0), (1, vR x1), (2, vR x2), (3, vR x3), (4, vR x4)] dL_law_3387 rfl rfl (Nat.le_of_ble_eq_true rfl) rfl ?_
              refine j_goto X (pc := 3390) 28 dL_law_3390 (by decide) ?_
              refine j_lv [(0, vR x0), (1, vR x1), (2, vR x2), (3, vR x3), (4, vR x4), (5, vI (x5 + 7))] [3, 4, 5, 6, 7, 0] rfl ?_
              exact hw
          · refine j_iconst X (pc := 1727) 0 dL_law_1727 (by decide) ?_
            obtain ⟨hu9, hv9, hw⟩ := hw
            exact j_endL X (pc := 1728) hQ hu9 hv9 dL_law_1728 hw
        | 21, ho, ha =>
          cases ho
          have hw := hw.2.2.2.2.2.2.2.2.2.2.2.2.2.2.2.2.2.2.2.2.2.1 ha
          refine ⟨1756, by decide, ?_⟩
          refine j_aload_n X (pc := 1756) 1 dL_law_1756 rfl rfl ?_
          refine j_aload_n X (pc := 1757) 0 dL_law_1757 rfl rfl ?_
          refine j_iload X (pc := 1758) 5 dL_law_1758 rfl ?_
          refine j_iconst X (pc := 1760) 1 dL_law_1760 (by decide) ?_
          refine j_iadd X (pc := 1761) dL_law_1761 ?_
          refine j_iald X (pc := 1762) 32 rfl dL_law_1762 hw (fun y1762 hw => ?_)
          refine j_aload_n X (pc := 1763) 0 dL_law_1763 rfl rfl ?_
          refine j_iload X (pc := 1764) 5 dL_law_1764 rfl ?_
          refine j_iconst X (pc := 1766) 2 dL_law_1766 (by decide) ?_
          refine j_iadd X (pc := 1767) dL_law_1767 ?_
          refine j_iald X (pc := 1768) 32 rfl dL_law_1768 hw (fun y1768 hw => ?_)
          refine j_aload_n X (pc := 1769) 3 dL_law_1769 rfl rfl ?_
          obtain ⟨hu9, hv9, hw⟩ := hw
          refine j_calli (j_runSW (n8 := 4) (As := [vR x1, vI y1762, vI y1768, vR x3]) (rest := []) X (pc := 1770) (met_X0_columnOf (xl x) X.hl (xG x) h x1 y1762 y1768 x3 _ hw) q1410 q1411 q70 q1412 (by decide +kernel) dL_law_1770 rfl ⟨Nat.le_of_ble_eq_true rfl, Nat.le_of_ble_eq_true rfl⟩ (Nat.le_of_ble_eq_true rfl) ⟨hu9, hv9⟩) (fun y1770 h1770 hw => ?_)
          refine j_istore X (pc := 1773) [(6, vI y1770), (0, vR x0), (1, vR x1), (2, vR x2), (3, vR x3), (4, vR x4), (5, vI x5)] dL_law_1773 (Nat.le_of_ble_eq_true rfl) rfl ?_
          refine j_aload_n X (pc := 1775) 3 dL_law_1775 rfl rfl ?_
          refine j_aload_n X (pc := 1776) 1 dL_law_1776 rfl rfl ?_
          refine j_iload X (pc := 1777) 6 dL_law_1777 rfl ?_
          refine j_iconst X (pc := 1779) 1 dL_law_1779 (by decide) ?_
          refine j_iadd X (pc := 1780) dL_law_1780 ?_
          refine j_iald X (pc := 1781) 32 rfl dL_law_1781 hw (fun y1781 hw => ?_)
          refine j_aload_n X (pc := 1782) 1 dL_law_1782 rfl rfl ?_
          refine j_iload X (pc := 1783) 6 dL_law_1783 rfl ?_
          refine j_iconst X (pc := 1785) 2 dL_law_1785 (by decide) ?_
          refine j_iadd X (pc := 1786) dL_law_1786 ?_
          refine j_iald X (pc := 1787) 32 rfl dL_law_1787 hw (fun y1787 hw => ?_)
          obtain ⟨hu9, hv9, hw⟩ := hw
          obtain ⟨b9, c9, f9, hr9, ho9, hc9, hw⟩ := hw
          obtain rfl := List.mem_singleton.mp hc9
          refine j_calli (j_runV (n8 := 2) (As := [vI y1781, vI y1787]) (rest := []) X (pc := 1788) hr9 (met_X5_columnOf (xl x) X.hl (xG x) h1770 x2 y1781 y1787 _ hw) ho9 (by decide) rfl q2178 q2179 q2180 q78 q2181 (by decide +kernel) dL_law_1788 rfl ⟨Nat.le_of_ble_eq_true rfl, Nat.le_of_ble_eq_true rfl⟩ (Nat.le_of_ble_eq_true rfl) ⟨hu9, hv9⟩) (fun y1788 h1788 hw => ?_)
          refine j_istore X (pc := 1791) [(7, vI y1788), (6, vI y1770), (0, vR x0), (1, vR x1), (2, vR x2), (3, vR x3), (4, vR x4), (5, vI x5)] dL_law_1791 (Nat.le_of_ble_eq_true rfl) rfl ?_
          refine j_aload_n X (pc := 1793) 4 dL_law_1793 rfl rfl ?_
          obtain ⟨hu9, hv9, hw⟩ := hw
          obtain ⟨b9, c9, f9, hr9, ho9, hc9, hw⟩ := hw
          obtain rfl := List.mem_singleton.mp hc9
          refine j_calli (j_runV (n8 := 0) (As := []) (rest := []) X (pc := 1794) hr9 (met_X5_thrown (xl x) X.hl (xG x) h1788 x2 _ hw) ho9 (by decide) rfl q1970 q1971 q1972 q78 q1973 (by decide +kernel) dL_law_1794 rfl ⟨Nat.le_of_ble_eq_true rfl, Nat.le_of_ble_eq_true rfl⟩ (Nat.le_of_ble_eq_true rfl) ⟨hu9, hv9⟩) (fun y1794 h1794 hw => ?_)
          refine j_iload X (pc := 1797) 1 dL_law_1797 rfl ?_
          refine j_icmp_eq X (pc := 1799) 1804 dL_law_1799 (by decide) hw (fun hw => ?_) (fun hw => ?_)
          · refine j_iload X (pc := 1804) 1 dL_law_1804 rfl ?_
            refine j_if_ne X (pc := 1806) 1821 dL_law_1806 (by decide) hw (fun hw => ?_) (fun hw => ?_)
            · refine j_aload_n X (pc := 1809) 5 dL_law_1809 rfl rfl ?_
              refine j_iconst X (pc := 1810) 0 dL_law_1810 (by decide) ?_
              refine j_lald X (pc := 1811) dL_law_1811 hw (fun y1811 hw => ?_)
              refine j_iload X (pc := 1812) 0 dL_law_1812 rfl ?_
              refine j_i2l X (pc := 1814) dL_law_1814 ?_
              refine j_lcmp X (pc := 1815) dL_law_1815 ?_
              refine j_if_eq X (pc := 1816) 1821 dL_law_1816 (by decide) hw (fun hw => ?_) (fun hw => ?_)
              · refine j_goto X (pc := 1821) 3387 dL_law_1821 (by decide) ?_
                refine j_iinc X (pc := 3387) 7 (x5 + 7) [(5, vI (x5 + 7)), (7, vI y1788), (6, vI y1770), (0, vR x0), (1, vR x1), (2, vR x2), (3, vR x3), (4, vR x4)] dL_law_3387 rfl rfl (Nat.le_of_ble_eq_true rfl) rfl ?_
                refine j_goto X (pc := 3390) 28 dL_law_3390 (by decide) ?_
                refine j_lv [(0, vR x0), (1, vR x1), (2, vR x2), (3, vR x3), (4, vR x4), (5, vI (x5 + 7))] [3, 4, 5, 6, 7, 0] rfl ?_
                exact hw
              · refine j_iconst X (pc := 1819) 0 dL_law_1819 (by decide) ?_
                obtain ⟨hu9, hv9, hw⟩ := hw
                exact j_endL X (pc := 1820) hQ hu9 hv9 dL_law_1820 hw
            · refine j_goto X (pc := 1821) 3387 dL_law_1821 (by decide) ?_
              refine j_iinc X (pc := 3387) 7 (x5 + 7) [(5, vI (x5 + 7)), (7, vI y1788), (6, vI y1770), (0, vR x0), (1, vR x1), (2, vR x2), (3, vR x3), (4, vR x4)] dL_law_3387 rfl rfl (Nat.le_of_ble_eq_true rfl) rfl ?_
              refine j_goto X (pc := 3390) 28 dL_law_3390 (by decide) ?_
              refine j_lv [(0, vR x0), (1, vR x1), (2, vR x2), (3, vR x3), (4, vR x4), (5, vI (x5 + 7))] [3, 4, 5, 6, 7, 0] rfl ?_
              exact hw
          · refine j_iconst X (pc := 1802) 0 dL_law_1802 (by decide) ?_
            obtain ⟨hu9, hv9, hw⟩ := hw
            exact j_endL X (pc := 1803) hQ hu9 hv9 dL_law_1803 hw
        | 22, ho, ha =>
          cases ho
          have hw := hw.2.2.2.2.2.2.2.2.2.2.2.2.2.2.2.2.2.2.2.2.2.2.1 ha
          refine ⟨1824, by decide, ?_⟩
          refine j_aload_n X (pc := 1824) 1 dL_law_1824 rfl rfl ?_
          refine j_aload_n X (pc := 1825) 0 dL_law_1825 rfl rfl ?_
          refine j_iload X (pc := 1826) 5 dL_law_1826 rfl ?_
          refine j_iconst X (pc := 1828) 1 dL_law_1828 (by decide) ?_
          refine j_iadd X (pc := 1829) dL_law_1829 ?_
          refine j_iald X (pc := 1830) 32 rfl dL_law_1830 hw (fun y1830 hw => ?_)
          refine j_aload_n X (pc := 1831) 0 dL_law_1831 rfl rfl ?_
          refine j_iload X (pc := 1832) 5 dL_law_1832 rfl ?_
          refine j_iconst X (pc := 1834) 2 dL_law_1834 (by decide) ?_
          refine j_iadd X (pc := 1835) dL_law_1835 ?_
          refine j_iald X (pc := 1836) 32 rfl dL_law_1836 hw (fun y1836 hw => ?_)
          refine j_aload_n X (pc := 1837) 3 dL_law_1837 rfl rfl ?_
          obtain ⟨hu9, hv9, hw⟩ := hw
          refine j_calli (j_runSW (n8 := 4) (As := [vR x1, vI y1830, vI y1836, vR x3]) (rest := []) X (pc := 1838) (met_X0_rowOf (xl x) X.hl (xG x) h x1 y1830 y1836 x3 _ hw) q1417 q1418 q70 q1419 (by decide +kernel) dL_law_1838 rfl ⟨Nat.le_of_ble_eq_true rfl, Nat.le_of_ble_eq_true rfl⟩ (Nat.le_of_ble_eq_true rfl) ⟨hu9, hv9⟩) (fun y1838 h1838 hw => ?_)
          refine j_istore X (pc := 1841) [(6, vI y1838), (0, vR x0), (1, vR x1), (2, vR x2), (3, vR x3), (4, vR x4), (5, vI x5)] dL_law_1841 (Nat.le_of_ble_eq_true rfl) rfl ?_
          refine j_aload_n X (pc := 1843) 3 dL_law_1843 rfl rfl ?_
          refine j_aload_n X (pc := 1844) 1 dL_law_1844 rfl rfl ?_
          refine j_iload X (pc := 1845) 6 dL_law_1845 rfl ?_
          refine j_iconst X (pc := 1847) 1 dL_law_1847 (by decide) ?_
          refine j_iadd X (pc := 1848) dL_law_1848 ?_
          refine j_iald X (pc := 1849) 32 rfl dL_law_1849 hw (fun y1849 hw => ?_)
          refine j_aload_n X (pc := 1850) 1 dL_law_1850 rfl rfl ?_
          refine j_iload X (pc := 1851) 6 dL_law_1851 rfl ?_
          refine j_iconst X (pc := 1853) 2 dL_law_1853 (by decide) ?_
          refine j_iadd X (pc := 1854) dL_law_1854 ?_
          refine j_iald X (pc := 1855) 32 rfl dL_law_1855 hw (fun y1855 hw => ?_)
          obtain ⟨hu9, hv9, hw⟩ := hw
          obtain ⟨b9, c9, f9, hr9, ho9, hc9, hw⟩ := hw
          obtain rfl := List.mem_singleton.mp hc9
          refine j_calli (j_runV (n8 := 2) (As := [vI y1849, vI y1855]) (rest := []) X (pc := 1856) hr9 (met_X5_rowOf (xl x) X.hl (xG x) h1838 x2 y1849 y1855 _ hw) ho9 (by decide) rfl q2186 q2187 q2188 q78 q2189 (by decide +kernel) dL_law_1856 rfl ⟨Nat.le_of_ble_eq_true rfl, Nat.le_of_ble_eq_true rfl⟩ (Nat.le_of_ble_eq_true rfl) ⟨hu9, hv9⟩) (fun y1856 h1856 hw => ?_)
          refine j_istore X (pc := 1859) [(7, vI y1856), (6, vI y1838), (0, vR x0), (1, vR x1), (2, vR x2), (3, vR x3), (4, vR x4), (5, vI x5)] dL_law_1859 (Nat.le_of_ble_eq_true rfl) rfl ?_
          refine j_aload_n X (pc := 1861) 4 dL_law_1861 rfl rfl ?_
          obtain ⟨hu9, hv9, hw⟩ := hw
          obtain ⟨b9, c9, f9, hr9, ho9, hc9, hw⟩ := hw
          obtain rfl := List.mem_singleton.mp hc9
          refine j_calli (j_runV (n8 := 0) (As := []) (rest := []) X (pc := 1862) hr9 (met_X5_thrown (xl x) X.hl (xG x) h1856 x2 _ hw) ho9 (by decide) rfl q1970 q1971 q1972 q78 q1973 (by decide +kernel) dL_law_1862 rfl ⟨Nat.le_of_ble_eq_true rfl, Nat.le_of_ble_eq_true rfl⟩ (Nat.le_of_ble_eq_true rfl) ⟨hu9, hv9⟩) (fun y1862 h1862 hw => ?_)
          refine j_iload X (pc := 1865) 1 dL_law_1865 rfl ?_
          refine j_icmp_eq X (pc := 1867) 1872 dL_law_1867 (by decide) hw (fun hw => ?_) (fun hw => ?_)
          · refine j_iload X (pc := 1872) 1 dL_law_1872 rfl ?_
            refine j_if_ne X (pc := 1874) 1889 dL_law_1874 (by decide) hw (fun hw => ?_) (fun hw => ?_)
            · refine j_aload_n X (pc := 1877) 5 dL_law_1877 rfl rfl ?_
              refine j_iconst X (pc := 1878) 0 dL_law_1878 (by decide) ?_
              refine j_lald X (pc := 1879) dL_law_1879 hw (fun y1879 hw => ?_)
              refine j_iload X (pc := 1880) 0 dL_law_1880 rfl ?_
              refine j_i2l X (pc := 1882) dL_law_1882 ?_
              refine j_lcmp X (pc := 1883) dL_law_1883 ?_
              refine j_if_eq X (pc := 1884) 1889 dL_law_1884 (by decide) hw (fun hw => ?_) (fun hw => ?_)
              · refine j_goto X (pc := 1889) 3387 dL_law_1889 (by decide) ?_
                refine j_iinc X (pc := 3387) 7 (x5 + 7) [(5, vI (x5 + 7)), (7, vI y1856), (6, vI y1838), (0, vR x0), (1, vR x1), (2, vR x2), (3, vR x3), (4, vR x4)] dL_law_3387 rfl rfl (Nat.le_of_ble_eq_true rfl) rfl ?_
                refine j_goto X (pc := 3390) 28 dL_law_3390 (by decide) ?_
                refine j_lv [(0, vR x0), (1, vR x1), (2, vR x2), (3, vR x3), (4, vR x4), (5, vI (x5 + 7))] [3, 4, 5, 6, 7, 0] rfl ?_
                exact hw
              · refine j_iconst X (pc := 1887) 0 dL_law_1887 (by decide) ?_
                obtain ⟨hu9, hv9, hw⟩ := hw
                exact j_endL X (pc := 1888) hQ hu9 hv9 dL_law_1888 hw
            · refine j_goto X (pc := 1889) 3387 dL_law_1889 (by decide) ?_
              refine j_iinc X (pc := 3387) 7 (x5 + 7) [(5, vI (x5 + 7)), (7, vI y1856), (6, vI y1838), (0, vR x0), (1, vR x1), (2, vR x2), (3, vR x3), (4, vR x4)] dL_law_3387 rfl rfl (Nat.le_of_ble_eq_true rfl) rfl ?_
              refine j_goto X (pc := 3390) 28 dL_law_3390 (by decide) ?_
              refine j_lv [(0, vR x0), (1, vR x1), (2, vR x2), (3, vR x3), (4, vR x4), (5, vI (x5 + 7))] [3, 4, 5, 6, 7, 0] rfl ?_
              exact hw
          · refine j_iconst X (pc := 1870) 0 dL_law_1870 (by decide) ?_
            obtain ⟨hu9, hv9, hw⟩ := hw
            exact j_endL X (pc := 1871) hQ hu9 hv9 dL_law_1871 hw
        | 23, ho, ha =>
          cases ho
          have hw := hw.2.2.2.2.2.2.2.2.2.2.2.2.2.2.2.2.2.2.2.2.2.2.2.1 ha
          refine ⟨1892, by decide, ?_⟩
          refine j_aload_n X (pc := 1892) 1 dL_law_1892 rfl rfl ?_
          refine j_aload_n X (pc := 1893) 0 dL_law_1893 rfl rfl ?_
          refine j_iload X (pc := 1894) 5 dL_law_1894 rfl ?_
          refine j_iconst X (pc := 1896) 1 dL_law_1896 (by decide) ?_
          refine j_iadd X (pc := 1897) dL_law_1897 ?_
          refine j_iald X (pc := 1898) 32 rfl dL_law_1898 hw (fun y1898 hw => ?_)
          refine j_aload_n X (pc := 1899) 0 dL_law_1899 rfl rfl ?_
          refine j_iload X (pc := 1900) 5 dL_law_1900 rfl ?_
          refine j_iconst X (pc := 1902) 2 dL_law_1902 (by decide) ?_
          refine j_iadd X (pc := 1903) dL_law_1903 ?_
          refine j_iald X (pc := 1904) 32 rfl dL_law_1904 hw (fun y1904 hw => ?_)
          refine j_aload_n X (pc := 1905) 3 dL_law_1905 rfl rfl ?_
          obtain ⟨hu9, hv9, hw⟩ := hw
          refine j_calli (j_runSW (n8 := 4) (As := [vR x1, vI y1898, vI y1904, vR x3]) (rest := []) X (pc := 1906) (met_X0_rankOf (xl x) X.hl (xG x) h x1 y1898 y1904 x3 _ hw) q1424 q1425 q70 q1426 (by decide +kernel) dL_law_1906 rfl ⟨Nat.le_of_ble_eq_true rfl, Nat.le_of_ble_eq_true rfl⟩ (Nat.le_of_ble_eq_true rfl) ⟨hu9, hv9⟩) (fun y1906 h1906 hw => ?_)
          refine j_istore X (pc := 1909) [(6, vI y1906), (0, vR x0), (1, vR x1), (2, vR x2), (3, vR x3), (4, vR x4), (5, vI x5)] dL_law_1909 (Nat.le_of_ble_eq_true rfl) rfl ?_
          refine j_aload_n X (pc := 1911) 3 dL_law_1911 rfl rfl ?_
          refine j_aload_n X (pc := 1912) 1 dL_law_1912 rfl rfl ?_
          refine j_iload X (pc := 1913) 6 dL_law_1913 rfl ?_
          refine j_iconst X (pc := 1915) 1 dL_law_1915 (by decide) ?_
          refine j_iadd X (pc := 1916) dL_law_1916 ?_
          refine j_iald X (pc := 1917) 32 rfl dL_law_1917 hw (fun y1917 hw => ?_)
          refine j_aload_n X (pc := 1918) 1 dL_law_1918 rfl rfl ?_
          refine j_iload X (pc := 1919) 6 dL_law_1919 rfl ?_
          refine j_iconst X (pc := 1921) 2 dL_law_1921 (by decide) ?_
          refine j_iadd X (pc := 1922) dL_law_1922 ?_
          refine j_iald X (pc := 1923) 32 rfl dL_law_1923 hw (fun y1923 hw => ?_)
          obtain ⟨hu9, hv9, hw⟩ := hw
          obtain ⟨b9, c9, f9, hr9, ho9, hc9, hw⟩ := hw
          obtain rfl := List.mem_singleton.mp hc9
          refine j_calli (j_runV (n8 := 2) (As := [vI y1917, vI y1923]) (rest := []) X (pc := 1924) hr9 (met_X5_rankOf (xl x) X.hl (xG x) h1906 x2 y1917 y1923 _ hw) ho9 (by decide) rfl q2190 q2191 q2192 q78 q2193 (by decide +kernel) dL_law_1924 rfl ⟨Nat.le_of_ble_eq_true rfl, Nat.le_of_ble_eq_true rfl⟩ (Nat.le_of_ble_eq_true rfl) ⟨hu9, hv9⟩) (fun y1924 h1924 hw => ?_)
          refine j_istore X (pc := 1927) [(7, vI y1924), (6, vI y1906), (0, vR x0), (1, vR x1), (2, vR x2), (3, vR x3), (4, vR x4), (5, vI x5)] dL_law_1927 (Nat.le_of_ble_eq_true rfl) rfl ?_
          refine j_aload_n X (pc := 1929) 4 dL_law_1929 rfl rfl ?_
          obtain ⟨hu9, hv9, hw⟩ := hw
          obtain ⟨b9, c9, f9, hr9, ho9, hc9, hw⟩ := hw
          obtain rfl := List.mem_singleton.mp hc9
          refine j_calli (j_runV (n8 := 0) (As := []) (rest := []) X (pc := 1930) hr9 (met_X5_thrown (xl x) X.hl (xG x) h1924 x2 _ hw) ho9 (by decide) rfl q1970 q1971 q1972 q78 q1973 (by decide +kernel) dL_law_1930 rfl ⟨Nat.le_of_ble_eq_true rfl, Nat.le_of_ble_eq_true rfl⟩ (Nat.le_of_ble_eq_true rfl) ⟨hu9, hv9⟩) (fun y1930 h1930 hw => ?_)
          refine j_iload X (pc := 1933) 1 dL_law_1933 rfl ?_
          refine j_icmp_eq X (pc := 1935) 1940 dL_law_1935 (by decide) hw (fun hw => ?_) (fun hw => ?_)
          · refine j_iload X (pc := 1940) 1 dL_law_1940 rfl ?_
            refine j_if_ne X (pc := 1942) 1957 dL_law_1942 (by decide) hw (fun hw => ?_) (fun hw => ?_)
            · refine j_aload_n X (pc := 1945) 5 dL_law_1945 rfl rfl ?_
              refine j_iconst X (pc := 1946) 0 dL_law_1946 (by decide) ?_
              refine j_lald X (pc := 1947) dL_law_1947 hw (fun y1947 hw => ?_)
              refine j_iload X (pc := 1948) 0 dL_law_1948 rfl ?_
              refine j_i2l X (pc := 1950) dL_law_1950 ?_
              refine j_lcmp X (pc := 1951) dL_law_1951 ?_
              refine j_if_eq X (pc := 1952) 1957 dL_law_1952 (by decide) hw (fun hw => ?_) (fun hw => ?_)
              · refine j_goto X (pc := 1957) 3387 dL_law_1957 (by decide) ?_
                refine j_iinc X (pc := 3387) 7 (x5 + 7) [(5, vI (x5 + 7)), (7, vI y1924), (6, vI y1906), (0, vR x0), (1, vR x1), (2, vR x2), (3, vR x3), (4, vR x4)] dL_law_3387 rfl rfl (Nat.le_of_ble_eq_true rfl) rfl ?_
                refine j_goto X (pc := 3390) 28 dL_law_3390 (by decide) ?_
                refine j_lv [(0, vR x0), (1, vR x1), (2, vR x2), (3, vR x3), (4, vR x4), (5, vI (x5 + 7))] [3, 4, 5, 6, 7, 0] rfl ?_
                exact hw
              · refine j_iconst X (pc := 1955) 0 dL_law_1955 (by decide) ?_
                obtain ⟨hu9, hv9, hw⟩ := hw
                exact j_endL X (pc := 1956) hQ hu9 hv9 dL_law_1956 hw
            · refine j_goto X (pc := 1957) 3387 dL_law_1957 (by decide) ?_
              refine j_iinc X (pc := 3387) 7 (x5 + 7) [(5, vI (x5 + 7)), (7, vI y1924), (6, vI y1906), (0, vR x0), (1, vR x1), (2, vR x2), (3, vR x3), (4, vR x4)] dL_law_3387 rfl rfl (Nat.le_of_ble_eq_true rfl) rfl ?_
              refine j_goto X (pc := 3390) 28 dL_law_3390 (by decide) ?_
              refine j_lv [(0, vR x0), (1, vR x1), (2, vR x2), (3, vR x3), (4, vR x4), (5, vI (x5 + 7))] [3, 4, 5, 6, 7, 0] rfl ?_
              exact hw
          · refine j_iconst X (pc := 1938) 0 dL_law_1938 (by decide) ?_
            obtain ⟨hu9, hv9, hw⟩ := hw
            exact j_endL X (pc := 1939) hQ hu9 hv9 dL_law_1939 hw
        | 24, ho, ha =>
          cases ho
          have hw := hw.2.2.2.2.2.2.2.2.2.2.2.2.2.2.2.2.2.2.2.2.2.2.2.2.1 ha
          refine ⟨1960, by decide, ?_⟩
          refine j_aload_n X (pc := 1960) 1 dL_law_1960 rfl rfl ?_
          refine j_aload_n X (pc := 1961) 0 dL_law_1961 rfl rfl ?_
          refine j_iload X (pc := 1962) 5 dL_law_1962 rfl ?_
          refine j_iconst X (pc := 1964) 1 dL_law_1964 (by decide) ?_
          refine j_iadd X (pc := 1965) dL_law_1965 ?_
          refine j_iald X (pc := 1966) 32 rfl dL_law_1966 hw (fun y1966 hw => ?_)
          refine j_aload_n X (pc := 1967) 0 dL_law_1967 rfl rfl ?_
          refine j_iload X (pc := 1968) 5 dL_law_1968 rfl ?_
          refine j_iconst X (pc := 1970) 2 dL_law_1970 (by decide) ?_
          refine j_iadd X (pc := 1971) dL_law_1971 ?_
          refine j_iald X (pc := 1972) 32 rfl dL_law_1972 hw (fun y1972 hw => ?_)
          refine j_aload_n X (pc := 1973) 3 dL_law_1973 rfl rfl ?_
          obtain ⟨hu9, hv9, hw⟩ := hw
          refine j_calli (j_runSW (n8 := 4) (As := [vR x1, vI y1966, vI y1972, vR x3]) (rest := []) X (pc := 1974) (met_X0_shapeAt (xl x) X.hl (xG x) h x1 y1966 y1972 x3 _ hw) q1431 q1432 q70 q1433 (by decide +kernel) dL_law_1974 rfl ⟨Nat.le_of_ble_eq_true rfl, Nat.le_of_ble_eq_true rfl⟩ (Nat.le_of_ble_eq_true rfl) ⟨hu9, hv9⟩) (fun y1974 h1974 hw => ?_)
          refine j_istore X (pc := 1977) [(6, vI y1974), (0, vR x0), (1, vR x1), (2, vR x2), (3, vR x3), (4, vR x4), (5, vI x5)] dL_law_1977 (Nat.le_of_ble_eq_true rfl) rfl ?_
          refine j_aload_n X (pc := 1979) 3 dL_law_1979 rfl rfl ?_
          refine j_aload_n X (pc := 1980) 1 dL_law_1980 rfl rfl ?_
          refine j_iload X (pc := 1981) 6 dL_law_1981 rfl ?_
          refine j_iconst X (pc := 1983) 1 dL_law_1983 (by decide) ?_
          refine j_iadd X (pc := 1984) dL_law_1984 ?_
          refine j_iald X (pc := 1985) 32 rfl dL_law_1985 hw (fun y1985 hw => ?_)
          refine j_aload_n X (pc := 1986) 1 dL_law_1986 rfl rfl ?_
          refine j_iload X (pc := 1987) 6 dL_law_1987 rfl ?_
          refine j_iconst X (pc := 1989) 2 dL_law_1989 (by decide) ?_
          refine j_iadd X (pc := 1990) dL_law_1990 ?_
          refine j_iald X (pc := 1991) 32 rfl dL_law_1991 hw (fun y1991 hw => ?_)
          obtain ⟨hu9, hv9, hw⟩ := hw
          obtain ⟨b9, c9, f9, hr9, ho9, hc9, hw⟩ := hw
          obtain rfl := List.mem_singleton.mp hc9
          refine j_calli (j_runV (n8 := 2) (As := [vI y1985, vI y1991]) (rest := []) X (pc := 1992) hr9 (met_X5_shapeAt (xl x) X.hl (xG x) h1974 x2 y1985 y1991 _ hw) ho9 (by decide) rfl q2194 q2195 q2196 q78 q2197 (by decide +kernel) dL_law_1992 rfl ⟨Nat.le_of_ble_eq_true rfl, Nat.le_of_ble_eq_true rfl⟩ (Nat.le_of_ble_eq_true rfl) ⟨hu9, hv9⟩) (fun y1992 h1992 hw => ?_)
          refine j_istore X (pc := 1995) [(7, vI y1992), (6, vI y1974), (0, vR x0), (1, vR x1), (2, vR x2), (3, vR x3), (4, vR x4), (5, vI x5)] dL_law_1995 (Nat.le_of_ble_eq_true rfl) rfl ?_
          refine j_aload_n X (pc := 1997) 4 dL_law_1997 rfl rfl ?_
          obtain ⟨hu9, hv9, hw⟩ := hw
          obtain ⟨b9, c9, f9, hr9, ho9, hc9, hw⟩ := hw
          obtain rfl := List.mem_singleton.mp hc9
          refine j_calli (j_runV (n8 := 0) (As := []) (rest := []) X (pc := 1998) hr9 (met_X5_thrown (xl x) X.hl (xG x) h1992 x2 _ hw) ho9 (by decide) rfl q1970 q1971 q1972 q78 q1973 (by decide +kernel) dL_law_1998 rfl ⟨Nat.le_of_ble_eq_true rfl, Nat.le_of_ble_eq_true rfl⟩ (Nat.le_of_ble_eq_true rfl) ⟨hu9, hv9⟩) (fun y1998 h1998 hw => ?_)
          refine j_iload X (pc := 2001) 1 dL_law_2001 rfl ?_
          refine j_icmp_eq X (pc := 2003) 2008 dL_law_2003 (by decide) hw (fun hw => ?_) (fun hw => ?_)
          · refine j_iload X (pc := 2008) 1 dL_law_2008 rfl ?_
            refine j_if_ne X (pc := 2010) 2025 dL_law_2010 (by decide) hw (fun hw => ?_) (fun hw => ?_)
            · refine j_aload_n X (pc := 2013) 5 dL_law_2013 rfl rfl ?_
              refine j_iconst X (pc := 2014) 0 dL_law_2014 (by decide) ?_
              refine j_lald X (pc := 2015) dL_law_2015 hw (fun y2015 hw => ?_)
              refine j_iload X (pc := 2016) 0 dL_law_2016 rfl ?_
              refine j_i2l X (pc := 2018) dL_law_2018 ?_
              refine j_lcmp X (pc := 2019) dL_law_2019 ?_
              refine j_if_eq X (pc := 2020) 2025 dL_law_2020 (by decide) hw (fun hw => ?_) (fun hw => ?_)
              · refine j_goto X (pc := 2025) 3387 dL_law_2025 (by decide) ?_
                refine j_iinc X (pc := 3387) 7 (x5 + 7) [(5, vI (x5 + 7)), (7, vI y1992), (6, vI y1974), (0, vR x0), (1, vR x1), (2, vR x2), (3, vR x3), (4, vR x4)] dL_law_3387 rfl rfl (Nat.le_of_ble_eq_true rfl) rfl ?_
                refine j_goto X (pc := 3390) 28 dL_law_3390 (by decide) ?_
                refine j_lv [(0, vR x0), (1, vR x1), (2, vR x2), (3, vR x3), (4, vR x4), (5, vI (x5 + 7))] [3, 4, 5, 6, 7, 0] rfl ?_
                exact hw
              · refine j_iconst X (pc := 2023) 0 dL_law_2023 (by decide) ?_
                obtain ⟨hu9, hv9, hw⟩ := hw
                exact j_endL X (pc := 2024) hQ hu9 hv9 dL_law_2024 hw
            · refine j_goto X (pc := 2025) 3387 dL_law_2025 (by decide) ?_
              refine j_iinc X (pc := 3387) 7 (x5 + 7) [(5, vI (x5 + 7)), (7, vI y1992), (6, vI y1974), (0, vR x0), (1, vR x1), (2, vR x2), (3, vR x3), (4, vR x4)] dL_law_3387 rfl rfl (Nat.le_of_ble_eq_true rfl) rfl ?_
              refine j_goto X (pc := 3390) 28 dL_law_3390 (by decide) ?_
              refine j_lv [(0, vR x0), (1, vR x1), (2, vR x2), (3, vR x3), (4, vR x4), (5, vI (x5 + 7))] [3, 4, 5, 6, 7, 0] rfl ?_
              exact hw
          · refine j_iconst X (pc := 2006) 0 dL_law_2006 (by decide) ?_
            obtain ⟨hu9, hv9, hw⟩ := hw
            exact j_endL X (pc := 2007) hQ hu9 hv9 dL_law_2007 hw
        | 25, ho, ha =>
          cases ho
          have hw := hw.2.2.2.2.2.2.2.2.2.2.2.2.2.2.2.2.2.2.2.2.2.2.2.2.2.1 ha
          refine ⟨2028, by decide, ?_⟩
          refine j_aload_n X (pc := 2028) 1 dL_law_2028 rfl rfl ?_
          refine j_aload_n X (pc := 2029) 0 dL_law_2029 rfl rfl ?_
          refine j_iload X (pc := 2030) 5 dL_law_2030 rfl ?_
          refine j_iconst X (pc := 2032) 1 dL_law_2032 (by decide) ?_
          refine j_iadd X (pc := 2033) dL_law_2033 ?_
          refine j_iald X (pc := 2034) 32 rfl dL_law_2034 hw (fun y2034 hw => ?_)
          refine j_aload_n X (pc := 2035) 0 dL_law_2035 rfl rfl ?_
          refine j_iload X (pc := 2036) 5 dL_law_2036 rfl ?_
          refine j_iconst X (pc := 2038) 2 dL_law_2038 (by decide) ?_
          refine j_iadd X (pc := 2039) dL_law_2039 ?_
          refine j_iald X (pc := 2040) 32 rfl dL_law_2040 hw (fun y2040 hw => ?_)
          refine j_aload X (pc := 2041) 4 dL_law_2041 rfl ?_
          obtain ⟨hu9, hv9, hw⟩ := hw
          refine j_calli (j_runSW (n8 := 4) (As := [vR x1, vI y2034, vI y2040, vR x4]) (rest := []) X (pc := 2043) (met_X0_keyOf (xl x) X.hl (xG x) h x1 y2034 y2040 x4 _ hw) q1462 q1463 q70 q1464 (by decide +kernel) dL_law_2043 rfl ⟨Nat.le_of_ble_eq_true rfl, Nat.le_of_ble_eq_true rfl⟩ (Nat.le_of_ble_eq_true rfl) ⟨hu9, hv9⟩) (fun y2043 h2043 hw => ?_)
          refine j_istore X (pc := 2046) [(6, vI y2043), (0, vR x0), (1, vR x1), (2, vR x2), (3, vR x3), (4, vR x4), (5, vI x5)] dL_law_2046 (Nat.le_of_ble_eq_true rfl) rfl ?_
          refine j_aload_n X (pc := 2048) 3 dL_law_2048 rfl rfl ?_
          refine j_aload_n X (pc := 2049) 1 dL_law_2049 rfl rfl ?_
          refine j_iload X (pc := 2050) 6 dL_law_2050 rfl ?_
          refine j_iconst X (pc := 2052) 1 dL_law_2052 (by decide) ?_
          refine j_iadd X (pc := 2053) dL_law_2053 ?_
          refine j_iald X (pc := 2054) 32 rfl dL_law_2054 hw (fun y2054 hw => ?_)
          refine j_aload_n X (pc := 2055) 1 dL_law_2055 rfl rfl ?_
          refine j_iload X (pc := 2056) 6 dL_law_2056 rfl ?_
          refine j_iconst X (pc := 2058) 2 dL_law_2058 (by decide) ?_
          refine j_iadd X (pc := 2059) dL_law_2059 ?_
          refine j_iald X (pc := 2060) 32 rfl dL_law_2060 hw (fun y2060 hw => ?_)
          obtain ⟨hu9, hv9, hw⟩ := hw
          obtain ⟨b9, c9, f9, hr9, ho9, hc9, hw⟩ := hw
          obtain rfl := List.mem_singleton.mp hc9
          refine j_callf (j_runV (n8 := 2) (As := [vI y2054, vI y2060]) (rest := []) X (pc := 2061) hr9 (met_X5_keyOf (xl x) X.hl (xG x) h2043 x2 y2054 y2060 _ hw) ho9 (by decide) rfl q2198 q2199 q2200 q78 q2201 (by decide +kernel) dL_law_2061 rfl ⟨Nat.le_of_ble_eq_true rfl, Nat.le_of_ble_eq_true rfl⟩ (Nat.le_of_ble_eq_true rfl) ⟨hu9, hv9⟩) (fun y2061 h2061 hw => ?_)
          refine j_fstore X (pc := 2064) [(7, vF y2061), (6, vI y2043), (0, vR x0), (1, vR x1), (2, vR x2), (3, vR x3), (4, vR x4), (5, vI x5)] dL_law_2064 (Nat.le_of_ble_eq_true rfl) rfl ?_
          refine j_aload_n X (pc := 2066) 4 dL_law_2066 rfl rfl ?_
          obtain ⟨hu9, hv9, hw⟩ := hw
          obtain ⟨b9, c9, f9, hr9, ho9, hc9, hw⟩ := hw
          obtain rfl := List.mem_singleton.mp hc9
          refine j_calli (j_runV (n8 := 0) (As := []) (rest := []) X (pc := 2067) hr9 (met_X5_thrown (xl x) X.hl (xG x) h2061 x2 _ hw) ho9 (by decide) rfl q1970 q1971 q1972 q78 q1973 (by decide +kernel) dL_law_2067 rfl ⟨Nat.le_of_ble_eq_true rfl, Nat.le_of_ble_eq_true rfl⟩ (Nat.le_of_ble_eq_true rfl) ⟨hu9, hv9⟩) (fun y2067 h2067 hw => ?_)
          refine j_iload X (pc := 2070) 1 dL_law_2070 rfl ?_
          refine j_icmp_eq X (pc := 2072) 2077 dL_law_2072 (by decide) hw (fun hw => ?_) (fun hw => ?_)
          · refine j_iload X (pc := 2077) 1 dL_law_2077 rfl ?_
            refine j_if_ne X (pc := 2079) 2115 dL_law_2079 (by decide) hw (fun hw => ?_) (fun hw => ?_)
            · refine j_aload X (pc := 2082) 6 dL_law_2082 rfl ?_
              refine j_iconst X (pc := 2084) 0 dL_law_2084 (by decide) ?_
              refine j_dald X (pc := 2085) dL_law_2085 hw (fun y2085 hw => ?_)
              refine j_fload X (pc := 2086) 0 dL_law_2086 rfl ?_
              refine j_f2d X (pc := 2088) dL_law_2088 hw (fun hw => ?_)
              refine j_dcmp X (pc := 2089) dL_law_2089 ?_
              refine j_if_eq X (pc := 2090) 2115 dL_law_2090 (by decide) hw (fun hw => ?_) (fun hw => ?_)
              · refine j_goto X (pc := 2115) 3387 dL_law_2115 (by decide) ?_
                refine j_iinc X (pc := 3387) 7 (x5 + 7) [(5, vI (x5 + 7)), (7, vF y2061), (6, vI y2043), (0, vR x0), (1, vR x1), (2, vR x2), (3, vR x3), (4, vR x4)] dL_law_3387 rfl rfl (Nat.le_of_ble_eq_true rfl) rfl ?_
                refine j_goto X (pc := 3390) 28 dL_law_3390 (by decide) ?_
                refine j_lv [(0, vR x0), (1, vR x1), (2, vR x2), (3, vR x3), (4, vR x4), (5, vI (x5 + 7))] [3, 4, 5, 6, 7, 0] rfl ?_
                exact hw
              · refine j_aload X (pc := 2093) 6 dL_law_2093 rfl ?_
                refine j_iconst X (pc := 2095) 0 dL_law_2095 (by decide) ?_
                refine j_dald X (pc := 2096) dL_law_2096 hw (fun y2096 hw => ?_)
                refine j_aload X (pc := 2097) 6 dL_law_2097 rfl ?_
                refine j_iconst X (pc := 2099) 0 dL_law_2099 (by decide) ?_
                refine j_dald X (pc := 2100) dL_law_2100 hw (fun y2100 hw => ?_)
                refine j_dcmp X (pc := 2101) dL_law_2101 ?_
                refine j_if_eq X (pc := 2102) 2113 dL_law_2102 (by decide) hw (fun hw => ?_) (fun hw => ?_)
                · refine j_iconst X (pc := 2113) 0 dL_law_2113 (by decide) ?_
                  obtain ⟨hu9, hv9, hw⟩ := hw
                  exact j_endL X (pc := 2114) hQ hu9 hv9 dL_law_2114 hw
                · refine j_fload X (pc := 2105) 0 dL_law_2105 rfl ?_
                  refine j_fload X (pc := 2107) 0 dL_law_2107 rfl ?_
                  refine j_fcmp X (pc := 2109) dL_law_2109 ?_
                  refine j_if_ne X (pc := 2110) 2115 dL_law_2110 (by decide) hw (fun hw => ?_) (fun hw => ?_)
                  · refine j_iconst X (pc := 2113) 0 dL_law_2113 (by decide) ?_
                    obtain ⟨hu9, hv9, hw⟩ := hw
                    exact j_endL X (pc := 2114) hQ hu9 hv9 dL_law_2114 hw
                  · refine j_goto X (pc := 2115) 3387 dL_law_2115 (by decide) ?_
                    refine j_iinc X (pc := 3387) 7 (x5 + 7) [(5, vI (x5 + 7)), (7, vF y2061), (6, vI y2043), (0, vR x0), (1, vR x1), (2, vR x2), (3, vR x3), (4, vR x4)] dL_law_3387 rfl rfl (Nat.le_of_ble_eq_true rfl) rfl ?_
                    refine j_goto X (pc := 3390) 28 dL_law_3390 (by decide) ?_
                    refine j_lv [(0, vR x0), (1, vR x1), (2, vR x2), (3, vR x3), (4, vR x4), (5, vI (x5 + 7))] [3, 4, 5, 6, 7, 0] rfl ?_
                    exact hw
            · refine j_goto X (pc := 2115) 3387 dL_law_2115 (by decide) ?_
              refine j_iinc X (pc := 3387) 7 (x5 + 7) [(5, vI (x5 + 7)), (7, vF y2061), (6, vI y2043), (0, vR x0), (1, vR x1), (2, vR x2), (3, vR x3), (4, vR x4)] dL_law_3387 rfl rfl (Nat.le_of_ble_eq_true rfl) rfl ?_
              refine j_goto X (pc := 3390) 28 dL_law_3390 (by decide) ?_
              refine j_lv [(0, vR x0), (1, vR x1), (2, vR x2), (3, vR x3), (4, vR x4), (5, vI (x5 + 7))] [3, 4, 5, 6, 7, 0] rfl ?_
              exact hw
          · refine j_iconst X (pc := 2075) 0 dL_law_2075 (by decide) ?_
            obtain ⟨hu9, hv9, hw⟩ := hw
            exact j_endL X (pc := 2076) hQ hu9 hv9 dL_law_2076 hw
        | 26, ho, ha =>
          cases ho
          have hw := hw.2.2.2.2.2.2.2.2.2.2.2.2.2.2.2.2.2.2.2.2.2.2.2.2.2.2.1 ha
          refine ⟨2118, by decide, ?_⟩
          refine j_aload_n X (pc := 2118) 1 dL_law_2118 rfl rfl ?_
          refine j_aload_n X (pc := 2119) 0 dL_law_2119 rfl rfl ?_
          refine j_iload X (pc := 2120) 5 dL_law_2120 rfl ?_
          refine j_iconst X (pc := 2122) 1 dL_law_2122 (by decide) ?_
          refine j_iadd X (pc := 2123) dL_law_2123 ?_
          refine j_iald X (pc := 2124) 32 rfl dL_law_2124 hw (fun y2124 hw => ?_)
          refine j_aload_n X (pc := 2125) 0 dL_law_2125 rfl rfl ?_
          refine j_iload X (pc := 2126) 5 dL_law_2126 rfl ?_
          refine j_iconst X (pc := 2128) 2 dL_law_2128 (by decide) ?_
          refine j_iadd X (pc := 2129) dL_law_2129 ?_
          refine j_iald X (pc := 2130) 32 rfl dL_law_2130 hw (fun y2130 hw => ?_)
          refine j_aload_n X (pc := 2131) 3 dL_law_2131 rfl rfl ?_
          obtain ⟨hu9, hv9, hw⟩ := hw
          refine j_calli (j_runSW (n8 := 4) (As := [vR x1, vI y2124, vI y2130, vR x3]) (rest := []) X (pc := 2132) (met_X0_keyBits (xl x) X.hl (xG x) h x1 y2124 y2130 x3 _ hw) q1469 q1470 q70 q1471 (by decide +kernel) dL_law_2132 rfl ⟨Nat.le_of_ble_eq_true rfl, Nat.le_of_ble_eq_true rfl⟩ (Nat.le_of_ble_eq_true rfl) ⟨hu9, hv9⟩) (fun y2132 h2132 hw => ?_)
          refine j_istore X (pc := 2135) [(6, vI y2132), (0, vR x0), (1, vR x1), (2, vR x2), (3, vR x3), (4, vR x4), (5, vI x5)] dL_law_2135 (Nat.le_of_ble_eq_true rfl) rfl ?_
          refine j_aload_n X (pc := 2137) 3 dL_law_2137 rfl rfl ?_
          refine j_aload_n X (pc := 2138) 1 dL_law_2138 rfl rfl ?_
          refine j_iload X (pc := 2139) 6 dL_law_2139 rfl ?_
          refine j_iconst X (pc := 2141) 1 dL_law_2141 (by decide) ?_
          refine j_iadd X (pc := 2142) dL_law_2142 ?_
          refine j_iald X (pc := 2143) 32 rfl dL_law_2143 hw (fun y2143 hw => ?_)
          refine j_aload_n X (pc := 2144) 1 dL_law_2144 rfl rfl ?_
          refine j_iload X (pc := 2145) 6 dL_law_2145 rfl ?_
          refine j_iconst X (pc := 2147) 2 dL_law_2147 (by decide) ?_
          refine j_iadd X (pc := 2148) dL_law_2148 ?_
          refine j_iald X (pc := 2149) 32 rfl dL_law_2149 hw (fun y2149 hw => ?_)
          obtain ⟨hu9, hv9, hw⟩ := hw
          obtain ⟨b9, c9, f9, hr9, ho9, hc9, hw⟩ := hw
          obtain rfl := List.mem_singleton.mp hc9
          refine j_calli (j_runV (n8 := 2) (As := [vI y2143, vI y2149]) (rest := []) X (pc := 2150) hr9 (met_X5_keyBits (xl x) X.hl (xG x) h2132 x2 y2143 y2149 _ hw) ho9 (by decide) rfl q2202 q2203 q2204 q78 q2205 (by decide +kernel) dL_law_2150 rfl ⟨Nat.le_of_ble_eq_true rfl, Nat.le_of_ble_eq_true rfl⟩ (Nat.le_of_ble_eq_true rfl) ⟨hu9, hv9⟩) (fun y2150 h2150 hw => ?_)
          refine j_istore X (pc := 2153) [(7, vI y2150), (6, vI y2132), (0, vR x0), (1, vR x1), (2, vR x2), (3, vR x3), (4, vR x4), (5, vI x5)] dL_law_2153 (Nat.le_of_ble_eq_true rfl) rfl ?_
          refine j_aload_n X (pc := 2155) 4 dL_law_2155 rfl rfl ?_
          obtain ⟨hu9, hv9, hw⟩ := hw
          obtain ⟨b9, c9, f9, hr9, ho9, hc9, hw⟩ := hw
          obtain rfl := List.mem_singleton.mp hc9
          refine j_calli (j_runV (n8 := 0) (As := []) (rest := []) X (pc := 2156) hr9 (met_X5_thrown (xl x) X.hl (xG x) h2150 x2 _ hw) ho9 (by decide) rfl q1970 q1971 q1972 q78 q1973 (by decide +kernel) dL_law_2156 rfl ⟨Nat.le_of_ble_eq_true rfl, Nat.le_of_ble_eq_true rfl⟩ (Nat.le_of_ble_eq_true rfl) ⟨hu9, hv9⟩) (fun y2156 h2156 hw => ?_)
          refine j_iload X (pc := 2159) 1 dL_law_2159 rfl ?_
          refine j_icmp_eq X (pc := 2161) 2166 dL_law_2161 (by decide) hw (fun hw => ?_) (fun hw => ?_)
          · refine j_iload X (pc := 2166) 1 dL_law_2166 rfl ?_
            refine j_if_ne X (pc := 2168) 2183 dL_law_2168 (by decide) hw (fun hw => ?_) (fun hw => ?_)
            · refine j_aload_n X (pc := 2171) 5 dL_law_2171 rfl rfl ?_
              refine j_iconst X (pc := 2172) 0 dL_law_2172 (by decide) ?_
              refine j_lald X (pc := 2173) dL_law_2173 hw (fun y2173 hw => ?_)
              refine j_iload X (pc := 2174) 0 dL_law_2174 rfl ?_
              refine j_i2l X (pc := 2176) dL_law_2176 ?_
              refine j_lcmp X (pc := 2177) dL_law_2177 ?_
              refine j_if_eq X (pc := 2178) 2183 dL_law_2178 (by decide) hw (fun hw => ?_) (fun hw => ?_)
              · refine j_goto X (pc := 2183) 3387 dL_law_2183 (by decide) ?_
                refine j_iinc X (pc := 3387) 7 (x5 + 7) [(5, vI (x5 + 7)), (7, vI y2150), (6, vI y2132), (0, vR x0), (1, vR x1), (2, vR x2), (3, vR x3), (4, vR x4)] dL_law_3387 rfl rfl (Nat.le_of_ble_eq_true rfl) rfl ?_
                refine j_goto X (pc := 3390) 28 dL_law_3390 (by decide) ?_
                refine j_lv [(0, vR x0), (1, vR x1), (2, vR x2), (3, vR x3), (4, vR x4), (5, vI (x5 + 7))] [3, 4, 5, 6, 7, 0] rfl ?_
                exact hw
              · refine j_iconst X (pc := 2181) 0 dL_law_2181 (by decide) ?_
                obtain ⟨hu9, hv9, hw⟩ := hw
                exact j_endL X (pc := 2182) hQ hu9 hv9 dL_law_2182 hw
            · refine j_goto X (pc := 2183) 3387 dL_law_2183 (by decide) ?_
              refine j_iinc X (pc := 3387) 7 (x5 + 7) [(5, vI (x5 + 7)), (7, vI y2150), (6, vI y2132), (0, vR x0), (1, vR x1), (2, vR x2), (3, vR x3), (4, vR x4)] dL_law_3387 rfl rfl (Nat.le_of_ble_eq_true rfl) rfl ?_
              refine j_goto X (pc := 3390) 28 dL_law_3390 (by decide) ?_
              refine j_lv [(0, vR x0), (1, vR x1), (2, vR x2), (3, vR x3), (4, vR x4), (5, vI (x5 + 7))] [3, 4, 5, 6, 7, 0] rfl ?_
              exact hw
          · refine j_iconst X (pc := 2164) 0 dL_law_2164 (by decide) ?_
            obtain ⟨hu9, hv9, hw⟩ := hw
            exact j_endL X (pc := 2165) hQ hu9 hv9 dL_law_2165 hw
        | 27, ho, ha =>
          cases ho
          have hw := hw.2.2.2.2.2.2.2.2.2.2.2.2.2.2.2.2.2.2.2.2.2.2.2.2.2.2.2.1 ha
          refine ⟨2186, by decide, ?_⟩
          refine j_aload_n X (pc := 2186) 1 dL_law_2186 rfl rfl ?_
          refine j_aload_n X (pc := 2187) 0 dL_law_2187 rfl rfl ?_
          refine j_iload X (pc := 2188) 5 dL_law_2188 rfl ?_
          refine j_iconst X (pc := 2190) 1 dL_law_2190 (by decide) ?_
          refine j_iadd X (pc := 2191) dL_law_2191 ?_
          refine j_iald X (pc := 2192) 32 rfl dL_law_2192 hw (fun y2192 hw => ?_)
          refine j_aload_n X (pc := 2193) 0 dL_law_2193 rfl rfl ?_
          refine j_iload X (pc := 2194) 5 dL_law_2194 rfl ?_
          refine j_iconst X (pc := 2196) 2 dL_law_2196 (by decide) ?_
          refine j_iadd X (pc := 2197) dL_law_2197 ?_
          refine j_iald X (pc := 2198) 32 rfl dL_law_2198 hw (fun y2198 hw => ?_)
          refine j_aload_n X (pc := 2199) 3 dL_law_2199 rfl rfl ?_
          obtain ⟨hu9, hv9, hw⟩ := hw
          refine j_calli (j_runSW (n8 := 4) (As := [vR x1, vI y2192, vI y2198, vR x3]) (rest := []) X (pc := 2200) (met_X0_keyCut (xl x) X.hl (xG x) h x1 y2192 y2198 x3 _ hw) q1476 q1477 q70 q1478 (by decide +kernel) dL_law_2200 rfl ⟨Nat.le_of_ble_eq_true rfl, Nat.le_of_ble_eq_true rfl⟩ (Nat.le_of_ble_eq_true rfl) ⟨hu9, hv9⟩) (fun y2200 h2200 hw => ?_)
          refine j_istore X (pc := 2203) [(6, vI y2200), (0, vR x0), (1, vR x1), (2, vR x2), (3, vR x3), (4, vR x4), (5, vI x5)] dL_law_2203 (Nat.le_of_ble_eq_true rfl) rfl ?_
          refine j_aload_n X (pc := 2205) 3 dL_law_2205 rfl rfl ?_
          refine j_aload_n X (pc := 2206) 1 dL_law_2206 rfl rfl ?_
          refine j_iload X (pc := 2207) 6 dL_law_2207 rfl ?_
          refine j_iconst X (pc := 2209) 1 dL_law_2209 (by decide) ?_
          refine j_iadd X (pc := 2210) dL_law_2210 ?_
          refine j_iald X (pc := 2211) 32 rfl dL_law_2211 hw (fun y2211 hw => ?_)
          refine j_aload_n X (pc := 2212) 1 dL_law_2212 rfl rfl ?_
          refine j_iload X (pc := 2213) 6 dL_law_2213 rfl ?_
          refine j_iconst X (pc := 2215) 2 dL_law_2215 (by decide) ?_
          refine j_iadd X (pc := 2216) dL_law_2216 ?_
          refine j_iald X (pc := 2217) 32 rfl dL_law_2217 hw (fun y2217 hw => ?_)
          obtain ⟨hu9, hv9, hw⟩ := hw
          obtain ⟨b9, c9, f9, hr9, ho9, hc9, hw⟩ := hw
          obtain rfl := List.mem_singleton.mp hc9
          refine j_calli (j_runV (n8 := 2) (As := [vI y2211, vI y2217]) (rest := []) X (pc := 2218) hr9 (met_X5_keyCut (xl x) X.hl (xG x) h2200 x2 y2211 y2217 _ hw) ho9 (by decide) rfl q2206 q2207 q2208 q78 q2209 (by decide +kernel) dL_law_2218 rfl ⟨Nat.le_of_ble_eq_true rfl, Nat.le_of_ble_eq_true rfl⟩ (Nat.le_of_ble_eq_true rfl) ⟨hu9, hv9⟩) (fun y2218 h2218 hw => ?_)
          refine j_istore X (pc := 2221) [(7, vI y2218), (6, vI y2200), (0, vR x0), (1, vR x1), (2, vR x2), (3, vR x3), (4, vR x4), (5, vI x5)] dL_law_2221 (Nat.le_of_ble_eq_true rfl) rfl ?_
          refine j_aload_n X (pc := 2223) 4 dL_law_2223 rfl rfl ?_
          obtain ⟨hu9, hv9, hw⟩ := hw
          obtain ⟨b9, c9, f9, hr9, ho9, hc9, hw⟩ := hw
          obtain rfl := List.mem_singleton.mp hc9
          refine j_calli (j_runV (n8 := 0) (As := []) (rest := []) X (pc := 2224) hr9 (met_X5_thrown (xl x) X.hl (xG x) h2218 x2 _ hw) ho9 (by decide) rfl q1970 q1971 q1972 q78 q1973 (by decide +kernel) dL_law_2224 rfl ⟨Nat.le_of_ble_eq_true rfl, Nat.le_of_ble_eq_true rfl⟩ (Nat.le_of_ble_eq_true rfl) ⟨hu9, hv9⟩) (fun y2224 h2224 hw => ?_)
          refine j_iload X (pc := 2227) 1 dL_law_2227 rfl ?_
          refine j_icmp_eq X (pc := 2229) 2234 dL_law_2229 (by decide) hw (fun hw => ?_) (fun hw => ?_)
          · refine j_iload X (pc := 2234) 1 dL_law_2234 rfl ?_
            refine j_if_ne X (pc := 2236) 2251 dL_law_2236 (by decide) hw (fun hw => ?_) (fun hw => ?_)
            · refine j_aload_n X (pc := 2239) 5 dL_law_2239 rfl rfl ?_
              refine j_iconst X (pc := 2240) 0 dL_law_2240 (by decide) ?_
              refine j_lald X (pc := 2241) dL_law_2241 hw (fun y2241 hw => ?_)
              refine j_iload X (pc := 2242) 0 dL_law_2242 rfl ?_
              refine j_i2l X (pc := 2244) dL_law_2244 ?_
              refine j_lcmp X (pc := 2245) dL_law_2245 ?_
              refine j_if_eq X (pc := 2246) 2251 dL_law_2246 (by decide) hw (fun hw => ?_) (fun hw => ?_)
              · refine j_goto X (pc := 2251) 3387 dL_law_2251 (by decide) ?_
                refine j_iinc X (pc := 3387) 7 (x5 + 7) [(5, vI (x5 + 7)), (7, vI y2218), (6, vI y2200), (0, vR x0), (1, vR x1), (2, vR x2), (3, vR x3), (4, vR x4)] dL_law_3387 rfl rfl (Nat.le_of_ble_eq_true rfl) rfl ?_
                refine j_goto X (pc := 3390) 28 dL_law_3390 (by decide) ?_
                refine j_lv [(0, vR x0), (1, vR x1), (2, vR x2), (3, vR x3), (4, vR x4), (5, vI (x5 + 7))] [3, 4, 5, 6, 7, 0] rfl ?_
                exact hw
              · refine j_iconst X (pc := 2249) 0 dL_law_2249 (by decide) ?_
                obtain ⟨hu9, hv9, hw⟩ := hw
                exact j_endL X (pc := 2250) hQ hu9 hv9 dL_law_2250 hw
            · refine j_goto X (pc := 2251) 3387 dL_law_2251 (by decide) ?_
              refine j_iinc X (pc := 3387) 7 (x5 + 7) [(5, vI (x5 + 7)), (7, vI y2218), (6, vI y2200), (0, vR x0), (1, vR x1), (2, vR x2), (3, vR x3), (4, vR x4)] dL_law_3387 rfl rfl (Nat.le_of_ble_eq_true rfl) rfl ?_
              refine j_goto X (pc := 3390) 28 dL_law_3390 (by decide) ?_
              refine j_lv [(0, vR x0), (1, vR x1), (2, vR x2), (3, vR x3), (4, vR x4), (5, vI (x5 + 7))] [3, 4, 5, 6, 7, 0] rfl ?_
              exact hw
          · refine j_iconst X (pc := 2232) 0 dL_law_2232 (by decide) ?_
            obtain ⟨hu9, hv9, hw⟩ := hw
            exact j_endL X (pc := 2233) hQ hu9 hv9 dL_law_2233 hw
        | 28, ho, ha =>
          cases ho
          have hw := hw.2.2.2.2.2.2.2.2.2.2.2.2.2.2.2.2.2.2.2.2.2.2.2.2.2.2.2.2.1 ha
          refine ⟨2254, by decide, ?_⟩
          refine j_aload_n X (pc := 2254) 1 dL_law_2254 rfl rfl ?_
          refine j_aload_n X (pc := 2255) 0 dL_law_2255 rfl rfl ?_
          refine j_iload X (pc := 2256) 5 dL_law_2256 rfl ?_
          refine j_iconst X (pc := 2258) 1 dL_law_2258 (by decide) ?_
          refine j_iadd X (pc := 2259) dL_law_2259 ?_
          refine j_iald X (pc := 2260) 32 rfl dL_law_2260 hw (fun y2260 hw => ?_)
          refine j_aload_n X (pc := 2261) 0 dL_law_2261 rfl rfl ?_
          refine j_iload X (pc := 2262) 5 dL_law_2262 rfl ?_
          refine j_iconst X (pc := 2264) 2 dL_law_2264 (by decide) ?_
          refine j_iadd X (pc := 2265) dL_law_2265 ?_
          refine j_iald X (pc := 2266) 32 rfl dL_law_2266 hw (fun y2266 hw => ?_)
          refine j_aload_n X (pc := 2267) 0 dL_law_2267 rfl rfl ?_
          refine j_iload X (pc := 2268) 5 dL_law_2268 rfl ?_
          refine j_iconst X (pc := 2270) 3 dL_law_2270 (by decide) ?_
          refine j_iadd X (pc := 2271) dL_law_2271 ?_
          refine j_iald X (pc := 2272) 32 rfl dL_law_2272 hw (fun y2272 hw => ?_)
          refine j_aload_n X (pc := 2273) 3 dL_law_2273 rfl rfl ?_
          obtain ⟨hu9, hv9, hw⟩ := hw
          refine j_calli (j_runSW (n8 := 5) (As := [vR x1, vI y2260, vI y2266, vI y2272, vR x3]) (rest := []) X (pc := 2274) (met_X0_topAt (xl x) X.hl (xG x) h x1 y2260 y2266 y2272 x3 _ hw) q1484 q1485 q70 q1486 (by decide +kernel) dL_law_2274 rfl ⟨Nat.le_of_ble_eq_true rfl, Nat.le_of_ble_eq_true rfl⟩ (Nat.le_of_ble_eq_true rfl) ⟨hu9, hv9⟩) (fun y2274 h2274 hw => ?_)
          refine j_istore X (pc := 2277) [(6, vI y2274), (0, vR x0), (1, vR x1), (2, vR x2), (3, vR x3), (4, vR x4), (5, vI x5)] dL_law_2277 (Nat.le_of_ble_eq_true rfl) rfl ?_
          refine j_aload_n X (pc := 2279) 3 dL_law_2279 rfl rfl ?_
          refine j_aload_n X (pc := 2280) 1 dL_law_2280 rfl rfl ?_
          refine j_iload X (pc := 2281) 6 dL_law_2281 rfl ?_
          refine j_iconst X (pc := 2283) 1 dL_law_2283 (by decide) ?_
          refine j_iadd X (pc := 2284) dL_law_2284 ?_
          refine j_iald X (pc := 2285) 32 rfl dL_law_2285 hw (fun y2285 hw => ?_)
          refine j_aload_n X (pc := 2286) 1 dL_law_2286 rfl rfl ?_
          refine j_iload X (pc := 2287) 6 dL_law_2287 rfl ?_
          refine j_iconst X (pc := 2289) 2 dL_law_2289 (by decide) ?_
          refine j_iadd X (pc := 2290) dL_law_2290 ?_
          refine j_iald X (pc := 2291) 32 rfl dL_law_2291 hw (fun y2291 hw => ?_)
          refine j_aload_n X (pc := 2292) 1 dL_law_2292 rfl rfl ?_
          refine j_iload X (pc := 2293) 6 dL_law_2293 rfl ?_
          refine j_iconst X (pc := 2295) 3 dL_law_2295 (by decide) ?_
          refine j_iadd X (pc := 2296) dL_law_2296 ?_
          refine j_iald X (pc := 2297) 32 rfl dL_law_2297 hw (fun y2297 hw => ?_)
          obtain ⟨hu9, hv9, hw⟩ := hw
          obtain ⟨b9, c9, f9, hr9, ho9, hc9, hw⟩ := hw
          obtain rfl := List.mem_singleton.mp hc9
          refine j_calli (j_runV (n8 := 3) (As := [vI y2285, vI y2291, vI y2297]) (rest := []) X (pc := 2298) hr9 (met_X5_topAt (xl x) X.hl (xG x) h2274 x2 y2285 y2291 y2297 _ hw) ho9 (by decide) rfl q2211 q2212 q2213 q78 q2214 (by decide +kernel) dL_law_2298 rfl ⟨Nat.le_of_ble_eq_true rfl, Nat.le_of_ble_eq_true rfl⟩ (Nat.le_of_ble_eq_true rfl) ⟨hu9, hv9⟩) (fun y2298 h2298 hw => ?_)
          refine j_istore X (pc := 2301) [(7, vI y2298), (6, vI y2274), (0, vR x0), (1, vR x1), (2, vR x2), (3, vR x3), (4, vR x4), (5, vI x5)] dL_law_2301 (Nat.le_of_ble_eq_true rfl) rfl ?_
          refine j_aload_n X (pc := 2303) 4 dL_law_2303 rfl rfl ?_
          obtain ⟨hu9, hv9, hw⟩ := hw
          obtain ⟨b9, c9, f9, hr9, ho9, hc9, hw⟩ := hw
          obtain rfl := List.mem_singleton.mp hc9
          refine j_calli (j_runV (n8 := 0) (As := []) (rest := []) X (pc := 2304) hr9 (met_X5_thrown (xl x) X.hl (xG x) h2298 x2 _ hw) ho9 (by decide) rfl q1970 q1971 q1972 q78 q1973 (by decide +kernel) dL_law_2304 rfl ⟨Nat.le_of_ble_eq_true rfl, Nat.le_of_ble_eq_true rfl⟩ (Nat.le_of_ble_eq_true rfl) ⟨hu9, hv9⟩) (fun y2304 h2304 hw => ?_)
          refine j_iload X (pc := 2307) 1 dL_law_2307 rfl ?_
          refine j_icmp_eq X (pc := 2309) 2314 dL_law_2309 (by decide) hw (fun hw => ?_) (fun hw => ?_)
          · refine j_iload X (pc := 2314) 1 dL_law_2314 rfl ?_
            refine j_if_ne X (pc := 2316) 2331 dL_law_2316 (by decide) hw (fun hw => ?_) (fun hw => ?_)
            · refine j_aload_n X (pc := 2319) 5 dL_law_2319 rfl rfl ?_
              refine j_iconst X (pc := 2320) 0 dL_law_2320 (by decide) ?_
              refine j_lald X (pc := 2321) dL_law_2321 hw (fun y2321 hw => ?_)
              refine j_iload X (pc := 2322) 0 dL_law_2322 rfl ?_
              refine j_i2l X (pc := 2324) dL_law_2324 ?_
              refine j_lcmp X (pc := 2325) dL_law_2325 ?_
              refine j_if_eq X (pc := 2326) 2331 dL_law_2326 (by decide) hw (fun hw => ?_) (fun hw => ?_)
              · refine j_goto X (pc := 2331) 3387 dL_law_2331 (by decide) ?_
                refine j_iinc X (pc := 3387) 7 (x5 + 7) [(5, vI (x5 + 7)), (7, vI y2298), (6, vI y2274), (0, vR x0), (1, vR x1), (2, vR x2), (3, vR x3), (4, vR x4)] dL_law_3387 rfl rfl (Nat.le_of_ble_eq_true rfl) rfl ?_
                refine j_goto X (pc := 3390) 28 dL_law_3390 (by decide) ?_
                refine j_lv [(0, vR x0), (1, vR x1), (2, vR x2), (3, vR x3), (4, vR x4), (5, vI (x5 + 7))] [3, 4, 5, 6, 7, 0] rfl ?_
                exact hw
              · refine j_iconst X (pc := 2329) 0 dL_law_2329 (by decide) ?_
                obtain ⟨hu9, hv9, hw⟩ := hw
                exact j_endL X (pc := 2330) hQ hu9 hv9 dL_law_2330 hw
            · refine j_goto X (pc := 2331) 3387 dL_law_2331 (by decide) ?_
              refine j_iinc X (pc := 3387) 7 (x5 + 7) [(5, vI (x5 + 7)), (7, vI y2298), (6, vI y2274), (0, vR x0), (1, vR x1), (2, vR x2), (3, vR x3), (4, vR x4)] dL_law_3387 rfl rfl (Nat.le_of_ble_eq_true rfl) rfl ?_
              refine j_goto X (pc := 3390) 28 dL_law_3390 (by decide) ?_
              refine j_lv [(0, vR x0), (1, vR x1), (2, vR x2), (3, vR x3), (4, vR x4), (5, vI (x5 + 7))] [3, 4, 5, 6, 7, 0] rfl ?_
              exact hw
          · refine j_iconst X (pc := 2312) 0 dL_law_2312 (by decide) ?_
            obtain ⟨hu9, hv9, hw⟩ := hw
            exact j_endL X (pc := 2313) hQ hu9 hv9 dL_law_2313 hw
        | 29, ho, ha =>
          cases ho
          have hw := hw.2.2.2.2.2.2.2.2.2.2.2.2.2.2.2.2.2.2.2.2.2.2.2.2.2.2.2.2.2.1 ha
          refine ⟨2334, by decide, ?_⟩
          refine j_aload_n X (pc := 2334) 1 dL_law_2334 rfl rfl ?_
          refine j_aload_n X (pc := 2335) 0 dL_law_2335 rfl rfl ?_
          refine j_iload X (pc := 2336) 5 dL_law_2336 rfl ?_
          refine j_iconst X (pc := 2338) 1 dL_law_2338 (by decide) ?_
          refine j_iadd X (pc := 2339) dL_law_2339 ?_
          refine j_iald X (pc := 2340) 32 rfl dL_law_2340 hw (fun y2340 hw => ?_)
          refine j_aload_n X (pc := 2341) 0 dL_law_2341 rfl rfl ?_
          refine j_iload X (pc := 2342) 5 dL_law_2342 rfl ?_
          refine j_iconst X (pc := 2344) 2 dL_law_2344 (by decide) ?_
          refine j_iadd X (pc := 2345) dL_law_2345 ?_
          refine j_iald X (pc := 2346) 32 rfl dL_law_2346 hw (fun y2346 hw => ?_)
          refine j_aload_n X (pc := 2347) 3 dL_law_2347 rfl rfl ?_
          obtain ⟨hu9, hv9, hw⟩ := hw
          refine j_calli (j_runSW (n8 := 4) (As := [vR x1, vI y2340, vI y2346, vR x3]) (rest := []) X (pc := 2348) (met_X0_lockedBy (xl x) X.hl (xG x) h x1 y2340 y2346 x3 _ hw) q1498 q1499 q70 q1500 (by decide +kernel) dL_law_2348 rfl ⟨Nat.le_of_ble_eq_true rfl, Nat.le_of_ble_eq_true rfl⟩ (Nat.le_of_ble_eq_true rfl) ⟨hu9, hv9⟩) (fun y2348 h2348 hw => ?_)
          refine j_istore X (pc := 2351) [(6, vI y2348), (0, vR x0), (1, vR x1), (2, vR x2), (3, vR x3), (4, vR x4), (5, vI x5)] dL_law_2351 (Nat.le_of_ble_eq_true rfl) rfl ?_
          refine j_aload_n X (pc := 2353) 3 dL_law_2353 rfl rfl ?_
          refine j_aload_n X (pc := 2354) 1 dL_law_2354 rfl rfl ?_
          refine j_iload X (pc := 2355) 6 dL_law_2355 rfl ?_
          refine j_iconst X (pc := 2357) 1 dL_law_2357 (by decide) ?_
          refine j_iadd X (pc := 2358) dL_law_2358 ?_
          refine j_iald X (pc := 2359) 32 rfl dL_law_2359 hw (fun y2359 hw => ?_)
          refine j_aload_n X (pc := 2360) 1 dL_law_2360 rfl rfl ?_
          refine j_iload X (pc := 2361) 6 dL_law_2361 rfl ?_
          refine j_iconst X (pc := 2363) 2 dL_law_2363 (by decide) ?_
          refine j_iadd X (pc := 2364) dL_law_2364 ?_
          refine j_iald X (pc := 2365) 32 rfl dL_law_2365 hw (fun y2365 hw => ?_)
          obtain ⟨hu9, hv9, hw⟩ := hw
          obtain ⟨b9, c9, f9, hr9, ho9, hc9, hw⟩ := hw
          obtain rfl := List.mem_singleton.mp hc9
          refine j_calli (j_runV (n8 := 2) (As := [vI y2359, vI y2365]) (rest := []) X (pc := 2366) hr9 (met_X5_lockedBy (xl x) X.hl (xG x) h2348 x2 y2359 y2365 _ hw) ho9 (by decide) rfl q2219 q2220 q2221 q78 q2222 (by decide +kernel) dL_law_2366 rfl ⟨Nat.le_of_ble_eq_true rfl, Nat.le_of_ble_eq_true rfl⟩ (Nat.le_of_ble_eq_true rfl) ⟨hu9, hv9⟩) (fun y2366 h2366 hw => ?_)
          refine j_istore X (pc := 2369) [(7, vI y2366), (6, vI y2348), (0, vR x0), (1, vR x1), (2, vR x2), (3, vR x3), (4, vR x4), (5, vI x5)] dL_law_2369 (Nat.le_of_ble_eq_true rfl) rfl ?_
          refine j_aload_n X (pc := 2371) 4 dL_law_2371 rfl rfl ?_
          obtain ⟨hu9, hv9, hw⟩ := hw
          obtain ⟨b9, c9, f9, hr9, ho9, hc9, hw⟩ := hw
          obtain rfl := List.mem_singleton.mp hc9
          refine j_calli (j_runV (n8 := 0) (As := []) (rest := []) X (pc := 2372) hr9 (met_X5_thrown (xl x) X.hl (xG x) h2366 x2 _ hw) ho9 (by decide) rfl q1970 q1971 q1972 q78 q1973 (by decide +kernel) dL_law_2372 rfl ⟨Nat.le_of_ble_eq_true rfl, Nat.le_of_ble_eq_true rfl⟩ (Nat.le_of_ble_eq_true rfl) ⟨hu9, hv9⟩) (fun y2372 h2372 hw => ?_)
          refine j_iload X (pc := 2375) 1 dL_law_2375 rfl ?_
          refine j_icmp_eq X (pc := 2377) 2382 dL_law_2377 (by decide) hw (fun hw => ?_) (fun hw => ?_)
          · refine j_iload X (pc := 2382) 1 dL_law_2382 rfl ?_
            refine j_if_ne X (pc := 2384) 2399 dL_law_2384 (by decide) hw (fun hw => ?_) (fun hw => ?_)
            · refine j_aload_n X (pc := 2387) 5 dL_law_2387 rfl rfl ?_
              refine j_iconst X (pc := 2388) 0 dL_law_2388 (by decide) ?_
              refine j_lald X (pc := 2389) dL_law_2389 hw (fun y2389 hw => ?_)
              refine j_iload X (pc := 2390) 0 dL_law_2390 rfl ?_
              refine j_i2l X (pc := 2392) dL_law_2392 ?_
              refine j_lcmp X (pc := 2393) dL_law_2393 ?_
              refine j_if_eq X (pc := 2394) 2399 dL_law_2394 (by decide) hw (fun hw => ?_) (fun hw => ?_)
              · refine j_goto X (pc := 2399) 3387 dL_law_2399 (by decide) ?_
                refine j_iinc X (pc := 3387) 7 (x5 + 7) [(5, vI (x5 + 7)), (7, vI y2366), (6, vI y2348), (0, vR x0), (1, vR x1), (2, vR x2), (3, vR x3), (4, vR x4)] dL_law_3387 rfl rfl (Nat.le_of_ble_eq_true rfl) rfl ?_
                refine j_goto X (pc := 3390) 28 dL_law_3390 (by decide) ?_
                refine j_lv [(0, vR x0), (1, vR x1), (2, vR x2), (3, vR x3), (4, vR x4), (5, vI (x5 + 7))] [3, 4, 5, 6, 7, 0] rfl ?_
                exact hw
              · refine j_iconst X (pc := 2397) 0 dL_law_2397 (by decide) ?_
                obtain ⟨hu9, hv9, hw⟩ := hw
                exact j_endL X (pc := 2398) hQ hu9 hv9 dL_law_2398 hw
            · refine j_goto X (pc := 2399) 3387 dL_law_2399 (by decide) ?_
              refine j_iinc X (pc := 3387) 7 (x5 + 7) [(5, vI (x5 + 7)), (7, vI y2366), (6, vI y2348), (0, vR x0), (1, vR x1), (2, vR x2), (3, vR x3), (4, vR x4)] dL_law_3387 rfl rfl (Nat.le_of_ble_eq_true rfl) rfl ?_
              refine j_goto X (pc := 3390) 28 dL_law_3390 (by decide) ?_
              refine j_lv [(0, vR x0), (1, vR x1), (2, vR x2), (3, vR x3), (4, vR x4), (5, vI (x5 + 7))] [3, 4, 5, 6, 7, 0] rfl ?_
              exact hw
          · refine j_iconst X (pc := 2380) 0 dL_law_2380 (by decide) ?_
            obtain ⟨hu9, hv9, hw⟩ := hw
            exact j_endL X (pc := 2381) hQ hu9 hv9 dL_law_2381 hw
        | 30, ho, ha =>
          cases ho
          have hw := hw.2.2.2.2.2.2.2.2.2.2.2.2.2.2.2.2.2.2.2.2.2.2.2.2.2.2.2.2.2.2.1 ha
          refine ⟨2402, by decide, ?_⟩
          refine j_aload_n X (pc := 2402) 1 dL_law_2402 rfl rfl ?_
          refine j_aload_n X (pc := 2403) 0 dL_law_2403 rfl rfl ?_
          refine j_iload X (pc := 2404) 5 dL_law_2404 rfl ?_
          refine j_iconst X (pc := 2406) 1 dL_law_2406 (by decide) ?_
          refine j_iadd X (pc := 2407) dL_law_2407 ?_
          refine j_iald X (pc := 2408) 32 rfl dL_law_2408 hw (fun y2408 hw => ?_)
          refine j_aload_n X (pc := 2409) 0 dL_law_2409 rfl rfl ?_
          refine j_iload X (pc := 2410) 5 dL_law_2410 rfl ?_
          refine j_iconst X (pc := 2412) 2 dL_law_2412 (by decide) ?_
          refine j_iadd X (pc := 2413) dL_law_2413 ?_
          refine j_iald X (pc := 2414) 32 rfl dL_law_2414 hw (fun y2414 hw => ?_)
          refine j_aload_n X (pc := 2415) 3 dL_law_2415 rfl rfl ?_
          obtain ⟨hu9, hv9, hw⟩ := hw
          refine j_calli (j_runSW (n8 := 4) (As := [vR x1, vI y2408, vI y2414, vR x3]) (rest := []) X (pc := 2416) (met_X0_inside (xl x) X.hl (xG x) h x1 y2408 y2414 x3 _ hw) q1505 q1506 q70 q1507 (by decide +kernel) dL_law_2416 rfl ⟨Nat.le_of_ble_eq_true rfl, Nat.le_of_ble_eq_true rfl⟩ (Nat.le_of_ble_eq_true rfl) ⟨hu9, hv9⟩) (fun y2416 h2416 hw => ?_)
          refine j_istore X (pc := 2419) [(6, vI y2416), (0, vR x0), (1, vR x1), (2, vR x2), (3, vR x3), (4, vR x4), (5, vI x5)] dL_law_2419 (Nat.le_of_ble_eq_true rfl) rfl ?_
          refine j_aload_n X (pc := 2421) 3 dL_law_2421 rfl rfl ?_
          refine j_aload_n X (pc := 2422) 1 dL_law_2422 rfl rfl ?_
          refine j_iload X (pc := 2423) 6 dL_law_2423 rfl ?_
          refine j_iconst X (pc := 2425) 1 dL_law_2425 (by decide) ?_
          refine j_iadd X (pc := 2426) dL_law_2426 ?_
          refine j_iald X (pc := 2427) 32 rfl dL_law_2427 hw (fun y2427 hw => ?_)
          refine j_aload_n X (pc := 2428) 1 dL_law_2428 rfl rfl ?_
          refine j_iload X (pc := 2429) 6 dL_law_2429 rfl ?_
          refine j_iconst X (pc := 2431) 2 dL_law_2431 (by decide) ?_
          refine j_iadd X (pc := 2432) dL_law_2432 ?_
          refine j_iald X (pc := 2433) 32 rfl dL_law_2433 hw (fun y2433 hw => ?_)
          obtain ⟨hu9, hv9, hw⟩ := hw
          obtain ⟨b9, c9, f9, hr9, ho9, hc9, hw⟩ := hw
          obtain rfl := List.mem_singleton.mp hc9
          refine j_calli (j_runV (n8 := 2) (As := [vI y2427, vI y2433]) (rest := []) X (pc := 2434) hr9 (met_X5_inside (xl x) X.hl (xG x) h2416 x2 y2427 y2433 _ hw) ho9 (by decide) rfl q2223 q2224 q2225 q78 q2226 (by decide +kernel) dL_law_2434 rfl ⟨Nat.le_of_ble_eq_true rfl, Nat.le_of_ble_eq_true rfl⟩ (Nat.le_of_ble_eq_true rfl) ⟨hu9, hv9⟩) (fun y2434 h2434 hw => ?_)
          refine j_istore X (pc := 2437) [(7, vI y2434), (6, vI y2416), (0, vR x0), (1, vR x1), (2, vR x2), (3, vR x3), (4, vR x4), (5, vI x5)] dL_law_2437 (Nat.le_of_ble_eq_true rfl) rfl ?_
          refine j_aload_n X (pc := 2439) 4 dL_law_2439 rfl rfl ?_
          obtain ⟨hu9, hv9, hw⟩ := hw
          obtain ⟨b9, c9, f9, hr9, ho9, hc9, hw⟩ := hw
          obtain rfl := List.mem_singleton.mp hc9
          refine j_calli (j_runV (n8 := 0) (As := []) (rest := []) X (pc := 2440) hr9 (met_X5_thrown (xl x) X.hl (xG x) h2434 x2 _ hw) ho9 (by decide) rfl q1970 q1971 q1972 q78 q1973 (by decide +kernel) dL_law_2440 rfl ⟨Nat.le_of_ble_eq_true rfl, Nat.le_of_ble_eq_true rfl⟩ (Nat.le_of_ble_eq_true rfl) ⟨hu9, hv9⟩) (fun y2440 h2440 hw => ?_)
          refine j_iload X (pc := 2443) 1 dL_law_2443 rfl ?_
          refine j_icmp_eq X (pc := 2445) 2450 dL_law_2445 (by decide) hw (fun hw => ?_) (fun hw => ?_)
          · refine j_iload X (pc := 2450) 1 dL_law_2450 rfl ?_
            refine j_if_ne X (pc := 2452) 2467 dL_law_2452 (by decide) hw (fun hw => ?_) (fun hw => ?_)
            · refine j_aload_n X (pc := 2455) 5 dL_law_2455 rfl rfl ?_
              refine j_iconst X (pc := 2456) 0 dL_law_2456 (by decide) ?_
              refine j_lald X (pc := 2457) dL_law_2457 hw (fun y2457 hw => ?_)
              refine j_iload X (pc := 2458) 0 dL_law_2458 rfl ?_
              refine j_i2l X (pc := 2460) dL_law_2460 ?_
              refine j_lcmp X (pc := 2461) dL_law_2461 ?_
              refine j_if_eq X (pc := 2462) 2467 dL_law_2462 (by decide) hw (fun hw => ?_) (fun hw => ?_)
              · refine j_goto X (pc := 2467) 3387 dL_law_2467 (by decide) ?_
                refine j_iinc X (pc := 3387) 7 (x5 + 7) [(5, vI (x5 + 7)), (7, vI y2434), (6, vI y2416), (0, vR x0), (1, vR x1), (2, vR x2), (3, vR x3), (4, vR x4)] dL_law_3387 rfl rfl (Nat.le_of_ble_eq_true rfl) rfl ?_
                refine j_goto X (pc := 3390) 28 dL_law_3390 (by decide) ?_
                refine j_lv [(0, vR x0), (1, vR x1), (2, vR x2), (3, vR x3), (4, vR x4), (5, vI (x5 + 7))] [3, 4, 5, 6, 7, 0] rfl ?_
                exact hw
              · refine j_iconst X (pc := 2465) 0 dL_law_2465 (by decide) ?_
                obtain ⟨hu9, hv9, hw⟩ := hw
                exact j_endL X (pc := 2466) hQ hu9 hv9 dL_law_2466 hw
            · refine j_goto X (pc := 2467) 3387 dL_law_2467 (by decide) ?_
              refine j_iinc X (pc := 3387) 7 (x5 + 7) [(5, vI (x5 + 7)), (7, vI y2434), (6, vI y2416), (0, vR x0), (1, vR x1), (2, vR x2), (3, vR x3), (4, vR x4)] dL_law_3387 rfl rfl (Nat.le_of_ble_eq_true rfl) rfl ?_
              refine j_goto X (pc := 3390) 28 dL_law_3390 (by decide) ?_
              refine j_lv [(0, vR x0), (1, vR x1), (2, vR x2), (3, vR x3), (4, vR x4), (5, vI (x5 + 7))] [3, 4, 5, 6, 7, 0] rfl ?_
              exact hw
          · refine j_iconst X (pc := 2448) 0 dL_law_2448 (by decide) ?_
            obtain ⟨hu9, hv9, hw⟩ := hw
            exact j_endL X (pc := 2449) hQ hu9 hv9 dL_law_2449 hw
        | 31, ho, ha =>
          cases ho
          have hw := hw.2.2.2.2.2.2.2.2.2.2.2.2.2.2.2.2.2.2.2.2.2.2.2.2.2.2.2.2.2.2.2.1 ha
          refine ⟨2470, by decide, ?_⟩
          refine j_aload_n X (pc := 2470) 1 dL_law_2470 rfl rfl ?_
          refine j_aload_n X (pc := 2471) 0 dL_law_2471 rfl rfl ?_
          refine j_iload X (pc := 2472) 5 dL_law_2472 rfl ?_
          refine j_iconst X (pc := 2474) 1 dL_law_2474 (by decide) ?_
          refine j_iadd X (pc := 2475) dL_law_2475 ?_
          refine j_iald X (pc := 2476) 32 rfl dL_law_2476 hw (fun y2476 hw => ?_)
          refine j_aload_n X (pc := 2477) 3 dL_law_2477 rfl rfl ?_
          obtain ⟨hu9, hv9, hw⟩ := hw
          refine j_calli (j_runSW (n8 := 3) (As := [vR x1, vI y2476, vR x3]) (rest := []) X (pc := 2478) (met_X0_connectors (xl x) X.hl (xG x) h x1 y2476 x3 _ hw) q1513 q1514 q70 q1515 (by decide +kernel) dL_law_2478 rfl ⟨Nat.le_of_ble_eq_true rfl, Nat.le_of_ble_eq_true rfl⟩ (Nat.le_of_ble_eq_true rfl) ⟨hu9, hv9⟩) (fun y2478 h2478 hw => ?_)
          refine j_istore X (pc := 2481) [(6, vI y2478), (0, vR x0), (1, vR x1), (2, vR x2), (3, vR x3), (4, vR x4), (5, vI x5)] dL_law_2481 (Nat.le_of_ble_eq_true rfl) rfl ?_
          refine j_aload_n X (pc := 2483) 3 dL_law_2483 rfl rfl ?_
          refine j_aload_n X (pc := 2484) 1 dL_law_2484 rfl rfl ?_
          refine j_iload X (pc := 2485) 6 dL_law_2485 rfl ?_
          refine j_iconst X (pc := 2487) 1 dL_law_2487 (by decide) ?_
          refine j_iadd X (pc := 2488) dL_law_2488 ?_
          refine j_iald X (pc := 2489) 32 rfl dL_law_2489 hw (fun y2489 hw => ?_)
          obtain ⟨hu9, hv9, hw⟩ := hw
          obtain ⟨b9, c9, f9, hr9, ho9, hc9, hw⟩ := hw
          obtain rfl := List.mem_singleton.mp hc9
          refine j_calli (j_runV (n8 := 1) (As := [vI y2489]) (rest := []) X (pc := 2490) hr9 (met_X5_connectors (xl x) X.hl (xG x) h2478 x2 y2489 _ hw) ho9 (by decide) rfl q2227 q2228 q2229 q78 q2230 (by decide +kernel) dL_law_2490 rfl ⟨Nat.le_of_ble_eq_true rfl, Nat.le_of_ble_eq_true rfl⟩ (Nat.le_of_ble_eq_true rfl) ⟨hu9, hv9⟩) (fun y2490 h2490 hw => ?_)
          refine j_istore X (pc := 2493) [(7, vI y2490), (6, vI y2478), (0, vR x0), (1, vR x1), (2, vR x2), (3, vR x3), (4, vR x4), (5, vI x5)] dL_law_2493 (Nat.le_of_ble_eq_true rfl) rfl ?_
          refine j_aload_n X (pc := 2495) 4 dL_law_2495 rfl rfl ?_
          obtain ⟨hu9, hv9, hw⟩ := hw
          obtain ⟨b9, c9, f9, hr9, ho9, hc9, hw⟩ := hw
          obtain rfl := List.mem_singleton.mp hc9
          refine j_calli (j_runV (n8 := 0) (As := []) (rest := []) X (pc := 2496) hr9 (met_X5_thrown (xl x) X.hl (xG x) h2490 x2 _ hw) ho9 (by decide) rfl q1970 q1971 q1972 q78 q1973 (by decide +kernel) dL_law_2496 rfl ⟨Nat.le_of_ble_eq_true rfl, Nat.le_of_ble_eq_true rfl⟩ (Nat.le_of_ble_eq_true rfl) ⟨hu9, hv9⟩) (fun y2496 h2496 hw => ?_)
          refine j_iload X (pc := 2499) 1 dL_law_2499 rfl ?_
          refine j_icmp_eq X (pc := 2501) 2506 dL_law_2501 (by decide) hw (fun hw => ?_) (fun hw => ?_)
          · refine j_iload X (pc := 2506) 1 dL_law_2506 rfl ?_
            refine j_if_ne X (pc := 2508) 2523 dL_law_2508 (by decide) hw (fun hw => ?_) (fun hw => ?_)
            · refine j_aload_n X (pc := 2511) 5 dL_law_2511 rfl rfl ?_
              refine j_iconst X (pc := 2512) 0 dL_law_2512 (by decide) ?_
              refine j_lald X (pc := 2513) dL_law_2513 hw (fun y2513 hw => ?_)
              refine j_iload X (pc := 2514) 0 dL_law_2514 rfl ?_
              refine j_i2l X (pc := 2516) dL_law_2516 ?_
              refine j_lcmp X (pc := 2517) dL_law_2517 ?_
              refine j_if_eq X (pc := 2518) 2523 dL_law_2518 (by decide) hw (fun hw => ?_) (fun hw => ?_)
              · refine j_goto X (pc := 2523) 3387 dL_law_2523 (by decide) ?_
                refine j_iinc X (pc := 3387) 7 (x5 + 7) [(5, vI (x5 + 7)), (7, vI y2490), (6, vI y2478), (0, vR x0), (1, vR x1), (2, vR x2), (3, vR x3), (4, vR x4)] dL_law_3387 rfl rfl (Nat.le_of_ble_eq_true rfl) rfl ?_
                refine j_goto X (pc := 3390) 28 dL_law_3390 (by decide) ?_
                refine j_lv [(0, vR x0), (1, vR x1), (2, vR x2), (3, vR x3), (4, vR x4), (5, vI (x5 + 7))] [3, 4, 5, 6, 7, 0] rfl ?_
                exact hw
              · refine j_iconst X (pc := 2521) 0 dL_law_2521 (by decide) ?_
                obtain ⟨hu9, hv9, hw⟩ := hw
                exact j_endL X (pc := 2522) hQ hu9 hv9 dL_law_2522 hw
            · refine j_goto X (pc := 2523) 3387 dL_law_2523 (by decide) ?_
              refine j_iinc X (pc := 3387) 7 (x5 + 7) [(5, vI (x5 + 7)), (7, vI y2490), (6, vI y2478), (0, vR x0), (1, vR x1), (2, vR x2), (3, vR x3), (4, vR x4)] dL_law_3387 rfl rfl (Nat.le_of_ble_eq_true rfl) rfl ?_
              refine j_goto X (pc := 3390) 28 dL_law_3390 (by decide) ?_
              refine j_lv [(0, vR x0), (1, vR x1), (2, vR x2), (3, vR x3), (4, vR x4), (5, vI (x5 + 7))] [3, 4, 5, 6, 7, 0] rfl ?_
              exact hw
          · refine j_iconst X (pc := 2504) 0 dL_law_2504 (by decide) ?_
            obtain ⟨hu9, hv9, hw⟩ := hw
            exact j_endL X (pc := 2505) hQ hu9 hv9 dL_law_2505 hw
        | 32, ho, ha =>
          cases ho
          have hw := hw.2.2.2.2.2.2.2.2.2.2.2.2.2.2.2.2.2.2.2.2.2.2.2.2.2.2.2.2.2.2.2.2.1 ha
          refine ⟨2526, by decide, ?_⟩
          refine j_aload_n X (pc := 2526) 1 dL_law_2526 rfl rfl ?_
          refine j_aload_n X (pc := 2527) 0 dL_law_2527 rfl rfl ?_
          refine j_iload X (pc := 2528) 5 dL_law_2528 rfl ?_
          refine j_iconst X (pc := 2530) 1 dL_law_2530 (by decide) ?_
          refine j_iadd X (pc := 2531) dL_law_2531 ?_
          refine j_iald X (pc := 2532) 32 rfl dL_law_2532 hw (fun y2532 hw => ?_)
          refine j_aload_n X (pc := 2533) 0 dL_law_2533 rfl rfl ?_
          refine j_iload X (pc := 2534) 5 dL_law_2534 rfl ?_
          refine j_iconst X (pc := 2536) 2 dL_law_2536 (by decide) ?_
          refine j_iadd X (pc := 2537) dL_law_2537 ?_
          refine j_iald X (pc := 2538) 32 rfl dL_law_2538 hw (fun y2538 hw => ?_)
          refine j_aload_n X (pc := 2539) 3 dL_law_2539 rfl rfl ?_
          obtain ⟨hu9, hv9, hw⟩ := hw
          refine j_calli (j_runSW (n8 := 4) (As := [vR x1, vI y2532, vI y2538, vR x3]) (rest := []) X (pc := 2540) (met_X0_bends (xl x) X.hl (xG x) h x1 y2532 y2538 x3 _ hw) q1520 q1521 q70 q1522 (by decide +kernel) dL_law_2540 rfl ⟨Nat.le_of_ble_eq_true rfl, Nat.le_of_ble_eq_true rfl⟩ (Nat.le_of_ble_eq_true rfl) ⟨hu9, hv9⟩) (fun y2540 h2540 hw => ?_)
          refine j_istore X (pc := 2543) [(6, vI y2540), (0, vR x0), (1, vR x1), (2, vR x2), (3, vR x3), (4, vR x4), (5, vI x5)] dL_law_2543 (Nat.le_of_ble_eq_true rfl) rfl ?_
          refine j_aload_n X (pc := 2545) 3 dL_law_2545 rfl rfl ?_
          refine j_aload_n X (pc := 2546) 1 dL_law_2546 rfl rfl ?_
          refine j_iload X (pc := 2547) 6 dL_law_2547 rfl ?_
          refine j_iconst X (pc := 2549) 1 dL_law_2549 (by decide) ?_
          refine j_iadd X (pc := 2550) dL_law_2550 ?_
          refine j_iald X (pc := 2551) 32 rfl dL_law_2551 hw (fun y2551 hw => ?_)
          refine j_aload_n X (pc := 2552) 1 dL_law_2552 rfl rfl ?_
          refine j_iload X (pc := 2553) 6 dL_law_2553 rfl ?_
          refine j_iconst X (pc := 2555) 2 dL_law_2555 (by decide) ?_
          refine j_iadd X (pc := 2556) dL_law_2556 ?_
          refine j_iald X (pc := 2557) 32 rfl dL_law_2557 hw (fun y2557 hw => ?_)
          obtain ⟨hu9, hv9, hw⟩ := hw
          obtain ⟨b9, c9, f9, hr9, ho9, hc9, hw⟩ := hw
          obtain rfl := List.mem_singleton.mp hc9
          refine j_calli (j_runV (n8 := 2) (As := [vI y2551, vI y2557]) (rest := []) X (pc := 2558) hr9 (met_X5_bends (xl x) X.hl (xG x) h2540 x2 y2551 y2557 _ hw) ho9 (by decide) rfl q2231 q2232 q2233 q78 q2234 (by decide +kernel) dL_law_2558 rfl ⟨Nat.le_of_ble_eq_true rfl, Nat.le_of_ble_eq_true rfl⟩ (Nat.le_of_ble_eq_true rfl) ⟨hu9, hv9⟩) (fun y2558 h2558 hw => ?_)
          refine j_istore X (pc := 2561) [(7, vI y2558), (6, vI y2540), (0, vR x0), (1, vR x1), (2, vR x2), (3, vR x3), (4, vR x4), (5, vI x5)] dL_law_2561 (Nat.le_of_ble_eq_true rfl) rfl ?_
          refine j_aload_n X (pc := 2563) 4 dL_law_2563 rfl rfl ?_
          obtain ⟨hu9, hv9, hw⟩ := hw
          obtain ⟨b9, c9, f9, hr9, ho9, hc9, hw⟩ := hw
          obtain rfl := List.mem_singleton.mp hc9
          refine j_calli (j_runV (n8 := 0) (As := []) (rest := []) X (pc := 2564) hr9 (met_X5_thrown (xl x) X.hl (xG x) h2558 x2 _ hw) ho9 (by decide) rfl q1970 q1971 q1972 q78 q1973 (by decide +kernel) dL_law_2564 rfl ⟨Nat.le_of_ble_eq_true rfl, Nat.le_of_ble_eq_true rfl⟩ (Nat.le_of_ble_eq_true rfl) ⟨hu9, hv9⟩) (fun y2564 h2564 hw => ?_)
          refine j_iload X (pc := 2567) 1 dL_law_2567 rfl ?_
          refine j_icmp_eq X (pc := 2569) 2574 dL_law_2569 (by decide) hw (fun hw => ?_) (fun hw => ?_)
          · refine j_iload X (pc := 2574) 1 dL_law_2574 rfl ?_
            refine j_if_ne X (pc := 2576) 2591 dL_law_2576 (by decide) hw (fun hw => ?_) (fun hw => ?_)
            · refine j_aload_n X (pc := 2579) 5 dL_law_2579 rfl rfl ?_
              refine j_iconst X (pc := 2580) 0 dL_law_2580 (by decide) ?_
              refine j_lald X (pc := 2581) dL_law_2581 hw (fun y2581 hw => ?_)
              refine j_iload X (pc := 2582) 0 dL_law_2582 rfl ?_
              refine j_i2l X (pc := 2584) dL_law_2584 ?_
              refine j_lcmp X (pc := 2585) dL_law_2585 ?_
              refine j_if_eq X (pc := 2586) 2591 dL_law_2586 (by decide) hw (fun hw => ?_) (fun hw => ?_)
              · refine j_goto X (pc := 2591) 3387 dL_law_2591 (by decide) ?_
                refine j_iinc X (pc := 3387) 7 (x5 + 7) [(5, vI (x5 + 7)), (7, vI y2558), (6, vI y2540), (0, vR x0), (1, vR x1), (2, vR x2), (3, vR x3), (4, vR x4)] dL_law_3387 rfl rfl (Nat.le_of_ble_eq_true rfl) rfl ?_
                refine j_goto X (pc := 3390) 28 dL_law_3390 (by decide) ?_
                refine j_lv [(0, vR x0), (1, vR x1), (2, vR x2), (3, vR x3), (4, vR x4), (5, vI (x5 + 7))] [3, 4, 5, 6, 7, 0] rfl ?_
                exact hw
              · refine j_iconst X (pc := 2589) 0 dL_law_2589 (by decide) ?_
                obtain ⟨hu9, hv9, hw⟩ := hw
                exact j_endL X (pc := 2590) hQ hu9 hv9 dL_law_2590 hw
            · refine j_goto X (pc := 2591) 3387 dL_law_2591 (by decide) ?_
              refine j_iinc X (pc := 3387) 7 (x5 + 7) [(5, vI (x5 + 7)), (7, vI y2558), (6, vI y2540), (0, vR x0), (1, vR x1), (2, vR x2), (3, vR x3), (4, vR x4)] dL_law_3387 rfl rfl (Nat.le_of_ble_eq_true rfl) rfl ?_
              refine j_goto X (pc := 3390) 28 dL_law_3390 (by decide) ?_
              refine j_lv [(0, vR x0), (1, vR x1), (2, vR x2), (3, vR x3), (4, vR x4), (5, vI (x5 + 7))] [3, 4, 5, 6, 7, 0] rfl ?_
              exact hw
          · refine j_iconst X (pc := 2572) 0 dL_law_2572 (by decide) ?_
            obtain ⟨hu9, hv9, hw⟩ := hw
            exact j_endL X (pc := 2573) hQ hu9 hv9 dL_law_2573 hw
        | 33, ho, ha =>
          cases ho
          have hw := hw.2.2.2.2.2.2.2.2.2.2.2.2.2.2.2.2.2.2.2.2.2.2.2.2.2.2.2.2.2.2.2.2.2.1 ha
          refine ⟨2594, by decide, ?_⟩
          refine j_aload_n X (pc := 2594) 1 dL_law_2594 rfl rfl ?_
          refine j_aload_n X (pc := 2595) 0 dL_law_2595 rfl rfl ?_
          refine j_iload X (pc := 2596) 5 dL_law_2596 rfl ?_
          refine j_iconst X (pc := 2598) 1 dL_law_2598 (by decide) ?_
          refine j_iadd X (pc := 2599) dL_law_2599 ?_
          refine j_iald X (pc := 2600) 32 rfl dL_law_2600 hw (fun y2600 hw => ?_)
          refine j_aload_n X (pc := 2601) 0 dL_law_2601 rfl rfl ?_
          refine j_iload X (pc := 2602) 5 dL_law_2602 rfl ?_
          refine j_iconst X (pc := 2604) 2 dL_law_2604 (by decide) ?_
          refine j_iadd X (pc := 2605) dL_law_2605 ?_
          refine j_iald X (pc := 2606) 32 rfl dL_law_2606 hw (fun y2606 hw => ?_)
          refine j_aload_n X (pc := 2607) 3 dL_law_2607 rfl rfl ?_
          obtain ⟨hu9, hv9, hw⟩ := hw
          refine j_calli (j_runSW (n8 := 4) (As := [vR x1, vI y2600, vI y2606, vR x3]) (rest := []) X (pc := 2608) (met_X0_bendsByRounds (xl x) X.hl (xG x) h x1 y2600 y2606 x3 _ hw) q1570 q1571 q70 q1572 (by decide +kernel) dL_law_2608 rfl ⟨Nat.le_of_ble_eq_true rfl, Nat.le_of_ble_eq_true rfl⟩ (Nat.le_of_ble_eq_true rfl) ⟨hu9, hv9⟩) (fun y2608 h2608 hw => ?_)
          refine j_istore X (pc := 2611) [(6, vI y2608), (0, vR x0), (1, vR x1), (2, vR x2), (3, vR x3), (4, vR x4), (5, vI x5)] dL_law_2611 (Nat.le_of_ble_eq_true rfl) rfl ?_
          refine j_aload_n X (pc := 2613) 3 dL_law_2613 rfl rfl ?_
          refine j_aload_n X (pc := 2614) 1 dL_law_2614 rfl rfl ?_
          refine j_iload X (pc := 2615) 6 dL_law_2615 rfl ?_
          refine j_iconst X (pc := 2617) 1 dL_law_2617 (by decide) ?_
          refine j_iadd X (pc := 2618) dL_law_2618 ?_
          refine j_iald X (pc := 2619) 32 rfl dL_law_2619 hw (fun y2619 hw => ?_)
          refine j_aload_n X (pc := 2620) 1 dL_law_2620 rfl rfl ?_
          refine j_iload X (pc := 2621) 6 dL_law_2621 rfl ?_
          refine j_iconst X (pc := 2623) 2 dL_law_2623 (by decide) ?_
          refine j_iadd X (pc := 2624) dL_law_2624 ?_
          refine j_iald X (pc := 2625) 32 rfl dL_law_2625 hw (fun y2625 hw => ?_)
          obtain ⟨hu9, hv9, hw⟩ := hw
          obtain ⟨b9, c9, f9, hr9, ho9, hc9, hw⟩ := hw
          obtain rfl := List.mem_singleton.mp hc9
          refine j_calli (j_runV (n8 := 2) (As := [vI y2619, vI y2625]) (rest := []) X (pc := 2626) hr9 (met_X5_bendsByRounds (xl x) X.hl (xG x) h2608 x2 y2619 y2625 _ hw) ho9 (by decide) rfl q2267 q2268 q2269 q78 q2270 (by decide +kernel) dL_law_2626 rfl ⟨Nat.le_of_ble_eq_true rfl, Nat.le_of_ble_eq_true rfl⟩ (Nat.le_of_ble_eq_true rfl) ⟨hu9, hv9⟩) (fun y2626 h2626 hw => ?_)
          refine j_istore X (pc := 2629) [(7, vI y2626), (6, vI y2608), (0, vR x0), (1, vR x1), (2, vR x2), (3, vR x3), (4, vR x4), (5, vI x5)] dL_law_2629 (Nat.le_of_ble_eq_true rfl) rfl ?_
          refine j_aload_n X (pc := 2631) 4 dL_law_2631 rfl rfl ?_
          obtain ⟨hu9, hv9, hw⟩ := hw
          obtain ⟨b9, c9, f9, hr9, ho9, hc9, hw⟩ := hw
          obtain rfl := List.mem_singleton.mp hc9
          refine j_calli (j_runV (n8 := 0) (As := []) (rest := []) X (pc := 2632) hr9 (met_X5_thrown (xl x) X.hl (xG x) h2626 x2 _ hw) ho9 (by decide) rfl q1970 q1971 q1972 q78 q1973 (by decide +kernel) dL_law_2632 rfl ⟨Nat.le_of_ble_eq_true rfl, Nat.le_of_ble_eq_true rfl⟩ (Nat.le_of_ble_eq_true rfl) ⟨hu9, hv9⟩) (fun y2632 h2632 hw => ?_)
          refine j_iload X (pc := 2635) 1 dL_law_2635 rfl ?_
          refine j_icmp_eq X (pc := 2637) 2642 dL_law_2637 (by decide) hw (fun hw => ?_) (fun hw => ?_)
          · refine j_iload X (pc := 2642) 1 dL_law_2642 rfl ?_
            refine j_if_ne X (pc := 2644) 2659 dL_law_2644 (by decide) hw (fun hw => ?_) (fun hw => ?_)
            · refine j_aload_n X (pc := 2647) 5 dL_law_2647 rfl rfl ?_
              refine j_iconst X (pc := 2648) 0 dL_law_2648 (by decide) ?_
              refine j_lald X (pc := 2649) dL_law_2649 hw (fun y2649 hw => ?_)
              refine j_iload X (pc := 2650) 0 dL_law_2650 rfl ?_
              refine j_i2l X (pc := 2652) dL_law_2652 ?_
              refine j_lcmp X (pc := 2653) dL_law_2653 ?_
              refine j_if_eq X (pc := 2654) 2659 dL_law_2654 (by decide) hw (fun hw => ?_) (fun hw => ?_)
              · refine j_goto X (pc := 2659) 3387 dL_law_2659 (by decide) ?_
                refine j_iinc X (pc := 3387) 7 (x5 + 7) [(5, vI (x5 + 7)), (7, vI y2626), (6, vI y2608), (0, vR x0), (1, vR x1), (2, vR x2), (3, vR x3), (4, vR x4)] dL_law_3387 rfl rfl (Nat.le_of_ble_eq_true rfl) rfl ?_
                refine j_goto X (pc := 3390) 28 dL_law_3390 (by decide) ?_
                refine j_lv [(0, vR x0), (1, vR x1), (2, vR x2), (3, vR x3), (4, vR x4), (5, vI (x5 + 7))] [3, 4, 5, 6, 7, 0] rfl ?_
                exact hw
              · refine j_iconst X (pc := 2657) 0 dL_law_2657 (by decide) ?_
                obtain ⟨hu9, hv9, hw⟩ := hw
                exact j_endL X (pc := 2658) hQ hu9 hv9 dL_law_2658 hw
            · refine j_goto X (pc := 2659) 3387 dL_law_2659 (by decide) ?_
              refine j_iinc X (pc := 3387) 7 (x5 + 7) [(5, vI (x5 + 7)), (7, vI y2626), (6, vI y2608), (0, vR x0), (1, vR x1), (2, vR x2), (3, vR x3), (4, vR x4)] dL_law_3387 rfl rfl (Nat.le_of_ble_eq_true rfl) rfl ?_
              refine j_goto X (pc := 3390) 28 dL_law_3390 (by decide) ?_
              refine j_lv [(0, vR x0), (1, vR x1), (2, vR x2), (3, vR x3), (4, vR x4), (5, vI (x5 + 7))] [3, 4, 5, 6, 7, 0] rfl ?_
              exact hw
          · refine j_iconst X (pc := 2640) 0 dL_law_2640 (by decide) ?_
            obtain ⟨hu9, hv9, hw⟩ := hw
            exact j_endL X (pc := 2641) hQ hu9 hv9 dL_law_2641 hw
        | 34, ho, ha =>
          cases ho
          have hw := hw.2.2.2.2.2.2.2.2.2.2.2.2.2.2.2.2.2.2.2.2.2.2.2.2.2.2.2.2.2.2.2.2.2.2.1 ha
          refine ⟨2662, by decide, ?_⟩
          refine j_aload_n X (pc := 2662) 1 dL_law_2662 rfl rfl ?_
          refine j_aload_n X (pc := 2663) 0 dL_law_2663 rfl rfl ?_
          refine j_iload X (pc := 2664) 5 dL_law_2664 rfl ?_
          refine j_iconst X (pc := 2666) 1 dL_law_2666 (by decide) ?_
          refine j_iadd X (pc := 2667) dL_law_2667 ?_
          refine j_iald X (pc := 2668) 32 rfl dL_law_2668 hw (fun y2668 hw => ?_)
          refine j_aload_n X (pc := 2669) 0 dL_law_2669 rfl rfl ?_
          refine j_iload X (pc := 2670) 5 dL_law_2670 rfl ?_
          refine j_iconst X (pc := 2672) 2 dL_law_2672 (by decide) ?_
          refine j_iadd X (pc := 2673) dL_law_2673 ?_
          refine j_iald X (pc := 2674) 32 rfl dL_law_2674 hw (fun y2674 hw => ?_)
          refine j_aload_n X (pc := 2675) 3 dL_law_2675 rfl rfl ?_
          obtain ⟨hu9, hv9, hw⟩ := hw
          refine j_calli (j_runSW (n8 := 4) (As := [vR x1, vI y2668, vI y2674, vR x3]) (rest := []) X (pc := 2676) (met_X0_routeLength (xl x) X.hl (xG x) h x1 y2668 y2674 x3 _ hw) q1581 q1582 q70 q1583 (by decide +kernel) dL_law_2676 rfl ⟨Nat.le_of_ble_eq_true rfl, Nat.le_of_ble_eq_true rfl⟩ (Nat.le_of_ble_eq_true rfl) ⟨hu9, hv9⟩) (fun y2676 h2676 hw => ?_)
          refine j_istore X (pc := 2679) [(6, vI y2676), (0, vR x0), (1, vR x1), (2, vR x2), (3, vR x3), (4, vR x4), (5, vI x5)] dL_law_2679 (Nat.le_of_ble_eq_true rfl) rfl ?_
          refine j_aload_n X (pc := 2681) 3 dL_law_2681 rfl rfl ?_
          refine j_aload_n X (pc := 2682) 1 dL_law_2682 rfl rfl ?_
          refine j_iload X (pc := 2683) 6 dL_law_2683 rfl ?_
          refine j_iconst X (pc := 2685) 1 dL_law_2685 (by decide) ?_
          refine j_iadd X (pc := 2686) dL_law_2686 ?_
          refine j_iald X (pc := 2687) 32 rfl dL_law_2687 hw (fun y2687 hw => ?_)
          refine j_aload_n X (pc := 2688) 1 dL_law_2688 rfl rfl ?_
          refine j_iload X (pc := 2689) 6 dL_law_2689 rfl ?_
          refine j_iconst X (pc := 2691) 2 dL_law_2691 (by decide) ?_
          refine j_iadd X (pc := 2692) dL_law_2692 ?_
          refine j_iald X (pc := 2693) 32 rfl dL_law_2693 hw (fun y2693 hw => ?_)
          obtain ⟨hu9, hv9, hw⟩ := hw
          obtain ⟨b9, c9, f9, hr9, ho9, hc9, hw⟩ := hw
          obtain rfl := List.mem_singleton.mp hc9
          refine j_calli (j_runV (n8 := 2) (As := [vI y2687, vI y2693]) (rest := []) X (pc := 2694) hr9 (met_X5_routeLength (xl x) X.hl (xG x) h2676 x2 y2687 y2693 _ hw) ho9 (by decide) rfl q2272 q2273 q2274 q78 q2275 (by decide +kernel) dL_law_2694 rfl ⟨Nat.le_of_ble_eq_true rfl, Nat.le_of_ble_eq_true rfl⟩ (Nat.le_of_ble_eq_true rfl) ⟨hu9, hv9⟩) (fun y2694 h2694 hw => ?_)
          refine j_istore X (pc := 2697) [(7, vI y2694), (6, vI y2676), (0, vR x0), (1, vR x1), (2, vR x2), (3, vR x3), (4, vR x4), (5, vI x5)] dL_law_2697 (Nat.le_of_ble_eq_true rfl) rfl ?_
          refine j_aload_n X (pc := 2699) 4 dL_law_2699 rfl rfl ?_
          obtain ⟨hu9, hv9, hw⟩ := hw
          obtain ⟨b9, c9, f9, hr9, ho9, hc9, hw⟩ := hw
          obtain rfl := List.mem_singleton.mp hc9
          refine j_calli (j_runV (n8 := 0) (As := []) (rest := []) X (pc := 2700) hr9 (met_X5_thrown (xl x) X.hl (xG x) h2694 x2 _ hw) ho9 (by decide) rfl q1970 q1971 q1972 q78 q1973 (by decide +kernel) dL_law_2700 rfl ⟨Nat.le_of_ble_eq_true rfl, Nat.le_of_ble_eq_true rfl⟩ (Nat.le_of_ble_eq_true rfl) ⟨hu9, hv9⟩) (fun y2700 h2700 hw => ?_)
          refine j_iload X (pc := 2703) 1 dL_law_2703 rfl ?_
          refine j_icmp_eq X (pc := 2705) 2710 dL_law_2705 (by decide) hw (fun hw => ?_) (fun hw => ?_)
          · refine j_iload X (pc := 2710) 1 dL_law_2710 rfl ?_
            refine j_if_ne X (pc := 2712) 2727 dL_law_2712 (by decide) hw (fun hw => ?_) (fun hw => ?_)
            · refine j_aload_n X (pc := 2715) 5 dL_law_2715 rfl rfl ?_
              refine j_iconst X (pc := 2716) 0 dL_law_2716 (by decide) ?_
              refine j_lald X (pc := 2717) dL_law_2717 hw (fun y2717 hw => ?_)
              refine j_iload X (pc := 2718) 0 dL_law_2718 rfl ?_
              refine j_i2l X (pc := 2720) dL_law_2720 ?_
              refine j_lcmp X (pc := 2721) dL_law_2721 ?_
              refine j_if_eq X (pc := 2722) 2727 dL_law_2722 (by decide) hw (fun hw => ?_) (fun hw => ?_)
              · refine j_goto X (pc := 2727) 3387 dL_law_2727 (by decide) ?_
                refine j_iinc X (pc := 3387) 7 (x5 + 7) [(5, vI (x5 + 7)), (7, vI y2694), (6, vI y2676), (0, vR x0), (1, vR x1), (2, vR x2), (3, vR x3), (4, vR x4)] dL_law_3387 rfl rfl (Nat.le_of_ble_eq_true rfl) rfl ?_
                refine j_goto X (pc := 3390) 28 dL_law_3390 (by decide) ?_
                refine j_lv [(0, vR x0), (1, vR x1), (2, vR x2), (3, vR x3), (4, vR x4), (5, vI (x5 + 7))] [3, 4, 5, 6, 7, 0] rfl ?_
                exact hw
              · refine j_iconst X (pc := 2725) 0 dL_law_2725 (by decide) ?_
                obtain ⟨hu9, hv9, hw⟩ := hw
                exact j_endL X (pc := 2726) hQ hu9 hv9 dL_law_2726 hw
            · refine j_goto X (pc := 2727) 3387 dL_law_2727 (by decide) ?_
              refine j_iinc X (pc := 3387) 7 (x5 + 7) [(5, vI (x5 + 7)), (7, vI y2694), (6, vI y2676), (0, vR x0), (1, vR x1), (2, vR x2), (3, vR x3), (4, vR x4)] dL_law_3387 rfl rfl (Nat.le_of_ble_eq_true rfl) rfl ?_
              refine j_goto X (pc := 3390) 28 dL_law_3390 (by decide) ?_
              refine j_lv [(0, vR x0), (1, vR x1), (2, vR x2), (3, vR x3), (4, vR x4), (5, vI (x5 + 7))] [3, 4, 5, 6, 7, 0] rfl ?_
              exact hw
          · refine j_iconst X (pc := 2708) 0 dL_law_2708 (by decide) ?_
            obtain ⟨hu9, hv9, hw⟩ := hw
            exact j_endL X (pc := 2709) hQ hu9 hv9 dL_law_2709 hw
        | 35, ho, ha =>
          cases ho
          have hw := hw.2.2.2.2.2.2.2.2.2.2.2.2.2.2.2.2.2.2.2.2.2.2.2.2.2.2.2.2.2.2.2.2.2.2.2.1 ha
          refine ⟨2730, by decide, ?_⟩
          refine j_aload_n X (pc := 2730) 1 dL_law_2730 rfl rfl ?_
          refine j_aload_n X (pc := 2731) 0 dL_law_2731 rfl rfl ?_
          refine j_iload X (pc := 2732) 5 dL_law_2732 rfl ?_
          refine j_iconst X (pc := 2734) 1 dL_law_2734 (by decide) ?_
          refine j_iadd X (pc := 2735) dL_law_2735 ?_
          refine j_iald X (pc := 2736) 32 rfl dL_law_2736 hw (fun y2736 hw => ?_)
          refine j_aload_n X (pc := 2737) 0 dL_law_2737 rfl rfl ?_
          refine j_iload X (pc := 2738) 5 dL_law_2738 rfl ?_
          refine j_iconst X (pc := 2740) 2 dL_law_2740 (by decide) ?_
          refine j_iadd X (pc := 2741) dL_law_2741 ?_
          refine j_iald X (pc := 2742) 32 rfl dL_law_2742 hw (fun y2742 hw => ?_)
          refine j_aload_n X (pc := 2743) 3 dL_law_2743 rfl rfl ?_
          obtain ⟨hu9, hv9, hw⟩ := hw
          refine j_calli (j_runSW (n8 := 4) (As := [vR x1, vI y2736, vI y2742, vR x3]) (rest := []) X (pc := 2744) (met_X0_ownVotes (xl x) X.hl (xG x) h x1 y2736 y2742 x3 _ hw) q1588 q1589 q70 q1590 (by decide +kernel) dL_law_2744 rfl ⟨Nat.le_of_ble_eq_true rfl, Nat.le_of_ble_eq_true rfl⟩ (Nat.le_of_ble_eq_true rfl) ⟨hu9, hv9⟩) (fun y2744 h2744 hw => ?_)
          refine j_istore X (pc := 2747) [(6, vI y2744), (0, vR x0), (1, vR x1), (2, vR x2), (3, vR x3), (4, vR x4), (5, vI x5)] dL_law_2747 (Nat.le_of_ble_eq_true rfl) rfl ?_
          refine j_aload_n X (pc := 2749) 3 dL_law_2749 rfl rfl ?_
          refine j_aload_n X (pc := 2750) 1 dL_law_2750 rfl rfl ?_
          refine j_iload X (pc := 2751) 6 dL_law_2751 rfl ?_
          refine j_iconst X (pc := 2753) 1 dL_law_2753 (by decide) ?_
          refine j_iadd X (pc := 2754) dL_law_2754 ?_
          refine j_iald X (pc := 2755) 32 rfl dL_law_2755 hw (fun y2755 hw => ?_)
          refine j_aload_n X (pc := 2756) 1 dL_law_2756 rfl rfl ?_
          refine j_iload X (pc := 2757) 6 dL_law_2757 rfl ?_
          refine j_iconst X (pc := 2759) 2 dL_law_2759 (by decide) ?_
          refine j_iadd X (pc := 2760) dL_law_2760 ?_
          refine j_iald X (pc := 2761) 32 rfl dL_law_2761 hw (fun y2761 hw => ?_)
          obtain ⟨hu9, hv9, hw⟩ := hw
          obtain ⟨b9, c9, f9, hr9, ho9, hc9, hw⟩ := hw
          obtain rfl := List.mem_singleton.mp hc9
          refine j_calli (j_runV (n8 := 2) (As := [vI y2755, vI y2761]) (rest := []) X (pc := 2762) hr9 (met_X5_ownVotes (xl x) X.hl (xG x) h2744 x2 y2755 y2761 _ hw) ho9 (by decide) rfl q2276 q2277 q2278 q78 q2279 (by decide +kernel) dL_law_2762 rfl ⟨Nat.le_of_ble_eq_true rfl, Nat.le_of_ble_eq_true rfl⟩ (Nat.le_of_ble_eq_true rfl) ⟨hu9, hv9⟩) (fun y2762 h2762 hw => ?_)
          refine j_istore X (pc := 2765) [(7, vI y2762), (6, vI y2744), (0, vR x0), (1, vR x1), (2, vR x2), (3, vR x3), (4, vR x4), (5, vI x5)] dL_law_2765 (Nat.le_of_ble_eq_true rfl) rfl ?_
          refine j_aload_n X (pc := 2767) 4 dL_law_2767 rfl rfl ?_
          obtain ⟨hu9, hv9, hw⟩ := hw
          obtain ⟨b9, c9, f9, hr9, ho9, hc9, hw⟩ := hw
          obtain rfl := List.mem_singleton.mp hc9
          refine j_calli (j_runV (n8 := 0) (As := []) (rest := []) X (pc := 2768) hr9 (met_X5_thrown (xl x) X.hl (xG x) h2762 x2 _ hw) ho9 (by decide) rfl q1970 q1971 q1972 q78 q1973 (by decide +kernel) dL_law_2768 rfl ⟨Nat.le_of_ble_eq_true rfl, Nat.le_of_ble_eq_true rfl⟩ (Nat.le_of_ble_eq_true rfl) ⟨hu9, hv9⟩) (fun y2768 h2768 hw => ?_)
          refine j_iload X (pc := 2771) 1 dL_law_2771 rfl ?_
          refine j_icmp_eq X (pc := 2773) 2778 dL_law_2773 (by decide) hw (fun hw => ?_) (fun hw => ?_)
          · refine j_iload X (pc := 2778) 1 dL_law_2778 rfl ?_
            refine j_if_ne X (pc := 2780) 2795 dL_law_2780 (by decide) hw (fun hw => ?_) (fun hw => ?_)
            · refine j_aload_n X (pc := 2783) 5 dL_law_2783 rfl rfl ?_
              refine j_iconst X (pc := 2784) 0 dL_law_2784 (by decide) ?_
              refine j_lald X (pc := 2785) dL_law_2785 hw (fun y2785 hw => ?_)
              refine j_iload X (pc := 2786) 0 dL_law_2786 rfl ?_
              refine j_i2l X (pc := 2788) dL_law_2788 ?_
              refine j_lcmp X (pc := 2789) dL_law_2789 ?_
              refine j_if_eq X (pc := 2790) 2795 dL_law_2790 (by decide) hw (fun hw => ?_) (fun hw => ?_)
              · refine j_goto X (pc := 2795) 3387 dL_law_2795 (by decide) ?_
                refine j_iinc X (pc := 3387) 7 (x5 + 7) [(5, vI (x5 + 7)), (7, vI y2762), (6, vI y2744), (0, vR x0), (1, vR x1), (2, vR x2), (3, vR x3), (4, vR x4)] dL_law_3387 rfl rfl (Nat.le_of_ble_eq_true rfl) rfl ?_
                refine j_goto X (pc := 3390) 28 dL_law_3390 (by decide) ?_
                refine j_lv [(0, vR x0), (1, vR x1), (2, vR x2), (3, vR x3), (4, vR x4), (5, vI (x5 + 7))] [3, 4, 5, 6, 7, 0] rfl ?_
                exact hw
              · refine j_iconst X (pc := 2793) 0 dL_law_2793 (by decide) ?_
                obtain ⟨hu9, hv9, hw⟩ := hw
                exact j_endL X (pc := 2794) hQ hu9 hv9 dL_law_2794 hw
            · refine j_goto X (pc := 2795) 3387 dL_law_2795 (by decide) ?_
              refine j_iinc X (pc := 3387) 7 (x5 + 7) [(5, vI (x5 + 7)), (7, vI y2762), (6, vI y2744), (0, vR x0), (1, vR x1), (2, vR x2), (3, vR x3), (4, vR x4)] dL_law_3387 rfl rfl (Nat.le_of_ble_eq_true rfl) rfl ?_
              refine j_goto X (pc := 3390) 28 dL_law_3390 (by decide) ?_
              refine j_lv [(0, vR x0), (1, vR x1), (2, vR x2), (3, vR x3), (4, vR x4), (5, vI (x5 + 7))] [3, 4, 5, 6, 7, 0] rfl ?_
              exact hw
          · refine j_iconst X (pc := 2776) 0 dL_law_2776 (by decide) ?_
            obtain ⟨hu9, hv9, hw⟩ := hw
            exact j_endL X (pc := 2777) hQ hu9 hv9 dL_law_2777 hw
        | 36, ho, ha =>
          cases ho
          have hw := hw.2.2.2.2.2.2.2.2.2.2.2.2.2.2.2.2.2.2.2.2.2.2.2.2.2.2.2.2.2.2.2.2.2.2.2.2.1 ha
          refine ⟨2798, by decide, ?_⟩
          refine j_aload_n X (pc := 2798) 1 dL_law_2798 rfl rfl ?_
          refine j_aload_n X (pc := 2799) 0 dL_law_2799 rfl rfl ?_
          refine j_iload X (pc := 2800) 5 dL_law_2800 rfl ?_
          refine j_iconst X (pc := 2802) 1 dL_law_2802 (by decide) ?_
          refine j_iadd X (pc := 2803) dL_law_2803 ?_
          refine j_iald X (pc := 2804) 32 rfl dL_law_2804 hw (fun y2804 hw => ?_)
          refine j_aload_n X (pc := 2805) 0 dL_law_2805 rfl rfl ?_
          refine j_iload X (pc := 2806) 5 dL_law_2806 rfl ?_
          refine j_iconst X (pc := 2808) 2 dL_law_2808 (by decide) ?_
          refine j_iadd X (pc := 2809) dL_law_2809 ?_
          refine j_iald X (pc := 2810) 32 rfl dL_law_2810 hw (fun y2810 hw => ?_)
          refine j_aload_n X (pc := 2811) 3 dL_law_2811 rfl rfl ?_
          obtain ⟨hu9, hv9, hw⟩ := hw
          refine j_calli (j_runSW (n8 := 4) (As := [vR x1, vI y2804, vI y2810, vR x3]) (rest := []) X (pc := 2812) (met_X0_votesFor (xl x) X.hl (xG x) h x1 y2804 y2810 x3 _ hw) q1595 q1596 q70 q1597 (by decide +kernel) dL_law_2812 rfl ⟨Nat.le_of_ble_eq_true rfl, Nat.le_of_ble_eq_true rfl⟩ (Nat.le_of_ble_eq_true rfl) ⟨hu9, hv9⟩) (fun y2812 h2812 hw => ?_)
          refine j_istore X (pc := 2815) [(6, vI y2812), (0, vR x0), (1, vR x1), (2, vR x2), (3, vR x3), (4, vR x4), (5, vI x5)] dL_law_2815 (Nat.le_of_ble_eq_true rfl) rfl ?_
          refine j_aload_n X (pc := 2817) 3 dL_law_2817 rfl rfl ?_
          refine j_aload_n X (pc := 2818) 1 dL_law_2818 rfl rfl ?_
          refine j_iload X (pc := 2819) 6 dL_law_2819 rfl ?_
          refine j_iconst X (pc := 2821) 1 dL_law_2821 (by decide) ?_
          refine j_iadd X (pc := 2822) dL_law_2822 ?_
          refine j_iald X (pc := 2823) 32 rfl dL_law_2823 hw (fun y2823 hw => ?_)
          refine j_aload_n X (pc := 2824) 1 dL_law_2824 rfl rfl ?_
          refine j_iload X (pc := 2825) 6 dL_law_2825 rfl ?_
          refine j_iconst X (pc := 2827) 2 dL_law_2827 (by decide) ?_
          refine j_iadd X (pc := 2828) dL_law_2828 ?_
          refine j_iald X (pc := 2829) 32 rfl dL_law_2829 hw (fun y2829 hw => ?_)
          obtain ⟨hu9, hv9, hw⟩ := hw
          obtain ⟨b9, c9, f9, hr9, ho9, hc9, hw⟩ := hw
          obtain rfl := List.mem_singleton.mp hc9
          refine j_calli (j_runV (n8 := 2) (As := [vI y2823, vI y2829]) (rest := []) X (pc := 2830) hr9 (met_X5_votesFor (xl x) X.hl (xG x) h2812 x2 y2823 y2829 _ hw) ho9 (by decide) rfl q2280 q2281 q2282 q78 q2283 (by decide +kernel) dL_law_2830 rfl ⟨Nat.le_of_ble_eq_true rfl, Nat.le_of_ble_eq_true rfl⟩ (Nat.le_of_ble_eq_true rfl) ⟨hu9, hv9⟩) (fun y2830 h2830 hw => ?_)
          refine j_istore X (pc := 2833) [(7, vI y2830), (6, vI y2812), (0, vR x0), (1, vR x1), (2, vR x2), (3, vR x3), (4, vR x4), (5, vI x5)] dL_law_2833 (Nat.le_of_ble_eq_true rfl) rfl ?_
          refine j_aload_n X (pc := 2835) 4 dL_law_2835 rfl rfl ?_
          obtain ⟨hu9, hv9, hw⟩ := hw
          obtain ⟨b9, c9, f9, hr9, ho9, hc9, hw⟩ := hw
          obtain rfl := List.mem_singleton.mp hc9
          refine j_calli (j_runV (n8 := 0) (As := []) (rest := []) X (pc := 2836) hr9 (met_X5_thrown (xl x) X.hl (xG x) h2830 x2 _ hw) ho9 (by decide) rfl q1970 q1971 q1972 q78 q1973 (by decide +kernel) dL_law_2836 rfl ⟨Nat.le_of_ble_eq_true rfl, Nat.le_of_ble_eq_true rfl⟩ (Nat.le_of_ble_eq_true rfl) ⟨hu9, hv9⟩) (fun y2836 h2836 hw => ?_)
          refine j_iload X (pc := 2839) 1 dL_law_2839 rfl ?_
          refine j_icmp_eq X (pc := 2841) 2846 dL_law_2841 (by decide) hw (fun hw => ?_) (fun hw => ?_)
          · refine j_iload X (pc := 2846) 1 dL_law_2846 rfl ?_
            refine j_if_ne X (pc := 2848) 2863 dL_law_2848 (by decide) hw (fun hw => ?_) (fun hw => ?_)
            · refine j_aload_n X (pc := 2851) 5 dL_law_2851 rfl rfl ?_
              refine j_iconst X (pc := 2852) 0 dL_law_2852 (by decide) ?_
              refine j_lald X (pc := 2853) dL_law_2853 hw (fun y2853 hw => ?_)
              refine j_iload X (pc := 2854) 0 dL_law_2854 rfl ?_
              refine j_i2l X (pc := 2856) dL_law_2856 ?_
              refine j_lcmp X (pc := 2857) dL_law_2857 ?_
              refine j_if_eq X (pc := 2858) 2863 dL_law_2858 (by decide) hw (fun hw => ?_) (fun hw => ?_)
              · refine j_goto X (pc := 2863) 3387 dL_law_2863 (by decide) ?_
                refine j_iinc X (pc := 3387) 7 (x5 + 7) [(5, vI (x5 + 7)), (7, vI y2830), (6, vI y2812), (0, vR x0), (1, vR x1), (2, vR x2), (3, vR x3), (4, vR x4)] dL_law_3387 rfl rfl (Nat.le_of_ble_eq_true rfl) rfl ?_
                refine j_goto X (pc := 3390) 28 dL_law_3390 (by decide) ?_
                refine j_lv [(0, vR x0), (1, vR x1), (2, vR x2), (3, vR x3), (4, vR x4), (5, vI (x5 + 7))] [3, 4, 5, 6, 7, 0] rfl ?_
                exact hw
              · refine j_iconst X (pc := 2861) 0 dL_law_2861 (by decide) ?_
                obtain ⟨hu9, hv9, hw⟩ := hw
                exact j_endL X (pc := 2862) hQ hu9 hv9 dL_law_2862 hw
            · refine j_goto X (pc := 2863) 3387 dL_law_2863 (by decide) ?_
              refine j_iinc X (pc := 3387) 7 (x5 + 7) [(5, vI (x5 + 7)), (7, vI y2830), (6, vI y2812), (0, vR x0), (1, vR x1), (2, vR x2), (3, vR x3), (4, vR x4)] dL_law_3387 rfl rfl (Nat.le_of_ble_eq_true rfl) rfl ?_
              refine j_goto X (pc := 3390) 28 dL_law_3390 (by decide) ?_
              refine j_lv [(0, vR x0), (1, vR x1), (2, vR x2), (3, vR x3), (4, vR x4), (5, vI (x5 + 7))] [3, 4, 5, 6, 7, 0] rfl ?_
              exact hw
          · refine j_iconst X (pc := 2844) 0 dL_law_2844 (by decide) ?_
            obtain ⟨hu9, hv9, hw⟩ := hw
            exact j_endL X (pc := 2845) hQ hu9 hv9 dL_law_2845 hw
        | 37, ho, ha =>
          cases ho
          have hw := hw.2.2.2.2.2.2.2.2.2.2.2.2.2.2.2.2.2.2.2.2.2.2.2.2.2.2.2.2.2.2.2.2.2.2.2.2.2.1 ha
          refine ⟨2866, by decide, ?_⟩
          refine j_aload_n X (pc := 2866) 1 dL_law_2866 rfl rfl ?_
          refine j_aload_n X (pc := 2867) 0 dL_law_2867 rfl rfl ?_
          refine j_iload X (pc := 2868) 5 dL_law_2868 rfl ?_
          refine j_iconst X (pc := 2870) 1 dL_law_2870 (by decide) ?_
          refine j_iadd X (pc := 2871) dL_law_2871 ?_
          refine j_iald X (pc := 2872) 32 rfl dL_law_2872 hw (fun y2872 hw => ?_)
          refine j_aload_n X (pc := 2873) 3 dL_law_2873 rfl rfl ?_
          obtain ⟨hu9, hv9, hw⟩ := hw
          refine j_calli (j_runSW (n8 := 3) (As := [vR x1, vI y2872, vR x3]) (rest := []) X (pc := 2874) (met_X0_winner (xl x) X.hl (xG x) h x1 y2872 x3 _ hw) q1605 q1606 q70 q1607 (by decide +kernel) dL_law_2874 rfl ⟨Nat.le_of_ble_eq_true rfl, Nat.le_of_ble_eq_true rfl⟩ (Nat.le_of_ble_eq_true rfl) ⟨hu9, hv9⟩) (fun y2874 h2874 hw => ?_)
          refine j_istore X (pc := 2877) [(6, vI y2874), (0, vR x0), (1, vR x1), (2, vR x2), (3, vR x3), (4, vR x4), (5, vI x5)] dL_law_2877 (Nat.le_of_ble_eq_true rfl) rfl ?_
          refine j_aload_n X (pc := 2879) 3 dL_law_2879 rfl rfl ?_
          refine j_aload_n X (pc := 2880) 1 dL_law_2880 rfl rfl ?_
          refine j_iload X (pc := 2881) 6 dL_law_2881 rfl ?_
          refine j_iconst X (pc := 2883) 1 dL_law_2883 (by decide) ?_
          refine j_iadd X (pc := 2884) dL_law_2884 ?_
          refine j_iald X (pc := 2885) 32 rfl dL_law_2885 hw (fun y2885 hw => ?_)
          obtain ⟨hu9, hv9, hw⟩ := hw
          obtain ⟨b9, c9, f9, hr9, ho9, hc9, hw⟩ := hw
          obtain rfl := List.mem_singleton.mp hc9
          refine j_calli (j_runV (n8 := 1) (As := [vI y2885]) (rest := []) X (pc := 2886) hr9 (met_X5_winner (xl x) X.hl (xG x) h2874 x2 y2885 _ hw) ho9 (by decide) rfl q2288 q2289 q2290 q78 q2291 (by decide +kernel) dL_law_2886 rfl ⟨Nat.le_of_ble_eq_true rfl, Nat.le_of_ble_eq_true rfl⟩ (Nat.le_of_ble_eq_true rfl) ⟨hu9, hv9⟩) (fun y2886 h2886 hw => ?_)
          refine j_istore X (pc := 2889) [(7, vI y2886), (6, vI y2874), (0, vR x0), (1, vR x1), (2, vR x2), (3, vR x3), (4, vR x4), (5, vI x5)] dL_law_2889 (Nat.le_of_ble_eq_true rfl) rfl ?_
          refine j_aload_n X (pc := 2891) 4 dL_law_2891 rfl rfl ?_
          obtain ⟨hu9, hv9, hw⟩ := hw
          obtain ⟨b9, c9, f9, hr9, ho9, hc9, hw⟩ := hw
          obtain rfl := List.mem_singleton.mp hc9
          refine j_calli (j_runV (n8 := 0) (As := []) (rest := []) X (pc := 2892) hr9 (met_X5_thrown (xl x) X.hl (xG x) h2886 x2 _ hw) ho9 (by decide) rfl q1970 q1971 q1972 q78 q1973 (by decide +kernel) dL_law_2892 rfl ⟨Nat.le_of_ble_eq_true rfl, Nat.le_of_ble_eq_true rfl⟩ (Nat.le_of_ble_eq_true rfl) ⟨hu9, hv9⟩) (fun y2892 h2892 hw => ?_)
          refine j_iload X (pc := 2895) 1 dL_law_2895 rfl ?_
          refine j_icmp_eq X (pc := 2897) 2902 dL_law_2897 (by decide) hw (fun hw => ?_) (fun hw => ?_)
          · refine j_iload X (pc := 2902) 1 dL_law_2902 rfl ?_
            refine j_if_ne X (pc := 2904) 2919 dL_law_2904 (by decide) hw (fun hw => ?_) (fun hw => ?_)
            · refine j_aload_n X (pc := 2907) 5 dL_law_2907 rfl rfl ?_
              refine j_iconst X (pc := 2908) 0 dL_law_2908 (by decide) ?_
              refine j_lald X (pc := 2909) dL_law_2909 hw (fun y2909 hw => ?_)
              refine j_iload X (pc := 2910) 0 dL_law_2910 rfl ?_
              refine j_i2l X (pc := 2912) dL_law_2912 ?_
              refine j_lcmp X (pc := 2913) dL_law_2913 ?_
              refine j_if_eq X (pc := 2914) 2919 dL_law_2914 (by decide) hw (fun hw => ?_) (fun hw => ?_)
              · refine j_goto X (pc := 2919) 3387 dL_law_2919 (by decide) ?_
                refine j_iinc X (pc := 3387) 7 (x5 + 7) [(5, vI (x5 + 7)), (7, vI y2886), (6, vI y2874), (0, vR x0), (1, vR x1), (2, vR x2), (3, vR x3), (4, vR x4)] dL_law_3387 rfl rfl (Nat.le_of_ble_eq_true rfl) rfl ?_
                refine j_goto X (pc := 3390) 28 dL_law_3390 (by decide) ?_
                refine j_lv [(0, vR x0), (1, vR x1), (2, vR x2), (3, vR x3), (4, vR x4), (5, vI (x5 + 7))] [3, 4, 5, 6, 7, 0] rfl ?_
                exact hw
              · refine j_iconst X (pc := 2917) 0 dL_law_2917 (by decide) ?_
                obtain ⟨hu9, hv9, hw⟩ := hw
                exact j_endL X (pc := 2918) hQ hu9 hv9 dL_law_2918 hw
            · refine j_goto X (pc := 2919) 3387 dL_law_2919 (by decide) ?_
              refine j_iinc X (pc := 3387) 7 (x5 + 7) [(5, vI (x5 + 7)), (7, vI y2886), (6, vI y2874), (0, vR x0), (1, vR x1), (2, vR x2), (3, vR x3), (4, vR x4)] dL_law_3387 rfl rfl (Nat.le_of_ble_eq_true rfl) rfl ?_
              refine j_goto X (pc := 3390) 28 dL_law_3390 (by decide) ?_
              refine j_lv [(0, vR x0), (1, vR x1), (2, vR x2), (3, vR x3), (4, vR x4), (5, vI (x5 + 7))] [3, 4, 5, 6, 7, 0] rfl ?_
              exact hw
          · refine j_iconst X (pc := 2900) 0 dL_law_2900 (by decide) ?_
            obtain ⟨hu9, hv9, hw⟩ := hw
            exact j_endL X (pc := 2901) hQ hu9 hv9 dL_law_2901 hw
        | 38, ho, ha =>
          cases ho
          have hw := hw.2.2.2.2.2.2.2.2.2.2.2.2.2.2.2.2.2.2.2.2.2.2.2.2.2.2.2.2.2.2.2.2.2.2.2.2.2.2.1 ha
          refine ⟨2922, by decide, ?_⟩
          refine j_aload_n X (pc := 2922) 1 dL_law_2922 rfl rfl ?_
          refine j_aload_n X (pc := 2923) 0 dL_law_2923 rfl rfl ?_
          refine j_iload X (pc := 2924) 5 dL_law_2924 rfl ?_
          refine j_iconst X (pc := 2926) 1 dL_law_2926 (by decide) ?_
          refine j_iadd X (pc := 2927) dL_law_2927 ?_
          refine j_iald X (pc := 2928) 32 rfl dL_law_2928 hw (fun y2928 hw => ?_)
          refine j_aload_n X (pc := 2929) 3 dL_law_2929 rfl rfl ?_
          obtain ⟨hu9, hv9, hw⟩ := hw
          refine j_calli (j_runSW (n8 := 3) (As := [vR x1, vI y2928, vR x3]) (rest := []) X (pc := 2930) (met_X0_outcome (xl x) X.hl (xG x) h x1 y2928 x3 _ hw) q1613 q1614 q70 q1615 (by decide +kernel) dL_law_2930 rfl ⟨Nat.le_of_ble_eq_true rfl, Nat.le_of_ble_eq_true rfl⟩ (Nat.le_of_ble_eq_true rfl) ⟨hu9, hv9⟩) (fun y2930 h2930 hw => ?_)
          refine j_istore X (pc := 2933) [(6, vI y2930), (0, vR x0), (1, vR x1), (2, vR x2), (3, vR x3), (4, vR x4), (5, vI x5)] dL_law_2933 (Nat.le_of_ble_eq_true rfl) rfl ?_
          refine j_aload_n X (pc := 2935) 3 dL_law_2935 rfl rfl ?_
          refine j_aload_n X (pc := 2936) 1 dL_law_2936 rfl rfl ?_
          refine j_iload X (pc := 2937) 6 dL_law_2937 rfl ?_
          refine j_iconst X (pc := 2939) 1 dL_law_2939 (by decide) ?_
          refine j_iadd X (pc := 2940) dL_law_2940 ?_
          refine j_iald X (pc := 2941) 32 rfl dL_law_2941 hw (fun y2941 hw => ?_)
          obtain ⟨hu9, hv9, hw⟩ := hw
          obtain ⟨b9, c9, f9, hr9, ho9, hc9, hw⟩ := hw
          obtain rfl := List.mem_singleton.mp hc9
          refine j_calli (j_runV (n8 := 1) (As := [vI y2941]) (rest := []) X (pc := 2942) hr9 (met_X5_outcome (xl x) X.hl (xG x) h2930 x2 y2941 _ hw) ho9 (by decide) rfl q2292 q2293 q2294 q78 q2295 (by decide +kernel) dL_law_2942 rfl ⟨Nat.le_of_ble_eq_true rfl, Nat.le_of_ble_eq_true rfl⟩ (Nat.le_of_ble_eq_true rfl) ⟨hu9, hv9⟩) (fun y2942 h2942 hw => ?_)
          refine j_istore X (pc := 2945) [(7, vI y2942), (6, vI y2930), (0, vR x0), (1, vR x1), (2, vR x2), (3, vR x3), (4, vR x4), (5, vI x5)] dL_law_2945 (Nat.le_of_ble_eq_true rfl) rfl ?_
          refine j_aload_n X (pc := 2947) 4 dL_law_2947 rfl rfl ?_
          obtain ⟨hu9, hv9, hw⟩ := hw
          obtain ⟨b9, c9, f9, hr9, ho9, hc9, hw⟩ := hw
          obtain rfl := List.mem_singleton.mp hc9
          refine j_calli (j_runV (n8 := 0) (As := []) (rest := []) X (pc := 2948) hr9 (met_X5_thrown (xl x) X.hl (xG x) h2942 x2 _ hw) ho9 (by decide) rfl q1970 q1971 q1972 q78 q1973 (by decide +kernel) dL_law_2948 rfl ⟨Nat.le_of_ble_eq_true rfl, Nat.le_of_ble_eq_true rfl⟩ (Nat.le_of_ble_eq_true rfl) ⟨hu9, hv9⟩) (fun y2948 h2948 hw => ?_)
          refine j_iload X (pc := 2951) 1 dL_law_2951 rfl ?_
          refine j_icmp_eq X (pc := 2953) 2958 dL_law_2953 (by decide) hw (fun hw => ?_) (fun hw => ?_)
          · refine j_iload X (pc := 2958) 1 dL_law_2958 rfl ?_
            refine j_if_ne X (pc := 2960) 2975 dL_law_2960 (by decide) hw (fun hw => ?_) (fun hw => ?_)
            · refine j_aload_n X (pc := 2963) 5 dL_law_2963 rfl rfl ?_
              refine j_iconst X (pc := 2964) 0 dL_law_2964 (by decide) ?_
              refine j_lald X (pc := 2965) dL_law_2965 hw (fun y2965 hw => ?_)
              refine j_iload X (pc := 2966) 0 dL_law_2966 rfl ?_
              refine j_i2l X (pc := 2968) dL_law_2968 ?_
              refine j_lcmp X (pc := 2969) dL_law_2969 ?_
              refine j_if_eq X (pc := 2970) 2975 dL_law_2970 (by decide) hw (fun hw => ?_) (fun hw => ?_)
              · refine j_goto X (pc := 2975) 3387 dL_law_2975 (by decide) ?_
                refine j_iinc X (pc := 3387) 7 (x5 + 7) [(5, vI (x5 + 7)), (7, vI y2942), (6, vI y2930), (0, vR x0), (1, vR x1), (2, vR x2), (3, vR x3), (4, vR x4)] dL_law_3387 rfl rfl (Nat.le_of_ble_eq_true rfl) rfl ?_
                refine j_goto X (pc := 3390) 28 dL_law_3390 (by decide) ?_
                refine j_lv [(0, vR x0), (1, vR x1), (2, vR x2), (3, vR x3), (4, vR x4), (5, vI (x5 + 7))] [3, 4, 5, 6, 7, 0] rfl ?_
                exact hw
              · refine j_iconst X (pc := 2973) 0 dL_law_2973 (by decide) ?_
                obtain ⟨hu9, hv9, hw⟩ := hw
                exact j_endL X (pc := 2974) hQ hu9 hv9 dL_law_2974 hw
            · refine j_goto X (pc := 2975) 3387 dL_law_2975 (by decide) ?_
              refine j_iinc X (pc := 3387) 7 (x5 + 7) [(5, vI (x5 + 7)), (7, vI y2942), (6, vI y2930), (0, vR x0), (1, vR x1), (2, vR x2), (3, vR x3), (4, vR x4)] dL_law_3387 rfl rfl (Nat.le_of_ble_eq_true rfl) rfl ?_
              refine j_goto X (pc := 3390) 28 dL_law_3390 (by decide) ?_
              refine j_lv [(0, vR x0), (1, vR x1), (2, vR x2), (3, vR x3), (4, vR x4), (5, vI (x5 + 7))] [3, 4, 5, 6, 7, 0] rfl ?_
              exact hw
          · refine j_iconst X (pc := 2956) 0 dL_law_2956 (by decide) ?_
            obtain ⟨hu9, hv9, hw⟩ := hw
            exact j_endL X (pc := 2957) hQ hu9 hv9 dL_law_2957 hw
        | 39, ho, ha =>
          cases ho
          have hw := hw.2.2.2.2.2.2.2.2.2.2.2.2.2.2.2.2.2.2.2.2.2.2.2.2.2.2.2.2.2.2.2.2.2.2.2.2.2.2.2.1 ha
          refine ⟨2978, by decide, ?_⟩
          refine j_aload_n X (pc := 2978) 1 dL_law_2978 rfl rfl ?_
          refine j_aload_n X (pc := 2979) 0 dL_law_2979 rfl rfl ?_
          refine j_iload X (pc := 2980) 5 dL_law_2980 rfl ?_
          refine j_iconst X (pc := 2982) 1 dL_law_2982 (by decide) ?_
          refine j_iadd X (pc := 2983) dL_law_2983 ?_
          refine j_iald X (pc := 2984) 32 rfl dL_law_2984 hw (fun y2984 hw => ?_)
          refine j_aload_n X (pc := 2985) 3 dL_law_2985 rfl rfl ?_
          obtain ⟨hu9, hv9, hw⟩ := hw
          refine j_calli (j_runSW (n8 := 3) (As := [vR x1, vI y2984, vR x3]) (rest := []) X (pc := 2986) (met_X0_outcomeAnew (xl x) X.hl (xG x) h x1 y2984 x3 _ hw) q1650 q1651 q70 q1652 (by decide +kernel) dL_law_2986 rfl ⟨Nat.le_of_ble_eq_true rfl, Nat.le_of_ble_eq_true rfl⟩ (Nat.le_of_ble_eq_true rfl) ⟨hu9, hv9⟩) (fun y2986 h2986 hw => ?_)
          refine j_istore X (pc := 2989) [(6, vI y2986), (0, vR x0), (1, vR x1), (2, vR x2), (3, vR x3), (4, vR x4), (5, vI x5)] dL_law_2989 (Nat.le_of_ble_eq_true rfl) rfl ?_
          refine j_aload_n X (pc := 2991) 3 dL_law_2991 rfl rfl ?_
          refine j_aload_n X (pc := 2992) 1 dL_law_2992 rfl rfl ?_
          refine j_iload X (pc := 2993) 6 dL_law_2993 rfl ?_
          refine j_iconst X (pc := 2995) 1 dL_law_2995 (by decide) ?_
          refine j_iadd X (pc := 2996) dL_law_2996 ?_
          refine j_iald X (pc := 2997) 32 rfl dL_law_2997 hw (fun y2997 hw => ?_)
          obtain ⟨hu9, hv9, hw⟩ := hw
          obtain ⟨b9, c9, f9, hr9, ho9, hc9, hw⟩ := hw
          obtain rfl := List.mem_singleton.mp hc9
          refine j_calli (j_runV (n8 := 1) (As := [vI y2997]) (rest := []) X (pc := 2998) hr9 (met_X5_outcomeAnew (xl x) X.hl (xG x) h2986 x2 y2997 _ hw) ho9 (by decide) rfl q2305 q2306 q2307 q78 q2308 (by decide +kernel) dL_law_2998 rfl ⟨Nat.le_of_ble_eq_true rfl, Nat.le_of_ble_eq_true rfl⟩ (Nat.le_of_ble_eq_true rfl) ⟨hu9, hv9⟩) (fun y2998 h2998 hw => ?_)
          refine j_istore X (pc := 3001) [(7, vI y2998), (6, vI y2986), (0, vR x0), (1, vR x1), (2, vR x2), (3, vR x3), (4, vR x4), (5, vI x5)] dL_law_3001 (Nat.le_of_ble_eq_true rfl) rfl ?_
          refine j_aload_n X (pc := 3003) 4 dL_law_3003 rfl rfl ?_
          obtain ⟨hu9, hv9, hw⟩ := hw
          obtain ⟨b9, c9, f9, hr9, ho9, hc9, hw⟩ := hw
          obtain rfl := List.mem_singleton.mp hc9
          refine j_calli (j_runV (n8 := 0) (As := []) (rest := []) X (pc := 3004) hr9 (met_X5_thrown (xl x) X.hl (xG x) h2998 x2 _ hw) ho9 (by decide) rfl q1970 q1971 q1972 q78 q1973 (by decide +kernel) dL_law_3004 rfl ⟨Nat.le_of_ble_eq_true rfl, Nat.le_of_ble_eq_true rfl⟩ (Nat.le_of_ble_eq_true rfl) ⟨hu9, hv9⟩) (fun y3004 h3004 hw => ?_)
          refine j_iload X (pc := 3007) 1 dL_law_3007 rfl ?_
          refine j_icmp_eq X (pc := 3009) 3014 dL_law_3009 (by decide) hw (fun hw => ?_) (fun hw => ?_)
          · refine j_iload X (pc := 3014) 1 dL_law_3014 rfl ?_
            refine j_if_ne X (pc := 3016) 3031 dL_law_3016 (by decide) hw (fun hw => ?_) (fun hw => ?_)
            · refine j_aload_n X (pc := 3019) 5 dL_law_3019 rfl rfl ?_
              refine j_iconst X (pc := 3020) 0 dL_law_3020 (by decide) ?_
              refine j_lald X (pc := 3021) dL_law_3021 hw (fun y3021 hw => ?_)
              refine j_iload X (pc := 3022) 0 dL_law_3022 rfl ?_
              refine j_i2l X (pc := 3024) dL_law_3024 ?_
              refine j_lcmp X (pc := 3025) dL_law_3025 ?_
              refine j_if_eq X (pc := 3026) 3031 dL_law_3026 (by decide) hw (fun hw => ?_) (fun hw => ?_)
              · refine j_goto X (pc := 3031) 3387 dL_law_3031 (by decide) ?_
                refine j_iinc X (pc := 3387) 7 (x5 + 7) [(5, vI (x5 + 7)), (7, vI y2998), (6, vI y2986), (0, vR x0), (1, vR x1), (2, vR x2), (3, vR x3), (4, vR x4)] dL_law_3387 rfl rfl (Nat.le_of_ble_eq_true rfl) rfl ?_
                refine j_goto X (pc := 3390) 28 dL_law_3390 (by decide) ?_
                refine j_lv [(0, vR x0), (1, vR x1), (2, vR x2), (3, vR x3), (4, vR x4), (5, vI (x5 + 7))] [3, 4, 5, 6, 7, 0] rfl ?_
                exact hw
              · refine j_iconst X (pc := 3029) 0 dL_law_3029 (by decide) ?_
                obtain ⟨hu9, hv9, hw⟩ := hw
                exact j_endL X (pc := 3030) hQ hu9 hv9 dL_law_3030 hw
            · refine j_goto X (pc := 3031) 3387 dL_law_3031 (by decide) ?_
              refine j_iinc X (pc := 3387) 7 (x5 + 7) [(5, vI (x5 + 7)), (7, vI y2998), (6, vI y2986), (0, vR x0), (1, vR x1), (2, vR x2), (3, vR x3), (4, vR x4)] dL_law_3387 rfl rfl (Nat.le_of_ble_eq_true rfl) rfl ?_
              refine j_goto X (pc := 3390) 28 dL_law_3390 (by decide) ?_
              refine j_lv [(0, vR x0), (1, vR x1), (2, vR x2), (3, vR x3), (4, vR x4), (5, vI (x5 + 7))] [3, 4, 5, 6, 7, 0] rfl ?_
              exact hw
          · refine j_iconst X (pc := 3012) 0 dL_law_3012 (by decide) ?_
            obtain ⟨hu9, hv9, hw⟩ := hw
            exact j_endL X (pc := 3013) hQ hu9 hv9 dL_law_3013 hw
        | 40, ho, ha =>
          cases ho
          have hw := hw.2.2.2.2.2.2.2.2.2.2.2.2.2.2.2.2.2.2.2.2.2.2.2.2.2.2.2.2.2.2.2.2.2.2.2.2.2.2.2.2.1 ha
          refine ⟨3034, by decide, ?_⟩
          refine j_aload_n X (pc := 3034) 1 dL_law_3034 rfl rfl ?_
          refine j_aload_n X (pc := 3035) 0 dL_law_3035 rfl rfl ?_
          refine j_iload X (pc := 3036) 5 dL_law_3036 rfl ?_
          refine j_iconst X (pc := 3038) 1 dL_law_3038 (by decide) ?_
          refine j_iadd X (pc := 3039) dL_law_3039 ?_
          refine j_iald X (pc := 3040) 32 rfl dL_law_3040 hw (fun y3040 hw => ?_)
          refine j_aload_n X (pc := 3041) 0 dL_law_3041 rfl rfl ?_
          refine j_iload X (pc := 3042) 5 dL_law_3042 rfl ?_
          refine j_iconst X (pc := 3044) 2 dL_law_3044 (by decide) ?_
          refine j_iadd X (pc := 3045) dL_law_3045 ?_
          refine j_iald X (pc := 3046) 32 rfl dL_law_3046 hw (fun y3046 hw => ?_)
          refine j_aload_n X (pc := 3047) 3 dL_law_3047 rfl rfl ?_
          obtain ⟨hu9, hv9, hw⟩ := hw
          refine j_calli (j_runSW (n8 := 4) (As := [vR x1, vI y3040, vI y3046, vR x3]) (rest := []) X (pc := 3048) (met_X0_outcomes (xl x) X.hl (xG x) h x1 y3040 y3046 x3 _ hw) q1663 q1664 q70 q1665 (by decide +kernel) dL_law_3048 rfl ⟨Nat.le_of_ble_eq_true rfl, Nat.le_of_ble_eq_true rfl⟩ (Nat.le_of_ble_eq_true rfl) ⟨hu9, hv9⟩) (fun y3048 h3048 hw => ?_)
          refine j_istore X (pc := 3051) [(6, vI y3048), (0, vR x0), (1, vR x1), (2, vR x2), (3, vR x3), (4, vR x4), (5, vI x5)] dL_law_3051 (Nat.le_of_ble_eq_true rfl) rfl ?_
          refine j_aload_n X (pc := 3053) 3 dL_law_3053 rfl rfl ?_
          refine j_aload_n X (pc := 3054) 1 dL_law_3054 rfl rfl ?_
          refine j_iload X (pc := 3055) 6 dL_law_3055 rfl ?_
          refine j_iconst X (pc := 3057) 1 dL_law_3057 (by decide) ?_
          refine j_iadd X (pc := 3058) dL_law_3058 ?_
          refine j_iald X (pc := 3059) 32 rfl dL_law_3059 hw (fun y3059 hw => ?_)
          refine j_aload_n X (pc := 3060) 1 dL_law_3060 rfl rfl ?_
          refine j_iload X (pc := 3061) 6 dL_law_3061 rfl ?_
          refine j_iconst X (pc := 3063) 2 dL_law_3063 (by decide) ?_
          refine j_iadd X (pc := 3064) dL_law_3064 ?_
          refine j_iald X (pc := 3065) 32 rfl dL_law_3065 hw (fun y3065 hw => ?_)
          obtain ⟨hu9, hv9, hw⟩ := hw
          obtain ⟨b9, c9, f9, hr9, ho9, hc9, hw⟩ := hw
          obtain rfl := List.mem_singleton.mp hc9
          refine j_calli (j_runV (n8 := 2) (As := [vI y3059, vI y3065]) (rest := []) X (pc := 3066) hr9 (met_X5_outcomes (xl x) X.hl (xG x) h3048 x2 y3059 y3065 _ hw) ho9 (by decide) rfl q2310 q2311 q2312 q78 q2313 (by decide +kernel) dL_law_3066 rfl ⟨Nat.le_of_ble_eq_true rfl, Nat.le_of_ble_eq_true rfl⟩ (Nat.le_of_ble_eq_true rfl) ⟨hu9, hv9⟩) (fun y3066 h3066 hw => ?_)
          refine j_istore X (pc := 3069) [(7, vI y3066), (6, vI y3048), (0, vR x0), (1, vR x1), (2, vR x2), (3, vR x3), (4, vR x4), (5, vI x5)] dL_law_3069 (Nat.le_of_ble_eq_true rfl) rfl ?_
          refine j_aload_n X (pc := 3071) 4 dL_law_3071 rfl rfl ?_
          obtain ⟨hu9, hv9, hw⟩ := hw
          obtain ⟨b9, c9, f9, hr9, ho9, hc9, hw⟩ := hw
          obtain rfl := List.mem_singleton.mp hc9
          refine j_calli (j_runV (n8 := 0) (As := []) (rest := []) X (pc := 3072) hr9 (met_X5_thrown (xl x) X.hl (xG x) h3066 x2 _ hw) ho9 (by decide) rfl q1970 q1971 q1972 q78 q1973 (by decide +kernel) dL_law_3072 rfl ⟨Nat.le_of_ble_eq_true rfl, Nat.le_of_ble_eq_true rfl⟩ (Nat.le_of_ble_eq_true rfl) ⟨hu9, hv9⟩) (fun y3072 h3072 hw => ?_)
          refine j_iload X (pc := 3075) 1 dL_law_3075 rfl ?_
          refine j_icmp_eq X (pc := 3077) 3082 dL_law_3077 (by decide) hw (fun hw => ?_) (fun hw => ?_)
          · refine j_iload X (pc := 3082) 1 dL_law_3082 rfl ?_
            refine j_if_ne X (pc := 3084) 3099 dL_law_3084 (by decide) hw (fun hw => ?_) (fun hw => ?_)
            · refine j_aload_n X (pc := 3087) 5 dL_law_3087 rfl rfl ?_
              refine j_iconst X (pc := 3088) 0 dL_law_3088 (by decide) ?_
              refine j_lald X (pc := 3089) dL_law_3089 hw (fun y3089 hw => ?_)
              refine j_iload X (pc := 3090) 0 dL_law_3090 rfl ?_
              refine j_i2l X (pc := 3092) dL_law_3092 ?_
              refine j_lcmp X (pc := 3093) dL_law_3093 ?_
              refine j_if_eq X (pc := 3094) 3099 dL_law_3094 (by decide) hw (fun hw => ?_) (fun hw => ?_)
              · refine j_goto X (pc := 3099) 3387 dL_law_3099 (by decide) ?_
                refine j_iinc X (pc := 3387) 7 (x5 + 7) [(5, vI (x5 + 7)), (7, vI y3066), (6, vI y3048), (0, vR x0), (1, vR x1), (2, vR x2), (3, vR x3), (4, vR x4)] dL_law_3387 rfl rfl (Nat.le_of_ble_eq_true rfl) rfl ?_
                refine j_goto X (pc := 3390) 28 dL_law_3390 (by decide) ?_
                refine j_lv [(0, vR x0), (1, vR x1), (2, vR x2), (3, vR x3), (4, vR x4), (5, vI (x5 + 7))] [3, 4, 5, 6, 7, 0] rfl ?_
                exact hw
              · refine j_iconst X (pc := 3097) 0 dL_law_3097 (by decide) ?_
                obtain ⟨hu9, hv9, hw⟩ := hw
                exact j_endL X (pc := 3098) hQ hu9 hv9 dL_law_3098 hw
            · refine j_goto X (pc := 3099) 3387 dL_law_3099 (by decide) ?_
              refine j_iinc X (pc := 3387) 7 (x5 + 7) [(5, vI (x5 + 7)), (7, vI y3066), (6, vI y3048), (0, vR x0), (1, vR x1), (2, vR x2), (3, vR x3), (4, vR x4)] dL_law_3387 rfl rfl (Nat.le_of_ble_eq_true rfl) rfl ?_
              refine j_goto X (pc := 3390) 28 dL_law_3390 (by decide) ?_
              refine j_lv [(0, vR x0), (1, vR x1), (2, vR x2), (3, vR x3), (4, vR x4), (5, vI (x5 + 7))] [3, 4, 5, 6, 7, 0] rfl ?_
              exact hw
          · refine j_iconst X (pc := 3080) 0 dL_law_3080 (by decide) ?_
            obtain ⟨hu9, hv9, hw⟩ := hw
            exact j_endL X (pc := 3081) hQ hu9 hv9 dL_law_3081 hw
        | 41, ho, ha =>
          cases ho
          have hw := hw.2.2.2.2.2.2.2.2.2.2.2.2.2.2.2.2.2.2.2.2.2.2.2.2.2.2.2.2.2.2.2.2.2.2.2.2.2.2.2.2.2.1 ha
          refine ⟨3102, by decide, ?_⟩
          refine j_aload_n X (pc := 3102) 1 dL_law_3102 rfl rfl ?_
          refine j_aload_n X (pc := 3103) 0 dL_law_3103 rfl rfl ?_
          refine j_iload X (pc := 3104) 5 dL_law_3104 rfl ?_
          refine j_iconst X (pc := 3106) 1 dL_law_3106 (by decide) ?_
          refine j_iadd X (pc := 3107) dL_law_3107 ?_
          refine j_iald X (pc := 3108) 32 rfl dL_law_3108 hw (fun y3108 hw => ?_)
          refine j_aload_n X (pc := 3109) 0 dL_law_3109 rfl rfl ?_
          refine j_iload X (pc := 3110) 5 dL_law_3110 rfl ?_
          refine j_iconst X (pc := 3112) 2 dL_law_3112 (by decide) ?_
          refine j_iadd X (pc := 3113) dL_law_3113 ?_
          refine j_iald X (pc := 3114) 32 rfl dL_law_3114 hw (fun y3114 hw => ?_)
          refine j_aload_n X (pc := 3115) 3 dL_law_3115 rfl rfl ?_
          obtain ⟨hu9, hv9, hw⟩ := hw
          refine j_calli (j_runSW (n8 := 4) (As := [vR x1, vI y3108, vI y3114, vR x3]) (rest := []) X (pc := 3116) (met_X0_areAlike (xl x) X.hl (xG x) h x1 y3108 y3114 x3 _ hw) q1799 q1800 q70 q1801 (by decide +kernel) dL_law_3116 rfl ⟨Nat.le_of_ble_eq_true rfl, Nat.le_of_ble_eq_true rfl⟩ (Nat.le_of_ble_eq_true rfl) ⟨hu9, hv9⟩) (fun y3116 h3116 hw => ?_)
          refine j_istore X (pc := 3119) [(6, vI y3116), (0, vR x0), (1, vR x1), (2, vR x2), (3, vR x3), (4, vR x4), (5, vI x5)] dL_law_3119 (Nat.le_of_ble_eq_true rfl) rfl ?_
          refine j_aload_n X (pc := 3121) 3 dL_law_3121 rfl rfl ?_
          refine j_aload_n X (pc := 3122) 1 dL_law_3122 rfl rfl ?_
          refine j_iload X (pc := 3123) 6 dL_law_3123 rfl ?_
          refine j_iconst X (pc := 3125) 1 dL_law_3125 (by decide) ?_
          refine j_iadd X (pc := 3126) dL_law_3126 ?_
          refine j_iald X (pc := 3127) 32 rfl dL_law_3127 hw (fun y3127 hw => ?_)
          refine j_aload_n X (pc := 3128) 1 dL_law_3128 rfl rfl ?_
          refine j_iload X (pc := 3129) 6 dL_law_3129 rfl ?_
          refine j_iconst X (pc := 3131) 2 dL_law_3131 (by decide) ?_
          refine j_iadd X (pc := 3132) dL_law_3132 ?_
          refine j_iald X (pc := 3133) 32 rfl dL_law_3133 hw (fun y3133 hw => ?_)
          obtain ⟨hu9, hv9, hw⟩ := hw
          obtain ⟨b9, c9, f9, hr9, ho9, hc9, hw⟩ := hw
          obtain rfl := List.mem_singleton.mp hc9
          refine j_calli (j_runV (n8 := 2) (As := [vI y3127, vI y3133]) (rest := []) X (pc := 3134) hr9 (met_X5_areAlike (xl x) X.hl (xG x) h3116 x2 y3127 y3133 _ hw) ho9 (by decide) rfl q2314 q2315 q2316 q78 q2317 (by decide +kernel) dL_law_3134 rfl ⟨Nat.le_of_ble_eq_true rfl, Nat.le_of_ble_eq_true rfl⟩ (Nat.le_of_ble_eq_true rfl) ⟨hu9, hv9⟩) (fun y3134 h3134 hw => ?_)
          refine j_istore X (pc := 3137) [(7, vI y3134), (6, vI y3116), (0, vR x0), (1, vR x1), (2, vR x2), (3, vR x3), (4, vR x4), (5, vI x5)] dL_law_3137 (Nat.le_of_ble_eq_true rfl) rfl ?_
          refine j_aload_n X (pc := 3139) 4 dL_law_3139 rfl rfl ?_
          obtain ⟨hu9, hv9, hw⟩ := hw
          obtain ⟨b9, c9, f9, hr9, ho9, hc9, hw⟩ := hw
          obtain rfl := List.mem_singleton.mp hc9
          refine j_calli (j_runV (n8 := 0) (As := []) (rest := []) X (pc := 3140) hr9 (met_X5_thrown (xl x) X.hl (xG x) h3134 x2 _ hw) ho9 (by decide) rfl q1970 q1971 q1972 q78 q1973 (by decide +kernel) dL_law_3140 rfl ⟨Nat.le_of_ble_eq_true rfl, Nat.le_of_ble_eq_true rfl⟩ (Nat.le_of_ble_eq_true rfl) ⟨hu9, hv9⟩) (fun y3140 h3140 hw => ?_)
          refine j_iload X (pc := 3143) 1 dL_law_3143 rfl ?_
          refine j_icmp_eq X (pc := 3145) 3150 dL_law_3145 (by decide) hw (fun hw => ?_) (fun hw => ?_)
          · refine j_iload X (pc := 3150) 1 dL_law_3150 rfl ?_
            refine j_if_ne X (pc := 3152) 3174 dL_law_3152 (by decide) hw (fun hw => ?_) (fun hw => ?_)
            · refine j_aload_n X (pc := 3155) 5 dL_law_3155 rfl rfl ?_
              refine j_iconst X (pc := 3156) 0 dL_law_3156 (by decide) ?_
              refine j_lald X (pc := 3157) dL_law_3157 hw (fun y3157 hw => ?_)
              refine j_iload X (pc := 3158) 0 dL_law_3158 rfl ?_
              refine j_if_eq X (pc := 3160) 3167 dL_law_3160 (by decide) hw (fun hw => ?_) (fun hw => ?_)
              · refine j_lconst X (pc := 3167) 0 dL_law_3167 (by decide) ?_
                refine j_lv [(0, vR x0), (1, vR x1), (2, vR x2), (3, vR x3), (4, vR x4), (5, vI x5)] [2, 3, 4, 5, 6, 7] rfl ?_
                exact wk_L_law_3168 X er en hG hQ _ x0 x1 x2 x3 x4 x5 0 y3157 (u9 + 5) (v9 + 107) h3140 (fun x5_ u9_ v9_ h_ hz => hz) hw
              · refine j_lconst X (pc := 3163) 1 dL_law_3163 (by decide) ?_
                refine j_goto X (pc := 3164) 3168 dL_law_3164 (by decide) ?_
                refine j_lv [(0, vR x0), (1, vR x1), (2, vR x2), (3, vR x3), (4, vR x4), (5, vI x5)] [2, 3, 4, 5, 6, 7] rfl ?_
                exact wk_L_law_3168 X er en hG hQ _ x0 x1 x2 x3 x4 x5 1 y3157 (u9 + 5) (v9 + 107) h3140 (fun x5_ u9_ v9_ h_ hz => hz) hw
            · refine j_goto X (pc := 3174) 3387 dL_law_3174 (by decide) ?_
              refine j_iinc X (pc := 3387) 7 (x5 + 7) [(5, vI (x5 + 7)), (7, vI y3134), (6, vI y3116), (0, vR x0), (1, vR x1), (2, vR x2), (3, vR x3), (4, vR x4)] dL_law_3387 rfl rfl (Nat.le_of_ble_eq_true rfl) rfl ?_
              refine j_goto X (pc := 3390) 28 dL_law_3390 (by decide) ?_
              refine j_lv [(0, vR x0), (1, vR x1), (2, vR x2), (3, vR x3), (4, vR x4), (5, vI (x5 + 7))] [3, 4, 5, 6, 7, 0] rfl ?_
              exact hw
          · refine j_iconst X (pc := 3148) 0 dL_law_3148 (by decide) ?_
            obtain ⟨hu9, hv9, hw⟩ := hw
            exact j_endL X (pc := 3149) hQ hu9 hv9 dL_law_3149 hw
        | 42, ho, ha =>
          cases ho
          have hw := hw.2.2.2.2.2.2.2.2.2.2.2.2.2.2.2.2.2.2.2.2.2.2.2.2.2.2.2.2.2.2.2.2.2.2.2.2.2.2.2.2.2.2.1 ha
          refine ⟨3177, by decide, ?_⟩
          refine j_aload_n X (pc := 3177) 1 dL_law_3177 rfl rfl ?_
          refine j_aload_n X (pc := 3178) 0 dL_law_3178 rfl rfl ?_
          refine j_iload X (pc := 3179) 5 dL_law_3179 rfl ?_
          refine j_iconst X (pc := 3181) 1 dL_law_3181 (by decide) ?_
          refine j_iadd X (pc := 3182) dL_law_3182 ?_
          refine j_iald X (pc := 3183) 32 rfl dL_law_3183 hw (fun y3183 hw => ?_)
          refine j_aload X (pc := 3184) 4 dL_law_3184 rfl ?_
          obtain ⟨hu9, hv9, hw⟩ := hw
          refine j_calli (j_runSW (n8 := 3) (As := [vR x1, vI y3183, vR x4]) (rest := []) X (pc := 3186) (met_X0_frameShare (xl x) X.hl (xG x) h x1 y3183 x4 _ hw) q1806 q1807 q70 q1808 (by decide +kernel) dL_law_3186 rfl ⟨Nat.le_of_ble_eq_true rfl, Nat.le_of_ble_eq_true rfl⟩ (Nat.le_of_ble_eq_true rfl) ⟨hu9, hv9⟩) (fun y3186 h3186 hw => ?_)
          refine j_istore X (pc := 3189) [(6, vI y3186), (0, vR x0), (1, vR x1), (2, vR x2), (3, vR x3), (4, vR x4), (5, vI x5)] dL_law_3189 (Nat.le_of_ble_eq_true rfl) rfl ?_
          refine j_aload_n X (pc := 3191) 3 dL_law_3191 rfl rfl ?_
          refine j_aload_n X (pc := 3192) 1 dL_law_3192 rfl rfl ?_
          refine j_iload X (pc := 3193) 6 dL_law_3193 rfl ?_
          refine j_iconst X (pc := 3195) 1 dL_law_3195 (by decide) ?_
          refine j_iadd X (pc := 3196) dL_law_3196 ?_
          refine j_iald X (pc := 3197) 32 rfl dL_law_3197 hw (fun y3197 hw => ?_)
          obtain ⟨hu9, hv9, hw⟩ := hw
          obtain ⟨b9, c9, f9, hr9, ho9, hc9, hw⟩ := hw
          obtain rfl := List.mem_singleton.mp hc9
          refine j_callf (j_runV (n8 := 1) (As := [vI y3197]) (rest := []) X (pc := 3198) hr9 (met_X5_frameShare (xl x) X.hl (xG x) h3186 x2 y3197 _ hw) ho9 (by decide) rfl q2318 q2319 q2320 q78 q2321 (by decide +kernel) dL_law_3198 rfl ⟨Nat.le_of_ble_eq_true rfl, Nat.le_of_ble_eq_true rfl⟩ (Nat.le_of_ble_eq_true rfl) ⟨hu9, hv9⟩) (fun y3198 h3198 hw => ?_)
          refine j_fstore X (pc := 3201) [(7, vF y3198), (6, vI y3186), (0, vR x0), (1, vR x1), (2, vR x2), (3, vR x3), (4, vR x4), (5, vI x5)] dL_law_3201 (Nat.le_of_ble_eq_true rfl) rfl ?_
          refine j_aload_n X (pc := 3203) 4 dL_law_3203 rfl rfl ?_
          obtain ⟨hu9, hv9, hw⟩ := hw
          obtain ⟨b9, c9, f9, hr9, ho9, hc9, hw⟩ := hw
          obtain rfl := List.mem_singleton.mp hc9
          refine j_calli (j_runV (n8 := 0) (As := []) (rest := []) X (pc := 3204) hr9 (met_X5_thrown (xl x) X.hl (xG x) h3198 x2 _ hw) ho9 (by decide) rfl q1970 q1971 q1972 q78 q1973 (by decide +kernel) dL_law_3204 rfl ⟨Nat.le_of_ble_eq_true rfl, Nat.le_of_ble_eq_true rfl⟩ (Nat.le_of_ble_eq_true rfl) ⟨hu9, hv9⟩) (fun y3204 h3204 hw => ?_)
          refine j_iload X (pc := 3207) 1 dL_law_3207 rfl ?_
          refine j_icmp_eq X (pc := 3209) 3214 dL_law_3209 (by decide) hw (fun hw => ?_) (fun hw => ?_)
          · refine j_iload X (pc := 3214) 1 dL_law_3214 rfl ?_
            refine j_if_ne X (pc := 3216) 3252 dL_law_3216 (by decide) hw (fun hw => ?_) (fun hw => ?_)
            · refine j_aload X (pc := 3219) 6 dL_law_3219 rfl ?_
              refine j_iconst X (pc := 3221) 0 dL_law_3221 (by decide) ?_
              refine j_dald X (pc := 3222) dL_law_3222 hw (fun y3222 hw => ?_)
              refine j_fload X (pc := 3223) 0 dL_law_3223 rfl ?_
              refine j_f2d X (pc := 3225) dL_law_3225 hw (fun hw => ?_)
              refine j_dcmp X (pc := 3226) dL_law_3226 ?_
              refine j_if_eq X (pc := 3227) 3252 dL_law_3227 (by decide) hw (fun hw => ?_) (fun hw => ?_)
              · refine j_goto X (pc := 3252) 3387 dL_law_3252 (by decide) ?_
                refine j_iinc X (pc := 3387) 7 (x5 + 7) [(5, vI (x5 + 7)), (7, vF y3198), (6, vI y3186), (0, vR x0), (1, vR x1), (2, vR x2), (3, vR x3), (4, vR x4)] dL_law_3387 rfl rfl (Nat.le_of_ble_eq_true rfl) rfl ?_
                refine j_goto X (pc := 3390) 28 dL_law_3390 (by decide) ?_
                refine j_lv [(0, vR x0), (1, vR x1), (2, vR x2), (3, vR x3), (4, vR x4), (5, vI (x5 + 7))] [3, 4, 5, 6, 7, 0] rfl ?_
                exact hw
              · refine j_aload X (pc := 3230) 6 dL_law_3230 rfl ?_
                refine j_iconst X (pc := 3232) 0 dL_law_3232 (by decide) ?_
                refine j_dald X (pc := 3233) dL_law_3233 hw (fun y3233 hw => ?_)
                refine j_aload X (pc := 3234) 6 dL_law_3234 rfl ?_
                refine j_iconst X (pc := 3236) 0 dL_law_3236 (by decide) ?_
                refine j_dald X (pc := 3237) dL_law_3237 hw (fun y3237 hw => ?_)
                refine j_dcmp X (pc := 3238) dL_law_3238 ?_
                refine j_if_eq X (pc := 3239) 3250 dL_law_3239 (by decide) hw (fun hw => ?_) (fun hw => ?_)
                · refine j_iconst X (pc := 3250) 0 dL_law_3250 (by decide) ?_
                  obtain ⟨hu9, hv9, hw⟩ := hw
                  exact j_endL X (pc := 3251) hQ hu9 hv9 dL_law_3251 hw
                · refine j_fload X (pc := 3242) 0 dL_law_3242 rfl ?_
                  refine j_fload X (pc := 3244) 0 dL_law_3244 rfl ?_
                  refine j_fcmp X (pc := 3246) dL_law_3246 ?_
                  refine j_if_ne X (pc := 3247) 3252 dL_law_3247 (by decide) hw (fun hw => ?_) (fun hw => ?_)
                  · refine j_iconst X (pc := 3250) 0 dL_law_3250 (by decide) ?_
                    obtain ⟨hu9, hv9, hw⟩ := hw
                    exact j_endL X (pc := 3251) hQ hu9 hv9 dL_law_3251 hw
                  · refine j_goto X (pc := 3252) 3387 dL_law_3252 (by decide) ?_
                    refine j_iinc X (pc := 3387) 7 (x5 + 7) [(5, vI (x5 + 7)), (7, vF y3198), (6, vI y3186), (0, vR x0), (1, vR x1), (2, vR x2), (3, vR x3), (4, vR x4)] dL_law_3387 rfl rfl (Nat.le_of_ble_eq_true rfl) rfl ?_
                    refine j_goto X (pc := 3390) 28 dL_law_3390 (by decide) ?_
                    refine j_lv [(0, vR x0), (1, vR x1), (2, vR x2), (3, vR x3), (4, vR x4), (5, vI (x5 + 7))] [3, 4, 5, 6, 7, 0] rfl ?_
                    exact hw
            · refine j_goto X (pc := 3252) 3387 dL_law_3252 (by decide) ?_
              refine j_iinc X (pc := 3387) 7 (x5 + 7) [(5, vI (x5 + 7)), (7, vF y3198), (6, vI y3186), (0, vR x0), (1, vR x1), (2, vR x2), (3, vR x3), (4, vR x4)] dL_law_3387 rfl rfl (Nat.le_of_ble_eq_true rfl) rfl ?_
              refine j_goto X (pc := 3390) 28 dL_law_3390 (by decide) ?_
              refine j_lv [(0, vR x0), (1, vR x1), (2, vR x2), (3, vR x3), (4, vR x4), (5, vI (x5 + 7))] [3, 4, 5, 6, 7, 0] rfl ?_
              exact hw
          · refine j_iconst X (pc := 3212) 0 dL_law_3212 (by decide) ?_
            obtain ⟨hu9, hv9, hw⟩ := hw
            exact j_endL X (pc := 3213) hQ hu9 hv9 dL_law_3213 hw
        | 43, ho, ha =>
          cases ho
          have hw := hw.2.2.2.2.2.2.2.2.2.2.2.2.2.2.2.2.2.2.2.2.2.2.2.2.2.2.2.2.2.2.2.2.2.2.2.2.2.2.2.2.2.2.2.1 ha
          refine ⟨3255, by decide, ?_⟩
          refine j_aload_n X (pc := 3255) 1 dL_law_3255 rfl rfl ?_
          refine j_aload_n X (pc := 3256) 0 dL_law_3256 rfl rfl ?_
          refine j_iload X (pc := 3257) 5 dL_law_3257 rfl ?_
          refine j_iconst X (pc := 3259) 1 dL_law_3259 (by decide) ?_
          refine j_iadd X (pc := 3260) dL_law_3260 ?_
          refine j_iald X (pc := 3261) 32 rfl dL_law_3261 hw (fun y3261 hw => ?_)
          refine j_aload X (pc := 3262) 4 dL_law_3262 rfl ?_
          obtain ⟨hu9, hv9, hw⟩ := hw
          refine j_calli (j_runSW (n8 := 3) (As := [vR x1, vI y3261, vR x4]) (rest := []) X (pc := 3264) (met_X0_meanRoute (xl x) X.hl (xG x) h x1 y3261 x4 _ hw) q1850 q1851 q70 q1852 (by decide +kernel) dL_law_3264 rfl ⟨Nat.le_of_ble_eq_true rfl, Nat.le_of_ble_eq_true rfl⟩ (Nat.le_of_ble_eq_true rfl) ⟨hu9, hv9⟩) (fun y3264 h3264 hw => ?_)
          refine j_istore X (pc := 3267) [(6, vI y3264), (0, vR x0), (1, vR x1), (2, vR x2), (3, vR x3), (4, vR x4), (5, vI x5)] dL_law_3267 (Nat.le_of_ble_eq_true rfl) rfl ?_
          refine j_aload_n X (pc := 3269) 3 dL_law_3269 rfl rfl ?_
          refine j_aload_n X (pc := 3270) 1 dL_law_3270 rfl rfl ?_
          refine j_iload X (pc := 3271) 6 dL_law_3271 rfl ?_
          refine j_iconst X (pc := 3273) 1 dL_law_3273 (by decide) ?_
          refine j_iadd X (pc := 3274) dL_law_3274 ?_
          refine j_iald X (pc := 3275) 32 rfl dL_law_3275 hw (fun y3275 hw => ?_)
          obtain ⟨hu9, hv9, hw⟩ := hw
          obtain ⟨b9, c9, f9, hr9, ho9, hc9, hw⟩ := hw
          obtain rfl := List.mem_singleton.mp hc9
          refine j_calld (j_runV (n8 := 1) (As := [vI y3275]) (rest := []) X (pc := 3276) hr9 (met_X5_meanRoute (xl x) X.hl (xG x) h3264 x2 y3275 _ hw) ho9 (by decide) rfl q2322 q2323 q2324 q78 q2325 (by decide +kernel) dL_law_3276 rfl ⟨Nat.le_of_ble_eq_true rfl, Nat.le_of_ble_eq_true rfl⟩ (Nat.le_of_ble_eq_true rfl) ⟨hu9, hv9⟩) (fun y3276 h3276 hw => ?_)
          refine j_dstore X (pc := 3279) [(7, vD y3276), (6, vI y3264), (0, vR x0), (1, vR x1), (2, vR x2), (3, vR x3), (4, vR x4), (5, vI x5)] dL_law_3279 (Nat.le_of_ble_eq_true rfl) rfl ?_
          refine j_aload_n X (pc := 3281) 4 dL_law_3281 rfl rfl ?_
          obtain ⟨hu9, hv9, hw⟩ := hw
          obtain ⟨b9, c9, f9, hr9, ho9, hc9, hw⟩ := hw
          obtain rfl := List.mem_singleton.mp hc9
          refine j_calli (j_runV (n8 := 0) (As := []) (rest := []) X (pc := 3282) hr9 (met_X5_thrown (xl x) X.hl (xG x) h3276 x2 _ hw) ho9 (by decide) rfl q1970 q1971 q1972 q78 q1973 (by decide +kernel) dL_law_3282 rfl ⟨Nat.le_of_ble_eq_true rfl, Nat.le_of_ble_eq_true rfl⟩ (Nat.le_of_ble_eq_true rfl) ⟨hu9, hv9⟩) (fun y3282 h3282 hw => ?_)
          refine j_iload X (pc := 3285) 1 dL_law_3285 rfl ?_
          refine j_icmp_eq X (pc := 3287) 3292 dL_law_3287 (by decide) hw (fun hw => ?_) (fun hw => ?_)
          · refine j_iload X (pc := 3292) 1 dL_law_3292 rfl ?_
            refine j_if_ne X (pc := 3294) 3329 dL_law_3294 (by decide) hw (fun hw => ?_) (fun hw => ?_)
            · refine j_aload X (pc := 3297) 6 dL_law_3297 rfl ?_
              refine j_iconst X (pc := 3299) 0 dL_law_3299 (by decide) ?_
              refine j_dald X (pc := 3300) dL_law_3300 hw (fun y3300 hw => ?_)
              refine j_dload X (pc := 3301) 0 dL_law_3301 rfl ?_
              refine j_dcmp X (pc := 3303) dL_law_3303 ?_
              refine j_if_eq X (pc := 3304) 3329 dL_law_3304 (by decide) hw (fun hw => ?_) (fun hw => ?_)
              · refine j_goto X (pc := 3329) 3387 dL_law_3329 (by decide) ?_
                refine j_iinc X (pc := 3387) 7 (x5 + 7) [(5, vI (x5 + 7)), (7, vD y3276), (6, vI y3264), (0, vR x0), (1, vR x1), (2, vR x2), (3, vR x3), (4, vR x4)] dL_law_3387 rfl rfl (Nat.le_of_ble_eq_true rfl) rfl ?_
                refine j_goto X (pc := 3390) 28 dL_law_3390 (by decide) ?_
                refine j_lv [(0, vR x0), (1, vR x1), (2, vR x2), (3, vR x3), (4, vR x4), (5, vI (x5 + 7))] [3, 4, 5, 6, 7, 0] rfl ?_
                exact hw
              · refine j_aload X (pc := 3307) 6 dL_law_3307 rfl ?_
                refine j_iconst X (pc := 3309) 0 dL_law_3309 (by decide) ?_
                refine j_dald X (pc := 3310) dL_law_3310 hw (fun y3310 hw => ?_)
                refine j_aload X (pc := 3311) 6 dL_law_3311 rfl ?_
                refine j_iconst X (pc := 3313) 0 dL_law_3313 (by decide) ?_
                refine j_dald X (pc := 3314) dL_law_3314 hw (fun y3314 hw => ?_)
                refine j_dcmp X (pc := 3315) dL_law_3315 ?_
                refine j_if_eq X (pc := 3316) 3327 dL_law_3316 (by decide) hw (fun hw => ?_) (fun hw => ?_)
                · refine j_iconst X (pc := 3327) 0 dL_law_3327 (by decide) ?_
                  obtain ⟨hu9, hv9, hw⟩ := hw
                  exact j_endL X (pc := 3328) hQ hu9 hv9 dL_law_3328 hw
                · refine j_dload X (pc := 3319) 0 dL_law_3319 rfl ?_
                  refine j_dload X (pc := 3321) 0 dL_law_3321 rfl ?_
                  refine j_dcmp X (pc := 3323) dL_law_3323 ?_
                  refine j_if_ne X (pc := 3324) 3329 dL_law_3324 (by decide) hw (fun hw => ?_) (fun hw => ?_)
                  · refine j_iconst X (pc := 3327) 0 dL_law_3327 (by decide) ?_
                    obtain ⟨hu9, hv9, hw⟩ := hw
                    exact j_endL X (pc := 3328) hQ hu9 hv9 dL_law_3328 hw
                  · refine j_goto X (pc := 3329) 3387 dL_law_3329 (by decide) ?_
                    refine j_iinc X (pc := 3387) 7 (x5 + 7) [(5, vI (x5 + 7)), (7, vD y3276), (6, vI y3264), (0, vR x0), (1, vR x1), (2, vR x2), (3, vR x3), (4, vR x4)] dL_law_3387 rfl rfl (Nat.le_of_ble_eq_true rfl) rfl ?_
                    refine j_goto X (pc := 3390) 28 dL_law_3390 (by decide) ?_
                    refine j_lv [(0, vR x0), (1, vR x1), (2, vR x2), (3, vR x3), (4, vR x4), (5, vI (x5 + 7))] [3, 4, 5, 6, 7, 0] rfl ?_
                    exact hw
            · refine j_goto X (pc := 3329) 3387 dL_law_3329 (by decide) ?_
              refine j_iinc X (pc := 3387) 7 (x5 + 7) [(5, vI (x5 + 7)), (7, vD y3276), (6, vI y3264), (0, vR x0), (1, vR x1), (2, vR x2), (3, vR x3), (4, vR x4)] dL_law_3387 rfl rfl (Nat.le_of_ble_eq_true rfl) rfl ?_
              refine j_goto X (pc := 3390) 28 dL_law_3390 (by decide) ?_
              refine j_lv [(0, vR x0), (1, vR x1), (2, vR x2), (3, vR x3), (4, vR x4), (5, vI (x5 + 7))] [3, 4, 5, 6, 7, 0] rfl ?_
              exact hw
          · refine j_iconst X (pc := 3290) 0 dL_law_3290 (by decide) ?_
            obtain ⟨hu9, hv9, hw⟩ := hw
            exact j_endL X (pc := 3291) hQ hu9 hv9 dL_law_3291 hw
        | 44, ho, ha =>
          cases ho
          have hw := hw.2.2.2.2.2.2.2.2.2.2.2.2.2.2.2.2.2.2.2.2.2.2.2.2.2.2.2.2.2.2.2.2.2.2.2.2.2.2.2.2.2.2.2.2.1 ha
          refine ⟨3332, by decide, ?_⟩
          refine j_aload_n X (pc := 3332) 1 dL_law_3332 rfl rfl ?_
          refine j_aload_n X (pc := 3333) 0 dL_law_3333 rfl rfl ?_
          refine j_iload X (pc := 3334) 5 dL_law_3334 rfl ?_
          refine j_iconst X (pc := 3336) 1 dL_law_3336 (by decide) ?_
          refine j_iadd X (pc := 3337) dL_law_3337 ?_
          refine j_iald X (pc := 3338) 32 rfl dL_law_3338 hw (fun y3338 hw => ?_)
          refine j_aload_n X (pc := 3339) 3 dL_law_3339 rfl rfl ?_
          obtain ⟨hu9, hv9, hw⟩ := hw
          refine j_calli (j_runSW (n8 := 3) (As := [vR x1, vI y3338, vR x3]) (rest := []) X (pc := 3340) (met_X0_area (xl x) X.hl (xG x) h x1 y3338 x3 _ hw) q1857 q1858 q70 q1859 (by decide +kernel) dL_law_3340 rfl ⟨Nat.le_of_ble_eq_true rfl, Nat.le_of_ble_eq_true rfl⟩ (Nat.le_of_ble_eq_true rfl) ⟨hu9, hv9⟩) (fun y3340 h3340 hw => ?_)
          refine j_istore X (pc := 3343) [(6, vI y3340), (0, vR x0), (1, vR x1), (2, vR x2), (3, vR x3), (4, vR x4), (5, vI x5)] dL_law_3343 (Nat.le_of_ble_eq_true rfl) rfl ?_
          refine j_aload_n X (pc := 3345) 3 dL_law_3345 rfl rfl ?_
          refine j_aload_n X (pc := 3346) 1 dL_law_3346 rfl rfl ?_
          refine j_iload X (pc := 3347) 6 dL_law_3347 rfl ?_
          refine j_iconst X (pc := 3349) 1 dL_law_3349 (by decide) ?_
          refine j_iadd X (pc := 3350) dL_law_3350 ?_
          refine j_iald X (pc := 3351) 32 rfl dL_law_3351 hw (fun y3351 hw => ?_)
          obtain ⟨hu9, hv9, hw⟩ := hw
          obtain ⟨b9, c9, f9, hr9, ho9, hc9, hw⟩ := hw
          obtain rfl := List.mem_singleton.mp hc9
          refine j_calll (j_runV (n8 := 1) (As := [vI y3351]) (rest := []) X (pc := 3352) hr9 (met_X5_area (xl x) X.hl (xG x) h3340 x2 y3351 _ hw) ho9 (by decide) rfl q2326 q2327 q2328 q78 q2329 (by decide +kernel) dL_law_3352 rfl ⟨Nat.le_of_ble_eq_true rfl, Nat.le_of_ble_eq_true rfl⟩ (Nat.le_of_ble_eq_true rfl) ⟨hu9, hv9⟩) (fun y3352 h3352 hw => ?_)
          refine j_lstore X (pc := 3355) [(7, vL y3352), (6, vI y3340), (0, vR x0), (1, vR x1), (2, vR x2), (3, vR x3), (4, vR x4), (5, vI x5)] dL_law_3355 (Nat.le_of_ble_eq_true rfl) rfl ?_
          refine j_aload_n X (pc := 3357) 4 dL_law_3357 rfl rfl ?_
          obtain ⟨hu9, hv9, hw⟩ := hw
          obtain ⟨b9, c9, f9, hr9, ho9, hc9, hw⟩ := hw
          obtain rfl := List.mem_singleton.mp hc9
          refine j_calli (j_runV (n8 := 0) (As := []) (rest := []) X (pc := 3358) hr9 (met_X5_thrown (xl x) X.hl (xG x) h3352 x2 _ hw) ho9 (by decide) rfl q1970 q1971 q1972 q78 q1973 (by decide +kernel) dL_law_3358 rfl ⟨Nat.le_of_ble_eq_true rfl, Nat.le_of_ble_eq_true rfl⟩ (Nat.le_of_ble_eq_true rfl) ⟨hu9, hv9⟩) (fun y3358 h3358 hw => ?_)
          refine j_iload X (pc := 3361) 1 dL_law_3361 rfl ?_
          refine j_icmp_eq X (pc := 3363) 3368 dL_law_3363 (by decide) hw (fun hw => ?_) (fun hw => ?_)
          · refine j_iload X (pc := 3368) 1 dL_law_3368 rfl ?_
            refine j_if_ne X (pc := 3370) 3384 dL_law_3370 (by decide) hw (fun hw => ?_) (fun hw => ?_)
            · refine j_aload_n X (pc := 3373) 5 dL_law_3373 rfl rfl ?_
              refine j_iconst X (pc := 3374) 0 dL_law_3374 (by decide) ?_
              refine j_lald X (pc := 3375) dL_law_3375 hw (fun y3375 hw => ?_)
              refine j_lload X (pc := 3376) 0 dL_law_3376 rfl ?_
              refine j_lcmp X (pc := 3378) dL_law_3378 ?_
              refine j_if_eq X (pc := 3379) 3384 dL_law_3379 (by decide) hw (fun hw => ?_) (fun hw => ?_)
              · refine j_goto X (pc := 3384) 3387 dL_law_3384 (by decide) ?_
                refine j_iinc X (pc := 3387) 7 (x5 + 7) [(5, vI (x5 + 7)), (7, vL y3352), (6, vI y3340), (0, vR x0), (1, vR x1), (2, vR x2), (3, vR x3), (4, vR x4)] dL_law_3387 rfl rfl (Nat.le_of_ble_eq_true rfl) rfl ?_
                refine j_goto X (pc := 3390) 28 dL_law_3390 (by decide) ?_
                refine j_lv [(0, vR x0), (1, vR x1), (2, vR x2), (3, vR x3), (4, vR x4), (5, vI (x5 + 7))] [3, 4, 5, 6, 7, 0] rfl ?_
                exact hw
              · refine j_iconst X (pc := 3382) 0 dL_law_3382 (by decide) ?_
                obtain ⟨hu9, hv9, hw⟩ := hw
                exact j_endL X (pc := 3383) hQ hu9 hv9 dL_law_3383 hw
            · refine j_goto X (pc := 3384) 3387 dL_law_3384 (by decide) ?_
              refine j_iinc X (pc := 3387) 7 (x5 + 7) [(5, vI (x5 + 7)), (7, vL y3352), (6, vI y3340), (0, vR x0), (1, vR x1), (2, vR x2), (3, vR x3), (4, vR x4)] dL_law_3387 rfl rfl (Nat.le_of_ble_eq_true rfl) rfl ?_
              refine j_goto X (pc := 3390) 28 dL_law_3390 (by decide) ?_
              refine j_lv [(0, vR x0), (1, vR x1), (2, vR x2), (3, vR x3), (4, vR x4), (5, vI (x5 + 7))] [3, 4, 5, 6, 7, 0] rfl ?_
              exact hw
          · refine j_iconst X (pc := 3366) 0 dL_law_3366 (by decide) ?_
            obtain ⟨hu9, hv9, hw⟩ := hw
            exact j_endL X (pc := 3367) hQ hu9 hv9 dL_law_3367 hw
        | i + 45, ho, _ => exact absurd ho (by simp)
    · have hw := hw.2.2.2.2.2.2.2.2.2.2.2.2.2.2.2.2.2.2.2.2.2.2.2.2.2.2.2.2.2.2.2.2.2.2.2.2.2.2.2.2.2.2.2.2.2 (hd 0 (by decide)) (hd 1 (by decide)) (hd 2 (by decide)) (hd 3 (by decide)) (hd 4 (by decide)) (hd 5 (by decide)) (hd 6 (by decide)) (hd 7 (by decide)) (hd 8 (by decide)) (hd 9 (by decide)) (hd 10 (by decide)) (hd 11 (by decide)) (hd 12 (by decide)) (hd 13 (by decide)) (hd 14 (by decide)) (hd 15 (by decide)) (hd 16 (by decide)) (hd 17 (by decide)) (hd 18 (by decide)) (hd 19 (by decide)) (hd 20 (by decide)) (hd 21 (by decide)) (hd 22 (by decide)) (hd 23 (by decide)) (hd 24 (by decide)) (hd 25 (by decide)) (hd 26 (by decide)) (hd 27 (by decide)) (hd 28 (by decide)) (hd 29 (by decide)) (hd 30 (by decide)) (hd 31 (by decide)) (hd 32 (by decide)) (hd 33 (by decide)) (hd 34 (by decide)) (hd 35 (by decide)) (hd 36 (by decide)) (hd 37 (by decide)) (hd 38 (by decide)) (hd 39 (by decide)) (hd 40 (by decide)) (hd 41 (by decide)) (hd 42 (by decide)) (hd 43 (by decide)) (hd 44 (by decide))
      refine ⟨3387, by decide, ?_⟩
      refine j_iinc X (pc := 3387) 5 (x5 + 7) [(5, vI (x5 + 7)), (0, vR x0), (1, vR x1), (2, vR x2), (3, vR x3), (4, vR x4)] dL_law_3387 rfl rfl (Nat.le_of_ble_eq_true rfl) rfl ?_
      refine j_goto X (pc := 3390) 28 dL_law_3390 (by decide) ?_
      refine j_lv [(0, vR x0), (1, vR x1), (2, vR x2), (3, vR x3), (4, vR x4), (5, vI (x5 + 7))] [1, 2, 3, 4, 5, 0] rfl ?_
      exact hw
theorem met_L_law {x : CX} (X : Ok x cL_law "PlugboardLaw" rm_L_law 9) (er : xrt x = (Option.some Jvm.ClassFile.FieldType.boolean)) (en : xnm x = "law") {P : Int32 → AH → Prop} (hG : (xG x).2.2.1 99 < (xG x).2.1) (hQ : xl_ x P) (h : AH) (a0 : Option Nat) (hw : w_L_law a0 h P) : J x h 0 0 0 [(0, vR a0)] [] := by
  refine j_new (ci := 0) X (pc := 0) in_X1 rfl (by decide) tyX1 tyX1_ok q119 q120 q71 (fs := dvX1) dfX1 (Nat.le_of_ble_eq_true rfl) (Nat.le_of_ble_eq_true rfl) dL_law_0 hw (fun q0 h0 hw => ?_)
  refine j_dup X (pc := 3) dL_law_3 rfl ?_
  refine j_callv (j_runI (n8 := 0) (As := []) (rest := [vR (some q0)]) X (pc := 4) rfl (met_X1_init (xl x) X.hl (xG x) h0 (some q0) _ hw) q121 q122 q71 q123 (by decide +kernel) dL_law_4 rfl ⟨Nat.le_of_ble_eq_true rfl, Nat.le_of_ble_eq_true rfl⟩ (Nat.le_of_ble_eq_true rfl) ⟨Nat.le_of_ble_eq_true rfl, Nat.le_of_ble_eq_true rfl⟩) (fun h4 hw => ?_)
  refine j_astore_n X (pc := 7) [(1, vR (some q0)), (0, vR a0)] dL_law_7 rfl (Nat.le_of_ble_eq_true rfl) rfl ?_
  refine j_new (ci := 4) X (pc := 8) in_X5 rfl (by decide) tyX5 tyX5_ok q1864 q1865 q78 (fs := dvX5) dfX5 (Nat.le_of_ble_eq_true rfl) (Nat.le_of_ble_eq_true rfl) dL_law_8 hw (fun q8 h8 hw => ?_)
  refine j_dup X (pc := 11) dL_law_11 rfl ?_
  refine j_callv (j_runI (n8 := 0) (As := []) (rest := [vR (some q8)]) X (pc := 12) rfl (met_X5_init (xl x) X.hl (xG x) h8 (some q8) _ hw) q1866 q1867 q78 q1868 (by decide +kernel) dL_law_12 rfl ⟨Nat.le_of_ble_eq_true rfl, Nat.le_of_ble_eq_true rfl⟩ (Nat.le_of_ble_eq_true rfl) ⟨Nat.le_of_ble_eq_true rfl, Nat.le_of_ble_eq_true rfl⟩) (fun h12 hw => ?_)
  refine j_astore_n X (pc := 15) [(2, vR (some q8)), (1, vR (some q0)), (0, vR a0)] dL_law_15 rfl (Nat.le_of_ble_eq_true rfl) rfl ?_
  refine j_iconst X (pc := 16) 1 dL_law_16 (by decide) ?_
  refine j_newL X (pc := 17) 1 dL_law_17 q2330 (by decide) (by decide) (by decide) (Nat.le_of_ble_eq_true rfl) (Nat.le_of_ble_eq_true rfl) hw (fun q17 h17 hw => ?_)
  refine j_astore_n X (pc := 19) [(3, vR (some q17)), (2, vR (some q8)), (1, vR (some q0)), (0, vR a0)] dL_law_19 rfl (Nat.le_of_ble_eq_true rfl) rfl ?_
  refine j_iconst X (pc := 20) 1 dL_law_20 (by decide) ?_
  refine j_newD X (pc := 21) 1 dL_law_21 q2331 (by decide) (by decide) (by decide) (Nat.le_of_ble_eq_true rfl) (Nat.le_of_ble_eq_true rfl) hw (fun q21 h21 hw => ?_)
  refine j_astore X (pc := 23) [(4, vR (some q21)), (3, vR (some q17)), (2, vR (some q8)), (1, vR (some q0)), (0, vR a0)] dL_law_23 (Nat.le_of_ble_eq_true rfl) rfl ?_
  refine j_iconst X (pc := 25) 0 dL_law_25 (by decide) ?_
  refine j_istore X (pc := 26) [(5, vI 0), (4, vR (some q21)), (3, vR (some q17)), (2, vR (some q8)), (1, vR (some q0)), (0, vR a0)] dL_law_26 (Nat.le_of_ble_eq_true rfl) rfl ?_
  refine j_lv [(0, vR a0), (1, vR (some q0)), (2, vR (some q8)), (3, vR (some q17)), (4, vR (some q21)), (5, vI 0)] [5, 4, 3, 2, 1, 0] rfl ?_
  exact wk_L_law_28 X er en hG hQ a0 (some q0) (some q8) (some q17) (some q21) 0 1684 44677 h21 hw
