set_option maxRecDepth 100000
abbrev cL_law : ByteArray := code
def dkwL_law_170 : List UInt8 := [167, 239, 157, 4, 172]
abbrev dktL_law_170 : List UInt8 := dkwL_law_170 ++ []
def dkwL_law_169 : List UInt8 := [172, 21, 6, 154, 0, 15, 45, 3, 47, 21, 7, 133, 148, 153, 0, 5, 3, 172, 167, 0, 3, 132, 5, 6]
abbrev dktL_law_169 : List UInt8 := dkwL_law_169 ++ dktL_law_170
def dkwL_law_168 : List UInt8 := [54, 6, 44, 42, 21, 5, 4, 96, 46, 182, 1, 169, 54, 7, 44, 182, 0, 223, 21, 6, 159, 0, 5, 3]
abbrev dktL_law_168 : List UInt8 := dkwL_law_168 ++ dktL_law_169
def dkwL_law_167 : List UInt8 := [47, 21, 7, 133, 148, 153, 0, 5, 3, 172, 167, 0, 59, 43, 42, 21, 5, 4, 96, 46, 45, 184, 1, 167]
abbrev dktL_law_167 : List UInt8 := dkwL_law_167 ++ dktL_law_168
def dkwL_law_166 : List UInt8 := [46, 182, 1, 166, 54, 7, 44, 182, 0, 223, 21, 6, 159, 0, 5, 3, 172, 21, 6, 154, 0, 15, 45, 3]
abbrev dktL_law_166 : List UInt8 := dkwL_law_166 ++ dktL_law_167
def dkwL_law_165 : List UInt8 := [159, 0, 117, 3, 172, 43, 42, 21, 5, 4, 96, 46, 45, 184, 1, 164, 54, 6, 44, 42, 21, 5, 4, 96]
abbrev dktL_law_165 : List UInt8 := dkwL_law_165 ++ dktL_law_166
def dkwL_law_164 : List UInt8 := [45, 3, 47, 21, 7, 133, 148, 153, 0, 5, 3, 172, 167, 0, 128, 43, 182, 1, 160, 44, 182, 1, 163]
abbrev dktL_law_164 : List UInt8 := dkwL_law_164 ++ dktL_law_165
def dkwL_law_163 : List UInt8 := [54, 6, 44, 182, 1, 159, 54, 7, 44, 182, 0, 223, 21, 6, 159, 0, 5, 3, 172, 21, 6, 154, 0, 15]
abbrev dktL_law_163 : List UInt8 := dkwL_law_163 ++ dktL_law_164
def dkwL_law_162 : List UInt8 := [154, 0, 15, 45, 3, 47, 21, 7, 133, 148, 153, 0, 5, 3, 172, 167, 0, 172, 43, 45, 184, 1, 157]
abbrev dktL_law_162 : List UInt8 := dkwL_law_162 ++ dktL_law_163
def dkwL_law_161 : List UInt8 := [42, 21, 5, 5, 96, 46, 182, 1, 156, 54, 7, 44, 182, 0, 223, 21, 6, 159, 0, 5, 3, 172, 21, 6]
abbrev dktL_law_161 : List UInt8 := dkwL_law_161 ++ dktL_law_162
def dkwL_law_160 : List UInt8 := [21, 5, 4, 96, 46, 42, 21, 5, 5, 96, 46, 45, 184, 1, 154, 54, 6, 44, 42, 21, 5, 4, 96, 46]
abbrev dktL_law_160 : List UInt8 := dkwL_law_160 ++ dktL_law_161
def dkwL_law_159 : List UInt8 := [172, 21, 6, 154, 0, 15, 45, 3, 47, 21, 7, 133, 148, 153, 0, 5, 3, 172, 167, 0, 240, 43, 42]
abbrev dktL_law_159 : List UInt8 := dkwL_law_159 ++ dktL_law_160
def dkwL_law_158 : List UInt8 := [54, 6, 44, 42, 21, 5, 4, 96, 46, 182, 1, 153, 54, 7, 44, 182, 0, 223, 21, 6, 159, 0, 5, 3]
abbrev dktL_law_158 : List UInt8 := dkwL_law_158 ++ dktL_law_159
def dkwL_law_157 : List UInt8 := [21, 7, 133, 148, 153, 0, 5, 3, 172, 167, 1, 40, 43, 42, 21, 5, 4, 96, 46, 45, 184, 1, 151]
abbrev dktL_law_157 : List UInt8 := dkwL_law_157 ++ dktL_law_158
def dkwL_law_156 : List UInt8 := [182, 1, 150, 54, 7, 44, 182, 0, 223, 21, 6, 159, 0, 5, 3, 172, 21, 6, 154, 0, 15, 45, 3, 47]
abbrev dktL_law_156 : List UInt8 := dkwL_law_156 ++ dktL_law_157
def dkwL_law_155 : List UInt8 := [167, 1, 96, 43, 42, 21, 5, 4, 96, 46, 45, 184, 1, 148, 54, 6, 44, 42, 21, 5, 4, 96, 46]
abbrev dktL_law_155 : List UInt8 := dkwL_law_155 ++ dktL_law_156
def dkwL_law_154 : List UInt8 := [159, 0, 5, 3, 172, 21, 6, 154, 0, 15, 45, 3, 47, 21, 7, 133, 148, 153, 0, 5, 3, 172]
abbrev dktL_law_154 : List UInt8 := dkwL_law_154 ++ dktL_law_155
def dkwL_law_153 : List UInt8 := [21, 5, 4, 96, 46, 42, 21, 5, 5, 96, 46, 182, 1, 147, 54, 7, 44, 182, 0, 223, 21, 6]
abbrev dktL_law_153 : List UInt8 := dkwL_law_153 ++ dktL_law_154
def dkwL_law_152 : List UInt8 := [167, 1, 164, 43, 42, 21, 5, 4, 96, 46, 42, 21, 5, 5, 96, 46, 45, 184, 1, 145, 54, 6, 44, 42]
abbrev dktL_law_152 : List UInt8 := dkwL_law_152 ++ dktL_law_153
def dkwL_law_151 : List UInt8 := [159, 0, 5, 3, 172, 21, 6, 154, 0, 15, 45, 3, 47, 21, 7, 133, 148, 153, 0, 5, 3, 172]
abbrev dktL_law_151 : List UInt8 := dkwL_law_151 ++ dktL_law_152
def dkwL_law_150 : List UInt8 := [21, 5, 4, 96, 46, 42, 21, 5, 5, 96, 46, 182, 1, 144, 54, 7, 44, 182, 0, 223, 21, 6]
abbrev dktL_law_150 : List UInt8 := dkwL_law_150 ++ dktL_law_151
def dkwL_law_149 : List UInt8 := [167, 1, 232, 43, 42, 21, 5, 4, 96, 46, 42, 21, 5, 5, 96, 46, 45, 184, 1, 142, 54, 6, 44, 42]
abbrev dktL_law_149 : List UInt8 := dkwL_law_149 ++ dktL_law_150
def dkwL_law_148 : List UInt8 := [159, 0, 5, 3, 172, 21, 6, 154, 0, 15, 45, 3, 47, 21, 7, 133, 148, 153, 0, 5, 3, 172]
abbrev dktL_law_148 : List UInt8 := dkwL_law_148 ++ dktL_law_149
def dkwL_law_147 : List UInt8 := [21, 5, 5, 96, 46, 42, 21, 5, 6, 96, 46, 182, 1, 141, 54, 7, 44, 182, 0, 223, 21, 6]
abbrev dktL_law_147 : List UInt8 := dkwL_law_147 ++ dktL_law_148
def dkwL_law_146 : List UInt8 := [46, 45, 184, 1, 138, 54, 6, 44, 42, 21, 5, 4, 96, 46, 153, 0, 7, 4, 167, 0, 4, 3, 42]
abbrev dktL_law_146 : List UInt8 := dkwL_law_146 ++ dktL_law_147
def dkwL_law_145 : List UInt8 := [21, 5, 4, 96, 46, 153, 0, 7, 4, 167, 0, 4, 3, 42, 21, 5, 5, 96, 46, 42, 21, 5, 6, 96]
abbrev dktL_law_145 : List UInt8 := dkwL_law_145 ++ dktL_law_146
def dkwL_law_144 : List UInt8 := [172, 21, 6, 154, 0, 15, 45, 3, 47, 21, 7, 133, 148, 153, 0, 5, 3, 172, 167, 2, 72, 43, 42]
abbrev dktL_law_144 : List UInt8 := dkwL_law_144 ++ dktL_law_145
def dkwL_law_143 : List UInt8 := [54, 6, 44, 42, 21, 5, 4, 96, 46, 182, 1, 137, 54, 7, 44, 182, 0, 223, 21, 6, 159, 0, 5, 3]
abbrev dktL_law_143 : List UInt8 := dkwL_law_143 ++ dktL_law_144
def dkwL_law_142 : List UInt8 := [21, 7, 133, 148, 153, 0, 5, 3, 172, 167, 2, 128, 43, 42, 21, 5, 4, 96, 46, 45, 184, 1, 135]
abbrev dktL_law_142 : List UInt8 := dkwL_law_142 ++ dktL_law_143
def dkwL_law_141 : List UInt8 := [182, 1, 134, 54, 7, 44, 182, 0, 223, 21, 6, 159, 0, 5, 3, 172, 21, 6, 154, 0, 15, 45, 3, 47]
abbrev dktL_law_141 : List UInt8 := dkwL_law_141 ++ dktL_law_142
def dkwL_law_140 : List UInt8 := [167, 2, 184, 43, 42, 21, 5, 4, 96, 46, 45, 184, 1, 132, 54, 6, 44, 42, 21, 5, 4, 96, 46]
abbrev dktL_law_140 : List UInt8 := dkwL_law_140 ++ dktL_law_141
def dkwL_law_139 : List UInt8 := [159, 0, 5, 3, 172, 21, 6, 154, 0, 15, 45, 3, 47, 21, 7, 133, 148, 153, 0, 5, 3, 172]
abbrev dktL_law_139 : List UInt8 := dkwL_law_139 ++ dktL_law_140
def dkwL_law_138 : List UInt8 := [167, 2, 228, 43, 45, 184, 1, 129, 54, 6, 44, 182, 1, 131, 54, 7, 44, 182, 0, 223, 21, 6]
abbrev dktL_law_138 : List UInt8 := dkwL_law_138 ++ dktL_law_139
def dkwL_law_137 : List UInt8 := [159, 0, 5, 3, 172, 21, 6, 154, 0, 15, 45, 3, 47, 21, 7, 133, 148, 153, 0, 5, 3, 172]
abbrev dktL_law_137 : List UInt8 := dkwL_law_137 ++ dktL_law_138
def dkwL_law_136 : List UInt8 := [167, 3, 16, 43, 45, 184, 1, 126, 54, 6, 44, 182, 1, 128, 54, 7, 44, 182, 0, 223, 21, 6]
abbrev dktL_law_136 : List UInt8 := dkwL_law_136 ++ dktL_law_137
def dkwL_law_135 : List UInt8 := [159, 0, 5, 3, 172, 21, 6, 154, 0, 15, 45, 3, 47, 21, 7, 133, 148, 153, 0, 5, 3, 172]
abbrev dktL_law_135 : List UInt8 := dkwL_law_135 ++ dktL_law_136
def dkwL_law_134 : List UInt8 := [3, 172, 167, 3, 60, 43, 45, 184, 1, 123, 54, 6, 44, 182, 1, 125, 54, 7, 44, 182, 0, 223, 21, 6]
abbrev dktL_law_134 : List UInt8 := dkwL_law_134 ++ dktL_law_135
def dkwL_law_133 : List UInt8 := [151, 153, 0, 25, 25, 4, 3, 49, 25, 4, 3, 49, 151, 153, 0, 11, 24, 7, 24, 7, 151, 154, 0, 5]
abbrev dktL_law_133 : List UInt8 := dkwL_law_133 ++ dktL_law_134
def dkwL_law_132 : List UInt8 := [57, 7, 44, 182, 0, 223, 21, 6, 159, 0, 5, 3, 172, 21, 6, 154, 0, 35, 25, 4, 3, 49, 24, 7]
abbrev dktL_law_132 : List UInt8 := dkwL_law_132 ++ dktL_law_133
def dkwL_law_131 : List UInt8 := [21, 7, 133, 148, 153, 0, 5, 3, 172, 167, 3, 125, 43, 25, 4, 184, 1, 120, 54, 6, 44, 182, 1, 122]
abbrev dktL_law_131 : List UInt8 := dkwL_law_131 ++ dktL_law_132
def dkwL_law_130 : List UInt8 := [182, 1, 119, 54, 7, 44, 182, 0, 223, 21, 6, 159, 0, 5, 3, 172, 21, 6, 154, 0, 15, 45, 3, 47]
abbrev dktL_law_130 : List UInt8 := dkwL_law_130 ++ dktL_law_131
def dkwL_law_129 : List UInt8 := [153, 0, 11, 23, 7, 23, 7, 149, 154, 0, 5, 3, 172, 167, 3, 169, 43, 45, 184, 1, 117, 54, 6, 44]
abbrev dktL_law_129 : List UInt8 := dkwL_law_129 ++ dktL_law_130
def dkwL_law_128 : List UInt8 := [154, 0, 36, 25, 4, 3, 49, 23, 7, 141, 151, 153, 0, 25, 25, 4, 3, 49, 25, 4, 3, 49, 151]
abbrev dktL_law_128 : List UInt8 := dkwL_law_128 ++ dktL_law_129
def dkwL_law_127 : List UInt8 := [184, 1, 113, 54, 6, 44, 182, 1, 116, 56, 7, 44, 182, 0, 223, 21, 6, 159, 0, 5, 3, 172, 21, 6]
abbrev dktL_law_127 : List UInt8 := dkwL_law_127 ++ dktL_law_128
def dkwL_law_126 : List UInt8 := [172, 21, 6, 154, 0, 15, 45, 3, 47, 21, 7, 133, 148, 153, 0, 5, 3, 172, 167, 3, 235, 43, 25, 4]
abbrev dktL_law_126 : List UInt8 := dkwL_law_126 ++ dktL_law_127
def dkwL_law_125 : List UInt8 := [54, 6, 44, 42, 21, 5, 4, 96, 46, 182, 1, 112, 54, 7, 44, 182, 0, 223, 21, 6, 159, 0, 5, 3]
abbrev dktL_law_125 : List UInt8 := dkwL_law_125 ++ dktL_law_126
def dkwL_law_124 : List UInt8 := [21, 7, 133, 148, 153, 0, 5, 3, 172, 167, 4, 35, 43, 42, 21, 5, 4, 96, 46, 45, 184, 1, 110]
abbrev dktL_law_124 : List UInt8 := dkwL_law_124 ++ dktL_law_125
def dkwL_law_123 : List UInt8 := [182, 1, 109, 54, 7, 44, 182, 0, 223, 21, 6, 159, 0, 5, 3, 172, 21, 6, 154, 0, 15, 45, 3, 47]
abbrev dktL_law_123 : List UInt8 := dkwL_law_123 ++ dktL_law_124
def dkwL_law_122 : List UInt8 := [172, 167, 4, 91, 43, 42, 21, 5, 4, 96, 46, 45, 184, 1, 107, 54, 6, 44, 42, 21, 5, 4, 96, 46]
abbrev dktL_law_122 : List UInt8 := dkwL_law_122 ++ dktL_law_123
def dkwL_law_121 : List UInt8 := [153, 0, 25, 25, 4, 3, 49, 25, 4, 3, 49, 151, 153, 0, 11, 24, 7, 24, 7, 151, 154, 0, 5, 3]
abbrev dktL_law_121 : List UInt8 := dkwL_law_121 ++ dktL_law_122
def dkwL_law_120 : List UInt8 := [182, 0, 223, 21, 6, 159, 0, 5, 3, 172, 21, 6, 154, 0, 35, 25, 4, 3, 49, 24, 7, 151]
abbrev dktL_law_120 : List UInt8 := dkwL_law_120 ++ dktL_law_121
def dkwL_law_119 : List UInt8 := [54, 6, 44, 42, 21, 5, 4, 96, 46, 153, 0, 7, 4, 167, 0, 4, 3, 182, 1, 106, 57, 7, 44]
abbrev dktL_law_119 : List UInt8 := dkwL_law_119 ++ dktL_law_120
def dkwL_law_118 : List UInt8 := [167, 4, 184, 43, 42, 21, 5, 4, 96, 46, 153, 0, 7, 4, 167, 0, 4, 3, 25, 4, 184, 1, 103]
abbrev dktL_law_118 : List UInt8 := dkwL_law_118 ++ dktL_law_119
def dkwL_law_117 : List UInt8 := [159, 0, 5, 3, 172, 21, 6, 154, 0, 15, 45, 3, 47, 21, 7, 133, 148, 153, 0, 5, 3, 172]
abbrev dktL_law_117 : List UInt8 := dkwL_law_117 ++ dktL_law_118
def dkwL_law_116 : List UInt8 := [172, 167, 4, 228, 43, 45, 184, 1, 100, 54, 6, 44, 182, 1, 102, 54, 7, 44, 182, 0, 223, 21, 6]
abbrev dktL_law_116 : List UInt8 := dkwL_law_116 ++ dktL_law_117
def dkwL_law_115 : List UInt8 := [153, 0, 25, 25, 4, 3, 49, 25, 4, 3, 49, 151, 153, 0, 11, 24, 7, 24, 7, 151, 154, 0, 5, 3]
abbrev dktL_law_115 : List UInt8 := dkwL_law_115 ++ dktL_law_116
def dkwL_law_114 : List UInt8 := [182, 0, 223, 21, 6, 159, 0, 5, 3, 172, 21, 6, 154, 0, 35, 25, 4, 3, 49, 24, 7, 151]
abbrev dktL_law_114 : List UInt8 := dkwL_law_114 ++ dktL_law_115
def dkwL_law_113 : List UInt8 := [184, 1, 96, 54, 6, 44, 42, 21, 5, 4, 96, 46, 42, 21, 5, 5, 96, 46, 182, 1, 99, 57, 7, 44]
abbrev dktL_law_113 : List UInt8 := dkwL_law_113 ++ dktL_law_114
def dkwL_law_112 : List UInt8 := [148, 153, 0, 5, 3, 172, 167, 5, 61, 43, 42, 21, 5, 4, 96, 46, 42, 21, 5, 5, 96, 46, 25, 4]
abbrev dktL_law_112 : List UInt8 := dkwL_law_112 ++ dktL_law_113
def dkwL_law_111 : List UInt8 := [54, 7, 44, 182, 0, 223, 21, 6, 159, 0, 5, 3, 172, 21, 6, 154, 0, 15, 45, 3, 47, 21, 7, 133]
abbrev dktL_law_111 : List UInt8 := dkwL_law_111 ++ dktL_law_112
def dkwL_law_110 : List UInt8 := [21, 7, 133, 148, 153, 0, 5, 3, 172, 167, 5, 105, 43, 45, 184, 1, 93, 54, 6, 44, 182, 1, 95]
abbrev dktL_law_110 : List UInt8 := dkwL_law_110 ++ dktL_law_111
def dkwL_law_109 : List UInt8 := [182, 1, 92, 54, 7, 44, 182, 0, 223, 21, 6, 159, 0, 5, 3, 172, 21, 6, 154, 0, 15, 45, 3, 47]
abbrev dktL_law_109 : List UInt8 := dkwL_law_109 ++ dktL_law_110
def dkwL_law_108 : List UInt8 := [21, 5, 5, 96, 46, 45, 184, 1, 90, 54, 6, 44, 42, 21, 5, 4, 96, 46, 42, 21, 5, 5, 96, 46]
abbrev dktL_law_108 : List UInt8 := dkwL_law_108 ++ dktL_law_109
def dkwL_law_107 : List UInt8 := [45, 3, 47, 21, 7, 133, 148, 153, 0, 5, 3, 172, 167, 5, 173, 43, 42, 21, 5, 4, 96, 46, 42]
abbrev dktL_law_107 : List UInt8 := dkwL_law_107 ++ dktL_law_108
def dkwL_law_106 : List UInt8 := [54, 6, 44, 182, 1, 89, 54, 7, 44, 182, 0, 223, 21, 6, 159, 0, 5, 3, 172, 21, 6, 154, 0, 15]
abbrev dktL_law_106 : List UInt8 := dkwL_law_106 ++ dktL_law_107
def dkwL_law_105 : List UInt8 := [154, 0, 15, 45, 3, 47, 21, 7, 133, 148, 153, 0, 5, 3, 172, 167, 5, 217, 43, 45, 184, 1, 87]
abbrev dktL_law_105 : List UInt8 := dkwL_law_105 ++ dktL_law_106
def dkwL_law_104 : List UInt8 := [21, 5, 4, 96, 46, 182, 1, 86, 54, 7, 44, 182, 0, 223, 21, 6, 159, 0, 5, 3, 172, 21, 6]
abbrev dktL_law_104 : List UInt8 := dkwL_law_104 ++ dktL_law_105
def dkwL_law_103 : List UInt8 := [153, 0, 5, 3, 172, 167, 6, 17, 43, 42, 21, 5, 4, 96, 46, 45, 184, 1, 84, 54, 6, 44, 42]
abbrev dktL_law_103 : List UInt8 := dkwL_law_103 ++ dktL_law_104
def dkwL_law_102 : List UInt8 := [182, 0, 223, 21, 6, 159, 0, 5, 3, 172, 21, 6, 154, 0, 15, 45, 3, 47, 21, 7, 133, 148]
abbrev dktL_law_102 : List UInt8 := dkwL_law_102 ++ dktL_law_103
def dkwL_law_101 : List UInt8 := [184, 1, 81, 54, 6, 44, 42, 21, 5, 4, 96, 46, 42, 21, 5, 5, 96, 46, 182, 1, 83, 54, 7, 44]
abbrev dktL_law_101 : List UInt8 := dkwL_law_101 ++ dktL_law_102
def dkwL_law_100 : List UInt8 := [153, 0, 5, 3, 172, 167, 6, 85, 43, 42, 21, 5, 4, 96, 46, 42, 21, 5, 5, 96, 46, 45]
abbrev dktL_law_100 : List UInt8 := dkwL_law_100 ++ dktL_law_101
def dkwL_law_99 : List UInt8 := [44, 182, 0, 223, 21, 6, 159, 0, 5, 3, 172, 21, 6, 154, 0, 15, 45, 3, 47, 21, 7, 133, 148]
abbrev dktL_law_99 : List UInt8 := dkwL_law_99 ++ dktL_law_100
def dkwL_law_98 : List UInt8 := [42, 21, 5, 4, 96, 46, 45, 184, 1, 78, 54, 6, 44, 42, 21, 5, 4, 96, 46, 182, 1, 80, 54, 7]
abbrev dktL_law_98 : List UInt8 := dkwL_law_98 ++ dktL_law_99
def dkwL_law_97 : List UInt8 := [3, 49, 25, 4, 3, 49, 151, 153, 0, 11, 24, 7, 24, 7, 151, 154, 0, 5, 3, 172, 167, 6, 141, 43]
abbrev dktL_law_97 : List UInt8 := dkwL_law_97 ++ dktL_law_98
def dkwL_law_96 : List UInt8 := [21, 6, 159, 0, 5, 3, 172, 21, 6, 154, 0, 35, 25, 4, 3, 49, 24, 7, 151, 153, 0, 25, 25, 4]
abbrev dktL_law_96 : List UInt8 := dkwL_law_96 ++ dktL_law_97
def dkwL_law_95 : List UInt8 := [25, 4, 184, 1, 75, 54, 6, 44, 42, 21, 5, 4, 96, 46, 182, 1, 77, 57, 7, 44, 182, 0, 223]
abbrev dktL_law_95 : List UInt8 := dkwL_law_95 ++ dktL_law_96
def dkwL_law_94 : List UInt8 := [151, 153, 0, 11, 24, 7, 24, 7, 151, 154, 0, 5, 3, 172, 167, 6, 218, 43, 42, 21, 5, 4, 96, 46]
abbrev dktL_law_94 : List UInt8 := dkwL_law_94 ++ dktL_law_95
def dkwL_law_93 : List UInt8 := [172, 21, 6, 154, 0, 35, 25, 4, 3, 49, 24, 7, 151, 153, 0, 25, 25, 4, 3, 49, 25, 4, 3, 49]
abbrev dktL_law_93 : List UInt8 := dkwL_law_93 ++ dktL_law_94
def dkwL_law_92 : List UInt8 := [54, 6, 44, 42, 21, 5, 4, 96, 46, 182, 1, 74, 57, 7, 44, 182, 0, 223, 21, 6, 159, 0, 5, 3]
abbrev dktL_law_92 : List UInt8 := dkwL_law_92 ++ dktL_law_93
def dkwL_law_91 : List UInt8 := [24, 7, 151, 154, 0, 5, 3, 172, 167, 7, 39, 43, 42, 21, 5, 4, 96, 46, 25, 4, 184, 1, 72]
abbrev dktL_law_91 : List UInt8 := dkwL_law_91 ++ dktL_law_92
def dkwL_law_90 : List UInt8 := [25, 4, 3, 49, 24, 7, 151, 153, 0, 25, 25, 4, 3, 49, 25, 4, 3, 49, 151, 153, 0, 11, 24, 7]
abbrev dktL_law_90 : List UInt8 := dkwL_law_90 ++ dktL_law_91
def dkwL_law_89 : List UInt8 := [96, 46, 182, 1, 71, 57, 7, 44, 182, 0, 223, 21, 6, 159, 0, 5, 3, 172, 21, 6, 154, 0, 35]
abbrev dktL_law_89 : List UInt8 := dkwL_law_89 ++ dktL_law_90
def dkwL_law_88 : List UInt8 := [3, 172, 167, 7, 116, 43, 42, 21, 5, 4, 96, 46, 25, 4, 184, 1, 69, 54, 6, 44, 42, 21, 5, 4]
abbrev dktL_law_88 : List UInt8 := dkwL_law_88 ++ dktL_law_89
def dkwL_law_87 : List UInt8 := [151, 153, 0, 25, 25, 4, 3, 49, 25, 4, 3, 49, 151, 153, 0, 11, 24, 7, 24, 7, 151, 154, 0, 5]
abbrev dktL_law_87 : List UInt8 := dkwL_law_87 ++ dktL_law_88
def dkwL_law_86 : List UInt8 := [57, 7, 44, 182, 0, 223, 21, 6, 159, 0, 5, 3, 172, 21, 6, 154, 0, 35, 25, 4, 3, 49, 24, 7]
abbrev dktL_law_86 : List UInt8 := dkwL_law_86 ++ dktL_law_87
def dkwL_law_85 : List UInt8 := [42, 21, 5, 4, 96, 46, 25, 4, 184, 1, 66, 54, 6, 44, 42, 21, 5, 4, 96, 46, 182, 1, 68]
abbrev dktL_law_85 : List UInt8 := dkwL_law_85 ++ dktL_law_86
def dkwL_law_84 : List UInt8 := [3, 49, 25, 4, 3, 49, 151, 153, 0, 11, 24, 7, 24, 7, 151, 154, 0, 5, 3, 172, 167, 7, 193, 43]
abbrev dktL_law_84 : List UInt8 := dkwL_law_84 ++ dktL_law_85
def dkwL_law_83 : List UInt8 := [21, 6, 159, 0, 5, 3, 172, 21, 6, 154, 0, 35, 25, 4, 3, 49, 24, 7, 151, 153, 0, 25, 25, 4]
abbrev dktL_law_83 : List UInt8 := dkwL_law_83 ++ dktL_law_84
def dkwL_law_82 : List UInt8 := [4, 96, 46, 42, 21, 5, 5, 96, 46, 42, 21, 5, 6, 96, 46, 182, 1, 65, 57, 7, 44, 182, 0, 223]
abbrev dktL_law_82 : List UInt8 := dkwL_law_82 ++ dktL_law_83
def dkwL_law_81 : List UInt8 := [46, 42, 21, 5, 5, 96, 46, 42, 21, 5, 6, 96, 46, 25, 4, 184, 1, 63, 54, 6, 44, 42, 21, 5]
abbrev dktL_law_81 : List UInt8 := dkwL_law_81 ++ dktL_law_82
def dkwL_law_80 : List UInt8 := [154, 0, 15, 45, 3, 47, 21, 7, 133, 148, 153, 0, 5, 3, 172, 167, 8, 38, 43, 42, 21, 5, 4, 96]
abbrev dktL_law_80 : List UInt8 := dkwL_law_80 ++ dktL_law_81
def dkwL_law_79 : List UInt8 := [184, 1, 60, 54, 6, 44, 182, 1, 62, 54, 7, 44, 182, 0, 223, 21, 6, 159, 0, 5, 3, 172, 21, 6]
abbrev dktL_law_79 : List UInt8 := dkwL_law_79 ++ dktL_law_80
def dkwL_law_78 : List UInt8 := [47, 21, 7, 153, 0, 7, 10, 167, 0, 4, 9, 148, 153, 0, 5, 3, 172, 167, 8, 82, 43, 45]
abbrev dktL_law_78 : List UInt8 := dkwL_law_78 ++ dktL_law_79
def dkwL_law_77 : List UInt8 := [46, 182, 1, 59, 54, 7, 44, 182, 0, 223, 21, 6, 159, 0, 5, 3, 172, 21, 6, 154, 0, 22, 45, 3]
abbrev dktL_law_77 : List UInt8 := dkwL_law_77 ++ dktL_law_78
def dkwL_law_76 : List UInt8 := [3, 172, 167, 8, 145, 43, 42, 21, 5, 4, 96, 46, 45, 184, 1, 57, 54, 6, 44, 42, 21, 5, 4, 96]
abbrev dktL_law_76 : List UInt8 := dkwL_law_76 ++ dktL_law_77
def dkwL_law_75 : List UInt8 := [151, 153, 0, 25, 25, 4, 3, 49, 25, 4, 3, 49, 151, 153, 0, 11, 24, 7, 24, 7, 151, 154, 0, 5]
abbrev dktL_law_75 : List UInt8 := dkwL_law_75 ++ dktL_law_76
def dkwL_law_74 : List UInt8 := [57, 7, 44, 182, 0, 223, 21, 6, 159, 0, 5, 3, 172, 21, 6, 154, 0, 35, 25, 4, 3, 49, 24, 7]
abbrev dktL_law_74 : List UInt8 := dkwL_law_74 ++ dktL_law_75
def dkwL_law_73 : List UInt8 := [42, 21, 5, 4, 96, 46, 25, 4, 184, 1, 54, 54, 6, 44, 42, 21, 5, 4, 96, 46, 182, 1, 56]
abbrev dktL_law_73 : List UInt8 := dkwL_law_73 ++ dktL_law_74
def dkwL_law_72 : List UInt8 := [3, 49, 25, 4, 3, 49, 151, 153, 0, 11, 24, 7, 24, 7, 151, 154, 0, 5, 3, 172, 167, 8, 222, 43]
abbrev dktL_law_72 : List UInt8 := dkwL_law_72 ++ dktL_law_73
def dkwL_law_71 : List UInt8 := [21, 6, 159, 0, 5, 3, 172, 21, 6, 154, 0, 35, 25, 4, 3, 49, 24, 7, 151, 153, 0, 25, 25, 4]
abbrev dktL_law_71 : List UInt8 := dkwL_law_71 ++ dktL_law_72
def dkwL_law_70 : List UInt8 := [25, 4, 184, 1, 51, 54, 6, 44, 42, 21, 5, 4, 96, 46, 182, 1, 53, 57, 7, 44, 182, 0, 223]
abbrev dktL_law_70 : List UInt8 := dkwL_law_70 ++ dktL_law_71
def dkwL_law_69 : List UInt8 := [151, 153, 0, 11, 24, 7, 24, 7, 151, 154, 0, 5, 3, 172, 167, 9, 43, 43, 42, 21, 5, 4, 96, 46]
abbrev dktL_law_69 : List UInt8 := dkwL_law_69 ++ dktL_law_70
def dkwL_law_68 : List UInt8 := [172, 21, 6, 154, 0, 35, 25, 4, 3, 49, 24, 7, 151, 153, 0, 25, 25, 4, 3, 49, 25, 4, 3, 49]
abbrev dktL_law_68 : List UInt8 := dkwL_law_68 ++ dktL_law_69
def dkwL_law_67 : List UInt8 := [5, 96, 46, 42, 21, 5, 6, 96, 46, 182, 1, 50, 57, 7, 44, 182, 0, 223, 21, 6, 159, 0, 5, 3]
abbrev dktL_law_67 : List UInt8 := dkwL_law_67 ++ dktL_law_68
def dkwL_law_66 : List UInt8 := [46, 42, 21, 5, 6, 96, 46, 25, 4, 184, 1, 47, 54, 6, 44, 42, 21, 5, 4, 96, 46, 42, 21, 5]
abbrev dktL_law_66 : List UInt8 := dkwL_law_66 ++ dktL_law_67
def dkwL_law_65 : List UInt8 := [47, 22, 7, 148, 153, 0, 5, 3, 172, 167, 9, 144, 43, 42, 21, 5, 4, 96, 46, 42, 21, 5, 5, 96]
abbrev dktL_law_65 : List UInt8 := dkwL_law_65 ++ dktL_law_66
def dkwL_law_64 : List UInt8 := [46, 182, 1, 46, 55, 7, 44, 182, 0, 223, 21, 6, 159, 0, 5, 3, 172, 21, 6, 154, 0, 14, 45, 3]
abbrev dktL_law_64 : List UInt8 := dkwL_law_64 ++ dktL_law_65
def dkwL_law_63 : List UInt8 := [3, 172, 167, 9, 199, 43, 42, 21, 5, 4, 96, 46, 45, 184, 1, 44, 54, 6, 44, 42, 21, 5, 4, 96]
abbrev dktL_law_63 : List UInt8 := dkwL_law_63 ++ dktL_law_64
def dkwL_law_62 : List UInt8 := [151, 153, 0, 25, 25, 4, 3, 49, 25, 4, 3, 49, 151, 153, 0, 11, 24, 7, 24, 7, 151, 154, 0, 5]
abbrev dktL_law_62 : List UInt8 := dkwL_law_62 ++ dktL_law_63
def dkwL_law_61 : List UInt8 := [57, 7, 44, 182, 0, 223, 21, 6, 159, 0, 5, 3, 172, 21, 6, 154, 0, 35, 25, 4, 3, 49, 24, 7]
abbrev dktL_law_61 : List UInt8 := dkwL_law_61 ++ dktL_law_62
def dkwL_law_60 : List UInt8 := [42, 21, 5, 4, 96, 46, 25, 4, 184, 1, 41, 54, 6, 44, 42, 21, 5, 4, 96, 46, 182, 1, 43]
abbrev dktL_law_60 : List UInt8 := dkwL_law_60 ++ dktL_law_61
def dkwL_law_59 : List UInt8 := [3, 49, 25, 4, 3, 49, 151, 153, 0, 11, 24, 7, 24, 7, 151, 154, 0, 5, 3, 172, 167, 10, 20, 43]
abbrev dktL_law_59 : List UInt8 := dkwL_law_59 ++ dktL_law_60
def dkwL_law_58 : List UInt8 := [21, 6, 159, 0, 5, 3, 172, 21, 6, 154, 0, 35, 25, 4, 3, 49, 24, 7, 151, 153, 0, 25, 25, 4]
abbrev dktL_law_58 : List UInt8 := dkwL_law_58 ++ dktL_law_59
def dkwL_law_57 : List UInt8 := [25, 4, 184, 1, 38, 54, 6, 44, 42, 21, 5, 4, 96, 46, 182, 1, 40, 57, 7, 44, 182, 0, 223]
abbrev dktL_law_57 : List UInt8 := dkwL_law_57 ++ dktL_law_58
def dkwL_law_56 : List UInt8 := [153, 0, 11, 24, 7, 24, 7, 151, 154, 0, 5, 3, 172, 167, 10, 97, 43, 42, 21, 5, 4, 96, 46]
abbrev dktL_law_56 : List UInt8 := dkwL_law_56 ++ dktL_law_57
def dkwL_law_55 : List UInt8 := [154, 0, 35, 25, 4, 3, 49, 24, 7, 151, 153, 0, 25, 25, 4, 3, 49, 25, 4, 3, 49, 151]
abbrev dktL_law_55 : List UInt8 := dkwL_law_55 ++ dktL_law_56
def dkwL_law_54 : List UInt8 := [21, 5, 4, 96, 46, 182, 1, 37, 57, 7, 44, 182, 0, 223, 21, 6, 159, 0, 5, 3, 172, 21, 6]
abbrev dktL_law_54 : List UInt8 := dkwL_law_54 ++ dktL_law_55
def dkwL_law_53 : List UInt8 := [153, 0, 5, 3, 172, 167, 10, 174, 43, 42, 21, 5, 4, 96, 46, 25, 4, 184, 1, 34, 54, 6, 44, 42]
abbrev dktL_law_53 : List UInt8 := dkwL_law_53 ++ dktL_law_54
def dkwL_law_52 : List UInt8 := [44, 182, 0, 223, 21, 6, 159, 0, 5, 3, 172, 21, 6, 154, 0, 15, 45, 3, 47, 21, 7, 133, 148]
abbrev dktL_law_52 : List UInt8 := dkwL_law_52 ++ dktL_law_53
def dkwL_law_51 : List UInt8 := [21, 5, 4, 96, 46, 42, 21, 5, 5, 96, 46, 153, 0, 7, 4, 167, 0, 4, 3, 182, 1, 33, 54, 7]
abbrev dktL_law_51 : List UInt8 := dkwL_law_51 ++ dktL_law_52
def dkwL_law_50 : List UInt8 := [46, 42, 21, 5, 5, 96, 46, 153, 0, 7, 4, 167, 0, 4, 3, 45, 184, 1, 30, 54, 6, 44, 42]
abbrev dktL_law_50 : List UInt8 := dkwL_law_50 ++ dktL_law_51
def dkwL_law_49 : List UInt8 := [154, 0, 15, 45, 3, 47, 21, 7, 133, 148, 153, 0, 5, 3, 172, 167, 11, 2, 43, 42, 21, 5, 4, 96]
abbrev dktL_law_49 : List UInt8 := dkwL_law_49 ++ dktL_law_50
def dkwL_law_48 : List UInt8 := [21, 5, 4, 96, 46, 182, 1, 29, 54, 7, 44, 182, 0, 223, 21, 6, 159, 0, 5, 3, 172, 21, 6]
abbrev dktL_law_48 : List UInt8 := dkwL_law_48 ++ dktL_law_49
def dkwL_law_47 : List UInt8 := [148, 153, 0, 5, 3, 172, 167, 11, 58, 43, 42, 21, 5, 4, 96, 46, 45, 184, 1, 27, 54, 6, 44, 42]
abbrev dktL_law_47 : List UInt8 := dkwL_law_47 ++ dktL_law_48
def dkwL_law_46 : List UInt8 := [54, 7, 44, 182, 0, 223, 21, 6, 159, 0, 5, 3, 172, 21, 6, 154, 0, 15, 45, 3, 47, 21, 7, 133]
abbrev dktL_law_46 : List UInt8 := dkwL_law_46 ++ dktL_law_47
def dkwL_law_45 : List UInt8 := [46, 45, 184, 1, 24, 54, 6, 44, 42, 21, 5, 4, 96, 46, 42, 21, 5, 5, 96, 46, 182, 1, 26]
abbrev dktL_law_45 : List UInt8 := dkwL_law_45 ++ dktL_law_46
def dkwL_law_44 : List UInt8 := [21, 7, 133, 148, 153, 0, 5, 3, 172, 167, 11, 126, 43, 42, 21, 5, 4, 96, 46, 42, 21, 5, 5, 96]
abbrev dktL_law_44 : List UInt8 := dkwL_law_44 ++ dktL_law_45
def dkwL_law_43 : List UInt8 := [182, 1, 23, 54, 7, 44, 182, 0, 223, 21, 6, 159, 0, 5, 3, 172, 21, 6, 154, 0, 15, 45, 3, 47]
abbrev dktL_law_43 : List UInt8 := dkwL_law_43 ++ dktL_law_44
def dkwL_law_42 : List UInt8 := [167, 11, 182, 43, 42, 21, 5, 4, 96, 46, 45, 184, 1, 21, 54, 6, 44, 42, 21, 5, 4, 96, 46]
abbrev dktL_law_42 : List UInt8 := dkwL_law_42 ++ dktL_law_43
def dkwL_law_41 : List UInt8 := [159, 0, 5, 3, 172, 21, 6, 154, 0, 15, 45, 3, 47, 21, 7, 133, 148, 153, 0, 5, 3, 172]
abbrev dktL_law_41 : List UInt8 := dkwL_law_41 ++ dktL_law_42
def dkwL_law_40 : List UInt8 := [21, 5, 4, 96, 46, 42, 21, 5, 5, 96, 46, 182, 1, 20, 54, 7, 44, 182, 0, 223, 21, 6]
abbrev dktL_law_40 : List UInt8 := dkwL_law_40 ++ dktL_law_41
def dkwL_law_39 : List UInt8 := [167, 11, 250, 43, 42, 21, 5, 4, 96, 46, 42, 21, 5, 5, 96, 46, 45, 184, 1, 18, 54, 6, 44, 42]
abbrev dktL_law_39 : List UInt8 := dkwL_law_39 ++ dktL_law_40
def dkwL_law_38 : List UInt8 := [159, 0, 5, 3, 172, 21, 6, 154, 0, 15, 45, 3, 47, 21, 7, 133, 148, 153, 0, 5, 3, 172]
abbrev dktL_law_38 : List UInt8 := dkwL_law_38 ++ dktL_law_39
def dkwL_law_37 : List UInt8 := [184, 1, 15, 54, 6, 44, 42, 21, 5, 4, 96, 46, 182, 1, 17, 54, 7, 44, 182, 0, 223, 21, 6]
abbrev dktL_law_37 : List UInt8 := dkwL_law_37 ++ dktL_law_38
def dkwL_law_36 : List UInt8 := [45, 3, 47, 22, 7, 148, 153, 0, 5, 3, 172, 167, 12, 50, 43, 42, 21, 5, 4, 96, 46, 45]
abbrev dktL_law_36 : List UInt8 := dkwL_law_36 ++ dktL_law_37
def dkwL_law_35 : List UInt8 := [54, 6, 44, 182, 1, 14, 55, 7, 44, 182, 0, 223, 21, 6, 159, 0, 5, 3, 172, 21, 6, 154, 0, 14]
abbrev dktL_law_35 : List UInt8 := dkwL_law_35 ++ dktL_law_36
def dkwL_law_34 : List UInt8 := [21, 6, 154, 0, 14, 45, 3, 47, 22, 7, 148, 153, 0, 5, 3, 172, 167, 12, 93, 43, 45, 184, 1, 12]
abbrev dktL_law_34 : List UInt8 := dkwL_law_34 ++ dktL_law_35
def dkwL_law_33 : List UInt8 := [46, 42, 21, 5, 6, 96, 46, 182, 1, 11, 55, 7, 44, 182, 0, 223, 21, 6, 159, 0, 5, 3, 172]
abbrev dktL_law_33 : List UInt8 := dkwL_law_33 ++ dktL_law_34
def dkwL_law_32 : List UInt8 := [42, 21, 5, 6, 96, 46, 45, 184, 1, 9, 54, 6, 44, 42, 21, 5, 4, 96, 46, 42, 21, 5, 5, 96]
abbrev dktL_law_32 : List UInt8 := dkwL_law_32 ++ dktL_law_33
def dkwL_law_31 : List UInt8 := [22, 7, 148, 153, 0, 5, 3, 172, 167, 12, 172, 43, 42, 21, 5, 4, 96, 46, 42, 21, 5, 5, 96, 46]
abbrev dktL_law_31 : List UInt8 := dkwL_law_31 ++ dktL_law_32
def dkwL_law_30 : List UInt8 := [182, 1, 8, 55, 7, 44, 182, 0, 223, 21, 6, 159, 0, 5, 3, 172, 21, 6, 154, 0, 14, 45, 3, 47]
abbrev dktL_law_30 : List UInt8 := dkwL_law_30 ++ dktL_law_31
def dkwL_law_29 : List UInt8 := [184, 1, 6, 54, 6, 44, 42, 21, 5, 4, 96, 46, 42, 21, 5, 5, 96, 46, 42, 21, 5, 6, 96, 46]
abbrev dktL_law_29 : List UInt8 := dkwL_law_29 ++ dktL_law_30
def dkwL_law_28 : List UInt8 := [167, 12, 251, 43, 42, 21, 5, 4, 96, 46, 42, 21, 5, 5, 96, 46, 42, 21, 5, 6, 96, 46, 45]
abbrev dktL_law_28 : List UInt8 := dkwL_law_28 ++ dktL_law_29
def dkwL_law_27 : List UInt8 := [159, 0, 5, 3, 172, 21, 6, 154, 0, 15, 45, 3, 47, 21, 7, 133, 148, 153, 0, 5, 3, 172]
abbrev dktL_law_27 : List UInt8 := dkwL_law_27 ++ dktL_law_28
def dkwL_law_26 : List UInt8 := [167, 13, 39, 43, 45, 184, 1, 3, 54, 6, 44, 182, 1, 5, 54, 7, 44, 182, 0, 223, 21, 6]
abbrev dktL_law_26 : List UInt8 := dkwL_law_26 ++ dktL_law_27
def dkwL_law_25 : List UInt8 := [159, 0, 5, 3, 172, 21, 6, 154, 0, 15, 45, 3, 47, 21, 7, 133, 148, 153, 0, 5, 3, 172]
abbrev dktL_law_25 : List UInt8 := dkwL_law_25 ++ dktL_law_26
def dkwL_law_24 : List UInt8 := [167, 13, 83, 43, 45, 184, 0, 255, 54, 6, 44, 182, 1, 2, 54, 7, 44, 182, 0, 223, 21, 6]
abbrev dktL_law_24 : List UInt8 := dkwL_law_24 ++ dktL_law_25
def dkwL_law_23 : List UInt8 := [159, 0, 5, 3, 172, 21, 6, 154, 0, 15, 45, 3, 47, 21, 7, 133, 148, 153, 0, 5, 3, 172]
abbrev dktL_law_23 : List UInt8 := dkwL_law_23 ++ dktL_law_24
def dkwL_law_22 : List UInt8 := [21, 5, 4, 96, 46, 42, 21, 5, 5, 96, 46, 182, 0, 254, 54, 7, 44, 182, 0, 223, 21, 6]
abbrev dktL_law_22 : List UInt8 := dkwL_law_22 ++ dktL_law_23
def dkwL_law_21 : List UInt8 := [167, 13, 151, 43, 42, 21, 5, 4, 96, 46, 42, 21, 5, 5, 96, 46, 45, 184, 0, 252, 54, 6, 44, 42]
abbrev dktL_law_21 : List UInt8 := dkwL_law_21 ++ dktL_law_22
def dkwL_law_20 : List UInt8 := [21, 6, 159, 0, 5, 3, 172, 21, 6, 154, 0, 15, 45, 3, 47, 21, 7, 133, 148, 153, 0, 5, 3, 172]
abbrev dktL_law_20 : List UInt8 := dkwL_law_20 ++ dktL_law_21
def dkwL_law_19 : List UInt8 := [96, 46, 42, 21, 5, 5, 96, 46, 42, 21, 5, 6, 96, 46, 182, 0, 251, 54, 7, 44, 182, 0, 223]
abbrev dktL_law_19 : List UInt8 := dkwL_law_19 ++ dktL_law_20
def dkwL_law_18 : List UInt8 := [46, 42, 21, 5, 5, 96, 46, 42, 21, 5, 6, 96, 46, 45, 184, 0, 248, 54, 6, 44, 42, 21, 5, 4]
abbrev dktL_law_18 : List UInt8 := dkwL_law_18 ++ dktL_law_19
def dkwL_law_17 : List UInt8 := [154, 0, 15, 45, 3, 47, 21, 7, 133, 148, 153, 0, 5, 3, 172, 167, 13, 231, 43, 42, 21, 5, 4, 96]
abbrev dktL_law_17 : List UInt8 := dkwL_law_17 ++ dktL_law_18
def dkwL_law_16 : List UInt8 := [21, 5, 4, 96, 46, 182, 0, 247, 54, 7, 44, 182, 0, 223, 21, 6, 159, 0, 5, 3, 172, 21, 6]
abbrev dktL_law_16 : List UInt8 := dkwL_law_16 ++ dktL_law_17
def dkwL_law_15 : List UInt8 := [153, 0, 5, 3, 172, 167, 14, 31, 43, 42, 21, 5, 4, 96, 46, 45, 184, 0, 245, 54, 6, 44, 42]
abbrev dktL_law_15 : List UInt8 := dkwL_law_15 ++ dktL_law_16
def dkwL_law_14 : List UInt8 := [182, 0, 223, 21, 6, 159, 0, 5, 3, 172, 21, 6, 154, 0, 15, 45, 3, 47, 21, 7, 133, 148]
abbrev dktL_law_14 : List UInt8 := dkwL_law_14 ++ dktL_law_15
def dkwL_law_13 : List UInt8 := [184, 0, 241, 54, 6, 44, 42, 21, 5, 4, 96, 46, 42, 21, 5, 5, 96, 46, 182, 0, 244, 54, 7, 44]
abbrev dktL_law_13 : List UInt8 := dkwL_law_13 ++ dktL_law_14
def dkwL_law_12 : List UInt8 := [148, 153, 0, 5, 3, 172, 167, 14, 99, 43, 42, 21, 5, 4, 96, 46, 42, 21, 5, 5, 96, 46, 45]
abbrev dktL_law_12 : List UInt8 := dkwL_law_12 ++ dktL_law_13
def dkwL_law_11 : List UInt8 := [54, 7, 44, 182, 0, 223, 21, 6, 159, 0, 5, 3, 172, 21, 6, 154, 0, 15, 45, 3, 47, 21, 7, 133]
abbrev dktL_law_11 : List UInt8 := dkwL_law_11 ++ dktL_law_12
def dkwL_law_10 : List UInt8 := [172, 43, 42, 21, 5, 4, 96, 46, 45, 184, 0, 238, 54, 6, 44, 42, 21, 5, 4, 96, 46, 182, 0, 240]
abbrev dktL_law_10 : List UInt8 := dkwL_law_10 ++ dktL_law_11
def dkwL_law_9 : List UInt8 := [182, 0, 230, 44, 182, 0, 233, 159, 14, 170, 3, 172, 43, 182, 0, 234, 44, 182, 0, 237, 159, 14, 157, 3]
abbrev dktL_law_9 : List UInt8 := dkwL_law_9 ++ dktL_law_10
def dkwL_law_8 : List UInt8 := [148, 153, 0, 5, 3, 172, 167, 14, 194, 43, 182, 0, 226, 44, 182, 0, 229, 159, 14, 183, 3, 172, 43]
abbrev dktL_law_8 : List UInt8 := dkwL_law_8 ++ dktL_law_9
def dkwL_law_7 : List UInt8 := [54, 7, 44, 182, 0, 223, 21, 6, 159, 0, 5, 3, 172, 21, 6, 154, 0, 15, 45, 3, 47, 21, 7, 133]
abbrev dktL_law_7 : List UInt8 := dkwL_law_7 ++ dktL_law_8
def dkwL_law_6 : List UInt8 := [172, 43, 42, 21, 5, 4, 96, 46, 45, 184, 0, 217, 54, 6, 44, 42, 21, 5, 4, 96, 46, 182, 0, 222]
abbrev dktL_law_6 : List UInt8 := dkwL_law_6 ++ dktL_law_7
def dkwL_law_5 : List UInt8 := [21, 5, 6, 96, 46, 42, 21, 5, 7, 96, 46, 42, 21, 5, 8, 96, 46, 182, 0, 216, 159, 14, 252, 3]
abbrev dktL_law_5 : List UInt8 := dkwL_law_5 ++ dktL_law_6
def dkwL_law_4 : List UInt8 := [46, 42, 21, 5, 8, 96, 46, 182, 0, 212, 44, 42, 21, 5, 4, 96, 46, 42, 21, 5, 5, 96, 46, 42]
abbrev dktL_law_4 : List UInt8 := dkwL_law_4 ++ dktL_law_5
def dkwL_law_3 : List UInt8 := [43, 42, 21, 5, 4, 96, 46, 42, 21, 5, 5, 96, 46, 42, 21, 5, 6, 96, 46, 42, 21, 5, 7, 96]
abbrev dktL_law_3 : List UInt8 := dkwL_law_3 ++ dktL_law_4
def dkwL_law_2 : List UInt8 := [170, 0, 0, 0, 0, 16, 79, 0, 0, 0, 0, 0, 0, 0, 63, 0, 0, 1, 15, 0, 0, 1, 88, 0, 0, 1, 144, 0, 0, 1, 157, 0, 0, 1, 170, 0, 0, 1, 183, 0, 0, 1, 239, 0, 0, 2, 51, 0, 0, 2, 107, 0, 0, 2, 187, 0, 0, 2, 255, 0, 0, 3, 43, 0, 0, 3, 87, 0, 0, 3, 166, 0, 0, 3, 245, 0, 0, 4, 32, 0, 0, 4, 88, 0, 0, 4, 156, 0, 0, 4, 212, 0, 0, 5, 24, 0, 0, 5, 80, 0, 0, 5, 164, 0, 0, 5, 241, 0, 0, 6, 62, 0, 0, 6, 139, 0, 0, 6, 194, 0, 0, 7, 39, 0, 0, 7, 116, 0, 0, 7, 193, 0, 0, 8, 0, 0, 0, 8, 44, 0, 0, 8, 145, 0, 0, 8, 222, 0, 0, 9, 43, 0, 0, 9, 120, 0, 0, 9, 197, 0, 0, 9, 253, 0, 0, 10, 65, 0, 0, 10, 121, 0, 0, 10, 165, 0, 0, 10, 233, 0, 0, 11, 21, 0, 0, 11, 110, 0, 0, 11, 154, 0, 0, 11, 247, 0, 0, 12, 47, 0, 0, 12, 103, 0, 0, 12, 169, 0, 0, 12, 213, 0, 0, 13, 22, 0, 0, 13, 66, 0, 0, 13, 110, 0, 0, 13, 154, 0, 0, 13, 210, 0, 0, 14, 10, 0, 0, 14, 106, 0, 0, 14, 174, 0, 0, 14, 242, 0, 0, 15, 42, 0, 0, 15, 98, 0, 0, 15, 166, 0, 0, 15, 210, 0, 0, 15, 223, 0, 0, 16, 23]
abbrev dktL_law_2 : List UInt8 := dkwL_law_2 ++ dktL_law_3
def dkwL_law_1 : List UInt8 := [58, 4, 3, 54, 5, 21, 5, 42, 190, 16, 6, 100, 163, 16, 95, 42, 21, 5, 46, 16, 63, 126]
abbrev dktL_law_1 : List UInt8 := dkwL_law_1 ++ dktL_law_2
def dkwL_law_0 : List UInt8 := [187, 0, 8, 89, 183, 0, 208, 76, 187, 0, 209, 89, 183, 0, 211, 77, 4, 188, 11, 78, 4, 188, 7]
abbrev dktL_law_0 : List UInt8 := dkwL_law_0 ++ dktL_law_1
theorem dksL_law_0 : cL_law.data.toList.drop 0 = dktL_law_0 := by decide +kernel
theorem dksL_law_1 : cL_law.data.toList.drop 23 = dktL_law_1 := dk_seg dksL_law_0 23 rfl rfl
theorem dksL_law_2 : cL_law.data.toList.drop 45 = dktL_law_2 := dk_seg dksL_law_1 22 rfl rfl
theorem dksL_law_3 : cL_law.data.toList.drop 316 = dktL_law_3 := dk_seg dksL_law_2 271 rfl rfl
theorem dksL_law_4 : cL_law.data.toList.drop 340 = dktL_law_4 := dk_seg dksL_law_3 24 rfl rfl
theorem dksL_law_5 : cL_law.data.toList.drop 364 = dktL_law_5 := dk_seg dksL_law_4 24 rfl rfl
theorem dksL_law_6 : cL_law.data.toList.drop 388 = dktL_law_6 := dk_seg dksL_law_5 24 rfl rfl
theorem dksL_law_7 : cL_law.data.toList.drop 412 = dktL_law_7 := dk_seg dksL_law_6 24 rfl rfl
theorem dksL_law_8 : cL_law.data.toList.drop 436 = dktL_law_8 := dk_seg dksL_law_7 24 rfl rfl
theorem dksL_law_9 : cL_law.data.toList.drop 459 = dktL_law_9 := dk_seg dksL_law_8 23 rfl rfl
theorem dksL_law_10 : cL_law.data.toList.drop 483 = dktL_law_10 := dk_seg dksL_law_9 24 rfl rfl
theorem dksL_law_11 : cL_law.data.toList.drop 507 = dktL_law_11 := dk_seg dksL_law_10 24 rfl rfl
theorem dksL_law_12 : cL_law.data.toList.drop 531 = dktL_law_12 := dk_seg dksL_law_11 24 rfl rfl
theorem dksL_law_13 : cL_law.data.toList.drop 554 = dktL_law_13 := dk_seg dksL_law_12 23 rfl rfl
theorem dksL_law_14 : cL_law.data.toList.drop 578 = dktL_law_14 := dk_seg dksL_law_13 24 rfl rfl
theorem dksL_law_15 : cL_law.data.toList.drop 600 = dktL_law_15 := dk_seg dksL_law_14 22 rfl rfl
theorem dksL_law_16 : cL_law.data.toList.drop 623 = dktL_law_16 := dk_seg dksL_law_15 23 rfl rfl
theorem dksL_law_17 : cL_law.data.toList.drop 646 = dktL_law_17 := dk_seg dksL_law_16 23 rfl rfl
theorem dksL_law_18 : cL_law.data.toList.drop 670 = dktL_law_18 := dk_seg dksL_law_17 24 rfl rfl
theorem dksL_law_19 : cL_law.data.toList.drop 694 = dktL_law_19 := dk_seg dksL_law_18 24 rfl rfl
theorem dksL_law_20 : cL_law.data.toList.drop 717 = dktL_law_20 := dk_seg dksL_law_19 23 rfl rfl
theorem dksL_law_21 : cL_law.data.toList.drop 741 = dktL_law_21 := dk_seg dksL_law_20 24 rfl rfl
theorem dksL_law_22 : cL_law.data.toList.drop 765 = dktL_law_22 := dk_seg dksL_law_21 24 rfl rfl
theorem dksL_law_23 : cL_law.data.toList.drop 787 = dktL_law_23 := dk_seg dksL_law_22 22 rfl rfl
theorem dksL_law_24 : cL_law.data.toList.drop 809 = dktL_law_24 := dk_seg dksL_law_23 22 rfl rfl
theorem dksL_law_25 : cL_law.data.toList.drop 831 = dktL_law_25 := dk_seg dksL_law_24 22 rfl rfl
theorem dksL_law_26 : cL_law.data.toList.drop 853 = dktL_law_26 := dk_seg dksL_law_25 22 rfl rfl
theorem dksL_law_27 : cL_law.data.toList.drop 875 = dktL_law_27 := dk_seg dksL_law_26 22 rfl rfl
theorem dksL_law_28 : cL_law.data.toList.drop 897 = dktL_law_28 := dk_seg dksL_law_27 22 rfl rfl
theorem dksL_law_29 : cL_law.data.toList.drop 920 = dktL_law_29 := dk_seg dksL_law_28 23 rfl rfl
theorem dksL_law_30 : cL_law.data.toList.drop 944 = dktL_law_30 := dk_seg dksL_law_29 24 rfl rfl
theorem dksL_law_31 : cL_law.data.toList.drop 968 = dktL_law_31 := dk_seg dksL_law_30 24 rfl rfl
theorem dksL_law_32 : cL_law.data.toList.drop 992 = dktL_law_32 := dk_seg dksL_law_31 24 rfl rfl
theorem dksL_law_33 : cL_law.data.toList.drop 1016 = dktL_law_33 := dk_seg dksL_law_32 24 rfl rfl
theorem dksL_law_34 : cL_law.data.toList.drop 1039 = dktL_law_34 := dk_seg dksL_law_33 23 rfl rfl
theorem dksL_law_35 : cL_law.data.toList.drop 1063 = dktL_law_35 := dk_seg dksL_law_34 24 rfl rfl
theorem dksL_law_36 : cL_law.data.toList.drop 1087 = dktL_law_36 := dk_seg dksL_law_35 24 rfl rfl
theorem dksL_law_37 : cL_law.data.toList.drop 1109 = dktL_law_37 := dk_seg dksL_law_36 22 rfl rfl
theorem dksL_law_38 : cL_law.data.toList.drop 1132 = dktL_law_38 := dk_seg dksL_law_37 23 rfl rfl
theorem dksL_law_39 : cL_law.data.toList.drop 1154 = dktL_law_39 := dk_seg dksL_law_38 22 rfl rfl
theorem dksL_law_40 : cL_law.data.toList.drop 1178 = dktL_law_40 := dk_seg dksL_law_39 24 rfl rfl
theorem dksL_law_41 : cL_law.data.toList.drop 1200 = dktL_law_41 := dk_seg dksL_law_40 22 rfl rfl
theorem dksL_law_42 : cL_law.data.toList.drop 1222 = dktL_law_42 := dk_seg dksL_law_41 22 rfl rfl
theorem dksL_law_43 : cL_law.data.toList.drop 1245 = dktL_law_43 := dk_seg dksL_law_42 23 rfl rfl
theorem dksL_law_44 : cL_law.data.toList.drop 1269 = dktL_law_44 := dk_seg dksL_law_43 24 rfl rfl
theorem dksL_law_45 : cL_law.data.toList.drop 1293 = dktL_law_45 := dk_seg dksL_law_44 24 rfl rfl
theorem dksL_law_46 : cL_law.data.toList.drop 1316 = dktL_law_46 := dk_seg dksL_law_45 23 rfl rfl
theorem dksL_law_47 : cL_law.data.toList.drop 1340 = dktL_law_47 := dk_seg dksL_law_46 24 rfl rfl
theorem dksL_law_48 : cL_law.data.toList.drop 1364 = dktL_law_48 := dk_seg dksL_law_47 24 rfl rfl
theorem dksL_law_49 : cL_law.data.toList.drop 1387 = dktL_law_49 := dk_seg dksL_law_48 23 rfl rfl
theorem dksL_law_50 : cL_law.data.toList.drop 1411 = dktL_law_50 := dk_seg dksL_law_49 24 rfl rfl
theorem dksL_law_51 : cL_law.data.toList.drop 1434 = dktL_law_51 := dk_seg dksL_law_50 23 rfl rfl
theorem dksL_law_52 : cL_law.data.toList.drop 1458 = dktL_law_52 := dk_seg dksL_law_51 24 rfl rfl
theorem dksL_law_53 : cL_law.data.toList.drop 1481 = dktL_law_53 := dk_seg dksL_law_52 23 rfl rfl
theorem dksL_law_54 : cL_law.data.toList.drop 1505 = dktL_law_54 := dk_seg dksL_law_53 24 rfl rfl
theorem dksL_law_55 : cL_law.data.toList.drop 1528 = dktL_law_55 := dk_seg dksL_law_54 23 rfl rfl
theorem dksL_law_56 : cL_law.data.toList.drop 1550 = dktL_law_56 := dk_seg dksL_law_55 22 rfl rfl
theorem dksL_law_57 : cL_law.data.toList.drop 1573 = dktL_law_57 := dk_seg dksL_law_56 23 rfl rfl
theorem dksL_law_58 : cL_law.data.toList.drop 1596 = dktL_law_58 := dk_seg dksL_law_57 23 rfl rfl
theorem dksL_law_59 : cL_law.data.toList.drop 1620 = dktL_law_59 := dk_seg dksL_law_58 24 rfl rfl
theorem dksL_law_60 : cL_law.data.toList.drop 1644 = dktL_law_60 := dk_seg dksL_law_59 24 rfl rfl
theorem dksL_law_61 : cL_law.data.toList.drop 1667 = dktL_law_61 := dk_seg dksL_law_60 23 rfl rfl
theorem dksL_law_62 : cL_law.data.toList.drop 1691 = dktL_law_62 := dk_seg dksL_law_61 24 rfl rfl
theorem dksL_law_63 : cL_law.data.toList.drop 1715 = dktL_law_63 := dk_seg dksL_law_62 24 rfl rfl
theorem dksL_law_64 : cL_law.data.toList.drop 1739 = dktL_law_64 := dk_seg dksL_law_63 24 rfl rfl
theorem dksL_law_65 : cL_law.data.toList.drop 1763 = dktL_law_65 := dk_seg dksL_law_64 24 rfl rfl
theorem dksL_law_66 : cL_law.data.toList.drop 1787 = dktL_law_66 := dk_seg dksL_law_65 24 rfl rfl
theorem dksL_law_67 : cL_law.data.toList.drop 1811 = dktL_law_67 := dk_seg dksL_law_66 24 rfl rfl
theorem dksL_law_68 : cL_law.data.toList.drop 1835 = dktL_law_68 := dk_seg dksL_law_67 24 rfl rfl
theorem dksL_law_69 : cL_law.data.toList.drop 1859 = dktL_law_69 := dk_seg dksL_law_68 24 rfl rfl
theorem dksL_law_70 : cL_law.data.toList.drop 1883 = dktL_law_70 := dk_seg dksL_law_69 24 rfl rfl
theorem dksL_law_71 : cL_law.data.toList.drop 1906 = dktL_law_71 := dk_seg dksL_law_70 23 rfl rfl
theorem dksL_law_72 : cL_law.data.toList.drop 1930 = dktL_law_72 := dk_seg dksL_law_71 24 rfl rfl
theorem dksL_law_73 : cL_law.data.toList.drop 1954 = dktL_law_73 := dk_seg dksL_law_72 24 rfl rfl
theorem dksL_law_74 : cL_law.data.toList.drop 1977 = dktL_law_74 := dk_seg dksL_law_73 23 rfl rfl
theorem dksL_law_75 : cL_law.data.toList.drop 2001 = dktL_law_75 := dk_seg dksL_law_74 24 rfl rfl
theorem dksL_law_76 : cL_law.data.toList.drop 2025 = dktL_law_76 := dk_seg dksL_law_75 24 rfl rfl
theorem dksL_law_77 : cL_law.data.toList.drop 2049 = dktL_law_77 := dk_seg dksL_law_76 24 rfl rfl
theorem dksL_law_78 : cL_law.data.toList.drop 2073 = dktL_law_78 := dk_seg dksL_law_77 24 rfl rfl
theorem dksL_law_79 : cL_law.data.toList.drop 2095 = dktL_law_79 := dk_seg dksL_law_78 22 rfl rfl
theorem dksL_law_80 : cL_law.data.toList.drop 2119 = dktL_law_80 := dk_seg dksL_law_79 24 rfl rfl
theorem dksL_law_81 : cL_law.data.toList.drop 2143 = dktL_law_81 := dk_seg dksL_law_80 24 rfl rfl
theorem dksL_law_82 : cL_law.data.toList.drop 2167 = dktL_law_82 := dk_seg dksL_law_81 24 rfl rfl
theorem dksL_law_83 : cL_law.data.toList.drop 2191 = dktL_law_83 := dk_seg dksL_law_82 24 rfl rfl
theorem dksL_law_84 : cL_law.data.toList.drop 2215 = dktL_law_84 := dk_seg dksL_law_83 24 rfl rfl
theorem dksL_law_85 : cL_law.data.toList.drop 2239 = dktL_law_85 := dk_seg dksL_law_84 24 rfl rfl
theorem dksL_law_86 : cL_law.data.toList.drop 2262 = dktL_law_86 := dk_seg dksL_law_85 23 rfl rfl
theorem dksL_law_87 : cL_law.data.toList.drop 2286 = dktL_law_87 := dk_seg dksL_law_86 24 rfl rfl
theorem dksL_law_88 : cL_law.data.toList.drop 2310 = dktL_law_88 := dk_seg dksL_law_87 24 rfl rfl
theorem dksL_law_89 : cL_law.data.toList.drop 2334 = dktL_law_89 := dk_seg dksL_law_88 24 rfl rfl
theorem dksL_law_90 : cL_law.data.toList.drop 2357 = dktL_law_90 := dk_seg dksL_law_89 23 rfl rfl
theorem dksL_law_91 : cL_law.data.toList.drop 2381 = dktL_law_91 := dk_seg dksL_law_90 24 rfl rfl
theorem dksL_law_92 : cL_law.data.toList.drop 2404 = dktL_law_92 := dk_seg dksL_law_91 23 rfl rfl
theorem dksL_law_93 : cL_law.data.toList.drop 2428 = dktL_law_93 := dk_seg dksL_law_92 24 rfl rfl
theorem dksL_law_94 : cL_law.data.toList.drop 2452 = dktL_law_94 := dk_seg dksL_law_93 24 rfl rfl
theorem dksL_law_95 : cL_law.data.toList.drop 2476 = dktL_law_95 := dk_seg dksL_law_94 24 rfl rfl
theorem dksL_law_96 : cL_law.data.toList.drop 2499 = dktL_law_96 := dk_seg dksL_law_95 23 rfl rfl
theorem dksL_law_97 : cL_law.data.toList.drop 2523 = dktL_law_97 := dk_seg dksL_law_96 24 rfl rfl
theorem dksL_law_98 : cL_law.data.toList.drop 2547 = dktL_law_98 := dk_seg dksL_law_97 24 rfl rfl
theorem dksL_law_99 : cL_law.data.toList.drop 2571 = dktL_law_99 := dk_seg dksL_law_98 24 rfl rfl
theorem dksL_law_100 : cL_law.data.toList.drop 2594 = dktL_law_100 := dk_seg dksL_law_99 23 rfl rfl
theorem dksL_law_101 : cL_law.data.toList.drop 2616 = dktL_law_101 := dk_seg dksL_law_100 22 rfl rfl
theorem dksL_law_102 : cL_law.data.toList.drop 2640 = dktL_law_102 := dk_seg dksL_law_101 24 rfl rfl
theorem dksL_law_103 : cL_law.data.toList.drop 2662 = dktL_law_103 := dk_seg dksL_law_102 22 rfl rfl
theorem dksL_law_104 : cL_law.data.toList.drop 2685 = dktL_law_104 := dk_seg dksL_law_103 23 rfl rfl
theorem dksL_law_105 : cL_law.data.toList.drop 2708 = dktL_law_105 := dk_seg dksL_law_104 23 rfl rfl
theorem dksL_law_106 : cL_law.data.toList.drop 2731 = dktL_law_106 := dk_seg dksL_law_105 23 rfl rfl
theorem dksL_law_107 : cL_law.data.toList.drop 2755 = dktL_law_107 := dk_seg dksL_law_106 24 rfl rfl
theorem dksL_law_108 : cL_law.data.toList.drop 2778 = dktL_law_108 := dk_seg dksL_law_107 23 rfl rfl
theorem dksL_law_109 : cL_law.data.toList.drop 2802 = dktL_law_109 := dk_seg dksL_law_108 24 rfl rfl
theorem dksL_law_110 : cL_law.data.toList.drop 2826 = dktL_law_110 := dk_seg dksL_law_109 24 rfl rfl
theorem dksL_law_111 : cL_law.data.toList.drop 2849 = dktL_law_111 := dk_seg dksL_law_110 23 rfl rfl
theorem dksL_law_112 : cL_law.data.toList.drop 2873 = dktL_law_112 := dk_seg dksL_law_111 24 rfl rfl
theorem dksL_law_113 : cL_law.data.toList.drop 2897 = dktL_law_113 := dk_seg dksL_law_112 24 rfl rfl
theorem dksL_law_114 : cL_law.data.toList.drop 2921 = dktL_law_114 := dk_seg dksL_law_113 24 rfl rfl
theorem dksL_law_115 : cL_law.data.toList.drop 2943 = dktL_law_115 := dk_seg dksL_law_114 22 rfl rfl
theorem dksL_law_116 : cL_law.data.toList.drop 2967 = dktL_law_116 := dk_seg dksL_law_115 24 rfl rfl
theorem dksL_law_117 : cL_law.data.toList.drop 2990 = dktL_law_117 := dk_seg dksL_law_116 23 rfl rfl
theorem dksL_law_118 : cL_law.data.toList.drop 3012 = dktL_law_118 := dk_seg dksL_law_117 22 rfl rfl
theorem dksL_law_119 : cL_law.data.toList.drop 3035 = dktL_law_119 := dk_seg dksL_law_118 23 rfl rfl
theorem dksL_law_120 : cL_law.data.toList.drop 3058 = dktL_law_120 := dk_seg dksL_law_119 23 rfl rfl
theorem dksL_law_121 : cL_law.data.toList.drop 3080 = dktL_law_121 := dk_seg dksL_law_120 22 rfl rfl
theorem dksL_law_122 : cL_law.data.toList.drop 3104 = dktL_law_122 := dk_seg dksL_law_121 24 rfl rfl
theorem dksL_law_123 : cL_law.data.toList.drop 3128 = dktL_law_123 := dk_seg dksL_law_122 24 rfl rfl
theorem dksL_law_124 : cL_law.data.toList.drop 3152 = dktL_law_124 := dk_seg dksL_law_123 24 rfl rfl
theorem dksL_law_125 : cL_law.data.toList.drop 3175 = dktL_law_125 := dk_seg dksL_law_124 23 rfl rfl
theorem dksL_law_126 : cL_law.data.toList.drop 3199 = dktL_law_126 := dk_seg dksL_law_125 24 rfl rfl
theorem dksL_law_127 : cL_law.data.toList.drop 3223 = dktL_law_127 := dk_seg dksL_law_126 24 rfl rfl
theorem dksL_law_128 : cL_law.data.toList.drop 3247 = dktL_law_128 := dk_seg dksL_law_127 24 rfl rfl
theorem dksL_law_129 : cL_law.data.toList.drop 3270 = dktL_law_129 := dk_seg dksL_law_128 23 rfl rfl
theorem dksL_law_130 : cL_law.data.toList.drop 3294 = dktL_law_130 := dk_seg dksL_law_129 24 rfl rfl
theorem dksL_law_131 : cL_law.data.toList.drop 3318 = dktL_law_131 := dk_seg dksL_law_130 24 rfl rfl
theorem dksL_law_132 : cL_law.data.toList.drop 3342 = dktL_law_132 := dk_seg dksL_law_131 24 rfl rfl
theorem dksL_law_133 : cL_law.data.toList.drop 3366 = dktL_law_133 := dk_seg dksL_law_132 24 rfl rfl
theorem dksL_law_134 : cL_law.data.toList.drop 3390 = dktL_law_134 := dk_seg dksL_law_133 24 rfl rfl
theorem dksL_law_135 : cL_law.data.toList.drop 3414 = dktL_law_135 := dk_seg dksL_law_134 24 rfl rfl
theorem dksL_law_136 : cL_law.data.toList.drop 3436 = dktL_law_136 := dk_seg dksL_law_135 22 rfl rfl
theorem dksL_law_137 : cL_law.data.toList.drop 3458 = dktL_law_137 := dk_seg dksL_law_136 22 rfl rfl
theorem dksL_law_138 : cL_law.data.toList.drop 3480 = dktL_law_138 := dk_seg dksL_law_137 22 rfl rfl
theorem dksL_law_139 : cL_law.data.toList.drop 3502 = dktL_law_139 := dk_seg dksL_law_138 22 rfl rfl
theorem dksL_law_140 : cL_law.data.toList.drop 3524 = dktL_law_140 := dk_seg dksL_law_139 22 rfl rfl
theorem dksL_law_141 : cL_law.data.toList.drop 3547 = dktL_law_141 := dk_seg dksL_law_140 23 rfl rfl
theorem dksL_law_142 : cL_law.data.toList.drop 3571 = dktL_law_142 := dk_seg dksL_law_141 24 rfl rfl
theorem dksL_law_143 : cL_law.data.toList.drop 3594 = dktL_law_143 := dk_seg dksL_law_142 23 rfl rfl
theorem dksL_law_144 : cL_law.data.toList.drop 3618 = dktL_law_144 := dk_seg dksL_law_143 24 rfl rfl
theorem dksL_law_145 : cL_law.data.toList.drop 3641 = dktL_law_145 := dk_seg dksL_law_144 23 rfl rfl
theorem dksL_law_146 : cL_law.data.toList.drop 3665 = dktL_law_146 := dk_seg dksL_law_145 24 rfl rfl
theorem dksL_law_147 : cL_law.data.toList.drop 3688 = dktL_law_147 := dk_seg dksL_law_146 23 rfl rfl
theorem dksL_law_148 : cL_law.data.toList.drop 3710 = dktL_law_148 := dk_seg dksL_law_147 22 rfl rfl
theorem dksL_law_149 : cL_law.data.toList.drop 3732 = dktL_law_149 := dk_seg dksL_law_148 22 rfl rfl
theorem dksL_law_150 : cL_law.data.toList.drop 3756 = dktL_law_150 := dk_seg dksL_law_149 24 rfl rfl
theorem dksL_law_151 : cL_law.data.toList.drop 3778 = dktL_law_151 := dk_seg dksL_law_150 22 rfl rfl
theorem dksL_law_152 : cL_law.data.toList.drop 3800 = dktL_law_152 := dk_seg dksL_law_151 22 rfl rfl
theorem dksL_law_153 : cL_law.data.toList.drop 3824 = dktL_law_153 := dk_seg dksL_law_152 24 rfl rfl
theorem dksL_law_154 : cL_law.data.toList.drop 3846 = dktL_law_154 := dk_seg dksL_law_153 22 rfl rfl
theorem dksL_law_155 : cL_law.data.toList.drop 3868 = dktL_law_155 := dk_seg dksL_law_154 22 rfl rfl
theorem dksL_law_156 : cL_law.data.toList.drop 3891 = dktL_law_156 := dk_seg dksL_law_155 23 rfl rfl
theorem dksL_law_157 : cL_law.data.toList.drop 3915 = dktL_law_157 := dk_seg dksL_law_156 24 rfl rfl
theorem dksL_law_158 : cL_law.data.toList.drop 3938 = dktL_law_158 := dk_seg dksL_law_157 23 rfl rfl
theorem dksL_law_159 : cL_law.data.toList.drop 3962 = dktL_law_159 := dk_seg dksL_law_158 24 rfl rfl
theorem dksL_law_160 : cL_law.data.toList.drop 3985 = dktL_law_160 := dk_seg dksL_law_159 23 rfl rfl
theorem dksL_law_161 : cL_law.data.toList.drop 4009 = dktL_law_161 := dk_seg dksL_law_160 24 rfl rfl
theorem dksL_law_162 : cL_law.data.toList.drop 4033 = dktL_law_162 := dk_seg dksL_law_161 24 rfl rfl
theorem dksL_law_163 : cL_law.data.toList.drop 4056 = dktL_law_163 := dk_seg dksL_law_162 23 rfl rfl
theorem dksL_law_164 : cL_law.data.toList.drop 4080 = dktL_law_164 := dk_seg dksL_law_163 24 rfl rfl
theorem dksL_law_165 : cL_law.data.toList.drop 4103 = dktL_law_165 := dk_seg dksL_law_164 23 rfl rfl
theorem dksL_law_166 : cL_law.data.toList.drop 4127 = dktL_law_166 := dk_seg dksL_law_165 24 rfl rfl
theorem dksL_law_167 : cL_law.data.toList.drop 4151 = dktL_law_167 := dk_seg dksL_law_166 24 rfl rfl
theorem dksL_law_168 : cL_law.data.toList.drop 4175 = dktL_law_168 := dk_seg dksL_law_167 24 rfl rfl
theorem dksL_law_169 : cL_law.data.toList.drop 4199 = dktL_law_169 := dk_seg dksL_law_168 24 rfl rfl
theorem dksL_law_170 : cL_law.data.toList.drop 4223 = dktL_law_170 := dk_seg dksL_law_169 24 rfl rfl
theorem dL_law_0 : decode cL_law 0 = .ok (.new 8, 3) := dk_187 0 8 (dk_at dksL_law_0 0 rfl rfl)
theorem dL_law_3 : decode cL_law 3 = .ok (.dup, 1) := dk_89 (dk_at dksL_law_0 3 rfl rfl)
theorem dL_law_4 : decode cL_law 4 = .ok (.invokespecial 208, 3) := dk_183 0 208 (dk_at dksL_law_0 4 rfl rfl)
theorem dL_law_7 : decode cL_law 7 = .ok (.astore_n 1, 1) := dk_76 (dk_at dksL_law_0 7 rfl rfl)
theorem dL_law_8 : decode cL_law 8 = .ok (.new 209, 3) := dk_187 0 209 (dk_at dksL_law_0 8 rfl rfl)
theorem dL_law_11 : decode cL_law 11 = .ok (.dup, 1) := dk_89 (dk_at dksL_law_0 11 rfl rfl)
theorem dL_law_12 : decode cL_law 12 = .ok (.invokespecial 211, 3) := dk_183 0 211 (dk_at dksL_law_0 12 rfl rfl)
theorem dL_law_15 : decode cL_law 15 = .ok (.astore_n 2, 1) := dk_77 (dk_at dksL_law_0 15 rfl rfl)
theorem dL_law_16 : decode cL_law 16 = .ok (.iconst 1, 1) := dk_4 (dk_at dksL_law_0 16 rfl rfl)
theorem dL_law_17 : decode cL_law 17 = .ok (.newarray .long, 2) := dk_188_11 (dk_at dksL_law_0 17 rfl rfl)
theorem dL_law_19 : decode cL_law 19 = .ok (.astore_n 3, 1) := dk_78 (dk_at dksL_law_0 19 rfl rfl)
theorem dL_law_20 : decode cL_law 20 = .ok (.iconst 1, 1) := dk_4 (dk_at dksL_law_0 20 rfl rfl)
theorem dL_law_21 : decode cL_law 21 = .ok (.newarray .double, 2) := dk_188_7 (dk_at dksL_law_0 21 rfl rfl)
theorem dL_law_23 : decode cL_law 23 = .ok (.astore 4, 2) := dk_58 4 (dk_at dksL_law_1 0 rfl rfl)
theorem dL_law_25 : decode cL_law 25 = .ok (.iconst 0, 1) := dk_3 (dk_at dksL_law_1 2 rfl rfl)
theorem dL_law_26 : decode cL_law 26 = .ok (.istore 5, 2) := dk_54 5 (dk_at dksL_law_1 3 rfl rfl)
theorem dL_law_28 : decode cL_law 28 = .ok (.iload 5, 2) := dk_21 5 (dk_at dksL_law_1 5 rfl rfl)
theorem dL_law_30 : decode cL_law 30 = .ok (.aload_n 0, 1) := dk_42 (dk_at dksL_law_1 7 rfl rfl)
theorem dL_law_31 : decode cL_law 31 = .ok (.arraylength, 1) := dk_190 (dk_at dksL_law_1 8 rfl rfl)
theorem dL_law_32 : decode cL_law 32 = .ok (.bipush 6, 2) := dk_16 6 (dk_at dksL_law_1 9 rfl rfl)
theorem dL_law_34 : decode cL_law 34 = .ok (.isub, 1) := dk_100 (dk_at dksL_law_1 11 rfl rfl)
theorem dL_law_35 : decode cL_law 35 = .ok (.if_icmp .gt 4191, 3) := dk_163 16 95 (dk_at dksL_law_1 12 rfl rfl)
theorem dL_law_38 : decode cL_law 38 = .ok (.aload_n 0, 1) := dk_42 (dk_at dksL_law_1 15 rfl rfl)
theorem dL_law_39 : decode cL_law 39 = .ok (.iload 5, 2) := dk_21 5 (dk_at dksL_law_1 16 rfl rfl)
theorem dL_law_41 : decode cL_law 41 = .ok (.iaload, 1) := dk_46 (dk_at dksL_law_1 18 rfl rfl)
theorem dL_law_42 : decode cL_law 42 = .ok (.bipush 63, 2) := dk_16 63 (dk_at dksL_law_1 19 rfl rfl)
theorem dL_law_44 : decode cL_law 44 = .ok (.iand, 1) := dk_126 (dk_at dksL_law_1 21 rfl rfl)
theorem dL_law_45 : decode cL_law 45 = .ok (.tableswitch 4175 0 63 #[271, 344, 400, 413, 426, 439, 495, 563, 619, 699, 767, 811, 855, 934, 1013, 1056, 1112, 1180, 1236, 1304, 1360, 1444, 1521, 1598, 1675, 1730, 1831, 1908, 1985, 2048, 2092, 2193, 2270, 2347, 2424, 2501, 2557, 2625, 2681, 2725, 2793, 2837, 2926, 2970, 3063, 3119, 3175, 3241, 3285, 3350, 3394, 3438, 3482, 3538, 3594, 3690, 3758, 3826, 3882, 3938, 4006, 4050, 4063, 4119], 271) := by decide +kernel
theorem dL_law_316 : decode cL_law 316 = .ok (.aload_n 1, 1) := dk_43 (dk_at dksL_law_3 0 rfl rfl)
theorem dL_law_317 : decode cL_law 317 = .ok (.aload_n 0, 1) := dk_42 (dk_at dksL_law_3 1 rfl rfl)
theorem dL_law_318 : decode cL_law 318 = .ok (.iload 5, 2) := dk_21 5 (dk_at dksL_law_3 2 rfl rfl)
theorem dL_law_320 : decode cL_law 320 = .ok (.iconst 1, 1) := dk_4 (dk_at dksL_law_3 4 rfl rfl)
theorem dL_law_321 : decode cL_law 321 = .ok (.iadd, 1) := dk_96 (dk_at dksL_law_3 5 rfl rfl)
theorem dL_law_322 : decode cL_law 322 = .ok (.iaload, 1) := dk_46 (dk_at dksL_law_3 6 rfl rfl)
theorem dL_law_323 : decode cL_law 323 = .ok (.aload_n 0, 1) := dk_42 (dk_at dksL_law_3 7 rfl rfl)
theorem dL_law_324 : decode cL_law 324 = .ok (.iload 5, 2) := dk_21 5 (dk_at dksL_law_3 8 rfl rfl)
theorem dL_law_326 : decode cL_law 326 = .ok (.iconst 2, 1) := dk_5 (dk_at dksL_law_3 10 rfl rfl)
theorem dL_law_327 : decode cL_law 327 = .ok (.iadd, 1) := dk_96 (dk_at dksL_law_3 11 rfl rfl)
theorem dL_law_328 : decode cL_law 328 = .ok (.iaload, 1) := dk_46 (dk_at dksL_law_3 12 rfl rfl)
theorem dL_law_329 : decode cL_law 329 = .ok (.aload_n 0, 1) := dk_42 (dk_at dksL_law_3 13 rfl rfl)
theorem dL_law_330 : decode cL_law 330 = .ok (.iload 5, 2) := dk_21 5 (dk_at dksL_law_3 14 rfl rfl)
theorem dL_law_332 : decode cL_law 332 = .ok (.iconst 3, 1) := dk_6 (dk_at dksL_law_3 16 rfl rfl)
theorem dL_law_333 : decode cL_law 333 = .ok (.iadd, 1) := dk_96 (dk_at dksL_law_3 17 rfl rfl)
theorem dL_law_334 : decode cL_law 334 = .ok (.iaload, 1) := dk_46 (dk_at dksL_law_3 18 rfl rfl)
theorem dL_law_335 : decode cL_law 335 = .ok (.aload_n 0, 1) := dk_42 (dk_at dksL_law_3 19 rfl rfl)
theorem dL_law_336 : decode cL_law 336 = .ok (.iload 5, 2) := dk_21 5 (dk_at dksL_law_3 20 rfl rfl)
theorem dL_law_338 : decode cL_law 338 = .ok (.iconst 4, 1) := dk_7 (dk_at dksL_law_3 22 rfl rfl)
theorem dL_law_339 : decode cL_law 339 = .ok (.iadd, 1) := dk_96 (dk_at dksL_law_3 23 rfl rfl)
theorem dL_law_340 : decode cL_law 340 = .ok (.iaload, 1) := dk_46 (dk_at dksL_law_4 0 rfl rfl)
theorem dL_law_341 : decode cL_law 341 = .ok (.aload_n 0, 1) := dk_42 (dk_at dksL_law_4 1 rfl rfl)
theorem dL_law_342 : decode cL_law 342 = .ok (.iload 5, 2) := dk_21 5 (dk_at dksL_law_4 2 rfl rfl)
theorem dL_law_344 : decode cL_law 344 = .ok (.iconst 5, 1) := dk_8 (dk_at dksL_law_4 4 rfl rfl)
theorem dL_law_345 : decode cL_law 345 = .ok (.iadd, 1) := dk_96 (dk_at dksL_law_4 5 rfl rfl)
theorem dL_law_346 : decode cL_law 346 = .ok (.iaload, 1) := dk_46 (dk_at dksL_law_4 6 rfl rfl)
theorem dL_law_347 : decode cL_law 347 = .ok (.invokevirtual 212, 3) := dk_182 0 212 (dk_at dksL_law_4 7 rfl rfl)
theorem dL_law_350 : decode cL_law 350 = .ok (.aload_n 2, 1) := dk_44 (dk_at dksL_law_4 10 rfl rfl)
theorem dL_law_351 : decode cL_law 351 = .ok (.aload_n 0, 1) := dk_42 (dk_at dksL_law_4 11 rfl rfl)
theorem dL_law_352 : decode cL_law 352 = .ok (.iload 5, 2) := dk_21 5 (dk_at dksL_law_4 12 rfl rfl)
theorem dL_law_354 : decode cL_law 354 = .ok (.iconst 1, 1) := dk_4 (dk_at dksL_law_4 14 rfl rfl)
theorem dL_law_355 : decode cL_law 355 = .ok (.iadd, 1) := dk_96 (dk_at dksL_law_4 15 rfl rfl)
theorem dL_law_356 : decode cL_law 356 = .ok (.iaload, 1) := dk_46 (dk_at dksL_law_4 16 rfl rfl)
theorem dL_law_357 : decode cL_law 357 = .ok (.aload_n 0, 1) := dk_42 (dk_at dksL_law_4 17 rfl rfl)
theorem dL_law_358 : decode cL_law 358 = .ok (.iload 5, 2) := dk_21 5 (dk_at dksL_law_4 18 rfl rfl)
theorem dL_law_360 : decode cL_law 360 = .ok (.iconst 2, 1) := dk_5 (dk_at dksL_law_4 20 rfl rfl)
theorem dL_law_361 : decode cL_law 361 = .ok (.iadd, 1) := dk_96 (dk_at dksL_law_4 21 rfl rfl)
theorem dL_law_362 : decode cL_law 362 = .ok (.iaload, 1) := dk_46 (dk_at dksL_law_4 22 rfl rfl)
theorem dL_law_363 : decode cL_law 363 = .ok (.aload_n 0, 1) := dk_42 (dk_at dksL_law_4 23 rfl rfl)
theorem dL_law_364 : decode cL_law 364 = .ok (.iload 5, 2) := dk_21 5 (dk_at dksL_law_5 0 rfl rfl)
theorem dL_law_366 : decode cL_law 366 = .ok (.iconst 3, 1) := dk_6 (dk_at dksL_law_5 2 rfl rfl)
theorem dL_law_367 : decode cL_law 367 = .ok (.iadd, 1) := dk_96 (dk_at dksL_law_5 3 rfl rfl)
theorem dL_law_368 : decode cL_law 368 = .ok (.iaload, 1) := dk_46 (dk_at dksL_law_5 4 rfl rfl)
theorem dL_law_369 : decode cL_law 369 = .ok (.aload_n 0, 1) := dk_42 (dk_at dksL_law_5 5 rfl rfl)
theorem dL_law_370 : decode cL_law 370 = .ok (.iload 5, 2) := dk_21 5 (dk_at dksL_law_5 6 rfl rfl)
theorem dL_law_372 : decode cL_law 372 = .ok (.iconst 4, 1) := dk_7 (dk_at dksL_law_5 8 rfl rfl)
theorem dL_law_373 : decode cL_law 373 = .ok (.iadd, 1) := dk_96 (dk_at dksL_law_5 9 rfl rfl)
theorem dL_law_374 : decode cL_law 374 = .ok (.iaload, 1) := dk_46 (dk_at dksL_law_5 10 rfl rfl)
theorem dL_law_375 : decode cL_law 375 = .ok (.aload_n 0, 1) := dk_42 (dk_at dksL_law_5 11 rfl rfl)
theorem dL_law_376 : decode cL_law 376 = .ok (.iload 5, 2) := dk_21 5 (dk_at dksL_law_5 12 rfl rfl)
theorem dL_law_378 : decode cL_law 378 = .ok (.iconst 5, 1) := dk_8 (dk_at dksL_law_5 14 rfl rfl)
theorem dL_law_379 : decode cL_law 379 = .ok (.iadd, 1) := dk_96 (dk_at dksL_law_5 15 rfl rfl)
theorem dL_law_380 : decode cL_law 380 = .ok (.iaload, 1) := dk_46 (dk_at dksL_law_5 16 rfl rfl)
theorem dL_law_381 : decode cL_law 381 = .ok (.invokevirtual 216, 3) := dk_182 0 216 (dk_at dksL_law_5 17 rfl rfl)
theorem dL_law_384 : decode cL_law 384 = .ok (.if_icmp .eq 3836, 3) := dk_159 14 252 (dk_at dksL_law_5 20 rfl rfl)
theorem dL_law_387 : decode cL_law 387 = .ok (.iconst 0, 1) := dk_3 (dk_at dksL_law_5 23 rfl rfl)
theorem dL_law_388 : decode cL_law 388 = .ok (.ireturn, 1) := dk_172 (dk_at dksL_law_6 0 rfl rfl)
theorem dL_law_389 : decode cL_law 389 = .ok (.aload_n 1, 1) := dk_43 (dk_at dksL_law_6 1 rfl rfl)
theorem dL_law_390 : decode cL_law 390 = .ok (.aload_n 0, 1) := dk_42 (dk_at dksL_law_6 2 rfl rfl)
theorem dL_law_391 : decode cL_law 391 = .ok (.iload 5, 2) := dk_21 5 (dk_at dksL_law_6 3 rfl rfl)
theorem dL_law_393 : decode cL_law 393 = .ok (.iconst 1, 1) := dk_4 (dk_at dksL_law_6 5 rfl rfl)
theorem dL_law_394 : decode cL_law 394 = .ok (.iadd, 1) := dk_96 (dk_at dksL_law_6 6 rfl rfl)
theorem dL_law_395 : decode cL_law 395 = .ok (.iaload, 1) := dk_46 (dk_at dksL_law_6 7 rfl rfl)
theorem dL_law_396 : decode cL_law 396 = .ok (.aload_n 3, 1) := dk_45 (dk_at dksL_law_6 8 rfl rfl)
theorem dL_law_397 : decode cL_law 397 = .ok (.invokestatic 217, 3) := dk_184 0 217 (dk_at dksL_law_6 9 rfl rfl)
theorem dL_law_400 : decode cL_law 400 = .ok (.istore 6, 2) := dk_54 6 (dk_at dksL_law_6 12 rfl rfl)
theorem dL_law_402 : decode cL_law 402 = .ok (.aload_n 2, 1) := dk_44 (dk_at dksL_law_6 14 rfl rfl)
theorem dL_law_403 : decode cL_law 403 = .ok (.aload_n 0, 1) := dk_42 (dk_at dksL_law_6 15 rfl rfl)
theorem dL_law_404 : decode cL_law 404 = .ok (.iload 5, 2) := dk_21 5 (dk_at dksL_law_6 16 rfl rfl)
theorem dL_law_406 : decode cL_law 406 = .ok (.iconst 1, 1) := dk_4 (dk_at dksL_law_6 18 rfl rfl)
theorem dL_law_407 : decode cL_law 407 = .ok (.iadd, 1) := dk_96 (dk_at dksL_law_6 19 rfl rfl)
theorem dL_law_408 : decode cL_law 408 = .ok (.iaload, 1) := dk_46 (dk_at dksL_law_6 20 rfl rfl)
theorem dL_law_409 : decode cL_law 409 = .ok (.invokevirtual 222, 3) := dk_182 0 222 (dk_at dksL_law_6 21 rfl rfl)
theorem dL_law_412 : decode cL_law 412 = .ok (.istore 7, 2) := dk_54 7 (dk_at dksL_law_7 0 rfl rfl)
theorem dL_law_414 : decode cL_law 414 = .ok (.aload_n 2, 1) := dk_44 (dk_at dksL_law_7 2 rfl rfl)
theorem dL_law_415 : decode cL_law 415 = .ok (.invokevirtual 223, 3) := dk_182 0 223 (dk_at dksL_law_7 3 rfl rfl)
theorem dL_law_418 : decode cL_law 418 = .ok (.iload 6, 2) := dk_21 6 (dk_at dksL_law_7 6 rfl rfl)
theorem dL_law_420 : decode cL_law 420 = .ok (.if_icmp .eq 5, 3) := dk_159 0 5 (dk_at dksL_law_7 8 rfl rfl)
theorem dL_law_423 : decode cL_law 423 = .ok (.iconst 0, 1) := dk_3 (dk_at dksL_law_7 11 rfl rfl)
theorem dL_law_424 : decode cL_law 424 = .ok (.ireturn, 1) := dk_172 (dk_at dksL_law_7 12 rfl rfl)
theorem dL_law_425 : decode cL_law 425 = .ok (.iload 6, 2) := dk_21 6 (dk_at dksL_law_7 13 rfl rfl)
theorem dL_law_427 : decode cL_law 427 = .ok (.ifCond .ne 15, 3) := dk_154 0 15 (dk_at dksL_law_7 15 rfl rfl)
theorem dL_law_430 : decode cL_law 430 = .ok (.aload_n 3, 1) := dk_45 (dk_at dksL_law_7 18 rfl rfl)
theorem dL_law_431 : decode cL_law 431 = .ok (.iconst 0, 1) := dk_3 (dk_at dksL_law_7 19 rfl rfl)
theorem dL_law_432 : decode cL_law 432 = .ok (.laload, 1) := dk_47 (dk_at dksL_law_7 20 rfl rfl)
theorem dL_law_433 : decode cL_law 433 = .ok (.iload 7, 2) := dk_21 7 (dk_at dksL_law_7 21 rfl rfl)
theorem dL_law_435 : decode cL_law 435 = .ok (.i2l, 1) := dk_133 (dk_at dksL_law_7 23 rfl rfl)
theorem dL_law_436 : decode cL_law 436 = .ok (.lcmp, 1) := dk_148 (dk_at dksL_law_8 0 rfl rfl)
theorem dL_law_437 : decode cL_law 437 = .ok (.ifCond .eq 5, 3) := dk_153 0 5 (dk_at dksL_law_8 1 rfl rfl)
theorem dL_law_440 : decode cL_law 440 = .ok (.iconst 0, 1) := dk_3 (dk_at dksL_law_8 4 rfl rfl)
theorem dL_law_441 : decode cL_law 441 = .ok (.ireturn, 1) := dk_172 (dk_at dksL_law_8 5 rfl rfl)
theorem dL_law_442 : decode cL_law 442 = .ok (.goto 3778, 3) := dk_167 14 194 (dk_at dksL_law_8 6 rfl rfl)
theorem dL_law_445 : decode cL_law 445 = .ok (.aload_n 1, 1) := dk_43 (dk_at dksL_law_8 9 rfl rfl)
theorem dL_law_446 : decode cL_law 446 = .ok (.invokevirtual 226, 3) := dk_182 0 226 (dk_at dksL_law_8 10 rfl rfl)
theorem dL_law_449 : decode cL_law 449 = .ok (.aload_n 2, 1) := dk_44 (dk_at dksL_law_8 13 rfl rfl)
theorem dL_law_450 : decode cL_law 450 = .ok (.invokevirtual 229, 3) := dk_182 0 229 (dk_at dksL_law_8 14 rfl rfl)
theorem dL_law_453 : decode cL_law 453 = .ok (.if_icmp .eq 3767, 3) := dk_159 14 183 (dk_at dksL_law_8 17 rfl rfl)
theorem dL_law_456 : decode cL_law 456 = .ok (.iconst 0, 1) := dk_3 (dk_at dksL_law_8 20 rfl rfl)
theorem dL_law_457 : decode cL_law 457 = .ok (.ireturn, 1) := dk_172 (dk_at dksL_law_8 21 rfl rfl)
theorem dL_law_458 : decode cL_law 458 = .ok (.aload_n 1, 1) := dk_43 (dk_at dksL_law_8 22 rfl rfl)
theorem dL_law_459 : decode cL_law 459 = .ok (.invokevirtual 230, 3) := dk_182 0 230 (dk_at dksL_law_9 0 rfl rfl)
theorem dL_law_462 : decode cL_law 462 = .ok (.aload_n 2, 1) := dk_44 (dk_at dksL_law_9 3 rfl rfl)
theorem dL_law_463 : decode cL_law 463 = .ok (.invokevirtual 233, 3) := dk_182 0 233 (dk_at dksL_law_9 4 rfl rfl)
theorem dL_law_466 : decode cL_law 466 = .ok (.if_icmp .eq 3754, 3) := dk_159 14 170 (dk_at dksL_law_9 7 rfl rfl)
theorem dL_law_469 : decode cL_law 469 = .ok (.iconst 0, 1) := dk_3 (dk_at dksL_law_9 10 rfl rfl)
theorem dL_law_470 : decode cL_law 470 = .ok (.ireturn, 1) := dk_172 (dk_at dksL_law_9 11 rfl rfl)
theorem dL_law_471 : decode cL_law 471 = .ok (.aload_n 1, 1) := dk_43 (dk_at dksL_law_9 12 rfl rfl)
theorem dL_law_472 : decode cL_law 472 = .ok (.invokevirtual 234, 3) := dk_182 0 234 (dk_at dksL_law_9 13 rfl rfl)
theorem dL_law_475 : decode cL_law 475 = .ok (.aload_n 2, 1) := dk_44 (dk_at dksL_law_9 16 rfl rfl)
theorem dL_law_476 : decode cL_law 476 = .ok (.invokevirtual 237, 3) := dk_182 0 237 (dk_at dksL_law_9 17 rfl rfl)
theorem dL_law_479 : decode cL_law 479 = .ok (.if_icmp .eq 3741, 3) := dk_159 14 157 (dk_at dksL_law_9 20 rfl rfl)
theorem dL_law_482 : decode cL_law 482 = .ok (.iconst 0, 1) := dk_3 (dk_at dksL_law_9 23 rfl rfl)
theorem dL_law_483 : decode cL_law 483 = .ok (.ireturn, 1) := dk_172 (dk_at dksL_law_10 0 rfl rfl)
theorem dL_law_484 : decode cL_law 484 = .ok (.aload_n 1, 1) := dk_43 (dk_at dksL_law_10 1 rfl rfl)
theorem dL_law_485 : decode cL_law 485 = .ok (.aload_n 0, 1) := dk_42 (dk_at dksL_law_10 2 rfl rfl)
theorem dL_law_486 : decode cL_law 486 = .ok (.iload 5, 2) := dk_21 5 (dk_at dksL_law_10 3 rfl rfl)
theorem dL_law_488 : decode cL_law 488 = .ok (.iconst 1, 1) := dk_4 (dk_at dksL_law_10 5 rfl rfl)
theorem dL_law_489 : decode cL_law 489 = .ok (.iadd, 1) := dk_96 (dk_at dksL_law_10 6 rfl rfl)
theorem dL_law_490 : decode cL_law 490 = .ok (.iaload, 1) := dk_46 (dk_at dksL_law_10 7 rfl rfl)
theorem dL_law_491 : decode cL_law 491 = .ok (.aload_n 3, 1) := dk_45 (dk_at dksL_law_10 8 rfl rfl)
theorem dL_law_492 : decode cL_law 492 = .ok (.invokestatic 238, 3) := dk_184 0 238 (dk_at dksL_law_10 9 rfl rfl)
theorem dL_law_495 : decode cL_law 495 = .ok (.istore 6, 2) := dk_54 6 (dk_at dksL_law_10 12 rfl rfl)
theorem dL_law_497 : decode cL_law 497 = .ok (.aload_n 2, 1) := dk_44 (dk_at dksL_law_10 14 rfl rfl)
theorem dL_law_498 : decode cL_law 498 = .ok (.aload_n 0, 1) := dk_42 (dk_at dksL_law_10 15 rfl rfl)
theorem dL_law_499 : decode cL_law 499 = .ok (.iload 5, 2) := dk_21 5 (dk_at dksL_law_10 16 rfl rfl)
theorem dL_law_501 : decode cL_law 501 = .ok (.iconst 1, 1) := dk_4 (dk_at dksL_law_10 18 rfl rfl)
theorem dL_law_502 : decode cL_law 502 = .ok (.iadd, 1) := dk_96 (dk_at dksL_law_10 19 rfl rfl)
theorem dL_law_503 : decode cL_law 503 = .ok (.iaload, 1) := dk_46 (dk_at dksL_law_10 20 rfl rfl)
theorem dL_law_504 : decode cL_law 504 = .ok (.invokevirtual 240, 3) := dk_182 0 240 (dk_at dksL_law_10 21 rfl rfl)
theorem dL_law_507 : decode cL_law 507 = .ok (.istore 7, 2) := dk_54 7 (dk_at dksL_law_11 0 rfl rfl)
theorem dL_law_509 : decode cL_law 509 = .ok (.aload_n 2, 1) := dk_44 (dk_at dksL_law_11 2 rfl rfl)
theorem dL_law_510 : decode cL_law 510 = .ok (.invokevirtual 223, 3) := dk_182 0 223 (dk_at dksL_law_11 3 rfl rfl)
theorem dL_law_513 : decode cL_law 513 = .ok (.iload 6, 2) := dk_21 6 (dk_at dksL_law_11 6 rfl rfl)
theorem dL_law_515 : decode cL_law 515 = .ok (.if_icmp .eq 5, 3) := dk_159 0 5 (dk_at dksL_law_11 8 rfl rfl)
theorem dL_law_518 : decode cL_law 518 = .ok (.iconst 0, 1) := dk_3 (dk_at dksL_law_11 11 rfl rfl)
theorem dL_law_519 : decode cL_law 519 = .ok (.ireturn, 1) := dk_172 (dk_at dksL_law_11 12 rfl rfl)
theorem dL_law_520 : decode cL_law 520 = .ok (.iload 6, 2) := dk_21 6 (dk_at dksL_law_11 13 rfl rfl)
theorem dL_law_522 : decode cL_law 522 = .ok (.ifCond .ne 15, 3) := dk_154 0 15 (dk_at dksL_law_11 15 rfl rfl)
theorem dL_law_525 : decode cL_law 525 = .ok (.aload_n 3, 1) := dk_45 (dk_at dksL_law_11 18 rfl rfl)
theorem dL_law_526 : decode cL_law 526 = .ok (.iconst 0, 1) := dk_3 (dk_at dksL_law_11 19 rfl rfl)
theorem dL_law_527 : decode cL_law 527 = .ok (.laload, 1) := dk_47 (dk_at dksL_law_11 20 rfl rfl)
theorem dL_law_528 : decode cL_law 528 = .ok (.iload 7, 2) := dk_21 7 (dk_at dksL_law_11 21 rfl rfl)
theorem dL_law_530 : decode cL_law 530 = .ok (.i2l, 1) := dk_133 (dk_at dksL_law_11 23 rfl rfl)
theorem dL_law_531 : decode cL_law 531 = .ok (.lcmp, 1) := dk_148 (dk_at dksL_law_12 0 rfl rfl)
theorem dL_law_532 : decode cL_law 532 = .ok (.ifCond .eq 5, 3) := dk_153 0 5 (dk_at dksL_law_12 1 rfl rfl)
theorem dL_law_535 : decode cL_law 535 = .ok (.iconst 0, 1) := dk_3 (dk_at dksL_law_12 4 rfl rfl)
theorem dL_law_536 : decode cL_law 536 = .ok (.ireturn, 1) := dk_172 (dk_at dksL_law_12 5 rfl rfl)
theorem dL_law_537 : decode cL_law 537 = .ok (.goto 3683, 3) := dk_167 14 99 (dk_at dksL_law_12 6 rfl rfl)
theorem dL_law_540 : decode cL_law 540 = .ok (.aload_n 1, 1) := dk_43 (dk_at dksL_law_12 9 rfl rfl)
theorem dL_law_541 : decode cL_law 541 = .ok (.aload_n 0, 1) := dk_42 (dk_at dksL_law_12 10 rfl rfl)
theorem dL_law_542 : decode cL_law 542 = .ok (.iload 5, 2) := dk_21 5 (dk_at dksL_law_12 11 rfl rfl)
theorem dL_law_544 : decode cL_law 544 = .ok (.iconst 1, 1) := dk_4 (dk_at dksL_law_12 13 rfl rfl)
theorem dL_law_545 : decode cL_law 545 = .ok (.iadd, 1) := dk_96 (dk_at dksL_law_12 14 rfl rfl)
theorem dL_law_546 : decode cL_law 546 = .ok (.iaload, 1) := dk_46 (dk_at dksL_law_12 15 rfl rfl)
theorem dL_law_547 : decode cL_law 547 = .ok (.aload_n 0, 1) := dk_42 (dk_at dksL_law_12 16 rfl rfl)
theorem dL_law_548 : decode cL_law 548 = .ok (.iload 5, 2) := dk_21 5 (dk_at dksL_law_12 17 rfl rfl)
theorem dL_law_550 : decode cL_law 550 = .ok (.iconst 2, 1) := dk_5 (dk_at dksL_law_12 19 rfl rfl)
theorem dL_law_551 : decode cL_law 551 = .ok (.iadd, 1) := dk_96 (dk_at dksL_law_12 20 rfl rfl)
theorem dL_law_552 : decode cL_law 552 = .ok (.iaload, 1) := dk_46 (dk_at dksL_law_12 21 rfl rfl)
theorem dL_law_553 : decode cL_law 553 = .ok (.aload_n 3, 1) := dk_45 (dk_at dksL_law_12 22 rfl rfl)
theorem dL_law_554 : decode cL_law 554 = .ok (.invokestatic 241, 3) := dk_184 0 241 (dk_at dksL_law_13 0 rfl rfl)
theorem dL_law_557 : decode cL_law 557 = .ok (.istore 6, 2) := dk_54 6 (dk_at dksL_law_13 3 rfl rfl)
theorem dL_law_559 : decode cL_law 559 = .ok (.aload_n 2, 1) := dk_44 (dk_at dksL_law_13 5 rfl rfl)
theorem dL_law_560 : decode cL_law 560 = .ok (.aload_n 0, 1) := dk_42 (dk_at dksL_law_13 6 rfl rfl)
theorem dL_law_561 : decode cL_law 561 = .ok (.iload 5, 2) := dk_21 5 (dk_at dksL_law_13 7 rfl rfl)
theorem dL_law_563 : decode cL_law 563 = .ok (.iconst 1, 1) := dk_4 (dk_at dksL_law_13 9 rfl rfl)
theorem dL_law_564 : decode cL_law 564 = .ok (.iadd, 1) := dk_96 (dk_at dksL_law_13 10 rfl rfl)
theorem dL_law_565 : decode cL_law 565 = .ok (.iaload, 1) := dk_46 (dk_at dksL_law_13 11 rfl rfl)
theorem dL_law_566 : decode cL_law 566 = .ok (.aload_n 0, 1) := dk_42 (dk_at dksL_law_13 12 rfl rfl)
theorem dL_law_567 : decode cL_law 567 = .ok (.iload 5, 2) := dk_21 5 (dk_at dksL_law_13 13 rfl rfl)
theorem dL_law_569 : decode cL_law 569 = .ok (.iconst 2, 1) := dk_5 (dk_at dksL_law_13 15 rfl rfl)
theorem dL_law_570 : decode cL_law 570 = .ok (.iadd, 1) := dk_96 (dk_at dksL_law_13 16 rfl rfl)
theorem dL_law_571 : decode cL_law 571 = .ok (.iaload, 1) := dk_46 (dk_at dksL_law_13 17 rfl rfl)
theorem dL_law_572 : decode cL_law 572 = .ok (.invokevirtual 244, 3) := dk_182 0 244 (dk_at dksL_law_13 18 rfl rfl)
theorem dL_law_575 : decode cL_law 575 = .ok (.istore 7, 2) := dk_54 7 (dk_at dksL_law_13 21 rfl rfl)
theorem dL_law_577 : decode cL_law 577 = .ok (.aload_n 2, 1) := dk_44 (dk_at dksL_law_13 23 rfl rfl)
theorem dL_law_578 : decode cL_law 578 = .ok (.invokevirtual 223, 3) := dk_182 0 223 (dk_at dksL_law_14 0 rfl rfl)
theorem dL_law_581 : decode cL_law 581 = .ok (.iload 6, 2) := dk_21 6 (dk_at dksL_law_14 3 rfl rfl)
theorem dL_law_583 : decode cL_law 583 = .ok (.if_icmp .eq 5, 3) := dk_159 0 5 (dk_at dksL_law_14 5 rfl rfl)
theorem dL_law_586 : decode cL_law 586 = .ok (.iconst 0, 1) := dk_3 (dk_at dksL_law_14 8 rfl rfl)
theorem dL_law_587 : decode cL_law 587 = .ok (.ireturn, 1) := dk_172 (dk_at dksL_law_14 9 rfl rfl)
theorem dL_law_588 : decode cL_law 588 = .ok (.iload 6, 2) := dk_21 6 (dk_at dksL_law_14 10 rfl rfl)
theorem dL_law_590 : decode cL_law 590 = .ok (.ifCond .ne 15, 3) := dk_154 0 15 (dk_at dksL_law_14 12 rfl rfl)
theorem dL_law_593 : decode cL_law 593 = .ok (.aload_n 3, 1) := dk_45 (dk_at dksL_law_14 15 rfl rfl)
theorem dL_law_594 : decode cL_law 594 = .ok (.iconst 0, 1) := dk_3 (dk_at dksL_law_14 16 rfl rfl)
theorem dL_law_595 : decode cL_law 595 = .ok (.laload, 1) := dk_47 (dk_at dksL_law_14 17 rfl rfl)
theorem dL_law_596 : decode cL_law 596 = .ok (.iload 7, 2) := dk_21 7 (dk_at dksL_law_14 18 rfl rfl)
theorem dL_law_598 : decode cL_law 598 = .ok (.i2l, 1) := dk_133 (dk_at dksL_law_14 20 rfl rfl)
theorem dL_law_599 : decode cL_law 599 = .ok (.lcmp, 1) := dk_148 (dk_at dksL_law_14 21 rfl rfl)
theorem dL_law_600 : decode cL_law 600 = .ok (.ifCond .eq 5, 3) := dk_153 0 5 (dk_at dksL_law_15 0 rfl rfl)
theorem dL_law_603 : decode cL_law 603 = .ok (.iconst 0, 1) := dk_3 (dk_at dksL_law_15 3 rfl rfl)
theorem dL_law_604 : decode cL_law 604 = .ok (.ireturn, 1) := dk_172 (dk_at dksL_law_15 4 rfl rfl)
theorem dL_law_605 : decode cL_law 605 = .ok (.goto 3615, 3) := dk_167 14 31 (dk_at dksL_law_15 5 rfl rfl)
theorem dL_law_608 : decode cL_law 608 = .ok (.aload_n 1, 1) := dk_43 (dk_at dksL_law_15 8 rfl rfl)
theorem dL_law_609 : decode cL_law 609 = .ok (.aload_n 0, 1) := dk_42 (dk_at dksL_law_15 9 rfl rfl)
theorem dL_law_610 : decode cL_law 610 = .ok (.iload 5, 2) := dk_21 5 (dk_at dksL_law_15 10 rfl rfl)
theorem dL_law_612 : decode cL_law 612 = .ok (.iconst 1, 1) := dk_4 (dk_at dksL_law_15 12 rfl rfl)
theorem dL_law_613 : decode cL_law 613 = .ok (.iadd, 1) := dk_96 (dk_at dksL_law_15 13 rfl rfl)
theorem dL_law_614 : decode cL_law 614 = .ok (.iaload, 1) := dk_46 (dk_at dksL_law_15 14 rfl rfl)
theorem dL_law_615 : decode cL_law 615 = .ok (.aload_n 3, 1) := dk_45 (dk_at dksL_law_15 15 rfl rfl)
theorem dL_law_616 : decode cL_law 616 = .ok (.invokestatic 245, 3) := dk_184 0 245 (dk_at dksL_law_15 16 rfl rfl)
theorem dL_law_619 : decode cL_law 619 = .ok (.istore 6, 2) := dk_54 6 (dk_at dksL_law_15 19 rfl rfl)
theorem dL_law_621 : decode cL_law 621 = .ok (.aload_n 2, 1) := dk_44 (dk_at dksL_law_15 21 rfl rfl)
theorem dL_law_622 : decode cL_law 622 = .ok (.aload_n 0, 1) := dk_42 (dk_at dksL_law_15 22 rfl rfl)
theorem dL_law_623 : decode cL_law 623 = .ok (.iload 5, 2) := dk_21 5 (dk_at dksL_law_16 0 rfl rfl)
theorem dL_law_625 : decode cL_law 625 = .ok (.iconst 1, 1) := dk_4 (dk_at dksL_law_16 2 rfl rfl)
theorem dL_law_626 : decode cL_law 626 = .ok (.iadd, 1) := dk_96 (dk_at dksL_law_16 3 rfl rfl)
theorem dL_law_627 : decode cL_law 627 = .ok (.iaload, 1) := dk_46 (dk_at dksL_law_16 4 rfl rfl)
theorem dL_law_628 : decode cL_law 628 = .ok (.invokevirtual 247, 3) := dk_182 0 247 (dk_at dksL_law_16 5 rfl rfl)
theorem dL_law_631 : decode cL_law 631 = .ok (.istore 7, 2) := dk_54 7 (dk_at dksL_law_16 8 rfl rfl)
theorem dL_law_633 : decode cL_law 633 = .ok (.aload_n 2, 1) := dk_44 (dk_at dksL_law_16 10 rfl rfl)
theorem dL_law_634 : decode cL_law 634 = .ok (.invokevirtual 223, 3) := dk_182 0 223 (dk_at dksL_law_16 11 rfl rfl)
theorem dL_law_637 : decode cL_law 637 = .ok (.iload 6, 2) := dk_21 6 (dk_at dksL_law_16 14 rfl rfl)
theorem dL_law_639 : decode cL_law 639 = .ok (.if_icmp .eq 5, 3) := dk_159 0 5 (dk_at dksL_law_16 16 rfl rfl)
theorem dL_law_642 : decode cL_law 642 = .ok (.iconst 0, 1) := dk_3 (dk_at dksL_law_16 19 rfl rfl)
theorem dL_law_643 : decode cL_law 643 = .ok (.ireturn, 1) := dk_172 (dk_at dksL_law_16 20 rfl rfl)
theorem dL_law_644 : decode cL_law 644 = .ok (.iload 6, 2) := dk_21 6 (dk_at dksL_law_16 21 rfl rfl)
theorem dL_law_646 : decode cL_law 646 = .ok (.ifCond .ne 15, 3) := dk_154 0 15 (dk_at dksL_law_17 0 rfl rfl)
theorem dL_law_649 : decode cL_law 649 = .ok (.aload_n 3, 1) := dk_45 (dk_at dksL_law_17 3 rfl rfl)
theorem dL_law_650 : decode cL_law 650 = .ok (.iconst 0, 1) := dk_3 (dk_at dksL_law_17 4 rfl rfl)
theorem dL_law_651 : decode cL_law 651 = .ok (.laload, 1) := dk_47 (dk_at dksL_law_17 5 rfl rfl)
theorem dL_law_652 : decode cL_law 652 = .ok (.iload 7, 2) := dk_21 7 (dk_at dksL_law_17 6 rfl rfl)
theorem dL_law_654 : decode cL_law 654 = .ok (.i2l, 1) := dk_133 (dk_at dksL_law_17 8 rfl rfl)
theorem dL_law_655 : decode cL_law 655 = .ok (.lcmp, 1) := dk_148 (dk_at dksL_law_17 9 rfl rfl)
theorem dL_law_656 : decode cL_law 656 = .ok (.ifCond .eq 5, 3) := dk_153 0 5 (dk_at dksL_law_17 10 rfl rfl)
theorem dL_law_659 : decode cL_law 659 = .ok (.iconst 0, 1) := dk_3 (dk_at dksL_law_17 13 rfl rfl)
theorem dL_law_660 : decode cL_law 660 = .ok (.ireturn, 1) := dk_172 (dk_at dksL_law_17 14 rfl rfl)
theorem dL_law_661 : decode cL_law 661 = .ok (.goto 3559, 3) := dk_167 13 231 (dk_at dksL_law_17 15 rfl rfl)
theorem dL_law_664 : decode cL_law 664 = .ok (.aload_n 1, 1) := dk_43 (dk_at dksL_law_17 18 rfl rfl)
theorem dL_law_665 : decode cL_law 665 = .ok (.aload_n 0, 1) := dk_42 (dk_at dksL_law_17 19 rfl rfl)
theorem dL_law_666 : decode cL_law 666 = .ok (.iload 5, 2) := dk_21 5 (dk_at dksL_law_17 20 rfl rfl)
theorem dL_law_668 : decode cL_law 668 = .ok (.iconst 1, 1) := dk_4 (dk_at dksL_law_17 22 rfl rfl)
theorem dL_law_669 : decode cL_law 669 = .ok (.iadd, 1) := dk_96 (dk_at dksL_law_17 23 rfl rfl)
theorem dL_law_670 : decode cL_law 670 = .ok (.iaload, 1) := dk_46 (dk_at dksL_law_18 0 rfl rfl)
theorem dL_law_671 : decode cL_law 671 = .ok (.aload_n 0, 1) := dk_42 (dk_at dksL_law_18 1 rfl rfl)
theorem dL_law_672 : decode cL_law 672 = .ok (.iload 5, 2) := dk_21 5 (dk_at dksL_law_18 2 rfl rfl)
theorem dL_law_674 : decode cL_law 674 = .ok (.iconst 2, 1) := dk_5 (dk_at dksL_law_18 4 rfl rfl)
theorem dL_law_675 : decode cL_law 675 = .ok (.iadd, 1) := dk_96 (dk_at dksL_law_18 5 rfl rfl)
theorem dL_law_676 : decode cL_law 676 = .ok (.iaload, 1) := dk_46 (dk_at dksL_law_18 6 rfl rfl)
theorem dL_law_677 : decode cL_law 677 = .ok (.aload_n 0, 1) := dk_42 (dk_at dksL_law_18 7 rfl rfl)
theorem dL_law_678 : decode cL_law 678 = .ok (.iload 5, 2) := dk_21 5 (dk_at dksL_law_18 8 rfl rfl)
theorem dL_law_680 : decode cL_law 680 = .ok (.iconst 3, 1) := dk_6 (dk_at dksL_law_18 10 rfl rfl)
theorem dL_law_681 : decode cL_law 681 = .ok (.iadd, 1) := dk_96 (dk_at dksL_law_18 11 rfl rfl)
theorem dL_law_682 : decode cL_law 682 = .ok (.iaload, 1) := dk_46 (dk_at dksL_law_18 12 rfl rfl)
theorem dL_law_683 : decode cL_law 683 = .ok (.aload_n 3, 1) := dk_45 (dk_at dksL_law_18 13 rfl rfl)
theorem dL_law_684 : decode cL_law 684 = .ok (.invokestatic 248, 3) := dk_184 0 248 (dk_at dksL_law_18 14 rfl rfl)
theorem dL_law_687 : decode cL_law 687 = .ok (.istore 6, 2) := dk_54 6 (dk_at dksL_law_18 17 rfl rfl)
theorem dL_law_689 : decode cL_law 689 = .ok (.aload_n 2, 1) := dk_44 (dk_at dksL_law_18 19 rfl rfl)
theorem dL_law_690 : decode cL_law 690 = .ok (.aload_n 0, 1) := dk_42 (dk_at dksL_law_18 20 rfl rfl)
theorem dL_law_691 : decode cL_law 691 = .ok (.iload 5, 2) := dk_21 5 (dk_at dksL_law_18 21 rfl rfl)
theorem dL_law_693 : decode cL_law 693 = .ok (.iconst 1, 1) := dk_4 (dk_at dksL_law_18 23 rfl rfl)
theorem dL_law_694 : decode cL_law 694 = .ok (.iadd, 1) := dk_96 (dk_at dksL_law_19 0 rfl rfl)
theorem dL_law_695 : decode cL_law 695 = .ok (.iaload, 1) := dk_46 (dk_at dksL_law_19 1 rfl rfl)
theorem dL_law_696 : decode cL_law 696 = .ok (.aload_n 0, 1) := dk_42 (dk_at dksL_law_19 2 rfl rfl)
theorem dL_law_697 : decode cL_law 697 = .ok (.iload 5, 2) := dk_21 5 (dk_at dksL_law_19 3 rfl rfl)
theorem dL_law_699 : decode cL_law 699 = .ok (.iconst 2, 1) := dk_5 (dk_at dksL_law_19 5 rfl rfl)
theorem dL_law_700 : decode cL_law 700 = .ok (.iadd, 1) := dk_96 (dk_at dksL_law_19 6 rfl rfl)
theorem dL_law_701 : decode cL_law 701 = .ok (.iaload, 1) := dk_46 (dk_at dksL_law_19 7 rfl rfl)
theorem dL_law_702 : decode cL_law 702 = .ok (.aload_n 0, 1) := dk_42 (dk_at dksL_law_19 8 rfl rfl)
theorem dL_law_703 : decode cL_law 703 = .ok (.iload 5, 2) := dk_21 5 (dk_at dksL_law_19 9 rfl rfl)
theorem dL_law_705 : decode cL_law 705 = .ok (.iconst 3, 1) := dk_6 (dk_at dksL_law_19 11 rfl rfl)
theorem dL_law_706 : decode cL_law 706 = .ok (.iadd, 1) := dk_96 (dk_at dksL_law_19 12 rfl rfl)
theorem dL_law_707 : decode cL_law 707 = .ok (.iaload, 1) := dk_46 (dk_at dksL_law_19 13 rfl rfl)
theorem dL_law_708 : decode cL_law 708 = .ok (.invokevirtual 251, 3) := dk_182 0 251 (dk_at dksL_law_19 14 rfl rfl)
theorem dL_law_711 : decode cL_law 711 = .ok (.istore 7, 2) := dk_54 7 (dk_at dksL_law_19 17 rfl rfl)
theorem dL_law_713 : decode cL_law 713 = .ok (.aload_n 2, 1) := dk_44 (dk_at dksL_law_19 19 rfl rfl)
theorem dL_law_714 : decode cL_law 714 = .ok (.invokevirtual 223, 3) := dk_182 0 223 (dk_at dksL_law_19 20 rfl rfl)
theorem dL_law_717 : decode cL_law 717 = .ok (.iload 6, 2) := dk_21 6 (dk_at dksL_law_20 0 rfl rfl)
theorem dL_law_719 : decode cL_law 719 = .ok (.if_icmp .eq 5, 3) := dk_159 0 5 (dk_at dksL_law_20 2 rfl rfl)
theorem dL_law_722 : decode cL_law 722 = .ok (.iconst 0, 1) := dk_3 (dk_at dksL_law_20 5 rfl rfl)
theorem dL_law_723 : decode cL_law 723 = .ok (.ireturn, 1) := dk_172 (dk_at dksL_law_20 6 rfl rfl)
theorem dL_law_724 : decode cL_law 724 = .ok (.iload 6, 2) := dk_21 6 (dk_at dksL_law_20 7 rfl rfl)
theorem dL_law_726 : decode cL_law 726 = .ok (.ifCond .ne 15, 3) := dk_154 0 15 (dk_at dksL_law_20 9 rfl rfl)
theorem dL_law_729 : decode cL_law 729 = .ok (.aload_n 3, 1) := dk_45 (dk_at dksL_law_20 12 rfl rfl)
theorem dL_law_730 : decode cL_law 730 = .ok (.iconst 0, 1) := dk_3 (dk_at dksL_law_20 13 rfl rfl)
theorem dL_law_731 : decode cL_law 731 = .ok (.laload, 1) := dk_47 (dk_at dksL_law_20 14 rfl rfl)
theorem dL_law_732 : decode cL_law 732 = .ok (.iload 7, 2) := dk_21 7 (dk_at dksL_law_20 15 rfl rfl)
theorem dL_law_734 : decode cL_law 734 = .ok (.i2l, 1) := dk_133 (dk_at dksL_law_20 17 rfl rfl)
theorem dL_law_735 : decode cL_law 735 = .ok (.lcmp, 1) := dk_148 (dk_at dksL_law_20 18 rfl rfl)
theorem dL_law_736 : decode cL_law 736 = .ok (.ifCond .eq 5, 3) := dk_153 0 5 (dk_at dksL_law_20 19 rfl rfl)
theorem dL_law_739 : decode cL_law 739 = .ok (.iconst 0, 1) := dk_3 (dk_at dksL_law_20 22 rfl rfl)
theorem dL_law_740 : decode cL_law 740 = .ok (.ireturn, 1) := dk_172 (dk_at dksL_law_20 23 rfl rfl)
theorem dL_law_741 : decode cL_law 741 = .ok (.goto 3479, 3) := dk_167 13 151 (dk_at dksL_law_21 0 rfl rfl)
theorem dL_law_744 : decode cL_law 744 = .ok (.aload_n 1, 1) := dk_43 (dk_at dksL_law_21 3 rfl rfl)
theorem dL_law_745 : decode cL_law 745 = .ok (.aload_n 0, 1) := dk_42 (dk_at dksL_law_21 4 rfl rfl)
theorem dL_law_746 : decode cL_law 746 = .ok (.iload 5, 2) := dk_21 5 (dk_at dksL_law_21 5 rfl rfl)
theorem dL_law_748 : decode cL_law 748 = .ok (.iconst 1, 1) := dk_4 (dk_at dksL_law_21 7 rfl rfl)
theorem dL_law_749 : decode cL_law 749 = .ok (.iadd, 1) := dk_96 (dk_at dksL_law_21 8 rfl rfl)
theorem dL_law_750 : decode cL_law 750 = .ok (.iaload, 1) := dk_46 (dk_at dksL_law_21 9 rfl rfl)
theorem dL_law_751 : decode cL_law 751 = .ok (.aload_n 0, 1) := dk_42 (dk_at dksL_law_21 10 rfl rfl)
theorem dL_law_752 : decode cL_law 752 = .ok (.iload 5, 2) := dk_21 5 (dk_at dksL_law_21 11 rfl rfl)
theorem dL_law_754 : decode cL_law 754 = .ok (.iconst 2, 1) := dk_5 (dk_at dksL_law_21 13 rfl rfl)
theorem dL_law_755 : decode cL_law 755 = .ok (.iadd, 1) := dk_96 (dk_at dksL_law_21 14 rfl rfl)
theorem dL_law_756 : decode cL_law 756 = .ok (.iaload, 1) := dk_46 (dk_at dksL_law_21 15 rfl rfl)
theorem dL_law_757 : decode cL_law 757 = .ok (.aload_n 3, 1) := dk_45 (dk_at dksL_law_21 16 rfl rfl)
theorem dL_law_758 : decode cL_law 758 = .ok (.invokestatic 252, 3) := dk_184 0 252 (dk_at dksL_law_21 17 rfl rfl)
theorem dL_law_761 : decode cL_law 761 = .ok (.istore 6, 2) := dk_54 6 (dk_at dksL_law_21 20 rfl rfl)
theorem dL_law_763 : decode cL_law 763 = .ok (.aload_n 2, 1) := dk_44 (dk_at dksL_law_21 22 rfl rfl)
theorem dL_law_764 : decode cL_law 764 = .ok (.aload_n 0, 1) := dk_42 (dk_at dksL_law_21 23 rfl rfl)
theorem dL_law_765 : decode cL_law 765 = .ok (.iload 5, 2) := dk_21 5 (dk_at dksL_law_22 0 rfl rfl)
theorem dL_law_767 : decode cL_law 767 = .ok (.iconst 1, 1) := dk_4 (dk_at dksL_law_22 2 rfl rfl)
theorem dL_law_768 : decode cL_law 768 = .ok (.iadd, 1) := dk_96 (dk_at dksL_law_22 3 rfl rfl)
theorem dL_law_769 : decode cL_law 769 = .ok (.iaload, 1) := dk_46 (dk_at dksL_law_22 4 rfl rfl)
theorem dL_law_770 : decode cL_law 770 = .ok (.aload_n 0, 1) := dk_42 (dk_at dksL_law_22 5 rfl rfl)
theorem dL_law_771 : decode cL_law 771 = .ok (.iload 5, 2) := dk_21 5 (dk_at dksL_law_22 6 rfl rfl)
theorem dL_law_773 : decode cL_law 773 = .ok (.iconst 2, 1) := dk_5 (dk_at dksL_law_22 8 rfl rfl)
theorem dL_law_774 : decode cL_law 774 = .ok (.iadd, 1) := dk_96 (dk_at dksL_law_22 9 rfl rfl)
theorem dL_law_775 : decode cL_law 775 = .ok (.iaload, 1) := dk_46 (dk_at dksL_law_22 10 rfl rfl)
theorem dL_law_776 : decode cL_law 776 = .ok (.invokevirtual 254, 3) := dk_182 0 254 (dk_at dksL_law_22 11 rfl rfl)
theorem dL_law_779 : decode cL_law 779 = .ok (.istore 7, 2) := dk_54 7 (dk_at dksL_law_22 14 rfl rfl)
theorem dL_law_781 : decode cL_law 781 = .ok (.aload_n 2, 1) := dk_44 (dk_at dksL_law_22 16 rfl rfl)
theorem dL_law_782 : decode cL_law 782 = .ok (.invokevirtual 223, 3) := dk_182 0 223 (dk_at dksL_law_22 17 rfl rfl)
theorem dL_law_785 : decode cL_law 785 = .ok (.iload 6, 2) := dk_21 6 (dk_at dksL_law_22 20 rfl rfl)
theorem dL_law_787 : decode cL_law 787 = .ok (.if_icmp .eq 5, 3) := dk_159 0 5 (dk_at dksL_law_23 0 rfl rfl)
theorem dL_law_790 : decode cL_law 790 = .ok (.iconst 0, 1) := dk_3 (dk_at dksL_law_23 3 rfl rfl)
theorem dL_law_791 : decode cL_law 791 = .ok (.ireturn, 1) := dk_172 (dk_at dksL_law_23 4 rfl rfl)
theorem dL_law_792 : decode cL_law 792 = .ok (.iload 6, 2) := dk_21 6 (dk_at dksL_law_23 5 rfl rfl)
theorem dL_law_794 : decode cL_law 794 = .ok (.ifCond .ne 15, 3) := dk_154 0 15 (dk_at dksL_law_23 7 rfl rfl)
theorem dL_law_797 : decode cL_law 797 = .ok (.aload_n 3, 1) := dk_45 (dk_at dksL_law_23 10 rfl rfl)
theorem dL_law_798 : decode cL_law 798 = .ok (.iconst 0, 1) := dk_3 (dk_at dksL_law_23 11 rfl rfl)
theorem dL_law_799 : decode cL_law 799 = .ok (.laload, 1) := dk_47 (dk_at dksL_law_23 12 rfl rfl)
theorem dL_law_800 : decode cL_law 800 = .ok (.iload 7, 2) := dk_21 7 (dk_at dksL_law_23 13 rfl rfl)
theorem dL_law_802 : decode cL_law 802 = .ok (.i2l, 1) := dk_133 (dk_at dksL_law_23 15 rfl rfl)
theorem dL_law_803 : decode cL_law 803 = .ok (.lcmp, 1) := dk_148 (dk_at dksL_law_23 16 rfl rfl)
theorem dL_law_804 : decode cL_law 804 = .ok (.ifCond .eq 5, 3) := dk_153 0 5 (dk_at dksL_law_23 17 rfl rfl)
theorem dL_law_807 : decode cL_law 807 = .ok (.iconst 0, 1) := dk_3 (dk_at dksL_law_23 20 rfl rfl)
theorem dL_law_808 : decode cL_law 808 = .ok (.ireturn, 1) := dk_172 (dk_at dksL_law_23 21 rfl rfl)
theorem dL_law_809 : decode cL_law 809 = .ok (.goto 3411, 3) := dk_167 13 83 (dk_at dksL_law_24 0 rfl rfl)
theorem dL_law_812 : decode cL_law 812 = .ok (.aload_n 1, 1) := dk_43 (dk_at dksL_law_24 3 rfl rfl)
theorem dL_law_813 : decode cL_law 813 = .ok (.aload_n 3, 1) := dk_45 (dk_at dksL_law_24 4 rfl rfl)
theorem dL_law_814 : decode cL_law 814 = .ok (.invokestatic 255, 3) := dk_184 0 255 (dk_at dksL_law_24 5 rfl rfl)
theorem dL_law_817 : decode cL_law 817 = .ok (.istore 6, 2) := dk_54 6 (dk_at dksL_law_24 8 rfl rfl)
theorem dL_law_819 : decode cL_law 819 = .ok (.aload_n 2, 1) := dk_44 (dk_at dksL_law_24 10 rfl rfl)
theorem dL_law_820 : decode cL_law 820 = .ok (.invokevirtual 258, 3) := dk_182 1 2 (dk_at dksL_law_24 11 rfl rfl)
theorem dL_law_823 : decode cL_law 823 = .ok (.istore 7, 2) := dk_54 7 (dk_at dksL_law_24 14 rfl rfl)
theorem dL_law_825 : decode cL_law 825 = .ok (.aload_n 2, 1) := dk_44 (dk_at dksL_law_24 16 rfl rfl)
theorem dL_law_826 : decode cL_law 826 = .ok (.invokevirtual 223, 3) := dk_182 0 223 (dk_at dksL_law_24 17 rfl rfl)
theorem dL_law_829 : decode cL_law 829 = .ok (.iload 6, 2) := dk_21 6 (dk_at dksL_law_24 20 rfl rfl)
theorem dL_law_831 : decode cL_law 831 = .ok (.if_icmp .eq 5, 3) := dk_159 0 5 (dk_at dksL_law_25 0 rfl rfl)
theorem dL_law_834 : decode cL_law 834 = .ok (.iconst 0, 1) := dk_3 (dk_at dksL_law_25 3 rfl rfl)
theorem dL_law_835 : decode cL_law 835 = .ok (.ireturn, 1) := dk_172 (dk_at dksL_law_25 4 rfl rfl)
theorem dL_law_836 : decode cL_law 836 = .ok (.iload 6, 2) := dk_21 6 (dk_at dksL_law_25 5 rfl rfl)
theorem dL_law_838 : decode cL_law 838 = .ok (.ifCond .ne 15, 3) := dk_154 0 15 (dk_at dksL_law_25 7 rfl rfl)
theorem dL_law_841 : decode cL_law 841 = .ok (.aload_n 3, 1) := dk_45 (dk_at dksL_law_25 10 rfl rfl)
theorem dL_law_842 : decode cL_law 842 = .ok (.iconst 0, 1) := dk_3 (dk_at dksL_law_25 11 rfl rfl)
theorem dL_law_843 : decode cL_law 843 = .ok (.laload, 1) := dk_47 (dk_at dksL_law_25 12 rfl rfl)
theorem dL_law_844 : decode cL_law 844 = .ok (.iload 7, 2) := dk_21 7 (dk_at dksL_law_25 13 rfl rfl)
theorem dL_law_846 : decode cL_law 846 = .ok (.i2l, 1) := dk_133 (dk_at dksL_law_25 15 rfl rfl)
theorem dL_law_847 : decode cL_law 847 = .ok (.lcmp, 1) := dk_148 (dk_at dksL_law_25 16 rfl rfl)
theorem dL_law_848 : decode cL_law 848 = .ok (.ifCond .eq 5, 3) := dk_153 0 5 (dk_at dksL_law_25 17 rfl rfl)
theorem dL_law_851 : decode cL_law 851 = .ok (.iconst 0, 1) := dk_3 (dk_at dksL_law_25 20 rfl rfl)
theorem dL_law_852 : decode cL_law 852 = .ok (.ireturn, 1) := dk_172 (dk_at dksL_law_25 21 rfl rfl)
theorem dL_law_853 : decode cL_law 853 = .ok (.goto 3367, 3) := dk_167 13 39 (dk_at dksL_law_26 0 rfl rfl)
theorem dL_law_856 : decode cL_law 856 = .ok (.aload_n 1, 1) := dk_43 (dk_at dksL_law_26 3 rfl rfl)
theorem dL_law_857 : decode cL_law 857 = .ok (.aload_n 3, 1) := dk_45 (dk_at dksL_law_26 4 rfl rfl)
theorem dL_law_858 : decode cL_law 858 = .ok (.invokestatic 259, 3) := dk_184 1 3 (dk_at dksL_law_26 5 rfl rfl)
theorem dL_law_861 : decode cL_law 861 = .ok (.istore 6, 2) := dk_54 6 (dk_at dksL_law_26 8 rfl rfl)
theorem dL_law_863 : decode cL_law 863 = .ok (.aload_n 2, 1) := dk_44 (dk_at dksL_law_26 10 rfl rfl)
theorem dL_law_864 : decode cL_law 864 = .ok (.invokevirtual 261, 3) := dk_182 1 5 (dk_at dksL_law_26 11 rfl rfl)
theorem dL_law_867 : decode cL_law 867 = .ok (.istore 7, 2) := dk_54 7 (dk_at dksL_law_26 14 rfl rfl)
theorem dL_law_869 : decode cL_law 869 = .ok (.aload_n 2, 1) := dk_44 (dk_at dksL_law_26 16 rfl rfl)
theorem dL_law_870 : decode cL_law 870 = .ok (.invokevirtual 223, 3) := dk_182 0 223 (dk_at dksL_law_26 17 rfl rfl)
theorem dL_law_873 : decode cL_law 873 = .ok (.iload 6, 2) := dk_21 6 (dk_at dksL_law_26 20 rfl rfl)
theorem dL_law_875 : decode cL_law 875 = .ok (.if_icmp .eq 5, 3) := dk_159 0 5 (dk_at dksL_law_27 0 rfl rfl)
theorem dL_law_878 : decode cL_law 878 = .ok (.iconst 0, 1) := dk_3 (dk_at dksL_law_27 3 rfl rfl)
theorem dL_law_879 : decode cL_law 879 = .ok (.ireturn, 1) := dk_172 (dk_at dksL_law_27 4 rfl rfl)
theorem dL_law_880 : decode cL_law 880 = .ok (.iload 6, 2) := dk_21 6 (dk_at dksL_law_27 5 rfl rfl)
theorem dL_law_882 : decode cL_law 882 = .ok (.ifCond .ne 15, 3) := dk_154 0 15 (dk_at dksL_law_27 7 rfl rfl)
theorem dL_law_885 : decode cL_law 885 = .ok (.aload_n 3, 1) := dk_45 (dk_at dksL_law_27 10 rfl rfl)
theorem dL_law_886 : decode cL_law 886 = .ok (.iconst 0, 1) := dk_3 (dk_at dksL_law_27 11 rfl rfl)
theorem dL_law_887 : decode cL_law 887 = .ok (.laload, 1) := dk_47 (dk_at dksL_law_27 12 rfl rfl)
theorem dL_law_888 : decode cL_law 888 = .ok (.iload 7, 2) := dk_21 7 (dk_at dksL_law_27 13 rfl rfl)
theorem dL_law_890 : decode cL_law 890 = .ok (.i2l, 1) := dk_133 (dk_at dksL_law_27 15 rfl rfl)
theorem dL_law_891 : decode cL_law 891 = .ok (.lcmp, 1) := dk_148 (dk_at dksL_law_27 16 rfl rfl)
theorem dL_law_892 : decode cL_law 892 = .ok (.ifCond .eq 5, 3) := dk_153 0 5 (dk_at dksL_law_27 17 rfl rfl)
theorem dL_law_895 : decode cL_law 895 = .ok (.iconst 0, 1) := dk_3 (dk_at dksL_law_27 20 rfl rfl)
theorem dL_law_896 : decode cL_law 896 = .ok (.ireturn, 1) := dk_172 (dk_at dksL_law_27 21 rfl rfl)
theorem dL_law_897 : decode cL_law 897 = .ok (.goto 3323, 3) := dk_167 12 251 (dk_at dksL_law_28 0 rfl rfl)
theorem dL_law_900 : decode cL_law 900 = .ok (.aload_n 1, 1) := dk_43 (dk_at dksL_law_28 3 rfl rfl)
theorem dL_law_901 : decode cL_law 901 = .ok (.aload_n 0, 1) := dk_42 (dk_at dksL_law_28 4 rfl rfl)
theorem dL_law_902 : decode cL_law 902 = .ok (.iload 5, 2) := dk_21 5 (dk_at dksL_law_28 5 rfl rfl)
theorem dL_law_904 : decode cL_law 904 = .ok (.iconst 1, 1) := dk_4 (dk_at dksL_law_28 7 rfl rfl)
theorem dL_law_905 : decode cL_law 905 = .ok (.iadd, 1) := dk_96 (dk_at dksL_law_28 8 rfl rfl)
theorem dL_law_906 : decode cL_law 906 = .ok (.iaload, 1) := dk_46 (dk_at dksL_law_28 9 rfl rfl)
theorem dL_law_907 : decode cL_law 907 = .ok (.aload_n 0, 1) := dk_42 (dk_at dksL_law_28 10 rfl rfl)
theorem dL_law_908 : decode cL_law 908 = .ok (.iload 5, 2) := dk_21 5 (dk_at dksL_law_28 11 rfl rfl)
theorem dL_law_910 : decode cL_law 910 = .ok (.iconst 2, 1) := dk_5 (dk_at dksL_law_28 13 rfl rfl)
theorem dL_law_911 : decode cL_law 911 = .ok (.iadd, 1) := dk_96 (dk_at dksL_law_28 14 rfl rfl)
theorem dL_law_912 : decode cL_law 912 = .ok (.iaload, 1) := dk_46 (dk_at dksL_law_28 15 rfl rfl)
theorem dL_law_913 : decode cL_law 913 = .ok (.aload_n 0, 1) := dk_42 (dk_at dksL_law_28 16 rfl rfl)
theorem dL_law_914 : decode cL_law 914 = .ok (.iload 5, 2) := dk_21 5 (dk_at dksL_law_28 17 rfl rfl)
theorem dL_law_916 : decode cL_law 916 = .ok (.iconst 3, 1) := dk_6 (dk_at dksL_law_28 19 rfl rfl)
theorem dL_law_917 : decode cL_law 917 = .ok (.iadd, 1) := dk_96 (dk_at dksL_law_28 20 rfl rfl)
theorem dL_law_918 : decode cL_law 918 = .ok (.iaload, 1) := dk_46 (dk_at dksL_law_28 21 rfl rfl)
theorem dL_law_919 : decode cL_law 919 = .ok (.aload_n 3, 1) := dk_45 (dk_at dksL_law_28 22 rfl rfl)
theorem dL_law_920 : decode cL_law 920 = .ok (.invokestatic 262, 3) := dk_184 1 6 (dk_at dksL_law_29 0 rfl rfl)
theorem dL_law_923 : decode cL_law 923 = .ok (.istore 6, 2) := dk_54 6 (dk_at dksL_law_29 3 rfl rfl)
theorem dL_law_925 : decode cL_law 925 = .ok (.aload_n 2, 1) := dk_44 (dk_at dksL_law_29 5 rfl rfl)
theorem dL_law_926 : decode cL_law 926 = .ok (.aload_n 0, 1) := dk_42 (dk_at dksL_law_29 6 rfl rfl)
theorem dL_law_927 : decode cL_law 927 = .ok (.iload 5, 2) := dk_21 5 (dk_at dksL_law_29 7 rfl rfl)
theorem dL_law_929 : decode cL_law 929 = .ok (.iconst 1, 1) := dk_4 (dk_at dksL_law_29 9 rfl rfl)
theorem dL_law_930 : decode cL_law 930 = .ok (.iadd, 1) := dk_96 (dk_at dksL_law_29 10 rfl rfl)
theorem dL_law_931 : decode cL_law 931 = .ok (.iaload, 1) := dk_46 (dk_at dksL_law_29 11 rfl rfl)
theorem dL_law_932 : decode cL_law 932 = .ok (.aload_n 0, 1) := dk_42 (dk_at dksL_law_29 12 rfl rfl)
theorem dL_law_933 : decode cL_law 933 = .ok (.iload 5, 2) := dk_21 5 (dk_at dksL_law_29 13 rfl rfl)
theorem dL_law_935 : decode cL_law 935 = .ok (.iconst 2, 1) := dk_5 (dk_at dksL_law_29 15 rfl rfl)
theorem dL_law_936 : decode cL_law 936 = .ok (.iadd, 1) := dk_96 (dk_at dksL_law_29 16 rfl rfl)
theorem dL_law_937 : decode cL_law 937 = .ok (.iaload, 1) := dk_46 (dk_at dksL_law_29 17 rfl rfl)
theorem dL_law_938 : decode cL_law 938 = .ok (.aload_n 0, 1) := dk_42 (dk_at dksL_law_29 18 rfl rfl)
theorem dL_law_939 : decode cL_law 939 = .ok (.iload 5, 2) := dk_21 5 (dk_at dksL_law_29 19 rfl rfl)
theorem dL_law_941 : decode cL_law 941 = .ok (.iconst 3, 1) := dk_6 (dk_at dksL_law_29 21 rfl rfl)
theorem dL_law_942 : decode cL_law 942 = .ok (.iadd, 1) := dk_96 (dk_at dksL_law_29 22 rfl rfl)
theorem dL_law_943 : decode cL_law 943 = .ok (.iaload, 1) := dk_46 (dk_at dksL_law_29 23 rfl rfl)
theorem dL_law_944 : decode cL_law 944 = .ok (.invokevirtual 264, 3) := dk_182 1 8 (dk_at dksL_law_30 0 rfl rfl)
theorem dL_law_947 : decode cL_law 947 = .ok (.lstore 7, 2) := dk_55 7 (dk_at dksL_law_30 3 rfl rfl)
theorem dL_law_949 : decode cL_law 949 = .ok (.aload_n 2, 1) := dk_44 (dk_at dksL_law_30 5 rfl rfl)
theorem dL_law_950 : decode cL_law 950 = .ok (.invokevirtual 223, 3) := dk_182 0 223 (dk_at dksL_law_30 6 rfl rfl)
theorem dL_law_953 : decode cL_law 953 = .ok (.iload 6, 2) := dk_21 6 (dk_at dksL_law_30 9 rfl rfl)
theorem dL_law_955 : decode cL_law 955 = .ok (.if_icmp .eq 5, 3) := dk_159 0 5 (dk_at dksL_law_30 11 rfl rfl)
theorem dL_law_958 : decode cL_law 958 = .ok (.iconst 0, 1) := dk_3 (dk_at dksL_law_30 14 rfl rfl)
theorem dL_law_959 : decode cL_law 959 = .ok (.ireturn, 1) := dk_172 (dk_at dksL_law_30 15 rfl rfl)
theorem dL_law_960 : decode cL_law 960 = .ok (.iload 6, 2) := dk_21 6 (dk_at dksL_law_30 16 rfl rfl)
theorem dL_law_962 : decode cL_law 962 = .ok (.ifCond .ne 14, 3) := dk_154 0 14 (dk_at dksL_law_30 18 rfl rfl)
theorem dL_law_965 : decode cL_law 965 = .ok (.aload_n 3, 1) := dk_45 (dk_at dksL_law_30 21 rfl rfl)
theorem dL_law_966 : decode cL_law 966 = .ok (.iconst 0, 1) := dk_3 (dk_at dksL_law_30 22 rfl rfl)
theorem dL_law_967 : decode cL_law 967 = .ok (.laload, 1) := dk_47 (dk_at dksL_law_30 23 rfl rfl)
theorem dL_law_968 : decode cL_law 968 = .ok (.lload 7, 2) := dk_22 7 (dk_at dksL_law_31 0 rfl rfl)
theorem dL_law_970 : decode cL_law 970 = .ok (.lcmp, 1) := dk_148 (dk_at dksL_law_31 2 rfl rfl)
theorem dL_law_971 : decode cL_law 971 = .ok (.ifCond .eq 5, 3) := dk_153 0 5 (dk_at dksL_law_31 3 rfl rfl)
theorem dL_law_974 : decode cL_law 974 = .ok (.iconst 0, 1) := dk_3 (dk_at dksL_law_31 6 rfl rfl)
theorem dL_law_975 : decode cL_law 975 = .ok (.ireturn, 1) := dk_172 (dk_at dksL_law_31 7 rfl rfl)
theorem dL_law_976 : decode cL_law 976 = .ok (.goto 3244, 3) := dk_167 12 172 (dk_at dksL_law_31 8 rfl rfl)
theorem dL_law_979 : decode cL_law 979 = .ok (.aload_n 1, 1) := dk_43 (dk_at dksL_law_31 11 rfl rfl)
theorem dL_law_980 : decode cL_law 980 = .ok (.aload_n 0, 1) := dk_42 (dk_at dksL_law_31 12 rfl rfl)
theorem dL_law_981 : decode cL_law 981 = .ok (.iload 5, 2) := dk_21 5 (dk_at dksL_law_31 13 rfl rfl)
theorem dL_law_983 : decode cL_law 983 = .ok (.iconst 1, 1) := dk_4 (dk_at dksL_law_31 15 rfl rfl)
theorem dL_law_984 : decode cL_law 984 = .ok (.iadd, 1) := dk_96 (dk_at dksL_law_31 16 rfl rfl)
theorem dL_law_985 : decode cL_law 985 = .ok (.iaload, 1) := dk_46 (dk_at dksL_law_31 17 rfl rfl)
theorem dL_law_986 : decode cL_law 986 = .ok (.aload_n 0, 1) := dk_42 (dk_at dksL_law_31 18 rfl rfl)
theorem dL_law_987 : decode cL_law 987 = .ok (.iload 5, 2) := dk_21 5 (dk_at dksL_law_31 19 rfl rfl)
theorem dL_law_989 : decode cL_law 989 = .ok (.iconst 2, 1) := dk_5 (dk_at dksL_law_31 21 rfl rfl)
theorem dL_law_990 : decode cL_law 990 = .ok (.iadd, 1) := dk_96 (dk_at dksL_law_31 22 rfl rfl)
theorem dL_law_991 : decode cL_law 991 = .ok (.iaload, 1) := dk_46 (dk_at dksL_law_31 23 rfl rfl)
theorem dL_law_992 : decode cL_law 992 = .ok (.aload_n 0, 1) := dk_42 (dk_at dksL_law_32 0 rfl rfl)
theorem dL_law_993 : decode cL_law 993 = .ok (.iload 5, 2) := dk_21 5 (dk_at dksL_law_32 1 rfl rfl)
theorem dL_law_995 : decode cL_law 995 = .ok (.iconst 3, 1) := dk_6 (dk_at dksL_law_32 3 rfl rfl)
theorem dL_law_996 : decode cL_law 996 = .ok (.iadd, 1) := dk_96 (dk_at dksL_law_32 4 rfl rfl)
theorem dL_law_997 : decode cL_law 997 = .ok (.iaload, 1) := dk_46 (dk_at dksL_law_32 5 rfl rfl)
theorem dL_law_998 : decode cL_law 998 = .ok (.aload_n 3, 1) := dk_45 (dk_at dksL_law_32 6 rfl rfl)
theorem dL_law_999 : decode cL_law 999 = .ok (.invokestatic 265, 3) := dk_184 1 9 (dk_at dksL_law_32 7 rfl rfl)
theorem dL_law_1002 : decode cL_law 1002 = .ok (.istore 6, 2) := dk_54 6 (dk_at dksL_law_32 10 rfl rfl)
theorem dL_law_1004 : decode cL_law 1004 = .ok (.aload_n 2, 1) := dk_44 (dk_at dksL_law_32 12 rfl rfl)
theorem dL_law_1005 : decode cL_law 1005 = .ok (.aload_n 0, 1) := dk_42 (dk_at dksL_law_32 13 rfl rfl)
theorem dL_law_1006 : decode cL_law 1006 = .ok (.iload 5, 2) := dk_21 5 (dk_at dksL_law_32 14 rfl rfl)
theorem dL_law_1008 : decode cL_law 1008 = .ok (.iconst 1, 1) := dk_4 (dk_at dksL_law_32 16 rfl rfl)
theorem dL_law_1009 : decode cL_law 1009 = .ok (.iadd, 1) := dk_96 (dk_at dksL_law_32 17 rfl rfl)
theorem dL_law_1010 : decode cL_law 1010 = .ok (.iaload, 1) := dk_46 (dk_at dksL_law_32 18 rfl rfl)
theorem dL_law_1011 : decode cL_law 1011 = .ok (.aload_n 0, 1) := dk_42 (dk_at dksL_law_32 19 rfl rfl)
theorem dL_law_1012 : decode cL_law 1012 = .ok (.iload 5, 2) := dk_21 5 (dk_at dksL_law_32 20 rfl rfl)
theorem dL_law_1014 : decode cL_law 1014 = .ok (.iconst 2, 1) := dk_5 (dk_at dksL_law_32 22 rfl rfl)
theorem dL_law_1015 : decode cL_law 1015 = .ok (.iadd, 1) := dk_96 (dk_at dksL_law_32 23 rfl rfl)
theorem dL_law_1016 : decode cL_law 1016 = .ok (.iaload, 1) := dk_46 (dk_at dksL_law_33 0 rfl rfl)
theorem dL_law_1017 : decode cL_law 1017 = .ok (.aload_n 0, 1) := dk_42 (dk_at dksL_law_33 1 rfl rfl)
theorem dL_law_1018 : decode cL_law 1018 = .ok (.iload 5, 2) := dk_21 5 (dk_at dksL_law_33 2 rfl rfl)
theorem dL_law_1020 : decode cL_law 1020 = .ok (.iconst 3, 1) := dk_6 (dk_at dksL_law_33 4 rfl rfl)
theorem dL_law_1021 : decode cL_law 1021 = .ok (.iadd, 1) := dk_96 (dk_at dksL_law_33 5 rfl rfl)
theorem dL_law_1022 : decode cL_law 1022 = .ok (.iaload, 1) := dk_46 (dk_at dksL_law_33 6 rfl rfl)
theorem dL_law_1023 : decode cL_law 1023 = .ok (.invokevirtual 267, 3) := dk_182 1 11 (dk_at dksL_law_33 7 rfl rfl)
theorem dL_law_1026 : decode cL_law 1026 = .ok (.lstore 7, 2) := dk_55 7 (dk_at dksL_law_33 10 rfl rfl)
theorem dL_law_1028 : decode cL_law 1028 = .ok (.aload_n 2, 1) := dk_44 (dk_at dksL_law_33 12 rfl rfl)
theorem dL_law_1029 : decode cL_law 1029 = .ok (.invokevirtual 223, 3) := dk_182 0 223 (dk_at dksL_law_33 13 rfl rfl)
theorem dL_law_1032 : decode cL_law 1032 = .ok (.iload 6, 2) := dk_21 6 (dk_at dksL_law_33 16 rfl rfl)
theorem dL_law_1034 : decode cL_law 1034 = .ok (.if_icmp .eq 5, 3) := dk_159 0 5 (dk_at dksL_law_33 18 rfl rfl)
theorem dL_law_1037 : decode cL_law 1037 = .ok (.iconst 0, 1) := dk_3 (dk_at dksL_law_33 21 rfl rfl)
theorem dL_law_1038 : decode cL_law 1038 = .ok (.ireturn, 1) := dk_172 (dk_at dksL_law_33 22 rfl rfl)
theorem dL_law_1039 : decode cL_law 1039 = .ok (.iload 6, 2) := dk_21 6 (dk_at dksL_law_34 0 rfl rfl)
theorem dL_law_1041 : decode cL_law 1041 = .ok (.ifCond .ne 14, 3) := dk_154 0 14 (dk_at dksL_law_34 2 rfl rfl)
theorem dL_law_1044 : decode cL_law 1044 = .ok (.aload_n 3, 1) := dk_45 (dk_at dksL_law_34 5 rfl rfl)
theorem dL_law_1045 : decode cL_law 1045 = .ok (.iconst 0, 1) := dk_3 (dk_at dksL_law_34 6 rfl rfl)
theorem dL_law_1046 : decode cL_law 1046 = .ok (.laload, 1) := dk_47 (dk_at dksL_law_34 7 rfl rfl)
theorem dL_law_1047 : decode cL_law 1047 = .ok (.lload 7, 2) := dk_22 7 (dk_at dksL_law_34 8 rfl rfl)
theorem dL_law_1049 : decode cL_law 1049 = .ok (.lcmp, 1) := dk_148 (dk_at dksL_law_34 10 rfl rfl)
theorem dL_law_1050 : decode cL_law 1050 = .ok (.ifCond .eq 5, 3) := dk_153 0 5 (dk_at dksL_law_34 11 rfl rfl)
theorem dL_law_1053 : decode cL_law 1053 = .ok (.iconst 0, 1) := dk_3 (dk_at dksL_law_34 14 rfl rfl)
theorem dL_law_1054 : decode cL_law 1054 = .ok (.ireturn, 1) := dk_172 (dk_at dksL_law_34 15 rfl rfl)
theorem dL_law_1055 : decode cL_law 1055 = .ok (.goto 3165, 3) := dk_167 12 93 (dk_at dksL_law_34 16 rfl rfl)
theorem dL_law_1058 : decode cL_law 1058 = .ok (.aload_n 1, 1) := dk_43 (dk_at dksL_law_34 19 rfl rfl)
theorem dL_law_1059 : decode cL_law 1059 = .ok (.aload_n 3, 1) := dk_45 (dk_at dksL_law_34 20 rfl rfl)
theorem dL_law_1060 : decode cL_law 1060 = .ok (.invokestatic 268, 3) := dk_184 1 12 (dk_at dksL_law_34 21 rfl rfl)
theorem dL_law_1063 : decode cL_law 1063 = .ok (.istore 6, 2) := dk_54 6 (dk_at dksL_law_35 0 rfl rfl)
theorem dL_law_1065 : decode cL_law 1065 = .ok (.aload_n 2, 1) := dk_44 (dk_at dksL_law_35 2 rfl rfl)
theorem dL_law_1066 : decode cL_law 1066 = .ok (.invokevirtual 270, 3) := dk_182 1 14 (dk_at dksL_law_35 3 rfl rfl)
theorem dL_law_1069 : decode cL_law 1069 = .ok (.lstore 7, 2) := dk_55 7 (dk_at dksL_law_35 6 rfl rfl)
theorem dL_law_1071 : decode cL_law 1071 = .ok (.aload_n 2, 1) := dk_44 (dk_at dksL_law_35 8 rfl rfl)
theorem dL_law_1072 : decode cL_law 1072 = .ok (.invokevirtual 223, 3) := dk_182 0 223 (dk_at dksL_law_35 9 rfl rfl)
theorem dL_law_1075 : decode cL_law 1075 = .ok (.iload 6, 2) := dk_21 6 (dk_at dksL_law_35 12 rfl rfl)
theorem dL_law_1077 : decode cL_law 1077 = .ok (.if_icmp .eq 5, 3) := dk_159 0 5 (dk_at dksL_law_35 14 rfl rfl)
theorem dL_law_1080 : decode cL_law 1080 = .ok (.iconst 0, 1) := dk_3 (dk_at dksL_law_35 17 rfl rfl)
theorem dL_law_1081 : decode cL_law 1081 = .ok (.ireturn, 1) := dk_172 (dk_at dksL_law_35 18 rfl rfl)
theorem dL_law_1082 : decode cL_law 1082 = .ok (.iload 6, 2) := dk_21 6 (dk_at dksL_law_35 19 rfl rfl)
theorem dL_law_1084 : decode cL_law 1084 = .ok (.ifCond .ne 14, 3) := dk_154 0 14 (dk_at dksL_law_35 21 rfl rfl)
theorem dL_law_1087 : decode cL_law 1087 = .ok (.aload_n 3, 1) := dk_45 (dk_at dksL_law_36 0 rfl rfl)
theorem dL_law_1088 : decode cL_law 1088 = .ok (.iconst 0, 1) := dk_3 (dk_at dksL_law_36 1 rfl rfl)
theorem dL_law_1089 : decode cL_law 1089 = .ok (.laload, 1) := dk_47 (dk_at dksL_law_36 2 rfl rfl)
theorem dL_law_1090 : decode cL_law 1090 = .ok (.lload 7, 2) := dk_22 7 (dk_at dksL_law_36 3 rfl rfl)
theorem dL_law_1092 : decode cL_law 1092 = .ok (.lcmp, 1) := dk_148 (dk_at dksL_law_36 5 rfl rfl)
theorem dL_law_1093 : decode cL_law 1093 = .ok (.ifCond .eq 5, 3) := dk_153 0 5 (dk_at dksL_law_36 6 rfl rfl)
theorem dL_law_1096 : decode cL_law 1096 = .ok (.iconst 0, 1) := dk_3 (dk_at dksL_law_36 9 rfl rfl)
theorem dL_law_1097 : decode cL_law 1097 = .ok (.ireturn, 1) := dk_172 (dk_at dksL_law_36 10 rfl rfl)
theorem dL_law_1098 : decode cL_law 1098 = .ok (.goto 3122, 3) := dk_167 12 50 (dk_at dksL_law_36 11 rfl rfl)
theorem dL_law_1101 : decode cL_law 1101 = .ok (.aload_n 1, 1) := dk_43 (dk_at dksL_law_36 14 rfl rfl)
theorem dL_law_1102 : decode cL_law 1102 = .ok (.aload_n 0, 1) := dk_42 (dk_at dksL_law_36 15 rfl rfl)
theorem dL_law_1103 : decode cL_law 1103 = .ok (.iload 5, 2) := dk_21 5 (dk_at dksL_law_36 16 rfl rfl)
theorem dL_law_1105 : decode cL_law 1105 = .ok (.iconst 1, 1) := dk_4 (dk_at dksL_law_36 18 rfl rfl)
theorem dL_law_1106 : decode cL_law 1106 = .ok (.iadd, 1) := dk_96 (dk_at dksL_law_36 19 rfl rfl)
theorem dL_law_1107 : decode cL_law 1107 = .ok (.iaload, 1) := dk_46 (dk_at dksL_law_36 20 rfl rfl)
theorem dL_law_1108 : decode cL_law 1108 = .ok (.aload_n 3, 1) := dk_45 (dk_at dksL_law_36 21 rfl rfl)
theorem dL_law_1109 : decode cL_law 1109 = .ok (.invokestatic 271, 3) := dk_184 1 15 (dk_at dksL_law_37 0 rfl rfl)
theorem dL_law_1112 : decode cL_law 1112 = .ok (.istore 6, 2) := dk_54 6 (dk_at dksL_law_37 3 rfl rfl)
theorem dL_law_1114 : decode cL_law 1114 = .ok (.aload_n 2, 1) := dk_44 (dk_at dksL_law_37 5 rfl rfl)
theorem dL_law_1115 : decode cL_law 1115 = .ok (.aload_n 0, 1) := dk_42 (dk_at dksL_law_37 6 rfl rfl)
theorem dL_law_1116 : decode cL_law 1116 = .ok (.iload 5, 2) := dk_21 5 (dk_at dksL_law_37 7 rfl rfl)
theorem dL_law_1118 : decode cL_law 1118 = .ok (.iconst 1, 1) := dk_4 (dk_at dksL_law_37 9 rfl rfl)
theorem dL_law_1119 : decode cL_law 1119 = .ok (.iadd, 1) := dk_96 (dk_at dksL_law_37 10 rfl rfl)
theorem dL_law_1120 : decode cL_law 1120 = .ok (.iaload, 1) := dk_46 (dk_at dksL_law_37 11 rfl rfl)
theorem dL_law_1121 : decode cL_law 1121 = .ok (.invokevirtual 273, 3) := dk_182 1 17 (dk_at dksL_law_37 12 rfl rfl)
theorem dL_law_1124 : decode cL_law 1124 = .ok (.istore 7, 2) := dk_54 7 (dk_at dksL_law_37 15 rfl rfl)
theorem dL_law_1126 : decode cL_law 1126 = .ok (.aload_n 2, 1) := dk_44 (dk_at dksL_law_37 17 rfl rfl)
theorem dL_law_1127 : decode cL_law 1127 = .ok (.invokevirtual 223, 3) := dk_182 0 223 (dk_at dksL_law_37 18 rfl rfl)
theorem dL_law_1130 : decode cL_law 1130 = .ok (.iload 6, 2) := dk_21 6 (dk_at dksL_law_37 21 rfl rfl)
theorem dL_law_1132 : decode cL_law 1132 = .ok (.if_icmp .eq 5, 3) := dk_159 0 5 (dk_at dksL_law_38 0 rfl rfl)
theorem dL_law_1135 : decode cL_law 1135 = .ok (.iconst 0, 1) := dk_3 (dk_at dksL_law_38 3 rfl rfl)
theorem dL_law_1136 : decode cL_law 1136 = .ok (.ireturn, 1) := dk_172 (dk_at dksL_law_38 4 rfl rfl)
theorem dL_law_1137 : decode cL_law 1137 = .ok (.iload 6, 2) := dk_21 6 (dk_at dksL_law_38 5 rfl rfl)
theorem dL_law_1139 : decode cL_law 1139 = .ok (.ifCond .ne 15, 3) := dk_154 0 15 (dk_at dksL_law_38 7 rfl rfl)
theorem dL_law_1142 : decode cL_law 1142 = .ok (.aload_n 3, 1) := dk_45 (dk_at dksL_law_38 10 rfl rfl)
theorem dL_law_1143 : decode cL_law 1143 = .ok (.iconst 0, 1) := dk_3 (dk_at dksL_law_38 11 rfl rfl)
theorem dL_law_1144 : decode cL_law 1144 = .ok (.laload, 1) := dk_47 (dk_at dksL_law_38 12 rfl rfl)
theorem dL_law_1145 : decode cL_law 1145 = .ok (.iload 7, 2) := dk_21 7 (dk_at dksL_law_38 13 rfl rfl)
theorem dL_law_1147 : decode cL_law 1147 = .ok (.i2l, 1) := dk_133 (dk_at dksL_law_38 15 rfl rfl)
theorem dL_law_1148 : decode cL_law 1148 = .ok (.lcmp, 1) := dk_148 (dk_at dksL_law_38 16 rfl rfl)
theorem dL_law_1149 : decode cL_law 1149 = .ok (.ifCond .eq 5, 3) := dk_153 0 5 (dk_at dksL_law_38 17 rfl rfl)
theorem dL_law_1152 : decode cL_law 1152 = .ok (.iconst 0, 1) := dk_3 (dk_at dksL_law_38 20 rfl rfl)
theorem dL_law_1153 : decode cL_law 1153 = .ok (.ireturn, 1) := dk_172 (dk_at dksL_law_38 21 rfl rfl)
theorem dL_law_1154 : decode cL_law 1154 = .ok (.goto 3066, 3) := dk_167 11 250 (dk_at dksL_law_39 0 rfl rfl)
theorem dL_law_1157 : decode cL_law 1157 = .ok (.aload_n 1, 1) := dk_43 (dk_at dksL_law_39 3 rfl rfl)
theorem dL_law_1158 : decode cL_law 1158 = .ok (.aload_n 0, 1) := dk_42 (dk_at dksL_law_39 4 rfl rfl)
theorem dL_law_1159 : decode cL_law 1159 = .ok (.iload 5, 2) := dk_21 5 (dk_at dksL_law_39 5 rfl rfl)
theorem dL_law_1161 : decode cL_law 1161 = .ok (.iconst 1, 1) := dk_4 (dk_at dksL_law_39 7 rfl rfl)
theorem dL_law_1162 : decode cL_law 1162 = .ok (.iadd, 1) := dk_96 (dk_at dksL_law_39 8 rfl rfl)
theorem dL_law_1163 : decode cL_law 1163 = .ok (.iaload, 1) := dk_46 (dk_at dksL_law_39 9 rfl rfl)
theorem dL_law_1164 : decode cL_law 1164 = .ok (.aload_n 0, 1) := dk_42 (dk_at dksL_law_39 10 rfl rfl)
theorem dL_law_1165 : decode cL_law 1165 = .ok (.iload 5, 2) := dk_21 5 (dk_at dksL_law_39 11 rfl rfl)
theorem dL_law_1167 : decode cL_law 1167 = .ok (.iconst 2, 1) := dk_5 (dk_at dksL_law_39 13 rfl rfl)
theorem dL_law_1168 : decode cL_law 1168 = .ok (.iadd, 1) := dk_96 (dk_at dksL_law_39 14 rfl rfl)
theorem dL_law_1169 : decode cL_law 1169 = .ok (.iaload, 1) := dk_46 (dk_at dksL_law_39 15 rfl rfl)
theorem dL_law_1170 : decode cL_law 1170 = .ok (.aload_n 3, 1) := dk_45 (dk_at dksL_law_39 16 rfl rfl)
theorem dL_law_1171 : decode cL_law 1171 = .ok (.invokestatic 274, 3) := dk_184 1 18 (dk_at dksL_law_39 17 rfl rfl)
theorem dL_law_1174 : decode cL_law 1174 = .ok (.istore 6, 2) := dk_54 6 (dk_at dksL_law_39 20 rfl rfl)
theorem dL_law_1176 : decode cL_law 1176 = .ok (.aload_n 2, 1) := dk_44 (dk_at dksL_law_39 22 rfl rfl)
theorem dL_law_1177 : decode cL_law 1177 = .ok (.aload_n 0, 1) := dk_42 (dk_at dksL_law_39 23 rfl rfl)
theorem dL_law_1178 : decode cL_law 1178 = .ok (.iload 5, 2) := dk_21 5 (dk_at dksL_law_40 0 rfl rfl)
theorem dL_law_1180 : decode cL_law 1180 = .ok (.iconst 1, 1) := dk_4 (dk_at dksL_law_40 2 rfl rfl)
theorem dL_law_1181 : decode cL_law 1181 = .ok (.iadd, 1) := dk_96 (dk_at dksL_law_40 3 rfl rfl)
theorem dL_law_1182 : decode cL_law 1182 = .ok (.iaload, 1) := dk_46 (dk_at dksL_law_40 4 rfl rfl)
theorem dL_law_1183 : decode cL_law 1183 = .ok (.aload_n 0, 1) := dk_42 (dk_at dksL_law_40 5 rfl rfl)
theorem dL_law_1184 : decode cL_law 1184 = .ok (.iload 5, 2) := dk_21 5 (dk_at dksL_law_40 6 rfl rfl)
theorem dL_law_1186 : decode cL_law 1186 = .ok (.iconst 2, 1) := dk_5 (dk_at dksL_law_40 8 rfl rfl)
theorem dL_law_1187 : decode cL_law 1187 = .ok (.iadd, 1) := dk_96 (dk_at dksL_law_40 9 rfl rfl)
theorem dL_law_1188 : decode cL_law 1188 = .ok (.iaload, 1) := dk_46 (dk_at dksL_law_40 10 rfl rfl)
theorem dL_law_1189 : decode cL_law 1189 = .ok (.invokevirtual 276, 3) := dk_182 1 20 (dk_at dksL_law_40 11 rfl rfl)
theorem dL_law_1192 : decode cL_law 1192 = .ok (.istore 7, 2) := dk_54 7 (dk_at dksL_law_40 14 rfl rfl)
theorem dL_law_1194 : decode cL_law 1194 = .ok (.aload_n 2, 1) := dk_44 (dk_at dksL_law_40 16 rfl rfl)
theorem dL_law_1195 : decode cL_law 1195 = .ok (.invokevirtual 223, 3) := dk_182 0 223 (dk_at dksL_law_40 17 rfl rfl)
theorem dL_law_1198 : decode cL_law 1198 = .ok (.iload 6, 2) := dk_21 6 (dk_at dksL_law_40 20 rfl rfl)
theorem dL_law_1200 : decode cL_law 1200 = .ok (.if_icmp .eq 5, 3) := dk_159 0 5 (dk_at dksL_law_41 0 rfl rfl)
theorem dL_law_1203 : decode cL_law 1203 = .ok (.iconst 0, 1) := dk_3 (dk_at dksL_law_41 3 rfl rfl)
theorem dL_law_1204 : decode cL_law 1204 = .ok (.ireturn, 1) := dk_172 (dk_at dksL_law_41 4 rfl rfl)
theorem dL_law_1205 : decode cL_law 1205 = .ok (.iload 6, 2) := dk_21 6 (dk_at dksL_law_41 5 rfl rfl)
theorem dL_law_1207 : decode cL_law 1207 = .ok (.ifCond .ne 15, 3) := dk_154 0 15 (dk_at dksL_law_41 7 rfl rfl)
theorem dL_law_1210 : decode cL_law 1210 = .ok (.aload_n 3, 1) := dk_45 (dk_at dksL_law_41 10 rfl rfl)
theorem dL_law_1211 : decode cL_law 1211 = .ok (.iconst 0, 1) := dk_3 (dk_at dksL_law_41 11 rfl rfl)
theorem dL_law_1212 : decode cL_law 1212 = .ok (.laload, 1) := dk_47 (dk_at dksL_law_41 12 rfl rfl)
theorem dL_law_1213 : decode cL_law 1213 = .ok (.iload 7, 2) := dk_21 7 (dk_at dksL_law_41 13 rfl rfl)
theorem dL_law_1215 : decode cL_law 1215 = .ok (.i2l, 1) := dk_133 (dk_at dksL_law_41 15 rfl rfl)
theorem dL_law_1216 : decode cL_law 1216 = .ok (.lcmp, 1) := dk_148 (dk_at dksL_law_41 16 rfl rfl)
theorem dL_law_1217 : decode cL_law 1217 = .ok (.ifCond .eq 5, 3) := dk_153 0 5 (dk_at dksL_law_41 17 rfl rfl)
theorem dL_law_1220 : decode cL_law 1220 = .ok (.iconst 0, 1) := dk_3 (dk_at dksL_law_41 20 rfl rfl)
theorem dL_law_1221 : decode cL_law 1221 = .ok (.ireturn, 1) := dk_172 (dk_at dksL_law_41 21 rfl rfl)
theorem dL_law_1222 : decode cL_law 1222 = .ok (.goto 2998, 3) := dk_167 11 182 (dk_at dksL_law_42 0 rfl rfl)
theorem dL_law_1225 : decode cL_law 1225 = .ok (.aload_n 1, 1) := dk_43 (dk_at dksL_law_42 3 rfl rfl)
theorem dL_law_1226 : decode cL_law 1226 = .ok (.aload_n 0, 1) := dk_42 (dk_at dksL_law_42 4 rfl rfl)
theorem dL_law_1227 : decode cL_law 1227 = .ok (.iload 5, 2) := dk_21 5 (dk_at dksL_law_42 5 rfl rfl)
theorem dL_law_1229 : decode cL_law 1229 = .ok (.iconst 1, 1) := dk_4 (dk_at dksL_law_42 7 rfl rfl)
theorem dL_law_1230 : decode cL_law 1230 = .ok (.iadd, 1) := dk_96 (dk_at dksL_law_42 8 rfl rfl)
theorem dL_law_1231 : decode cL_law 1231 = .ok (.iaload, 1) := dk_46 (dk_at dksL_law_42 9 rfl rfl)
theorem dL_law_1232 : decode cL_law 1232 = .ok (.aload_n 3, 1) := dk_45 (dk_at dksL_law_42 10 rfl rfl)
theorem dL_law_1233 : decode cL_law 1233 = .ok (.invokestatic 277, 3) := dk_184 1 21 (dk_at dksL_law_42 11 rfl rfl)
theorem dL_law_1236 : decode cL_law 1236 = .ok (.istore 6, 2) := dk_54 6 (dk_at dksL_law_42 14 rfl rfl)
theorem dL_law_1238 : decode cL_law 1238 = .ok (.aload_n 2, 1) := dk_44 (dk_at dksL_law_42 16 rfl rfl)
theorem dL_law_1239 : decode cL_law 1239 = .ok (.aload_n 0, 1) := dk_42 (dk_at dksL_law_42 17 rfl rfl)
theorem dL_law_1240 : decode cL_law 1240 = .ok (.iload 5, 2) := dk_21 5 (dk_at dksL_law_42 18 rfl rfl)
theorem dL_law_1242 : decode cL_law 1242 = .ok (.iconst 1, 1) := dk_4 (dk_at dksL_law_42 20 rfl rfl)
theorem dL_law_1243 : decode cL_law 1243 = .ok (.iadd, 1) := dk_96 (dk_at dksL_law_42 21 rfl rfl)
theorem dL_law_1244 : decode cL_law 1244 = .ok (.iaload, 1) := dk_46 (dk_at dksL_law_42 22 rfl rfl)
theorem dL_law_1245 : decode cL_law 1245 = .ok (.invokevirtual 279, 3) := dk_182 1 23 (dk_at dksL_law_43 0 rfl rfl)
theorem dL_law_1248 : decode cL_law 1248 = .ok (.istore 7, 2) := dk_54 7 (dk_at dksL_law_43 3 rfl rfl)
theorem dL_law_1250 : decode cL_law 1250 = .ok (.aload_n 2, 1) := dk_44 (dk_at dksL_law_43 5 rfl rfl)
theorem dL_law_1251 : decode cL_law 1251 = .ok (.invokevirtual 223, 3) := dk_182 0 223 (dk_at dksL_law_43 6 rfl rfl)
theorem dL_law_1254 : decode cL_law 1254 = .ok (.iload 6, 2) := dk_21 6 (dk_at dksL_law_43 9 rfl rfl)
theorem dL_law_1256 : decode cL_law 1256 = .ok (.if_icmp .eq 5, 3) := dk_159 0 5 (dk_at dksL_law_43 11 rfl rfl)
theorem dL_law_1259 : decode cL_law 1259 = .ok (.iconst 0, 1) := dk_3 (dk_at dksL_law_43 14 rfl rfl)
theorem dL_law_1260 : decode cL_law 1260 = .ok (.ireturn, 1) := dk_172 (dk_at dksL_law_43 15 rfl rfl)
theorem dL_law_1261 : decode cL_law 1261 = .ok (.iload 6, 2) := dk_21 6 (dk_at dksL_law_43 16 rfl rfl)
theorem dL_law_1263 : decode cL_law 1263 = .ok (.ifCond .ne 15, 3) := dk_154 0 15 (dk_at dksL_law_43 18 rfl rfl)
theorem dL_law_1266 : decode cL_law 1266 = .ok (.aload_n 3, 1) := dk_45 (dk_at dksL_law_43 21 rfl rfl)
theorem dL_law_1267 : decode cL_law 1267 = .ok (.iconst 0, 1) := dk_3 (dk_at dksL_law_43 22 rfl rfl)
theorem dL_law_1268 : decode cL_law 1268 = .ok (.laload, 1) := dk_47 (dk_at dksL_law_43 23 rfl rfl)
theorem dL_law_1269 : decode cL_law 1269 = .ok (.iload 7, 2) := dk_21 7 (dk_at dksL_law_44 0 rfl rfl)
theorem dL_law_1271 : decode cL_law 1271 = .ok (.i2l, 1) := dk_133 (dk_at dksL_law_44 2 rfl rfl)
theorem dL_law_1272 : decode cL_law 1272 = .ok (.lcmp, 1) := dk_148 (dk_at dksL_law_44 3 rfl rfl)
theorem dL_law_1273 : decode cL_law 1273 = .ok (.ifCond .eq 5, 3) := dk_153 0 5 (dk_at dksL_law_44 4 rfl rfl)
theorem dL_law_1276 : decode cL_law 1276 = .ok (.iconst 0, 1) := dk_3 (dk_at dksL_law_44 7 rfl rfl)
theorem dL_law_1277 : decode cL_law 1277 = .ok (.ireturn, 1) := dk_172 (dk_at dksL_law_44 8 rfl rfl)
theorem dL_law_1278 : decode cL_law 1278 = .ok (.goto 2942, 3) := dk_167 11 126 (dk_at dksL_law_44 9 rfl rfl)
theorem dL_law_1281 : decode cL_law 1281 = .ok (.aload_n 1, 1) := dk_43 (dk_at dksL_law_44 12 rfl rfl)
theorem dL_law_1282 : decode cL_law 1282 = .ok (.aload_n 0, 1) := dk_42 (dk_at dksL_law_44 13 rfl rfl)
theorem dL_law_1283 : decode cL_law 1283 = .ok (.iload 5, 2) := dk_21 5 (dk_at dksL_law_44 14 rfl rfl)
theorem dL_law_1285 : decode cL_law 1285 = .ok (.iconst 1, 1) := dk_4 (dk_at dksL_law_44 16 rfl rfl)
theorem dL_law_1286 : decode cL_law 1286 = .ok (.iadd, 1) := dk_96 (dk_at dksL_law_44 17 rfl rfl)
theorem dL_law_1287 : decode cL_law 1287 = .ok (.iaload, 1) := dk_46 (dk_at dksL_law_44 18 rfl rfl)
theorem dL_law_1288 : decode cL_law 1288 = .ok (.aload_n 0, 1) := dk_42 (dk_at dksL_law_44 19 rfl rfl)
theorem dL_law_1289 : decode cL_law 1289 = .ok (.iload 5, 2) := dk_21 5 (dk_at dksL_law_44 20 rfl rfl)
theorem dL_law_1291 : decode cL_law 1291 = .ok (.iconst 2, 1) := dk_5 (dk_at dksL_law_44 22 rfl rfl)
theorem dL_law_1292 : decode cL_law 1292 = .ok (.iadd, 1) := dk_96 (dk_at dksL_law_44 23 rfl rfl)
theorem dL_law_1293 : decode cL_law 1293 = .ok (.iaload, 1) := dk_46 (dk_at dksL_law_45 0 rfl rfl)
theorem dL_law_1294 : decode cL_law 1294 = .ok (.aload_n 3, 1) := dk_45 (dk_at dksL_law_45 1 rfl rfl)
theorem dL_law_1295 : decode cL_law 1295 = .ok (.invokestatic 280, 3) := dk_184 1 24 (dk_at dksL_law_45 2 rfl rfl)
theorem dL_law_1298 : decode cL_law 1298 = .ok (.istore 6, 2) := dk_54 6 (dk_at dksL_law_45 5 rfl rfl)
theorem dL_law_1300 : decode cL_law 1300 = .ok (.aload_n 2, 1) := dk_44 (dk_at dksL_law_45 7 rfl rfl)
theorem dL_law_1301 : decode cL_law 1301 = .ok (.aload_n 0, 1) := dk_42 (dk_at dksL_law_45 8 rfl rfl)
theorem dL_law_1302 : decode cL_law 1302 = .ok (.iload 5, 2) := dk_21 5 (dk_at dksL_law_45 9 rfl rfl)
theorem dL_law_1304 : decode cL_law 1304 = .ok (.iconst 1, 1) := dk_4 (dk_at dksL_law_45 11 rfl rfl)
theorem dL_law_1305 : decode cL_law 1305 = .ok (.iadd, 1) := dk_96 (dk_at dksL_law_45 12 rfl rfl)
theorem dL_law_1306 : decode cL_law 1306 = .ok (.iaload, 1) := dk_46 (dk_at dksL_law_45 13 rfl rfl)
theorem dL_law_1307 : decode cL_law 1307 = .ok (.aload_n 0, 1) := dk_42 (dk_at dksL_law_45 14 rfl rfl)
theorem dL_law_1308 : decode cL_law 1308 = .ok (.iload 5, 2) := dk_21 5 (dk_at dksL_law_45 15 rfl rfl)
theorem dL_law_1310 : decode cL_law 1310 = .ok (.iconst 2, 1) := dk_5 (dk_at dksL_law_45 17 rfl rfl)
theorem dL_law_1311 : decode cL_law 1311 = .ok (.iadd, 1) := dk_96 (dk_at dksL_law_45 18 rfl rfl)
theorem dL_law_1312 : decode cL_law 1312 = .ok (.iaload, 1) := dk_46 (dk_at dksL_law_45 19 rfl rfl)
theorem dL_law_1313 : decode cL_law 1313 = .ok (.invokevirtual 282, 3) := dk_182 1 26 (dk_at dksL_law_45 20 rfl rfl)
theorem dL_law_1316 : decode cL_law 1316 = .ok (.istore 7, 2) := dk_54 7 (dk_at dksL_law_46 0 rfl rfl)
theorem dL_law_1318 : decode cL_law 1318 = .ok (.aload_n 2, 1) := dk_44 (dk_at dksL_law_46 2 rfl rfl)
theorem dL_law_1319 : decode cL_law 1319 = .ok (.invokevirtual 223, 3) := dk_182 0 223 (dk_at dksL_law_46 3 rfl rfl)
theorem dL_law_1322 : decode cL_law 1322 = .ok (.iload 6, 2) := dk_21 6 (dk_at dksL_law_46 6 rfl rfl)
theorem dL_law_1324 : decode cL_law 1324 = .ok (.if_icmp .eq 5, 3) := dk_159 0 5 (dk_at dksL_law_46 8 rfl rfl)
theorem dL_law_1327 : decode cL_law 1327 = .ok (.iconst 0, 1) := dk_3 (dk_at dksL_law_46 11 rfl rfl)
theorem dL_law_1328 : decode cL_law 1328 = .ok (.ireturn, 1) := dk_172 (dk_at dksL_law_46 12 rfl rfl)
theorem dL_law_1329 : decode cL_law 1329 = .ok (.iload 6, 2) := dk_21 6 (dk_at dksL_law_46 13 rfl rfl)
theorem dL_law_1331 : decode cL_law 1331 = .ok (.ifCond .ne 15, 3) := dk_154 0 15 (dk_at dksL_law_46 15 rfl rfl)
theorem dL_law_1334 : decode cL_law 1334 = .ok (.aload_n 3, 1) := dk_45 (dk_at dksL_law_46 18 rfl rfl)
theorem dL_law_1335 : decode cL_law 1335 = .ok (.iconst 0, 1) := dk_3 (dk_at dksL_law_46 19 rfl rfl)
theorem dL_law_1336 : decode cL_law 1336 = .ok (.laload, 1) := dk_47 (dk_at dksL_law_46 20 rfl rfl)
theorem dL_law_1337 : decode cL_law 1337 = .ok (.iload 7, 2) := dk_21 7 (dk_at dksL_law_46 21 rfl rfl)
theorem dL_law_1339 : decode cL_law 1339 = .ok (.i2l, 1) := dk_133 (dk_at dksL_law_46 23 rfl rfl)
theorem dL_law_1340 : decode cL_law 1340 = .ok (.lcmp, 1) := dk_148 (dk_at dksL_law_47 0 rfl rfl)
theorem dL_law_1341 : decode cL_law 1341 = .ok (.ifCond .eq 5, 3) := dk_153 0 5 (dk_at dksL_law_47 1 rfl rfl)
theorem dL_law_1344 : decode cL_law 1344 = .ok (.iconst 0, 1) := dk_3 (dk_at dksL_law_47 4 rfl rfl)
theorem dL_law_1345 : decode cL_law 1345 = .ok (.ireturn, 1) := dk_172 (dk_at dksL_law_47 5 rfl rfl)
theorem dL_law_1346 : decode cL_law 1346 = .ok (.goto 2874, 3) := dk_167 11 58 (dk_at dksL_law_47 6 rfl rfl)
theorem dL_law_1349 : decode cL_law 1349 = .ok (.aload_n 1, 1) := dk_43 (dk_at dksL_law_47 9 rfl rfl)
theorem dL_law_1350 : decode cL_law 1350 = .ok (.aload_n 0, 1) := dk_42 (dk_at dksL_law_47 10 rfl rfl)
theorem dL_law_1351 : decode cL_law 1351 = .ok (.iload 5, 2) := dk_21 5 (dk_at dksL_law_47 11 rfl rfl)
theorem dL_law_1353 : decode cL_law 1353 = .ok (.iconst 1, 1) := dk_4 (dk_at dksL_law_47 13 rfl rfl)
theorem dL_law_1354 : decode cL_law 1354 = .ok (.iadd, 1) := dk_96 (dk_at dksL_law_47 14 rfl rfl)
theorem dL_law_1355 : decode cL_law 1355 = .ok (.iaload, 1) := dk_46 (dk_at dksL_law_47 15 rfl rfl)
theorem dL_law_1356 : decode cL_law 1356 = .ok (.aload_n 3, 1) := dk_45 (dk_at dksL_law_47 16 rfl rfl)
theorem dL_law_1357 : decode cL_law 1357 = .ok (.invokestatic 283, 3) := dk_184 1 27 (dk_at dksL_law_47 17 rfl rfl)
theorem dL_law_1360 : decode cL_law 1360 = .ok (.istore 6, 2) := dk_54 6 (dk_at dksL_law_47 20 rfl rfl)
theorem dL_law_1362 : decode cL_law 1362 = .ok (.aload_n 2, 1) := dk_44 (dk_at dksL_law_47 22 rfl rfl)
theorem dL_law_1363 : decode cL_law 1363 = .ok (.aload_n 0, 1) := dk_42 (dk_at dksL_law_47 23 rfl rfl)
theorem dL_law_1364 : decode cL_law 1364 = .ok (.iload 5, 2) := dk_21 5 (dk_at dksL_law_48 0 rfl rfl)
theorem dL_law_1366 : decode cL_law 1366 = .ok (.iconst 1, 1) := dk_4 (dk_at dksL_law_48 2 rfl rfl)
theorem dL_law_1367 : decode cL_law 1367 = .ok (.iadd, 1) := dk_96 (dk_at dksL_law_48 3 rfl rfl)
theorem dL_law_1368 : decode cL_law 1368 = .ok (.iaload, 1) := dk_46 (dk_at dksL_law_48 4 rfl rfl)
theorem dL_law_1369 : decode cL_law 1369 = .ok (.invokevirtual 285, 3) := dk_182 1 29 (dk_at dksL_law_48 5 rfl rfl)
theorem dL_law_1372 : decode cL_law 1372 = .ok (.istore 7, 2) := dk_54 7 (dk_at dksL_law_48 8 rfl rfl)
theorem dL_law_1374 : decode cL_law 1374 = .ok (.aload_n 2, 1) := dk_44 (dk_at dksL_law_48 10 rfl rfl)
theorem dL_law_1375 : decode cL_law 1375 = .ok (.invokevirtual 223, 3) := dk_182 0 223 (dk_at dksL_law_48 11 rfl rfl)
theorem dL_law_1378 : decode cL_law 1378 = .ok (.iload 6, 2) := dk_21 6 (dk_at dksL_law_48 14 rfl rfl)
theorem dL_law_1380 : decode cL_law 1380 = .ok (.if_icmp .eq 5, 3) := dk_159 0 5 (dk_at dksL_law_48 16 rfl rfl)
theorem dL_law_1383 : decode cL_law 1383 = .ok (.iconst 0, 1) := dk_3 (dk_at dksL_law_48 19 rfl rfl)
theorem dL_law_1384 : decode cL_law 1384 = .ok (.ireturn, 1) := dk_172 (dk_at dksL_law_48 20 rfl rfl)
theorem dL_law_1385 : decode cL_law 1385 = .ok (.iload 6, 2) := dk_21 6 (dk_at dksL_law_48 21 rfl rfl)
theorem dL_law_1387 : decode cL_law 1387 = .ok (.ifCond .ne 15, 3) := dk_154 0 15 (dk_at dksL_law_49 0 rfl rfl)
theorem dL_law_1390 : decode cL_law 1390 = .ok (.aload_n 3, 1) := dk_45 (dk_at dksL_law_49 3 rfl rfl)
theorem dL_law_1391 : decode cL_law 1391 = .ok (.iconst 0, 1) := dk_3 (dk_at dksL_law_49 4 rfl rfl)
theorem dL_law_1392 : decode cL_law 1392 = .ok (.laload, 1) := dk_47 (dk_at dksL_law_49 5 rfl rfl)
theorem dL_law_1393 : decode cL_law 1393 = .ok (.iload 7, 2) := dk_21 7 (dk_at dksL_law_49 6 rfl rfl)
theorem dL_law_1395 : decode cL_law 1395 = .ok (.i2l, 1) := dk_133 (dk_at dksL_law_49 8 rfl rfl)
theorem dL_law_1396 : decode cL_law 1396 = .ok (.lcmp, 1) := dk_148 (dk_at dksL_law_49 9 rfl rfl)
theorem dL_law_1397 : decode cL_law 1397 = .ok (.ifCond .eq 5, 3) := dk_153 0 5 (dk_at dksL_law_49 10 rfl rfl)
theorem dL_law_1400 : decode cL_law 1400 = .ok (.iconst 0, 1) := dk_3 (dk_at dksL_law_49 13 rfl rfl)
theorem dL_law_1401 : decode cL_law 1401 = .ok (.ireturn, 1) := dk_172 (dk_at dksL_law_49 14 rfl rfl)
theorem dL_law_1402 : decode cL_law 1402 = .ok (.goto 2818, 3) := dk_167 11 2 (dk_at dksL_law_49 15 rfl rfl)
theorem dL_law_1405 : decode cL_law 1405 = .ok (.aload_n 1, 1) := dk_43 (dk_at dksL_law_49 18 rfl rfl)
theorem dL_law_1406 : decode cL_law 1406 = .ok (.aload_n 0, 1) := dk_42 (dk_at dksL_law_49 19 rfl rfl)
theorem dL_law_1407 : decode cL_law 1407 = .ok (.iload 5, 2) := dk_21 5 (dk_at dksL_law_49 20 rfl rfl)
theorem dL_law_1409 : decode cL_law 1409 = .ok (.iconst 1, 1) := dk_4 (dk_at dksL_law_49 22 rfl rfl)
theorem dL_law_1410 : decode cL_law 1410 = .ok (.iadd, 1) := dk_96 (dk_at dksL_law_49 23 rfl rfl)
theorem dL_law_1411 : decode cL_law 1411 = .ok (.iaload, 1) := dk_46 (dk_at dksL_law_50 0 rfl rfl)
theorem dL_law_1412 : decode cL_law 1412 = .ok (.aload_n 0, 1) := dk_42 (dk_at dksL_law_50 1 rfl rfl)
theorem dL_law_1413 : decode cL_law 1413 = .ok (.iload 5, 2) := dk_21 5 (dk_at dksL_law_50 2 rfl rfl)
theorem dL_law_1415 : decode cL_law 1415 = .ok (.iconst 2, 1) := dk_5 (dk_at dksL_law_50 4 rfl rfl)
theorem dL_law_1416 : decode cL_law 1416 = .ok (.iadd, 1) := dk_96 (dk_at dksL_law_50 5 rfl rfl)
theorem dL_law_1417 : decode cL_law 1417 = .ok (.iaload, 1) := dk_46 (dk_at dksL_law_50 6 rfl rfl)
theorem dL_law_1418 : decode cL_law 1418 = .ok (.ifCond .eq 7, 3) := dk_153 0 7 (dk_at dksL_law_50 7 rfl rfl)
theorem dL_law_1421 : decode cL_law 1421 = .ok (.iconst 1, 1) := dk_4 (dk_at dksL_law_50 10 rfl rfl)
theorem dL_law_1422 : decode cL_law 1422 = .ok (.goto 4, 3) := dk_167 0 4 (dk_at dksL_law_50 11 rfl rfl)
theorem dL_law_1425 : decode cL_law 1425 = .ok (.iconst 0, 1) := dk_3 (dk_at dksL_law_50 14 rfl rfl)
theorem dL_law_1426 : decode cL_law 1426 = .ok (.aload_n 3, 1) := dk_45 (dk_at dksL_law_50 15 rfl rfl)
theorem dL_law_1427 : decode cL_law 1427 = .ok (.invokestatic 286, 3) := dk_184 1 30 (dk_at dksL_law_50 16 rfl rfl)
theorem dL_law_1430 : decode cL_law 1430 = .ok (.istore 6, 2) := dk_54 6 (dk_at dksL_law_50 19 rfl rfl)
theorem dL_law_1432 : decode cL_law 1432 = .ok (.aload_n 2, 1) := dk_44 (dk_at dksL_law_50 21 rfl rfl)
theorem dL_law_1433 : decode cL_law 1433 = .ok (.aload_n 0, 1) := dk_42 (dk_at dksL_law_50 22 rfl rfl)
theorem dL_law_1434 : decode cL_law 1434 = .ok (.iload 5, 2) := dk_21 5 (dk_at dksL_law_51 0 rfl rfl)
theorem dL_law_1436 : decode cL_law 1436 = .ok (.iconst 1, 1) := dk_4 (dk_at dksL_law_51 2 rfl rfl)
theorem dL_law_1437 : decode cL_law 1437 = .ok (.iadd, 1) := dk_96 (dk_at dksL_law_51 3 rfl rfl)
theorem dL_law_1438 : decode cL_law 1438 = .ok (.iaload, 1) := dk_46 (dk_at dksL_law_51 4 rfl rfl)
theorem dL_law_1439 : decode cL_law 1439 = .ok (.aload_n 0, 1) := dk_42 (dk_at dksL_law_51 5 rfl rfl)
theorem dL_law_1440 : decode cL_law 1440 = .ok (.iload 5, 2) := dk_21 5 (dk_at dksL_law_51 6 rfl rfl)
theorem dL_law_1442 : decode cL_law 1442 = .ok (.iconst 2, 1) := dk_5 (dk_at dksL_law_51 8 rfl rfl)
theorem dL_law_1443 : decode cL_law 1443 = .ok (.iadd, 1) := dk_96 (dk_at dksL_law_51 9 rfl rfl)
theorem dL_law_1444 : decode cL_law 1444 = .ok (.iaload, 1) := dk_46 (dk_at dksL_law_51 10 rfl rfl)
theorem dL_law_1445 : decode cL_law 1445 = .ok (.ifCond .eq 7, 3) := dk_153 0 7 (dk_at dksL_law_51 11 rfl rfl)
theorem dL_law_1448 : decode cL_law 1448 = .ok (.iconst 1, 1) := dk_4 (dk_at dksL_law_51 14 rfl rfl)
theorem dL_law_1449 : decode cL_law 1449 = .ok (.goto 4, 3) := dk_167 0 4 (dk_at dksL_law_51 15 rfl rfl)
theorem dL_law_1452 : decode cL_law 1452 = .ok (.iconst 0, 1) := dk_3 (dk_at dksL_law_51 18 rfl rfl)
theorem dL_law_1453 : decode cL_law 1453 = .ok (.invokevirtual 289, 3) := dk_182 1 33 (dk_at dksL_law_51 19 rfl rfl)
theorem dL_law_1456 : decode cL_law 1456 = .ok (.istore 7, 2) := dk_54 7 (dk_at dksL_law_51 22 rfl rfl)
theorem dL_law_1458 : decode cL_law 1458 = .ok (.aload_n 2, 1) := dk_44 (dk_at dksL_law_52 0 rfl rfl)
theorem dL_law_1459 : decode cL_law 1459 = .ok (.invokevirtual 223, 3) := dk_182 0 223 (dk_at dksL_law_52 1 rfl rfl)
theorem dL_law_1462 : decode cL_law 1462 = .ok (.iload 6, 2) := dk_21 6 (dk_at dksL_law_52 4 rfl rfl)
theorem dL_law_1464 : decode cL_law 1464 = .ok (.if_icmp .eq 5, 3) := dk_159 0 5 (dk_at dksL_law_52 6 rfl rfl)
theorem dL_law_1467 : decode cL_law 1467 = .ok (.iconst 0, 1) := dk_3 (dk_at dksL_law_52 9 rfl rfl)
theorem dL_law_1468 : decode cL_law 1468 = .ok (.ireturn, 1) := dk_172 (dk_at dksL_law_52 10 rfl rfl)
theorem dL_law_1469 : decode cL_law 1469 = .ok (.iload 6, 2) := dk_21 6 (dk_at dksL_law_52 11 rfl rfl)
theorem dL_law_1471 : decode cL_law 1471 = .ok (.ifCond .ne 15, 3) := dk_154 0 15 (dk_at dksL_law_52 13 rfl rfl)
theorem dL_law_1474 : decode cL_law 1474 = .ok (.aload_n 3, 1) := dk_45 (dk_at dksL_law_52 16 rfl rfl)
theorem dL_law_1475 : decode cL_law 1475 = .ok (.iconst 0, 1) := dk_3 (dk_at dksL_law_52 17 rfl rfl)
theorem dL_law_1476 : decode cL_law 1476 = .ok (.laload, 1) := dk_47 (dk_at dksL_law_52 18 rfl rfl)
theorem dL_law_1477 : decode cL_law 1477 = .ok (.iload 7, 2) := dk_21 7 (dk_at dksL_law_52 19 rfl rfl)
theorem dL_law_1479 : decode cL_law 1479 = .ok (.i2l, 1) := dk_133 (dk_at dksL_law_52 21 rfl rfl)
theorem dL_law_1480 : decode cL_law 1480 = .ok (.lcmp, 1) := dk_148 (dk_at dksL_law_52 22 rfl rfl)
theorem dL_law_1481 : decode cL_law 1481 = .ok (.ifCond .eq 5, 3) := dk_153 0 5 (dk_at dksL_law_53 0 rfl rfl)
theorem dL_law_1484 : decode cL_law 1484 = .ok (.iconst 0, 1) := dk_3 (dk_at dksL_law_53 3 rfl rfl)
theorem dL_law_1485 : decode cL_law 1485 = .ok (.ireturn, 1) := dk_172 (dk_at dksL_law_53 4 rfl rfl)
theorem dL_law_1486 : decode cL_law 1486 = .ok (.goto 2734, 3) := dk_167 10 174 (dk_at dksL_law_53 5 rfl rfl)
theorem dL_law_1489 : decode cL_law 1489 = .ok (.aload_n 1, 1) := dk_43 (dk_at dksL_law_53 8 rfl rfl)
theorem dL_law_1490 : decode cL_law 1490 = .ok (.aload_n 0, 1) := dk_42 (dk_at dksL_law_53 9 rfl rfl)
theorem dL_law_1491 : decode cL_law 1491 = .ok (.iload 5, 2) := dk_21 5 (dk_at dksL_law_53 10 rfl rfl)
theorem dL_law_1493 : decode cL_law 1493 = .ok (.iconst 1, 1) := dk_4 (dk_at dksL_law_53 12 rfl rfl)
theorem dL_law_1494 : decode cL_law 1494 = .ok (.iadd, 1) := dk_96 (dk_at dksL_law_53 13 rfl rfl)
theorem dL_law_1495 : decode cL_law 1495 = .ok (.iaload, 1) := dk_46 (dk_at dksL_law_53 14 rfl rfl)
theorem dL_law_1496 : decode cL_law 1496 = .ok (.aload 4, 2) := dk_25 4 (dk_at dksL_law_53 15 rfl rfl)
theorem dL_law_1498 : decode cL_law 1498 = .ok (.invokestatic 290, 3) := dk_184 1 34 (dk_at dksL_law_53 17 rfl rfl)
theorem dL_law_1501 : decode cL_law 1501 = .ok (.istore 6, 2) := dk_54 6 (dk_at dksL_law_53 20 rfl rfl)
theorem dL_law_1503 : decode cL_law 1503 = .ok (.aload_n 2, 1) := dk_44 (dk_at dksL_law_53 22 rfl rfl)
theorem dL_law_1504 : decode cL_law 1504 = .ok (.aload_n 0, 1) := dk_42 (dk_at dksL_law_53 23 rfl rfl)
theorem dL_law_1505 : decode cL_law 1505 = .ok (.iload 5, 2) := dk_21 5 (dk_at dksL_law_54 0 rfl rfl)
theorem dL_law_1507 : decode cL_law 1507 = .ok (.iconst 1, 1) := dk_4 (dk_at dksL_law_54 2 rfl rfl)
theorem dL_law_1508 : decode cL_law 1508 = .ok (.iadd, 1) := dk_96 (dk_at dksL_law_54 3 rfl rfl)
theorem dL_law_1509 : decode cL_law 1509 = .ok (.iaload, 1) := dk_46 (dk_at dksL_law_54 4 rfl rfl)
theorem dL_law_1510 : decode cL_law 1510 = .ok (.invokevirtual 293, 3) := dk_182 1 37 (dk_at dksL_law_54 5 rfl rfl)
theorem dL_law_1513 : decode cL_law 1513 = .ok (.dstore 7, 2) := dk_57 7 (dk_at dksL_law_54 8 rfl rfl)
theorem dL_law_1515 : decode cL_law 1515 = .ok (.aload_n 2, 1) := dk_44 (dk_at dksL_law_54 10 rfl rfl)
theorem dL_law_1516 : decode cL_law 1516 = .ok (.invokevirtual 223, 3) := dk_182 0 223 (dk_at dksL_law_54 11 rfl rfl)
theorem dL_law_1519 : decode cL_law 1519 = .ok (.iload 6, 2) := dk_21 6 (dk_at dksL_law_54 14 rfl rfl)
theorem dL_law_1521 : decode cL_law 1521 = .ok (.if_icmp .eq 5, 3) := dk_159 0 5 (dk_at dksL_law_54 16 rfl rfl)
theorem dL_law_1524 : decode cL_law 1524 = .ok (.iconst 0, 1) := dk_3 (dk_at dksL_law_54 19 rfl rfl)
theorem dL_law_1525 : decode cL_law 1525 = .ok (.ireturn, 1) := dk_172 (dk_at dksL_law_54 20 rfl rfl)
theorem dL_law_1526 : decode cL_law 1526 = .ok (.iload 6, 2) := dk_21 6 (dk_at dksL_law_54 21 rfl rfl)
theorem dL_law_1528 : decode cL_law 1528 = .ok (.ifCond .ne 35, 3) := dk_154 0 35 (dk_at dksL_law_55 0 rfl rfl)
theorem dL_law_1531 : decode cL_law 1531 = .ok (.aload 4, 2) := dk_25 4 (dk_at dksL_law_55 3 rfl rfl)
theorem dL_law_1533 : decode cL_law 1533 = .ok (.iconst 0, 1) := dk_3 (dk_at dksL_law_55 5 rfl rfl)
theorem dL_law_1534 : decode cL_law 1534 = .ok (.daload, 1) := dk_49 (dk_at dksL_law_55 6 rfl rfl)
theorem dL_law_1535 : decode cL_law 1535 = .ok (.dload 7, 2) := dk_24 7 (dk_at dksL_law_55 7 rfl rfl)
theorem dL_law_1537 : decode cL_law 1537 = .ok (.dcmp .l, 1) := dk_151 (dk_at dksL_law_55 9 rfl rfl)
theorem dL_law_1538 : decode cL_law 1538 = .ok (.ifCond .eq 25, 3) := dk_153 0 25 (dk_at dksL_law_55 10 rfl rfl)
theorem dL_law_1541 : decode cL_law 1541 = .ok (.aload 4, 2) := dk_25 4 (dk_at dksL_law_55 13 rfl rfl)
theorem dL_law_1543 : decode cL_law 1543 = .ok (.iconst 0, 1) := dk_3 (dk_at dksL_law_55 15 rfl rfl)
theorem dL_law_1544 : decode cL_law 1544 = .ok (.daload, 1) := dk_49 (dk_at dksL_law_55 16 rfl rfl)
theorem dL_law_1545 : decode cL_law 1545 = .ok (.aload 4, 2) := dk_25 4 (dk_at dksL_law_55 17 rfl rfl)
theorem dL_law_1547 : decode cL_law 1547 = .ok (.iconst 0, 1) := dk_3 (dk_at dksL_law_55 19 rfl rfl)
theorem dL_law_1548 : decode cL_law 1548 = .ok (.daload, 1) := dk_49 (dk_at dksL_law_55 20 rfl rfl)
theorem dL_law_1549 : decode cL_law 1549 = .ok (.dcmp .l, 1) := dk_151 (dk_at dksL_law_55 21 rfl rfl)
theorem dL_law_1550 : decode cL_law 1550 = .ok (.ifCond .eq 11, 3) := dk_153 0 11 (dk_at dksL_law_56 0 rfl rfl)
theorem dL_law_1553 : decode cL_law 1553 = .ok (.dload 7, 2) := dk_24 7 (dk_at dksL_law_56 3 rfl rfl)
theorem dL_law_1555 : decode cL_law 1555 = .ok (.dload 7, 2) := dk_24 7 (dk_at dksL_law_56 5 rfl rfl)
theorem dL_law_1557 : decode cL_law 1557 = .ok (.dcmp .l, 1) := dk_151 (dk_at dksL_law_56 7 rfl rfl)
theorem dL_law_1558 : decode cL_law 1558 = .ok (.ifCond .ne 5, 3) := dk_154 0 5 (dk_at dksL_law_56 8 rfl rfl)
theorem dL_law_1561 : decode cL_law 1561 = .ok (.iconst 0, 1) := dk_3 (dk_at dksL_law_56 11 rfl rfl)
theorem dL_law_1562 : decode cL_law 1562 = .ok (.ireturn, 1) := dk_172 (dk_at dksL_law_56 12 rfl rfl)
theorem dL_law_1563 : decode cL_law 1563 = .ok (.goto 2657, 3) := dk_167 10 97 (dk_at dksL_law_56 13 rfl rfl)
theorem dL_law_1566 : decode cL_law 1566 = .ok (.aload_n 1, 1) := dk_43 (dk_at dksL_law_56 16 rfl rfl)
theorem dL_law_1567 : decode cL_law 1567 = .ok (.aload_n 0, 1) := dk_42 (dk_at dksL_law_56 17 rfl rfl)
theorem dL_law_1568 : decode cL_law 1568 = .ok (.iload 5, 2) := dk_21 5 (dk_at dksL_law_56 18 rfl rfl)
theorem dL_law_1570 : decode cL_law 1570 = .ok (.iconst 1, 1) := dk_4 (dk_at dksL_law_56 20 rfl rfl)
theorem dL_law_1571 : decode cL_law 1571 = .ok (.iadd, 1) := dk_96 (dk_at dksL_law_56 21 rfl rfl)
theorem dL_law_1572 : decode cL_law 1572 = .ok (.iaload, 1) := dk_46 (dk_at dksL_law_56 22 rfl rfl)
theorem dL_law_1573 : decode cL_law 1573 = .ok (.aload 4, 2) := dk_25 4 (dk_at dksL_law_57 0 rfl rfl)
theorem dL_law_1575 : decode cL_law 1575 = .ok (.invokestatic 294, 3) := dk_184 1 38 (dk_at dksL_law_57 2 rfl rfl)
theorem dL_law_1578 : decode cL_law 1578 = .ok (.istore 6, 2) := dk_54 6 (dk_at dksL_law_57 5 rfl rfl)
theorem dL_law_1580 : decode cL_law 1580 = .ok (.aload_n 2, 1) := dk_44 (dk_at dksL_law_57 7 rfl rfl)
theorem dL_law_1581 : decode cL_law 1581 = .ok (.aload_n 0, 1) := dk_42 (dk_at dksL_law_57 8 rfl rfl)
theorem dL_law_1582 : decode cL_law 1582 = .ok (.iload 5, 2) := dk_21 5 (dk_at dksL_law_57 9 rfl rfl)
theorem dL_law_1584 : decode cL_law 1584 = .ok (.iconst 1, 1) := dk_4 (dk_at dksL_law_57 11 rfl rfl)
theorem dL_law_1585 : decode cL_law 1585 = .ok (.iadd, 1) := dk_96 (dk_at dksL_law_57 12 rfl rfl)
theorem dL_law_1586 : decode cL_law 1586 = .ok (.iaload, 1) := dk_46 (dk_at dksL_law_57 13 rfl rfl)
theorem dL_law_1587 : decode cL_law 1587 = .ok (.invokevirtual 296, 3) := dk_182 1 40 (dk_at dksL_law_57 14 rfl rfl)
theorem dL_law_1590 : decode cL_law 1590 = .ok (.dstore 7, 2) := dk_57 7 (dk_at dksL_law_57 17 rfl rfl)
theorem dL_law_1592 : decode cL_law 1592 = .ok (.aload_n 2, 1) := dk_44 (dk_at dksL_law_57 19 rfl rfl)
theorem dL_law_1593 : decode cL_law 1593 = .ok (.invokevirtual 223, 3) := dk_182 0 223 (dk_at dksL_law_57 20 rfl rfl)
theorem dL_law_1596 : decode cL_law 1596 = .ok (.iload 6, 2) := dk_21 6 (dk_at dksL_law_58 0 rfl rfl)
theorem dL_law_1598 : decode cL_law 1598 = .ok (.if_icmp .eq 5, 3) := dk_159 0 5 (dk_at dksL_law_58 2 rfl rfl)
theorem dL_law_1601 : decode cL_law 1601 = .ok (.iconst 0, 1) := dk_3 (dk_at dksL_law_58 5 rfl rfl)
theorem dL_law_1602 : decode cL_law 1602 = .ok (.ireturn, 1) := dk_172 (dk_at dksL_law_58 6 rfl rfl)
theorem dL_law_1603 : decode cL_law 1603 = .ok (.iload 6, 2) := dk_21 6 (dk_at dksL_law_58 7 rfl rfl)
theorem dL_law_1605 : decode cL_law 1605 = .ok (.ifCond .ne 35, 3) := dk_154 0 35 (dk_at dksL_law_58 9 rfl rfl)
theorem dL_law_1608 : decode cL_law 1608 = .ok (.aload 4, 2) := dk_25 4 (dk_at dksL_law_58 12 rfl rfl)
theorem dL_law_1610 : decode cL_law 1610 = .ok (.iconst 0, 1) := dk_3 (dk_at dksL_law_58 14 rfl rfl)
theorem dL_law_1611 : decode cL_law 1611 = .ok (.daload, 1) := dk_49 (dk_at dksL_law_58 15 rfl rfl)
theorem dL_law_1612 : decode cL_law 1612 = .ok (.dload 7, 2) := dk_24 7 (dk_at dksL_law_58 16 rfl rfl)
theorem dL_law_1614 : decode cL_law 1614 = .ok (.dcmp .l, 1) := dk_151 (dk_at dksL_law_58 18 rfl rfl)
theorem dL_law_1615 : decode cL_law 1615 = .ok (.ifCond .eq 25, 3) := dk_153 0 25 (dk_at dksL_law_58 19 rfl rfl)
theorem dL_law_1618 : decode cL_law 1618 = .ok (.aload 4, 2) := dk_25 4 (dk_at dksL_law_58 22 rfl rfl)
theorem dL_law_1620 : decode cL_law 1620 = .ok (.iconst 0, 1) := dk_3 (dk_at dksL_law_59 0 rfl rfl)
theorem dL_law_1621 : decode cL_law 1621 = .ok (.daload, 1) := dk_49 (dk_at dksL_law_59 1 rfl rfl)
theorem dL_law_1622 : decode cL_law 1622 = .ok (.aload 4, 2) := dk_25 4 (dk_at dksL_law_59 2 rfl rfl)
theorem dL_law_1624 : decode cL_law 1624 = .ok (.iconst 0, 1) := dk_3 (dk_at dksL_law_59 4 rfl rfl)
theorem dL_law_1625 : decode cL_law 1625 = .ok (.daload, 1) := dk_49 (dk_at dksL_law_59 5 rfl rfl)
theorem dL_law_1626 : decode cL_law 1626 = .ok (.dcmp .l, 1) := dk_151 (dk_at dksL_law_59 6 rfl rfl)
theorem dL_law_1627 : decode cL_law 1627 = .ok (.ifCond .eq 11, 3) := dk_153 0 11 (dk_at dksL_law_59 7 rfl rfl)
theorem dL_law_1630 : decode cL_law 1630 = .ok (.dload 7, 2) := dk_24 7 (dk_at dksL_law_59 10 rfl rfl)
theorem dL_law_1632 : decode cL_law 1632 = .ok (.dload 7, 2) := dk_24 7 (dk_at dksL_law_59 12 rfl rfl)
theorem dL_law_1634 : decode cL_law 1634 = .ok (.dcmp .l, 1) := dk_151 (dk_at dksL_law_59 14 rfl rfl)
theorem dL_law_1635 : decode cL_law 1635 = .ok (.ifCond .ne 5, 3) := dk_154 0 5 (dk_at dksL_law_59 15 rfl rfl)
theorem dL_law_1638 : decode cL_law 1638 = .ok (.iconst 0, 1) := dk_3 (dk_at dksL_law_59 18 rfl rfl)
theorem dL_law_1639 : decode cL_law 1639 = .ok (.ireturn, 1) := dk_172 (dk_at dksL_law_59 19 rfl rfl)
theorem dL_law_1640 : decode cL_law 1640 = .ok (.goto 2580, 3) := dk_167 10 20 (dk_at dksL_law_59 20 rfl rfl)
theorem dL_law_1643 : decode cL_law 1643 = .ok (.aload_n 1, 1) := dk_43 (dk_at dksL_law_59 23 rfl rfl)
theorem dL_law_1644 : decode cL_law 1644 = .ok (.aload_n 0, 1) := dk_42 (dk_at dksL_law_60 0 rfl rfl)
theorem dL_law_1645 : decode cL_law 1645 = .ok (.iload 5, 2) := dk_21 5 (dk_at dksL_law_60 1 rfl rfl)
theorem dL_law_1647 : decode cL_law 1647 = .ok (.iconst 1, 1) := dk_4 (dk_at dksL_law_60 3 rfl rfl)
theorem dL_law_1648 : decode cL_law 1648 = .ok (.iadd, 1) := dk_96 (dk_at dksL_law_60 4 rfl rfl)
theorem dL_law_1649 : decode cL_law 1649 = .ok (.iaload, 1) := dk_46 (dk_at dksL_law_60 5 rfl rfl)
theorem dL_law_1650 : decode cL_law 1650 = .ok (.aload 4, 2) := dk_25 4 (dk_at dksL_law_60 6 rfl rfl)
theorem dL_law_1652 : decode cL_law 1652 = .ok (.invokestatic 297, 3) := dk_184 1 41 (dk_at dksL_law_60 8 rfl rfl)
theorem dL_law_1655 : decode cL_law 1655 = .ok (.istore 6, 2) := dk_54 6 (dk_at dksL_law_60 11 rfl rfl)
theorem dL_law_1657 : decode cL_law 1657 = .ok (.aload_n 2, 1) := dk_44 (dk_at dksL_law_60 13 rfl rfl)
theorem dL_law_1658 : decode cL_law 1658 = .ok (.aload_n 0, 1) := dk_42 (dk_at dksL_law_60 14 rfl rfl)
theorem dL_law_1659 : decode cL_law 1659 = .ok (.iload 5, 2) := dk_21 5 (dk_at dksL_law_60 15 rfl rfl)
theorem dL_law_1661 : decode cL_law 1661 = .ok (.iconst 1, 1) := dk_4 (dk_at dksL_law_60 17 rfl rfl)
theorem dL_law_1662 : decode cL_law 1662 = .ok (.iadd, 1) := dk_96 (dk_at dksL_law_60 18 rfl rfl)
theorem dL_law_1663 : decode cL_law 1663 = .ok (.iaload, 1) := dk_46 (dk_at dksL_law_60 19 rfl rfl)
theorem dL_law_1664 : decode cL_law 1664 = .ok (.invokevirtual 299, 3) := dk_182 1 43 (dk_at dksL_law_60 20 rfl rfl)
theorem dL_law_1667 : decode cL_law 1667 = .ok (.dstore 7, 2) := dk_57 7 (dk_at dksL_law_61 0 rfl rfl)
theorem dL_law_1669 : decode cL_law 1669 = .ok (.aload_n 2, 1) := dk_44 (dk_at dksL_law_61 2 rfl rfl)
theorem dL_law_1670 : decode cL_law 1670 = .ok (.invokevirtual 223, 3) := dk_182 0 223 (dk_at dksL_law_61 3 rfl rfl)
theorem dL_law_1673 : decode cL_law 1673 = .ok (.iload 6, 2) := dk_21 6 (dk_at dksL_law_61 6 rfl rfl)
theorem dL_law_1675 : decode cL_law 1675 = .ok (.if_icmp .eq 5, 3) := dk_159 0 5 (dk_at dksL_law_61 8 rfl rfl)
theorem dL_law_1678 : decode cL_law 1678 = .ok (.iconst 0, 1) := dk_3 (dk_at dksL_law_61 11 rfl rfl)
theorem dL_law_1679 : decode cL_law 1679 = .ok (.ireturn, 1) := dk_172 (dk_at dksL_law_61 12 rfl rfl)
theorem dL_law_1680 : decode cL_law 1680 = .ok (.iload 6, 2) := dk_21 6 (dk_at dksL_law_61 13 rfl rfl)
theorem dL_law_1682 : decode cL_law 1682 = .ok (.ifCond .ne 35, 3) := dk_154 0 35 (dk_at dksL_law_61 15 rfl rfl)
theorem dL_law_1685 : decode cL_law 1685 = .ok (.aload 4, 2) := dk_25 4 (dk_at dksL_law_61 18 rfl rfl)
theorem dL_law_1687 : decode cL_law 1687 = .ok (.iconst 0, 1) := dk_3 (dk_at dksL_law_61 20 rfl rfl)
theorem dL_law_1688 : decode cL_law 1688 = .ok (.daload, 1) := dk_49 (dk_at dksL_law_61 21 rfl rfl)
theorem dL_law_1689 : decode cL_law 1689 = .ok (.dload 7, 2) := dk_24 7 (dk_at dksL_law_61 22 rfl rfl)
theorem dL_law_1691 : decode cL_law 1691 = .ok (.dcmp .l, 1) := dk_151 (dk_at dksL_law_62 0 rfl rfl)
theorem dL_law_1692 : decode cL_law 1692 = .ok (.ifCond .eq 25, 3) := dk_153 0 25 (dk_at dksL_law_62 1 rfl rfl)
theorem dL_law_1695 : decode cL_law 1695 = .ok (.aload 4, 2) := dk_25 4 (dk_at dksL_law_62 4 rfl rfl)
theorem dL_law_1697 : decode cL_law 1697 = .ok (.iconst 0, 1) := dk_3 (dk_at dksL_law_62 6 rfl rfl)
theorem dL_law_1698 : decode cL_law 1698 = .ok (.daload, 1) := dk_49 (dk_at dksL_law_62 7 rfl rfl)
theorem dL_law_1699 : decode cL_law 1699 = .ok (.aload 4, 2) := dk_25 4 (dk_at dksL_law_62 8 rfl rfl)
theorem dL_law_1701 : decode cL_law 1701 = .ok (.iconst 0, 1) := dk_3 (dk_at dksL_law_62 10 rfl rfl)
theorem dL_law_1702 : decode cL_law 1702 = .ok (.daload, 1) := dk_49 (dk_at dksL_law_62 11 rfl rfl)
theorem dL_law_1703 : decode cL_law 1703 = .ok (.dcmp .l, 1) := dk_151 (dk_at dksL_law_62 12 rfl rfl)
theorem dL_law_1704 : decode cL_law 1704 = .ok (.ifCond .eq 11, 3) := dk_153 0 11 (dk_at dksL_law_62 13 rfl rfl)
theorem dL_law_1707 : decode cL_law 1707 = .ok (.dload 7, 2) := dk_24 7 (dk_at dksL_law_62 16 rfl rfl)
theorem dL_law_1709 : decode cL_law 1709 = .ok (.dload 7, 2) := dk_24 7 (dk_at dksL_law_62 18 rfl rfl)
theorem dL_law_1711 : decode cL_law 1711 = .ok (.dcmp .l, 1) := dk_151 (dk_at dksL_law_62 20 rfl rfl)
theorem dL_law_1712 : decode cL_law 1712 = .ok (.ifCond .ne 5, 3) := dk_154 0 5 (dk_at dksL_law_62 21 rfl rfl)
theorem dL_law_1715 : decode cL_law 1715 = .ok (.iconst 0, 1) := dk_3 (dk_at dksL_law_63 0 rfl rfl)
theorem dL_law_1716 : decode cL_law 1716 = .ok (.ireturn, 1) := dk_172 (dk_at dksL_law_63 1 rfl rfl)
theorem dL_law_1717 : decode cL_law 1717 = .ok (.goto 2503, 3) := dk_167 9 199 (dk_at dksL_law_63 2 rfl rfl)
theorem dL_law_1720 : decode cL_law 1720 = .ok (.aload_n 1, 1) := dk_43 (dk_at dksL_law_63 5 rfl rfl)
theorem dL_law_1721 : decode cL_law 1721 = .ok (.aload_n 0, 1) := dk_42 (dk_at dksL_law_63 6 rfl rfl)
theorem dL_law_1722 : decode cL_law 1722 = .ok (.iload 5, 2) := dk_21 5 (dk_at dksL_law_63 7 rfl rfl)
theorem dL_law_1724 : decode cL_law 1724 = .ok (.iconst 1, 1) := dk_4 (dk_at dksL_law_63 9 rfl rfl)
theorem dL_law_1725 : decode cL_law 1725 = .ok (.iadd, 1) := dk_96 (dk_at dksL_law_63 10 rfl rfl)
theorem dL_law_1726 : decode cL_law 1726 = .ok (.iaload, 1) := dk_46 (dk_at dksL_law_63 11 rfl rfl)
theorem dL_law_1727 : decode cL_law 1727 = .ok (.aload_n 3, 1) := dk_45 (dk_at dksL_law_63 12 rfl rfl)
theorem dL_law_1728 : decode cL_law 1728 = .ok (.invokestatic 300, 3) := dk_184 1 44 (dk_at dksL_law_63 13 rfl rfl)
theorem dL_law_1731 : decode cL_law 1731 = .ok (.istore 6, 2) := dk_54 6 (dk_at dksL_law_63 16 rfl rfl)
theorem dL_law_1733 : decode cL_law 1733 = .ok (.aload_n 2, 1) := dk_44 (dk_at dksL_law_63 18 rfl rfl)
theorem dL_law_1734 : decode cL_law 1734 = .ok (.aload_n 0, 1) := dk_42 (dk_at dksL_law_63 19 rfl rfl)
theorem dL_law_1735 : decode cL_law 1735 = .ok (.iload 5, 2) := dk_21 5 (dk_at dksL_law_63 20 rfl rfl)
theorem dL_law_1737 : decode cL_law 1737 = .ok (.iconst 1, 1) := dk_4 (dk_at dksL_law_63 22 rfl rfl)
theorem dL_law_1738 : decode cL_law 1738 = .ok (.iadd, 1) := dk_96 (dk_at dksL_law_63 23 rfl rfl)
theorem dL_law_1739 : decode cL_law 1739 = .ok (.iaload, 1) := dk_46 (dk_at dksL_law_64 0 rfl rfl)
theorem dL_law_1740 : decode cL_law 1740 = .ok (.invokevirtual 302, 3) := dk_182 1 46 (dk_at dksL_law_64 1 rfl rfl)
theorem dL_law_1743 : decode cL_law 1743 = .ok (.lstore 7, 2) := dk_55 7 (dk_at dksL_law_64 4 rfl rfl)
theorem dL_law_1745 : decode cL_law 1745 = .ok (.aload_n 2, 1) := dk_44 (dk_at dksL_law_64 6 rfl rfl)
theorem dL_law_1746 : decode cL_law 1746 = .ok (.invokevirtual 223, 3) := dk_182 0 223 (dk_at dksL_law_64 7 rfl rfl)
theorem dL_law_1749 : decode cL_law 1749 = .ok (.iload 6, 2) := dk_21 6 (dk_at dksL_law_64 10 rfl rfl)
theorem dL_law_1751 : decode cL_law 1751 = .ok (.if_icmp .eq 5, 3) := dk_159 0 5 (dk_at dksL_law_64 12 rfl rfl)
theorem dL_law_1754 : decode cL_law 1754 = .ok (.iconst 0, 1) := dk_3 (dk_at dksL_law_64 15 rfl rfl)
theorem dL_law_1755 : decode cL_law 1755 = .ok (.ireturn, 1) := dk_172 (dk_at dksL_law_64 16 rfl rfl)
theorem dL_law_1756 : decode cL_law 1756 = .ok (.iload 6, 2) := dk_21 6 (dk_at dksL_law_64 17 rfl rfl)
theorem dL_law_1758 : decode cL_law 1758 = .ok (.ifCond .ne 14, 3) := dk_154 0 14 (dk_at dksL_law_64 19 rfl rfl)
theorem dL_law_1761 : decode cL_law 1761 = .ok (.aload_n 3, 1) := dk_45 (dk_at dksL_law_64 22 rfl rfl)
theorem dL_law_1762 : decode cL_law 1762 = .ok (.iconst 0, 1) := dk_3 (dk_at dksL_law_64 23 rfl rfl)
theorem dL_law_1763 : decode cL_law 1763 = .ok (.laload, 1) := dk_47 (dk_at dksL_law_65 0 rfl rfl)
theorem dL_law_1764 : decode cL_law 1764 = .ok (.lload 7, 2) := dk_22 7 (dk_at dksL_law_65 1 rfl rfl)
theorem dL_law_1766 : decode cL_law 1766 = .ok (.lcmp, 1) := dk_148 (dk_at dksL_law_65 3 rfl rfl)
theorem dL_law_1767 : decode cL_law 1767 = .ok (.ifCond .eq 5, 3) := dk_153 0 5 (dk_at dksL_law_65 4 rfl rfl)
theorem dL_law_1770 : decode cL_law 1770 = .ok (.iconst 0, 1) := dk_3 (dk_at dksL_law_65 7 rfl rfl)
theorem dL_law_1771 : decode cL_law 1771 = .ok (.ireturn, 1) := dk_172 (dk_at dksL_law_65 8 rfl rfl)
theorem dL_law_1772 : decode cL_law 1772 = .ok (.goto 2448, 3) := dk_167 9 144 (dk_at dksL_law_65 9 rfl rfl)
theorem dL_law_1775 : decode cL_law 1775 = .ok (.aload_n 1, 1) := dk_43 (dk_at dksL_law_65 12 rfl rfl)
theorem dL_law_1776 : decode cL_law 1776 = .ok (.aload_n 0, 1) := dk_42 (dk_at dksL_law_65 13 rfl rfl)
theorem dL_law_1777 : decode cL_law 1777 = .ok (.iload 5, 2) := dk_21 5 (dk_at dksL_law_65 14 rfl rfl)
theorem dL_law_1779 : decode cL_law 1779 = .ok (.iconst 1, 1) := dk_4 (dk_at dksL_law_65 16 rfl rfl)
theorem dL_law_1780 : decode cL_law 1780 = .ok (.iadd, 1) := dk_96 (dk_at dksL_law_65 17 rfl rfl)
theorem dL_law_1781 : decode cL_law 1781 = .ok (.iaload, 1) := dk_46 (dk_at dksL_law_65 18 rfl rfl)
theorem dL_law_1782 : decode cL_law 1782 = .ok (.aload_n 0, 1) := dk_42 (dk_at dksL_law_65 19 rfl rfl)
theorem dL_law_1783 : decode cL_law 1783 = .ok (.iload 5, 2) := dk_21 5 (dk_at dksL_law_65 20 rfl rfl)
theorem dL_law_1785 : decode cL_law 1785 = .ok (.iconst 2, 1) := dk_5 (dk_at dksL_law_65 22 rfl rfl)
theorem dL_law_1786 : decode cL_law 1786 = .ok (.iadd, 1) := dk_96 (dk_at dksL_law_65 23 rfl rfl)
theorem dL_law_1787 : decode cL_law 1787 = .ok (.iaload, 1) := dk_46 (dk_at dksL_law_66 0 rfl rfl)
theorem dL_law_1788 : decode cL_law 1788 = .ok (.aload_n 0, 1) := dk_42 (dk_at dksL_law_66 1 rfl rfl)
theorem dL_law_1789 : decode cL_law 1789 = .ok (.iload 5, 2) := dk_21 5 (dk_at dksL_law_66 2 rfl rfl)
theorem dL_law_1791 : decode cL_law 1791 = .ok (.iconst 3, 1) := dk_6 (dk_at dksL_law_66 4 rfl rfl)
theorem dL_law_1792 : decode cL_law 1792 = .ok (.iadd, 1) := dk_96 (dk_at dksL_law_66 5 rfl rfl)
theorem dL_law_1793 : decode cL_law 1793 = .ok (.iaload, 1) := dk_46 (dk_at dksL_law_66 6 rfl rfl)
theorem dL_law_1794 : decode cL_law 1794 = .ok (.aload 4, 2) := dk_25 4 (dk_at dksL_law_66 7 rfl rfl)
theorem dL_law_1796 : decode cL_law 1796 = .ok (.invokestatic 303, 3) := dk_184 1 47 (dk_at dksL_law_66 9 rfl rfl)
theorem dL_law_1799 : decode cL_law 1799 = .ok (.istore 6, 2) := dk_54 6 (dk_at dksL_law_66 12 rfl rfl)
theorem dL_law_1801 : decode cL_law 1801 = .ok (.aload_n 2, 1) := dk_44 (dk_at dksL_law_66 14 rfl rfl)
theorem dL_law_1802 : decode cL_law 1802 = .ok (.aload_n 0, 1) := dk_42 (dk_at dksL_law_66 15 rfl rfl)
theorem dL_law_1803 : decode cL_law 1803 = .ok (.iload 5, 2) := dk_21 5 (dk_at dksL_law_66 16 rfl rfl)
theorem dL_law_1805 : decode cL_law 1805 = .ok (.iconst 1, 1) := dk_4 (dk_at dksL_law_66 18 rfl rfl)
theorem dL_law_1806 : decode cL_law 1806 = .ok (.iadd, 1) := dk_96 (dk_at dksL_law_66 19 rfl rfl)
theorem dL_law_1807 : decode cL_law 1807 = .ok (.iaload, 1) := dk_46 (dk_at dksL_law_66 20 rfl rfl)
theorem dL_law_1808 : decode cL_law 1808 = .ok (.aload_n 0, 1) := dk_42 (dk_at dksL_law_66 21 rfl rfl)
theorem dL_law_1809 : decode cL_law 1809 = .ok (.iload 5, 2) := dk_21 5 (dk_at dksL_law_66 22 rfl rfl)
theorem dL_law_1811 : decode cL_law 1811 = .ok (.iconst 2, 1) := dk_5 (dk_at dksL_law_67 0 rfl rfl)
theorem dL_law_1812 : decode cL_law 1812 = .ok (.iadd, 1) := dk_96 (dk_at dksL_law_67 1 rfl rfl)
theorem dL_law_1813 : decode cL_law 1813 = .ok (.iaload, 1) := dk_46 (dk_at dksL_law_67 2 rfl rfl)
theorem dL_law_1814 : decode cL_law 1814 = .ok (.aload_n 0, 1) := dk_42 (dk_at dksL_law_67 3 rfl rfl)
theorem dL_law_1815 : decode cL_law 1815 = .ok (.iload 5, 2) := dk_21 5 (dk_at dksL_law_67 4 rfl rfl)
theorem dL_law_1817 : decode cL_law 1817 = .ok (.iconst 3, 1) := dk_6 (dk_at dksL_law_67 6 rfl rfl)
theorem dL_law_1818 : decode cL_law 1818 = .ok (.iadd, 1) := dk_96 (dk_at dksL_law_67 7 rfl rfl)
theorem dL_law_1819 : decode cL_law 1819 = .ok (.iaload, 1) := dk_46 (dk_at dksL_law_67 8 rfl rfl)
theorem dL_law_1820 : decode cL_law 1820 = .ok (.invokevirtual 306, 3) := dk_182 1 50 (dk_at dksL_law_67 9 rfl rfl)
theorem dL_law_1823 : decode cL_law 1823 = .ok (.dstore 7, 2) := dk_57 7 (dk_at dksL_law_67 12 rfl rfl)
theorem dL_law_1825 : decode cL_law 1825 = .ok (.aload_n 2, 1) := dk_44 (dk_at dksL_law_67 14 rfl rfl)
theorem dL_law_1826 : decode cL_law 1826 = .ok (.invokevirtual 223, 3) := dk_182 0 223 (dk_at dksL_law_67 15 rfl rfl)
theorem dL_law_1829 : decode cL_law 1829 = .ok (.iload 6, 2) := dk_21 6 (dk_at dksL_law_67 18 rfl rfl)
theorem dL_law_1831 : decode cL_law 1831 = .ok (.if_icmp .eq 5, 3) := dk_159 0 5 (dk_at dksL_law_67 20 rfl rfl)
theorem dL_law_1834 : decode cL_law 1834 = .ok (.iconst 0, 1) := dk_3 (dk_at dksL_law_67 23 rfl rfl)
theorem dL_law_1835 : decode cL_law 1835 = .ok (.ireturn, 1) := dk_172 (dk_at dksL_law_68 0 rfl rfl)
theorem dL_law_1836 : decode cL_law 1836 = .ok (.iload 6, 2) := dk_21 6 (dk_at dksL_law_68 1 rfl rfl)
theorem dL_law_1838 : decode cL_law 1838 = .ok (.ifCond .ne 35, 3) := dk_154 0 35 (dk_at dksL_law_68 3 rfl rfl)
theorem dL_law_1841 : decode cL_law 1841 = .ok (.aload 4, 2) := dk_25 4 (dk_at dksL_law_68 6 rfl rfl)
theorem dL_law_1843 : decode cL_law 1843 = .ok (.iconst 0, 1) := dk_3 (dk_at dksL_law_68 8 rfl rfl)
theorem dL_law_1844 : decode cL_law 1844 = .ok (.daload, 1) := dk_49 (dk_at dksL_law_68 9 rfl rfl)
theorem dL_law_1845 : decode cL_law 1845 = .ok (.dload 7, 2) := dk_24 7 (dk_at dksL_law_68 10 rfl rfl)
theorem dL_law_1847 : decode cL_law 1847 = .ok (.dcmp .l, 1) := dk_151 (dk_at dksL_law_68 12 rfl rfl)
theorem dL_law_1848 : decode cL_law 1848 = .ok (.ifCond .eq 25, 3) := dk_153 0 25 (dk_at dksL_law_68 13 rfl rfl)
theorem dL_law_1851 : decode cL_law 1851 = .ok (.aload 4, 2) := dk_25 4 (dk_at dksL_law_68 16 rfl rfl)
theorem dL_law_1853 : decode cL_law 1853 = .ok (.iconst 0, 1) := dk_3 (dk_at dksL_law_68 18 rfl rfl)
theorem dL_law_1854 : decode cL_law 1854 = .ok (.daload, 1) := dk_49 (dk_at dksL_law_68 19 rfl rfl)
theorem dL_law_1855 : decode cL_law 1855 = .ok (.aload 4, 2) := dk_25 4 (dk_at dksL_law_68 20 rfl rfl)
theorem dL_law_1857 : decode cL_law 1857 = .ok (.iconst 0, 1) := dk_3 (dk_at dksL_law_68 22 rfl rfl)
theorem dL_law_1858 : decode cL_law 1858 = .ok (.daload, 1) := dk_49 (dk_at dksL_law_68 23 rfl rfl)
theorem dL_law_1859 : decode cL_law 1859 = .ok (.dcmp .l, 1) := dk_151 (dk_at dksL_law_69 0 rfl rfl)
theorem dL_law_1860 : decode cL_law 1860 = .ok (.ifCond .eq 11, 3) := dk_153 0 11 (dk_at dksL_law_69 1 rfl rfl)
theorem dL_law_1863 : decode cL_law 1863 = .ok (.dload 7, 2) := dk_24 7 (dk_at dksL_law_69 4 rfl rfl)
theorem dL_law_1865 : decode cL_law 1865 = .ok (.dload 7, 2) := dk_24 7 (dk_at dksL_law_69 6 rfl rfl)
theorem dL_law_1867 : decode cL_law 1867 = .ok (.dcmp .l, 1) := dk_151 (dk_at dksL_law_69 8 rfl rfl)
theorem dL_law_1868 : decode cL_law 1868 = .ok (.ifCond .ne 5, 3) := dk_154 0 5 (dk_at dksL_law_69 9 rfl rfl)
theorem dL_law_1871 : decode cL_law 1871 = .ok (.iconst 0, 1) := dk_3 (dk_at dksL_law_69 12 rfl rfl)
theorem dL_law_1872 : decode cL_law 1872 = .ok (.ireturn, 1) := dk_172 (dk_at dksL_law_69 13 rfl rfl)
theorem dL_law_1873 : decode cL_law 1873 = .ok (.goto 2347, 3) := dk_167 9 43 (dk_at dksL_law_69 14 rfl rfl)
theorem dL_law_1876 : decode cL_law 1876 = .ok (.aload_n 1, 1) := dk_43 (dk_at dksL_law_69 17 rfl rfl)
theorem dL_law_1877 : decode cL_law 1877 = .ok (.aload_n 0, 1) := dk_42 (dk_at dksL_law_69 18 rfl rfl)
theorem dL_law_1878 : decode cL_law 1878 = .ok (.iload 5, 2) := dk_21 5 (dk_at dksL_law_69 19 rfl rfl)
theorem dL_law_1880 : decode cL_law 1880 = .ok (.iconst 1, 1) := dk_4 (dk_at dksL_law_69 21 rfl rfl)
theorem dL_law_1881 : decode cL_law 1881 = .ok (.iadd, 1) := dk_96 (dk_at dksL_law_69 22 rfl rfl)
theorem dL_law_1882 : decode cL_law 1882 = .ok (.iaload, 1) := dk_46 (dk_at dksL_law_69 23 rfl rfl)
theorem dL_law_1883 : decode cL_law 1883 = .ok (.aload 4, 2) := dk_25 4 (dk_at dksL_law_70 0 rfl rfl)
theorem dL_law_1885 : decode cL_law 1885 = .ok (.invokestatic 307, 3) := dk_184 1 51 (dk_at dksL_law_70 2 rfl rfl)
theorem dL_law_1888 : decode cL_law 1888 = .ok (.istore 6, 2) := dk_54 6 (dk_at dksL_law_70 5 rfl rfl)
theorem dL_law_1890 : decode cL_law 1890 = .ok (.aload_n 2, 1) := dk_44 (dk_at dksL_law_70 7 rfl rfl)
theorem dL_law_1891 : decode cL_law 1891 = .ok (.aload_n 0, 1) := dk_42 (dk_at dksL_law_70 8 rfl rfl)
theorem dL_law_1892 : decode cL_law 1892 = .ok (.iload 5, 2) := dk_21 5 (dk_at dksL_law_70 9 rfl rfl)
theorem dL_law_1894 : decode cL_law 1894 = .ok (.iconst 1, 1) := dk_4 (dk_at dksL_law_70 11 rfl rfl)
theorem dL_law_1895 : decode cL_law 1895 = .ok (.iadd, 1) := dk_96 (dk_at dksL_law_70 12 rfl rfl)
theorem dL_law_1896 : decode cL_law 1896 = .ok (.iaload, 1) := dk_46 (dk_at dksL_law_70 13 rfl rfl)
theorem dL_law_1897 : decode cL_law 1897 = .ok (.invokevirtual 309, 3) := dk_182 1 53 (dk_at dksL_law_70 14 rfl rfl)
theorem dL_law_1900 : decode cL_law 1900 = .ok (.dstore 7, 2) := dk_57 7 (dk_at dksL_law_70 17 rfl rfl)
theorem dL_law_1902 : decode cL_law 1902 = .ok (.aload_n 2, 1) := dk_44 (dk_at dksL_law_70 19 rfl rfl)
theorem dL_law_1903 : decode cL_law 1903 = .ok (.invokevirtual 223, 3) := dk_182 0 223 (dk_at dksL_law_70 20 rfl rfl)
theorem dL_law_1906 : decode cL_law 1906 = .ok (.iload 6, 2) := dk_21 6 (dk_at dksL_law_71 0 rfl rfl)
theorem dL_law_1908 : decode cL_law 1908 = .ok (.if_icmp .eq 5, 3) := dk_159 0 5 (dk_at dksL_law_71 2 rfl rfl)
theorem dL_law_1911 : decode cL_law 1911 = .ok (.iconst 0, 1) := dk_3 (dk_at dksL_law_71 5 rfl rfl)
theorem dL_law_1912 : decode cL_law 1912 = .ok (.ireturn, 1) := dk_172 (dk_at dksL_law_71 6 rfl rfl)
theorem dL_law_1913 : decode cL_law 1913 = .ok (.iload 6, 2) := dk_21 6 (dk_at dksL_law_71 7 rfl rfl)
theorem dL_law_1915 : decode cL_law 1915 = .ok (.ifCond .ne 35, 3) := dk_154 0 35 (dk_at dksL_law_71 9 rfl rfl)
theorem dL_law_1918 : decode cL_law 1918 = .ok (.aload 4, 2) := dk_25 4 (dk_at dksL_law_71 12 rfl rfl)
theorem dL_law_1920 : decode cL_law 1920 = .ok (.iconst 0, 1) := dk_3 (dk_at dksL_law_71 14 rfl rfl)
theorem dL_law_1921 : decode cL_law 1921 = .ok (.daload, 1) := dk_49 (dk_at dksL_law_71 15 rfl rfl)
theorem dL_law_1922 : decode cL_law 1922 = .ok (.dload 7, 2) := dk_24 7 (dk_at dksL_law_71 16 rfl rfl)
theorem dL_law_1924 : decode cL_law 1924 = .ok (.dcmp .l, 1) := dk_151 (dk_at dksL_law_71 18 rfl rfl)
theorem dL_law_1925 : decode cL_law 1925 = .ok (.ifCond .eq 25, 3) := dk_153 0 25 (dk_at dksL_law_71 19 rfl rfl)
theorem dL_law_1928 : decode cL_law 1928 = .ok (.aload 4, 2) := dk_25 4 (dk_at dksL_law_71 22 rfl rfl)
theorem dL_law_1930 : decode cL_law 1930 = .ok (.iconst 0, 1) := dk_3 (dk_at dksL_law_72 0 rfl rfl)
theorem dL_law_1931 : decode cL_law 1931 = .ok (.daload, 1) := dk_49 (dk_at dksL_law_72 1 rfl rfl)
theorem dL_law_1932 : decode cL_law 1932 = .ok (.aload 4, 2) := dk_25 4 (dk_at dksL_law_72 2 rfl rfl)
theorem dL_law_1934 : decode cL_law 1934 = .ok (.iconst 0, 1) := dk_3 (dk_at dksL_law_72 4 rfl rfl)
theorem dL_law_1935 : decode cL_law 1935 = .ok (.daload, 1) := dk_49 (dk_at dksL_law_72 5 rfl rfl)
theorem dL_law_1936 : decode cL_law 1936 = .ok (.dcmp .l, 1) := dk_151 (dk_at dksL_law_72 6 rfl rfl)
theorem dL_law_1937 : decode cL_law 1937 = .ok (.ifCond .eq 11, 3) := dk_153 0 11 (dk_at dksL_law_72 7 rfl rfl)
theorem dL_law_1940 : decode cL_law 1940 = .ok (.dload 7, 2) := dk_24 7 (dk_at dksL_law_72 10 rfl rfl)
theorem dL_law_1942 : decode cL_law 1942 = .ok (.dload 7, 2) := dk_24 7 (dk_at dksL_law_72 12 rfl rfl)
theorem dL_law_1944 : decode cL_law 1944 = .ok (.dcmp .l, 1) := dk_151 (dk_at dksL_law_72 14 rfl rfl)
theorem dL_law_1945 : decode cL_law 1945 = .ok (.ifCond .ne 5, 3) := dk_154 0 5 (dk_at dksL_law_72 15 rfl rfl)
theorem dL_law_1948 : decode cL_law 1948 = .ok (.iconst 0, 1) := dk_3 (dk_at dksL_law_72 18 rfl rfl)
theorem dL_law_1949 : decode cL_law 1949 = .ok (.ireturn, 1) := dk_172 (dk_at dksL_law_72 19 rfl rfl)
theorem dL_law_1950 : decode cL_law 1950 = .ok (.goto 2270, 3) := dk_167 8 222 (dk_at dksL_law_72 20 rfl rfl)
theorem dL_law_1953 : decode cL_law 1953 = .ok (.aload_n 1, 1) := dk_43 (dk_at dksL_law_72 23 rfl rfl)
theorem dL_law_1954 : decode cL_law 1954 = .ok (.aload_n 0, 1) := dk_42 (dk_at dksL_law_73 0 rfl rfl)
theorem dL_law_1955 : decode cL_law 1955 = .ok (.iload 5, 2) := dk_21 5 (dk_at dksL_law_73 1 rfl rfl)
theorem dL_law_1957 : decode cL_law 1957 = .ok (.iconst 1, 1) := dk_4 (dk_at dksL_law_73 3 rfl rfl)
theorem dL_law_1958 : decode cL_law 1958 = .ok (.iadd, 1) := dk_96 (dk_at dksL_law_73 4 rfl rfl)
theorem dL_law_1959 : decode cL_law 1959 = .ok (.iaload, 1) := dk_46 (dk_at dksL_law_73 5 rfl rfl)
theorem dL_law_1960 : decode cL_law 1960 = .ok (.aload 4, 2) := dk_25 4 (dk_at dksL_law_73 6 rfl rfl)
theorem dL_law_1962 : decode cL_law 1962 = .ok (.invokestatic 310, 3) := dk_184 1 54 (dk_at dksL_law_73 8 rfl rfl)
theorem dL_law_1965 : decode cL_law 1965 = .ok (.istore 6, 2) := dk_54 6 (dk_at dksL_law_73 11 rfl rfl)
theorem dL_law_1967 : decode cL_law 1967 = .ok (.aload_n 2, 1) := dk_44 (dk_at dksL_law_73 13 rfl rfl)
theorem dL_law_1968 : decode cL_law 1968 = .ok (.aload_n 0, 1) := dk_42 (dk_at dksL_law_73 14 rfl rfl)
theorem dL_law_1969 : decode cL_law 1969 = .ok (.iload 5, 2) := dk_21 5 (dk_at dksL_law_73 15 rfl rfl)
theorem dL_law_1971 : decode cL_law 1971 = .ok (.iconst 1, 1) := dk_4 (dk_at dksL_law_73 17 rfl rfl)
theorem dL_law_1972 : decode cL_law 1972 = .ok (.iadd, 1) := dk_96 (dk_at dksL_law_73 18 rfl rfl)
theorem dL_law_1973 : decode cL_law 1973 = .ok (.iaload, 1) := dk_46 (dk_at dksL_law_73 19 rfl rfl)
theorem dL_law_1974 : decode cL_law 1974 = .ok (.invokevirtual 312, 3) := dk_182 1 56 (dk_at dksL_law_73 20 rfl rfl)
theorem dL_law_1977 : decode cL_law 1977 = .ok (.dstore 7, 2) := dk_57 7 (dk_at dksL_law_74 0 rfl rfl)
theorem dL_law_1979 : decode cL_law 1979 = .ok (.aload_n 2, 1) := dk_44 (dk_at dksL_law_74 2 rfl rfl)
theorem dL_law_1980 : decode cL_law 1980 = .ok (.invokevirtual 223, 3) := dk_182 0 223 (dk_at dksL_law_74 3 rfl rfl)
theorem dL_law_1983 : decode cL_law 1983 = .ok (.iload 6, 2) := dk_21 6 (dk_at dksL_law_74 6 rfl rfl)
theorem dL_law_1985 : decode cL_law 1985 = .ok (.if_icmp .eq 5, 3) := dk_159 0 5 (dk_at dksL_law_74 8 rfl rfl)
theorem dL_law_1988 : decode cL_law 1988 = .ok (.iconst 0, 1) := dk_3 (dk_at dksL_law_74 11 rfl rfl)
theorem dL_law_1989 : decode cL_law 1989 = .ok (.ireturn, 1) := dk_172 (dk_at dksL_law_74 12 rfl rfl)
theorem dL_law_1990 : decode cL_law 1990 = .ok (.iload 6, 2) := dk_21 6 (dk_at dksL_law_74 13 rfl rfl)
theorem dL_law_1992 : decode cL_law 1992 = .ok (.ifCond .ne 35, 3) := dk_154 0 35 (dk_at dksL_law_74 15 rfl rfl)
theorem dL_law_1995 : decode cL_law 1995 = .ok (.aload 4, 2) := dk_25 4 (dk_at dksL_law_74 18 rfl rfl)
theorem dL_law_1997 : decode cL_law 1997 = .ok (.iconst 0, 1) := dk_3 (dk_at dksL_law_74 20 rfl rfl)
theorem dL_law_1998 : decode cL_law 1998 = .ok (.daload, 1) := dk_49 (dk_at dksL_law_74 21 rfl rfl)
theorem dL_law_1999 : decode cL_law 1999 = .ok (.dload 7, 2) := dk_24 7 (dk_at dksL_law_74 22 rfl rfl)
theorem dL_law_2001 : decode cL_law 2001 = .ok (.dcmp .l, 1) := dk_151 (dk_at dksL_law_75 0 rfl rfl)
theorem dL_law_2002 : decode cL_law 2002 = .ok (.ifCond .eq 25, 3) := dk_153 0 25 (dk_at dksL_law_75 1 rfl rfl)
theorem dL_law_2005 : decode cL_law 2005 = .ok (.aload 4, 2) := dk_25 4 (dk_at dksL_law_75 4 rfl rfl)
theorem dL_law_2007 : decode cL_law 2007 = .ok (.iconst 0, 1) := dk_3 (dk_at dksL_law_75 6 rfl rfl)
theorem dL_law_2008 : decode cL_law 2008 = .ok (.daload, 1) := dk_49 (dk_at dksL_law_75 7 rfl rfl)
theorem dL_law_2009 : decode cL_law 2009 = .ok (.aload 4, 2) := dk_25 4 (dk_at dksL_law_75 8 rfl rfl)
theorem dL_law_2011 : decode cL_law 2011 = .ok (.iconst 0, 1) := dk_3 (dk_at dksL_law_75 10 rfl rfl)
theorem dL_law_2012 : decode cL_law 2012 = .ok (.daload, 1) := dk_49 (dk_at dksL_law_75 11 rfl rfl)
theorem dL_law_2013 : decode cL_law 2013 = .ok (.dcmp .l, 1) := dk_151 (dk_at dksL_law_75 12 rfl rfl)
theorem dL_law_2014 : decode cL_law 2014 = .ok (.ifCond .eq 11, 3) := dk_153 0 11 (dk_at dksL_law_75 13 rfl rfl)
theorem dL_law_2017 : decode cL_law 2017 = .ok (.dload 7, 2) := dk_24 7 (dk_at dksL_law_75 16 rfl rfl)
theorem dL_law_2019 : decode cL_law 2019 = .ok (.dload 7, 2) := dk_24 7 (dk_at dksL_law_75 18 rfl rfl)
theorem dL_law_2021 : decode cL_law 2021 = .ok (.dcmp .l, 1) := dk_151 (dk_at dksL_law_75 20 rfl rfl)
theorem dL_law_2022 : decode cL_law 2022 = .ok (.ifCond .ne 5, 3) := dk_154 0 5 (dk_at dksL_law_75 21 rfl rfl)
theorem dL_law_2025 : decode cL_law 2025 = .ok (.iconst 0, 1) := dk_3 (dk_at dksL_law_76 0 rfl rfl)
theorem dL_law_2026 : decode cL_law 2026 = .ok (.ireturn, 1) := dk_172 (dk_at dksL_law_76 1 rfl rfl)
theorem dL_law_2027 : decode cL_law 2027 = .ok (.goto 2193, 3) := dk_167 8 145 (dk_at dksL_law_76 2 rfl rfl)
theorem dL_law_2030 : decode cL_law 2030 = .ok (.aload_n 1, 1) := dk_43 (dk_at dksL_law_76 5 rfl rfl)
theorem dL_law_2031 : decode cL_law 2031 = .ok (.aload_n 0, 1) := dk_42 (dk_at dksL_law_76 6 rfl rfl)
theorem dL_law_2032 : decode cL_law 2032 = .ok (.iload 5, 2) := dk_21 5 (dk_at dksL_law_76 7 rfl rfl)
theorem dL_law_2034 : decode cL_law 2034 = .ok (.iconst 1, 1) := dk_4 (dk_at dksL_law_76 9 rfl rfl)
theorem dL_law_2035 : decode cL_law 2035 = .ok (.iadd, 1) := dk_96 (dk_at dksL_law_76 10 rfl rfl)
theorem dL_law_2036 : decode cL_law 2036 = .ok (.iaload, 1) := dk_46 (dk_at dksL_law_76 11 rfl rfl)
theorem dL_law_2037 : decode cL_law 2037 = .ok (.aload_n 3, 1) := dk_45 (dk_at dksL_law_76 12 rfl rfl)
theorem dL_law_2038 : decode cL_law 2038 = .ok (.invokestatic 313, 3) := dk_184 1 57 (dk_at dksL_law_76 13 rfl rfl)
theorem dL_law_2041 : decode cL_law 2041 = .ok (.istore 6, 2) := dk_54 6 (dk_at dksL_law_76 16 rfl rfl)
theorem dL_law_2043 : decode cL_law 2043 = .ok (.aload_n 2, 1) := dk_44 (dk_at dksL_law_76 18 rfl rfl)
theorem dL_law_2044 : decode cL_law 2044 = .ok (.aload_n 0, 1) := dk_42 (dk_at dksL_law_76 19 rfl rfl)
theorem dL_law_2045 : decode cL_law 2045 = .ok (.iload 5, 2) := dk_21 5 (dk_at dksL_law_76 20 rfl rfl)
theorem dL_law_2047 : decode cL_law 2047 = .ok (.iconst 1, 1) := dk_4 (dk_at dksL_law_76 22 rfl rfl)
theorem dL_law_2048 : decode cL_law 2048 = .ok (.iadd, 1) := dk_96 (dk_at dksL_law_76 23 rfl rfl)
theorem dL_law_2049 : decode cL_law 2049 = .ok (.iaload, 1) := dk_46 (dk_at dksL_law_77 0 rfl rfl)
theorem dL_law_2050 : decode cL_law 2050 = .ok (.invokevirtual 315, 3) := dk_182 1 59 (dk_at dksL_law_77 1 rfl rfl)
theorem dL_law_2053 : decode cL_law 2053 = .ok (.istore 7, 2) := dk_54 7 (dk_at dksL_law_77 4 rfl rfl)
theorem dL_law_2055 : decode cL_law 2055 = .ok (.aload_n 2, 1) := dk_44 (dk_at dksL_law_77 6 rfl rfl)
theorem dL_law_2056 : decode cL_law 2056 = .ok (.invokevirtual 223, 3) := dk_182 0 223 (dk_at dksL_law_77 7 rfl rfl)
theorem dL_law_2059 : decode cL_law 2059 = .ok (.iload 6, 2) := dk_21 6 (dk_at dksL_law_77 10 rfl rfl)
theorem dL_law_2061 : decode cL_law 2061 = .ok (.if_icmp .eq 5, 3) := dk_159 0 5 (dk_at dksL_law_77 12 rfl rfl)
theorem dL_law_2064 : decode cL_law 2064 = .ok (.iconst 0, 1) := dk_3 (dk_at dksL_law_77 15 rfl rfl)
theorem dL_law_2065 : decode cL_law 2065 = .ok (.ireturn, 1) := dk_172 (dk_at dksL_law_77 16 rfl rfl)
theorem dL_law_2066 : decode cL_law 2066 = .ok (.iload 6, 2) := dk_21 6 (dk_at dksL_law_77 17 rfl rfl)
theorem dL_law_2068 : decode cL_law 2068 = .ok (.ifCond .ne 22, 3) := dk_154 0 22 (dk_at dksL_law_77 19 rfl rfl)
theorem dL_law_2071 : decode cL_law 2071 = .ok (.aload_n 3, 1) := dk_45 (dk_at dksL_law_77 22 rfl rfl)
theorem dL_law_2072 : decode cL_law 2072 = .ok (.iconst 0, 1) := dk_3 (dk_at dksL_law_77 23 rfl rfl)
theorem dL_law_2073 : decode cL_law 2073 = .ok (.laload, 1) := dk_47 (dk_at dksL_law_78 0 rfl rfl)
theorem dL_law_2074 : decode cL_law 2074 = .ok (.iload 7, 2) := dk_21 7 (dk_at dksL_law_78 1 rfl rfl)
theorem dL_law_2076 : decode cL_law 2076 = .ok (.ifCond .eq 7, 3) := dk_153 0 7 (dk_at dksL_law_78 3 rfl rfl)
theorem dL_law_2079 : decode cL_law 2079 = .ok (.lconst 1, 1) := dk_10 (dk_at dksL_law_78 6 rfl rfl)
theorem dL_law_2080 : decode cL_law 2080 = .ok (.goto 4, 3) := dk_167 0 4 (dk_at dksL_law_78 7 rfl rfl)
theorem dL_law_2083 : decode cL_law 2083 = .ok (.lconst 0, 1) := dk_9 (dk_at dksL_law_78 10 rfl rfl)
theorem dL_law_2084 : decode cL_law 2084 = .ok (.lcmp, 1) := dk_148 (dk_at dksL_law_78 11 rfl rfl)
theorem dL_law_2085 : decode cL_law 2085 = .ok (.ifCond .eq 5, 3) := dk_153 0 5 (dk_at dksL_law_78 12 rfl rfl)
theorem dL_law_2088 : decode cL_law 2088 = .ok (.iconst 0, 1) := dk_3 (dk_at dksL_law_78 15 rfl rfl)
theorem dL_law_2089 : decode cL_law 2089 = .ok (.ireturn, 1) := dk_172 (dk_at dksL_law_78 16 rfl rfl)
theorem dL_law_2090 : decode cL_law 2090 = .ok (.goto 2130, 3) := dk_167 8 82 (dk_at dksL_law_78 17 rfl rfl)
theorem dL_law_2093 : decode cL_law 2093 = .ok (.aload_n 1, 1) := dk_43 (dk_at dksL_law_78 20 rfl rfl)
theorem dL_law_2094 : decode cL_law 2094 = .ok (.aload_n 3, 1) := dk_45 (dk_at dksL_law_78 21 rfl rfl)
theorem dL_law_2095 : decode cL_law 2095 = .ok (.invokestatic 316, 3) := dk_184 1 60 (dk_at dksL_law_79 0 rfl rfl)
theorem dL_law_2098 : decode cL_law 2098 = .ok (.istore 6, 2) := dk_54 6 (dk_at dksL_law_79 3 rfl rfl)
theorem dL_law_2100 : decode cL_law 2100 = .ok (.aload_n 2, 1) := dk_44 (dk_at dksL_law_79 5 rfl rfl)
theorem dL_law_2101 : decode cL_law 2101 = .ok (.invokevirtual 318, 3) := dk_182 1 62 (dk_at dksL_law_79 6 rfl rfl)
theorem dL_law_2104 : decode cL_law 2104 = .ok (.istore 7, 2) := dk_54 7 (dk_at dksL_law_79 9 rfl rfl)
theorem dL_law_2106 : decode cL_law 2106 = .ok (.aload_n 2, 1) := dk_44 (dk_at dksL_law_79 11 rfl rfl)
theorem dL_law_2107 : decode cL_law 2107 = .ok (.invokevirtual 223, 3) := dk_182 0 223 (dk_at dksL_law_79 12 rfl rfl)
theorem dL_law_2110 : decode cL_law 2110 = .ok (.iload 6, 2) := dk_21 6 (dk_at dksL_law_79 15 rfl rfl)
theorem dL_law_2112 : decode cL_law 2112 = .ok (.if_icmp .eq 5, 3) := dk_159 0 5 (dk_at dksL_law_79 17 rfl rfl)
theorem dL_law_2115 : decode cL_law 2115 = .ok (.iconst 0, 1) := dk_3 (dk_at dksL_law_79 20 rfl rfl)
theorem dL_law_2116 : decode cL_law 2116 = .ok (.ireturn, 1) := dk_172 (dk_at dksL_law_79 21 rfl rfl)
theorem dL_law_2117 : decode cL_law 2117 = .ok (.iload 6, 2) := dk_21 6 (dk_at dksL_law_79 22 rfl rfl)
theorem dL_law_2119 : decode cL_law 2119 = .ok (.ifCond .ne 15, 3) := dk_154 0 15 (dk_at dksL_law_80 0 rfl rfl)
theorem dL_law_2122 : decode cL_law 2122 = .ok (.aload_n 3, 1) := dk_45 (dk_at dksL_law_80 3 rfl rfl)
theorem dL_law_2123 : decode cL_law 2123 = .ok (.iconst 0, 1) := dk_3 (dk_at dksL_law_80 4 rfl rfl)
theorem dL_law_2124 : decode cL_law 2124 = .ok (.laload, 1) := dk_47 (dk_at dksL_law_80 5 rfl rfl)
theorem dL_law_2125 : decode cL_law 2125 = .ok (.iload 7, 2) := dk_21 7 (dk_at dksL_law_80 6 rfl rfl)
theorem dL_law_2127 : decode cL_law 2127 = .ok (.i2l, 1) := dk_133 (dk_at dksL_law_80 8 rfl rfl)
theorem dL_law_2128 : decode cL_law 2128 = .ok (.lcmp, 1) := dk_148 (dk_at dksL_law_80 9 rfl rfl)
theorem dL_law_2129 : decode cL_law 2129 = .ok (.ifCond .eq 5, 3) := dk_153 0 5 (dk_at dksL_law_80 10 rfl rfl)
theorem dL_law_2132 : decode cL_law 2132 = .ok (.iconst 0, 1) := dk_3 (dk_at dksL_law_80 13 rfl rfl)
theorem dL_law_2133 : decode cL_law 2133 = .ok (.ireturn, 1) := dk_172 (dk_at dksL_law_80 14 rfl rfl)
theorem dL_law_2134 : decode cL_law 2134 = .ok (.goto 2086, 3) := dk_167 8 38 (dk_at dksL_law_80 15 rfl rfl)
theorem dL_law_2137 : decode cL_law 2137 = .ok (.aload_n 1, 1) := dk_43 (dk_at dksL_law_80 18 rfl rfl)
theorem dL_law_2138 : decode cL_law 2138 = .ok (.aload_n 0, 1) := dk_42 (dk_at dksL_law_80 19 rfl rfl)
theorem dL_law_2139 : decode cL_law 2139 = .ok (.iload 5, 2) := dk_21 5 (dk_at dksL_law_80 20 rfl rfl)
theorem dL_law_2141 : decode cL_law 2141 = .ok (.iconst 1, 1) := dk_4 (dk_at dksL_law_80 22 rfl rfl)
theorem dL_law_2142 : decode cL_law 2142 = .ok (.iadd, 1) := dk_96 (dk_at dksL_law_80 23 rfl rfl)
theorem dL_law_2143 : decode cL_law 2143 = .ok (.iaload, 1) := dk_46 (dk_at dksL_law_81 0 rfl rfl)
theorem dL_law_2144 : decode cL_law 2144 = .ok (.aload_n 0, 1) := dk_42 (dk_at dksL_law_81 1 rfl rfl)
theorem dL_law_2145 : decode cL_law 2145 = .ok (.iload 5, 2) := dk_21 5 (dk_at dksL_law_81 2 rfl rfl)
theorem dL_law_2147 : decode cL_law 2147 = .ok (.iconst 2, 1) := dk_5 (dk_at dksL_law_81 4 rfl rfl)
theorem dL_law_2148 : decode cL_law 2148 = .ok (.iadd, 1) := dk_96 (dk_at dksL_law_81 5 rfl rfl)
theorem dL_law_2149 : decode cL_law 2149 = .ok (.iaload, 1) := dk_46 (dk_at dksL_law_81 6 rfl rfl)
theorem dL_law_2150 : decode cL_law 2150 = .ok (.aload_n 0, 1) := dk_42 (dk_at dksL_law_81 7 rfl rfl)
theorem dL_law_2151 : decode cL_law 2151 = .ok (.iload 5, 2) := dk_21 5 (dk_at dksL_law_81 8 rfl rfl)
theorem dL_law_2153 : decode cL_law 2153 = .ok (.iconst 3, 1) := dk_6 (dk_at dksL_law_81 10 rfl rfl)
theorem dL_law_2154 : decode cL_law 2154 = .ok (.iadd, 1) := dk_96 (dk_at dksL_law_81 11 rfl rfl)
theorem dL_law_2155 : decode cL_law 2155 = .ok (.iaload, 1) := dk_46 (dk_at dksL_law_81 12 rfl rfl)
theorem dL_law_2156 : decode cL_law 2156 = .ok (.aload 4, 2) := dk_25 4 (dk_at dksL_law_81 13 rfl rfl)
theorem dL_law_2158 : decode cL_law 2158 = .ok (.invokestatic 319, 3) := dk_184 1 63 (dk_at dksL_law_81 15 rfl rfl)
theorem dL_law_2161 : decode cL_law 2161 = .ok (.istore 6, 2) := dk_54 6 (dk_at dksL_law_81 18 rfl rfl)
theorem dL_law_2163 : decode cL_law 2163 = .ok (.aload_n 2, 1) := dk_44 (dk_at dksL_law_81 20 rfl rfl)
theorem dL_law_2164 : decode cL_law 2164 = .ok (.aload_n 0, 1) := dk_42 (dk_at dksL_law_81 21 rfl rfl)
theorem dL_law_2165 : decode cL_law 2165 = .ok (.iload 5, 2) := dk_21 5 (dk_at dksL_law_81 22 rfl rfl)
theorem dL_law_2167 : decode cL_law 2167 = .ok (.iconst 1, 1) := dk_4 (dk_at dksL_law_82 0 rfl rfl)
theorem dL_law_2168 : decode cL_law 2168 = .ok (.iadd, 1) := dk_96 (dk_at dksL_law_82 1 rfl rfl)
theorem dL_law_2169 : decode cL_law 2169 = .ok (.iaload, 1) := dk_46 (dk_at dksL_law_82 2 rfl rfl)
theorem dL_law_2170 : decode cL_law 2170 = .ok (.aload_n 0, 1) := dk_42 (dk_at dksL_law_82 3 rfl rfl)
theorem dL_law_2171 : decode cL_law 2171 = .ok (.iload 5, 2) := dk_21 5 (dk_at dksL_law_82 4 rfl rfl)
theorem dL_law_2173 : decode cL_law 2173 = .ok (.iconst 2, 1) := dk_5 (dk_at dksL_law_82 6 rfl rfl)
theorem dL_law_2174 : decode cL_law 2174 = .ok (.iadd, 1) := dk_96 (dk_at dksL_law_82 7 rfl rfl)
theorem dL_law_2175 : decode cL_law 2175 = .ok (.iaload, 1) := dk_46 (dk_at dksL_law_82 8 rfl rfl)
theorem dL_law_2176 : decode cL_law 2176 = .ok (.aload_n 0, 1) := dk_42 (dk_at dksL_law_82 9 rfl rfl)
theorem dL_law_2177 : decode cL_law 2177 = .ok (.iload 5, 2) := dk_21 5 (dk_at dksL_law_82 10 rfl rfl)
theorem dL_law_2179 : decode cL_law 2179 = .ok (.iconst 3, 1) := dk_6 (dk_at dksL_law_82 12 rfl rfl)
theorem dL_law_2180 : decode cL_law 2180 = .ok (.iadd, 1) := dk_96 (dk_at dksL_law_82 13 rfl rfl)
theorem dL_law_2181 : decode cL_law 2181 = .ok (.iaload, 1) := dk_46 (dk_at dksL_law_82 14 rfl rfl)
theorem dL_law_2182 : decode cL_law 2182 = .ok (.invokevirtual 321, 3) := dk_182 1 65 (dk_at dksL_law_82 15 rfl rfl)
theorem dL_law_2185 : decode cL_law 2185 = .ok (.dstore 7, 2) := dk_57 7 (dk_at dksL_law_82 18 rfl rfl)
theorem dL_law_2187 : decode cL_law 2187 = .ok (.aload_n 2, 1) := dk_44 (dk_at dksL_law_82 20 rfl rfl)
theorem dL_law_2188 : decode cL_law 2188 = .ok (.invokevirtual 223, 3) := dk_182 0 223 (dk_at dksL_law_82 21 rfl rfl)
theorem dL_law_2191 : decode cL_law 2191 = .ok (.iload 6, 2) := dk_21 6 (dk_at dksL_law_83 0 rfl rfl)
theorem dL_law_2193 : decode cL_law 2193 = .ok (.if_icmp .eq 5, 3) := dk_159 0 5 (dk_at dksL_law_83 2 rfl rfl)
theorem dL_law_2196 : decode cL_law 2196 = .ok (.iconst 0, 1) := dk_3 (dk_at dksL_law_83 5 rfl rfl)
theorem dL_law_2197 : decode cL_law 2197 = .ok (.ireturn, 1) := dk_172 (dk_at dksL_law_83 6 rfl rfl)
theorem dL_law_2198 : decode cL_law 2198 = .ok (.iload 6, 2) := dk_21 6 (dk_at dksL_law_83 7 rfl rfl)
theorem dL_law_2200 : decode cL_law 2200 = .ok (.ifCond .ne 35, 3) := dk_154 0 35 (dk_at dksL_law_83 9 rfl rfl)
theorem dL_law_2203 : decode cL_law 2203 = .ok (.aload 4, 2) := dk_25 4 (dk_at dksL_law_83 12 rfl rfl)
theorem dL_law_2205 : decode cL_law 2205 = .ok (.iconst 0, 1) := dk_3 (dk_at dksL_law_83 14 rfl rfl)
theorem dL_law_2206 : decode cL_law 2206 = .ok (.daload, 1) := dk_49 (dk_at dksL_law_83 15 rfl rfl)
theorem dL_law_2207 : decode cL_law 2207 = .ok (.dload 7, 2) := dk_24 7 (dk_at dksL_law_83 16 rfl rfl)
theorem dL_law_2209 : decode cL_law 2209 = .ok (.dcmp .l, 1) := dk_151 (dk_at dksL_law_83 18 rfl rfl)
theorem dL_law_2210 : decode cL_law 2210 = .ok (.ifCond .eq 25, 3) := dk_153 0 25 (dk_at dksL_law_83 19 rfl rfl)
theorem dL_law_2213 : decode cL_law 2213 = .ok (.aload 4, 2) := dk_25 4 (dk_at dksL_law_83 22 rfl rfl)
theorem dL_law_2215 : decode cL_law 2215 = .ok (.iconst 0, 1) := dk_3 (dk_at dksL_law_84 0 rfl rfl)
theorem dL_law_2216 : decode cL_law 2216 = .ok (.daload, 1) := dk_49 (dk_at dksL_law_84 1 rfl rfl)
theorem dL_law_2217 : decode cL_law 2217 = .ok (.aload 4, 2) := dk_25 4 (dk_at dksL_law_84 2 rfl rfl)
theorem dL_law_2219 : decode cL_law 2219 = .ok (.iconst 0, 1) := dk_3 (dk_at dksL_law_84 4 rfl rfl)
theorem dL_law_2220 : decode cL_law 2220 = .ok (.daload, 1) := dk_49 (dk_at dksL_law_84 5 rfl rfl)
theorem dL_law_2221 : decode cL_law 2221 = .ok (.dcmp .l, 1) := dk_151 (dk_at dksL_law_84 6 rfl rfl)
theorem dL_law_2222 : decode cL_law 2222 = .ok (.ifCond .eq 11, 3) := dk_153 0 11 (dk_at dksL_law_84 7 rfl rfl)
theorem dL_law_2225 : decode cL_law 2225 = .ok (.dload 7, 2) := dk_24 7 (dk_at dksL_law_84 10 rfl rfl)
theorem dL_law_2227 : decode cL_law 2227 = .ok (.dload 7, 2) := dk_24 7 (dk_at dksL_law_84 12 rfl rfl)
theorem dL_law_2229 : decode cL_law 2229 = .ok (.dcmp .l, 1) := dk_151 (dk_at dksL_law_84 14 rfl rfl)
theorem dL_law_2230 : decode cL_law 2230 = .ok (.ifCond .ne 5, 3) := dk_154 0 5 (dk_at dksL_law_84 15 rfl rfl)
theorem dL_law_2233 : decode cL_law 2233 = .ok (.iconst 0, 1) := dk_3 (dk_at dksL_law_84 18 rfl rfl)
theorem dL_law_2234 : decode cL_law 2234 = .ok (.ireturn, 1) := dk_172 (dk_at dksL_law_84 19 rfl rfl)
theorem dL_law_2235 : decode cL_law 2235 = .ok (.goto 1985, 3) := dk_167 7 193 (dk_at dksL_law_84 20 rfl rfl)
theorem dL_law_2238 : decode cL_law 2238 = .ok (.aload_n 1, 1) := dk_43 (dk_at dksL_law_84 23 rfl rfl)
theorem dL_law_2239 : decode cL_law 2239 = .ok (.aload_n 0, 1) := dk_42 (dk_at dksL_law_85 0 rfl rfl)
theorem dL_law_2240 : decode cL_law 2240 = .ok (.iload 5, 2) := dk_21 5 (dk_at dksL_law_85 1 rfl rfl)
theorem dL_law_2242 : decode cL_law 2242 = .ok (.iconst 1, 1) := dk_4 (dk_at dksL_law_85 3 rfl rfl)
theorem dL_law_2243 : decode cL_law 2243 = .ok (.iadd, 1) := dk_96 (dk_at dksL_law_85 4 rfl rfl)
theorem dL_law_2244 : decode cL_law 2244 = .ok (.iaload, 1) := dk_46 (dk_at dksL_law_85 5 rfl rfl)
theorem dL_law_2245 : decode cL_law 2245 = .ok (.aload 4, 2) := dk_25 4 (dk_at dksL_law_85 6 rfl rfl)
theorem dL_law_2247 : decode cL_law 2247 = .ok (.invokestatic 322, 3) := dk_184 1 66 (dk_at dksL_law_85 8 rfl rfl)
theorem dL_law_2250 : decode cL_law 2250 = .ok (.istore 6, 2) := dk_54 6 (dk_at dksL_law_85 11 rfl rfl)
theorem dL_law_2252 : decode cL_law 2252 = .ok (.aload_n 2, 1) := dk_44 (dk_at dksL_law_85 13 rfl rfl)
theorem dL_law_2253 : decode cL_law 2253 = .ok (.aload_n 0, 1) := dk_42 (dk_at dksL_law_85 14 rfl rfl)
theorem dL_law_2254 : decode cL_law 2254 = .ok (.iload 5, 2) := dk_21 5 (dk_at dksL_law_85 15 rfl rfl)
theorem dL_law_2256 : decode cL_law 2256 = .ok (.iconst 1, 1) := dk_4 (dk_at dksL_law_85 17 rfl rfl)
theorem dL_law_2257 : decode cL_law 2257 = .ok (.iadd, 1) := dk_96 (dk_at dksL_law_85 18 rfl rfl)
theorem dL_law_2258 : decode cL_law 2258 = .ok (.iaload, 1) := dk_46 (dk_at dksL_law_85 19 rfl rfl)
theorem dL_law_2259 : decode cL_law 2259 = .ok (.invokevirtual 324, 3) := dk_182 1 68 (dk_at dksL_law_85 20 rfl rfl)
theorem dL_law_2262 : decode cL_law 2262 = .ok (.dstore 7, 2) := dk_57 7 (dk_at dksL_law_86 0 rfl rfl)
theorem dL_law_2264 : decode cL_law 2264 = .ok (.aload_n 2, 1) := dk_44 (dk_at dksL_law_86 2 rfl rfl)
theorem dL_law_2265 : decode cL_law 2265 = .ok (.invokevirtual 223, 3) := dk_182 0 223 (dk_at dksL_law_86 3 rfl rfl)
theorem dL_law_2268 : decode cL_law 2268 = .ok (.iload 6, 2) := dk_21 6 (dk_at dksL_law_86 6 rfl rfl)
theorem dL_law_2270 : decode cL_law 2270 = .ok (.if_icmp .eq 5, 3) := dk_159 0 5 (dk_at dksL_law_86 8 rfl rfl)
theorem dL_law_2273 : decode cL_law 2273 = .ok (.iconst 0, 1) := dk_3 (dk_at dksL_law_86 11 rfl rfl)
theorem dL_law_2274 : decode cL_law 2274 = .ok (.ireturn, 1) := dk_172 (dk_at dksL_law_86 12 rfl rfl)
theorem dL_law_2275 : decode cL_law 2275 = .ok (.iload 6, 2) := dk_21 6 (dk_at dksL_law_86 13 rfl rfl)
theorem dL_law_2277 : decode cL_law 2277 = .ok (.ifCond .ne 35, 3) := dk_154 0 35 (dk_at dksL_law_86 15 rfl rfl)
theorem dL_law_2280 : decode cL_law 2280 = .ok (.aload 4, 2) := dk_25 4 (dk_at dksL_law_86 18 rfl rfl)
theorem dL_law_2282 : decode cL_law 2282 = .ok (.iconst 0, 1) := dk_3 (dk_at dksL_law_86 20 rfl rfl)
theorem dL_law_2283 : decode cL_law 2283 = .ok (.daload, 1) := dk_49 (dk_at dksL_law_86 21 rfl rfl)
theorem dL_law_2284 : decode cL_law 2284 = .ok (.dload 7, 2) := dk_24 7 (dk_at dksL_law_86 22 rfl rfl)
theorem dL_law_2286 : decode cL_law 2286 = .ok (.dcmp .l, 1) := dk_151 (dk_at dksL_law_87 0 rfl rfl)
theorem dL_law_2287 : decode cL_law 2287 = .ok (.ifCond .eq 25, 3) := dk_153 0 25 (dk_at dksL_law_87 1 rfl rfl)
theorem dL_law_2290 : decode cL_law 2290 = .ok (.aload 4, 2) := dk_25 4 (dk_at dksL_law_87 4 rfl rfl)
theorem dL_law_2292 : decode cL_law 2292 = .ok (.iconst 0, 1) := dk_3 (dk_at dksL_law_87 6 rfl rfl)
theorem dL_law_2293 : decode cL_law 2293 = .ok (.daload, 1) := dk_49 (dk_at dksL_law_87 7 rfl rfl)
theorem dL_law_2294 : decode cL_law 2294 = .ok (.aload 4, 2) := dk_25 4 (dk_at dksL_law_87 8 rfl rfl)
theorem dL_law_2296 : decode cL_law 2296 = .ok (.iconst 0, 1) := dk_3 (dk_at dksL_law_87 10 rfl rfl)
theorem dL_law_2297 : decode cL_law 2297 = .ok (.daload, 1) := dk_49 (dk_at dksL_law_87 11 rfl rfl)
theorem dL_law_2298 : decode cL_law 2298 = .ok (.dcmp .l, 1) := dk_151 (dk_at dksL_law_87 12 rfl rfl)
theorem dL_law_2299 : decode cL_law 2299 = .ok (.ifCond .eq 11, 3) := dk_153 0 11 (dk_at dksL_law_87 13 rfl rfl)
theorem dL_law_2302 : decode cL_law 2302 = .ok (.dload 7, 2) := dk_24 7 (dk_at dksL_law_87 16 rfl rfl)
theorem dL_law_2304 : decode cL_law 2304 = .ok (.dload 7, 2) := dk_24 7 (dk_at dksL_law_87 18 rfl rfl)
theorem dL_law_2306 : decode cL_law 2306 = .ok (.dcmp .l, 1) := dk_151 (dk_at dksL_law_87 20 rfl rfl)
theorem dL_law_2307 : decode cL_law 2307 = .ok (.ifCond .ne 5, 3) := dk_154 0 5 (dk_at dksL_law_87 21 rfl rfl)
theorem dL_law_2310 : decode cL_law 2310 = .ok (.iconst 0, 1) := dk_3 (dk_at dksL_law_88 0 rfl rfl)
theorem dL_law_2311 : decode cL_law 2311 = .ok (.ireturn, 1) := dk_172 (dk_at dksL_law_88 1 rfl rfl)
theorem dL_law_2312 : decode cL_law 2312 = .ok (.goto 1908, 3) := dk_167 7 116 (dk_at dksL_law_88 2 rfl rfl)
theorem dL_law_2315 : decode cL_law 2315 = .ok (.aload_n 1, 1) := dk_43 (dk_at dksL_law_88 5 rfl rfl)
theorem dL_law_2316 : decode cL_law 2316 = .ok (.aload_n 0, 1) := dk_42 (dk_at dksL_law_88 6 rfl rfl)
theorem dL_law_2317 : decode cL_law 2317 = .ok (.iload 5, 2) := dk_21 5 (dk_at dksL_law_88 7 rfl rfl)
theorem dL_law_2319 : decode cL_law 2319 = .ok (.iconst 1, 1) := dk_4 (dk_at dksL_law_88 9 rfl rfl)
theorem dL_law_2320 : decode cL_law 2320 = .ok (.iadd, 1) := dk_96 (dk_at dksL_law_88 10 rfl rfl)
theorem dL_law_2321 : decode cL_law 2321 = .ok (.iaload, 1) := dk_46 (dk_at dksL_law_88 11 rfl rfl)
theorem dL_law_2322 : decode cL_law 2322 = .ok (.aload 4, 2) := dk_25 4 (dk_at dksL_law_88 12 rfl rfl)
theorem dL_law_2324 : decode cL_law 2324 = .ok (.invokestatic 325, 3) := dk_184 1 69 (dk_at dksL_law_88 14 rfl rfl)
theorem dL_law_2327 : decode cL_law 2327 = .ok (.istore 6, 2) := dk_54 6 (dk_at dksL_law_88 17 rfl rfl)
theorem dL_law_2329 : decode cL_law 2329 = .ok (.aload_n 2, 1) := dk_44 (dk_at dksL_law_88 19 rfl rfl)
theorem dL_law_2330 : decode cL_law 2330 = .ok (.aload_n 0, 1) := dk_42 (dk_at dksL_law_88 20 rfl rfl)
theorem dL_law_2331 : decode cL_law 2331 = .ok (.iload 5, 2) := dk_21 5 (dk_at dksL_law_88 21 rfl rfl)
theorem dL_law_2333 : decode cL_law 2333 = .ok (.iconst 1, 1) := dk_4 (dk_at dksL_law_88 23 rfl rfl)
theorem dL_law_2334 : decode cL_law 2334 = .ok (.iadd, 1) := dk_96 (dk_at dksL_law_89 0 rfl rfl)
theorem dL_law_2335 : decode cL_law 2335 = .ok (.iaload, 1) := dk_46 (dk_at dksL_law_89 1 rfl rfl)
theorem dL_law_2336 : decode cL_law 2336 = .ok (.invokevirtual 327, 3) := dk_182 1 71 (dk_at dksL_law_89 2 rfl rfl)
theorem dL_law_2339 : decode cL_law 2339 = .ok (.dstore 7, 2) := dk_57 7 (dk_at dksL_law_89 5 rfl rfl)
theorem dL_law_2341 : decode cL_law 2341 = .ok (.aload_n 2, 1) := dk_44 (dk_at dksL_law_89 7 rfl rfl)
theorem dL_law_2342 : decode cL_law 2342 = .ok (.invokevirtual 223, 3) := dk_182 0 223 (dk_at dksL_law_89 8 rfl rfl)
theorem dL_law_2345 : decode cL_law 2345 = .ok (.iload 6, 2) := dk_21 6 (dk_at dksL_law_89 11 rfl rfl)
theorem dL_law_2347 : decode cL_law 2347 = .ok (.if_icmp .eq 5, 3) := dk_159 0 5 (dk_at dksL_law_89 13 rfl rfl)
theorem dL_law_2350 : decode cL_law 2350 = .ok (.iconst 0, 1) := dk_3 (dk_at dksL_law_89 16 rfl rfl)
theorem dL_law_2351 : decode cL_law 2351 = .ok (.ireturn, 1) := dk_172 (dk_at dksL_law_89 17 rfl rfl)
theorem dL_law_2352 : decode cL_law 2352 = .ok (.iload 6, 2) := dk_21 6 (dk_at dksL_law_89 18 rfl rfl)
theorem dL_law_2354 : decode cL_law 2354 = .ok (.ifCond .ne 35, 3) := dk_154 0 35 (dk_at dksL_law_89 20 rfl rfl)
theorem dL_law_2357 : decode cL_law 2357 = .ok (.aload 4, 2) := dk_25 4 (dk_at dksL_law_90 0 rfl rfl)
theorem dL_law_2359 : decode cL_law 2359 = .ok (.iconst 0, 1) := dk_3 (dk_at dksL_law_90 2 rfl rfl)
theorem dL_law_2360 : decode cL_law 2360 = .ok (.daload, 1) := dk_49 (dk_at dksL_law_90 3 rfl rfl)
theorem dL_law_2361 : decode cL_law 2361 = .ok (.dload 7, 2) := dk_24 7 (dk_at dksL_law_90 4 rfl rfl)
theorem dL_law_2363 : decode cL_law 2363 = .ok (.dcmp .l, 1) := dk_151 (dk_at dksL_law_90 6 rfl rfl)
theorem dL_law_2364 : decode cL_law 2364 = .ok (.ifCond .eq 25, 3) := dk_153 0 25 (dk_at dksL_law_90 7 rfl rfl)
theorem dL_law_2367 : decode cL_law 2367 = .ok (.aload 4, 2) := dk_25 4 (dk_at dksL_law_90 10 rfl rfl)
theorem dL_law_2369 : decode cL_law 2369 = .ok (.iconst 0, 1) := dk_3 (dk_at dksL_law_90 12 rfl rfl)
theorem dL_law_2370 : decode cL_law 2370 = .ok (.daload, 1) := dk_49 (dk_at dksL_law_90 13 rfl rfl)
theorem dL_law_2371 : decode cL_law 2371 = .ok (.aload 4, 2) := dk_25 4 (dk_at dksL_law_90 14 rfl rfl)
theorem dL_law_2373 : decode cL_law 2373 = .ok (.iconst 0, 1) := dk_3 (dk_at dksL_law_90 16 rfl rfl)
theorem dL_law_2374 : decode cL_law 2374 = .ok (.daload, 1) := dk_49 (dk_at dksL_law_90 17 rfl rfl)
theorem dL_law_2375 : decode cL_law 2375 = .ok (.dcmp .l, 1) := dk_151 (dk_at dksL_law_90 18 rfl rfl)
theorem dL_law_2376 : decode cL_law 2376 = .ok (.ifCond .eq 11, 3) := dk_153 0 11 (dk_at dksL_law_90 19 rfl rfl)
theorem dL_law_2379 : decode cL_law 2379 = .ok (.dload 7, 2) := dk_24 7 (dk_at dksL_law_90 22 rfl rfl)
theorem dL_law_2381 : decode cL_law 2381 = .ok (.dload 7, 2) := dk_24 7 (dk_at dksL_law_91 0 rfl rfl)
theorem dL_law_2383 : decode cL_law 2383 = .ok (.dcmp .l, 1) := dk_151 (dk_at dksL_law_91 2 rfl rfl)
theorem dL_law_2384 : decode cL_law 2384 = .ok (.ifCond .ne 5, 3) := dk_154 0 5 (dk_at dksL_law_91 3 rfl rfl)
theorem dL_law_2387 : decode cL_law 2387 = .ok (.iconst 0, 1) := dk_3 (dk_at dksL_law_91 6 rfl rfl)
theorem dL_law_2388 : decode cL_law 2388 = .ok (.ireturn, 1) := dk_172 (dk_at dksL_law_91 7 rfl rfl)
theorem dL_law_2389 : decode cL_law 2389 = .ok (.goto 1831, 3) := dk_167 7 39 (dk_at dksL_law_91 8 rfl rfl)
theorem dL_law_2392 : decode cL_law 2392 = .ok (.aload_n 1, 1) := dk_43 (dk_at dksL_law_91 11 rfl rfl)
theorem dL_law_2393 : decode cL_law 2393 = .ok (.aload_n 0, 1) := dk_42 (dk_at dksL_law_91 12 rfl rfl)
theorem dL_law_2394 : decode cL_law 2394 = .ok (.iload 5, 2) := dk_21 5 (dk_at dksL_law_91 13 rfl rfl)
theorem dL_law_2396 : decode cL_law 2396 = .ok (.iconst 1, 1) := dk_4 (dk_at dksL_law_91 15 rfl rfl)
theorem dL_law_2397 : decode cL_law 2397 = .ok (.iadd, 1) := dk_96 (dk_at dksL_law_91 16 rfl rfl)
theorem dL_law_2398 : decode cL_law 2398 = .ok (.iaload, 1) := dk_46 (dk_at dksL_law_91 17 rfl rfl)
theorem dL_law_2399 : decode cL_law 2399 = .ok (.aload 4, 2) := dk_25 4 (dk_at dksL_law_91 18 rfl rfl)
theorem dL_law_2401 : decode cL_law 2401 = .ok (.invokestatic 328, 3) := dk_184 1 72 (dk_at dksL_law_91 20 rfl rfl)
theorem dL_law_2404 : decode cL_law 2404 = .ok (.istore 6, 2) := dk_54 6 (dk_at dksL_law_92 0 rfl rfl)
theorem dL_law_2406 : decode cL_law 2406 = .ok (.aload_n 2, 1) := dk_44 (dk_at dksL_law_92 2 rfl rfl)
theorem dL_law_2407 : decode cL_law 2407 = .ok (.aload_n 0, 1) := dk_42 (dk_at dksL_law_92 3 rfl rfl)
theorem dL_law_2408 : decode cL_law 2408 = .ok (.iload 5, 2) := dk_21 5 (dk_at dksL_law_92 4 rfl rfl)
theorem dL_law_2410 : decode cL_law 2410 = .ok (.iconst 1, 1) := dk_4 (dk_at dksL_law_92 6 rfl rfl)
theorem dL_law_2411 : decode cL_law 2411 = .ok (.iadd, 1) := dk_96 (dk_at dksL_law_92 7 rfl rfl)
theorem dL_law_2412 : decode cL_law 2412 = .ok (.iaload, 1) := dk_46 (dk_at dksL_law_92 8 rfl rfl)
theorem dL_law_2413 : decode cL_law 2413 = .ok (.invokevirtual 330, 3) := dk_182 1 74 (dk_at dksL_law_92 9 rfl rfl)
theorem dL_law_2416 : decode cL_law 2416 = .ok (.dstore 7, 2) := dk_57 7 (dk_at dksL_law_92 12 rfl rfl)
theorem dL_law_2418 : decode cL_law 2418 = .ok (.aload_n 2, 1) := dk_44 (dk_at dksL_law_92 14 rfl rfl)
theorem dL_law_2419 : decode cL_law 2419 = .ok (.invokevirtual 223, 3) := dk_182 0 223 (dk_at dksL_law_92 15 rfl rfl)
theorem dL_law_2422 : decode cL_law 2422 = .ok (.iload 6, 2) := dk_21 6 (dk_at dksL_law_92 18 rfl rfl)
theorem dL_law_2424 : decode cL_law 2424 = .ok (.if_icmp .eq 5, 3) := dk_159 0 5 (dk_at dksL_law_92 20 rfl rfl)
theorem dL_law_2427 : decode cL_law 2427 = .ok (.iconst 0, 1) := dk_3 (dk_at dksL_law_92 23 rfl rfl)
theorem dL_law_2428 : decode cL_law 2428 = .ok (.ireturn, 1) := dk_172 (dk_at dksL_law_93 0 rfl rfl)
theorem dL_law_2429 : decode cL_law 2429 = .ok (.iload 6, 2) := dk_21 6 (dk_at dksL_law_93 1 rfl rfl)
theorem dL_law_2431 : decode cL_law 2431 = .ok (.ifCond .ne 35, 3) := dk_154 0 35 (dk_at dksL_law_93 3 rfl rfl)
theorem dL_law_2434 : decode cL_law 2434 = .ok (.aload 4, 2) := dk_25 4 (dk_at dksL_law_93 6 rfl rfl)
theorem dL_law_2436 : decode cL_law 2436 = .ok (.iconst 0, 1) := dk_3 (dk_at dksL_law_93 8 rfl rfl)
theorem dL_law_2437 : decode cL_law 2437 = .ok (.daload, 1) := dk_49 (dk_at dksL_law_93 9 rfl rfl)
theorem dL_law_2438 : decode cL_law 2438 = .ok (.dload 7, 2) := dk_24 7 (dk_at dksL_law_93 10 rfl rfl)
theorem dL_law_2440 : decode cL_law 2440 = .ok (.dcmp .l, 1) := dk_151 (dk_at dksL_law_93 12 rfl rfl)
theorem dL_law_2441 : decode cL_law 2441 = .ok (.ifCond .eq 25, 3) := dk_153 0 25 (dk_at dksL_law_93 13 rfl rfl)
theorem dL_law_2444 : decode cL_law 2444 = .ok (.aload 4, 2) := dk_25 4 (dk_at dksL_law_93 16 rfl rfl)
theorem dL_law_2446 : decode cL_law 2446 = .ok (.iconst 0, 1) := dk_3 (dk_at dksL_law_93 18 rfl rfl)
theorem dL_law_2447 : decode cL_law 2447 = .ok (.daload, 1) := dk_49 (dk_at dksL_law_93 19 rfl rfl)
theorem dL_law_2448 : decode cL_law 2448 = .ok (.aload 4, 2) := dk_25 4 (dk_at dksL_law_93 20 rfl rfl)
theorem dL_law_2450 : decode cL_law 2450 = .ok (.iconst 0, 1) := dk_3 (dk_at dksL_law_93 22 rfl rfl)
theorem dL_law_2451 : decode cL_law 2451 = .ok (.daload, 1) := dk_49 (dk_at dksL_law_93 23 rfl rfl)
theorem dL_law_2452 : decode cL_law 2452 = .ok (.dcmp .l, 1) := dk_151 (dk_at dksL_law_94 0 rfl rfl)
theorem dL_law_2453 : decode cL_law 2453 = .ok (.ifCond .eq 11, 3) := dk_153 0 11 (dk_at dksL_law_94 1 rfl rfl)
theorem dL_law_2456 : decode cL_law 2456 = .ok (.dload 7, 2) := dk_24 7 (dk_at dksL_law_94 4 rfl rfl)
theorem dL_law_2458 : decode cL_law 2458 = .ok (.dload 7, 2) := dk_24 7 (dk_at dksL_law_94 6 rfl rfl)
theorem dL_law_2460 : decode cL_law 2460 = .ok (.dcmp .l, 1) := dk_151 (dk_at dksL_law_94 8 rfl rfl)
theorem dL_law_2461 : decode cL_law 2461 = .ok (.ifCond .ne 5, 3) := dk_154 0 5 (dk_at dksL_law_94 9 rfl rfl)
theorem dL_law_2464 : decode cL_law 2464 = .ok (.iconst 0, 1) := dk_3 (dk_at dksL_law_94 12 rfl rfl)
theorem dL_law_2465 : decode cL_law 2465 = .ok (.ireturn, 1) := dk_172 (dk_at dksL_law_94 13 rfl rfl)
theorem dL_law_2466 : decode cL_law 2466 = .ok (.goto 1754, 3) := dk_167 6 218 (dk_at dksL_law_94 14 rfl rfl)
theorem dL_law_2469 : decode cL_law 2469 = .ok (.aload_n 1, 1) := dk_43 (dk_at dksL_law_94 17 rfl rfl)
theorem dL_law_2470 : decode cL_law 2470 = .ok (.aload_n 0, 1) := dk_42 (dk_at dksL_law_94 18 rfl rfl)
theorem dL_law_2471 : decode cL_law 2471 = .ok (.iload 5, 2) := dk_21 5 (dk_at dksL_law_94 19 rfl rfl)
theorem dL_law_2473 : decode cL_law 2473 = .ok (.iconst 1, 1) := dk_4 (dk_at dksL_law_94 21 rfl rfl)
theorem dL_law_2474 : decode cL_law 2474 = .ok (.iadd, 1) := dk_96 (dk_at dksL_law_94 22 rfl rfl)
theorem dL_law_2475 : decode cL_law 2475 = .ok (.iaload, 1) := dk_46 (dk_at dksL_law_94 23 rfl rfl)
theorem dL_law_2476 : decode cL_law 2476 = .ok (.aload 4, 2) := dk_25 4 (dk_at dksL_law_95 0 rfl rfl)
theorem dL_law_2478 : decode cL_law 2478 = .ok (.invokestatic 331, 3) := dk_184 1 75 (dk_at dksL_law_95 2 rfl rfl)
theorem dL_law_2481 : decode cL_law 2481 = .ok (.istore 6, 2) := dk_54 6 (dk_at dksL_law_95 5 rfl rfl)
theorem dL_law_2483 : decode cL_law 2483 = .ok (.aload_n 2, 1) := dk_44 (dk_at dksL_law_95 7 rfl rfl)
theorem dL_law_2484 : decode cL_law 2484 = .ok (.aload_n 0, 1) := dk_42 (dk_at dksL_law_95 8 rfl rfl)
theorem dL_law_2485 : decode cL_law 2485 = .ok (.iload 5, 2) := dk_21 5 (dk_at dksL_law_95 9 rfl rfl)
theorem dL_law_2487 : decode cL_law 2487 = .ok (.iconst 1, 1) := dk_4 (dk_at dksL_law_95 11 rfl rfl)
theorem dL_law_2488 : decode cL_law 2488 = .ok (.iadd, 1) := dk_96 (dk_at dksL_law_95 12 rfl rfl)
theorem dL_law_2489 : decode cL_law 2489 = .ok (.iaload, 1) := dk_46 (dk_at dksL_law_95 13 rfl rfl)
theorem dL_law_2490 : decode cL_law 2490 = .ok (.invokevirtual 333, 3) := dk_182 1 77 (dk_at dksL_law_95 14 rfl rfl)
theorem dL_law_2493 : decode cL_law 2493 = .ok (.dstore 7, 2) := dk_57 7 (dk_at dksL_law_95 17 rfl rfl)
theorem dL_law_2495 : decode cL_law 2495 = .ok (.aload_n 2, 1) := dk_44 (dk_at dksL_law_95 19 rfl rfl)
theorem dL_law_2496 : decode cL_law 2496 = .ok (.invokevirtual 223, 3) := dk_182 0 223 (dk_at dksL_law_95 20 rfl rfl)
theorem dL_law_2499 : decode cL_law 2499 = .ok (.iload 6, 2) := dk_21 6 (dk_at dksL_law_96 0 rfl rfl)
theorem dL_law_2501 : decode cL_law 2501 = .ok (.if_icmp .eq 5, 3) := dk_159 0 5 (dk_at dksL_law_96 2 rfl rfl)
theorem dL_law_2504 : decode cL_law 2504 = .ok (.iconst 0, 1) := dk_3 (dk_at dksL_law_96 5 rfl rfl)
theorem dL_law_2505 : decode cL_law 2505 = .ok (.ireturn, 1) := dk_172 (dk_at dksL_law_96 6 rfl rfl)
theorem dL_law_2506 : decode cL_law 2506 = .ok (.iload 6, 2) := dk_21 6 (dk_at dksL_law_96 7 rfl rfl)
theorem dL_law_2508 : decode cL_law 2508 = .ok (.ifCond .ne 35, 3) := dk_154 0 35 (dk_at dksL_law_96 9 rfl rfl)
theorem dL_law_2511 : decode cL_law 2511 = .ok (.aload 4, 2) := dk_25 4 (dk_at dksL_law_96 12 rfl rfl)
theorem dL_law_2513 : decode cL_law 2513 = .ok (.iconst 0, 1) := dk_3 (dk_at dksL_law_96 14 rfl rfl)
theorem dL_law_2514 : decode cL_law 2514 = .ok (.daload, 1) := dk_49 (dk_at dksL_law_96 15 rfl rfl)
theorem dL_law_2515 : decode cL_law 2515 = .ok (.dload 7, 2) := dk_24 7 (dk_at dksL_law_96 16 rfl rfl)
theorem dL_law_2517 : decode cL_law 2517 = .ok (.dcmp .l, 1) := dk_151 (dk_at dksL_law_96 18 rfl rfl)
theorem dL_law_2518 : decode cL_law 2518 = .ok (.ifCond .eq 25, 3) := dk_153 0 25 (dk_at dksL_law_96 19 rfl rfl)
theorem dL_law_2521 : decode cL_law 2521 = .ok (.aload 4, 2) := dk_25 4 (dk_at dksL_law_96 22 rfl rfl)
theorem dL_law_2523 : decode cL_law 2523 = .ok (.iconst 0, 1) := dk_3 (dk_at dksL_law_97 0 rfl rfl)
theorem dL_law_2524 : decode cL_law 2524 = .ok (.daload, 1) := dk_49 (dk_at dksL_law_97 1 rfl rfl)
theorem dL_law_2525 : decode cL_law 2525 = .ok (.aload 4, 2) := dk_25 4 (dk_at dksL_law_97 2 rfl rfl)
theorem dL_law_2527 : decode cL_law 2527 = .ok (.iconst 0, 1) := dk_3 (dk_at dksL_law_97 4 rfl rfl)
theorem dL_law_2528 : decode cL_law 2528 = .ok (.daload, 1) := dk_49 (dk_at dksL_law_97 5 rfl rfl)
theorem dL_law_2529 : decode cL_law 2529 = .ok (.dcmp .l, 1) := dk_151 (dk_at dksL_law_97 6 rfl rfl)
theorem dL_law_2530 : decode cL_law 2530 = .ok (.ifCond .eq 11, 3) := dk_153 0 11 (dk_at dksL_law_97 7 rfl rfl)
theorem dL_law_2533 : decode cL_law 2533 = .ok (.dload 7, 2) := dk_24 7 (dk_at dksL_law_97 10 rfl rfl)
theorem dL_law_2535 : decode cL_law 2535 = .ok (.dload 7, 2) := dk_24 7 (dk_at dksL_law_97 12 rfl rfl)
theorem dL_law_2537 : decode cL_law 2537 = .ok (.dcmp .l, 1) := dk_151 (dk_at dksL_law_97 14 rfl rfl)
theorem dL_law_2538 : decode cL_law 2538 = .ok (.ifCond .ne 5, 3) := dk_154 0 5 (dk_at dksL_law_97 15 rfl rfl)
theorem dL_law_2541 : decode cL_law 2541 = .ok (.iconst 0, 1) := dk_3 (dk_at dksL_law_97 18 rfl rfl)
theorem dL_law_2542 : decode cL_law 2542 = .ok (.ireturn, 1) := dk_172 (dk_at dksL_law_97 19 rfl rfl)
theorem dL_law_2543 : decode cL_law 2543 = .ok (.goto 1677, 3) := dk_167 6 141 (dk_at dksL_law_97 20 rfl rfl)
theorem dL_law_2546 : decode cL_law 2546 = .ok (.aload_n 1, 1) := dk_43 (dk_at dksL_law_97 23 rfl rfl)
theorem dL_law_2547 : decode cL_law 2547 = .ok (.aload_n 0, 1) := dk_42 (dk_at dksL_law_98 0 rfl rfl)
theorem dL_law_2548 : decode cL_law 2548 = .ok (.iload 5, 2) := dk_21 5 (dk_at dksL_law_98 1 rfl rfl)
theorem dL_law_2550 : decode cL_law 2550 = .ok (.iconst 1, 1) := dk_4 (dk_at dksL_law_98 3 rfl rfl)
theorem dL_law_2551 : decode cL_law 2551 = .ok (.iadd, 1) := dk_96 (dk_at dksL_law_98 4 rfl rfl)
theorem dL_law_2552 : decode cL_law 2552 = .ok (.iaload, 1) := dk_46 (dk_at dksL_law_98 5 rfl rfl)
theorem dL_law_2553 : decode cL_law 2553 = .ok (.aload_n 3, 1) := dk_45 (dk_at dksL_law_98 6 rfl rfl)
theorem dL_law_2554 : decode cL_law 2554 = .ok (.invokestatic 334, 3) := dk_184 1 78 (dk_at dksL_law_98 7 rfl rfl)
theorem dL_law_2557 : decode cL_law 2557 = .ok (.istore 6, 2) := dk_54 6 (dk_at dksL_law_98 10 rfl rfl)
theorem dL_law_2559 : decode cL_law 2559 = .ok (.aload_n 2, 1) := dk_44 (dk_at dksL_law_98 12 rfl rfl)
theorem dL_law_2560 : decode cL_law 2560 = .ok (.aload_n 0, 1) := dk_42 (dk_at dksL_law_98 13 rfl rfl)
theorem dL_law_2561 : decode cL_law 2561 = .ok (.iload 5, 2) := dk_21 5 (dk_at dksL_law_98 14 rfl rfl)
theorem dL_law_2563 : decode cL_law 2563 = .ok (.iconst 1, 1) := dk_4 (dk_at dksL_law_98 16 rfl rfl)
theorem dL_law_2564 : decode cL_law 2564 = .ok (.iadd, 1) := dk_96 (dk_at dksL_law_98 17 rfl rfl)
theorem dL_law_2565 : decode cL_law 2565 = .ok (.iaload, 1) := dk_46 (dk_at dksL_law_98 18 rfl rfl)
theorem dL_law_2566 : decode cL_law 2566 = .ok (.invokevirtual 336, 3) := dk_182 1 80 (dk_at dksL_law_98 19 rfl rfl)
theorem dL_law_2569 : decode cL_law 2569 = .ok (.istore 7, 2) := dk_54 7 (dk_at dksL_law_98 22 rfl rfl)
theorem dL_law_2571 : decode cL_law 2571 = .ok (.aload_n 2, 1) := dk_44 (dk_at dksL_law_99 0 rfl rfl)
theorem dL_law_2572 : decode cL_law 2572 = .ok (.invokevirtual 223, 3) := dk_182 0 223 (dk_at dksL_law_99 1 rfl rfl)
theorem dL_law_2575 : decode cL_law 2575 = .ok (.iload 6, 2) := dk_21 6 (dk_at dksL_law_99 4 rfl rfl)
theorem dL_law_2577 : decode cL_law 2577 = .ok (.if_icmp .eq 5, 3) := dk_159 0 5 (dk_at dksL_law_99 6 rfl rfl)
theorem dL_law_2580 : decode cL_law 2580 = .ok (.iconst 0, 1) := dk_3 (dk_at dksL_law_99 9 rfl rfl)
theorem dL_law_2581 : decode cL_law 2581 = .ok (.ireturn, 1) := dk_172 (dk_at dksL_law_99 10 rfl rfl)
theorem dL_law_2582 : decode cL_law 2582 = .ok (.iload 6, 2) := dk_21 6 (dk_at dksL_law_99 11 rfl rfl)
theorem dL_law_2584 : decode cL_law 2584 = .ok (.ifCond .ne 15, 3) := dk_154 0 15 (dk_at dksL_law_99 13 rfl rfl)
theorem dL_law_2587 : decode cL_law 2587 = .ok (.aload_n 3, 1) := dk_45 (dk_at dksL_law_99 16 rfl rfl)
theorem dL_law_2588 : decode cL_law 2588 = .ok (.iconst 0, 1) := dk_3 (dk_at dksL_law_99 17 rfl rfl)
theorem dL_law_2589 : decode cL_law 2589 = .ok (.laload, 1) := dk_47 (dk_at dksL_law_99 18 rfl rfl)
theorem dL_law_2590 : decode cL_law 2590 = .ok (.iload 7, 2) := dk_21 7 (dk_at dksL_law_99 19 rfl rfl)
theorem dL_law_2592 : decode cL_law 2592 = .ok (.i2l, 1) := dk_133 (dk_at dksL_law_99 21 rfl rfl)
theorem dL_law_2593 : decode cL_law 2593 = .ok (.lcmp, 1) := dk_148 (dk_at dksL_law_99 22 rfl rfl)
theorem dL_law_2594 : decode cL_law 2594 = .ok (.ifCond .eq 5, 3) := dk_153 0 5 (dk_at dksL_law_100 0 rfl rfl)
theorem dL_law_2597 : decode cL_law 2597 = .ok (.iconst 0, 1) := dk_3 (dk_at dksL_law_100 3 rfl rfl)
theorem dL_law_2598 : decode cL_law 2598 = .ok (.ireturn, 1) := dk_172 (dk_at dksL_law_100 4 rfl rfl)
theorem dL_law_2599 : decode cL_law 2599 = .ok (.goto 1621, 3) := dk_167 6 85 (dk_at dksL_law_100 5 rfl rfl)
theorem dL_law_2602 : decode cL_law 2602 = .ok (.aload_n 1, 1) := dk_43 (dk_at dksL_law_100 8 rfl rfl)
theorem dL_law_2603 : decode cL_law 2603 = .ok (.aload_n 0, 1) := dk_42 (dk_at dksL_law_100 9 rfl rfl)
theorem dL_law_2604 : decode cL_law 2604 = .ok (.iload 5, 2) := dk_21 5 (dk_at dksL_law_100 10 rfl rfl)
theorem dL_law_2606 : decode cL_law 2606 = .ok (.iconst 1, 1) := dk_4 (dk_at dksL_law_100 12 rfl rfl)
theorem dL_law_2607 : decode cL_law 2607 = .ok (.iadd, 1) := dk_96 (dk_at dksL_law_100 13 rfl rfl)
theorem dL_law_2608 : decode cL_law 2608 = .ok (.iaload, 1) := dk_46 (dk_at dksL_law_100 14 rfl rfl)
theorem dL_law_2609 : decode cL_law 2609 = .ok (.aload_n 0, 1) := dk_42 (dk_at dksL_law_100 15 rfl rfl)
theorem dL_law_2610 : decode cL_law 2610 = .ok (.iload 5, 2) := dk_21 5 (dk_at dksL_law_100 16 rfl rfl)
theorem dL_law_2612 : decode cL_law 2612 = .ok (.iconst 2, 1) := dk_5 (dk_at dksL_law_100 18 rfl rfl)
theorem dL_law_2613 : decode cL_law 2613 = .ok (.iadd, 1) := dk_96 (dk_at dksL_law_100 19 rfl rfl)
theorem dL_law_2614 : decode cL_law 2614 = .ok (.iaload, 1) := dk_46 (dk_at dksL_law_100 20 rfl rfl)
theorem dL_law_2615 : decode cL_law 2615 = .ok (.aload_n 3, 1) := dk_45 (dk_at dksL_law_100 21 rfl rfl)
theorem dL_law_2616 : decode cL_law 2616 = .ok (.invokestatic 337, 3) := dk_184 1 81 (dk_at dksL_law_101 0 rfl rfl)
theorem dL_law_2619 : decode cL_law 2619 = .ok (.istore 6, 2) := dk_54 6 (dk_at dksL_law_101 3 rfl rfl)
theorem dL_law_2621 : decode cL_law 2621 = .ok (.aload_n 2, 1) := dk_44 (dk_at dksL_law_101 5 rfl rfl)
theorem dL_law_2622 : decode cL_law 2622 = .ok (.aload_n 0, 1) := dk_42 (dk_at dksL_law_101 6 rfl rfl)
theorem dL_law_2623 : decode cL_law 2623 = .ok (.iload 5, 2) := dk_21 5 (dk_at dksL_law_101 7 rfl rfl)
theorem dL_law_2625 : decode cL_law 2625 = .ok (.iconst 1, 1) := dk_4 (dk_at dksL_law_101 9 rfl rfl)
theorem dL_law_2626 : decode cL_law 2626 = .ok (.iadd, 1) := dk_96 (dk_at dksL_law_101 10 rfl rfl)
theorem dL_law_2627 : decode cL_law 2627 = .ok (.iaload, 1) := dk_46 (dk_at dksL_law_101 11 rfl rfl)
theorem dL_law_2628 : decode cL_law 2628 = .ok (.aload_n 0, 1) := dk_42 (dk_at dksL_law_101 12 rfl rfl)
theorem dL_law_2629 : decode cL_law 2629 = .ok (.iload 5, 2) := dk_21 5 (dk_at dksL_law_101 13 rfl rfl)
theorem dL_law_2631 : decode cL_law 2631 = .ok (.iconst 2, 1) := dk_5 (dk_at dksL_law_101 15 rfl rfl)
theorem dL_law_2632 : decode cL_law 2632 = .ok (.iadd, 1) := dk_96 (dk_at dksL_law_101 16 rfl rfl)
theorem dL_law_2633 : decode cL_law 2633 = .ok (.iaload, 1) := dk_46 (dk_at dksL_law_101 17 rfl rfl)
theorem dL_law_2634 : decode cL_law 2634 = .ok (.invokevirtual 339, 3) := dk_182 1 83 (dk_at dksL_law_101 18 rfl rfl)
theorem dL_law_2637 : decode cL_law 2637 = .ok (.istore 7, 2) := dk_54 7 (dk_at dksL_law_101 21 rfl rfl)
theorem dL_law_2639 : decode cL_law 2639 = .ok (.aload_n 2, 1) := dk_44 (dk_at dksL_law_101 23 rfl rfl)
theorem dL_law_2640 : decode cL_law 2640 = .ok (.invokevirtual 223, 3) := dk_182 0 223 (dk_at dksL_law_102 0 rfl rfl)
theorem dL_law_2643 : decode cL_law 2643 = .ok (.iload 6, 2) := dk_21 6 (dk_at dksL_law_102 3 rfl rfl)
theorem dL_law_2645 : decode cL_law 2645 = .ok (.if_icmp .eq 5, 3) := dk_159 0 5 (dk_at dksL_law_102 5 rfl rfl)
theorem dL_law_2648 : decode cL_law 2648 = .ok (.iconst 0, 1) := dk_3 (dk_at dksL_law_102 8 rfl rfl)
theorem dL_law_2649 : decode cL_law 2649 = .ok (.ireturn, 1) := dk_172 (dk_at dksL_law_102 9 rfl rfl)
theorem dL_law_2650 : decode cL_law 2650 = .ok (.iload 6, 2) := dk_21 6 (dk_at dksL_law_102 10 rfl rfl)
theorem dL_law_2652 : decode cL_law 2652 = .ok (.ifCond .ne 15, 3) := dk_154 0 15 (dk_at dksL_law_102 12 rfl rfl)
theorem dL_law_2655 : decode cL_law 2655 = .ok (.aload_n 3, 1) := dk_45 (dk_at dksL_law_102 15 rfl rfl)
theorem dL_law_2656 : decode cL_law 2656 = .ok (.iconst 0, 1) := dk_3 (dk_at dksL_law_102 16 rfl rfl)
theorem dL_law_2657 : decode cL_law 2657 = .ok (.laload, 1) := dk_47 (dk_at dksL_law_102 17 rfl rfl)
theorem dL_law_2658 : decode cL_law 2658 = .ok (.iload 7, 2) := dk_21 7 (dk_at dksL_law_102 18 rfl rfl)
theorem dL_law_2660 : decode cL_law 2660 = .ok (.i2l, 1) := dk_133 (dk_at dksL_law_102 20 rfl rfl)
theorem dL_law_2661 : decode cL_law 2661 = .ok (.lcmp, 1) := dk_148 (dk_at dksL_law_102 21 rfl rfl)
theorem dL_law_2662 : decode cL_law 2662 = .ok (.ifCond .eq 5, 3) := dk_153 0 5 (dk_at dksL_law_103 0 rfl rfl)
theorem dL_law_2665 : decode cL_law 2665 = .ok (.iconst 0, 1) := dk_3 (dk_at dksL_law_103 3 rfl rfl)
theorem dL_law_2666 : decode cL_law 2666 = .ok (.ireturn, 1) := dk_172 (dk_at dksL_law_103 4 rfl rfl)
theorem dL_law_2667 : decode cL_law 2667 = .ok (.goto 1553, 3) := dk_167 6 17 (dk_at dksL_law_103 5 rfl rfl)
theorem dL_law_2670 : decode cL_law 2670 = .ok (.aload_n 1, 1) := dk_43 (dk_at dksL_law_103 8 rfl rfl)
theorem dL_law_2671 : decode cL_law 2671 = .ok (.aload_n 0, 1) := dk_42 (dk_at dksL_law_103 9 rfl rfl)
theorem dL_law_2672 : decode cL_law 2672 = .ok (.iload 5, 2) := dk_21 5 (dk_at dksL_law_103 10 rfl rfl)
theorem dL_law_2674 : decode cL_law 2674 = .ok (.iconst 1, 1) := dk_4 (dk_at dksL_law_103 12 rfl rfl)
theorem dL_law_2675 : decode cL_law 2675 = .ok (.iadd, 1) := dk_96 (dk_at dksL_law_103 13 rfl rfl)
theorem dL_law_2676 : decode cL_law 2676 = .ok (.iaload, 1) := dk_46 (dk_at dksL_law_103 14 rfl rfl)
theorem dL_law_2677 : decode cL_law 2677 = .ok (.aload_n 3, 1) := dk_45 (dk_at dksL_law_103 15 rfl rfl)
theorem dL_law_2678 : decode cL_law 2678 = .ok (.invokestatic 340, 3) := dk_184 1 84 (dk_at dksL_law_103 16 rfl rfl)
theorem dL_law_2681 : decode cL_law 2681 = .ok (.istore 6, 2) := dk_54 6 (dk_at dksL_law_103 19 rfl rfl)
theorem dL_law_2683 : decode cL_law 2683 = .ok (.aload_n 2, 1) := dk_44 (dk_at dksL_law_103 21 rfl rfl)
theorem dL_law_2684 : decode cL_law 2684 = .ok (.aload_n 0, 1) := dk_42 (dk_at dksL_law_103 22 rfl rfl)
theorem dL_law_2685 : decode cL_law 2685 = .ok (.iload 5, 2) := dk_21 5 (dk_at dksL_law_104 0 rfl rfl)
theorem dL_law_2687 : decode cL_law 2687 = .ok (.iconst 1, 1) := dk_4 (dk_at dksL_law_104 2 rfl rfl)
theorem dL_law_2688 : decode cL_law 2688 = .ok (.iadd, 1) := dk_96 (dk_at dksL_law_104 3 rfl rfl)
theorem dL_law_2689 : decode cL_law 2689 = .ok (.iaload, 1) := dk_46 (dk_at dksL_law_104 4 rfl rfl)
theorem dL_law_2690 : decode cL_law 2690 = .ok (.invokevirtual 342, 3) := dk_182 1 86 (dk_at dksL_law_104 5 rfl rfl)
theorem dL_law_2693 : decode cL_law 2693 = .ok (.istore 7, 2) := dk_54 7 (dk_at dksL_law_104 8 rfl rfl)
theorem dL_law_2695 : decode cL_law 2695 = .ok (.aload_n 2, 1) := dk_44 (dk_at dksL_law_104 10 rfl rfl)
theorem dL_law_2696 : decode cL_law 2696 = .ok (.invokevirtual 223, 3) := dk_182 0 223 (dk_at dksL_law_104 11 rfl rfl)
theorem dL_law_2699 : decode cL_law 2699 = .ok (.iload 6, 2) := dk_21 6 (dk_at dksL_law_104 14 rfl rfl)
theorem dL_law_2701 : decode cL_law 2701 = .ok (.if_icmp .eq 5, 3) := dk_159 0 5 (dk_at dksL_law_104 16 rfl rfl)
theorem dL_law_2704 : decode cL_law 2704 = .ok (.iconst 0, 1) := dk_3 (dk_at dksL_law_104 19 rfl rfl)
theorem dL_law_2705 : decode cL_law 2705 = .ok (.ireturn, 1) := dk_172 (dk_at dksL_law_104 20 rfl rfl)
theorem dL_law_2706 : decode cL_law 2706 = .ok (.iload 6, 2) := dk_21 6 (dk_at dksL_law_104 21 rfl rfl)
theorem dL_law_2708 : decode cL_law 2708 = .ok (.ifCond .ne 15, 3) := dk_154 0 15 (dk_at dksL_law_105 0 rfl rfl)
theorem dL_law_2711 : decode cL_law 2711 = .ok (.aload_n 3, 1) := dk_45 (dk_at dksL_law_105 3 rfl rfl)
theorem dL_law_2712 : decode cL_law 2712 = .ok (.iconst 0, 1) := dk_3 (dk_at dksL_law_105 4 rfl rfl)
theorem dL_law_2713 : decode cL_law 2713 = .ok (.laload, 1) := dk_47 (dk_at dksL_law_105 5 rfl rfl)
theorem dL_law_2714 : decode cL_law 2714 = .ok (.iload 7, 2) := dk_21 7 (dk_at dksL_law_105 6 rfl rfl)
theorem dL_law_2716 : decode cL_law 2716 = .ok (.i2l, 1) := dk_133 (dk_at dksL_law_105 8 rfl rfl)
theorem dL_law_2717 : decode cL_law 2717 = .ok (.lcmp, 1) := dk_148 (dk_at dksL_law_105 9 rfl rfl)
theorem dL_law_2718 : decode cL_law 2718 = .ok (.ifCond .eq 5, 3) := dk_153 0 5 (dk_at dksL_law_105 10 rfl rfl)
theorem dL_law_2721 : decode cL_law 2721 = .ok (.iconst 0, 1) := dk_3 (dk_at dksL_law_105 13 rfl rfl)
theorem dL_law_2722 : decode cL_law 2722 = .ok (.ireturn, 1) := dk_172 (dk_at dksL_law_105 14 rfl rfl)
theorem dL_law_2723 : decode cL_law 2723 = .ok (.goto 1497, 3) := dk_167 5 217 (dk_at dksL_law_105 15 rfl rfl)
theorem dL_law_2726 : decode cL_law 2726 = .ok (.aload_n 1, 1) := dk_43 (dk_at dksL_law_105 18 rfl rfl)
theorem dL_law_2727 : decode cL_law 2727 = .ok (.aload_n 3, 1) := dk_45 (dk_at dksL_law_105 19 rfl rfl)
theorem dL_law_2728 : decode cL_law 2728 = .ok (.invokestatic 343, 3) := dk_184 1 87 (dk_at dksL_law_105 20 rfl rfl)
theorem dL_law_2731 : decode cL_law 2731 = .ok (.istore 6, 2) := dk_54 6 (dk_at dksL_law_106 0 rfl rfl)
theorem dL_law_2733 : decode cL_law 2733 = .ok (.aload_n 2, 1) := dk_44 (dk_at dksL_law_106 2 rfl rfl)
theorem dL_law_2734 : decode cL_law 2734 = .ok (.invokevirtual 345, 3) := dk_182 1 89 (dk_at dksL_law_106 3 rfl rfl)
theorem dL_law_2737 : decode cL_law 2737 = .ok (.istore 7, 2) := dk_54 7 (dk_at dksL_law_106 6 rfl rfl)
theorem dL_law_2739 : decode cL_law 2739 = .ok (.aload_n 2, 1) := dk_44 (dk_at dksL_law_106 8 rfl rfl)
theorem dL_law_2740 : decode cL_law 2740 = .ok (.invokevirtual 223, 3) := dk_182 0 223 (dk_at dksL_law_106 9 rfl rfl)
theorem dL_law_2743 : decode cL_law 2743 = .ok (.iload 6, 2) := dk_21 6 (dk_at dksL_law_106 12 rfl rfl)
theorem dL_law_2745 : decode cL_law 2745 = .ok (.if_icmp .eq 5, 3) := dk_159 0 5 (dk_at dksL_law_106 14 rfl rfl)
theorem dL_law_2748 : decode cL_law 2748 = .ok (.iconst 0, 1) := dk_3 (dk_at dksL_law_106 17 rfl rfl)
theorem dL_law_2749 : decode cL_law 2749 = .ok (.ireturn, 1) := dk_172 (dk_at dksL_law_106 18 rfl rfl)
theorem dL_law_2750 : decode cL_law 2750 = .ok (.iload 6, 2) := dk_21 6 (dk_at dksL_law_106 19 rfl rfl)
theorem dL_law_2752 : decode cL_law 2752 = .ok (.ifCond .ne 15, 3) := dk_154 0 15 (dk_at dksL_law_106 21 rfl rfl)
theorem dL_law_2755 : decode cL_law 2755 = .ok (.aload_n 3, 1) := dk_45 (dk_at dksL_law_107 0 rfl rfl)
theorem dL_law_2756 : decode cL_law 2756 = .ok (.iconst 0, 1) := dk_3 (dk_at dksL_law_107 1 rfl rfl)
theorem dL_law_2757 : decode cL_law 2757 = .ok (.laload, 1) := dk_47 (dk_at dksL_law_107 2 rfl rfl)
theorem dL_law_2758 : decode cL_law 2758 = .ok (.iload 7, 2) := dk_21 7 (dk_at dksL_law_107 3 rfl rfl)
theorem dL_law_2760 : decode cL_law 2760 = .ok (.i2l, 1) := dk_133 (dk_at dksL_law_107 5 rfl rfl)
theorem dL_law_2761 : decode cL_law 2761 = .ok (.lcmp, 1) := dk_148 (dk_at dksL_law_107 6 rfl rfl)
theorem dL_law_2762 : decode cL_law 2762 = .ok (.ifCond .eq 5, 3) := dk_153 0 5 (dk_at dksL_law_107 7 rfl rfl)
theorem dL_law_2765 : decode cL_law 2765 = .ok (.iconst 0, 1) := dk_3 (dk_at dksL_law_107 10 rfl rfl)
theorem dL_law_2766 : decode cL_law 2766 = .ok (.ireturn, 1) := dk_172 (dk_at dksL_law_107 11 rfl rfl)
theorem dL_law_2767 : decode cL_law 2767 = .ok (.goto 1453, 3) := dk_167 5 173 (dk_at dksL_law_107 12 rfl rfl)
theorem dL_law_2770 : decode cL_law 2770 = .ok (.aload_n 1, 1) := dk_43 (dk_at dksL_law_107 15 rfl rfl)
theorem dL_law_2771 : decode cL_law 2771 = .ok (.aload_n 0, 1) := dk_42 (dk_at dksL_law_107 16 rfl rfl)
theorem dL_law_2772 : decode cL_law 2772 = .ok (.iload 5, 2) := dk_21 5 (dk_at dksL_law_107 17 rfl rfl)
theorem dL_law_2774 : decode cL_law 2774 = .ok (.iconst 1, 1) := dk_4 (dk_at dksL_law_107 19 rfl rfl)
theorem dL_law_2775 : decode cL_law 2775 = .ok (.iadd, 1) := dk_96 (dk_at dksL_law_107 20 rfl rfl)
theorem dL_law_2776 : decode cL_law 2776 = .ok (.iaload, 1) := dk_46 (dk_at dksL_law_107 21 rfl rfl)
theorem dL_law_2777 : decode cL_law 2777 = .ok (.aload_n 0, 1) := dk_42 (dk_at dksL_law_107 22 rfl rfl)
theorem dL_law_2778 : decode cL_law 2778 = .ok (.iload 5, 2) := dk_21 5 (dk_at dksL_law_108 0 rfl rfl)
theorem dL_law_2780 : decode cL_law 2780 = .ok (.iconst 2, 1) := dk_5 (dk_at dksL_law_108 2 rfl rfl)
theorem dL_law_2781 : decode cL_law 2781 = .ok (.iadd, 1) := dk_96 (dk_at dksL_law_108 3 rfl rfl)
theorem dL_law_2782 : decode cL_law 2782 = .ok (.iaload, 1) := dk_46 (dk_at dksL_law_108 4 rfl rfl)
theorem dL_law_2783 : decode cL_law 2783 = .ok (.aload_n 3, 1) := dk_45 (dk_at dksL_law_108 5 rfl rfl)
theorem dL_law_2784 : decode cL_law 2784 = .ok (.invokestatic 346, 3) := dk_184 1 90 (dk_at dksL_law_108 6 rfl rfl)
theorem dL_law_2787 : decode cL_law 2787 = .ok (.istore 6, 2) := dk_54 6 (dk_at dksL_law_108 9 rfl rfl)
theorem dL_law_2789 : decode cL_law 2789 = .ok (.aload_n 2, 1) := dk_44 (dk_at dksL_law_108 11 rfl rfl)
theorem dL_law_2790 : decode cL_law 2790 = .ok (.aload_n 0, 1) := dk_42 (dk_at dksL_law_108 12 rfl rfl)
theorem dL_law_2791 : decode cL_law 2791 = .ok (.iload 5, 2) := dk_21 5 (dk_at dksL_law_108 13 rfl rfl)
theorem dL_law_2793 : decode cL_law 2793 = .ok (.iconst 1, 1) := dk_4 (dk_at dksL_law_108 15 rfl rfl)
theorem dL_law_2794 : decode cL_law 2794 = .ok (.iadd, 1) := dk_96 (dk_at dksL_law_108 16 rfl rfl)
theorem dL_law_2795 : decode cL_law 2795 = .ok (.iaload, 1) := dk_46 (dk_at dksL_law_108 17 rfl rfl)
theorem dL_law_2796 : decode cL_law 2796 = .ok (.aload_n 0, 1) := dk_42 (dk_at dksL_law_108 18 rfl rfl)
theorem dL_law_2797 : decode cL_law 2797 = .ok (.iload 5, 2) := dk_21 5 (dk_at dksL_law_108 19 rfl rfl)
theorem dL_law_2799 : decode cL_law 2799 = .ok (.iconst 2, 1) := dk_5 (dk_at dksL_law_108 21 rfl rfl)
theorem dL_law_2800 : decode cL_law 2800 = .ok (.iadd, 1) := dk_96 (dk_at dksL_law_108 22 rfl rfl)
theorem dL_law_2801 : decode cL_law 2801 = .ok (.iaload, 1) := dk_46 (dk_at dksL_law_108 23 rfl rfl)
theorem dL_law_2802 : decode cL_law 2802 = .ok (.invokevirtual 348, 3) := dk_182 1 92 (dk_at dksL_law_109 0 rfl rfl)
theorem dL_law_2805 : decode cL_law 2805 = .ok (.istore 7, 2) := dk_54 7 (dk_at dksL_law_109 3 rfl rfl)
theorem dL_law_2807 : decode cL_law 2807 = .ok (.aload_n 2, 1) := dk_44 (dk_at dksL_law_109 5 rfl rfl)
theorem dL_law_2808 : decode cL_law 2808 = .ok (.invokevirtual 223, 3) := dk_182 0 223 (dk_at dksL_law_109 6 rfl rfl)
theorem dL_law_2811 : decode cL_law 2811 = .ok (.iload 6, 2) := dk_21 6 (dk_at dksL_law_109 9 rfl rfl)
theorem dL_law_2813 : decode cL_law 2813 = .ok (.if_icmp .eq 5, 3) := dk_159 0 5 (dk_at dksL_law_109 11 rfl rfl)
theorem dL_law_2816 : decode cL_law 2816 = .ok (.iconst 0, 1) := dk_3 (dk_at dksL_law_109 14 rfl rfl)
theorem dL_law_2817 : decode cL_law 2817 = .ok (.ireturn, 1) := dk_172 (dk_at dksL_law_109 15 rfl rfl)
theorem dL_law_2818 : decode cL_law 2818 = .ok (.iload 6, 2) := dk_21 6 (dk_at dksL_law_109 16 rfl rfl)
theorem dL_law_2820 : decode cL_law 2820 = .ok (.ifCond .ne 15, 3) := dk_154 0 15 (dk_at dksL_law_109 18 rfl rfl)
theorem dL_law_2823 : decode cL_law 2823 = .ok (.aload_n 3, 1) := dk_45 (dk_at dksL_law_109 21 rfl rfl)
theorem dL_law_2824 : decode cL_law 2824 = .ok (.iconst 0, 1) := dk_3 (dk_at dksL_law_109 22 rfl rfl)
theorem dL_law_2825 : decode cL_law 2825 = .ok (.laload, 1) := dk_47 (dk_at dksL_law_109 23 rfl rfl)
theorem dL_law_2826 : decode cL_law 2826 = .ok (.iload 7, 2) := dk_21 7 (dk_at dksL_law_110 0 rfl rfl)
theorem dL_law_2828 : decode cL_law 2828 = .ok (.i2l, 1) := dk_133 (dk_at dksL_law_110 2 rfl rfl)
theorem dL_law_2829 : decode cL_law 2829 = .ok (.lcmp, 1) := dk_148 (dk_at dksL_law_110 3 rfl rfl)
theorem dL_law_2830 : decode cL_law 2830 = .ok (.ifCond .eq 5, 3) := dk_153 0 5 (dk_at dksL_law_110 4 rfl rfl)
theorem dL_law_2833 : decode cL_law 2833 = .ok (.iconst 0, 1) := dk_3 (dk_at dksL_law_110 7 rfl rfl)
theorem dL_law_2834 : decode cL_law 2834 = .ok (.ireturn, 1) := dk_172 (dk_at dksL_law_110 8 rfl rfl)
theorem dL_law_2835 : decode cL_law 2835 = .ok (.goto 1385, 3) := dk_167 5 105 (dk_at dksL_law_110 9 rfl rfl)
theorem dL_law_2838 : decode cL_law 2838 = .ok (.aload_n 1, 1) := dk_43 (dk_at dksL_law_110 12 rfl rfl)
theorem dL_law_2839 : decode cL_law 2839 = .ok (.aload_n 3, 1) := dk_45 (dk_at dksL_law_110 13 rfl rfl)
theorem dL_law_2840 : decode cL_law 2840 = .ok (.invokestatic 349, 3) := dk_184 1 93 (dk_at dksL_law_110 14 rfl rfl)
theorem dL_law_2843 : decode cL_law 2843 = .ok (.istore 6, 2) := dk_54 6 (dk_at dksL_law_110 17 rfl rfl)
theorem dL_law_2845 : decode cL_law 2845 = .ok (.aload_n 2, 1) := dk_44 (dk_at dksL_law_110 19 rfl rfl)
theorem dL_law_2846 : decode cL_law 2846 = .ok (.invokevirtual 351, 3) := dk_182 1 95 (dk_at dksL_law_110 20 rfl rfl)
theorem dL_law_2849 : decode cL_law 2849 = .ok (.istore 7, 2) := dk_54 7 (dk_at dksL_law_111 0 rfl rfl)
theorem dL_law_2851 : decode cL_law 2851 = .ok (.aload_n 2, 1) := dk_44 (dk_at dksL_law_111 2 rfl rfl)
theorem dL_law_2852 : decode cL_law 2852 = .ok (.invokevirtual 223, 3) := dk_182 0 223 (dk_at dksL_law_111 3 rfl rfl)
theorem dL_law_2855 : decode cL_law 2855 = .ok (.iload 6, 2) := dk_21 6 (dk_at dksL_law_111 6 rfl rfl)
theorem dL_law_2857 : decode cL_law 2857 = .ok (.if_icmp .eq 5, 3) := dk_159 0 5 (dk_at dksL_law_111 8 rfl rfl)
theorem dL_law_2860 : decode cL_law 2860 = .ok (.iconst 0, 1) := dk_3 (dk_at dksL_law_111 11 rfl rfl)
theorem dL_law_2861 : decode cL_law 2861 = .ok (.ireturn, 1) := dk_172 (dk_at dksL_law_111 12 rfl rfl)
theorem dL_law_2862 : decode cL_law 2862 = .ok (.iload 6, 2) := dk_21 6 (dk_at dksL_law_111 13 rfl rfl)
theorem dL_law_2864 : decode cL_law 2864 = .ok (.ifCond .ne 15, 3) := dk_154 0 15 (dk_at dksL_law_111 15 rfl rfl)
theorem dL_law_2867 : decode cL_law 2867 = .ok (.aload_n 3, 1) := dk_45 (dk_at dksL_law_111 18 rfl rfl)
theorem dL_law_2868 : decode cL_law 2868 = .ok (.iconst 0, 1) := dk_3 (dk_at dksL_law_111 19 rfl rfl)
theorem dL_law_2869 : decode cL_law 2869 = .ok (.laload, 1) := dk_47 (dk_at dksL_law_111 20 rfl rfl)
theorem dL_law_2870 : decode cL_law 2870 = .ok (.iload 7, 2) := dk_21 7 (dk_at dksL_law_111 21 rfl rfl)
theorem dL_law_2872 : decode cL_law 2872 = .ok (.i2l, 1) := dk_133 (dk_at dksL_law_111 23 rfl rfl)
theorem dL_law_2873 : decode cL_law 2873 = .ok (.lcmp, 1) := dk_148 (dk_at dksL_law_112 0 rfl rfl)
theorem dL_law_2874 : decode cL_law 2874 = .ok (.ifCond .eq 5, 3) := dk_153 0 5 (dk_at dksL_law_112 1 rfl rfl)
theorem dL_law_2877 : decode cL_law 2877 = .ok (.iconst 0, 1) := dk_3 (dk_at dksL_law_112 4 rfl rfl)
theorem dL_law_2878 : decode cL_law 2878 = .ok (.ireturn, 1) := dk_172 (dk_at dksL_law_112 5 rfl rfl)
theorem dL_law_2879 : decode cL_law 2879 = .ok (.goto 1341, 3) := dk_167 5 61 (dk_at dksL_law_112 6 rfl rfl)
theorem dL_law_2882 : decode cL_law 2882 = .ok (.aload_n 1, 1) := dk_43 (dk_at dksL_law_112 9 rfl rfl)
theorem dL_law_2883 : decode cL_law 2883 = .ok (.aload_n 0, 1) := dk_42 (dk_at dksL_law_112 10 rfl rfl)
theorem dL_law_2884 : decode cL_law 2884 = .ok (.iload 5, 2) := dk_21 5 (dk_at dksL_law_112 11 rfl rfl)
theorem dL_law_2886 : decode cL_law 2886 = .ok (.iconst 1, 1) := dk_4 (dk_at dksL_law_112 13 rfl rfl)
theorem dL_law_2887 : decode cL_law 2887 = .ok (.iadd, 1) := dk_96 (dk_at dksL_law_112 14 rfl rfl)
theorem dL_law_2888 : decode cL_law 2888 = .ok (.iaload, 1) := dk_46 (dk_at dksL_law_112 15 rfl rfl)
theorem dL_law_2889 : decode cL_law 2889 = .ok (.aload_n 0, 1) := dk_42 (dk_at dksL_law_112 16 rfl rfl)
theorem dL_law_2890 : decode cL_law 2890 = .ok (.iload 5, 2) := dk_21 5 (dk_at dksL_law_112 17 rfl rfl)
theorem dL_law_2892 : decode cL_law 2892 = .ok (.iconst 2, 1) := dk_5 (dk_at dksL_law_112 19 rfl rfl)
theorem dL_law_2893 : decode cL_law 2893 = .ok (.iadd, 1) := dk_96 (dk_at dksL_law_112 20 rfl rfl)
theorem dL_law_2894 : decode cL_law 2894 = .ok (.iaload, 1) := dk_46 (dk_at dksL_law_112 21 rfl rfl)
theorem dL_law_2895 : decode cL_law 2895 = .ok (.aload 4, 2) := dk_25 4 (dk_at dksL_law_112 22 rfl rfl)
theorem dL_law_2897 : decode cL_law 2897 = .ok (.invokestatic 352, 3) := dk_184 1 96 (dk_at dksL_law_113 0 rfl rfl)
theorem dL_law_2900 : decode cL_law 2900 = .ok (.istore 6, 2) := dk_54 6 (dk_at dksL_law_113 3 rfl rfl)
theorem dL_law_2902 : decode cL_law 2902 = .ok (.aload_n 2, 1) := dk_44 (dk_at dksL_law_113 5 rfl rfl)
theorem dL_law_2903 : decode cL_law 2903 = .ok (.aload_n 0, 1) := dk_42 (dk_at dksL_law_113 6 rfl rfl)
theorem dL_law_2904 : decode cL_law 2904 = .ok (.iload 5, 2) := dk_21 5 (dk_at dksL_law_113 7 rfl rfl)
theorem dL_law_2906 : decode cL_law 2906 = .ok (.iconst 1, 1) := dk_4 (dk_at dksL_law_113 9 rfl rfl)
theorem dL_law_2907 : decode cL_law 2907 = .ok (.iadd, 1) := dk_96 (dk_at dksL_law_113 10 rfl rfl)
theorem dL_law_2908 : decode cL_law 2908 = .ok (.iaload, 1) := dk_46 (dk_at dksL_law_113 11 rfl rfl)
theorem dL_law_2909 : decode cL_law 2909 = .ok (.aload_n 0, 1) := dk_42 (dk_at dksL_law_113 12 rfl rfl)
theorem dL_law_2910 : decode cL_law 2910 = .ok (.iload 5, 2) := dk_21 5 (dk_at dksL_law_113 13 rfl rfl)
theorem dL_law_2912 : decode cL_law 2912 = .ok (.iconst 2, 1) := dk_5 (dk_at dksL_law_113 15 rfl rfl)
theorem dL_law_2913 : decode cL_law 2913 = .ok (.iadd, 1) := dk_96 (dk_at dksL_law_113 16 rfl rfl)
theorem dL_law_2914 : decode cL_law 2914 = .ok (.iaload, 1) := dk_46 (dk_at dksL_law_113 17 rfl rfl)
theorem dL_law_2915 : decode cL_law 2915 = .ok (.invokevirtual 355, 3) := dk_182 1 99 (dk_at dksL_law_113 18 rfl rfl)
theorem dL_law_2918 : decode cL_law 2918 = .ok (.dstore 7, 2) := dk_57 7 (dk_at dksL_law_113 21 rfl rfl)
theorem dL_law_2920 : decode cL_law 2920 = .ok (.aload_n 2, 1) := dk_44 (dk_at dksL_law_113 23 rfl rfl)
theorem dL_law_2921 : decode cL_law 2921 = .ok (.invokevirtual 223, 3) := dk_182 0 223 (dk_at dksL_law_114 0 rfl rfl)
theorem dL_law_2924 : decode cL_law 2924 = .ok (.iload 6, 2) := dk_21 6 (dk_at dksL_law_114 3 rfl rfl)
theorem dL_law_2926 : decode cL_law 2926 = .ok (.if_icmp .eq 5, 3) := dk_159 0 5 (dk_at dksL_law_114 5 rfl rfl)
theorem dL_law_2929 : decode cL_law 2929 = .ok (.iconst 0, 1) := dk_3 (dk_at dksL_law_114 8 rfl rfl)
theorem dL_law_2930 : decode cL_law 2930 = .ok (.ireturn, 1) := dk_172 (dk_at dksL_law_114 9 rfl rfl)
theorem dL_law_2931 : decode cL_law 2931 = .ok (.iload 6, 2) := dk_21 6 (dk_at dksL_law_114 10 rfl rfl)
theorem dL_law_2933 : decode cL_law 2933 = .ok (.ifCond .ne 35, 3) := dk_154 0 35 (dk_at dksL_law_114 12 rfl rfl)
theorem dL_law_2936 : decode cL_law 2936 = .ok (.aload 4, 2) := dk_25 4 (dk_at dksL_law_114 15 rfl rfl)
theorem dL_law_2938 : decode cL_law 2938 = .ok (.iconst 0, 1) := dk_3 (dk_at dksL_law_114 17 rfl rfl)
theorem dL_law_2939 : decode cL_law 2939 = .ok (.daload, 1) := dk_49 (dk_at dksL_law_114 18 rfl rfl)
theorem dL_law_2940 : decode cL_law 2940 = .ok (.dload 7, 2) := dk_24 7 (dk_at dksL_law_114 19 rfl rfl)
theorem dL_law_2942 : decode cL_law 2942 = .ok (.dcmp .l, 1) := dk_151 (dk_at dksL_law_114 21 rfl rfl)
theorem dL_law_2943 : decode cL_law 2943 = .ok (.ifCond .eq 25, 3) := dk_153 0 25 (dk_at dksL_law_115 0 rfl rfl)
theorem dL_law_2946 : decode cL_law 2946 = .ok (.aload 4, 2) := dk_25 4 (dk_at dksL_law_115 3 rfl rfl)
theorem dL_law_2948 : decode cL_law 2948 = .ok (.iconst 0, 1) := dk_3 (dk_at dksL_law_115 5 rfl rfl)
theorem dL_law_2949 : decode cL_law 2949 = .ok (.daload, 1) := dk_49 (dk_at dksL_law_115 6 rfl rfl)
theorem dL_law_2950 : decode cL_law 2950 = .ok (.aload 4, 2) := dk_25 4 (dk_at dksL_law_115 7 rfl rfl)
theorem dL_law_2952 : decode cL_law 2952 = .ok (.iconst 0, 1) := dk_3 (dk_at dksL_law_115 9 rfl rfl)
theorem dL_law_2953 : decode cL_law 2953 = .ok (.daload, 1) := dk_49 (dk_at dksL_law_115 10 rfl rfl)
theorem dL_law_2954 : decode cL_law 2954 = .ok (.dcmp .l, 1) := dk_151 (dk_at dksL_law_115 11 rfl rfl)
theorem dL_law_2955 : decode cL_law 2955 = .ok (.ifCond .eq 11, 3) := dk_153 0 11 (dk_at dksL_law_115 12 rfl rfl)
theorem dL_law_2958 : decode cL_law 2958 = .ok (.dload 7, 2) := dk_24 7 (dk_at dksL_law_115 15 rfl rfl)
theorem dL_law_2960 : decode cL_law 2960 = .ok (.dload 7, 2) := dk_24 7 (dk_at dksL_law_115 17 rfl rfl)
theorem dL_law_2962 : decode cL_law 2962 = .ok (.dcmp .l, 1) := dk_151 (dk_at dksL_law_115 19 rfl rfl)
theorem dL_law_2963 : decode cL_law 2963 = .ok (.ifCond .ne 5, 3) := dk_154 0 5 (dk_at dksL_law_115 20 rfl rfl)
theorem dL_law_2966 : decode cL_law 2966 = .ok (.iconst 0, 1) := dk_3 (dk_at dksL_law_115 23 rfl rfl)
theorem dL_law_2967 : decode cL_law 2967 = .ok (.ireturn, 1) := dk_172 (dk_at dksL_law_116 0 rfl rfl)
theorem dL_law_2968 : decode cL_law 2968 = .ok (.goto 1252, 3) := dk_167 4 228 (dk_at dksL_law_116 1 rfl rfl)
theorem dL_law_2971 : decode cL_law 2971 = .ok (.aload_n 1, 1) := dk_43 (dk_at dksL_law_116 4 rfl rfl)
theorem dL_law_2972 : decode cL_law 2972 = .ok (.aload_n 3, 1) := dk_45 (dk_at dksL_law_116 5 rfl rfl)
theorem dL_law_2973 : decode cL_law 2973 = .ok (.invokestatic 356, 3) := dk_184 1 100 (dk_at dksL_law_116 6 rfl rfl)
theorem dL_law_2976 : decode cL_law 2976 = .ok (.istore 6, 2) := dk_54 6 (dk_at dksL_law_116 9 rfl rfl)
theorem dL_law_2978 : decode cL_law 2978 = .ok (.aload_n 2, 1) := dk_44 (dk_at dksL_law_116 11 rfl rfl)
theorem dL_law_2979 : decode cL_law 2979 = .ok (.invokevirtual 358, 3) := dk_182 1 102 (dk_at dksL_law_116 12 rfl rfl)
theorem dL_law_2982 : decode cL_law 2982 = .ok (.istore 7, 2) := dk_54 7 (dk_at dksL_law_116 15 rfl rfl)
theorem dL_law_2984 : decode cL_law 2984 = .ok (.aload_n 2, 1) := dk_44 (dk_at dksL_law_116 17 rfl rfl)
theorem dL_law_2985 : decode cL_law 2985 = .ok (.invokevirtual 223, 3) := dk_182 0 223 (dk_at dksL_law_116 18 rfl rfl)
theorem dL_law_2988 : decode cL_law 2988 = .ok (.iload 6, 2) := dk_21 6 (dk_at dksL_law_116 21 rfl rfl)
theorem dL_law_2990 : decode cL_law 2990 = .ok (.if_icmp .eq 5, 3) := dk_159 0 5 (dk_at dksL_law_117 0 rfl rfl)
theorem dL_law_2993 : decode cL_law 2993 = .ok (.iconst 0, 1) := dk_3 (dk_at dksL_law_117 3 rfl rfl)
theorem dL_law_2994 : decode cL_law 2994 = .ok (.ireturn, 1) := dk_172 (dk_at dksL_law_117 4 rfl rfl)
theorem dL_law_2995 : decode cL_law 2995 = .ok (.iload 6, 2) := dk_21 6 (dk_at dksL_law_117 5 rfl rfl)
theorem dL_law_2997 : decode cL_law 2997 = .ok (.ifCond .ne 15, 3) := dk_154 0 15 (dk_at dksL_law_117 7 rfl rfl)
theorem dL_law_3000 : decode cL_law 3000 = .ok (.aload_n 3, 1) := dk_45 (dk_at dksL_law_117 10 rfl rfl)
theorem dL_law_3001 : decode cL_law 3001 = .ok (.iconst 0, 1) := dk_3 (dk_at dksL_law_117 11 rfl rfl)
theorem dL_law_3002 : decode cL_law 3002 = .ok (.laload, 1) := dk_47 (dk_at dksL_law_117 12 rfl rfl)
theorem dL_law_3003 : decode cL_law 3003 = .ok (.iload 7, 2) := dk_21 7 (dk_at dksL_law_117 13 rfl rfl)
theorem dL_law_3005 : decode cL_law 3005 = .ok (.i2l, 1) := dk_133 (dk_at dksL_law_117 15 rfl rfl)
theorem dL_law_3006 : decode cL_law 3006 = .ok (.lcmp, 1) := dk_148 (dk_at dksL_law_117 16 rfl rfl)
theorem dL_law_3007 : decode cL_law 3007 = .ok (.ifCond .eq 5, 3) := dk_153 0 5 (dk_at dksL_law_117 17 rfl rfl)
theorem dL_law_3010 : decode cL_law 3010 = .ok (.iconst 0, 1) := dk_3 (dk_at dksL_law_117 20 rfl rfl)
theorem dL_law_3011 : decode cL_law 3011 = .ok (.ireturn, 1) := dk_172 (dk_at dksL_law_117 21 rfl rfl)
theorem dL_law_3012 : decode cL_law 3012 = .ok (.goto 1208, 3) := dk_167 4 184 (dk_at dksL_law_118 0 rfl rfl)
theorem dL_law_3015 : decode cL_law 3015 = .ok (.aload_n 1, 1) := dk_43 (dk_at dksL_law_118 3 rfl rfl)
theorem dL_law_3016 : decode cL_law 3016 = .ok (.aload_n 0, 1) := dk_42 (dk_at dksL_law_118 4 rfl rfl)
theorem dL_law_3017 : decode cL_law 3017 = .ok (.iload 5, 2) := dk_21 5 (dk_at dksL_law_118 5 rfl rfl)
theorem dL_law_3019 : decode cL_law 3019 = .ok (.iconst 1, 1) := dk_4 (dk_at dksL_law_118 7 rfl rfl)
theorem dL_law_3020 : decode cL_law 3020 = .ok (.iadd, 1) := dk_96 (dk_at dksL_law_118 8 rfl rfl)
theorem dL_law_3021 : decode cL_law 3021 = .ok (.iaload, 1) := dk_46 (dk_at dksL_law_118 9 rfl rfl)
theorem dL_law_3022 : decode cL_law 3022 = .ok (.ifCond .eq 7, 3) := dk_153 0 7 (dk_at dksL_law_118 10 rfl rfl)
theorem dL_law_3025 : decode cL_law 3025 = .ok (.iconst 1, 1) := dk_4 (dk_at dksL_law_118 13 rfl rfl)
theorem dL_law_3026 : decode cL_law 3026 = .ok (.goto 4, 3) := dk_167 0 4 (dk_at dksL_law_118 14 rfl rfl)
theorem dL_law_3029 : decode cL_law 3029 = .ok (.iconst 0, 1) := dk_3 (dk_at dksL_law_118 17 rfl rfl)
theorem dL_law_3030 : decode cL_law 3030 = .ok (.aload 4, 2) := dk_25 4 (dk_at dksL_law_118 18 rfl rfl)
theorem dL_law_3032 : decode cL_law 3032 = .ok (.invokestatic 359, 3) := dk_184 1 103 (dk_at dksL_law_118 20 rfl rfl)
theorem dL_law_3035 : decode cL_law 3035 = .ok (.istore 6, 2) := dk_54 6 (dk_at dksL_law_119 0 rfl rfl)
theorem dL_law_3037 : decode cL_law 3037 = .ok (.aload_n 2, 1) := dk_44 (dk_at dksL_law_119 2 rfl rfl)
theorem dL_law_3038 : decode cL_law 3038 = .ok (.aload_n 0, 1) := dk_42 (dk_at dksL_law_119 3 rfl rfl)
theorem dL_law_3039 : decode cL_law 3039 = .ok (.iload 5, 2) := dk_21 5 (dk_at dksL_law_119 4 rfl rfl)
theorem dL_law_3041 : decode cL_law 3041 = .ok (.iconst 1, 1) := dk_4 (dk_at dksL_law_119 6 rfl rfl)
theorem dL_law_3042 : decode cL_law 3042 = .ok (.iadd, 1) := dk_96 (dk_at dksL_law_119 7 rfl rfl)
theorem dL_law_3043 : decode cL_law 3043 = .ok (.iaload, 1) := dk_46 (dk_at dksL_law_119 8 rfl rfl)
theorem dL_law_3044 : decode cL_law 3044 = .ok (.ifCond .eq 7, 3) := dk_153 0 7 (dk_at dksL_law_119 9 rfl rfl)
theorem dL_law_3047 : decode cL_law 3047 = .ok (.iconst 1, 1) := dk_4 (dk_at dksL_law_119 12 rfl rfl)
theorem dL_law_3048 : decode cL_law 3048 = .ok (.goto 4, 3) := dk_167 0 4 (dk_at dksL_law_119 13 rfl rfl)
theorem dL_law_3051 : decode cL_law 3051 = .ok (.iconst 0, 1) := dk_3 (dk_at dksL_law_119 16 rfl rfl)
theorem dL_law_3052 : decode cL_law 3052 = .ok (.invokevirtual 362, 3) := dk_182 1 106 (dk_at dksL_law_119 17 rfl rfl)
theorem dL_law_3055 : decode cL_law 3055 = .ok (.dstore 7, 2) := dk_57 7 (dk_at dksL_law_119 20 rfl rfl)
theorem dL_law_3057 : decode cL_law 3057 = .ok (.aload_n 2, 1) := dk_44 (dk_at dksL_law_119 22 rfl rfl)
theorem dL_law_3058 : decode cL_law 3058 = .ok (.invokevirtual 223, 3) := dk_182 0 223 (dk_at dksL_law_120 0 rfl rfl)
theorem dL_law_3061 : decode cL_law 3061 = .ok (.iload 6, 2) := dk_21 6 (dk_at dksL_law_120 3 rfl rfl)
theorem dL_law_3063 : decode cL_law 3063 = .ok (.if_icmp .eq 5, 3) := dk_159 0 5 (dk_at dksL_law_120 5 rfl rfl)
theorem dL_law_3066 : decode cL_law 3066 = .ok (.iconst 0, 1) := dk_3 (dk_at dksL_law_120 8 rfl rfl)
theorem dL_law_3067 : decode cL_law 3067 = .ok (.ireturn, 1) := dk_172 (dk_at dksL_law_120 9 rfl rfl)
theorem dL_law_3068 : decode cL_law 3068 = .ok (.iload 6, 2) := dk_21 6 (dk_at dksL_law_120 10 rfl rfl)
theorem dL_law_3070 : decode cL_law 3070 = .ok (.ifCond .ne 35, 3) := dk_154 0 35 (dk_at dksL_law_120 12 rfl rfl)
theorem dL_law_3073 : decode cL_law 3073 = .ok (.aload 4, 2) := dk_25 4 (dk_at dksL_law_120 15 rfl rfl)
theorem dL_law_3075 : decode cL_law 3075 = .ok (.iconst 0, 1) := dk_3 (dk_at dksL_law_120 17 rfl rfl)
theorem dL_law_3076 : decode cL_law 3076 = .ok (.daload, 1) := dk_49 (dk_at dksL_law_120 18 rfl rfl)
theorem dL_law_3077 : decode cL_law 3077 = .ok (.dload 7, 2) := dk_24 7 (dk_at dksL_law_120 19 rfl rfl)
theorem dL_law_3079 : decode cL_law 3079 = .ok (.dcmp .l, 1) := dk_151 (dk_at dksL_law_120 21 rfl rfl)
theorem dL_law_3080 : decode cL_law 3080 = .ok (.ifCond .eq 25, 3) := dk_153 0 25 (dk_at dksL_law_121 0 rfl rfl)
theorem dL_law_3083 : decode cL_law 3083 = .ok (.aload 4, 2) := dk_25 4 (dk_at dksL_law_121 3 rfl rfl)
theorem dL_law_3085 : decode cL_law 3085 = .ok (.iconst 0, 1) := dk_3 (dk_at dksL_law_121 5 rfl rfl)
theorem dL_law_3086 : decode cL_law 3086 = .ok (.daload, 1) := dk_49 (dk_at dksL_law_121 6 rfl rfl)
theorem dL_law_3087 : decode cL_law 3087 = .ok (.aload 4, 2) := dk_25 4 (dk_at dksL_law_121 7 rfl rfl)
theorem dL_law_3089 : decode cL_law 3089 = .ok (.iconst 0, 1) := dk_3 (dk_at dksL_law_121 9 rfl rfl)
theorem dL_law_3090 : decode cL_law 3090 = .ok (.daload, 1) := dk_49 (dk_at dksL_law_121 10 rfl rfl)
theorem dL_law_3091 : decode cL_law 3091 = .ok (.dcmp .l, 1) := dk_151 (dk_at dksL_law_121 11 rfl rfl)
theorem dL_law_3092 : decode cL_law 3092 = .ok (.ifCond .eq 11, 3) := dk_153 0 11 (dk_at dksL_law_121 12 rfl rfl)
theorem dL_law_3095 : decode cL_law 3095 = .ok (.dload 7, 2) := dk_24 7 (dk_at dksL_law_121 15 rfl rfl)
theorem dL_law_3097 : decode cL_law 3097 = .ok (.dload 7, 2) := dk_24 7 (dk_at dksL_law_121 17 rfl rfl)
theorem dL_law_3099 : decode cL_law 3099 = .ok (.dcmp .l, 1) := dk_151 (dk_at dksL_law_121 19 rfl rfl)
theorem dL_law_3100 : decode cL_law 3100 = .ok (.ifCond .ne 5, 3) := dk_154 0 5 (dk_at dksL_law_121 20 rfl rfl)
theorem dL_law_3103 : decode cL_law 3103 = .ok (.iconst 0, 1) := dk_3 (dk_at dksL_law_121 23 rfl rfl)
theorem dL_law_3104 : decode cL_law 3104 = .ok (.ireturn, 1) := dk_172 (dk_at dksL_law_122 0 rfl rfl)
theorem dL_law_3105 : decode cL_law 3105 = .ok (.goto 1115, 3) := dk_167 4 91 (dk_at dksL_law_122 1 rfl rfl)
theorem dL_law_3108 : decode cL_law 3108 = .ok (.aload_n 1, 1) := dk_43 (dk_at dksL_law_122 4 rfl rfl)
theorem dL_law_3109 : decode cL_law 3109 = .ok (.aload_n 0, 1) := dk_42 (dk_at dksL_law_122 5 rfl rfl)
theorem dL_law_3110 : decode cL_law 3110 = .ok (.iload 5, 2) := dk_21 5 (dk_at dksL_law_122 6 rfl rfl)
theorem dL_law_3112 : decode cL_law 3112 = .ok (.iconst 1, 1) := dk_4 (dk_at dksL_law_122 8 rfl rfl)
theorem dL_law_3113 : decode cL_law 3113 = .ok (.iadd, 1) := dk_96 (dk_at dksL_law_122 9 rfl rfl)
theorem dL_law_3114 : decode cL_law 3114 = .ok (.iaload, 1) := dk_46 (dk_at dksL_law_122 10 rfl rfl)
theorem dL_law_3115 : decode cL_law 3115 = .ok (.aload_n 3, 1) := dk_45 (dk_at dksL_law_122 11 rfl rfl)
theorem dL_law_3116 : decode cL_law 3116 = .ok (.invokestatic 363, 3) := dk_184 1 107 (dk_at dksL_law_122 12 rfl rfl)
theorem dL_law_3119 : decode cL_law 3119 = .ok (.istore 6, 2) := dk_54 6 (dk_at dksL_law_122 15 rfl rfl)
theorem dL_law_3121 : decode cL_law 3121 = .ok (.aload_n 2, 1) := dk_44 (dk_at dksL_law_122 17 rfl rfl)
theorem dL_law_3122 : decode cL_law 3122 = .ok (.aload_n 0, 1) := dk_42 (dk_at dksL_law_122 18 rfl rfl)
theorem dL_law_3123 : decode cL_law 3123 = .ok (.iload 5, 2) := dk_21 5 (dk_at dksL_law_122 19 rfl rfl)
theorem dL_law_3125 : decode cL_law 3125 = .ok (.iconst 1, 1) := dk_4 (dk_at dksL_law_122 21 rfl rfl)
theorem dL_law_3126 : decode cL_law 3126 = .ok (.iadd, 1) := dk_96 (dk_at dksL_law_122 22 rfl rfl)
theorem dL_law_3127 : decode cL_law 3127 = .ok (.iaload, 1) := dk_46 (dk_at dksL_law_122 23 rfl rfl)
theorem dL_law_3128 : decode cL_law 3128 = .ok (.invokevirtual 365, 3) := dk_182 1 109 (dk_at dksL_law_123 0 rfl rfl)
theorem dL_law_3131 : decode cL_law 3131 = .ok (.istore 7, 2) := dk_54 7 (dk_at dksL_law_123 3 rfl rfl)
theorem dL_law_3133 : decode cL_law 3133 = .ok (.aload_n 2, 1) := dk_44 (dk_at dksL_law_123 5 rfl rfl)
theorem dL_law_3134 : decode cL_law 3134 = .ok (.invokevirtual 223, 3) := dk_182 0 223 (dk_at dksL_law_123 6 rfl rfl)
theorem dL_law_3137 : decode cL_law 3137 = .ok (.iload 6, 2) := dk_21 6 (dk_at dksL_law_123 9 rfl rfl)
theorem dL_law_3139 : decode cL_law 3139 = .ok (.if_icmp .eq 5, 3) := dk_159 0 5 (dk_at dksL_law_123 11 rfl rfl)
theorem dL_law_3142 : decode cL_law 3142 = .ok (.iconst 0, 1) := dk_3 (dk_at dksL_law_123 14 rfl rfl)
theorem dL_law_3143 : decode cL_law 3143 = .ok (.ireturn, 1) := dk_172 (dk_at dksL_law_123 15 rfl rfl)
theorem dL_law_3144 : decode cL_law 3144 = .ok (.iload 6, 2) := dk_21 6 (dk_at dksL_law_123 16 rfl rfl)
theorem dL_law_3146 : decode cL_law 3146 = .ok (.ifCond .ne 15, 3) := dk_154 0 15 (dk_at dksL_law_123 18 rfl rfl)
theorem dL_law_3149 : decode cL_law 3149 = .ok (.aload_n 3, 1) := dk_45 (dk_at dksL_law_123 21 rfl rfl)
theorem dL_law_3150 : decode cL_law 3150 = .ok (.iconst 0, 1) := dk_3 (dk_at dksL_law_123 22 rfl rfl)
theorem dL_law_3151 : decode cL_law 3151 = .ok (.laload, 1) := dk_47 (dk_at dksL_law_123 23 rfl rfl)
theorem dL_law_3152 : decode cL_law 3152 = .ok (.iload 7, 2) := dk_21 7 (dk_at dksL_law_124 0 rfl rfl)
theorem dL_law_3154 : decode cL_law 3154 = .ok (.i2l, 1) := dk_133 (dk_at dksL_law_124 2 rfl rfl)
theorem dL_law_3155 : decode cL_law 3155 = .ok (.lcmp, 1) := dk_148 (dk_at dksL_law_124 3 rfl rfl)
theorem dL_law_3156 : decode cL_law 3156 = .ok (.ifCond .eq 5, 3) := dk_153 0 5 (dk_at dksL_law_124 4 rfl rfl)
theorem dL_law_3159 : decode cL_law 3159 = .ok (.iconst 0, 1) := dk_3 (dk_at dksL_law_124 7 rfl rfl)
theorem dL_law_3160 : decode cL_law 3160 = .ok (.ireturn, 1) := dk_172 (dk_at dksL_law_124 8 rfl rfl)
theorem dL_law_3161 : decode cL_law 3161 = .ok (.goto 1059, 3) := dk_167 4 35 (dk_at dksL_law_124 9 rfl rfl)
theorem dL_law_3164 : decode cL_law 3164 = .ok (.aload_n 1, 1) := dk_43 (dk_at dksL_law_124 12 rfl rfl)
theorem dL_law_3165 : decode cL_law 3165 = .ok (.aload_n 0, 1) := dk_42 (dk_at dksL_law_124 13 rfl rfl)
theorem dL_law_3166 : decode cL_law 3166 = .ok (.iload 5, 2) := dk_21 5 (dk_at dksL_law_124 14 rfl rfl)
theorem dL_law_3168 : decode cL_law 3168 = .ok (.iconst 1, 1) := dk_4 (dk_at dksL_law_124 16 rfl rfl)
theorem dL_law_3169 : decode cL_law 3169 = .ok (.iadd, 1) := dk_96 (dk_at dksL_law_124 17 rfl rfl)
theorem dL_law_3170 : decode cL_law 3170 = .ok (.iaload, 1) := dk_46 (dk_at dksL_law_124 18 rfl rfl)
theorem dL_law_3171 : decode cL_law 3171 = .ok (.aload_n 3, 1) := dk_45 (dk_at dksL_law_124 19 rfl rfl)
theorem dL_law_3172 : decode cL_law 3172 = .ok (.invokestatic 366, 3) := dk_184 1 110 (dk_at dksL_law_124 20 rfl rfl)
theorem dL_law_3175 : decode cL_law 3175 = .ok (.istore 6, 2) := dk_54 6 (dk_at dksL_law_125 0 rfl rfl)
theorem dL_law_3177 : decode cL_law 3177 = .ok (.aload_n 2, 1) := dk_44 (dk_at dksL_law_125 2 rfl rfl)
theorem dL_law_3178 : decode cL_law 3178 = .ok (.aload_n 0, 1) := dk_42 (dk_at dksL_law_125 3 rfl rfl)
theorem dL_law_3179 : decode cL_law 3179 = .ok (.iload 5, 2) := dk_21 5 (dk_at dksL_law_125 4 rfl rfl)
theorem dL_law_3181 : decode cL_law 3181 = .ok (.iconst 1, 1) := dk_4 (dk_at dksL_law_125 6 rfl rfl)
theorem dL_law_3182 : decode cL_law 3182 = .ok (.iadd, 1) := dk_96 (dk_at dksL_law_125 7 rfl rfl)
theorem dL_law_3183 : decode cL_law 3183 = .ok (.iaload, 1) := dk_46 (dk_at dksL_law_125 8 rfl rfl)
theorem dL_law_3184 : decode cL_law 3184 = .ok (.invokevirtual 368, 3) := dk_182 1 112 (dk_at dksL_law_125 9 rfl rfl)
theorem dL_law_3187 : decode cL_law 3187 = .ok (.istore 7, 2) := dk_54 7 (dk_at dksL_law_125 12 rfl rfl)
theorem dL_law_3189 : decode cL_law 3189 = .ok (.aload_n 2, 1) := dk_44 (dk_at dksL_law_125 14 rfl rfl)
theorem dL_law_3190 : decode cL_law 3190 = .ok (.invokevirtual 223, 3) := dk_182 0 223 (dk_at dksL_law_125 15 rfl rfl)
theorem dL_law_3193 : decode cL_law 3193 = .ok (.iload 6, 2) := dk_21 6 (dk_at dksL_law_125 18 rfl rfl)
theorem dL_law_3195 : decode cL_law 3195 = .ok (.if_icmp .eq 5, 3) := dk_159 0 5 (dk_at dksL_law_125 20 rfl rfl)
theorem dL_law_3198 : decode cL_law 3198 = .ok (.iconst 0, 1) := dk_3 (dk_at dksL_law_125 23 rfl rfl)
theorem dL_law_3199 : decode cL_law 3199 = .ok (.ireturn, 1) := dk_172 (dk_at dksL_law_126 0 rfl rfl)
theorem dL_law_3200 : decode cL_law 3200 = .ok (.iload 6, 2) := dk_21 6 (dk_at dksL_law_126 1 rfl rfl)
theorem dL_law_3202 : decode cL_law 3202 = .ok (.ifCond .ne 15, 3) := dk_154 0 15 (dk_at dksL_law_126 3 rfl rfl)
theorem dL_law_3205 : decode cL_law 3205 = .ok (.aload_n 3, 1) := dk_45 (dk_at dksL_law_126 6 rfl rfl)
theorem dL_law_3206 : decode cL_law 3206 = .ok (.iconst 0, 1) := dk_3 (dk_at dksL_law_126 7 rfl rfl)
theorem dL_law_3207 : decode cL_law 3207 = .ok (.laload, 1) := dk_47 (dk_at dksL_law_126 8 rfl rfl)
theorem dL_law_3208 : decode cL_law 3208 = .ok (.iload 7, 2) := dk_21 7 (dk_at dksL_law_126 9 rfl rfl)
theorem dL_law_3210 : decode cL_law 3210 = .ok (.i2l, 1) := dk_133 (dk_at dksL_law_126 11 rfl rfl)
theorem dL_law_3211 : decode cL_law 3211 = .ok (.lcmp, 1) := dk_148 (dk_at dksL_law_126 12 rfl rfl)
theorem dL_law_3212 : decode cL_law 3212 = .ok (.ifCond .eq 5, 3) := dk_153 0 5 (dk_at dksL_law_126 13 rfl rfl)
theorem dL_law_3215 : decode cL_law 3215 = .ok (.iconst 0, 1) := dk_3 (dk_at dksL_law_126 16 rfl rfl)
theorem dL_law_3216 : decode cL_law 3216 = .ok (.ireturn, 1) := dk_172 (dk_at dksL_law_126 17 rfl rfl)
theorem dL_law_3217 : decode cL_law 3217 = .ok (.goto 1003, 3) := dk_167 3 235 (dk_at dksL_law_126 18 rfl rfl)
theorem dL_law_3220 : decode cL_law 3220 = .ok (.aload_n 1, 1) := dk_43 (dk_at dksL_law_126 21 rfl rfl)
theorem dL_law_3221 : decode cL_law 3221 = .ok (.aload 4, 2) := dk_25 4 (dk_at dksL_law_126 22 rfl rfl)
theorem dL_law_3223 : decode cL_law 3223 = .ok (.invokestatic 369, 3) := dk_184 1 113 (dk_at dksL_law_127 0 rfl rfl)
theorem dL_law_3226 : decode cL_law 3226 = .ok (.istore 6, 2) := dk_54 6 (dk_at dksL_law_127 3 rfl rfl)
theorem dL_law_3228 : decode cL_law 3228 = .ok (.aload_n 2, 1) := dk_44 (dk_at dksL_law_127 5 rfl rfl)
theorem dL_law_3229 : decode cL_law 3229 = .ok (.invokevirtual 372, 3) := dk_182 1 116 (dk_at dksL_law_127 6 rfl rfl)
theorem dL_law_3232 : decode cL_law 3232 = .ok (.fstore 7, 2) := dk_56 7 (dk_at dksL_law_127 9 rfl rfl)
theorem dL_law_3234 : decode cL_law 3234 = .ok (.aload_n 2, 1) := dk_44 (dk_at dksL_law_127 11 rfl rfl)
theorem dL_law_3235 : decode cL_law 3235 = .ok (.invokevirtual 223, 3) := dk_182 0 223 (dk_at dksL_law_127 12 rfl rfl)
theorem dL_law_3238 : decode cL_law 3238 = .ok (.iload 6, 2) := dk_21 6 (dk_at dksL_law_127 15 rfl rfl)
theorem dL_law_3240 : decode cL_law 3240 = .ok (.if_icmp .eq 5, 3) := dk_159 0 5 (dk_at dksL_law_127 17 rfl rfl)
theorem dL_law_3243 : decode cL_law 3243 = .ok (.iconst 0, 1) := dk_3 (dk_at dksL_law_127 20 rfl rfl)
theorem dL_law_3244 : decode cL_law 3244 = .ok (.ireturn, 1) := dk_172 (dk_at dksL_law_127 21 rfl rfl)
theorem dL_law_3245 : decode cL_law 3245 = .ok (.iload 6, 2) := dk_21 6 (dk_at dksL_law_127 22 rfl rfl)
theorem dL_law_3247 : decode cL_law 3247 = .ok (.ifCond .ne 36, 3) := dk_154 0 36 (dk_at dksL_law_128 0 rfl rfl)
theorem dL_law_3250 : decode cL_law 3250 = .ok (.aload 4, 2) := dk_25 4 (dk_at dksL_law_128 3 rfl rfl)
theorem dL_law_3252 : decode cL_law 3252 = .ok (.iconst 0, 1) := dk_3 (dk_at dksL_law_128 5 rfl rfl)
theorem dL_law_3253 : decode cL_law 3253 = .ok (.daload, 1) := dk_49 (dk_at dksL_law_128 6 rfl rfl)
theorem dL_law_3254 : decode cL_law 3254 = .ok (.fload 7, 2) := dk_23 7 (dk_at dksL_law_128 7 rfl rfl)
theorem dL_law_3256 : decode cL_law 3256 = .ok (.f2d, 1) := dk_141 (dk_at dksL_law_128 9 rfl rfl)
theorem dL_law_3257 : decode cL_law 3257 = .ok (.dcmp .l, 1) := dk_151 (dk_at dksL_law_128 10 rfl rfl)
theorem dL_law_3258 : decode cL_law 3258 = .ok (.ifCond .eq 25, 3) := dk_153 0 25 (dk_at dksL_law_128 11 rfl rfl)
theorem dL_law_3261 : decode cL_law 3261 = .ok (.aload 4, 2) := dk_25 4 (dk_at dksL_law_128 14 rfl rfl)
theorem dL_law_3263 : decode cL_law 3263 = .ok (.iconst 0, 1) := dk_3 (dk_at dksL_law_128 16 rfl rfl)
theorem dL_law_3264 : decode cL_law 3264 = .ok (.daload, 1) := dk_49 (dk_at dksL_law_128 17 rfl rfl)
theorem dL_law_3265 : decode cL_law 3265 = .ok (.aload 4, 2) := dk_25 4 (dk_at dksL_law_128 18 rfl rfl)
theorem dL_law_3267 : decode cL_law 3267 = .ok (.iconst 0, 1) := dk_3 (dk_at dksL_law_128 20 rfl rfl)
theorem dL_law_3268 : decode cL_law 3268 = .ok (.daload, 1) := dk_49 (dk_at dksL_law_128 21 rfl rfl)
theorem dL_law_3269 : decode cL_law 3269 = .ok (.dcmp .l, 1) := dk_151 (dk_at dksL_law_128 22 rfl rfl)
theorem dL_law_3270 : decode cL_law 3270 = .ok (.ifCond .eq 11, 3) := dk_153 0 11 (dk_at dksL_law_129 0 rfl rfl)
theorem dL_law_3273 : decode cL_law 3273 = .ok (.fload 7, 2) := dk_23 7 (dk_at dksL_law_129 3 rfl rfl)
theorem dL_law_3275 : decode cL_law 3275 = .ok (.fload 7, 2) := dk_23 7 (dk_at dksL_law_129 5 rfl rfl)
theorem dL_law_3277 : decode cL_law 3277 = .ok (.fcmp .l, 1) := dk_149 (dk_at dksL_law_129 7 rfl rfl)
theorem dL_law_3278 : decode cL_law 3278 = .ok (.ifCond .ne 5, 3) := dk_154 0 5 (dk_at dksL_law_129 8 rfl rfl)
theorem dL_law_3281 : decode cL_law 3281 = .ok (.iconst 0, 1) := dk_3 (dk_at dksL_law_129 11 rfl rfl)
theorem dL_law_3282 : decode cL_law 3282 = .ok (.ireturn, 1) := dk_172 (dk_at dksL_law_129 12 rfl rfl)
theorem dL_law_3283 : decode cL_law 3283 = .ok (.goto 937, 3) := dk_167 3 169 (dk_at dksL_law_129 13 rfl rfl)
theorem dL_law_3286 : decode cL_law 3286 = .ok (.aload_n 1, 1) := dk_43 (dk_at dksL_law_129 16 rfl rfl)
theorem dL_law_3287 : decode cL_law 3287 = .ok (.aload_n 3, 1) := dk_45 (dk_at dksL_law_129 17 rfl rfl)
theorem dL_law_3288 : decode cL_law 3288 = .ok (.invokestatic 373, 3) := dk_184 1 117 (dk_at dksL_law_129 18 rfl rfl)
theorem dL_law_3291 : decode cL_law 3291 = .ok (.istore 6, 2) := dk_54 6 (dk_at dksL_law_129 21 rfl rfl)
theorem dL_law_3293 : decode cL_law 3293 = .ok (.aload_n 2, 1) := dk_44 (dk_at dksL_law_129 23 rfl rfl)
theorem dL_law_3294 : decode cL_law 3294 = .ok (.invokevirtual 375, 3) := dk_182 1 119 (dk_at dksL_law_130 0 rfl rfl)
theorem dL_law_3297 : decode cL_law 3297 = .ok (.istore 7, 2) := dk_54 7 (dk_at dksL_law_130 3 rfl rfl)
theorem dL_law_3299 : decode cL_law 3299 = .ok (.aload_n 2, 1) := dk_44 (dk_at dksL_law_130 5 rfl rfl)
theorem dL_law_3300 : decode cL_law 3300 = .ok (.invokevirtual 223, 3) := dk_182 0 223 (dk_at dksL_law_130 6 rfl rfl)
theorem dL_law_3303 : decode cL_law 3303 = .ok (.iload 6, 2) := dk_21 6 (dk_at dksL_law_130 9 rfl rfl)
theorem dL_law_3305 : decode cL_law 3305 = .ok (.if_icmp .eq 5, 3) := dk_159 0 5 (dk_at dksL_law_130 11 rfl rfl)
theorem dL_law_3308 : decode cL_law 3308 = .ok (.iconst 0, 1) := dk_3 (dk_at dksL_law_130 14 rfl rfl)
theorem dL_law_3309 : decode cL_law 3309 = .ok (.ireturn, 1) := dk_172 (dk_at dksL_law_130 15 rfl rfl)
theorem dL_law_3310 : decode cL_law 3310 = .ok (.iload 6, 2) := dk_21 6 (dk_at dksL_law_130 16 rfl rfl)
theorem dL_law_3312 : decode cL_law 3312 = .ok (.ifCond .ne 15, 3) := dk_154 0 15 (dk_at dksL_law_130 18 rfl rfl)
theorem dL_law_3315 : decode cL_law 3315 = .ok (.aload_n 3, 1) := dk_45 (dk_at dksL_law_130 21 rfl rfl)
theorem dL_law_3316 : decode cL_law 3316 = .ok (.iconst 0, 1) := dk_3 (dk_at dksL_law_130 22 rfl rfl)
theorem dL_law_3317 : decode cL_law 3317 = .ok (.laload, 1) := dk_47 (dk_at dksL_law_130 23 rfl rfl)
theorem dL_law_3318 : decode cL_law 3318 = .ok (.iload 7, 2) := dk_21 7 (dk_at dksL_law_131 0 rfl rfl)
theorem dL_law_3320 : decode cL_law 3320 = .ok (.i2l, 1) := dk_133 (dk_at dksL_law_131 2 rfl rfl)
theorem dL_law_3321 : decode cL_law 3321 = .ok (.lcmp, 1) := dk_148 (dk_at dksL_law_131 3 rfl rfl)
theorem dL_law_3322 : decode cL_law 3322 = .ok (.ifCond .eq 5, 3) := dk_153 0 5 (dk_at dksL_law_131 4 rfl rfl)
theorem dL_law_3325 : decode cL_law 3325 = .ok (.iconst 0, 1) := dk_3 (dk_at dksL_law_131 7 rfl rfl)
theorem dL_law_3326 : decode cL_law 3326 = .ok (.ireturn, 1) := dk_172 (dk_at dksL_law_131 8 rfl rfl)
theorem dL_law_3327 : decode cL_law 3327 = .ok (.goto 893, 3) := dk_167 3 125 (dk_at dksL_law_131 9 rfl rfl)
theorem dL_law_3330 : decode cL_law 3330 = .ok (.aload_n 1, 1) := dk_43 (dk_at dksL_law_131 12 rfl rfl)
theorem dL_law_3331 : decode cL_law 3331 = .ok (.aload 4, 2) := dk_25 4 (dk_at dksL_law_131 13 rfl rfl)
theorem dL_law_3333 : decode cL_law 3333 = .ok (.invokestatic 376, 3) := dk_184 1 120 (dk_at dksL_law_131 15 rfl rfl)
theorem dL_law_3336 : decode cL_law 3336 = .ok (.istore 6, 2) := dk_54 6 (dk_at dksL_law_131 18 rfl rfl)
theorem dL_law_3338 : decode cL_law 3338 = .ok (.aload_n 2, 1) := dk_44 (dk_at dksL_law_131 20 rfl rfl)
theorem dL_law_3339 : decode cL_law 3339 = .ok (.invokevirtual 378, 3) := dk_182 1 122 (dk_at dksL_law_131 21 rfl rfl)
theorem dL_law_3342 : decode cL_law 3342 = .ok (.dstore 7, 2) := dk_57 7 (dk_at dksL_law_132 0 rfl rfl)
theorem dL_law_3344 : decode cL_law 3344 = .ok (.aload_n 2, 1) := dk_44 (dk_at dksL_law_132 2 rfl rfl)
theorem dL_law_3345 : decode cL_law 3345 = .ok (.invokevirtual 223, 3) := dk_182 0 223 (dk_at dksL_law_132 3 rfl rfl)
theorem dL_law_3348 : decode cL_law 3348 = .ok (.iload 6, 2) := dk_21 6 (dk_at dksL_law_132 6 rfl rfl)
theorem dL_law_3350 : decode cL_law 3350 = .ok (.if_icmp .eq 5, 3) := dk_159 0 5 (dk_at dksL_law_132 8 rfl rfl)
theorem dL_law_3353 : decode cL_law 3353 = .ok (.iconst 0, 1) := dk_3 (dk_at dksL_law_132 11 rfl rfl)
theorem dL_law_3354 : decode cL_law 3354 = .ok (.ireturn, 1) := dk_172 (dk_at dksL_law_132 12 rfl rfl)
theorem dL_law_3355 : decode cL_law 3355 = .ok (.iload 6, 2) := dk_21 6 (dk_at dksL_law_132 13 rfl rfl)
theorem dL_law_3357 : decode cL_law 3357 = .ok (.ifCond .ne 35, 3) := dk_154 0 35 (dk_at dksL_law_132 15 rfl rfl)
theorem dL_law_3360 : decode cL_law 3360 = .ok (.aload 4, 2) := dk_25 4 (dk_at dksL_law_132 18 rfl rfl)
theorem dL_law_3362 : decode cL_law 3362 = .ok (.iconst 0, 1) := dk_3 (dk_at dksL_law_132 20 rfl rfl)
theorem dL_law_3363 : decode cL_law 3363 = .ok (.daload, 1) := dk_49 (dk_at dksL_law_132 21 rfl rfl)
theorem dL_law_3364 : decode cL_law 3364 = .ok (.dload 7, 2) := dk_24 7 (dk_at dksL_law_132 22 rfl rfl)
theorem dL_law_3366 : decode cL_law 3366 = .ok (.dcmp .l, 1) := dk_151 (dk_at dksL_law_133 0 rfl rfl)
theorem dL_law_3367 : decode cL_law 3367 = .ok (.ifCond .eq 25, 3) := dk_153 0 25 (dk_at dksL_law_133 1 rfl rfl)
theorem dL_law_3370 : decode cL_law 3370 = .ok (.aload 4, 2) := dk_25 4 (dk_at dksL_law_133 4 rfl rfl)
theorem dL_law_3372 : decode cL_law 3372 = .ok (.iconst 0, 1) := dk_3 (dk_at dksL_law_133 6 rfl rfl)
theorem dL_law_3373 : decode cL_law 3373 = .ok (.daload, 1) := dk_49 (dk_at dksL_law_133 7 rfl rfl)
theorem dL_law_3374 : decode cL_law 3374 = .ok (.aload 4, 2) := dk_25 4 (dk_at dksL_law_133 8 rfl rfl)
theorem dL_law_3376 : decode cL_law 3376 = .ok (.iconst 0, 1) := dk_3 (dk_at dksL_law_133 10 rfl rfl)
theorem dL_law_3377 : decode cL_law 3377 = .ok (.daload, 1) := dk_49 (dk_at dksL_law_133 11 rfl rfl)
theorem dL_law_3378 : decode cL_law 3378 = .ok (.dcmp .l, 1) := dk_151 (dk_at dksL_law_133 12 rfl rfl)
theorem dL_law_3379 : decode cL_law 3379 = .ok (.ifCond .eq 11, 3) := dk_153 0 11 (dk_at dksL_law_133 13 rfl rfl)
theorem dL_law_3382 : decode cL_law 3382 = .ok (.dload 7, 2) := dk_24 7 (dk_at dksL_law_133 16 rfl rfl)
theorem dL_law_3384 : decode cL_law 3384 = .ok (.dload 7, 2) := dk_24 7 (dk_at dksL_law_133 18 rfl rfl)
theorem dL_law_3386 : decode cL_law 3386 = .ok (.dcmp .l, 1) := dk_151 (dk_at dksL_law_133 20 rfl rfl)
theorem dL_law_3387 : decode cL_law 3387 = .ok (.ifCond .ne 5, 3) := dk_154 0 5 (dk_at dksL_law_133 21 rfl rfl)
theorem dL_law_3390 : decode cL_law 3390 = .ok (.iconst 0, 1) := dk_3 (dk_at dksL_law_134 0 rfl rfl)
theorem dL_law_3391 : decode cL_law 3391 = .ok (.ireturn, 1) := dk_172 (dk_at dksL_law_134 1 rfl rfl)
theorem dL_law_3392 : decode cL_law 3392 = .ok (.goto 828, 3) := dk_167 3 60 (dk_at dksL_law_134 2 rfl rfl)
theorem dL_law_3395 : decode cL_law 3395 = .ok (.aload_n 1, 1) := dk_43 (dk_at dksL_law_134 5 rfl rfl)
theorem dL_law_3396 : decode cL_law 3396 = .ok (.aload_n 3, 1) := dk_45 (dk_at dksL_law_134 6 rfl rfl)
theorem dL_law_3397 : decode cL_law 3397 = .ok (.invokestatic 379, 3) := dk_184 1 123 (dk_at dksL_law_134 7 rfl rfl)
theorem dL_law_3400 : decode cL_law 3400 = .ok (.istore 6, 2) := dk_54 6 (dk_at dksL_law_134 10 rfl rfl)
theorem dL_law_3402 : decode cL_law 3402 = .ok (.aload_n 2, 1) := dk_44 (dk_at dksL_law_134 12 rfl rfl)
theorem dL_law_3403 : decode cL_law 3403 = .ok (.invokevirtual 381, 3) := dk_182 1 125 (dk_at dksL_law_134 13 rfl rfl)
theorem dL_law_3406 : decode cL_law 3406 = .ok (.istore 7, 2) := dk_54 7 (dk_at dksL_law_134 16 rfl rfl)
theorem dL_law_3408 : decode cL_law 3408 = .ok (.aload_n 2, 1) := dk_44 (dk_at dksL_law_134 18 rfl rfl)
theorem dL_law_3409 : decode cL_law 3409 = .ok (.invokevirtual 223, 3) := dk_182 0 223 (dk_at dksL_law_134 19 rfl rfl)
theorem dL_law_3412 : decode cL_law 3412 = .ok (.iload 6, 2) := dk_21 6 (dk_at dksL_law_134 22 rfl rfl)
theorem dL_law_3414 : decode cL_law 3414 = .ok (.if_icmp .eq 5, 3) := dk_159 0 5 (dk_at dksL_law_135 0 rfl rfl)
theorem dL_law_3417 : decode cL_law 3417 = .ok (.iconst 0, 1) := dk_3 (dk_at dksL_law_135 3 rfl rfl)
theorem dL_law_3418 : decode cL_law 3418 = .ok (.ireturn, 1) := dk_172 (dk_at dksL_law_135 4 rfl rfl)
theorem dL_law_3419 : decode cL_law 3419 = .ok (.iload 6, 2) := dk_21 6 (dk_at dksL_law_135 5 rfl rfl)
theorem dL_law_3421 : decode cL_law 3421 = .ok (.ifCond .ne 15, 3) := dk_154 0 15 (dk_at dksL_law_135 7 rfl rfl)
theorem dL_law_3424 : decode cL_law 3424 = .ok (.aload_n 3, 1) := dk_45 (dk_at dksL_law_135 10 rfl rfl)
theorem dL_law_3425 : decode cL_law 3425 = .ok (.iconst 0, 1) := dk_3 (dk_at dksL_law_135 11 rfl rfl)
theorem dL_law_3426 : decode cL_law 3426 = .ok (.laload, 1) := dk_47 (dk_at dksL_law_135 12 rfl rfl)
theorem dL_law_3427 : decode cL_law 3427 = .ok (.iload 7, 2) := dk_21 7 (dk_at dksL_law_135 13 rfl rfl)
theorem dL_law_3429 : decode cL_law 3429 = .ok (.i2l, 1) := dk_133 (dk_at dksL_law_135 15 rfl rfl)
theorem dL_law_3430 : decode cL_law 3430 = .ok (.lcmp, 1) := dk_148 (dk_at dksL_law_135 16 rfl rfl)
theorem dL_law_3431 : decode cL_law 3431 = .ok (.ifCond .eq 5, 3) := dk_153 0 5 (dk_at dksL_law_135 17 rfl rfl)
theorem dL_law_3434 : decode cL_law 3434 = .ok (.iconst 0, 1) := dk_3 (dk_at dksL_law_135 20 rfl rfl)
theorem dL_law_3435 : decode cL_law 3435 = .ok (.ireturn, 1) := dk_172 (dk_at dksL_law_135 21 rfl rfl)
theorem dL_law_3436 : decode cL_law 3436 = .ok (.goto 784, 3) := dk_167 3 16 (dk_at dksL_law_136 0 rfl rfl)
theorem dL_law_3439 : decode cL_law 3439 = .ok (.aload_n 1, 1) := dk_43 (dk_at dksL_law_136 3 rfl rfl)
theorem dL_law_3440 : decode cL_law 3440 = .ok (.aload_n 3, 1) := dk_45 (dk_at dksL_law_136 4 rfl rfl)
theorem dL_law_3441 : decode cL_law 3441 = .ok (.invokestatic 382, 3) := dk_184 1 126 (dk_at dksL_law_136 5 rfl rfl)
theorem dL_law_3444 : decode cL_law 3444 = .ok (.istore 6, 2) := dk_54 6 (dk_at dksL_law_136 8 rfl rfl)
theorem dL_law_3446 : decode cL_law 3446 = .ok (.aload_n 2, 1) := dk_44 (dk_at dksL_law_136 10 rfl rfl)
theorem dL_law_3447 : decode cL_law 3447 = .ok (.invokevirtual 384, 3) := dk_182 1 128 (dk_at dksL_law_136 11 rfl rfl)
theorem dL_law_3450 : decode cL_law 3450 = .ok (.istore 7, 2) := dk_54 7 (dk_at dksL_law_136 14 rfl rfl)
theorem dL_law_3452 : decode cL_law 3452 = .ok (.aload_n 2, 1) := dk_44 (dk_at dksL_law_136 16 rfl rfl)
theorem dL_law_3453 : decode cL_law 3453 = .ok (.invokevirtual 223, 3) := dk_182 0 223 (dk_at dksL_law_136 17 rfl rfl)
theorem dL_law_3456 : decode cL_law 3456 = .ok (.iload 6, 2) := dk_21 6 (dk_at dksL_law_136 20 rfl rfl)
theorem dL_law_3458 : decode cL_law 3458 = .ok (.if_icmp .eq 5, 3) := dk_159 0 5 (dk_at dksL_law_137 0 rfl rfl)
theorem dL_law_3461 : decode cL_law 3461 = .ok (.iconst 0, 1) := dk_3 (dk_at dksL_law_137 3 rfl rfl)
theorem dL_law_3462 : decode cL_law 3462 = .ok (.ireturn, 1) := dk_172 (dk_at dksL_law_137 4 rfl rfl)
theorem dL_law_3463 : decode cL_law 3463 = .ok (.iload 6, 2) := dk_21 6 (dk_at dksL_law_137 5 rfl rfl)
theorem dL_law_3465 : decode cL_law 3465 = .ok (.ifCond .ne 15, 3) := dk_154 0 15 (dk_at dksL_law_137 7 rfl rfl)
theorem dL_law_3468 : decode cL_law 3468 = .ok (.aload_n 3, 1) := dk_45 (dk_at dksL_law_137 10 rfl rfl)
theorem dL_law_3469 : decode cL_law 3469 = .ok (.iconst 0, 1) := dk_3 (dk_at dksL_law_137 11 rfl rfl)
theorem dL_law_3470 : decode cL_law 3470 = .ok (.laload, 1) := dk_47 (dk_at dksL_law_137 12 rfl rfl)
theorem dL_law_3471 : decode cL_law 3471 = .ok (.iload 7, 2) := dk_21 7 (dk_at dksL_law_137 13 rfl rfl)
theorem dL_law_3473 : decode cL_law 3473 = .ok (.i2l, 1) := dk_133 (dk_at dksL_law_137 15 rfl rfl)
theorem dL_law_3474 : decode cL_law 3474 = .ok (.lcmp, 1) := dk_148 (dk_at dksL_law_137 16 rfl rfl)
theorem dL_law_3475 : decode cL_law 3475 = .ok (.ifCond .eq 5, 3) := dk_153 0 5 (dk_at dksL_law_137 17 rfl rfl)
theorem dL_law_3478 : decode cL_law 3478 = .ok (.iconst 0, 1) := dk_3 (dk_at dksL_law_137 20 rfl rfl)
theorem dL_law_3479 : decode cL_law 3479 = .ok (.ireturn, 1) := dk_172 (dk_at dksL_law_137 21 rfl rfl)
theorem dL_law_3480 : decode cL_law 3480 = .ok (.goto 740, 3) := dk_167 2 228 (dk_at dksL_law_138 0 rfl rfl)
theorem dL_law_3483 : decode cL_law 3483 = .ok (.aload_n 1, 1) := dk_43 (dk_at dksL_law_138 3 rfl rfl)
theorem dL_law_3484 : decode cL_law 3484 = .ok (.aload_n 3, 1) := dk_45 (dk_at dksL_law_138 4 rfl rfl)
theorem dL_law_3485 : decode cL_law 3485 = .ok (.invokestatic 385, 3) := dk_184 1 129 (dk_at dksL_law_138 5 rfl rfl)
theorem dL_law_3488 : decode cL_law 3488 = .ok (.istore 6, 2) := dk_54 6 (dk_at dksL_law_138 8 rfl rfl)
theorem dL_law_3490 : decode cL_law 3490 = .ok (.aload_n 2, 1) := dk_44 (dk_at dksL_law_138 10 rfl rfl)
theorem dL_law_3491 : decode cL_law 3491 = .ok (.invokevirtual 387, 3) := dk_182 1 131 (dk_at dksL_law_138 11 rfl rfl)
theorem dL_law_3494 : decode cL_law 3494 = .ok (.istore 7, 2) := dk_54 7 (dk_at dksL_law_138 14 rfl rfl)
theorem dL_law_3496 : decode cL_law 3496 = .ok (.aload_n 2, 1) := dk_44 (dk_at dksL_law_138 16 rfl rfl)
theorem dL_law_3497 : decode cL_law 3497 = .ok (.invokevirtual 223, 3) := dk_182 0 223 (dk_at dksL_law_138 17 rfl rfl)
theorem dL_law_3500 : decode cL_law 3500 = .ok (.iload 6, 2) := dk_21 6 (dk_at dksL_law_138 20 rfl rfl)
theorem dL_law_3502 : decode cL_law 3502 = .ok (.if_icmp .eq 5, 3) := dk_159 0 5 (dk_at dksL_law_139 0 rfl rfl)
theorem dL_law_3505 : decode cL_law 3505 = .ok (.iconst 0, 1) := dk_3 (dk_at dksL_law_139 3 rfl rfl)
theorem dL_law_3506 : decode cL_law 3506 = .ok (.ireturn, 1) := dk_172 (dk_at dksL_law_139 4 rfl rfl)
theorem dL_law_3507 : decode cL_law 3507 = .ok (.iload 6, 2) := dk_21 6 (dk_at dksL_law_139 5 rfl rfl)
theorem dL_law_3509 : decode cL_law 3509 = .ok (.ifCond .ne 15, 3) := dk_154 0 15 (dk_at dksL_law_139 7 rfl rfl)
theorem dL_law_3512 : decode cL_law 3512 = .ok (.aload_n 3, 1) := dk_45 (dk_at dksL_law_139 10 rfl rfl)
theorem dL_law_3513 : decode cL_law 3513 = .ok (.iconst 0, 1) := dk_3 (dk_at dksL_law_139 11 rfl rfl)
theorem dL_law_3514 : decode cL_law 3514 = .ok (.laload, 1) := dk_47 (dk_at dksL_law_139 12 rfl rfl)
theorem dL_law_3515 : decode cL_law 3515 = .ok (.iload 7, 2) := dk_21 7 (dk_at dksL_law_139 13 rfl rfl)
theorem dL_law_3517 : decode cL_law 3517 = .ok (.i2l, 1) := dk_133 (dk_at dksL_law_139 15 rfl rfl)
theorem dL_law_3518 : decode cL_law 3518 = .ok (.lcmp, 1) := dk_148 (dk_at dksL_law_139 16 rfl rfl)
theorem dL_law_3519 : decode cL_law 3519 = .ok (.ifCond .eq 5, 3) := dk_153 0 5 (dk_at dksL_law_139 17 rfl rfl)
theorem dL_law_3522 : decode cL_law 3522 = .ok (.iconst 0, 1) := dk_3 (dk_at dksL_law_139 20 rfl rfl)
theorem dL_law_3523 : decode cL_law 3523 = .ok (.ireturn, 1) := dk_172 (dk_at dksL_law_139 21 rfl rfl)
theorem dL_law_3524 : decode cL_law 3524 = .ok (.goto 696, 3) := dk_167 2 184 (dk_at dksL_law_140 0 rfl rfl)
theorem dL_law_3527 : decode cL_law 3527 = .ok (.aload_n 1, 1) := dk_43 (dk_at dksL_law_140 3 rfl rfl)
theorem dL_law_3528 : decode cL_law 3528 = .ok (.aload_n 0, 1) := dk_42 (dk_at dksL_law_140 4 rfl rfl)
theorem dL_law_3529 : decode cL_law 3529 = .ok (.iload 5, 2) := dk_21 5 (dk_at dksL_law_140 5 rfl rfl)
theorem dL_law_3531 : decode cL_law 3531 = .ok (.iconst 1, 1) := dk_4 (dk_at dksL_law_140 7 rfl rfl)
theorem dL_law_3532 : decode cL_law 3532 = .ok (.iadd, 1) := dk_96 (dk_at dksL_law_140 8 rfl rfl)
theorem dL_law_3533 : decode cL_law 3533 = .ok (.iaload, 1) := dk_46 (dk_at dksL_law_140 9 rfl rfl)
theorem dL_law_3534 : decode cL_law 3534 = .ok (.aload_n 3, 1) := dk_45 (dk_at dksL_law_140 10 rfl rfl)
theorem dL_law_3535 : decode cL_law 3535 = .ok (.invokestatic 388, 3) := dk_184 1 132 (dk_at dksL_law_140 11 rfl rfl)
theorem dL_law_3538 : decode cL_law 3538 = .ok (.istore 6, 2) := dk_54 6 (dk_at dksL_law_140 14 rfl rfl)
theorem dL_law_3540 : decode cL_law 3540 = .ok (.aload_n 2, 1) := dk_44 (dk_at dksL_law_140 16 rfl rfl)
theorem dL_law_3541 : decode cL_law 3541 = .ok (.aload_n 0, 1) := dk_42 (dk_at dksL_law_140 17 rfl rfl)
theorem dL_law_3542 : decode cL_law 3542 = .ok (.iload 5, 2) := dk_21 5 (dk_at dksL_law_140 18 rfl rfl)
theorem dL_law_3544 : decode cL_law 3544 = .ok (.iconst 1, 1) := dk_4 (dk_at dksL_law_140 20 rfl rfl)
theorem dL_law_3545 : decode cL_law 3545 = .ok (.iadd, 1) := dk_96 (dk_at dksL_law_140 21 rfl rfl)
theorem dL_law_3546 : decode cL_law 3546 = .ok (.iaload, 1) := dk_46 (dk_at dksL_law_140 22 rfl rfl)
theorem dL_law_3547 : decode cL_law 3547 = .ok (.invokevirtual 390, 3) := dk_182 1 134 (dk_at dksL_law_141 0 rfl rfl)
theorem dL_law_3550 : decode cL_law 3550 = .ok (.istore 7, 2) := dk_54 7 (dk_at dksL_law_141 3 rfl rfl)
theorem dL_law_3552 : decode cL_law 3552 = .ok (.aload_n 2, 1) := dk_44 (dk_at dksL_law_141 5 rfl rfl)
theorem dL_law_3553 : decode cL_law 3553 = .ok (.invokevirtual 223, 3) := dk_182 0 223 (dk_at dksL_law_141 6 rfl rfl)
theorem dL_law_3556 : decode cL_law 3556 = .ok (.iload 6, 2) := dk_21 6 (dk_at dksL_law_141 9 rfl rfl)
theorem dL_law_3558 : decode cL_law 3558 = .ok (.if_icmp .eq 5, 3) := dk_159 0 5 (dk_at dksL_law_141 11 rfl rfl)
theorem dL_law_3561 : decode cL_law 3561 = .ok (.iconst 0, 1) := dk_3 (dk_at dksL_law_141 14 rfl rfl)
theorem dL_law_3562 : decode cL_law 3562 = .ok (.ireturn, 1) := dk_172 (dk_at dksL_law_141 15 rfl rfl)
theorem dL_law_3563 : decode cL_law 3563 = .ok (.iload 6, 2) := dk_21 6 (dk_at dksL_law_141 16 rfl rfl)
theorem dL_law_3565 : decode cL_law 3565 = .ok (.ifCond .ne 15, 3) := dk_154 0 15 (dk_at dksL_law_141 18 rfl rfl)
theorem dL_law_3568 : decode cL_law 3568 = .ok (.aload_n 3, 1) := dk_45 (dk_at dksL_law_141 21 rfl rfl)
theorem dL_law_3569 : decode cL_law 3569 = .ok (.iconst 0, 1) := dk_3 (dk_at dksL_law_141 22 rfl rfl)
theorem dL_law_3570 : decode cL_law 3570 = .ok (.laload, 1) := dk_47 (dk_at dksL_law_141 23 rfl rfl)
theorem dL_law_3571 : decode cL_law 3571 = .ok (.iload 7, 2) := dk_21 7 (dk_at dksL_law_142 0 rfl rfl)
theorem dL_law_3573 : decode cL_law 3573 = .ok (.i2l, 1) := dk_133 (dk_at dksL_law_142 2 rfl rfl)
theorem dL_law_3574 : decode cL_law 3574 = .ok (.lcmp, 1) := dk_148 (dk_at dksL_law_142 3 rfl rfl)
theorem dL_law_3575 : decode cL_law 3575 = .ok (.ifCond .eq 5, 3) := dk_153 0 5 (dk_at dksL_law_142 4 rfl rfl)
theorem dL_law_3578 : decode cL_law 3578 = .ok (.iconst 0, 1) := dk_3 (dk_at dksL_law_142 7 rfl rfl)
theorem dL_law_3579 : decode cL_law 3579 = .ok (.ireturn, 1) := dk_172 (dk_at dksL_law_142 8 rfl rfl)
theorem dL_law_3580 : decode cL_law 3580 = .ok (.goto 640, 3) := dk_167 2 128 (dk_at dksL_law_142 9 rfl rfl)
theorem dL_law_3583 : decode cL_law 3583 = .ok (.aload_n 1, 1) := dk_43 (dk_at dksL_law_142 12 rfl rfl)
theorem dL_law_3584 : decode cL_law 3584 = .ok (.aload_n 0, 1) := dk_42 (dk_at dksL_law_142 13 rfl rfl)
theorem dL_law_3585 : decode cL_law 3585 = .ok (.iload 5, 2) := dk_21 5 (dk_at dksL_law_142 14 rfl rfl)
theorem dL_law_3587 : decode cL_law 3587 = .ok (.iconst 1, 1) := dk_4 (dk_at dksL_law_142 16 rfl rfl)
theorem dL_law_3588 : decode cL_law 3588 = .ok (.iadd, 1) := dk_96 (dk_at dksL_law_142 17 rfl rfl)
theorem dL_law_3589 : decode cL_law 3589 = .ok (.iaload, 1) := dk_46 (dk_at dksL_law_142 18 rfl rfl)
theorem dL_law_3590 : decode cL_law 3590 = .ok (.aload_n 3, 1) := dk_45 (dk_at dksL_law_142 19 rfl rfl)
theorem dL_law_3591 : decode cL_law 3591 = .ok (.invokestatic 391, 3) := dk_184 1 135 (dk_at dksL_law_142 20 rfl rfl)
theorem dL_law_3594 : decode cL_law 3594 = .ok (.istore 6, 2) := dk_54 6 (dk_at dksL_law_143 0 rfl rfl)
theorem dL_law_3596 : decode cL_law 3596 = .ok (.aload_n 2, 1) := dk_44 (dk_at dksL_law_143 2 rfl rfl)
theorem dL_law_3597 : decode cL_law 3597 = .ok (.aload_n 0, 1) := dk_42 (dk_at dksL_law_143 3 rfl rfl)
theorem dL_law_3598 : decode cL_law 3598 = .ok (.iload 5, 2) := dk_21 5 (dk_at dksL_law_143 4 rfl rfl)
theorem dL_law_3600 : decode cL_law 3600 = .ok (.iconst 1, 1) := dk_4 (dk_at dksL_law_143 6 rfl rfl)
theorem dL_law_3601 : decode cL_law 3601 = .ok (.iadd, 1) := dk_96 (dk_at dksL_law_143 7 rfl rfl)
theorem dL_law_3602 : decode cL_law 3602 = .ok (.iaload, 1) := dk_46 (dk_at dksL_law_143 8 rfl rfl)
theorem dL_law_3603 : decode cL_law 3603 = .ok (.invokevirtual 393, 3) := dk_182 1 137 (dk_at dksL_law_143 9 rfl rfl)
theorem dL_law_3606 : decode cL_law 3606 = .ok (.istore 7, 2) := dk_54 7 (dk_at dksL_law_143 12 rfl rfl)
theorem dL_law_3608 : decode cL_law 3608 = .ok (.aload_n 2, 1) := dk_44 (dk_at dksL_law_143 14 rfl rfl)
theorem dL_law_3609 : decode cL_law 3609 = .ok (.invokevirtual 223, 3) := dk_182 0 223 (dk_at dksL_law_143 15 rfl rfl)
theorem dL_law_3612 : decode cL_law 3612 = .ok (.iload 6, 2) := dk_21 6 (dk_at dksL_law_143 18 rfl rfl)
theorem dL_law_3614 : decode cL_law 3614 = .ok (.if_icmp .eq 5, 3) := dk_159 0 5 (dk_at dksL_law_143 20 rfl rfl)
theorem dL_law_3617 : decode cL_law 3617 = .ok (.iconst 0, 1) := dk_3 (dk_at dksL_law_143 23 rfl rfl)
theorem dL_law_3618 : decode cL_law 3618 = .ok (.ireturn, 1) := dk_172 (dk_at dksL_law_144 0 rfl rfl)
theorem dL_law_3619 : decode cL_law 3619 = .ok (.iload 6, 2) := dk_21 6 (dk_at dksL_law_144 1 rfl rfl)
theorem dL_law_3621 : decode cL_law 3621 = .ok (.ifCond .ne 15, 3) := dk_154 0 15 (dk_at dksL_law_144 3 rfl rfl)
theorem dL_law_3624 : decode cL_law 3624 = .ok (.aload_n 3, 1) := dk_45 (dk_at dksL_law_144 6 rfl rfl)
theorem dL_law_3625 : decode cL_law 3625 = .ok (.iconst 0, 1) := dk_3 (dk_at dksL_law_144 7 rfl rfl)
theorem dL_law_3626 : decode cL_law 3626 = .ok (.laload, 1) := dk_47 (dk_at dksL_law_144 8 rfl rfl)
theorem dL_law_3627 : decode cL_law 3627 = .ok (.iload 7, 2) := dk_21 7 (dk_at dksL_law_144 9 rfl rfl)
theorem dL_law_3629 : decode cL_law 3629 = .ok (.i2l, 1) := dk_133 (dk_at dksL_law_144 11 rfl rfl)
theorem dL_law_3630 : decode cL_law 3630 = .ok (.lcmp, 1) := dk_148 (dk_at dksL_law_144 12 rfl rfl)
theorem dL_law_3631 : decode cL_law 3631 = .ok (.ifCond .eq 5, 3) := dk_153 0 5 (dk_at dksL_law_144 13 rfl rfl)
theorem dL_law_3634 : decode cL_law 3634 = .ok (.iconst 0, 1) := dk_3 (dk_at dksL_law_144 16 rfl rfl)
theorem dL_law_3635 : decode cL_law 3635 = .ok (.ireturn, 1) := dk_172 (dk_at dksL_law_144 17 rfl rfl)
theorem dL_law_3636 : decode cL_law 3636 = .ok (.goto 584, 3) := dk_167 2 72 (dk_at dksL_law_144 18 rfl rfl)
theorem dL_law_3639 : decode cL_law 3639 = .ok (.aload_n 1, 1) := dk_43 (dk_at dksL_law_144 21 rfl rfl)
theorem dL_law_3640 : decode cL_law 3640 = .ok (.aload_n 0, 1) := dk_42 (dk_at dksL_law_144 22 rfl rfl)
theorem dL_law_3641 : decode cL_law 3641 = .ok (.iload 5, 2) := dk_21 5 (dk_at dksL_law_145 0 rfl rfl)
theorem dL_law_3643 : decode cL_law 3643 = .ok (.iconst 1, 1) := dk_4 (dk_at dksL_law_145 2 rfl rfl)
theorem dL_law_3644 : decode cL_law 3644 = .ok (.iadd, 1) := dk_96 (dk_at dksL_law_145 3 rfl rfl)
theorem dL_law_3645 : decode cL_law 3645 = .ok (.iaload, 1) := dk_46 (dk_at dksL_law_145 4 rfl rfl)
theorem dL_law_3646 : decode cL_law 3646 = .ok (.ifCond .eq 7, 3) := dk_153 0 7 (dk_at dksL_law_145 5 rfl rfl)
theorem dL_law_3649 : decode cL_law 3649 = .ok (.iconst 1, 1) := dk_4 (dk_at dksL_law_145 8 rfl rfl)
theorem dL_law_3650 : decode cL_law 3650 = .ok (.goto 4, 3) := dk_167 0 4 (dk_at dksL_law_145 9 rfl rfl)
theorem dL_law_3653 : decode cL_law 3653 = .ok (.iconst 0, 1) := dk_3 (dk_at dksL_law_145 12 rfl rfl)
theorem dL_law_3654 : decode cL_law 3654 = .ok (.aload_n 0, 1) := dk_42 (dk_at dksL_law_145 13 rfl rfl)
theorem dL_law_3655 : decode cL_law 3655 = .ok (.iload 5, 2) := dk_21 5 (dk_at dksL_law_145 14 rfl rfl)
theorem dL_law_3657 : decode cL_law 3657 = .ok (.iconst 2, 1) := dk_5 (dk_at dksL_law_145 16 rfl rfl)
theorem dL_law_3658 : decode cL_law 3658 = .ok (.iadd, 1) := dk_96 (dk_at dksL_law_145 17 rfl rfl)
theorem dL_law_3659 : decode cL_law 3659 = .ok (.iaload, 1) := dk_46 (dk_at dksL_law_145 18 rfl rfl)
theorem dL_law_3660 : decode cL_law 3660 = .ok (.aload_n 0, 1) := dk_42 (dk_at dksL_law_145 19 rfl rfl)
theorem dL_law_3661 : decode cL_law 3661 = .ok (.iload 5, 2) := dk_21 5 (dk_at dksL_law_145 20 rfl rfl)
theorem dL_law_3663 : decode cL_law 3663 = .ok (.iconst 3, 1) := dk_6 (dk_at dksL_law_145 22 rfl rfl)
theorem dL_law_3664 : decode cL_law 3664 = .ok (.iadd, 1) := dk_96 (dk_at dksL_law_145 23 rfl rfl)
theorem dL_law_3665 : decode cL_law 3665 = .ok (.iaload, 1) := dk_46 (dk_at dksL_law_146 0 rfl rfl)
theorem dL_law_3666 : decode cL_law 3666 = .ok (.aload_n 3, 1) := dk_45 (dk_at dksL_law_146 1 rfl rfl)
theorem dL_law_3667 : decode cL_law 3667 = .ok (.invokestatic 394, 3) := dk_184 1 138 (dk_at dksL_law_146 2 rfl rfl)
theorem dL_law_3670 : decode cL_law 3670 = .ok (.istore 6, 2) := dk_54 6 (dk_at dksL_law_146 5 rfl rfl)
theorem dL_law_3672 : decode cL_law 3672 = .ok (.aload_n 2, 1) := dk_44 (dk_at dksL_law_146 7 rfl rfl)
theorem dL_law_3673 : decode cL_law 3673 = .ok (.aload_n 0, 1) := dk_42 (dk_at dksL_law_146 8 rfl rfl)
theorem dL_law_3674 : decode cL_law 3674 = .ok (.iload 5, 2) := dk_21 5 (dk_at dksL_law_146 9 rfl rfl)
theorem dL_law_3676 : decode cL_law 3676 = .ok (.iconst 1, 1) := dk_4 (dk_at dksL_law_146 11 rfl rfl)
theorem dL_law_3677 : decode cL_law 3677 = .ok (.iadd, 1) := dk_96 (dk_at dksL_law_146 12 rfl rfl)
theorem dL_law_3678 : decode cL_law 3678 = .ok (.iaload, 1) := dk_46 (dk_at dksL_law_146 13 rfl rfl)
theorem dL_law_3679 : decode cL_law 3679 = .ok (.ifCond .eq 7, 3) := dk_153 0 7 (dk_at dksL_law_146 14 rfl rfl)
theorem dL_law_3682 : decode cL_law 3682 = .ok (.iconst 1, 1) := dk_4 (dk_at dksL_law_146 17 rfl rfl)
theorem dL_law_3683 : decode cL_law 3683 = .ok (.goto 4, 3) := dk_167 0 4 (dk_at dksL_law_146 18 rfl rfl)
theorem dL_law_3686 : decode cL_law 3686 = .ok (.iconst 0, 1) := dk_3 (dk_at dksL_law_146 21 rfl rfl)
theorem dL_law_3687 : decode cL_law 3687 = .ok (.aload_n 0, 1) := dk_42 (dk_at dksL_law_146 22 rfl rfl)
theorem dL_law_3688 : decode cL_law 3688 = .ok (.iload 5, 2) := dk_21 5 (dk_at dksL_law_147 0 rfl rfl)
theorem dL_law_3690 : decode cL_law 3690 = .ok (.iconst 2, 1) := dk_5 (dk_at dksL_law_147 2 rfl rfl)
theorem dL_law_3691 : decode cL_law 3691 = .ok (.iadd, 1) := dk_96 (dk_at dksL_law_147 3 rfl rfl)
theorem dL_law_3692 : decode cL_law 3692 = .ok (.iaload, 1) := dk_46 (dk_at dksL_law_147 4 rfl rfl)
theorem dL_law_3693 : decode cL_law 3693 = .ok (.aload_n 0, 1) := dk_42 (dk_at dksL_law_147 5 rfl rfl)
theorem dL_law_3694 : decode cL_law 3694 = .ok (.iload 5, 2) := dk_21 5 (dk_at dksL_law_147 6 rfl rfl)
theorem dL_law_3696 : decode cL_law 3696 = .ok (.iconst 3, 1) := dk_6 (dk_at dksL_law_147 8 rfl rfl)
theorem dL_law_3697 : decode cL_law 3697 = .ok (.iadd, 1) := dk_96 (dk_at dksL_law_147 9 rfl rfl)
theorem dL_law_3698 : decode cL_law 3698 = .ok (.iaload, 1) := dk_46 (dk_at dksL_law_147 10 rfl rfl)
theorem dL_law_3699 : decode cL_law 3699 = .ok (.invokevirtual 397, 3) := dk_182 1 141 (dk_at dksL_law_147 11 rfl rfl)
theorem dL_law_3702 : decode cL_law 3702 = .ok (.istore 7, 2) := dk_54 7 (dk_at dksL_law_147 14 rfl rfl)
theorem dL_law_3704 : decode cL_law 3704 = .ok (.aload_n 2, 1) := dk_44 (dk_at dksL_law_147 16 rfl rfl)
theorem dL_law_3705 : decode cL_law 3705 = .ok (.invokevirtual 223, 3) := dk_182 0 223 (dk_at dksL_law_147 17 rfl rfl)
theorem dL_law_3708 : decode cL_law 3708 = .ok (.iload 6, 2) := dk_21 6 (dk_at dksL_law_147 20 rfl rfl)
theorem dL_law_3710 : decode cL_law 3710 = .ok (.if_icmp .eq 5, 3) := dk_159 0 5 (dk_at dksL_law_148 0 rfl rfl)
theorem dL_law_3713 : decode cL_law 3713 = .ok (.iconst 0, 1) := dk_3 (dk_at dksL_law_148 3 rfl rfl)
theorem dL_law_3714 : decode cL_law 3714 = .ok (.ireturn, 1) := dk_172 (dk_at dksL_law_148 4 rfl rfl)
theorem dL_law_3715 : decode cL_law 3715 = .ok (.iload 6, 2) := dk_21 6 (dk_at dksL_law_148 5 rfl rfl)
theorem dL_law_3717 : decode cL_law 3717 = .ok (.ifCond .ne 15, 3) := dk_154 0 15 (dk_at dksL_law_148 7 rfl rfl)
theorem dL_law_3720 : decode cL_law 3720 = .ok (.aload_n 3, 1) := dk_45 (dk_at dksL_law_148 10 rfl rfl)
theorem dL_law_3721 : decode cL_law 3721 = .ok (.iconst 0, 1) := dk_3 (dk_at dksL_law_148 11 rfl rfl)
theorem dL_law_3722 : decode cL_law 3722 = .ok (.laload, 1) := dk_47 (dk_at dksL_law_148 12 rfl rfl)
theorem dL_law_3723 : decode cL_law 3723 = .ok (.iload 7, 2) := dk_21 7 (dk_at dksL_law_148 13 rfl rfl)
theorem dL_law_3725 : decode cL_law 3725 = .ok (.i2l, 1) := dk_133 (dk_at dksL_law_148 15 rfl rfl)
theorem dL_law_3726 : decode cL_law 3726 = .ok (.lcmp, 1) := dk_148 (dk_at dksL_law_148 16 rfl rfl)
theorem dL_law_3727 : decode cL_law 3727 = .ok (.ifCond .eq 5, 3) := dk_153 0 5 (dk_at dksL_law_148 17 rfl rfl)
theorem dL_law_3730 : decode cL_law 3730 = .ok (.iconst 0, 1) := dk_3 (dk_at dksL_law_148 20 rfl rfl)
theorem dL_law_3731 : decode cL_law 3731 = .ok (.ireturn, 1) := dk_172 (dk_at dksL_law_148 21 rfl rfl)
theorem dL_law_3732 : decode cL_law 3732 = .ok (.goto 488, 3) := dk_167 1 232 (dk_at dksL_law_149 0 rfl rfl)
theorem dL_law_3735 : decode cL_law 3735 = .ok (.aload_n 1, 1) := dk_43 (dk_at dksL_law_149 3 rfl rfl)
theorem dL_law_3736 : decode cL_law 3736 = .ok (.aload_n 0, 1) := dk_42 (dk_at dksL_law_149 4 rfl rfl)
theorem dL_law_3737 : decode cL_law 3737 = .ok (.iload 5, 2) := dk_21 5 (dk_at dksL_law_149 5 rfl rfl)
theorem dL_law_3739 : decode cL_law 3739 = .ok (.iconst 1, 1) := dk_4 (dk_at dksL_law_149 7 rfl rfl)
theorem dL_law_3740 : decode cL_law 3740 = .ok (.iadd, 1) := dk_96 (dk_at dksL_law_149 8 rfl rfl)
theorem dL_law_3741 : decode cL_law 3741 = .ok (.iaload, 1) := dk_46 (dk_at dksL_law_149 9 rfl rfl)
theorem dL_law_3742 : decode cL_law 3742 = .ok (.aload_n 0, 1) := dk_42 (dk_at dksL_law_149 10 rfl rfl)
theorem dL_law_3743 : decode cL_law 3743 = .ok (.iload 5, 2) := dk_21 5 (dk_at dksL_law_149 11 rfl rfl)
theorem dL_law_3745 : decode cL_law 3745 = .ok (.iconst 2, 1) := dk_5 (dk_at dksL_law_149 13 rfl rfl)
theorem dL_law_3746 : decode cL_law 3746 = .ok (.iadd, 1) := dk_96 (dk_at dksL_law_149 14 rfl rfl)
theorem dL_law_3747 : decode cL_law 3747 = .ok (.iaload, 1) := dk_46 (dk_at dksL_law_149 15 rfl rfl)
theorem dL_law_3748 : decode cL_law 3748 = .ok (.aload_n 3, 1) := dk_45 (dk_at dksL_law_149 16 rfl rfl)
theorem dL_law_3749 : decode cL_law 3749 = .ok (.invokestatic 398, 3) := dk_184 1 142 (dk_at dksL_law_149 17 rfl rfl)
theorem dL_law_3752 : decode cL_law 3752 = .ok (.istore 6, 2) := dk_54 6 (dk_at dksL_law_149 20 rfl rfl)
theorem dL_law_3754 : decode cL_law 3754 = .ok (.aload_n 2, 1) := dk_44 (dk_at dksL_law_149 22 rfl rfl)
theorem dL_law_3755 : decode cL_law 3755 = .ok (.aload_n 0, 1) := dk_42 (dk_at dksL_law_149 23 rfl rfl)
theorem dL_law_3756 : decode cL_law 3756 = .ok (.iload 5, 2) := dk_21 5 (dk_at dksL_law_150 0 rfl rfl)
theorem dL_law_3758 : decode cL_law 3758 = .ok (.iconst 1, 1) := dk_4 (dk_at dksL_law_150 2 rfl rfl)
theorem dL_law_3759 : decode cL_law 3759 = .ok (.iadd, 1) := dk_96 (dk_at dksL_law_150 3 rfl rfl)
theorem dL_law_3760 : decode cL_law 3760 = .ok (.iaload, 1) := dk_46 (dk_at dksL_law_150 4 rfl rfl)
theorem dL_law_3761 : decode cL_law 3761 = .ok (.aload_n 0, 1) := dk_42 (dk_at dksL_law_150 5 rfl rfl)
theorem dL_law_3762 : decode cL_law 3762 = .ok (.iload 5, 2) := dk_21 5 (dk_at dksL_law_150 6 rfl rfl)
theorem dL_law_3764 : decode cL_law 3764 = .ok (.iconst 2, 1) := dk_5 (dk_at dksL_law_150 8 rfl rfl)
theorem dL_law_3765 : decode cL_law 3765 = .ok (.iadd, 1) := dk_96 (dk_at dksL_law_150 9 rfl rfl)
theorem dL_law_3766 : decode cL_law 3766 = .ok (.iaload, 1) := dk_46 (dk_at dksL_law_150 10 rfl rfl)
theorem dL_law_3767 : decode cL_law 3767 = .ok (.invokevirtual 400, 3) := dk_182 1 144 (dk_at dksL_law_150 11 rfl rfl)
theorem dL_law_3770 : decode cL_law 3770 = .ok (.istore 7, 2) := dk_54 7 (dk_at dksL_law_150 14 rfl rfl)
theorem dL_law_3772 : decode cL_law 3772 = .ok (.aload_n 2, 1) := dk_44 (dk_at dksL_law_150 16 rfl rfl)
theorem dL_law_3773 : decode cL_law 3773 = .ok (.invokevirtual 223, 3) := dk_182 0 223 (dk_at dksL_law_150 17 rfl rfl)
theorem dL_law_3776 : decode cL_law 3776 = .ok (.iload 6, 2) := dk_21 6 (dk_at dksL_law_150 20 rfl rfl)
theorem dL_law_3778 : decode cL_law 3778 = .ok (.if_icmp .eq 5, 3) := dk_159 0 5 (dk_at dksL_law_151 0 rfl rfl)
theorem dL_law_3781 : decode cL_law 3781 = .ok (.iconst 0, 1) := dk_3 (dk_at dksL_law_151 3 rfl rfl)
theorem dL_law_3782 : decode cL_law 3782 = .ok (.ireturn, 1) := dk_172 (dk_at dksL_law_151 4 rfl rfl)
theorem dL_law_3783 : decode cL_law 3783 = .ok (.iload 6, 2) := dk_21 6 (dk_at dksL_law_151 5 rfl rfl)
theorem dL_law_3785 : decode cL_law 3785 = .ok (.ifCond .ne 15, 3) := dk_154 0 15 (dk_at dksL_law_151 7 rfl rfl)
theorem dL_law_3788 : decode cL_law 3788 = .ok (.aload_n 3, 1) := dk_45 (dk_at dksL_law_151 10 rfl rfl)
theorem dL_law_3789 : decode cL_law 3789 = .ok (.iconst 0, 1) := dk_3 (dk_at dksL_law_151 11 rfl rfl)
theorem dL_law_3790 : decode cL_law 3790 = .ok (.laload, 1) := dk_47 (dk_at dksL_law_151 12 rfl rfl)
theorem dL_law_3791 : decode cL_law 3791 = .ok (.iload 7, 2) := dk_21 7 (dk_at dksL_law_151 13 rfl rfl)
theorem dL_law_3793 : decode cL_law 3793 = .ok (.i2l, 1) := dk_133 (dk_at dksL_law_151 15 rfl rfl)
theorem dL_law_3794 : decode cL_law 3794 = .ok (.lcmp, 1) := dk_148 (dk_at dksL_law_151 16 rfl rfl)
theorem dL_law_3795 : decode cL_law 3795 = .ok (.ifCond .eq 5, 3) := dk_153 0 5 (dk_at dksL_law_151 17 rfl rfl)
theorem dL_law_3798 : decode cL_law 3798 = .ok (.iconst 0, 1) := dk_3 (dk_at dksL_law_151 20 rfl rfl)
theorem dL_law_3799 : decode cL_law 3799 = .ok (.ireturn, 1) := dk_172 (dk_at dksL_law_151 21 rfl rfl)
theorem dL_law_3800 : decode cL_law 3800 = .ok (.goto 420, 3) := dk_167 1 164 (dk_at dksL_law_152 0 rfl rfl)
theorem dL_law_3803 : decode cL_law 3803 = .ok (.aload_n 1, 1) := dk_43 (dk_at dksL_law_152 3 rfl rfl)
theorem dL_law_3804 : decode cL_law 3804 = .ok (.aload_n 0, 1) := dk_42 (dk_at dksL_law_152 4 rfl rfl)
theorem dL_law_3805 : decode cL_law 3805 = .ok (.iload 5, 2) := dk_21 5 (dk_at dksL_law_152 5 rfl rfl)
theorem dL_law_3807 : decode cL_law 3807 = .ok (.iconst 1, 1) := dk_4 (dk_at dksL_law_152 7 rfl rfl)
theorem dL_law_3808 : decode cL_law 3808 = .ok (.iadd, 1) := dk_96 (dk_at dksL_law_152 8 rfl rfl)
theorem dL_law_3809 : decode cL_law 3809 = .ok (.iaload, 1) := dk_46 (dk_at dksL_law_152 9 rfl rfl)
theorem dL_law_3810 : decode cL_law 3810 = .ok (.aload_n 0, 1) := dk_42 (dk_at dksL_law_152 10 rfl rfl)
theorem dL_law_3811 : decode cL_law 3811 = .ok (.iload 5, 2) := dk_21 5 (dk_at dksL_law_152 11 rfl rfl)
theorem dL_law_3813 : decode cL_law 3813 = .ok (.iconst 2, 1) := dk_5 (dk_at dksL_law_152 13 rfl rfl)
theorem dL_law_3814 : decode cL_law 3814 = .ok (.iadd, 1) := dk_96 (dk_at dksL_law_152 14 rfl rfl)
theorem dL_law_3815 : decode cL_law 3815 = .ok (.iaload, 1) := dk_46 (dk_at dksL_law_152 15 rfl rfl)
theorem dL_law_3816 : decode cL_law 3816 = .ok (.aload_n 3, 1) := dk_45 (dk_at dksL_law_152 16 rfl rfl)
theorem dL_law_3817 : decode cL_law 3817 = .ok (.invokestatic 401, 3) := dk_184 1 145 (dk_at dksL_law_152 17 rfl rfl)
theorem dL_law_3820 : decode cL_law 3820 = .ok (.istore 6, 2) := dk_54 6 (dk_at dksL_law_152 20 rfl rfl)
theorem dL_law_3822 : decode cL_law 3822 = .ok (.aload_n 2, 1) := dk_44 (dk_at dksL_law_152 22 rfl rfl)
theorem dL_law_3823 : decode cL_law 3823 = .ok (.aload_n 0, 1) := dk_42 (dk_at dksL_law_152 23 rfl rfl)
theorem dL_law_3824 : decode cL_law 3824 = .ok (.iload 5, 2) := dk_21 5 (dk_at dksL_law_153 0 rfl rfl)
theorem dL_law_3826 : decode cL_law 3826 = .ok (.iconst 1, 1) := dk_4 (dk_at dksL_law_153 2 rfl rfl)
theorem dL_law_3827 : decode cL_law 3827 = .ok (.iadd, 1) := dk_96 (dk_at dksL_law_153 3 rfl rfl)
theorem dL_law_3828 : decode cL_law 3828 = .ok (.iaload, 1) := dk_46 (dk_at dksL_law_153 4 rfl rfl)
theorem dL_law_3829 : decode cL_law 3829 = .ok (.aload_n 0, 1) := dk_42 (dk_at dksL_law_153 5 rfl rfl)
theorem dL_law_3830 : decode cL_law 3830 = .ok (.iload 5, 2) := dk_21 5 (dk_at dksL_law_153 6 rfl rfl)
theorem dL_law_3832 : decode cL_law 3832 = .ok (.iconst 2, 1) := dk_5 (dk_at dksL_law_153 8 rfl rfl)
theorem dL_law_3833 : decode cL_law 3833 = .ok (.iadd, 1) := dk_96 (dk_at dksL_law_153 9 rfl rfl)
theorem dL_law_3834 : decode cL_law 3834 = .ok (.iaload, 1) := dk_46 (dk_at dksL_law_153 10 rfl rfl)
theorem dL_law_3835 : decode cL_law 3835 = .ok (.invokevirtual 403, 3) := dk_182 1 147 (dk_at dksL_law_153 11 rfl rfl)
theorem dL_law_3838 : decode cL_law 3838 = .ok (.istore 7, 2) := dk_54 7 (dk_at dksL_law_153 14 rfl rfl)
theorem dL_law_3840 : decode cL_law 3840 = .ok (.aload_n 2, 1) := dk_44 (dk_at dksL_law_153 16 rfl rfl)
theorem dL_law_3841 : decode cL_law 3841 = .ok (.invokevirtual 223, 3) := dk_182 0 223 (dk_at dksL_law_153 17 rfl rfl)
theorem dL_law_3844 : decode cL_law 3844 = .ok (.iload 6, 2) := dk_21 6 (dk_at dksL_law_153 20 rfl rfl)
theorem dL_law_3846 : decode cL_law 3846 = .ok (.if_icmp .eq 5, 3) := dk_159 0 5 (dk_at dksL_law_154 0 rfl rfl)
theorem dL_law_3849 : decode cL_law 3849 = .ok (.iconst 0, 1) := dk_3 (dk_at dksL_law_154 3 rfl rfl)
theorem dL_law_3850 : decode cL_law 3850 = .ok (.ireturn, 1) := dk_172 (dk_at dksL_law_154 4 rfl rfl)
theorem dL_law_3851 : decode cL_law 3851 = .ok (.iload 6, 2) := dk_21 6 (dk_at dksL_law_154 5 rfl rfl)
theorem dL_law_3853 : decode cL_law 3853 = .ok (.ifCond .ne 15, 3) := dk_154 0 15 (dk_at dksL_law_154 7 rfl rfl)
theorem dL_law_3856 : decode cL_law 3856 = .ok (.aload_n 3, 1) := dk_45 (dk_at dksL_law_154 10 rfl rfl)
theorem dL_law_3857 : decode cL_law 3857 = .ok (.iconst 0, 1) := dk_3 (dk_at dksL_law_154 11 rfl rfl)
theorem dL_law_3858 : decode cL_law 3858 = .ok (.laload, 1) := dk_47 (dk_at dksL_law_154 12 rfl rfl)
theorem dL_law_3859 : decode cL_law 3859 = .ok (.iload 7, 2) := dk_21 7 (dk_at dksL_law_154 13 rfl rfl)
theorem dL_law_3861 : decode cL_law 3861 = .ok (.i2l, 1) := dk_133 (dk_at dksL_law_154 15 rfl rfl)
theorem dL_law_3862 : decode cL_law 3862 = .ok (.lcmp, 1) := dk_148 (dk_at dksL_law_154 16 rfl rfl)
theorem dL_law_3863 : decode cL_law 3863 = .ok (.ifCond .eq 5, 3) := dk_153 0 5 (dk_at dksL_law_154 17 rfl rfl)
theorem dL_law_3866 : decode cL_law 3866 = .ok (.iconst 0, 1) := dk_3 (dk_at dksL_law_154 20 rfl rfl)
theorem dL_law_3867 : decode cL_law 3867 = .ok (.ireturn, 1) := dk_172 (dk_at dksL_law_154 21 rfl rfl)
theorem dL_law_3868 : decode cL_law 3868 = .ok (.goto 352, 3) := dk_167 1 96 (dk_at dksL_law_155 0 rfl rfl)
theorem dL_law_3871 : decode cL_law 3871 = .ok (.aload_n 1, 1) := dk_43 (dk_at dksL_law_155 3 rfl rfl)
theorem dL_law_3872 : decode cL_law 3872 = .ok (.aload_n 0, 1) := dk_42 (dk_at dksL_law_155 4 rfl rfl)
theorem dL_law_3873 : decode cL_law 3873 = .ok (.iload 5, 2) := dk_21 5 (dk_at dksL_law_155 5 rfl rfl)
theorem dL_law_3875 : decode cL_law 3875 = .ok (.iconst 1, 1) := dk_4 (dk_at dksL_law_155 7 rfl rfl)
theorem dL_law_3876 : decode cL_law 3876 = .ok (.iadd, 1) := dk_96 (dk_at dksL_law_155 8 rfl rfl)
theorem dL_law_3877 : decode cL_law 3877 = .ok (.iaload, 1) := dk_46 (dk_at dksL_law_155 9 rfl rfl)
theorem dL_law_3878 : decode cL_law 3878 = .ok (.aload_n 3, 1) := dk_45 (dk_at dksL_law_155 10 rfl rfl)
theorem dL_law_3879 : decode cL_law 3879 = .ok (.invokestatic 404, 3) := dk_184 1 148 (dk_at dksL_law_155 11 rfl rfl)
theorem dL_law_3882 : decode cL_law 3882 = .ok (.istore 6, 2) := dk_54 6 (dk_at dksL_law_155 14 rfl rfl)
theorem dL_law_3884 : decode cL_law 3884 = .ok (.aload_n 2, 1) := dk_44 (dk_at dksL_law_155 16 rfl rfl)
theorem dL_law_3885 : decode cL_law 3885 = .ok (.aload_n 0, 1) := dk_42 (dk_at dksL_law_155 17 rfl rfl)
theorem dL_law_3886 : decode cL_law 3886 = .ok (.iload 5, 2) := dk_21 5 (dk_at dksL_law_155 18 rfl rfl)
theorem dL_law_3888 : decode cL_law 3888 = .ok (.iconst 1, 1) := dk_4 (dk_at dksL_law_155 20 rfl rfl)
theorem dL_law_3889 : decode cL_law 3889 = .ok (.iadd, 1) := dk_96 (dk_at dksL_law_155 21 rfl rfl)
theorem dL_law_3890 : decode cL_law 3890 = .ok (.iaload, 1) := dk_46 (dk_at dksL_law_155 22 rfl rfl)
theorem dL_law_3891 : decode cL_law 3891 = .ok (.invokevirtual 406, 3) := dk_182 1 150 (dk_at dksL_law_156 0 rfl rfl)
theorem dL_law_3894 : decode cL_law 3894 = .ok (.istore 7, 2) := dk_54 7 (dk_at dksL_law_156 3 rfl rfl)
theorem dL_law_3896 : decode cL_law 3896 = .ok (.aload_n 2, 1) := dk_44 (dk_at dksL_law_156 5 rfl rfl)
theorem dL_law_3897 : decode cL_law 3897 = .ok (.invokevirtual 223, 3) := dk_182 0 223 (dk_at dksL_law_156 6 rfl rfl)
theorem dL_law_3900 : decode cL_law 3900 = .ok (.iload 6, 2) := dk_21 6 (dk_at dksL_law_156 9 rfl rfl)
theorem dL_law_3902 : decode cL_law 3902 = .ok (.if_icmp .eq 5, 3) := dk_159 0 5 (dk_at dksL_law_156 11 rfl rfl)
theorem dL_law_3905 : decode cL_law 3905 = .ok (.iconst 0, 1) := dk_3 (dk_at dksL_law_156 14 rfl rfl)
theorem dL_law_3906 : decode cL_law 3906 = .ok (.ireturn, 1) := dk_172 (dk_at dksL_law_156 15 rfl rfl)
theorem dL_law_3907 : decode cL_law 3907 = .ok (.iload 6, 2) := dk_21 6 (dk_at dksL_law_156 16 rfl rfl)
theorem dL_law_3909 : decode cL_law 3909 = .ok (.ifCond .ne 15, 3) := dk_154 0 15 (dk_at dksL_law_156 18 rfl rfl)
theorem dL_law_3912 : decode cL_law 3912 = .ok (.aload_n 3, 1) := dk_45 (dk_at dksL_law_156 21 rfl rfl)
theorem dL_law_3913 : decode cL_law 3913 = .ok (.iconst 0, 1) := dk_3 (dk_at dksL_law_156 22 rfl rfl)
theorem dL_law_3914 : decode cL_law 3914 = .ok (.laload, 1) := dk_47 (dk_at dksL_law_156 23 rfl rfl)
theorem dL_law_3915 : decode cL_law 3915 = .ok (.iload 7, 2) := dk_21 7 (dk_at dksL_law_157 0 rfl rfl)
theorem dL_law_3917 : decode cL_law 3917 = .ok (.i2l, 1) := dk_133 (dk_at dksL_law_157 2 rfl rfl)
theorem dL_law_3918 : decode cL_law 3918 = .ok (.lcmp, 1) := dk_148 (dk_at dksL_law_157 3 rfl rfl)
theorem dL_law_3919 : decode cL_law 3919 = .ok (.ifCond .eq 5, 3) := dk_153 0 5 (dk_at dksL_law_157 4 rfl rfl)
theorem dL_law_3922 : decode cL_law 3922 = .ok (.iconst 0, 1) := dk_3 (dk_at dksL_law_157 7 rfl rfl)
theorem dL_law_3923 : decode cL_law 3923 = .ok (.ireturn, 1) := dk_172 (dk_at dksL_law_157 8 rfl rfl)
theorem dL_law_3924 : decode cL_law 3924 = .ok (.goto 296, 3) := dk_167 1 40 (dk_at dksL_law_157 9 rfl rfl)
theorem dL_law_3927 : decode cL_law 3927 = .ok (.aload_n 1, 1) := dk_43 (dk_at dksL_law_157 12 rfl rfl)
theorem dL_law_3928 : decode cL_law 3928 = .ok (.aload_n 0, 1) := dk_42 (dk_at dksL_law_157 13 rfl rfl)
theorem dL_law_3929 : decode cL_law 3929 = .ok (.iload 5, 2) := dk_21 5 (dk_at dksL_law_157 14 rfl rfl)
theorem dL_law_3931 : decode cL_law 3931 = .ok (.iconst 1, 1) := dk_4 (dk_at dksL_law_157 16 rfl rfl)
theorem dL_law_3932 : decode cL_law 3932 = .ok (.iadd, 1) := dk_96 (dk_at dksL_law_157 17 rfl rfl)
theorem dL_law_3933 : decode cL_law 3933 = .ok (.iaload, 1) := dk_46 (dk_at dksL_law_157 18 rfl rfl)
theorem dL_law_3934 : decode cL_law 3934 = .ok (.aload_n 3, 1) := dk_45 (dk_at dksL_law_157 19 rfl rfl)
theorem dL_law_3935 : decode cL_law 3935 = .ok (.invokestatic 407, 3) := dk_184 1 151 (dk_at dksL_law_157 20 rfl rfl)
theorem dL_law_3938 : decode cL_law 3938 = .ok (.istore 6, 2) := dk_54 6 (dk_at dksL_law_158 0 rfl rfl)
theorem dL_law_3940 : decode cL_law 3940 = .ok (.aload_n 2, 1) := dk_44 (dk_at dksL_law_158 2 rfl rfl)
theorem dL_law_3941 : decode cL_law 3941 = .ok (.aload_n 0, 1) := dk_42 (dk_at dksL_law_158 3 rfl rfl)
theorem dL_law_3942 : decode cL_law 3942 = .ok (.iload 5, 2) := dk_21 5 (dk_at dksL_law_158 4 rfl rfl)
theorem dL_law_3944 : decode cL_law 3944 = .ok (.iconst 1, 1) := dk_4 (dk_at dksL_law_158 6 rfl rfl)
theorem dL_law_3945 : decode cL_law 3945 = .ok (.iadd, 1) := dk_96 (dk_at dksL_law_158 7 rfl rfl)
theorem dL_law_3946 : decode cL_law 3946 = .ok (.iaload, 1) := dk_46 (dk_at dksL_law_158 8 rfl rfl)
theorem dL_law_3947 : decode cL_law 3947 = .ok (.invokevirtual 409, 3) := dk_182 1 153 (dk_at dksL_law_158 9 rfl rfl)
theorem dL_law_3950 : decode cL_law 3950 = .ok (.istore 7, 2) := dk_54 7 (dk_at dksL_law_158 12 rfl rfl)
theorem dL_law_3952 : decode cL_law 3952 = .ok (.aload_n 2, 1) := dk_44 (dk_at dksL_law_158 14 rfl rfl)
theorem dL_law_3953 : decode cL_law 3953 = .ok (.invokevirtual 223, 3) := dk_182 0 223 (dk_at dksL_law_158 15 rfl rfl)
theorem dL_law_3956 : decode cL_law 3956 = .ok (.iload 6, 2) := dk_21 6 (dk_at dksL_law_158 18 rfl rfl)
theorem dL_law_3958 : decode cL_law 3958 = .ok (.if_icmp .eq 5, 3) := dk_159 0 5 (dk_at dksL_law_158 20 rfl rfl)
theorem dL_law_3961 : decode cL_law 3961 = .ok (.iconst 0, 1) := dk_3 (dk_at dksL_law_158 23 rfl rfl)
theorem dL_law_3962 : decode cL_law 3962 = .ok (.ireturn, 1) := dk_172 (dk_at dksL_law_159 0 rfl rfl)
theorem dL_law_3963 : decode cL_law 3963 = .ok (.iload 6, 2) := dk_21 6 (dk_at dksL_law_159 1 rfl rfl)
theorem dL_law_3965 : decode cL_law 3965 = .ok (.ifCond .ne 15, 3) := dk_154 0 15 (dk_at dksL_law_159 3 rfl rfl)
theorem dL_law_3968 : decode cL_law 3968 = .ok (.aload_n 3, 1) := dk_45 (dk_at dksL_law_159 6 rfl rfl)
theorem dL_law_3969 : decode cL_law 3969 = .ok (.iconst 0, 1) := dk_3 (dk_at dksL_law_159 7 rfl rfl)
theorem dL_law_3970 : decode cL_law 3970 = .ok (.laload, 1) := dk_47 (dk_at dksL_law_159 8 rfl rfl)
theorem dL_law_3971 : decode cL_law 3971 = .ok (.iload 7, 2) := dk_21 7 (dk_at dksL_law_159 9 rfl rfl)
theorem dL_law_3973 : decode cL_law 3973 = .ok (.i2l, 1) := dk_133 (dk_at dksL_law_159 11 rfl rfl)
theorem dL_law_3974 : decode cL_law 3974 = .ok (.lcmp, 1) := dk_148 (dk_at dksL_law_159 12 rfl rfl)
theorem dL_law_3975 : decode cL_law 3975 = .ok (.ifCond .eq 5, 3) := dk_153 0 5 (dk_at dksL_law_159 13 rfl rfl)
theorem dL_law_3978 : decode cL_law 3978 = .ok (.iconst 0, 1) := dk_3 (dk_at dksL_law_159 16 rfl rfl)
theorem dL_law_3979 : decode cL_law 3979 = .ok (.ireturn, 1) := dk_172 (dk_at dksL_law_159 17 rfl rfl)
theorem dL_law_3980 : decode cL_law 3980 = .ok (.goto 240, 3) := dk_167 0 240 (dk_at dksL_law_159 18 rfl rfl)
theorem dL_law_3983 : decode cL_law 3983 = .ok (.aload_n 1, 1) := dk_43 (dk_at dksL_law_159 21 rfl rfl)
theorem dL_law_3984 : decode cL_law 3984 = .ok (.aload_n 0, 1) := dk_42 (dk_at dksL_law_159 22 rfl rfl)
theorem dL_law_3985 : decode cL_law 3985 = .ok (.iload 5, 2) := dk_21 5 (dk_at dksL_law_160 0 rfl rfl)
theorem dL_law_3987 : decode cL_law 3987 = .ok (.iconst 1, 1) := dk_4 (dk_at dksL_law_160 2 rfl rfl)
theorem dL_law_3988 : decode cL_law 3988 = .ok (.iadd, 1) := dk_96 (dk_at dksL_law_160 3 rfl rfl)
theorem dL_law_3989 : decode cL_law 3989 = .ok (.iaload, 1) := dk_46 (dk_at dksL_law_160 4 rfl rfl)
theorem dL_law_3990 : decode cL_law 3990 = .ok (.aload_n 0, 1) := dk_42 (dk_at dksL_law_160 5 rfl rfl)
theorem dL_law_3991 : decode cL_law 3991 = .ok (.iload 5, 2) := dk_21 5 (dk_at dksL_law_160 6 rfl rfl)
theorem dL_law_3993 : decode cL_law 3993 = .ok (.iconst 2, 1) := dk_5 (dk_at dksL_law_160 8 rfl rfl)
theorem dL_law_3994 : decode cL_law 3994 = .ok (.iadd, 1) := dk_96 (dk_at dksL_law_160 9 rfl rfl)
theorem dL_law_3995 : decode cL_law 3995 = .ok (.iaload, 1) := dk_46 (dk_at dksL_law_160 10 rfl rfl)
theorem dL_law_3996 : decode cL_law 3996 = .ok (.aload_n 3, 1) := dk_45 (dk_at dksL_law_160 11 rfl rfl)
theorem dL_law_3997 : decode cL_law 3997 = .ok (.invokestatic 410, 3) := dk_184 1 154 (dk_at dksL_law_160 12 rfl rfl)
theorem dL_law_4000 : decode cL_law 4000 = .ok (.istore 6, 2) := dk_54 6 (dk_at dksL_law_160 15 rfl rfl)
theorem dL_law_4002 : decode cL_law 4002 = .ok (.aload_n 2, 1) := dk_44 (dk_at dksL_law_160 17 rfl rfl)
theorem dL_law_4003 : decode cL_law 4003 = .ok (.aload_n 0, 1) := dk_42 (dk_at dksL_law_160 18 rfl rfl)
theorem dL_law_4004 : decode cL_law 4004 = .ok (.iload 5, 2) := dk_21 5 (dk_at dksL_law_160 19 rfl rfl)
theorem dL_law_4006 : decode cL_law 4006 = .ok (.iconst 1, 1) := dk_4 (dk_at dksL_law_160 21 rfl rfl)
theorem dL_law_4007 : decode cL_law 4007 = .ok (.iadd, 1) := dk_96 (dk_at dksL_law_160 22 rfl rfl)
theorem dL_law_4008 : decode cL_law 4008 = .ok (.iaload, 1) := dk_46 (dk_at dksL_law_160 23 rfl rfl)
theorem dL_law_4009 : decode cL_law 4009 = .ok (.aload_n 0, 1) := dk_42 (dk_at dksL_law_161 0 rfl rfl)
theorem dL_law_4010 : decode cL_law 4010 = .ok (.iload 5, 2) := dk_21 5 (dk_at dksL_law_161 1 rfl rfl)
theorem dL_law_4012 : decode cL_law 4012 = .ok (.iconst 2, 1) := dk_5 (dk_at dksL_law_161 3 rfl rfl)
theorem dL_law_4013 : decode cL_law 4013 = .ok (.iadd, 1) := dk_96 (dk_at dksL_law_161 4 rfl rfl)
theorem dL_law_4014 : decode cL_law 4014 = .ok (.iaload, 1) := dk_46 (dk_at dksL_law_161 5 rfl rfl)
theorem dL_law_4015 : decode cL_law 4015 = .ok (.invokevirtual 412, 3) := dk_182 1 156 (dk_at dksL_law_161 6 rfl rfl)
theorem dL_law_4018 : decode cL_law 4018 = .ok (.istore 7, 2) := dk_54 7 (dk_at dksL_law_161 9 rfl rfl)
theorem dL_law_4020 : decode cL_law 4020 = .ok (.aload_n 2, 1) := dk_44 (dk_at dksL_law_161 11 rfl rfl)
theorem dL_law_4021 : decode cL_law 4021 = .ok (.invokevirtual 223, 3) := dk_182 0 223 (dk_at dksL_law_161 12 rfl rfl)
theorem dL_law_4024 : decode cL_law 4024 = .ok (.iload 6, 2) := dk_21 6 (dk_at dksL_law_161 15 rfl rfl)
theorem dL_law_4026 : decode cL_law 4026 = .ok (.if_icmp .eq 5, 3) := dk_159 0 5 (dk_at dksL_law_161 17 rfl rfl)
theorem dL_law_4029 : decode cL_law 4029 = .ok (.iconst 0, 1) := dk_3 (dk_at dksL_law_161 20 rfl rfl)
theorem dL_law_4030 : decode cL_law 4030 = .ok (.ireturn, 1) := dk_172 (dk_at dksL_law_161 21 rfl rfl)
theorem dL_law_4031 : decode cL_law 4031 = .ok (.iload 6, 2) := dk_21 6 (dk_at dksL_law_161 22 rfl rfl)
theorem dL_law_4033 : decode cL_law 4033 = .ok (.ifCond .ne 15, 3) := dk_154 0 15 (dk_at dksL_law_162 0 rfl rfl)
theorem dL_law_4036 : decode cL_law 4036 = .ok (.aload_n 3, 1) := dk_45 (dk_at dksL_law_162 3 rfl rfl)
theorem dL_law_4037 : decode cL_law 4037 = .ok (.iconst 0, 1) := dk_3 (dk_at dksL_law_162 4 rfl rfl)
theorem dL_law_4038 : decode cL_law 4038 = .ok (.laload, 1) := dk_47 (dk_at dksL_law_162 5 rfl rfl)
theorem dL_law_4039 : decode cL_law 4039 = .ok (.iload 7, 2) := dk_21 7 (dk_at dksL_law_162 6 rfl rfl)
theorem dL_law_4041 : decode cL_law 4041 = .ok (.i2l, 1) := dk_133 (dk_at dksL_law_162 8 rfl rfl)
theorem dL_law_4042 : decode cL_law 4042 = .ok (.lcmp, 1) := dk_148 (dk_at dksL_law_162 9 rfl rfl)
theorem dL_law_4043 : decode cL_law 4043 = .ok (.ifCond .eq 5, 3) := dk_153 0 5 (dk_at dksL_law_162 10 rfl rfl)
theorem dL_law_4046 : decode cL_law 4046 = .ok (.iconst 0, 1) := dk_3 (dk_at dksL_law_162 13 rfl rfl)
theorem dL_law_4047 : decode cL_law 4047 = .ok (.ireturn, 1) := dk_172 (dk_at dksL_law_162 14 rfl rfl)
theorem dL_law_4048 : decode cL_law 4048 = .ok (.goto 172, 3) := dk_167 0 172 (dk_at dksL_law_162 15 rfl rfl)
theorem dL_law_4051 : decode cL_law 4051 = .ok (.aload_n 1, 1) := dk_43 (dk_at dksL_law_162 18 rfl rfl)
theorem dL_law_4052 : decode cL_law 4052 = .ok (.aload_n 3, 1) := dk_45 (dk_at dksL_law_162 19 rfl rfl)
theorem dL_law_4053 : decode cL_law 4053 = .ok (.invokestatic 413, 3) := dk_184 1 157 (dk_at dksL_law_162 20 rfl rfl)
theorem dL_law_4056 : decode cL_law 4056 = .ok (.istore 6, 2) := dk_54 6 (dk_at dksL_law_163 0 rfl rfl)
theorem dL_law_4058 : decode cL_law 4058 = .ok (.aload_n 2, 1) := dk_44 (dk_at dksL_law_163 2 rfl rfl)
theorem dL_law_4059 : decode cL_law 4059 = .ok (.invokevirtual 415, 3) := dk_182 1 159 (dk_at dksL_law_163 3 rfl rfl)
theorem dL_law_4062 : decode cL_law 4062 = .ok (.istore 7, 2) := dk_54 7 (dk_at dksL_law_163 6 rfl rfl)
theorem dL_law_4064 : decode cL_law 4064 = .ok (.aload_n 2, 1) := dk_44 (dk_at dksL_law_163 8 rfl rfl)
theorem dL_law_4065 : decode cL_law 4065 = .ok (.invokevirtual 223, 3) := dk_182 0 223 (dk_at dksL_law_163 9 rfl rfl)
theorem dL_law_4068 : decode cL_law 4068 = .ok (.iload 6, 2) := dk_21 6 (dk_at dksL_law_163 12 rfl rfl)
theorem dL_law_4070 : decode cL_law 4070 = .ok (.if_icmp .eq 5, 3) := dk_159 0 5 (dk_at dksL_law_163 14 rfl rfl)
theorem dL_law_4073 : decode cL_law 4073 = .ok (.iconst 0, 1) := dk_3 (dk_at dksL_law_163 17 rfl rfl)
theorem dL_law_4074 : decode cL_law 4074 = .ok (.ireturn, 1) := dk_172 (dk_at dksL_law_163 18 rfl rfl)
theorem dL_law_4075 : decode cL_law 4075 = .ok (.iload 6, 2) := dk_21 6 (dk_at dksL_law_163 19 rfl rfl)
theorem dL_law_4077 : decode cL_law 4077 = .ok (.ifCond .ne 15, 3) := dk_154 0 15 (dk_at dksL_law_163 21 rfl rfl)
theorem dL_law_4080 : decode cL_law 4080 = .ok (.aload_n 3, 1) := dk_45 (dk_at dksL_law_164 0 rfl rfl)
theorem dL_law_4081 : decode cL_law 4081 = .ok (.iconst 0, 1) := dk_3 (dk_at dksL_law_164 1 rfl rfl)
theorem dL_law_4082 : decode cL_law 4082 = .ok (.laload, 1) := dk_47 (dk_at dksL_law_164 2 rfl rfl)
theorem dL_law_4083 : decode cL_law 4083 = .ok (.iload 7, 2) := dk_21 7 (dk_at dksL_law_164 3 rfl rfl)
theorem dL_law_4085 : decode cL_law 4085 = .ok (.i2l, 1) := dk_133 (dk_at dksL_law_164 5 rfl rfl)
theorem dL_law_4086 : decode cL_law 4086 = .ok (.lcmp, 1) := dk_148 (dk_at dksL_law_164 6 rfl rfl)
theorem dL_law_4087 : decode cL_law 4087 = .ok (.ifCond .eq 5, 3) := dk_153 0 5 (dk_at dksL_law_164 7 rfl rfl)
theorem dL_law_4090 : decode cL_law 4090 = .ok (.iconst 0, 1) := dk_3 (dk_at dksL_law_164 10 rfl rfl)
theorem dL_law_4091 : decode cL_law 4091 = .ok (.ireturn, 1) := dk_172 (dk_at dksL_law_164 11 rfl rfl)
theorem dL_law_4092 : decode cL_law 4092 = .ok (.goto 128, 3) := dk_167 0 128 (dk_at dksL_law_164 12 rfl rfl)
theorem dL_law_4095 : decode cL_law 4095 = .ok (.aload_n 1, 1) := dk_43 (dk_at dksL_law_164 15 rfl rfl)
theorem dL_law_4096 : decode cL_law 4096 = .ok (.invokevirtual 416, 3) := dk_182 1 160 (dk_at dksL_law_164 16 rfl rfl)
theorem dL_law_4099 : decode cL_law 4099 = .ok (.aload_n 2, 1) := dk_44 (dk_at dksL_law_164 19 rfl rfl)
theorem dL_law_4100 : decode cL_law 4100 = .ok (.invokevirtual 419, 3) := dk_182 1 163 (dk_at dksL_law_164 20 rfl rfl)
theorem dL_law_4103 : decode cL_law 4103 = .ok (.if_icmp .eq 117, 3) := dk_159 0 117 (dk_at dksL_law_165 0 rfl rfl)
theorem dL_law_4106 : decode cL_law 4106 = .ok (.iconst 0, 1) := dk_3 (dk_at dksL_law_165 3 rfl rfl)
theorem dL_law_4107 : decode cL_law 4107 = .ok (.ireturn, 1) := dk_172 (dk_at dksL_law_165 4 rfl rfl)
theorem dL_law_4108 : decode cL_law 4108 = .ok (.aload_n 1, 1) := dk_43 (dk_at dksL_law_165 5 rfl rfl)
theorem dL_law_4109 : decode cL_law 4109 = .ok (.aload_n 0, 1) := dk_42 (dk_at dksL_law_165 6 rfl rfl)
theorem dL_law_4110 : decode cL_law 4110 = .ok (.iload 5, 2) := dk_21 5 (dk_at dksL_law_165 7 rfl rfl)
theorem dL_law_4112 : decode cL_law 4112 = .ok (.iconst 1, 1) := dk_4 (dk_at dksL_law_165 9 rfl rfl)
theorem dL_law_4113 : decode cL_law 4113 = .ok (.iadd, 1) := dk_96 (dk_at dksL_law_165 10 rfl rfl)
theorem dL_law_4114 : decode cL_law 4114 = .ok (.iaload, 1) := dk_46 (dk_at dksL_law_165 11 rfl rfl)
theorem dL_law_4115 : decode cL_law 4115 = .ok (.aload_n 3, 1) := dk_45 (dk_at dksL_law_165 12 rfl rfl)
theorem dL_law_4116 : decode cL_law 4116 = .ok (.invokestatic 420, 3) := dk_184 1 164 (dk_at dksL_law_165 13 rfl rfl)
theorem dL_law_4119 : decode cL_law 4119 = .ok (.istore 6, 2) := dk_54 6 (dk_at dksL_law_165 16 rfl rfl)
theorem dL_law_4121 : decode cL_law 4121 = .ok (.aload_n 2, 1) := dk_44 (dk_at dksL_law_165 18 rfl rfl)
theorem dL_law_4122 : decode cL_law 4122 = .ok (.aload_n 0, 1) := dk_42 (dk_at dksL_law_165 19 rfl rfl)
theorem dL_law_4123 : decode cL_law 4123 = .ok (.iload 5, 2) := dk_21 5 (dk_at dksL_law_165 20 rfl rfl)
theorem dL_law_4125 : decode cL_law 4125 = .ok (.iconst 1, 1) := dk_4 (dk_at dksL_law_165 22 rfl rfl)
theorem dL_law_4126 : decode cL_law 4126 = .ok (.iadd, 1) := dk_96 (dk_at dksL_law_165 23 rfl rfl)
theorem dL_law_4127 : decode cL_law 4127 = .ok (.iaload, 1) := dk_46 (dk_at dksL_law_166 0 rfl rfl)
theorem dL_law_4128 : decode cL_law 4128 = .ok (.invokevirtual 422, 3) := dk_182 1 166 (dk_at dksL_law_166 1 rfl rfl)
theorem dL_law_4131 : decode cL_law 4131 = .ok (.istore 7, 2) := dk_54 7 (dk_at dksL_law_166 4 rfl rfl)
theorem dL_law_4133 : decode cL_law 4133 = .ok (.aload_n 2, 1) := dk_44 (dk_at dksL_law_166 6 rfl rfl)
theorem dL_law_4134 : decode cL_law 4134 = .ok (.invokevirtual 223, 3) := dk_182 0 223 (dk_at dksL_law_166 7 rfl rfl)
theorem dL_law_4137 : decode cL_law 4137 = .ok (.iload 6, 2) := dk_21 6 (dk_at dksL_law_166 10 rfl rfl)
theorem dL_law_4139 : decode cL_law 4139 = .ok (.if_icmp .eq 5, 3) := dk_159 0 5 (dk_at dksL_law_166 12 rfl rfl)
theorem dL_law_4142 : decode cL_law 4142 = .ok (.iconst 0, 1) := dk_3 (dk_at dksL_law_166 15 rfl rfl)
theorem dL_law_4143 : decode cL_law 4143 = .ok (.ireturn, 1) := dk_172 (dk_at dksL_law_166 16 rfl rfl)
theorem dL_law_4144 : decode cL_law 4144 = .ok (.iload 6, 2) := dk_21 6 (dk_at dksL_law_166 17 rfl rfl)
theorem dL_law_4146 : decode cL_law 4146 = .ok (.ifCond .ne 15, 3) := dk_154 0 15 (dk_at dksL_law_166 19 rfl rfl)
theorem dL_law_4149 : decode cL_law 4149 = .ok (.aload_n 3, 1) := dk_45 (dk_at dksL_law_166 22 rfl rfl)
theorem dL_law_4150 : decode cL_law 4150 = .ok (.iconst 0, 1) := dk_3 (dk_at dksL_law_166 23 rfl rfl)
theorem dL_law_4151 : decode cL_law 4151 = .ok (.laload, 1) := dk_47 (dk_at dksL_law_167 0 rfl rfl)
theorem dL_law_4152 : decode cL_law 4152 = .ok (.iload 7, 2) := dk_21 7 (dk_at dksL_law_167 1 rfl rfl)
theorem dL_law_4154 : decode cL_law 4154 = .ok (.i2l, 1) := dk_133 (dk_at dksL_law_167 3 rfl rfl)
theorem dL_law_4155 : decode cL_law 4155 = .ok (.lcmp, 1) := dk_148 (dk_at dksL_law_167 4 rfl rfl)
theorem dL_law_4156 : decode cL_law 4156 = .ok (.ifCond .eq 5, 3) := dk_153 0 5 (dk_at dksL_law_167 5 rfl rfl)
theorem dL_law_4159 : decode cL_law 4159 = .ok (.iconst 0, 1) := dk_3 (dk_at dksL_law_167 8 rfl rfl)
theorem dL_law_4160 : decode cL_law 4160 = .ok (.ireturn, 1) := dk_172 (dk_at dksL_law_167 9 rfl rfl)
theorem dL_law_4161 : decode cL_law 4161 = .ok (.goto 59, 3) := dk_167 0 59 (dk_at dksL_law_167 10 rfl rfl)
theorem dL_law_4164 : decode cL_law 4164 = .ok (.aload_n 1, 1) := dk_43 (dk_at dksL_law_167 13 rfl rfl)
theorem dL_law_4165 : decode cL_law 4165 = .ok (.aload_n 0, 1) := dk_42 (dk_at dksL_law_167 14 rfl rfl)
theorem dL_law_4166 : decode cL_law 4166 = .ok (.iload 5, 2) := dk_21 5 (dk_at dksL_law_167 15 rfl rfl)
theorem dL_law_4168 : decode cL_law 4168 = .ok (.iconst 1, 1) := dk_4 (dk_at dksL_law_167 17 rfl rfl)
theorem dL_law_4169 : decode cL_law 4169 = .ok (.iadd, 1) := dk_96 (dk_at dksL_law_167 18 rfl rfl)
theorem dL_law_4170 : decode cL_law 4170 = .ok (.iaload, 1) := dk_46 (dk_at dksL_law_167 19 rfl rfl)
theorem dL_law_4171 : decode cL_law 4171 = .ok (.aload_n 3, 1) := dk_45 (dk_at dksL_law_167 20 rfl rfl)
theorem dL_law_4172 : decode cL_law 4172 = .ok (.invokestatic 423, 3) := dk_184 1 167 (dk_at dksL_law_167 21 rfl rfl)
theorem dL_law_4175 : decode cL_law 4175 = .ok (.istore 6, 2) := dk_54 6 (dk_at dksL_law_168 0 rfl rfl)
theorem dL_law_4177 : decode cL_law 4177 = .ok (.aload_n 2, 1) := dk_44 (dk_at dksL_law_168 2 rfl rfl)
theorem dL_law_4178 : decode cL_law 4178 = .ok (.aload_n 0, 1) := dk_42 (dk_at dksL_law_168 3 rfl rfl)
theorem dL_law_4179 : decode cL_law 4179 = .ok (.iload 5, 2) := dk_21 5 (dk_at dksL_law_168 4 rfl rfl)
theorem dL_law_4181 : decode cL_law 4181 = .ok (.iconst 1, 1) := dk_4 (dk_at dksL_law_168 6 rfl rfl)
theorem dL_law_4182 : decode cL_law 4182 = .ok (.iadd, 1) := dk_96 (dk_at dksL_law_168 7 rfl rfl)
theorem dL_law_4183 : decode cL_law 4183 = .ok (.iaload, 1) := dk_46 (dk_at dksL_law_168 8 rfl rfl)
theorem dL_law_4184 : decode cL_law 4184 = .ok (.invokevirtual 425, 3) := dk_182 1 169 (dk_at dksL_law_168 9 rfl rfl)
theorem dL_law_4187 : decode cL_law 4187 = .ok (.istore 7, 2) := dk_54 7 (dk_at dksL_law_168 12 rfl rfl)
theorem dL_law_4189 : decode cL_law 4189 = .ok (.aload_n 2, 1) := dk_44 (dk_at dksL_law_168 14 rfl rfl)
theorem dL_law_4190 : decode cL_law 4190 = .ok (.invokevirtual 223, 3) := dk_182 0 223 (dk_at dksL_law_168 15 rfl rfl)
theorem dL_law_4193 : decode cL_law 4193 = .ok (.iload 6, 2) := dk_21 6 (dk_at dksL_law_168 18 rfl rfl)
theorem dL_law_4195 : decode cL_law 4195 = .ok (.if_icmp .eq 5, 3) := dk_159 0 5 (dk_at dksL_law_168 20 rfl rfl)
theorem dL_law_4198 : decode cL_law 4198 = .ok (.iconst 0, 1) := dk_3 (dk_at dksL_law_168 23 rfl rfl)
theorem dL_law_4199 : decode cL_law 4199 = .ok (.ireturn, 1) := dk_172 (dk_at dksL_law_169 0 rfl rfl)
theorem dL_law_4200 : decode cL_law 4200 = .ok (.iload 6, 2) := dk_21 6 (dk_at dksL_law_169 1 rfl rfl)
theorem dL_law_4202 : decode cL_law 4202 = .ok (.ifCond .ne 15, 3) := dk_154 0 15 (dk_at dksL_law_169 3 rfl rfl)
theorem dL_law_4205 : decode cL_law 4205 = .ok (.aload_n 3, 1) := dk_45 (dk_at dksL_law_169 6 rfl rfl)
theorem dL_law_4206 : decode cL_law 4206 = .ok (.iconst 0, 1) := dk_3 (dk_at dksL_law_169 7 rfl rfl)
theorem dL_law_4207 : decode cL_law 4207 = .ok (.laload, 1) := dk_47 (dk_at dksL_law_169 8 rfl rfl)
theorem dL_law_4208 : decode cL_law 4208 = .ok (.iload 7, 2) := dk_21 7 (dk_at dksL_law_169 9 rfl rfl)
theorem dL_law_4210 : decode cL_law 4210 = .ok (.i2l, 1) := dk_133 (dk_at dksL_law_169 11 rfl rfl)
theorem dL_law_4211 : decode cL_law 4211 = .ok (.lcmp, 1) := dk_148 (dk_at dksL_law_169 12 rfl rfl)
theorem dL_law_4212 : decode cL_law 4212 = .ok (.ifCond .eq 5, 3) := dk_153 0 5 (dk_at dksL_law_169 13 rfl rfl)
theorem dL_law_4215 : decode cL_law 4215 = .ok (.iconst 0, 1) := dk_3 (dk_at dksL_law_169 16 rfl rfl)
theorem dL_law_4216 : decode cL_law 4216 = .ok (.ireturn, 1) := dk_172 (dk_at dksL_law_169 17 rfl rfl)
theorem dL_law_4217 : decode cL_law 4217 = .ok (.goto 3, 3) := dk_167 0 3 (dk_at dksL_law_169 18 rfl rfl)
theorem dL_law_4220 : decode cL_law 4220 = .ok (.iinc 5 6, 3) := dk_132 5 6 (dk_at dksL_law_169 21 rfl rfl)
theorem dL_law_4223 : decode cL_law 4223 = .ok (.goto (-4195), 3) := dk_167 239 157 (dk_at dksL_law_170 0 rfl rfl)
theorem dL_law_4226 : decode cL_law 4226 = .ok (.iconst 1, 1) := dk_4 (dk_at dksL_law_170 3 rfl rfl)
theorem dL_law_4227 : decode cL_law 4227 = .ok (.ireturn, 1) := dk_172 (dk_at dksL_law_170 4 rfl rfl)
theorem lk_X0_208 : zw_LI "MultipoleLineLaw" 208 yX1_init cX1_init 1 (Option.none : Option Jvm.ClassFile.FieldType) 0 := fun R s args Z rm hts hK hR => cwI 0 hts (lw_meth q157) rfl rfl rfl (hts _ q104) (hts _ q155) (hts _ q156) rfl (by decide +kernel) hR
theorem lk_X0_211 : zw_LI "MultipoleLineLaw" 211 yX2_init cX2_init 1 (Option.none : Option Jvm.ClassFile.FieldType) 0 := fun R s args Z rm hts hK hR => cwI 0 hts (lw_meth q2405) rfl rfl rfl (hts _ q111) (hts _ q2403) (hts _ q2404) rfl (by decide +kernel) hR
theorem lk_X0_212 : zw_LV [1] "MultipoleLine" "MultipoleLineLaw" 212 yX1_append cX1_append 11 (Option.some Jvm.ClassFile.FieldType.int) 5 := ⟨by
  intro ci hci
  simp only [List.mem_cons, List.not_mem_nil, or_false] at hci
  subst hci
  exact ⟨_, rfl, rfl⟩, fun R s args Z rm hts hK hR => cwV 5 hts (lw_V q243 q244 q245 q104 q246) rfl rfl rfl (by decide +kernel) hR⟩
theorem lk_X0_216 : zw_LV [0] "MultipoleLineModel" "MultipoleLineLaw" 216 yX2_append cX2_append 6 (Option.some Jvm.ClassFile.FieldType.int) 5 := ⟨by
  intro ci hci
  simp only [List.mem_cons, List.not_mem_nil, or_false] at hci
  subst hci
  exact ⟨_, rfl, rfl⟩, fun R s args Z rm hts hK hR => cwV 5 hts (lw_V q2491 q2492 q2493 q111 q2494) rfl rfl rfl (by decide +kernel) hR⟩
theorem lk_X0_217 : zw_LSX "MultipoleLineLaw" 217 [((0 : Nat), (9 : Nat), (12 : Nat), (13 : Nat)), ((0 : Nat), (9 : Nat), (15 : Nat), (15 : Nat))] yX0_load cX0_load 4 (Option.some Jvm.ClassFile.FieldType.int) 3 := fun R s args Z rm hts hK hR => vx_cwSW 3 hts (lw_SW q271 q272 q103 q273) rfl rfl rfl (by decide +kernel) hR
theorem lk_X0_222 : zw_LV [0] "MultipoleLineModel" "MultipoleLineLaw" 222 yX2_load cX2_load 3 (Option.some Jvm.ClassFile.FieldType.int) 1 := ⟨by
  intro ci hci
  simp only [List.mem_cons, List.not_mem_nil, or_false] at hci
  subst hci
  exact ⟨_, rfl, rfl⟩, fun R s args Z rm hts hK hR => cwV 1 hts (lw_V q2511 q2512 q2513 q111 q2514) rfl rfl rfl (by decide +kernel) hR⟩
theorem lk_X0_223 : zw_LV [0] "MultipoleLineModel" "MultipoleLineLaw" 223 yX2_thrown cX2_thrown 1 (Option.some Jvm.ClassFile.FieldType.int) 0 := ⟨by
  intro ci hci
  simp only [List.mem_cons, List.not_mem_nil, or_false] at hci
  subst hci
  exact ⟨_, rfl, rfl⟩, fun R s args Z rm hts hK hR => cwV 0 hts (lw_V q2487 q2488 q2489 q111 q2490) rfl rfl rfl (by decide +kernel) hR⟩
theorem lk_X0_226 : zw_LV [1] "MultipoleLine" "MultipoleLineLaw" 226 yX1_parseError cX1_parseError 1 (Option.some Jvm.ClassFile.FieldType.int) 0 := ⟨by
  intro ci hci
  simp only [List.mem_cons, List.not_mem_nil, or_false] at hci
  subst hci
  exact ⟨_, rfl, rfl⟩, fun R s args Z rm hts hK hR => cwV 0 hts (lw_V q248 q249 q250 q104 q251) rfl rfl rfl (by decide +kernel) hR⟩
theorem lk_X0_229 : zw_LV [0] "MultipoleLineModel" "MultipoleLineLaw" 229 yX2_parseError cX2_parseError 1 (Option.some Jvm.ClassFile.FieldType.int) 0 := ⟨by
  intro ci hci
  simp only [List.mem_cons, List.not_mem_nil, or_false] at hci
  subst hci
  exact ⟨_, rfl, rfl⟩, fun R s args Z rm hts hK hR => cwV 0 hts (lw_V q2499 q2500 q2501 q111 q2502) rfl rfl rfl (by decide +kernel) hR⟩
theorem lk_X0_230 : zw_LV [1] "MultipoleLine" "MultipoleLineLaw" 230 yX1_errorPosition cX1_errorPosition 1 (Option.some Jvm.ClassFile.FieldType.int) 0 := ⟨by
  intro ci hci
  simp only [List.mem_cons, List.not_mem_nil, or_false] at hci
  subst hci
  exact ⟨_, rfl, rfl⟩, fun R s args Z rm hts hK hR => cwV 0 hts (lw_V q252 q253 q254 q104 q255) rfl rfl rfl (by decide +kernel) hR⟩
theorem lk_X0_233 : zw_LV [0] "MultipoleLineModel" "MultipoleLineLaw" 233 yX2_errorPosition cX2_errorPosition 1 (Option.some Jvm.ClassFile.FieldType.int) 0 := ⟨by
  intro ci hci
  simp only [List.mem_cons, List.not_mem_nil, or_false] at hci
  subst hci
  exact ⟨_, rfl, rfl⟩, fun R s args Z rm hts hK hR => cwV 0 hts (lw_V q2503 q2504 q2505 q111 q2506) rfl rfl rfl (by decide +kernel) hR⟩
theorem lk_X0_234 : zw_LV [1] "MultipoleLine" "MultipoleLineLaw" 234 yX1_buffered cX1_buffered 1 (Option.some Jvm.ClassFile.FieldType.int) 0 := ⟨by
  intro ci hci
  simp only [List.mem_cons, List.not_mem_nil, or_false] at hci
  subst hci
  exact ⟨_, rfl, rfl⟩, fun R s args Z rm hts hK hR => cwV 0 hts (lw_V q256 q257 q258 q104 q259) rfl rfl rfl (by decide +kernel) hR⟩
theorem lk_X0_237 : zw_LV [0] "MultipoleLineModel" "MultipoleLineLaw" 237 yX2_buffered cX2_buffered 1 (Option.some Jvm.ClassFile.FieldType.int) 0 := ⟨by
  intro ci hci
  simp only [List.mem_cons, List.not_mem_nil, or_false] at hci
  subst hci
  exact ⟨_, rfl, rfl⟩, fun R s args Z rm hts hK hR => cwV 0 hts (lw_V q2507 q2508 q2509 q111 q2510) rfl rfl rfl (by decide +kernel) hR⟩
theorem lk_X0_238 : zw_LSX "MultipoleLineLaw" 238 [((0 : Nat), (9 : Nat), (12 : Nat), (20 : Nat)), ((0 : Nat), (9 : Nat), (15 : Nat), (15 : Nat))] yX0_count cX0_count 4 (Option.some Jvm.ClassFile.FieldType.int) 3 := fun R s args Z rm hts hK hR => vx_cwSW 3 hts (lw_SW q1109 q1110 q103 q1111) rfl rfl rfl (by decide +kernel) hR
theorem lk_X0_240 : zw_LV [0] "MultipoleLineModel" "MultipoleLineLaw" 240 yX2_count cX2_count 2 (Option.some Jvm.ClassFile.FieldType.int) 1 := ⟨by
  intro ci hci
  simp only [List.mem_cons, List.not_mem_nil, or_false] at hci
  subst hci
  exact ⟨_, rfl, rfl⟩, fun R s args Z rm hts hK hR => cwV 1 hts (lw_V q2604 q2605 q2606 q111 q2607) rfl rfl rfl (by decide +kernel) hR⟩
theorem lk_X0_241 : zw_LSX "MultipoleLineLaw" 241 [((0 : Nat), (10 : Nat), (13 : Nat), (20 : Nat)), ((0 : Nat), (10 : Nat), (17 : Nat), (13 : Nat)), ((0 : Nat), (10 : Nat), (21 : Nat), (15 : Nat))] yX0_body cX0_body 5 (Option.some Jvm.ClassFile.FieldType.int) 4 := fun R s args Z rm hts hK hR => vx_cwSW 4 hts (lw_SW q1246 q1247 q103 q1248) rfl rfl rfl (by decide +kernel) hR
theorem lk_X0_244 : zw_LV [0] "MultipoleLineModel" "MultipoleLineLaw" 244 yX2_body cX2_body 3 (Option.some Jvm.ClassFile.FieldType.int) 2 := ⟨by
  intro ci hci
  simp only [List.mem_cons, List.not_mem_nil, or_false] at hci
  subst hci
  exact ⟨_, rfl, rfl⟩, fun R s args Z rm hts hK hR => cwV 2 hts (lw_V q2645 q2646 q2647 q111 q2648) rfl rfl rfl (by decide +kernel) hR⟩
theorem lk_X0_245 : zw_LSX "MultipoleLineLaw" 245 [((0 : Nat), (9 : Nat), (12 : Nat), (20 : Nat)), ((0 : Nat), (9 : Nat), (15 : Nat), (15 : Nat))] yX0_bodyAt cX0_bodyAt 4 (Option.some Jvm.ClassFile.FieldType.int) 3 := fun R s args Z rm hts hK hR => vx_cwSW 3 hts (lw_SW q1259 q1260 q103 q1261) rfl rfl rfl (by decide +kernel) hR
theorem lk_X0_247 : zw_LV [0] "MultipoleLineModel" "MultipoleLineLaw" 247 yX2_bodyAt cX2_bodyAt 2 (Option.some Jvm.ClassFile.FieldType.int) 1 := ⟨by
  intro ci hci
  simp only [List.mem_cons, List.not_mem_nil, or_false] at hci
  subst hci
  exact ⟨_, rfl, rfl⟩, fun R s args Z rm hts hK hR => cwV 1 hts (lw_V q2653 q2654 q2655 q111 q2656) rfl rfl rfl (by decide +kernel) hR⟩
theorem lk_X0_248 : zw_LSX "MultipoleLineLaw" 248 [((0 : Nat), (12 : Nat), (15 : Nat), (20 : Nat)), ((0 : Nat), (12 : Nat), (19 : Nat), (13 : Nat)), ((0 : Nat), (12 : Nat), (23 : Nat), (15 : Nat))] yX0_box cX0_box 6 (Option.some Jvm.ClassFile.FieldType.int) 5 := fun R s args Z rm hts hK hR => vx_cwSW 5 hts (lw_SW q1277 q1278 q103 q1279) rfl rfl rfl (by decide +kernel) hR
theorem lk_X0_251 : zw_LV [0] "MultipoleLineModel" "MultipoleLineLaw" 251 yX2_box cX2_box 4 (Option.some Jvm.ClassFile.FieldType.int) 3 := ⟨by
  intro ci hci
  simp only [List.mem_cons, List.not_mem_nil, or_false] at hci
  subst hci
  exact ⟨_, rfl, rfl⟩, fun R s args Z rm hts hK hR => cwV 3 hts (lw_V q2668 q2669 q2670 q111 q2671) rfl rfl rfl (by decide +kernel) hR⟩
theorem lk_X0_252 : zw_LSX "MultipoleLineLaw" 252 [((0 : Nat), (10 : Nat), (13 : Nat), (20 : Nat)), ((0 : Nat), (10 : Nat), (17 : Nat), (13 : Nat)), ((0 : Nat), (10 : Nat), (21 : Nat), (15 : Nat))] yX0_boxAt cX0_boxAt 5 (Option.some Jvm.ClassFile.FieldType.int) 4 := fun R s args Z rm hts hK hR => vx_cwSW 4 hts (lw_SW q1319 q1320 q103 q1321) rfl rfl rfl (by decide +kernel) hR
theorem lk_X0_254 : zw_LV [0] "MultipoleLineModel" "MultipoleLineLaw" 254 yX2_boxAt cX2_boxAt 3 (Option.some Jvm.ClassFile.FieldType.int) 2 := ⟨by
  intro ci hci
  simp only [List.mem_cons, List.not_mem_nil, or_false] at hci
  subst hci
  exact ⟨_, rfl, rfl⟩, fun R s args Z rm hts hK hR => cwV 2 hts (lw_V q2683 q2684 q2685 q111 q2686) rfl rfl rfl (by decide +kernel) hR⟩
theorem lk_X0_255 : zw_LSX "MultipoleLineLaw" 255 [((0 : Nat), (8 : Nat), (11 : Nat), (20 : Nat))] yX0_firstEmpty cX0_firstEmpty 3 (Option.some Jvm.ClassFile.FieldType.int) 2 := fun R s args Z rm hts hK hR => vx_cwSW 2 hts (lw_SW q1327 q1328 q103 q1329) rfl rfl rfl (by decide +kernel) hR
theorem lk_X0_258 : zw_LV [0] "MultipoleLineModel" "MultipoleLineLaw" 258 yX2_firstEmpty cX2_firstEmpty 2 (Option.some Jvm.ClassFile.FieldType.int) 0 := ⟨by
  intro ci hci
  simp only [List.mem_cons, List.not_mem_nil, or_false] at hci
  subst hci
  exact ⟨_, rfl, rfl⟩, fun R s args Z rm hts hK hR => cwV 0 hts (lw_V q2687 q2688 q2689 q111 q2690) rfl rfl rfl (by decide +kernel) hR⟩
theorem lk_X0_259 : zw_LSX "MultipoleLineLaw" 259 [((0 : Nat), (8 : Nat), (11 : Nat), (20 : Nat))] yX0_densest cX0_densest 3 (Option.some Jvm.ClassFile.FieldType.int) 2 := fun R s args Z rm hts hK hR => vx_cwSW 2 hts (lw_SW q1347 q1348 q103 q1349) rfl rfl rfl (by decide +kernel) hR
theorem lk_X0_261 : zw_LV [0] "MultipoleLineModel" "MultipoleLineLaw" 261 yX2_densest cX2_densest 5 (Option.some Jvm.ClassFile.FieldType.int) 0 := ⟨by
  intro ci hci
  simp only [List.mem_cons, List.not_mem_nil, or_false] at hci
  subst hci
  exact ⟨_, rfl, rfl⟩, fun R s args Z rm hts hK hR => cwV 0 hts (lw_V q2695 q2696 q2697 q111 q2698) rfl rfl rfl (by decide +kernel) hR⟩
theorem lk_X0_262 : zw_LSX "MultipoleLineLaw" 262 [((0 : Nat), (11 : Nat), (14 : Nat), (20 : Nat)), ((0 : Nat), (11 : Nat), (18 : Nat), (13 : Nat)), ((0 : Nat), (11 : Nat), (22 : Nat), (15 : Nat))] yX0_moment cX0_moment 6 (Option.some Jvm.ClassFile.FieldType.int) 5 := fun R s args Z rm hts hK hR => vx_cwSW 5 hts (lw_SW q1358 q1359 q103 q1360) rfl rfl rfl (by decide +kernel) hR
theorem lk_X0_264 : zw_LV [0] "MultipoleLineModel" "MultipoleLineLaw" 264 yX2_moment cX2_moment 4 (Option.some Jvm.ClassFile.FieldType.long) 3 := ⟨by
  intro ci hci
  simp only [List.mem_cons, List.not_mem_nil, or_false] at hci
  subst hci
  exact ⟨_, rfl, rfl⟩, fun R s args Z rm hts hK hR => cwV 3 hts (lw_V q2699 q2700 q2701 q111 q2702) rfl rfl rfl (by decide +kernel) hR⟩
theorem lk_X0_265 : zw_LSX "MultipoleLineLaw" 265 [((0 : Nat), (11 : Nat), (14 : Nat), (20 : Nat)), ((0 : Nat), (11 : Nat), (18 : Nat), (13 : Nat)), ((0 : Nat), (11 : Nat), (22 : Nat), (15 : Nat))] yX0_shifted cX0_shifted 6 (Option.some Jvm.ClassFile.FieldType.int) 5 := fun R s args Z rm hts hK hR => vx_cwSW 5 hts (lw_SW q1370 q1371 q103 q1372) rfl rfl rfl (by decide +kernel) hR
theorem lk_X0_267 : zw_LV [0] "MultipoleLineModel" "MultipoleLineLaw" 267 yX2_shifted cX2_shifted 4 (Option.some Jvm.ClassFile.FieldType.long) 3 := ⟨by
  intro ci hci
  simp only [List.mem_cons, List.not_mem_nil, or_false] at hci
  subst hci
  exact ⟨_, rfl, rfl⟩, fun R s args Z rm hts hK hR => cwV 3 hts (lw_V q2717 q2718 q2719 q111 q2720) rfl rfl rfl (by decide +kernel) hR⟩
theorem lk_X0_268 : zw_LSX "MultipoleLineLaw" 268 [((0 : Nat), (7 : Nat), (10 : Nat), (20 : Nat))] yX0_momentGap cX0_momentGap 3 (Option.some Jvm.ClassFile.FieldType.int) 2 := fun R s args Z rm hts hK hR => vx_cwSW 2 hts (lw_SW q1390 q1391 q103 q1392) rfl rfl rfl (by decide +kernel) hR
theorem lk_X0_270 : zw_LV [0] "MultipoleLineModel" "MultipoleLineLaw" 270 yX2_momentGap cX2_momentGap 8 (Option.some Jvm.ClassFile.FieldType.long) 0 := ⟨by
  intro ci hci
  simp only [List.mem_cons, List.not_mem_nil, or_false] at hci
  subst hci
  exact ⟨_, rfl, rfl⟩, fun R s args Z rm hts hK hR => cwV 0 hts (lw_V q2739 q2740 q2741 q111 q2742) rfl rfl rfl (by decide +kernel) hR⟩
theorem lk_X0_271 : zw_LSX "MultipoleLineLaw" 271 [((0 : Nat), (9 : Nat), (12 : Nat), (20 : Nat)), ((0 : Nat), (9 : Nat), (15 : Nat), (15 : Nat))] yX0_nearMany cX0_nearMany 4 (Option.some Jvm.ClassFile.FieldType.int) 3 := fun R s args Z rm hts hK hR => vx_cwSW 3 hts (lw_SW q1404 q1405 q103 q1406) rfl rfl rfl (by decide +kernel) hR
theorem lk_X0_273 : zw_LV [0] "MultipoleLineModel" "MultipoleLineLaw" 273 yX2_nearMany cX2_nearMany 2 (Option.some Jvm.ClassFile.FieldType.int) 1 := ⟨by
  intro ci hci
  simp only [List.mem_cons, List.not_mem_nil, or_false] at hci
  subst hci
  exact ⟨_, rfl, rfl⟩, fun R s args Z rm hts hK hR => cwV 1 hts (lw_V q2743 q2744 q2745 q111 q2746) rfl rfl rfl (by decide +kernel) hR⟩
theorem lk_X0_274 : zw_LSX "MultipoleLineLaw" 274 [((0 : Nat), (10 : Nat), (13 : Nat), (20 : Nat)), ((0 : Nat), (10 : Nat), (17 : Nat), (15 : Nat))] yX0_nearBody cX0_nearBody 5 (Option.some Jvm.ClassFile.FieldType.int) 4 := fun R s args Z rm hts hK hR => vx_cwSW 4 hts (lw_SW q1466 q1467 q103 q1468) rfl rfl rfl (by decide +kernel) hR
theorem lk_X0_276 : zw_LV [0] "MultipoleLineModel" "MultipoleLineLaw" 276 yX2_nearBody cX2_nearBody 5 (Option.some Jvm.ClassFile.FieldType.int) 2 := ⟨by
  intro ci hci
  simp only [List.mem_cons, List.not_mem_nil, or_false] at hci
  subst hci
  exact ⟨_, rfl, rfl⟩, fun R s args Z rm hts hK hR => cwV 2 hts (lw_V q2755 q2756 q2757 q111 q2758) rfl rfl rfl (by decide +kernel) hR⟩
theorem lk_X0_277 : zw_LSX "MultipoleLineLaw" 277 [((0 : Nat), (9 : Nat), (12 : Nat), (20 : Nat)), ((0 : Nat), (9 : Nat), (15 : Nat), (15 : Nat))] yX0_farMany cX0_farMany 4 (Option.some Jvm.ClassFile.FieldType.int) 3 := fun R s args Z rm hts hK hR => vx_cwSW 3 hts (lw_SW q1706 q1707 q103 q1708) rfl rfl rfl (by decide +kernel) hR
theorem lk_X0_279 : zw_LV [0] "MultipoleLineModel" "MultipoleLineLaw" 279 yX2_farMany cX2_farMany 2 (Option.some Jvm.ClassFile.FieldType.int) 1 := ⟨by
  intro ci hci
  simp only [List.mem_cons, List.not_mem_nil, or_false] at hci
  subst hci
  exact ⟨_, rfl, rfl⟩, fun R s args Z rm hts hK hR => cwV 1 hts (lw_V q2759 q2760 q2761 q111 q2762) rfl rfl rfl (by decide +kernel) hR⟩
theorem lk_X0_280 : zw_LSX "MultipoleLineLaw" 280 [((0 : Nat), (10 : Nat), (13 : Nat), (20 : Nat)), ((0 : Nat), (10 : Nat), (17 : Nat), (15 : Nat))] yX0_farBox cX0_farBox 5 (Option.some Jvm.ClassFile.FieldType.int) 4 := fun R s args Z rm hts hK hR => vx_cwSW 4 hts (lw_SW q1730 q1731 q103 q1732) rfl rfl rfl (by decide +kernel) hR
theorem lk_X0_282 : zw_LV [0] "MultipoleLineModel" "MultipoleLineLaw" 282 yX2_farBox cX2_farBox 3 (Option.some Jvm.ClassFile.FieldType.int) 2 := ⟨by
  intro ci hci
  simp only [List.mem_cons, List.not_mem_nil, or_false] at hci
  subst hci
  exact ⟨_, rfl, rfl⟩, fun R s args Z rm hts hK hR => cwV 2 hts (lw_V q2771 q2772 q2773 q111 q2774) rfl rfl rfl (by decide +kernel) hR⟩
theorem lk_X0_283 : zw_LSX "MultipoleLineLaw" 283 [((0 : Nat), (9 : Nat), (12 : Nat), (20 : Nat)), ((0 : Nat), (9 : Nat), (15 : Nat), (15 : Nat))] yX0_farBodies cX0_farBodies 4 (Option.some Jvm.ClassFile.FieldType.int) 3 := fun R s args Z rm hts hK hR => vx_cwSW 3 hts (lw_SW q1737 q1738 q103 q1739) rfl rfl rfl (by decide +kernel) hR
theorem lk_X0_285 : zw_LV [0] "MultipoleLineModel" "MultipoleLineLaw" 285 yX2_farBodies cX2_farBodies 4 (Option.some Jvm.ClassFile.FieldType.int) 1 := ⟨by
  intro ci hci
  simp only [List.mem_cons, List.not_mem_nil, or_false] at hci
  subst hci
  exact ⟨_, rfl, rfl⟩, fun R s args Z rm hts hK hR => cwV 1 hts (lw_V q2775 q2776 q2777 q111 q2778) rfl rfl rfl (by decide +kernel) hR⟩
theorem lk_X0_286 : zw_LSX "MultipoleLineLaw" 286 [((0 : Nat), (10 : Nat), (13 : Nat), (20 : Nat)), ((0 : Nat), (10 : Nat), (17 : Nat), (15 : Nat))] yX0_cost cX0_cost 5 (Option.some Jvm.ClassFile.FieldType.int) 4 := fun R s args Z rm hts hK hR => vx_cwSW 4 hts (lw_SW q1749 q1750 q103 q1751) rfl rfl rfl (by decide +kernel) hR
theorem lk_X0_289 : zw_LV [0] "MultipoleLineModel" "MultipoleLineLaw" 289 yX2_cost cX2_cost 3 (Option.some Jvm.ClassFile.FieldType.int) 2 := ⟨by
  intro ci hci
  simp only [List.mem_cons, List.not_mem_nil, or_false] at hci
  subst hci
  exact ⟨_, rfl, rfl⟩, fun R s args Z rm hts hK hR => cwV 2 hts (lw_V q2787 q2788 q2789 q111 q2790) rfl rfl rfl (by decide +kernel) hR⟩
theorem lk_X0_290 : zw_LSX "MultipoleLineLaw" 290 [((0 : Nat), (8 : Nat), (11 : Nat), (20 : Nat)), ((0 : Nat), (8 : Nat), (14 : Nat), (15 : Nat))] yX0_plain cX0_plain 4 (Option.some Jvm.ClassFile.FieldType.int) 3 := fun R s args Z rm hts hK hR => vx_cwSW 3 hts (lw_SW q1760 q1761 q103 q1762) rfl rfl rfl (by decide +kernel) hR
theorem lk_X0_293 : zw_LV [0] "MultipoleLineModel" "MultipoleLineLaw" 293 yX2_plain cX2_plain 2 (Option.some Jvm.ClassFile.FieldType.double) 1 := ⟨by
  intro ci hci
  simp only [List.mem_cons, List.not_mem_nil, or_false] at hci
  subst hci
  exact ⟨_, rfl, rfl⟩, fun R s args Z rm hts hK hR => cwV 1 hts (lw_V q2795 q2796 q2797 q111 q2798) rfl rfl rfl (by decide +kernel) hR⟩
theorem lk_X0_294 : zw_LSX "MultipoleLineLaw" 294 [((0 : Nat), (8 : Nat), (11 : Nat), (20 : Nat)), ((0 : Nat), (8 : Nat), (14 : Nat), (15 : Nat))] yX0_nearSum cX0_nearSum 4 (Option.some Jvm.ClassFile.FieldType.int) 3 := fun R s args Z rm hts hK hR => vx_cwSW 3 hts (lw_SW q1789 q1790 q103 q1791) rfl rfl rfl (by decide +kernel) hR
theorem lk_X0_296 : zw_LV [0] "MultipoleLineModel" "MultipoleLineLaw" 296 yX2_nearSum cX2_nearSum 2 (Option.some Jvm.ClassFile.FieldType.double) 1 := ⟨by
  intro ci hci
  simp only [List.mem_cons, List.not_mem_nil, or_false] at hci
  subst hci
  exact ⟨_, rfl, rfl⟩, fun R s args Z rm hts hK hR => cwV 1 hts (lw_V q2803 q2804 q2805 q111 q2806) rfl rfl rfl (by decide +kernel) hR⟩
theorem lk_X0_297 : zw_LSX "MultipoleLineLaw" 297 [((0 : Nat), (8 : Nat), (11 : Nat), (20 : Nat)), ((0 : Nat), (8 : Nat), (14 : Nat), (15 : Nat))] yX0_farSum cX0_farSum 4 (Option.some Jvm.ClassFile.FieldType.int) 3 := fun R s args Z rm hts hK hR => vx_cwSW 3 hts (lw_SW q1797 q1798 q103 q1799) rfl rfl rfl (by decide +kernel) hR
theorem lk_X0_299 : zw_LV [0] "MultipoleLineModel" "MultipoleLineLaw" 299 yX2_farSum cX2_farSum 2 (Option.some Jvm.ClassFile.FieldType.double) 1 := ⟨by
  intro ci hci
  simp only [List.mem_cons, List.not_mem_nil, or_false] at hci
  subst hci
  exact ⟨_, rfl, rfl⟩, fun R s args Z rm hts hK hR => cwV 1 hts (lw_V q2807 q2808 q2809 q111 q2810) rfl rfl rfl (by decide +kernel) hR⟩
theorem lk_X0_300 : zw_LSX "MultipoleLineLaw" 300 [((0 : Nat), (8 : Nat), (11 : Nat), (20 : Nat)), ((0 : Nat), (8 : Nat), (14 : Nat), (15 : Nat))] yX0_farBits cX0_farBits 4 (Option.some Jvm.ClassFile.FieldType.int) 3 := fun R s args Z rm hts hK hR => vx_cwSW 3 hts (lw_SW q1805 q1806 q103 q1807) rfl rfl rfl (by decide +kernel) hR
theorem lk_X0_302 : zw_LV [0] "MultipoleLineModel" "MultipoleLineLaw" 302 yX2_farBits cX2_farBits 2 (Option.some Jvm.ClassFile.FieldType.long) 1 := ⟨by
  intro ci hci
  simp only [List.mem_cons, List.not_mem_nil, or_false] at hci
  subst hci
  exact ⟨_, rfl, rfl⟩, fun R s args Z rm hts hK hR => cwV 1 hts (lw_V q2819 q2820 q2821 q111 q2822) rfl rfl rfl (by decide +kernel) hR⟩
theorem lk_X0_303 : zw_LSX "MultipoleLineLaw" 303 [((0 : Nat), (11 : Nat), (14 : Nat), (20 : Nat)), ((0 : Nat), (11 : Nat), (18 : Nat), (13 : Nat)), ((0 : Nat), (11 : Nat), (22 : Nat), (15 : Nat))] yX0_value cX0_value 6 (Option.some Jvm.ClassFile.FieldType.int) 5 := fun R s args Z rm hts hK hR => vx_cwSW 5 hts (lw_SW q1823 q1824 q103 q1825) rfl rfl rfl (by decide +kernel) hR
theorem lk_X0_306 : zw_LV [0] "MultipoleLineModel" "MultipoleLineLaw" 306 yX2_value cX2_value 6 (Option.some Jvm.ClassFile.FieldType.double) 3 := ⟨by
  intro ci hci
  simp only [List.mem_cons, List.not_mem_nil, or_false] at hci
  subst hci
  exact ⟨_, rfl, rfl⟩, fun R s args Z rm hts hK hR => cwV 3 hts (lw_V q2824 q2825 q2826 q111 q2827) rfl rfl rfl (by decide +kernel) hR⟩
theorem lk_X0_307 : zw_LSX "MultipoleLineLaw" 307 [((0 : Nat), (8 : Nat), (11 : Nat), (20 : Nat)), ((0 : Nat), (8 : Nat), (14 : Nat), (15 : Nat))] yX0_bound cX0_bound 4 (Option.some Jvm.ClassFile.FieldType.int) 3 := fun R s args Z rm hts hK hR => vx_cwSW 3 hts (lw_SW q1832 q1833 q103 q1834) rfl rfl rfl (by decide +kernel) hR
theorem lk_X0_309 : zw_LV [0] "MultipoleLineModel" "MultipoleLineLaw" 309 yX2_bound cX2_bound 2 (Option.some Jvm.ClassFile.FieldType.double) 1 := ⟨by
  intro ci hci
  simp only [List.mem_cons, List.not_mem_nil, or_false] at hci
  subst hci
  exact ⟨_, rfl, rfl⟩, fun R s args Z rm hts hK hR => cwV 1 hts (lw_V q2828 q2829 q2830 q111 q2831) rfl rfl rfl (by decide +kernel) hR⟩
theorem lk_X0_310 : zw_LSX "MultipoleLineLaw" 310 [((0 : Nat), (8 : Nat), (11 : Nat), (20 : Nat)), ((0 : Nat), (8 : Nat), (14 : Nat), (15 : Nat))] yX0_gapAt cX0_gapAt 4 (Option.some Jvm.ClassFile.FieldType.int) 3 := fun R s args Z rm hts hK hR => vx_cwSW 3 hts (lw_SW q1847 q1848 q103 q1849) rfl rfl rfl (by decide +kernel) hR
theorem lk_X0_312 : zw_LV [0] "MultipoleLineModel" "MultipoleLineLaw" 312 yX2_gapAt cX2_gapAt 2 (Option.some Jvm.ClassFile.FieldType.double) 1 := ⟨by
  intro ci hci
  simp only [List.mem_cons, List.not_mem_nil, or_false] at hci
  subst hci
  exact ⟨_, rfl, rfl⟩, fun R s args Z rm hts hK hR => cwV 1 hts (lw_V q2841 q2842 q2843 q111 q2844) rfl rfl rfl (by decide +kernel) hR⟩
theorem lk_X0_313 : zw_LSX "MultipoleLineLaw" 313 [((0 : Nat), (16 : Nat), (19 : Nat), (20 : Nat)), ((0 : Nat), (16 : Nat), (22 : Nat), (15 : Nat))] yX0_isWithin cX0_isWithin 4 (Option.some Jvm.ClassFile.FieldType.int) 3 := fun R s args Z rm hts hK hR => vx_cwSW 3 hts (lw_SW q1862 q1863 q103 q1864) rfl rfl rfl (by decide +kernel) hR
theorem lk_X0_315 : zw_LV [0] "MultipoleLineModel" "MultipoleLineLaw" 315 yX2_isWithin cX2_isWithin 2 (Option.some Jvm.ClassFile.FieldType.boolean) 1 := ⟨by
  intro ci hci
  simp only [List.mem_cons, List.not_mem_nil, or_false] at hci
  subst hci
  exact ⟨_, rfl, rfl⟩, fun R s args Z rm hts hK hR => cwV 1 hts (lw_V q2852 q2853 q2854 q111 q2855) rfl rfl rfl (by decide +kernel) hR⟩
theorem lk_X0_316 : zw_LSX "MultipoleLineLaw" 316 [((0 : Nat), (8 : Nat), (11 : Nat), (20 : Nat))] yX0_worst cX0_worst 3 (Option.some Jvm.ClassFile.FieldType.int) 2 := fun R s args Z rm hts hK hR => vx_cwSW 2 hts (lw_SW q1870 q1871 q103 q1872) rfl rfl rfl (by decide +kernel) hR
theorem lk_X0_318 : zw_LV [0] "MultipoleLineModel" "MultipoleLineLaw" 318 yX2_worst cX2_worst 7 (Option.some Jvm.ClassFile.FieldType.int) 0 := ⟨by
  intro ci hci
  simp only [List.mem_cons, List.not_mem_nil, or_false] at hci
  subst hci
  exact ⟨_, rfl, rfl⟩, fun R s args Z rm hts hK hR => cwV 0 hts (lw_V q2857 q2858 q2859 q111 q2860) rfl rfl rfl (by decide +kernel) hR⟩
theorem lk_X0_319 : zw_LSX "MultipoleLineLaw" 319 [((0 : Nat), (11 : Nat), (14 : Nat), (20 : Nat)), ((0 : Nat), (11 : Nat), (18 : Nat), (13 : Nat)), ((0 : Nat), (11 : Nat), (22 : Nat), (15 : Nat))] yX0_localEntry cX0_localEntry 6 (Option.some Jvm.ClassFile.FieldType.int) 5 := fun R s args Z rm hts hK hR => vx_cwSW 5 hts (lw_SW q1877 q1878 q103 q1879) rfl rfl rfl (by decide +kernel) hR
theorem lk_X0_321 : zw_LV [0] "MultipoleLineModel" "MultipoleLineLaw" 321 yX2_localEntry cX2_localEntry 4 (Option.some Jvm.ClassFile.FieldType.double) 3 := ⟨by
  intro ci hci
  simp only [List.mem_cons, List.not_mem_nil, or_false] at hci
  subst hci
  exact ⟨_, rfl, rfl⟩, fun R s args Z rm hts hK hR => cwV 3 hts (lw_V q2861 q2862 q2863 q111 q2864) rfl rfl rfl (by decide +kernel) hR⟩
theorem lk_X0_322 : zw_LSX "MultipoleLineLaw" 322 [((0 : Nat), (8 : Nat), (11 : Nat), (20 : Nat)), ((0 : Nat), (8 : Nat), (14 : Nat), (15 : Nat))] yX0_localSum cX0_localSum 4 (Option.some Jvm.ClassFile.FieldType.int) 3 := fun R s args Z rm hts hK hR => vx_cwSW 3 hts (lw_SW q1903 q1904 q103 q1905) rfl rfl rfl (by decide +kernel) hR
theorem lk_X0_324 : zw_LV [0] "MultipoleLineModel" "MultipoleLineLaw" 324 yX2_localSum cX2_localSum 6 (Option.some Jvm.ClassFile.FieldType.double) 1 := ⟨by
  intro ci hci
  simp only [List.mem_cons, List.not_mem_nil, or_false] at hci
  subst hci
  exact ⟨_, rfl, rfl⟩, fun R s args Z rm hts hK hR => cwV 1 hts (lw_V q2880 q2881 q2882 q111 q2883) rfl rfl rfl (by decide +kernel) hR⟩
theorem lk_X0_325 : zw_LSX "MultipoleLineLaw" 325 [((0 : Nat), (8 : Nat), (11 : Nat), (20 : Nat)), ((0 : Nat), (8 : Nat), (14 : Nat), (15 : Nat))] yX0_pullPlain cX0_pullPlain 4 (Option.some Jvm.ClassFile.FieldType.int) 3 := fun R s args Z rm hts hK hR => vx_cwSW 3 hts (lw_SW q1914 q1915 q103 q1916) rfl rfl rfl (by decide +kernel) hR
theorem lk_X0_327 : zw_LV [0] "MultipoleLineModel" "MultipoleLineLaw" 327 yX2_pullPlain cX2_pullPlain 2 (Option.some Jvm.ClassFile.FieldType.double) 1 := ⟨by
  intro ci hci
  simp only [List.mem_cons, List.not_mem_nil, or_false] at hci
  subst hci
  exact ⟨_, rfl, rfl⟩, fun R s args Z rm hts hK hR => cwV 1 hts (lw_V q2884 q2885 q2886 q111 q2887) rfl rfl rfl (by decide +kernel) hR⟩
theorem lk_X0_328 : zw_LSX "MultipoleLineLaw" 328 [((0 : Nat), (8 : Nat), (11 : Nat), (20 : Nat)), ((0 : Nat), (8 : Nat), (14 : Nat), (15 : Nat))] yX0_pullFar cX0_pullFar 4 (Option.some Jvm.ClassFile.FieldType.int) 3 := fun R s args Z rm hts hK hR => vx_cwSW 3 hts (lw_SW q1925 q1926 q103 q1927) rfl rfl rfl (by decide +kernel) hR
theorem lk_X0_330 : zw_LV [0] "MultipoleLineModel" "MultipoleLineLaw" 330 yX2_pullFar cX2_pullFar 2 (Option.some Jvm.ClassFile.FieldType.double) 1 := ⟨by
  intro ci hci
  simp only [List.mem_cons, List.not_mem_nil, or_false] at hci
  subst hci
  exact ⟨_, rfl, rfl⟩, fun R s args Z rm hts hK hR => cwV 1 hts (lw_V q2892 q2893 q2894 q111 q2895) rfl rfl rfl (by decide +kernel) hR⟩
theorem lk_X0_331 : zw_LSX "MultipoleLineLaw" 331 [((0 : Nat), (8 : Nat), (11 : Nat), (20 : Nat)), ((0 : Nat), (8 : Nat), (14 : Nat), (15 : Nat))] yX0_pull cX0_pull 4 (Option.some Jvm.ClassFile.FieldType.int) 3 := fun R s args Z rm hts hK hR => vx_cwSW 3 hts (lw_SW q1936 q1937 q103 q1938) rfl rfl rfl (by decide +kernel) hR
theorem lk_X0_333 : zw_LV [0] "MultipoleLineModel" "MultipoleLineLaw" 333 yX2_pull cX2_pull 2 (Option.some Jvm.ClassFile.FieldType.double) 1 := ⟨by
  intro ci hci
  simp only [List.mem_cons, List.not_mem_nil, or_false] at hci
  subst hci
  exact ⟨_, rfl, rfl⟩, fun R s args Z rm hts hK hR => cwV 1 hts (lw_V q2904 q2905 q2906 q111 q2907) rfl rfl rfl (by decide +kernel) hR⟩
theorem lk_X0_334 : zw_LSX "MultipoleLineLaw" 334 [((0 : Nat), (9 : Nat), (12 : Nat), (20 : Nat)), ((0 : Nat), (9 : Nat), (15 : Nat), (13 : Nat))] yX0_willMove cX0_willMove 4 (Option.some Jvm.ClassFile.FieldType.int) 3 := fun R s args Z rm hts hK hR => vx_cwSW 3 hts (lw_SW q1949 q1950 q103 q1951) rfl rfl rfl (by decide +kernel) hR
theorem lk_X0_336 : zw_LV [0] "MultipoleLineModel" "MultipoleLineLaw" 336 yX2_willMove cX2_willMove 2 (Option.some Jvm.ClassFile.FieldType.int) 1 := ⟨by
  intro ci hci
  simp only [List.mem_cons, List.not_mem_nil, or_false] at hci
  subst hci
  exact ⟨_, rfl, rfl⟩, fun R s args Z rm hts hK hR => cwV 1 hts (lw_V q2916 q2917 q2918 q111 q2919) rfl rfl rfl (by decide +kernel) hR⟩
theorem lk_X0_337 : zw_LSX "MultipoleLineLaw" 337 [((0 : Nat), (10 : Nat), (13 : Nat), (20 : Nat)), ((0 : Nat), (10 : Nat), (17 : Nat), (13 : Nat)), ((0 : Nat), (10 : Nat), (21 : Nat), (15 : Nat))] yX0_placeIn cX0_placeIn 5 (Option.some Jvm.ClassFile.FieldType.int) 4 := fun R s args Z rm hts hK hR => vx_cwSW 4 hts (lw_SW q1962 q1963 q103 q1964) rfl rfl rfl (by decide +kernel) hR
theorem lk_X0_339 : zw_LV [0] "MultipoleLineModel" "MultipoleLineLaw" 339 yX2_placeIn cX2_placeIn 4 (Option.some Jvm.ClassFile.FieldType.int) 2 := ⟨by
  intro ci hci
  simp only [List.mem_cons, List.not_mem_nil, or_false] at hci
  subst hci
  exact ⟨_, rfl, rfl⟩, fun R s args Z rm hts hK hR => cwV 2 hts (lw_V q2925 q2926 q2927 q111 q2928) rfl rfl rfl (by decide +kernel) hR⟩
theorem lk_X0_340 : zw_LSX "MultipoleLineLaw" 340 [((0 : Nat), (9 : Nat), (12 : Nat), (20 : Nat)), ((0 : Nat), (9 : Nat), (15 : Nat), (15 : Nat))] yX0_movesIn cX0_movesIn 4 (Option.some Jvm.ClassFile.FieldType.int) 3 := fun R s args Z rm hts hK hR => vx_cwSW 3 hts (lw_SW q2010 q2011 q103 q2012) rfl rfl rfl (by decide +kernel) hR
theorem lk_X0_342 : zw_LV [0] "MultipoleLineModel" "MultipoleLineLaw" 342 yX2_movesIn cX2_movesIn 2 (Option.some Jvm.ClassFile.FieldType.int) 1 := ⟨by
  intro ci hci
  simp only [List.mem_cons, List.not_mem_nil, or_false] at hci
  subst hci
  exact ⟨_, rfl, rfl⟩, fun R s args Z rm hts hK hR => cwV 1 hts (lw_V q2948 q2949 q2950 q111 q2951) rfl rfl rfl (by decide +kernel) hR⟩
theorem lk_X0_343 : zw_LSX "MultipoleLineLaw" 343 [((0 : Nat), (8 : Nat), (11 : Nat), (20 : Nat))] yX0_stillIn cX0_stillIn 3 (Option.some Jvm.ClassFile.FieldType.int) 2 := fun R s args Z rm hts hK hR => vx_cwSW 2 hts (lw_SW q2017 q2018 q103 q2019) rfl rfl rfl (by decide +kernel) hR
theorem lk_X0_345 : zw_LV [0] "MultipoleLineModel" "MultipoleLineLaw" 345 yX2_stillIn cX2_stillIn 3 (Option.some Jvm.ClassFile.FieldType.int) 0 := ⟨by
  intro ci hci
  simp only [List.mem_cons, List.not_mem_nil, or_false] at hci
  subst hci
  exact ⟨_, rfl, rfl⟩, fun R s args Z rm hts hK hR => cwV 0 hts (lw_V q2952 q2953 q2954 q111 q2955) rfl rfl rfl (by decide +kernel) hR⟩
theorem lk_X0_346 : zw_LSX "MultipoleLineLaw" 346 [((0 : Nat), (10 : Nat), (13 : Nat), (20 : Nat)), ((0 : Nat), (10 : Nat), (17 : Nat), (15 : Nat))] yX0_orderFor cX0_orderFor 5 (Option.some Jvm.ClassFile.FieldType.int) 4 := fun R s args Z rm hts hK hR => vx_cwSW 4 hts (lw_SW q2028 q2029 q103 q2030) rfl rfl rfl (by decide +kernel) hR
theorem lk_X0_348 : zw_LV [0] "MultipoleLineModel" "MultipoleLineLaw" 348 yX2_orderFor cX2_orderFor 6 (Option.some Jvm.ClassFile.FieldType.int) 2 := ⟨by
  intro ci hci
  simp only [List.mem_cons, List.not_mem_nil, or_false] at hci
  subst hci
  exact ⟨_, rfl, rfl⟩, fun R s args Z rm hts hK hR => cwV 2 hts (lw_V q2960 q2961 q2962 q111 q2963) rfl rfl rfl (by decide +kernel) hR⟩
theorem lk_X0_349 : zw_LSX "MultipoleLineLaw" 349 [((0 : Nat), (8 : Nat), (11 : Nat), (20 : Nat))] yX0_bestLevels cX0_bestLevels 3 (Option.some Jvm.ClassFile.FieldType.int) 2 := fun R s args Z rm hts hK hR => vx_cwSW 2 hts (lw_SW q2037 q2038 q103 q2039) rfl rfl rfl (by decide +kernel) hR
theorem lk_X0_351 : zw_LV [0] "MultipoleLineModel" "MultipoleLineLaw" 351 yX2_bestLevels cX2_bestLevels 5 (Option.some Jvm.ClassFile.FieldType.int) 0 := ⟨by
  intro ci hci
  simp only [List.mem_cons, List.not_mem_nil, or_false] at hci
  subst hci
  exact ⟨_, rfl, rfl⟩, fun R s args Z rm hts hK hR => cwV 0 hts (lw_V q2965 q2966 q2967 q111 q2968) rfl rfl rfl (by decide +kernel) hR⟩
theorem lk_X0_352 : zw_LSX "MultipoleLineLaw" 352 [((0 : Nat), (9 : Nat), (12 : Nat), (20 : Nat)), ((0 : Nat), (9 : Nat), (16 : Nat), (13 : Nat)), ((0 : Nat), (9 : Nat), (20 : Nat), (15 : Nat))] yX0_without cX0_without 5 (Option.some Jvm.ClassFile.FieldType.int) 4 := fun R s args Z rm hts hK hR => vx_cwSW 4 hts (lw_SW q2048 q2049 q103 q2050) rfl rfl rfl (by decide +kernel) hR
theorem lk_X0_355 : zw_LV [0] "MultipoleLineModel" "MultipoleLineLaw" 355 yX2_without cX2_without 3 (Option.some Jvm.ClassFile.FieldType.double) 2 := ⟨by
  intro ci hci
  simp only [List.mem_cons, List.not_mem_nil, or_false] at hci
  subst hci
  exact ⟨_, rfl, rfl⟩, fun R s args Z rm hts hK hR => cwV 2 hts (lw_V q2973 q2974 q2975 q111 q2976) rfl rfl rfl (by decide +kernel) hR⟩
theorem lk_X0_356 : zw_LSX "MultipoleLineLaw" 356 [((0 : Nat), (8 : Nat), (11 : Nat), (20 : Nat))] yX0_quietest cX0_quietest 3 (Option.some Jvm.ClassFile.FieldType.int) 2 := fun R s args Z rm hts hK hR => vx_cwSW 2 hts (lw_SW q2055 q2056 q103 q2057) rfl rfl rfl (by decide +kernel) hR
theorem lk_X0_358 : zw_LV [0] "MultipoleLineModel" "MultipoleLineLaw" 358 yX2_quietest cX2_quietest 7 (Option.some Jvm.ClassFile.FieldType.int) 0 := ⟨by
  intro ci hci
  simp only [List.mem_cons, List.not_mem_nil, or_false] at hci
  subst hci
  exact ⟨_, rfl, rfl⟩, fun R s args Z rm hts hK hR => cwV 0 hts (lw_V q2977 q2978 q2979 q111 q2980) rfl rfl rfl (by decide +kernel) hR⟩
theorem lk_X0_359 : zw_LSX "MultipoleLineLaw" 359 [((0 : Nat), (8 : Nat), (11 : Nat), (20 : Nat))] yX0_energy cX0_energy 4 (Option.some Jvm.ClassFile.FieldType.int) 3 := fun R s args Z rm hts hK hR => vx_cwSW 3 hts (lw_SW q2064 q2065 q103 q2066) rfl rfl rfl (by decide +kernel) hR
theorem lk_X0_362 : zw_LV [0] "MultipoleLineModel" "MultipoleLineLaw" 362 yX2_energy cX2_energy 8 (Option.some Jvm.ClassFile.FieldType.double) 1 := ⟨by
  intro ci hci
  simp only [List.mem_cons, List.not_mem_nil, or_false] at hci
  subst hci
  exact ⟨_, rfl, rfl⟩, fun R s args Z rm hts hK hR => cwV 1 hts (lw_V q2836 q2837 q2838 q111 q2839) rfl rfl rfl (by decide +kernel) hR⟩
theorem lk_X0_363 : zw_LSX "MultipoleLineLaw" 363 [((0 : Nat), (9 : Nat), (12 : Nat), (20 : Nat)), ((0 : Nat), (9 : Nat), (15 : Nat), (15 : Nat))] yX0_nearestZero cX0_nearestZero 4 (Option.some Jvm.ClassFile.FieldType.int) 3 := fun R s args Z rm hts hK hR => vx_cwSW 3 hts (lw_SW q2072 q2073 q103 q2074) rfl rfl rfl (by decide +kernel) hR
theorem lk_X0_365 : zw_LV [0] "MultipoleLineModel" "MultipoleLineLaw" 365 yX2_nearestZero cX2_nearestZero 9 (Option.some Jvm.ClassFile.FieldType.int) 1 := ⟨by
  intro ci hci
  simp only [List.mem_cons, List.not_mem_nil, or_false] at hci
  subst hci
  exact ⟨_, rfl, rfl⟩, fun R s args Z rm hts hK hR => cwV 1 hts (lw_V q2912 q2913 q2914 q111 q2915) rfl rfl rfl (by decide +kernel) hR⟩
theorem lk_X0_366 : zw_LSX "MultipoleLineLaw" 366 [((0 : Nat), (9 : Nat), (12 : Nat), (20 : Nat)), ((0 : Nat), (9 : Nat), (15 : Nat), (15 : Nat))] yX0_pairs cX0_pairs 4 (Option.some Jvm.ClassFile.FieldType.int) 3 := fun R s args Z rm hts hK hR => vx_cwSW 3 hts (lw_SW q2083 q2084 q103 q2085) rfl rfl rfl (by decide +kernel) hR
theorem lk_X0_368 : zw_LV [0] "MultipoleLineModel" "MultipoleLineLaw" 368 yX2_pairs cX2_pairs 5 (Option.some Jvm.ClassFile.FieldType.int) 1 := ⟨by
  intro ci hci
  simp only [List.mem_cons, List.not_mem_nil, or_false] at hci
  subst hci
  exact ⟨_, rfl, rfl⟩, fun R s args Z rm hts hK hR => cwV 1 hts (lw_V q2779 q2780 q2781 q111 q2782) rfl rfl rfl (by decide +kernel) hR⟩
theorem lk_X0_369 : zw_LSX "MultipoleLineLaw" 369 [((0 : Nat), (8 : Nat), (11 : Nat), (20 : Nat))] yX0_balance cX0_balance 3 (Option.some Jvm.ClassFile.FieldType.int) 2 := fun R s args Z rm hts hK hR => vx_cwSW 2 hts (lw_SW q2095 q2096 q103 q2097) rfl rfl rfl (by decide +kernel) hR
theorem lk_X0_372 : zw_LV [0] "MultipoleLineModel" "MultipoleLineLaw" 372 yX2_balance cX2_balance 1 (Option.some Jvm.ClassFile.FieldType.float) 0 := ⟨by
  intro ci hci
  simp only [List.mem_cons, List.not_mem_nil, or_false] at hci
  subst hci
  exact ⟨_, rfl, rfl⟩, fun R s args Z rm hts hK hR => cwV 0 hts (lw_V q2981 q2982 q2983 q111 q2984) rfl rfl rfl (by decide +kernel) hR⟩
theorem lk_X0_373 : zw_LSX "MultipoleLineLaw" 373 [((0 : Nat), (8 : Nat), (11 : Nat), (20 : Nat))] yX0_balanceBits cX0_balanceBits 3 (Option.some Jvm.ClassFile.FieldType.int) 2 := fun R s args Z rm hts hK hR => vx_cwSW 2 hts (lw_SW q2102 q2103 q103 q2104) rfl rfl rfl (by decide +kernel) hR
theorem lk_X0_375 : zw_LV [0] "MultipoleLineModel" "MultipoleLineLaw" 375 yX2_balanceBits cX2_balanceBits 1 (Option.some Jvm.ClassFile.FieldType.int) 0 := ⟨by
  intro ci hci
  simp only [List.mem_cons, List.not_mem_nil, or_false] at hci
  subst hci
  exact ⟨_, rfl, rfl⟩, fun R s args Z rm hts hK hR => cwV 0 hts (lw_V q2989 q2990 q2991 q111 q2992) rfl rfl rfl (by decide +kernel) hR⟩
theorem lk_X0_376 : zw_LSX "MultipoleLineLaw" 376 [((0 : Nat), (7 : Nat), (10 : Nat), (20 : Nat))] yX0_meanX cX0_meanX 3 (Option.some Jvm.ClassFile.FieldType.int) 2 := fun R s args Z rm hts hK hR => vx_cwSW 2 hts (lw_SW q2120 q2121 q103 q2122) rfl rfl rfl (by decide +kernel) hR
theorem lk_X0_378 : zw_LV [0] "MultipoleLineModel" "MultipoleLineLaw" 378 yX2_meanX cX2_meanX 3 (Option.some Jvm.ClassFile.FieldType.double) 0 := ⟨by
  intro ci hci
  simp only [List.mem_cons, List.not_mem_nil, or_false] at hci
  subst hci
  exact ⟨_, rfl, rfl⟩, fun R s args Z rm hts hK hR => cwV 0 hts (lw_V q2994 q2995 q2996 q111 q2997) rfl rfl rfl (by decide +kernel) hR⟩
theorem lk_X0_379 : zw_LSX "MultipoleLineLaw" 379 [((0 : Nat), (8 : Nat), (11 : Nat), (20 : Nat))] yX0_writeLeaves cX0_writeLeaves 3 (Option.some Jvm.ClassFile.FieldType.int) 2 := fun R s args Z rm hts hK hR => vx_cwSW 2 hts (lw_SW q2127 q2128 q103 q2129) rfl rfl rfl (by decide +kernel) hR
theorem lk_X0_381 : zw_LV [0] "MultipoleLineModel" "MultipoleLineLaw" 381 yX2_writeLeaves cX2_writeLeaves 3 (Option.some Jvm.ClassFile.FieldType.int) 0 := ⟨by
  intro ci hci
  simp only [List.mem_cons, List.not_mem_nil, or_false] at hci
  subst hci
  exact ⟨_, rfl, rfl⟩, fun R s args Z rm hts hK hR => cwV 0 hts (lw_V q2998 q2999 q3000 q111 q3001) rfl rfl rfl (by decide +kernel) hR⟩
theorem lk_X0_382 : zw_LSX "MultipoleLineLaw" 382 [((0 : Nat), (8 : Nat), (11 : Nat), (20 : Nat))] yX0_writeBodies cX0_writeBodies 3 (Option.some Jvm.ClassFile.FieldType.int) 2 := fun R s args Z rm hts hK hR => vx_cwSW 2 hts (lw_SW q2188 q2189 q103 q2190) rfl rfl rfl (by decide +kernel) hR
theorem lk_X0_384 : zw_LV [0] "MultipoleLineModel" "MultipoleLineLaw" 384 yX2_writeBodies cX2_writeBodies 2 (Option.some Jvm.ClassFile.FieldType.int) 0 := ⟨by
  intro ci hci
  simp only [List.mem_cons, List.not_mem_nil, or_false] at hci
  subst hci
  exact ⟨_, rfl, rfl⟩, fun R s args Z rm hts hK hR => cwV 0 hts (lw_V q3006 q3007 q3008 q111 q3009) rfl rfl rfl (by decide +kernel) hR⟩
theorem lk_X0_385 : zw_LSX "MultipoleLineLaw" 385 [((0 : Nat), (8 : Nat), (11 : Nat), (20 : Nat))] yX0_writeLine cX0_writeLine 3 (Option.some Jvm.ClassFile.FieldType.int) 2 := fun R s args Z rm hts hK hR => vx_cwSW 2 hts (lw_SW q2210 q2211 q103 q2212) rfl rfl rfl (by decide +kernel) hR
theorem lk_X0_387 : zw_LV [0] "MultipoleLineModel" "MultipoleLineLaw" 387 yX2_writeLine cX2_writeLine 2 (Option.some Jvm.ClassFile.FieldType.int) 0 := ⟨by
  intro ci hci
  simp only [List.mem_cons, List.not_mem_nil, or_false] at hci
  subst hci
  exact ⟨_, rfl, rfl⟩, fun R s args Z rm hts hK hR => cwV 0 hts (lw_V q3018 q3019 q3020 q111 q3021) rfl rfl rfl (by decide +kernel) hR⟩
theorem lk_X0_388 : zw_LSX "MultipoleLineLaw" 388 [((0 : Nat), (9 : Nat), (12 : Nat), (20 : Nat)), ((0 : Nat), (9 : Nat), (15 : Nat), (15 : Nat))] yX0_writeFar cX0_writeFar 4 (Option.some Jvm.ClassFile.FieldType.int) 3 := fun R s args Z rm hts hK hR => vx_cwSW 3 hts (lw_SW q2221 q2222 q103 q2223) rfl rfl rfl (by decide +kernel) hR
theorem lk_X0_390 : zw_LV [0] "MultipoleLineModel" "MultipoleLineLaw" 390 yX2_writeFar cX2_writeFar 3 (Option.some Jvm.ClassFile.FieldType.int) 1 := ⟨by
  intro ci hci
  simp only [List.mem_cons, List.not_mem_nil, or_false] at hci
  subst hci
  exact ⟨_, rfl, rfl⟩, fun R s args Z rm hts hK hR => cwV 1 hts (lw_V q3033 q3034 q3035 q111 q3036) rfl rfl rfl (by decide +kernel) hR⟩
theorem lk_X0_391 : zw_LSX "MultipoleLineLaw" 391 [((0 : Nat), (9 : Nat), (12 : Nat), (13 : Nat))] yX0_textByte cX0_textByte 4 (Option.some Jvm.ClassFile.FieldType.int) 3 := fun R s args Z rm hts hK hR => vx_cwSW 3 hts (lw_SW q2228 q2229 q103 q2230) rfl rfl rfl (by decide +kernel) hR
theorem lk_X0_393 : zw_LV [0] "MultipoleLineModel" "MultipoleLineLaw" 393 yX2_textByte cX2_textByte 2 (Option.some Jvm.ClassFile.FieldType.int) 1 := ⟨by
  intro ci hci
  simp only [List.mem_cons, List.not_mem_nil, or_false] at hci
  subst hci
  exact ⟨_, rfl, rfl⟩, fun R s args Z rm hts hK hR => cwV 1 hts (lw_V q3037 q3038 q3039 q111 q3040) rfl rfl rfl (by decide +kernel) hR⟩
theorem lk_X0_394 : zw_LSX "MultipoleLineLaw" 394 [((0 : Nat), (12 : Nat), (15 : Nat), (20 : Nat)), ((0 : Nat), (12 : Nat), (19 : Nat), (15 : Nat))] yX0_add cX0_add 6 (Option.some Jvm.ClassFile.FieldType.int) 5 := fun R s args Z rm hts hK hR => vx_cwSW 5 hts (lw_SW q2245 q2246 q103 q2247) rfl rfl rfl (by decide +kernel) hR
theorem lk_X0_397 : zw_LV [0] "MultipoleLineModel" "MultipoleLineLaw" 397 yX2_add cX2_add 5 (Option.some Jvm.ClassFile.FieldType.int) 3 := ⟨by
  intro ci hci
  simp only [List.mem_cons, List.not_mem_nil, or_false] at hci
  subst hci
  exact ⟨_, rfl, rfl⟩, fun R s args Z rm hts hK hR => cwV 3 hts (lw_V q3041 q3042 q3043 q111 q3044) rfl rfl rfl (by decide +kernel) hR⟩
theorem lk_X0_398 : zw_LSX "MultipoleLineLaw" 398 [((0 : Nat), (10 : Nat), (13 : Nat), (20 : Nat)), ((0 : Nat), (10 : Nat), (17 : Nat), (13 : Nat)), ((0 : Nat), (10 : Nat), (21 : Nat), (15 : Nat))] yX0_move cX0_move 5 (Option.some Jvm.ClassFile.FieldType.int) 4 := fun R s args Z rm hts hK hR => vx_cwSW 4 hts (lw_SW q2302 q2303 q103 q2304) rfl rfl rfl (by decide +kernel) hR
theorem lk_X0_400 : zw_LV [0] "MultipoleLineModel" "MultipoleLineLaw" 400 yX2_move cX2_move 5 (Option.some Jvm.ClassFile.FieldType.int) 2 := ⟨by
  intro ci hci
  simp only [List.mem_cons, List.not_mem_nil, or_false] at hci
  subst hci
  exact ⟨_, rfl, rfl⟩, fun R s args Z rm hts hK hR => cwV 2 hts (lw_V q3052 q3053 q3054 q111 q3055) rfl rfl rfl (by decide +kernel) hR⟩
theorem lk_X0_401 : zw_LSX "MultipoleLineLaw" 401 [((0 : Nat), (10 : Nat), (13 : Nat), (20 : Nat)), ((0 : Nat), (10 : Nat), (17 : Nat), (13 : Nat)), ((0 : Nat), (10 : Nat), (21 : Nat), (15 : Nat))] yX0_setCharge cX0_setCharge 5 (Option.some Jvm.ClassFile.FieldType.int) 4 := fun R s args Z rm hts hK hR => vx_cwSW 4 hts (lw_SW q2309 q2310 q103 q2311) rfl rfl rfl (by decide +kernel) hR
theorem lk_X0_403 : zw_LV [0] "MultipoleLineModel" "MultipoleLineLaw" 403 yX2_setCharge cX2_setCharge 4 (Option.some Jvm.ClassFile.FieldType.int) 2 := ⟨by
  intro ci hci
  simp only [List.mem_cons, List.not_mem_nil, or_false] at hci
  subst hci
  exact ⟨_, rfl, rfl⟩, fun R s args Z rm hts hK hR => cwV 2 hts (lw_V q3056 q3057 q3058 q111 q3059) rfl rfl rfl (by decide +kernel) hR⟩
theorem lk_X0_404 : zw_LSX "MultipoleLineLaw" 404 [((0 : Nat), (9 : Nat), (12 : Nat), (20 : Nat)), ((0 : Nat), (9 : Nat), (15 : Nat), (13 : Nat))] yX0_remove cX0_remove 4 (Option.some Jvm.ClassFile.FieldType.int) 3 := fun R s args Z rm hts hK hR => vx_cwSW 3 hts (lw_SW q2316 q2317 q103 q2318) rfl rfl rfl (by decide +kernel) hR
theorem lk_X0_406 : zw_LV [0] "MultipoleLineModel" "MultipoleLineLaw" 406 yX2_remove cX2_remove 3 (Option.some Jvm.ClassFile.FieldType.int) 1 := ⟨by
  intro ci hci
  simp only [List.mem_cons, List.not_mem_nil, or_false] at hci
  subst hci
  exact ⟨_, rfl, rfl⟩, fun R s args Z rm hts hK hR => cwV 1 hts (lw_V q3060 q3061 q3062 q111 q3063) rfl rfl rfl (by decide +kernel) hR⟩
theorem lk_X0_407 : zw_LSX "MultipoleLineLaw" 407 [((0 : Nat), (9 : Nat), (12 : Nat), (20 : Nat)), ((0 : Nat), (9 : Nat), (15 : Nat), (15 : Nat))] yX0_step cX0_step 4 (Option.some Jvm.ClassFile.FieldType.int) 3 := fun R s args Z rm hts hK hR => vx_cwSW 3 hts (lw_SW q2347 q2348 q103 q2349) rfl rfl rfl (by decide +kernel) hR
theorem lk_X0_409 : zw_LV [0] "MultipoleLineModel" "MultipoleLineLaw" 409 yX2_step cX2_step 2 (Option.some Jvm.ClassFile.FieldType.int) 1 := ⟨by
  intro ci hci
  simp only [List.mem_cons, List.not_mem_nil, or_false] at hci
  subst hci
  exact ⟨_, rfl, rfl⟩, fun R s args Z rm hts hK hR => cwV 1 hts (lw_V q3064 q3065 q3066 q111 q3067) rfl rfl rfl (by decide +kernel) hR⟩
theorem lk_X0_410 : zw_LSX "MultipoleLineLaw" 410 [((0 : Nat), (10 : Nat), (13 : Nat), (20 : Nat)), ((0 : Nat), (10 : Nat), (17 : Nat), (15 : Nat))] yX0_setNumber cX0_setNumber 5 (Option.some Jvm.ClassFile.FieldType.int) 4 := fun R s args Z rm hts hK hR => vx_cwSW 4 hts (lw_SW q2354 q2355 q103 q2356) rfl rfl rfl (by decide +kernel) hR
theorem lk_X0_412 : zw_LV [0] "MultipoleLineModel" "MultipoleLineLaw" 412 yX2_setNumber cX2_setNumber 4 (Option.some Jvm.ClassFile.FieldType.int) 2 := ⟨by
  intro ci hci
  simp only [List.mem_cons, List.not_mem_nil, or_false] at hci
  subst hci
  exact ⟨_, rfl, rfl⟩, fun R s args Z rm hts hK hR => cwV 2 hts (lw_V q3068 q3069 q3070 q111 q3071) rfl rfl rfl (by decide +kernel) hR⟩
theorem lk_X0_413 : zw_LSX "MultipoleLineLaw" 413 [((0 : Nat), (8 : Nat), (11 : Nat), (20 : Nat))] yX0_undo cX0_undo 3 (Option.some Jvm.ClassFile.FieldType.int) 2 := fun R s args Z rm hts hK hR => vx_cwSW 2 hts (lw_SW q2365 q2366 q103 q2367) rfl rfl rfl (by decide +kernel) hR
theorem lk_X0_415 : zw_LV [0] "MultipoleLineModel" "MultipoleLineLaw" 415 yX2_undo cX2_undo 1 (Option.some Jvm.ClassFile.FieldType.int) 0 := ⟨by
  intro ci hci
  simp only [List.mem_cons, List.not_mem_nil, or_false] at hci
  subst hci
  exact ⟨_, rfl, rfl⟩, fun R s args Z rm hts hK hR => cwV 0 hts (lw_V q3075 q3076 q3077 q111 q3078) rfl rfl rfl (by decide +kernel) hR⟩
theorem lk_X0_416 : zw_LV [1] "MultipoleLine" "MultipoleLineLaw" 416 yX1_undoable cX1_undoable 1 (Option.some Jvm.ClassFile.FieldType.int) 0 := ⟨by
  intro ci hci
  simp only [List.mem_cons, List.not_mem_nil, or_false] at hci
  subst hci
  exact ⟨_, rfl, rfl⟩, fun R s args Z rm hts hK hR => cwV 0 hts (lw_V q260 q261 q262 q104 q263) rfl rfl rfl (by decide +kernel) hR⟩
theorem lk_X0_419 : zw_LV [0] "MultipoleLineModel" "MultipoleLineLaw" 419 yX2_undoable cX2_undoable 1 (Option.some Jvm.ClassFile.FieldType.int) 0 := ⟨by
  intro ci hci
  simp only [List.mem_cons, List.not_mem_nil, or_false] at hci
  subst hci
  exact ⟨_, rfl, rfl⟩, fun R s args Z rm hts hK hR => cwV 0 hts (lw_V q3079 q3080 q3081 q111 q3082) rfl rfl rfl (by decide +kernel) hR⟩
theorem lk_X0_420 : zw_LSX "MultipoleLineLaw" 420 [((0 : Nat), (9 : Nat), (12 : Nat), (20 : Nat)), ((0 : Nat), (9 : Nat), (15 : Nat), (13 : Nat))] yX0_save cX0_save 4 (Option.some Jvm.ClassFile.FieldType.int) 3 := fun R s args Z rm hts hK hR => vx_cwSW 3 hts (lw_SW q2387 q2388 q103 q2389) rfl rfl rfl (by decide +kernel) hR
theorem lk_X0_422 : zw_LV [0] "MultipoleLineModel" "MultipoleLineLaw" 422 yX2_save cX2_save 2 (Option.some Jvm.ClassFile.FieldType.int) 1 := ⟨by
  intro ci hci
  simp only [List.mem_cons, List.not_mem_nil, or_false] at hci
  subst hci
  exact ⟨_, rfl, rfl⟩, fun R s args Z rm hts hK hR => cwV 1 hts (lw_V q3083 q3084 q3085 q111 q3086) rfl rfl rfl (by decide +kernel) hR⟩
theorem lk_X0_423 : zw_LSX "MultipoleLineLaw" 423 [((0 : Nat), (9 : Nat), (12 : Nat), (13 : Nat)), ((0 : Nat), (9 : Nat), (15 : Nat), (20 : Nat))] yX0_restore cX0_restore 4 (Option.some Jvm.ClassFile.FieldType.int) 3 := fun R s args Z rm hts hK hR => vx_cwSW 3 hts (lw_SW q2394 q2395 q103 q2396) rfl rfl rfl (by decide +kernel) hR
theorem lk_X0_425 : zw_LV [0] "MultipoleLineModel" "MultipoleLineLaw" 425 yX2_restore cX2_restore 3 (Option.some Jvm.ClassFile.FieldType.int) 1 := ⟨by
  intro ci hci
  simp only [List.mem_cons, List.not_mem_nil, or_false] at hci
  subst hci
  exact ⟨_, rfl, rfl⟩, fun R s args Z rm hts hK hR => cwV 1 hts (lw_V q3087 q3088 q3089 q111 q3090) rfl rfl rfl (by decide +kernel) hR⟩
theorem ln_X0_8 : zw_N "MultipoleLineLaw" 8 "MultipoleLine" 1 8 [.null, .int 0, .int 0, .int 0, .null, .null, .null, .null] := ⟨by decide, ⟨_, rfl⟩, q153, q154, q104, fun j hj => match j, hj with
  | 0, _ => rfl
  | 1, _ => rfl
  | 2, _ => rfl
  | 3, _ => rfl
  | 4, _ => rfl
  | 5, _ => rfl
  | 6, _ => rfl
  | 7, _ => rfl
  | j + 8, hj => absurd hj (by omega)⟩
theorem ln_X0_209 : zw_N "MultipoleLineLaw" 209 "MultipoleLineModel" 0 26 [.int 0, .null, .null, .null, .null, .null, .int 0, .int 0, .null, .int 0, .int 0, .int 0, .int 0, .int 0, .int 0, .int 0, .int 0, .null, .null, .null, .int 0, .null, .null, .null, .null, .int 0] := ⟨by decide, ⟨_, rfl⟩, q2401, q2402, q111, fun j hj => match j, hj with
  | 0, _ => rfl
  | 1, _ => rfl
  | 2, _ => rfl
  | 3, _ => rfl
  | 4, _ => rfl
  | 5, _ => rfl
  | 6, _ => rfl
  | 7, _ => rfl
  | 8, _ => rfl
  | 9, _ => rfl
  | 10, _ => rfl
  | 11, _ => rfl
  | 12, _ => rfl
  | 13, _ => rfl
  | 14, _ => rfl
  | 15, _ => rfl
  | 16, _ => rfl
  | 17, _ => rfl
  | 18, _ => rfl
  | 19, _ => rfl
  | 20, _ => rfl
  | 21, _ => rfl
  | 22, _ => rfl
  | 23, _ => rfl
  | 24, _ => rfl
  | 25, _ => rfl
  | j + 26, hj => absurd hj (by omega)⟩
abbrev rm_law : Room := { frames := 8192, cells := 1200144, slots := 5496826, locals := 104096 }
/- (28498, 1842040, 23, 10383) -/
def f_law_J4220 (K : Nat → Option Nat) (Q : Int32 → zw_H → Prop) (X : String → Nat → zw_H → Prop) (R : Int32 → zw_H → Prop) (l0 : Option Nat) (l1 : Option Nat) (l2 : Option Nat) (l3 : Option Nat) (l4 : Option Nat) (l5 : Int32)  (h : zw_H) : Prop :=
  olet (l5 + 6) (fun v20 =>
  R v20 h)
def f_law_J316 (K : Nat → Option Nat) (Q : Int32 → zw_H → Prop) (X : String → Nat → zw_H → Prop) (R : Int32 → zw_H → Prop) (l0 : Option Nat) (l1 : Option Nat) (l2 : Option Nat) (l3 : Option Nat) (l4 : Option Nat) (l5 : Int32)  (h : zw_H) : Prop :=
  oa_I h l0 [0, 11] (l5 + 1) (fun v8 =>
  oa_I h l0 [0, 11] (l5 + 2) (fun v9 =>
  oa_I h l0 [0, 11] (l5 + 3) (fun v10 =>
  oa_I h l0 [0, 11] (l5 + 4) (fun v11 =>
  oa_I h l0 [0, 11] (l5 + 5) (fun v12 =>
  oc_ h l1 [1] (f_X1_append K l1 v8 v9 v10 v11 v12 h (fun v13 h7 =>
  oa_I h7 l0 [0, 11] (l5 + 1) (fun v14 =>
  oa_I h7 l0 [0, 11] (l5 + 2) (fun v15 =>
  oa_I h7 l0 [0, 11] (l5 + 3) (fun v16 =>
  oa_I h7 l0 [0, 11] (l5 + 4) (fun v17 =>
  oa_I h7 l0 [0, 11] (l5 + 5) (fun v18 =>
  oc_ h7 l2 [0] (f_X2_append K l2 v14 v15 v16 v17 v18 h7 (fun v19 h8 =>
  if v13 = v19 then
    f_law_J4220 K Q X R l0 l1 l2 l3 l4 l5  h8
  else
    Q 0 h8) X))))))) X))))))
def f_law_J442 (K : Nat → Option Nat) (Q : Int32 → zw_H → Prop) (X : String → Nat → zw_H → Prop) (R : Int32 → zw_H → Prop) (l0 : Option Nat) (l1 : Option Nat) (l2 : Option Nat) (l3 : Option Nat) (l4 : Option Nat) (l5 : Int32)  (h : zw_H) : Prop :=
  f_law_J4220 K Q X R l0 l1 l2 l3 l4 l5  h
def f_law_J389 (K : Nat → Option Nat) (Q : Int32 → zw_H → Prop) (X : String → Nat → zw_H → Prop) (R : Int32 → zw_H → Prop) (l0 : Option Nat) (l1 : Option Nat) (l2 : Option Nat) (l3 : Option Nat) (l4 : Option Nat) (l5 : Int32)  (h : zw_H) : Prop :=
  oa_I h l0 [0, 11] (l5 + 1) (fun v21 =>
  (f_X0_load K l1 v21 l3 h (fun v22 h9 =>
  oa_I h9 l0 [0, 11] (l5 + 1) (fun v23 =>
  oc_ h9 l2 [0] (f_X2_load K l2 v23 h9 (fun v24 h10 =>
  oc_ h10 l2 [0] (f_X2_thrown K l2 h10 (fun v25 h11 =>
  if v25 = v22 then
    if v22 ≠ 0 then
      f_law_J442 K Q X R l0 l1 l2 l3 l4 l5  h11
    else
      oa_J h11 l3 [3] 0 (fun v26 =>
      if (lg_cmp v26 v24.toInt64) = 0 then
        f_law_J442 K Q X R l0 l1 l2 l3 l4 l5  h11
      else
        Q 0 h11)
  else
    Q 0 h11) X)) X))) X))
def f_law_J445 (K : Nat → Option Nat) (Q : Int32 → zw_H → Prop) (X : String → Nat → zw_H → Prop) (R : Int32 → zw_H → Prop) (l0 : Option Nat) (l1 : Option Nat) (l2 : Option Nat) (l3 : Option Nat) (l4 : Option Nat) (l5 : Int32)  (h : zw_H) : Prop :=
  oc_ h l1 [1] (f_X1_parseError K l1 h (fun v27 h12 =>
  oc_ h12 l2 [0] (f_X2_parseError K l2 h12 (fun v28 h13 =>
  if v27 = v28 then
    f_law_J4220 K Q X R l0 l1 l2 l3 l4 l5  h13
  else
    Q 0 h13) X)) X)
def f_law_J458 (K : Nat → Option Nat) (Q : Int32 → zw_H → Prop) (X : String → Nat → zw_H → Prop) (R : Int32 → zw_H → Prop) (l0 : Option Nat) (l1 : Option Nat) (l2 : Option Nat) (l3 : Option Nat) (l4 : Option Nat) (l5 : Int32)  (h : zw_H) : Prop :=
  oc_ h l1 [1] (f_X1_errorPosition K l1 h (fun v29 h14 =>
  oc_ h14 l2 [0] (f_X2_errorPosition K l2 h14 (fun v30 h15 =>
  if v29 = v30 then
    f_law_J4220 K Q X R l0 l1 l2 l3 l4 l5  h15
  else
    Q 0 h15) X)) X)
def f_law_J471 (K : Nat → Option Nat) (Q : Int32 → zw_H → Prop) (X : String → Nat → zw_H → Prop) (R : Int32 → zw_H → Prop) (l0 : Option Nat) (l1 : Option Nat) (l2 : Option Nat) (l3 : Option Nat) (l4 : Option Nat) (l5 : Int32)  (h : zw_H) : Prop :=
  oc_ h l1 [1] (f_X1_buffered K l1 h (fun v31 h16 =>
  oc_ h16 l2 [0] (f_X2_buffered K l2 h16 (fun v32 h17 =>
  if v31 = v32 then
    f_law_J4220 K Q X R l0 l1 l2 l3 l4 l5  h17
  else
    Q 0 h17) X)) X)
def f_law_J537 (K : Nat → Option Nat) (Q : Int32 → zw_H → Prop) (X : String → Nat → zw_H → Prop) (R : Int32 → zw_H → Prop) (l0 : Option Nat) (l1 : Option Nat) (l2 : Option Nat) (l3 : Option Nat) (l4 : Option Nat) (l5 : Int32)  (h : zw_H) : Prop :=
  f_law_J4220 K Q X R l0 l1 l2 l3 l4 l5  h
def f_law_J484 (K : Nat → Option Nat) (Q : Int32 → zw_H → Prop) (X : String → Nat → zw_H → Prop) (R : Int32 → zw_H → Prop) (l0 : Option Nat) (l1 : Option Nat) (l2 : Option Nat) (l3 : Option Nat) (l4 : Option Nat) (l5 : Int32)  (h : zw_H) : Prop :=
  oa_I h l0 [0, 11] (l5 + 1) (fun v33 =>
  (f_X0_count K l1 v33 l3 h (fun v34 h18 =>
  oa_I h18 l0 [0, 11] (l5 + 1) (fun v35 =>
  oc_ h18 l2 [0] (f_X2_count K l2 v35 h18 (fun v36 h19 =>
  oc_ h19 l2 [0] (f_X2_thrown K l2 h19 (fun v37 h20 =>
  if v37 = v34 then
    if v34 ≠ 0 then
      f_law_J537 K Q X R l0 l1 l2 l3 l4 l5  h20
    else
      oa_J h20 l3 [3] 0 (fun v38 =>
      if (lg_cmp v38 v36.toInt64) = 0 then
        f_law_J537 K Q X R l0 l1 l2 l3 l4 l5  h20
      else
        Q 0 h20)
  else
    Q 0 h20) X)) X))) X))
def f_law_J605 (K : Nat → Option Nat) (Q : Int32 → zw_H → Prop) (X : String → Nat → zw_H → Prop) (R : Int32 → zw_H → Prop) (l0 : Option Nat) (l1 : Option Nat) (l2 : Option Nat) (l3 : Option Nat) (l4 : Option Nat) (l5 : Int32)  (h : zw_H) : Prop :=
  f_law_J4220 K Q X R l0 l1 l2 l3 l4 l5  h
def f_law_J540 (K : Nat → Option Nat) (Q : Int32 → zw_H → Prop) (X : String → Nat → zw_H → Prop) (R : Int32 → zw_H → Prop) (l0 : Option Nat) (l1 : Option Nat) (l2 : Option Nat) (l3 : Option Nat) (l4 : Option Nat) (l5 : Int32)  (h : zw_H) : Prop :=
  oa_I h l0 [0, 11] (l5 + 1) (fun v39 =>
  oa_I h l0 [0, 11] (l5 + 2) (fun v40 =>
  (f_X0_body K l1 v39 v40 l3 h (fun v41 h21 =>
  oa_I h21 l0 [0, 11] (l5 + 1) (fun v42 =>
  oa_I h21 l0 [0, 11] (l5 + 2) (fun v43 =>
  oc_ h21 l2 [0] (f_X2_body K l2 v42 v43 h21 (fun v44 h22 =>
  oc_ h22 l2 [0] (f_X2_thrown K l2 h22 (fun v45 h23 =>
  if v45 = v41 then
    if v41 ≠ 0 then
      f_law_J605 K Q X R l0 l1 l2 l3 l4 l5  h23
    else
      oa_J h23 l3 [3] 0 (fun v46 =>
      if (lg_cmp v46 v44.toInt64) = 0 then
        f_law_J605 K Q X R l0 l1 l2 l3 l4 l5  h23
      else
        Q 0 h23)
  else
    Q 0 h23) X)) X)))) X)))
def f_law_J661 (K : Nat → Option Nat) (Q : Int32 → zw_H → Prop) (X : String → Nat → zw_H → Prop) (R : Int32 → zw_H → Prop) (l0 : Option Nat) (l1 : Option Nat) (l2 : Option Nat) (l3 : Option Nat) (l4 : Option Nat) (l5 : Int32)  (h : zw_H) : Prop :=
  f_law_J4220 K Q X R l0 l1 l2 l3 l4 l5  h
def f_law_J608 (K : Nat → Option Nat) (Q : Int32 → zw_H → Prop) (X : String → Nat → zw_H → Prop) (R : Int32 → zw_H → Prop) (l0 : Option Nat) (l1 : Option Nat) (l2 : Option Nat) (l3 : Option Nat) (l4 : Option Nat) (l5 : Int32)  (h : zw_H) : Prop :=
  oa_I h l0 [0, 11] (l5 + 1) (fun v47 =>
  (f_X0_bodyAt K l1 v47 l3 h (fun v48 h24 =>
  oa_I h24 l0 [0, 11] (l5 + 1) (fun v49 =>
  oc_ h24 l2 [0] (f_X2_bodyAt K l2 v49 h24 (fun v50 h25 =>
  oc_ h25 l2 [0] (f_X2_thrown K l2 h25 (fun v51 h26 =>
  if v51 = v48 then
    if v48 ≠ 0 then
      f_law_J661 K Q X R l0 l1 l2 l3 l4 l5  h26
    else
      oa_J h26 l3 [3] 0 (fun v52 =>
      if (lg_cmp v52 v50.toInt64) = 0 then
        f_law_J661 K Q X R l0 l1 l2 l3 l4 l5  h26
      else
        Q 0 h26)
  else
    Q 0 h26) X)) X))) X))
def f_law_J741 (K : Nat → Option Nat) (Q : Int32 → zw_H → Prop) (X : String → Nat → zw_H → Prop) (R : Int32 → zw_H → Prop) (l0 : Option Nat) (l1 : Option Nat) (l2 : Option Nat) (l3 : Option Nat) (l4 : Option Nat) (l5 : Int32)  (h : zw_H) : Prop :=
  f_law_J4220 K Q X R l0 l1 l2 l3 l4 l5  h
def f_law_J664 (K : Nat → Option Nat) (Q : Int32 → zw_H → Prop) (X : String → Nat → zw_H → Prop) (R : Int32 → zw_H → Prop) (l0 : Option Nat) (l1 : Option Nat) (l2 : Option Nat) (l3 : Option Nat) (l4 : Option Nat) (l5 : Int32)  (h : zw_H) : Prop :=
  oa_I h l0 [0, 11] (l5 + 1) (fun v53 =>
  oa_I h l0 [0, 11] (l5 + 2) (fun v54 =>
  oa_I h l0 [0, 11] (l5 + 3) (fun v55 =>
  (f_X0_box K l1 v53 v54 v55 l3 h (fun v56 h27 =>
  oa_I h27 l0 [0, 11] (l5 + 1) (fun v57 =>
  oa_I h27 l0 [0, 11] (l5 + 2) (fun v58 =>
  oa_I h27 l0 [0, 11] (l5 + 3) (fun v59 =>
  oc_ h27 l2 [0] (f_X2_box K l2 v57 v58 v59 h27 (fun v60 h28 =>
  oc_ h28 l2 [0] (f_X2_thrown K l2 h28 (fun v61 h29 =>
  if v61 = v56 then
    if v56 ≠ 0 then
      f_law_J741 K Q X R l0 l1 l2 l3 l4 l5  h29
    else
      oa_J h29 l3 [3] 0 (fun v62 =>
      if (lg_cmp v62 v60.toInt64) = 0 then
        f_law_J741 K Q X R l0 l1 l2 l3 l4 l5  h29
      else
        Q 0 h29)
  else
    Q 0 h29) X)) X))))) X))))
def f_law_J809 (K : Nat → Option Nat) (Q : Int32 → zw_H → Prop) (X : String → Nat → zw_H → Prop) (R : Int32 → zw_H → Prop) (l0 : Option Nat) (l1 : Option Nat) (l2 : Option Nat) (l3 : Option Nat) (l4 : Option Nat) (l5 : Int32)  (h : zw_H) : Prop :=
  f_law_J4220 K Q X R l0 l1 l2 l3 l4 l5  h
def f_law_J744 (K : Nat → Option Nat) (Q : Int32 → zw_H → Prop) (X : String → Nat → zw_H → Prop) (R : Int32 → zw_H → Prop) (l0 : Option Nat) (l1 : Option Nat) (l2 : Option Nat) (l3 : Option Nat) (l4 : Option Nat) (l5 : Int32)  (h : zw_H) : Prop :=
  oa_I h l0 [0, 11] (l5 + 1) (fun v63 =>
  oa_I h l0 [0, 11] (l5 + 2) (fun v64 =>
  (f_X0_boxAt K l1 v63 v64 l3 h (fun v65 h30 =>
  oa_I h30 l0 [0, 11] (l5 + 1) (fun v66 =>
  oa_I h30 l0 [0, 11] (l5 + 2) (fun v67 =>
  oc_ h30 l2 [0] (f_X2_boxAt K l2 v66 v67 h30 (fun v68 h31 =>
  oc_ h31 l2 [0] (f_X2_thrown K l2 h31 (fun v69 h32 =>
  if v69 = v65 then
    if v65 ≠ 0 then
      f_law_J809 K Q X R l0 l1 l2 l3 l4 l5  h32
    else
      oa_J h32 l3 [3] 0 (fun v70 =>
      if (lg_cmp v70 v68.toInt64) = 0 then
        f_law_J809 K Q X R l0 l1 l2 l3 l4 l5  h32
      else
        Q 0 h32)
  else
    Q 0 h32) X)) X)))) X)))
def f_law_J853 (K : Nat → Option Nat) (Q : Int32 → zw_H → Prop) (X : String → Nat → zw_H → Prop) (R : Int32 → zw_H → Prop) (l0 : Option Nat) (l1 : Option Nat) (l2 : Option Nat) (l3 : Option Nat) (l4 : Option Nat) (l5 : Int32)  (h : zw_H) : Prop :=
  f_law_J4220 K Q X R l0 l1 l2 l3 l4 l5  h
def f_law_J812 (K : Nat → Option Nat) (Q : Int32 → zw_H → Prop) (X : String → Nat → zw_H → Prop) (R : Int32 → zw_H → Prop) (l0 : Option Nat) (l1 : Option Nat) (l2 : Option Nat) (l3 : Option Nat) (l4 : Option Nat) (l5 : Int32)  (h : zw_H) : Prop :=
  (f_X0_firstEmpty K l1 l3 h (fun v71 h33 =>
  oc_ h33 l2 [0] (f_X2_firstEmpty K l2 h33 (fun v72 h34 =>
  oc_ h34 l2 [0] (f_X2_thrown K l2 h34 (fun v73 h35 =>
  if v73 = v71 then
    if v71 ≠ 0 then
      f_law_J853 K Q X R l0 l1 l2 l3 l4 l5  h35
    else
      oa_J h35 l3 [3] 0 (fun v74 =>
      if (lg_cmp v74 v72.toInt64) = 0 then
        f_law_J853 K Q X R l0 l1 l2 l3 l4 l5  h35
      else
        Q 0 h35)
  else
    Q 0 h35) X)) X)) X)
def f_law_J897 (K : Nat → Option Nat) (Q : Int32 → zw_H → Prop) (X : String → Nat → zw_H → Prop) (R : Int32 → zw_H → Prop) (l0 : Option Nat) (l1 : Option Nat) (l2 : Option Nat) (l3 : Option Nat) (l4 : Option Nat) (l5 : Int32)  (h : zw_H) : Prop :=
  f_law_J4220 K Q X R l0 l1 l2 l3 l4 l5  h
def f_law_J856 (K : Nat → Option Nat) (Q : Int32 → zw_H → Prop) (X : String → Nat → zw_H → Prop) (R : Int32 → zw_H → Prop) (l0 : Option Nat) (l1 : Option Nat) (l2 : Option Nat) (l3 : Option Nat) (l4 : Option Nat) (l5 : Int32)  (h : zw_H) : Prop :=
  (f_X0_densest K l1 l3 h (fun v75 h36 =>
  oc_ h36 l2 [0] (f_X2_densest K l2 h36 (fun v76 h37 =>
  oc_ h37 l2 [0] (f_X2_thrown K l2 h37 (fun v77 h38 =>
  if v77 = v75 then
    if v75 ≠ 0 then
      f_law_J897 K Q X R l0 l1 l2 l3 l4 l5  h38
    else
      oa_J h38 l3 [3] 0 (fun v78 =>
      if (lg_cmp v78 v76.toInt64) = 0 then
        f_law_J897 K Q X R l0 l1 l2 l3 l4 l5  h38
      else
        Q 0 h38)
  else
    Q 0 h38) X)) X)) X)
def f_law_J976 (K : Nat → Option Nat) (Q : Int32 → zw_H → Prop) (X : String → Nat → zw_H → Prop) (R : Int32 → zw_H → Prop) (l0 : Option Nat) (l1 : Option Nat) (l2 : Option Nat) (l3 : Option Nat) (l4 : Option Nat) (l5 : Int32)  (h : zw_H) : Prop :=
  f_law_J4220 K Q X R l0 l1 l2 l3 l4 l5  h
def f_law_J900 (K : Nat → Option Nat) (Q : Int32 → zw_H → Prop) (X : String → Nat → zw_H → Prop) (R : Int32 → zw_H → Prop) (l0 : Option Nat) (l1 : Option Nat) (l2 : Option Nat) (l3 : Option Nat) (l4 : Option Nat) (l5 : Int32)  (h : zw_H) : Prop :=
  oa_I h l0 [0, 11] (l5 + 1) (fun v79 =>
  oa_I h l0 [0, 11] (l5 + 2) (fun v80 =>
  oa_I h l0 [0, 11] (l5 + 3) (fun v81 =>
  (f_X0_moment K l1 v79 v80 v81 l3 h (fun v82 h39 =>
  oa_I h39 l0 [0, 11] (l5 + 1) (fun v83 =>
  oa_I h39 l0 [0, 11] (l5 + 2) (fun v84 =>
  oa_I h39 l0 [0, 11] (l5 + 3) (fun v85 =>
  oc_ h39 l2 [0] (f_X2_moment K l2 v83 v84 v85 h39 (fun v86 h40 =>
  oc_ h40 l2 [0] (f_X2_thrown K l2 h40 (fun v87 h41 =>
  if v87 = v82 then
    if v82 ≠ 0 then
      f_law_J976 K Q X R l0 l1 l2 l3 l4 l5  h41
    else
      oa_J h41 l3 [3] 0 (fun v88 =>
      if (lg_cmp v88 v86) = 0 then
        f_law_J976 K Q X R l0 l1 l2 l3 l4 l5  h41
      else
        Q 0 h41)
  else
    Q 0 h41) X)) X))))) X))))
def f_law_J1055 (K : Nat → Option Nat) (Q : Int32 → zw_H → Prop) (X : String → Nat → zw_H → Prop) (R : Int32 → zw_H → Prop) (l0 : Option Nat) (l1 : Option Nat) (l2 : Option Nat) (l3 : Option Nat) (l4 : Option Nat) (l5 : Int32)  (h : zw_H) : Prop :=
  f_law_J4220 K Q X R l0 l1 l2 l3 l4 l5  h
def f_law_J979 (K : Nat → Option Nat) (Q : Int32 → zw_H → Prop) (X : String → Nat → zw_H → Prop) (R : Int32 → zw_H → Prop) (l0 : Option Nat) (l1 : Option Nat) (l2 : Option Nat) (l3 : Option Nat) (l4 : Option Nat) (l5 : Int32)  (h : zw_H) : Prop :=
  oa_I h l0 [0, 11] (l5 + 1) (fun v89 =>
  oa_I h l0 [0, 11] (l5 + 2) (fun v90 =>
  oa_I h l0 [0, 11] (l5 + 3) (fun v91 =>
  (f_X0_shifted K l1 v89 v90 v91 l3 h (fun v92 h42 =>
  oa_I h42 l0 [0, 11] (l5 + 1) (fun v93 =>
  oa_I h42 l0 [0, 11] (l5 + 2) (fun v94 =>
  oa_I h42 l0 [0, 11] (l5 + 3) (fun v95 =>
  oc_ h42 l2 [0] (f_X2_shifted K l2 v93 v94 v95 h42 (fun v96 h43 =>
  oc_ h43 l2 [0] (f_X2_thrown K l2 h43 (fun v97 h44 =>
  if v97 = v92 then
    if v92 ≠ 0 then
      f_law_J1055 K Q X R l0 l1 l2 l3 l4 l5  h44
    else
      oa_J h44 l3 [3] 0 (fun v98 =>
      if (lg_cmp v98 v96) = 0 then
        f_law_J1055 K Q X R l0 l1 l2 l3 l4 l5  h44
      else
        Q 0 h44)
  else
    Q 0 h44) X)) X))))) X))))
def f_law_J1098 (K : Nat → Option Nat) (Q : Int32 → zw_H → Prop) (X : String → Nat → zw_H → Prop) (R : Int32 → zw_H → Prop) (l0 : Option Nat) (l1 : Option Nat) (l2 : Option Nat) (l3 : Option Nat) (l4 : Option Nat) (l5 : Int32)  (h : zw_H) : Prop :=
  f_law_J4220 K Q X R l0 l1 l2 l3 l4 l5  h
def f_law_J1058 (K : Nat → Option Nat) (Q : Int32 → zw_H → Prop) (X : String → Nat → zw_H → Prop) (R : Int32 → zw_H → Prop) (l0 : Option Nat) (l1 : Option Nat) (l2 : Option Nat) (l3 : Option Nat) (l4 : Option Nat) (l5 : Int32)  (h : zw_H) : Prop :=
  (f_X0_momentGap K l1 l3 h (fun v99 h45 =>
  oc_ h45 l2 [0] (f_X2_momentGap K l2 h45 (fun v100 h46 =>
  oc_ h46 l2 [0] (f_X2_thrown K l2 h46 (fun v101 h47 =>
  if v101 = v99 then
    if v99 ≠ 0 then
      f_law_J1098 K Q X R l0 l1 l2 l3 l4 l5  h47
    else
      oa_J h47 l3 [3] 0 (fun v102 =>
      if (lg_cmp v102 v100) = 0 then
        f_law_J1098 K Q X R l0 l1 l2 l3 l4 l5  h47
      else
        Q 0 h47)
  else
    Q 0 h47) X)) X)) X)
def f_law_J1154 (K : Nat → Option Nat) (Q : Int32 → zw_H → Prop) (X : String → Nat → zw_H → Prop) (R : Int32 → zw_H → Prop) (l0 : Option Nat) (l1 : Option Nat) (l2 : Option Nat) (l3 : Option Nat) (l4 : Option Nat) (l5 : Int32)  (h : zw_H) : Prop :=
  f_law_J4220 K Q X R l0 l1 l2 l3 l4 l5  h
def f_law_J1101 (K : Nat → Option Nat) (Q : Int32 → zw_H → Prop) (X : String → Nat → zw_H → Prop) (R : Int32 → zw_H → Prop) (l0 : Option Nat) (l1 : Option Nat) (l2 : Option Nat) (l3 : Option Nat) (l4 : Option Nat) (l5 : Int32)  (h : zw_H) : Prop :=
  oa_I h l0 [0, 11] (l5 + 1) (fun v103 =>
  (f_X0_nearMany K l1 v103 l3 h (fun v104 h48 =>
  oa_I h48 l0 [0, 11] (l5 + 1) (fun v105 =>
  oc_ h48 l2 [0] (f_X2_nearMany K l2 v105 h48 (fun v106 h49 =>
  oc_ h49 l2 [0] (f_X2_thrown K l2 h49 (fun v107 h50 =>
  if v107 = v104 then
    if v104 ≠ 0 then
      f_law_J1154 K Q X R l0 l1 l2 l3 l4 l5  h50
    else
      oa_J h50 l3 [3] 0 (fun v108 =>
      if (lg_cmp v108 v106.toInt64) = 0 then
        f_law_J1154 K Q X R l0 l1 l2 l3 l4 l5  h50
      else
        Q 0 h50)
  else
    Q 0 h50) X)) X))) X))
def f_law_J1222 (K : Nat → Option Nat) (Q : Int32 → zw_H → Prop) (X : String → Nat → zw_H → Prop) (R : Int32 → zw_H → Prop) (l0 : Option Nat) (l1 : Option Nat) (l2 : Option Nat) (l3 : Option Nat) (l4 : Option Nat) (l5 : Int32)  (h : zw_H) : Prop :=
  f_law_J4220 K Q X R l0 l1 l2 l3 l4 l5  h
def f_law_J1157 (K : Nat → Option Nat) (Q : Int32 → zw_H → Prop) (X : String → Nat → zw_H → Prop) (R : Int32 → zw_H → Prop) (l0 : Option Nat) (l1 : Option Nat) (l2 : Option Nat) (l3 : Option Nat) (l4 : Option Nat) (l5 : Int32)  (h : zw_H) : Prop :=
  oa_I h l0 [0, 11] (l5 + 1) (fun v109 =>
  oa_I h l0 [0, 11] (l5 + 2) (fun v110 =>
  (f_X0_nearBody K l1 v109 v110 l3 h (fun v111 h51 =>
  oa_I h51 l0 [0, 11] (l5 + 1) (fun v112 =>
  oa_I h51 l0 [0, 11] (l5 + 2) (fun v113 =>
  oc_ h51 l2 [0] (f_X2_nearBody K l2 v112 v113 h51 (fun v114 h52 =>
  oc_ h52 l2 [0] (f_X2_thrown K l2 h52 (fun v115 h53 =>
  if v115 = v111 then
    if v111 ≠ 0 then
      f_law_J1222 K Q X R l0 l1 l2 l3 l4 l5  h53
    else
      oa_J h53 l3 [3] 0 (fun v116 =>
      if (lg_cmp v116 v114.toInt64) = 0 then
        f_law_J1222 K Q X R l0 l1 l2 l3 l4 l5  h53
      else
        Q 0 h53)
  else
    Q 0 h53) X)) X)))) X)))
def f_law_J1278 (K : Nat → Option Nat) (Q : Int32 → zw_H → Prop) (X : String → Nat → zw_H → Prop) (R : Int32 → zw_H → Prop) (l0 : Option Nat) (l1 : Option Nat) (l2 : Option Nat) (l3 : Option Nat) (l4 : Option Nat) (l5 : Int32)  (h : zw_H) : Prop :=
  f_law_J4220 K Q X R l0 l1 l2 l3 l4 l5  h
def f_law_J1225 (K : Nat → Option Nat) (Q : Int32 → zw_H → Prop) (X : String → Nat → zw_H → Prop) (R : Int32 → zw_H → Prop) (l0 : Option Nat) (l1 : Option Nat) (l2 : Option Nat) (l3 : Option Nat) (l4 : Option Nat) (l5 : Int32)  (h : zw_H) : Prop :=
  oa_I h l0 [0, 11] (l5 + 1) (fun v117 =>
  (f_X0_farMany K l1 v117 l3 h (fun v118 h54 =>
  oa_I h54 l0 [0, 11] (l5 + 1) (fun v119 =>
  oc_ h54 l2 [0] (f_X2_farMany K l2 v119 h54 (fun v120 h55 =>
  oc_ h55 l2 [0] (f_X2_thrown K l2 h55 (fun v121 h56 =>
  if v121 = v118 then
    if v118 ≠ 0 then
      f_law_J1278 K Q X R l0 l1 l2 l3 l4 l5  h56
    else
      oa_J h56 l3 [3] 0 (fun v122 =>
      if (lg_cmp v122 v120.toInt64) = 0 then
        f_law_J1278 K Q X R l0 l1 l2 l3 l4 l5  h56
      else
        Q 0 h56)
  else
    Q 0 h56) X)) X))) X))
def f_law_J1346 (K : Nat → Option Nat) (Q : Int32 → zw_H → Prop) (X : String → Nat → zw_H → Prop) (R : Int32 → zw_H → Prop) (l0 : Option Nat) (l1 : Option Nat) (l2 : Option Nat) (l3 : Option Nat) (l4 : Option Nat) (l5 : Int32)  (h : zw_H) : Prop :=
  f_law_J4220 K Q X R l0 l1 l2 l3 l4 l5  h
def f_law_J1281 (K : Nat → Option Nat) (Q : Int32 → zw_H → Prop) (X : String → Nat → zw_H → Prop) (R : Int32 → zw_H → Prop) (l0 : Option Nat) (l1 : Option Nat) (l2 : Option Nat) (l3 : Option Nat) (l4 : Option Nat) (l5 : Int32)  (h : zw_H) : Prop :=
  oa_I h l0 [0, 11] (l5 + 1) (fun v123 =>
  oa_I h l0 [0, 11] (l5 + 2) (fun v124 =>
  (f_X0_farBox K l1 v123 v124 l3 h (fun v125 h57 =>
  oa_I h57 l0 [0, 11] (l5 + 1) (fun v126 =>
  oa_I h57 l0 [0, 11] (l5 + 2) (fun v127 =>
  oc_ h57 l2 [0] (f_X2_farBox K l2 v126 v127 h57 (fun v128 h58 =>
  oc_ h58 l2 [0] (f_X2_thrown K l2 h58 (fun v129 h59 =>
  if v129 = v125 then
    if v125 ≠ 0 then
      f_law_J1346 K Q X R l0 l1 l2 l3 l4 l5  h59
    else
      oa_J h59 l3 [3] 0 (fun v130 =>
      if (lg_cmp v130 v128.toInt64) = 0 then
        f_law_J1346 K Q X R l0 l1 l2 l3 l4 l5  h59
      else
        Q 0 h59)
  else
    Q 0 h59) X)) X)))) X)))
def f_law_J1402 (K : Nat → Option Nat) (Q : Int32 → zw_H → Prop) (X : String → Nat → zw_H → Prop) (R : Int32 → zw_H → Prop) (l0 : Option Nat) (l1 : Option Nat) (l2 : Option Nat) (l3 : Option Nat) (l4 : Option Nat) (l5 : Int32)  (h : zw_H) : Prop :=
  f_law_J4220 K Q X R l0 l1 l2 l3 l4 l5  h
def f_law_J1349 (K : Nat → Option Nat) (Q : Int32 → zw_H → Prop) (X : String → Nat → zw_H → Prop) (R : Int32 → zw_H → Prop) (l0 : Option Nat) (l1 : Option Nat) (l2 : Option Nat) (l3 : Option Nat) (l4 : Option Nat) (l5 : Int32)  (h : zw_H) : Prop :=
  oa_I h l0 [0, 11] (l5 + 1) (fun v131 =>
  (f_X0_farBodies K l1 v131 l3 h (fun v132 h60 =>
  oa_I h60 l0 [0, 11] (l5 + 1) (fun v133 =>
  oc_ h60 l2 [0] (f_X2_farBodies K l2 v133 h60 (fun v134 h61 =>
  oc_ h61 l2 [0] (f_X2_thrown K l2 h61 (fun v135 h62 =>
  if v135 = v132 then
    if v132 ≠ 0 then
      f_law_J1402 K Q X R l0 l1 l2 l3 l4 l5  h62
    else
      oa_J h62 l3 [3] 0 (fun v136 =>
      if (lg_cmp v136 v134.toInt64) = 0 then
        f_law_J1402 K Q X R l0 l1 l2 l3 l4 l5  h62
      else
        Q 0 h62)
  else
    Q 0 h62) X)) X))) X))
def f_law_J1486 (K : Nat → Option Nat) (Q : Int32 → zw_H → Prop) (X : String → Nat → zw_H → Prop) (R : Int32 → zw_H → Prop) (l0 : Option Nat) (l1 : Option Nat) (l2 : Option Nat) (l3 : Option Nat) (l4 : Option Nat) (l5 : Int32)  (h : zw_H) : Prop :=
  f_law_J4220 K Q X R l0 l1 l2 l3 l4 l5  h
def f_law_J1453 (K : Nat → Option Nat) (Q : Int32 → zw_H → Prop) (X : String → Nat → zw_H → Prop) (R : Int32 → zw_H → Prop) (l0 : Option Nat) (l1 : Option Nat) (l2 : Option Nat) (l3 : Option Nat) (l4 : Option Nat) (l5 : Int32) (l6 : Int32) (s0 : Int32) (s1 : Int32) (s2 : Option Nat) (h : zw_H) : Prop :=
  oc_ h s2 [0] (f_X2_cost K s2 s1 s0 h (fun v142 h64 =>
  oc_ h64 l2 [0] (f_X2_thrown K l2 h64 (fun v143 h65 =>
  if v143 = l6 then
    if l6 ≠ 0 then
      f_law_J1486 K Q X R l0 l1 l2 l3 l4 l5  h65
    else
      oa_J h65 l3 [3] 0 (fun v144 =>
      if (lg_cmp v144 v142.toInt64) = 0 then
        f_law_J1486 K Q X R l0 l1 l2 l3 l4 l5  h65
      else
        Q 0 h65)
  else
    Q 0 h65) X)) X)
def f_law_J1426 (K : Nat → Option Nat) (Q : Int32 → zw_H → Prop) (X : String → Nat → zw_H → Prop) (R : Int32 → zw_H → Prop) (l0 : Option Nat) (l1 : Option Nat) (l2 : Option Nat) (l3 : Option Nat) (l4 : Option Nat) (l5 : Int32) (s0 : Int32) (s1 : Int32) (s2 : Option Nat) (h : zw_H) : Prop :=
  (f_X0_cost K s2 s1 s0 l3 h (fun v139 h63 =>
  oa_I h63 l0 [0, 11] (l5 + 1) (fun v140 =>
  oa_I h63 l0 [0, 11] (l5 + 2) (fun v141 =>
  if v141 = 0 then
    f_law_J1453 K Q X R l0 l1 l2 l3 l4 l5 v139 0 v140 l2 h63
  else
    f_law_J1453 K Q X R l0 l1 l2 l3 l4 l5 v139 1 v140 l2 h63))) X)
def f_law_J1405 (K : Nat → Option Nat) (Q : Int32 → zw_H → Prop) (X : String → Nat → zw_H → Prop) (R : Int32 → zw_H → Prop) (l0 : Option Nat) (l1 : Option Nat) (l2 : Option Nat) (l3 : Option Nat) (l4 : Option Nat) (l5 : Int32)  (h : zw_H) : Prop :=
  oa_I h l0 [0, 11] (l5 + 1) (fun v137 =>
  oa_I h l0 [0, 11] (l5 + 2) (fun v138 =>
  if v138 = 0 then
    f_law_J1426 K Q X R l0 l1 l2 l3 l4 l5 0 v137 l1 h
  else
    f_law_J1426 K Q X R l0 l1 l2 l3 l4 l5 1 v137 l1 h))
def f_law_J1563 (K : Nat → Option Nat) (Q : Int32 → zw_H → Prop) (X : String → Nat → zw_H → Prop) (R : Int32 → zw_H → Prop) (l0 : Option Nat) (l1 : Option Nat) (l2 : Option Nat) (l3 : Option Nat) (l4 : Option Nat) (l5 : Int32)  (h : zw_H) : Prop :=
  f_law_J4220 K Q X R l0 l1 l2 l3 l4 l5  h
def f_law_J1489 (K : Nat → Option Nat) (Q : Int32 → zw_H → Prop) (X : String → Nat → zw_H → Prop) (R : Int32 → zw_H → Prop) (l0 : Option Nat) (l1 : Option Nat) (l2 : Option Nat) (l3 : Option Nat) (l4 : Option Nat) (l5 : Int32)  (h : zw_H) : Prop :=
  oa_I h l0 [0, 11] (l5 + 1) (fun v145 =>
  (f_X0_plain K l1 v145 l4 h (fun v146 h66 =>
  oa_I h66 l0 [0, 11] (l5 + 1) (fun v147 =>
  oc_ h66 l2 [0] (f_X2_plain K l2 v147 h66 (fun v148 h67 =>
  oc_ h67 l2 [0] (f_X2_thrown K l2 h67 (fun v149 h68 =>
  if v149 = v146 then
    if v146 ≠ 0 then
      f_law_J1563 K Q X R l0 l1 l2 l3 l4 l5  h68
    else
      oa_D h68 l4 [4] 0 (fun v150 =>
      if (Op.cmpValue (FP.dcmp v150 v148) .l) = 0 then
        f_law_J1563 K Q X R l0 l1 l2 l3 l4 l5  h68
      else
        oa_D h68 l4 [4] 0 (fun v151 =>
        oa_D h68 l4 [4] 0 (fun v152 =>
        if (Op.cmpValue (FP.dcmp v151 v152) .l) = 0 then
          Q 0 h68
        else
          if (Op.cmpValue (FP.dcmp v148 v148) .l) ≠ 0 then
            f_law_J1563 K Q X R l0 l1 l2 l3 l4 l5  h68
          else
            Q 0 h68)))
  else
    Q 0 h68) X)) X))) X))
def f_law_J1640 (K : Nat → Option Nat) (Q : Int32 → zw_H → Prop) (X : String → Nat → zw_H → Prop) (R : Int32 → zw_H → Prop) (l0 : Option Nat) (l1 : Option Nat) (l2 : Option Nat) (l3 : Option Nat) (l4 : Option Nat) (l5 : Int32)  (h : zw_H) : Prop :=
  f_law_J4220 K Q X R l0 l1 l2 l3 l4 l5  h
def f_law_J1566 (K : Nat → Option Nat) (Q : Int32 → zw_H → Prop) (X : String → Nat → zw_H → Prop) (R : Int32 → zw_H → Prop) (l0 : Option Nat) (l1 : Option Nat) (l2 : Option Nat) (l3 : Option Nat) (l4 : Option Nat) (l5 : Int32)  (h : zw_H) : Prop :=
  oa_I h l0 [0, 11] (l5 + 1) (fun v153 =>
  (f_X0_nearSum K l1 v153 l4 h (fun v154 h69 =>
  oa_I h69 l0 [0, 11] (l5 + 1) (fun v155 =>
  oc_ h69 l2 [0] (f_X2_nearSum K l2 v155 h69 (fun v156 h70 =>
  oc_ h70 l2 [0] (f_X2_thrown K l2 h70 (fun v157 h71 =>
  if v157 = v154 then
    if v154 ≠ 0 then
      f_law_J1640 K Q X R l0 l1 l2 l3 l4 l5  h71
    else
      oa_D h71 l4 [4] 0 (fun v158 =>
      if (Op.cmpValue (FP.dcmp v158 v156) .l) = 0 then
        f_law_J1640 K Q X R l0 l1 l2 l3 l4 l5  h71
      else
        oa_D h71 l4 [4] 0 (fun v159 =>
        oa_D h71 l4 [4] 0 (fun v160 =>
        if (Op.cmpValue (FP.dcmp v159 v160) .l) = 0 then
          Q 0 h71
        else
          if (Op.cmpValue (FP.dcmp v156 v156) .l) ≠ 0 then
            f_law_J1640 K Q X R l0 l1 l2 l3 l4 l5  h71
          else
            Q 0 h71)))
  else
    Q 0 h71) X)) X))) X))
def f_law_J1717 (K : Nat → Option Nat) (Q : Int32 → zw_H → Prop) (X : String → Nat → zw_H → Prop) (R : Int32 → zw_H → Prop) (l0 : Option Nat) (l1 : Option Nat) (l2 : Option Nat) (l3 : Option Nat) (l4 : Option Nat) (l5 : Int32)  (h : zw_H) : Prop :=
  f_law_J4220 K Q X R l0 l1 l2 l3 l4 l5  h
def f_law_J1643 (K : Nat → Option Nat) (Q : Int32 → zw_H → Prop) (X : String → Nat → zw_H → Prop) (R : Int32 → zw_H → Prop) (l0 : Option Nat) (l1 : Option Nat) (l2 : Option Nat) (l3 : Option Nat) (l4 : Option Nat) (l5 : Int32)  (h : zw_H) : Prop :=
  oa_I h l0 [0, 11] (l5 + 1) (fun v161 =>
  (f_X0_farSum K l1 v161 l4 h (fun v162 h72 =>
  oa_I h72 l0 [0, 11] (l5 + 1) (fun v163 =>
  oc_ h72 l2 [0] (f_X2_farSum K l2 v163 h72 (fun v164 h73 =>
  oc_ h73 l2 [0] (f_X2_thrown K l2 h73 (fun v165 h74 =>
  if v165 = v162 then
    if v162 ≠ 0 then
      f_law_J1717 K Q X R l0 l1 l2 l3 l4 l5  h74
    else
      oa_D h74 l4 [4] 0 (fun v166 =>
      if (Op.cmpValue (FP.dcmp v166 v164) .l) = 0 then
        f_law_J1717 K Q X R l0 l1 l2 l3 l4 l5  h74
      else
        oa_D h74 l4 [4] 0 (fun v167 =>
        oa_D h74 l4 [4] 0 (fun v168 =>
        if (Op.cmpValue (FP.dcmp v167 v168) .l) = 0 then
          Q 0 h74
        else
          if (Op.cmpValue (FP.dcmp v164 v164) .l) ≠ 0 then
            f_law_J1717 K Q X R l0 l1 l2 l3 l4 l5  h74
          else
            Q 0 h74)))
  else
    Q 0 h74) X)) X))) X))
def f_law_J1772 (K : Nat → Option Nat) (Q : Int32 → zw_H → Prop) (X : String → Nat → zw_H → Prop) (R : Int32 → zw_H → Prop) (l0 : Option Nat) (l1 : Option Nat) (l2 : Option Nat) (l3 : Option Nat) (l4 : Option Nat) (l5 : Int32)  (h : zw_H) : Prop :=
  f_law_J4220 K Q X R l0 l1 l2 l3 l4 l5  h
def f_law_J1720 (K : Nat → Option Nat) (Q : Int32 → zw_H → Prop) (X : String → Nat → zw_H → Prop) (R : Int32 → zw_H → Prop) (l0 : Option Nat) (l1 : Option Nat) (l2 : Option Nat) (l3 : Option Nat) (l4 : Option Nat) (l5 : Int32)  (h : zw_H) : Prop :=
  oa_I h l0 [0, 11] (l5 + 1) (fun v169 =>
  (f_X0_farBits K l1 v169 l3 h (fun v170 h75 =>
  oa_I h75 l0 [0, 11] (l5 + 1) (fun v171 =>
  oc_ h75 l2 [0] (f_X2_farBits K l2 v171 h75 (fun v172 h76 =>
  oc_ h76 l2 [0] (f_X2_thrown K l2 h76 (fun v173 h77 =>
  if v173 = v170 then
    if v170 ≠ 0 then
      f_law_J1772 K Q X R l0 l1 l2 l3 l4 l5  h77
    else
      oa_J h77 l3 [3] 0 (fun v174 =>
      if (lg_cmp v174 v172) = 0 then
        f_law_J1772 K Q X R l0 l1 l2 l3 l4 l5  h77
      else
        Q 0 h77)
  else
    Q 0 h77) X)) X))) X))
def f_law_J1873 (K : Nat → Option Nat) (Q : Int32 → zw_H → Prop) (X : String → Nat → zw_H → Prop) (R : Int32 → zw_H → Prop) (l0 : Option Nat) (l1 : Option Nat) (l2 : Option Nat) (l3 : Option Nat) (l4 : Option Nat) (l5 : Int32)  (h : zw_H) : Prop :=
  f_law_J4220 K Q X R l0 l1 l2 l3 l4 l5  h
def f_law_J1775 (K : Nat → Option Nat) (Q : Int32 → zw_H → Prop) (X : String → Nat → zw_H → Prop) (R : Int32 → zw_H → Prop) (l0 : Option Nat) (l1 : Option Nat) (l2 : Option Nat) (l3 : Option Nat) (l4 : Option Nat) (l5 : Int32)  (h : zw_H) : Prop :=
  oa_I h l0 [0, 11] (l5 + 1) (fun v175 =>
  oa_I h l0 [0, 11] (l5 + 2) (fun v176 =>
  oa_I h l0 [0, 11] (l5 + 3) (fun v177 =>
  (f_X0_value K l1 v175 v176 v177 l4 h (fun v178 h78 =>
  oa_I h78 l0 [0, 11] (l5 + 1) (fun v179 =>
  oa_I h78 l0 [0, 11] (l5 + 2) (fun v180 =>
  oa_I h78 l0 [0, 11] (l5 + 3) (fun v181 =>
  oc_ h78 l2 [0] (f_X2_value K l2 v179 v180 v181 h78 (fun v182 h79 =>
  oc_ h79 l2 [0] (f_X2_thrown K l2 h79 (fun v183 h80 =>
  if v183 = v178 then
    if v178 ≠ 0 then
      f_law_J1873 K Q X R l0 l1 l2 l3 l4 l5  h80
    else
      oa_D h80 l4 [4] 0 (fun v184 =>
      if (Op.cmpValue (FP.dcmp v184 v182) .l) = 0 then
        f_law_J1873 K Q X R l0 l1 l2 l3 l4 l5  h80
      else
        oa_D h80 l4 [4] 0 (fun v185 =>
        oa_D h80 l4 [4] 0 (fun v186 =>
        if (Op.cmpValue (FP.dcmp v185 v186) .l) = 0 then
          Q 0 h80
        else
          if (Op.cmpValue (FP.dcmp v182 v182) .l) ≠ 0 then
            f_law_J1873 K Q X R l0 l1 l2 l3 l4 l5  h80
          else
            Q 0 h80)))
  else
    Q 0 h80) X)) X))))) X))))
def f_law_J1950 (K : Nat → Option Nat) (Q : Int32 → zw_H → Prop) (X : String → Nat → zw_H → Prop) (R : Int32 → zw_H → Prop) (l0 : Option Nat) (l1 : Option Nat) (l2 : Option Nat) (l3 : Option Nat) (l4 : Option Nat) (l5 : Int32)  (h : zw_H) : Prop :=
  f_law_J4220 K Q X R l0 l1 l2 l3 l4 l5  h
def f_law_J1876 (K : Nat → Option Nat) (Q : Int32 → zw_H → Prop) (X : String → Nat → zw_H → Prop) (R : Int32 → zw_H → Prop) (l0 : Option Nat) (l1 : Option Nat) (l2 : Option Nat) (l3 : Option Nat) (l4 : Option Nat) (l5 : Int32)  (h : zw_H) : Prop :=
  oa_I h l0 [0, 11] (l5 + 1) (fun v187 =>
  (f_X0_bound K l1 v187 l4 h (fun v188 h81 =>
  oa_I h81 l0 [0, 11] (l5 + 1) (fun v189 =>
  oc_ h81 l2 [0] (f_X2_bound K l2 v189 h81 (fun v190 h82 =>
  oc_ h82 l2 [0] (f_X2_thrown K l2 h82 (fun v191 h83 =>
  if v191 = v188 then
    if v188 ≠ 0 then
      f_law_J1950 K Q X R l0 l1 l2 l3 l4 l5  h83
    else
      oa_D h83 l4 [4] 0 (fun v192 =>
      if (Op.cmpValue (FP.dcmp v192 v190) .l) = 0 then
        f_law_J1950 K Q X R l0 l1 l2 l3 l4 l5  h83
      else
        oa_D h83 l4 [4] 0 (fun v193 =>
        oa_D h83 l4 [4] 0 (fun v194 =>
        if (Op.cmpValue (FP.dcmp v193 v194) .l) = 0 then
          Q 0 h83
        else
          if (Op.cmpValue (FP.dcmp v190 v190) .l) ≠ 0 then
            f_law_J1950 K Q X R l0 l1 l2 l3 l4 l5  h83
          else
            Q 0 h83)))
  else
    Q 0 h83) X)) X))) X))
def f_law_J2027 (K : Nat → Option Nat) (Q : Int32 → zw_H → Prop) (X : String → Nat → zw_H → Prop) (R : Int32 → zw_H → Prop) (l0 : Option Nat) (l1 : Option Nat) (l2 : Option Nat) (l3 : Option Nat) (l4 : Option Nat) (l5 : Int32)  (h : zw_H) : Prop :=
  f_law_J4220 K Q X R l0 l1 l2 l3 l4 l5  h
def f_law_J1953 (K : Nat → Option Nat) (Q : Int32 → zw_H → Prop) (X : String → Nat → zw_H → Prop) (R : Int32 → zw_H → Prop) (l0 : Option Nat) (l1 : Option Nat) (l2 : Option Nat) (l3 : Option Nat) (l4 : Option Nat) (l5 : Int32)  (h : zw_H) : Prop :=
  oa_I h l0 [0, 11] (l5 + 1) (fun v195 =>
  (f_X0_gapAt K l1 v195 l4 h (fun v196 h84 =>
  oa_I h84 l0 [0, 11] (l5 + 1) (fun v197 =>
  oc_ h84 l2 [0] (f_X2_gapAt K l2 v197 h84 (fun v198 h85 =>
  oc_ h85 l2 [0] (f_X2_thrown K l2 h85 (fun v199 h86 =>
  if v199 = v196 then
    if v196 ≠ 0 then
      f_law_J2027 K Q X R l0 l1 l2 l3 l4 l5  h86
    else
      oa_D h86 l4 [4] 0 (fun v200 =>
      if (Op.cmpValue (FP.dcmp v200 v198) .l) = 0 then
        f_law_J2027 K Q X R l0 l1 l2 l3 l4 l5  h86
      else
        oa_D h86 l4 [4] 0 (fun v201 =>
        oa_D h86 l4 [4] 0 (fun v202 =>
        if (Op.cmpValue (FP.dcmp v201 v202) .l) = 0 then
          Q 0 h86
        else
          if (Op.cmpValue (FP.dcmp v198 v198) .l) ≠ 0 then
            f_law_J2027 K Q X R l0 l1 l2 l3 l4 l5  h86
          else
            Q 0 h86)))
  else
    Q 0 h86) X)) X))) X))
def f_law_J2090 (K : Nat → Option Nat) (Q : Int32 → zw_H → Prop) (X : String → Nat → zw_H → Prop) (R : Int32 → zw_H → Prop) (l0 : Option Nat) (l1 : Option Nat) (l2 : Option Nat) (l3 : Option Nat) (l4 : Option Nat) (l5 : Int32)  (h : zw_H) : Prop :=
  f_law_J4220 K Q X R l0 l1 l2 l3 l4 l5  h
def f_law_J2084 (K : Nat → Option Nat) (Q : Int32 → zw_H → Prop) (X : String → Nat → zw_H → Prop) (R : Int32 → zw_H → Prop) (l0 : Option Nat) (l1 : Option Nat) (l2 : Option Nat) (l3 : Option Nat) (l4 : Option Nat) (l5 : Int32) (s0 : Int64) (s1 : Int64) (h : zw_H) : Prop :=
  if (lg_cmp s1 s0) = 0 then
    f_law_J2090 K Q X R l0 l1 l2 l3 l4 l5  h
  else
    Q 0 h
def f_law_J2030 (K : Nat → Option Nat) (Q : Int32 → zw_H → Prop) (X : String → Nat → zw_H → Prop) (R : Int32 → zw_H → Prop) (l0 : Option Nat) (l1 : Option Nat) (l2 : Option Nat) (l3 : Option Nat) (l4 : Option Nat) (l5 : Int32)  (h : zw_H) : Prop :=
  oa_I h l0 [0, 11] (l5 + 1) (fun v203 =>
  (f_X0_isWithin K l1 v203 l3 h (fun v204 h87 =>
  oa_I h87 l0 [0, 11] (l5 + 1) (fun v205 =>
  oc_ h87 l2 [0] (f_X2_isWithin K l2 v205 h87 (fun v206 h88 =>
  oc_ h88 l2 [0] (f_X2_thrown K l2 h88 (fun v207 h89 =>
  if v207 = v204 then
    if v204 ≠ 0 then
      f_law_J2090 K Q X R l0 l1 l2 l3 l4 l5  h89
    else
      oa_J h89 l3 [3] 0 (fun v208 =>
      if v206 = 0 then
        f_law_J2084 K Q X R l0 l1 l2 l3 l4 l5 0 v208 h89
      else
        f_law_J2084 K Q X R l0 l1 l2 l3 l4 l5 1 v208 h89)
  else
    Q 0 h89) X)) X))) X))
def f_law_J2134 (K : Nat → Option Nat) (Q : Int32 → zw_H → Prop) (X : String → Nat → zw_H → Prop) (R : Int32 → zw_H → Prop) (l0 : Option Nat) (l1 : Option Nat) (l2 : Option Nat) (l3 : Option Nat) (l4 : Option Nat) (l5 : Int32)  (h : zw_H) : Prop :=
  f_law_J4220 K Q X R l0 l1 l2 l3 l4 l5  h
def f_law_J2093 (K : Nat → Option Nat) (Q : Int32 → zw_H → Prop) (X : String → Nat → zw_H → Prop) (R : Int32 → zw_H → Prop) (l0 : Option Nat) (l1 : Option Nat) (l2 : Option Nat) (l3 : Option Nat) (l4 : Option Nat) (l5 : Int32)  (h : zw_H) : Prop :=
  (f_X0_worst K l1 l3 h (fun v209 h90 =>
  oc_ h90 l2 [0] (f_X2_worst K l2 h90 (fun v210 h91 =>
  oc_ h91 l2 [0] (f_X2_thrown K l2 h91 (fun v211 h92 =>
  if v211 = v209 then
    if v209 ≠ 0 then
      f_law_J2134 K Q X R l0 l1 l2 l3 l4 l5  h92
    else
      oa_J h92 l3 [3] 0 (fun v212 =>
      if (lg_cmp v212 v210.toInt64) = 0 then
        f_law_J2134 K Q X R l0 l1 l2 l3 l4 l5  h92
      else
        Q 0 h92)
  else
    Q 0 h92) X)) X)) X)
def f_law_J2235 (K : Nat → Option Nat) (Q : Int32 → zw_H → Prop) (X : String → Nat → zw_H → Prop) (R : Int32 → zw_H → Prop) (l0 : Option Nat) (l1 : Option Nat) (l2 : Option Nat) (l3 : Option Nat) (l4 : Option Nat) (l5 : Int32)  (h : zw_H) : Prop :=
  f_law_J4220 K Q X R l0 l1 l2 l3 l4 l5  h
def f_law_J2137 (K : Nat → Option Nat) (Q : Int32 → zw_H → Prop) (X : String → Nat → zw_H → Prop) (R : Int32 → zw_H → Prop) (l0 : Option Nat) (l1 : Option Nat) (l2 : Option Nat) (l3 : Option Nat) (l4 : Option Nat) (l5 : Int32)  (h : zw_H) : Prop :=
  oa_I h l0 [0, 11] (l5 + 1) (fun v213 =>
  oa_I h l0 [0, 11] (l5 + 2) (fun v214 =>
  oa_I h l0 [0, 11] (l5 + 3) (fun v215 =>
  (f_X0_localEntry K l1 v213 v214 v215 l4 h (fun v216 h93 =>
  oa_I h93 l0 [0, 11] (l5 + 1) (fun v217 =>
  oa_I h93 l0 [0, 11] (l5 + 2) (fun v218 =>
  oa_I h93 l0 [0, 11] (l5 + 3) (fun v219 =>
  oc_ h93 l2 [0] (f_X2_localEntry K l2 v217 v218 v219 h93 (fun v220 h94 =>
  oc_ h94 l2 [0] (f_X2_thrown K l2 h94 (fun v221 h95 =>
  if v221 = v216 then
    if v216 ≠ 0 then
      f_law_J2235 K Q X R l0 l1 l2 l3 l4 l5  h95
    else
      oa_D h95 l4 [4] 0 (fun v222 =>
      if (Op.cmpValue (FP.dcmp v222 v220) .l) = 0 then
        f_law_J2235 K Q X R l0 l1 l2 l3 l4 l5  h95
      else
        oa_D h95 l4 [4] 0 (fun v223 =>
        oa_D h95 l4 [4] 0 (fun v224 =>
        if (Op.cmpValue (FP.dcmp v223 v224) .l) = 0 then
          Q 0 h95
        else
          if (Op.cmpValue (FP.dcmp v220 v220) .l) ≠ 0 then
            f_law_J2235 K Q X R l0 l1 l2 l3 l4 l5  h95
          else
            Q 0 h95)))
  else
    Q 0 h95) X)) X))))) X))))
def f_law_J2312 (K : Nat → Option Nat) (Q : Int32 → zw_H → Prop) (X : String → Nat → zw_H → Prop) (R : Int32 → zw_H → Prop) (l0 : Option Nat) (l1 : Option Nat) (l2 : Option Nat) (l3 : Option Nat) (l4 : Option Nat) (l5 : Int32)  (h : zw_H) : Prop :=
  f_law_J4220 K Q X R l0 l1 l2 l3 l4 l5  h
def f_law_J2238 (K : Nat → Option Nat) (Q : Int32 → zw_H → Prop) (X : String → Nat → zw_H → Prop) (R : Int32 → zw_H → Prop) (l0 : Option Nat) (l1 : Option Nat) (l2 : Option Nat) (l3 : Option Nat) (l4 : Option Nat) (l5 : Int32)  (h : zw_H) : Prop :=
  oa_I h l0 [0, 11] (l5 + 1) (fun v225 =>
  (f_X0_localSum K l1 v225 l4 h (fun v226 h96 =>
  oa_I h96 l0 [0, 11] (l5 + 1) (fun v227 =>
  oc_ h96 l2 [0] (f_X2_localSum K l2 v227 h96 (fun v228 h97 =>
  oc_ h97 l2 [0] (f_X2_thrown K l2 h97 (fun v229 h98 =>
  if v229 = v226 then
    if v226 ≠ 0 then
      f_law_J2312 K Q X R l0 l1 l2 l3 l4 l5  h98
    else
      oa_D h98 l4 [4] 0 (fun v230 =>
      if (Op.cmpValue (FP.dcmp v230 v228) .l) = 0 then
        f_law_J2312 K Q X R l0 l1 l2 l3 l4 l5  h98
      else
        oa_D h98 l4 [4] 0 (fun v231 =>
        oa_D h98 l4 [4] 0 (fun v232 =>
        if (Op.cmpValue (FP.dcmp v231 v232) .l) = 0 then
          Q 0 h98
        else
          if (Op.cmpValue (FP.dcmp v228 v228) .l) ≠ 0 then
            f_law_J2312 K Q X R l0 l1 l2 l3 l4 l5  h98
          else
            Q 0 h98)))
  else
    Q 0 h98) X)) X))) X))
def f_law_J2389 (K : Nat → Option Nat) (Q : Int32 → zw_H → Prop) (X : String → Nat → zw_H → Prop) (R : Int32 → zw_H → Prop) (l0 : Option Nat) (l1 : Option Nat) (l2 : Option Nat) (l3 : Option Nat) (l4 : Option Nat) (l5 : Int32)  (h : zw_H) : Prop :=
  f_law_J4220 K Q X R l0 l1 l2 l3 l4 l5  h
def f_law_J2315 (K : Nat → Option Nat) (Q : Int32 → zw_H → Prop) (X : String → Nat → zw_H → Prop) (R : Int32 → zw_H → Prop) (l0 : Option Nat) (l1 : Option Nat) (l2 : Option Nat) (l3 : Option Nat) (l4 : Option Nat) (l5 : Int32)  (h : zw_H) : Prop :=
  oa_I h l0 [0, 11] (l5 + 1) (fun v233 =>
  (f_X0_pullPlain K l1 v233 l4 h (fun v234 h99 =>
  oa_I h99 l0 [0, 11] (l5 + 1) (fun v235 =>
  oc_ h99 l2 [0] (f_X2_pullPlain K l2 v235 h99 (fun v236 h100 =>
  oc_ h100 l2 [0] (f_X2_thrown K l2 h100 (fun v237 h101 =>
  if v237 = v234 then
    if v234 ≠ 0 then
      f_law_J2389 K Q X R l0 l1 l2 l3 l4 l5  h101
    else
      oa_D h101 l4 [4] 0 (fun v238 =>
      if (Op.cmpValue (FP.dcmp v238 v236) .l) = 0 then
        f_law_J2389 K Q X R l0 l1 l2 l3 l4 l5  h101
      else
        oa_D h101 l4 [4] 0 (fun v239 =>
        oa_D h101 l4 [4] 0 (fun v240 =>
        if (Op.cmpValue (FP.dcmp v239 v240) .l) = 0 then
          Q 0 h101
        else
          if (Op.cmpValue (FP.dcmp v236 v236) .l) ≠ 0 then
            f_law_J2389 K Q X R l0 l1 l2 l3 l4 l5  h101
          else
            Q 0 h101)))
  else
    Q 0 h101) X)) X))) X))
def f_law_J2466 (K : Nat → Option Nat) (Q : Int32 → zw_H → Prop) (X : String → Nat → zw_H → Prop) (R : Int32 → zw_H → Prop) (l0 : Option Nat) (l1 : Option Nat) (l2 : Option Nat) (l3 : Option Nat) (l4 : Option Nat) (l5 : Int32)  (h : zw_H) : Prop :=
  f_law_J4220 K Q X R l0 l1 l2 l3 l4 l5  h
def f_law_J2392 (K : Nat → Option Nat) (Q : Int32 → zw_H → Prop) (X : String → Nat → zw_H → Prop) (R : Int32 → zw_H → Prop) (l0 : Option Nat) (l1 : Option Nat) (l2 : Option Nat) (l3 : Option Nat) (l4 : Option Nat) (l5 : Int32)  (h : zw_H) : Prop :=
  oa_I h l0 [0, 11] (l5 + 1) (fun v241 =>
  (f_X0_pullFar K l1 v241 l4 h (fun v242 h102 =>
  oa_I h102 l0 [0, 11] (l5 + 1) (fun v243 =>
  oc_ h102 l2 [0] (f_X2_pullFar K l2 v243 h102 (fun v244 h103 =>
  oc_ h103 l2 [0] (f_X2_thrown K l2 h103 (fun v245 h104 =>
  if v245 = v242 then
    if v242 ≠ 0 then
      f_law_J2466 K Q X R l0 l1 l2 l3 l4 l5  h104
    else
      oa_D h104 l4 [4] 0 (fun v246 =>
      if (Op.cmpValue (FP.dcmp v246 v244) .l) = 0 then
        f_law_J2466 K Q X R l0 l1 l2 l3 l4 l5  h104
      else
        oa_D h104 l4 [4] 0 (fun v247 =>
        oa_D h104 l4 [4] 0 (fun v248 =>
        if (Op.cmpValue (FP.dcmp v247 v248) .l) = 0 then
          Q 0 h104
        else
          if (Op.cmpValue (FP.dcmp v244 v244) .l) ≠ 0 then
            f_law_J2466 K Q X R l0 l1 l2 l3 l4 l5  h104
          else
            Q 0 h104)))
  else
    Q 0 h104) X)) X))) X))
def f_law_J2543 (K : Nat → Option Nat) (Q : Int32 → zw_H → Prop) (X : String → Nat → zw_H → Prop) (R : Int32 → zw_H → Prop) (l0 : Option Nat) (l1 : Option Nat) (l2 : Option Nat) (l3 : Option Nat) (l4 : Option Nat) (l5 : Int32)  (h : zw_H) : Prop :=
  f_law_J4220 K Q X R l0 l1 l2 l3 l4 l5  h
def f_law_J2469 (K : Nat → Option Nat) (Q : Int32 → zw_H → Prop) (X : String → Nat → zw_H → Prop) (R : Int32 → zw_H → Prop) (l0 : Option Nat) (l1 : Option Nat) (l2 : Option Nat) (l3 : Option Nat) (l4 : Option Nat) (l5 : Int32)  (h : zw_H) : Prop :=
  oa_I h l0 [0, 11] (l5 + 1) (fun v249 =>
  (f_X0_pull K l1 v249 l4 h (fun v250 h105 =>
  oa_I h105 l0 [0, 11] (l5 + 1) (fun v251 =>
  oc_ h105 l2 [0] (f_X2_pull K l2 v251 h105 (fun v252 h106 =>
  oc_ h106 l2 [0] (f_X2_thrown K l2 h106 (fun v253 h107 =>
  if v253 = v250 then
    if v250 ≠ 0 then
      f_law_J2543 K Q X R l0 l1 l2 l3 l4 l5  h107
    else
      oa_D h107 l4 [4] 0 (fun v254 =>
      if (Op.cmpValue (FP.dcmp v254 v252) .l) = 0 then
        f_law_J2543 K Q X R l0 l1 l2 l3 l4 l5  h107
      else
        oa_D h107 l4 [4] 0 (fun v255 =>
        oa_D h107 l4 [4] 0 (fun v256 =>
        if (Op.cmpValue (FP.dcmp v255 v256) .l) = 0 then
          Q 0 h107
        else
          if (Op.cmpValue (FP.dcmp v252 v252) .l) ≠ 0 then
            f_law_J2543 K Q X R l0 l1 l2 l3 l4 l5  h107
          else
            Q 0 h107)))
  else
    Q 0 h107) X)) X))) X))
def f_law_J2599 (K : Nat → Option Nat) (Q : Int32 → zw_H → Prop) (X : String → Nat → zw_H → Prop) (R : Int32 → zw_H → Prop) (l0 : Option Nat) (l1 : Option Nat) (l2 : Option Nat) (l3 : Option Nat) (l4 : Option Nat) (l5 : Int32)  (h : zw_H) : Prop :=
  f_law_J4220 K Q X R l0 l1 l2 l3 l4 l5  h
def f_law_J2546 (K : Nat → Option Nat) (Q : Int32 → zw_H → Prop) (X : String → Nat → zw_H → Prop) (R : Int32 → zw_H → Prop) (l0 : Option Nat) (l1 : Option Nat) (l2 : Option Nat) (l3 : Option Nat) (l4 : Option Nat) (l5 : Int32)  (h : zw_H) : Prop :=
  oa_I h l0 [0, 11] (l5 + 1) (fun v257 =>
  (f_X0_willMove K l1 v257 l3 h (fun v258 h108 =>
  oa_I h108 l0 [0, 11] (l5 + 1) (fun v259 =>
  oc_ h108 l2 [0] (f_X2_willMove K l2 v259 h108 (fun v260 h109 =>
  oc_ h109 l2 [0] (f_X2_thrown K l2 h109 (fun v261 h110 =>
  if v261 = v258 then
    if v258 ≠ 0 then
      f_law_J2599 K Q X R l0 l1 l2 l3 l4 l5  h110
    else
      oa_J h110 l3 [3] 0 (fun v262 =>
      if (lg_cmp v262 v260.toInt64) = 0 then
        f_law_J2599 K Q X R l0 l1 l2 l3 l4 l5  h110
      else
        Q 0 h110)
  else
    Q 0 h110) X)) X))) X))
def f_law_J2667 (K : Nat → Option Nat) (Q : Int32 → zw_H → Prop) (X : String → Nat → zw_H → Prop) (R : Int32 → zw_H → Prop) (l0 : Option Nat) (l1 : Option Nat) (l2 : Option Nat) (l3 : Option Nat) (l4 : Option Nat) (l5 : Int32)  (h : zw_H) : Prop :=
  f_law_J4220 K Q X R l0 l1 l2 l3 l4 l5  h
def f_law_J2602 (K : Nat → Option Nat) (Q : Int32 → zw_H → Prop) (X : String → Nat → zw_H → Prop) (R : Int32 → zw_H → Prop) (l0 : Option Nat) (l1 : Option Nat) (l2 : Option Nat) (l3 : Option Nat) (l4 : Option Nat) (l5 : Int32)  (h : zw_H) : Prop :=
  oa_I h l0 [0, 11] (l5 + 1) (fun v263 =>
  oa_I h l0 [0, 11] (l5 + 2) (fun v264 =>
  (f_X0_placeIn K l1 v263 v264 l3 h (fun v265 h111 =>
  oa_I h111 l0 [0, 11] (l5 + 1) (fun v266 =>
  oa_I h111 l0 [0, 11] (l5 + 2) (fun v267 =>
  oc_ h111 l2 [0] (f_X2_placeIn K l2 v266 v267 h111 (fun v268 h112 =>
  oc_ h112 l2 [0] (f_X2_thrown K l2 h112 (fun v269 h113 =>
  if v269 = v265 then
    if v265 ≠ 0 then
      f_law_J2667 K Q X R l0 l1 l2 l3 l4 l5  h113
    else
      oa_J h113 l3 [3] 0 (fun v270 =>
      if (lg_cmp v270 v268.toInt64) = 0 then
        f_law_J2667 K Q X R l0 l1 l2 l3 l4 l5  h113
      else
        Q 0 h113)
  else
    Q 0 h113) X)) X)))) X)))
def f_law_J2723 (K : Nat → Option Nat) (Q : Int32 → zw_H → Prop) (X : String → Nat → zw_H → Prop) (R : Int32 → zw_H → Prop) (l0 : Option Nat) (l1 : Option Nat) (l2 : Option Nat) (l3 : Option Nat) (l4 : Option Nat) (l5 : Int32)  (h : zw_H) : Prop :=
  f_law_J4220 K Q X R l0 l1 l2 l3 l4 l5  h
def f_law_J2670 (K : Nat → Option Nat) (Q : Int32 → zw_H → Prop) (X : String → Nat → zw_H → Prop) (R : Int32 → zw_H → Prop) (l0 : Option Nat) (l1 : Option Nat) (l2 : Option Nat) (l3 : Option Nat) (l4 : Option Nat) (l5 : Int32)  (h : zw_H) : Prop :=
  oa_I h l0 [0, 11] (l5 + 1) (fun v271 =>
  (f_X0_movesIn K l1 v271 l3 h (fun v272 h114 =>
  oa_I h114 l0 [0, 11] (l5 + 1) (fun v273 =>
  oc_ h114 l2 [0] (f_X2_movesIn K l2 v273 h114 (fun v274 h115 =>
  oc_ h115 l2 [0] (f_X2_thrown K l2 h115 (fun v275 h116 =>
  if v275 = v272 then
    if v272 ≠ 0 then
      f_law_J2723 K Q X R l0 l1 l2 l3 l4 l5  h116
    else
      oa_J h116 l3 [3] 0 (fun v276 =>
      if (lg_cmp v276 v274.toInt64) = 0 then
        f_law_J2723 K Q X R l0 l1 l2 l3 l4 l5  h116
      else
        Q 0 h116)
  else
    Q 0 h116) X)) X))) X))
def f_law_J2767 (K : Nat → Option Nat) (Q : Int32 → zw_H → Prop) (X : String → Nat → zw_H → Prop) (R : Int32 → zw_H → Prop) (l0 : Option Nat) (l1 : Option Nat) (l2 : Option Nat) (l3 : Option Nat) (l4 : Option Nat) (l5 : Int32)  (h : zw_H) : Prop :=
  f_law_J4220 K Q X R l0 l1 l2 l3 l4 l5  h
def f_law_J2726 (K : Nat → Option Nat) (Q : Int32 → zw_H → Prop) (X : String → Nat → zw_H → Prop) (R : Int32 → zw_H → Prop) (l0 : Option Nat) (l1 : Option Nat) (l2 : Option Nat) (l3 : Option Nat) (l4 : Option Nat) (l5 : Int32)  (h : zw_H) : Prop :=
  (f_X0_stillIn K l1 l3 h (fun v277 h117 =>
  oc_ h117 l2 [0] (f_X2_stillIn K l2 h117 (fun v278 h118 =>
  oc_ h118 l2 [0] (f_X2_thrown K l2 h118 (fun v279 h119 =>
  if v279 = v277 then
    if v277 ≠ 0 then
      f_law_J2767 K Q X R l0 l1 l2 l3 l4 l5  h119
    else
      oa_J h119 l3 [3] 0 (fun v280 =>
      if (lg_cmp v280 v278.toInt64) = 0 then
        f_law_J2767 K Q X R l0 l1 l2 l3 l4 l5  h119
      else
        Q 0 h119)
  else
    Q 0 h119) X)) X)) X)
def f_law_J2835 (K : Nat → Option Nat) (Q : Int32 → zw_H → Prop) (X : String → Nat → zw_H → Prop) (R : Int32 → zw_H → Prop) (l0 : Option Nat) (l1 : Option Nat) (l2 : Option Nat) (l3 : Option Nat) (l4 : Option Nat) (l5 : Int32)  (h : zw_H) : Prop :=
  f_law_J4220 K Q X R l0 l1 l2 l3 l4 l5  h
def f_law_J2770 (K : Nat → Option Nat) (Q : Int32 → zw_H → Prop) (X : String → Nat → zw_H → Prop) (R : Int32 → zw_H → Prop) (l0 : Option Nat) (l1 : Option Nat) (l2 : Option Nat) (l3 : Option Nat) (l4 : Option Nat) (l5 : Int32)  (h : zw_H) : Prop :=
  oa_I h l0 [0, 11] (l5 + 1) (fun v281 =>
  oa_I h l0 [0, 11] (l5 + 2) (fun v282 =>
  (f_X0_orderFor K l1 v281 v282 l3 h (fun v283 h120 =>
  oa_I h120 l0 [0, 11] (l5 + 1) (fun v284 =>
  oa_I h120 l0 [0, 11] (l5 + 2) (fun v285 =>
  oc_ h120 l2 [0] (f_X2_orderFor K l2 v284 v285 h120 (fun v286 h121 =>
  oc_ h121 l2 [0] (f_X2_thrown K l2 h121 (fun v287 h122 =>
  if v287 = v283 then
    if v283 ≠ 0 then
      f_law_J2835 K Q X R l0 l1 l2 l3 l4 l5  h122
    else
      oa_J h122 l3 [3] 0 (fun v288 =>
      if (lg_cmp v288 v286.toInt64) = 0 then
        f_law_J2835 K Q X R l0 l1 l2 l3 l4 l5  h122
      else
        Q 0 h122)
  else
    Q 0 h122) X)) X)))) X)))
def f_law_J2879 (K : Nat → Option Nat) (Q : Int32 → zw_H → Prop) (X : String → Nat → zw_H → Prop) (R : Int32 → zw_H → Prop) (l0 : Option Nat) (l1 : Option Nat) (l2 : Option Nat) (l3 : Option Nat) (l4 : Option Nat) (l5 : Int32)  (h : zw_H) : Prop :=
  f_law_J4220 K Q X R l0 l1 l2 l3 l4 l5  h
def f_law_J2838 (K : Nat → Option Nat) (Q : Int32 → zw_H → Prop) (X : String → Nat → zw_H → Prop) (R : Int32 → zw_H → Prop) (l0 : Option Nat) (l1 : Option Nat) (l2 : Option Nat) (l3 : Option Nat) (l4 : Option Nat) (l5 : Int32)  (h : zw_H) : Prop :=
  (f_X0_bestLevels K l1 l3 h (fun v289 h123 =>
  oc_ h123 l2 [0] (f_X2_bestLevels K l2 h123 (fun v290 h124 =>
  oc_ h124 l2 [0] (f_X2_thrown K l2 h124 (fun v291 h125 =>
  if v291 = v289 then
    if v289 ≠ 0 then
      f_law_J2879 K Q X R l0 l1 l2 l3 l4 l5  h125
    else
      oa_J h125 l3 [3] 0 (fun v292 =>
      if (lg_cmp v292 v290.toInt64) = 0 then
        f_law_J2879 K Q X R l0 l1 l2 l3 l4 l5  h125
      else
        Q 0 h125)
  else
    Q 0 h125) X)) X)) X)
def f_law_J2968 (K : Nat → Option Nat) (Q : Int32 → zw_H → Prop) (X : String → Nat → zw_H → Prop) (R : Int32 → zw_H → Prop) (l0 : Option Nat) (l1 : Option Nat) (l2 : Option Nat) (l3 : Option Nat) (l4 : Option Nat) (l5 : Int32)  (h : zw_H) : Prop :=
  f_law_J4220 K Q X R l0 l1 l2 l3 l4 l5  h
def f_law_J2882 (K : Nat → Option Nat) (Q : Int32 → zw_H → Prop) (X : String → Nat → zw_H → Prop) (R : Int32 → zw_H → Prop) (l0 : Option Nat) (l1 : Option Nat) (l2 : Option Nat) (l3 : Option Nat) (l4 : Option Nat) (l5 : Int32)  (h : zw_H) : Prop :=
  oa_I h l0 [0, 11] (l5 + 1) (fun v293 =>
  oa_I h l0 [0, 11] (l5 + 2) (fun v294 =>
  (f_X0_without K l1 v293 v294 l4 h (fun v295 h126 =>
  oa_I h126 l0 [0, 11] (l5 + 1) (fun v296 =>
  oa_I h126 l0 [0, 11] (l5 + 2) (fun v297 =>
  oc_ h126 l2 [0] (f_X2_without K l2 v296 v297 h126 (fun v298 h127 =>
  oc_ h127 l2 [0] (f_X2_thrown K l2 h127 (fun v299 h128 =>
  if v299 = v295 then
    if v295 ≠ 0 then
      f_law_J2968 K Q X R l0 l1 l2 l3 l4 l5  h128
    else
      oa_D h128 l4 [4] 0 (fun v300 =>
      if (Op.cmpValue (FP.dcmp v300 v298) .l) = 0 then
        f_law_J2968 K Q X R l0 l1 l2 l3 l4 l5  h128
      else
        oa_D h128 l4 [4] 0 (fun v301 =>
        oa_D h128 l4 [4] 0 (fun v302 =>
        if (Op.cmpValue (FP.dcmp v301 v302) .l) = 0 then
          Q 0 h128
        else
          if (Op.cmpValue (FP.dcmp v298 v298) .l) ≠ 0 then
            f_law_J2968 K Q X R l0 l1 l2 l3 l4 l5  h128
          else
            Q 0 h128)))
  else
    Q 0 h128) X)) X)))) X)))
def f_law_J3012 (K : Nat → Option Nat) (Q : Int32 → zw_H → Prop) (X : String → Nat → zw_H → Prop) (R : Int32 → zw_H → Prop) (l0 : Option Nat) (l1 : Option Nat) (l2 : Option Nat) (l3 : Option Nat) (l4 : Option Nat) (l5 : Int32)  (h : zw_H) : Prop :=
  f_law_J4220 K Q X R l0 l1 l2 l3 l4 l5  h
def f_law_J2971 (K : Nat → Option Nat) (Q : Int32 → zw_H → Prop) (X : String → Nat → zw_H → Prop) (R : Int32 → zw_H → Prop) (l0 : Option Nat) (l1 : Option Nat) (l2 : Option Nat) (l3 : Option Nat) (l4 : Option Nat) (l5 : Int32)  (h : zw_H) : Prop :=
  (f_X0_quietest K l1 l3 h (fun v303 h129 =>
  oc_ h129 l2 [0] (f_X2_quietest K l2 h129 (fun v304 h130 =>
  oc_ h130 l2 [0] (f_X2_thrown K l2 h130 (fun v305 h131 =>
  if v305 = v303 then
    if v303 ≠ 0 then
      f_law_J3012 K Q X R l0 l1 l2 l3 l4 l5  h131
    else
      oa_J h131 l3 [3] 0 (fun v306 =>
      if (lg_cmp v306 v304.toInt64) = 0 then
        f_law_J3012 K Q X R l0 l1 l2 l3 l4 l5  h131
      else
        Q 0 h131)
  else
    Q 0 h131) X)) X)) X)
def f_law_J3105 (K : Nat → Option Nat) (Q : Int32 → zw_H → Prop) (X : String → Nat → zw_H → Prop) (R : Int32 → zw_H → Prop) (l0 : Option Nat) (l1 : Option Nat) (l2 : Option Nat) (l3 : Option Nat) (l4 : Option Nat) (l5 : Int32)  (h : zw_H) : Prop :=
  f_law_J4220 K Q X R l0 l1 l2 l3 l4 l5  h
def f_law_J3052 (K : Nat → Option Nat) (Q : Int32 → zw_H → Prop) (X : String → Nat → zw_H → Prop) (R : Int32 → zw_H → Prop) (l0 : Option Nat) (l1 : Option Nat) (l2 : Option Nat) (l3 : Option Nat) (l4 : Option Nat) (l5 : Int32) (l6 : Int32) (s0 : Int32) (s1 : Option Nat) (h : zw_H) : Prop :=
  oc_ h s1 [0] (f_X2_energy K s1 s0 h (fun v310 h133 =>
  oc_ h133 l2 [0] (f_X2_thrown K l2 h133 (fun v311 h134 =>
  if v311 = l6 then
    if l6 ≠ 0 then
      f_law_J3105 K Q X R l0 l1 l2 l3 l4 l5  h134
    else
      oa_D h134 l4 [4] 0 (fun v312 =>
      if (Op.cmpValue (FP.dcmp v312 v310) .l) = 0 then
        f_law_J3105 K Q X R l0 l1 l2 l3 l4 l5  h134
      else
        oa_D h134 l4 [4] 0 (fun v313 =>
        oa_D h134 l4 [4] 0 (fun v314 =>
        if (Op.cmpValue (FP.dcmp v313 v314) .l) = 0 then
          Q 0 h134
        else
          if (Op.cmpValue (FP.dcmp v310 v310) .l) ≠ 0 then
            f_law_J3105 K Q X R l0 l1 l2 l3 l4 l5  h134
          else
            Q 0 h134)))
  else
    Q 0 h134) X)) X)
def f_law_J3030 (K : Nat → Option Nat) (Q : Int32 → zw_H → Prop) (X : String → Nat → zw_H → Prop) (R : Int32 → zw_H → Prop) (l0 : Option Nat) (l1 : Option Nat) (l2 : Option Nat) (l3 : Option Nat) (l4 : Option Nat) (l5 : Int32) (s0 : Int32) (s1 : Option Nat) (h : zw_H) : Prop :=
  (f_X0_energy K s1 s0 l4 h (fun v308 h132 =>
  oa_I h132 l0 [0, 11] (l5 + 1) (fun v309 =>
  if v309 = 0 then
    f_law_J3052 K Q X R l0 l1 l2 l3 l4 l5 v308 0 l2 h132
  else
    f_law_J3052 K Q X R l0 l1 l2 l3 l4 l5 v308 1 l2 h132)) X)
def f_law_J3015 (K : Nat → Option Nat) (Q : Int32 → zw_H → Prop) (X : String → Nat → zw_H → Prop) (R : Int32 → zw_H → Prop) (l0 : Option Nat) (l1 : Option Nat) (l2 : Option Nat) (l3 : Option Nat) (l4 : Option Nat) (l5 : Int32)  (h : zw_H) : Prop :=
  oa_I h l0 [0, 11] (l5 + 1) (fun v307 =>
  if v307 = 0 then
    f_law_J3030 K Q X R l0 l1 l2 l3 l4 l5 0 l1 h
  else
    f_law_J3030 K Q X R l0 l1 l2 l3 l4 l5 1 l1 h)
def f_law_J3161 (K : Nat → Option Nat) (Q : Int32 → zw_H → Prop) (X : String → Nat → zw_H → Prop) (R : Int32 → zw_H → Prop) (l0 : Option Nat) (l1 : Option Nat) (l2 : Option Nat) (l3 : Option Nat) (l4 : Option Nat) (l5 : Int32)  (h : zw_H) : Prop :=
  f_law_J4220 K Q X R l0 l1 l2 l3 l4 l5  h
def f_law_J3108 (K : Nat → Option Nat) (Q : Int32 → zw_H → Prop) (X : String → Nat → zw_H → Prop) (R : Int32 → zw_H → Prop) (l0 : Option Nat) (l1 : Option Nat) (l2 : Option Nat) (l3 : Option Nat) (l4 : Option Nat) (l5 : Int32)  (h : zw_H) : Prop :=
  oa_I h l0 [0, 11] (l5 + 1) (fun v315 =>
  (f_X0_nearestZero K l1 v315 l3 h (fun v316 h135 =>
  oa_I h135 l0 [0, 11] (l5 + 1) (fun v317 =>
  oc_ h135 l2 [0] (f_X2_nearestZero K l2 v317 h135 (fun v318 h136 =>
  oc_ h136 l2 [0] (f_X2_thrown K l2 h136 (fun v319 h137 =>
  if v319 = v316 then
    if v316 ≠ 0 then
      f_law_J3161 K Q X R l0 l1 l2 l3 l4 l5  h137
    else
      oa_J h137 l3 [3] 0 (fun v320 =>
      if (lg_cmp v320 v318.toInt64) = 0 then
        f_law_J3161 K Q X R l0 l1 l2 l3 l4 l5  h137
      else
        Q 0 h137)
  else
    Q 0 h137) X)) X))) X))
def f_law_J3217 (K : Nat → Option Nat) (Q : Int32 → zw_H → Prop) (X : String → Nat → zw_H → Prop) (R : Int32 → zw_H → Prop) (l0 : Option Nat) (l1 : Option Nat) (l2 : Option Nat) (l3 : Option Nat) (l4 : Option Nat) (l5 : Int32)  (h : zw_H) : Prop :=
  f_law_J4220 K Q X R l0 l1 l2 l3 l4 l5  h
def f_law_J3164 (K : Nat → Option Nat) (Q : Int32 → zw_H → Prop) (X : String → Nat → zw_H → Prop) (R : Int32 → zw_H → Prop) (l0 : Option Nat) (l1 : Option Nat) (l2 : Option Nat) (l3 : Option Nat) (l4 : Option Nat) (l5 : Int32)  (h : zw_H) : Prop :=
  oa_I h l0 [0, 11] (l5 + 1) (fun v321 =>
  (f_X0_pairs K l1 v321 l3 h (fun v322 h138 =>
  oa_I h138 l0 [0, 11] (l5 + 1) (fun v323 =>
  oc_ h138 l2 [0] (f_X2_pairs K l2 v323 h138 (fun v324 h139 =>
  oc_ h139 l2 [0] (f_X2_thrown K l2 h139 (fun v325 h140 =>
  if v325 = v322 then
    if v322 ≠ 0 then
      f_law_J3217 K Q X R l0 l1 l2 l3 l4 l5  h140
    else
      oa_J h140 l3 [3] 0 (fun v326 =>
      if (lg_cmp v326 v324.toInt64) = 0 then
        f_law_J3217 K Q X R l0 l1 l2 l3 l4 l5  h140
      else
        Q 0 h140)
  else
    Q 0 h140) X)) X))) X))
def f_law_J3283 (K : Nat → Option Nat) (Q : Int32 → zw_H → Prop) (X : String → Nat → zw_H → Prop) (R : Int32 → zw_H → Prop) (l0 : Option Nat) (l1 : Option Nat) (l2 : Option Nat) (l3 : Option Nat) (l4 : Option Nat) (l5 : Int32)  (h : zw_H) : Prop :=
  f_law_J4220 K Q X R l0 l1 l2 l3 l4 l5  h
def f_law_J3220 (K : Nat → Option Nat) (Q : Int32 → zw_H → Prop) (X : String → Nat → zw_H → Prop) (R : Int32 → zw_H → Prop) (l0 : Option Nat) (l1 : Option Nat) (l2 : Option Nat) (l3 : Option Nat) (l4 : Option Nat) (l5 : Int32)  (h : zw_H) : Prop :=
  (f_X0_balance K l1 l4 h (fun v327 h141 =>
  oc_ h141 l2 [0] (f_X2_balance K l2 h141 (fun v328 h142 =>
  oc_ h142 l2 [0] (f_X2_thrown K l2 h142 (fun v329 h143 =>
  if v329 = v327 then
    if v327 ≠ 0 then
      f_law_J3283 K Q X R l0 l1 l2 l3 l4 l5  h143
    else
      oa_D h143 l4 [4] 0 (fun v330 =>
      (vf_n64 (FP.f2d v328) ∧ 
      if (Op.cmpValue (FP.dcmp v330 (FP.f2d v328)) .l) = 0 then
        f_law_J3283 K Q X R l0 l1 l2 l3 l4 l5  h143
      else
        oa_D h143 l4 [4] 0 (fun v331 =>
        oa_D h143 l4 [4] 0 (fun v332 =>
        if (Op.cmpValue (FP.dcmp v331 v332) .l) = 0 then
          Q 0 h143
        else
          if (Op.cmpValue (FP.fcmp v328 v328) .l) ≠ 0 then
            f_law_J3283 K Q X R l0 l1 l2 l3 l4 l5  h143
          else
            Q 0 h143))))
  else
    Q 0 h143) X)) X)) X)
def f_law_J3327 (K : Nat → Option Nat) (Q : Int32 → zw_H → Prop) (X : String → Nat → zw_H → Prop) (R : Int32 → zw_H → Prop) (l0 : Option Nat) (l1 : Option Nat) (l2 : Option Nat) (l3 : Option Nat) (l4 : Option Nat) (l5 : Int32)  (h : zw_H) : Prop :=
  f_law_J4220 K Q X R l0 l1 l2 l3 l4 l5  h
def f_law_J3286 (K : Nat → Option Nat) (Q : Int32 → zw_H → Prop) (X : String → Nat → zw_H → Prop) (R : Int32 → zw_H → Prop) (l0 : Option Nat) (l1 : Option Nat) (l2 : Option Nat) (l3 : Option Nat) (l4 : Option Nat) (l5 : Int32)  (h : zw_H) : Prop :=
  (f_X0_balanceBits K l1 l3 h (fun v333 h144 =>
  oc_ h144 l2 [0] (f_X2_balanceBits K l2 h144 (fun v334 h145 =>
  oc_ h145 l2 [0] (f_X2_thrown K l2 h145 (fun v335 h146 =>
  if v335 = v333 then
    if v333 ≠ 0 then
      f_law_J3327 K Q X R l0 l1 l2 l3 l4 l5  h146
    else
      oa_J h146 l3 [3] 0 (fun v336 =>
      if (lg_cmp v336 v334.toInt64) = 0 then
        f_law_J3327 K Q X R l0 l1 l2 l3 l4 l5  h146
      else
        Q 0 h146)
  else
    Q 0 h146) X)) X)) X)
def f_law_J3392 (K : Nat → Option Nat) (Q : Int32 → zw_H → Prop) (X : String → Nat → zw_H → Prop) (R : Int32 → zw_H → Prop) (l0 : Option Nat) (l1 : Option Nat) (l2 : Option Nat) (l3 : Option Nat) (l4 : Option Nat) (l5 : Int32)  (h : zw_H) : Prop :=
  f_law_J4220 K Q X R l0 l1 l2 l3 l4 l5  h
def f_law_J3330 (K : Nat → Option Nat) (Q : Int32 → zw_H → Prop) (X : String → Nat → zw_H → Prop) (R : Int32 → zw_H → Prop) (l0 : Option Nat) (l1 : Option Nat) (l2 : Option Nat) (l3 : Option Nat) (l4 : Option Nat) (l5 : Int32)  (h : zw_H) : Prop :=
  (f_X0_meanX K l1 l4 h (fun v337 h147 =>
  oc_ h147 l2 [0] (f_X2_meanX K l2 h147 (fun v338 h148 =>
  oc_ h148 l2 [0] (f_X2_thrown K l2 h148 (fun v339 h149 =>
  if v339 = v337 then
    if v337 ≠ 0 then
      f_law_J3392 K Q X R l0 l1 l2 l3 l4 l5  h149
    else
      oa_D h149 l4 [4] 0 (fun v340 =>
      if (Op.cmpValue (FP.dcmp v340 v338) .l) = 0 then
        f_law_J3392 K Q X R l0 l1 l2 l3 l4 l5  h149
      else
        oa_D h149 l4 [4] 0 (fun v341 =>
        oa_D h149 l4 [4] 0 (fun v342 =>
        if (Op.cmpValue (FP.dcmp v341 v342) .l) = 0 then
          Q 0 h149
        else
          if (Op.cmpValue (FP.dcmp v338 v338) .l) ≠ 0 then
            f_law_J3392 K Q X R l0 l1 l2 l3 l4 l5  h149
          else
            Q 0 h149)))
  else
    Q 0 h149) X)) X)) X)
def f_law_J3436 (K : Nat → Option Nat) (Q : Int32 → zw_H → Prop) (X : String → Nat → zw_H → Prop) (R : Int32 → zw_H → Prop) (l0 : Option Nat) (l1 : Option Nat) (l2 : Option Nat) (l3 : Option Nat) (l4 : Option Nat) (l5 : Int32)  (h : zw_H) : Prop :=
  f_law_J4220 K Q X R l0 l1 l2 l3 l4 l5  h
def f_law_J3395 (K : Nat → Option Nat) (Q : Int32 → zw_H → Prop) (X : String → Nat → zw_H → Prop) (R : Int32 → zw_H → Prop) (l0 : Option Nat) (l1 : Option Nat) (l2 : Option Nat) (l3 : Option Nat) (l4 : Option Nat) (l5 : Int32)  (h : zw_H) : Prop :=
  (f_X0_writeLeaves K l1 l3 h (fun v343 h150 =>
  oc_ h150 l2 [0] (f_X2_writeLeaves K l2 h150 (fun v344 h151 =>
  oc_ h151 l2 [0] (f_X2_thrown K l2 h151 (fun v345 h152 =>
  if v345 = v343 then
    if v343 ≠ 0 then
      f_law_J3436 K Q X R l0 l1 l2 l3 l4 l5  h152
    else
      oa_J h152 l3 [3] 0 (fun v346 =>
      if (lg_cmp v346 v344.toInt64) = 0 then
        f_law_J3436 K Q X R l0 l1 l2 l3 l4 l5  h152
      else
        Q 0 h152)
  else
    Q 0 h152) X)) X)) X)
def f_law_J3480 (K : Nat → Option Nat) (Q : Int32 → zw_H → Prop) (X : String → Nat → zw_H → Prop) (R : Int32 → zw_H → Prop) (l0 : Option Nat) (l1 : Option Nat) (l2 : Option Nat) (l3 : Option Nat) (l4 : Option Nat) (l5 : Int32)  (h : zw_H) : Prop :=
  f_law_J4220 K Q X R l0 l1 l2 l3 l4 l5  h
def f_law_J3439 (K : Nat → Option Nat) (Q : Int32 → zw_H → Prop) (X : String → Nat → zw_H → Prop) (R : Int32 → zw_H → Prop) (l0 : Option Nat) (l1 : Option Nat) (l2 : Option Nat) (l3 : Option Nat) (l4 : Option Nat) (l5 : Int32)  (h : zw_H) : Prop :=
  (f_X0_writeBodies K l1 l3 h (fun v347 h153 =>
  oc_ h153 l2 [0] (f_X2_writeBodies K l2 h153 (fun v348 h154 =>
  oc_ h154 l2 [0] (f_X2_thrown K l2 h154 (fun v349 h155 =>
  if v349 = v347 then
    if v347 ≠ 0 then
      f_law_J3480 K Q X R l0 l1 l2 l3 l4 l5  h155
    else
      oa_J h155 l3 [3] 0 (fun v350 =>
      if (lg_cmp v350 v348.toInt64) = 0 then
        f_law_J3480 K Q X R l0 l1 l2 l3 l4 l5  h155
      else
        Q 0 h155)
  else
    Q 0 h155) X)) X)) X)
def f_law_J3524 (K : Nat → Option Nat) (Q : Int32 → zw_H → Prop) (X : String → Nat → zw_H → Prop) (R : Int32 → zw_H → Prop) (l0 : Option Nat) (l1 : Option Nat) (l2 : Option Nat) (l3 : Option Nat) (l4 : Option Nat) (l5 : Int32)  (h : zw_H) : Prop :=
  f_law_J4220 K Q X R l0 l1 l2 l3 l4 l5  h
def f_law_J3483 (K : Nat → Option Nat) (Q : Int32 → zw_H → Prop) (X : String → Nat → zw_H → Prop) (R : Int32 → zw_H → Prop) (l0 : Option Nat) (l1 : Option Nat) (l2 : Option Nat) (l3 : Option Nat) (l4 : Option Nat) (l5 : Int32)  (h : zw_H) : Prop :=
  (f_X0_writeLine K l1 l3 h (fun v351 h156 =>
  oc_ h156 l2 [0] (f_X2_writeLine K l2 h156 (fun v352 h157 =>
  oc_ h157 l2 [0] (f_X2_thrown K l2 h157 (fun v353 h158 =>
  if v353 = v351 then
    if v351 ≠ 0 then
      f_law_J3524 K Q X R l0 l1 l2 l3 l4 l5  h158
    else
      oa_J h158 l3 [3] 0 (fun v354 =>
      if (lg_cmp v354 v352.toInt64) = 0 then
        f_law_J3524 K Q X R l0 l1 l2 l3 l4 l5  h158
      else
        Q 0 h158)
  else
    Q 0 h158) X)) X)) X)
def f_law_J3580 (K : Nat → Option Nat) (Q : Int32 → zw_H → Prop) (X : String → Nat → zw_H → Prop) (R : Int32 → zw_H → Prop) (l0 : Option Nat) (l1 : Option Nat) (l2 : Option Nat) (l3 : Option Nat) (l4 : Option Nat) (l5 : Int32)  (h : zw_H) : Prop :=
  f_law_J4220 K Q X R l0 l1 l2 l3 l4 l5  h
def f_law_J3527 (K : Nat → Option Nat) (Q : Int32 → zw_H → Prop) (X : String → Nat → zw_H → Prop) (R : Int32 → zw_H → Prop) (l0 : Option Nat) (l1 : Option Nat) (l2 : Option Nat) (l3 : Option Nat) (l4 : Option Nat) (l5 : Int32)  (h : zw_H) : Prop :=
  oa_I h l0 [0, 11] (l5 + 1) (fun v355 =>
  (f_X0_writeFar K l1 v355 l3 h (fun v356 h159 =>
  oa_I h159 l0 [0, 11] (l5 + 1) (fun v357 =>
  oc_ h159 l2 [0] (f_X2_writeFar K l2 v357 h159 (fun v358 h160 =>
  oc_ h160 l2 [0] (f_X2_thrown K l2 h160 (fun v359 h161 =>
  if v359 = v356 then
    if v356 ≠ 0 then
      f_law_J3580 K Q X R l0 l1 l2 l3 l4 l5  h161
    else
      oa_J h161 l3 [3] 0 (fun v360 =>
      if (lg_cmp v360 v358.toInt64) = 0 then
        f_law_J3580 K Q X R l0 l1 l2 l3 l4 l5  h161
      else
        Q 0 h161)
  else
    Q 0 h161) X)) X))) X))
def f_law_J3636 (K : Nat → Option Nat) (Q : Int32 → zw_H → Prop) (X : String → Nat → zw_H → Prop) (R : Int32 → zw_H → Prop) (l0 : Option Nat) (l1 : Option Nat) (l2 : Option Nat) (l3 : Option Nat) (l4 : Option Nat) (l5 : Int32)  (h : zw_H) : Prop :=
  f_law_J4220 K Q X R l0 l1 l2 l3 l4 l5  h
def f_law_J3583 (K : Nat → Option Nat) (Q : Int32 → zw_H → Prop) (X : String → Nat → zw_H → Prop) (R : Int32 → zw_H → Prop) (l0 : Option Nat) (l1 : Option Nat) (l2 : Option Nat) (l3 : Option Nat) (l4 : Option Nat) (l5 : Int32)  (h : zw_H) : Prop :=
  oa_I h l0 [0, 11] (l5 + 1) (fun v361 =>
  (f_X0_textByte K l1 v361 l3 h (fun v362 h162 =>
  oa_I h162 l0 [0, 11] (l5 + 1) (fun v363 =>
  oc_ h162 l2 [0] (f_X2_textByte K l2 v363 h162 (fun v364 h163 =>
  oc_ h163 l2 [0] (f_X2_thrown K l2 h163 (fun v365 h164 =>
  if v365 = v362 then
    if v362 ≠ 0 then
      f_law_J3636 K Q X R l0 l1 l2 l3 l4 l5  h164
    else
      oa_J h164 l3 [3] 0 (fun v366 =>
      if (lg_cmp v366 v364.toInt64) = 0 then
        f_law_J3636 K Q X R l0 l1 l2 l3 l4 l5  h164
      else
        Q 0 h164)
  else
    Q 0 h164) X)) X))) X))
def f_law_J3732 (K : Nat → Option Nat) (Q : Int32 → zw_H → Prop) (X : String → Nat → zw_H → Prop) (R : Int32 → zw_H → Prop) (l0 : Option Nat) (l1 : Option Nat) (l2 : Option Nat) (l3 : Option Nat) (l4 : Option Nat) (l5 : Int32)  (h : zw_H) : Prop :=
  f_law_J4220 K Q X R l0 l1 l2 l3 l4 l5  h
def f_law_J3687 (K : Nat → Option Nat) (Q : Int32 → zw_H → Prop) (X : String → Nat → zw_H → Prop) (R : Int32 → zw_H → Prop) (l0 : Option Nat) (l1 : Option Nat) (l2 : Option Nat) (l3 : Option Nat) (l4 : Option Nat) (l5 : Int32) (l6 : Int32) (s0 : Int32) (s1 : Option Nat) (h : zw_H) : Prop :=
  oa_I h l0 [0, 11] (l5 + 2) (fun v372 =>
  oa_I h l0 [0, 11] (l5 + 3) (fun v373 =>
  oc_ h s1 [0] (f_X2_add K s1 s0 v372 v373 h (fun v374 h166 =>
  oc_ h166 l2 [0] (f_X2_thrown K l2 h166 (fun v375 h167 =>
  if v375 = l6 then
    if l6 ≠ 0 then
      f_law_J3732 K Q X R l0 l1 l2 l3 l4 l5  h167
    else
      oa_J h167 l3 [3] 0 (fun v376 =>
      if (lg_cmp v376 v374.toInt64) = 0 then
        f_law_J3732 K Q X R l0 l1 l2 l3 l4 l5  h167
      else
        Q 0 h167)
  else
    Q 0 h167) X)) X)))
def f_law_J3654 (K : Nat → Option Nat) (Q : Int32 → zw_H → Prop) (X : String → Nat → zw_H → Prop) (R : Int32 → zw_H → Prop) (l0 : Option Nat) (l1 : Option Nat) (l2 : Option Nat) (l3 : Option Nat) (l4 : Option Nat) (l5 : Int32) (s0 : Int32) (s1 : Option Nat) (h : zw_H) : Prop :=
  oa_I h l0 [0, 11] (l5 + 2) (fun v368 =>
  oa_I h l0 [0, 11] (l5 + 3) (fun v369 =>
  (f_X0_add K s1 s0 v368 v369 l3 h (fun v370 h165 =>
  oa_I h165 l0 [0, 11] (l5 + 1) (fun v371 =>
  if v371 = 0 then
    f_law_J3687 K Q X R l0 l1 l2 l3 l4 l5 v370 0 l2 h165
  else
    f_law_J3687 K Q X R l0 l1 l2 l3 l4 l5 v370 1 l2 h165)) X)))
def f_law_J3639 (K : Nat → Option Nat) (Q : Int32 → zw_H → Prop) (X : String → Nat → zw_H → Prop) (R : Int32 → zw_H → Prop) (l0 : Option Nat) (l1 : Option Nat) (l2 : Option Nat) (l3 : Option Nat) (l4 : Option Nat) (l5 : Int32)  (h : zw_H) : Prop :=
  oa_I h l0 [0, 11] (l5 + 1) (fun v367 =>
  if v367 = 0 then
    f_law_J3654 K Q X R l0 l1 l2 l3 l4 l5 0 l1 h
  else
    f_law_J3654 K Q X R l0 l1 l2 l3 l4 l5 1 l1 h)
def f_law_J3800 (K : Nat → Option Nat) (Q : Int32 → zw_H → Prop) (X : String → Nat → zw_H → Prop) (R : Int32 → zw_H → Prop) (l0 : Option Nat) (l1 : Option Nat) (l2 : Option Nat) (l3 : Option Nat) (l4 : Option Nat) (l5 : Int32)  (h : zw_H) : Prop :=
  f_law_J4220 K Q X R l0 l1 l2 l3 l4 l5  h
def f_law_J3735 (K : Nat → Option Nat) (Q : Int32 → zw_H → Prop) (X : String → Nat → zw_H → Prop) (R : Int32 → zw_H → Prop) (l0 : Option Nat) (l1 : Option Nat) (l2 : Option Nat) (l3 : Option Nat) (l4 : Option Nat) (l5 : Int32)  (h : zw_H) : Prop :=
  oa_I h l0 [0, 11] (l5 + 1) (fun v377 =>
  oa_I h l0 [0, 11] (l5 + 2) (fun v378 =>
  (f_X0_move K l1 v377 v378 l3 h (fun v379 h168 =>
  oa_I h168 l0 [0, 11] (l5 + 1) (fun v380 =>
  oa_I h168 l0 [0, 11] (l5 + 2) (fun v381 =>
  oc_ h168 l2 [0] (f_X2_move K l2 v380 v381 h168 (fun v382 h169 =>
  oc_ h169 l2 [0] (f_X2_thrown K l2 h169 (fun v383 h170 =>
  if v383 = v379 then
    if v379 ≠ 0 then
      f_law_J3800 K Q X R l0 l1 l2 l3 l4 l5  h170
    else
      oa_J h170 l3 [3] 0 (fun v384 =>
      if (lg_cmp v384 v382.toInt64) = 0 then
        f_law_J3800 K Q X R l0 l1 l2 l3 l4 l5  h170
      else
        Q 0 h170)
  else
    Q 0 h170) X)) X)))) X)))
def f_law_J3868 (K : Nat → Option Nat) (Q : Int32 → zw_H → Prop) (X : String → Nat → zw_H → Prop) (R : Int32 → zw_H → Prop) (l0 : Option Nat) (l1 : Option Nat) (l2 : Option Nat) (l3 : Option Nat) (l4 : Option Nat) (l5 : Int32)  (h : zw_H) : Prop :=
  f_law_J4220 K Q X R l0 l1 l2 l3 l4 l5  h
def f_law_J3803 (K : Nat → Option Nat) (Q : Int32 → zw_H → Prop) (X : String → Nat → zw_H → Prop) (R : Int32 → zw_H → Prop) (l0 : Option Nat) (l1 : Option Nat) (l2 : Option Nat) (l3 : Option Nat) (l4 : Option Nat) (l5 : Int32)  (h : zw_H) : Prop :=
  oa_I h l0 [0, 11] (l5 + 1) (fun v385 =>
  oa_I h l0 [0, 11] (l5 + 2) (fun v386 =>
  (f_X0_setCharge K l1 v385 v386 l3 h (fun v387 h171 =>
  oa_I h171 l0 [0, 11] (l5 + 1) (fun v388 =>
  oa_I h171 l0 [0, 11] (l5 + 2) (fun v389 =>
  oc_ h171 l2 [0] (f_X2_setCharge K l2 v388 v389 h171 (fun v390 h172 =>
  oc_ h172 l2 [0] (f_X2_thrown K l2 h172 (fun v391 h173 =>
  if v391 = v387 then
    if v387 ≠ 0 then
      f_law_J3868 K Q X R l0 l1 l2 l3 l4 l5  h173
    else
      oa_J h173 l3 [3] 0 (fun v392 =>
      if (lg_cmp v392 v390.toInt64) = 0 then
        f_law_J3868 K Q X R l0 l1 l2 l3 l4 l5  h173
      else
        Q 0 h173)
  else
    Q 0 h173) X)) X)))) X)))
def f_law_J3924 (K : Nat → Option Nat) (Q : Int32 → zw_H → Prop) (X : String → Nat → zw_H → Prop) (R : Int32 → zw_H → Prop) (l0 : Option Nat) (l1 : Option Nat) (l2 : Option Nat) (l3 : Option Nat) (l4 : Option Nat) (l5 : Int32)  (h : zw_H) : Prop :=
  f_law_J4220 K Q X R l0 l1 l2 l3 l4 l5  h
def f_law_J3871 (K : Nat → Option Nat) (Q : Int32 → zw_H → Prop) (X : String → Nat → zw_H → Prop) (R : Int32 → zw_H → Prop) (l0 : Option Nat) (l1 : Option Nat) (l2 : Option Nat) (l3 : Option Nat) (l4 : Option Nat) (l5 : Int32)  (h : zw_H) : Prop :=
  oa_I h l0 [0, 11] (l5 + 1) (fun v393 =>
  (f_X0_remove K l1 v393 l3 h (fun v394 h174 =>
  oa_I h174 l0 [0, 11] (l5 + 1) (fun v395 =>
  oc_ h174 l2 [0] (f_X2_remove K l2 v395 h174 (fun v396 h175 =>
  oc_ h175 l2 [0] (f_X2_thrown K l2 h175 (fun v397 h176 =>
  if v397 = v394 then
    if v394 ≠ 0 then
      f_law_J3924 K Q X R l0 l1 l2 l3 l4 l5  h176
    else
      oa_J h176 l3 [3] 0 (fun v398 =>
      if (lg_cmp v398 v396.toInt64) = 0 then
        f_law_J3924 K Q X R l0 l1 l2 l3 l4 l5  h176
      else
        Q 0 h176)
  else
    Q 0 h176) X)) X))) X))
def f_law_J3980 (K : Nat → Option Nat) (Q : Int32 → zw_H → Prop) (X : String → Nat → zw_H → Prop) (R : Int32 → zw_H → Prop) (l0 : Option Nat) (l1 : Option Nat) (l2 : Option Nat) (l3 : Option Nat) (l4 : Option Nat) (l5 : Int32)  (h : zw_H) : Prop :=
  f_law_J4220 K Q X R l0 l1 l2 l3 l4 l5  h
def f_law_J3927 (K : Nat → Option Nat) (Q : Int32 → zw_H → Prop) (X : String → Nat → zw_H → Prop) (R : Int32 → zw_H → Prop) (l0 : Option Nat) (l1 : Option Nat) (l2 : Option Nat) (l3 : Option Nat) (l4 : Option Nat) (l5 : Int32)  (h : zw_H) : Prop :=
  oa_I h l0 [0, 11] (l5 + 1) (fun v399 =>
  (f_X0_step K l1 v399 l3 h (fun v400 h177 =>
  oa_I h177 l0 [0, 11] (l5 + 1) (fun v401 =>
  oc_ h177 l2 [0] (f_X2_step K l2 v401 h177 (fun v402 h178 =>
  oc_ h178 l2 [0] (f_X2_thrown K l2 h178 (fun v403 h179 =>
  if v403 = v400 then
    if v400 ≠ 0 then
      f_law_J3980 K Q X R l0 l1 l2 l3 l4 l5  h179
    else
      oa_J h179 l3 [3] 0 (fun v404 =>
      if (lg_cmp v404 v402.toInt64) = 0 then
        f_law_J3980 K Q X R l0 l1 l2 l3 l4 l5  h179
      else
        Q 0 h179)
  else
    Q 0 h179) X)) X))) X))
def f_law_J4048 (K : Nat → Option Nat) (Q : Int32 → zw_H → Prop) (X : String → Nat → zw_H → Prop) (R : Int32 → zw_H → Prop) (l0 : Option Nat) (l1 : Option Nat) (l2 : Option Nat) (l3 : Option Nat) (l4 : Option Nat) (l5 : Int32)  (h : zw_H) : Prop :=
  f_law_J4220 K Q X R l0 l1 l2 l3 l4 l5  h
def f_law_J3983 (K : Nat → Option Nat) (Q : Int32 → zw_H → Prop) (X : String → Nat → zw_H → Prop) (R : Int32 → zw_H → Prop) (l0 : Option Nat) (l1 : Option Nat) (l2 : Option Nat) (l3 : Option Nat) (l4 : Option Nat) (l5 : Int32)  (h : zw_H) : Prop :=
  oa_I h l0 [0, 11] (l5 + 1) (fun v405 =>
  oa_I h l0 [0, 11] (l5 + 2) (fun v406 =>
  (f_X0_setNumber K l1 v405 v406 l3 h (fun v407 h180 =>
  oa_I h180 l0 [0, 11] (l5 + 1) (fun v408 =>
  oa_I h180 l0 [0, 11] (l5 + 2) (fun v409 =>
  oc_ h180 l2 [0] (f_X2_setNumber K l2 v408 v409 h180 (fun v410 h181 =>
  oc_ h181 l2 [0] (f_X2_thrown K l2 h181 (fun v411 h182 =>
  if v411 = v407 then
    if v407 ≠ 0 then
      f_law_J4048 K Q X R l0 l1 l2 l3 l4 l5  h182
    else
      oa_J h182 l3 [3] 0 (fun v412 =>
      if (lg_cmp v412 v410.toInt64) = 0 then
        f_law_J4048 K Q X R l0 l1 l2 l3 l4 l5  h182
      else
        Q 0 h182)
  else
    Q 0 h182) X)) X)))) X)))
def f_law_J4092 (K : Nat → Option Nat) (Q : Int32 → zw_H → Prop) (X : String → Nat → zw_H → Prop) (R : Int32 → zw_H → Prop) (l0 : Option Nat) (l1 : Option Nat) (l2 : Option Nat) (l3 : Option Nat) (l4 : Option Nat) (l5 : Int32)  (h : zw_H) : Prop :=
  f_law_J4220 K Q X R l0 l1 l2 l3 l4 l5  h
def f_law_J4051 (K : Nat → Option Nat) (Q : Int32 → zw_H → Prop) (X : String → Nat → zw_H → Prop) (R : Int32 → zw_H → Prop) (l0 : Option Nat) (l1 : Option Nat) (l2 : Option Nat) (l3 : Option Nat) (l4 : Option Nat) (l5 : Int32)  (h : zw_H) : Prop :=
  (f_X0_undo K l1 l3 h (fun v413 h183 =>
  oc_ h183 l2 [0] (f_X2_undo K l2 h183 (fun v414 h184 =>
  oc_ h184 l2 [0] (f_X2_thrown K l2 h184 (fun v415 h185 =>
  if v415 = v413 then
    if v413 ≠ 0 then
      f_law_J4092 K Q X R l0 l1 l2 l3 l4 l5  h185
    else
      oa_J h185 l3 [3] 0 (fun v416 =>
      if (lg_cmp v416 v414.toInt64) = 0 then
        f_law_J4092 K Q X R l0 l1 l2 l3 l4 l5  h185
      else
        Q 0 h185)
  else
    Q 0 h185) X)) X)) X)
def f_law_J4095 (K : Nat → Option Nat) (Q : Int32 → zw_H → Prop) (X : String → Nat → zw_H → Prop) (R : Int32 → zw_H → Prop) (l0 : Option Nat) (l1 : Option Nat) (l2 : Option Nat) (l3 : Option Nat) (l4 : Option Nat) (l5 : Int32)  (h : zw_H) : Prop :=
  oc_ h l1 [1] (f_X1_undoable K l1 h (fun v417 h186 =>
  oc_ h186 l2 [0] (f_X2_undoable K l2 h186 (fun v418 h187 =>
  if v417 = v418 then
    f_law_J4220 K Q X R l0 l1 l2 l3 l4 l5  h187
  else
    Q 0 h187) X)) X)
def f_law_J4161 (K : Nat → Option Nat) (Q : Int32 → zw_H → Prop) (X : String → Nat → zw_H → Prop) (R : Int32 → zw_H → Prop) (l0 : Option Nat) (l1 : Option Nat) (l2 : Option Nat) (l3 : Option Nat) (l4 : Option Nat) (l5 : Int32)  (h : zw_H) : Prop :=
  f_law_J4220 K Q X R l0 l1 l2 l3 l4 l5  h
def f_law_J4108 (K : Nat → Option Nat) (Q : Int32 → zw_H → Prop) (X : String → Nat → zw_H → Prop) (R : Int32 → zw_H → Prop) (l0 : Option Nat) (l1 : Option Nat) (l2 : Option Nat) (l3 : Option Nat) (l4 : Option Nat) (l5 : Int32)  (h : zw_H) : Prop :=
  oa_I h l0 [0, 11] (l5 + 1) (fun v419 =>
  (f_X0_save K l1 v419 l3 h (fun v420 h188 =>
  oa_I h188 l0 [0, 11] (l5 + 1) (fun v421 =>
  oc_ h188 l2 [0] (f_X2_save K l2 v421 h188 (fun v422 h189 =>
  oc_ h189 l2 [0] (f_X2_thrown K l2 h189 (fun v423 h190 =>
  if v423 = v420 then
    if v420 ≠ 0 then
      f_law_J4161 K Q X R l0 l1 l2 l3 l4 l5  h190
    else
      oa_J h190 l3 [3] 0 (fun v424 =>
      if (lg_cmp v424 v422.toInt64) = 0 then
        f_law_J4161 K Q X R l0 l1 l2 l3 l4 l5  h190
      else
        Q 0 h190)
  else
    Q 0 h190) X)) X))) X))
def f_law_J4217 (K : Nat → Option Nat) (Q : Int32 → zw_H → Prop) (X : String → Nat → zw_H → Prop) (R : Int32 → zw_H → Prop) (l0 : Option Nat) (l1 : Option Nat) (l2 : Option Nat) (l3 : Option Nat) (l4 : Option Nat) (l5 : Int32)  (h : zw_H) : Prop :=
  f_law_J4220 K Q X R l0 l1 l2 l3 l4 l5  h
def f_law_J4164 (K : Nat → Option Nat) (Q : Int32 → zw_H → Prop) (X : String → Nat → zw_H → Prop) (R : Int32 → zw_H → Prop) (l0 : Option Nat) (l1 : Option Nat) (l2 : Option Nat) (l3 : Option Nat) (l4 : Option Nat) (l5 : Int32)  (h : zw_H) : Prop :=
  oa_I h l0 [0, 11] (l5 + 1) (fun v425 =>
  (f_X0_restore K l1 v425 l3 h (fun v426 h191 =>
  oa_I h191 l0 [0, 11] (l5 + 1) (fun v427 =>
  oc_ h191 l2 [0] (f_X2_restore K l2 v427 h191 (fun v428 h192 =>
  oc_ h192 l2 [0] (f_X2_thrown K l2 h192 (fun v429 h193 =>
  if v429 = v426 then
    if v426 ≠ 0 then
      f_law_J4217 K Q X R l0 l1 l2 l3 l4 l5  h193
    else
      oa_J h193 l3 [3] 0 (fun v430 =>
      if (lg_cmp v430 v428.toInt64) = 0 then
        f_law_J4217 K Q X R l0 l1 l2 l3 l4 l5  h193
      else
        Q 0 h193)
  else
    Q 0 h193) X)) X))) X))
def f_law_B28 (K : Nat → Option Nat) (Q : Int32 → zw_H → Prop) (X : String → Nat → zw_H → Prop)  (l0 : Option Nat) (l1 : Option Nat) (l2 : Option Nat) (l3 : Option Nat) (l4 : Option Nat) (R : Int32 → zw_H → Prop) (l5 : Int32) (h : zw_H) : Prop :=
  ol_ h l0 (fun v5 =>
  if (v5 - 6) < l5 then
    Q 1 h
  else
    oa_I h l0 [0, 11] l5 (fun v6 =>
    olet (v6 &&& 63 : Int32) (fun v7 =>
    if v7 = 0 then
      f_law_J316 K Q X R l0 l1 l2 l3 l4 l5  h
    else if v7 = 1 then
      f_law_J389 K Q X R l0 l1 l2 l3 l4 l5  h
    else if v7 = 2 then
      f_law_J445 K Q X R l0 l1 l2 l3 l4 l5  h
    else if v7 = 3 then
      f_law_J458 K Q X R l0 l1 l2 l3 l4 l5  h
    else if v7 = 4 then
      f_law_J471 K Q X R l0 l1 l2 l3 l4 l5  h
    else if v7 = 5 then
      f_law_J484 K Q X R l0 l1 l2 l3 l4 l5  h
    else if v7 = 6 then
      f_law_J540 K Q X R l0 l1 l2 l3 l4 l5  h
    else if v7 = 7 then
      f_law_J608 K Q X R l0 l1 l2 l3 l4 l5  h
    else if v7 = 8 then
      f_law_J664 K Q X R l0 l1 l2 l3 l4 l5  h
    else if v7 = 9 then
      f_law_J744 K Q X R l0 l1 l2 l3 l4 l5  h
    else if v7 = 10 then
      f_law_J812 K Q X R l0 l1 l2 l3 l4 l5  h
    else if v7 = 11 then
      f_law_J856 K Q X R l0 l1 l2 l3 l4 l5  h
    else if v7 = 12 then
      f_law_J900 K Q X R l0 l1 l2 l3 l4 l5  h
    else if v7 = 13 then
      f_law_J979 K Q X R l0 l1 l2 l3 l4 l5  h
    else if v7 = 14 then
      f_law_J1058 K Q X R l0 l1 l2 l3 l4 l5  h
    else if v7 = 15 then
      f_law_J1101 K Q X R l0 l1 l2 l3 l4 l5  h
    else if v7 = 16 then
      f_law_J1157 K Q X R l0 l1 l2 l3 l4 l5  h
    else if v7 = 17 then
      f_law_J1225 K Q X R l0 l1 l2 l3 l4 l5  h
    else if v7 = 18 then
      f_law_J1281 K Q X R l0 l1 l2 l3 l4 l5  h
    else if v7 = 19 then
      f_law_J1349 K Q X R l0 l1 l2 l3 l4 l5  h
    else if v7 = 20 then
      f_law_J1405 K Q X R l0 l1 l2 l3 l4 l5  h
    else if v7 = 21 then
      f_law_J1489 K Q X R l0 l1 l2 l3 l4 l5  h
    else if v7 = 22 then
      f_law_J1566 K Q X R l0 l1 l2 l3 l4 l5  h
    else if v7 = 23 then
      f_law_J1643 K Q X R l0 l1 l2 l3 l4 l5  h
    else if v7 = 24 then
      f_law_J1720 K Q X R l0 l1 l2 l3 l4 l5  h
    else if v7 = 25 then
      f_law_J1775 K Q X R l0 l1 l2 l3 l4 l5  h
    else if v7 = 26 then
      f_law_J1876 K Q X R l0 l1 l2 l3 l4 l5  h
    else if v7 = 27 then
      f_law_J1953 K Q X R l0 l1 l2 l3 l4 l5  h
    else if v7 = 28 then
      f_law_J2030 K Q X R l0 l1 l2 l3 l4 l5  h
    else if v7 = 29 then
      f_law_J2093 K Q X R l0 l1 l2 l3 l4 l5  h
    else if v7 = 30 then
      f_law_J2137 K Q X R l0 l1 l2 l3 l4 l5  h
    else if v7 = 31 then
      f_law_J2238 K Q X R l0 l1 l2 l3 l4 l5  h
    else if v7 = 32 then
      f_law_J2315 K Q X R l0 l1 l2 l3 l4 l5  h
    else if v7 = 33 then
      f_law_J2392 K Q X R l0 l1 l2 l3 l4 l5  h
    else if v7 = 34 then
      f_law_J2469 K Q X R l0 l1 l2 l3 l4 l5  h
    else if v7 = 35 then
      f_law_J2546 K Q X R l0 l1 l2 l3 l4 l5  h
    else if v7 = 36 then
      f_law_J2602 K Q X R l0 l1 l2 l3 l4 l5  h
    else if v7 = 37 then
      f_law_J2670 K Q X R l0 l1 l2 l3 l4 l5  h
    else if v7 = 38 then
      f_law_J2726 K Q X R l0 l1 l2 l3 l4 l5  h
    else if v7 = 39 then
      f_law_J2770 K Q X R l0 l1 l2 l3 l4 l5  h
    else if v7 = 40 then
      f_law_J2838 K Q X R l0 l1 l2 l3 l4 l5  h
    else if v7 = 41 then
      f_law_J2882 K Q X R l0 l1 l2 l3 l4 l5  h
    else if v7 = 42 then
      f_law_J2971 K Q X R l0 l1 l2 l3 l4 l5  h
    else if v7 = 43 then
      f_law_J3015 K Q X R l0 l1 l2 l3 l4 l5  h
    else if v7 = 44 then
      f_law_J3108 K Q X R l0 l1 l2 l3 l4 l5  h
    else if v7 = 45 then
      f_law_J3164 K Q X R l0 l1 l2 l3 l4 l5  h
    else if v7 = 46 then
      f_law_J3220 K Q X R l0 l1 l2 l3 l4 l5  h
    else if v7 = 47 then
      f_law_J3286 K Q X R l0 l1 l2 l3 l4 l5  h
    else if v7 = 48 then
      f_law_J3330 K Q X R l0 l1 l2 l3 l4 l5  h
    else if v7 = 49 then
      f_law_J3395 K Q X R l0 l1 l2 l3 l4 l5  h
    else if v7 = 50 then
      f_law_J3439 K Q X R l0 l1 l2 l3 l4 l5  h
    else if v7 = 51 then
      f_law_J3483 K Q X R l0 l1 l2 l3 l4 l5  h
    else if v7 = 52 then
      f_law_J3527 K Q X R l0 l1 l2 l3 l4 l5  h
    else if v7 = 53 then
      f_law_J3583 K Q X R l0 l1 l2 l3 l4 l5  h
    else if v7 = 54 then
      f_law_J3639 K Q X R l0 l1 l2 l3 l4 l5  h
    else if v7 = 55 then
      f_law_J3735 K Q X R l0 l1 l2 l3 l4 l5  h
    else if v7 = 56 then
      f_law_J3803 K Q X R l0 l1 l2 l3 l4 l5  h
    else if v7 = 57 then
      f_law_J3871 K Q X R l0 l1 l2 l3 l4 l5  h
    else if v7 = 58 then
      f_law_J3927 K Q X R l0 l1 l2 l3 l4 l5  h
    else if v7 = 59 then
      f_law_J3983 K Q X R l0 l1 l2 l3 l4 l5  h
    else if v7 = 60 then
      f_law_J4051 K Q X R l0 l1 l2 l3 l4 l5  h
    else if v7 = 61 then
      f_law_J4095 K Q X R l0 l1 l2 l3 l4 l5  h
    else if v7 = 62 then
      f_law_J4108 K Q X R l0 l1 l2 l3 l4 l5  h
    else if v7 = 63 then
      f_law_J4164 K Q X R l0 l1 l2 l3 l4 l5  h
    else ((v7.toInt < 0 ∨ 63 < v7.toInt) ∧
      f_law_J4220 K Q X R l0 l1 l2 l3 l4 l5  h))))
def f_law (K : Nat → Option Nat) (a0 : Option Nat) (h : zw_H) (Q : Int32 → zw_H → Prop) (X : String → Nat → zw_H → Prop) : Prop :=
  on_C h (.inr (1, [.null, .int 0, .int 0, .int 0, .null, .null, .null, .null])) (fun v1 h1 =>
  (f_X1_init K (some v1) h1 (fun h2 =>
  on_C h2 (.inr (0, [.int 0, .null, .null, .null, .null, .null, .int 0, .int 0, .null, .int 0, .int 0, .int 0, .int 0, .int 0, .int 0, .int 0, .int 0, .null, .null, .null, .int 0, .null, .null, .null, .null, .int 0])) (fun v2 h3 =>
  (f_X2_init K (some v2) h3 (fun h4 =>
  on_J h4 3 1 576 (fun v3 h5 =>
  on_D h5 4 1 576 (fun v4 h6 =>
  zl2 (f_law_B28 K Q X  a0 (some v1) (some v2) (some v3) (some v4)) 25 0 h6))) X))) X))
set_option maxHeartbeats 8000000 in
theorem gt_f_law_J4220 {Xc : zw_X} {Q : Int32 → zw_H → Prop} {X : String → Nat → zw_H → Prop} (hl : (zw_l Xc).stackTraces = false) (ok : zw_ok Xc cL_law "MultipoleLineLaw" "law" 9) (tab : zw_tab Xc []) (fin : zw_fin Xc (Option.some Jvm.ClassFile.FieldType.boolean) (zq_I Q) X 1200144 5496826) (hRm : zw_rm Xc = rm_law) {kb sb KE SE : Nat} (hk : kb + 1139 ≤ KE ∧ sb + 73158 ≤ SE) (hKE : KE ≤ 1200144 ∧ SE ≤ 5496826) {R : Int32 → zw_H → Prop} {l0 : Option Nat} {l1 : Option Nat} {l2 : Option Nat} {l3 : Option Nat} {l4 : Option Nat} (hR : ∀ (l5 : Int32) (h : zw_H), R l5 h → zw_G Xc (kb + 1139) (sb + 73158) 9 h 28 [(0, va_rf l0), (1, va_rf l1), (2, va_rf l2), (3, va_rf l3), (4, va_rf l4), (5, .int l5)] [])  {l5 : Int32}  {h : zw_H} (hE : f_law_J4220 (zw_Zf Xc).2.2.2 Q X R l0 l1 l2 l3 l4 l5 h) : zw_G Xc (kb + 1139) (sb + 73158) 9 h 4220 [(0, va_rf l0), (1, va_rf l1), (2, va_rf l2), (3, va_rf l3), (4, va_rf l4), (5, .int l5)] [] := by
  unfold f_law_J4220 at hE
  refine zg_iincLR (k := 5) (L' := fun v20 => [(5, .int v20), (0, va_rf l0), (1, va_rf l1), (2, va_rf l2), (3, va_rf l3), (4, va_rf l4)]) ok dL_law_4220 (by decide +kernel) hE rfl (by decide) rfl (k9 := 4) rfl (fun _ => rfl) (fun v20 hE => ?_)
  refine zg_goto (tgt := 28) ok dL_law_4223 (by decide) ?_
  refine zg_sub (L' := [(0, va_rf l0), (1, va_rf l1), (2, va_rf l2), (3, va_rf l3), (4, va_rf l4), (5, .int v20)]) [1, 2, 3, 4, 5, 0] rfl ?_
  exact hR _ _ hE
set_option maxHeartbeats 8000000 in
theorem gt_f_law_J316 {Xc : zw_X} {Q : Int32 → zw_H → Prop} {X : String → Nat → zw_H → Prop} (hl : (zw_l Xc).stackTraces = false) (ok : zw_ok Xc cL_law "MultipoleLineLaw" "law" 9) (tab : zw_tab Xc []) (fin : zw_fin Xc (Option.some Jvm.ClassFile.FieldType.boolean) (zq_I Q) X 1200144 5496826) (hRm : zw_rm Xc = rm_law) {kb sb KE SE : Nat} (hk : kb + 1139 ≤ KE ∧ sb + 73158 ≤ SE) (hKE : KE ≤ 1200144 ∧ SE ≤ 5496826) {R : Int32 → zw_H → Prop} {l0 : Option Nat} {l1 : Option Nat} {l2 : Option Nat} {l3 : Option Nat} {l4 : Option Nat} (hR : ∀ (l5 : Int32) (h : zw_H), R l5 h → zw_G Xc (kb + 1139) (sb + 73158) 9 h 28 [(0, va_rf l0), (1, va_rf l1), (2, va_rf l2), (3, va_rf l3), (4, va_rf l4), (5, .int l5)] [])  {l5 : Int32}  {h : zw_H} (hE : f_law_J316 (zw_Zf Xc).2.2.2 Q X R l0 l1 l2 l3 l4 l5 h) : zw_G Xc kb sb 9 h 316 [(0, va_rf l0), (1, va_rf l1), (2, va_rf l2), (3, va_rf l3), (4, va_rf l4), (5, .int l5)] [] := by
  unfold f_law_J316 at hE
  refine zg_aload_n ok dL_law_316 rfl 1 rfl ?_
  refine zg_aload_n ok dL_law_317 rfl 0 rfl ?_
  refine zg_iload ok dL_law_318 5 rfl ?_
  refine zg_iconst (v := 1) ok dL_law_320 (by decide) ?_
  refine zg_iadd ok dL_law_321 ?_
  refine zg_iald ok dL_law_322 hE (fun v8 hE => ?_)
  refine zg_aload_n ok dL_law_323 rfl 0 rfl ?_
  refine zg_iload ok dL_law_324 5 rfl ?_
  refine zg_iconst (v := 2) ok dL_law_326 (by decide) ?_
  refine zg_iadd ok dL_law_327 ?_
  refine zg_iald ok dL_law_328 hE (fun v9 hE => ?_)
  refine zg_aload_n ok dL_law_329 rfl 0 rfl ?_
  refine zg_iload ok dL_law_330 5 rfl ?_
  refine zg_iconst (v := 3) ok dL_law_332 (by decide) ?_
  refine zg_iadd ok dL_law_333 ?_
  refine zg_iald ok dL_law_334 hE (fun v10 hE => ?_)
  refine zg_aload_n ok dL_law_335 rfl 0 rfl ?_
  refine zg_iload ok dL_law_336 5 rfl ?_
  refine zg_iconst (v := 4) ok dL_law_338 (by decide) ?_
  refine zg_iadd ok dL_law_339 ?_
  refine zg_iald ok dL_law_340 hE (fun v11 hE => ?_)
  refine zg_aload_n ok dL_law_341 rfl 0 rfl ?_
  refine zg_iload ok dL_law_342 5 rfl ?_
  refine zg_iconst (v := 5) ok dL_law_344 (by decide) ?_
  refine zg_iadd ok dL_law_345 ?_
  refine zg_iald ok dL_law_346 hE (fun v12 hE => ?_)
  refine zg_callV (vs := [zI v8, zI v9, zI v10, zI v11, zI v12]) (rest := []) (rm := rm_X1_append) ok hRm lk_X0_212 dL_law_347 hE (fun hE => mt_X1_append hl hE) rfl (Nat.le_of_ble_eq_true rfl) ⟨⟨Nat.le_of_ble_eq_true rfl, Nat.le_of_ble_eq_true rfl⟩, (by show kb + 1 ≤ 1200144; omega), (by show sb + 5 ≤ 5496826; omega)⟩ (zg_retI (fun v13 h7 hE => ?_)) (zg_xok ok tab fin ⟨(by show kb + 1 ≤ 1200144; omega), (by show sb + 5 ≤ 5496826; omega)⟩)
  refine zg_cost (kc2 := kb + 1) (ks2 := sb + 5) ⟨(by show kb + 1 = kb + 1; omega), (by show sb + 5 = sb + 5; omega)⟩ ?_
  refine zg_aload_n ok dL_law_350 rfl 2 rfl ?_
  refine zg_aload_n ok dL_law_351 rfl 0 rfl ?_
  refine zg_iload ok dL_law_352 5 rfl ?_
  refine zg_iconst (v := 1) ok dL_law_354 (by decide) ?_
  refine zg_iadd ok dL_law_355 ?_
  refine zg_iald ok dL_law_356 hE (fun v14 hE => ?_)
  refine zg_aload_n ok dL_law_357 rfl 0 rfl ?_
  refine zg_iload ok dL_law_358 5 rfl ?_
  refine zg_iconst (v := 2) ok dL_law_360 (by decide) ?_
  refine zg_iadd ok dL_law_361 ?_
  refine zg_iald ok dL_law_362 hE (fun v15 hE => ?_)
  refine zg_aload_n ok dL_law_363 rfl 0 rfl ?_
  refine zg_iload ok dL_law_364 5 rfl ?_
  refine zg_iconst (v := 3) ok dL_law_366 (by decide) ?_
  refine zg_iadd ok dL_law_367 ?_
  refine zg_iald ok dL_law_368 hE (fun v16 hE => ?_)
  refine zg_aload_n ok dL_law_369 rfl 0 rfl ?_
  refine zg_iload ok dL_law_370 5 rfl ?_
  refine zg_iconst (v := 4) ok dL_law_372 (by decide) ?_
  refine zg_iadd ok dL_law_373 ?_
  refine zg_iald ok dL_law_374 hE (fun v17 hE => ?_)
  refine zg_aload_n ok dL_law_375 rfl 0 rfl ?_
  refine zg_iload ok dL_law_376 5 rfl ?_
  refine zg_iconst (v := 5) ok dL_law_378 (by decide) ?_
  refine zg_iadd ok dL_law_379 ?_
  refine zg_iald ok dL_law_380 hE (fun v18 hE => ?_)
  refine zg_callV (vs := [zI v14, zI v15, zI v16, zI v17, zI v18]) (rest := [.int v13]) (rm := rm_X2_append) ok hRm lk_X0_216 dL_law_381 hE (fun hE => mt_X2_append hl hE) rfl (Nat.le_of_ble_eq_true rfl) ⟨⟨Nat.le_of_ble_eq_true rfl, Nat.le_of_ble_eq_true rfl⟩, (by show kb + 1 + 0 ≤ 1200144; omega), (by show sb + 5 + 0 ≤ 5496826; omega)⟩ (zg_retI (fun v19 h8 hE => ?_)) (zg_xok ok tab fin ⟨(by show kb + 1 + 0 ≤ 1200144; omega), (by show sb + 5 + 0 ≤ 5496826; omega)⟩)
  refine zg_cost (kc2 := kb + 1) (ks2 := sb + 5) ⟨(by show kb + 1 + 0 = kb + 1; omega), (by show sb + 5 + 0 = sb + 5; omega)⟩ ?_
  refine zg_icmp_eq (tgt := 4220) ok dL_law_384 (by decide) hE (fun hE => ?_) (fun hE => ?_)
  · refine zg_wide (kc2 := kb + 1139) (ks2 := sb + 73158) (by omega) (by omega) ?_
    exact gt_f_law_J4220 hl ok tab fin hRm hk hKE hR  hE
  · refine zg_iconst (v := 0) ok dL_law_387 (by decide) ?_
    exact zg_zret ok fin dL_law_388 ⟨(by omega), (by omega)⟩ rfl hE
set_option maxHeartbeats 8000000 in
theorem gt_f_law_J442 {Xc : zw_X} {Q : Int32 → zw_H → Prop} {X : String → Nat → zw_H → Prop} (hl : (zw_l Xc).stackTraces = false) (ok : zw_ok Xc cL_law "MultipoleLineLaw" "law" 9) (tab : zw_tab Xc []) (fin : zw_fin Xc (Option.some Jvm.ClassFile.FieldType.boolean) (zq_I Q) X 1200144 5496826) (hRm : zw_rm Xc = rm_law) {kb sb KE SE : Nat} (hk : kb + 1139 ≤ KE ∧ sb + 73158 ≤ SE) (hKE : KE ≤ 1200144 ∧ SE ≤ 5496826) {R : Int32 → zw_H → Prop} {l0 : Option Nat} {l1 : Option Nat} {l2 : Option Nat} {l3 : Option Nat} {l4 : Option Nat} (hR : ∀ (l5 : Int32) (h : zw_H), R l5 h → zw_G Xc (kb + 1139) (sb + 73158) 9 h 28 [(0, va_rf l0), (1, va_rf l1), (2, va_rf l2), (3, va_rf l3), (4, va_rf l4), (5, .int l5)] [])  {l5 : Int32}  {h : zw_H} (hE : f_law_J442 (zw_Zf Xc).2.2.2 Q X R l0 l1 l2 l3 l4 l5 h) : zw_G Xc (kb + 1139) (sb + 10211) 9 h 442 [(0, va_rf l0), (1, va_rf l1), (2, va_rf l2), (3, va_rf l3), (4, va_rf l4), (5, .int l5)] [] := by
  unfold f_law_J442 at hE
  refine zg_goto (tgt := 4220) ok dL_law_442 (by decide) ?_
  refine zg_wide (kc2 := kb + 1139) (ks2 := sb + 73158) (by omega) (by omega) ?_
  exact gt_f_law_J4220 hl ok tab fin hRm hk hKE hR  hE
set_option maxHeartbeats 8000000 in
theorem gt_f_law_J389 {Xc : zw_X} {Q : Int32 → zw_H → Prop} {X : String → Nat → zw_H → Prop} (hl : (zw_l Xc).stackTraces = false) (ok : zw_ok Xc cL_law "MultipoleLineLaw" "law" 9) (tab : zw_tab Xc []) (fin : zw_fin Xc (Option.some Jvm.ClassFile.FieldType.boolean) (zq_I Q) X 1200144 5496826) (hRm : zw_rm Xc = rm_law) {kb sb KE SE : Nat} (hk : kb + 1139 ≤ KE ∧ sb + 73158 ≤ SE) (hKE : KE ≤ 1200144 ∧ SE ≤ 5496826) {R : Int32 → zw_H → Prop} {l0 : Option Nat} {l1 : Option Nat} {l2 : Option Nat} {l3 : Option Nat} {l4 : Option Nat} (hR : ∀ (l5 : Int32) (h : zw_H), R l5 h → zw_G Xc (kb + 1139) (sb + 73158) 9 h 28 [(0, va_rf l0), (1, va_rf l1), (2, va_rf l2), (3, va_rf l3), (4, va_rf l4), (5, .int l5)] [])  {l5 : Int32}  {h : zw_H} (hE : f_law_J389 (zw_Zf Xc).2.2.2 Q X R l0 l1 l2 l3 l4 l5 h) : zw_G Xc kb sb 9 h 389 [(0, va_rf l0), (1, va_rf l1), (2, va_rf l2), (3, va_rf l3), (4, va_rf l4), (5, .int l5)] [] := by
  unfold f_law_J389 at hE
  refine zg_aload_n ok dL_law_389 rfl 1 rfl ?_
  refine zg_aload_n ok dL_law_390 rfl 0 rfl ?_
  refine zg_iload ok dL_law_391 5 rfl ?_
  refine zg_iconst (v := 1) ok dL_law_393 (by decide) ?_
  refine zg_iadd ok dL_law_394 ?_
  refine zg_iald ok dL_law_395 hE (fun v21 hE => ?_)
  refine zg_aload_n ok dL_law_396 rfl 3 rfl ?_
  refine zg_callSX (vs := [zA l1, zI v21, zA l3]) (rest := []) (rm := rm_X0_load) ok hRm lk_X0_217 dL_law_397 hE (fun hE => mt_X0_load hl hE) rfl (Nat.le_of_ble_eq_true rfl) ⟨⟨Nat.le_of_ble_eq_true rfl, Nat.le_of_ble_eq_true rfl⟩, (by show kb + 1139 ≤ 1200144; omega), (by show sb + 10211 ≤ 5496826; omega)⟩ (zg_retI (fun v22 h9 hE => ?_)) (zg_xok ok tab fin ⟨(by show kb + 1139 ≤ 1200144; omega), (by show sb + 10211 ≤ 5496826; omega)⟩)
  refine zg_cost (kc2 := kb + 1139) (ks2 := sb + 10211) ⟨(by show kb + 1139 = kb + 1139; omega), (by show sb + 10211 = sb + 10211; omega)⟩ ?_
  refine zg_istore (L' := [(6, .int v22), (0, va_rf l0), (1, va_rf l1), (2, va_rf l2), (3, va_rf l3), (4, va_rf l4), (5, .int l5)]) ok dL_law_400 (by decide) rfl ?_
  refine zg_aload_n ok dL_law_402 rfl 3 rfl ?_
  refine zg_aload_n ok dL_law_403 rfl 1 rfl ?_
  refine zg_iload ok dL_law_404 6 rfl ?_
  refine zg_iconst (v := 1) ok dL_law_406 (by decide) ?_
  refine zg_iadd ok dL_law_407 ?_
  refine zg_iald ok dL_law_408 hE (fun v23 hE => ?_)
  refine zg_callV (vs := [zI v23]) (rest := []) (rm := rm_X2_load) ok hRm lk_X0_222 dL_law_409 hE (fun hE => mt_X2_load hl hE) rfl (Nat.le_of_ble_eq_true rfl) ⟨⟨Nat.le_of_ble_eq_true rfl, Nat.le_of_ble_eq_true rfl⟩, (by show kb + 1139 + 0 ≤ 1200144; omega), (by show sb + 10211 + 0 ≤ 5496826; omega)⟩ (zg_retI (fun v24 h10 hE => ?_)) (zg_xok ok tab fin ⟨(by show kb + 1139 + 0 ≤ 1200144; omega), (by show sb + 10211 + 0 ≤ 5496826; omega)⟩)
  refine zg_cost (kc2 := kb + 1139) (ks2 := sb + 10211) ⟨(by show kb + 1139 + 0 = kb + 1139; omega), (by show sb + 10211 + 0 = sb + 10211; omega)⟩ ?_
  refine zg_istore (L' := [(7, .int v24), (6, .int v22), (0, va_rf l0), (1, va_rf l1), (2, va_rf l2), (3, va_rf l3), (4, va_rf l4), (5, .int l5)]) ok dL_law_412 (by decide) rfl ?_
  refine zg_aload_n ok dL_law_414 rfl 4 rfl ?_
  refine zg_callV (vs := []) (rest := []) (rm := rm_X2_thrown) ok hRm lk_X0_223 dL_law_415 hE (fun hE => mt_X2_thrown hl hE) rfl (Nat.le_of_ble_eq_true rfl) ⟨⟨Nat.le_of_ble_eq_true rfl, Nat.le_of_ble_eq_true rfl⟩, (by show kb + 1139 + 0 ≤ 1200144; omega), (by show sb + 10211 + 0 ≤ 5496826; omega)⟩ (zg_retI (fun v25 h11 hE => ?_)) (zg_xok ok tab fin ⟨(by show kb + 1139 + 0 ≤ 1200144; omega), (by show sb + 10211 + 0 ≤ 5496826; omega)⟩)
  refine zg_cost (kc2 := kb + 1139) (ks2 := sb + 10211) ⟨(by show kb + 1139 + 0 = kb + 1139; omega), (by show sb + 10211 + 0 = sb + 10211; omega)⟩ ?_
  refine zg_iload ok dL_law_418 1 rfl ?_
  refine zg_icmp_eq (tgt := 425) ok dL_law_420 (by decide) hE (fun hE => ?_) (fun hE => ?_)
  · refine zg_iload ok dL_law_425 1 rfl ?_
    refine zg_if_ne (tgt := 442) ok dL_law_427 (by decide) hE (fun hE => ?_) (fun hE => ?_)
    · refine zg_sub (L' := [(0, va_rf l0), (1, va_rf l1), (2, va_rf l2), (3, va_rf l3), (4, va_rf l4), (5, .int l5)]) [2, 3, 4, 5, 6, 7] rfl ?_
      exact gt_f_law_J442 hl ok tab fin hRm hk hKE hR  hE
    · refine zg_aload_n ok dL_law_430 rfl 5 rfl ?_
      refine zg_iconst (v := 0) ok dL_law_431 (by decide) ?_
      refine zg_lald ok dL_law_432 hE (fun v26 hE => ?_)
      refine zg_iload ok dL_law_433 0 rfl ?_
      refine zg_i2l ok dL_law_435 ?_
      refine zg_lcmp ok dL_law_436 ?_
      refine zg_if_eq (tgt := 442) ok dL_law_437 (by decide) hE (fun hE => ?_) (fun hE => ?_)
      · refine zg_sub (L' := [(0, va_rf l0), (1, va_rf l1), (2, va_rf l2), (3, va_rf l3), (4, va_rf l4), (5, .int l5)]) [2, 3, 4, 5, 6, 7] rfl ?_
        exact gt_f_law_J442 hl ok tab fin hRm hk hKE hR  hE
      · refine zg_iconst (v := 0) ok dL_law_440 (by decide) ?_
        exact zg_zret ok fin dL_law_441 ⟨(by omega), (by omega)⟩ rfl hE
  · refine zg_iconst (v := 0) ok dL_law_423 (by decide) ?_
    exact zg_zret ok fin dL_law_424 ⟨(by omega), (by omega)⟩ rfl hE
set_option maxHeartbeats 8000000 in
theorem gt_f_law_J445 {Xc : zw_X} {Q : Int32 → zw_H → Prop} {X : String → Nat → zw_H → Prop} (hl : (zw_l Xc).stackTraces = false) (ok : zw_ok Xc cL_law "MultipoleLineLaw" "law" 9) (tab : zw_tab Xc []) (fin : zw_fin Xc (Option.some Jvm.ClassFile.FieldType.boolean) (zq_I Q) X 1200144 5496826) (hRm : zw_rm Xc = rm_law) {kb sb KE SE : Nat} (hk : kb + 1139 ≤ KE ∧ sb + 73158 ≤ SE) (hKE : KE ≤ 1200144 ∧ SE ≤ 5496826) {R : Int32 → zw_H → Prop} {l0 : Option Nat} {l1 : Option Nat} {l2 : Option Nat} {l3 : Option Nat} {l4 : Option Nat} (hR : ∀ (l5 : Int32) (h : zw_H), R l5 h → zw_G Xc (kb + 1139) (sb + 73158) 9 h 28 [(0, va_rf l0), (1, va_rf l1), (2, va_rf l2), (3, va_rf l3), (4, va_rf l4), (5, .int l5)] [])  {l5 : Int32}  {h : zw_H} (hE : f_law_J445 (zw_Zf Xc).2.2.2 Q X R l0 l1 l2 l3 l4 l5 h) : zw_G Xc kb sb 9 h 445 [(0, va_rf l0), (1, va_rf l1), (2, va_rf l2), (3, va_rf l3), (4, va_rf l4), (5, .int l5)] [] := by
  unfold f_law_J445 at hE
  refine zg_aload_n ok dL_law_445 rfl 1 rfl ?_
  refine zg_callV (vs := []) (rest := []) (rm := rm_X1_parseError) ok hRm lk_X0_226 dL_law_446 hE (fun hE => mt_X1_parseError hl hE) rfl (Nat.le_of_ble_eq_true rfl) ⟨⟨Nat.le_of_ble_eq_true rfl, Nat.le_of_ble_eq_true rfl⟩, (by show kb + 0 ≤ 1200144; omega), (by show sb + 0 ≤ 5496826; omega)⟩ (zg_retI (fun v27 h12 hE => ?_)) (zg_xok ok tab fin ⟨(by show kb + 0 ≤ 1200144; omega), (by show sb + 0 ≤ 5496826; omega)⟩)
  refine zg_cost (kc2 := kb) (ks2 := sb) ⟨(by show kb + 0 = kb; omega), (by show sb + 0 = sb; omega)⟩ ?_
  refine zg_aload_n ok dL_law_449 rfl 2 rfl ?_
  refine zg_callV (vs := []) (rest := [.int v27]) (rm := rm_X2_parseError) ok hRm lk_X0_229 dL_law_450 hE (fun hE => mt_X2_parseError hl hE) rfl (Nat.le_of_ble_eq_true rfl) ⟨⟨Nat.le_of_ble_eq_true rfl, Nat.le_of_ble_eq_true rfl⟩, (by show kb + 0 ≤ 1200144; omega), (by show sb + 0 ≤ 5496826; omega)⟩ (zg_retI (fun v28 h13 hE => ?_)) (zg_xok ok tab fin ⟨(by show kb + 0 ≤ 1200144; omega), (by show sb + 0 ≤ 5496826; omega)⟩)
  refine zg_cost (kc2 := kb) (ks2 := sb) ⟨(by show kb + 0 = kb; omega), (by show sb + 0 = sb; omega)⟩ ?_
  refine zg_icmp_eq (tgt := 4220) ok dL_law_453 (by decide) hE (fun hE => ?_) (fun hE => ?_)
  · refine zg_wide (kc2 := kb + 1139) (ks2 := sb + 73158) (by omega) (by omega) ?_
    exact gt_f_law_J4220 hl ok tab fin hRm hk hKE hR  hE
  · refine zg_iconst (v := 0) ok dL_law_456 (by decide) ?_
    exact zg_zret ok fin dL_law_457 ⟨(by omega), (by omega)⟩ rfl hE
set_option maxHeartbeats 8000000 in
theorem gt_f_law_J458 {Xc : zw_X} {Q : Int32 → zw_H → Prop} {X : String → Nat → zw_H → Prop} (hl : (zw_l Xc).stackTraces = false) (ok : zw_ok Xc cL_law "MultipoleLineLaw" "law" 9) (tab : zw_tab Xc []) (fin : zw_fin Xc (Option.some Jvm.ClassFile.FieldType.boolean) (zq_I Q) X 1200144 5496826) (hRm : zw_rm Xc = rm_law) {kb sb KE SE : Nat} (hk : kb + 1139 ≤ KE ∧ sb + 73158 ≤ SE) (hKE : KE ≤ 1200144 ∧ SE ≤ 5496826) {R : Int32 → zw_H → Prop} {l0 : Option Nat} {l1 : Option Nat} {l2 : Option Nat} {l3 : Option Nat} {l4 : Option Nat} (hR : ∀ (l5 : Int32) (h : zw_H), R l5 h → zw_G Xc (kb + 1139) (sb + 73158) 9 h 28 [(0, va_rf l0), (1, va_rf l1), (2, va_rf l2), (3, va_rf l3), (4, va_rf l4), (5, .int l5)] [])  {l5 : Int32}  {h : zw_H} (hE : f_law_J458 (zw_Zf Xc).2.2.2 Q X R l0 l1 l2 l3 l4 l5 h) : zw_G Xc kb sb 9 h 458 [(0, va_rf l0), (1, va_rf l1), (2, va_rf l2), (3, va_rf l3), (4, va_rf l4), (5, .int l5)] [] := by
  unfold f_law_J458 at hE
  refine zg_aload_n ok dL_law_458 rfl 1 rfl ?_
  refine zg_callV (vs := []) (rest := []) (rm := rm_X1_errorPosition) ok hRm lk_X0_230 dL_law_459 hE (fun hE => mt_X1_errorPosition hl hE) rfl (Nat.le_of_ble_eq_true rfl) ⟨⟨Nat.le_of_ble_eq_true rfl, Nat.le_of_ble_eq_true rfl⟩, (by show kb + 0 ≤ 1200144; omega), (by show sb + 0 ≤ 5496826; omega)⟩ (zg_retI (fun v29 h14 hE => ?_)) (zg_xok ok tab fin ⟨(by show kb + 0 ≤ 1200144; omega), (by show sb + 0 ≤ 5496826; omega)⟩)
  refine zg_cost (kc2 := kb) (ks2 := sb) ⟨(by show kb + 0 = kb; omega), (by show sb + 0 = sb; omega)⟩ ?_
  refine zg_aload_n ok dL_law_462 rfl 2 rfl ?_
  refine zg_callV (vs := []) (rest := [.int v29]) (rm := rm_X2_errorPosition) ok hRm lk_X0_233 dL_law_463 hE (fun hE => mt_X2_errorPosition hl hE) rfl (Nat.le_of_ble_eq_true rfl) ⟨⟨Nat.le_of_ble_eq_true rfl, Nat.le_of_ble_eq_true rfl⟩, (by show kb + 0 ≤ 1200144; omega), (by show sb + 0 ≤ 5496826; omega)⟩ (zg_retI (fun v30 h15 hE => ?_)) (zg_xok ok tab fin ⟨(by show kb + 0 ≤ 1200144; omega), (by show sb + 0 ≤ 5496826; omega)⟩)
  refine zg_cost (kc2 := kb) (ks2 := sb) ⟨(by show kb + 0 = kb; omega), (by show sb + 0 = sb; omega)⟩ ?_
  refine zg_icmp_eq (tgt := 4220) ok dL_law_466 (by decide) hE (fun hE => ?_) (fun hE => ?_)
  · refine zg_wide (kc2 := kb + 1139) (ks2 := sb + 73158) (by omega) (by omega) ?_
    exact gt_f_law_J4220 hl ok tab fin hRm hk hKE hR  hE
  · refine zg_iconst (v := 0) ok dL_law_469 (by decide) ?_
    exact zg_zret ok fin dL_law_470 ⟨(by omega), (by omega)⟩ rfl hE
set_option maxHeartbeats 8000000 in
theorem gt_f_law_J471 {Xc : zw_X} {Q : Int32 → zw_H → Prop} {X : String → Nat → zw_H → Prop} (hl : (zw_l Xc).stackTraces = false) (ok : zw_ok Xc cL_law "MultipoleLineLaw" "law" 9) (tab : zw_tab Xc []) (fin : zw_fin Xc (Option.some Jvm.ClassFile.FieldType.boolean) (zq_I Q) X 1200144 5496826) (hRm : zw_rm Xc = rm_law) {kb sb KE SE : Nat} (hk : kb + 1139 ≤ KE ∧ sb + 73158 ≤ SE) (hKE : KE ≤ 1200144 ∧ SE ≤ 5496826) {R : Int32 → zw_H → Prop} {l0 : Option Nat} {l1 : Option Nat} {l2 : Option Nat} {l3 : Option Nat} {l4 : Option Nat} (hR : ∀ (l5 : Int32) (h : zw_H), R l5 h → zw_G Xc (kb + 1139) (sb + 73158) 9 h 28 [(0, va_rf l0), (1, va_rf l1), (2, va_rf l2), (3, va_rf l3), (4, va_rf l4), (5, .int l5)] [])  {l5 : Int32}  {h : zw_H} (hE : f_law_J471 (zw_Zf Xc).2.2.2 Q X R l0 l1 l2 l3 l4 l5 h) : zw_G Xc kb sb 9 h 471 [(0, va_rf l0), (1, va_rf l1), (2, va_rf l2), (3, va_rf l3), (4, va_rf l4), (5, .int l5)] [] := by
  unfold f_law_J471 at hE
  refine zg_aload_n ok dL_law_471 rfl 1 rfl ?_
  refine zg_callV (vs := []) (rest := []) (rm := rm_X1_buffered) ok hRm lk_X0_234 dL_law_472 hE (fun hE => mt_X1_buffered hl hE) rfl (Nat.le_of_ble_eq_true rfl) ⟨⟨Nat.le_of_ble_eq_true rfl, Nat.le_of_ble_eq_true rfl⟩, (by show kb + 0 ≤ 1200144; omega), (by show sb + 0 ≤ 5496826; omega)⟩ (zg_retI (fun v31 h16 hE => ?_)) (zg_xok ok tab fin ⟨(by show kb + 0 ≤ 1200144; omega), (by show sb + 0 ≤ 5496826; omega)⟩)
  refine zg_cost (kc2 := kb) (ks2 := sb) ⟨(by show kb + 0 = kb; omega), (by show sb + 0 = sb; omega)⟩ ?_
  refine zg_aload_n ok dL_law_475 rfl 2 rfl ?_
  refine zg_callV (vs := []) (rest := [.int v31]) (rm := rm_X2_buffered) ok hRm lk_X0_237 dL_law_476 hE (fun hE => mt_X2_buffered hl hE) rfl (Nat.le_of_ble_eq_true rfl) ⟨⟨Nat.le_of_ble_eq_true rfl, Nat.le_of_ble_eq_true rfl⟩, (by show kb + 0 ≤ 1200144; omega), (by show sb + 0 ≤ 5496826; omega)⟩ (zg_retI (fun v32 h17 hE => ?_)) (zg_xok ok tab fin ⟨(by show kb + 0 ≤ 1200144; omega), (by show sb + 0 ≤ 5496826; omega)⟩)
  refine zg_cost (kc2 := kb) (ks2 := sb) ⟨(by show kb + 0 = kb; omega), (by show sb + 0 = sb; omega)⟩ ?_
  refine zg_icmp_eq (tgt := 4220) ok dL_law_479 (by decide) hE (fun hE => ?_) (fun hE => ?_)
  · refine zg_wide (kc2 := kb + 1139) (ks2 := sb + 73158) (by omega) (by omega) ?_
    exact gt_f_law_J4220 hl ok tab fin hRm hk hKE hR  hE
  · refine zg_iconst (v := 0) ok dL_law_482 (by decide) ?_
    exact zg_zret ok fin dL_law_483 ⟨(by omega), (by omega)⟩ rfl hE
set_option maxHeartbeats 8000000 in
theorem gt_f_law_J537 {Xc : zw_X} {Q : Int32 → zw_H → Prop} {X : String → Nat → zw_H → Prop} (hl : (zw_l Xc).stackTraces = false) (ok : zw_ok Xc cL_law "MultipoleLineLaw" "law" 9) (tab : zw_tab Xc []) (fin : zw_fin Xc (Option.some Jvm.ClassFile.FieldType.boolean) (zq_I Q) X 1200144 5496826) (hRm : zw_rm Xc = rm_law) {kb sb KE SE : Nat} (hk : kb + 1139 ≤ KE ∧ sb + 73158 ≤ SE) (hKE : KE ≤ 1200144 ∧ SE ≤ 5496826) {R : Int32 → zw_H → Prop} {l0 : Option Nat} {l1 : Option Nat} {l2 : Option Nat} {l3 : Option Nat} {l4 : Option Nat} (hR : ∀ (l5 : Int32) (h : zw_H), R l5 h → zw_G Xc (kb + 1139) (sb + 73158) 9 h 28 [(0, va_rf l0), (1, va_rf l1), (2, va_rf l2), (3, va_rf l3), (4, va_rf l4), (5, .int l5)] [])  {l5 : Int32}  {h : zw_H} (hE : f_law_J537 (zw_Zf Xc).2.2.2 Q X R l0 l1 l2 l3 l4 l5 h) : zw_G Xc (kb + 3) (sb + 13) 9 h 537 [(0, va_rf l0), (1, va_rf l1), (2, va_rf l2), (3, va_rf l3), (4, va_rf l4), (5, .int l5)] [] := by
  unfold f_law_J537 at hE
  refine zg_goto (tgt := 4220) ok dL_law_537 (by decide) ?_
  refine zg_wide (kc2 := kb + 1139) (ks2 := sb + 73158) (by omega) (by omega) ?_
  exact gt_f_law_J4220 hl ok tab fin hRm hk hKE hR  hE
set_option maxHeartbeats 8000000 in
theorem gt_f_law_J484 {Xc : zw_X} {Q : Int32 → zw_H → Prop} {X : String → Nat → zw_H → Prop} (hl : (zw_l Xc).stackTraces = false) (ok : zw_ok Xc cL_law "MultipoleLineLaw" "law" 9) (tab : zw_tab Xc []) (fin : zw_fin Xc (Option.some Jvm.ClassFile.FieldType.boolean) (zq_I Q) X 1200144 5496826) (hRm : zw_rm Xc = rm_law) {kb sb KE SE : Nat} (hk : kb + 1139 ≤ KE ∧ sb + 73158 ≤ SE) (hKE : KE ≤ 1200144 ∧ SE ≤ 5496826) {R : Int32 → zw_H → Prop} {l0 : Option Nat} {l1 : Option Nat} {l2 : Option Nat} {l3 : Option Nat} {l4 : Option Nat} (hR : ∀ (l5 : Int32) (h : zw_H), R l5 h → zw_G Xc (kb + 1139) (sb + 73158) 9 h 28 [(0, va_rf l0), (1, va_rf l1), (2, va_rf l2), (3, va_rf l3), (4, va_rf l4), (5, .int l5)] [])  {l5 : Int32}  {h : zw_H} (hE : f_law_J484 (zw_Zf Xc).2.2.2 Q X R l0 l1 l2 l3 l4 l5 h) : zw_G Xc kb sb 9 h 484 [(0, va_rf l0), (1, va_rf l1), (2, va_rf l2), (3, va_rf l3), (4, va_rf l4), (5, .int l5)] [] := by
  unfold f_law_J484 at hE
  refine zg_aload_n ok dL_law_484 rfl 1 rfl ?_
  refine zg_aload_n ok dL_law_485 rfl 0 rfl ?_
  refine zg_iload ok dL_law_486 5 rfl ?_
  refine zg_iconst (v := 1) ok dL_law_488 (by decide) ?_
  refine zg_iadd ok dL_law_489 ?_
  refine zg_iald ok dL_law_490 hE (fun v33 hE => ?_)
  refine zg_aload_n ok dL_law_491 rfl 3 rfl ?_
  refine zg_callSX (vs := [zA l1, zI v33, zA l3]) (rest := []) (rm := rm_X0_count) ok hRm lk_X0_238 dL_law_492 hE (fun hE => mt_X0_count hl hE) rfl (Nat.le_of_ble_eq_true rfl) ⟨⟨Nat.le_of_ble_eq_true rfl, Nat.le_of_ble_eq_true rfl⟩, (by show kb + 3 ≤ 1200144; omega), (by show sb + 13 ≤ 5496826; omega)⟩ (zg_retI (fun v34 h18 hE => ?_)) (zg_xok ok tab fin ⟨(by show kb + 3 ≤ 1200144; omega), (by show sb + 13 ≤ 5496826; omega)⟩)
  refine zg_cost (kc2 := kb + 3) (ks2 := sb + 13) ⟨(by show kb + 3 = kb + 3; omega), (by show sb + 13 = sb + 13; omega)⟩ ?_
  refine zg_istore (L' := [(6, .int v34), (0, va_rf l0), (1, va_rf l1), (2, va_rf l2), (3, va_rf l3), (4, va_rf l4), (5, .int l5)]) ok dL_law_495 (by decide) rfl ?_
  refine zg_aload_n ok dL_law_497 rfl 3 rfl ?_
  refine zg_aload_n ok dL_law_498 rfl 1 rfl ?_
  refine zg_iload ok dL_law_499 6 rfl ?_
  refine zg_iconst (v := 1) ok dL_law_501 (by decide) ?_
  refine zg_iadd ok dL_law_502 ?_
  refine zg_iald ok dL_law_503 hE (fun v35 hE => ?_)
  refine zg_callV (vs := [zI v35]) (rest := []) (rm := rm_X2_count) ok hRm lk_X0_240 dL_law_504 hE (fun hE => mt_X2_count hl hE) rfl (Nat.le_of_ble_eq_true rfl) ⟨⟨Nat.le_of_ble_eq_true rfl, Nat.le_of_ble_eq_true rfl⟩, (by show kb + 3 + 0 ≤ 1200144; omega), (by show sb + 13 + 0 ≤ 5496826; omega)⟩ (zg_retI (fun v36 h19 hE => ?_)) (zg_xok ok tab fin ⟨(by show kb + 3 + 0 ≤ 1200144; omega), (by show sb + 13 + 0 ≤ 5496826; omega)⟩)
  refine zg_cost (kc2 := kb + 3) (ks2 := sb + 13) ⟨(by show kb + 3 + 0 = kb + 3; omega), (by show sb + 13 + 0 = sb + 13; omega)⟩ ?_
  refine zg_istore (L' := [(7, .int v36), (6, .int v34), (0, va_rf l0), (1, va_rf l1), (2, va_rf l2), (3, va_rf l3), (4, va_rf l4), (5, .int l5)]) ok dL_law_507 (by decide) rfl ?_
  refine zg_aload_n ok dL_law_509 rfl 4 rfl ?_
  refine zg_callV (vs := []) (rest := []) (rm := rm_X2_thrown) ok hRm lk_X0_223 dL_law_510 hE (fun hE => mt_X2_thrown hl hE) rfl (Nat.le_of_ble_eq_true rfl) ⟨⟨Nat.le_of_ble_eq_true rfl, Nat.le_of_ble_eq_true rfl⟩, (by show kb + 3 + 0 ≤ 1200144; omega), (by show sb + 13 + 0 ≤ 5496826; omega)⟩ (zg_retI (fun v37 h20 hE => ?_)) (zg_xok ok tab fin ⟨(by show kb + 3 + 0 ≤ 1200144; omega), (by show sb + 13 + 0 ≤ 5496826; omega)⟩)
  refine zg_cost (kc2 := kb + 3) (ks2 := sb + 13) ⟨(by show kb + 3 + 0 = kb + 3; omega), (by show sb + 13 + 0 = sb + 13; omega)⟩ ?_
  refine zg_iload ok dL_law_513 1 rfl ?_
  refine zg_icmp_eq (tgt := 520) ok dL_law_515 (by decide) hE (fun hE => ?_) (fun hE => ?_)
  · refine zg_iload ok dL_law_520 1 rfl ?_
    refine zg_if_ne (tgt := 537) ok dL_law_522 (by decide) hE (fun hE => ?_) (fun hE => ?_)
    · refine zg_sub (L' := [(0, va_rf l0), (1, va_rf l1), (2, va_rf l2), (3, va_rf l3), (4, va_rf l4), (5, .int l5)]) [2, 3, 4, 5, 6, 7] rfl ?_
      exact gt_f_law_J537 hl ok tab fin hRm hk hKE hR  hE
    · refine zg_aload_n ok dL_law_525 rfl 5 rfl ?_
      refine zg_iconst (v := 0) ok dL_law_526 (by decide) ?_
      refine zg_lald ok dL_law_527 hE (fun v38 hE => ?_)
      refine zg_iload ok dL_law_528 0 rfl ?_
      refine zg_i2l ok dL_law_530 ?_
      refine zg_lcmp ok dL_law_531 ?_
      refine zg_if_eq (tgt := 537) ok dL_law_532 (by decide) hE (fun hE => ?_) (fun hE => ?_)
      · refine zg_sub (L' := [(0, va_rf l0), (1, va_rf l1), (2, va_rf l2), (3, va_rf l3), (4, va_rf l4), (5, .int l5)]) [2, 3, 4, 5, 6, 7] rfl ?_
        exact gt_f_law_J537 hl ok tab fin hRm hk hKE hR  hE
      · refine zg_iconst (v := 0) ok dL_law_535 (by decide) ?_
        exact zg_zret ok fin dL_law_536 ⟨(by omega), (by omega)⟩ rfl hE
  · refine zg_iconst (v := 0) ok dL_law_518 (by decide) ?_
    exact zg_zret ok fin dL_law_519 ⟨(by omega), (by omega)⟩ rfl hE
set_option maxHeartbeats 8000000 in
theorem gt_f_law_J605 {Xc : zw_X} {Q : Int32 → zw_H → Prop} {X : String → Nat → zw_H → Prop} (hl : (zw_l Xc).stackTraces = false) (ok : zw_ok Xc cL_law "MultipoleLineLaw" "law" 9) (tab : zw_tab Xc []) (fin : zw_fin Xc (Option.some Jvm.ClassFile.FieldType.boolean) (zq_I Q) X 1200144 5496826) (hRm : zw_rm Xc = rm_law) {kb sb KE SE : Nat} (hk : kb + 1139 ≤ KE ∧ sb + 73158 ≤ SE) (hKE : KE ≤ 1200144 ∧ SE ≤ 5496826) {R : Int32 → zw_H → Prop} {l0 : Option Nat} {l1 : Option Nat} {l2 : Option Nat} {l3 : Option Nat} {l4 : Option Nat} (hR : ∀ (l5 : Int32) (h : zw_H), R l5 h → zw_G Xc (kb + 1139) (sb + 73158) 9 h 28 [(0, va_rf l0), (1, va_rf l1), (2, va_rf l2), (3, va_rf l3), (4, va_rf l4), (5, .int l5)] [])  {l5 : Int32}  {h : zw_H} (hE : f_law_J605 (zw_Zf Xc).2.2.2 Q X R l0 l1 l2 l3 l4 l5 h) : zw_G Xc (kb + 3) (sb + 18) 9 h 605 [(0, va_rf l0), (1, va_rf l1), (2, va_rf l2), (3, va_rf l3), (4, va_rf l4), (5, .int l5)] [] := by
  unfold f_law_J605 at hE
  refine zg_goto (tgt := 4220) ok dL_law_605 (by decide) ?_
  refine zg_wide (kc2 := kb + 1139) (ks2 := sb + 73158) (by omega) (by omega) ?_
  exact gt_f_law_J4220 hl ok tab fin hRm hk hKE hR  hE
set_option maxHeartbeats 8000000 in
theorem gt_f_law_J540 {Xc : zw_X} {Q : Int32 → zw_H → Prop} {X : String → Nat → zw_H → Prop} (hl : (zw_l Xc).stackTraces = false) (ok : zw_ok Xc cL_law "MultipoleLineLaw" "law" 9) (tab : zw_tab Xc []) (fin : zw_fin Xc (Option.some Jvm.ClassFile.FieldType.boolean) (zq_I Q) X 1200144 5496826) (hRm : zw_rm Xc = rm_law) {kb sb KE SE : Nat} (hk : kb + 1139 ≤ KE ∧ sb + 73158 ≤ SE) (hKE : KE ≤ 1200144 ∧ SE ≤ 5496826) {R : Int32 → zw_H → Prop} {l0 : Option Nat} {l1 : Option Nat} {l2 : Option Nat} {l3 : Option Nat} {l4 : Option Nat} (hR : ∀ (l5 : Int32) (h : zw_H), R l5 h → zw_G Xc (kb + 1139) (sb + 73158) 9 h 28 [(0, va_rf l0), (1, va_rf l1), (2, va_rf l2), (3, va_rf l3), (4, va_rf l4), (5, .int l5)] [])  {l5 : Int32}  {h : zw_H} (hE : f_law_J540 (zw_Zf Xc).2.2.2 Q X R l0 l1 l2 l3 l4 l5 h) : zw_G Xc kb sb 9 h 540 [(0, va_rf l0), (1, va_rf l1), (2, va_rf l2), (3, va_rf l3), (4, va_rf l4), (5, .int l5)] [] := by
  unfold f_law_J540 at hE
  refine zg_aload_n ok dL_law_540 rfl 1 rfl ?_
  refine zg_aload_n ok dL_law_541 rfl 0 rfl ?_
  refine zg_iload ok dL_law_542 5 rfl ?_
  refine zg_iconst (v := 1) ok dL_law_544 (by decide) ?_
  refine zg_iadd ok dL_law_545 ?_
  refine zg_iald ok dL_law_546 hE (fun v39 hE => ?_)
  refine zg_aload_n ok dL_law_547 rfl 0 rfl ?_
  refine zg_iload ok dL_law_548 5 rfl ?_
  refine zg_iconst (v := 2) ok dL_law_550 (by decide) ?_
  refine zg_iadd ok dL_law_551 ?_
  refine zg_iald ok dL_law_552 hE (fun v40 hE => ?_)
  refine zg_aload_n ok dL_law_553 rfl 3 rfl ?_
  refine zg_callSX (vs := [zA l1, zI v39, zI v40, zA l3]) (rest := []) (rm := rm_X0_body) ok hRm lk_X0_241 dL_law_554 hE (fun hE => mt_X0_body hl hE) rfl (Nat.le_of_ble_eq_true rfl) ⟨⟨Nat.le_of_ble_eq_true rfl, Nat.le_of_ble_eq_true rfl⟩, (by show kb + 3 ≤ 1200144; omega), (by show sb + 18 ≤ 5496826; omega)⟩ (zg_retI (fun v41 h21 hE => ?_)) (zg_xok ok tab fin ⟨(by show kb + 3 ≤ 1200144; omega), (by show sb + 18 ≤ 5496826; omega)⟩)
  refine zg_cost (kc2 := kb + 3) (ks2 := sb + 18) ⟨(by show kb + 3 = kb + 3; omega), (by show sb + 18 = sb + 18; omega)⟩ ?_
  refine zg_istore (L' := [(6, .int v41), (0, va_rf l0), (1, va_rf l1), (2, va_rf l2), (3, va_rf l3), (4, va_rf l4), (5, .int l5)]) ok dL_law_557 (by decide) rfl ?_
  refine zg_aload_n ok dL_law_559 rfl 3 rfl ?_
  refine zg_aload_n ok dL_law_560 rfl 1 rfl ?_
  refine zg_iload ok dL_law_561 6 rfl ?_
  refine zg_iconst (v := 1) ok dL_law_563 (by decide) ?_
  refine zg_iadd ok dL_law_564 ?_
  refine zg_iald ok dL_law_565 hE (fun v42 hE => ?_)
  refine zg_aload_n ok dL_law_566 rfl 1 rfl ?_
  refine zg_iload ok dL_law_567 6 rfl ?_
  refine zg_iconst (v := 2) ok dL_law_569 (by decide) ?_
  refine zg_iadd ok dL_law_570 ?_
  refine zg_iald ok dL_law_571 hE (fun v43 hE => ?_)
  refine zg_callV (vs := [zI v42, zI v43]) (rest := []) (rm := rm_X2_body) ok hRm lk_X0_244 dL_law_572 hE (fun hE => mt_X2_body hl hE) rfl (Nat.le_of_ble_eq_true rfl) ⟨⟨Nat.le_of_ble_eq_true rfl, Nat.le_of_ble_eq_true rfl⟩, (by show kb + 3 + 0 ≤ 1200144; omega), (by show sb + 18 + 0 ≤ 5496826; omega)⟩ (zg_retI (fun v44 h22 hE => ?_)) (zg_xok ok tab fin ⟨(by show kb + 3 + 0 ≤ 1200144; omega), (by show sb + 18 + 0 ≤ 5496826; omega)⟩)
  refine zg_cost (kc2 := kb + 3) (ks2 := sb + 18) ⟨(by show kb + 3 + 0 = kb + 3; omega), (by show sb + 18 + 0 = sb + 18; omega)⟩ ?_
  refine zg_istore (L' := [(7, .int v44), (6, .int v41), (0, va_rf l0), (1, va_rf l1), (2, va_rf l2), (3, va_rf l3), (4, va_rf l4), (5, .int l5)]) ok dL_law_575 (by decide) rfl ?_
  refine zg_aload_n ok dL_law_577 rfl 4 rfl ?_
  refine zg_callV (vs := []) (rest := []) (rm := rm_X2_thrown) ok hRm lk_X0_223 dL_law_578 hE (fun hE => mt_X2_thrown hl hE) rfl (Nat.le_of_ble_eq_true rfl) ⟨⟨Nat.le_of_ble_eq_true rfl, Nat.le_of_ble_eq_true rfl⟩, (by show kb + 3 + 0 ≤ 1200144; omega), (by show sb + 18 + 0 ≤ 5496826; omega)⟩ (zg_retI (fun v45 h23 hE => ?_)) (zg_xok ok tab fin ⟨(by show kb + 3 + 0 ≤ 1200144; omega), (by show sb + 18 + 0 ≤ 5496826; omega)⟩)
  refine zg_cost (kc2 := kb + 3) (ks2 := sb + 18) ⟨(by show kb + 3 + 0 = kb + 3; omega), (by show sb + 18 + 0 = sb + 18; omega)⟩ ?_
  refine zg_iload ok dL_law_581 1 rfl ?_
  refine zg_icmp_eq (tgt := 588) ok dL_law_583 (by decide) hE (fun hE => ?_) (fun hE => ?_)
  · refine zg_iload ok dL_law_588 1 rfl ?_
    refine zg_if_ne (tgt := 605) ok dL_law_590 (by decide) hE (fun hE => ?_) (fun hE => ?_)
    · refine zg_sub (L' := [(0, va_rf l0), (1, va_rf l1), (2, va_rf l2), (3, va_rf l3), (4, va_rf l4), (5, .int l5)]) [2, 3, 4, 5, 6, 7] rfl ?_
      exact gt_f_law_J605 hl ok tab fin hRm hk hKE hR  hE
    · refine zg_aload_n ok dL_law_593 rfl 5 rfl ?_
      refine zg_iconst (v := 0) ok dL_law_594 (by decide) ?_
      refine zg_lald ok dL_law_595 hE (fun v46 hE => ?_)
      refine zg_iload ok dL_law_596 0 rfl ?_
      refine zg_i2l ok dL_law_598 ?_
      refine zg_lcmp ok dL_law_599 ?_
      refine zg_if_eq (tgt := 605) ok dL_law_600 (by decide) hE (fun hE => ?_) (fun hE => ?_)
      · refine zg_sub (L' := [(0, va_rf l0), (1, va_rf l1), (2, va_rf l2), (3, va_rf l3), (4, va_rf l4), (5, .int l5)]) [2, 3, 4, 5, 6, 7] rfl ?_
        exact gt_f_law_J605 hl ok tab fin hRm hk hKE hR  hE
      · refine zg_iconst (v := 0) ok dL_law_603 (by decide) ?_
        exact zg_zret ok fin dL_law_604 ⟨(by omega), (by omega)⟩ rfl hE
  · refine zg_iconst (v := 0) ok dL_law_586 (by decide) ?_
    exact zg_zret ok fin dL_law_587 ⟨(by omega), (by omega)⟩ rfl hE
set_option maxHeartbeats 8000000 in
theorem gt_f_law_J661 {Xc : zw_X} {Q : Int32 → zw_H → Prop} {X : String → Nat → zw_H → Prop} (hl : (zw_l Xc).stackTraces = false) (ok : zw_ok Xc cL_law "MultipoleLineLaw" "law" 9) (tab : zw_tab Xc []) (fin : zw_fin Xc (Option.some Jvm.ClassFile.FieldType.boolean) (zq_I Q) X 1200144 5496826) (hRm : zw_rm Xc = rm_law) {kb sb KE SE : Nat} (hk : kb + 1139 ≤ KE ∧ sb + 73158 ≤ SE) (hKE : KE ≤ 1200144 ∧ SE ≤ 5496826) {R : Int32 → zw_H → Prop} {l0 : Option Nat} {l1 : Option Nat} {l2 : Option Nat} {l3 : Option Nat} {l4 : Option Nat} (hR : ∀ (l5 : Int32) (h : zw_H), R l5 h → zw_G Xc (kb + 1139) (sb + 73158) 9 h 28 [(0, va_rf l0), (1, va_rf l1), (2, va_rf l2), (3, va_rf l3), (4, va_rf l4), (5, .int l5)] [])  {l5 : Int32}  {h : zw_H} (hE : f_law_J661 (zw_Zf Xc).2.2.2 Q X R l0 l1 l2 l3 l4 l5 h) : zw_G Xc (kb + 2) (sb + 12) 9 h 661 [(0, va_rf l0), (1, va_rf l1), (2, va_rf l2), (3, va_rf l3), (4, va_rf l4), (5, .int l5)] [] := by
  unfold f_law_J661 at hE
  refine zg_goto (tgt := 4220) ok dL_law_661 (by decide) ?_
  refine zg_wide (kc2 := kb + 1139) (ks2 := sb + 73158) (by omega) (by omega) ?_
  exact gt_f_law_J4220 hl ok tab fin hRm hk hKE hR  hE
set_option maxHeartbeats 8000000 in
theorem gt_f_law_J608 {Xc : zw_X} {Q : Int32 → zw_H → Prop} {X : String → Nat → zw_H → Prop} (hl : (zw_l Xc).stackTraces = false) (ok : zw_ok Xc cL_law "MultipoleLineLaw" "law" 9) (tab : zw_tab Xc []) (fin : zw_fin Xc (Option.some Jvm.ClassFile.FieldType.boolean) (zq_I Q) X 1200144 5496826) (hRm : zw_rm Xc = rm_law) {kb sb KE SE : Nat} (hk : kb + 1139 ≤ KE ∧ sb + 73158 ≤ SE) (hKE : KE ≤ 1200144 ∧ SE ≤ 5496826) {R : Int32 → zw_H → Prop} {l0 : Option Nat} {l1 : Option Nat} {l2 : Option Nat} {l3 : Option Nat} {l4 : Option Nat} (hR : ∀ (l5 : Int32) (h : zw_H), R l5 h → zw_G Xc (kb + 1139) (sb + 73158) 9 h 28 [(0, va_rf l0), (1, va_rf l1), (2, va_rf l2), (3, va_rf l3), (4, va_rf l4), (5, .int l5)] [])  {l5 : Int32}  {h : zw_H} (hE : f_law_J608 (zw_Zf Xc).2.2.2 Q X R l0 l1 l2 l3 l4 l5 h) : zw_G Xc kb sb 9 h 608 [(0, va_rf l0), (1, va_rf l1), (2, va_rf l2), (3, va_rf l3), (4, va_rf l4), (5, .int l5)] [] := by
  unfold f_law_J608 at hE
  refine zg_aload_n ok dL_law_608 rfl 1 rfl ?_
  refine zg_aload_n ok dL_law_609 rfl 0 rfl ?_
  refine zg_iload ok dL_law_610 5 rfl ?_
  refine zg_iconst (v := 1) ok dL_law_612 (by decide) ?_
  refine zg_iadd ok dL_law_613 ?_
  refine zg_iald ok dL_law_614 hE (fun v47 hE => ?_)
  refine zg_aload_n ok dL_law_615 rfl 3 rfl ?_
  refine zg_callSX (vs := [zA l1, zI v47, zA l3]) (rest := []) (rm := rm_X0_bodyAt) ok hRm lk_X0_245 dL_law_616 hE (fun hE => mt_X0_bodyAt hl hE) rfl (Nat.le_of_ble_eq_true rfl) ⟨⟨Nat.le_of_ble_eq_true rfl, Nat.le_of_ble_eq_true rfl⟩, (by show kb + 2 ≤ 1200144; omega), (by show sb + 12 ≤ 5496826; omega)⟩ (zg_retI (fun v48 h24 hE => ?_)) (zg_xok ok tab fin ⟨(by show kb + 2 ≤ 1200144; omega), (by show sb + 12 ≤ 5496826; omega)⟩)
  refine zg_cost (kc2 := kb + 2) (ks2 := sb + 12) ⟨(by show kb + 2 = kb + 2; omega), (by show sb + 12 = sb + 12; omega)⟩ ?_
  refine zg_istore (L' := [(6, .int v48), (0, va_rf l0), (1, va_rf l1), (2, va_rf l2), (3, va_rf l3), (4, va_rf l4), (5, .int l5)]) ok dL_law_619 (by decide) rfl ?_
  refine zg_aload_n ok dL_law_621 rfl 3 rfl ?_
  refine zg_aload_n ok dL_law_622 rfl 1 rfl ?_
  refine zg_iload ok dL_law_623 6 rfl ?_
  refine zg_iconst (v := 1) ok dL_law_625 (by decide) ?_
  refine zg_iadd ok dL_law_626 ?_
  refine zg_iald ok dL_law_627 hE (fun v49 hE => ?_)
  refine zg_callV (vs := [zI v49]) (rest := []) (rm := rm_X2_bodyAt) ok hRm lk_X0_247 dL_law_628 hE (fun hE => mt_X2_bodyAt hl hE) rfl (Nat.le_of_ble_eq_true rfl) ⟨⟨Nat.le_of_ble_eq_true rfl, Nat.le_of_ble_eq_true rfl⟩, (by show kb + 2 + 0 ≤ 1200144; omega), (by show sb + 12 + 0 ≤ 5496826; omega)⟩ (zg_retI (fun v50 h25 hE => ?_)) (zg_xok ok tab fin ⟨(by show kb + 2 + 0 ≤ 1200144; omega), (by show sb + 12 + 0 ≤ 5496826; omega)⟩)
  refine zg_cost (kc2 := kb + 2) (ks2 := sb + 12) ⟨(by show kb + 2 + 0 = kb + 2; omega), (by show sb + 12 + 0 = sb + 12; omega)⟩ ?_
  refine zg_istore (L' := [(7, .int v50), (6, .int v48), (0, va_rf l0), (1, va_rf l1), (2, va_rf l2), (3, va_rf l3), (4, va_rf l4), (5, .int l5)]) ok dL_law_631 (by decide) rfl ?_
  refine zg_aload_n ok dL_law_633 rfl 4 rfl ?_
  refine zg_callV (vs := []) (rest := []) (rm := rm_X2_thrown) ok hRm lk_X0_223 dL_law_634 hE (fun hE => mt_X2_thrown hl hE) rfl (Nat.le_of_ble_eq_true rfl) ⟨⟨Nat.le_of_ble_eq_true rfl, Nat.le_of_ble_eq_true rfl⟩, (by show kb + 2 + 0 ≤ 1200144; omega), (by show sb + 12 + 0 ≤ 5496826; omega)⟩ (zg_retI (fun v51 h26 hE => ?_)) (zg_xok ok tab fin ⟨(by show kb + 2 + 0 ≤ 1200144; omega), (by show sb + 12 + 0 ≤ 5496826; omega)⟩)
  refine zg_cost (kc2 := kb + 2) (ks2 := sb + 12) ⟨(by show kb + 2 + 0 = kb + 2; omega), (by show sb + 12 + 0 = sb + 12; omega)⟩ ?_
  refine zg_iload ok dL_law_637 1 rfl ?_
  refine zg_icmp_eq (tgt := 644) ok dL_law_639 (by decide) hE (fun hE => ?_) (fun hE => ?_)
  · refine zg_iload ok dL_law_644 1 rfl ?_
    refine zg_if_ne (tgt := 661) ok dL_law_646 (by decide) hE (fun hE => ?_) (fun hE => ?_)
    · refine zg_sub (L' := [(0, va_rf l0), (1, va_rf l1), (2, va_rf l2), (3, va_rf l3), (4, va_rf l4), (5, .int l5)]) [2, 3, 4, 5, 6, 7] rfl ?_
      exact gt_f_law_J661 hl ok tab fin hRm hk hKE hR  hE
    · refine zg_aload_n ok dL_law_649 rfl 5 rfl ?_
      refine zg_iconst (v := 0) ok dL_law_650 (by decide) ?_
      refine zg_lald ok dL_law_651 hE (fun v52 hE => ?_)
      refine zg_iload ok dL_law_652 0 rfl ?_
      refine zg_i2l ok dL_law_654 ?_
      refine zg_lcmp ok dL_law_655 ?_
      refine zg_if_eq (tgt := 661) ok dL_law_656 (by decide) hE (fun hE => ?_) (fun hE => ?_)
      · refine zg_sub (L' := [(0, va_rf l0), (1, va_rf l1), (2, va_rf l2), (3, va_rf l3), (4, va_rf l4), (5, .int l5)]) [2, 3, 4, 5, 6, 7] rfl ?_
        exact gt_f_law_J661 hl ok tab fin hRm hk hKE hR  hE
      · refine zg_iconst (v := 0) ok dL_law_659 (by decide) ?_
        exact zg_zret ok fin dL_law_660 ⟨(by omega), (by omega)⟩ rfl hE
  · refine zg_iconst (v := 0) ok dL_law_642 (by decide) ?_
    exact zg_zret ok fin dL_law_643 ⟨(by omega), (by omega)⟩ rfl hE
set_option maxHeartbeats 8000000 in
theorem gt_f_law_J741 {Xc : zw_X} {Q : Int32 → zw_H → Prop} {X : String → Nat → zw_H → Prop} (hl : (zw_l Xc).stackTraces = false) (ok : zw_ok Xc cL_law "MultipoleLineLaw" "law" 9) (tab : zw_tab Xc []) (fin : zw_fin Xc (Option.some Jvm.ClassFile.FieldType.boolean) (zq_I Q) X 1200144 5496826) (hRm : zw_rm Xc = rm_law) {kb sb KE SE : Nat} (hk : kb + 1139 ≤ KE ∧ sb + 73158 ≤ SE) (hKE : KE ≤ 1200144 ∧ SE ≤ 5496826) {R : Int32 → zw_H → Prop} {l0 : Option Nat} {l1 : Option Nat} {l2 : Option Nat} {l3 : Option Nat} {l4 : Option Nat} (hR : ∀ (l5 : Int32) (h : zw_H), R l5 h → zw_G Xc (kb + 1139) (sb + 73158) 9 h 28 [(0, va_rf l0), (1, va_rf l1), (2, va_rf l2), (3, va_rf l3), (4, va_rf l4), (5, .int l5)] [])  {l5 : Int32}  {h : zw_H} (hE : f_law_J741 (zw_Zf Xc).2.2.2 Q X R l0 l1 l2 l3 l4 l5 h) : zw_G Xc (kb + 4) (sb + 24) 9 h 741 [(0, va_rf l0), (1, va_rf l1), (2, va_rf l2), (3, va_rf l3), (4, va_rf l4), (5, .int l5)] [] := by
  unfold f_law_J741 at hE
  refine zg_goto (tgt := 4220) ok dL_law_741 (by decide) ?_
  refine zg_wide (kc2 := kb + 1139) (ks2 := sb + 73158) (by omega) (by omega) ?_
  exact gt_f_law_J4220 hl ok tab fin hRm hk hKE hR  hE
set_option maxHeartbeats 8000000 in
theorem gt_f_law_J664 {Xc : zw_X} {Q : Int32 → zw_H → Prop} {X : String → Nat → zw_H → Prop} (hl : (zw_l Xc).stackTraces = false) (ok : zw_ok Xc cL_law "MultipoleLineLaw" "law" 9) (tab : zw_tab Xc []) (fin : zw_fin Xc (Option.some Jvm.ClassFile.FieldType.boolean) (zq_I Q) X 1200144 5496826) (hRm : zw_rm Xc = rm_law) {kb sb KE SE : Nat} (hk : kb + 1139 ≤ KE ∧ sb + 73158 ≤ SE) (hKE : KE ≤ 1200144 ∧ SE ≤ 5496826) {R : Int32 → zw_H → Prop} {l0 : Option Nat} {l1 : Option Nat} {l2 : Option Nat} {l3 : Option Nat} {l4 : Option Nat} (hR : ∀ (l5 : Int32) (h : zw_H), R l5 h → zw_G Xc (kb + 1139) (sb + 73158) 9 h 28 [(0, va_rf l0), (1, va_rf l1), (2, va_rf l2), (3, va_rf l3), (4, va_rf l4), (5, .int l5)] [])  {l5 : Int32}  {h : zw_H} (hE : f_law_J664 (zw_Zf Xc).2.2.2 Q X R l0 l1 l2 l3 l4 l5 h) : zw_G Xc kb sb 9 h 664 [(0, va_rf l0), (1, va_rf l1), (2, va_rf l2), (3, va_rf l3), (4, va_rf l4), (5, .int l5)] [] := by
  unfold f_law_J664 at hE
  refine zg_aload_n ok dL_law_664 rfl 1 rfl ?_
  refine zg_aload_n ok dL_law_665 rfl 0 rfl ?_
  refine zg_iload ok dL_law_666 5 rfl ?_
  refine zg_iconst (v := 1) ok dL_law_668 (by decide) ?_
  refine zg_iadd ok dL_law_669 ?_
  refine zg_iald ok dL_law_670 hE (fun v53 hE => ?_)
  refine zg_aload_n ok dL_law_671 rfl 0 rfl ?_
  refine zg_iload ok dL_law_672 5 rfl ?_
  refine zg_iconst (v := 2) ok dL_law_674 (by decide) ?_
  refine zg_iadd ok dL_law_675 ?_
  refine zg_iald ok dL_law_676 hE (fun v54 hE => ?_)
  refine zg_aload_n ok dL_law_677 rfl 0 rfl ?_
  refine zg_iload ok dL_law_678 5 rfl ?_
  refine zg_iconst (v := 3) ok dL_law_680 (by decide) ?_
  refine zg_iadd ok dL_law_681 ?_
  refine zg_iald ok dL_law_682 hE (fun v55 hE => ?_)
  refine zg_aload_n ok dL_law_683 rfl 3 rfl ?_
  refine zg_callSX (vs := [zA l1, zI v53, zI v54, zI v55, zA l3]) (rest := []) (rm := rm_X0_box) ok hRm lk_X0_248 dL_law_684 hE (fun hE => mt_X0_box hl hE) rfl (Nat.le_of_ble_eq_true rfl) ⟨⟨Nat.le_of_ble_eq_true rfl, Nat.le_of_ble_eq_true rfl⟩, (by show kb + 4 ≤ 1200144; omega), (by show sb + 24 ≤ 5496826; omega)⟩ (zg_retI (fun v56 h27 hE => ?_)) (zg_xok ok tab fin ⟨(by show kb + 4 ≤ 1200144; omega), (by show sb + 24 ≤ 5496826; omega)⟩)
  refine zg_cost (kc2 := kb + 4) (ks2 := sb + 24) ⟨(by show kb + 4 = kb + 4; omega), (by show sb + 24 = sb + 24; omega)⟩ ?_
  refine zg_istore (L' := [(6, .int v56), (0, va_rf l0), (1, va_rf l1), (2, va_rf l2), (3, va_rf l3), (4, va_rf l4), (5, .int l5)]) ok dL_law_687 (by decide) rfl ?_
  refine zg_aload_n ok dL_law_689 rfl 3 rfl ?_
  refine zg_aload_n ok dL_law_690 rfl 1 rfl ?_
  refine zg_iload ok dL_law_691 6 rfl ?_
  refine zg_iconst (v := 1) ok dL_law_693 (by decide) ?_
  refine zg_iadd ok dL_law_694 ?_
  refine zg_iald ok dL_law_695 hE (fun v57 hE => ?_)
  refine zg_aload_n ok dL_law_696 rfl 1 rfl ?_
  refine zg_iload ok dL_law_697 6 rfl ?_
  refine zg_iconst (v := 2) ok dL_law_699 (by decide) ?_
  refine zg_iadd ok dL_law_700 ?_
  refine zg_iald ok dL_law_701 hE (fun v58 hE => ?_)
  refine zg_aload_n ok dL_law_702 rfl 1 rfl ?_
  refine zg_iload ok dL_law_703 6 rfl ?_
  refine zg_iconst (v := 3) ok dL_law_705 (by decide) ?_
  refine zg_iadd ok dL_law_706 ?_
  refine zg_iald ok dL_law_707 hE (fun v59 hE => ?_)
  refine zg_callV (vs := [zI v57, zI v58, zI v59]) (rest := []) (rm := rm_X2_box) ok hRm lk_X0_251 dL_law_708 hE (fun hE => mt_X2_box hl hE) rfl (Nat.le_of_ble_eq_true rfl) ⟨⟨Nat.le_of_ble_eq_true rfl, Nat.le_of_ble_eq_true rfl⟩, (by show kb + 4 + 0 ≤ 1200144; omega), (by show sb + 24 + 0 ≤ 5496826; omega)⟩ (zg_retI (fun v60 h28 hE => ?_)) (zg_xok ok tab fin ⟨(by show kb + 4 + 0 ≤ 1200144; omega), (by show sb + 24 + 0 ≤ 5496826; omega)⟩)
  refine zg_cost (kc2 := kb + 4) (ks2 := sb + 24) ⟨(by show kb + 4 + 0 = kb + 4; omega), (by show sb + 24 + 0 = sb + 24; omega)⟩ ?_
  refine zg_istore (L' := [(7, .int v60), (6, .int v56), (0, va_rf l0), (1, va_rf l1), (2, va_rf l2), (3, va_rf l3), (4, va_rf l4), (5, .int l5)]) ok dL_law_711 (by decide) rfl ?_
  refine zg_aload_n ok dL_law_713 rfl 4 rfl ?_
  refine zg_callV (vs := []) (rest := []) (rm := rm_X2_thrown) ok hRm lk_X0_223 dL_law_714 hE (fun hE => mt_X2_thrown hl hE) rfl (Nat.le_of_ble_eq_true rfl) ⟨⟨Nat.le_of_ble_eq_true rfl, Nat.le_of_ble_eq_true rfl⟩, (by show kb + 4 + 0 ≤ 1200144; omega), (by show sb + 24 + 0 ≤ 5496826; omega)⟩ (zg_retI (fun v61 h29 hE => ?_)) (zg_xok ok tab fin ⟨(by show kb + 4 + 0 ≤ 1200144; omega), (by show sb + 24 + 0 ≤ 5496826; omega)⟩)
  refine zg_cost (kc2 := kb + 4) (ks2 := sb + 24) ⟨(by show kb + 4 + 0 = kb + 4; omega), (by show sb + 24 + 0 = sb + 24; omega)⟩ ?_
  refine zg_iload ok dL_law_717 1 rfl ?_
  refine zg_icmp_eq (tgt := 724) ok dL_law_719 (by decide) hE (fun hE => ?_) (fun hE => ?_)
  · refine zg_iload ok dL_law_724 1 rfl ?_
    refine zg_if_ne (tgt := 741) ok dL_law_726 (by decide) hE (fun hE => ?_) (fun hE => ?_)
    · refine zg_sub (L' := [(0, va_rf l0), (1, va_rf l1), (2, va_rf l2), (3, va_rf l3), (4, va_rf l4), (5, .int l5)]) [2, 3, 4, 5, 6, 7] rfl ?_
      exact gt_f_law_J741 hl ok tab fin hRm hk hKE hR  hE
    · refine zg_aload_n ok dL_law_729 rfl 5 rfl ?_
      refine zg_iconst (v := 0) ok dL_law_730 (by decide) ?_
      refine zg_lald ok dL_law_731 hE (fun v62 hE => ?_)
      refine zg_iload ok dL_law_732 0 rfl ?_
      refine zg_i2l ok dL_law_734 ?_
      refine zg_lcmp ok dL_law_735 ?_
      refine zg_if_eq (tgt := 741) ok dL_law_736 (by decide) hE (fun hE => ?_) (fun hE => ?_)
      · refine zg_sub (L' := [(0, va_rf l0), (1, va_rf l1), (2, va_rf l2), (3, va_rf l3), (4, va_rf l4), (5, .int l5)]) [2, 3, 4, 5, 6, 7] rfl ?_
        exact gt_f_law_J741 hl ok tab fin hRm hk hKE hR  hE
      · refine zg_iconst (v := 0) ok dL_law_739 (by decide) ?_
        exact zg_zret ok fin dL_law_740 ⟨(by omega), (by omega)⟩ rfl hE
  · refine zg_iconst (v := 0) ok dL_law_722 (by decide) ?_
    exact zg_zret ok fin dL_law_723 ⟨(by omega), (by omega)⟩ rfl hE
set_option maxHeartbeats 8000000 in
theorem gt_f_law_J809 {Xc : zw_X} {Q : Int32 → zw_H → Prop} {X : String → Nat → zw_H → Prop} (hl : (zw_l Xc).stackTraces = false) (ok : zw_ok Xc cL_law "MultipoleLineLaw" "law" 9) (tab : zw_tab Xc []) (fin : zw_fin Xc (Option.some Jvm.ClassFile.FieldType.boolean) (zq_I Q) X 1200144 5496826) (hRm : zw_rm Xc = rm_law) {kb sb KE SE : Nat} (hk : kb + 1139 ≤ KE ∧ sb + 73158 ≤ SE) (hKE : KE ≤ 1200144 ∧ SE ≤ 5496826) {R : Int32 → zw_H → Prop} {l0 : Option Nat} {l1 : Option Nat} {l2 : Option Nat} {l3 : Option Nat} {l4 : Option Nat} (hR : ∀ (l5 : Int32) (h : zw_H), R l5 h → zw_G Xc (kb + 1139) (sb + 73158) 9 h 28 [(0, va_rf l0), (1, va_rf l1), (2, va_rf l2), (3, va_rf l3), (4, va_rf l4), (5, .int l5)] [])  {l5 : Int32}  {h : zw_H} (hE : f_law_J809 (zw_Zf Xc).2.2.2 Q X R l0 l1 l2 l3 l4 l5 h) : zw_G Xc (kb + 5) (sb + 30) 9 h 809 [(0, va_rf l0), (1, va_rf l1), (2, va_rf l2), (3, va_rf l3), (4, va_rf l4), (5, .int l5)] [] := by
  unfold f_law_J809 at hE
  refine zg_goto (tgt := 4220) ok dL_law_809 (by decide) ?_
  refine zg_wide (kc2 := kb + 1139) (ks2 := sb + 73158) (by omega) (by omega) ?_
  exact gt_f_law_J4220 hl ok tab fin hRm hk hKE hR  hE
set_option maxHeartbeats 8000000 in
theorem gt_f_law_J744 {Xc : zw_X} {Q : Int32 → zw_H → Prop} {X : String → Nat → zw_H → Prop} (hl : (zw_l Xc).stackTraces = false) (ok : zw_ok Xc cL_law "MultipoleLineLaw" "law" 9) (tab : zw_tab Xc []) (fin : zw_fin Xc (Option.some Jvm.ClassFile.FieldType.boolean) (zq_I Q) X 1200144 5496826) (hRm : zw_rm Xc = rm_law) {kb sb KE SE : Nat} (hk : kb + 1139 ≤ KE ∧ sb + 73158 ≤ SE) (hKE : KE ≤ 1200144 ∧ SE ≤ 5496826) {R : Int32 → zw_H → Prop} {l0 : Option Nat} {l1 : Option Nat} {l2 : Option Nat} {l3 : Option Nat} {l4 : Option Nat} (hR : ∀ (l5 : Int32) (h : zw_H), R l5 h → zw_G Xc (kb + 1139) (sb + 73158) 9 h 28 [(0, va_rf l0), (1, va_rf l1), (2, va_rf l2), (3, va_rf l3), (4, va_rf l4), (5, .int l5)] [])  {l5 : Int32}  {h : zw_H} (hE : f_law_J744 (zw_Zf Xc).2.2.2 Q X R l0 l1 l2 l3 l4 l5 h) : zw_G Xc kb sb 9 h 744 [(0, va_rf l0), (1, va_rf l1), (2, va_rf l2), (3, va_rf l3), (4, va_rf l4), (5, .int l5)] [] := by
  unfold f_law_J744 at hE
  refine zg_aload_n ok dL_law_744 rfl 1 rfl ?_
  refine zg_aload_n ok dL_law_745 rfl 0 rfl ?_
  refine zg_iload ok dL_law_746 5 rfl ?_
  refine zg_iconst (v := 1) ok dL_law_748 (by decide) ?_
  refine zg_iadd ok dL_law_749 ?_
  refine zg_iald ok dL_law_750 hE (fun v63 hE => ?_)
  refine zg_aload_n ok dL_law_751 rfl 0 rfl ?_
  refine zg_iload ok dL_law_752 5 rfl ?_
  refine zg_iconst (v := 2) ok dL_law_754 (by decide) ?_
  refine zg_iadd ok dL_law_755 ?_
  refine zg_iald ok dL_law_756 hE (fun v64 hE => ?_)
  refine zg_aload_n ok dL_law_757 rfl 3 rfl ?_
  refine zg_callSX (vs := [zA l1, zI v63, zI v64, zA l3]) (rest := []) (rm := rm_X0_boxAt) ok hRm lk_X0_252 dL_law_758 hE (fun hE => mt_X0_boxAt hl hE) rfl (Nat.le_of_ble_eq_true rfl) ⟨⟨Nat.le_of_ble_eq_true rfl, Nat.le_of_ble_eq_true rfl⟩, (by show kb + 5 ≤ 1200144; omega), (by show sb + 30 ≤ 5496826; omega)⟩ (zg_retI (fun v65 h30 hE => ?_)) (zg_xok ok tab fin ⟨(by show kb + 5 ≤ 1200144; omega), (by show sb + 30 ≤ 5496826; omega)⟩)
  refine zg_cost (kc2 := kb + 5) (ks2 := sb + 30) ⟨(by show kb + 5 = kb + 5; omega), (by show sb + 30 = sb + 30; omega)⟩ ?_
  refine zg_istore (L' := [(6, .int v65), (0, va_rf l0), (1, va_rf l1), (2, va_rf l2), (3, va_rf l3), (4, va_rf l4), (5, .int l5)]) ok dL_law_761 (by decide) rfl ?_
  refine zg_aload_n ok dL_law_763 rfl 3 rfl ?_
  refine zg_aload_n ok dL_law_764 rfl 1 rfl ?_
  refine zg_iload ok dL_law_765 6 rfl ?_
  refine zg_iconst (v := 1) ok dL_law_767 (by decide) ?_
  refine zg_iadd ok dL_law_768 ?_
  refine zg_iald ok dL_law_769 hE (fun v66 hE => ?_)
  refine zg_aload_n ok dL_law_770 rfl 1 rfl ?_
  refine zg_iload ok dL_law_771 6 rfl ?_
  refine zg_iconst (v := 2) ok dL_law_773 (by decide) ?_
  refine zg_iadd ok dL_law_774 ?_
  refine zg_iald ok dL_law_775 hE (fun v67 hE => ?_)
  refine zg_callV (vs := [zI v66, zI v67]) (rest := []) (rm := rm_X2_boxAt) ok hRm lk_X0_254 dL_law_776 hE (fun hE => mt_X2_boxAt hl hE) rfl (Nat.le_of_ble_eq_true rfl) ⟨⟨Nat.le_of_ble_eq_true rfl, Nat.le_of_ble_eq_true rfl⟩, (by show kb + 5 + 0 ≤ 1200144; omega), (by show sb + 30 + 0 ≤ 5496826; omega)⟩ (zg_retI (fun v68 h31 hE => ?_)) (zg_xok ok tab fin ⟨(by show kb + 5 + 0 ≤ 1200144; omega), (by show sb + 30 + 0 ≤ 5496826; omega)⟩)
  refine zg_cost (kc2 := kb + 5) (ks2 := sb + 30) ⟨(by show kb + 5 + 0 = kb + 5; omega), (by show sb + 30 + 0 = sb + 30; omega)⟩ ?_
  refine zg_istore (L' := [(7, .int v68), (6, .int v65), (0, va_rf l0), (1, va_rf l1), (2, va_rf l2), (3, va_rf l3), (4, va_rf l4), (5, .int l5)]) ok dL_law_779 (by decide) rfl ?_
  refine zg_aload_n ok dL_law_781 rfl 4 rfl ?_
  refine zg_callV (vs := []) (rest := []) (rm := rm_X2_thrown) ok hRm lk_X0_223 dL_law_782 hE (fun hE => mt_X2_thrown hl hE) rfl (Nat.le_of_ble_eq_true rfl) ⟨⟨Nat.le_of_ble_eq_true rfl, Nat.le_of_ble_eq_true rfl⟩, (by show kb + 5 + 0 ≤ 1200144; omega), (by show sb + 30 + 0 ≤ 5496826; omega)⟩ (zg_retI (fun v69 h32 hE => ?_)) (zg_xok ok tab fin ⟨(by show kb + 5 + 0 ≤ 1200144; omega), (by show sb + 30 + 0 ≤ 5496826; omega)⟩)
  refine zg_cost (kc2 := kb + 5) (ks2 := sb + 30) ⟨(by show kb + 5 + 0 = kb + 5; omega), (by show sb + 30 + 0 = sb + 30; omega)⟩ ?_
  refine zg_iload ok dL_law_785 1 rfl ?_
  refine zg_icmp_eq (tgt := 792) ok dL_law_787 (by decide) hE (fun hE => ?_) (fun hE => ?_)
  · refine zg_iload ok dL_law_792 1 rfl ?_
    refine zg_if_ne (tgt := 809) ok dL_law_794 (by decide) hE (fun hE => ?_) (fun hE => ?_)
    · refine zg_sub (L' := [(0, va_rf l0), (1, va_rf l1), (2, va_rf l2), (3, va_rf l3), (4, va_rf l4), (5, .int l5)]) [2, 3, 4, 5, 6, 7] rfl ?_
      exact gt_f_law_J809 hl ok tab fin hRm hk hKE hR  hE
    · refine zg_aload_n ok dL_law_797 rfl 5 rfl ?_
      refine zg_iconst (v := 0) ok dL_law_798 (by decide) ?_
      refine zg_lald ok dL_law_799 hE (fun v70 hE => ?_)
      refine zg_iload ok dL_law_800 0 rfl ?_
      refine zg_i2l ok dL_law_802 ?_
      refine zg_lcmp ok dL_law_803 ?_
      refine zg_if_eq (tgt := 809) ok dL_law_804 (by decide) hE (fun hE => ?_) (fun hE => ?_)
      · refine zg_sub (L' := [(0, va_rf l0), (1, va_rf l1), (2, va_rf l2), (3, va_rf l3), (4, va_rf l4), (5, .int l5)]) [2, 3, 4, 5, 6, 7] rfl ?_
        exact gt_f_law_J809 hl ok tab fin hRm hk hKE hR  hE
      · refine zg_iconst (v := 0) ok dL_law_807 (by decide) ?_
        exact zg_zret ok fin dL_law_808 ⟨(by omega), (by omega)⟩ rfl hE
  · refine zg_iconst (v := 0) ok dL_law_790 (by decide) ?_
    exact zg_zret ok fin dL_law_791 ⟨(by omega), (by omega)⟩ rfl hE
set_option maxHeartbeats 8000000 in
theorem gt_f_law_J853 {Xc : zw_X} {Q : Int32 → zw_H → Prop} {X : String → Nat → zw_H → Prop} (hl : (zw_l Xc).stackTraces = false) (ok : zw_ok Xc cL_law "MultipoleLineLaw" "law" 9) (tab : zw_tab Xc []) (fin : zw_fin Xc (Option.some Jvm.ClassFile.FieldType.boolean) (zq_I Q) X 1200144 5496826) (hRm : zw_rm Xc = rm_law) {kb sb KE SE : Nat} (hk : kb + 1139 ≤ KE ∧ sb + 73158 ≤ SE) (hKE : KE ≤ 1200144 ∧ SE ≤ 5496826) {R : Int32 → zw_H → Prop} {l0 : Option Nat} {l1 : Option Nat} {l2 : Option Nat} {l3 : Option Nat} {l4 : Option Nat} (hR : ∀ (l5 : Int32) (h : zw_H), R l5 h → zw_G Xc (kb + 1139) (sb + 73158) 9 h 28 [(0, va_rf l0), (1, va_rf l1), (2, va_rf l2), (3, va_rf l3), (4, va_rf l4), (5, .int l5)] [])  {l5 : Int32}  {h : zw_H} (hE : f_law_J853 (zw_Zf Xc).2.2.2 Q X R l0 l1 l2 l3 l4 l5 h) : zw_G Xc (kb + 3) (sb + 13) 9 h 853 [(0, va_rf l0), (1, va_rf l1), (2, va_rf l2), (3, va_rf l3), (4, va_rf l4), (5, .int l5)] [] := by
  unfold f_law_J853 at hE
  refine zg_goto (tgt := 4220) ok dL_law_853 (by decide) ?_
  refine zg_wide (kc2 := kb + 1139) (ks2 := sb + 73158) (by omega) (by omega) ?_
  exact gt_f_law_J4220 hl ok tab fin hRm hk hKE hR  hE
set_option maxHeartbeats 8000000 in
theorem gt_f_law_J812 {Xc : zw_X} {Q : Int32 → zw_H → Prop} {X : String → Nat → zw_H → Prop} (hl : (zw_l Xc).stackTraces = false) (ok : zw_ok Xc cL_law "MultipoleLineLaw" "law" 9) (tab : zw_tab Xc []) (fin : zw_fin Xc (Option.some Jvm.ClassFile.FieldType.boolean) (zq_I Q) X 1200144 5496826) (hRm : zw_rm Xc = rm_law) {kb sb KE SE : Nat} (hk : kb + 1139 ≤ KE ∧ sb + 73158 ≤ SE) (hKE : KE ≤ 1200144 ∧ SE ≤ 5496826) {R : Int32 → zw_H → Prop} {l0 : Option Nat} {l1 : Option Nat} {l2 : Option Nat} {l3 : Option Nat} {l4 : Option Nat} (hR : ∀ (l5 : Int32) (h : zw_H), R l5 h → zw_G Xc (kb + 1139) (sb + 73158) 9 h 28 [(0, va_rf l0), (1, va_rf l1), (2, va_rf l2), (3, va_rf l3), (4, va_rf l4), (5, .int l5)] [])  {l5 : Int32}  {h : zw_H} (hE : f_law_J812 (zw_Zf Xc).2.2.2 Q X R l0 l1 l2 l3 l4 l5 h) : zw_G Xc kb sb 9 h 812 [(0, va_rf l0), (1, va_rf l1), (2, va_rf l2), (3, va_rf l3), (4, va_rf l4), (5, .int l5)] [] := by
  unfold f_law_J812 at hE
  refine zg_aload_n ok dL_law_812 rfl 1 rfl ?_
  refine zg_aload_n ok dL_law_813 rfl 3 rfl ?_
  refine zg_callSX (vs := [zA l1, zA l3]) (rest := []) (rm := rm_X0_firstEmpty) ok hRm lk_X0_255 dL_law_814 hE (fun hE => mt_X0_firstEmpty hl hE) rfl (Nat.le_of_ble_eq_true rfl) ⟨⟨Nat.le_of_ble_eq_true rfl, Nat.le_of_ble_eq_true rfl⟩, (by show kb + 3 ≤ 1200144; omega), (by show sb + 13 ≤ 5496826; omega)⟩ (zg_retI (fun v71 h33 hE => ?_)) (zg_xok ok tab fin ⟨(by show kb + 3 ≤ 1200144; omega), (by show sb + 13 ≤ 5496826; omega)⟩)
  refine zg_cost (kc2 := kb + 3) (ks2 := sb + 13) ⟨(by show kb + 3 = kb + 3; omega), (by show sb + 13 = sb + 13; omega)⟩ ?_
  refine zg_istore (L' := [(6, .int v71), (0, va_rf l0), (1, va_rf l1), (2, va_rf l2), (3, va_rf l3), (4, va_rf l4), (5, .int l5)]) ok dL_law_817 (by decide) rfl ?_
  refine zg_aload_n ok dL_law_819 rfl 3 rfl ?_
  refine zg_callV (vs := []) (rest := []) (rm := rm_X2_firstEmpty) ok hRm lk_X0_258 dL_law_820 hE (fun hE => mt_X2_firstEmpty hl hE) rfl (Nat.le_of_ble_eq_true rfl) ⟨⟨Nat.le_of_ble_eq_true rfl, Nat.le_of_ble_eq_true rfl⟩, (by show kb + 3 + 0 ≤ 1200144; omega), (by show sb + 13 + 0 ≤ 5496826; omega)⟩ (zg_retI (fun v72 h34 hE => ?_)) (zg_xok ok tab fin ⟨(by show kb + 3 + 0 ≤ 1200144; omega), (by show sb + 13 + 0 ≤ 5496826; omega)⟩)
  refine zg_cost (kc2 := kb + 3) (ks2 := sb + 13) ⟨(by show kb + 3 + 0 = kb + 3; omega), (by show sb + 13 + 0 = sb + 13; omega)⟩ ?_
  refine zg_istore (L' := [(7, .int v72), (6, .int v71), (0, va_rf l0), (1, va_rf l1), (2, va_rf l2), (3, va_rf l3), (4, va_rf l4), (5, .int l5)]) ok dL_law_823 (by decide) rfl ?_
  refine zg_aload_n ok dL_law_825 rfl 4 rfl ?_
  refine zg_callV (vs := []) (rest := []) (rm := rm_X2_thrown) ok hRm lk_X0_223 dL_law_826 hE (fun hE => mt_X2_thrown hl hE) rfl (Nat.le_of_ble_eq_true rfl) ⟨⟨Nat.le_of_ble_eq_true rfl, Nat.le_of_ble_eq_true rfl⟩, (by show kb + 3 + 0 ≤ 1200144; omega), (by show sb + 13 + 0 ≤ 5496826; omega)⟩ (zg_retI (fun v73 h35 hE => ?_)) (zg_xok ok tab fin ⟨(by show kb + 3 + 0 ≤ 1200144; omega), (by show sb + 13 + 0 ≤ 5496826; omega)⟩)
  refine zg_cost (kc2 := kb + 3) (ks2 := sb + 13) ⟨(by show kb + 3 + 0 = kb + 3; omega), (by show sb + 13 + 0 = sb + 13; omega)⟩ ?_
  refine zg_iload ok dL_law_829 1 rfl ?_
  refine zg_icmp_eq (tgt := 836) ok dL_law_831 (by decide) hE (fun hE => ?_) (fun hE => ?_)
  · refine zg_iload ok dL_law_836 1 rfl ?_
    refine zg_if_ne (tgt := 853) ok dL_law_838 (by decide) hE (fun hE => ?_) (fun hE => ?_)
    · refine zg_sub (L' := [(0, va_rf l0), (1, va_rf l1), (2, va_rf l2), (3, va_rf l3), (4, va_rf l4), (5, .int l5)]) [2, 3, 4, 5, 6, 7] rfl ?_
      exact gt_f_law_J853 hl ok tab fin hRm hk hKE hR  hE
    · refine zg_aload_n ok dL_law_841 rfl 5 rfl ?_
      refine zg_iconst (v := 0) ok dL_law_842 (by decide) ?_
      refine zg_lald ok dL_law_843 hE (fun v74 hE => ?_)
      refine zg_iload ok dL_law_844 0 rfl ?_
      refine zg_i2l ok dL_law_846 ?_
      refine zg_lcmp ok dL_law_847 ?_
      refine zg_if_eq (tgt := 853) ok dL_law_848 (by decide) hE (fun hE => ?_) (fun hE => ?_)
      · refine zg_sub (L' := [(0, va_rf l0), (1, va_rf l1), (2, va_rf l2), (3, va_rf l3), (4, va_rf l4), (5, .int l5)]) [2, 3, 4, 5, 6, 7] rfl ?_
        exact gt_f_law_J853 hl ok tab fin hRm hk hKE hR  hE
      · refine zg_iconst (v := 0) ok dL_law_851 (by decide) ?_
        exact zg_zret ok fin dL_law_852 ⟨(by omega), (by omega)⟩ rfl hE
  · refine zg_iconst (v := 0) ok dL_law_834 (by decide) ?_
    exact zg_zret ok fin dL_law_835 ⟨(by omega), (by omega)⟩ rfl hE
set_option maxHeartbeats 8000000 in
theorem gt_f_law_J897 {Xc : zw_X} {Q : Int32 → zw_H → Prop} {X : String → Nat → zw_H → Prop} (hl : (zw_l Xc).stackTraces = false) (ok : zw_ok Xc cL_law "MultipoleLineLaw" "law" 9) (tab : zw_tab Xc []) (fin : zw_fin Xc (Option.some Jvm.ClassFile.FieldType.boolean) (zq_I Q) X 1200144 5496826) (hRm : zw_rm Xc = rm_law) {kb sb KE SE : Nat} (hk : kb + 1139 ≤ KE ∧ sb + 73158 ≤ SE) (hKE : KE ≤ 1200144 ∧ SE ≤ 5496826) {R : Int32 → zw_H → Prop} {l0 : Option Nat} {l1 : Option Nat} {l2 : Option Nat} {l3 : Option Nat} {l4 : Option Nat} (hR : ∀ (l5 : Int32) (h : zw_H), R l5 h → zw_G Xc (kb + 1139) (sb + 73158) 9 h 28 [(0, va_rf l0), (1, va_rf l1), (2, va_rf l2), (3, va_rf l3), (4, va_rf l4), (5, .int l5)] [])  {l5 : Int32}  {h : zw_H} (hE : f_law_J897 (zw_Zf Xc).2.2.2 Q X R l0 l1 l2 l3 l4 l5 h) : zw_G Xc (kb + 3) (sb + 13) 9 h 897 [(0, va_rf l0), (1, va_rf l1), (2, va_rf l2), (3, va_rf l3), (4, va_rf l4), (5, .int l5)] [] := by
  unfold f_law_J897 at hE
  refine zg_goto (tgt := 4220) ok dL_law_897 (by decide) ?_
  refine zg_wide (kc2 := kb + 1139) (ks2 := sb + 73158) (by omega) (by omega) ?_
  exact gt_f_law_J4220 hl ok tab fin hRm hk hKE hR  hE
set_option maxHeartbeats 8000000 in
theorem gt_f_law_J856 {Xc : zw_X} {Q : Int32 → zw_H → Prop} {X : String → Nat → zw_H → Prop} (hl : (zw_l Xc).stackTraces = false) (ok : zw_ok Xc cL_law "MultipoleLineLaw" "law" 9) (tab : zw_tab Xc []) (fin : zw_fin Xc (Option.some Jvm.ClassFile.FieldType.boolean) (zq_I Q) X 1200144 5496826) (hRm : zw_rm Xc = rm_law) {kb sb KE SE : Nat} (hk : kb + 1139 ≤ KE ∧ sb + 73158 ≤ SE) (hKE : KE ≤ 1200144 ∧ SE ≤ 5496826) {R : Int32 → zw_H → Prop} {l0 : Option Nat} {l1 : Option Nat} {l2 : Option Nat} {l3 : Option Nat} {l4 : Option Nat} (hR : ∀ (l5 : Int32) (h : zw_H), R l5 h → zw_G Xc (kb + 1139) (sb + 73158) 9 h 28 [(0, va_rf l0), (1, va_rf l1), (2, va_rf l2), (3, va_rf l3), (4, va_rf l4), (5, .int l5)] [])  {l5 : Int32}  {h : zw_H} (hE : f_law_J856 (zw_Zf Xc).2.2.2 Q X R l0 l1 l2 l3 l4 l5 h) : zw_G Xc kb sb 9 h 856 [(0, va_rf l0), (1, va_rf l1), (2, va_rf l2), (3, va_rf l3), (4, va_rf l4), (5, .int l5)] [] := by
  unfold f_law_J856 at hE
  refine zg_aload_n ok dL_law_856 rfl 1 rfl ?_
  refine zg_aload_n ok dL_law_857 rfl 3 rfl ?_
  refine zg_callSX (vs := [zA l1, zA l3]) (rest := []) (rm := rm_X0_densest) ok hRm lk_X0_259 dL_law_858 hE (fun hE => mt_X0_densest hl hE) rfl (Nat.le_of_ble_eq_true rfl) ⟨⟨Nat.le_of_ble_eq_true rfl, Nat.le_of_ble_eq_true rfl⟩, (by show kb + 3 ≤ 1200144; omega), (by show sb + 13 ≤ 5496826; omega)⟩ (zg_retI (fun v75 h36 hE => ?_)) (zg_xok ok tab fin ⟨(by show kb + 3 ≤ 1200144; omega), (by show sb + 13 ≤ 5496826; omega)⟩)
  refine zg_cost (kc2 := kb + 3) (ks2 := sb + 13) ⟨(by show kb + 3 = kb + 3; omega), (by show sb + 13 = sb + 13; omega)⟩ ?_
  refine zg_istore (L' := [(6, .int v75), (0, va_rf l0), (1, va_rf l1), (2, va_rf l2), (3, va_rf l3), (4, va_rf l4), (5, .int l5)]) ok dL_law_861 (by decide) rfl ?_
  refine zg_aload_n ok dL_law_863 rfl 3 rfl ?_
  refine zg_callV (vs := []) (rest := []) (rm := rm_X2_densest) ok hRm lk_X0_261 dL_law_864 hE (fun hE => mt_X2_densest hl hE) rfl (Nat.le_of_ble_eq_true rfl) ⟨⟨Nat.le_of_ble_eq_true rfl, Nat.le_of_ble_eq_true rfl⟩, (by show kb + 3 + 0 ≤ 1200144; omega), (by show sb + 13 + 0 ≤ 5496826; omega)⟩ (zg_retI (fun v76 h37 hE => ?_)) (zg_xok ok tab fin ⟨(by show kb + 3 + 0 ≤ 1200144; omega), (by show sb + 13 + 0 ≤ 5496826; omega)⟩)
  refine zg_cost (kc2 := kb + 3) (ks2 := sb + 13) ⟨(by show kb + 3 + 0 = kb + 3; omega), (by show sb + 13 + 0 = sb + 13; omega)⟩ ?_
  refine zg_istore (L' := [(7, .int v76), (6, .int v75), (0, va_rf l0), (1, va_rf l1), (2, va_rf l2), (3, va_rf l3), (4, va_rf l4), (5, .int l5)]) ok dL_law_867 (by decide) rfl ?_
  refine zg_aload_n ok dL_law_869 rfl 4 rfl ?_
  refine zg_callV (vs := []) (rest := []) (rm := rm_X2_thrown) ok hRm lk_X0_223 dL_law_870 hE (fun hE => mt_X2_thrown hl hE) rfl (Nat.le_of_ble_eq_true rfl) ⟨⟨Nat.le_of_ble_eq_true rfl, Nat.le_of_ble_eq_true rfl⟩, (by show kb + 3 + 0 ≤ 1200144; omega), (by show sb + 13 + 0 ≤ 5496826; omega)⟩ (zg_retI (fun v77 h38 hE => ?_)) (zg_xok ok tab fin ⟨(by show kb + 3 + 0 ≤ 1200144; omega), (by show sb + 13 + 0 ≤ 5496826; omega)⟩)
  refine zg_cost (kc2 := kb + 3) (ks2 := sb + 13) ⟨(by show kb + 3 + 0 = kb + 3; omega), (by show sb + 13 + 0 = sb + 13; omega)⟩ ?_
  refine zg_iload ok dL_law_873 1 rfl ?_
  refine zg_icmp_eq (tgt := 880) ok dL_law_875 (by decide) hE (fun hE => ?_) (fun hE => ?_)
  · refine zg_iload ok dL_law_880 1 rfl ?_
    refine zg_if_ne (tgt := 897) ok dL_law_882 (by decide) hE (fun hE => ?_) (fun hE => ?_)
    · refine zg_sub (L' := [(0, va_rf l0), (1, va_rf l1), (2, va_rf l2), (3, va_rf l3), (4, va_rf l4), (5, .int l5)]) [2, 3, 4, 5, 6, 7] rfl ?_
      exact gt_f_law_J897 hl ok tab fin hRm hk hKE hR  hE
    · refine zg_aload_n ok dL_law_885 rfl 5 rfl ?_
      refine zg_iconst (v := 0) ok dL_law_886 (by decide) ?_
      refine zg_lald ok dL_law_887 hE (fun v78 hE => ?_)
      refine zg_iload ok dL_law_888 0 rfl ?_
      refine zg_i2l ok dL_law_890 ?_
      refine zg_lcmp ok dL_law_891 ?_
      refine zg_if_eq (tgt := 897) ok dL_law_892 (by decide) hE (fun hE => ?_) (fun hE => ?_)
      · refine zg_sub (L' := [(0, va_rf l0), (1, va_rf l1), (2, va_rf l2), (3, va_rf l3), (4, va_rf l4), (5, .int l5)]) [2, 3, 4, 5, 6, 7] rfl ?_
        exact gt_f_law_J897 hl ok tab fin hRm hk hKE hR  hE
      · refine zg_iconst (v := 0) ok dL_law_895 (by decide) ?_
        exact zg_zret ok fin dL_law_896 ⟨(by omega), (by omega)⟩ rfl hE
  · refine zg_iconst (v := 0) ok dL_law_878 (by decide) ?_
    exact zg_zret ok fin dL_law_879 ⟨(by omega), (by omega)⟩ rfl hE
set_option maxHeartbeats 8000000 in
theorem gt_f_law_J976 {Xc : zw_X} {Q : Int32 → zw_H → Prop} {X : String → Nat → zw_H → Prop} (hl : (zw_l Xc).stackTraces = false) (ok : zw_ok Xc cL_law "MultipoleLineLaw" "law" 9) (tab : zw_tab Xc []) (fin : zw_fin Xc (Option.some Jvm.ClassFile.FieldType.boolean) (zq_I Q) X 1200144 5496826) (hRm : zw_rm Xc = rm_law) {kb sb KE SE : Nat} (hk : kb + 1139 ≤ KE ∧ sb + 73158 ≤ SE) (hKE : KE ≤ 1200144 ∧ SE ≤ 5496826) {R : Int32 → zw_H → Prop} {l0 : Option Nat} {l1 : Option Nat} {l2 : Option Nat} {l3 : Option Nat} {l4 : Option Nat} (hR : ∀ (l5 : Int32) (h : zw_H), R l5 h → zw_G Xc (kb + 1139) (sb + 73158) 9 h 28 [(0, va_rf l0), (1, va_rf l1), (2, va_rf l2), (3, va_rf l3), (4, va_rf l4), (5, .int l5)] [])  {l5 : Int32}  {h : zw_H} (hE : f_law_J976 (zw_Zf Xc).2.2.2 Q X R l0 l1 l2 l3 l4 l5 h) : zw_G Xc (kb + 4) (sb + 24) 9 h 976 [(0, va_rf l0), (1, va_rf l1), (2, va_rf l2), (3, va_rf l3), (4, va_rf l4), (5, .int l5)] [] := by
  unfold f_law_J976 at hE
  refine zg_goto (tgt := 4220) ok dL_law_976 (by decide) ?_
  refine zg_wide (kc2 := kb + 1139) (ks2 := sb + 73158) (by omega) (by omega) ?_
  exact gt_f_law_J4220 hl ok tab fin hRm hk hKE hR  hE
set_option maxHeartbeats 8000000 in
theorem gt_f_law_J900 {Xc : zw_X} {Q : Int32 → zw_H → Prop} {X : String → Nat → zw_H → Prop} (hl : (zw_l Xc).stackTraces = false) (ok : zw_ok Xc cL_law "MultipoleLineLaw" "law" 9) (tab : zw_tab Xc []) (fin : zw_fin Xc (Option.some Jvm.ClassFile.FieldType.boolean) (zq_I Q) X 1200144 5496826) (hRm : zw_rm Xc = rm_law) {kb sb KE SE : Nat} (hk : kb + 1139 ≤ KE ∧ sb + 73158 ≤ SE) (hKE : KE ≤ 1200144 ∧ SE ≤ 5496826) {R : Int32 → zw_H → Prop} {l0 : Option Nat} {l1 : Option Nat} {l2 : Option Nat} {l3 : Option Nat} {l4 : Option Nat} (hR : ∀ (l5 : Int32) (h : zw_H), R l5 h → zw_G Xc (kb + 1139) (sb + 73158) 9 h 28 [(0, va_rf l0), (1, va_rf l1), (2, va_rf l2), (3, va_rf l3), (4, va_rf l4), (5, .int l5)] [])  {l5 : Int32}  {h : zw_H} (hE : f_law_J900 (zw_Zf Xc).2.2.2 Q X R l0 l1 l2 l3 l4 l5 h) : zw_G Xc kb sb 9 h 900 [(0, va_rf l0), (1, va_rf l1), (2, va_rf l2), (3, va_rf l3), (4, va_rf l4), (5, .int l5)] [] := by
  unfold f_law_J900 at hE
  refine zg_aload_n ok dL_law_900 rfl 1 rfl ?_
  refine zg_aload_n ok dL_law_901 rfl 0 rfl ?_
  refine zg_iload ok dL_law_902 5 rfl ?_
  refine zg_iconst (v := 1) ok dL_law_904 (by decide) ?_
  refine zg_iadd ok dL_law_905 ?_
  refine zg_iald ok dL_law_906 hE (fun v79 hE => ?_)
  refine zg_aload_n ok dL_law_907 rfl 0 rfl ?_
  refine zg_iload ok dL_law_908 5 rfl ?_
  refine zg_iconst (v := 2) ok dL_law_910 (by decide) ?_
  refine zg_iadd ok dL_law_911 ?_
  refine zg_iald ok dL_law_912 hE (fun v80 hE => ?_)
  refine zg_aload_n ok dL_law_913 rfl 0 rfl ?_
  refine zg_iload ok dL_law_914 5 rfl ?_
  refine zg_iconst (v := 3) ok dL_law_916 (by decide) ?_
  refine zg_iadd ok dL_law_917 ?_
  refine zg_iald ok dL_law_918 hE (fun v81 hE => ?_)
  refine zg_aload_n ok dL_law_919 rfl 3 rfl ?_
  refine zg_callSX (vs := [zA l1, zI v79, zI v80, zI v81, zA l3]) (rest := []) (rm := rm_X0_moment) ok hRm lk_X0_262 dL_law_920 hE (fun hE => mt_X0_moment hl hE) rfl (Nat.le_of_ble_eq_true rfl) ⟨⟨Nat.le_of_ble_eq_true rfl, Nat.le_of_ble_eq_true rfl⟩, (by show kb + 4 ≤ 1200144; omega), (by show sb + 24 ≤ 5496826; omega)⟩ (zg_retI (fun v82 h39 hE => ?_)) (zg_xok ok tab fin ⟨(by show kb + 4 ≤ 1200144; omega), (by show sb + 24 ≤ 5496826; omega)⟩)
  refine zg_cost (kc2 := kb + 4) (ks2 := sb + 24) ⟨(by show kb + 4 = kb + 4; omega), (by show sb + 24 = sb + 24; omega)⟩ ?_
  refine zg_istore (L' := [(6, .int v82), (0, va_rf l0), (1, va_rf l1), (2, va_rf l2), (3, va_rf l3), (4, va_rf l4), (5, .int l5)]) ok dL_law_923 (by decide) rfl ?_
  refine zg_aload_n ok dL_law_925 rfl 3 rfl ?_
  refine zg_aload_n ok dL_law_926 rfl 1 rfl ?_
  refine zg_iload ok dL_law_927 6 rfl ?_
  refine zg_iconst (v := 1) ok dL_law_929 (by decide) ?_
  refine zg_iadd ok dL_law_930 ?_
  refine zg_iald ok dL_law_931 hE (fun v83 hE => ?_)
  refine zg_aload_n ok dL_law_932 rfl 1 rfl ?_
  refine zg_iload ok dL_law_933 6 rfl ?_
  refine zg_iconst (v := 2) ok dL_law_935 (by decide) ?_
  refine zg_iadd ok dL_law_936 ?_
  refine zg_iald ok dL_law_937 hE (fun v84 hE => ?_)
  refine zg_aload_n ok dL_law_938 rfl 1 rfl ?_
  refine zg_iload ok dL_law_939 6 rfl ?_
  refine zg_iconst (v := 3) ok dL_law_941 (by decide) ?_
  refine zg_iadd ok dL_law_942 ?_
  refine zg_iald ok dL_law_943 hE (fun v85 hE => ?_)
  refine zg_callV (vs := [zI v83, zI v84, zI v85]) (rest := []) (rm := rm_X2_moment) ok hRm lk_X0_264 dL_law_944 hE (fun hE => mt_X2_moment hl hE) rfl (Nat.le_of_ble_eq_true rfl) ⟨⟨Nat.le_of_ble_eq_true rfl, Nat.le_of_ble_eq_true rfl⟩, (by show kb + 4 + 0 ≤ 1200144; omega), (by show sb + 24 + 0 ≤ 5496826; omega)⟩ (zg_retJ (fun v86 h40 hE => ?_)) (zg_xok ok tab fin ⟨(by show kb + 4 + 0 ≤ 1200144; omega), (by show sb + 24 + 0 ≤ 5496826; omega)⟩)
  refine zg_cost (kc2 := kb + 4) (ks2 := sb + 24) ⟨(by show kb + 4 + 0 = kb + 4; omega), (by show sb + 24 + 0 = sb + 24; omega)⟩ ?_
  refine zg_lstore (L' := [(7, .long v86), (6, .int v82), (0, va_rf l0), (1, va_rf l1), (2, va_rf l2), (3, va_rf l3), (4, va_rf l4), (5, .int l5)]) ok dL_law_947 (by decide) rfl ?_
  refine zg_aload_n ok dL_law_949 rfl 4 rfl ?_
  refine zg_callV (vs := []) (rest := []) (rm := rm_X2_thrown) ok hRm lk_X0_223 dL_law_950 hE (fun hE => mt_X2_thrown hl hE) rfl (Nat.le_of_ble_eq_true rfl) ⟨⟨Nat.le_of_ble_eq_true rfl, Nat.le_of_ble_eq_true rfl⟩, (by show kb + 4 + 0 ≤ 1200144; omega), (by show sb + 24 + 0 ≤ 5496826; omega)⟩ (zg_retI (fun v87 h41 hE => ?_)) (zg_xok ok tab fin ⟨(by show kb + 4 + 0 ≤ 1200144; omega), (by show sb + 24 + 0 ≤ 5496826; omega)⟩)
  refine zg_cost (kc2 := kb + 4) (ks2 := sb + 24) ⟨(by show kb + 4 + 0 = kb + 4; omega), (by show sb + 24 + 0 = sb + 24; omega)⟩ ?_
  refine zg_iload ok dL_law_953 1 rfl ?_
  refine zg_icmp_eq (tgt := 960) ok dL_law_955 (by decide) hE (fun hE => ?_) (fun hE => ?_)
  · refine zg_iload ok dL_law_960 1 rfl ?_
    refine zg_if_ne (tgt := 976) ok dL_law_962 (by decide) hE (fun hE => ?_) (fun hE => ?_)
    · refine zg_sub (L' := [(0, va_rf l0), (1, va_rf l1), (2, va_rf l2), (3, va_rf l3), (4, va_rf l4), (5, .int l5)]) [2, 3, 4, 5, 6, 7] rfl ?_
      exact gt_f_law_J976 hl ok tab fin hRm hk hKE hR  hE
    · refine zg_aload_n ok dL_law_965 rfl 5 rfl ?_
      refine zg_iconst (v := 0) ok dL_law_966 (by decide) ?_
      refine zg_lald ok dL_law_967 hE (fun v88 hE => ?_)
      refine zg_lload ok dL_law_968 0 rfl ?_
      refine zg_lcmp ok dL_law_970 ?_
      refine zg_if_eq (tgt := 976) ok dL_law_971 (by decide) hE (fun hE => ?_) (fun hE => ?_)
      · refine zg_sub (L' := [(0, va_rf l0), (1, va_rf l1), (2, va_rf l2), (3, va_rf l3), (4, va_rf l4), (5, .int l5)]) [2, 3, 4, 5, 6, 7] rfl ?_
        exact gt_f_law_J976 hl ok tab fin hRm hk hKE hR  hE
      · refine zg_iconst (v := 0) ok dL_law_974 (by decide) ?_
        exact zg_zret ok fin dL_law_975 ⟨(by omega), (by omega)⟩ rfl hE
  · refine zg_iconst (v := 0) ok dL_law_958 (by decide) ?_
    exact zg_zret ok fin dL_law_959 ⟨(by omega), (by omega)⟩ rfl hE
set_option maxHeartbeats 8000000 in
theorem gt_f_law_J1055 {Xc : zw_X} {Q : Int32 → zw_H → Prop} {X : String → Nat → zw_H → Prop} (hl : (zw_l Xc).stackTraces = false) (ok : zw_ok Xc cL_law "MultipoleLineLaw" "law" 9) (tab : zw_tab Xc []) (fin : zw_fin Xc (Option.some Jvm.ClassFile.FieldType.boolean) (zq_I Q) X 1200144 5496826) (hRm : zw_rm Xc = rm_law) {kb sb KE SE : Nat} (hk : kb + 1139 ≤ KE ∧ sb + 73158 ≤ SE) (hKE : KE ≤ 1200144 ∧ SE ≤ 5496826) {R : Int32 → zw_H → Prop} {l0 : Option Nat} {l1 : Option Nat} {l2 : Option Nat} {l3 : Option Nat} {l4 : Option Nat} (hR : ∀ (l5 : Int32) (h : zw_H), R l5 h → zw_G Xc (kb + 1139) (sb + 73158) 9 h 28 [(0, va_rf l0), (1, va_rf l1), (2, va_rf l2), (3, va_rf l3), (4, va_rf l4), (5, .int l5)] [])  {l5 : Int32}  {h : zw_H} (hE : f_law_J1055 (zw_Zf Xc).2.2.2 Q X R l0 l1 l2 l3 l4 l5 h) : zw_G Xc (kb + 4) (sb + 24) 9 h 1055 [(0, va_rf l0), (1, va_rf l1), (2, va_rf l2), (3, va_rf l3), (4, va_rf l4), (5, .int l5)] [] := by
  unfold f_law_J1055 at hE
  refine zg_goto (tgt := 4220) ok dL_law_1055 (by decide) ?_
  refine zg_wide (kc2 := kb + 1139) (ks2 := sb + 73158) (by omega) (by omega) ?_
  exact gt_f_law_J4220 hl ok tab fin hRm hk hKE hR  hE
set_option maxHeartbeats 8000000 in
theorem gt_f_law_J979 {Xc : zw_X} {Q : Int32 → zw_H → Prop} {X : String → Nat → zw_H → Prop} (hl : (zw_l Xc).stackTraces = false) (ok : zw_ok Xc cL_law "MultipoleLineLaw" "law" 9) (tab : zw_tab Xc []) (fin : zw_fin Xc (Option.some Jvm.ClassFile.FieldType.boolean) (zq_I Q) X 1200144 5496826) (hRm : zw_rm Xc = rm_law) {kb sb KE SE : Nat} (hk : kb + 1139 ≤ KE ∧ sb + 73158 ≤ SE) (hKE : KE ≤ 1200144 ∧ SE ≤ 5496826) {R : Int32 → zw_H → Prop} {l0 : Option Nat} {l1 : Option Nat} {l2 : Option Nat} {l3 : Option Nat} {l4 : Option Nat} (hR : ∀ (l5 : Int32) (h : zw_H), R l5 h → zw_G Xc (kb + 1139) (sb + 73158) 9 h 28 [(0, va_rf l0), (1, va_rf l1), (2, va_rf l2), (3, va_rf l3), (4, va_rf l4), (5, .int l5)] [])  {l5 : Int32}  {h : zw_H} (hE : f_law_J979 (zw_Zf Xc).2.2.2 Q X R l0 l1 l2 l3 l4 l5 h) : zw_G Xc kb sb 9 h 979 [(0, va_rf l0), (1, va_rf l1), (2, va_rf l2), (3, va_rf l3), (4, va_rf l4), (5, .int l5)] [] := by
  unfold f_law_J979 at hE
  refine zg_aload_n ok dL_law_979 rfl 1 rfl ?_
  refine zg_aload_n ok dL_law_980 rfl 0 rfl ?_
  refine zg_iload ok dL_law_981 5 rfl ?_
  refine zg_iconst (v := 1) ok dL_law_983 (by decide) ?_
  refine zg_iadd ok dL_law_984 ?_
  refine zg_iald ok dL_law_985 hE (fun v89 hE => ?_)
  refine zg_aload_n ok dL_law_986 rfl 0 rfl ?_
  refine zg_iload ok dL_law_987 5 rfl ?_
  refine zg_iconst (v := 2) ok dL_law_989 (by decide) ?_
  refine zg_iadd ok dL_law_990 ?_
  refine zg_iald ok dL_law_991 hE (fun v90 hE => ?_)
  refine zg_aload_n ok dL_law_992 rfl 0 rfl ?_
  refine zg_iload ok dL_law_993 5 rfl ?_
  refine zg_iconst (v := 3) ok dL_law_995 (by decide) ?_
  refine zg_iadd ok dL_law_996 ?_
  refine zg_iald ok dL_law_997 hE (fun v91 hE => ?_)
  refine zg_aload_n ok dL_law_998 rfl 3 rfl ?_
  refine zg_callSX (vs := [zA l1, zI v89, zI v90, zI v91, zA l3]) (rest := []) (rm := rm_X0_shifted) ok hRm lk_X0_265 dL_law_999 hE (fun hE => mt_X0_shifted hl hE) rfl (Nat.le_of_ble_eq_true rfl) ⟨⟨Nat.le_of_ble_eq_true rfl, Nat.le_of_ble_eq_true rfl⟩, (by show kb + 4 ≤ 1200144; omega), (by show sb + 24 ≤ 5496826; omega)⟩ (zg_retI (fun v92 h42 hE => ?_)) (zg_xok ok tab fin ⟨(by show kb + 4 ≤ 1200144; omega), (by show sb + 24 ≤ 5496826; omega)⟩)
  refine zg_cost (kc2 := kb + 4) (ks2 := sb + 24) ⟨(by show kb + 4 = kb + 4; omega), (by show sb + 24 = sb + 24; omega)⟩ ?_
  refine zg_istore (L' := [(6, .int v92), (0, va_rf l0), (1, va_rf l1), (2, va_rf l2), (3, va_rf l3), (4, va_rf l4), (5, .int l5)]) ok dL_law_1002 (by decide) rfl ?_
  refine zg_aload_n ok dL_law_1004 rfl 3 rfl ?_
  refine zg_aload_n ok dL_law_1005 rfl 1 rfl ?_
  refine zg_iload ok dL_law_1006 6 rfl ?_
  refine zg_iconst (v := 1) ok dL_law_1008 (by decide) ?_
  refine zg_iadd ok dL_law_1009 ?_
  refine zg_iald ok dL_law_1010 hE (fun v93 hE => ?_)
  refine zg_aload_n ok dL_law_1011 rfl 1 rfl ?_
  refine zg_iload ok dL_law_1012 6 rfl ?_
  refine zg_iconst (v := 2) ok dL_law_1014 (by decide) ?_
  refine zg_iadd ok dL_law_1015 ?_
  refine zg_iald ok dL_law_1016 hE (fun v94 hE => ?_)
  refine zg_aload_n ok dL_law_1017 rfl 1 rfl ?_
  refine zg_iload ok dL_law_1018 6 rfl ?_
  refine zg_iconst (v := 3) ok dL_law_1020 (by decide) ?_
  refine zg_iadd ok dL_law_1021 ?_
  refine zg_iald ok dL_law_1022 hE (fun v95 hE => ?_)
  refine zg_callV (vs := [zI v93, zI v94, zI v95]) (rest := []) (rm := rm_X2_shifted) ok hRm lk_X0_267 dL_law_1023 hE (fun hE => mt_X2_shifted hl hE) rfl (Nat.le_of_ble_eq_true rfl) ⟨⟨Nat.le_of_ble_eq_true rfl, Nat.le_of_ble_eq_true rfl⟩, (by show kb + 4 + 0 ≤ 1200144; omega), (by show sb + 24 + 0 ≤ 5496826; omega)⟩ (zg_retJ (fun v96 h43 hE => ?_)) (zg_xok ok tab fin ⟨(by show kb + 4 + 0 ≤ 1200144; omega), (by show sb + 24 + 0 ≤ 5496826; omega)⟩)
  refine zg_cost (kc2 := kb + 4) (ks2 := sb + 24) ⟨(by show kb + 4 + 0 = kb + 4; omega), (by show sb + 24 + 0 = sb + 24; omega)⟩ ?_
  refine zg_lstore (L' := [(7, .long v96), (6, .int v92), (0, va_rf l0), (1, va_rf l1), (2, va_rf l2), (3, va_rf l3), (4, va_rf l4), (5, .int l5)]) ok dL_law_1026 (by decide) rfl ?_
  refine zg_aload_n ok dL_law_1028 rfl 4 rfl ?_
  refine zg_callV (vs := []) (rest := []) (rm := rm_X2_thrown) ok hRm lk_X0_223 dL_law_1029 hE (fun hE => mt_X2_thrown hl hE) rfl (Nat.le_of_ble_eq_true rfl) ⟨⟨Nat.le_of_ble_eq_true rfl, Nat.le_of_ble_eq_true rfl⟩, (by show kb + 4 + 0 ≤ 1200144; omega), (by show sb + 24 + 0 ≤ 5496826; omega)⟩ (zg_retI (fun v97 h44 hE => ?_)) (zg_xok ok tab fin ⟨(by show kb + 4 + 0 ≤ 1200144; omega), (by show sb + 24 + 0 ≤ 5496826; omega)⟩)
  refine zg_cost (kc2 := kb + 4) (ks2 := sb + 24) ⟨(by show kb + 4 + 0 = kb + 4; omega), (by show sb + 24 + 0 = sb + 24; omega)⟩ ?_
  refine zg_iload ok dL_law_1032 1 rfl ?_
  refine zg_icmp_eq (tgt := 1039) ok dL_law_1034 (by decide) hE (fun hE => ?_) (fun hE => ?_)
  · refine zg_iload ok dL_law_1039 1 rfl ?_
    refine zg_if_ne (tgt := 1055) ok dL_law_1041 (by decide) hE (fun hE => ?_) (fun hE => ?_)
    · refine zg_sub (L' := [(0, va_rf l0), (1, va_rf l1), (2, va_rf l2), (3, va_rf l3), (4, va_rf l4), (5, .int l5)]) [2, 3, 4, 5, 6, 7] rfl ?_
      exact gt_f_law_J1055 hl ok tab fin hRm hk hKE hR  hE
    · refine zg_aload_n ok dL_law_1044 rfl 5 rfl ?_
      refine zg_iconst (v := 0) ok dL_law_1045 (by decide) ?_
      refine zg_lald ok dL_law_1046 hE (fun v98 hE => ?_)
      refine zg_lload ok dL_law_1047 0 rfl ?_
      refine zg_lcmp ok dL_law_1049 ?_
      refine zg_if_eq (tgt := 1055) ok dL_law_1050 (by decide) hE (fun hE => ?_) (fun hE => ?_)
      · refine zg_sub (L' := [(0, va_rf l0), (1, va_rf l1), (2, va_rf l2), (3, va_rf l3), (4, va_rf l4), (5, .int l5)]) [2, 3, 4, 5, 6, 7] rfl ?_
        exact gt_f_law_J1055 hl ok tab fin hRm hk hKE hR  hE
      · refine zg_iconst (v := 0) ok dL_law_1053 (by decide) ?_
        exact zg_zret ok fin dL_law_1054 ⟨(by omega), (by omega)⟩ rfl hE
  · refine zg_iconst (v := 0) ok dL_law_1037 (by decide) ?_
    exact zg_zret ok fin dL_law_1038 ⟨(by omega), (by omega)⟩ rfl hE
set_option maxHeartbeats 8000000 in
theorem gt_f_law_J1098 {Xc : zw_X} {Q : Int32 → zw_H → Prop} {X : String → Nat → zw_H → Prop} (hl : (zw_l Xc).stackTraces = false) (ok : zw_ok Xc cL_law "MultipoleLineLaw" "law" 9) (tab : zw_tab Xc []) (fin : zw_fin Xc (Option.some Jvm.ClassFile.FieldType.boolean) (zq_I Q) X 1200144 5496826) (hRm : zw_rm Xc = rm_law) {kb sb KE SE : Nat} (hk : kb + 1139 ≤ KE ∧ sb + 73158 ≤ SE) (hKE : KE ≤ 1200144 ∧ SE ≤ 5496826) {R : Int32 → zw_H → Prop} {l0 : Option Nat} {l1 : Option Nat} {l2 : Option Nat} {l3 : Option Nat} {l4 : Option Nat} (hR : ∀ (l5 : Int32) (h : zw_H), R l5 h → zw_G Xc (kb + 1139) (sb + 73158) 9 h 28 [(0, va_rf l0), (1, va_rf l1), (2, va_rf l2), (3, va_rf l3), (4, va_rf l4), (5, .int l5)] [])  {l5 : Int32}  {h : zw_H} (hE : f_law_J1098 (zw_Zf Xc).2.2.2 Q X R l0 l1 l2 l3 l4 l5 h) : zw_G Xc (kb + 1) (sb + 6) 9 h 1098 [(0, va_rf l0), (1, va_rf l1), (2, va_rf l2), (3, va_rf l3), (4, va_rf l4), (5, .int l5)] [] := by
  unfold f_law_J1098 at hE
  refine zg_goto (tgt := 4220) ok dL_law_1098 (by decide) ?_
  refine zg_wide (kc2 := kb + 1139) (ks2 := sb + 73158) (by omega) (by omega) ?_
  exact gt_f_law_J4220 hl ok tab fin hRm hk hKE hR  hE
set_option maxHeartbeats 8000000 in
theorem gt_f_law_J1058 {Xc : zw_X} {Q : Int32 → zw_H → Prop} {X : String → Nat → zw_H → Prop} (hl : (zw_l Xc).stackTraces = false) (ok : zw_ok Xc cL_law "MultipoleLineLaw" "law" 9) (tab : zw_tab Xc []) (fin : zw_fin Xc (Option.some Jvm.ClassFile.FieldType.boolean) (zq_I Q) X 1200144 5496826) (hRm : zw_rm Xc = rm_law) {kb sb KE SE : Nat} (hk : kb + 1139 ≤ KE ∧ sb + 73158 ≤ SE) (hKE : KE ≤ 1200144 ∧ SE ≤ 5496826) {R : Int32 → zw_H → Prop} {l0 : Option Nat} {l1 : Option Nat} {l2 : Option Nat} {l3 : Option Nat} {l4 : Option Nat} (hR : ∀ (l5 : Int32) (h : zw_H), R l5 h → zw_G Xc (kb + 1139) (sb + 73158) 9 h 28 [(0, va_rf l0), (1, va_rf l1), (2, va_rf l2), (3, va_rf l3), (4, va_rf l4), (5, .int l5)] [])  {l5 : Int32}  {h : zw_H} (hE : f_law_J1058 (zw_Zf Xc).2.2.2 Q X R l0 l1 l2 l3 l4 l5 h) : zw_G Xc kb sb 9 h 1058 [(0, va_rf l0), (1, va_rf l1), (2, va_rf l2), (3, va_rf l3), (4, va_rf l4), (5, .int l5)] [] := by
  unfold f_law_J1058 at hE
  refine zg_aload_n ok dL_law_1058 rfl 1 rfl ?_
  refine zg_aload_n ok dL_law_1059 rfl 3 rfl ?_
  refine zg_callSX (vs := [zA l1, zA l3]) (rest := []) (rm := rm_X0_momentGap) ok hRm lk_X0_268 dL_law_1060 hE (fun hE => mt_X0_momentGap hl hE) rfl (Nat.le_of_ble_eq_true rfl) ⟨⟨Nat.le_of_ble_eq_true rfl, Nat.le_of_ble_eq_true rfl⟩, (by show kb + 1 ≤ 1200144; omega), (by show sb + 6 ≤ 5496826; omega)⟩ (zg_retI (fun v99 h45 hE => ?_)) (zg_xok ok tab fin ⟨(by show kb + 1 ≤ 1200144; omega), (by show sb + 6 ≤ 5496826; omega)⟩)
  refine zg_cost (kc2 := kb + 1) (ks2 := sb + 6) ⟨(by show kb + 1 = kb + 1; omega), (by show sb + 6 = sb + 6; omega)⟩ ?_
  refine zg_istore (L' := [(6, .int v99), (0, va_rf l0), (1, va_rf l1), (2, va_rf l2), (3, va_rf l3), (4, va_rf l4), (5, .int l5)]) ok dL_law_1063 (by decide) rfl ?_
  refine zg_aload_n ok dL_law_1065 rfl 3 rfl ?_
  refine zg_callV (vs := []) (rest := []) (rm := rm_X2_momentGap) ok hRm lk_X0_270 dL_law_1066 hE (fun hE => mt_X2_momentGap hl hE) rfl (Nat.le_of_ble_eq_true rfl) ⟨⟨Nat.le_of_ble_eq_true rfl, Nat.le_of_ble_eq_true rfl⟩, (by show kb + 1 + 0 ≤ 1200144; omega), (by show sb + 6 + 0 ≤ 5496826; omega)⟩ (zg_retJ (fun v100 h46 hE => ?_)) (zg_xok ok tab fin ⟨(by show kb + 1 + 0 ≤ 1200144; omega), (by show sb + 6 + 0 ≤ 5496826; omega)⟩)
  refine zg_cost (kc2 := kb + 1) (ks2 := sb + 6) ⟨(by show kb + 1 + 0 = kb + 1; omega), (by show sb + 6 + 0 = sb + 6; omega)⟩ ?_
  refine zg_lstore (L' := [(7, .long v100), (6, .int v99), (0, va_rf l0), (1, va_rf l1), (2, va_rf l2), (3, va_rf l3), (4, va_rf l4), (5, .int l5)]) ok dL_law_1069 (by decide) rfl ?_
  refine zg_aload_n ok dL_law_1071 rfl 4 rfl ?_
  refine zg_callV (vs := []) (rest := []) (rm := rm_X2_thrown) ok hRm lk_X0_223 dL_law_1072 hE (fun hE => mt_X2_thrown hl hE) rfl (Nat.le_of_ble_eq_true rfl) ⟨⟨Nat.le_of_ble_eq_true rfl, Nat.le_of_ble_eq_true rfl⟩, (by show kb + 1 + 0 ≤ 1200144; omega), (by show sb + 6 + 0 ≤ 5496826; omega)⟩ (zg_retI (fun v101 h47 hE => ?_)) (zg_xok ok tab fin ⟨(by show kb + 1 + 0 ≤ 1200144; omega), (by show sb + 6 + 0 ≤ 5496826; omega)⟩)
  refine zg_cost (kc2 := kb + 1) (ks2 := sb + 6) ⟨(by show kb + 1 + 0 = kb + 1; omega), (by show sb + 6 + 0 = sb + 6; omega)⟩ ?_
  refine zg_iload ok dL_law_1075 1 rfl ?_
  refine zg_icmp_eq (tgt := 1082) ok dL_law_1077 (by decide) hE (fun hE => ?_) (fun hE => ?_)
  · refine zg_iload ok dL_law_1082 1 rfl ?_
    refine zg_if_ne (tgt := 1098) ok dL_law_1084 (by decide) hE (fun hE => ?_) (fun hE => ?_)
    · refine zg_sub (L' := [(0, va_rf l0), (1, va_rf l1), (2, va_rf l2), (3, va_rf l3), (4, va_rf l4), (5, .int l5)]) [2, 3, 4, 5, 6, 7] rfl ?_
      exact gt_f_law_J1098 hl ok tab fin hRm hk hKE hR  hE
    · refine zg_aload_n ok dL_law_1087 rfl 5 rfl ?_
      refine zg_iconst (v := 0) ok dL_law_1088 (by decide) ?_
      refine zg_lald ok dL_law_1089 hE (fun v102 hE => ?_)
      refine zg_lload ok dL_law_1090 0 rfl ?_
      refine zg_lcmp ok dL_law_1092 ?_
      refine zg_if_eq (tgt := 1098) ok dL_law_1093 (by decide) hE (fun hE => ?_) (fun hE => ?_)
      · refine zg_sub (L' := [(0, va_rf l0), (1, va_rf l1), (2, va_rf l2), (3, va_rf l3), (4, va_rf l4), (5, .int l5)]) [2, 3, 4, 5, 6, 7] rfl ?_
        exact gt_f_law_J1098 hl ok tab fin hRm hk hKE hR  hE
      · refine zg_iconst (v := 0) ok dL_law_1096 (by decide) ?_
        exact zg_zret ok fin dL_law_1097 ⟨(by omega), (by omega)⟩ rfl hE
  · refine zg_iconst (v := 0) ok dL_law_1080 (by decide) ?_
    exact zg_zret ok fin dL_law_1081 ⟨(by omega), (by omega)⟩ rfl hE
set_option maxHeartbeats 8000000 in
theorem gt_f_law_J1154 {Xc : zw_X} {Q : Int32 → zw_H → Prop} {X : String → Nat → zw_H → Prop} (hl : (zw_l Xc).stackTraces = false) (ok : zw_ok Xc cL_law "MultipoleLineLaw" "law" 9) (tab : zw_tab Xc []) (fin : zw_fin Xc (Option.some Jvm.ClassFile.FieldType.boolean) (zq_I Q) X 1200144 5496826) (hRm : zw_rm Xc = rm_law) {kb sb KE SE : Nat} (hk : kb + 1139 ≤ KE ∧ sb + 73158 ≤ SE) (hKE : KE ≤ 1200144 ∧ SE ≤ 5496826) {R : Int32 → zw_H → Prop} {l0 : Option Nat} {l1 : Option Nat} {l2 : Option Nat} {l3 : Option Nat} {l4 : Option Nat} (hR : ∀ (l5 : Int32) (h : zw_H), R l5 h → zw_G Xc (kb + 1139) (sb + 73158) 9 h 28 [(0, va_rf l0), (1, va_rf l1), (2, va_rf l2), (3, va_rf l3), (4, va_rf l4), (5, .int l5)] [])  {l5 : Int32}  {h : zw_H} (hE : f_law_J1154 (zw_Zf Xc).2.2.2 Q X R l0 l1 l2 l3 l4 l5 h) : zw_G Xc (kb + 53) (sb + 116) 9 h 1154 [(0, va_rf l0), (1, va_rf l1), (2, va_rf l2), (3, va_rf l3), (4, va_rf l4), (5, .int l5)] [] := by
  unfold f_law_J1154 at hE
  refine zg_goto (tgt := 4220) ok dL_law_1154 (by decide) ?_
  refine zg_wide (kc2 := kb + 1139) (ks2 := sb + 73158) (by omega) (by omega) ?_
  exact gt_f_law_J4220 hl ok tab fin hRm hk hKE hR  hE
set_option maxHeartbeats 8000000 in
theorem gt_f_law_J1101 {Xc : zw_X} {Q : Int32 → zw_H → Prop} {X : String → Nat → zw_H → Prop} (hl : (zw_l Xc).stackTraces = false) (ok : zw_ok Xc cL_law "MultipoleLineLaw" "law" 9) (tab : zw_tab Xc []) (fin : zw_fin Xc (Option.some Jvm.ClassFile.FieldType.boolean) (zq_I Q) X 1200144 5496826) (hRm : zw_rm Xc = rm_law) {kb sb KE SE : Nat} (hk : kb + 1139 ≤ KE ∧ sb + 73158 ≤ SE) (hKE : KE ≤ 1200144 ∧ SE ≤ 5496826) {R : Int32 → zw_H → Prop} {l0 : Option Nat} {l1 : Option Nat} {l2 : Option Nat} {l3 : Option Nat} {l4 : Option Nat} (hR : ∀ (l5 : Int32) (h : zw_H), R l5 h → zw_G Xc (kb + 1139) (sb + 73158) 9 h 28 [(0, va_rf l0), (1, va_rf l1), (2, va_rf l2), (3, va_rf l3), (4, va_rf l4), (5, .int l5)] [])  {l5 : Int32}  {h : zw_H} (hE : f_law_J1101 (zw_Zf Xc).2.2.2 Q X R l0 l1 l2 l3 l4 l5 h) : zw_G Xc kb sb 9 h 1101 [(0, va_rf l0), (1, va_rf l1), (2, va_rf l2), (3, va_rf l3), (4, va_rf l4), (5, .int l5)] [] := by
  unfold f_law_J1101 at hE
  refine zg_aload_n ok dL_law_1101 rfl 1 rfl ?_
  refine zg_aload_n ok dL_law_1102 rfl 0 rfl ?_
  refine zg_iload ok dL_law_1103 5 rfl ?_
  refine zg_iconst (v := 1) ok dL_law_1105 (by decide) ?_
  refine zg_iadd ok dL_law_1106 ?_
  refine zg_iald ok dL_law_1107 hE (fun v103 hE => ?_)
  refine zg_aload_n ok dL_law_1108 rfl 3 rfl ?_
  refine zg_callSX (vs := [zA l1, zI v103, zA l3]) (rest := []) (rm := rm_X0_nearMany) ok hRm lk_X0_271 dL_law_1109 hE (fun hE => mt_X0_nearMany hl hE) rfl (Nat.le_of_ble_eq_true rfl) ⟨⟨Nat.le_of_ble_eq_true rfl, Nat.le_of_ble_eq_true rfl⟩, (by show kb + 53 ≤ 1200144; omega), (by show sb + 116 ≤ 5496826; omega)⟩ (zg_retI (fun v104 h48 hE => ?_)) (zg_xok ok tab fin ⟨(by show kb + 53 ≤ 1200144; omega), (by show sb + 116 ≤ 5496826; omega)⟩)
  refine zg_cost (kc2 := kb + 53) (ks2 := sb + 116) ⟨(by show kb + 53 = kb + 53; omega), (by show sb + 116 = sb + 116; omega)⟩ ?_
  refine zg_istore (L' := [(6, .int v104), (0, va_rf l0), (1, va_rf l1), (2, va_rf l2), (3, va_rf l3), (4, va_rf l4), (5, .int l5)]) ok dL_law_1112 (by decide) rfl ?_
  refine zg_aload_n ok dL_law_1114 rfl 3 rfl ?_
  refine zg_aload_n ok dL_law_1115 rfl 1 rfl ?_
  refine zg_iload ok dL_law_1116 6 rfl ?_
  refine zg_iconst (v := 1) ok dL_law_1118 (by decide) ?_
  refine zg_iadd ok dL_law_1119 ?_
  refine zg_iald ok dL_law_1120 hE (fun v105 hE => ?_)
  refine zg_callV (vs := [zI v105]) (rest := []) (rm := rm_X2_nearMany) ok hRm lk_X0_273 dL_law_1121 hE (fun hE => mt_X2_nearMany hl hE) rfl (Nat.le_of_ble_eq_true rfl) ⟨⟨Nat.le_of_ble_eq_true rfl, Nat.le_of_ble_eq_true rfl⟩, (by show kb + 53 + 0 ≤ 1200144; omega), (by show sb + 116 + 0 ≤ 5496826; omega)⟩ (zg_retI (fun v106 h49 hE => ?_)) (zg_xok ok tab fin ⟨(by show kb + 53 + 0 ≤ 1200144; omega), (by show sb + 116 + 0 ≤ 5496826; omega)⟩)
  refine zg_cost (kc2 := kb + 53) (ks2 := sb + 116) ⟨(by show kb + 53 + 0 = kb + 53; omega), (by show sb + 116 + 0 = sb + 116; omega)⟩ ?_
  refine zg_istore (L' := [(7, .int v106), (6, .int v104), (0, va_rf l0), (1, va_rf l1), (2, va_rf l2), (3, va_rf l3), (4, va_rf l4), (5, .int l5)]) ok dL_law_1124 (by decide) rfl ?_
  refine zg_aload_n ok dL_law_1126 rfl 4 rfl ?_
  refine zg_callV (vs := []) (rest := []) (rm := rm_X2_thrown) ok hRm lk_X0_223 dL_law_1127 hE (fun hE => mt_X2_thrown hl hE) rfl (Nat.le_of_ble_eq_true rfl) ⟨⟨Nat.le_of_ble_eq_true rfl, Nat.le_of_ble_eq_true rfl⟩, (by show kb + 53 + 0 ≤ 1200144; omega), (by show sb + 116 + 0 ≤ 5496826; omega)⟩ (zg_retI (fun v107 h50 hE => ?_)) (zg_xok ok tab fin ⟨(by show kb + 53 + 0 ≤ 1200144; omega), (by show sb + 116 + 0 ≤ 5496826; omega)⟩)
  refine zg_cost (kc2 := kb + 53) (ks2 := sb + 116) ⟨(by show kb + 53 + 0 = kb + 53; omega), (by show sb + 116 + 0 = sb + 116; omega)⟩ ?_
  refine zg_iload ok dL_law_1130 1 rfl ?_
  refine zg_icmp_eq (tgt := 1137) ok dL_law_1132 (by decide) hE (fun hE => ?_) (fun hE => ?_)
  · refine zg_iload ok dL_law_1137 1 rfl ?_
    refine zg_if_ne (tgt := 1154) ok dL_law_1139 (by decide) hE (fun hE => ?_) (fun hE => ?_)
    · refine zg_sub (L' := [(0, va_rf l0), (1, va_rf l1), (2, va_rf l2), (3, va_rf l3), (4, va_rf l4), (5, .int l5)]) [2, 3, 4, 5, 6, 7] rfl ?_
      exact gt_f_law_J1154 hl ok tab fin hRm hk hKE hR  hE
    · refine zg_aload_n ok dL_law_1142 rfl 5 rfl ?_
      refine zg_iconst (v := 0) ok dL_law_1143 (by decide) ?_
      refine zg_lald ok dL_law_1144 hE (fun v108 hE => ?_)
      refine zg_iload ok dL_law_1145 0 rfl ?_
      refine zg_i2l ok dL_law_1147 ?_
      refine zg_lcmp ok dL_law_1148 ?_
      refine zg_if_eq (tgt := 1154) ok dL_law_1149 (by decide) hE (fun hE => ?_) (fun hE => ?_)
      · refine zg_sub (L' := [(0, va_rf l0), (1, va_rf l1), (2, va_rf l2), (3, va_rf l3), (4, va_rf l4), (5, .int l5)]) [2, 3, 4, 5, 6, 7] rfl ?_
        exact gt_f_law_J1154 hl ok tab fin hRm hk hKE hR  hE
      · refine zg_iconst (v := 0) ok dL_law_1152 (by decide) ?_
        exact zg_zret ok fin dL_law_1153 ⟨(by omega), (by omega)⟩ rfl hE
  · refine zg_iconst (v := 0) ok dL_law_1135 (by decide) ?_
    exact zg_zret ok fin dL_law_1136 ⟨(by omega), (by omega)⟩ rfl hE
set_option maxHeartbeats 8000000 in
theorem gt_f_law_J1222 {Xc : zw_X} {Q : Int32 → zw_H → Prop} {X : String → Nat → zw_H → Prop} (hl : (zw_l Xc).stackTraces = false) (ok : zw_ok Xc cL_law "MultipoleLineLaw" "law" 9) (tab : zw_tab Xc []) (fin : zw_fin Xc (Option.some Jvm.ClassFile.FieldType.boolean) (zq_I Q) X 1200144 5496826) (hRm : zw_rm Xc = rm_law) {kb sb KE SE : Nat} (hk : kb + 1139 ≤ KE ∧ sb + 73158 ≤ SE) (hKE : KE ≤ 1200144 ∧ SE ≤ 5496826) {R : Int32 → zw_H → Prop} {l0 : Option Nat} {l1 : Option Nat} {l2 : Option Nat} {l3 : Option Nat} {l4 : Option Nat} (hR : ∀ (l5 : Int32) (h : zw_H), R l5 h → zw_G Xc (kb + 1139) (sb + 73158) 9 h 28 [(0, va_rf l0), (1, va_rf l1), (2, va_rf l2), (3, va_rf l3), (4, va_rf l4), (5, .int l5)] [])  {l5 : Int32}  {h : zw_H} (hE : f_law_J1222 (zw_Zf Xc).2.2.2 Q X R l0 l1 l2 l3 l4 l5 h) : zw_G Xc (kb + 54) (sb + 121) 9 h 1222 [(0, va_rf l0), (1, va_rf l1), (2, va_rf l2), (3, va_rf l3), (4, va_rf l4), (5, .int l5)] [] := by
  unfold f_law_J1222 at hE
  refine zg_goto (tgt := 4220) ok dL_law_1222 (by decide) ?_
  refine zg_wide (kc2 := kb + 1139) (ks2 := sb + 73158) (by omega) (by omega) ?_
  exact gt_f_law_J4220 hl ok tab fin hRm hk hKE hR  hE
set_option maxHeartbeats 8000000 in
theorem gt_f_law_J1157 {Xc : zw_X} {Q : Int32 → zw_H → Prop} {X : String → Nat → zw_H → Prop} (hl : (zw_l Xc).stackTraces = false) (ok : zw_ok Xc cL_law "MultipoleLineLaw" "law" 9) (tab : zw_tab Xc []) (fin : zw_fin Xc (Option.some Jvm.ClassFile.FieldType.boolean) (zq_I Q) X 1200144 5496826) (hRm : zw_rm Xc = rm_law) {kb sb KE SE : Nat} (hk : kb + 1139 ≤ KE ∧ sb + 73158 ≤ SE) (hKE : KE ≤ 1200144 ∧ SE ≤ 5496826) {R : Int32 → zw_H → Prop} {l0 : Option Nat} {l1 : Option Nat} {l2 : Option Nat} {l3 : Option Nat} {l4 : Option Nat} (hR : ∀ (l5 : Int32) (h : zw_H), R l5 h → zw_G Xc (kb + 1139) (sb + 73158) 9 h 28 [(0, va_rf l0), (1, va_rf l1), (2, va_rf l2), (3, va_rf l3), (4, va_rf l4), (5, .int l5)] [])  {l5 : Int32}  {h : zw_H} (hE : f_law_J1157 (zw_Zf Xc).2.2.2 Q X R l0 l1 l2 l3 l4 l5 h) : zw_G Xc kb sb 9 h 1157 [(0, va_rf l0), (1, va_rf l1), (2, va_rf l2), (3, va_rf l3), (4, va_rf l4), (5, .int l5)] [] := by
  unfold f_law_J1157 at hE
  refine zg_aload_n ok dL_law_1157 rfl 1 rfl ?_
  refine zg_aload_n ok dL_law_1158 rfl 0 rfl ?_
  refine zg_iload ok dL_law_1159 5 rfl ?_
  refine zg_iconst (v := 1) ok dL_law_1161 (by decide) ?_
  refine zg_iadd ok dL_law_1162 ?_
  refine zg_iald ok dL_law_1163 hE (fun v109 hE => ?_)
  refine zg_aload_n ok dL_law_1164 rfl 0 rfl ?_
  refine zg_iload ok dL_law_1165 5 rfl ?_
  refine zg_iconst (v := 2) ok dL_law_1167 (by decide) ?_
  refine zg_iadd ok dL_law_1168 ?_
  refine zg_iald ok dL_law_1169 hE (fun v110 hE => ?_)
  refine zg_aload_n ok dL_law_1170 rfl 3 rfl ?_
  refine zg_callSX (vs := [zA l1, zI v109, zI v110, zA l3]) (rest := []) (rm := rm_X0_nearBody) ok hRm lk_X0_274 dL_law_1171 hE (fun hE => mt_X0_nearBody hl hE) rfl (Nat.le_of_ble_eq_true rfl) ⟨⟨Nat.le_of_ble_eq_true rfl, Nat.le_of_ble_eq_true rfl⟩, (by show kb + 54 ≤ 1200144; omega), (by show sb + 121 ≤ 5496826; omega)⟩ (zg_retI (fun v111 h51 hE => ?_)) (zg_xok ok tab fin ⟨(by show kb + 54 ≤ 1200144; omega), (by show sb + 121 ≤ 5496826; omega)⟩)
  refine zg_cost (kc2 := kb + 54) (ks2 := sb + 121) ⟨(by show kb + 54 = kb + 54; omega), (by show sb + 121 = sb + 121; omega)⟩ ?_
  refine zg_istore (L' := [(6, .int v111), (0, va_rf l0), (1, va_rf l1), (2, va_rf l2), (3, va_rf l3), (4, va_rf l4), (5, .int l5)]) ok dL_law_1174 (by decide) rfl ?_
  refine zg_aload_n ok dL_law_1176 rfl 3 rfl ?_
  refine zg_aload_n ok dL_law_1177 rfl 1 rfl ?_
  refine zg_iload ok dL_law_1178 6 rfl ?_
  refine zg_iconst (v := 1) ok dL_law_1180 (by decide) ?_
  refine zg_iadd ok dL_law_1181 ?_
  refine zg_iald ok dL_law_1182 hE (fun v112 hE => ?_)
  refine zg_aload_n ok dL_law_1183 rfl 1 rfl ?_
  refine zg_iload ok dL_law_1184 6 rfl ?_
  refine zg_iconst (v := 2) ok dL_law_1186 (by decide) ?_
  refine zg_iadd ok dL_law_1187 ?_
  refine zg_iald ok dL_law_1188 hE (fun v113 hE => ?_)
  refine zg_callV (vs := [zI v112, zI v113]) (rest := []) (rm := rm_X2_nearBody) ok hRm lk_X0_276 dL_law_1189 hE (fun hE => mt_X2_nearBody hl hE) rfl (Nat.le_of_ble_eq_true rfl) ⟨⟨Nat.le_of_ble_eq_true rfl, Nat.le_of_ble_eq_true rfl⟩, (by show kb + 54 + 0 ≤ 1200144; omega), (by show sb + 121 + 0 ≤ 5496826; omega)⟩ (zg_retI (fun v114 h52 hE => ?_)) (zg_xok ok tab fin ⟨(by show kb + 54 + 0 ≤ 1200144; omega), (by show sb + 121 + 0 ≤ 5496826; omega)⟩)
  refine zg_cost (kc2 := kb + 54) (ks2 := sb + 121) ⟨(by show kb + 54 + 0 = kb + 54; omega), (by show sb + 121 + 0 = sb + 121; omega)⟩ ?_
  refine zg_istore (L' := [(7, .int v114), (6, .int v111), (0, va_rf l0), (1, va_rf l1), (2, va_rf l2), (3, va_rf l3), (4, va_rf l4), (5, .int l5)]) ok dL_law_1192 (by decide) rfl ?_
  refine zg_aload_n ok dL_law_1194 rfl 4 rfl ?_
  refine zg_callV (vs := []) (rest := []) (rm := rm_X2_thrown) ok hRm lk_X0_223 dL_law_1195 hE (fun hE => mt_X2_thrown hl hE) rfl (Nat.le_of_ble_eq_true rfl) ⟨⟨Nat.le_of_ble_eq_true rfl, Nat.le_of_ble_eq_true rfl⟩, (by show kb + 54 + 0 ≤ 1200144; omega), (by show sb + 121 + 0 ≤ 5496826; omega)⟩ (zg_retI (fun v115 h53 hE => ?_)) (zg_xok ok tab fin ⟨(by show kb + 54 + 0 ≤ 1200144; omega), (by show sb + 121 + 0 ≤ 5496826; omega)⟩)
  refine zg_cost (kc2 := kb + 54) (ks2 := sb + 121) ⟨(by show kb + 54 + 0 = kb + 54; omega), (by show sb + 121 + 0 = sb + 121; omega)⟩ ?_
  refine zg_iload ok dL_law_1198 1 rfl ?_
  refine zg_icmp_eq (tgt := 1205) ok dL_law_1200 (by decide) hE (fun hE => ?_) (fun hE => ?_)
  · refine zg_iload ok dL_law_1205 1 rfl ?_
    refine zg_if_ne (tgt := 1222) ok dL_law_1207 (by decide) hE (fun hE => ?_) (fun hE => ?_)
    · refine zg_sub (L' := [(0, va_rf l0), (1, va_rf l1), (2, va_rf l2), (3, va_rf l3), (4, va_rf l4), (5, .int l5)]) [2, 3, 4, 5, 6, 7] rfl ?_
      exact gt_f_law_J1222 hl ok tab fin hRm hk hKE hR  hE
    · refine zg_aload_n ok dL_law_1210 rfl 5 rfl ?_
      refine zg_iconst (v := 0) ok dL_law_1211 (by decide) ?_
      refine zg_lald ok dL_law_1212 hE (fun v116 hE => ?_)
      refine zg_iload ok dL_law_1213 0 rfl ?_
      refine zg_i2l ok dL_law_1215 ?_
      refine zg_lcmp ok dL_law_1216 ?_
      refine zg_if_eq (tgt := 1222) ok dL_law_1217 (by decide) hE (fun hE => ?_) (fun hE => ?_)
      · refine zg_sub (L' := [(0, va_rf l0), (1, va_rf l1), (2, va_rf l2), (3, va_rf l3), (4, va_rf l4), (5, .int l5)]) [2, 3, 4, 5, 6, 7] rfl ?_
        exact gt_f_law_J1222 hl ok tab fin hRm hk hKE hR  hE
      · refine zg_iconst (v := 0) ok dL_law_1220 (by decide) ?_
        exact zg_zret ok fin dL_law_1221 ⟨(by omega), (by omega)⟩ rfl hE
  · refine zg_iconst (v := 0) ok dL_law_1203 (by decide) ?_
    exact zg_zret ok fin dL_law_1204 ⟨(by omega), (by omega)⟩ rfl hE
set_option maxHeartbeats 8000000 in
theorem gt_f_law_J1278 {Xc : zw_X} {Q : Int32 → zw_H → Prop} {X : String → Nat → zw_H → Prop} (hl : (zw_l Xc).stackTraces = false) (ok : zw_ok Xc cL_law "MultipoleLineLaw" "law" 9) (tab : zw_tab Xc []) (fin : zw_fin Xc (Option.some Jvm.ClassFile.FieldType.boolean) (zq_I Q) X 1200144 5496826) (hRm : zw_rm Xc = rm_law) {kb sb KE SE : Nat} (hk : kb + 1139 ≤ KE ∧ sb + 73158 ≤ SE) (hKE : KE ≤ 1200144 ∧ SE ≤ 5496826) {R : Int32 → zw_H → Prop} {l0 : Option Nat} {l1 : Option Nat} {l2 : Option Nat} {l3 : Option Nat} {l4 : Option Nat} (hR : ∀ (l5 : Int32) (h : zw_H), R l5 h → zw_G Xc (kb + 1139) (sb + 73158) 9 h 28 [(0, va_rf l0), (1, va_rf l1), (2, va_rf l2), (3, va_rf l3), (4, va_rf l4), (5, .int l5)] [])  {l5 : Int32}  {h : zw_H} (hE : f_law_J1278 (zw_Zf Xc).2.2.2 Q X R l0 l1 l2 l3 l4 l5 h) : zw_G Xc (kb + 2) (sb + 12) 9 h 1278 [(0, va_rf l0), (1, va_rf l1), (2, va_rf l2), (3, va_rf l3), (4, va_rf l4), (5, .int l5)] [] := by
  unfold f_law_J1278 at hE
  refine zg_goto (tgt := 4220) ok dL_law_1278 (by decide) ?_
  refine zg_wide (kc2 := kb + 1139) (ks2 := sb + 73158) (by omega) (by omega) ?_
  exact gt_f_law_J4220 hl ok tab fin hRm hk hKE hR  hE
set_option maxHeartbeats 8000000 in
theorem gt_f_law_J1225 {Xc : zw_X} {Q : Int32 → zw_H → Prop} {X : String → Nat → zw_H → Prop} (hl : (zw_l Xc).stackTraces = false) (ok : zw_ok Xc cL_law "MultipoleLineLaw" "law" 9) (tab : zw_tab Xc []) (fin : zw_fin Xc (Option.some Jvm.ClassFile.FieldType.boolean) (zq_I Q) X 1200144 5496826) (hRm : zw_rm Xc = rm_law) {kb sb KE SE : Nat} (hk : kb + 1139 ≤ KE ∧ sb + 73158 ≤ SE) (hKE : KE ≤ 1200144 ∧ SE ≤ 5496826) {R : Int32 → zw_H → Prop} {l0 : Option Nat} {l1 : Option Nat} {l2 : Option Nat} {l3 : Option Nat} {l4 : Option Nat} (hR : ∀ (l5 : Int32) (h : zw_H), R l5 h → zw_G Xc (kb + 1139) (sb + 73158) 9 h 28 [(0, va_rf l0), (1, va_rf l1), (2, va_rf l2), (3, va_rf l3), (4, va_rf l4), (5, .int l5)] [])  {l5 : Int32}  {h : zw_H} (hE : f_law_J1225 (zw_Zf Xc).2.2.2 Q X R l0 l1 l2 l3 l4 l5 h) : zw_G Xc kb sb 9 h 1225 [(0, va_rf l0), (1, va_rf l1), (2, va_rf l2), (3, va_rf l3), (4, va_rf l4), (5, .int l5)] [] := by
  unfold f_law_J1225 at hE
  refine zg_aload_n ok dL_law_1225 rfl 1 rfl ?_
  refine zg_aload_n ok dL_law_1226 rfl 0 rfl ?_
  refine zg_iload ok dL_law_1227 5 rfl ?_
  refine zg_iconst (v := 1) ok dL_law_1229 (by decide) ?_
  refine zg_iadd ok dL_law_1230 ?_
  refine zg_iald ok dL_law_1231 hE (fun v117 hE => ?_)
  refine zg_aload_n ok dL_law_1232 rfl 3 rfl ?_
  refine zg_callSX (vs := [zA l1, zI v117, zA l3]) (rest := []) (rm := rm_X0_farMany) ok hRm lk_X0_277 dL_law_1233 hE (fun hE => mt_X0_farMany hl hE) rfl (Nat.le_of_ble_eq_true rfl) ⟨⟨Nat.le_of_ble_eq_true rfl, Nat.le_of_ble_eq_true rfl⟩, (by show kb + 2 ≤ 1200144; omega), (by show sb + 12 ≤ 5496826; omega)⟩ (zg_retI (fun v118 h54 hE => ?_)) (zg_xok ok tab fin ⟨(by show kb + 2 ≤ 1200144; omega), (by show sb + 12 ≤ 5496826; omega)⟩)
  refine zg_cost (kc2 := kb + 2) (ks2 := sb + 12) ⟨(by show kb + 2 = kb + 2; omega), (by show sb + 12 = sb + 12; omega)⟩ ?_
  refine zg_istore (L' := [(6, .int v118), (0, va_rf l0), (1, va_rf l1), (2, va_rf l2), (3, va_rf l3), (4, va_rf l4), (5, .int l5)]) ok dL_law_1236 (by decide) rfl ?_
  refine zg_aload_n ok dL_law_1238 rfl 3 rfl ?_
  refine zg_aload_n ok dL_law_1239 rfl 1 rfl ?_
  refine zg_iload ok dL_law_1240 6 rfl ?_
  refine zg_iconst (v := 1) ok dL_law_1242 (by decide) ?_
  refine zg_iadd ok dL_law_1243 ?_
  refine zg_iald ok dL_law_1244 hE (fun v119 hE => ?_)
  refine zg_callV (vs := [zI v119]) (rest := []) (rm := rm_X2_farMany) ok hRm lk_X0_279 dL_law_1245 hE (fun hE => mt_X2_farMany hl hE) rfl (Nat.le_of_ble_eq_true rfl) ⟨⟨Nat.le_of_ble_eq_true rfl, Nat.le_of_ble_eq_true rfl⟩, (by show kb + 2 + 0 ≤ 1200144; omega), (by show sb + 12 + 0 ≤ 5496826; omega)⟩ (zg_retI (fun v120 h55 hE => ?_)) (zg_xok ok tab fin ⟨(by show kb + 2 + 0 ≤ 1200144; omega), (by show sb + 12 + 0 ≤ 5496826; omega)⟩)
  refine zg_cost (kc2 := kb + 2) (ks2 := sb + 12) ⟨(by show kb + 2 + 0 = kb + 2; omega), (by show sb + 12 + 0 = sb + 12; omega)⟩ ?_
  refine zg_istore (L' := [(7, .int v120), (6, .int v118), (0, va_rf l0), (1, va_rf l1), (2, va_rf l2), (3, va_rf l3), (4, va_rf l4), (5, .int l5)]) ok dL_law_1248 (by decide) rfl ?_
  refine zg_aload_n ok dL_law_1250 rfl 4 rfl ?_
  refine zg_callV (vs := []) (rest := []) (rm := rm_X2_thrown) ok hRm lk_X0_223 dL_law_1251 hE (fun hE => mt_X2_thrown hl hE) rfl (Nat.le_of_ble_eq_true rfl) ⟨⟨Nat.le_of_ble_eq_true rfl, Nat.le_of_ble_eq_true rfl⟩, (by show kb + 2 + 0 ≤ 1200144; omega), (by show sb + 12 + 0 ≤ 5496826; omega)⟩ (zg_retI (fun v121 h56 hE => ?_)) (zg_xok ok tab fin ⟨(by show kb + 2 + 0 ≤ 1200144; omega), (by show sb + 12 + 0 ≤ 5496826; omega)⟩)
  refine zg_cost (kc2 := kb + 2) (ks2 := sb + 12) ⟨(by show kb + 2 + 0 = kb + 2; omega), (by show sb + 12 + 0 = sb + 12; omega)⟩ ?_
  refine zg_iload ok dL_law_1254 1 rfl ?_
  refine zg_icmp_eq (tgt := 1261) ok dL_law_1256 (by decide) hE (fun hE => ?_) (fun hE => ?_)
  · refine zg_iload ok dL_law_1261 1 rfl ?_
    refine zg_if_ne (tgt := 1278) ok dL_law_1263 (by decide) hE (fun hE => ?_) (fun hE => ?_)
    · refine zg_sub (L' := [(0, va_rf l0), (1, va_rf l1), (2, va_rf l2), (3, va_rf l3), (4, va_rf l4), (5, .int l5)]) [2, 3, 4, 5, 6, 7] rfl ?_
      exact gt_f_law_J1278 hl ok tab fin hRm hk hKE hR  hE
    · refine zg_aload_n ok dL_law_1266 rfl 5 rfl ?_
      refine zg_iconst (v := 0) ok dL_law_1267 (by decide) ?_
      refine zg_lald ok dL_law_1268 hE (fun v122 hE => ?_)
      refine zg_iload ok dL_law_1269 0 rfl ?_
      refine zg_i2l ok dL_law_1271 ?_
      refine zg_lcmp ok dL_law_1272 ?_
      refine zg_if_eq (tgt := 1278) ok dL_law_1273 (by decide) hE (fun hE => ?_) (fun hE => ?_)
      · refine zg_sub (L' := [(0, va_rf l0), (1, va_rf l1), (2, va_rf l2), (3, va_rf l3), (4, va_rf l4), (5, .int l5)]) [2, 3, 4, 5, 6, 7] rfl ?_
        exact gt_f_law_J1278 hl ok tab fin hRm hk hKE hR  hE
      · refine zg_iconst (v := 0) ok dL_law_1276 (by decide) ?_
        exact zg_zret ok fin dL_law_1277 ⟨(by omega), (by omega)⟩ rfl hE
  · refine zg_iconst (v := 0) ok dL_law_1259 (by decide) ?_
    exact zg_zret ok fin dL_law_1260 ⟨(by omega), (by omega)⟩ rfl hE
set_option maxHeartbeats 8000000 in
theorem gt_f_law_J1346 {Xc : zw_X} {Q : Int32 → zw_H → Prop} {X : String → Nat → zw_H → Prop} (hl : (zw_l Xc).stackTraces = false) (ok : zw_ok Xc cL_law "MultipoleLineLaw" "law" 9) (tab : zw_tab Xc []) (fin : zw_fin Xc (Option.some Jvm.ClassFile.FieldType.boolean) (zq_I Q) X 1200144 5496826) (hRm : zw_rm Xc = rm_law) {kb sb KE SE : Nat} (hk : kb + 1139 ≤ KE ∧ sb + 73158 ≤ SE) (hKE : KE ≤ 1200144 ∧ SE ≤ 5496826) {R : Int32 → zw_H → Prop} {l0 : Option Nat} {l1 : Option Nat} {l2 : Option Nat} {l3 : Option Nat} {l4 : Option Nat} (hR : ∀ (l5 : Int32) (h : zw_H), R l5 h → zw_G Xc (kb + 1139) (sb + 73158) 9 h 28 [(0, va_rf l0), (1, va_rf l1), (2, va_rf l2), (3, va_rf l3), (4, va_rf l4), (5, .int l5)] [])  {l5 : Int32}  {h : zw_H} (hE : f_law_J1346 (zw_Zf Xc).2.2.2 Q X R l0 l1 l2 l3 l4 l5 h) : zw_G Xc (kb + 2) (sb + 12) 9 h 1346 [(0, va_rf l0), (1, va_rf l1), (2, va_rf l2), (3, va_rf l3), (4, va_rf l4), (5, .int l5)] [] := by
  unfold f_law_J1346 at hE
  refine zg_goto (tgt := 4220) ok dL_law_1346 (by decide) ?_
  refine zg_wide (kc2 := kb + 1139) (ks2 := sb + 73158) (by omega) (by omega) ?_
  exact gt_f_law_J4220 hl ok tab fin hRm hk hKE hR  hE
set_option maxHeartbeats 8000000 in
theorem gt_f_law_J1281 {Xc : zw_X} {Q : Int32 → zw_H → Prop} {X : String → Nat → zw_H → Prop} (hl : (zw_l Xc).stackTraces = false) (ok : zw_ok Xc cL_law "MultipoleLineLaw" "law" 9) (tab : zw_tab Xc []) (fin : zw_fin Xc (Option.some Jvm.ClassFile.FieldType.boolean) (zq_I Q) X 1200144 5496826) (hRm : zw_rm Xc = rm_law) {kb sb KE SE : Nat} (hk : kb + 1139 ≤ KE ∧ sb + 73158 ≤ SE) (hKE : KE ≤ 1200144 ∧ SE ≤ 5496826) {R : Int32 → zw_H → Prop} {l0 : Option Nat} {l1 : Option Nat} {l2 : Option Nat} {l3 : Option Nat} {l4 : Option Nat} (hR : ∀ (l5 : Int32) (h : zw_H), R l5 h → zw_G Xc (kb + 1139) (sb + 73158) 9 h 28 [(0, va_rf l0), (1, va_rf l1), (2, va_rf l2), (3, va_rf l3), (4, va_rf l4), (5, .int l5)] [])  {l5 : Int32}  {h : zw_H} (hE : f_law_J1281 (zw_Zf Xc).2.2.2 Q X R l0 l1 l2 l3 l4 l5 h) : zw_G Xc kb sb 9 h 1281 [(0, va_rf l0), (1, va_rf l1), (2, va_rf l2), (3, va_rf l3), (4, va_rf l4), (5, .int l5)] [] := by
  unfold f_law_J1281 at hE
  refine zg_aload_n ok dL_law_1281 rfl 1 rfl ?_
  refine zg_aload_n ok dL_law_1282 rfl 0 rfl ?_
  refine zg_iload ok dL_law_1283 5 rfl ?_
  refine zg_iconst (v := 1) ok dL_law_1285 (by decide) ?_
  refine zg_iadd ok dL_law_1286 ?_
  refine zg_iald ok dL_law_1287 hE (fun v123 hE => ?_)
  refine zg_aload_n ok dL_law_1288 rfl 0 rfl ?_
  refine zg_iload ok dL_law_1289 5 rfl ?_
  refine zg_iconst (v := 2) ok dL_law_1291 (by decide) ?_
  refine zg_iadd ok dL_law_1292 ?_
  refine zg_iald ok dL_law_1293 hE (fun v124 hE => ?_)
  refine zg_aload_n ok dL_law_1294 rfl 3 rfl ?_
  refine zg_callSX (vs := [zA l1, zI v123, zI v124, zA l3]) (rest := []) (rm := rm_X0_farBox) ok hRm lk_X0_280 dL_law_1295 hE (fun hE => mt_X0_farBox hl hE) rfl (Nat.le_of_ble_eq_true rfl) ⟨⟨Nat.le_of_ble_eq_true rfl, Nat.le_of_ble_eq_true rfl⟩, (by show kb + 2 ≤ 1200144; omega), (by show sb + 12 ≤ 5496826; omega)⟩ (zg_retI (fun v125 h57 hE => ?_)) (zg_xok ok tab fin ⟨(by show kb + 2 ≤ 1200144; omega), (by show sb + 12 ≤ 5496826; omega)⟩)
  refine zg_cost (kc2 := kb + 2) (ks2 := sb + 12) ⟨(by show kb + 2 = kb + 2; omega), (by show sb + 12 = sb + 12; omega)⟩ ?_
  refine zg_istore (L' := [(6, .int v125), (0, va_rf l0), (1, va_rf l1), (2, va_rf l2), (3, va_rf l3), (4, va_rf l4), (5, .int l5)]) ok dL_law_1298 (by decide) rfl ?_
  refine zg_aload_n ok dL_law_1300 rfl 3 rfl ?_
  refine zg_aload_n ok dL_law_1301 rfl 1 rfl ?_
  refine zg_iload ok dL_law_1302 6 rfl ?_
  refine zg_iconst (v := 1) ok dL_law_1304 (by decide) ?_
  refine zg_iadd ok dL_law_1305 ?_
  refine zg_iald ok dL_law_1306 hE (fun v126 hE => ?_)
  refine zg_aload_n ok dL_law_1307 rfl 1 rfl ?_
  refine zg_iload ok dL_law_1308 6 rfl ?_
  refine zg_iconst (v := 2) ok dL_law_1310 (by decide) ?_
  refine zg_iadd ok dL_law_1311 ?_
  refine zg_iald ok dL_law_1312 hE (fun v127 hE => ?_)
  refine zg_callV (vs := [zI v126, zI v127]) (rest := []) (rm := rm_X2_farBox) ok hRm lk_X0_282 dL_law_1313 hE (fun hE => mt_X2_farBox hl hE) rfl (Nat.le_of_ble_eq_true rfl) ⟨⟨Nat.le_of_ble_eq_true rfl, Nat.le_of_ble_eq_true rfl⟩, (by show kb + 2 + 0 ≤ 1200144; omega), (by show sb + 12 + 0 ≤ 5496826; omega)⟩ (zg_retI (fun v128 h58 hE => ?_)) (zg_xok ok tab fin ⟨(by show kb + 2 + 0 ≤ 1200144; omega), (by show sb + 12 + 0 ≤ 5496826; omega)⟩)
  refine zg_cost (kc2 := kb + 2) (ks2 := sb + 12) ⟨(by show kb + 2 + 0 = kb + 2; omega), (by show sb + 12 + 0 = sb + 12; omega)⟩ ?_
  refine zg_istore (L' := [(7, .int v128), (6, .int v125), (0, va_rf l0), (1, va_rf l1), (2, va_rf l2), (3, va_rf l3), (4, va_rf l4), (5, .int l5)]) ok dL_law_1316 (by decide) rfl ?_
  refine zg_aload_n ok dL_law_1318 rfl 4 rfl ?_
  refine zg_callV (vs := []) (rest := []) (rm := rm_X2_thrown) ok hRm lk_X0_223 dL_law_1319 hE (fun hE => mt_X2_thrown hl hE) rfl (Nat.le_of_ble_eq_true rfl) ⟨⟨Nat.le_of_ble_eq_true rfl, Nat.le_of_ble_eq_true rfl⟩, (by show kb + 2 + 0 ≤ 1200144; omega), (by show sb + 12 + 0 ≤ 5496826; omega)⟩ (zg_retI (fun v129 h59 hE => ?_)) (zg_xok ok tab fin ⟨(by show kb + 2 + 0 ≤ 1200144; omega), (by show sb + 12 + 0 ≤ 5496826; omega)⟩)
  refine zg_cost (kc2 := kb + 2) (ks2 := sb + 12) ⟨(by show kb + 2 + 0 = kb + 2; omega), (by show sb + 12 + 0 = sb + 12; omega)⟩ ?_
  refine zg_iload ok dL_law_1322 1 rfl ?_
  refine zg_icmp_eq (tgt := 1329) ok dL_law_1324 (by decide) hE (fun hE => ?_) (fun hE => ?_)
  · refine zg_iload ok dL_law_1329 1 rfl ?_
    refine zg_if_ne (tgt := 1346) ok dL_law_1331 (by decide) hE (fun hE => ?_) (fun hE => ?_)
    · refine zg_sub (L' := [(0, va_rf l0), (1, va_rf l1), (2, va_rf l2), (3, va_rf l3), (4, va_rf l4), (5, .int l5)]) [2, 3, 4, 5, 6, 7] rfl ?_
      exact gt_f_law_J1346 hl ok tab fin hRm hk hKE hR  hE
    · refine zg_aload_n ok dL_law_1334 rfl 5 rfl ?_
      refine zg_iconst (v := 0) ok dL_law_1335 (by decide) ?_
      refine zg_lald ok dL_law_1336 hE (fun v130 hE => ?_)
      refine zg_iload ok dL_law_1337 0 rfl ?_
      refine zg_i2l ok dL_law_1339 ?_
      refine zg_lcmp ok dL_law_1340 ?_
      refine zg_if_eq (tgt := 1346) ok dL_law_1341 (by decide) hE (fun hE => ?_) (fun hE => ?_)
      · refine zg_sub (L' := [(0, va_rf l0), (1, va_rf l1), (2, va_rf l2), (3, va_rf l3), (4, va_rf l4), (5, .int l5)]) [2, 3, 4, 5, 6, 7] rfl ?_
        exact gt_f_law_J1346 hl ok tab fin hRm hk hKE hR  hE
      · refine zg_iconst (v := 0) ok dL_law_1344 (by decide) ?_
        exact zg_zret ok fin dL_law_1345 ⟨(by omega), (by omega)⟩ rfl hE
  · refine zg_iconst (v := 0) ok dL_law_1327 (by decide) ?_
    exact zg_zret ok fin dL_law_1328 ⟨(by omega), (by omega)⟩ rfl hE
set_option maxHeartbeats 8000000 in
theorem gt_f_law_J1402 {Xc : zw_X} {Q : Int32 → zw_H → Prop} {X : String → Nat → zw_H → Prop} (hl : (zw_l Xc).stackTraces = false) (ok : zw_ok Xc cL_law "MultipoleLineLaw" "law" 9) (tab : zw_tab Xc []) (fin : zw_fin Xc (Option.some Jvm.ClassFile.FieldType.boolean) (zq_I Q) X 1200144 5496826) (hRm : zw_rm Xc = rm_law) {kb sb KE SE : Nat} (hk : kb + 1139 ≤ KE ∧ sb + 73158 ≤ SE) (hKE : KE ≤ 1200144 ∧ SE ≤ 5496826) {R : Int32 → zw_H → Prop} {l0 : Option Nat} {l1 : Option Nat} {l2 : Option Nat} {l3 : Option Nat} {l4 : Option Nat} (hR : ∀ (l5 : Int32) (h : zw_H), R l5 h → zw_G Xc (kb + 1139) (sb + 73158) 9 h 28 [(0, va_rf l0), (1, va_rf l1), (2, va_rf l2), (3, va_rf l3), (4, va_rf l4), (5, .int l5)] [])  {l5 : Int32}  {h : zw_H} (hE : f_law_J1402 (zw_Zf Xc).2.2.2 Q X R l0 l1 l2 l3 l4 l5 h) : zw_G Xc (kb + 2) (sb + 12) 9 h 1402 [(0, va_rf l0), (1, va_rf l1), (2, va_rf l2), (3, va_rf l3), (4, va_rf l4), (5, .int l5)] [] := by
  unfold f_law_J1402 at hE
  refine zg_goto (tgt := 4220) ok dL_law_1402 (by decide) ?_
  refine zg_wide (kc2 := kb + 1139) (ks2 := sb + 73158) (by omega) (by omega) ?_
  exact gt_f_law_J4220 hl ok tab fin hRm hk hKE hR  hE
set_option maxHeartbeats 8000000 in
theorem gt_f_law_J1349 {Xc : zw_X} {Q : Int32 → zw_H → Prop} {X : String → Nat → zw_H → Prop} (hl : (zw_l Xc).stackTraces = false) (ok : zw_ok Xc cL_law "MultipoleLineLaw" "law" 9) (tab : zw_tab Xc []) (fin : zw_fin Xc (Option.some Jvm.ClassFile.FieldType.boolean) (zq_I Q) X 1200144 5496826) (hRm : zw_rm Xc = rm_law) {kb sb KE SE : Nat} (hk : kb + 1139 ≤ KE ∧ sb + 73158 ≤ SE) (hKE : KE ≤ 1200144 ∧ SE ≤ 5496826) {R : Int32 → zw_H → Prop} {l0 : Option Nat} {l1 : Option Nat} {l2 : Option Nat} {l3 : Option Nat} {l4 : Option Nat} (hR : ∀ (l5 : Int32) (h : zw_H), R l5 h → zw_G Xc (kb + 1139) (sb + 73158) 9 h 28 [(0, va_rf l0), (1, va_rf l1), (2, va_rf l2), (3, va_rf l3), (4, va_rf l4), (5, .int l5)] [])  {l5 : Int32}  {h : zw_H} (hE : f_law_J1349 (zw_Zf Xc).2.2.2 Q X R l0 l1 l2 l3 l4 l5 h) : zw_G Xc kb sb 9 h 1349 [(0, va_rf l0), (1, va_rf l1), (2, va_rf l2), (3, va_rf l3), (4, va_rf l4), (5, .int l5)] [] := by
  unfold f_law_J1349 at hE
  refine zg_aload_n ok dL_law_1349 rfl 1 rfl ?_
  refine zg_aload_n ok dL_law_1350 rfl 0 rfl ?_
  refine zg_iload ok dL_law_1351 5 rfl ?_
  refine zg_iconst (v := 1) ok dL_law_1353 (by decide) ?_
  refine zg_iadd ok dL_law_1354 ?_
  refine zg_iald ok dL_law_1355 hE (fun v131 hE => ?_)
  refine zg_aload_n ok dL_law_1356 rfl 3 rfl ?_
  refine zg_callSX (vs := [zA l1, zI v131, zA l3]) (rest := []) (rm := rm_X0_farBodies) ok hRm lk_X0_283 dL_law_1357 hE (fun hE => mt_X0_farBodies hl hE) rfl (Nat.le_of_ble_eq_true rfl) ⟨⟨Nat.le_of_ble_eq_true rfl, Nat.le_of_ble_eq_true rfl⟩, (by show kb + 2 ≤ 1200144; omega), (by show sb + 12 ≤ 5496826; omega)⟩ (zg_retI (fun v132 h60 hE => ?_)) (zg_xok ok tab fin ⟨(by show kb + 2 ≤ 1200144; omega), (by show sb + 12 ≤ 5496826; omega)⟩)
  refine zg_cost (kc2 := kb + 2) (ks2 := sb + 12) ⟨(by show kb + 2 = kb + 2; omega), (by show sb + 12 = sb + 12; omega)⟩ ?_
  refine zg_istore (L' := [(6, .int v132), (0, va_rf l0), (1, va_rf l1), (2, va_rf l2), (3, va_rf l3), (4, va_rf l4), (5, .int l5)]) ok dL_law_1360 (by decide) rfl ?_
  refine zg_aload_n ok dL_law_1362 rfl 3 rfl ?_
  refine zg_aload_n ok dL_law_1363 rfl 1 rfl ?_
  refine zg_iload ok dL_law_1364 6 rfl ?_
  refine zg_iconst (v := 1) ok dL_law_1366 (by decide) ?_
  refine zg_iadd ok dL_law_1367 ?_
  refine zg_iald ok dL_law_1368 hE (fun v133 hE => ?_)
  refine zg_callV (vs := [zI v133]) (rest := []) (rm := rm_X2_farBodies) ok hRm lk_X0_285 dL_law_1369 hE (fun hE => mt_X2_farBodies hl hE) rfl (Nat.le_of_ble_eq_true rfl) ⟨⟨Nat.le_of_ble_eq_true rfl, Nat.le_of_ble_eq_true rfl⟩, (by show kb + 2 + 0 ≤ 1200144; omega), (by show sb + 12 + 0 ≤ 5496826; omega)⟩ (zg_retI (fun v134 h61 hE => ?_)) (zg_xok ok tab fin ⟨(by show kb + 2 + 0 ≤ 1200144; omega), (by show sb + 12 + 0 ≤ 5496826; omega)⟩)
  refine zg_cost (kc2 := kb + 2) (ks2 := sb + 12) ⟨(by show kb + 2 + 0 = kb + 2; omega), (by show sb + 12 + 0 = sb + 12; omega)⟩ ?_
  refine zg_istore (L' := [(7, .int v134), (6, .int v132), (0, va_rf l0), (1, va_rf l1), (2, va_rf l2), (3, va_rf l3), (4, va_rf l4), (5, .int l5)]) ok dL_law_1372 (by decide) rfl ?_
  refine zg_aload_n ok dL_law_1374 rfl 4 rfl ?_
  refine zg_callV (vs := []) (rest := []) (rm := rm_X2_thrown) ok hRm lk_X0_223 dL_law_1375 hE (fun hE => mt_X2_thrown hl hE) rfl (Nat.le_of_ble_eq_true rfl) ⟨⟨Nat.le_of_ble_eq_true rfl, Nat.le_of_ble_eq_true rfl⟩, (by show kb + 2 + 0 ≤ 1200144; omega), (by show sb + 12 + 0 ≤ 5496826; omega)⟩ (zg_retI (fun v135 h62 hE => ?_)) (zg_xok ok tab fin ⟨(by show kb + 2 + 0 ≤ 1200144; omega), (by show sb + 12 + 0 ≤ 5496826; omega)⟩)
  refine zg_cost (kc2 := kb + 2) (ks2 := sb + 12) ⟨(by show kb + 2 + 0 = kb + 2; omega), (by show sb + 12 + 0 = sb + 12; omega)⟩ ?_
  refine zg_iload ok dL_law_1378 1 rfl ?_
  refine zg_icmp_eq (tgt := 1385) ok dL_law_1380 (by decide) hE (fun hE => ?_) (fun hE => ?_)
  · refine zg_iload ok dL_law_1385 1 rfl ?_
    refine zg_if_ne (tgt := 1402) ok dL_law_1387 (by decide) hE (fun hE => ?_) (fun hE => ?_)
    · refine zg_sub (L' := [(0, va_rf l0), (1, va_rf l1), (2, va_rf l2), (3, va_rf l3), (4, va_rf l4), (5, .int l5)]) [2, 3, 4, 5, 6, 7] rfl ?_
      exact gt_f_law_J1402 hl ok tab fin hRm hk hKE hR  hE
    · refine zg_aload_n ok dL_law_1390 rfl 5 rfl ?_
      refine zg_iconst (v := 0) ok dL_law_1391 (by decide) ?_
      refine zg_lald ok dL_law_1392 hE (fun v136 hE => ?_)
      refine zg_iload ok dL_law_1393 0 rfl ?_
      refine zg_i2l ok dL_law_1395 ?_
      refine zg_lcmp ok dL_law_1396 ?_
      refine zg_if_eq (tgt := 1402) ok dL_law_1397 (by decide) hE (fun hE => ?_) (fun hE => ?_)
      · refine zg_sub (L' := [(0, va_rf l0), (1, va_rf l1), (2, va_rf l2), (3, va_rf l3), (4, va_rf l4), (5, .int l5)]) [2, 3, 4, 5, 6, 7] rfl ?_
        exact gt_f_law_J1402 hl ok tab fin hRm hk hKE hR  hE
      · refine zg_iconst (v := 0) ok dL_law_1400 (by decide) ?_
        exact zg_zret ok fin dL_law_1401 ⟨(by omega), (by omega)⟩ rfl hE
  · refine zg_iconst (v := 0) ok dL_law_1383 (by decide) ?_
    exact zg_zret ok fin dL_law_1384 ⟨(by omega), (by omega)⟩ rfl hE
set_option maxHeartbeats 8000000 in
theorem gt_f_law_J1486 {Xc : zw_X} {Q : Int32 → zw_H → Prop} {X : String → Nat → zw_H → Prop} (hl : (zw_l Xc).stackTraces = false) (ok : zw_ok Xc cL_law "MultipoleLineLaw" "law" 9) (tab : zw_tab Xc []) (fin : zw_fin Xc (Option.some Jvm.ClassFile.FieldType.boolean) (zq_I Q) X 1200144 5496826) (hRm : zw_rm Xc = rm_law) {kb sb KE SE : Nat} (hk : kb + 1139 ≤ KE ∧ sb + 73158 ≤ SE) (hKE : KE ≤ 1200144 ∧ SE ≤ 5496826) {R : Int32 → zw_H → Prop} {l0 : Option Nat} {l1 : Option Nat} {l2 : Option Nat} {l3 : Option Nat} {l4 : Option Nat} (hR : ∀ (l5 : Int32) (h : zw_H), R l5 h → zw_G Xc (kb + 1139) (sb + 73158) 9 h 28 [(0, va_rf l0), (1, va_rf l1), (2, va_rf l2), (3, va_rf l3), (4, va_rf l4), (5, .int l5)] [])  {l5 : Int32}  {h : zw_H} (hE : f_law_J1486 (zw_Zf Xc).2.2.2 Q X R l0 l1 l2 l3 l4 l5 h) : zw_G Xc (kb + 2) (sb + 12) 9 h 1486 [(0, va_rf l0), (1, va_rf l1), (2, va_rf l2), (3, va_rf l3), (4, va_rf l4), (5, .int l5)] [] := by
  unfold f_law_J1486 at hE
  refine zg_goto (tgt := 4220) ok dL_law_1486 (by decide) ?_
  refine zg_wide (kc2 := kb + 1139) (ks2 := sb + 73158) (by omega) (by omega) ?_
  exact gt_f_law_J4220 hl ok tab fin hRm hk hKE hR  hE
set_option maxHeartbeats 8000000 in
theorem gt_f_law_J1453 {Xc : zw_X} {Q : Int32 → zw_H → Prop} {X : String → Nat → zw_H → Prop} (hl : (zw_l Xc).stackTraces = false) (ok : zw_ok Xc cL_law "MultipoleLineLaw" "law" 9) (tab : zw_tab Xc []) (fin : zw_fin Xc (Option.some Jvm.ClassFile.FieldType.boolean) (zq_I Q) X 1200144 5496826) (hRm : zw_rm Xc = rm_law) {kb sb KE SE : Nat} (hk : kb + 1139 ≤ KE ∧ sb + 73158 ≤ SE) (hKE : KE ≤ 1200144 ∧ SE ≤ 5496826) {R : Int32 → zw_H → Prop} {l0 : Option Nat} {l1 : Option Nat} {l2 : Option Nat} {l3 : Option Nat} {l4 : Option Nat} (hR : ∀ (l5 : Int32) (h : zw_H), R l5 h → zw_G Xc (kb + 1139) (sb + 73158) 9 h 28 [(0, va_rf l0), (1, va_rf l1), (2, va_rf l2), (3, va_rf l3), (4, va_rf l4), (5, .int l5)] [])  {l5 : Int32} {l6 : Int32} {s0 : Int32} {s1 : Int32} {s2 : Option Nat} {h : zw_H} (hE : f_law_J1453 (zw_Zf Xc).2.2.2 Q X R l0 l1 l2 l3 l4 l5 l6 s0 s1 s2 h) : zw_G Xc (kb + 2) (sb + 12) 9 h 1453 [(0, va_rf l0), (1, va_rf l1), (2, va_rf l2), (3, va_rf l3), (4, va_rf l4), (5, .int l5), (6, .int l6)] [.int s0, .int s1, va_rf s2] := by
  unfold f_law_J1453 at hE
  refine zg_callV (vs := [zI s1, zI s0]) (rest := []) (rm := rm_X2_cost) ok hRm lk_X0_289 dL_law_1453 hE (fun hE => mt_X2_cost hl hE) rfl (Nat.le_of_ble_eq_true rfl) ⟨⟨Nat.le_of_ble_eq_true rfl, Nat.le_of_ble_eq_true rfl⟩, (by show kb + 2 + 0 ≤ 1200144; omega), (by show sb + 12 + 0 ≤ 5496826; omega)⟩ (zg_retI (fun v142 h64 hE => ?_)) (zg_xok ok tab fin ⟨(by show kb + 2 + 0 ≤ 1200144; omega), (by show sb + 12 + 0 ≤ 5496826; omega)⟩)
  refine zg_cost (kc2 := kb + 2) (ks2 := sb + 12) ⟨(by show kb + 2 + 0 = kb + 2; omega), (by show sb + 12 + 0 = sb + 12; omega)⟩ ?_
  refine zg_istore (L' := [(7, .int v142), (0, va_rf l0), (1, va_rf l1), (2, va_rf l2), (3, va_rf l3), (4, va_rf l4), (5, .int l5), (6, .int l6)]) ok dL_law_1456 (by decide) rfl ?_
  refine zg_aload_n ok dL_law_1458 rfl 3 rfl ?_
  refine zg_callV (vs := []) (rest := []) (rm := rm_X2_thrown) ok hRm lk_X0_223 dL_law_1459 hE (fun hE => mt_X2_thrown hl hE) rfl (Nat.le_of_ble_eq_true rfl) ⟨⟨Nat.le_of_ble_eq_true rfl, Nat.le_of_ble_eq_true rfl⟩, (by show kb + 2 + 0 ≤ 1200144; omega), (by show sb + 12 + 0 ≤ 5496826; omega)⟩ (zg_retI (fun v143 h65 hE => ?_)) (zg_xok ok tab fin ⟨(by show kb + 2 + 0 ≤ 1200144; omega), (by show sb + 12 + 0 ≤ 5496826; omega)⟩)
  refine zg_cost (kc2 := kb + 2) (ks2 := sb + 12) ⟨(by show kb + 2 + 0 = kb + 2; omega), (by show sb + 12 + 0 = sb + 12; omega)⟩ ?_
  refine zg_iload ok dL_law_1462 7 rfl ?_
  refine zg_icmp_eq (tgt := 1469) ok dL_law_1464 (by decide) hE (fun hE => ?_) (fun hE => ?_)
  · refine zg_iload ok dL_law_1469 7 rfl ?_
    refine zg_if_ne (tgt := 1486) ok dL_law_1471 (by decide) hE (fun hE => ?_) (fun hE => ?_)
    · refine zg_sub (L' := [(0, va_rf l0), (1, va_rf l1), (2, va_rf l2), (3, va_rf l3), (4, va_rf l4), (5, .int l5)]) [1, 2, 3, 4, 5, 6] rfl ?_
      exact gt_f_law_J1486 hl ok tab fin hRm hk hKE hR  hE
    · refine zg_aload_n ok dL_law_1474 rfl 4 rfl ?_
      refine zg_iconst (v := 0) ok dL_law_1475 (by decide) ?_
      refine zg_lald ok dL_law_1476 hE (fun v144 hE => ?_)
      refine zg_iload ok dL_law_1477 0 rfl ?_
      refine zg_i2l ok dL_law_1479 ?_
      refine zg_lcmp ok dL_law_1480 ?_
      refine zg_if_eq (tgt := 1486) ok dL_law_1481 (by decide) hE (fun hE => ?_) (fun hE => ?_)
      · refine zg_sub (L' := [(0, va_rf l0), (1, va_rf l1), (2, va_rf l2), (3, va_rf l3), (4, va_rf l4), (5, .int l5)]) [1, 2, 3, 4, 5, 6] rfl ?_
        exact gt_f_law_J1486 hl ok tab fin hRm hk hKE hR  hE
      · refine zg_iconst (v := 0) ok dL_law_1484 (by decide) ?_
        exact zg_zret ok fin dL_law_1485 ⟨(by omega), (by omega)⟩ rfl hE
  · refine zg_iconst (v := 0) ok dL_law_1467 (by decide) ?_
    exact zg_zret ok fin dL_law_1468 ⟨(by omega), (by omega)⟩ rfl hE
set_option maxHeartbeats 8000000 in
theorem gt_f_law_J1426 {Xc : zw_X} {Q : Int32 → zw_H → Prop} {X : String → Nat → zw_H → Prop} (hl : (zw_l Xc).stackTraces = false) (ok : zw_ok Xc cL_law "MultipoleLineLaw" "law" 9) (tab : zw_tab Xc []) (fin : zw_fin Xc (Option.some Jvm.ClassFile.FieldType.boolean) (zq_I Q) X 1200144 5496826) (hRm : zw_rm Xc = rm_law) {kb sb KE SE : Nat} (hk : kb + 1139 ≤ KE ∧ sb + 73158 ≤ SE) (hKE : KE ≤ 1200144 ∧ SE ≤ 5496826) {R : Int32 → zw_H → Prop} {l0 : Option Nat} {l1 : Option Nat} {l2 : Option Nat} {l3 : Option Nat} {l4 : Option Nat} (hR : ∀ (l5 : Int32) (h : zw_H), R l5 h → zw_G Xc (kb + 1139) (sb + 73158) 9 h 28 [(0, va_rf l0), (1, va_rf l1), (2, va_rf l2), (3, va_rf l3), (4, va_rf l4), (5, .int l5)] [])  {l5 : Int32} {s0 : Int32} {s1 : Int32} {s2 : Option Nat} {h : zw_H} (hE : f_law_J1426 (zw_Zf Xc).2.2.2 Q X R l0 l1 l2 l3 l4 l5 s0 s1 s2 h) : zw_G Xc kb sb 9 h 1426 [(0, va_rf l0), (1, va_rf l1), (2, va_rf l2), (3, va_rf l3), (4, va_rf l4), (5, .int l5)] [.int s0, .int s1, va_rf s2] := by
  unfold f_law_J1426 at hE
  refine zg_aload_n ok dL_law_1426 rfl 3 rfl ?_
  refine zg_callSX (vs := [zA s2, zI s1, zI s0, zA l3]) (rest := []) (rm := rm_X0_cost) ok hRm lk_X0_286 dL_law_1427 hE (fun hE => mt_X0_cost hl hE) rfl (Nat.le_of_ble_eq_true rfl) ⟨⟨Nat.le_of_ble_eq_true rfl, Nat.le_of_ble_eq_true rfl⟩, (by show kb + 2 ≤ 1200144; omega), (by show sb + 12 ≤ 5496826; omega)⟩ (zg_retI (fun v139 h63 hE => ?_)) (zg_xok ok tab fin ⟨(by show kb + 2 ≤ 1200144; omega), (by show sb + 12 ≤ 5496826; omega)⟩)
  refine zg_cost (kc2 := kb + 2) (ks2 := sb + 12) ⟨(by show kb + 2 = kb + 2; omega), (by show sb + 12 = sb + 12; omega)⟩ ?_
  refine zg_istore (L' := [(6, .int v139), (0, va_rf l0), (1, va_rf l1), (2, va_rf l2), (3, va_rf l3), (4, va_rf l4), (5, .int l5)]) ok dL_law_1430 (by decide) rfl ?_
  refine zg_aload_n ok dL_law_1432 rfl 3 rfl ?_
  refine zg_aload_n ok dL_law_1433 rfl 1 rfl ?_
  refine zg_iload ok dL_law_1434 6 rfl ?_
  refine zg_iconst (v := 1) ok dL_law_1436 (by decide) ?_
  refine zg_iadd ok dL_law_1437 ?_
  refine zg_iald ok dL_law_1438 hE (fun v140 hE => ?_)
  refine zg_aload_n ok dL_law_1439 rfl 1 rfl ?_
  refine zg_iload ok dL_law_1440 6 rfl ?_
  refine zg_iconst (v := 2) ok dL_law_1442 (by decide) ?_
  refine zg_iadd ok dL_law_1443 ?_
  refine zg_iald ok dL_law_1444 hE (fun v141 hE => ?_)
  refine zg_if_eq (tgt := 1452) ok dL_law_1445 (by decide) hE (fun hE => ?_) (fun hE => ?_)
  · refine zg_iconst (v := 0) ok dL_law_1452 (by decide) ?_
    refine zg_sub (L' := [(0, va_rf l0), (1, va_rf l1), (2, va_rf l2), (3, va_rf l3), (4, va_rf l4), (5, .int l5), (6, .int v139)]) [1, 2, 3, 4, 5, 6, 0] rfl ?_
    exact gt_f_law_J1453 hl ok tab fin hRm hk hKE hR  hE
  · refine zg_iconst (v := 1) ok dL_law_1448 (by decide) ?_
    refine zg_goto (tgt := 1453) ok dL_law_1449 (by decide) ?_
    refine zg_sub (L' := [(0, va_rf l0), (1, va_rf l1), (2, va_rf l2), (3, va_rf l3), (4, va_rf l4), (5, .int l5), (6, .int v139)]) [1, 2, 3, 4, 5, 6, 0] rfl ?_
    exact gt_f_law_J1453 hl ok tab fin hRm hk hKE hR  hE
set_option maxHeartbeats 8000000 in
theorem gt_f_law_J1405 {Xc : zw_X} {Q : Int32 → zw_H → Prop} {X : String → Nat → zw_H → Prop} (hl : (zw_l Xc).stackTraces = false) (ok : zw_ok Xc cL_law "MultipoleLineLaw" "law" 9) (tab : zw_tab Xc []) (fin : zw_fin Xc (Option.some Jvm.ClassFile.FieldType.boolean) (zq_I Q) X 1200144 5496826) (hRm : zw_rm Xc = rm_law) {kb sb KE SE : Nat} (hk : kb + 1139 ≤ KE ∧ sb + 73158 ≤ SE) (hKE : KE ≤ 1200144 ∧ SE ≤ 5496826) {R : Int32 → zw_H → Prop} {l0 : Option Nat} {l1 : Option Nat} {l2 : Option Nat} {l3 : Option Nat} {l4 : Option Nat} (hR : ∀ (l5 : Int32) (h : zw_H), R l5 h → zw_G Xc (kb + 1139) (sb + 73158) 9 h 28 [(0, va_rf l0), (1, va_rf l1), (2, va_rf l2), (3, va_rf l3), (4, va_rf l4), (5, .int l5)] [])  {l5 : Int32}  {h : zw_H} (hE : f_law_J1405 (zw_Zf Xc).2.2.2 Q X R l0 l1 l2 l3 l4 l5 h) : zw_G Xc kb sb 9 h 1405 [(0, va_rf l0), (1, va_rf l1), (2, va_rf l2), (3, va_rf l3), (4, va_rf l4), (5, .int l5)] [] := by
  unfold f_law_J1405 at hE
  refine zg_aload_n ok dL_law_1405 rfl 1 rfl ?_
  refine zg_aload_n ok dL_law_1406 rfl 0 rfl ?_
  refine zg_iload ok dL_law_1407 5 rfl ?_
  refine zg_iconst (v := 1) ok dL_law_1409 (by decide) ?_
  refine zg_iadd ok dL_law_1410 ?_
  refine zg_iald ok dL_law_1411 hE (fun v137 hE => ?_)
  refine zg_aload_n ok dL_law_1412 rfl 0 rfl ?_
  refine zg_iload ok dL_law_1413 5 rfl ?_
  refine zg_iconst (v := 2) ok dL_law_1415 (by decide) ?_
  refine zg_iadd ok dL_law_1416 ?_
  refine zg_iald ok dL_law_1417 hE (fun v138 hE => ?_)
  refine zg_if_eq (tgt := 1425) ok dL_law_1418 (by decide) hE (fun hE => ?_) (fun hE => ?_)
  · refine zg_iconst (v := 0) ok dL_law_1425 (by decide) ?_
    exact gt_f_law_J1426 hl ok tab fin hRm hk hKE hR  hE
  · refine zg_iconst (v := 1) ok dL_law_1421 (by decide) ?_
    refine zg_goto (tgt := 1426) ok dL_law_1422 (by decide) ?_
    exact gt_f_law_J1426 hl ok tab fin hRm hk hKE hR  hE
set_option maxHeartbeats 8000000 in
theorem gt_f_law_J1563 {Xc : zw_X} {Q : Int32 → zw_H → Prop} {X : String → Nat → zw_H → Prop} (hl : (zw_l Xc).stackTraces = false) (ok : zw_ok Xc cL_law "MultipoleLineLaw" "law" 9) (tab : zw_tab Xc []) (fin : zw_fin Xc (Option.some Jvm.ClassFile.FieldType.boolean) (zq_I Q) X 1200144 5496826) (hRm : zw_rm Xc = rm_law) {kb sb KE SE : Nat} (hk : kb + 1139 ≤ KE ∧ sb + 73158 ≤ SE) (hKE : KE ≤ 1200144 ∧ SE ≤ 5496826) {R : Int32 → zw_H → Prop} {l0 : Option Nat} {l1 : Option Nat} {l2 : Option Nat} {l3 : Option Nat} {l4 : Option Nat} (hR : ∀ (l5 : Int32) (h : zw_H), R l5 h → zw_G Xc (kb + 1139) (sb + 73158) 9 h 28 [(0, va_rf l0), (1, va_rf l1), (2, va_rf l2), (3, va_rf l3), (4, va_rf l4), (5, .int l5)] [])  {l5 : Int32}  {h : zw_H} (hE : f_law_J1563 (zw_Zf Xc).2.2.2 Q X R l0 l1 l2 l3 l4 l5 h) : zw_G Xc (kb + 2) (sb + 12) 9 h 1563 [(0, va_rf l0), (1, va_rf l1), (2, va_rf l2), (3, va_rf l3), (4, va_rf l4), (5, .int l5)] [] := by
  unfold f_law_J1563 at hE
  refine zg_goto (tgt := 4220) ok dL_law_1563 (by decide) ?_
  refine zg_wide (kc2 := kb + 1139) (ks2 := sb + 73158) (by omega) (by omega) ?_
  exact gt_f_law_J4220 hl ok tab fin hRm hk hKE hR  hE
set_option maxHeartbeats 8000000 in
theorem gt_f_law_J1489 {Xc : zw_X} {Q : Int32 → zw_H → Prop} {X : String → Nat → zw_H → Prop} (hl : (zw_l Xc).stackTraces = false) (ok : zw_ok Xc cL_law "MultipoleLineLaw" "law" 9) (tab : zw_tab Xc []) (fin : zw_fin Xc (Option.some Jvm.ClassFile.FieldType.boolean) (zq_I Q) X 1200144 5496826) (hRm : zw_rm Xc = rm_law) {kb sb KE SE : Nat} (hk : kb + 1139 ≤ KE ∧ sb + 73158 ≤ SE) (hKE : KE ≤ 1200144 ∧ SE ≤ 5496826) {R : Int32 → zw_H → Prop} {l0 : Option Nat} {l1 : Option Nat} {l2 : Option Nat} {l3 : Option Nat} {l4 : Option Nat} (hR : ∀ (l5 : Int32) (h : zw_H), R l5 h → zw_G Xc (kb + 1139) (sb + 73158) 9 h 28 [(0, va_rf l0), (1, va_rf l1), (2, va_rf l2), (3, va_rf l3), (4, va_rf l4), (5, .int l5)] [])  {l5 : Int32}  {h : zw_H} (hE : f_law_J1489 (zw_Zf Xc).2.2.2 Q X R l0 l1 l2 l3 l4 l5 h) : zw_G Xc kb sb 9 h 1489 [(0, va_rf l0), (1, va_rf l1), (2, va_rf l2), (3, va_rf l3), (4, va_rf l4), (5, .int l5)] [] := by
  unfold f_law_J1489 at hE
  refine zg_aload_n ok dL_law_1489 rfl 1 rfl ?_
  refine zg_aload_n ok dL_law_1490 rfl 0 rfl ?_
  refine zg_iload ok dL_law_1491 5 rfl ?_
  refine zg_iconst (v := 1) ok dL_law_1493 (by decide) ?_
  refine zg_iadd ok dL_law_1494 ?_
  refine zg_iald ok dL_law_1495 hE (fun v145 hE => ?_)
  refine zg_aload ok dL_law_1496 4 rfl ?_
  refine zg_callSX (vs := [zA l1, zI v145, zA l4]) (rest := []) (rm := rm_X0_plain) ok hRm lk_X0_290 dL_law_1498 hE (fun hE => mt_X0_plain hl hE) rfl (Nat.le_of_ble_eq_true rfl) ⟨⟨Nat.le_of_ble_eq_true rfl, Nat.le_of_ble_eq_true rfl⟩, (by show kb + 2 ≤ 1200144; omega), (by show sb + 12 ≤ 5496826; omega)⟩ (zg_retI (fun v146 h66 hE => ?_)) (zg_xok ok tab fin ⟨(by show kb + 2 ≤ 1200144; omega), (by show sb + 12 ≤ 5496826; omega)⟩)
  refine zg_cost (kc2 := kb + 2) (ks2 := sb + 12) ⟨(by show kb + 2 = kb + 2; omega), (by show sb + 12 = sb + 12; omega)⟩ ?_
  refine zg_istore (L' := [(6, .int v146), (0, va_rf l0), (1, va_rf l1), (2, va_rf l2), (3, va_rf l3), (4, va_rf l4), (5, .int l5)]) ok dL_law_1501 (by decide) rfl ?_
  refine zg_aload_n ok dL_law_1503 rfl 3 rfl ?_
  refine zg_aload_n ok dL_law_1504 rfl 1 rfl ?_
  refine zg_iload ok dL_law_1505 6 rfl ?_
  refine zg_iconst (v := 1) ok dL_law_1507 (by decide) ?_
  refine zg_iadd ok dL_law_1508 ?_
  refine zg_iald ok dL_law_1509 hE (fun v147 hE => ?_)
  refine zg_callV (vs := [zI v147]) (rest := []) (rm := rm_X2_plain) ok hRm lk_X0_293 dL_law_1510 hE (fun hE => mt_X2_plain hl hE) rfl (Nat.le_of_ble_eq_true rfl) ⟨⟨Nat.le_of_ble_eq_true rfl, Nat.le_of_ble_eq_true rfl⟩, (by show kb + 2 + 0 ≤ 1200144; omega), (by show sb + 12 + 0 ≤ 5496826; omega)⟩ (zg_retD (fun v148 h67 hE => ?_)) (zg_xok ok tab fin ⟨(by show kb + 2 + 0 ≤ 1200144; omega), (by show sb + 12 + 0 ≤ 5496826; omega)⟩)
  refine zg_cost (kc2 := kb + 2) (ks2 := sb + 12) ⟨(by show kb + 2 + 0 = kb + 2; omega), (by show sb + 12 + 0 = sb + 12; omega)⟩ ?_
  refine zg_dstore (L' := [(7, .double v148), (6, .int v146), (0, va_rf l0), (1, va_rf l1), (2, va_rf l2), (3, va_rf l3), (4, va_rf l4), (5, .int l5)]) ok dL_law_1513 (by decide) rfl ?_
  refine zg_aload_n ok dL_law_1515 rfl 4 rfl ?_
  refine zg_callV (vs := []) (rest := []) (rm := rm_X2_thrown) ok hRm lk_X0_223 dL_law_1516 hE (fun hE => mt_X2_thrown hl hE) rfl (Nat.le_of_ble_eq_true rfl) ⟨⟨Nat.le_of_ble_eq_true rfl, Nat.le_of_ble_eq_true rfl⟩, (by show kb + 2 + 0 ≤ 1200144; omega), (by show sb + 12 + 0 ≤ 5496826; omega)⟩ (zg_retI (fun v149 h68 hE => ?_)) (zg_xok ok tab fin ⟨(by show kb + 2 + 0 ≤ 1200144; omega), (by show sb + 12 + 0 ≤ 5496826; omega)⟩)
  refine zg_cost (kc2 := kb + 2) (ks2 := sb + 12) ⟨(by show kb + 2 + 0 = kb + 2; omega), (by show sb + 12 + 0 = sb + 12; omega)⟩ ?_
  refine zg_iload ok dL_law_1519 1 rfl ?_
  refine zg_icmp_eq (tgt := 1526) ok dL_law_1521 (by decide) hE (fun hE => ?_) (fun hE => ?_)
  · refine zg_iload ok dL_law_1526 1 rfl ?_
    refine zg_if_ne (tgt := 1563) ok dL_law_1528 (by decide) hE (fun hE => ?_) (fun hE => ?_)
    · refine zg_sub (L' := [(0, va_rf l0), (1, va_rf l1), (2, va_rf l2), (3, va_rf l3), (4, va_rf l4), (5, .int l5)]) [2, 3, 4, 5, 6, 7] rfl ?_
      exact gt_f_law_J1563 hl ok tab fin hRm hk hKE hR  hE
    · refine zg_aload ok dL_law_1531 6 rfl ?_
      refine zg_iconst (v := 0) ok dL_law_1533 (by decide) ?_
      refine zg_dald ok dL_law_1534 hE (fun v150 hE => ?_)
      refine zg_dload ok dL_law_1535 0 rfl ?_
      refine zg_dcmp ok dL_law_1537 ?_
      refine zg_if_eq (tgt := 1563) ok dL_law_1538 (by decide) hE (fun hE => ?_) (fun hE => ?_)
      · refine zg_sub (L' := [(0, va_rf l0), (1, va_rf l1), (2, va_rf l2), (3, va_rf l3), (4, va_rf l4), (5, .int l5)]) [2, 3, 4, 5, 6, 7] rfl ?_
        exact gt_f_law_J1563 hl ok tab fin hRm hk hKE hR  hE
      · refine zg_aload ok dL_law_1541 6 rfl ?_
        refine zg_iconst (v := 0) ok dL_law_1543 (by decide) ?_
        refine zg_dald ok dL_law_1544 hE (fun v151 hE => ?_)
        refine zg_aload ok dL_law_1545 6 rfl ?_
        refine zg_iconst (v := 0) ok dL_law_1547 (by decide) ?_
        refine zg_dald ok dL_law_1548 hE (fun v152 hE => ?_)
        refine zg_dcmp ok dL_law_1549 ?_
        refine zg_if_eq (tgt := 1561) ok dL_law_1550 (by decide) hE (fun hE => ?_) (fun hE => ?_)
        · refine zg_iconst (v := 0) ok dL_law_1561 (by decide) ?_
          exact zg_zret ok fin dL_law_1562 ⟨(by omega), (by omega)⟩ rfl hE
        · refine zg_dload ok dL_law_1553 0 rfl ?_
          refine zg_dload ok dL_law_1555 0 rfl ?_
          refine zg_dcmp ok dL_law_1557 ?_
          refine zg_if_ne (tgt := 1563) ok dL_law_1558 (by decide) hE (fun hE => ?_) (fun hE => ?_)
          · refine zg_sub (L' := [(0, va_rf l0), (1, va_rf l1), (2, va_rf l2), (3, va_rf l3), (4, va_rf l4), (5, .int l5)]) [2, 3, 4, 5, 6, 7] rfl ?_
            exact gt_f_law_J1563 hl ok tab fin hRm hk hKE hR  hE
          · refine zg_iconst (v := 0) ok dL_law_1561 (by decide) ?_
            exact zg_zret ok fin dL_law_1562 ⟨(by omega), (by omega)⟩ rfl hE
  · refine zg_iconst (v := 0) ok dL_law_1524 (by decide) ?_
    exact zg_zret ok fin dL_law_1525 ⟨(by omega), (by omega)⟩ rfl hE
set_option maxHeartbeats 8000000 in
theorem gt_f_law_J1640 {Xc : zw_X} {Q : Int32 → zw_H → Prop} {X : String → Nat → zw_H → Prop} (hl : (zw_l Xc).stackTraces = false) (ok : zw_ok Xc cL_law "MultipoleLineLaw" "law" 9) (tab : zw_tab Xc []) (fin : zw_fin Xc (Option.some Jvm.ClassFile.FieldType.boolean) (zq_I Q) X 1200144 5496826) (hRm : zw_rm Xc = rm_law) {kb sb KE SE : Nat} (hk : kb + 1139 ≤ KE ∧ sb + 73158 ≤ SE) (hKE : KE ≤ 1200144 ∧ SE ≤ 5496826) {R : Int32 → zw_H → Prop} {l0 : Option Nat} {l1 : Option Nat} {l2 : Option Nat} {l3 : Option Nat} {l4 : Option Nat} (hR : ∀ (l5 : Int32) (h : zw_H), R l5 h → zw_G Xc (kb + 1139) (sb + 73158) 9 h 28 [(0, va_rf l0), (1, va_rf l1), (2, va_rf l2), (3, va_rf l3), (4, va_rf l4), (5, .int l5)] [])  {l5 : Int32}  {h : zw_H} (hE : f_law_J1640 (zw_Zf Xc).2.2.2 Q X R l0 l1 l2 l3 l4 l5 h) : zw_G Xc (kb + 2) (sb + 12) 9 h 1640 [(0, va_rf l0), (1, va_rf l1), (2, va_rf l2), (3, va_rf l3), (4, va_rf l4), (5, .int l5)] [] := by
  unfold f_law_J1640 at hE
  refine zg_goto (tgt := 4220) ok dL_law_1640 (by decide) ?_
  refine zg_wide (kc2 := kb + 1139) (ks2 := sb + 73158) (by omega) (by omega) ?_
  exact gt_f_law_J4220 hl ok tab fin hRm hk hKE hR  hE
set_option maxHeartbeats 8000000 in
theorem gt_f_law_J1566 {Xc : zw_X} {Q : Int32 → zw_H → Prop} {X : String → Nat → zw_H → Prop} (hl : (zw_l Xc).stackTraces = false) (ok : zw_ok Xc cL_law "MultipoleLineLaw" "law" 9) (tab : zw_tab Xc []) (fin : zw_fin Xc (Option.some Jvm.ClassFile.FieldType.boolean) (zq_I Q) X 1200144 5496826) (hRm : zw_rm Xc = rm_law) {kb sb KE SE : Nat} (hk : kb + 1139 ≤ KE ∧ sb + 73158 ≤ SE) (hKE : KE ≤ 1200144 ∧ SE ≤ 5496826) {R : Int32 → zw_H → Prop} {l0 : Option Nat} {l1 : Option Nat} {l2 : Option Nat} {l3 : Option Nat} {l4 : Option Nat} (hR : ∀ (l5 : Int32) (h : zw_H), R l5 h → zw_G Xc (kb + 1139) (sb + 73158) 9 h 28 [(0, va_rf l0), (1, va_rf l1), (2, va_rf l2), (3, va_rf l3), (4, va_rf l4), (5, .int l5)] [])  {l5 : Int32}  {h : zw_H} (hE : f_law_J1566 (zw_Zf Xc).2.2.2 Q X R l0 l1 l2 l3 l4 l5 h) : zw_G Xc kb sb 9 h 1566 [(0, va_rf l0), (1, va_rf l1), (2, va_rf l2), (3, va_rf l3), (4, va_rf l4), (5, .int l5)] [] := by
  unfold f_law_J1566 at hE
  refine zg_aload_n ok dL_law_1566 rfl 1 rfl ?_
  refine zg_aload_n ok dL_law_1567 rfl 0 rfl ?_
  refine zg_iload ok dL_law_1568 5 rfl ?_
  refine zg_iconst (v := 1) ok dL_law_1570 (by decide) ?_
  refine zg_iadd ok dL_law_1571 ?_
  refine zg_iald ok dL_law_1572 hE (fun v153 hE => ?_)
  refine zg_aload ok dL_law_1573 4 rfl ?_
  refine zg_callSX (vs := [zA l1, zI v153, zA l4]) (rest := []) (rm := rm_X0_nearSum) ok hRm lk_X0_294 dL_law_1575 hE (fun hE => mt_X0_nearSum hl hE) rfl (Nat.le_of_ble_eq_true rfl) ⟨⟨Nat.le_of_ble_eq_true rfl, Nat.le_of_ble_eq_true rfl⟩, (by show kb + 2 ≤ 1200144; omega), (by show sb + 12 ≤ 5496826; omega)⟩ (zg_retI (fun v154 h69 hE => ?_)) (zg_xok ok tab fin ⟨(by show kb + 2 ≤ 1200144; omega), (by show sb + 12 ≤ 5496826; omega)⟩)
  refine zg_cost (kc2 := kb + 2) (ks2 := sb + 12) ⟨(by show kb + 2 = kb + 2; omega), (by show sb + 12 = sb + 12; omega)⟩ ?_
  refine zg_istore (L' := [(6, .int v154), (0, va_rf l0), (1, va_rf l1), (2, va_rf l2), (3, va_rf l3), (4, va_rf l4), (5, .int l5)]) ok dL_law_1578 (by decide) rfl ?_
  refine zg_aload_n ok dL_law_1580 rfl 3 rfl ?_
  refine zg_aload_n ok dL_law_1581 rfl 1 rfl ?_
  refine zg_iload ok dL_law_1582 6 rfl ?_
  refine zg_iconst (v := 1) ok dL_law_1584 (by decide) ?_
  refine zg_iadd ok dL_law_1585 ?_
  refine zg_iald ok dL_law_1586 hE (fun v155 hE => ?_)
  refine zg_callV (vs := [zI v155]) (rest := []) (rm := rm_X2_nearSum) ok hRm lk_X0_296 dL_law_1587 hE (fun hE => mt_X2_nearSum hl hE) rfl (Nat.le_of_ble_eq_true rfl) ⟨⟨Nat.le_of_ble_eq_true rfl, Nat.le_of_ble_eq_true rfl⟩, (by show kb + 2 + 0 ≤ 1200144; omega), (by show sb + 12 + 0 ≤ 5496826; omega)⟩ (zg_retD (fun v156 h70 hE => ?_)) (zg_xok ok tab fin ⟨(by show kb + 2 + 0 ≤ 1200144; omega), (by show sb + 12 + 0 ≤ 5496826; omega)⟩)
  refine zg_cost (kc2 := kb + 2) (ks2 := sb + 12) ⟨(by show kb + 2 + 0 = kb + 2; omega), (by show sb + 12 + 0 = sb + 12; omega)⟩ ?_
  refine zg_dstore (L' := [(7, .double v156), (6, .int v154), (0, va_rf l0), (1, va_rf l1), (2, va_rf l2), (3, va_rf l3), (4, va_rf l4), (5, .int l5)]) ok dL_law_1590 (by decide) rfl ?_
  refine zg_aload_n ok dL_law_1592 rfl 4 rfl ?_
  refine zg_callV (vs := []) (rest := []) (rm := rm_X2_thrown) ok hRm lk_X0_223 dL_law_1593 hE (fun hE => mt_X2_thrown hl hE) rfl (Nat.le_of_ble_eq_true rfl) ⟨⟨Nat.le_of_ble_eq_true rfl, Nat.le_of_ble_eq_true rfl⟩, (by show kb + 2 + 0 ≤ 1200144; omega), (by show sb + 12 + 0 ≤ 5496826; omega)⟩ (zg_retI (fun v157 h71 hE => ?_)) (zg_xok ok tab fin ⟨(by show kb + 2 + 0 ≤ 1200144; omega), (by show sb + 12 + 0 ≤ 5496826; omega)⟩)
  refine zg_cost (kc2 := kb + 2) (ks2 := sb + 12) ⟨(by show kb + 2 + 0 = kb + 2; omega), (by show sb + 12 + 0 = sb + 12; omega)⟩ ?_
  refine zg_iload ok dL_law_1596 1 rfl ?_
  refine zg_icmp_eq (tgt := 1603) ok dL_law_1598 (by decide) hE (fun hE => ?_) (fun hE => ?_)
  · refine zg_iload ok dL_law_1603 1 rfl ?_
    refine zg_if_ne (tgt := 1640) ok dL_law_1605 (by decide) hE (fun hE => ?_) (fun hE => ?_)
    · refine zg_sub (L' := [(0, va_rf l0), (1, va_rf l1), (2, va_rf l2), (3, va_rf l3), (4, va_rf l4), (5, .int l5)]) [2, 3, 4, 5, 6, 7] rfl ?_
      exact gt_f_law_J1640 hl ok tab fin hRm hk hKE hR  hE
    · refine zg_aload ok dL_law_1608 6 rfl ?_
      refine zg_iconst (v := 0) ok dL_law_1610 (by decide) ?_
      refine zg_dald ok dL_law_1611 hE (fun v158 hE => ?_)
      refine zg_dload ok dL_law_1612 0 rfl ?_
      refine zg_dcmp ok dL_law_1614 ?_
      refine zg_if_eq (tgt := 1640) ok dL_law_1615 (by decide) hE (fun hE => ?_) (fun hE => ?_)
      · refine zg_sub (L' := [(0, va_rf l0), (1, va_rf l1), (2, va_rf l2), (3, va_rf l3), (4, va_rf l4), (5, .int l5)]) [2, 3, 4, 5, 6, 7] rfl ?_
        exact gt_f_law_J1640 hl ok tab fin hRm hk hKE hR  hE
      · refine zg_aload ok dL_law_1618 6 rfl ?_
        refine zg_iconst (v := 0) ok dL_law_1620 (by decide) ?_
        refine zg_dald ok dL_law_1621 hE (fun v159 hE => ?_)
        refine zg_aload ok dL_law_1622 6 rfl ?_
        refine zg_iconst (v := 0) ok dL_law_1624 (by decide) ?_
        refine zg_dald ok dL_law_1625 hE (fun v160 hE => ?_)
        refine zg_dcmp ok dL_law_1626 ?_
        refine zg_if_eq (tgt := 1638) ok dL_law_1627 (by decide) hE (fun hE => ?_) (fun hE => ?_)
        · refine zg_iconst (v := 0) ok dL_law_1638 (by decide) ?_
          exact zg_zret ok fin dL_law_1639 ⟨(by omega), (by omega)⟩ rfl hE
        · refine zg_dload ok dL_law_1630 0 rfl ?_
          refine zg_dload ok dL_law_1632 0 rfl ?_
          refine zg_dcmp ok dL_law_1634 ?_
          refine zg_if_ne (tgt := 1640) ok dL_law_1635 (by decide) hE (fun hE => ?_) (fun hE => ?_)
          · refine zg_sub (L' := [(0, va_rf l0), (1, va_rf l1), (2, va_rf l2), (3, va_rf l3), (4, va_rf l4), (5, .int l5)]) [2, 3, 4, 5, 6, 7] rfl ?_
            exact gt_f_law_J1640 hl ok tab fin hRm hk hKE hR  hE
          · refine zg_iconst (v := 0) ok dL_law_1638 (by decide) ?_
            exact zg_zret ok fin dL_law_1639 ⟨(by omega), (by omega)⟩ rfl hE
  · refine zg_iconst (v := 0) ok dL_law_1601 (by decide) ?_
    exact zg_zret ok fin dL_law_1602 ⟨(by omega), (by omega)⟩ rfl hE
set_option maxHeartbeats 8000000 in
theorem gt_f_law_J1717 {Xc : zw_X} {Q : Int32 → zw_H → Prop} {X : String → Nat → zw_H → Prop} (hl : (zw_l Xc).stackTraces = false) (ok : zw_ok Xc cL_law "MultipoleLineLaw" "law" 9) (tab : zw_tab Xc []) (fin : zw_fin Xc (Option.some Jvm.ClassFile.FieldType.boolean) (zq_I Q) X 1200144 5496826) (hRm : zw_rm Xc = rm_law) {kb sb KE SE : Nat} (hk : kb + 1139 ≤ KE ∧ sb + 73158 ≤ SE) (hKE : KE ≤ 1200144 ∧ SE ≤ 5496826) {R : Int32 → zw_H → Prop} {l0 : Option Nat} {l1 : Option Nat} {l2 : Option Nat} {l3 : Option Nat} {l4 : Option Nat} (hR : ∀ (l5 : Int32) (h : zw_H), R l5 h → zw_G Xc (kb + 1139) (sb + 73158) 9 h 28 [(0, va_rf l0), (1, va_rf l1), (2, va_rf l2), (3, va_rf l3), (4, va_rf l4), (5, .int l5)] [])  {l5 : Int32}  {h : zw_H} (hE : f_law_J1717 (zw_Zf Xc).2.2.2 Q X R l0 l1 l2 l3 l4 l5 h) : zw_G Xc (kb + 2) (sb + 12) 9 h 1717 [(0, va_rf l0), (1, va_rf l1), (2, va_rf l2), (3, va_rf l3), (4, va_rf l4), (5, .int l5)] [] := by
  unfold f_law_J1717 at hE
  refine zg_goto (tgt := 4220) ok dL_law_1717 (by decide) ?_
  refine zg_wide (kc2 := kb + 1139) (ks2 := sb + 73158) (by omega) (by omega) ?_
  exact gt_f_law_J4220 hl ok tab fin hRm hk hKE hR  hE
set_option maxHeartbeats 8000000 in
theorem gt_f_law_J1643 {Xc : zw_X} {Q : Int32 → zw_H → Prop} {X : String → Nat → zw_H → Prop} (hl : (zw_l Xc).stackTraces = false) (ok : zw_ok Xc cL_law "MultipoleLineLaw" "law" 9) (tab : zw_tab Xc []) (fin : zw_fin Xc (Option.some Jvm.ClassFile.FieldType.boolean) (zq_I Q) X 1200144 5496826) (hRm : zw_rm Xc = rm_law) {kb sb KE SE : Nat} (hk : kb + 1139 ≤ KE ∧ sb + 73158 ≤ SE) (hKE : KE ≤ 1200144 ∧ SE ≤ 5496826) {R : Int32 → zw_H → Prop} {l0 : Option Nat} {l1 : Option Nat} {l2 : Option Nat} {l3 : Option Nat} {l4 : Option Nat} (hR : ∀ (l5 : Int32) (h : zw_H), R l5 h → zw_G Xc (kb + 1139) (sb + 73158) 9 h 28 [(0, va_rf l0), (1, va_rf l1), (2, va_rf l2), (3, va_rf l3), (4, va_rf l4), (5, .int l5)] [])  {l5 : Int32}  {h : zw_H} (hE : f_law_J1643 (zw_Zf Xc).2.2.2 Q X R l0 l1 l2 l3 l4 l5 h) : zw_G Xc kb sb 9 h 1643 [(0, va_rf l0), (1, va_rf l1), (2, va_rf l2), (3, va_rf l3), (4, va_rf l4), (5, .int l5)] [] := by
  unfold f_law_J1643 at hE
  refine zg_aload_n ok dL_law_1643 rfl 1 rfl ?_
  refine zg_aload_n ok dL_law_1644 rfl 0 rfl ?_
  refine zg_iload ok dL_law_1645 5 rfl ?_
  refine zg_iconst (v := 1) ok dL_law_1647 (by decide) ?_
  refine zg_iadd ok dL_law_1648 ?_
  refine zg_iald ok dL_law_1649 hE (fun v161 hE => ?_)
  refine zg_aload ok dL_law_1650 4 rfl ?_
  refine zg_callSX (vs := [zA l1, zI v161, zA l4]) (rest := []) (rm := rm_X0_farSum) ok hRm lk_X0_297 dL_law_1652 hE (fun hE => mt_X0_farSum hl hE) rfl (Nat.le_of_ble_eq_true rfl) ⟨⟨Nat.le_of_ble_eq_true rfl, Nat.le_of_ble_eq_true rfl⟩, (by show kb + 2 ≤ 1200144; omega), (by show sb + 12 ≤ 5496826; omega)⟩ (zg_retI (fun v162 h72 hE => ?_)) (zg_xok ok tab fin ⟨(by show kb + 2 ≤ 1200144; omega), (by show sb + 12 ≤ 5496826; omega)⟩)
  refine zg_cost (kc2 := kb + 2) (ks2 := sb + 12) ⟨(by show kb + 2 = kb + 2; omega), (by show sb + 12 = sb + 12; omega)⟩ ?_
  refine zg_istore (L' := [(6, .int v162), (0, va_rf l0), (1, va_rf l1), (2, va_rf l2), (3, va_rf l3), (4, va_rf l4), (5, .int l5)]) ok dL_law_1655 (by decide) rfl ?_
  refine zg_aload_n ok dL_law_1657 rfl 3 rfl ?_
  refine zg_aload_n ok dL_law_1658 rfl 1 rfl ?_
  refine zg_iload ok dL_law_1659 6 rfl ?_
  refine zg_iconst (v := 1) ok dL_law_1661 (by decide) ?_
  refine zg_iadd ok dL_law_1662 ?_
  refine zg_iald ok dL_law_1663 hE (fun v163 hE => ?_)
  refine zg_callV (vs := [zI v163]) (rest := []) (rm := rm_X2_farSum) ok hRm lk_X0_299 dL_law_1664 hE (fun hE => mt_X2_farSum hl hE) rfl (Nat.le_of_ble_eq_true rfl) ⟨⟨Nat.le_of_ble_eq_true rfl, Nat.le_of_ble_eq_true rfl⟩, (by show kb + 2 + 0 ≤ 1200144; omega), (by show sb + 12 + 0 ≤ 5496826; omega)⟩ (zg_retD (fun v164 h73 hE => ?_)) (zg_xok ok tab fin ⟨(by show kb + 2 + 0 ≤ 1200144; omega), (by show sb + 12 + 0 ≤ 5496826; omega)⟩)
  refine zg_cost (kc2 := kb + 2) (ks2 := sb + 12) ⟨(by show kb + 2 + 0 = kb + 2; omega), (by show sb + 12 + 0 = sb + 12; omega)⟩ ?_
  refine zg_dstore (L' := [(7, .double v164), (6, .int v162), (0, va_rf l0), (1, va_rf l1), (2, va_rf l2), (3, va_rf l3), (4, va_rf l4), (5, .int l5)]) ok dL_law_1667 (by decide) rfl ?_
  refine zg_aload_n ok dL_law_1669 rfl 4 rfl ?_
  refine zg_callV (vs := []) (rest := []) (rm := rm_X2_thrown) ok hRm lk_X0_223 dL_law_1670 hE (fun hE => mt_X2_thrown hl hE) rfl (Nat.le_of_ble_eq_true rfl) ⟨⟨Nat.le_of_ble_eq_true rfl, Nat.le_of_ble_eq_true rfl⟩, (by show kb + 2 + 0 ≤ 1200144; omega), (by show sb + 12 + 0 ≤ 5496826; omega)⟩ (zg_retI (fun v165 h74 hE => ?_)) (zg_xok ok tab fin ⟨(by show kb + 2 + 0 ≤ 1200144; omega), (by show sb + 12 + 0 ≤ 5496826; omega)⟩)
  refine zg_cost (kc2 := kb + 2) (ks2 := sb + 12) ⟨(by show kb + 2 + 0 = kb + 2; omega), (by show sb + 12 + 0 = sb + 12; omega)⟩ ?_
  refine zg_iload ok dL_law_1673 1 rfl ?_
  refine zg_icmp_eq (tgt := 1680) ok dL_law_1675 (by decide) hE (fun hE => ?_) (fun hE => ?_)
  · refine zg_iload ok dL_law_1680 1 rfl ?_
    refine zg_if_ne (tgt := 1717) ok dL_law_1682 (by decide) hE (fun hE => ?_) (fun hE => ?_)
    · refine zg_sub (L' := [(0, va_rf l0), (1, va_rf l1), (2, va_rf l2), (3, va_rf l3), (4, va_rf l4), (5, .int l5)]) [2, 3, 4, 5, 6, 7] rfl ?_
      exact gt_f_law_J1717 hl ok tab fin hRm hk hKE hR  hE
    · refine zg_aload ok dL_law_1685 6 rfl ?_
      refine zg_iconst (v := 0) ok dL_law_1687 (by decide) ?_
      refine zg_dald ok dL_law_1688 hE (fun v166 hE => ?_)
      refine zg_dload ok dL_law_1689 0 rfl ?_
      refine zg_dcmp ok dL_law_1691 ?_
      refine zg_if_eq (tgt := 1717) ok dL_law_1692 (by decide) hE (fun hE => ?_) (fun hE => ?_)
      · refine zg_sub (L' := [(0, va_rf l0), (1, va_rf l1), (2, va_rf l2), (3, va_rf l3), (4, va_rf l4), (5, .int l5)]) [2, 3, 4, 5, 6, 7] rfl ?_
        exact gt_f_law_J1717 hl ok tab fin hRm hk hKE hR  hE
      · refine zg_aload ok dL_law_1695 6 rfl ?_
        refine zg_iconst (v := 0) ok dL_law_1697 (by decide) ?_
        refine zg_dald ok dL_law_1698 hE (fun v167 hE => ?_)
        refine zg_aload ok dL_law_1699 6 rfl ?_
        refine zg_iconst (v := 0) ok dL_law_1701 (by decide) ?_
        refine zg_dald ok dL_law_1702 hE (fun v168 hE => ?_)
        refine zg_dcmp ok dL_law_1703 ?_
        refine zg_if_eq (tgt := 1715) ok dL_law_1704 (by decide) hE (fun hE => ?_) (fun hE => ?_)
        · refine zg_iconst (v := 0) ok dL_law_1715 (by decide) ?_
          exact zg_zret ok fin dL_law_1716 ⟨(by omega), (by omega)⟩ rfl hE
        · refine zg_dload ok dL_law_1707 0 rfl ?_
          refine zg_dload ok dL_law_1709 0 rfl ?_
          refine zg_dcmp ok dL_law_1711 ?_
          refine zg_if_ne (tgt := 1717) ok dL_law_1712 (by decide) hE (fun hE => ?_) (fun hE => ?_)
          · refine zg_sub (L' := [(0, va_rf l0), (1, va_rf l1), (2, va_rf l2), (3, va_rf l3), (4, va_rf l4), (5, .int l5)]) [2, 3, 4, 5, 6, 7] rfl ?_
            exact gt_f_law_J1717 hl ok tab fin hRm hk hKE hR  hE
          · refine zg_iconst (v := 0) ok dL_law_1715 (by decide) ?_
            exact zg_zret ok fin dL_law_1716 ⟨(by omega), (by omega)⟩ rfl hE
  · refine zg_iconst (v := 0) ok dL_law_1678 (by decide) ?_
    exact zg_zret ok fin dL_law_1679 ⟨(by omega), (by omega)⟩ rfl hE
set_option maxHeartbeats 8000000 in
theorem gt_f_law_J1772 {Xc : zw_X} {Q : Int32 → zw_H → Prop} {X : String → Nat → zw_H → Prop} (hl : (zw_l Xc).stackTraces = false) (ok : zw_ok Xc cL_law "MultipoleLineLaw" "law" 9) (tab : zw_tab Xc []) (fin : zw_fin Xc (Option.some Jvm.ClassFile.FieldType.boolean) (zq_I Q) X 1200144 5496826) (hRm : zw_rm Xc = rm_law) {kb sb KE SE : Nat} (hk : kb + 1139 ≤ KE ∧ sb + 73158 ≤ SE) (hKE : KE ≤ 1200144 ∧ SE ≤ 5496826) {R : Int32 → zw_H → Prop} {l0 : Option Nat} {l1 : Option Nat} {l2 : Option Nat} {l3 : Option Nat} {l4 : Option Nat} (hR : ∀ (l5 : Int32) (h : zw_H), R l5 h → zw_G Xc (kb + 1139) (sb + 73158) 9 h 28 [(0, va_rf l0), (1, va_rf l1), (2, va_rf l2), (3, va_rf l3), (4, va_rf l4), (5, .int l5)] [])  {l5 : Int32}  {h : zw_H} (hE : f_law_J1772 (zw_Zf Xc).2.2.2 Q X R l0 l1 l2 l3 l4 l5 h) : zw_G Xc (kb + 2) (sb + 12) 9 h 1772 [(0, va_rf l0), (1, va_rf l1), (2, va_rf l2), (3, va_rf l3), (4, va_rf l4), (5, .int l5)] [] := by
  unfold f_law_J1772 at hE
  refine zg_goto (tgt := 4220) ok dL_law_1772 (by decide) ?_
  refine zg_wide (kc2 := kb + 1139) (ks2 := sb + 73158) (by omega) (by omega) ?_
  exact gt_f_law_J4220 hl ok tab fin hRm hk hKE hR  hE
set_option maxHeartbeats 8000000 in
theorem gt_f_law_J1720 {Xc : zw_X} {Q : Int32 → zw_H → Prop} {X : String → Nat → zw_H → Prop} (hl : (zw_l Xc).stackTraces = false) (ok : zw_ok Xc cL_law "MultipoleLineLaw" "law" 9) (tab : zw_tab Xc []) (fin : zw_fin Xc (Option.some Jvm.ClassFile.FieldType.boolean) (zq_I Q) X 1200144 5496826) (hRm : zw_rm Xc = rm_law) {kb sb KE SE : Nat} (hk : kb + 1139 ≤ KE ∧ sb + 73158 ≤ SE) (hKE : KE ≤ 1200144 ∧ SE ≤ 5496826) {R : Int32 → zw_H → Prop} {l0 : Option Nat} {l1 : Option Nat} {l2 : Option Nat} {l3 : Option Nat} {l4 : Option Nat} (hR : ∀ (l5 : Int32) (h : zw_H), R l5 h → zw_G Xc (kb + 1139) (sb + 73158) 9 h 28 [(0, va_rf l0), (1, va_rf l1), (2, va_rf l2), (3, va_rf l3), (4, va_rf l4), (5, .int l5)] [])  {l5 : Int32}  {h : zw_H} (hE : f_law_J1720 (zw_Zf Xc).2.2.2 Q X R l0 l1 l2 l3 l4 l5 h) : zw_G Xc kb sb 9 h 1720 [(0, va_rf l0), (1, va_rf l1), (2, va_rf l2), (3, va_rf l3), (4, va_rf l4), (5, .int l5)] [] := by
  unfold f_law_J1720 at hE
  refine zg_aload_n ok dL_law_1720 rfl 1 rfl ?_
  refine zg_aload_n ok dL_law_1721 rfl 0 rfl ?_
  refine zg_iload ok dL_law_1722 5 rfl ?_
  refine zg_iconst (v := 1) ok dL_law_1724 (by decide) ?_
  refine zg_iadd ok dL_law_1725 ?_
  refine zg_iald ok dL_law_1726 hE (fun v169 hE => ?_)
  refine zg_aload_n ok dL_law_1727 rfl 3 rfl ?_
  refine zg_callSX (vs := [zA l1, zI v169, zA l3]) (rest := []) (rm := rm_X0_farBits) ok hRm lk_X0_300 dL_law_1728 hE (fun hE => mt_X0_farBits hl hE) rfl (Nat.le_of_ble_eq_true rfl) ⟨⟨Nat.le_of_ble_eq_true rfl, Nat.le_of_ble_eq_true rfl⟩, (by show kb + 2 ≤ 1200144; omega), (by show sb + 12 ≤ 5496826; omega)⟩ (zg_retI (fun v170 h75 hE => ?_)) (zg_xok ok tab fin ⟨(by show kb + 2 ≤ 1200144; omega), (by show sb + 12 ≤ 5496826; omega)⟩)
  refine zg_cost (kc2 := kb + 2) (ks2 := sb + 12) ⟨(by show kb + 2 = kb + 2; omega), (by show sb + 12 = sb + 12; omega)⟩ ?_
  refine zg_istore (L' := [(6, .int v170), (0, va_rf l0), (1, va_rf l1), (2, va_rf l2), (3, va_rf l3), (4, va_rf l4), (5, .int l5)]) ok dL_law_1731 (by decide) rfl ?_
  refine zg_aload_n ok dL_law_1733 rfl 3 rfl ?_
  refine zg_aload_n ok dL_law_1734 rfl 1 rfl ?_
  refine zg_iload ok dL_law_1735 6 rfl ?_
  refine zg_iconst (v := 1) ok dL_law_1737 (by decide) ?_
  refine zg_iadd ok dL_law_1738 ?_
  refine zg_iald ok dL_law_1739 hE (fun v171 hE => ?_)
  refine zg_callV (vs := [zI v171]) (rest := []) (rm := rm_X2_farBits) ok hRm lk_X0_302 dL_law_1740 hE (fun hE => mt_X2_farBits hl hE) rfl (Nat.le_of_ble_eq_true rfl) ⟨⟨Nat.le_of_ble_eq_true rfl, Nat.le_of_ble_eq_true rfl⟩, (by show kb + 2 + 0 ≤ 1200144; omega), (by show sb + 12 + 0 ≤ 5496826; omega)⟩ (zg_retJ (fun v172 h76 hE => ?_)) (zg_xok ok tab fin ⟨(by show kb + 2 + 0 ≤ 1200144; omega), (by show sb + 12 + 0 ≤ 5496826; omega)⟩)
  refine zg_cost (kc2 := kb + 2) (ks2 := sb + 12) ⟨(by show kb + 2 + 0 = kb + 2; omega), (by show sb + 12 + 0 = sb + 12; omega)⟩ ?_
  refine zg_lstore (L' := [(7, .long v172), (6, .int v170), (0, va_rf l0), (1, va_rf l1), (2, va_rf l2), (3, va_rf l3), (4, va_rf l4), (5, .int l5)]) ok dL_law_1743 (by decide) rfl ?_
  refine zg_aload_n ok dL_law_1745 rfl 4 rfl ?_
  refine zg_callV (vs := []) (rest := []) (rm := rm_X2_thrown) ok hRm lk_X0_223 dL_law_1746 hE (fun hE => mt_X2_thrown hl hE) rfl (Nat.le_of_ble_eq_true rfl) ⟨⟨Nat.le_of_ble_eq_true rfl, Nat.le_of_ble_eq_true rfl⟩, (by show kb + 2 + 0 ≤ 1200144; omega), (by show sb + 12 + 0 ≤ 5496826; omega)⟩ (zg_retI (fun v173 h77 hE => ?_)) (zg_xok ok tab fin ⟨(by show kb + 2 + 0 ≤ 1200144; omega), (by show sb + 12 + 0 ≤ 5496826; omega)⟩)
  refine zg_cost (kc2 := kb + 2) (ks2 := sb + 12) ⟨(by show kb + 2 + 0 = kb + 2; omega), (by show sb + 12 + 0 = sb + 12; omega)⟩ ?_
  refine zg_iload ok dL_law_1749 1 rfl ?_
  refine zg_icmp_eq (tgt := 1756) ok dL_law_1751 (by decide) hE (fun hE => ?_) (fun hE => ?_)
  · refine zg_iload ok dL_law_1756 1 rfl ?_
    refine zg_if_ne (tgt := 1772) ok dL_law_1758 (by decide) hE (fun hE => ?_) (fun hE => ?_)
    · refine zg_sub (L' := [(0, va_rf l0), (1, va_rf l1), (2, va_rf l2), (3, va_rf l3), (4, va_rf l4), (5, .int l5)]) [2, 3, 4, 5, 6, 7] rfl ?_
      exact gt_f_law_J1772 hl ok tab fin hRm hk hKE hR  hE
    · refine zg_aload_n ok dL_law_1761 rfl 5 rfl ?_
      refine zg_iconst (v := 0) ok dL_law_1762 (by decide) ?_
      refine zg_lald ok dL_law_1763 hE (fun v174 hE => ?_)
      refine zg_lload ok dL_law_1764 0 rfl ?_
      refine zg_lcmp ok dL_law_1766 ?_
      refine zg_if_eq (tgt := 1772) ok dL_law_1767 (by decide) hE (fun hE => ?_) (fun hE => ?_)
      · refine zg_sub (L' := [(0, va_rf l0), (1, va_rf l1), (2, va_rf l2), (3, va_rf l3), (4, va_rf l4), (5, .int l5)]) [2, 3, 4, 5, 6, 7] rfl ?_
        exact gt_f_law_J1772 hl ok tab fin hRm hk hKE hR  hE
      · refine zg_iconst (v := 0) ok dL_law_1770 (by decide) ?_
        exact zg_zret ok fin dL_law_1771 ⟨(by omega), (by omega)⟩ rfl hE
  · refine zg_iconst (v := 0) ok dL_law_1754 (by decide) ?_
    exact zg_zret ok fin dL_law_1755 ⟨(by omega), (by omega)⟩ rfl hE
set_option maxHeartbeats 8000000 in
theorem gt_f_law_J1873 {Xc : zw_X} {Q : Int32 → zw_H → Prop} {X : String → Nat → zw_H → Prop} (hl : (zw_l Xc).stackTraces = false) (ok : zw_ok Xc cL_law "MultipoleLineLaw" "law" 9) (tab : zw_tab Xc []) (fin : zw_fin Xc (Option.some Jvm.ClassFile.FieldType.boolean) (zq_I Q) X 1200144 5496826) (hRm : zw_rm Xc = rm_law) {kb sb KE SE : Nat} (hk : kb + 1139 ≤ KE ∧ sb + 73158 ≤ SE) (hKE : KE ≤ 1200144 ∧ SE ≤ 5496826) {R : Int32 → zw_H → Prop} {l0 : Option Nat} {l1 : Option Nat} {l2 : Option Nat} {l3 : Option Nat} {l4 : Option Nat} (hR : ∀ (l5 : Int32) (h : zw_H), R l5 h → zw_G Xc (kb + 1139) (sb + 73158) 9 h 28 [(0, va_rf l0), (1, va_rf l1), (2, va_rf l2), (3, va_rf l3), (4, va_rf l4), (5, .int l5)] [])  {l5 : Int32}  {h : zw_H} (hE : f_law_J1873 (zw_Zf Xc).2.2.2 Q X R l0 l1 l2 l3 l4 l5 h) : zw_G Xc (kb + 4) (sb + 24) 9 h 1873 [(0, va_rf l0), (1, va_rf l1), (2, va_rf l2), (3, va_rf l3), (4, va_rf l4), (5, .int l5)] [] := by
  unfold f_law_J1873 at hE
  refine zg_goto (tgt := 4220) ok dL_law_1873 (by decide) ?_
  refine zg_wide (kc2 := kb + 1139) (ks2 := sb + 73158) (by omega) (by omega) ?_
  exact gt_f_law_J4220 hl ok tab fin hRm hk hKE hR  hE
set_option maxHeartbeats 8000000 in
theorem gt_f_law_J1775 {Xc : zw_X} {Q : Int32 → zw_H → Prop} {X : String → Nat → zw_H → Prop} (hl : (zw_l Xc).stackTraces = false) (ok : zw_ok Xc cL_law "MultipoleLineLaw" "law" 9) (tab : zw_tab Xc []) (fin : zw_fin Xc (Option.some Jvm.ClassFile.FieldType.boolean) (zq_I Q) X 1200144 5496826) (hRm : zw_rm Xc = rm_law) {kb sb KE SE : Nat} (hk : kb + 1139 ≤ KE ∧ sb + 73158 ≤ SE) (hKE : KE ≤ 1200144 ∧ SE ≤ 5496826) {R : Int32 → zw_H → Prop} {l0 : Option Nat} {l1 : Option Nat} {l2 : Option Nat} {l3 : Option Nat} {l4 : Option Nat} (hR : ∀ (l5 : Int32) (h : zw_H), R l5 h → zw_G Xc (kb + 1139) (sb + 73158) 9 h 28 [(0, va_rf l0), (1, va_rf l1), (2, va_rf l2), (3, va_rf l3), (4, va_rf l4), (5, .int l5)] [])  {l5 : Int32}  {h : zw_H} (hE : f_law_J1775 (zw_Zf Xc).2.2.2 Q X R l0 l1 l2 l3 l4 l5 h) : zw_G Xc kb sb 9 h 1775 [(0, va_rf l0), (1, va_rf l1), (2, va_rf l2), (3, va_rf l3), (4, va_rf l4), (5, .int l5)] [] := by
  unfold f_law_J1775 at hE
  refine zg_aload_n ok dL_law_1775 rfl 1 rfl ?_
  refine zg_aload_n ok dL_law_1776 rfl 0 rfl ?_
  refine zg_iload ok dL_law_1777 5 rfl ?_
  refine zg_iconst (v := 1) ok dL_law_1779 (by decide) ?_
  refine zg_iadd ok dL_law_1780 ?_
  refine zg_iald ok dL_law_1781 hE (fun v175 hE => ?_)
  refine zg_aload_n ok dL_law_1782 rfl 0 rfl ?_
  refine zg_iload ok dL_law_1783 5 rfl ?_
  refine zg_iconst (v := 2) ok dL_law_1785 (by decide) ?_
  refine zg_iadd ok dL_law_1786 ?_
  refine zg_iald ok dL_law_1787 hE (fun v176 hE => ?_)
  refine zg_aload_n ok dL_law_1788 rfl 0 rfl ?_
  refine zg_iload ok dL_law_1789 5 rfl ?_
  refine zg_iconst (v := 3) ok dL_law_1791 (by decide) ?_
  refine zg_iadd ok dL_law_1792 ?_
  refine zg_iald ok dL_law_1793 hE (fun v177 hE => ?_)
  refine zg_aload ok dL_law_1794 4 rfl ?_
  refine zg_callSX (vs := [zA l1, zI v175, zI v176, zI v177, zA l4]) (rest := []) (rm := rm_X0_value) ok hRm lk_X0_303 dL_law_1796 hE (fun hE => mt_X0_value hl hE) rfl (Nat.le_of_ble_eq_true rfl) ⟨⟨Nat.le_of_ble_eq_true rfl, Nat.le_of_ble_eq_true rfl⟩, (by show kb + 4 ≤ 1200144; omega), (by show sb + 24 ≤ 5496826; omega)⟩ (zg_retI (fun v178 h78 hE => ?_)) (zg_xok ok tab fin ⟨(by show kb + 4 ≤ 1200144; omega), (by show sb + 24 ≤ 5496826; omega)⟩)
  refine zg_cost (kc2 := kb + 4) (ks2 := sb + 24) ⟨(by show kb + 4 = kb + 4; omega), (by show sb + 24 = sb + 24; omega)⟩ ?_
  refine zg_istore (L' := [(6, .int v178), (0, va_rf l0), (1, va_rf l1), (2, va_rf l2), (3, va_rf l3), (4, va_rf l4), (5, .int l5)]) ok dL_law_1799 (by decide) rfl ?_
  refine zg_aload_n ok dL_law_1801 rfl 3 rfl ?_
  refine zg_aload_n ok dL_law_1802 rfl 1 rfl ?_
  refine zg_iload ok dL_law_1803 6 rfl ?_
  refine zg_iconst (v := 1) ok dL_law_1805 (by decide) ?_
  refine zg_iadd ok dL_law_1806 ?_
  refine zg_iald ok dL_law_1807 hE (fun v179 hE => ?_)
  refine zg_aload_n ok dL_law_1808 rfl 1 rfl ?_
  refine zg_iload ok dL_law_1809 6 rfl ?_
  refine zg_iconst (v := 2) ok dL_law_1811 (by decide) ?_
  refine zg_iadd ok dL_law_1812 ?_
  refine zg_iald ok dL_law_1813 hE (fun v180 hE => ?_)
  refine zg_aload_n ok dL_law_1814 rfl 1 rfl ?_
  refine zg_iload ok dL_law_1815 6 rfl ?_
  refine zg_iconst (v := 3) ok dL_law_1817 (by decide) ?_
  refine zg_iadd ok dL_law_1818 ?_
  refine zg_iald ok dL_law_1819 hE (fun v181 hE => ?_)
  refine zg_callV (vs := [zI v179, zI v180, zI v181]) (rest := []) (rm := rm_X2_value) ok hRm lk_X0_306 dL_law_1820 hE (fun hE => mt_X2_value hl hE) rfl (Nat.le_of_ble_eq_true rfl) ⟨⟨Nat.le_of_ble_eq_true rfl, Nat.le_of_ble_eq_true rfl⟩, (by show kb + 4 + 0 ≤ 1200144; omega), (by show sb + 24 + 0 ≤ 5496826; omega)⟩ (zg_retD (fun v182 h79 hE => ?_)) (zg_xok ok tab fin ⟨(by show kb + 4 + 0 ≤ 1200144; omega), (by show sb + 24 + 0 ≤ 5496826; omega)⟩)
  refine zg_cost (kc2 := kb + 4) (ks2 := sb + 24) ⟨(by show kb + 4 + 0 = kb + 4; omega), (by show sb + 24 + 0 = sb + 24; omega)⟩ ?_
  refine zg_dstore (L' := [(7, .double v182), (6, .int v178), (0, va_rf l0), (1, va_rf l1), (2, va_rf l2), (3, va_rf l3), (4, va_rf l4), (5, .int l5)]) ok dL_law_1823 (by decide) rfl ?_
  refine zg_aload_n ok dL_law_1825 rfl 4 rfl ?_
  refine zg_callV (vs := []) (rest := []) (rm := rm_X2_thrown) ok hRm lk_X0_223 dL_law_1826 hE (fun hE => mt_X2_thrown hl hE) rfl (Nat.le_of_ble_eq_true rfl) ⟨⟨Nat.le_of_ble_eq_true rfl, Nat.le_of_ble_eq_true rfl⟩, (by show kb + 4 + 0 ≤ 1200144; omega), (by show sb + 24 + 0 ≤ 5496826; omega)⟩ (zg_retI (fun v183 h80 hE => ?_)) (zg_xok ok tab fin ⟨(by show kb + 4 + 0 ≤ 1200144; omega), (by show sb + 24 + 0 ≤ 5496826; omega)⟩)
  refine zg_cost (kc2 := kb + 4) (ks2 := sb + 24) ⟨(by show kb + 4 + 0 = kb + 4; omega), (by show sb + 24 + 0 = sb + 24; omega)⟩ ?_
  refine zg_iload ok dL_law_1829 1 rfl ?_
  refine zg_icmp_eq (tgt := 1836) ok dL_law_1831 (by decide) hE (fun hE => ?_) (fun hE => ?_)
  · refine zg_iload ok dL_law_1836 1 rfl ?_
    refine zg_if_ne (tgt := 1873) ok dL_law_1838 (by decide) hE (fun hE => ?_) (fun hE => ?_)
    · refine zg_sub (L' := [(0, va_rf l0), (1, va_rf l1), (2, va_rf l2), (3, va_rf l3), (4, va_rf l4), (5, .int l5)]) [2, 3, 4, 5, 6, 7] rfl ?_
      exact gt_f_law_J1873 hl ok tab fin hRm hk hKE hR  hE
    · refine zg_aload ok dL_law_1841 6 rfl ?_
      refine zg_iconst (v := 0) ok dL_law_1843 (by decide) ?_
      refine zg_dald ok dL_law_1844 hE (fun v184 hE => ?_)
      refine zg_dload ok dL_law_1845 0 rfl ?_
      refine zg_dcmp ok dL_law_1847 ?_
      refine zg_if_eq (tgt := 1873) ok dL_law_1848 (by decide) hE (fun hE => ?_) (fun hE => ?_)
      · refine zg_sub (L' := [(0, va_rf l0), (1, va_rf l1), (2, va_rf l2), (3, va_rf l3), (4, va_rf l4), (5, .int l5)]) [2, 3, 4, 5, 6, 7] rfl ?_
        exact gt_f_law_J1873 hl ok tab fin hRm hk hKE hR  hE
      · refine zg_aload ok dL_law_1851 6 rfl ?_
        refine zg_iconst (v := 0) ok dL_law_1853 (by decide) ?_
        refine zg_dald ok dL_law_1854 hE (fun v185 hE => ?_)
        refine zg_aload ok dL_law_1855 6 rfl ?_
        refine zg_iconst (v := 0) ok dL_law_1857 (by decide) ?_
        refine zg_dald ok dL_law_1858 hE (fun v186 hE => ?_)
        refine zg_dcmp ok dL_law_1859 ?_
        refine zg_if_eq (tgt := 1871) ok dL_law_1860 (by decide) hE (fun hE => ?_) (fun hE => ?_)
        · refine zg_iconst (v := 0) ok dL_law_1871 (by decide) ?_
          exact zg_zret ok fin dL_law_1872 ⟨(by omega), (by omega)⟩ rfl hE
        · refine zg_dload ok dL_law_1863 0 rfl ?_
          refine zg_dload ok dL_law_1865 0 rfl ?_
          refine zg_dcmp ok dL_law_1867 ?_
          refine zg_if_ne (tgt := 1873) ok dL_law_1868 (by decide) hE (fun hE => ?_) (fun hE => ?_)
          · refine zg_sub (L' := [(0, va_rf l0), (1, va_rf l1), (2, va_rf l2), (3, va_rf l3), (4, va_rf l4), (5, .int l5)]) [2, 3, 4, 5, 6, 7] rfl ?_
            exact gt_f_law_J1873 hl ok tab fin hRm hk hKE hR  hE
          · refine zg_iconst (v := 0) ok dL_law_1871 (by decide) ?_
            exact zg_zret ok fin dL_law_1872 ⟨(by omega), (by omega)⟩ rfl hE
  · refine zg_iconst (v := 0) ok dL_law_1834 (by decide) ?_
    exact zg_zret ok fin dL_law_1835 ⟨(by omega), (by omega)⟩ rfl hE
set_option maxHeartbeats 8000000 in
theorem gt_f_law_J1950 {Xc : zw_X} {Q : Int32 → zw_H → Prop} {X : String → Nat → zw_H → Prop} (hl : (zw_l Xc).stackTraces = false) (ok : zw_ok Xc cL_law "MultipoleLineLaw" "law" 9) (tab : zw_tab Xc []) (fin : zw_fin Xc (Option.some Jvm.ClassFile.FieldType.boolean) (zq_I Q) X 1200144 5496826) (hRm : zw_rm Xc = rm_law) {kb sb KE SE : Nat} (hk : kb + 1139 ≤ KE ∧ sb + 73158 ≤ SE) (hKE : KE ≤ 1200144 ∧ SE ≤ 5496826) {R : Int32 → zw_H → Prop} {l0 : Option Nat} {l1 : Option Nat} {l2 : Option Nat} {l3 : Option Nat} {l4 : Option Nat} (hR : ∀ (l5 : Int32) (h : zw_H), R l5 h → zw_G Xc (kb + 1139) (sb + 73158) 9 h 28 [(0, va_rf l0), (1, va_rf l1), (2, va_rf l2), (3, va_rf l3), (4, va_rf l4), (5, .int l5)] [])  {l5 : Int32}  {h : zw_H} (hE : f_law_J1950 (zw_Zf Xc).2.2.2 Q X R l0 l1 l2 l3 l4 l5 h) : zw_G Xc (kb + 2) (sb + 12) 9 h 1950 [(0, va_rf l0), (1, va_rf l1), (2, va_rf l2), (3, va_rf l3), (4, va_rf l4), (5, .int l5)] [] := by
  unfold f_law_J1950 at hE
  refine zg_goto (tgt := 4220) ok dL_law_1950 (by decide) ?_
  refine zg_wide (kc2 := kb + 1139) (ks2 := sb + 73158) (by omega) (by omega) ?_
  exact gt_f_law_J4220 hl ok tab fin hRm hk hKE hR  hE
set_option maxHeartbeats 8000000 in
theorem gt_f_law_J1876 {Xc : zw_X} {Q : Int32 → zw_H → Prop} {X : String → Nat → zw_H → Prop} (hl : (zw_l Xc).stackTraces = false) (ok : zw_ok Xc cL_law "MultipoleLineLaw" "law" 9) (tab : zw_tab Xc []) (fin : zw_fin Xc (Option.some Jvm.ClassFile.FieldType.boolean) (zq_I Q) X 1200144 5496826) (hRm : zw_rm Xc = rm_law) {kb sb KE SE : Nat} (hk : kb + 1139 ≤ KE ∧ sb + 73158 ≤ SE) (hKE : KE ≤ 1200144 ∧ SE ≤ 5496826) {R : Int32 → zw_H → Prop} {l0 : Option Nat} {l1 : Option Nat} {l2 : Option Nat} {l3 : Option Nat} {l4 : Option Nat} (hR : ∀ (l5 : Int32) (h : zw_H), R l5 h → zw_G Xc (kb + 1139) (sb + 73158) 9 h 28 [(0, va_rf l0), (1, va_rf l1), (2, va_rf l2), (3, va_rf l3), (4, va_rf l4), (5, .int l5)] [])  {l5 : Int32}  {h : zw_H} (hE : f_law_J1876 (zw_Zf Xc).2.2.2 Q X R l0 l1 l2 l3 l4 l5 h) : zw_G Xc kb sb 9 h 1876 [(0, va_rf l0), (1, va_rf l1), (2, va_rf l2), (3, va_rf l3), (4, va_rf l4), (5, .int l5)] [] := by
  unfold f_law_J1876 at hE
  refine zg_aload_n ok dL_law_1876 rfl 1 rfl ?_
  refine zg_aload_n ok dL_law_1877 rfl 0 rfl ?_
  refine zg_iload ok dL_law_1878 5 rfl ?_
  refine zg_iconst (v := 1) ok dL_law_1880 (by decide) ?_
  refine zg_iadd ok dL_law_1881 ?_
  refine zg_iald ok dL_law_1882 hE (fun v187 hE => ?_)
  refine zg_aload ok dL_law_1883 4 rfl ?_
  refine zg_callSX (vs := [zA l1, zI v187, zA l4]) (rest := []) (rm := rm_X0_bound) ok hRm lk_X0_307 dL_law_1885 hE (fun hE => mt_X0_bound hl hE) rfl (Nat.le_of_ble_eq_true rfl) ⟨⟨Nat.le_of_ble_eq_true rfl, Nat.le_of_ble_eq_true rfl⟩, (by show kb + 2 ≤ 1200144; omega), (by show sb + 12 ≤ 5496826; omega)⟩ (zg_retI (fun v188 h81 hE => ?_)) (zg_xok ok tab fin ⟨(by show kb + 2 ≤ 1200144; omega), (by show sb + 12 ≤ 5496826; omega)⟩)
  refine zg_cost (kc2 := kb + 2) (ks2 := sb + 12) ⟨(by show kb + 2 = kb + 2; omega), (by show sb + 12 = sb + 12; omega)⟩ ?_
  refine zg_istore (L' := [(6, .int v188), (0, va_rf l0), (1, va_rf l1), (2, va_rf l2), (3, va_rf l3), (4, va_rf l4), (5, .int l5)]) ok dL_law_1888 (by decide) rfl ?_
  refine zg_aload_n ok dL_law_1890 rfl 3 rfl ?_
  refine zg_aload_n ok dL_law_1891 rfl 1 rfl ?_
  refine zg_iload ok dL_law_1892 6 rfl ?_
  refine zg_iconst (v := 1) ok dL_law_1894 (by decide) ?_
  refine zg_iadd ok dL_law_1895 ?_
  refine zg_iald ok dL_law_1896 hE (fun v189 hE => ?_)
  refine zg_callV (vs := [zI v189]) (rest := []) (rm := rm_X2_bound) ok hRm lk_X0_309 dL_law_1897 hE (fun hE => mt_X2_bound hl hE) rfl (Nat.le_of_ble_eq_true rfl) ⟨⟨Nat.le_of_ble_eq_true rfl, Nat.le_of_ble_eq_true rfl⟩, (by show kb + 2 + 0 ≤ 1200144; omega), (by show sb + 12 + 0 ≤ 5496826; omega)⟩ (zg_retD (fun v190 h82 hE => ?_)) (zg_xok ok tab fin ⟨(by show kb + 2 + 0 ≤ 1200144; omega), (by show sb + 12 + 0 ≤ 5496826; omega)⟩)
  refine zg_cost (kc2 := kb + 2) (ks2 := sb + 12) ⟨(by show kb + 2 + 0 = kb + 2; omega), (by show sb + 12 + 0 = sb + 12; omega)⟩ ?_
  refine zg_dstore (L' := [(7, .double v190), (6, .int v188), (0, va_rf l0), (1, va_rf l1), (2, va_rf l2), (3, va_rf l3), (4, va_rf l4), (5, .int l5)]) ok dL_law_1900 (by decide) rfl ?_
  refine zg_aload_n ok dL_law_1902 rfl 4 rfl ?_
  refine zg_callV (vs := []) (rest := []) (rm := rm_X2_thrown) ok hRm lk_X0_223 dL_law_1903 hE (fun hE => mt_X2_thrown hl hE) rfl (Nat.le_of_ble_eq_true rfl) ⟨⟨Nat.le_of_ble_eq_true rfl, Nat.le_of_ble_eq_true rfl⟩, (by show kb + 2 + 0 ≤ 1200144; omega), (by show sb + 12 + 0 ≤ 5496826; omega)⟩ (zg_retI (fun v191 h83 hE => ?_)) (zg_xok ok tab fin ⟨(by show kb + 2 + 0 ≤ 1200144; omega), (by show sb + 12 + 0 ≤ 5496826; omega)⟩)
  refine zg_cost (kc2 := kb + 2) (ks2 := sb + 12) ⟨(by show kb + 2 + 0 = kb + 2; omega), (by show sb + 12 + 0 = sb + 12; omega)⟩ ?_
  refine zg_iload ok dL_law_1906 1 rfl ?_
  refine zg_icmp_eq (tgt := 1913) ok dL_law_1908 (by decide) hE (fun hE => ?_) (fun hE => ?_)
  · refine zg_iload ok dL_law_1913 1 rfl ?_
    refine zg_if_ne (tgt := 1950) ok dL_law_1915 (by decide) hE (fun hE => ?_) (fun hE => ?_)
    · refine zg_sub (L' := [(0, va_rf l0), (1, va_rf l1), (2, va_rf l2), (3, va_rf l3), (4, va_rf l4), (5, .int l5)]) [2, 3, 4, 5, 6, 7] rfl ?_
      exact gt_f_law_J1950 hl ok tab fin hRm hk hKE hR  hE
    · refine zg_aload ok dL_law_1918 6 rfl ?_
      refine zg_iconst (v := 0) ok dL_law_1920 (by decide) ?_
      refine zg_dald ok dL_law_1921 hE (fun v192 hE => ?_)
      refine zg_dload ok dL_law_1922 0 rfl ?_
      refine zg_dcmp ok dL_law_1924 ?_
      refine zg_if_eq (tgt := 1950) ok dL_law_1925 (by decide) hE (fun hE => ?_) (fun hE => ?_)
      · refine zg_sub (L' := [(0, va_rf l0), (1, va_rf l1), (2, va_rf l2), (3, va_rf l3), (4, va_rf l4), (5, .int l5)]) [2, 3, 4, 5, 6, 7] rfl ?_
        exact gt_f_law_J1950 hl ok tab fin hRm hk hKE hR  hE
      · refine zg_aload ok dL_law_1928 6 rfl ?_
        refine zg_iconst (v := 0) ok dL_law_1930 (by decide) ?_
        refine zg_dald ok dL_law_1931 hE (fun v193 hE => ?_)
        refine zg_aload ok dL_law_1932 6 rfl ?_
        refine zg_iconst (v := 0) ok dL_law_1934 (by decide) ?_
        refine zg_dald ok dL_law_1935 hE (fun v194 hE => ?_)
        refine zg_dcmp ok dL_law_1936 ?_
        refine zg_if_eq (tgt := 1948) ok dL_law_1937 (by decide) hE (fun hE => ?_) (fun hE => ?_)
        · refine zg_iconst (v := 0) ok dL_law_1948 (by decide) ?_
          exact zg_zret ok fin dL_law_1949 ⟨(by omega), (by omega)⟩ rfl hE
        · refine zg_dload ok dL_law_1940 0 rfl ?_
          refine zg_dload ok dL_law_1942 0 rfl ?_
          refine zg_dcmp ok dL_law_1944 ?_
          refine zg_if_ne (tgt := 1950) ok dL_law_1945 (by decide) hE (fun hE => ?_) (fun hE => ?_)
          · refine zg_sub (L' := [(0, va_rf l0), (1, va_rf l1), (2, va_rf l2), (3, va_rf l3), (4, va_rf l4), (5, .int l5)]) [2, 3, 4, 5, 6, 7] rfl ?_
            exact gt_f_law_J1950 hl ok tab fin hRm hk hKE hR  hE
          · refine zg_iconst (v := 0) ok dL_law_1948 (by decide) ?_
            exact zg_zret ok fin dL_law_1949 ⟨(by omega), (by omega)⟩ rfl hE
  · refine zg_iconst (v := 0) ok dL_law_1911 (by decide) ?_
    exact zg_zret ok fin dL_law_1912 ⟨(by omega), (by omega)⟩ rfl hE
set_option maxHeartbeats 8000000 in
theorem gt_f_law_J2027 {Xc : zw_X} {Q : Int32 → zw_H → Prop} {X : String → Nat → zw_H → Prop} (hl : (zw_l Xc).stackTraces = false) (ok : zw_ok Xc cL_law "MultipoleLineLaw" "law" 9) (tab : zw_tab Xc []) (fin : zw_fin Xc (Option.some Jvm.ClassFile.FieldType.boolean) (zq_I Q) X 1200144 5496826) (hRm : zw_rm Xc = rm_law) {kb sb KE SE : Nat} (hk : kb + 1139 ≤ KE ∧ sb + 73158 ≤ SE) (hKE : KE ≤ 1200144 ∧ SE ≤ 5496826) {R : Int32 → zw_H → Prop} {l0 : Option Nat} {l1 : Option Nat} {l2 : Option Nat} {l3 : Option Nat} {l4 : Option Nat} (hR : ∀ (l5 : Int32) (h : zw_H), R l5 h → zw_G Xc (kb + 1139) (sb + 73158) 9 h 28 [(0, va_rf l0), (1, va_rf l1), (2, va_rf l2), (3, va_rf l3), (4, va_rf l4), (5, .int l5)] [])  {l5 : Int32}  {h : zw_H} (hE : f_law_J2027 (zw_Zf Xc).2.2.2 Q X R l0 l1 l2 l3 l4 l5 h) : zw_G Xc (kb + 2) (sb + 12) 9 h 2027 [(0, va_rf l0), (1, va_rf l1), (2, va_rf l2), (3, va_rf l3), (4, va_rf l4), (5, .int l5)] [] := by
  unfold f_law_J2027 at hE
  refine zg_goto (tgt := 4220) ok dL_law_2027 (by decide) ?_
  refine zg_wide (kc2 := kb + 1139) (ks2 := sb + 73158) (by omega) (by omega) ?_
  exact gt_f_law_J4220 hl ok tab fin hRm hk hKE hR  hE
set_option maxHeartbeats 8000000 in
theorem gt_f_law_J1953 {Xc : zw_X} {Q : Int32 → zw_H → Prop} {X : String → Nat → zw_H → Prop} (hl : (zw_l Xc).stackTraces = false) (ok : zw_ok Xc cL_law "MultipoleLineLaw" "law" 9) (tab : zw_tab Xc []) (fin : zw_fin Xc (Option.some Jvm.ClassFile.FieldType.boolean) (zq_I Q) X 1200144 5496826) (hRm : zw_rm Xc = rm_law) {kb sb KE SE : Nat} (hk : kb + 1139 ≤ KE ∧ sb + 73158 ≤ SE) (hKE : KE ≤ 1200144 ∧ SE ≤ 5496826) {R : Int32 → zw_H → Prop} {l0 : Option Nat} {l1 : Option Nat} {l2 : Option Nat} {l3 : Option Nat} {l4 : Option Nat} (hR : ∀ (l5 : Int32) (h : zw_H), R l5 h → zw_G Xc (kb + 1139) (sb + 73158) 9 h 28 [(0, va_rf l0), (1, va_rf l1), (2, va_rf l2), (3, va_rf l3), (4, va_rf l4), (5, .int l5)] [])  {l5 : Int32}  {h : zw_H} (hE : f_law_J1953 (zw_Zf Xc).2.2.2 Q X R l0 l1 l2 l3 l4 l5 h) : zw_G Xc kb sb 9 h 1953 [(0, va_rf l0), (1, va_rf l1), (2, va_rf l2), (3, va_rf l3), (4, va_rf l4), (5, .int l5)] [] := by
  unfold f_law_J1953 at hE
  refine zg_aload_n ok dL_law_1953 rfl 1 rfl ?_
  refine zg_aload_n ok dL_law_1954 rfl 0 rfl ?_
  refine zg_iload ok dL_law_1955 5 rfl ?_
  refine zg_iconst (v := 1) ok dL_law_1957 (by decide) ?_
  refine zg_iadd ok dL_law_1958 ?_
  refine zg_iald ok dL_law_1959 hE (fun v195 hE => ?_)
  refine zg_aload ok dL_law_1960 4 rfl ?_
  refine zg_callSX (vs := [zA l1, zI v195, zA l4]) (rest := []) (rm := rm_X0_gapAt) ok hRm lk_X0_310 dL_law_1962 hE (fun hE => mt_X0_gapAt hl hE) rfl (Nat.le_of_ble_eq_true rfl) ⟨⟨Nat.le_of_ble_eq_true rfl, Nat.le_of_ble_eq_true rfl⟩, (by show kb + 2 ≤ 1200144; omega), (by show sb + 12 ≤ 5496826; omega)⟩ (zg_retI (fun v196 h84 hE => ?_)) (zg_xok ok tab fin ⟨(by show kb + 2 ≤ 1200144; omega), (by show sb + 12 ≤ 5496826; omega)⟩)
  refine zg_cost (kc2 := kb + 2) (ks2 := sb + 12) ⟨(by show kb + 2 = kb + 2; omega), (by show sb + 12 = sb + 12; omega)⟩ ?_
  refine zg_istore (L' := [(6, .int v196), (0, va_rf l0), (1, va_rf l1), (2, va_rf l2), (3, va_rf l3), (4, va_rf l4), (5, .int l5)]) ok dL_law_1965 (by decide) rfl ?_
  refine zg_aload_n ok dL_law_1967 rfl 3 rfl ?_
  refine zg_aload_n ok dL_law_1968 rfl 1 rfl ?_
  refine zg_iload ok dL_law_1969 6 rfl ?_
  refine zg_iconst (v := 1) ok dL_law_1971 (by decide) ?_
  refine zg_iadd ok dL_law_1972 ?_
  refine zg_iald ok dL_law_1973 hE (fun v197 hE => ?_)
  refine zg_callV (vs := [zI v197]) (rest := []) (rm := rm_X2_gapAt) ok hRm lk_X0_312 dL_law_1974 hE (fun hE => mt_X2_gapAt hl hE) rfl (Nat.le_of_ble_eq_true rfl) ⟨⟨Nat.le_of_ble_eq_true rfl, Nat.le_of_ble_eq_true rfl⟩, (by show kb + 2 + 0 ≤ 1200144; omega), (by show sb + 12 + 0 ≤ 5496826; omega)⟩ (zg_retD (fun v198 h85 hE => ?_)) (zg_xok ok tab fin ⟨(by show kb + 2 + 0 ≤ 1200144; omega), (by show sb + 12 + 0 ≤ 5496826; omega)⟩)
  refine zg_cost (kc2 := kb + 2) (ks2 := sb + 12) ⟨(by show kb + 2 + 0 = kb + 2; omega), (by show sb + 12 + 0 = sb + 12; omega)⟩ ?_
  refine zg_dstore (L' := [(7, .double v198), (6, .int v196), (0, va_rf l0), (1, va_rf l1), (2, va_rf l2), (3, va_rf l3), (4, va_rf l4), (5, .int l5)]) ok dL_law_1977 (by decide) rfl ?_
  refine zg_aload_n ok dL_law_1979 rfl 4 rfl ?_
  refine zg_callV (vs := []) (rest := []) (rm := rm_X2_thrown) ok hRm lk_X0_223 dL_law_1980 hE (fun hE => mt_X2_thrown hl hE) rfl (Nat.le_of_ble_eq_true rfl) ⟨⟨Nat.le_of_ble_eq_true rfl, Nat.le_of_ble_eq_true rfl⟩, (by show kb + 2 + 0 ≤ 1200144; omega), (by show sb + 12 + 0 ≤ 5496826; omega)⟩ (zg_retI (fun v199 h86 hE => ?_)) (zg_xok ok tab fin ⟨(by show kb + 2 + 0 ≤ 1200144; omega), (by show sb + 12 + 0 ≤ 5496826; omega)⟩)
  refine zg_cost (kc2 := kb + 2) (ks2 := sb + 12) ⟨(by show kb + 2 + 0 = kb + 2; omega), (by show sb + 12 + 0 = sb + 12; omega)⟩ ?_
  refine zg_iload ok dL_law_1983 1 rfl ?_
  refine zg_icmp_eq (tgt := 1990) ok dL_law_1985 (by decide) hE (fun hE => ?_) (fun hE => ?_)
  · refine zg_iload ok dL_law_1990 1 rfl ?_
    refine zg_if_ne (tgt := 2027) ok dL_law_1992 (by decide) hE (fun hE => ?_) (fun hE => ?_)
    · refine zg_sub (L' := [(0, va_rf l0), (1, va_rf l1), (2, va_rf l2), (3, va_rf l3), (4, va_rf l4), (5, .int l5)]) [2, 3, 4, 5, 6, 7] rfl ?_
      exact gt_f_law_J2027 hl ok tab fin hRm hk hKE hR  hE
    · refine zg_aload ok dL_law_1995 6 rfl ?_
      refine zg_iconst (v := 0) ok dL_law_1997 (by decide) ?_
      refine zg_dald ok dL_law_1998 hE (fun v200 hE => ?_)
      refine zg_dload ok dL_law_1999 0 rfl ?_
      refine zg_dcmp ok dL_law_2001 ?_
      refine zg_if_eq (tgt := 2027) ok dL_law_2002 (by decide) hE (fun hE => ?_) (fun hE => ?_)
      · refine zg_sub (L' := [(0, va_rf l0), (1, va_rf l1), (2, va_rf l2), (3, va_rf l3), (4, va_rf l4), (5, .int l5)]) [2, 3, 4, 5, 6, 7] rfl ?_
        exact gt_f_law_J2027 hl ok tab fin hRm hk hKE hR  hE
      · refine zg_aload ok dL_law_2005 6 rfl ?_
        refine zg_iconst (v := 0) ok dL_law_2007 (by decide) ?_
        refine zg_dald ok dL_law_2008 hE (fun v201 hE => ?_)
        refine zg_aload ok dL_law_2009 6 rfl ?_
        refine zg_iconst (v := 0) ok dL_law_2011 (by decide) ?_
        refine zg_dald ok dL_law_2012 hE (fun v202 hE => ?_)
        refine zg_dcmp ok dL_law_2013 ?_
        refine zg_if_eq (tgt := 2025) ok dL_law_2014 (by decide) hE (fun hE => ?_) (fun hE => ?_)
        · refine zg_iconst (v := 0) ok dL_law_2025 (by decide) ?_
          exact zg_zret ok fin dL_law_2026 ⟨(by omega), (by omega)⟩ rfl hE
        · refine zg_dload ok dL_law_2017 0 rfl ?_
          refine zg_dload ok dL_law_2019 0 rfl ?_
          refine zg_dcmp ok dL_law_2021 ?_
          refine zg_if_ne (tgt := 2027) ok dL_law_2022 (by decide) hE (fun hE => ?_) (fun hE => ?_)
          · refine zg_sub (L' := [(0, va_rf l0), (1, va_rf l1), (2, va_rf l2), (3, va_rf l3), (4, va_rf l4), (5, .int l5)]) [2, 3, 4, 5, 6, 7] rfl ?_
            exact gt_f_law_J2027 hl ok tab fin hRm hk hKE hR  hE
          · refine zg_iconst (v := 0) ok dL_law_2025 (by decide) ?_
            exact zg_zret ok fin dL_law_2026 ⟨(by omega), (by omega)⟩ rfl hE
  · refine zg_iconst (v := 0) ok dL_law_1988 (by decide) ?_
    exact zg_zret ok fin dL_law_1989 ⟨(by omega), (by omega)⟩ rfl hE
set_option maxHeartbeats 8000000 in
theorem gt_f_law_J2090 {Xc : zw_X} {Q : Int32 → zw_H → Prop} {X : String → Nat → zw_H → Prop} (hl : (zw_l Xc).stackTraces = false) (ok : zw_ok Xc cL_law "MultipoleLineLaw" "law" 9) (tab : zw_tab Xc []) (fin : zw_fin Xc (Option.some Jvm.ClassFile.FieldType.boolean) (zq_I Q) X 1200144 5496826) (hRm : zw_rm Xc = rm_law) {kb sb KE SE : Nat} (hk : kb + 1139 ≤ KE ∧ sb + 73158 ≤ SE) (hKE : KE ≤ 1200144 ∧ SE ≤ 5496826) {R : Int32 → zw_H → Prop} {l0 : Option Nat} {l1 : Option Nat} {l2 : Option Nat} {l3 : Option Nat} {l4 : Option Nat} (hR : ∀ (l5 : Int32) (h : zw_H), R l5 h → zw_G Xc (kb + 1139) (sb + 73158) 9 h 28 [(0, va_rf l0), (1, va_rf l1), (2, va_rf l2), (3, va_rf l3), (4, va_rf l4), (5, .int l5)] [])  {l5 : Int32}  {h : zw_H} (hE : f_law_J2090 (zw_Zf Xc).2.2.2 Q X R l0 l1 l2 l3 l4 l5 h) : zw_G Xc (kb + 2) (sb + 12) 9 h 2090 [(0, va_rf l0), (1, va_rf l1), (2, va_rf l2), (3, va_rf l3), (4, va_rf l4), (5, .int l5)] [] := by
  unfold f_law_J2090 at hE
  refine zg_goto (tgt := 4220) ok dL_law_2090 (by decide) ?_
  refine zg_wide (kc2 := kb + 1139) (ks2 := sb + 73158) (by omega) (by omega) ?_
  exact gt_f_law_J4220 hl ok tab fin hRm hk hKE hR  hE
set_option maxHeartbeats 8000000 in
theorem gt_f_law_J2084 {Xc : zw_X} {Q : Int32 → zw_H → Prop} {X : String → Nat → zw_H → Prop} (hl : (zw_l Xc).stackTraces = false) (ok : zw_ok Xc cL_law "MultipoleLineLaw" "law" 9) (tab : zw_tab Xc []) (fin : zw_fin Xc (Option.some Jvm.ClassFile.FieldType.boolean) (zq_I Q) X 1200144 5496826) (hRm : zw_rm Xc = rm_law) {kb sb KE SE : Nat} (hk : kb + 1139 ≤ KE ∧ sb + 73158 ≤ SE) (hKE : KE ≤ 1200144 ∧ SE ≤ 5496826) {R : Int32 → zw_H → Prop} {l0 : Option Nat} {l1 : Option Nat} {l2 : Option Nat} {l3 : Option Nat} {l4 : Option Nat} (hR : ∀ (l5 : Int32) (h : zw_H), R l5 h → zw_G Xc (kb + 1139) (sb + 73158) 9 h 28 [(0, va_rf l0), (1, va_rf l1), (2, va_rf l2), (3, va_rf l3), (4, va_rf l4), (5, .int l5)] [])  {l5 : Int32} {s0 : Int64} {s1 : Int64} {h : zw_H} (hE : f_law_J2084 (zw_Zf Xc).2.2.2 Q X R l0 l1 l2 l3 l4 l5 s0 s1 h) : zw_G Xc (kb + 2) (sb + 12) 9 h 2084 [(0, va_rf l0), (1, va_rf l1), (2, va_rf l2), (3, va_rf l3), (4, va_rf l4), (5, .int l5)] [.long s0, .long s1] := by
  unfold f_law_J2084 at hE
  refine zg_lcmp ok dL_law_2084 ?_
  refine zg_if_eq (tgt := 2090) ok dL_law_2085 (by decide) hE (fun hE => ?_) (fun hE => ?_)
  · exact gt_f_law_J2090 hl ok tab fin hRm hk hKE hR  hE
  · refine zg_iconst (v := 0) ok dL_law_2088 (by decide) ?_
    exact zg_zret ok fin dL_law_2089 ⟨(by omega), (by omega)⟩ rfl hE
set_option maxHeartbeats 8000000 in
theorem gt_f_law_J2030 {Xc : zw_X} {Q : Int32 → zw_H → Prop} {X : String → Nat → zw_H → Prop} (hl : (zw_l Xc).stackTraces = false) (ok : zw_ok Xc cL_law "MultipoleLineLaw" "law" 9) (tab : zw_tab Xc []) (fin : zw_fin Xc (Option.some Jvm.ClassFile.FieldType.boolean) (zq_I Q) X 1200144 5496826) (hRm : zw_rm Xc = rm_law) {kb sb KE SE : Nat} (hk : kb + 1139 ≤ KE ∧ sb + 73158 ≤ SE) (hKE : KE ≤ 1200144 ∧ SE ≤ 5496826) {R : Int32 → zw_H → Prop} {l0 : Option Nat} {l1 : Option Nat} {l2 : Option Nat} {l3 : Option Nat} {l4 : Option Nat} (hR : ∀ (l5 : Int32) (h : zw_H), R l5 h → zw_G Xc (kb + 1139) (sb + 73158) 9 h 28 [(0, va_rf l0), (1, va_rf l1), (2, va_rf l2), (3, va_rf l3), (4, va_rf l4), (5, .int l5)] [])  {l5 : Int32}  {h : zw_H} (hE : f_law_J2030 (zw_Zf Xc).2.2.2 Q X R l0 l1 l2 l3 l4 l5 h) : zw_G Xc kb sb 9 h 2030 [(0, va_rf l0), (1, va_rf l1), (2, va_rf l2), (3, va_rf l3), (4, va_rf l4), (5, .int l5)] [] := by
  unfold f_law_J2030 at hE
  refine zg_aload_n ok dL_law_2030 rfl 1 rfl ?_
  refine zg_aload_n ok dL_law_2031 rfl 0 rfl ?_
  refine zg_iload ok dL_law_2032 5 rfl ?_
  refine zg_iconst (v := 1) ok dL_law_2034 (by decide) ?_
  refine zg_iadd ok dL_law_2035 ?_
  refine zg_iald ok dL_law_2036 hE (fun v203 hE => ?_)
  refine zg_aload_n ok dL_law_2037 rfl 3 rfl ?_
  refine zg_callSX (vs := [zA l1, zI v203, zA l3]) (rest := []) (rm := rm_X0_isWithin) ok hRm lk_X0_313 dL_law_2038 hE (fun hE => mt_X0_isWithin hl hE) rfl (Nat.le_of_ble_eq_true rfl) ⟨⟨Nat.le_of_ble_eq_true rfl, Nat.le_of_ble_eq_true rfl⟩, (by show kb + 2 ≤ 1200144; omega), (by show sb + 12 ≤ 5496826; omega)⟩ (zg_retI (fun v204 h87 hE => ?_)) (zg_xok ok tab fin ⟨(by show kb + 2 ≤ 1200144; omega), (by show sb + 12 ≤ 5496826; omega)⟩)
  refine zg_cost (kc2 := kb + 2) (ks2 := sb + 12) ⟨(by show kb + 2 = kb + 2; omega), (by show sb + 12 = sb + 12; omega)⟩ ?_
  refine zg_istore (L' := [(6, .int v204), (0, va_rf l0), (1, va_rf l1), (2, va_rf l2), (3, va_rf l3), (4, va_rf l4), (5, .int l5)]) ok dL_law_2041 (by decide) rfl ?_
  refine zg_aload_n ok dL_law_2043 rfl 3 rfl ?_
  refine zg_aload_n ok dL_law_2044 rfl 1 rfl ?_
  refine zg_iload ok dL_law_2045 6 rfl ?_
  refine zg_iconst (v := 1) ok dL_law_2047 (by decide) ?_
  refine zg_iadd ok dL_law_2048 ?_
  refine zg_iald ok dL_law_2049 hE (fun v205 hE => ?_)
  refine zg_callV (vs := [zI v205]) (rest := []) (rm := rm_X2_isWithin) ok hRm lk_X0_315 dL_law_2050 hE (fun hE => mt_X2_isWithin hl hE) rfl (Nat.le_of_ble_eq_true rfl) ⟨⟨Nat.le_of_ble_eq_true rfl, Nat.le_of_ble_eq_true rfl⟩, (by show kb + 2 + 0 ≤ 1200144; omega), (by show sb + 12 + 0 ≤ 5496826; omega)⟩ (zg_retI (fun v206 h88 hE => ?_)) (zg_xok ok tab fin ⟨(by show kb + 2 + 0 ≤ 1200144; omega), (by show sb + 12 + 0 ≤ 5496826; omega)⟩)
  refine zg_cost (kc2 := kb + 2) (ks2 := sb + 12) ⟨(by show kb + 2 + 0 = kb + 2; omega), (by show sb + 12 + 0 = sb + 12; omega)⟩ ?_
  refine zg_istore (L' := [(7, .int v206), (6, .int v204), (0, va_rf l0), (1, va_rf l1), (2, va_rf l2), (3, va_rf l3), (4, va_rf l4), (5, .int l5)]) ok dL_law_2053 (by decide) rfl ?_
  refine zg_aload_n ok dL_law_2055 rfl 4 rfl ?_
  refine zg_callV (vs := []) (rest := []) (rm := rm_X2_thrown) ok hRm lk_X0_223 dL_law_2056 hE (fun hE => mt_X2_thrown hl hE) rfl (Nat.le_of_ble_eq_true rfl) ⟨⟨Nat.le_of_ble_eq_true rfl, Nat.le_of_ble_eq_true rfl⟩, (by show kb + 2 + 0 ≤ 1200144; omega), (by show sb + 12 + 0 ≤ 5496826; omega)⟩ (zg_retI (fun v207 h89 hE => ?_)) (zg_xok ok tab fin ⟨(by show kb + 2 + 0 ≤ 1200144; omega), (by show sb + 12 + 0 ≤ 5496826; omega)⟩)
  refine zg_cost (kc2 := kb + 2) (ks2 := sb + 12) ⟨(by show kb + 2 + 0 = kb + 2; omega), (by show sb + 12 + 0 = sb + 12; omega)⟩ ?_
  refine zg_iload ok dL_law_2059 1 rfl ?_
  refine zg_icmp_eq (tgt := 2066) ok dL_law_2061 (by decide) hE (fun hE => ?_) (fun hE => ?_)
  · refine zg_iload ok dL_law_2066 1 rfl ?_
    refine zg_if_ne (tgt := 2090) ok dL_law_2068 (by decide) hE (fun hE => ?_) (fun hE => ?_)
    · refine zg_sub (L' := [(0, va_rf l0), (1, va_rf l1), (2, va_rf l2), (3, va_rf l3), (4, va_rf l4), (5, .int l5)]) [2, 3, 4, 5, 6, 7] rfl ?_
      exact gt_f_law_J2090 hl ok tab fin hRm hk hKE hR  hE
    · refine zg_aload_n ok dL_law_2071 rfl 5 rfl ?_
      refine zg_iconst (v := 0) ok dL_law_2072 (by decide) ?_
      refine zg_lald ok dL_law_2073 hE (fun v208 hE => ?_)
      refine zg_iload ok dL_law_2074 0 rfl ?_
      refine zg_if_eq (tgt := 2083) ok dL_law_2076 (by decide) hE (fun hE => ?_) (fun hE => ?_)
      · refine zg_lconst (v := 0) ok dL_law_2083 (by decide) ?_
        refine zg_sub (L' := [(0, va_rf l0), (1, va_rf l1), (2, va_rf l2), (3, va_rf l3), (4, va_rf l4), (5, .int l5)]) [2, 3, 4, 5, 6, 7] rfl ?_
        exact gt_f_law_J2084 hl ok tab fin hRm hk hKE hR  hE
      · refine zg_lconst (v := 1) ok dL_law_2079 (by decide) ?_
        refine zg_goto (tgt := 2084) ok dL_law_2080 (by decide) ?_
        refine zg_sub (L' := [(0, va_rf l0), (1, va_rf l1), (2, va_rf l2), (3, va_rf l3), (4, va_rf l4), (5, .int l5)]) [2, 3, 4, 5, 6, 7] rfl ?_
        exact gt_f_law_J2084 hl ok tab fin hRm hk hKE hR  hE
  · refine zg_iconst (v := 0) ok dL_law_2064 (by decide) ?_
    exact zg_zret ok fin dL_law_2065 ⟨(by omega), (by omega)⟩ rfl hE
set_option maxHeartbeats 8000000 in
theorem gt_f_law_J2134 {Xc : zw_X} {Q : Int32 → zw_H → Prop} {X : String → Nat → zw_H → Prop} (hl : (zw_l Xc).stackTraces = false) (ok : zw_ok Xc cL_law "MultipoleLineLaw" "law" 9) (tab : zw_tab Xc []) (fin : zw_fin Xc (Option.some Jvm.ClassFile.FieldType.boolean) (zq_I Q) X 1200144 5496826) (hRm : zw_rm Xc = rm_law) {kb sb KE SE : Nat} (hk : kb + 1139 ≤ KE ∧ sb + 73158 ≤ SE) (hKE : KE ≤ 1200144 ∧ SE ≤ 5496826) {R : Int32 → zw_H → Prop} {l0 : Option Nat} {l1 : Option Nat} {l2 : Option Nat} {l3 : Option Nat} {l4 : Option Nat} (hR : ∀ (l5 : Int32) (h : zw_H), R l5 h → zw_G Xc (kb + 1139) (sb + 73158) 9 h 28 [(0, va_rf l0), (1, va_rf l1), (2, va_rf l2), (3, va_rf l3), (4, va_rf l4), (5, .int l5)] [])  {l5 : Int32}  {h : zw_H} (hE : f_law_J2134 (zw_Zf Xc).2.2.2 Q X R l0 l1 l2 l3 l4 l5 h) : zw_G Xc (kb + 1) (sb + 6) 9 h 2134 [(0, va_rf l0), (1, va_rf l1), (2, va_rf l2), (3, va_rf l3), (4, va_rf l4), (5, .int l5)] [] := by
  unfold f_law_J2134 at hE
  refine zg_goto (tgt := 4220) ok dL_law_2134 (by decide) ?_
  refine zg_wide (kc2 := kb + 1139) (ks2 := sb + 73158) (by omega) (by omega) ?_
  exact gt_f_law_J4220 hl ok tab fin hRm hk hKE hR  hE
set_option maxHeartbeats 8000000 in
theorem gt_f_law_J2093 {Xc : zw_X} {Q : Int32 → zw_H → Prop} {X : String → Nat → zw_H → Prop} (hl : (zw_l Xc).stackTraces = false) (ok : zw_ok Xc cL_law "MultipoleLineLaw" "law" 9) (tab : zw_tab Xc []) (fin : zw_fin Xc (Option.some Jvm.ClassFile.FieldType.boolean) (zq_I Q) X 1200144 5496826) (hRm : zw_rm Xc = rm_law) {kb sb KE SE : Nat} (hk : kb + 1139 ≤ KE ∧ sb + 73158 ≤ SE) (hKE : KE ≤ 1200144 ∧ SE ≤ 5496826) {R : Int32 → zw_H → Prop} {l0 : Option Nat} {l1 : Option Nat} {l2 : Option Nat} {l3 : Option Nat} {l4 : Option Nat} (hR : ∀ (l5 : Int32) (h : zw_H), R l5 h → zw_G Xc (kb + 1139) (sb + 73158) 9 h 28 [(0, va_rf l0), (1, va_rf l1), (2, va_rf l2), (3, va_rf l3), (4, va_rf l4), (5, .int l5)] [])  {l5 : Int32}  {h : zw_H} (hE : f_law_J2093 (zw_Zf Xc).2.2.2 Q X R l0 l1 l2 l3 l4 l5 h) : zw_G Xc kb sb 9 h 2093 [(0, va_rf l0), (1, va_rf l1), (2, va_rf l2), (3, va_rf l3), (4, va_rf l4), (5, .int l5)] [] := by
  unfold f_law_J2093 at hE
  refine zg_aload_n ok dL_law_2093 rfl 1 rfl ?_
  refine zg_aload_n ok dL_law_2094 rfl 3 rfl ?_
  refine zg_callSX (vs := [zA l1, zA l3]) (rest := []) (rm := rm_X0_worst) ok hRm lk_X0_316 dL_law_2095 hE (fun hE => mt_X0_worst hl hE) rfl (Nat.le_of_ble_eq_true rfl) ⟨⟨Nat.le_of_ble_eq_true rfl, Nat.le_of_ble_eq_true rfl⟩, (by show kb + 1 ≤ 1200144; omega), (by show sb + 6 ≤ 5496826; omega)⟩ (zg_retI (fun v209 h90 hE => ?_)) (zg_xok ok tab fin ⟨(by show kb + 1 ≤ 1200144; omega), (by show sb + 6 ≤ 5496826; omega)⟩)
  refine zg_cost (kc2 := kb + 1) (ks2 := sb + 6) ⟨(by show kb + 1 = kb + 1; omega), (by show sb + 6 = sb + 6; omega)⟩ ?_
  refine zg_istore (L' := [(6, .int v209), (0, va_rf l0), (1, va_rf l1), (2, va_rf l2), (3, va_rf l3), (4, va_rf l4), (5, .int l5)]) ok dL_law_2098 (by decide) rfl ?_
  refine zg_aload_n ok dL_law_2100 rfl 3 rfl ?_
  refine zg_callV (vs := []) (rest := []) (rm := rm_X2_worst) ok hRm lk_X0_318 dL_law_2101 hE (fun hE => mt_X2_worst hl hE) rfl (Nat.le_of_ble_eq_true rfl) ⟨⟨Nat.le_of_ble_eq_true rfl, Nat.le_of_ble_eq_true rfl⟩, (by show kb + 1 + 0 ≤ 1200144; omega), (by show sb + 6 + 0 ≤ 5496826; omega)⟩ (zg_retI (fun v210 h91 hE => ?_)) (zg_xok ok tab fin ⟨(by show kb + 1 + 0 ≤ 1200144; omega), (by show sb + 6 + 0 ≤ 5496826; omega)⟩)
  refine zg_cost (kc2 := kb + 1) (ks2 := sb + 6) ⟨(by show kb + 1 + 0 = kb + 1; omega), (by show sb + 6 + 0 = sb + 6; omega)⟩ ?_
  refine zg_istore (L' := [(7, .int v210), (6, .int v209), (0, va_rf l0), (1, va_rf l1), (2, va_rf l2), (3, va_rf l3), (4, va_rf l4), (5, .int l5)]) ok dL_law_2104 (by decide) rfl ?_
  refine zg_aload_n ok dL_law_2106 rfl 4 rfl ?_
  refine zg_callV (vs := []) (rest := []) (rm := rm_X2_thrown) ok hRm lk_X0_223 dL_law_2107 hE (fun hE => mt_X2_thrown hl hE) rfl (Nat.le_of_ble_eq_true rfl) ⟨⟨Nat.le_of_ble_eq_true rfl, Nat.le_of_ble_eq_true rfl⟩, (by show kb + 1 + 0 ≤ 1200144; omega), (by show sb + 6 + 0 ≤ 5496826; omega)⟩ (zg_retI (fun v211 h92 hE => ?_)) (zg_xok ok tab fin ⟨(by show kb + 1 + 0 ≤ 1200144; omega), (by show sb + 6 + 0 ≤ 5496826; omega)⟩)
  refine zg_cost (kc2 := kb + 1) (ks2 := sb + 6) ⟨(by show kb + 1 + 0 = kb + 1; omega), (by show sb + 6 + 0 = sb + 6; omega)⟩ ?_
  refine zg_iload ok dL_law_2110 1 rfl ?_
  refine zg_icmp_eq (tgt := 2117) ok dL_law_2112 (by decide) hE (fun hE => ?_) (fun hE => ?_)
  · refine zg_iload ok dL_law_2117 1 rfl ?_
    refine zg_if_ne (tgt := 2134) ok dL_law_2119 (by decide) hE (fun hE => ?_) (fun hE => ?_)
    · refine zg_sub (L' := [(0, va_rf l0), (1, va_rf l1), (2, va_rf l2), (3, va_rf l3), (4, va_rf l4), (5, .int l5)]) [2, 3, 4, 5, 6, 7] rfl ?_
      exact gt_f_law_J2134 hl ok tab fin hRm hk hKE hR  hE
    · refine zg_aload_n ok dL_law_2122 rfl 5 rfl ?_
      refine zg_iconst (v := 0) ok dL_law_2123 (by decide) ?_
      refine zg_lald ok dL_law_2124 hE (fun v212 hE => ?_)
      refine zg_iload ok dL_law_2125 0 rfl ?_
      refine zg_i2l ok dL_law_2127 ?_
      refine zg_lcmp ok dL_law_2128 ?_
      refine zg_if_eq (tgt := 2134) ok dL_law_2129 (by decide) hE (fun hE => ?_) (fun hE => ?_)
      · refine zg_sub (L' := [(0, va_rf l0), (1, va_rf l1), (2, va_rf l2), (3, va_rf l3), (4, va_rf l4), (5, .int l5)]) [2, 3, 4, 5, 6, 7] rfl ?_
        exact gt_f_law_J2134 hl ok tab fin hRm hk hKE hR  hE
      · refine zg_iconst (v := 0) ok dL_law_2132 (by decide) ?_
        exact zg_zret ok fin dL_law_2133 ⟨(by omega), (by omega)⟩ rfl hE
  · refine zg_iconst (v := 0) ok dL_law_2115 (by decide) ?_
    exact zg_zret ok fin dL_law_2116 ⟨(by omega), (by omega)⟩ rfl hE
set_option maxHeartbeats 8000000 in
theorem gt_f_law_J2235 {Xc : zw_X} {Q : Int32 → zw_H → Prop} {X : String → Nat → zw_H → Prop} (hl : (zw_l Xc).stackTraces = false) (ok : zw_ok Xc cL_law "MultipoleLineLaw" "law" 9) (tab : zw_tab Xc []) (fin : zw_fin Xc (Option.some Jvm.ClassFile.FieldType.boolean) (zq_I Q) X 1200144 5496826) (hRm : zw_rm Xc = rm_law) {kb sb KE SE : Nat} (hk : kb + 1139 ≤ KE ∧ sb + 73158 ≤ SE) (hKE : KE ≤ 1200144 ∧ SE ≤ 5496826) {R : Int32 → zw_H → Prop} {l0 : Option Nat} {l1 : Option Nat} {l2 : Option Nat} {l3 : Option Nat} {l4 : Option Nat} (hR : ∀ (l5 : Int32) (h : zw_H), R l5 h → zw_G Xc (kb + 1139) (sb + 73158) 9 h 28 [(0, va_rf l0), (1, va_rf l1), (2, va_rf l2), (3, va_rf l3), (4, va_rf l4), (5, .int l5)] [])  {l5 : Int32}  {h : zw_H} (hE : f_law_J2235 (zw_Zf Xc).2.2.2 Q X R l0 l1 l2 l3 l4 l5 h) : zw_G Xc (kb + 14) (sb + 120) 9 h 2235 [(0, va_rf l0), (1, va_rf l1), (2, va_rf l2), (3, va_rf l3), (4, va_rf l4), (5, .int l5)] [] := by
  unfold f_law_J2235 at hE
  refine zg_goto (tgt := 4220) ok dL_law_2235 (by decide) ?_
  refine zg_wide (kc2 := kb + 1139) (ks2 := sb + 73158) (by omega) (by omega) ?_
  exact gt_f_law_J4220 hl ok tab fin hRm hk hKE hR  hE
set_option maxHeartbeats 8000000 in
theorem gt_f_law_J2137 {Xc : zw_X} {Q : Int32 → zw_H → Prop} {X : String → Nat → zw_H → Prop} (hl : (zw_l Xc).stackTraces = false) (ok : zw_ok Xc cL_law "MultipoleLineLaw" "law" 9) (tab : zw_tab Xc []) (fin : zw_fin Xc (Option.some Jvm.ClassFile.FieldType.boolean) (zq_I Q) X 1200144 5496826) (hRm : zw_rm Xc = rm_law) {kb sb KE SE : Nat} (hk : kb + 1139 ≤ KE ∧ sb + 73158 ≤ SE) (hKE : KE ≤ 1200144 ∧ SE ≤ 5496826) {R : Int32 → zw_H → Prop} {l0 : Option Nat} {l1 : Option Nat} {l2 : Option Nat} {l3 : Option Nat} {l4 : Option Nat} (hR : ∀ (l5 : Int32) (h : zw_H), R l5 h → zw_G Xc (kb + 1139) (sb + 73158) 9 h 28 [(0, va_rf l0), (1, va_rf l1), (2, va_rf l2), (3, va_rf l3), (4, va_rf l4), (5, .int l5)] [])  {l5 : Int32}  {h : zw_H} (hE : f_law_J2137 (zw_Zf Xc).2.2.2 Q X R l0 l1 l2 l3 l4 l5 h) : zw_G Xc kb sb 9 h 2137 [(0, va_rf l0), (1, va_rf l1), (2, va_rf l2), (3, va_rf l3), (4, va_rf l4), (5, .int l5)] [] := by
  unfold f_law_J2137 at hE
  refine zg_aload_n ok dL_law_2137 rfl 1 rfl ?_
  refine zg_aload_n ok dL_law_2138 rfl 0 rfl ?_
  refine zg_iload ok dL_law_2139 5 rfl ?_
  refine zg_iconst (v := 1) ok dL_law_2141 (by decide) ?_
  refine zg_iadd ok dL_law_2142 ?_
  refine zg_iald ok dL_law_2143 hE (fun v213 hE => ?_)
  refine zg_aload_n ok dL_law_2144 rfl 0 rfl ?_
  refine zg_iload ok dL_law_2145 5 rfl ?_
  refine zg_iconst (v := 2) ok dL_law_2147 (by decide) ?_
  refine zg_iadd ok dL_law_2148 ?_
  refine zg_iald ok dL_law_2149 hE (fun v214 hE => ?_)
  refine zg_aload_n ok dL_law_2150 rfl 0 rfl ?_
  refine zg_iload ok dL_law_2151 5 rfl ?_
  refine zg_iconst (v := 3) ok dL_law_2153 (by decide) ?_
  refine zg_iadd ok dL_law_2154 ?_
  refine zg_iald ok dL_law_2155 hE (fun v215 hE => ?_)
  refine zg_aload ok dL_law_2156 4 rfl ?_
  refine zg_callSX (vs := [zA l1, zI v213, zI v214, zI v215, zA l4]) (rest := []) (rm := rm_X0_localEntry) ok hRm lk_X0_319 dL_law_2158 hE (fun hE => mt_X0_localEntry hl hE) rfl (Nat.le_of_ble_eq_true rfl) ⟨⟨Nat.le_of_ble_eq_true rfl, Nat.le_of_ble_eq_true rfl⟩, (by show kb + 14 ≤ 1200144; omega), (by show sb + 120 ≤ 5496826; omega)⟩ (zg_retI (fun v216 h93 hE => ?_)) (zg_xok ok tab fin ⟨(by show kb + 14 ≤ 1200144; omega), (by show sb + 120 ≤ 5496826; omega)⟩)
  refine zg_cost (kc2 := kb + 14) (ks2 := sb + 120) ⟨(by show kb + 14 = kb + 14; omega), (by show sb + 120 = sb + 120; omega)⟩ ?_
  refine zg_istore (L' := [(6, .int v216), (0, va_rf l0), (1, va_rf l1), (2, va_rf l2), (3, va_rf l3), (4, va_rf l4), (5, .int l5)]) ok dL_law_2161 (by decide) rfl ?_
  refine zg_aload_n ok dL_law_2163 rfl 3 rfl ?_
  refine zg_aload_n ok dL_law_2164 rfl 1 rfl ?_
  refine zg_iload ok dL_law_2165 6 rfl ?_
  refine zg_iconst (v := 1) ok dL_law_2167 (by decide) ?_
  refine zg_iadd ok dL_law_2168 ?_
  refine zg_iald ok dL_law_2169 hE (fun v217 hE => ?_)
  refine zg_aload_n ok dL_law_2170 rfl 1 rfl ?_
  refine zg_iload ok dL_law_2171 6 rfl ?_
  refine zg_iconst (v := 2) ok dL_law_2173 (by decide) ?_
  refine zg_iadd ok dL_law_2174 ?_
  refine zg_iald ok dL_law_2175 hE (fun v218 hE => ?_)
  refine zg_aload_n ok dL_law_2176 rfl 1 rfl ?_
  refine zg_iload ok dL_law_2177 6 rfl ?_
  refine zg_iconst (v := 3) ok dL_law_2179 (by decide) ?_
  refine zg_iadd ok dL_law_2180 ?_
  refine zg_iald ok dL_law_2181 hE (fun v219 hE => ?_)
  refine zg_callV (vs := [zI v217, zI v218, zI v219]) (rest := []) (rm := rm_X2_localEntry) ok hRm lk_X0_321 dL_law_2182 hE (fun hE => mt_X2_localEntry hl hE) rfl (Nat.le_of_ble_eq_true rfl) ⟨⟨Nat.le_of_ble_eq_true rfl, Nat.le_of_ble_eq_true rfl⟩, (by show kb + 14 + 0 ≤ 1200144; omega), (by show sb + 120 + 0 ≤ 5496826; omega)⟩ (zg_retD (fun v220 h94 hE => ?_)) (zg_xok ok tab fin ⟨(by show kb + 14 + 0 ≤ 1200144; omega), (by show sb + 120 + 0 ≤ 5496826; omega)⟩)
  refine zg_cost (kc2 := kb + 14) (ks2 := sb + 120) ⟨(by show kb + 14 + 0 = kb + 14; omega), (by show sb + 120 + 0 = sb + 120; omega)⟩ ?_
  refine zg_dstore (L' := [(7, .double v220), (6, .int v216), (0, va_rf l0), (1, va_rf l1), (2, va_rf l2), (3, va_rf l3), (4, va_rf l4), (5, .int l5)]) ok dL_law_2185 (by decide) rfl ?_
  refine zg_aload_n ok dL_law_2187 rfl 4 rfl ?_
  refine zg_callV (vs := []) (rest := []) (rm := rm_X2_thrown) ok hRm lk_X0_223 dL_law_2188 hE (fun hE => mt_X2_thrown hl hE) rfl (Nat.le_of_ble_eq_true rfl) ⟨⟨Nat.le_of_ble_eq_true rfl, Nat.le_of_ble_eq_true rfl⟩, (by show kb + 14 + 0 ≤ 1200144; omega), (by show sb + 120 + 0 ≤ 5496826; omega)⟩ (zg_retI (fun v221 h95 hE => ?_)) (zg_xok ok tab fin ⟨(by show kb + 14 + 0 ≤ 1200144; omega), (by show sb + 120 + 0 ≤ 5496826; omega)⟩)
  refine zg_cost (kc2 := kb + 14) (ks2 := sb + 120) ⟨(by show kb + 14 + 0 = kb + 14; omega), (by show sb + 120 + 0 = sb + 120; omega)⟩ ?_
  refine zg_iload ok dL_law_2191 1 rfl ?_
  refine zg_icmp_eq (tgt := 2198) ok dL_law_2193 (by decide) hE (fun hE => ?_) (fun hE => ?_)
  · refine zg_iload ok dL_law_2198 1 rfl ?_
    refine zg_if_ne (tgt := 2235) ok dL_law_2200 (by decide) hE (fun hE => ?_) (fun hE => ?_)
    · refine zg_sub (L' := [(0, va_rf l0), (1, va_rf l1), (2, va_rf l2), (3, va_rf l3), (4, va_rf l4), (5, .int l5)]) [2, 3, 4, 5, 6, 7] rfl ?_
      exact gt_f_law_J2235 hl ok tab fin hRm hk hKE hR  hE
    · refine zg_aload ok dL_law_2203 6 rfl ?_
      refine zg_iconst (v := 0) ok dL_law_2205 (by decide) ?_
      refine zg_dald ok dL_law_2206 hE (fun v222 hE => ?_)
      refine zg_dload ok dL_law_2207 0 rfl ?_
      refine zg_dcmp ok dL_law_2209 ?_
      refine zg_if_eq (tgt := 2235) ok dL_law_2210 (by decide) hE (fun hE => ?_) (fun hE => ?_)
      · refine zg_sub (L' := [(0, va_rf l0), (1, va_rf l1), (2, va_rf l2), (3, va_rf l3), (4, va_rf l4), (5, .int l5)]) [2, 3, 4, 5, 6, 7] rfl ?_
        exact gt_f_law_J2235 hl ok tab fin hRm hk hKE hR  hE
      · refine zg_aload ok dL_law_2213 6 rfl ?_
        refine zg_iconst (v := 0) ok dL_law_2215 (by decide) ?_
        refine zg_dald ok dL_law_2216 hE (fun v223 hE => ?_)
        refine zg_aload ok dL_law_2217 6 rfl ?_
        refine zg_iconst (v := 0) ok dL_law_2219 (by decide) ?_
        refine zg_dald ok dL_law_2220 hE (fun v224 hE => ?_)
        refine zg_dcmp ok dL_law_2221 ?_
        refine zg_if_eq (tgt := 2233) ok dL_law_2222 (by decide) hE (fun hE => ?_) (fun hE => ?_)
        · refine zg_iconst (v := 0) ok dL_law_2233 (by decide) ?_
          exact zg_zret ok fin dL_law_2234 ⟨(by omega), (by omega)⟩ rfl hE
        · refine zg_dload ok dL_law_2225 0 rfl ?_
          refine zg_dload ok dL_law_2227 0 rfl ?_
          refine zg_dcmp ok dL_law_2229 ?_
          refine zg_if_ne (tgt := 2235) ok dL_law_2230 (by decide) hE (fun hE => ?_) (fun hE => ?_)
          · refine zg_sub (L' := [(0, va_rf l0), (1, va_rf l1), (2, va_rf l2), (3, va_rf l3), (4, va_rf l4), (5, .int l5)]) [2, 3, 4, 5, 6, 7] rfl ?_
            exact gt_f_law_J2235 hl ok tab fin hRm hk hKE hR  hE
          · refine zg_iconst (v := 0) ok dL_law_2233 (by decide) ?_
            exact zg_zret ok fin dL_law_2234 ⟨(by omega), (by omega)⟩ rfl hE
  · refine zg_iconst (v := 0) ok dL_law_2196 (by decide) ?_
    exact zg_zret ok fin dL_law_2197 ⟨(by omega), (by omega)⟩ rfl hE
set_option maxHeartbeats 8000000 in
theorem gt_f_law_J2312 {Xc : zw_X} {Q : Int32 → zw_H → Prop} {X : String → Nat → zw_H → Prop} (hl : (zw_l Xc).stackTraces = false) (ok : zw_ok Xc cL_law "MultipoleLineLaw" "law" 9) (tab : zw_tab Xc []) (fin : zw_fin Xc (Option.some Jvm.ClassFile.FieldType.boolean) (zq_I Q) X 1200144 5496826) (hRm : zw_rm Xc = rm_law) {kb sb KE SE : Nat} (hk : kb + 1139 ≤ KE ∧ sb + 73158 ≤ SE) (hKE : KE ≤ 1200144 ∧ SE ≤ 5496826) {R : Int32 → zw_H → Prop} {l0 : Option Nat} {l1 : Option Nat} {l2 : Option Nat} {l3 : Option Nat} {l4 : Option Nat} (hR : ∀ (l5 : Int32) (h : zw_H), R l5 h → zw_G Xc (kb + 1139) (sb + 73158) 9 h 28 [(0, va_rf l0), (1, va_rf l1), (2, va_rf l2), (3, va_rf l3), (4, va_rf l4), (5, .int l5)] [])  {l5 : Int32}  {h : zw_H} (hE : f_law_J2312 (zw_Zf Xc).2.2.2 Q X R l0 l1 l2 l3 l4 l5 h) : zw_G Xc (kb + 10) (sb + 96) 9 h 2312 [(0, va_rf l0), (1, va_rf l1), (2, va_rf l2), (3, va_rf l3), (4, va_rf l4), (5, .int l5)] [] := by
  unfold f_law_J2312 at hE
  refine zg_goto (tgt := 4220) ok dL_law_2312 (by decide) ?_
  refine zg_wide (kc2 := kb + 1139) (ks2 := sb + 73158) (by omega) (by omega) ?_
  exact gt_f_law_J4220 hl ok tab fin hRm hk hKE hR  hE
set_option maxHeartbeats 8000000 in
theorem gt_f_law_J2238 {Xc : zw_X} {Q : Int32 → zw_H → Prop} {X : String → Nat → zw_H → Prop} (hl : (zw_l Xc).stackTraces = false) (ok : zw_ok Xc cL_law "MultipoleLineLaw" "law" 9) (tab : zw_tab Xc []) (fin : zw_fin Xc (Option.some Jvm.ClassFile.FieldType.boolean) (zq_I Q) X 1200144 5496826) (hRm : zw_rm Xc = rm_law) {kb sb KE SE : Nat} (hk : kb + 1139 ≤ KE ∧ sb + 73158 ≤ SE) (hKE : KE ≤ 1200144 ∧ SE ≤ 5496826) {R : Int32 → zw_H → Prop} {l0 : Option Nat} {l1 : Option Nat} {l2 : Option Nat} {l3 : Option Nat} {l4 : Option Nat} (hR : ∀ (l5 : Int32) (h : zw_H), R l5 h → zw_G Xc (kb + 1139) (sb + 73158) 9 h 28 [(0, va_rf l0), (1, va_rf l1), (2, va_rf l2), (3, va_rf l3), (4, va_rf l4), (5, .int l5)] [])  {l5 : Int32}  {h : zw_H} (hE : f_law_J2238 (zw_Zf Xc).2.2.2 Q X R l0 l1 l2 l3 l4 l5 h) : zw_G Xc kb sb 9 h 2238 [(0, va_rf l0), (1, va_rf l1), (2, va_rf l2), (3, va_rf l3), (4, va_rf l4), (5, .int l5)] [] := by
  unfold f_law_J2238 at hE
  refine zg_aload_n ok dL_law_2238 rfl 1 rfl ?_
  refine zg_aload_n ok dL_law_2239 rfl 0 rfl ?_
  refine zg_iload ok dL_law_2240 5 rfl ?_
  refine zg_iconst (v := 1) ok dL_law_2242 (by decide) ?_
  refine zg_iadd ok dL_law_2243 ?_
  refine zg_iald ok dL_law_2244 hE (fun v225 hE => ?_)
  refine zg_aload ok dL_law_2245 4 rfl ?_
  refine zg_callSX (vs := [zA l1, zI v225, zA l4]) (rest := []) (rm := rm_X0_localSum) ok hRm lk_X0_322 dL_law_2247 hE (fun hE => mt_X0_localSum hl hE) rfl (Nat.le_of_ble_eq_true rfl) ⟨⟨Nat.le_of_ble_eq_true rfl, Nat.le_of_ble_eq_true rfl⟩, (by show kb + 10 ≤ 1200144; omega), (by show sb + 96 ≤ 5496826; omega)⟩ (zg_retI (fun v226 h96 hE => ?_)) (zg_xok ok tab fin ⟨(by show kb + 10 ≤ 1200144; omega), (by show sb + 96 ≤ 5496826; omega)⟩)
  refine zg_cost (kc2 := kb + 10) (ks2 := sb + 96) ⟨(by show kb + 10 = kb + 10; omega), (by show sb + 96 = sb + 96; omega)⟩ ?_
  refine zg_istore (L' := [(6, .int v226), (0, va_rf l0), (1, va_rf l1), (2, va_rf l2), (3, va_rf l3), (4, va_rf l4), (5, .int l5)]) ok dL_law_2250 (by decide) rfl ?_
  refine zg_aload_n ok dL_law_2252 rfl 3 rfl ?_
  refine zg_aload_n ok dL_law_2253 rfl 1 rfl ?_
  refine zg_iload ok dL_law_2254 6 rfl ?_
  refine zg_iconst (v := 1) ok dL_law_2256 (by decide) ?_
  refine zg_iadd ok dL_law_2257 ?_
  refine zg_iald ok dL_law_2258 hE (fun v227 hE => ?_)
  refine zg_callV (vs := [zI v227]) (rest := []) (rm := rm_X2_localSum) ok hRm lk_X0_324 dL_law_2259 hE (fun hE => mt_X2_localSum hl hE) rfl (Nat.le_of_ble_eq_true rfl) ⟨⟨Nat.le_of_ble_eq_true rfl, Nat.le_of_ble_eq_true rfl⟩, (by show kb + 10 + 0 ≤ 1200144; omega), (by show sb + 96 + 0 ≤ 5496826; omega)⟩ (zg_retD (fun v228 h97 hE => ?_)) (zg_xok ok tab fin ⟨(by show kb + 10 + 0 ≤ 1200144; omega), (by show sb + 96 + 0 ≤ 5496826; omega)⟩)
  refine zg_cost (kc2 := kb + 10) (ks2 := sb + 96) ⟨(by show kb + 10 + 0 = kb + 10; omega), (by show sb + 96 + 0 = sb + 96; omega)⟩ ?_
  refine zg_dstore (L' := [(7, .double v228), (6, .int v226), (0, va_rf l0), (1, va_rf l1), (2, va_rf l2), (3, va_rf l3), (4, va_rf l4), (5, .int l5)]) ok dL_law_2262 (by decide) rfl ?_
  refine zg_aload_n ok dL_law_2264 rfl 4 rfl ?_
  refine zg_callV (vs := []) (rest := []) (rm := rm_X2_thrown) ok hRm lk_X0_223 dL_law_2265 hE (fun hE => mt_X2_thrown hl hE) rfl (Nat.le_of_ble_eq_true rfl) ⟨⟨Nat.le_of_ble_eq_true rfl, Nat.le_of_ble_eq_true rfl⟩, (by show kb + 10 + 0 ≤ 1200144; omega), (by show sb + 96 + 0 ≤ 5496826; omega)⟩ (zg_retI (fun v229 h98 hE => ?_)) (zg_xok ok tab fin ⟨(by show kb + 10 + 0 ≤ 1200144; omega), (by show sb + 96 + 0 ≤ 5496826; omega)⟩)
  refine zg_cost (kc2 := kb + 10) (ks2 := sb + 96) ⟨(by show kb + 10 + 0 = kb + 10; omega), (by show sb + 96 + 0 = sb + 96; omega)⟩ ?_
  refine zg_iload ok dL_law_2268 1 rfl ?_
  refine zg_icmp_eq (tgt := 2275) ok dL_law_2270 (by decide) hE (fun hE => ?_) (fun hE => ?_)
  · refine zg_iload ok dL_law_2275 1 rfl ?_
    refine zg_if_ne (tgt := 2312) ok dL_law_2277 (by decide) hE (fun hE => ?_) (fun hE => ?_)
    · refine zg_sub (L' := [(0, va_rf l0), (1, va_rf l1), (2, va_rf l2), (3, va_rf l3), (4, va_rf l4), (5, .int l5)]) [2, 3, 4, 5, 6, 7] rfl ?_
      exact gt_f_law_J2312 hl ok tab fin hRm hk hKE hR  hE
    · refine zg_aload ok dL_law_2280 6 rfl ?_
      refine zg_iconst (v := 0) ok dL_law_2282 (by decide) ?_
      refine zg_dald ok dL_law_2283 hE (fun v230 hE => ?_)
      refine zg_dload ok dL_law_2284 0 rfl ?_
      refine zg_dcmp ok dL_law_2286 ?_
      refine zg_if_eq (tgt := 2312) ok dL_law_2287 (by decide) hE (fun hE => ?_) (fun hE => ?_)
      · refine zg_sub (L' := [(0, va_rf l0), (1, va_rf l1), (2, va_rf l2), (3, va_rf l3), (4, va_rf l4), (5, .int l5)]) [2, 3, 4, 5, 6, 7] rfl ?_
        exact gt_f_law_J2312 hl ok tab fin hRm hk hKE hR  hE
      · refine zg_aload ok dL_law_2290 6 rfl ?_
        refine zg_iconst (v := 0) ok dL_law_2292 (by decide) ?_
        refine zg_dald ok dL_law_2293 hE (fun v231 hE => ?_)
        refine zg_aload ok dL_law_2294 6 rfl ?_
        refine zg_iconst (v := 0) ok dL_law_2296 (by decide) ?_
        refine zg_dald ok dL_law_2297 hE (fun v232 hE => ?_)
        refine zg_dcmp ok dL_law_2298 ?_
        refine zg_if_eq (tgt := 2310) ok dL_law_2299 (by decide) hE (fun hE => ?_) (fun hE => ?_)
        · refine zg_iconst (v := 0) ok dL_law_2310 (by decide) ?_
          exact zg_zret ok fin dL_law_2311 ⟨(by omega), (by omega)⟩ rfl hE
        · refine zg_dload ok dL_law_2302 0 rfl ?_
          refine zg_dload ok dL_law_2304 0 rfl ?_
          refine zg_dcmp ok dL_law_2306 ?_
          refine zg_if_ne (tgt := 2312) ok dL_law_2307 (by decide) hE (fun hE => ?_) (fun hE => ?_)
          · refine zg_sub (L' := [(0, va_rf l0), (1, va_rf l1), (2, va_rf l2), (3, va_rf l3), (4, va_rf l4), (5, .int l5)]) [2, 3, 4, 5, 6, 7] rfl ?_
            exact gt_f_law_J2312 hl ok tab fin hRm hk hKE hR  hE
          · refine zg_iconst (v := 0) ok dL_law_2310 (by decide) ?_
            exact zg_zret ok fin dL_law_2311 ⟨(by omega), (by omega)⟩ rfl hE
  · refine zg_iconst (v := 0) ok dL_law_2273 (by decide) ?_
    exact zg_zret ok fin dL_law_2274 ⟨(by omega), (by omega)⟩ rfl hE
set_option maxHeartbeats 8000000 in
theorem gt_f_law_J2389 {Xc : zw_X} {Q : Int32 → zw_H → Prop} {X : String → Nat → zw_H → Prop} (hl : (zw_l Xc).stackTraces = false) (ok : zw_ok Xc cL_law "MultipoleLineLaw" "law" 9) (tab : zw_tab Xc []) (fin : zw_fin Xc (Option.some Jvm.ClassFile.FieldType.boolean) (zq_I Q) X 1200144 5496826) (hRm : zw_rm Xc = rm_law) {kb sb KE SE : Nat} (hk : kb + 1139 ≤ KE ∧ sb + 73158 ≤ SE) (hKE : KE ≤ 1200144 ∧ SE ≤ 5496826) {R : Int32 → zw_H → Prop} {l0 : Option Nat} {l1 : Option Nat} {l2 : Option Nat} {l3 : Option Nat} {l4 : Option Nat} (hR : ∀ (l5 : Int32) (h : zw_H), R l5 h → zw_G Xc (kb + 1139) (sb + 73158) 9 h 28 [(0, va_rf l0), (1, va_rf l1), (2, va_rf l2), (3, va_rf l3), (4, va_rf l4), (5, .int l5)] [])  {l5 : Int32}  {h : zw_H} (hE : f_law_J2389 (zw_Zf Xc).2.2.2 Q X R l0 l1 l2 l3 l4 l5 h) : zw_G Xc (kb + 2) (sb + 12) 9 h 2389 [(0, va_rf l0), (1, va_rf l1), (2, va_rf l2), (3, va_rf l3), (4, va_rf l4), (5, .int l5)] [] := by
  unfold f_law_J2389 at hE
  refine zg_goto (tgt := 4220) ok dL_law_2389 (by decide) ?_
  refine zg_wide (kc2 := kb + 1139) (ks2 := sb + 73158) (by omega) (by omega) ?_
  exact gt_f_law_J4220 hl ok tab fin hRm hk hKE hR  hE
set_option maxHeartbeats 8000000 in
theorem gt_f_law_J2315 {Xc : zw_X} {Q : Int32 → zw_H → Prop} {X : String → Nat → zw_H → Prop} (hl : (zw_l Xc).stackTraces = false) (ok : zw_ok Xc cL_law "MultipoleLineLaw" "law" 9) (tab : zw_tab Xc []) (fin : zw_fin Xc (Option.some Jvm.ClassFile.FieldType.boolean) (zq_I Q) X 1200144 5496826) (hRm : zw_rm Xc = rm_law) {kb sb KE SE : Nat} (hk : kb + 1139 ≤ KE ∧ sb + 73158 ≤ SE) (hKE : KE ≤ 1200144 ∧ SE ≤ 5496826) {R : Int32 → zw_H → Prop} {l0 : Option Nat} {l1 : Option Nat} {l2 : Option Nat} {l3 : Option Nat} {l4 : Option Nat} (hR : ∀ (l5 : Int32) (h : zw_H), R l5 h → zw_G Xc (kb + 1139) (sb + 73158) 9 h 28 [(0, va_rf l0), (1, va_rf l1), (2, va_rf l2), (3, va_rf l3), (4, va_rf l4), (5, .int l5)] [])  {l5 : Int32}  {h : zw_H} (hE : f_law_J2315 (zw_Zf Xc).2.2.2 Q X R l0 l1 l2 l3 l4 l5 h) : zw_G Xc kb sb 9 h 2315 [(0, va_rf l0), (1, va_rf l1), (2, va_rf l2), (3, va_rf l3), (4, va_rf l4), (5, .int l5)] [] := by
  unfold f_law_J2315 at hE
  refine zg_aload_n ok dL_law_2315 rfl 1 rfl ?_
  refine zg_aload_n ok dL_law_2316 rfl 0 rfl ?_
  refine zg_iload ok dL_law_2317 5 rfl ?_
  refine zg_iconst (v := 1) ok dL_law_2319 (by decide) ?_
  refine zg_iadd ok dL_law_2320 ?_
  refine zg_iald ok dL_law_2321 hE (fun v233 hE => ?_)
  refine zg_aload ok dL_law_2322 4 rfl ?_
  refine zg_callSX (vs := [zA l1, zI v233, zA l4]) (rest := []) (rm := rm_X0_pullPlain) ok hRm lk_X0_325 dL_law_2324 hE (fun hE => mt_X0_pullPlain hl hE) rfl (Nat.le_of_ble_eq_true rfl) ⟨⟨Nat.le_of_ble_eq_true rfl, Nat.le_of_ble_eq_true rfl⟩, (by show kb + 2 ≤ 1200144; omega), (by show sb + 12 ≤ 5496826; omega)⟩ (zg_retI (fun v234 h99 hE => ?_)) (zg_xok ok tab fin ⟨(by show kb + 2 ≤ 1200144; omega), (by show sb + 12 ≤ 5496826; omega)⟩)
  refine zg_cost (kc2 := kb + 2) (ks2 := sb + 12) ⟨(by show kb + 2 = kb + 2; omega), (by show sb + 12 = sb + 12; omega)⟩ ?_
  refine zg_istore (L' := [(6, .int v234), (0, va_rf l0), (1, va_rf l1), (2, va_rf l2), (3, va_rf l3), (4, va_rf l4), (5, .int l5)]) ok dL_law_2327 (by decide) rfl ?_
  refine zg_aload_n ok dL_law_2329 rfl 3 rfl ?_
  refine zg_aload_n ok dL_law_2330 rfl 1 rfl ?_
  refine zg_iload ok dL_law_2331 6 rfl ?_
  refine zg_iconst (v := 1) ok dL_law_2333 (by decide) ?_
  refine zg_iadd ok dL_law_2334 ?_
  refine zg_iald ok dL_law_2335 hE (fun v235 hE => ?_)
  refine zg_callV (vs := [zI v235]) (rest := []) (rm := rm_X2_pullPlain) ok hRm lk_X0_327 dL_law_2336 hE (fun hE => mt_X2_pullPlain hl hE) rfl (Nat.le_of_ble_eq_true rfl) ⟨⟨Nat.le_of_ble_eq_true rfl, Nat.le_of_ble_eq_true rfl⟩, (by show kb + 2 + 0 ≤ 1200144; omega), (by show sb + 12 + 0 ≤ 5496826; omega)⟩ (zg_retD (fun v236 h100 hE => ?_)) (zg_xok ok tab fin ⟨(by show kb + 2 + 0 ≤ 1200144; omega), (by show sb + 12 + 0 ≤ 5496826; omega)⟩)
  refine zg_cost (kc2 := kb + 2) (ks2 := sb + 12) ⟨(by show kb + 2 + 0 = kb + 2; omega), (by show sb + 12 + 0 = sb + 12; omega)⟩ ?_
  refine zg_dstore (L' := [(7, .double v236), (6, .int v234), (0, va_rf l0), (1, va_rf l1), (2, va_rf l2), (3, va_rf l3), (4, va_rf l4), (5, .int l5)]) ok dL_law_2339 (by decide) rfl ?_
  refine zg_aload_n ok dL_law_2341 rfl 4 rfl ?_
  refine zg_callV (vs := []) (rest := []) (rm := rm_X2_thrown) ok hRm lk_X0_223 dL_law_2342 hE (fun hE => mt_X2_thrown hl hE) rfl (Nat.le_of_ble_eq_true rfl) ⟨⟨Nat.le_of_ble_eq_true rfl, Nat.le_of_ble_eq_true rfl⟩, (by show kb + 2 + 0 ≤ 1200144; omega), (by show sb + 12 + 0 ≤ 5496826; omega)⟩ (zg_retI (fun v237 h101 hE => ?_)) (zg_xok ok tab fin ⟨(by show kb + 2 + 0 ≤ 1200144; omega), (by show sb + 12 + 0 ≤ 5496826; omega)⟩)
  refine zg_cost (kc2 := kb + 2) (ks2 := sb + 12) ⟨(by show kb + 2 + 0 = kb + 2; omega), (by show sb + 12 + 0 = sb + 12; omega)⟩ ?_
  refine zg_iload ok dL_law_2345 1 rfl ?_
  refine zg_icmp_eq (tgt := 2352) ok dL_law_2347 (by decide) hE (fun hE => ?_) (fun hE => ?_)
  · refine zg_iload ok dL_law_2352 1 rfl ?_
    refine zg_if_ne (tgt := 2389) ok dL_law_2354 (by decide) hE (fun hE => ?_) (fun hE => ?_)
    · refine zg_sub (L' := [(0, va_rf l0), (1, va_rf l1), (2, va_rf l2), (3, va_rf l3), (4, va_rf l4), (5, .int l5)]) [2, 3, 4, 5, 6, 7] rfl ?_
      exact gt_f_law_J2389 hl ok tab fin hRm hk hKE hR  hE
    · refine zg_aload ok dL_law_2357 6 rfl ?_
      refine zg_iconst (v := 0) ok dL_law_2359 (by decide) ?_
      refine zg_dald ok dL_law_2360 hE (fun v238 hE => ?_)
      refine zg_dload ok dL_law_2361 0 rfl ?_
      refine zg_dcmp ok dL_law_2363 ?_
      refine zg_if_eq (tgt := 2389) ok dL_law_2364 (by decide) hE (fun hE => ?_) (fun hE => ?_)
      · refine zg_sub (L' := [(0, va_rf l0), (1, va_rf l1), (2, va_rf l2), (3, va_rf l3), (4, va_rf l4), (5, .int l5)]) [2, 3, 4, 5, 6, 7] rfl ?_
        exact gt_f_law_J2389 hl ok tab fin hRm hk hKE hR  hE
      · refine zg_aload ok dL_law_2367 6 rfl ?_
        refine zg_iconst (v := 0) ok dL_law_2369 (by decide) ?_
        refine zg_dald ok dL_law_2370 hE (fun v239 hE => ?_)
        refine zg_aload ok dL_law_2371 6 rfl ?_
        refine zg_iconst (v := 0) ok dL_law_2373 (by decide) ?_
        refine zg_dald ok dL_law_2374 hE (fun v240 hE => ?_)
        refine zg_dcmp ok dL_law_2375 ?_
        refine zg_if_eq (tgt := 2387) ok dL_law_2376 (by decide) hE (fun hE => ?_) (fun hE => ?_)
        · refine zg_iconst (v := 0) ok dL_law_2387 (by decide) ?_
          exact zg_zret ok fin dL_law_2388 ⟨(by omega), (by omega)⟩ rfl hE
        · refine zg_dload ok dL_law_2379 0 rfl ?_
          refine zg_dload ok dL_law_2381 0 rfl ?_
          refine zg_dcmp ok dL_law_2383 ?_
          refine zg_if_ne (tgt := 2389) ok dL_law_2384 (by decide) hE (fun hE => ?_) (fun hE => ?_)
          · refine zg_sub (L' := [(0, va_rf l0), (1, va_rf l1), (2, va_rf l2), (3, va_rf l3), (4, va_rf l4), (5, .int l5)]) [2, 3, 4, 5, 6, 7] rfl ?_
            exact gt_f_law_J2389 hl ok tab fin hRm hk hKE hR  hE
          · refine zg_iconst (v := 0) ok dL_law_2387 (by decide) ?_
            exact zg_zret ok fin dL_law_2388 ⟨(by omega), (by omega)⟩ rfl hE
  · refine zg_iconst (v := 0) ok dL_law_2350 (by decide) ?_
    exact zg_zret ok fin dL_law_2351 ⟨(by omega), (by omega)⟩ rfl hE
set_option maxHeartbeats 8000000 in
theorem gt_f_law_J2466 {Xc : zw_X} {Q : Int32 → zw_H → Prop} {X : String → Nat → zw_H → Prop} (hl : (zw_l Xc).stackTraces = false) (ok : zw_ok Xc cL_law "MultipoleLineLaw" "law" 9) (tab : zw_tab Xc []) (fin : zw_fin Xc (Option.some Jvm.ClassFile.FieldType.boolean) (zq_I Q) X 1200144 5496826) (hRm : zw_rm Xc = rm_law) {kb sb KE SE : Nat} (hk : kb + 1139 ≤ KE ∧ sb + 73158 ≤ SE) (hKE : KE ≤ 1200144 ∧ SE ≤ 5496826) {R : Int32 → zw_H → Prop} {l0 : Option Nat} {l1 : Option Nat} {l2 : Option Nat} {l3 : Option Nat} {l4 : Option Nat} (hR : ∀ (l5 : Int32) (h : zw_H), R l5 h → zw_G Xc (kb + 1139) (sb + 73158) 9 h 28 [(0, va_rf l0), (1, va_rf l1), (2, va_rf l2), (3, va_rf l3), (4, va_rf l4), (5, .int l5)] [])  {l5 : Int32}  {h : zw_H} (hE : f_law_J2466 (zw_Zf Xc).2.2.2 Q X R l0 l1 l2 l3 l4 l5 h) : zw_G Xc (kb + 2) (sb + 12) 9 h 2466 [(0, va_rf l0), (1, va_rf l1), (2, va_rf l2), (3, va_rf l3), (4, va_rf l4), (5, .int l5)] [] := by
  unfold f_law_J2466 at hE
  refine zg_goto (tgt := 4220) ok dL_law_2466 (by decide) ?_
  refine zg_wide (kc2 := kb + 1139) (ks2 := sb + 73158) (by omega) (by omega) ?_
  exact gt_f_law_J4220 hl ok tab fin hRm hk hKE hR  hE
set_option maxHeartbeats 8000000 in
theorem gt_f_law_J2392 {Xc : zw_X} {Q : Int32 → zw_H → Prop} {X : String → Nat → zw_H → Prop} (hl : (zw_l Xc).stackTraces = false) (ok : zw_ok Xc cL_law "MultipoleLineLaw" "law" 9) (tab : zw_tab Xc []) (fin : zw_fin Xc (Option.some Jvm.ClassFile.FieldType.boolean) (zq_I Q) X 1200144 5496826) (hRm : zw_rm Xc = rm_law) {kb sb KE SE : Nat} (hk : kb + 1139 ≤ KE ∧ sb + 73158 ≤ SE) (hKE : KE ≤ 1200144 ∧ SE ≤ 5496826) {R : Int32 → zw_H → Prop} {l0 : Option Nat} {l1 : Option Nat} {l2 : Option Nat} {l3 : Option Nat} {l4 : Option Nat} (hR : ∀ (l5 : Int32) (h : zw_H), R l5 h → zw_G Xc (kb + 1139) (sb + 73158) 9 h 28 [(0, va_rf l0), (1, va_rf l1), (2, va_rf l2), (3, va_rf l3), (4, va_rf l4), (5, .int l5)] [])  {l5 : Int32}  {h : zw_H} (hE : f_law_J2392 (zw_Zf Xc).2.2.2 Q X R l0 l1 l2 l3 l4 l5 h) : zw_G Xc kb sb 9 h 2392 [(0, va_rf l0), (1, va_rf l1), (2, va_rf l2), (3, va_rf l3), (4, va_rf l4), (5, .int l5)] [] := by
  unfold f_law_J2392 at hE
  refine zg_aload_n ok dL_law_2392 rfl 1 rfl ?_
  refine zg_aload_n ok dL_law_2393 rfl 0 rfl ?_
  refine zg_iload ok dL_law_2394 5 rfl ?_
  refine zg_iconst (v := 1) ok dL_law_2396 (by decide) ?_
  refine zg_iadd ok dL_law_2397 ?_
  refine zg_iald ok dL_law_2398 hE (fun v241 hE => ?_)
  refine zg_aload ok dL_law_2399 4 rfl ?_
  refine zg_callSX (vs := [zA l1, zI v241, zA l4]) (rest := []) (rm := rm_X0_pullFar) ok hRm lk_X0_328 dL_law_2401 hE (fun hE => mt_X0_pullFar hl hE) rfl (Nat.le_of_ble_eq_true rfl) ⟨⟨Nat.le_of_ble_eq_true rfl, Nat.le_of_ble_eq_true rfl⟩, (by show kb + 2 ≤ 1200144; omega), (by show sb + 12 ≤ 5496826; omega)⟩ (zg_retI (fun v242 h102 hE => ?_)) (zg_xok ok tab fin ⟨(by show kb + 2 ≤ 1200144; omega), (by show sb + 12 ≤ 5496826; omega)⟩)
  refine zg_cost (kc2 := kb + 2) (ks2 := sb + 12) ⟨(by show kb + 2 = kb + 2; omega), (by show sb + 12 = sb + 12; omega)⟩ ?_
  refine zg_istore (L' := [(6, .int v242), (0, va_rf l0), (1, va_rf l1), (2, va_rf l2), (3, va_rf l3), (4, va_rf l4), (5, .int l5)]) ok dL_law_2404 (by decide) rfl ?_
  refine zg_aload_n ok dL_law_2406 rfl 3 rfl ?_
  refine zg_aload_n ok dL_law_2407 rfl 1 rfl ?_
  refine zg_iload ok dL_law_2408 6 rfl ?_
  refine zg_iconst (v := 1) ok dL_law_2410 (by decide) ?_
  refine zg_iadd ok dL_law_2411 ?_
  refine zg_iald ok dL_law_2412 hE (fun v243 hE => ?_)
  refine zg_callV (vs := [zI v243]) (rest := []) (rm := rm_X2_pullFar) ok hRm lk_X0_330 dL_law_2413 hE (fun hE => mt_X2_pullFar hl hE) rfl (Nat.le_of_ble_eq_true rfl) ⟨⟨Nat.le_of_ble_eq_true rfl, Nat.le_of_ble_eq_true rfl⟩, (by show kb + 2 + 0 ≤ 1200144; omega), (by show sb + 12 + 0 ≤ 5496826; omega)⟩ (zg_retD (fun v244 h103 hE => ?_)) (zg_xok ok tab fin ⟨(by show kb + 2 + 0 ≤ 1200144; omega), (by show sb + 12 + 0 ≤ 5496826; omega)⟩)
  refine zg_cost (kc2 := kb + 2) (ks2 := sb + 12) ⟨(by show kb + 2 + 0 = kb + 2; omega), (by show sb + 12 + 0 = sb + 12; omega)⟩ ?_
  refine zg_dstore (L' := [(7, .double v244), (6, .int v242), (0, va_rf l0), (1, va_rf l1), (2, va_rf l2), (3, va_rf l3), (4, va_rf l4), (5, .int l5)]) ok dL_law_2416 (by decide) rfl ?_
  refine zg_aload_n ok dL_law_2418 rfl 4 rfl ?_
  refine zg_callV (vs := []) (rest := []) (rm := rm_X2_thrown) ok hRm lk_X0_223 dL_law_2419 hE (fun hE => mt_X2_thrown hl hE) rfl (Nat.le_of_ble_eq_true rfl) ⟨⟨Nat.le_of_ble_eq_true rfl, Nat.le_of_ble_eq_true rfl⟩, (by show kb + 2 + 0 ≤ 1200144; omega), (by show sb + 12 + 0 ≤ 5496826; omega)⟩ (zg_retI (fun v245 h104 hE => ?_)) (zg_xok ok tab fin ⟨(by show kb + 2 + 0 ≤ 1200144; omega), (by show sb + 12 + 0 ≤ 5496826; omega)⟩)
  refine zg_cost (kc2 := kb + 2) (ks2 := sb + 12) ⟨(by show kb + 2 + 0 = kb + 2; omega), (by show sb + 12 + 0 = sb + 12; omega)⟩ ?_
  refine zg_iload ok dL_law_2422 1 rfl ?_
  refine zg_icmp_eq (tgt := 2429) ok dL_law_2424 (by decide) hE (fun hE => ?_) (fun hE => ?_)
  · refine zg_iload ok dL_law_2429 1 rfl ?_
    refine zg_if_ne (tgt := 2466) ok dL_law_2431 (by decide) hE (fun hE => ?_) (fun hE => ?_)
    · refine zg_sub (L' := [(0, va_rf l0), (1, va_rf l1), (2, va_rf l2), (3, va_rf l3), (4, va_rf l4), (5, .int l5)]) [2, 3, 4, 5, 6, 7] rfl ?_
      exact gt_f_law_J2466 hl ok tab fin hRm hk hKE hR  hE
    · refine zg_aload ok dL_law_2434 6 rfl ?_
      refine zg_iconst (v := 0) ok dL_law_2436 (by decide) ?_
      refine zg_dald ok dL_law_2437 hE (fun v246 hE => ?_)
      refine zg_dload ok dL_law_2438 0 rfl ?_
      refine zg_dcmp ok dL_law_2440 ?_
      refine zg_if_eq (tgt := 2466) ok dL_law_2441 (by decide) hE (fun hE => ?_) (fun hE => ?_)
      · refine zg_sub (L' := [(0, va_rf l0), (1, va_rf l1), (2, va_rf l2), (3, va_rf l3), (4, va_rf l4), (5, .int l5)]) [2, 3, 4, 5, 6, 7] rfl ?_
        exact gt_f_law_J2466 hl ok tab fin hRm hk hKE hR  hE
      · refine zg_aload ok dL_law_2444 6 rfl ?_
        refine zg_iconst (v := 0) ok dL_law_2446 (by decide) ?_
        refine zg_dald ok dL_law_2447 hE (fun v247 hE => ?_)
        refine zg_aload ok dL_law_2448 6 rfl ?_
        refine zg_iconst (v := 0) ok dL_law_2450 (by decide) ?_
        refine zg_dald ok dL_law_2451 hE (fun v248 hE => ?_)
        refine zg_dcmp ok dL_law_2452 ?_
        refine zg_if_eq (tgt := 2464) ok dL_law_2453 (by decide) hE (fun hE => ?_) (fun hE => ?_)
        · refine zg_iconst (v := 0) ok dL_law_2464 (by decide) ?_
          exact zg_zret ok fin dL_law_2465 ⟨(by omega), (by omega)⟩ rfl hE
        · refine zg_dload ok dL_law_2456 0 rfl ?_
          refine zg_dload ok dL_law_2458 0 rfl ?_
          refine zg_dcmp ok dL_law_2460 ?_
          refine zg_if_ne (tgt := 2466) ok dL_law_2461 (by decide) hE (fun hE => ?_) (fun hE => ?_)
          · refine zg_sub (L' := [(0, va_rf l0), (1, va_rf l1), (2, va_rf l2), (3, va_rf l3), (4, va_rf l4), (5, .int l5)]) [2, 3, 4, 5, 6, 7] rfl ?_
            exact gt_f_law_J2466 hl ok tab fin hRm hk hKE hR  hE
          · refine zg_iconst (v := 0) ok dL_law_2464 (by decide) ?_
            exact zg_zret ok fin dL_law_2465 ⟨(by omega), (by omega)⟩ rfl hE
  · refine zg_iconst (v := 0) ok dL_law_2427 (by decide) ?_
    exact zg_zret ok fin dL_law_2428 ⟨(by omega), (by omega)⟩ rfl hE
set_option maxHeartbeats 8000000 in
theorem gt_f_law_J2543 {Xc : zw_X} {Q : Int32 → zw_H → Prop} {X : String → Nat → zw_H → Prop} (hl : (zw_l Xc).stackTraces = false) (ok : zw_ok Xc cL_law "MultipoleLineLaw" "law" 9) (tab : zw_tab Xc []) (fin : zw_fin Xc (Option.some Jvm.ClassFile.FieldType.boolean) (zq_I Q) X 1200144 5496826) (hRm : zw_rm Xc = rm_law) {kb sb KE SE : Nat} (hk : kb + 1139 ≤ KE ∧ sb + 73158 ≤ SE) (hKE : KE ≤ 1200144 ∧ SE ≤ 5496826) {R : Int32 → zw_H → Prop} {l0 : Option Nat} {l1 : Option Nat} {l2 : Option Nat} {l3 : Option Nat} {l4 : Option Nat} (hR : ∀ (l5 : Int32) (h : zw_H), R l5 h → zw_G Xc (kb + 1139) (sb + 73158) 9 h 28 [(0, va_rf l0), (1, va_rf l1), (2, va_rf l2), (3, va_rf l3), (4, va_rf l4), (5, .int l5)] [])  {l5 : Int32}  {h : zw_H} (hE : f_law_J2543 (zw_Zf Xc).2.2.2 Q X R l0 l1 l2 l3 l4 l5 h) : zw_G Xc (kb + 2) (sb + 12) 9 h 2543 [(0, va_rf l0), (1, va_rf l1), (2, va_rf l2), (3, va_rf l3), (4, va_rf l4), (5, .int l5)] [] := by
  unfold f_law_J2543 at hE
  refine zg_goto (tgt := 4220) ok dL_law_2543 (by decide) ?_
  refine zg_wide (kc2 := kb + 1139) (ks2 := sb + 73158) (by omega) (by omega) ?_
  exact gt_f_law_J4220 hl ok tab fin hRm hk hKE hR  hE
set_option maxHeartbeats 8000000 in
theorem gt_f_law_J2469 {Xc : zw_X} {Q : Int32 → zw_H → Prop} {X : String → Nat → zw_H → Prop} (hl : (zw_l Xc).stackTraces = false) (ok : zw_ok Xc cL_law "MultipoleLineLaw" "law" 9) (tab : zw_tab Xc []) (fin : zw_fin Xc (Option.some Jvm.ClassFile.FieldType.boolean) (zq_I Q) X 1200144 5496826) (hRm : zw_rm Xc = rm_law) {kb sb KE SE : Nat} (hk : kb + 1139 ≤ KE ∧ sb + 73158 ≤ SE) (hKE : KE ≤ 1200144 ∧ SE ≤ 5496826) {R : Int32 → zw_H → Prop} {l0 : Option Nat} {l1 : Option Nat} {l2 : Option Nat} {l3 : Option Nat} {l4 : Option Nat} (hR : ∀ (l5 : Int32) (h : zw_H), R l5 h → zw_G Xc (kb + 1139) (sb + 73158) 9 h 28 [(0, va_rf l0), (1, va_rf l1), (2, va_rf l2), (3, va_rf l3), (4, va_rf l4), (5, .int l5)] [])  {l5 : Int32}  {h : zw_H} (hE : f_law_J2469 (zw_Zf Xc).2.2.2 Q X R l0 l1 l2 l3 l4 l5 h) : zw_G Xc kb sb 9 h 2469 [(0, va_rf l0), (1, va_rf l1), (2, va_rf l2), (3, va_rf l3), (4, va_rf l4), (5, .int l5)] [] := by
  unfold f_law_J2469 at hE
  refine zg_aload_n ok dL_law_2469 rfl 1 rfl ?_
  refine zg_aload_n ok dL_law_2470 rfl 0 rfl ?_
  refine zg_iload ok dL_law_2471 5 rfl ?_
  refine zg_iconst (v := 1) ok dL_law_2473 (by decide) ?_
  refine zg_iadd ok dL_law_2474 ?_
  refine zg_iald ok dL_law_2475 hE (fun v249 hE => ?_)
  refine zg_aload ok dL_law_2476 4 rfl ?_
  refine zg_callSX (vs := [zA l1, zI v249, zA l4]) (rest := []) (rm := rm_X0_pull) ok hRm lk_X0_331 dL_law_2478 hE (fun hE => mt_X0_pull hl hE) rfl (Nat.le_of_ble_eq_true rfl) ⟨⟨Nat.le_of_ble_eq_true rfl, Nat.le_of_ble_eq_true rfl⟩, (by show kb + 2 ≤ 1200144; omega), (by show sb + 12 ≤ 5496826; omega)⟩ (zg_retI (fun v250 h105 hE => ?_)) (zg_xok ok tab fin ⟨(by show kb + 2 ≤ 1200144; omega), (by show sb + 12 ≤ 5496826; omega)⟩)
  refine zg_cost (kc2 := kb + 2) (ks2 := sb + 12) ⟨(by show kb + 2 = kb + 2; omega), (by show sb + 12 = sb + 12; omega)⟩ ?_
  refine zg_istore (L' := [(6, .int v250), (0, va_rf l0), (1, va_rf l1), (2, va_rf l2), (3, va_rf l3), (4, va_rf l4), (5, .int l5)]) ok dL_law_2481 (by decide) rfl ?_
  refine zg_aload_n ok dL_law_2483 rfl 3 rfl ?_
  refine zg_aload_n ok dL_law_2484 rfl 1 rfl ?_
  refine zg_iload ok dL_law_2485 6 rfl ?_
  refine zg_iconst (v := 1) ok dL_law_2487 (by decide) ?_
  refine zg_iadd ok dL_law_2488 ?_
  refine zg_iald ok dL_law_2489 hE (fun v251 hE => ?_)
  refine zg_callV (vs := [zI v251]) (rest := []) (rm := rm_X2_pull) ok hRm lk_X0_333 dL_law_2490 hE (fun hE => mt_X2_pull hl hE) rfl (Nat.le_of_ble_eq_true rfl) ⟨⟨Nat.le_of_ble_eq_true rfl, Nat.le_of_ble_eq_true rfl⟩, (by show kb + 2 + 0 ≤ 1200144; omega), (by show sb + 12 + 0 ≤ 5496826; omega)⟩ (zg_retD (fun v252 h106 hE => ?_)) (zg_xok ok tab fin ⟨(by show kb + 2 + 0 ≤ 1200144; omega), (by show sb + 12 + 0 ≤ 5496826; omega)⟩)
  refine zg_cost (kc2 := kb + 2) (ks2 := sb + 12) ⟨(by show kb + 2 + 0 = kb + 2; omega), (by show sb + 12 + 0 = sb + 12; omega)⟩ ?_
  refine zg_dstore (L' := [(7, .double v252), (6, .int v250), (0, va_rf l0), (1, va_rf l1), (2, va_rf l2), (3, va_rf l3), (4, va_rf l4), (5, .int l5)]) ok dL_law_2493 (by decide) rfl ?_
  refine zg_aload_n ok dL_law_2495 rfl 4 rfl ?_
  refine zg_callV (vs := []) (rest := []) (rm := rm_X2_thrown) ok hRm lk_X0_223 dL_law_2496 hE (fun hE => mt_X2_thrown hl hE) rfl (Nat.le_of_ble_eq_true rfl) ⟨⟨Nat.le_of_ble_eq_true rfl, Nat.le_of_ble_eq_true rfl⟩, (by show kb + 2 + 0 ≤ 1200144; omega), (by show sb + 12 + 0 ≤ 5496826; omega)⟩ (zg_retI (fun v253 h107 hE => ?_)) (zg_xok ok tab fin ⟨(by show kb + 2 + 0 ≤ 1200144; omega), (by show sb + 12 + 0 ≤ 5496826; omega)⟩)
  refine zg_cost (kc2 := kb + 2) (ks2 := sb + 12) ⟨(by show kb + 2 + 0 = kb + 2; omega), (by show sb + 12 + 0 = sb + 12; omega)⟩ ?_
  refine zg_iload ok dL_law_2499 1 rfl ?_
  refine zg_icmp_eq (tgt := 2506) ok dL_law_2501 (by decide) hE (fun hE => ?_) (fun hE => ?_)
  · refine zg_iload ok dL_law_2506 1 rfl ?_
    refine zg_if_ne (tgt := 2543) ok dL_law_2508 (by decide) hE (fun hE => ?_) (fun hE => ?_)
    · refine zg_sub (L' := [(0, va_rf l0), (1, va_rf l1), (2, va_rf l2), (3, va_rf l3), (4, va_rf l4), (5, .int l5)]) [2, 3, 4, 5, 6, 7] rfl ?_
      exact gt_f_law_J2543 hl ok tab fin hRm hk hKE hR  hE
    · refine zg_aload ok dL_law_2511 6 rfl ?_
      refine zg_iconst (v := 0) ok dL_law_2513 (by decide) ?_
      refine zg_dald ok dL_law_2514 hE (fun v254 hE => ?_)
      refine zg_dload ok dL_law_2515 0 rfl ?_
      refine zg_dcmp ok dL_law_2517 ?_
      refine zg_if_eq (tgt := 2543) ok dL_law_2518 (by decide) hE (fun hE => ?_) (fun hE => ?_)
      · refine zg_sub (L' := [(0, va_rf l0), (1, va_rf l1), (2, va_rf l2), (3, va_rf l3), (4, va_rf l4), (5, .int l5)]) [2, 3, 4, 5, 6, 7] rfl ?_
        exact gt_f_law_J2543 hl ok tab fin hRm hk hKE hR  hE
      · refine zg_aload ok dL_law_2521 6 rfl ?_
        refine zg_iconst (v := 0) ok dL_law_2523 (by decide) ?_
        refine zg_dald ok dL_law_2524 hE (fun v255 hE => ?_)
        refine zg_aload ok dL_law_2525 6 rfl ?_
        refine zg_iconst (v := 0) ok dL_law_2527 (by decide) ?_
        refine zg_dald ok dL_law_2528 hE (fun v256 hE => ?_)
        refine zg_dcmp ok dL_law_2529 ?_
        refine zg_if_eq (tgt := 2541) ok dL_law_2530 (by decide) hE (fun hE => ?_) (fun hE => ?_)
        · refine zg_iconst (v := 0) ok dL_law_2541 (by decide) ?_
          exact zg_zret ok fin dL_law_2542 ⟨(by omega), (by omega)⟩ rfl hE
        · refine zg_dload ok dL_law_2533 0 rfl ?_
          refine zg_dload ok dL_law_2535 0 rfl ?_
          refine zg_dcmp ok dL_law_2537 ?_
          refine zg_if_ne (tgt := 2543) ok dL_law_2538 (by decide) hE (fun hE => ?_) (fun hE => ?_)
          · refine zg_sub (L' := [(0, va_rf l0), (1, va_rf l1), (2, va_rf l2), (3, va_rf l3), (4, va_rf l4), (5, .int l5)]) [2, 3, 4, 5, 6, 7] rfl ?_
            exact gt_f_law_J2543 hl ok tab fin hRm hk hKE hR  hE
          · refine zg_iconst (v := 0) ok dL_law_2541 (by decide) ?_
            exact zg_zret ok fin dL_law_2542 ⟨(by omega), (by omega)⟩ rfl hE
  · refine zg_iconst (v := 0) ok dL_law_2504 (by decide) ?_
    exact zg_zret ok fin dL_law_2505 ⟨(by omega), (by omega)⟩ rfl hE
set_option maxHeartbeats 8000000 in
theorem gt_f_law_J2599 {Xc : zw_X} {Q : Int32 → zw_H → Prop} {X : String → Nat → zw_H → Prop} (hl : (zw_l Xc).stackTraces = false) (ok : zw_ok Xc cL_law "MultipoleLineLaw" "law" 9) (tab : zw_tab Xc []) (fin : zw_fin Xc (Option.some Jvm.ClassFile.FieldType.boolean) (zq_I Q) X 1200144 5496826) (hRm : zw_rm Xc = rm_law) {kb sb KE SE : Nat} (hk : kb + 1139 ≤ KE ∧ sb + 73158 ≤ SE) (hKE : KE ≤ 1200144 ∧ SE ≤ 5496826) {R : Int32 → zw_H → Prop} {l0 : Option Nat} {l1 : Option Nat} {l2 : Option Nat} {l3 : Option Nat} {l4 : Option Nat} (hR : ∀ (l5 : Int32) (h : zw_H), R l5 h → zw_G Xc (kb + 1139) (sb + 73158) 9 h 28 [(0, va_rf l0), (1, va_rf l1), (2, va_rf l2), (3, va_rf l3), (4, va_rf l4), (5, .int l5)] [])  {l5 : Int32}  {h : zw_H} (hE : f_law_J2599 (zw_Zf Xc).2.2.2 Q X R l0 l1 l2 l3 l4 l5 h) : zw_G Xc (kb + 2) (sb + 12) 9 h 2599 [(0, va_rf l0), (1, va_rf l1), (2, va_rf l2), (3, va_rf l3), (4, va_rf l4), (5, .int l5)] [] := by
  unfold f_law_J2599 at hE
  refine zg_goto (tgt := 4220) ok dL_law_2599 (by decide) ?_
  refine zg_wide (kc2 := kb + 1139) (ks2 := sb + 73158) (by omega) (by omega) ?_
  exact gt_f_law_J4220 hl ok tab fin hRm hk hKE hR  hE
set_option maxHeartbeats 8000000 in
theorem gt_f_law_J2546 {Xc : zw_X} {Q : Int32 → zw_H → Prop} {X : String → Nat → zw_H → Prop} (hl : (zw_l Xc).stackTraces = false) (ok : zw_ok Xc cL_law "MultipoleLineLaw" "law" 9) (tab : zw_tab Xc []) (fin : zw_fin Xc (Option.some Jvm.ClassFile.FieldType.boolean) (zq_I Q) X 1200144 5496826) (hRm : zw_rm Xc = rm_law) {kb sb KE SE : Nat} (hk : kb + 1139 ≤ KE ∧ sb + 73158 ≤ SE) (hKE : KE ≤ 1200144 ∧ SE ≤ 5496826) {R : Int32 → zw_H → Prop} {l0 : Option Nat} {l1 : Option Nat} {l2 : Option Nat} {l3 : Option Nat} {l4 : Option Nat} (hR : ∀ (l5 : Int32) (h : zw_H), R l5 h → zw_G Xc (kb + 1139) (sb + 73158) 9 h 28 [(0, va_rf l0), (1, va_rf l1), (2, va_rf l2), (3, va_rf l3), (4, va_rf l4), (5, .int l5)] [])  {l5 : Int32}  {h : zw_H} (hE : f_law_J2546 (zw_Zf Xc).2.2.2 Q X R l0 l1 l2 l3 l4 l5 h) : zw_G Xc kb sb 9 h 2546 [(0, va_rf l0), (1, va_rf l1), (2, va_rf l2), (3, va_rf l3), (4, va_rf l4), (5, .int l5)] [] := by
  unfold f_law_J2546 at hE
  refine zg_aload_n ok dL_law_2546 rfl 1 rfl ?_
  refine zg_aload_n ok dL_law_2547 rfl 0 rfl ?_
  refine zg_iload ok dL_law_2548 5 rfl ?_
  refine zg_iconst (v := 1) ok dL_law_2550 (by decide) ?_
  refine zg_iadd ok dL_law_2551 ?_
  refine zg_iald ok dL_law_2552 hE (fun v257 hE => ?_)
  refine zg_aload_n ok dL_law_2553 rfl 3 rfl ?_
  refine zg_callSX (vs := [zA l1, zI v257, zA l3]) (rest := []) (rm := rm_X0_willMove) ok hRm lk_X0_334 dL_law_2554 hE (fun hE => mt_X0_willMove hl hE) rfl (Nat.le_of_ble_eq_true rfl) ⟨⟨Nat.le_of_ble_eq_true rfl, Nat.le_of_ble_eq_true rfl⟩, (by show kb + 2 ≤ 1200144; omega), (by show sb + 12 ≤ 5496826; omega)⟩ (zg_retI (fun v258 h108 hE => ?_)) (zg_xok ok tab fin ⟨(by show kb + 2 ≤ 1200144; omega), (by show sb + 12 ≤ 5496826; omega)⟩)
  refine zg_cost (kc2 := kb + 2) (ks2 := sb + 12) ⟨(by show kb + 2 = kb + 2; omega), (by show sb + 12 = sb + 12; omega)⟩ ?_
  refine zg_istore (L' := [(6, .int v258), (0, va_rf l0), (1, va_rf l1), (2, va_rf l2), (3, va_rf l3), (4, va_rf l4), (5, .int l5)]) ok dL_law_2557 (by decide) rfl ?_
  refine zg_aload_n ok dL_law_2559 rfl 3 rfl ?_
  refine zg_aload_n ok dL_law_2560 rfl 1 rfl ?_
  refine zg_iload ok dL_law_2561 6 rfl ?_
  refine zg_iconst (v := 1) ok dL_law_2563 (by decide) ?_
  refine zg_iadd ok dL_law_2564 ?_
  refine zg_iald ok dL_law_2565 hE (fun v259 hE => ?_)
  refine zg_callV (vs := [zI v259]) (rest := []) (rm := rm_X2_willMove) ok hRm lk_X0_336 dL_law_2566 hE (fun hE => mt_X2_willMove hl hE) rfl (Nat.le_of_ble_eq_true rfl) ⟨⟨Nat.le_of_ble_eq_true rfl, Nat.le_of_ble_eq_true rfl⟩, (by show kb + 2 + 0 ≤ 1200144; omega), (by show sb + 12 + 0 ≤ 5496826; omega)⟩ (zg_retI (fun v260 h109 hE => ?_)) (zg_xok ok tab fin ⟨(by show kb + 2 + 0 ≤ 1200144; omega), (by show sb + 12 + 0 ≤ 5496826; omega)⟩)
  refine zg_cost (kc2 := kb + 2) (ks2 := sb + 12) ⟨(by show kb + 2 + 0 = kb + 2; omega), (by show sb + 12 + 0 = sb + 12; omega)⟩ ?_
  refine zg_istore (L' := [(7, .int v260), (6, .int v258), (0, va_rf l0), (1, va_rf l1), (2, va_rf l2), (3, va_rf l3), (4, va_rf l4), (5, .int l5)]) ok dL_law_2569 (by decide) rfl ?_
  refine zg_aload_n ok dL_law_2571 rfl 4 rfl ?_
  refine zg_callV (vs := []) (rest := []) (rm := rm_X2_thrown) ok hRm lk_X0_223 dL_law_2572 hE (fun hE => mt_X2_thrown hl hE) rfl (Nat.le_of_ble_eq_true rfl) ⟨⟨Nat.le_of_ble_eq_true rfl, Nat.le_of_ble_eq_true rfl⟩, (by show kb + 2 + 0 ≤ 1200144; omega), (by show sb + 12 + 0 ≤ 5496826; omega)⟩ (zg_retI (fun v261 h110 hE => ?_)) (zg_xok ok tab fin ⟨(by show kb + 2 + 0 ≤ 1200144; omega), (by show sb + 12 + 0 ≤ 5496826; omega)⟩)
  refine zg_cost (kc2 := kb + 2) (ks2 := sb + 12) ⟨(by show kb + 2 + 0 = kb + 2; omega), (by show sb + 12 + 0 = sb + 12; omega)⟩ ?_
  refine zg_iload ok dL_law_2575 1 rfl ?_
  refine zg_icmp_eq (tgt := 2582) ok dL_law_2577 (by decide) hE (fun hE => ?_) (fun hE => ?_)
  · refine zg_iload ok dL_law_2582 1 rfl ?_
    refine zg_if_ne (tgt := 2599) ok dL_law_2584 (by decide) hE (fun hE => ?_) (fun hE => ?_)
    · refine zg_sub (L' := [(0, va_rf l0), (1, va_rf l1), (2, va_rf l2), (3, va_rf l3), (4, va_rf l4), (5, .int l5)]) [2, 3, 4, 5, 6, 7] rfl ?_
      exact gt_f_law_J2599 hl ok tab fin hRm hk hKE hR  hE
    · refine zg_aload_n ok dL_law_2587 rfl 5 rfl ?_
      refine zg_iconst (v := 0) ok dL_law_2588 (by decide) ?_
      refine zg_lald ok dL_law_2589 hE (fun v262 hE => ?_)
      refine zg_iload ok dL_law_2590 0 rfl ?_
      refine zg_i2l ok dL_law_2592 ?_
      refine zg_lcmp ok dL_law_2593 ?_
      refine zg_if_eq (tgt := 2599) ok dL_law_2594 (by decide) hE (fun hE => ?_) (fun hE => ?_)
      · refine zg_sub (L' := [(0, va_rf l0), (1, va_rf l1), (2, va_rf l2), (3, va_rf l3), (4, va_rf l4), (5, .int l5)]) [2, 3, 4, 5, 6, 7] rfl ?_
        exact gt_f_law_J2599 hl ok tab fin hRm hk hKE hR  hE
      · refine zg_iconst (v := 0) ok dL_law_2597 (by decide) ?_
        exact zg_zret ok fin dL_law_2598 ⟨(by omega), (by omega)⟩ rfl hE
  · refine zg_iconst (v := 0) ok dL_law_2580 (by decide) ?_
    exact zg_zret ok fin dL_law_2581 ⟨(by omega), (by omega)⟩ rfl hE
set_option maxHeartbeats 8000000 in
theorem gt_f_law_J2667 {Xc : zw_X} {Q : Int32 → zw_H → Prop} {X : String → Nat → zw_H → Prop} (hl : (zw_l Xc).stackTraces = false) (ok : zw_ok Xc cL_law "MultipoleLineLaw" "law" 9) (tab : zw_tab Xc []) (fin : zw_fin Xc (Option.some Jvm.ClassFile.FieldType.boolean) (zq_I Q) X 1200144 5496826) (hRm : zw_rm Xc = rm_law) {kb sb KE SE : Nat} (hk : kb + 1139 ≤ KE ∧ sb + 73158 ≤ SE) (hKE : KE ≤ 1200144 ∧ SE ≤ 5496826) {R : Int32 → zw_H → Prop} {l0 : Option Nat} {l1 : Option Nat} {l2 : Option Nat} {l3 : Option Nat} {l4 : Option Nat} (hR : ∀ (l5 : Int32) (h : zw_H), R l5 h → zw_G Xc (kb + 1139) (sb + 73158) 9 h 28 [(0, va_rf l0), (1, va_rf l1), (2, va_rf l2), (3, va_rf l3), (4, va_rf l4), (5, .int l5)] [])  {l5 : Int32}  {h : zw_H} (hE : f_law_J2667 (zw_Zf Xc).2.2.2 Q X R l0 l1 l2 l3 l4 l5 h) : zw_G Xc (kb + 296) (sb + 2375) 9 h 2667 [(0, va_rf l0), (1, va_rf l1), (2, va_rf l2), (3, va_rf l3), (4, va_rf l4), (5, .int l5)] [] := by
  unfold f_law_J2667 at hE
  refine zg_goto (tgt := 4220) ok dL_law_2667 (by decide) ?_
  refine zg_wide (kc2 := kb + 1139) (ks2 := sb + 73158) (by omega) (by omega) ?_
  exact gt_f_law_J4220 hl ok tab fin hRm hk hKE hR  hE
set_option maxHeartbeats 8000000 in
theorem gt_f_law_J2602 {Xc : zw_X} {Q : Int32 → zw_H → Prop} {X : String → Nat → zw_H → Prop} (hl : (zw_l Xc).stackTraces = false) (ok : zw_ok Xc cL_law "MultipoleLineLaw" "law" 9) (tab : zw_tab Xc []) (fin : zw_fin Xc (Option.some Jvm.ClassFile.FieldType.boolean) (zq_I Q) X 1200144 5496826) (hRm : zw_rm Xc = rm_law) {kb sb KE SE : Nat} (hk : kb + 1139 ≤ KE ∧ sb + 73158 ≤ SE) (hKE : KE ≤ 1200144 ∧ SE ≤ 5496826) {R : Int32 → zw_H → Prop} {l0 : Option Nat} {l1 : Option Nat} {l2 : Option Nat} {l3 : Option Nat} {l4 : Option Nat} (hR : ∀ (l5 : Int32) (h : zw_H), R l5 h → zw_G Xc (kb + 1139) (sb + 73158) 9 h 28 [(0, va_rf l0), (1, va_rf l1), (2, va_rf l2), (3, va_rf l3), (4, va_rf l4), (5, .int l5)] [])  {l5 : Int32}  {h : zw_H} (hE : f_law_J2602 (zw_Zf Xc).2.2.2 Q X R l0 l1 l2 l3 l4 l5 h) : zw_G Xc kb sb 9 h 2602 [(0, va_rf l0), (1, va_rf l1), (2, va_rf l2), (3, va_rf l3), (4, va_rf l4), (5, .int l5)] [] := by
  unfold f_law_J2602 at hE
  refine zg_aload_n ok dL_law_2602 rfl 1 rfl ?_
  refine zg_aload_n ok dL_law_2603 rfl 0 rfl ?_
  refine zg_iload ok dL_law_2604 5 rfl ?_
  refine zg_iconst (v := 1) ok dL_law_2606 (by decide) ?_
  refine zg_iadd ok dL_law_2607 ?_
  refine zg_iald ok dL_law_2608 hE (fun v263 hE => ?_)
  refine zg_aload_n ok dL_law_2609 rfl 0 rfl ?_
  refine zg_iload ok dL_law_2610 5 rfl ?_
  refine zg_iconst (v := 2) ok dL_law_2612 (by decide) ?_
  refine zg_iadd ok dL_law_2613 ?_
  refine zg_iald ok dL_law_2614 hE (fun v264 hE => ?_)
  refine zg_aload_n ok dL_law_2615 rfl 3 rfl ?_
  refine zg_callSX (vs := [zA l1, zI v263, zI v264, zA l3]) (rest := []) (rm := rm_X0_placeIn) ok hRm lk_X0_337 dL_law_2616 hE (fun hE => mt_X0_placeIn hl hE) rfl (Nat.le_of_ble_eq_true rfl) ⟨⟨Nat.le_of_ble_eq_true rfl, Nat.le_of_ble_eq_true rfl⟩, (by show kb + 296 ≤ 1200144; omega), (by show sb + 2375 ≤ 5496826; omega)⟩ (zg_retI (fun v265 h111 hE => ?_)) (zg_xok ok tab fin ⟨(by show kb + 296 ≤ 1200144; omega), (by show sb + 2375 ≤ 5496826; omega)⟩)
  refine zg_cost (kc2 := kb + 296) (ks2 := sb + 2375) ⟨(by show kb + 296 = kb + 296; omega), (by show sb + 2375 = sb + 2375; omega)⟩ ?_
  refine zg_istore (L' := [(6, .int v265), (0, va_rf l0), (1, va_rf l1), (2, va_rf l2), (3, va_rf l3), (4, va_rf l4), (5, .int l5)]) ok dL_law_2619 (by decide) rfl ?_
  refine zg_aload_n ok dL_law_2621 rfl 3 rfl ?_
  refine zg_aload_n ok dL_law_2622 rfl 1 rfl ?_
  refine zg_iload ok dL_law_2623 6 rfl ?_
  refine zg_iconst (v := 1) ok dL_law_2625 (by decide) ?_
  refine zg_iadd ok dL_law_2626 ?_
  refine zg_iald ok dL_law_2627 hE (fun v266 hE => ?_)
  refine zg_aload_n ok dL_law_2628 rfl 1 rfl ?_
  refine zg_iload ok dL_law_2629 6 rfl ?_
  refine zg_iconst (v := 2) ok dL_law_2631 (by decide) ?_
  refine zg_iadd ok dL_law_2632 ?_
  refine zg_iald ok dL_law_2633 hE (fun v267 hE => ?_)
  refine zg_callV (vs := [zI v266, zI v267]) (rest := []) (rm := rm_X2_placeIn) ok hRm lk_X0_339 dL_law_2634 hE (fun hE => mt_X2_placeIn hl hE) rfl (Nat.le_of_ble_eq_true rfl) ⟨⟨Nat.le_of_ble_eq_true rfl, Nat.le_of_ble_eq_true rfl⟩, (by show kb + 296 + 0 ≤ 1200144; omega), (by show sb + 2375 + 0 ≤ 5496826; omega)⟩ (zg_retI (fun v268 h112 hE => ?_)) (zg_xok ok tab fin ⟨(by show kb + 296 + 0 ≤ 1200144; omega), (by show sb + 2375 + 0 ≤ 5496826; omega)⟩)
  refine zg_cost (kc2 := kb + 296) (ks2 := sb + 2375) ⟨(by show kb + 296 + 0 = kb + 296; omega), (by show sb + 2375 + 0 = sb + 2375; omega)⟩ ?_
  refine zg_istore (L' := [(7, .int v268), (6, .int v265), (0, va_rf l0), (1, va_rf l1), (2, va_rf l2), (3, va_rf l3), (4, va_rf l4), (5, .int l5)]) ok dL_law_2637 (by decide) rfl ?_
  refine zg_aload_n ok dL_law_2639 rfl 4 rfl ?_
  refine zg_callV (vs := []) (rest := []) (rm := rm_X2_thrown) ok hRm lk_X0_223 dL_law_2640 hE (fun hE => mt_X2_thrown hl hE) rfl (Nat.le_of_ble_eq_true rfl) ⟨⟨Nat.le_of_ble_eq_true rfl, Nat.le_of_ble_eq_true rfl⟩, (by show kb + 296 + 0 ≤ 1200144; omega), (by show sb + 2375 + 0 ≤ 5496826; omega)⟩ (zg_retI (fun v269 h113 hE => ?_)) (zg_xok ok tab fin ⟨(by show kb + 296 + 0 ≤ 1200144; omega), (by show sb + 2375 + 0 ≤ 5496826; omega)⟩)
  refine zg_cost (kc2 := kb + 296) (ks2 := sb + 2375) ⟨(by show kb + 296 + 0 = kb + 296; omega), (by show sb + 2375 + 0 = sb + 2375; omega)⟩ ?_
  refine zg_iload ok dL_law_2643 1 rfl ?_
  refine zg_icmp_eq (tgt := 2650) ok dL_law_2645 (by decide) hE (fun hE => ?_) (fun hE => ?_)
  · refine zg_iload ok dL_law_2650 1 rfl ?_
    refine zg_if_ne (tgt := 2667) ok dL_law_2652 (by decide) hE (fun hE => ?_) (fun hE => ?_)
    · refine zg_sub (L' := [(0, va_rf l0), (1, va_rf l1), (2, va_rf l2), (3, va_rf l3), (4, va_rf l4), (5, .int l5)]) [2, 3, 4, 5, 6, 7] rfl ?_
      exact gt_f_law_J2667 hl ok tab fin hRm hk hKE hR  hE
    · refine zg_aload_n ok dL_law_2655 rfl 5 rfl ?_
      refine zg_iconst (v := 0) ok dL_law_2656 (by decide) ?_
      refine zg_lald ok dL_law_2657 hE (fun v270 hE => ?_)
      refine zg_iload ok dL_law_2658 0 rfl ?_
      refine zg_i2l ok dL_law_2660 ?_
      refine zg_lcmp ok dL_law_2661 ?_
      refine zg_if_eq (tgt := 2667) ok dL_law_2662 (by decide) hE (fun hE => ?_) (fun hE => ?_)
      · refine zg_sub (L' := [(0, va_rf l0), (1, va_rf l1), (2, va_rf l2), (3, va_rf l3), (4, va_rf l4), (5, .int l5)]) [2, 3, 4, 5, 6, 7] rfl ?_
        exact gt_f_law_J2667 hl ok tab fin hRm hk hKE hR  hE
      · refine zg_iconst (v := 0) ok dL_law_2665 (by decide) ?_
        exact zg_zret ok fin dL_law_2666 ⟨(by omega), (by omega)⟩ rfl hE
  · refine zg_iconst (v := 0) ok dL_law_2648 (by decide) ?_
    exact zg_zret ok fin dL_law_2649 ⟨(by omega), (by omega)⟩ rfl hE
set_option maxHeartbeats 8000000 in
theorem gt_f_law_J2723 {Xc : zw_X} {Q : Int32 → zw_H → Prop} {X : String → Nat → zw_H → Prop} (hl : (zw_l Xc).stackTraces = false) (ok : zw_ok Xc cL_law "MultipoleLineLaw" "law" 9) (tab : zw_tab Xc []) (fin : zw_fin Xc (Option.some Jvm.ClassFile.FieldType.boolean) (zq_I Q) X 1200144 5496826) (hRm : zw_rm Xc = rm_law) {kb sb KE SE : Nat} (hk : kb + 1139 ≤ KE ∧ sb + 73158 ≤ SE) (hKE : KE ≤ 1200144 ∧ SE ≤ 5496826) {R : Int32 → zw_H → Prop} {l0 : Option Nat} {l1 : Option Nat} {l2 : Option Nat} {l3 : Option Nat} {l4 : Option Nat} (hR : ∀ (l5 : Int32) (h : zw_H), R l5 h → zw_G Xc (kb + 1139) (sb + 73158) 9 h 28 [(0, va_rf l0), (1, va_rf l1), (2, va_rf l2), (3, va_rf l3), (4, va_rf l4), (5, .int l5)] [])  {l5 : Int32}  {h : zw_H} (hE : f_law_J2723 (zw_Zf Xc).2.2.2 Q X R l0 l1 l2 l3 l4 l5 h) : zw_G Xc (kb + 295) (sb + 2369) 9 h 2723 [(0, va_rf l0), (1, va_rf l1), (2, va_rf l2), (3, va_rf l3), (4, va_rf l4), (5, .int l5)] [] := by
  unfold f_law_J2723 at hE
  refine zg_goto (tgt := 4220) ok dL_law_2723 (by decide) ?_
  refine zg_wide (kc2 := kb + 1139) (ks2 := sb + 73158) (by omega) (by omega) ?_
  exact gt_f_law_J4220 hl ok tab fin hRm hk hKE hR  hE
set_option maxHeartbeats 8000000 in
theorem gt_f_law_J2670 {Xc : zw_X} {Q : Int32 → zw_H → Prop} {X : String → Nat → zw_H → Prop} (hl : (zw_l Xc).stackTraces = false) (ok : zw_ok Xc cL_law "MultipoleLineLaw" "law" 9) (tab : zw_tab Xc []) (fin : zw_fin Xc (Option.some Jvm.ClassFile.FieldType.boolean) (zq_I Q) X 1200144 5496826) (hRm : zw_rm Xc = rm_law) {kb sb KE SE : Nat} (hk : kb + 1139 ≤ KE ∧ sb + 73158 ≤ SE) (hKE : KE ≤ 1200144 ∧ SE ≤ 5496826) {R : Int32 → zw_H → Prop} {l0 : Option Nat} {l1 : Option Nat} {l2 : Option Nat} {l3 : Option Nat} {l4 : Option Nat} (hR : ∀ (l5 : Int32) (h : zw_H), R l5 h → zw_G Xc (kb + 1139) (sb + 73158) 9 h 28 [(0, va_rf l0), (1, va_rf l1), (2, va_rf l2), (3, va_rf l3), (4, va_rf l4), (5, .int l5)] [])  {l5 : Int32}  {h : zw_H} (hE : f_law_J2670 (zw_Zf Xc).2.2.2 Q X R l0 l1 l2 l3 l4 l5 h) : zw_G Xc kb sb 9 h 2670 [(0, va_rf l0), (1, va_rf l1), (2, va_rf l2), (3, va_rf l3), (4, va_rf l4), (5, .int l5)] [] := by
  unfold f_law_J2670 at hE
  refine zg_aload_n ok dL_law_2670 rfl 1 rfl ?_
  refine zg_aload_n ok dL_law_2671 rfl 0 rfl ?_
  refine zg_iload ok dL_law_2672 5 rfl ?_
  refine zg_iconst (v := 1) ok dL_law_2674 (by decide) ?_
  refine zg_iadd ok dL_law_2675 ?_
  refine zg_iald ok dL_law_2676 hE (fun v271 hE => ?_)
  refine zg_aload_n ok dL_law_2677 rfl 3 rfl ?_
  refine zg_callSX (vs := [zA l1, zI v271, zA l3]) (rest := []) (rm := rm_X0_movesIn) ok hRm lk_X0_340 dL_law_2678 hE (fun hE => mt_X0_movesIn hl hE) rfl (Nat.le_of_ble_eq_true rfl) ⟨⟨Nat.le_of_ble_eq_true rfl, Nat.le_of_ble_eq_true rfl⟩, (by show kb + 295 ≤ 1200144; omega), (by show sb + 2369 ≤ 5496826; omega)⟩ (zg_retI (fun v272 h114 hE => ?_)) (zg_xok ok tab fin ⟨(by show kb + 295 ≤ 1200144; omega), (by show sb + 2369 ≤ 5496826; omega)⟩)
  refine zg_cost (kc2 := kb + 295) (ks2 := sb + 2369) ⟨(by show kb + 295 = kb + 295; omega), (by show sb + 2369 = sb + 2369; omega)⟩ ?_
  refine zg_istore (L' := [(6, .int v272), (0, va_rf l0), (1, va_rf l1), (2, va_rf l2), (3, va_rf l3), (4, va_rf l4), (5, .int l5)]) ok dL_law_2681 (by decide) rfl ?_
  refine zg_aload_n ok dL_law_2683 rfl 3 rfl ?_
  refine zg_aload_n ok dL_law_2684 rfl 1 rfl ?_
  refine zg_iload ok dL_law_2685 6 rfl ?_
  refine zg_iconst (v := 1) ok dL_law_2687 (by decide) ?_
  refine zg_iadd ok dL_law_2688 ?_
  refine zg_iald ok dL_law_2689 hE (fun v273 hE => ?_)
  refine zg_callV (vs := [zI v273]) (rest := []) (rm := rm_X2_movesIn) ok hRm lk_X0_342 dL_law_2690 hE (fun hE => mt_X2_movesIn hl hE) rfl (Nat.le_of_ble_eq_true rfl) ⟨⟨Nat.le_of_ble_eq_true rfl, Nat.le_of_ble_eq_true rfl⟩, (by show kb + 295 + 0 ≤ 1200144; omega), (by show sb + 2369 + 0 ≤ 5496826; omega)⟩ (zg_retI (fun v274 h115 hE => ?_)) (zg_xok ok tab fin ⟨(by show kb + 295 + 0 ≤ 1200144; omega), (by show sb + 2369 + 0 ≤ 5496826; omega)⟩)
  refine zg_cost (kc2 := kb + 295) (ks2 := sb + 2369) ⟨(by show kb + 295 + 0 = kb + 295; omega), (by show sb + 2369 + 0 = sb + 2369; omega)⟩ ?_
  refine zg_istore (L' := [(7, .int v274), (6, .int v272), (0, va_rf l0), (1, va_rf l1), (2, va_rf l2), (3, va_rf l3), (4, va_rf l4), (5, .int l5)]) ok dL_law_2693 (by decide) rfl ?_
  refine zg_aload_n ok dL_law_2695 rfl 4 rfl ?_
  refine zg_callV (vs := []) (rest := []) (rm := rm_X2_thrown) ok hRm lk_X0_223 dL_law_2696 hE (fun hE => mt_X2_thrown hl hE) rfl (Nat.le_of_ble_eq_true rfl) ⟨⟨Nat.le_of_ble_eq_true rfl, Nat.le_of_ble_eq_true rfl⟩, (by show kb + 295 + 0 ≤ 1200144; omega), (by show sb + 2369 + 0 ≤ 5496826; omega)⟩ (zg_retI (fun v275 h116 hE => ?_)) (zg_xok ok tab fin ⟨(by show kb + 295 + 0 ≤ 1200144; omega), (by show sb + 2369 + 0 ≤ 5496826; omega)⟩)
  refine zg_cost (kc2 := kb + 295) (ks2 := sb + 2369) ⟨(by show kb + 295 + 0 = kb + 295; omega), (by show sb + 2369 + 0 = sb + 2369; omega)⟩ ?_
  refine zg_iload ok dL_law_2699 1 rfl ?_
  refine zg_icmp_eq (tgt := 2706) ok dL_law_2701 (by decide) hE (fun hE => ?_) (fun hE => ?_)
  · refine zg_iload ok dL_law_2706 1 rfl ?_
    refine zg_if_ne (tgt := 2723) ok dL_law_2708 (by decide) hE (fun hE => ?_) (fun hE => ?_)
    · refine zg_sub (L' := [(0, va_rf l0), (1, va_rf l1), (2, va_rf l2), (3, va_rf l3), (4, va_rf l4), (5, .int l5)]) [2, 3, 4, 5, 6, 7] rfl ?_
      exact gt_f_law_J2723 hl ok tab fin hRm hk hKE hR  hE
    · refine zg_aload_n ok dL_law_2711 rfl 5 rfl ?_
      refine zg_iconst (v := 0) ok dL_law_2712 (by decide) ?_
      refine zg_lald ok dL_law_2713 hE (fun v276 hE => ?_)
      refine zg_iload ok dL_law_2714 0 rfl ?_
      refine zg_i2l ok dL_law_2716 ?_
      refine zg_lcmp ok dL_law_2717 ?_
      refine zg_if_eq (tgt := 2723) ok dL_law_2718 (by decide) hE (fun hE => ?_) (fun hE => ?_)
      · refine zg_sub (L' := [(0, va_rf l0), (1, va_rf l1), (2, va_rf l2), (3, va_rf l3), (4, va_rf l4), (5, .int l5)]) [2, 3, 4, 5, 6, 7] rfl ?_
        exact gt_f_law_J2723 hl ok tab fin hRm hk hKE hR  hE
      · refine zg_iconst (v := 0) ok dL_law_2721 (by decide) ?_
        exact zg_zret ok fin dL_law_2722 ⟨(by omega), (by omega)⟩ rfl hE
  · refine zg_iconst (v := 0) ok dL_law_2704 (by decide) ?_
    exact zg_zret ok fin dL_law_2705 ⟨(by omega), (by omega)⟩ rfl hE
set_option maxHeartbeats 8000000 in
theorem gt_f_law_J2767 {Xc : zw_X} {Q : Int32 → zw_H → Prop} {X : String → Nat → zw_H → Prop} (hl : (zw_l Xc).stackTraces = false) (ok : zw_ok Xc cL_law "MultipoleLineLaw" "law" 9) (tab : zw_tab Xc []) (fin : zw_fin Xc (Option.some Jvm.ClassFile.FieldType.boolean) (zq_I Q) X 1200144 5496826) (hRm : zw_rm Xc = rm_law) {kb sb KE SE : Nat} (hk : kb + 1139 ≤ KE ∧ sb + 73158 ≤ SE) (hKE : KE ≤ 1200144 ∧ SE ≤ 5496826) {R : Int32 → zw_H → Prop} {l0 : Option Nat} {l1 : Option Nat} {l2 : Option Nat} {l3 : Option Nat} {l4 : Option Nat} (hR : ∀ (l5 : Int32) (h : zw_H), R l5 h → zw_G Xc (kb + 1139) (sb + 73158) 9 h 28 [(0, va_rf l0), (1, va_rf l1), (2, va_rf l2), (3, va_rf l3), (4, va_rf l4), (5, .int l5)] [])  {l5 : Int32}  {h : zw_H} (hE : f_law_J2767 (zw_Zf Xc).2.2.2 Q X R l0 l1 l2 l3 l4 l5 h) : zw_G Xc (kb + 294) (sb + 2363) 9 h 2767 [(0, va_rf l0), (1, va_rf l1), (2, va_rf l2), (3, va_rf l3), (4, va_rf l4), (5, .int l5)] [] := by
  unfold f_law_J2767 at hE
  refine zg_goto (tgt := 4220) ok dL_law_2767 (by decide) ?_
  refine zg_wide (kc2 := kb + 1139) (ks2 := sb + 73158) (by omega) (by omega) ?_
  exact gt_f_law_J4220 hl ok tab fin hRm hk hKE hR  hE
set_option maxHeartbeats 8000000 in
theorem gt_f_law_J2726 {Xc : zw_X} {Q : Int32 → zw_H → Prop} {X : String → Nat → zw_H → Prop} (hl : (zw_l Xc).stackTraces = false) (ok : zw_ok Xc cL_law "MultipoleLineLaw" "law" 9) (tab : zw_tab Xc []) (fin : zw_fin Xc (Option.some Jvm.ClassFile.FieldType.boolean) (zq_I Q) X 1200144 5496826) (hRm : zw_rm Xc = rm_law) {kb sb KE SE : Nat} (hk : kb + 1139 ≤ KE ∧ sb + 73158 ≤ SE) (hKE : KE ≤ 1200144 ∧ SE ≤ 5496826) {R : Int32 → zw_H → Prop} {l0 : Option Nat} {l1 : Option Nat} {l2 : Option Nat} {l3 : Option Nat} {l4 : Option Nat} (hR : ∀ (l5 : Int32) (h : zw_H), R l5 h → zw_G Xc (kb + 1139) (sb + 73158) 9 h 28 [(0, va_rf l0), (1, va_rf l1), (2, va_rf l2), (3, va_rf l3), (4, va_rf l4), (5, .int l5)] [])  {l5 : Int32}  {h : zw_H} (hE : f_law_J2726 (zw_Zf Xc).2.2.2 Q X R l0 l1 l2 l3 l4 l5 h) : zw_G Xc kb sb 9 h 2726 [(0, va_rf l0), (1, va_rf l1), (2, va_rf l2), (3, va_rf l3), (4, va_rf l4), (5, .int l5)] [] := by
  unfold f_law_J2726 at hE
  refine zg_aload_n ok dL_law_2726 rfl 1 rfl ?_
  refine zg_aload_n ok dL_law_2727 rfl 3 rfl ?_
  refine zg_callSX (vs := [zA l1, zA l3]) (rest := []) (rm := rm_X0_stillIn) ok hRm lk_X0_343 dL_law_2728 hE (fun hE => mt_X0_stillIn hl hE) rfl (Nat.le_of_ble_eq_true rfl) ⟨⟨Nat.le_of_ble_eq_true rfl, Nat.le_of_ble_eq_true rfl⟩, (by show kb + 294 ≤ 1200144; omega), (by show sb + 2363 ≤ 5496826; omega)⟩ (zg_retI (fun v277 h117 hE => ?_)) (zg_xok ok tab fin ⟨(by show kb + 294 ≤ 1200144; omega), (by show sb + 2363 ≤ 5496826; omega)⟩)
  refine zg_cost (kc2 := kb + 294) (ks2 := sb + 2363) ⟨(by show kb + 294 = kb + 294; omega), (by show sb + 2363 = sb + 2363; omega)⟩ ?_
  refine zg_istore (L' := [(6, .int v277), (0, va_rf l0), (1, va_rf l1), (2, va_rf l2), (3, va_rf l3), (4, va_rf l4), (5, .int l5)]) ok dL_law_2731 (by decide) rfl ?_
  refine zg_aload_n ok dL_law_2733 rfl 3 rfl ?_
  refine zg_callV (vs := []) (rest := []) (rm := rm_X2_stillIn) ok hRm lk_X0_345 dL_law_2734 hE (fun hE => mt_X2_stillIn hl hE) rfl (Nat.le_of_ble_eq_true rfl) ⟨⟨Nat.le_of_ble_eq_true rfl, Nat.le_of_ble_eq_true rfl⟩, (by show kb + 294 + 0 ≤ 1200144; omega), (by show sb + 2363 + 0 ≤ 5496826; omega)⟩ (zg_retI (fun v278 h118 hE => ?_)) (zg_xok ok tab fin ⟨(by show kb + 294 + 0 ≤ 1200144; omega), (by show sb + 2363 + 0 ≤ 5496826; omega)⟩)
  refine zg_cost (kc2 := kb + 294) (ks2 := sb + 2363) ⟨(by show kb + 294 + 0 = kb + 294; omega), (by show sb + 2363 + 0 = sb + 2363; omega)⟩ ?_
  refine zg_istore (L' := [(7, .int v278), (6, .int v277), (0, va_rf l0), (1, va_rf l1), (2, va_rf l2), (3, va_rf l3), (4, va_rf l4), (5, .int l5)]) ok dL_law_2737 (by decide) rfl ?_
  refine zg_aload_n ok dL_law_2739 rfl 4 rfl ?_
  refine zg_callV (vs := []) (rest := []) (rm := rm_X2_thrown) ok hRm lk_X0_223 dL_law_2740 hE (fun hE => mt_X2_thrown hl hE) rfl (Nat.le_of_ble_eq_true rfl) ⟨⟨Nat.le_of_ble_eq_true rfl, Nat.le_of_ble_eq_true rfl⟩, (by show kb + 294 + 0 ≤ 1200144; omega), (by show sb + 2363 + 0 ≤ 5496826; omega)⟩ (zg_retI (fun v279 h119 hE => ?_)) (zg_xok ok tab fin ⟨(by show kb + 294 + 0 ≤ 1200144; omega), (by show sb + 2363 + 0 ≤ 5496826; omega)⟩)
  refine zg_cost (kc2 := kb + 294) (ks2 := sb + 2363) ⟨(by show kb + 294 + 0 = kb + 294; omega), (by show sb + 2363 + 0 = sb + 2363; omega)⟩ ?_
  refine zg_iload ok dL_law_2743 1 rfl ?_
  refine zg_icmp_eq (tgt := 2750) ok dL_law_2745 (by decide) hE (fun hE => ?_) (fun hE => ?_)
  · refine zg_iload ok dL_law_2750 1 rfl ?_
    refine zg_if_ne (tgt := 2767) ok dL_law_2752 (by decide) hE (fun hE => ?_) (fun hE => ?_)
    · refine zg_sub (L' := [(0, va_rf l0), (1, va_rf l1), (2, va_rf l2), (3, va_rf l3), (4, va_rf l4), (5, .int l5)]) [2, 3, 4, 5, 6, 7] rfl ?_
      exact gt_f_law_J2767 hl ok tab fin hRm hk hKE hR  hE
    · refine zg_aload_n ok dL_law_2755 rfl 5 rfl ?_
      refine zg_iconst (v := 0) ok dL_law_2756 (by decide) ?_
      refine zg_lald ok dL_law_2757 hE (fun v280 hE => ?_)
      refine zg_iload ok dL_law_2758 0 rfl ?_
      refine zg_i2l ok dL_law_2760 ?_
      refine zg_lcmp ok dL_law_2761 ?_
      refine zg_if_eq (tgt := 2767) ok dL_law_2762 (by decide) hE (fun hE => ?_) (fun hE => ?_)
      · refine zg_sub (L' := [(0, va_rf l0), (1, va_rf l1), (2, va_rf l2), (3, va_rf l3), (4, va_rf l4), (5, .int l5)]) [2, 3, 4, 5, 6, 7] rfl ?_
        exact gt_f_law_J2767 hl ok tab fin hRm hk hKE hR  hE
      · refine zg_iconst (v := 0) ok dL_law_2765 (by decide) ?_
        exact zg_zret ok fin dL_law_2766 ⟨(by omega), (by omega)⟩ rfl hE
  · refine zg_iconst (v := 0) ok dL_law_2748 (by decide) ?_
    exact zg_zret ok fin dL_law_2749 ⟨(by omega), (by omega)⟩ rfl hE
set_option maxHeartbeats 8000000 in
theorem gt_f_law_J2835 {Xc : zw_X} {Q : Int32 → zw_H → Prop} {X : String → Nat → zw_H → Prop} (hl : (zw_l Xc).stackTraces = false) (ok : zw_ok Xc cL_law "MultipoleLineLaw" "law" 9) (tab : zw_tab Xc []) (fin : zw_fin Xc (Option.some Jvm.ClassFile.FieldType.boolean) (zq_I Q) X 1200144 5496826) (hRm : zw_rm Xc = rm_law) {kb sb KE SE : Nat} (hk : kb + 1139 ≤ KE ∧ sb + 73158 ≤ SE) (hKE : KE ≤ 1200144 ∧ SE ≤ 5496826) {R : Int32 → zw_H → Prop} {l0 : Option Nat} {l1 : Option Nat} {l2 : Option Nat} {l3 : Option Nat} {l4 : Option Nat} (hR : ∀ (l5 : Int32) (h : zw_H), R l5 h → zw_G Xc (kb + 1139) (sb + 73158) 9 h 28 [(0, va_rf l0), (1, va_rf l1), (2, va_rf l2), (3, va_rf l3), (4, va_rf l4), (5, .int l5)] [])  {l5 : Int32}  {h : zw_H} (hE : f_law_J2835 (zw_Zf Xc).2.2.2 Q X R l0 l1 l2 l3 l4 l5 h) : zw_G Xc (kb + 3) (sb + 18) 9 h 2835 [(0, va_rf l0), (1, va_rf l1), (2, va_rf l2), (3, va_rf l3), (4, va_rf l4), (5, .int l5)] [] := by
  unfold f_law_J2835 at hE
  refine zg_goto (tgt := 4220) ok dL_law_2835 (by decide) ?_
  refine zg_wide (kc2 := kb + 1139) (ks2 := sb + 73158) (by omega) (by omega) ?_
  exact gt_f_law_J4220 hl ok tab fin hRm hk hKE hR  hE
set_option maxHeartbeats 8000000 in
theorem gt_f_law_J2770 {Xc : zw_X} {Q : Int32 → zw_H → Prop} {X : String → Nat → zw_H → Prop} (hl : (zw_l Xc).stackTraces = false) (ok : zw_ok Xc cL_law "MultipoleLineLaw" "law" 9) (tab : zw_tab Xc []) (fin : zw_fin Xc (Option.some Jvm.ClassFile.FieldType.boolean) (zq_I Q) X 1200144 5496826) (hRm : zw_rm Xc = rm_law) {kb sb KE SE : Nat} (hk : kb + 1139 ≤ KE ∧ sb + 73158 ≤ SE) (hKE : KE ≤ 1200144 ∧ SE ≤ 5496826) {R : Int32 → zw_H → Prop} {l0 : Option Nat} {l1 : Option Nat} {l2 : Option Nat} {l3 : Option Nat} {l4 : Option Nat} (hR : ∀ (l5 : Int32) (h : zw_H), R l5 h → zw_G Xc (kb + 1139) (sb + 73158) 9 h 28 [(0, va_rf l0), (1, va_rf l1), (2, va_rf l2), (3, va_rf l3), (4, va_rf l4), (5, .int l5)] [])  {l5 : Int32}  {h : zw_H} (hE : f_law_J2770 (zw_Zf Xc).2.2.2 Q X R l0 l1 l2 l3 l4 l5 h) : zw_G Xc kb sb 9 h 2770 [(0, va_rf l0), (1, va_rf l1), (2, va_rf l2), (3, va_rf l3), (4, va_rf l4), (5, .int l5)] [] := by
  unfold f_law_J2770 at hE
  refine zg_aload_n ok dL_law_2770 rfl 1 rfl ?_
  refine zg_aload_n ok dL_law_2771 rfl 0 rfl ?_
  refine zg_iload ok dL_law_2772 5 rfl ?_
  refine zg_iconst (v := 1) ok dL_law_2774 (by decide) ?_
  refine zg_iadd ok dL_law_2775 ?_
  refine zg_iald ok dL_law_2776 hE (fun v281 hE => ?_)
  refine zg_aload_n ok dL_law_2777 rfl 0 rfl ?_
  refine zg_iload ok dL_law_2778 5 rfl ?_
  refine zg_iconst (v := 2) ok dL_law_2780 (by decide) ?_
  refine zg_iadd ok dL_law_2781 ?_
  refine zg_iald ok dL_law_2782 hE (fun v282 hE => ?_)
  refine zg_aload_n ok dL_law_2783 rfl 3 rfl ?_
  refine zg_callSX (vs := [zA l1, zI v281, zI v282, zA l3]) (rest := []) (rm := rm_X0_orderFor) ok hRm lk_X0_346 dL_law_2784 hE (fun hE => mt_X0_orderFor hl hE) rfl (Nat.le_of_ble_eq_true rfl) ⟨⟨Nat.le_of_ble_eq_true rfl, Nat.le_of_ble_eq_true rfl⟩, (by show kb + 3 ≤ 1200144; omega), (by show sb + 18 ≤ 5496826; omega)⟩ (zg_retI (fun v283 h120 hE => ?_)) (zg_xok ok tab fin ⟨(by show kb + 3 ≤ 1200144; omega), (by show sb + 18 ≤ 5496826; omega)⟩)
  refine zg_cost (kc2 := kb + 3) (ks2 := sb + 18) ⟨(by show kb + 3 = kb + 3; omega), (by show sb + 18 = sb + 18; omega)⟩ ?_
  refine zg_istore (L' := [(6, .int v283), (0, va_rf l0), (1, va_rf l1), (2, va_rf l2), (3, va_rf l3), (4, va_rf l4), (5, .int l5)]) ok dL_law_2787 (by decide) rfl ?_
  refine zg_aload_n ok dL_law_2789 rfl 3 rfl ?_
  refine zg_aload_n ok dL_law_2790 rfl 1 rfl ?_
  refine zg_iload ok dL_law_2791 6 rfl ?_
  refine zg_iconst (v := 1) ok dL_law_2793 (by decide) ?_
  refine zg_iadd ok dL_law_2794 ?_
  refine zg_iald ok dL_law_2795 hE (fun v284 hE => ?_)
  refine zg_aload_n ok dL_law_2796 rfl 1 rfl ?_
  refine zg_iload ok dL_law_2797 6 rfl ?_
  refine zg_iconst (v := 2) ok dL_law_2799 (by decide) ?_
  refine zg_iadd ok dL_law_2800 ?_
  refine zg_iald ok dL_law_2801 hE (fun v285 hE => ?_)
  refine zg_callV (vs := [zI v284, zI v285]) (rest := []) (rm := rm_X2_orderFor) ok hRm lk_X0_348 dL_law_2802 hE (fun hE => mt_X2_orderFor hl hE) rfl (Nat.le_of_ble_eq_true rfl) ⟨⟨Nat.le_of_ble_eq_true rfl, Nat.le_of_ble_eq_true rfl⟩, (by show kb + 3 + 0 ≤ 1200144; omega), (by show sb + 18 + 0 ≤ 5496826; omega)⟩ (zg_retI (fun v286 h121 hE => ?_)) (zg_xok ok tab fin ⟨(by show kb + 3 + 0 ≤ 1200144; omega), (by show sb + 18 + 0 ≤ 5496826; omega)⟩)
  refine zg_cost (kc2 := kb + 3) (ks2 := sb + 18) ⟨(by show kb + 3 + 0 = kb + 3; omega), (by show sb + 18 + 0 = sb + 18; omega)⟩ ?_
  refine zg_istore (L' := [(7, .int v286), (6, .int v283), (0, va_rf l0), (1, va_rf l1), (2, va_rf l2), (3, va_rf l3), (4, va_rf l4), (5, .int l5)]) ok dL_law_2805 (by decide) rfl ?_
  refine zg_aload_n ok dL_law_2807 rfl 4 rfl ?_
  refine zg_callV (vs := []) (rest := []) (rm := rm_X2_thrown) ok hRm lk_X0_223 dL_law_2808 hE (fun hE => mt_X2_thrown hl hE) rfl (Nat.le_of_ble_eq_true rfl) ⟨⟨Nat.le_of_ble_eq_true rfl, Nat.le_of_ble_eq_true rfl⟩, (by show kb + 3 + 0 ≤ 1200144; omega), (by show sb + 18 + 0 ≤ 5496826; omega)⟩ (zg_retI (fun v287 h122 hE => ?_)) (zg_xok ok tab fin ⟨(by show kb + 3 + 0 ≤ 1200144; omega), (by show sb + 18 + 0 ≤ 5496826; omega)⟩)
  refine zg_cost (kc2 := kb + 3) (ks2 := sb + 18) ⟨(by show kb + 3 + 0 = kb + 3; omega), (by show sb + 18 + 0 = sb + 18; omega)⟩ ?_
  refine zg_iload ok dL_law_2811 1 rfl ?_
  refine zg_icmp_eq (tgt := 2818) ok dL_law_2813 (by decide) hE (fun hE => ?_) (fun hE => ?_)
  · refine zg_iload ok dL_law_2818 1 rfl ?_
    refine zg_if_ne (tgt := 2835) ok dL_law_2820 (by decide) hE (fun hE => ?_) (fun hE => ?_)
    · refine zg_sub (L' := [(0, va_rf l0), (1, va_rf l1), (2, va_rf l2), (3, va_rf l3), (4, va_rf l4), (5, .int l5)]) [2, 3, 4, 5, 6, 7] rfl ?_
      exact gt_f_law_J2835 hl ok tab fin hRm hk hKE hR  hE
    · refine zg_aload_n ok dL_law_2823 rfl 5 rfl ?_
      refine zg_iconst (v := 0) ok dL_law_2824 (by decide) ?_
      refine zg_lald ok dL_law_2825 hE (fun v288 hE => ?_)
      refine zg_iload ok dL_law_2826 0 rfl ?_
      refine zg_i2l ok dL_law_2828 ?_
      refine zg_lcmp ok dL_law_2829 ?_
      refine zg_if_eq (tgt := 2835) ok dL_law_2830 (by decide) hE (fun hE => ?_) (fun hE => ?_)
      · refine zg_sub (L' := [(0, va_rf l0), (1, va_rf l1), (2, va_rf l2), (3, va_rf l3), (4, va_rf l4), (5, .int l5)]) [2, 3, 4, 5, 6, 7] rfl ?_
        exact gt_f_law_J2835 hl ok tab fin hRm hk hKE hR  hE
      · refine zg_iconst (v := 0) ok dL_law_2833 (by decide) ?_
        exact zg_zret ok fin dL_law_2834 ⟨(by omega), (by omega)⟩ rfl hE
  · refine zg_iconst (v := 0) ok dL_law_2816 (by decide) ?_
    exact zg_zret ok fin dL_law_2817 ⟨(by omega), (by omega)⟩ rfl hE
set_option maxHeartbeats 8000000 in
theorem gt_f_law_J2879 {Xc : zw_X} {Q : Int32 → zw_H → Prop} {X : String → Nat → zw_H → Prop} (hl : (zw_l Xc).stackTraces = false) (ok : zw_ok Xc cL_law "MultipoleLineLaw" "law" 9) (tab : zw_tab Xc []) (fin : zw_fin Xc (Option.some Jvm.ClassFile.FieldType.boolean) (zq_I Q) X 1200144 5496826) (hRm : zw_rm Xc = rm_law) {kb sb KE SE : Nat} (hk : kb + 1139 ≤ KE ∧ sb + 73158 ≤ SE) (hKE : KE ≤ 1200144 ∧ SE ≤ 5496826) {R : Int32 → zw_H → Prop} {l0 : Option Nat} {l1 : Option Nat} {l2 : Option Nat} {l3 : Option Nat} {l4 : Option Nat} (hR : ∀ (l5 : Int32) (h : zw_H), R l5 h → zw_G Xc (kb + 1139) (sb + 73158) 9 h 28 [(0, va_rf l0), (1, va_rf l1), (2, va_rf l2), (3, va_rf l3), (4, va_rf l4), (5, .int l5)] [])  {l5 : Int32}  {h : zw_H} (hE : f_law_J2879 (zw_Zf Xc).2.2.2 Q X R l0 l1 l2 l3 l4 l5 h) : zw_G Xc (kb + 1) (sb + 6) 9 h 2879 [(0, va_rf l0), (1, va_rf l1), (2, va_rf l2), (3, va_rf l3), (4, va_rf l4), (5, .int l5)] [] := by
  unfold f_law_J2879 at hE
  refine zg_goto (tgt := 4220) ok dL_law_2879 (by decide) ?_
  refine zg_wide (kc2 := kb + 1139) (ks2 := sb + 73158) (by omega) (by omega) ?_
  exact gt_f_law_J4220 hl ok tab fin hRm hk hKE hR  hE
set_option maxHeartbeats 8000000 in
theorem gt_f_law_J2838 {Xc : zw_X} {Q : Int32 → zw_H → Prop} {X : String → Nat → zw_H → Prop} (hl : (zw_l Xc).stackTraces = false) (ok : zw_ok Xc cL_law "MultipoleLineLaw" "law" 9) (tab : zw_tab Xc []) (fin : zw_fin Xc (Option.some Jvm.ClassFile.FieldType.boolean) (zq_I Q) X 1200144 5496826) (hRm : zw_rm Xc = rm_law) {kb sb KE SE : Nat} (hk : kb + 1139 ≤ KE ∧ sb + 73158 ≤ SE) (hKE : KE ≤ 1200144 ∧ SE ≤ 5496826) {R : Int32 → zw_H → Prop} {l0 : Option Nat} {l1 : Option Nat} {l2 : Option Nat} {l3 : Option Nat} {l4 : Option Nat} (hR : ∀ (l5 : Int32) (h : zw_H), R l5 h → zw_G Xc (kb + 1139) (sb + 73158) 9 h 28 [(0, va_rf l0), (1, va_rf l1), (2, va_rf l2), (3, va_rf l3), (4, va_rf l4), (5, .int l5)] [])  {l5 : Int32}  {h : zw_H} (hE : f_law_J2838 (zw_Zf Xc).2.2.2 Q X R l0 l1 l2 l3 l4 l5 h) : zw_G Xc kb sb 9 h 2838 [(0, va_rf l0), (1, va_rf l1), (2, va_rf l2), (3, va_rf l3), (4, va_rf l4), (5, .int l5)] [] := by
  unfold f_law_J2838 at hE
  refine zg_aload_n ok dL_law_2838 rfl 1 rfl ?_
  refine zg_aload_n ok dL_law_2839 rfl 3 rfl ?_
  refine zg_callSX (vs := [zA l1, zA l3]) (rest := []) (rm := rm_X0_bestLevels) ok hRm lk_X0_349 dL_law_2840 hE (fun hE => mt_X0_bestLevels hl hE) rfl (Nat.le_of_ble_eq_true rfl) ⟨⟨Nat.le_of_ble_eq_true rfl, Nat.le_of_ble_eq_true rfl⟩, (by show kb + 1 ≤ 1200144; omega), (by show sb + 6 ≤ 5496826; omega)⟩ (zg_retI (fun v289 h123 hE => ?_)) (zg_xok ok tab fin ⟨(by show kb + 1 ≤ 1200144; omega), (by show sb + 6 ≤ 5496826; omega)⟩)
  refine zg_cost (kc2 := kb + 1) (ks2 := sb + 6) ⟨(by show kb + 1 = kb + 1; omega), (by show sb + 6 = sb + 6; omega)⟩ ?_
  refine zg_istore (L' := [(6, .int v289), (0, va_rf l0), (1, va_rf l1), (2, va_rf l2), (3, va_rf l3), (4, va_rf l4), (5, .int l5)]) ok dL_law_2843 (by decide) rfl ?_
  refine zg_aload_n ok dL_law_2845 rfl 3 rfl ?_
  refine zg_callV (vs := []) (rest := []) (rm := rm_X2_bestLevels) ok hRm lk_X0_351 dL_law_2846 hE (fun hE => mt_X2_bestLevels hl hE) rfl (Nat.le_of_ble_eq_true rfl) ⟨⟨Nat.le_of_ble_eq_true rfl, Nat.le_of_ble_eq_true rfl⟩, (by show kb + 1 + 0 ≤ 1200144; omega), (by show sb + 6 + 0 ≤ 5496826; omega)⟩ (zg_retI (fun v290 h124 hE => ?_)) (zg_xok ok tab fin ⟨(by show kb + 1 + 0 ≤ 1200144; omega), (by show sb + 6 + 0 ≤ 5496826; omega)⟩)
  refine zg_cost (kc2 := kb + 1) (ks2 := sb + 6) ⟨(by show kb + 1 + 0 = kb + 1; omega), (by show sb + 6 + 0 = sb + 6; omega)⟩ ?_
  refine zg_istore (L' := [(7, .int v290), (6, .int v289), (0, va_rf l0), (1, va_rf l1), (2, va_rf l2), (3, va_rf l3), (4, va_rf l4), (5, .int l5)]) ok dL_law_2849 (by decide) rfl ?_
  refine zg_aload_n ok dL_law_2851 rfl 4 rfl ?_
  refine zg_callV (vs := []) (rest := []) (rm := rm_X2_thrown) ok hRm lk_X0_223 dL_law_2852 hE (fun hE => mt_X2_thrown hl hE) rfl (Nat.le_of_ble_eq_true rfl) ⟨⟨Nat.le_of_ble_eq_true rfl, Nat.le_of_ble_eq_true rfl⟩, (by show kb + 1 + 0 ≤ 1200144; omega), (by show sb + 6 + 0 ≤ 5496826; omega)⟩ (zg_retI (fun v291 h125 hE => ?_)) (zg_xok ok tab fin ⟨(by show kb + 1 + 0 ≤ 1200144; omega), (by show sb + 6 + 0 ≤ 5496826; omega)⟩)
  refine zg_cost (kc2 := kb + 1) (ks2 := sb + 6) ⟨(by show kb + 1 + 0 = kb + 1; omega), (by show sb + 6 + 0 = sb + 6; omega)⟩ ?_
  refine zg_iload ok dL_law_2855 1 rfl ?_
  refine zg_icmp_eq (tgt := 2862) ok dL_law_2857 (by decide) hE (fun hE => ?_) (fun hE => ?_)
  · refine zg_iload ok dL_law_2862 1 rfl ?_
    refine zg_if_ne (tgt := 2879) ok dL_law_2864 (by decide) hE (fun hE => ?_) (fun hE => ?_)
    · refine zg_sub (L' := [(0, va_rf l0), (1, va_rf l1), (2, va_rf l2), (3, va_rf l3), (4, va_rf l4), (5, .int l5)]) [2, 3, 4, 5, 6, 7] rfl ?_
      exact gt_f_law_J2879 hl ok tab fin hRm hk hKE hR  hE
    · refine zg_aload_n ok dL_law_2867 rfl 5 rfl ?_
      refine zg_iconst (v := 0) ok dL_law_2868 (by decide) ?_
      refine zg_lald ok dL_law_2869 hE (fun v292 hE => ?_)
      refine zg_iload ok dL_law_2870 0 rfl ?_
      refine zg_i2l ok dL_law_2872 ?_
      refine zg_lcmp ok dL_law_2873 ?_
      refine zg_if_eq (tgt := 2879) ok dL_law_2874 (by decide) hE (fun hE => ?_) (fun hE => ?_)
      · refine zg_sub (L' := [(0, va_rf l0), (1, va_rf l1), (2, va_rf l2), (3, va_rf l3), (4, va_rf l4), (5, .int l5)]) [2, 3, 4, 5, 6, 7] rfl ?_
        exact gt_f_law_J2879 hl ok tab fin hRm hk hKE hR  hE
      · refine zg_iconst (v := 0) ok dL_law_2877 (by decide) ?_
        exact zg_zret ok fin dL_law_2878 ⟨(by omega), (by omega)⟩ rfl hE
  · refine zg_iconst (v := 0) ok dL_law_2860 (by decide) ?_
    exact zg_zret ok fin dL_law_2861 ⟨(by omega), (by omega)⟩ rfl hE
set_option maxHeartbeats 8000000 in
theorem gt_f_law_J2968 {Xc : zw_X} {Q : Int32 → zw_H → Prop} {X : String → Nat → zw_H → Prop} (hl : (zw_l Xc).stackTraces = false) (ok : zw_ok Xc cL_law "MultipoleLineLaw" "law" 9) (tab : zw_tab Xc []) (fin : zw_fin Xc (Option.some Jvm.ClassFile.FieldType.boolean) (zq_I Q) X 1200144 5496826) (hRm : zw_rm Xc = rm_law) {kb sb KE SE : Nat} (hk : kb + 1139 ≤ KE ∧ sb + 73158 ≤ SE) (hKE : KE ≤ 1200144 ∧ SE ≤ 5496826) {R : Int32 → zw_H → Prop} {l0 : Option Nat} {l1 : Option Nat} {l2 : Option Nat} {l3 : Option Nat} {l4 : Option Nat} (hR : ∀ (l5 : Int32) (h : zw_H), R l5 h → zw_G Xc (kb + 1139) (sb + 73158) 9 h 28 [(0, va_rf l0), (1, va_rf l1), (2, va_rf l2), (3, va_rf l3), (4, va_rf l4), (5, .int l5)] [])  {l5 : Int32}  {h : zw_H} (hE : f_law_J2968 (zw_Zf Xc).2.2.2 Q X R l0 l1 l2 l3 l4 l5 h) : zw_G Xc (kb + 4) (sb + 24) 9 h 2968 [(0, va_rf l0), (1, va_rf l1), (2, va_rf l2), (3, va_rf l3), (4, va_rf l4), (5, .int l5)] [] := by
  unfold f_law_J2968 at hE
  refine zg_goto (tgt := 4220) ok dL_law_2968 (by decide) ?_
  refine zg_wide (kc2 := kb + 1139) (ks2 := sb + 73158) (by omega) (by omega) ?_
  exact gt_f_law_J4220 hl ok tab fin hRm hk hKE hR  hE
set_option maxHeartbeats 8000000 in
theorem gt_f_law_J2882 {Xc : zw_X} {Q : Int32 → zw_H → Prop} {X : String → Nat → zw_H → Prop} (hl : (zw_l Xc).stackTraces = false) (ok : zw_ok Xc cL_law "MultipoleLineLaw" "law" 9) (tab : zw_tab Xc []) (fin : zw_fin Xc (Option.some Jvm.ClassFile.FieldType.boolean) (zq_I Q) X 1200144 5496826) (hRm : zw_rm Xc = rm_law) {kb sb KE SE : Nat} (hk : kb + 1139 ≤ KE ∧ sb + 73158 ≤ SE) (hKE : KE ≤ 1200144 ∧ SE ≤ 5496826) {R : Int32 → zw_H → Prop} {l0 : Option Nat} {l1 : Option Nat} {l2 : Option Nat} {l3 : Option Nat} {l4 : Option Nat} (hR : ∀ (l5 : Int32) (h : zw_H), R l5 h → zw_G Xc (kb + 1139) (sb + 73158) 9 h 28 [(0, va_rf l0), (1, va_rf l1), (2, va_rf l2), (3, va_rf l3), (4, va_rf l4), (5, .int l5)] [])  {l5 : Int32}  {h : zw_H} (hE : f_law_J2882 (zw_Zf Xc).2.2.2 Q X R l0 l1 l2 l3 l4 l5 h) : zw_G Xc kb sb 9 h 2882 [(0, va_rf l0), (1, va_rf l1), (2, va_rf l2), (3, va_rf l3), (4, va_rf l4), (5, .int l5)] [] := by
  unfold f_law_J2882 at hE
  refine zg_aload_n ok dL_law_2882 rfl 1 rfl ?_
  refine zg_aload_n ok dL_law_2883 rfl 0 rfl ?_
  refine zg_iload ok dL_law_2884 5 rfl ?_
  refine zg_iconst (v := 1) ok dL_law_2886 (by decide) ?_
  refine zg_iadd ok dL_law_2887 ?_
  refine zg_iald ok dL_law_2888 hE (fun v293 hE => ?_)
  refine zg_aload_n ok dL_law_2889 rfl 0 rfl ?_
  refine zg_iload ok dL_law_2890 5 rfl ?_
  refine zg_iconst (v := 2) ok dL_law_2892 (by decide) ?_
  refine zg_iadd ok dL_law_2893 ?_
  refine zg_iald ok dL_law_2894 hE (fun v294 hE => ?_)
  refine zg_aload ok dL_law_2895 4 rfl ?_
  refine zg_callSX (vs := [zA l1, zI v293, zI v294, zA l4]) (rest := []) (rm := rm_X0_without) ok hRm lk_X0_352 dL_law_2897 hE (fun hE => mt_X0_without hl hE) rfl (Nat.le_of_ble_eq_true rfl) ⟨⟨Nat.le_of_ble_eq_true rfl, Nat.le_of_ble_eq_true rfl⟩, (by show kb + 4 ≤ 1200144; omega), (by show sb + 24 ≤ 5496826; omega)⟩ (zg_retI (fun v295 h126 hE => ?_)) (zg_xok ok tab fin ⟨(by show kb + 4 ≤ 1200144; omega), (by show sb + 24 ≤ 5496826; omega)⟩)
  refine zg_cost (kc2 := kb + 4) (ks2 := sb + 24) ⟨(by show kb + 4 = kb + 4; omega), (by show sb + 24 = sb + 24; omega)⟩ ?_
  refine zg_istore (L' := [(6, .int v295), (0, va_rf l0), (1, va_rf l1), (2, va_rf l2), (3, va_rf l3), (4, va_rf l4), (5, .int l5)]) ok dL_law_2900 (by decide) rfl ?_
  refine zg_aload_n ok dL_law_2902 rfl 3 rfl ?_
  refine zg_aload_n ok dL_law_2903 rfl 1 rfl ?_
  refine zg_iload ok dL_law_2904 6 rfl ?_
  refine zg_iconst (v := 1) ok dL_law_2906 (by decide) ?_
  refine zg_iadd ok dL_law_2907 ?_
  refine zg_iald ok dL_law_2908 hE (fun v296 hE => ?_)
  refine zg_aload_n ok dL_law_2909 rfl 1 rfl ?_
  refine zg_iload ok dL_law_2910 6 rfl ?_
  refine zg_iconst (v := 2) ok dL_law_2912 (by decide) ?_
  refine zg_iadd ok dL_law_2913 ?_
  refine zg_iald ok dL_law_2914 hE (fun v297 hE => ?_)
  refine zg_callV (vs := [zI v296, zI v297]) (rest := []) (rm := rm_X2_without) ok hRm lk_X0_355 dL_law_2915 hE (fun hE => mt_X2_without hl hE) rfl (Nat.le_of_ble_eq_true rfl) ⟨⟨Nat.le_of_ble_eq_true rfl, Nat.le_of_ble_eq_true rfl⟩, (by show kb + 4 + 0 ≤ 1200144; omega), (by show sb + 24 + 0 ≤ 5496826; omega)⟩ (zg_retD (fun v298 h127 hE => ?_)) (zg_xok ok tab fin ⟨(by show kb + 4 + 0 ≤ 1200144; omega), (by show sb + 24 + 0 ≤ 5496826; omega)⟩)
  refine zg_cost (kc2 := kb + 4) (ks2 := sb + 24) ⟨(by show kb + 4 + 0 = kb + 4; omega), (by show sb + 24 + 0 = sb + 24; omega)⟩ ?_
  refine zg_dstore (L' := [(7, .double v298), (6, .int v295), (0, va_rf l0), (1, va_rf l1), (2, va_rf l2), (3, va_rf l3), (4, va_rf l4), (5, .int l5)]) ok dL_law_2918 (by decide) rfl ?_
  refine zg_aload_n ok dL_law_2920 rfl 4 rfl ?_
  refine zg_callV (vs := []) (rest := []) (rm := rm_X2_thrown) ok hRm lk_X0_223 dL_law_2921 hE (fun hE => mt_X2_thrown hl hE) rfl (Nat.le_of_ble_eq_true rfl) ⟨⟨Nat.le_of_ble_eq_true rfl, Nat.le_of_ble_eq_true rfl⟩, (by show kb + 4 + 0 ≤ 1200144; omega), (by show sb + 24 + 0 ≤ 5496826; omega)⟩ (zg_retI (fun v299 h128 hE => ?_)) (zg_xok ok tab fin ⟨(by show kb + 4 + 0 ≤ 1200144; omega), (by show sb + 24 + 0 ≤ 5496826; omega)⟩)
  refine zg_cost (kc2 := kb + 4) (ks2 := sb + 24) ⟨(by show kb + 4 + 0 = kb + 4; omega), (by show sb + 24 + 0 = sb + 24; omega)⟩ ?_
  refine zg_iload ok dL_law_2924 1 rfl ?_
  refine zg_icmp_eq (tgt := 2931) ok dL_law_2926 (by decide) hE (fun hE => ?_) (fun hE => ?_)
  · refine zg_iload ok dL_law_2931 1 rfl ?_
    refine zg_if_ne (tgt := 2968) ok dL_law_2933 (by decide) hE (fun hE => ?_) (fun hE => ?_)
    · refine zg_sub (L' := [(0, va_rf l0), (1, va_rf l1), (2, va_rf l2), (3, va_rf l3), (4, va_rf l4), (5, .int l5)]) [2, 3, 4, 5, 6, 7] rfl ?_
      exact gt_f_law_J2968 hl ok tab fin hRm hk hKE hR  hE
    · refine zg_aload ok dL_law_2936 6 rfl ?_
      refine zg_iconst (v := 0) ok dL_law_2938 (by decide) ?_
      refine zg_dald ok dL_law_2939 hE (fun v300 hE => ?_)
      refine zg_dload ok dL_law_2940 0 rfl ?_
      refine zg_dcmp ok dL_law_2942 ?_
      refine zg_if_eq (tgt := 2968) ok dL_law_2943 (by decide) hE (fun hE => ?_) (fun hE => ?_)
      · refine zg_sub (L' := [(0, va_rf l0), (1, va_rf l1), (2, va_rf l2), (3, va_rf l3), (4, va_rf l4), (5, .int l5)]) [2, 3, 4, 5, 6, 7] rfl ?_
        exact gt_f_law_J2968 hl ok tab fin hRm hk hKE hR  hE
      · refine zg_aload ok dL_law_2946 6 rfl ?_
        refine zg_iconst (v := 0) ok dL_law_2948 (by decide) ?_
        refine zg_dald ok dL_law_2949 hE (fun v301 hE => ?_)
        refine zg_aload ok dL_law_2950 6 rfl ?_
        refine zg_iconst (v := 0) ok dL_law_2952 (by decide) ?_
        refine zg_dald ok dL_law_2953 hE (fun v302 hE => ?_)
        refine zg_dcmp ok dL_law_2954 ?_
        refine zg_if_eq (tgt := 2966) ok dL_law_2955 (by decide) hE (fun hE => ?_) (fun hE => ?_)
        · refine zg_iconst (v := 0) ok dL_law_2966 (by decide) ?_
          exact zg_zret ok fin dL_law_2967 ⟨(by omega), (by omega)⟩ rfl hE
        · refine zg_dload ok dL_law_2958 0 rfl ?_
          refine zg_dload ok dL_law_2960 0 rfl ?_
          refine zg_dcmp ok dL_law_2962 ?_
          refine zg_if_ne (tgt := 2968) ok dL_law_2963 (by decide) hE (fun hE => ?_) (fun hE => ?_)
          · refine zg_sub (L' := [(0, va_rf l0), (1, va_rf l1), (2, va_rf l2), (3, va_rf l3), (4, va_rf l4), (5, .int l5)]) [2, 3, 4, 5, 6, 7] rfl ?_
            exact gt_f_law_J2968 hl ok tab fin hRm hk hKE hR  hE
          · refine zg_iconst (v := 0) ok dL_law_2966 (by decide) ?_
            exact zg_zret ok fin dL_law_2967 ⟨(by omega), (by omega)⟩ rfl hE
  · refine zg_iconst (v := 0) ok dL_law_2929 (by decide) ?_
    exact zg_zret ok fin dL_law_2930 ⟨(by omega), (by omega)⟩ rfl hE
set_option maxHeartbeats 8000000 in
theorem gt_f_law_J3012 {Xc : zw_X} {Q : Int32 → zw_H → Prop} {X : String → Nat → zw_H → Prop} (hl : (zw_l Xc).stackTraces = false) (ok : zw_ok Xc cL_law "MultipoleLineLaw" "law" 9) (tab : zw_tab Xc []) (fin : zw_fin Xc (Option.some Jvm.ClassFile.FieldType.boolean) (zq_I Q) X 1200144 5496826) (hRm : zw_rm Xc = rm_law) {kb sb KE SE : Nat} (hk : kb + 1139 ≤ KE ∧ sb + 73158 ≤ SE) (hKE : KE ≤ 1200144 ∧ SE ≤ 5496826) {R : Int32 → zw_H → Prop} {l0 : Option Nat} {l1 : Option Nat} {l2 : Option Nat} {l3 : Option Nat} {l4 : Option Nat} (hR : ∀ (l5 : Int32) (h : zw_H), R l5 h → zw_G Xc (kb + 1139) (sb + 73158) 9 h 28 [(0, va_rf l0), (1, va_rf l1), (2, va_rf l2), (3, va_rf l3), (4, va_rf l4), (5, .int l5)] [])  {l5 : Int32}  {h : zw_H} (hE : f_law_J3012 (zw_Zf Xc).2.2.2 Q X R l0 l1 l2 l3 l4 l5 h) : zw_G Xc (kb + 515) (sb + 3090) 9 h 3012 [(0, va_rf l0), (1, va_rf l1), (2, va_rf l2), (3, va_rf l3), (4, va_rf l4), (5, .int l5)] [] := by
  unfold f_law_J3012 at hE
  refine zg_goto (tgt := 4220) ok dL_law_3012 (by decide) ?_
  refine zg_wide (kc2 := kb + 1139) (ks2 := sb + 73158) (by omega) (by omega) ?_
  exact gt_f_law_J4220 hl ok tab fin hRm hk hKE hR  hE
set_option maxHeartbeats 8000000 in
theorem gt_f_law_J2971 {Xc : zw_X} {Q : Int32 → zw_H → Prop} {X : String → Nat → zw_H → Prop} (hl : (zw_l Xc).stackTraces = false) (ok : zw_ok Xc cL_law "MultipoleLineLaw" "law" 9) (tab : zw_tab Xc []) (fin : zw_fin Xc (Option.some Jvm.ClassFile.FieldType.boolean) (zq_I Q) X 1200144 5496826) (hRm : zw_rm Xc = rm_law) {kb sb KE SE : Nat} (hk : kb + 1139 ≤ KE ∧ sb + 73158 ≤ SE) (hKE : KE ≤ 1200144 ∧ SE ≤ 5496826) {R : Int32 → zw_H → Prop} {l0 : Option Nat} {l1 : Option Nat} {l2 : Option Nat} {l3 : Option Nat} {l4 : Option Nat} (hR : ∀ (l5 : Int32) (h : zw_H), R l5 h → zw_G Xc (kb + 1139) (sb + 73158) 9 h 28 [(0, va_rf l0), (1, va_rf l1), (2, va_rf l2), (3, va_rf l3), (4, va_rf l4), (5, .int l5)] [])  {l5 : Int32}  {h : zw_H} (hE : f_law_J2971 (zw_Zf Xc).2.2.2 Q X R l0 l1 l2 l3 l4 l5 h) : zw_G Xc kb sb 9 h 2971 [(0, va_rf l0), (1, va_rf l1), (2, va_rf l2), (3, va_rf l3), (4, va_rf l4), (5, .int l5)] [] := by
  unfold f_law_J2971 at hE
  refine zg_aload_n ok dL_law_2971 rfl 1 rfl ?_
  refine zg_aload_n ok dL_law_2972 rfl 3 rfl ?_
  refine zg_callSX (vs := [zA l1, zA l3]) (rest := []) (rm := rm_X0_quietest) ok hRm lk_X0_356 dL_law_2973 hE (fun hE => mt_X0_quietest hl hE) rfl (Nat.le_of_ble_eq_true rfl) ⟨⟨Nat.le_of_ble_eq_true rfl, Nat.le_of_ble_eq_true rfl⟩, (by show kb + 515 ≤ 1200144; omega), (by show sb + 3090 ≤ 5496826; omega)⟩ (zg_retI (fun v303 h129 hE => ?_)) (zg_xok ok tab fin ⟨(by show kb + 515 ≤ 1200144; omega), (by show sb + 3090 ≤ 5496826; omega)⟩)
  refine zg_cost (kc2 := kb + 515) (ks2 := sb + 3090) ⟨(by show kb + 515 = kb + 515; omega), (by show sb + 3090 = sb + 3090; omega)⟩ ?_
  refine zg_istore (L' := [(6, .int v303), (0, va_rf l0), (1, va_rf l1), (2, va_rf l2), (3, va_rf l3), (4, va_rf l4), (5, .int l5)]) ok dL_law_2976 (by decide) rfl ?_
  refine zg_aload_n ok dL_law_2978 rfl 3 rfl ?_
  refine zg_callV (vs := []) (rest := []) (rm := rm_X2_quietest) ok hRm lk_X0_358 dL_law_2979 hE (fun hE => mt_X2_quietest hl hE) rfl (Nat.le_of_ble_eq_true rfl) ⟨⟨Nat.le_of_ble_eq_true rfl, Nat.le_of_ble_eq_true rfl⟩, (by show kb + 515 + 0 ≤ 1200144; omega), (by show sb + 3090 + 0 ≤ 5496826; omega)⟩ (zg_retI (fun v304 h130 hE => ?_)) (zg_xok ok tab fin ⟨(by show kb + 515 + 0 ≤ 1200144; omega), (by show sb + 3090 + 0 ≤ 5496826; omega)⟩)
  refine zg_cost (kc2 := kb + 515) (ks2 := sb + 3090) ⟨(by show kb + 515 + 0 = kb + 515; omega), (by show sb + 3090 + 0 = sb + 3090; omega)⟩ ?_
  refine zg_istore (L' := [(7, .int v304), (6, .int v303), (0, va_rf l0), (1, va_rf l1), (2, va_rf l2), (3, va_rf l3), (4, va_rf l4), (5, .int l5)]) ok dL_law_2982 (by decide) rfl ?_
  refine zg_aload_n ok dL_law_2984 rfl 4 rfl ?_
  refine zg_callV (vs := []) (rest := []) (rm := rm_X2_thrown) ok hRm lk_X0_223 dL_law_2985 hE (fun hE => mt_X2_thrown hl hE) rfl (Nat.le_of_ble_eq_true rfl) ⟨⟨Nat.le_of_ble_eq_true rfl, Nat.le_of_ble_eq_true rfl⟩, (by show kb + 515 + 0 ≤ 1200144; omega), (by show sb + 3090 + 0 ≤ 5496826; omega)⟩ (zg_retI (fun v305 h131 hE => ?_)) (zg_xok ok tab fin ⟨(by show kb + 515 + 0 ≤ 1200144; omega), (by show sb + 3090 + 0 ≤ 5496826; omega)⟩)
  refine zg_cost (kc2 := kb + 515) (ks2 := sb + 3090) ⟨(by show kb + 515 + 0 = kb + 515; omega), (by show sb + 3090 + 0 = sb + 3090; omega)⟩ ?_
  refine zg_iload ok dL_law_2988 1 rfl ?_
  refine zg_icmp_eq (tgt := 2995) ok dL_law_2990 (by decide) hE (fun hE => ?_) (fun hE => ?_)
  · refine zg_iload ok dL_law_2995 1 rfl ?_
    refine zg_if_ne (tgt := 3012) ok dL_law_2997 (by decide) hE (fun hE => ?_) (fun hE => ?_)
    · refine zg_sub (L' := [(0, va_rf l0), (1, va_rf l1), (2, va_rf l2), (3, va_rf l3), (4, va_rf l4), (5, .int l5)]) [2, 3, 4, 5, 6, 7] rfl ?_
      exact gt_f_law_J3012 hl ok tab fin hRm hk hKE hR  hE
    · refine zg_aload_n ok dL_law_3000 rfl 5 rfl ?_
      refine zg_iconst (v := 0) ok dL_law_3001 (by decide) ?_
      refine zg_lald ok dL_law_3002 hE (fun v306 hE => ?_)
      refine zg_iload ok dL_law_3003 0 rfl ?_
      refine zg_i2l ok dL_law_3005 ?_
      refine zg_lcmp ok dL_law_3006 ?_
      refine zg_if_eq (tgt := 3012) ok dL_law_3007 (by decide) hE (fun hE => ?_) (fun hE => ?_)
      · refine zg_sub (L' := [(0, va_rf l0), (1, va_rf l1), (2, va_rf l2), (3, va_rf l3), (4, va_rf l4), (5, .int l5)]) [2, 3, 4, 5, 6, 7] rfl ?_
        exact gt_f_law_J3012 hl ok tab fin hRm hk hKE hR  hE
      · refine zg_iconst (v := 0) ok dL_law_3010 (by decide) ?_
        exact zg_zret ok fin dL_law_3011 ⟨(by omega), (by omega)⟩ rfl hE
  · refine zg_iconst (v := 0) ok dL_law_2993 (by decide) ?_
    exact zg_zret ok fin dL_law_2994 ⟨(by omega), (by omega)⟩ rfl hE
set_option maxHeartbeats 8000000 in
theorem gt_f_law_J3105 {Xc : zw_X} {Q : Int32 → zw_H → Prop} {X : String → Nat → zw_H → Prop} (hl : (zw_l Xc).stackTraces = false) (ok : zw_ok Xc cL_law "MultipoleLineLaw" "law" 9) (tab : zw_tab Xc []) (fin : zw_fin Xc (Option.some Jvm.ClassFile.FieldType.boolean) (zq_I Q) X 1200144 5496826) (hRm : zw_rm Xc = rm_law) {kb sb KE SE : Nat} (hk : kb + 1139 ≤ KE ∧ sb + 73158 ≤ SE) (hKE : KE ≤ 1200144 ∧ SE ≤ 5496826) {R : Int32 → zw_H → Prop} {l0 : Option Nat} {l1 : Option Nat} {l2 : Option Nat} {l3 : Option Nat} {l4 : Option Nat} (hR : ∀ (l5 : Int32) (h : zw_H), R l5 h → zw_G Xc (kb + 1139) (sb + 73158) 9 h 28 [(0, va_rf l0), (1, va_rf l1), (2, va_rf l2), (3, va_rf l3), (4, va_rf l4), (5, .int l5)] [])  {l5 : Int32}  {h : zw_H} (hE : f_law_J3105 (zw_Zf Xc).2.2.2 Q X R l0 l1 l2 l3 l4 l5 h) : zw_G Xc (kb + 1) (sb + 6) 9 h 3105 [(0, va_rf l0), (1, va_rf l1), (2, va_rf l2), (3, va_rf l3), (4, va_rf l4), (5, .int l5)] [] := by
  unfold f_law_J3105 at hE
  refine zg_goto (tgt := 4220) ok dL_law_3105 (by decide) ?_
  refine zg_wide (kc2 := kb + 1139) (ks2 := sb + 73158) (by omega) (by omega) ?_
  exact gt_f_law_J4220 hl ok tab fin hRm hk hKE hR  hE
set_option maxHeartbeats 8000000 in
theorem gt_f_law_J3052 {Xc : zw_X} {Q : Int32 → zw_H → Prop} {X : String → Nat → zw_H → Prop} (hl : (zw_l Xc).stackTraces = false) (ok : zw_ok Xc cL_law "MultipoleLineLaw" "law" 9) (tab : zw_tab Xc []) (fin : zw_fin Xc (Option.some Jvm.ClassFile.FieldType.boolean) (zq_I Q) X 1200144 5496826) (hRm : zw_rm Xc = rm_law) {kb sb KE SE : Nat} (hk : kb + 1139 ≤ KE ∧ sb + 73158 ≤ SE) (hKE : KE ≤ 1200144 ∧ SE ≤ 5496826) {R : Int32 → zw_H → Prop} {l0 : Option Nat} {l1 : Option Nat} {l2 : Option Nat} {l3 : Option Nat} {l4 : Option Nat} (hR : ∀ (l5 : Int32) (h : zw_H), R l5 h → zw_G Xc (kb + 1139) (sb + 73158) 9 h 28 [(0, va_rf l0), (1, va_rf l1), (2, va_rf l2), (3, va_rf l3), (4, va_rf l4), (5, .int l5)] [])  {l5 : Int32} {l6 : Int32} {s0 : Int32} {s1 : Option Nat} {h : zw_H} (hE : f_law_J3052 (zw_Zf Xc).2.2.2 Q X R l0 l1 l2 l3 l4 l5 l6 s0 s1 h) : zw_G Xc (kb + 1) (sb + 6) 9 h 3052 [(0, va_rf l0), (1, va_rf l1), (2, va_rf l2), (3, va_rf l3), (4, va_rf l4), (5, .int l5), (6, .int l6)] [.int s0, va_rf s1] := by
  unfold f_law_J3052 at hE
  refine zg_callV (vs := [zI s0]) (rest := []) (rm := rm_X2_energy) ok hRm lk_X0_362 dL_law_3052 hE (fun hE => mt_X2_energy hl hE) rfl (Nat.le_of_ble_eq_true rfl) ⟨⟨Nat.le_of_ble_eq_true rfl, Nat.le_of_ble_eq_true rfl⟩, (by show kb + 1 + 0 ≤ 1200144; omega), (by show sb + 6 + 0 ≤ 5496826; omega)⟩ (zg_retD (fun v310 h133 hE => ?_)) (zg_xok ok tab fin ⟨(by show kb + 1 + 0 ≤ 1200144; omega), (by show sb + 6 + 0 ≤ 5496826; omega)⟩)
  refine zg_cost (kc2 := kb + 1) (ks2 := sb + 6) ⟨(by show kb + 1 + 0 = kb + 1; omega), (by show sb + 6 + 0 = sb + 6; omega)⟩ ?_
  refine zg_dstore (L' := [(7, .double v310), (0, va_rf l0), (1, va_rf l1), (2, va_rf l2), (3, va_rf l3), (4, va_rf l4), (5, .int l5), (6, .int l6)]) ok dL_law_3055 (by decide) rfl ?_
  refine zg_aload_n ok dL_law_3057 rfl 3 rfl ?_
  refine zg_callV (vs := []) (rest := []) (rm := rm_X2_thrown) ok hRm lk_X0_223 dL_law_3058 hE (fun hE => mt_X2_thrown hl hE) rfl (Nat.le_of_ble_eq_true rfl) ⟨⟨Nat.le_of_ble_eq_true rfl, Nat.le_of_ble_eq_true rfl⟩, (by show kb + 1 + 0 ≤ 1200144; omega), (by show sb + 6 + 0 ≤ 5496826; omega)⟩ (zg_retI (fun v311 h134 hE => ?_)) (zg_xok ok tab fin ⟨(by show kb + 1 + 0 ≤ 1200144; omega), (by show sb + 6 + 0 ≤ 5496826; omega)⟩)
  refine zg_cost (kc2 := kb + 1) (ks2 := sb + 6) ⟨(by show kb + 1 + 0 = kb + 1; omega), (by show sb + 6 + 0 = sb + 6; omega)⟩ ?_
  refine zg_iload ok dL_law_3061 7 rfl ?_
  refine zg_icmp_eq (tgt := 3068) ok dL_law_3063 (by decide) hE (fun hE => ?_) (fun hE => ?_)
  · refine zg_iload ok dL_law_3068 7 rfl ?_
    refine zg_if_ne (tgt := 3105) ok dL_law_3070 (by decide) hE (fun hE => ?_) (fun hE => ?_)
    · refine zg_sub (L' := [(0, va_rf l0), (1, va_rf l1), (2, va_rf l2), (3, va_rf l3), (4, va_rf l4), (5, .int l5)]) [1, 2, 3, 4, 5, 6] rfl ?_
      exact gt_f_law_J3105 hl ok tab fin hRm hk hKE hR  hE
    · refine zg_aload ok dL_law_3073 5 rfl ?_
      refine zg_iconst (v := 0) ok dL_law_3075 (by decide) ?_
      refine zg_dald ok dL_law_3076 hE (fun v312 hE => ?_)
      refine zg_dload ok dL_law_3077 0 rfl ?_
      refine zg_dcmp ok dL_law_3079 ?_
      refine zg_if_eq (tgt := 3105) ok dL_law_3080 (by decide) hE (fun hE => ?_) (fun hE => ?_)
      · refine zg_sub (L' := [(0, va_rf l0), (1, va_rf l1), (2, va_rf l2), (3, va_rf l3), (4, va_rf l4), (5, .int l5)]) [1, 2, 3, 4, 5, 6] rfl ?_
        exact gt_f_law_J3105 hl ok tab fin hRm hk hKE hR  hE
      · refine zg_aload ok dL_law_3083 5 rfl ?_
        refine zg_iconst (v := 0) ok dL_law_3085 (by decide) ?_
        refine zg_dald ok dL_law_3086 hE (fun v313 hE => ?_)
        refine zg_aload ok dL_law_3087 5 rfl ?_
        refine zg_iconst (v := 0) ok dL_law_3089 (by decide) ?_
        refine zg_dald ok dL_law_3090 hE (fun v314 hE => ?_)
        refine zg_dcmp ok dL_law_3091 ?_
        refine zg_if_eq (tgt := 3103) ok dL_law_3092 (by decide) hE (fun hE => ?_) (fun hE => ?_)
        · refine zg_iconst (v := 0) ok dL_law_3103 (by decide) ?_
          exact zg_zret ok fin dL_law_3104 ⟨(by omega), (by omega)⟩ rfl hE
        · refine zg_dload ok dL_law_3095 0 rfl ?_
          refine zg_dload ok dL_law_3097 0 rfl ?_
          refine zg_dcmp ok dL_law_3099 ?_
          refine zg_if_ne (tgt := 3105) ok dL_law_3100 (by decide) hE (fun hE => ?_) (fun hE => ?_)
          · refine zg_sub (L' := [(0, va_rf l0), (1, va_rf l1), (2, va_rf l2), (3, va_rf l3), (4, va_rf l4), (5, .int l5)]) [1, 2, 3, 4, 5, 6] rfl ?_
            exact gt_f_law_J3105 hl ok tab fin hRm hk hKE hR  hE
          · refine zg_iconst (v := 0) ok dL_law_3103 (by decide) ?_
            exact zg_zret ok fin dL_law_3104 ⟨(by omega), (by omega)⟩ rfl hE
  · refine zg_iconst (v := 0) ok dL_law_3066 (by decide) ?_
    exact zg_zret ok fin dL_law_3067 ⟨(by omega), (by omega)⟩ rfl hE
set_option maxHeartbeats 8000000 in
theorem gt_f_law_J3030 {Xc : zw_X} {Q : Int32 → zw_H → Prop} {X : String → Nat → zw_H → Prop} (hl : (zw_l Xc).stackTraces = false) (ok : zw_ok Xc cL_law "MultipoleLineLaw" "law" 9) (tab : zw_tab Xc []) (fin : zw_fin Xc (Option.some Jvm.ClassFile.FieldType.boolean) (zq_I Q) X 1200144 5496826) (hRm : zw_rm Xc = rm_law) {kb sb KE SE : Nat} (hk : kb + 1139 ≤ KE ∧ sb + 73158 ≤ SE) (hKE : KE ≤ 1200144 ∧ SE ≤ 5496826) {R : Int32 → zw_H → Prop} {l0 : Option Nat} {l1 : Option Nat} {l2 : Option Nat} {l3 : Option Nat} {l4 : Option Nat} (hR : ∀ (l5 : Int32) (h : zw_H), R l5 h → zw_G Xc (kb + 1139) (sb + 73158) 9 h 28 [(0, va_rf l0), (1, va_rf l1), (2, va_rf l2), (3, va_rf l3), (4, va_rf l4), (5, .int l5)] [])  {l5 : Int32} {s0 : Int32} {s1 : Option Nat} {h : zw_H} (hE : f_law_J3030 (zw_Zf Xc).2.2.2 Q X R l0 l1 l2 l3 l4 l5 s0 s1 h) : zw_G Xc kb sb 9 h 3030 [(0, va_rf l0), (1, va_rf l1), (2, va_rf l2), (3, va_rf l3), (4, va_rf l4), (5, .int l5)] [.int s0, va_rf s1] := by
  unfold f_law_J3030 at hE
  refine zg_aload ok dL_law_3030 4 rfl ?_
  refine zg_callSX (vs := [zA s1, zI s0, zA l4]) (rest := []) (rm := rm_X0_energy) ok hRm lk_X0_359 dL_law_3032 hE (fun hE => mt_X0_energy hl hE) rfl (Nat.le_of_ble_eq_true rfl) ⟨⟨Nat.le_of_ble_eq_true rfl, Nat.le_of_ble_eq_true rfl⟩, (by show kb + 1 ≤ 1200144; omega), (by show sb + 6 ≤ 5496826; omega)⟩ (zg_retI (fun v308 h132 hE => ?_)) (zg_xok ok tab fin ⟨(by show kb + 1 ≤ 1200144; omega), (by show sb + 6 ≤ 5496826; omega)⟩)
  refine zg_cost (kc2 := kb + 1) (ks2 := sb + 6) ⟨(by show kb + 1 = kb + 1; omega), (by show sb + 6 = sb + 6; omega)⟩ ?_
  refine zg_istore (L' := [(6, .int v308), (0, va_rf l0), (1, va_rf l1), (2, va_rf l2), (3, va_rf l3), (4, va_rf l4), (5, .int l5)]) ok dL_law_3035 (by decide) rfl ?_
  refine zg_aload_n ok dL_law_3037 rfl 3 rfl ?_
  refine zg_aload_n ok dL_law_3038 rfl 1 rfl ?_
  refine zg_iload ok dL_law_3039 6 rfl ?_
  refine zg_iconst (v := 1) ok dL_law_3041 (by decide) ?_
  refine zg_iadd ok dL_law_3042 ?_
  refine zg_iald ok dL_law_3043 hE (fun v309 hE => ?_)
  refine zg_if_eq (tgt := 3051) ok dL_law_3044 (by decide) hE (fun hE => ?_) (fun hE => ?_)
  · refine zg_iconst (v := 0) ok dL_law_3051 (by decide) ?_
    refine zg_sub (L' := [(0, va_rf l0), (1, va_rf l1), (2, va_rf l2), (3, va_rf l3), (4, va_rf l4), (5, .int l5), (6, .int v308)]) [1, 2, 3, 4, 5, 6, 0] rfl ?_
    exact gt_f_law_J3052 hl ok tab fin hRm hk hKE hR  hE
  · refine zg_iconst (v := 1) ok dL_law_3047 (by decide) ?_
    refine zg_goto (tgt := 3052) ok dL_law_3048 (by decide) ?_
    refine zg_sub (L' := [(0, va_rf l0), (1, va_rf l1), (2, va_rf l2), (3, va_rf l3), (4, va_rf l4), (5, .int l5), (6, .int v308)]) [1, 2, 3, 4, 5, 6, 0] rfl ?_
    exact gt_f_law_J3052 hl ok tab fin hRm hk hKE hR  hE
set_option maxHeartbeats 8000000 in
theorem gt_f_law_J3015 {Xc : zw_X} {Q : Int32 → zw_H → Prop} {X : String → Nat → zw_H → Prop} (hl : (zw_l Xc).stackTraces = false) (ok : zw_ok Xc cL_law "MultipoleLineLaw" "law" 9) (tab : zw_tab Xc []) (fin : zw_fin Xc (Option.some Jvm.ClassFile.FieldType.boolean) (zq_I Q) X 1200144 5496826) (hRm : zw_rm Xc = rm_law) {kb sb KE SE : Nat} (hk : kb + 1139 ≤ KE ∧ sb + 73158 ≤ SE) (hKE : KE ≤ 1200144 ∧ SE ≤ 5496826) {R : Int32 → zw_H → Prop} {l0 : Option Nat} {l1 : Option Nat} {l2 : Option Nat} {l3 : Option Nat} {l4 : Option Nat} (hR : ∀ (l5 : Int32) (h : zw_H), R l5 h → zw_G Xc (kb + 1139) (sb + 73158) 9 h 28 [(0, va_rf l0), (1, va_rf l1), (2, va_rf l2), (3, va_rf l3), (4, va_rf l4), (5, .int l5)] [])  {l5 : Int32}  {h : zw_H} (hE : f_law_J3015 (zw_Zf Xc).2.2.2 Q X R l0 l1 l2 l3 l4 l5 h) : zw_G Xc kb sb 9 h 3015 [(0, va_rf l0), (1, va_rf l1), (2, va_rf l2), (3, va_rf l3), (4, va_rf l4), (5, .int l5)] [] := by
  unfold f_law_J3015 at hE
  refine zg_aload_n ok dL_law_3015 rfl 1 rfl ?_
  refine zg_aload_n ok dL_law_3016 rfl 0 rfl ?_
  refine zg_iload ok dL_law_3017 5 rfl ?_
  refine zg_iconst (v := 1) ok dL_law_3019 (by decide) ?_
  refine zg_iadd ok dL_law_3020 ?_
  refine zg_iald ok dL_law_3021 hE (fun v307 hE => ?_)
  refine zg_if_eq (tgt := 3029) ok dL_law_3022 (by decide) hE (fun hE => ?_) (fun hE => ?_)
  · refine zg_iconst (v := 0) ok dL_law_3029 (by decide) ?_
    exact gt_f_law_J3030 hl ok tab fin hRm hk hKE hR  hE
  · refine zg_iconst (v := 1) ok dL_law_3025 (by decide) ?_
    refine zg_goto (tgt := 3030) ok dL_law_3026 (by decide) ?_
    exact gt_f_law_J3030 hl ok tab fin hRm hk hKE hR  hE
set_option maxHeartbeats 8000000 in
theorem gt_f_law_J3161 {Xc : zw_X} {Q : Int32 → zw_H → Prop} {X : String → Nat → zw_H → Prop} (hl : (zw_l Xc).stackTraces = false) (ok : zw_ok Xc cL_law "MultipoleLineLaw" "law" 9) (tab : zw_tab Xc []) (fin : zw_fin Xc (Option.some Jvm.ClassFile.FieldType.boolean) (zq_I Q) X 1200144 5496826) (hRm : zw_rm Xc = rm_law) {kb sb KE SE : Nat} (hk : kb + 1139 ≤ KE ∧ sb + 73158 ≤ SE) (hKE : KE ≤ 1200144 ∧ SE ≤ 5496826) {R : Int32 → zw_H → Prop} {l0 : Option Nat} {l1 : Option Nat} {l2 : Option Nat} {l3 : Option Nat} {l4 : Option Nat} (hR : ∀ (l5 : Int32) (h : zw_H), R l5 h → zw_G Xc (kb + 1139) (sb + 73158) 9 h 28 [(0, va_rf l0), (1, va_rf l1), (2, va_rf l2), (3, va_rf l3), (4, va_rf l4), (5, .int l5)] [])  {l5 : Int32}  {h : zw_H} (hE : f_law_J3161 (zw_Zf Xc).2.2.2 Q X R l0 l1 l2 l3 l4 l5 h) : zw_G Xc (kb + 2) (sb + 12) 9 h 3161 [(0, va_rf l0), (1, va_rf l1), (2, va_rf l2), (3, va_rf l3), (4, va_rf l4), (5, .int l5)] [] := by
  unfold f_law_J3161 at hE
  refine zg_goto (tgt := 4220) ok dL_law_3161 (by decide) ?_
  refine zg_wide (kc2 := kb + 1139) (ks2 := sb + 73158) (by omega) (by omega) ?_
  exact gt_f_law_J4220 hl ok tab fin hRm hk hKE hR  hE
set_option maxHeartbeats 8000000 in
theorem gt_f_law_J3108 {Xc : zw_X} {Q : Int32 → zw_H → Prop} {X : String → Nat → zw_H → Prop} (hl : (zw_l Xc).stackTraces = false) (ok : zw_ok Xc cL_law "MultipoleLineLaw" "law" 9) (tab : zw_tab Xc []) (fin : zw_fin Xc (Option.some Jvm.ClassFile.FieldType.boolean) (zq_I Q) X 1200144 5496826) (hRm : zw_rm Xc = rm_law) {kb sb KE SE : Nat} (hk : kb + 1139 ≤ KE ∧ sb + 73158 ≤ SE) (hKE : KE ≤ 1200144 ∧ SE ≤ 5496826) {R : Int32 → zw_H → Prop} {l0 : Option Nat} {l1 : Option Nat} {l2 : Option Nat} {l3 : Option Nat} {l4 : Option Nat} (hR : ∀ (l5 : Int32) (h : zw_H), R l5 h → zw_G Xc (kb + 1139) (sb + 73158) 9 h 28 [(0, va_rf l0), (1, va_rf l1), (2, va_rf l2), (3, va_rf l3), (4, va_rf l4), (5, .int l5)] [])  {l5 : Int32}  {h : zw_H} (hE : f_law_J3108 (zw_Zf Xc).2.2.2 Q X R l0 l1 l2 l3 l4 l5 h) : zw_G Xc kb sb 9 h 3108 [(0, va_rf l0), (1, va_rf l1), (2, va_rf l2), (3, va_rf l3), (4, va_rf l4), (5, .int l5)] [] := by
  unfold f_law_J3108 at hE
  refine zg_aload_n ok dL_law_3108 rfl 1 rfl ?_
  refine zg_aload_n ok dL_law_3109 rfl 0 rfl ?_
  refine zg_iload ok dL_law_3110 5 rfl ?_
  refine zg_iconst (v := 1) ok dL_law_3112 (by decide) ?_
  refine zg_iadd ok dL_law_3113 ?_
  refine zg_iald ok dL_law_3114 hE (fun v315 hE => ?_)
  refine zg_aload_n ok dL_law_3115 rfl 3 rfl ?_
  refine zg_callSX (vs := [zA l1, zI v315, zA l3]) (rest := []) (rm := rm_X0_nearestZero) ok hRm lk_X0_363 dL_law_3116 hE (fun hE => mt_X0_nearestZero hl hE) rfl (Nat.le_of_ble_eq_true rfl) ⟨⟨Nat.le_of_ble_eq_true rfl, Nat.le_of_ble_eq_true rfl⟩, (by show kb + 2 ≤ 1200144; omega), (by show sb + 12 ≤ 5496826; omega)⟩ (zg_retI (fun v316 h135 hE => ?_)) (zg_xok ok tab fin ⟨(by show kb + 2 ≤ 1200144; omega), (by show sb + 12 ≤ 5496826; omega)⟩)
  refine zg_cost (kc2 := kb + 2) (ks2 := sb + 12) ⟨(by show kb + 2 = kb + 2; omega), (by show sb + 12 = sb + 12; omega)⟩ ?_
  refine zg_istore (L' := [(6, .int v316), (0, va_rf l0), (1, va_rf l1), (2, va_rf l2), (3, va_rf l3), (4, va_rf l4), (5, .int l5)]) ok dL_law_3119 (by decide) rfl ?_
  refine zg_aload_n ok dL_law_3121 rfl 3 rfl ?_
  refine zg_aload_n ok dL_law_3122 rfl 1 rfl ?_
  refine zg_iload ok dL_law_3123 6 rfl ?_
  refine zg_iconst (v := 1) ok dL_law_3125 (by decide) ?_
  refine zg_iadd ok dL_law_3126 ?_
  refine zg_iald ok dL_law_3127 hE (fun v317 hE => ?_)
  refine zg_callV (vs := [zI v317]) (rest := []) (rm := rm_X2_nearestZero) ok hRm lk_X0_365 dL_law_3128 hE (fun hE => mt_X2_nearestZero hl hE) rfl (Nat.le_of_ble_eq_true rfl) ⟨⟨Nat.le_of_ble_eq_true rfl, Nat.le_of_ble_eq_true rfl⟩, (by show kb + 2 + 0 ≤ 1200144; omega), (by show sb + 12 + 0 ≤ 5496826; omega)⟩ (zg_retI (fun v318 h136 hE => ?_)) (zg_xok ok tab fin ⟨(by show kb + 2 + 0 ≤ 1200144; omega), (by show sb + 12 + 0 ≤ 5496826; omega)⟩)
  refine zg_cost (kc2 := kb + 2) (ks2 := sb + 12) ⟨(by show kb + 2 + 0 = kb + 2; omega), (by show sb + 12 + 0 = sb + 12; omega)⟩ ?_
  refine zg_istore (L' := [(7, .int v318), (6, .int v316), (0, va_rf l0), (1, va_rf l1), (2, va_rf l2), (3, va_rf l3), (4, va_rf l4), (5, .int l5)]) ok dL_law_3131 (by decide) rfl ?_
  refine zg_aload_n ok dL_law_3133 rfl 4 rfl ?_
  refine zg_callV (vs := []) (rest := []) (rm := rm_X2_thrown) ok hRm lk_X0_223 dL_law_3134 hE (fun hE => mt_X2_thrown hl hE) rfl (Nat.le_of_ble_eq_true rfl) ⟨⟨Nat.le_of_ble_eq_true rfl, Nat.le_of_ble_eq_true rfl⟩, (by show kb + 2 + 0 ≤ 1200144; omega), (by show sb + 12 + 0 ≤ 5496826; omega)⟩ (zg_retI (fun v319 h137 hE => ?_)) (zg_xok ok tab fin ⟨(by show kb + 2 + 0 ≤ 1200144; omega), (by show sb + 12 + 0 ≤ 5496826; omega)⟩)
  refine zg_cost (kc2 := kb + 2) (ks2 := sb + 12) ⟨(by show kb + 2 + 0 = kb + 2; omega), (by show sb + 12 + 0 = sb + 12; omega)⟩ ?_
  refine zg_iload ok dL_law_3137 1 rfl ?_
  refine zg_icmp_eq (tgt := 3144) ok dL_law_3139 (by decide) hE (fun hE => ?_) (fun hE => ?_)
  · refine zg_iload ok dL_law_3144 1 rfl ?_
    refine zg_if_ne (tgt := 3161) ok dL_law_3146 (by decide) hE (fun hE => ?_) (fun hE => ?_)
    · refine zg_sub (L' := [(0, va_rf l0), (1, va_rf l1), (2, va_rf l2), (3, va_rf l3), (4, va_rf l4), (5, .int l5)]) [2, 3, 4, 5, 6, 7] rfl ?_
      exact gt_f_law_J3161 hl ok tab fin hRm hk hKE hR  hE
    · refine zg_aload_n ok dL_law_3149 rfl 5 rfl ?_
      refine zg_iconst (v := 0) ok dL_law_3150 (by decide) ?_
      refine zg_lald ok dL_law_3151 hE (fun v320 hE => ?_)
      refine zg_iload ok dL_law_3152 0 rfl ?_
      refine zg_i2l ok dL_law_3154 ?_
      refine zg_lcmp ok dL_law_3155 ?_
      refine zg_if_eq (tgt := 3161) ok dL_law_3156 (by decide) hE (fun hE => ?_) (fun hE => ?_)
      · refine zg_sub (L' := [(0, va_rf l0), (1, va_rf l1), (2, va_rf l2), (3, va_rf l3), (4, va_rf l4), (5, .int l5)]) [2, 3, 4, 5, 6, 7] rfl ?_
        exact gt_f_law_J3161 hl ok tab fin hRm hk hKE hR  hE
      · refine zg_iconst (v := 0) ok dL_law_3159 (by decide) ?_
        exact zg_zret ok fin dL_law_3160 ⟨(by omega), (by omega)⟩ rfl hE
  · refine zg_iconst (v := 0) ok dL_law_3142 (by decide) ?_
    exact zg_zret ok fin dL_law_3143 ⟨(by omega), (by omega)⟩ rfl hE
set_option maxHeartbeats 8000000 in
theorem gt_f_law_J3217 {Xc : zw_X} {Q : Int32 → zw_H → Prop} {X : String → Nat → zw_H → Prop} (hl : (zw_l Xc).stackTraces = false) (ok : zw_ok Xc cL_law "MultipoleLineLaw" "law" 9) (tab : zw_tab Xc []) (fin : zw_fin Xc (Option.some Jvm.ClassFile.FieldType.boolean) (zq_I Q) X 1200144 5496826) (hRm : zw_rm Xc = rm_law) {kb sb KE SE : Nat} (hk : kb + 1139 ≤ KE ∧ sb + 73158 ≤ SE) (hKE : KE ≤ 1200144 ∧ SE ≤ 5496826) {R : Int32 → zw_H → Prop} {l0 : Option Nat} {l1 : Option Nat} {l2 : Option Nat} {l3 : Option Nat} {l4 : Option Nat} (hR : ∀ (l5 : Int32) (h : zw_H), R l5 h → zw_G Xc (kb + 1139) (sb + 73158) 9 h 28 [(0, va_rf l0), (1, va_rf l1), (2, va_rf l2), (3, va_rf l3), (4, va_rf l4), (5, .int l5)] [])  {l5 : Int32}  {h : zw_H} (hE : f_law_J3217 (zw_Zf Xc).2.2.2 Q X R l0 l1 l2 l3 l4 l5 h) : zw_G Xc (kb + 2) (sb + 12) 9 h 3217 [(0, va_rf l0), (1, va_rf l1), (2, va_rf l2), (3, va_rf l3), (4, va_rf l4), (5, .int l5)] [] := by
  unfold f_law_J3217 at hE
  refine zg_goto (tgt := 4220) ok dL_law_3217 (by decide) ?_
  refine zg_wide (kc2 := kb + 1139) (ks2 := sb + 73158) (by omega) (by omega) ?_
  exact gt_f_law_J4220 hl ok tab fin hRm hk hKE hR  hE
set_option maxHeartbeats 8000000 in
theorem gt_f_law_J3164 {Xc : zw_X} {Q : Int32 → zw_H → Prop} {X : String → Nat → zw_H → Prop} (hl : (zw_l Xc).stackTraces = false) (ok : zw_ok Xc cL_law "MultipoleLineLaw" "law" 9) (tab : zw_tab Xc []) (fin : zw_fin Xc (Option.some Jvm.ClassFile.FieldType.boolean) (zq_I Q) X 1200144 5496826) (hRm : zw_rm Xc = rm_law) {kb sb KE SE : Nat} (hk : kb + 1139 ≤ KE ∧ sb + 73158 ≤ SE) (hKE : KE ≤ 1200144 ∧ SE ≤ 5496826) {R : Int32 → zw_H → Prop} {l0 : Option Nat} {l1 : Option Nat} {l2 : Option Nat} {l3 : Option Nat} {l4 : Option Nat} (hR : ∀ (l5 : Int32) (h : zw_H), R l5 h → zw_G Xc (kb + 1139) (sb + 73158) 9 h 28 [(0, va_rf l0), (1, va_rf l1), (2, va_rf l2), (3, va_rf l3), (4, va_rf l4), (5, .int l5)] [])  {l5 : Int32}  {h : zw_H} (hE : f_law_J3164 (zw_Zf Xc).2.2.2 Q X R l0 l1 l2 l3 l4 l5 h) : zw_G Xc kb sb 9 h 3164 [(0, va_rf l0), (1, va_rf l1), (2, va_rf l2), (3, va_rf l3), (4, va_rf l4), (5, .int l5)] [] := by
  unfold f_law_J3164 at hE
  refine zg_aload_n ok dL_law_3164 rfl 1 rfl ?_
  refine zg_aload_n ok dL_law_3165 rfl 0 rfl ?_
  refine zg_iload ok dL_law_3166 5 rfl ?_
  refine zg_iconst (v := 1) ok dL_law_3168 (by decide) ?_
  refine zg_iadd ok dL_law_3169 ?_
  refine zg_iald ok dL_law_3170 hE (fun v321 hE => ?_)
  refine zg_aload_n ok dL_law_3171 rfl 3 rfl ?_
  refine zg_callSX (vs := [zA l1, zI v321, zA l3]) (rest := []) (rm := rm_X0_pairs) ok hRm lk_X0_366 dL_law_3172 hE (fun hE => mt_X0_pairs hl hE) rfl (Nat.le_of_ble_eq_true rfl) ⟨⟨Nat.le_of_ble_eq_true rfl, Nat.le_of_ble_eq_true rfl⟩, (by show kb + 2 ≤ 1200144; omega), (by show sb + 12 ≤ 5496826; omega)⟩ (zg_retI (fun v322 h138 hE => ?_)) (zg_xok ok tab fin ⟨(by show kb + 2 ≤ 1200144; omega), (by show sb + 12 ≤ 5496826; omega)⟩)
  refine zg_cost (kc2 := kb + 2) (ks2 := sb + 12) ⟨(by show kb + 2 = kb + 2; omega), (by show sb + 12 = sb + 12; omega)⟩ ?_
  refine zg_istore (L' := [(6, .int v322), (0, va_rf l0), (1, va_rf l1), (2, va_rf l2), (3, va_rf l3), (4, va_rf l4), (5, .int l5)]) ok dL_law_3175 (by decide) rfl ?_
  refine zg_aload_n ok dL_law_3177 rfl 3 rfl ?_
  refine zg_aload_n ok dL_law_3178 rfl 1 rfl ?_
  refine zg_iload ok dL_law_3179 6 rfl ?_
  refine zg_iconst (v := 1) ok dL_law_3181 (by decide) ?_
  refine zg_iadd ok dL_law_3182 ?_
  refine zg_iald ok dL_law_3183 hE (fun v323 hE => ?_)
  refine zg_callV (vs := [zI v323]) (rest := []) (rm := rm_X2_pairs) ok hRm lk_X0_368 dL_law_3184 hE (fun hE => mt_X2_pairs hl hE) rfl (Nat.le_of_ble_eq_true rfl) ⟨⟨Nat.le_of_ble_eq_true rfl, Nat.le_of_ble_eq_true rfl⟩, (by show kb + 2 + 0 ≤ 1200144; omega), (by show sb + 12 + 0 ≤ 5496826; omega)⟩ (zg_retI (fun v324 h139 hE => ?_)) (zg_xok ok tab fin ⟨(by show kb + 2 + 0 ≤ 1200144; omega), (by show sb + 12 + 0 ≤ 5496826; omega)⟩)
  refine zg_cost (kc2 := kb + 2) (ks2 := sb + 12) ⟨(by show kb + 2 + 0 = kb + 2; omega), (by show sb + 12 + 0 = sb + 12; omega)⟩ ?_
  refine zg_istore (L' := [(7, .int v324), (6, .int v322), (0, va_rf l0), (1, va_rf l1), (2, va_rf l2), (3, va_rf l3), (4, va_rf l4), (5, .int l5)]) ok dL_law_3187 (by decide) rfl ?_
  refine zg_aload_n ok dL_law_3189 rfl 4 rfl ?_
  refine zg_callV (vs := []) (rest := []) (rm := rm_X2_thrown) ok hRm lk_X0_223 dL_law_3190 hE (fun hE => mt_X2_thrown hl hE) rfl (Nat.le_of_ble_eq_true rfl) ⟨⟨Nat.le_of_ble_eq_true rfl, Nat.le_of_ble_eq_true rfl⟩, (by show kb + 2 + 0 ≤ 1200144; omega), (by show sb + 12 + 0 ≤ 5496826; omega)⟩ (zg_retI (fun v325 h140 hE => ?_)) (zg_xok ok tab fin ⟨(by show kb + 2 + 0 ≤ 1200144; omega), (by show sb + 12 + 0 ≤ 5496826; omega)⟩)
  refine zg_cost (kc2 := kb + 2) (ks2 := sb + 12) ⟨(by show kb + 2 + 0 = kb + 2; omega), (by show sb + 12 + 0 = sb + 12; omega)⟩ ?_
  refine zg_iload ok dL_law_3193 1 rfl ?_
  refine zg_icmp_eq (tgt := 3200) ok dL_law_3195 (by decide) hE (fun hE => ?_) (fun hE => ?_)
  · refine zg_iload ok dL_law_3200 1 rfl ?_
    refine zg_if_ne (tgt := 3217) ok dL_law_3202 (by decide) hE (fun hE => ?_) (fun hE => ?_)
    · refine zg_sub (L' := [(0, va_rf l0), (1, va_rf l1), (2, va_rf l2), (3, va_rf l3), (4, va_rf l4), (5, .int l5)]) [2, 3, 4, 5, 6, 7] rfl ?_
      exact gt_f_law_J3217 hl ok tab fin hRm hk hKE hR  hE
    · refine zg_aload_n ok dL_law_3205 rfl 5 rfl ?_
      refine zg_iconst (v := 0) ok dL_law_3206 (by decide) ?_
      refine zg_lald ok dL_law_3207 hE (fun v326 hE => ?_)
      refine zg_iload ok dL_law_3208 0 rfl ?_
      refine zg_i2l ok dL_law_3210 ?_
      refine zg_lcmp ok dL_law_3211 ?_
      refine zg_if_eq (tgt := 3217) ok dL_law_3212 (by decide) hE (fun hE => ?_) (fun hE => ?_)
      · refine zg_sub (L' := [(0, va_rf l0), (1, va_rf l1), (2, va_rf l2), (3, va_rf l3), (4, va_rf l4), (5, .int l5)]) [2, 3, 4, 5, 6, 7] rfl ?_
        exact gt_f_law_J3217 hl ok tab fin hRm hk hKE hR  hE
      · refine zg_iconst (v := 0) ok dL_law_3215 (by decide) ?_
        exact zg_zret ok fin dL_law_3216 ⟨(by omega), (by omega)⟩ rfl hE
  · refine zg_iconst (v := 0) ok dL_law_3198 (by decide) ?_
    exact zg_zret ok fin dL_law_3199 ⟨(by omega), (by omega)⟩ rfl hE
set_option maxHeartbeats 8000000 in
theorem gt_f_law_J3283 {Xc : zw_X} {Q : Int32 → zw_H → Prop} {X : String → Nat → zw_H → Prop} (hl : (zw_l Xc).stackTraces = false) (ok : zw_ok Xc cL_law "MultipoleLineLaw" "law" 9) (tab : zw_tab Xc []) (fin : zw_fin Xc (Option.some Jvm.ClassFile.FieldType.boolean) (zq_I Q) X 1200144 5496826) (hRm : zw_rm Xc = rm_law) {kb sb KE SE : Nat} (hk : kb + 1139 ≤ KE ∧ sb + 73158 ≤ SE) (hKE : KE ≤ 1200144 ∧ SE ≤ 5496826) {R : Int32 → zw_H → Prop} {l0 : Option Nat} {l1 : Option Nat} {l2 : Option Nat} {l3 : Option Nat} {l4 : Option Nat} (hR : ∀ (l5 : Int32) (h : zw_H), R l5 h → zw_G Xc (kb + 1139) (sb + 73158) 9 h 28 [(0, va_rf l0), (1, va_rf l1), (2, va_rf l2), (3, va_rf l3), (4, va_rf l4), (5, .int l5)] [])  {l5 : Int32}  {h : zw_H} (hE : f_law_J3283 (zw_Zf Xc).2.2.2 Q X R l0 l1 l2 l3 l4 l5 h) : zw_G Xc (kb + 1) (sb + 6) 9 h 3283 [(0, va_rf l0), (1, va_rf l1), (2, va_rf l2), (3, va_rf l3), (4, va_rf l4), (5, .int l5)] [] := by
  unfold f_law_J3283 at hE
  refine zg_goto (tgt := 4220) ok dL_law_3283 (by decide) ?_
  refine zg_wide (kc2 := kb + 1139) (ks2 := sb + 73158) (by omega) (by omega) ?_
  exact gt_f_law_J4220 hl ok tab fin hRm hk hKE hR  hE
set_option maxHeartbeats 8000000 in
theorem gt_f_law_J3220 {Xc : zw_X} {Q : Int32 → zw_H → Prop} {X : String → Nat → zw_H → Prop} (hl : (zw_l Xc).stackTraces = false) (ok : zw_ok Xc cL_law "MultipoleLineLaw" "law" 9) (tab : zw_tab Xc []) (fin : zw_fin Xc (Option.some Jvm.ClassFile.FieldType.boolean) (zq_I Q) X 1200144 5496826) (hRm : zw_rm Xc = rm_law) {kb sb KE SE : Nat} (hk : kb + 1139 ≤ KE ∧ sb + 73158 ≤ SE) (hKE : KE ≤ 1200144 ∧ SE ≤ 5496826) {R : Int32 → zw_H → Prop} {l0 : Option Nat} {l1 : Option Nat} {l2 : Option Nat} {l3 : Option Nat} {l4 : Option Nat} (hR : ∀ (l5 : Int32) (h : zw_H), R l5 h → zw_G Xc (kb + 1139) (sb + 73158) 9 h 28 [(0, va_rf l0), (1, va_rf l1), (2, va_rf l2), (3, va_rf l3), (4, va_rf l4), (5, .int l5)] [])  {l5 : Int32}  {h : zw_H} (hE : f_law_J3220 (zw_Zf Xc).2.2.2 Q X R l0 l1 l2 l3 l4 l5 h) : zw_G Xc kb sb 9 h 3220 [(0, va_rf l0), (1, va_rf l1), (2, va_rf l2), (3, va_rf l3), (4, va_rf l4), (5, .int l5)] [] := by
  unfold f_law_J3220 at hE
  refine zg_aload_n ok dL_law_3220 rfl 1 rfl ?_
  refine zg_aload ok dL_law_3221 4 rfl ?_
  refine zg_callSX (vs := [zA l1, zA l4]) (rest := []) (rm := rm_X0_balance) ok hRm lk_X0_369 dL_law_3223 hE (fun hE => mt_X0_balance hl hE) rfl (Nat.le_of_ble_eq_true rfl) ⟨⟨Nat.le_of_ble_eq_true rfl, Nat.le_of_ble_eq_true rfl⟩, (by show kb + 1 ≤ 1200144; omega), (by show sb + 6 ≤ 5496826; omega)⟩ (zg_retI (fun v327 h141 hE => ?_)) (zg_xok ok tab fin ⟨(by show kb + 1 ≤ 1200144; omega), (by show sb + 6 ≤ 5496826; omega)⟩)
  refine zg_cost (kc2 := kb + 1) (ks2 := sb + 6) ⟨(by show kb + 1 = kb + 1; omega), (by show sb + 6 = sb + 6; omega)⟩ ?_
  refine zg_istore (L' := [(6, .int v327), (0, va_rf l0), (1, va_rf l1), (2, va_rf l2), (3, va_rf l3), (4, va_rf l4), (5, .int l5)]) ok dL_law_3226 (by decide) rfl ?_
  refine zg_aload_n ok dL_law_3228 rfl 3 rfl ?_
  refine zg_callV (vs := []) (rest := []) (rm := rm_X2_balance) ok hRm lk_X0_372 dL_law_3229 hE (fun hE => mt_X2_balance hl hE) rfl (Nat.le_of_ble_eq_true rfl) ⟨⟨Nat.le_of_ble_eq_true rfl, Nat.le_of_ble_eq_true rfl⟩, (by show kb + 1 + 0 ≤ 1200144; omega), (by show sb + 6 + 0 ≤ 5496826; omega)⟩ (zg_retF (fun v328 h142 hE => ?_)) (zg_xok ok tab fin ⟨(by show kb + 1 + 0 ≤ 1200144; omega), (by show sb + 6 + 0 ≤ 5496826; omega)⟩)
  refine zg_cost (kc2 := kb + 1) (ks2 := sb + 6) ⟨(by show kb + 1 + 0 = kb + 1; omega), (by show sb + 6 + 0 = sb + 6; omega)⟩ ?_
  refine zg_fstore (L' := [(7, .float v328), (6, .int v327), (0, va_rf l0), (1, va_rf l1), (2, va_rf l2), (3, va_rf l3), (4, va_rf l4), (5, .int l5)]) ok dL_law_3232 (by decide) rfl ?_
  refine zg_aload_n ok dL_law_3234 rfl 4 rfl ?_
  refine zg_callV (vs := []) (rest := []) (rm := rm_X2_thrown) ok hRm lk_X0_223 dL_law_3235 hE (fun hE => mt_X2_thrown hl hE) rfl (Nat.le_of_ble_eq_true rfl) ⟨⟨Nat.le_of_ble_eq_true rfl, Nat.le_of_ble_eq_true rfl⟩, (by show kb + 1 + 0 ≤ 1200144; omega), (by show sb + 6 + 0 ≤ 5496826; omega)⟩ (zg_retI (fun v329 h143 hE => ?_)) (zg_xok ok tab fin ⟨(by show kb + 1 + 0 ≤ 1200144; omega), (by show sb + 6 + 0 ≤ 5496826; omega)⟩)
  refine zg_cost (kc2 := kb + 1) (ks2 := sb + 6) ⟨(by show kb + 1 + 0 = kb + 1; omega), (by show sb + 6 + 0 = sb + 6; omega)⟩ ?_
  refine zg_iload ok dL_law_3238 1 rfl ?_
  refine zg_icmp_eq (tgt := 3245) ok dL_law_3240 (by decide) hE (fun hE => ?_) (fun hE => ?_)
  · refine zg_iload ok dL_law_3245 1 rfl ?_
    refine zg_if_ne (tgt := 3283) ok dL_law_3247 (by decide) hE (fun hE => ?_) (fun hE => ?_)
    · refine zg_sub (L' := [(0, va_rf l0), (1, va_rf l1), (2, va_rf l2), (3, va_rf l3), (4, va_rf l4), (5, .int l5)]) [2, 3, 4, 5, 6, 7] rfl ?_
      exact gt_f_law_J3283 hl ok tab fin hRm hk hKE hR  hE
    · refine zg_aload ok dL_law_3250 6 rfl ?_
      refine zg_iconst (v := 0) ok dL_law_3252 (by decide) ?_
      refine zg_dald ok dL_law_3253 hE (fun v330 hE => ?_)
      refine zg_fload ok dL_law_3254 0 rfl ?_
      refine zg_f2dE ok dL_law_3256 hE (fun hE => ?_)
      refine zg_dcmp ok dL_law_3257 ?_
      refine zg_if_eq (tgt := 3283) ok dL_law_3258 (by decide) hE (fun hE => ?_) (fun hE => ?_)
      · refine zg_sub (L' := [(0, va_rf l0), (1, va_rf l1), (2, va_rf l2), (3, va_rf l3), (4, va_rf l4), (5, .int l5)]) [2, 3, 4, 5, 6, 7] rfl ?_
        exact gt_f_law_J3283 hl ok tab fin hRm hk hKE hR  hE
      · refine zg_aload ok dL_law_3261 6 rfl ?_
        refine zg_iconst (v := 0) ok dL_law_3263 (by decide) ?_
        refine zg_dald ok dL_law_3264 hE (fun v331 hE => ?_)
        refine zg_aload ok dL_law_3265 6 rfl ?_
        refine zg_iconst (v := 0) ok dL_law_3267 (by decide) ?_
        refine zg_dald ok dL_law_3268 hE (fun v332 hE => ?_)
        refine zg_dcmp ok dL_law_3269 ?_
        refine zg_if_eq (tgt := 3281) ok dL_law_3270 (by decide) hE (fun hE => ?_) (fun hE => ?_)
        · refine zg_iconst (v := 0) ok dL_law_3281 (by decide) ?_
          exact zg_zret ok fin dL_law_3282 ⟨(by omega), (by omega)⟩ rfl hE
        · refine zg_fload ok dL_law_3273 0 rfl ?_
          refine zg_fload ok dL_law_3275 0 rfl ?_
          refine zg_fcmp ok dL_law_3277 ?_
          refine zg_if_ne (tgt := 3283) ok dL_law_3278 (by decide) hE (fun hE => ?_) (fun hE => ?_)
          · refine zg_sub (L' := [(0, va_rf l0), (1, va_rf l1), (2, va_rf l2), (3, va_rf l3), (4, va_rf l4), (5, .int l5)]) [2, 3, 4, 5, 6, 7] rfl ?_
            exact gt_f_law_J3283 hl ok tab fin hRm hk hKE hR  hE
          · refine zg_iconst (v := 0) ok dL_law_3281 (by decide) ?_
            exact zg_zret ok fin dL_law_3282 ⟨(by omega), (by omega)⟩ rfl hE
  · refine zg_iconst (v := 0) ok dL_law_3243 (by decide) ?_
    exact zg_zret ok fin dL_law_3244 ⟨(by omega), (by omega)⟩ rfl hE
set_option maxHeartbeats 8000000 in
theorem gt_f_law_J3327 {Xc : zw_X} {Q : Int32 → zw_H → Prop} {X : String → Nat → zw_H → Prop} (hl : (zw_l Xc).stackTraces = false) (ok : zw_ok Xc cL_law "MultipoleLineLaw" "law" 9) (tab : zw_tab Xc []) (fin : zw_fin Xc (Option.some Jvm.ClassFile.FieldType.boolean) (zq_I Q) X 1200144 5496826) (hRm : zw_rm Xc = rm_law) {kb sb KE SE : Nat} (hk : kb + 1139 ≤ KE ∧ sb + 73158 ≤ SE) (hKE : KE ≤ 1200144 ∧ SE ≤ 5496826) {R : Int32 → zw_H → Prop} {l0 : Option Nat} {l1 : Option Nat} {l2 : Option Nat} {l3 : Option Nat} {l4 : Option Nat} (hR : ∀ (l5 : Int32) (h : zw_H), R l5 h → zw_G Xc (kb + 1139) (sb + 73158) 9 h 28 [(0, va_rf l0), (1, va_rf l1), (2, va_rf l2), (3, va_rf l3), (4, va_rf l4), (5, .int l5)] [])  {l5 : Int32}  {h : zw_H} (hE : f_law_J3327 (zw_Zf Xc).2.2.2 Q X R l0 l1 l2 l3 l4 l5 h) : zw_G Xc (kb + 1) (sb + 6) 9 h 3327 [(0, va_rf l0), (1, va_rf l1), (2, va_rf l2), (3, va_rf l3), (4, va_rf l4), (5, .int l5)] [] := by
  unfold f_law_J3327 at hE
  refine zg_goto (tgt := 4220) ok dL_law_3327 (by decide) ?_
  refine zg_wide (kc2 := kb + 1139) (ks2 := sb + 73158) (by omega) (by omega) ?_
  exact gt_f_law_J4220 hl ok tab fin hRm hk hKE hR  hE
set_option maxHeartbeats 8000000 in
theorem gt_f_law_J3286 {Xc : zw_X} {Q : Int32 → zw_H → Prop} {X : String → Nat → zw_H → Prop} (hl : (zw_l Xc).stackTraces = false) (ok : zw_ok Xc cL_law "MultipoleLineLaw" "law" 9) (tab : zw_tab Xc []) (fin : zw_fin Xc (Option.some Jvm.ClassFile.FieldType.boolean) (zq_I Q) X 1200144 5496826) (hRm : zw_rm Xc = rm_law) {kb sb KE SE : Nat} (hk : kb + 1139 ≤ KE ∧ sb + 73158 ≤ SE) (hKE : KE ≤ 1200144 ∧ SE ≤ 5496826) {R : Int32 → zw_H → Prop} {l0 : Option Nat} {l1 : Option Nat} {l2 : Option Nat} {l3 : Option Nat} {l4 : Option Nat} (hR : ∀ (l5 : Int32) (h : zw_H), R l5 h → zw_G Xc (kb + 1139) (sb + 73158) 9 h 28 [(0, va_rf l0), (1, va_rf l1), (2, va_rf l2), (3, va_rf l3), (4, va_rf l4), (5, .int l5)] [])  {l5 : Int32}  {h : zw_H} (hE : f_law_J3286 (zw_Zf Xc).2.2.2 Q X R l0 l1 l2 l3 l4 l5 h) : zw_G Xc kb sb 9 h 3286 [(0, va_rf l0), (1, va_rf l1), (2, va_rf l2), (3, va_rf l3), (4, va_rf l4), (5, .int l5)] [] := by
  unfold f_law_J3286 at hE
  refine zg_aload_n ok dL_law_3286 rfl 1 rfl ?_
  refine zg_aload_n ok dL_law_3287 rfl 3 rfl ?_
  refine zg_callSX (vs := [zA l1, zA l3]) (rest := []) (rm := rm_X0_balanceBits) ok hRm lk_X0_373 dL_law_3288 hE (fun hE => mt_X0_balanceBits hl hE) rfl (Nat.le_of_ble_eq_true rfl) ⟨⟨Nat.le_of_ble_eq_true rfl, Nat.le_of_ble_eq_true rfl⟩, (by show kb + 1 ≤ 1200144; omega), (by show sb + 6 ≤ 5496826; omega)⟩ (zg_retI (fun v333 h144 hE => ?_)) (zg_xok ok tab fin ⟨(by show kb + 1 ≤ 1200144; omega), (by show sb + 6 ≤ 5496826; omega)⟩)
  refine zg_cost (kc2 := kb + 1) (ks2 := sb + 6) ⟨(by show kb + 1 = kb + 1; omega), (by show sb + 6 = sb + 6; omega)⟩ ?_
  refine zg_istore (L' := [(6, .int v333), (0, va_rf l0), (1, va_rf l1), (2, va_rf l2), (3, va_rf l3), (4, va_rf l4), (5, .int l5)]) ok dL_law_3291 (by decide) rfl ?_
  refine zg_aload_n ok dL_law_3293 rfl 3 rfl ?_
  refine zg_callV (vs := []) (rest := []) (rm := rm_X2_balanceBits) ok hRm lk_X0_375 dL_law_3294 hE (fun hE => mt_X2_balanceBits hl hE) rfl (Nat.le_of_ble_eq_true rfl) ⟨⟨Nat.le_of_ble_eq_true rfl, Nat.le_of_ble_eq_true rfl⟩, (by show kb + 1 + 0 ≤ 1200144; omega), (by show sb + 6 + 0 ≤ 5496826; omega)⟩ (zg_retI (fun v334 h145 hE => ?_)) (zg_xok ok tab fin ⟨(by show kb + 1 + 0 ≤ 1200144; omega), (by show sb + 6 + 0 ≤ 5496826; omega)⟩)
  refine zg_cost (kc2 := kb + 1) (ks2 := sb + 6) ⟨(by show kb + 1 + 0 = kb + 1; omega), (by show sb + 6 + 0 = sb + 6; omega)⟩ ?_
  refine zg_istore (L' := [(7, .int v334), (6, .int v333), (0, va_rf l0), (1, va_rf l1), (2, va_rf l2), (3, va_rf l3), (4, va_rf l4), (5, .int l5)]) ok dL_law_3297 (by decide) rfl ?_
  refine zg_aload_n ok dL_law_3299 rfl 4 rfl ?_
  refine zg_callV (vs := []) (rest := []) (rm := rm_X2_thrown) ok hRm lk_X0_223 dL_law_3300 hE (fun hE => mt_X2_thrown hl hE) rfl (Nat.le_of_ble_eq_true rfl) ⟨⟨Nat.le_of_ble_eq_true rfl, Nat.le_of_ble_eq_true rfl⟩, (by show kb + 1 + 0 ≤ 1200144; omega), (by show sb + 6 + 0 ≤ 5496826; omega)⟩ (zg_retI (fun v335 h146 hE => ?_)) (zg_xok ok tab fin ⟨(by show kb + 1 + 0 ≤ 1200144; omega), (by show sb + 6 + 0 ≤ 5496826; omega)⟩)
  refine zg_cost (kc2 := kb + 1) (ks2 := sb + 6) ⟨(by show kb + 1 + 0 = kb + 1; omega), (by show sb + 6 + 0 = sb + 6; omega)⟩ ?_
  refine zg_iload ok dL_law_3303 1 rfl ?_
  refine zg_icmp_eq (tgt := 3310) ok dL_law_3305 (by decide) hE (fun hE => ?_) (fun hE => ?_)
  · refine zg_iload ok dL_law_3310 1 rfl ?_
    refine zg_if_ne (tgt := 3327) ok dL_law_3312 (by decide) hE (fun hE => ?_) (fun hE => ?_)
    · refine zg_sub (L' := [(0, va_rf l0), (1, va_rf l1), (2, va_rf l2), (3, va_rf l3), (4, va_rf l4), (5, .int l5)]) [2, 3, 4, 5, 6, 7] rfl ?_
      exact gt_f_law_J3327 hl ok tab fin hRm hk hKE hR  hE
    · refine zg_aload_n ok dL_law_3315 rfl 5 rfl ?_
      refine zg_iconst (v := 0) ok dL_law_3316 (by decide) ?_
      refine zg_lald ok dL_law_3317 hE (fun v336 hE => ?_)
      refine zg_iload ok dL_law_3318 0 rfl ?_
      refine zg_i2l ok dL_law_3320 ?_
      refine zg_lcmp ok dL_law_3321 ?_
      refine zg_if_eq (tgt := 3327) ok dL_law_3322 (by decide) hE (fun hE => ?_) (fun hE => ?_)
      · refine zg_sub (L' := [(0, va_rf l0), (1, va_rf l1), (2, va_rf l2), (3, va_rf l3), (4, va_rf l4), (5, .int l5)]) [2, 3, 4, 5, 6, 7] rfl ?_
        exact gt_f_law_J3327 hl ok tab fin hRm hk hKE hR  hE
      · refine zg_iconst (v := 0) ok dL_law_3325 (by decide) ?_
        exact zg_zret ok fin dL_law_3326 ⟨(by omega), (by omega)⟩ rfl hE
  · refine zg_iconst (v := 0) ok dL_law_3308 (by decide) ?_
    exact zg_zret ok fin dL_law_3309 ⟨(by omega), (by omega)⟩ rfl hE
set_option maxHeartbeats 8000000 in
theorem gt_f_law_J3392 {Xc : zw_X} {Q : Int32 → zw_H → Prop} {X : String → Nat → zw_H → Prop} (hl : (zw_l Xc).stackTraces = false) (ok : zw_ok Xc cL_law "MultipoleLineLaw" "law" 9) (tab : zw_tab Xc []) (fin : zw_fin Xc (Option.some Jvm.ClassFile.FieldType.boolean) (zq_I Q) X 1200144 5496826) (hRm : zw_rm Xc = rm_law) {kb sb KE SE : Nat} (hk : kb + 1139 ≤ KE ∧ sb + 73158 ≤ SE) (hKE : KE ≤ 1200144 ∧ SE ≤ 5496826) {R : Int32 → zw_H → Prop} {l0 : Option Nat} {l1 : Option Nat} {l2 : Option Nat} {l3 : Option Nat} {l4 : Option Nat} (hR : ∀ (l5 : Int32) (h : zw_H), R l5 h → zw_G Xc (kb + 1139) (sb + 73158) 9 h 28 [(0, va_rf l0), (1, va_rf l1), (2, va_rf l2), (3, va_rf l3), (4, va_rf l4), (5, .int l5)] [])  {l5 : Int32}  {h : zw_H} (hE : f_law_J3392 (zw_Zf Xc).2.2.2 Q X R l0 l1 l2 l3 l4 l5 h) : zw_G Xc (kb + 1) (sb + 6) 9 h 3392 [(0, va_rf l0), (1, va_rf l1), (2, va_rf l2), (3, va_rf l3), (4, va_rf l4), (5, .int l5)] [] := by
  unfold f_law_J3392 at hE
  refine zg_goto (tgt := 4220) ok dL_law_3392 (by decide) ?_
  refine zg_wide (kc2 := kb + 1139) (ks2 := sb + 73158) (by omega) (by omega) ?_
  exact gt_f_law_J4220 hl ok tab fin hRm hk hKE hR  hE
set_option maxHeartbeats 8000000 in
theorem gt_f_law_J3330 {Xc : zw_X} {Q : Int32 → zw_H → Prop} {X : String → Nat → zw_H → Prop} (hl : (zw_l Xc).stackTraces = false) (ok : zw_ok Xc cL_law "MultipoleLineLaw" "law" 9) (tab : zw_tab Xc []) (fin : zw_fin Xc (Option.some Jvm.ClassFile.FieldType.boolean) (zq_I Q) X 1200144 5496826) (hRm : zw_rm Xc = rm_law) {kb sb KE SE : Nat} (hk : kb + 1139 ≤ KE ∧ sb + 73158 ≤ SE) (hKE : KE ≤ 1200144 ∧ SE ≤ 5496826) {R : Int32 → zw_H → Prop} {l0 : Option Nat} {l1 : Option Nat} {l2 : Option Nat} {l3 : Option Nat} {l4 : Option Nat} (hR : ∀ (l5 : Int32) (h : zw_H), R l5 h → zw_G Xc (kb + 1139) (sb + 73158) 9 h 28 [(0, va_rf l0), (1, va_rf l1), (2, va_rf l2), (3, va_rf l3), (4, va_rf l4), (5, .int l5)] [])  {l5 : Int32}  {h : zw_H} (hE : f_law_J3330 (zw_Zf Xc).2.2.2 Q X R l0 l1 l2 l3 l4 l5 h) : zw_G Xc kb sb 9 h 3330 [(0, va_rf l0), (1, va_rf l1), (2, va_rf l2), (3, va_rf l3), (4, va_rf l4), (5, .int l5)] [] := by
  unfold f_law_J3330 at hE
  refine zg_aload_n ok dL_law_3330 rfl 1 rfl ?_
  refine zg_aload ok dL_law_3331 4 rfl ?_
  refine zg_callSX (vs := [zA l1, zA l4]) (rest := []) (rm := rm_X0_meanX) ok hRm lk_X0_376 dL_law_3333 hE (fun hE => mt_X0_meanX hl hE) rfl (Nat.le_of_ble_eq_true rfl) ⟨⟨Nat.le_of_ble_eq_true rfl, Nat.le_of_ble_eq_true rfl⟩, (by show kb + 1 ≤ 1200144; omega), (by show sb + 6 ≤ 5496826; omega)⟩ (zg_retI (fun v337 h147 hE => ?_)) (zg_xok ok tab fin ⟨(by show kb + 1 ≤ 1200144; omega), (by show sb + 6 ≤ 5496826; omega)⟩)
  refine zg_cost (kc2 := kb + 1) (ks2 := sb + 6) ⟨(by show kb + 1 = kb + 1; omega), (by show sb + 6 = sb + 6; omega)⟩ ?_
  refine zg_istore (L' := [(6, .int v337), (0, va_rf l0), (1, va_rf l1), (2, va_rf l2), (3, va_rf l3), (4, va_rf l4), (5, .int l5)]) ok dL_law_3336 (by decide) rfl ?_
  refine zg_aload_n ok dL_law_3338 rfl 3 rfl ?_
  refine zg_callV (vs := []) (rest := []) (rm := rm_X2_meanX) ok hRm lk_X0_378 dL_law_3339 hE (fun hE => mt_X2_meanX hl hE) rfl (Nat.le_of_ble_eq_true rfl) ⟨⟨Nat.le_of_ble_eq_true rfl, Nat.le_of_ble_eq_true rfl⟩, (by show kb + 1 + 0 ≤ 1200144; omega), (by show sb + 6 + 0 ≤ 5496826; omega)⟩ (zg_retD (fun v338 h148 hE => ?_)) (zg_xok ok tab fin ⟨(by show kb + 1 + 0 ≤ 1200144; omega), (by show sb + 6 + 0 ≤ 5496826; omega)⟩)
  refine zg_cost (kc2 := kb + 1) (ks2 := sb + 6) ⟨(by show kb + 1 + 0 = kb + 1; omega), (by show sb + 6 + 0 = sb + 6; omega)⟩ ?_
  refine zg_dstore (L' := [(7, .double v338), (6, .int v337), (0, va_rf l0), (1, va_rf l1), (2, va_rf l2), (3, va_rf l3), (4, va_rf l4), (5, .int l5)]) ok dL_law_3342 (by decide) rfl ?_
  refine zg_aload_n ok dL_law_3344 rfl 4 rfl ?_
  refine zg_callV (vs := []) (rest := []) (rm := rm_X2_thrown) ok hRm lk_X0_223 dL_law_3345 hE (fun hE => mt_X2_thrown hl hE) rfl (Nat.le_of_ble_eq_true rfl) ⟨⟨Nat.le_of_ble_eq_true rfl, Nat.le_of_ble_eq_true rfl⟩, (by show kb + 1 + 0 ≤ 1200144; omega), (by show sb + 6 + 0 ≤ 5496826; omega)⟩ (zg_retI (fun v339 h149 hE => ?_)) (zg_xok ok tab fin ⟨(by show kb + 1 + 0 ≤ 1200144; omega), (by show sb + 6 + 0 ≤ 5496826; omega)⟩)
  refine zg_cost (kc2 := kb + 1) (ks2 := sb + 6) ⟨(by show kb + 1 + 0 = kb + 1; omega), (by show sb + 6 + 0 = sb + 6; omega)⟩ ?_
  refine zg_iload ok dL_law_3348 1 rfl ?_
  refine zg_icmp_eq (tgt := 3355) ok dL_law_3350 (by decide) hE (fun hE => ?_) (fun hE => ?_)
  · refine zg_iload ok dL_law_3355 1 rfl ?_
    refine zg_if_ne (tgt := 3392) ok dL_law_3357 (by decide) hE (fun hE => ?_) (fun hE => ?_)
    · refine zg_sub (L' := [(0, va_rf l0), (1, va_rf l1), (2, va_rf l2), (3, va_rf l3), (4, va_rf l4), (5, .int l5)]) [2, 3, 4, 5, 6, 7] rfl ?_
      exact gt_f_law_J3392 hl ok tab fin hRm hk hKE hR  hE
    · refine zg_aload ok dL_law_3360 6 rfl ?_
      refine zg_iconst (v := 0) ok dL_law_3362 (by decide) ?_
      refine zg_dald ok dL_law_3363 hE (fun v340 hE => ?_)
      refine zg_dload ok dL_law_3364 0 rfl ?_
      refine zg_dcmp ok dL_law_3366 ?_
      refine zg_if_eq (tgt := 3392) ok dL_law_3367 (by decide) hE (fun hE => ?_) (fun hE => ?_)
      · refine zg_sub (L' := [(0, va_rf l0), (1, va_rf l1), (2, va_rf l2), (3, va_rf l3), (4, va_rf l4), (5, .int l5)]) [2, 3, 4, 5, 6, 7] rfl ?_
        exact gt_f_law_J3392 hl ok tab fin hRm hk hKE hR  hE
      · refine zg_aload ok dL_law_3370 6 rfl ?_
        refine zg_iconst (v := 0) ok dL_law_3372 (by decide) ?_
        refine zg_dald ok dL_law_3373 hE (fun v341 hE => ?_)
        refine zg_aload ok dL_law_3374 6 rfl ?_
        refine zg_iconst (v := 0) ok dL_law_3376 (by decide) ?_
        refine zg_dald ok dL_law_3377 hE (fun v342 hE => ?_)
        refine zg_dcmp ok dL_law_3378 ?_
        refine zg_if_eq (tgt := 3390) ok dL_law_3379 (by decide) hE (fun hE => ?_) (fun hE => ?_)
        · refine zg_iconst (v := 0) ok dL_law_3390 (by decide) ?_
          exact zg_zret ok fin dL_law_3391 ⟨(by omega), (by omega)⟩ rfl hE
        · refine zg_dload ok dL_law_3382 0 rfl ?_
          refine zg_dload ok dL_law_3384 0 rfl ?_
          refine zg_dcmp ok dL_law_3386 ?_
          refine zg_if_ne (tgt := 3392) ok dL_law_3387 (by decide) hE (fun hE => ?_) (fun hE => ?_)
          · refine zg_sub (L' := [(0, va_rf l0), (1, va_rf l1), (2, va_rf l2), (3, va_rf l3), (4, va_rf l4), (5, .int l5)]) [2, 3, 4, 5, 6, 7] rfl ?_
            exact gt_f_law_J3392 hl ok tab fin hRm hk hKE hR  hE
          · refine zg_iconst (v := 0) ok dL_law_3390 (by decide) ?_
            exact zg_zret ok fin dL_law_3391 ⟨(by omega), (by omega)⟩ rfl hE
  · refine zg_iconst (v := 0) ok dL_law_3353 (by decide) ?_
    exact zg_zret ok fin dL_law_3354 ⟨(by omega), (by omega)⟩ rfl hE
set_option maxHeartbeats 8000000 in
theorem gt_f_law_J3436 {Xc : zw_X} {Q : Int32 → zw_H → Prop} {X : String → Nat → zw_H → Prop} (hl : (zw_l Xc).stackTraces = false) (ok : zw_ok Xc cL_law "MultipoleLineLaw" "law" 9) (tab : zw_tab Xc []) (fin : zw_fin Xc (Option.some Jvm.ClassFile.FieldType.boolean) (zq_I Q) X 1200144 5496826) (hRm : zw_rm Xc = rm_law) {kb sb KE SE : Nat} (hk : kb + 1139 ≤ KE ∧ sb + 73158 ≤ SE) (hKE : KE ≤ 1200144 ∧ SE ≤ 5496826) {R : Int32 → zw_H → Prop} {l0 : Option Nat} {l1 : Option Nat} {l2 : Option Nat} {l3 : Option Nat} {l4 : Option Nat} (hR : ∀ (l5 : Int32) (h : zw_H), R l5 h → zw_G Xc (kb + 1139) (sb + 73158) 9 h 28 [(0, va_rf l0), (1, va_rf l1), (2, va_rf l2), (3, va_rf l3), (4, va_rf l4), (5, .int l5)] [])  {l5 : Int32}  {h : zw_H} (hE : f_law_J3436 (zw_Zf Xc).2.2.2 Q X R l0 l1 l2 l3 l4 l5 h) : zw_G Xc (kb + 35) (sb + 19590) 9 h 3436 [(0, va_rf l0), (1, va_rf l1), (2, va_rf l2), (3, va_rf l3), (4, va_rf l4), (5, .int l5)] [] := by
  unfold f_law_J3436 at hE
  refine zg_goto (tgt := 4220) ok dL_law_3436 (by decide) ?_
  refine zg_wide (kc2 := kb + 1139) (ks2 := sb + 73158) (by omega) (by omega) ?_
  exact gt_f_law_J4220 hl ok tab fin hRm hk hKE hR  hE
set_option maxHeartbeats 8000000 in
theorem gt_f_law_J3395 {Xc : zw_X} {Q : Int32 → zw_H → Prop} {X : String → Nat → zw_H → Prop} (hl : (zw_l Xc).stackTraces = false) (ok : zw_ok Xc cL_law "MultipoleLineLaw" "law" 9) (tab : zw_tab Xc []) (fin : zw_fin Xc (Option.some Jvm.ClassFile.FieldType.boolean) (zq_I Q) X 1200144 5496826) (hRm : zw_rm Xc = rm_law) {kb sb KE SE : Nat} (hk : kb + 1139 ≤ KE ∧ sb + 73158 ≤ SE) (hKE : KE ≤ 1200144 ∧ SE ≤ 5496826) {R : Int32 → zw_H → Prop} {l0 : Option Nat} {l1 : Option Nat} {l2 : Option Nat} {l3 : Option Nat} {l4 : Option Nat} (hR : ∀ (l5 : Int32) (h : zw_H), R l5 h → zw_G Xc (kb + 1139) (sb + 73158) 9 h 28 [(0, va_rf l0), (1, va_rf l1), (2, va_rf l2), (3, va_rf l3), (4, va_rf l4), (5, .int l5)] [])  {l5 : Int32}  {h : zw_H} (hE : f_law_J3395 (zw_Zf Xc).2.2.2 Q X R l0 l1 l2 l3 l4 l5 h) : zw_G Xc kb sb 9 h 3395 [(0, va_rf l0), (1, va_rf l1), (2, va_rf l2), (3, va_rf l3), (4, va_rf l4), (5, .int l5)] [] := by
  unfold f_law_J3395 at hE
  refine zg_aload_n ok dL_law_3395 rfl 1 rfl ?_
  refine zg_aload_n ok dL_law_3396 rfl 3 rfl ?_
  refine zg_callSX (vs := [zA l1, zA l3]) (rest := []) (rm := rm_X0_writeLeaves) ok hRm lk_X0_379 dL_law_3397 hE (fun hE => mt_X0_writeLeaves hl hE) rfl (Nat.le_of_ble_eq_true rfl) ⟨⟨Nat.le_of_ble_eq_true rfl, Nat.le_of_ble_eq_true rfl⟩, (by show kb + 35 ≤ 1200144; omega), (by show sb + 19590 ≤ 5496826; omega)⟩ (zg_retI (fun v343 h150 hE => ?_)) (zg_xok ok tab fin ⟨(by show kb + 35 ≤ 1200144; omega), (by show sb + 19590 ≤ 5496826; omega)⟩)
  refine zg_cost (kc2 := kb + 35) (ks2 := sb + 19590) ⟨(by show kb + 35 = kb + 35; omega), (by show sb + 19590 = sb + 19590; omega)⟩ ?_
  refine zg_istore (L' := [(6, .int v343), (0, va_rf l0), (1, va_rf l1), (2, va_rf l2), (3, va_rf l3), (4, va_rf l4), (5, .int l5)]) ok dL_law_3400 (by decide) rfl ?_
  refine zg_aload_n ok dL_law_3402 rfl 3 rfl ?_
  refine zg_callV (vs := []) (rest := []) (rm := rm_X2_writeLeaves) ok hRm lk_X0_381 dL_law_3403 hE (fun hE => mt_X2_writeLeaves hl hE) rfl (Nat.le_of_ble_eq_true rfl) ⟨⟨Nat.le_of_ble_eq_true rfl, Nat.le_of_ble_eq_true rfl⟩, (by show kb + 35 + 0 ≤ 1200144; omega), (by show sb + 19590 + 0 ≤ 5496826; omega)⟩ (zg_retI (fun v344 h151 hE => ?_)) (zg_xok ok tab fin ⟨(by show kb + 35 + 0 ≤ 1200144; omega), (by show sb + 19590 + 0 ≤ 5496826; omega)⟩)
  refine zg_cost (kc2 := kb + 35) (ks2 := sb + 19590) ⟨(by show kb + 35 + 0 = kb + 35; omega), (by show sb + 19590 + 0 = sb + 19590; omega)⟩ ?_
  refine zg_istore (L' := [(7, .int v344), (6, .int v343), (0, va_rf l0), (1, va_rf l1), (2, va_rf l2), (3, va_rf l3), (4, va_rf l4), (5, .int l5)]) ok dL_law_3406 (by decide) rfl ?_
  refine zg_aload_n ok dL_law_3408 rfl 4 rfl ?_
  refine zg_callV (vs := []) (rest := []) (rm := rm_X2_thrown) ok hRm lk_X0_223 dL_law_3409 hE (fun hE => mt_X2_thrown hl hE) rfl (Nat.le_of_ble_eq_true rfl) ⟨⟨Nat.le_of_ble_eq_true rfl, Nat.le_of_ble_eq_true rfl⟩, (by show kb + 35 + 0 ≤ 1200144; omega), (by show sb + 19590 + 0 ≤ 5496826; omega)⟩ (zg_retI (fun v345 h152 hE => ?_)) (zg_xok ok tab fin ⟨(by show kb + 35 + 0 ≤ 1200144; omega), (by show sb + 19590 + 0 ≤ 5496826; omega)⟩)
  refine zg_cost (kc2 := kb + 35) (ks2 := sb + 19590) ⟨(by show kb + 35 + 0 = kb + 35; omega), (by show sb + 19590 + 0 = sb + 19590; omega)⟩ ?_
  refine zg_iload ok dL_law_3412 1 rfl ?_
  refine zg_icmp_eq (tgt := 3419) ok dL_law_3414 (by decide) hE (fun hE => ?_) (fun hE => ?_)
  · refine zg_iload ok dL_law_3419 1 rfl ?_
    refine zg_if_ne (tgt := 3436) ok dL_law_3421 (by decide) hE (fun hE => ?_) (fun hE => ?_)
    · refine zg_sub (L' := [(0, va_rf l0), (1, va_rf l1), (2, va_rf l2), (3, va_rf l3), (4, va_rf l4), (5, .int l5)]) [2, 3, 4, 5, 6, 7] rfl ?_
      exact gt_f_law_J3436 hl ok tab fin hRm hk hKE hR  hE
    · refine zg_aload_n ok dL_law_3424 rfl 5 rfl ?_
      refine zg_iconst (v := 0) ok dL_law_3425 (by decide) ?_
      refine zg_lald ok dL_law_3426 hE (fun v346 hE => ?_)
      refine zg_iload ok dL_law_3427 0 rfl ?_
      refine zg_i2l ok dL_law_3429 ?_
      refine zg_lcmp ok dL_law_3430 ?_
      refine zg_if_eq (tgt := 3436) ok dL_law_3431 (by decide) hE (fun hE => ?_) (fun hE => ?_)
      · refine zg_sub (L' := [(0, va_rf l0), (1, va_rf l1), (2, va_rf l2), (3, va_rf l3), (4, va_rf l4), (5, .int l5)]) [2, 3, 4, 5, 6, 7] rfl ?_
        exact gt_f_law_J3436 hl ok tab fin hRm hk hKE hR  hE
      · refine zg_iconst (v := 0) ok dL_law_3434 (by decide) ?_
        exact zg_zret ok fin dL_law_3435 ⟨(by omega), (by omega)⟩ rfl hE
  · refine zg_iconst (v := 0) ok dL_law_3417 (by decide) ?_
    exact zg_zret ok fin dL_law_3418 ⟨(by omega), (by omega)⟩ rfl hE
set_option maxHeartbeats 8000000 in
theorem gt_f_law_J3480 {Xc : zw_X} {Q : Int32 → zw_H → Prop} {X : String → Nat → zw_H → Prop} (hl : (zw_l Xc).stackTraces = false) (ok : zw_ok Xc cL_law "MultipoleLineLaw" "law" 9) (tab : zw_tab Xc []) (fin : zw_fin Xc (Option.some Jvm.ClassFile.FieldType.boolean) (zq_I Q) X 1200144 5496826) (hRm : zw_rm Xc = rm_law) {kb sb KE SE : Nat} (hk : kb + 1139 ≤ KE ∧ sb + 73158 ≤ SE) (hKE : KE ≤ 1200144 ∧ SE ≤ 5496826) {R : Int32 → zw_H → Prop} {l0 : Option Nat} {l1 : Option Nat} {l2 : Option Nat} {l3 : Option Nat} {l4 : Option Nat} (hR : ∀ (l5 : Int32) (h : zw_H), R l5 h → zw_G Xc (kb + 1139) (sb + 73158) 9 h 28 [(0, va_rf l0), (1, va_rf l1), (2, va_rf l2), (3, va_rf l3), (4, va_rf l4), (5, .int l5)] [])  {l5 : Int32}  {h : zw_H} (hE : f_law_J3480 (zw_Zf Xc).2.2.2 Q X R l0 l1 l2 l3 l4 l5 h) : zw_G Xc (kb + 128) (sb + 73158) 9 h 3480 [(0, va_rf l0), (1, va_rf l1), (2, va_rf l2), (3, va_rf l3), (4, va_rf l4), (5, .int l5)] [] := by
  unfold f_law_J3480 at hE
  refine zg_goto (tgt := 4220) ok dL_law_3480 (by decide) ?_
  refine zg_wide (kc2 := kb + 1139) (ks2 := sb + 73158) (by omega) (by omega) ?_
  exact gt_f_law_J4220 hl ok tab fin hRm hk hKE hR  hE
set_option maxHeartbeats 8000000 in
theorem gt_f_law_J3439 {Xc : zw_X} {Q : Int32 → zw_H → Prop} {X : String → Nat → zw_H → Prop} (hl : (zw_l Xc).stackTraces = false) (ok : zw_ok Xc cL_law "MultipoleLineLaw" "law" 9) (tab : zw_tab Xc []) (fin : zw_fin Xc (Option.some Jvm.ClassFile.FieldType.boolean) (zq_I Q) X 1200144 5496826) (hRm : zw_rm Xc = rm_law) {kb sb KE SE : Nat} (hk : kb + 1139 ≤ KE ∧ sb + 73158 ≤ SE) (hKE : KE ≤ 1200144 ∧ SE ≤ 5496826) {R : Int32 → zw_H → Prop} {l0 : Option Nat} {l1 : Option Nat} {l2 : Option Nat} {l3 : Option Nat} {l4 : Option Nat} (hR : ∀ (l5 : Int32) (h : zw_H), R l5 h → zw_G Xc (kb + 1139) (sb + 73158) 9 h 28 [(0, va_rf l0), (1, va_rf l1), (2, va_rf l2), (3, va_rf l3), (4, va_rf l4), (5, .int l5)] [])  {l5 : Int32}  {h : zw_H} (hE : f_law_J3439 (zw_Zf Xc).2.2.2 Q X R l0 l1 l2 l3 l4 l5 h) : zw_G Xc kb sb 9 h 3439 [(0, va_rf l0), (1, va_rf l1), (2, va_rf l2), (3, va_rf l3), (4, va_rf l4), (5, .int l5)] [] := by
  unfold f_law_J3439 at hE
  refine zg_aload_n ok dL_law_3439 rfl 1 rfl ?_
  refine zg_aload_n ok dL_law_3440 rfl 3 rfl ?_
  refine zg_callSX (vs := [zA l1, zA l3]) (rest := []) (rm := rm_X0_writeBodies) ok hRm lk_X0_382 dL_law_3441 hE (fun hE => mt_X0_writeBodies hl hE) rfl (Nat.le_of_ble_eq_true rfl) ⟨⟨Nat.le_of_ble_eq_true rfl, Nat.le_of_ble_eq_true rfl⟩, (by show kb + 128 ≤ 1200144; omega), (by show sb + 73158 ≤ 5496826; omega)⟩ (zg_retI (fun v347 h153 hE => ?_)) (zg_xok ok tab fin ⟨(by show kb + 128 ≤ 1200144; omega), (by show sb + 73158 ≤ 5496826; omega)⟩)
  refine zg_cost (kc2 := kb + 128) (ks2 := sb + 73158) ⟨(by show kb + 128 = kb + 128; omega), (by show sb + 73158 = sb + 73158; omega)⟩ ?_
  refine zg_istore (L' := [(6, .int v347), (0, va_rf l0), (1, va_rf l1), (2, va_rf l2), (3, va_rf l3), (4, va_rf l4), (5, .int l5)]) ok dL_law_3444 (by decide) rfl ?_
  refine zg_aload_n ok dL_law_3446 rfl 3 rfl ?_
  refine zg_callV (vs := []) (rest := []) (rm := rm_X2_writeBodies) ok hRm lk_X0_384 dL_law_3447 hE (fun hE => mt_X2_writeBodies hl hE) rfl (Nat.le_of_ble_eq_true rfl) ⟨⟨Nat.le_of_ble_eq_true rfl, Nat.le_of_ble_eq_true rfl⟩, (by show kb + 128 + 0 ≤ 1200144; omega), (by show sb + 73158 + 0 ≤ 5496826; omega)⟩ (zg_retI (fun v348 h154 hE => ?_)) (zg_xok ok tab fin ⟨(by show kb + 128 + 0 ≤ 1200144; omega), (by show sb + 73158 + 0 ≤ 5496826; omega)⟩)
  refine zg_cost (kc2 := kb + 128) (ks2 := sb + 73158) ⟨(by show kb + 128 + 0 = kb + 128; omega), (by show sb + 73158 + 0 = sb + 73158; omega)⟩ ?_
  refine zg_istore (L' := [(7, .int v348), (6, .int v347), (0, va_rf l0), (1, va_rf l1), (2, va_rf l2), (3, va_rf l3), (4, va_rf l4), (5, .int l5)]) ok dL_law_3450 (by decide) rfl ?_
  refine zg_aload_n ok dL_law_3452 rfl 4 rfl ?_
  refine zg_callV (vs := []) (rest := []) (rm := rm_X2_thrown) ok hRm lk_X0_223 dL_law_3453 hE (fun hE => mt_X2_thrown hl hE) rfl (Nat.le_of_ble_eq_true rfl) ⟨⟨Nat.le_of_ble_eq_true rfl, Nat.le_of_ble_eq_true rfl⟩, (by show kb + 128 + 0 ≤ 1200144; omega), (by show sb + 73158 + 0 ≤ 5496826; omega)⟩ (zg_retI (fun v349 h155 hE => ?_)) (zg_xok ok tab fin ⟨(by show kb + 128 + 0 ≤ 1200144; omega), (by show sb + 73158 + 0 ≤ 5496826; omega)⟩)
  refine zg_cost (kc2 := kb + 128) (ks2 := sb + 73158) ⟨(by show kb + 128 + 0 = kb + 128; omega), (by show sb + 73158 + 0 = sb + 73158; omega)⟩ ?_
  refine zg_iload ok dL_law_3456 1 rfl ?_
  refine zg_icmp_eq (tgt := 3463) ok dL_law_3458 (by decide) hE (fun hE => ?_) (fun hE => ?_)
  · refine zg_iload ok dL_law_3463 1 rfl ?_
    refine zg_if_ne (tgt := 3480) ok dL_law_3465 (by decide) hE (fun hE => ?_) (fun hE => ?_)
    · refine zg_sub (L' := [(0, va_rf l0), (1, va_rf l1), (2, va_rf l2), (3, va_rf l3), (4, va_rf l4), (5, .int l5)]) [2, 3, 4, 5, 6, 7] rfl ?_
      exact gt_f_law_J3480 hl ok tab fin hRm hk hKE hR  hE
    · refine zg_aload_n ok dL_law_3468 rfl 5 rfl ?_
      refine zg_iconst (v := 0) ok dL_law_3469 (by decide) ?_
      refine zg_lald ok dL_law_3470 hE (fun v350 hE => ?_)
      refine zg_iload ok dL_law_3471 0 rfl ?_
      refine zg_i2l ok dL_law_3473 ?_
      refine zg_lcmp ok dL_law_3474 ?_
      refine zg_if_eq (tgt := 3480) ok dL_law_3475 (by decide) hE (fun hE => ?_) (fun hE => ?_)
      · refine zg_sub (L' := [(0, va_rf l0), (1, va_rf l1), (2, va_rf l2), (3, va_rf l3), (4, va_rf l4), (5, .int l5)]) [2, 3, 4, 5, 6, 7] rfl ?_
        exact gt_f_law_J3480 hl ok tab fin hRm hk hKE hR  hE
      · refine zg_iconst (v := 0) ok dL_law_3478 (by decide) ?_
        exact zg_zret ok fin dL_law_3479 ⟨(by omega), (by omega)⟩ rfl hE
  · refine zg_iconst (v := 0) ok dL_law_3461 (by decide) ?_
    exact zg_zret ok fin dL_law_3462 ⟨(by omega), (by omega)⟩ rfl hE
set_option maxHeartbeats 8000000 in
theorem gt_f_law_J3524 {Xc : zw_X} {Q : Int32 → zw_H → Prop} {X : String → Nat → zw_H → Prop} (hl : (zw_l Xc).stackTraces = false) (ok : zw_ok Xc cL_law "MultipoleLineLaw" "law" 9) (tab : zw_tab Xc []) (fin : zw_fin Xc (Option.some Jvm.ClassFile.FieldType.boolean) (zq_I Q) X 1200144 5496826) (hRm : zw_rm Xc = rm_law) {kb sb KE SE : Nat} (hk : kb + 1139 ≤ KE ∧ sb + 73158 ≤ SE) (hKE : KE ≤ 1200144 ∧ SE ≤ 5496826) {R : Int32 → zw_H → Prop} {l0 : Option Nat} {l1 : Option Nat} {l2 : Option Nat} {l3 : Option Nat} {l4 : Option Nat} (hR : ∀ (l5 : Int32) (h : zw_H), R l5 h → zw_G Xc (kb + 1139) (sb + 73158) 9 h 28 [(0, va_rf l0), (1, va_rf l1), (2, va_rf l2), (3, va_rf l3), (4, va_rf l4), (5, .int l5)] [])  {l5 : Int32}  {h : zw_H} (hE : f_law_J3524 (zw_Zf Xc).2.2.2 Q X R l0 l1 l2 l3 l4 l5 h) : zw_G Xc (kb + 111) (sb + 63366) 9 h 3524 [(0, va_rf l0), (1, va_rf l1), (2, va_rf l2), (3, va_rf l3), (4, va_rf l4), (5, .int l5)] [] := by
  unfold f_law_J3524 at hE
  refine zg_goto (tgt := 4220) ok dL_law_3524 (by decide) ?_
  refine zg_wide (kc2 := kb + 1139) (ks2 := sb + 73158) (by omega) (by omega) ?_
  exact gt_f_law_J4220 hl ok tab fin hRm hk hKE hR  hE
set_option maxHeartbeats 8000000 in
theorem gt_f_law_J3483 {Xc : zw_X} {Q : Int32 → zw_H → Prop} {X : String → Nat → zw_H → Prop} (hl : (zw_l Xc).stackTraces = false) (ok : zw_ok Xc cL_law "MultipoleLineLaw" "law" 9) (tab : zw_tab Xc []) (fin : zw_fin Xc (Option.some Jvm.ClassFile.FieldType.boolean) (zq_I Q) X 1200144 5496826) (hRm : zw_rm Xc = rm_law) {kb sb KE SE : Nat} (hk : kb + 1139 ≤ KE ∧ sb + 73158 ≤ SE) (hKE : KE ≤ 1200144 ∧ SE ≤ 5496826) {R : Int32 → zw_H → Prop} {l0 : Option Nat} {l1 : Option Nat} {l2 : Option Nat} {l3 : Option Nat} {l4 : Option Nat} (hR : ∀ (l5 : Int32) (h : zw_H), R l5 h → zw_G Xc (kb + 1139) (sb + 73158) 9 h 28 [(0, va_rf l0), (1, va_rf l1), (2, va_rf l2), (3, va_rf l3), (4, va_rf l4), (5, .int l5)] [])  {l5 : Int32}  {h : zw_H} (hE : f_law_J3483 (zw_Zf Xc).2.2.2 Q X R l0 l1 l2 l3 l4 l5 h) : zw_G Xc kb sb 9 h 3483 [(0, va_rf l0), (1, va_rf l1), (2, va_rf l2), (3, va_rf l3), (4, va_rf l4), (5, .int l5)] [] := by
  unfold f_law_J3483 at hE
  refine zg_aload_n ok dL_law_3483 rfl 1 rfl ?_
  refine zg_aload_n ok dL_law_3484 rfl 3 rfl ?_
  refine zg_callSX (vs := [zA l1, zA l3]) (rest := []) (rm := rm_X0_writeLine) ok hRm lk_X0_385 dL_law_3485 hE (fun hE => mt_X0_writeLine hl hE) rfl (Nat.le_of_ble_eq_true rfl) ⟨⟨Nat.le_of_ble_eq_true rfl, Nat.le_of_ble_eq_true rfl⟩, (by show kb + 111 ≤ 1200144; omega), (by show sb + 63366 ≤ 5496826; omega)⟩ (zg_retI (fun v351 h156 hE => ?_)) (zg_xok ok tab fin ⟨(by show kb + 111 ≤ 1200144; omega), (by show sb + 63366 ≤ 5496826; omega)⟩)
  refine zg_cost (kc2 := kb + 111) (ks2 := sb + 63366) ⟨(by show kb + 111 = kb + 111; omega), (by show sb + 63366 = sb + 63366; omega)⟩ ?_
  refine zg_istore (L' := [(6, .int v351), (0, va_rf l0), (1, va_rf l1), (2, va_rf l2), (3, va_rf l3), (4, va_rf l4), (5, .int l5)]) ok dL_law_3488 (by decide) rfl ?_
  refine zg_aload_n ok dL_law_3490 rfl 3 rfl ?_
  refine zg_callV (vs := []) (rest := []) (rm := rm_X2_writeLine) ok hRm lk_X0_387 dL_law_3491 hE (fun hE => mt_X2_writeLine hl hE) rfl (Nat.le_of_ble_eq_true rfl) ⟨⟨Nat.le_of_ble_eq_true rfl, Nat.le_of_ble_eq_true rfl⟩, (by show kb + 111 + 0 ≤ 1200144; omega), (by show sb + 63366 + 0 ≤ 5496826; omega)⟩ (zg_retI (fun v352 h157 hE => ?_)) (zg_xok ok tab fin ⟨(by show kb + 111 + 0 ≤ 1200144; omega), (by show sb + 63366 + 0 ≤ 5496826; omega)⟩)
  refine zg_cost (kc2 := kb + 111) (ks2 := sb + 63366) ⟨(by show kb + 111 + 0 = kb + 111; omega), (by show sb + 63366 + 0 = sb + 63366; omega)⟩ ?_
  refine zg_istore (L' := [(7, .int v352), (6, .int v351), (0, va_rf l0), (1, va_rf l1), (2, va_rf l2), (3, va_rf l3), (4, va_rf l4), (5, .int l5)]) ok dL_law_3494 (by decide) rfl ?_
  refine zg_aload_n ok dL_law_3496 rfl 4 rfl ?_
  refine zg_callV (vs := []) (rest := []) (rm := rm_X2_thrown) ok hRm lk_X0_223 dL_law_3497 hE (fun hE => mt_X2_thrown hl hE) rfl (Nat.le_of_ble_eq_true rfl) ⟨⟨Nat.le_of_ble_eq_true rfl, Nat.le_of_ble_eq_true rfl⟩, (by show kb + 111 + 0 ≤ 1200144; omega), (by show sb + 63366 + 0 ≤ 5496826; omega)⟩ (zg_retI (fun v353 h158 hE => ?_)) (zg_xok ok tab fin ⟨(by show kb + 111 + 0 ≤ 1200144; omega), (by show sb + 63366 + 0 ≤ 5496826; omega)⟩)
  refine zg_cost (kc2 := kb + 111) (ks2 := sb + 63366) ⟨(by show kb + 111 + 0 = kb + 111; omega), (by show sb + 63366 + 0 = sb + 63366; omega)⟩ ?_
  refine zg_iload ok dL_law_3500 1 rfl ?_
  refine zg_icmp_eq (tgt := 3507) ok dL_law_3502 (by decide) hE (fun hE => ?_) (fun hE => ?_)
  · refine zg_iload ok dL_law_3507 1 rfl ?_
    refine zg_if_ne (tgt := 3524) ok dL_law_3509 (by decide) hE (fun hE => ?_) (fun hE => ?_)
    · refine zg_sub (L' := [(0, va_rf l0), (1, va_rf l1), (2, va_rf l2), (3, va_rf l3), (4, va_rf l4), (5, .int l5)]) [2, 3, 4, 5, 6, 7] rfl ?_
      exact gt_f_law_J3524 hl ok tab fin hRm hk hKE hR  hE
    · refine zg_aload_n ok dL_law_3512 rfl 5 rfl ?_
      refine zg_iconst (v := 0) ok dL_law_3513 (by decide) ?_
      refine zg_lald ok dL_law_3514 hE (fun v354 hE => ?_)
      refine zg_iload ok dL_law_3515 0 rfl ?_
      refine zg_i2l ok dL_law_3517 ?_
      refine zg_lcmp ok dL_law_3518 ?_
      refine zg_if_eq (tgt := 3524) ok dL_law_3519 (by decide) hE (fun hE => ?_) (fun hE => ?_)
      · refine zg_sub (L' := [(0, va_rf l0), (1, va_rf l1), (2, va_rf l2), (3, va_rf l3), (4, va_rf l4), (5, .int l5)]) [2, 3, 4, 5, 6, 7] rfl ?_
        exact gt_f_law_J3524 hl ok tab fin hRm hk hKE hR  hE
      · refine zg_iconst (v := 0) ok dL_law_3522 (by decide) ?_
        exact zg_zret ok fin dL_law_3523 ⟨(by omega), (by omega)⟩ rfl hE
  · refine zg_iconst (v := 0) ok dL_law_3505 (by decide) ?_
    exact zg_zret ok fin dL_law_3506 ⟨(by omega), (by omega)⟩ rfl hE
set_option maxHeartbeats 8000000 in
theorem gt_f_law_J3580 {Xc : zw_X} {Q : Int32 → zw_H → Prop} {X : String → Nat → zw_H → Prop} (hl : (zw_l Xc).stackTraces = false) (ok : zw_ok Xc cL_law "MultipoleLineLaw" "law" 9) (tab : zw_tab Xc []) (fin : zw_fin Xc (Option.some Jvm.ClassFile.FieldType.boolean) (zq_I Q) X 1200144 5496826) (hRm : zw_rm Xc = rm_law) {kb sb KE SE : Nat} (hk : kb + 1139 ≤ KE ∧ sb + 73158 ≤ SE) (hKE : KE ≤ 1200144 ∧ SE ≤ 5496826) {R : Int32 → zw_H → Prop} {l0 : Option Nat} {l1 : Option Nat} {l2 : Option Nat} {l3 : Option Nat} {l4 : Option Nat} (hR : ∀ (l5 : Int32) (h : zw_H), R l5 h → zw_G Xc (kb + 1139) (sb + 73158) 9 h 28 [(0, va_rf l0), (1, va_rf l1), (2, va_rf l2), (3, va_rf l3), (4, va_rf l4), (5, .int l5)] [])  {l5 : Int32}  {h : zw_H} (hE : f_law_J3580 (zw_Zf Xc).2.2.2 Q X R l0 l1 l2 l3 l4 l5 h) : zw_G Xc (kb + 104) (sb + 58764) 9 h 3580 [(0, va_rf l0), (1, va_rf l1), (2, va_rf l2), (3, va_rf l3), (4, va_rf l4), (5, .int l5)] [] := by
  unfold f_law_J3580 at hE
  refine zg_goto (tgt := 4220) ok dL_law_3580 (by decide) ?_
  refine zg_wide (kc2 := kb + 1139) (ks2 := sb + 73158) (by omega) (by omega) ?_
  exact gt_f_law_J4220 hl ok tab fin hRm hk hKE hR  hE
set_option maxHeartbeats 8000000 in
theorem gt_f_law_J3527 {Xc : zw_X} {Q : Int32 → zw_H → Prop} {X : String → Nat → zw_H → Prop} (hl : (zw_l Xc).stackTraces = false) (ok : zw_ok Xc cL_law "MultipoleLineLaw" "law" 9) (tab : zw_tab Xc []) (fin : zw_fin Xc (Option.some Jvm.ClassFile.FieldType.boolean) (zq_I Q) X 1200144 5496826) (hRm : zw_rm Xc = rm_law) {kb sb KE SE : Nat} (hk : kb + 1139 ≤ KE ∧ sb + 73158 ≤ SE) (hKE : KE ≤ 1200144 ∧ SE ≤ 5496826) {R : Int32 → zw_H → Prop} {l0 : Option Nat} {l1 : Option Nat} {l2 : Option Nat} {l3 : Option Nat} {l4 : Option Nat} (hR : ∀ (l5 : Int32) (h : zw_H), R l5 h → zw_G Xc (kb + 1139) (sb + 73158) 9 h 28 [(0, va_rf l0), (1, va_rf l1), (2, va_rf l2), (3, va_rf l3), (4, va_rf l4), (5, .int l5)] [])  {l5 : Int32}  {h : zw_H} (hE : f_law_J3527 (zw_Zf Xc).2.2.2 Q X R l0 l1 l2 l3 l4 l5 h) : zw_G Xc kb sb 9 h 3527 [(0, va_rf l0), (1, va_rf l1), (2, va_rf l2), (3, va_rf l3), (4, va_rf l4), (5, .int l5)] [] := by
  unfold f_law_J3527 at hE
  refine zg_aload_n ok dL_law_3527 rfl 1 rfl ?_
  refine zg_aload_n ok dL_law_3528 rfl 0 rfl ?_
  refine zg_iload ok dL_law_3529 5 rfl ?_
  refine zg_iconst (v := 1) ok dL_law_3531 (by decide) ?_
  refine zg_iadd ok dL_law_3532 ?_
  refine zg_iald ok dL_law_3533 hE (fun v355 hE => ?_)
  refine zg_aload_n ok dL_law_3534 rfl 3 rfl ?_
  refine zg_callSX (vs := [zA l1, zI v355, zA l3]) (rest := []) (rm := rm_X0_writeFar) ok hRm lk_X0_388 dL_law_3535 hE (fun hE => mt_X0_writeFar hl hE) rfl (Nat.le_of_ble_eq_true rfl) ⟨⟨Nat.le_of_ble_eq_true rfl, Nat.le_of_ble_eq_true rfl⟩, (by show kb + 104 ≤ 1200144; omega), (by show sb + 58764 ≤ 5496826; omega)⟩ (zg_retI (fun v356 h159 hE => ?_)) (zg_xok ok tab fin ⟨(by show kb + 104 ≤ 1200144; omega), (by show sb + 58764 ≤ 5496826; omega)⟩)
  refine zg_cost (kc2 := kb + 104) (ks2 := sb + 58764) ⟨(by show kb + 104 = kb + 104; omega), (by show sb + 58764 = sb + 58764; omega)⟩ ?_
  refine zg_istore (L' := [(6, .int v356), (0, va_rf l0), (1, va_rf l1), (2, va_rf l2), (3, va_rf l3), (4, va_rf l4), (5, .int l5)]) ok dL_law_3538 (by decide) rfl ?_
  refine zg_aload_n ok dL_law_3540 rfl 3 rfl ?_
  refine zg_aload_n ok dL_law_3541 rfl 1 rfl ?_
  refine zg_iload ok dL_law_3542 6 rfl ?_
  refine zg_iconst (v := 1) ok dL_law_3544 (by decide) ?_
  refine zg_iadd ok dL_law_3545 ?_
  refine zg_iald ok dL_law_3546 hE (fun v357 hE => ?_)
  refine zg_callV (vs := [zI v357]) (rest := []) (rm := rm_X2_writeFar) ok hRm lk_X0_390 dL_law_3547 hE (fun hE => mt_X2_writeFar hl hE) rfl (Nat.le_of_ble_eq_true rfl) ⟨⟨Nat.le_of_ble_eq_true rfl, Nat.le_of_ble_eq_true rfl⟩, (by show kb + 104 + 0 ≤ 1200144; omega), (by show sb + 58764 + 0 ≤ 5496826; omega)⟩ (zg_retI (fun v358 h160 hE => ?_)) (zg_xok ok tab fin ⟨(by show kb + 104 + 0 ≤ 1200144; omega), (by show sb + 58764 + 0 ≤ 5496826; omega)⟩)
  refine zg_cost (kc2 := kb + 104) (ks2 := sb + 58764) ⟨(by show kb + 104 + 0 = kb + 104; omega), (by show sb + 58764 + 0 = sb + 58764; omega)⟩ ?_
  refine zg_istore (L' := [(7, .int v358), (6, .int v356), (0, va_rf l0), (1, va_rf l1), (2, va_rf l2), (3, va_rf l3), (4, va_rf l4), (5, .int l5)]) ok dL_law_3550 (by decide) rfl ?_
  refine zg_aload_n ok dL_law_3552 rfl 4 rfl ?_
  refine zg_callV (vs := []) (rest := []) (rm := rm_X2_thrown) ok hRm lk_X0_223 dL_law_3553 hE (fun hE => mt_X2_thrown hl hE) rfl (Nat.le_of_ble_eq_true rfl) ⟨⟨Nat.le_of_ble_eq_true rfl, Nat.le_of_ble_eq_true rfl⟩, (by show kb + 104 + 0 ≤ 1200144; omega), (by show sb + 58764 + 0 ≤ 5496826; omega)⟩ (zg_retI (fun v359 h161 hE => ?_)) (zg_xok ok tab fin ⟨(by show kb + 104 + 0 ≤ 1200144; omega), (by show sb + 58764 + 0 ≤ 5496826; omega)⟩)
  refine zg_cost (kc2 := kb + 104) (ks2 := sb + 58764) ⟨(by show kb + 104 + 0 = kb + 104; omega), (by show sb + 58764 + 0 = sb + 58764; omega)⟩ ?_
  refine zg_iload ok dL_law_3556 1 rfl ?_
  refine zg_icmp_eq (tgt := 3563) ok dL_law_3558 (by decide) hE (fun hE => ?_) (fun hE => ?_)
  · refine zg_iload ok dL_law_3563 1 rfl ?_
    refine zg_if_ne (tgt := 3580) ok dL_law_3565 (by decide) hE (fun hE => ?_) (fun hE => ?_)
    · refine zg_sub (L' := [(0, va_rf l0), (1, va_rf l1), (2, va_rf l2), (3, va_rf l3), (4, va_rf l4), (5, .int l5)]) [2, 3, 4, 5, 6, 7] rfl ?_
      exact gt_f_law_J3580 hl ok tab fin hRm hk hKE hR  hE
    · refine zg_aload_n ok dL_law_3568 rfl 5 rfl ?_
      refine zg_iconst (v := 0) ok dL_law_3569 (by decide) ?_
      refine zg_lald ok dL_law_3570 hE (fun v360 hE => ?_)
      refine zg_iload ok dL_law_3571 0 rfl ?_
      refine zg_i2l ok dL_law_3573 ?_
      refine zg_lcmp ok dL_law_3574 ?_
      refine zg_if_eq (tgt := 3580) ok dL_law_3575 (by decide) hE (fun hE => ?_) (fun hE => ?_)
      · refine zg_sub (L' := [(0, va_rf l0), (1, va_rf l1), (2, va_rf l2), (3, va_rf l3), (4, va_rf l4), (5, .int l5)]) [2, 3, 4, 5, 6, 7] rfl ?_
        exact gt_f_law_J3580 hl ok tab fin hRm hk hKE hR  hE
      · refine zg_iconst (v := 0) ok dL_law_3578 (by decide) ?_
        exact zg_zret ok fin dL_law_3579 ⟨(by omega), (by omega)⟩ rfl hE
  · refine zg_iconst (v := 0) ok dL_law_3561 (by decide) ?_
    exact zg_zret ok fin dL_law_3562 ⟨(by omega), (by omega)⟩ rfl hE
set_option maxHeartbeats 8000000 in
theorem gt_f_law_J3636 {Xc : zw_X} {Q : Int32 → zw_H → Prop} {X : String → Nat → zw_H → Prop} (hl : (zw_l Xc).stackTraces = false) (ok : zw_ok Xc cL_law "MultipoleLineLaw" "law" 9) (tab : zw_tab Xc []) (fin : zw_fin Xc (Option.some Jvm.ClassFile.FieldType.boolean) (zq_I Q) X 1200144 5496826) (hRm : zw_rm Xc = rm_law) {kb sb KE SE : Nat} (hk : kb + 1139 ≤ KE ∧ sb + 73158 ≤ SE) (hKE : KE ≤ 1200144 ∧ SE ≤ 5496826) {R : Int32 → zw_H → Prop} {l0 : Option Nat} {l1 : Option Nat} {l2 : Option Nat} {l3 : Option Nat} {l4 : Option Nat} (hR : ∀ (l5 : Int32) (h : zw_H), R l5 h → zw_G Xc (kb + 1139) (sb + 73158) 9 h 28 [(0, va_rf l0), (1, va_rf l1), (2, va_rf l2), (3, va_rf l3), (4, va_rf l4), (5, .int l5)] [])  {l5 : Int32}  {h : zw_H} (hE : f_law_J3636 (zw_Zf Xc).2.2.2 Q X R l0 l1 l2 l3 l4 l5 h) : zw_G Xc (kb + 1) (sb + 6) 9 h 3636 [(0, va_rf l0), (1, va_rf l1), (2, va_rf l2), (3, va_rf l3), (4, va_rf l4), (5, .int l5)] [] := by
  unfold f_law_J3636 at hE
  refine zg_goto (tgt := 4220) ok dL_law_3636 (by decide) ?_
  refine zg_wide (kc2 := kb + 1139) (ks2 := sb + 73158) (by omega) (by omega) ?_
  exact gt_f_law_J4220 hl ok tab fin hRm hk hKE hR  hE
set_option maxHeartbeats 8000000 in
theorem gt_f_law_J3583 {Xc : zw_X} {Q : Int32 → zw_H → Prop} {X : String → Nat → zw_H → Prop} (hl : (zw_l Xc).stackTraces = false) (ok : zw_ok Xc cL_law "MultipoleLineLaw" "law" 9) (tab : zw_tab Xc []) (fin : zw_fin Xc (Option.some Jvm.ClassFile.FieldType.boolean) (zq_I Q) X 1200144 5496826) (hRm : zw_rm Xc = rm_law) {kb sb KE SE : Nat} (hk : kb + 1139 ≤ KE ∧ sb + 73158 ≤ SE) (hKE : KE ≤ 1200144 ∧ SE ≤ 5496826) {R : Int32 → zw_H → Prop} {l0 : Option Nat} {l1 : Option Nat} {l2 : Option Nat} {l3 : Option Nat} {l4 : Option Nat} (hR : ∀ (l5 : Int32) (h : zw_H), R l5 h → zw_G Xc (kb + 1139) (sb + 73158) 9 h 28 [(0, va_rf l0), (1, va_rf l1), (2, va_rf l2), (3, va_rf l3), (4, va_rf l4), (5, .int l5)] [])  {l5 : Int32}  {h : zw_H} (hE : f_law_J3583 (zw_Zf Xc).2.2.2 Q X R l0 l1 l2 l3 l4 l5 h) : zw_G Xc kb sb 9 h 3583 [(0, va_rf l0), (1, va_rf l1), (2, va_rf l2), (3, va_rf l3), (4, va_rf l4), (5, .int l5)] [] := by
  unfold f_law_J3583 at hE
  refine zg_aload_n ok dL_law_3583 rfl 1 rfl ?_
  refine zg_aload_n ok dL_law_3584 rfl 0 rfl ?_
  refine zg_iload ok dL_law_3585 5 rfl ?_
  refine zg_iconst (v := 1) ok dL_law_3587 (by decide) ?_
  refine zg_iadd ok dL_law_3588 ?_
  refine zg_iald ok dL_law_3589 hE (fun v361 hE => ?_)
  refine zg_aload_n ok dL_law_3590 rfl 3 rfl ?_
  refine zg_callSX (vs := [zA l1, zI v361, zA l3]) (rest := []) (rm := rm_X0_textByte) ok hRm lk_X0_391 dL_law_3591 hE (fun hE => mt_X0_textByte hl hE) rfl (Nat.le_of_ble_eq_true rfl) ⟨⟨Nat.le_of_ble_eq_true rfl, Nat.le_of_ble_eq_true rfl⟩, (by show kb + 1 ≤ 1200144; omega), (by show sb + 6 ≤ 5496826; omega)⟩ (zg_retI (fun v362 h162 hE => ?_)) (zg_xok ok tab fin ⟨(by show kb + 1 ≤ 1200144; omega), (by show sb + 6 ≤ 5496826; omega)⟩)
  refine zg_cost (kc2 := kb + 1) (ks2 := sb + 6) ⟨(by show kb + 1 = kb + 1; omega), (by show sb + 6 = sb + 6; omega)⟩ ?_
  refine zg_istore (L' := [(6, .int v362), (0, va_rf l0), (1, va_rf l1), (2, va_rf l2), (3, va_rf l3), (4, va_rf l4), (5, .int l5)]) ok dL_law_3594 (by decide) rfl ?_
  refine zg_aload_n ok dL_law_3596 rfl 3 rfl ?_
  refine zg_aload_n ok dL_law_3597 rfl 1 rfl ?_
  refine zg_iload ok dL_law_3598 6 rfl ?_
  refine zg_iconst (v := 1) ok dL_law_3600 (by decide) ?_
  refine zg_iadd ok dL_law_3601 ?_
  refine zg_iald ok dL_law_3602 hE (fun v363 hE => ?_)
  refine zg_callV (vs := [zI v363]) (rest := []) (rm := rm_X2_textByte) ok hRm lk_X0_393 dL_law_3603 hE (fun hE => mt_X2_textByte hl hE) rfl (Nat.le_of_ble_eq_true rfl) ⟨⟨Nat.le_of_ble_eq_true rfl, Nat.le_of_ble_eq_true rfl⟩, (by show kb + 1 + 0 ≤ 1200144; omega), (by show sb + 6 + 0 ≤ 5496826; omega)⟩ (zg_retI (fun v364 h163 hE => ?_)) (zg_xok ok tab fin ⟨(by show kb + 1 + 0 ≤ 1200144; omega), (by show sb + 6 + 0 ≤ 5496826; omega)⟩)
  refine zg_cost (kc2 := kb + 1) (ks2 := sb + 6) ⟨(by show kb + 1 + 0 = kb + 1; omega), (by show sb + 6 + 0 = sb + 6; omega)⟩ ?_
  refine zg_istore (L' := [(7, .int v364), (6, .int v362), (0, va_rf l0), (1, va_rf l1), (2, va_rf l2), (3, va_rf l3), (4, va_rf l4), (5, .int l5)]) ok dL_law_3606 (by decide) rfl ?_
  refine zg_aload_n ok dL_law_3608 rfl 4 rfl ?_
  refine zg_callV (vs := []) (rest := []) (rm := rm_X2_thrown) ok hRm lk_X0_223 dL_law_3609 hE (fun hE => mt_X2_thrown hl hE) rfl (Nat.le_of_ble_eq_true rfl) ⟨⟨Nat.le_of_ble_eq_true rfl, Nat.le_of_ble_eq_true rfl⟩, (by show kb + 1 + 0 ≤ 1200144; omega), (by show sb + 6 + 0 ≤ 5496826; omega)⟩ (zg_retI (fun v365 h164 hE => ?_)) (zg_xok ok tab fin ⟨(by show kb + 1 + 0 ≤ 1200144; omega), (by show sb + 6 + 0 ≤ 5496826; omega)⟩)
  refine zg_cost (kc2 := kb + 1) (ks2 := sb + 6) ⟨(by show kb + 1 + 0 = kb + 1; omega), (by show sb + 6 + 0 = sb + 6; omega)⟩ ?_
  refine zg_iload ok dL_law_3612 1 rfl ?_
  refine zg_icmp_eq (tgt := 3619) ok dL_law_3614 (by decide) hE (fun hE => ?_) (fun hE => ?_)
  · refine zg_iload ok dL_law_3619 1 rfl ?_
    refine zg_if_ne (tgt := 3636) ok dL_law_3621 (by decide) hE (fun hE => ?_) (fun hE => ?_)
    · refine zg_sub (L' := [(0, va_rf l0), (1, va_rf l1), (2, va_rf l2), (3, va_rf l3), (4, va_rf l4), (5, .int l5)]) [2, 3, 4, 5, 6, 7] rfl ?_
      exact gt_f_law_J3636 hl ok tab fin hRm hk hKE hR  hE
    · refine zg_aload_n ok dL_law_3624 rfl 5 rfl ?_
      refine zg_iconst (v := 0) ok dL_law_3625 (by decide) ?_
      refine zg_lald ok dL_law_3626 hE (fun v366 hE => ?_)
      refine zg_iload ok dL_law_3627 0 rfl ?_
      refine zg_i2l ok dL_law_3629 ?_
      refine zg_lcmp ok dL_law_3630 ?_
      refine zg_if_eq (tgt := 3636) ok dL_law_3631 (by decide) hE (fun hE => ?_) (fun hE => ?_)
      · refine zg_sub (L' := [(0, va_rf l0), (1, va_rf l1), (2, va_rf l2), (3, va_rf l3), (4, va_rf l4), (5, .int l5)]) [2, 3, 4, 5, 6, 7] rfl ?_
        exact gt_f_law_J3636 hl ok tab fin hRm hk hKE hR  hE
      · refine zg_iconst (v := 0) ok dL_law_3634 (by decide) ?_
        exact zg_zret ok fin dL_law_3635 ⟨(by omega), (by omega)⟩ rfl hE
  · refine zg_iconst (v := 0) ok dL_law_3617 (by decide) ?_
    exact zg_zret ok fin dL_law_3618 ⟨(by omega), (by omega)⟩ rfl hE
set_option maxHeartbeats 8000000 in
theorem gt_f_law_J3732 {Xc : zw_X} {Q : Int32 → zw_H → Prop} {X : String → Nat → zw_H → Prop} (hl : (zw_l Xc).stackTraces = false) (ok : zw_ok Xc cL_law "MultipoleLineLaw" "law" 9) (tab : zw_tab Xc []) (fin : zw_fin Xc (Option.some Jvm.ClassFile.FieldType.boolean) (zq_I Q) X 1200144 5496826) (hRm : zw_rm Xc = rm_law) {kb sb KE SE : Nat} (hk : kb + 1139 ≤ KE ∧ sb + 73158 ≤ SE) (hKE : KE ≤ 1200144 ∧ SE ≤ 5496826) {R : Int32 → zw_H → Prop} {l0 : Option Nat} {l1 : Option Nat} {l2 : Option Nat} {l3 : Option Nat} {l4 : Option Nat} (hR : ∀ (l5 : Int32) (h : zw_H), R l5 h → zw_G Xc (kb + 1139) (sb + 73158) 9 h 28 [(0, va_rf l0), (1, va_rf l1), (2, va_rf l2), (3, va_rf l3), (4, va_rf l4), (5, .int l5)] [])  {l5 : Int32}  {h : zw_H} (hE : f_law_J3732 (zw_Zf Xc).2.2.2 Q X R l0 l1 l2 l3 l4 l5 h) : zw_G Xc (kb + 302) (sb + 2484) 9 h 3732 [(0, va_rf l0), (1, va_rf l1), (2, va_rf l2), (3, va_rf l3), (4, va_rf l4), (5, .int l5)] [] := by
  unfold f_law_J3732 at hE
  refine zg_goto (tgt := 4220) ok dL_law_3732 (by decide) ?_
  refine zg_wide (kc2 := kb + 1139) (ks2 := sb + 73158) (by omega) (by omega) ?_
  exact gt_f_law_J4220 hl ok tab fin hRm hk hKE hR  hE
set_option maxHeartbeats 8000000 in
theorem gt_f_law_J3687 {Xc : zw_X} {Q : Int32 → zw_H → Prop} {X : String → Nat → zw_H → Prop} (hl : (zw_l Xc).stackTraces = false) (ok : zw_ok Xc cL_law "MultipoleLineLaw" "law" 9) (tab : zw_tab Xc []) (fin : zw_fin Xc (Option.some Jvm.ClassFile.FieldType.boolean) (zq_I Q) X 1200144 5496826) (hRm : zw_rm Xc = rm_law) {kb sb KE SE : Nat} (hk : kb + 1139 ≤ KE ∧ sb + 73158 ≤ SE) (hKE : KE ≤ 1200144 ∧ SE ≤ 5496826) {R : Int32 → zw_H → Prop} {l0 : Option Nat} {l1 : Option Nat} {l2 : Option Nat} {l3 : Option Nat} {l4 : Option Nat} (hR : ∀ (l5 : Int32) (h : zw_H), R l5 h → zw_G Xc (kb + 1139) (sb + 73158) 9 h 28 [(0, va_rf l0), (1, va_rf l1), (2, va_rf l2), (3, va_rf l3), (4, va_rf l4), (5, .int l5)] [])  {l5 : Int32} {l6 : Int32} {s0 : Int32} {s1 : Option Nat} {h : zw_H} (hE : f_law_J3687 (zw_Zf Xc).2.2.2 Q X R l0 l1 l2 l3 l4 l5 l6 s0 s1 h) : zw_G Xc (kb + 302) (sb + 2484) 9 h 3687 [(0, va_rf l0), (1, va_rf l1), (2, va_rf l2), (3, va_rf l3), (4, va_rf l4), (5, .int l5), (6, .int l6)] [.int s0, va_rf s1] := by
  unfold f_law_J3687 at hE
  refine zg_aload_n ok dL_law_3687 rfl 0 rfl ?_
  refine zg_iload ok dL_law_3688 5 rfl ?_
  refine zg_iconst (v := 2) ok dL_law_3690 (by decide) ?_
  refine zg_iadd ok dL_law_3691 ?_
  refine zg_iald ok dL_law_3692 hE (fun v372 hE => ?_)
  refine zg_aload_n ok dL_law_3693 rfl 0 rfl ?_
  refine zg_iload ok dL_law_3694 5 rfl ?_
  refine zg_iconst (v := 3) ok dL_law_3696 (by decide) ?_
  refine zg_iadd ok dL_law_3697 ?_
  refine zg_iald ok dL_law_3698 hE (fun v373 hE => ?_)
  refine zg_callV (vs := [zI s0, zI v372, zI v373]) (rest := []) (rm := rm_X2_add) ok hRm lk_X0_397 dL_law_3699 hE (fun hE => mt_X2_add hl hE) rfl (Nat.le_of_ble_eq_true rfl) ⟨⟨Nat.le_of_ble_eq_true rfl, Nat.le_of_ble_eq_true rfl⟩, (by show kb + 302 + 0 ≤ 1200144; omega), (by show sb + 2484 + 0 ≤ 5496826; omega)⟩ (zg_retI (fun v374 h166 hE => ?_)) (zg_xok ok tab fin ⟨(by show kb + 302 + 0 ≤ 1200144; omega), (by show sb + 2484 + 0 ≤ 5496826; omega)⟩)
  refine zg_cost (kc2 := kb + 302) (ks2 := sb + 2484) ⟨(by show kb + 302 + 0 = kb + 302; omega), (by show sb + 2484 + 0 = sb + 2484; omega)⟩ ?_
  refine zg_istore (L' := [(7, .int v374), (0, va_rf l0), (1, va_rf l1), (2, va_rf l2), (3, va_rf l3), (4, va_rf l4), (5, .int l5), (6, .int l6)]) ok dL_law_3702 (by decide) rfl ?_
  refine zg_aload_n ok dL_law_3704 rfl 3 rfl ?_
  refine zg_callV (vs := []) (rest := []) (rm := rm_X2_thrown) ok hRm lk_X0_223 dL_law_3705 hE (fun hE => mt_X2_thrown hl hE) rfl (Nat.le_of_ble_eq_true rfl) ⟨⟨Nat.le_of_ble_eq_true rfl, Nat.le_of_ble_eq_true rfl⟩, (by show kb + 302 + 0 ≤ 1200144; omega), (by show sb + 2484 + 0 ≤ 5496826; omega)⟩ (zg_retI (fun v375 h167 hE => ?_)) (zg_xok ok tab fin ⟨(by show kb + 302 + 0 ≤ 1200144; omega), (by show sb + 2484 + 0 ≤ 5496826; omega)⟩)
  refine zg_cost (kc2 := kb + 302) (ks2 := sb + 2484) ⟨(by show kb + 302 + 0 = kb + 302; omega), (by show sb + 2484 + 0 = sb + 2484; omega)⟩ ?_
  refine zg_iload ok dL_law_3708 7 rfl ?_
  refine zg_icmp_eq (tgt := 3715) ok dL_law_3710 (by decide) hE (fun hE => ?_) (fun hE => ?_)
  · refine zg_iload ok dL_law_3715 7 rfl ?_
    refine zg_if_ne (tgt := 3732) ok dL_law_3717 (by decide) hE (fun hE => ?_) (fun hE => ?_)
    · refine zg_sub (L' := [(0, va_rf l0), (1, va_rf l1), (2, va_rf l2), (3, va_rf l3), (4, va_rf l4), (5, .int l5)]) [1, 2, 3, 4, 5, 6] rfl ?_
      exact gt_f_law_J3732 hl ok tab fin hRm hk hKE hR  hE
    · refine zg_aload_n ok dL_law_3720 rfl 4 rfl ?_
      refine zg_iconst (v := 0) ok dL_law_3721 (by decide) ?_
      refine zg_lald ok dL_law_3722 hE (fun v376 hE => ?_)
      refine zg_iload ok dL_law_3723 0 rfl ?_
      refine zg_i2l ok dL_law_3725 ?_
      refine zg_lcmp ok dL_law_3726 ?_
      refine zg_if_eq (tgt := 3732) ok dL_law_3727 (by decide) hE (fun hE => ?_) (fun hE => ?_)
      · refine zg_sub (L' := [(0, va_rf l0), (1, va_rf l1), (2, va_rf l2), (3, va_rf l3), (4, va_rf l4), (5, .int l5)]) [1, 2, 3, 4, 5, 6] rfl ?_
        exact gt_f_law_J3732 hl ok tab fin hRm hk hKE hR  hE
      · refine zg_iconst (v := 0) ok dL_law_3730 (by decide) ?_
        exact zg_zret ok fin dL_law_3731 ⟨(by omega), (by omega)⟩ rfl hE
  · refine zg_iconst (v := 0) ok dL_law_3713 (by decide) ?_
    exact zg_zret ok fin dL_law_3714 ⟨(by omega), (by omega)⟩ rfl hE
set_option maxHeartbeats 8000000 in
theorem gt_f_law_J3654 {Xc : zw_X} {Q : Int32 → zw_H → Prop} {X : String → Nat → zw_H → Prop} (hl : (zw_l Xc).stackTraces = false) (ok : zw_ok Xc cL_law "MultipoleLineLaw" "law" 9) (tab : zw_tab Xc []) (fin : zw_fin Xc (Option.some Jvm.ClassFile.FieldType.boolean) (zq_I Q) X 1200144 5496826) (hRm : zw_rm Xc = rm_law) {kb sb KE SE : Nat} (hk : kb + 1139 ≤ KE ∧ sb + 73158 ≤ SE) (hKE : KE ≤ 1200144 ∧ SE ≤ 5496826) {R : Int32 → zw_H → Prop} {l0 : Option Nat} {l1 : Option Nat} {l2 : Option Nat} {l3 : Option Nat} {l4 : Option Nat} (hR : ∀ (l5 : Int32) (h : zw_H), R l5 h → zw_G Xc (kb + 1139) (sb + 73158) 9 h 28 [(0, va_rf l0), (1, va_rf l1), (2, va_rf l2), (3, va_rf l3), (4, va_rf l4), (5, .int l5)] [])  {l5 : Int32} {s0 : Int32} {s1 : Option Nat} {h : zw_H} (hE : f_law_J3654 (zw_Zf Xc).2.2.2 Q X R l0 l1 l2 l3 l4 l5 s0 s1 h) : zw_G Xc kb sb 9 h 3654 [(0, va_rf l0), (1, va_rf l1), (2, va_rf l2), (3, va_rf l3), (4, va_rf l4), (5, .int l5)] [.int s0, va_rf s1] := by
  unfold f_law_J3654 at hE
  refine zg_aload_n ok dL_law_3654 rfl 0 rfl ?_
  refine zg_iload ok dL_law_3655 5 rfl ?_
  refine zg_iconst (v := 2) ok dL_law_3657 (by decide) ?_
  refine zg_iadd ok dL_law_3658 ?_
  refine zg_iald ok dL_law_3659 hE (fun v368 hE => ?_)
  refine zg_aload_n ok dL_law_3660 rfl 0 rfl ?_
  refine zg_iload ok dL_law_3661 5 rfl ?_
  refine zg_iconst (v := 3) ok dL_law_3663 (by decide) ?_
  refine zg_iadd ok dL_law_3664 ?_
  refine zg_iald ok dL_law_3665 hE (fun v369 hE => ?_)
  refine zg_aload_n ok dL_law_3666 rfl 3 rfl ?_
  refine zg_callSX (vs := [zA s1, zI s0, zI v368, zI v369, zA l3]) (rest := []) (rm := rm_X0_add) ok hRm lk_X0_394 dL_law_3667 hE (fun hE => mt_X0_add hl hE) rfl (Nat.le_of_ble_eq_true rfl) ⟨⟨Nat.le_of_ble_eq_true rfl, Nat.le_of_ble_eq_true rfl⟩, (by show kb + 302 ≤ 1200144; omega), (by show sb + 2484 ≤ 5496826; omega)⟩ (zg_retI (fun v370 h165 hE => ?_)) (zg_xok ok tab fin ⟨(by show kb + 302 ≤ 1200144; omega), (by show sb + 2484 ≤ 5496826; omega)⟩)
  refine zg_cost (kc2 := kb + 302) (ks2 := sb + 2484) ⟨(by show kb + 302 = kb + 302; omega), (by show sb + 2484 = sb + 2484; omega)⟩ ?_
  refine zg_istore (L' := [(6, .int v370), (0, va_rf l0), (1, va_rf l1), (2, va_rf l2), (3, va_rf l3), (4, va_rf l4), (5, .int l5)]) ok dL_law_3670 (by decide) rfl ?_
  refine zg_aload_n ok dL_law_3672 rfl 3 rfl ?_
  refine zg_aload_n ok dL_law_3673 rfl 1 rfl ?_
  refine zg_iload ok dL_law_3674 6 rfl ?_
  refine zg_iconst (v := 1) ok dL_law_3676 (by decide) ?_
  refine zg_iadd ok dL_law_3677 ?_
  refine zg_iald ok dL_law_3678 hE (fun v371 hE => ?_)
  refine zg_if_eq (tgt := 3686) ok dL_law_3679 (by decide) hE (fun hE => ?_) (fun hE => ?_)
  · refine zg_iconst (v := 0) ok dL_law_3686 (by decide) ?_
    refine zg_sub (L' := [(0, va_rf l0), (1, va_rf l1), (2, va_rf l2), (3, va_rf l3), (4, va_rf l4), (5, .int l5), (6, .int v370)]) [1, 2, 3, 4, 5, 6, 0] rfl ?_
    exact gt_f_law_J3687 hl ok tab fin hRm hk hKE hR  hE
  · refine zg_iconst (v := 1) ok dL_law_3682 (by decide) ?_
    refine zg_goto (tgt := 3687) ok dL_law_3683 (by decide) ?_
    refine zg_sub (L' := [(0, va_rf l0), (1, va_rf l1), (2, va_rf l2), (3, va_rf l3), (4, va_rf l4), (5, .int l5), (6, .int v370)]) [1, 2, 3, 4, 5, 6, 0] rfl ?_
    exact gt_f_law_J3687 hl ok tab fin hRm hk hKE hR  hE
set_option maxHeartbeats 8000000 in
theorem gt_f_law_J3639 {Xc : zw_X} {Q : Int32 → zw_H → Prop} {X : String → Nat → zw_H → Prop} (hl : (zw_l Xc).stackTraces = false) (ok : zw_ok Xc cL_law "MultipoleLineLaw" "law" 9) (tab : zw_tab Xc []) (fin : zw_fin Xc (Option.some Jvm.ClassFile.FieldType.boolean) (zq_I Q) X 1200144 5496826) (hRm : zw_rm Xc = rm_law) {kb sb KE SE : Nat} (hk : kb + 1139 ≤ KE ∧ sb + 73158 ≤ SE) (hKE : KE ≤ 1200144 ∧ SE ≤ 5496826) {R : Int32 → zw_H → Prop} {l0 : Option Nat} {l1 : Option Nat} {l2 : Option Nat} {l3 : Option Nat} {l4 : Option Nat} (hR : ∀ (l5 : Int32) (h : zw_H), R l5 h → zw_G Xc (kb + 1139) (sb + 73158) 9 h 28 [(0, va_rf l0), (1, va_rf l1), (2, va_rf l2), (3, va_rf l3), (4, va_rf l4), (5, .int l5)] [])  {l5 : Int32}  {h : zw_H} (hE : f_law_J3639 (zw_Zf Xc).2.2.2 Q X R l0 l1 l2 l3 l4 l5 h) : zw_G Xc kb sb 9 h 3639 [(0, va_rf l0), (1, va_rf l1), (2, va_rf l2), (3, va_rf l3), (4, va_rf l4), (5, .int l5)] [] := by
  unfold f_law_J3639 at hE
  refine zg_aload_n ok dL_law_3639 rfl 1 rfl ?_
  refine zg_aload_n ok dL_law_3640 rfl 0 rfl ?_
  refine zg_iload ok dL_law_3641 5 rfl ?_
  refine zg_iconst (v := 1) ok dL_law_3643 (by decide) ?_
  refine zg_iadd ok dL_law_3644 ?_
  refine zg_iald ok dL_law_3645 hE (fun v367 hE => ?_)
  refine zg_if_eq (tgt := 3653) ok dL_law_3646 (by decide) hE (fun hE => ?_) (fun hE => ?_)
  · refine zg_iconst (v := 0) ok dL_law_3653 (by decide) ?_
    exact gt_f_law_J3654 hl ok tab fin hRm hk hKE hR  hE
  · refine zg_iconst (v := 1) ok dL_law_3649 (by decide) ?_
    refine zg_goto (tgt := 3654) ok dL_law_3650 (by decide) ?_
    exact gt_f_law_J3654 hl ok tab fin hRm hk hKE hR  hE
set_option maxHeartbeats 8000000 in
theorem gt_f_law_J3800 {Xc : zw_X} {Q : Int32 → zw_H → Prop} {X : String → Nat → zw_H → Prop} (hl : (zw_l Xc).stackTraces = false) (ok : zw_ok Xc cL_law "MultipoleLineLaw" "law" 9) (tab : zw_tab Xc []) (fin : zw_fin Xc (Option.some Jvm.ClassFile.FieldType.boolean) (zq_I Q) X 1200144 5496826) (hRm : zw_rm Xc = rm_law) {kb sb KE SE : Nat} (hk : kb + 1139 ≤ KE ∧ sb + 73158 ≤ SE) (hKE : KE ≤ 1200144 ∧ SE ≤ 5496826) {R : Int32 → zw_H → Prop} {l0 : Option Nat} {l1 : Option Nat} {l2 : Option Nat} {l3 : Option Nat} {l4 : Option Nat} (hR : ∀ (l5 : Int32) (h : zw_H), R l5 h → zw_G Xc (kb + 1139) (sb + 73158) 9 h 28 [(0, va_rf l0), (1, va_rf l1), (2, va_rf l2), (3, va_rf l3), (4, va_rf l4), (5, .int l5)] [])  {l5 : Int32}  {h : zw_H} (hE : f_law_J3800 (zw_Zf Xc).2.2.2 Q X R l0 l1 l2 l3 l4 l5 h) : zw_G Xc (kb + 297) (sb + 2415) 9 h 3800 [(0, va_rf l0), (1, va_rf l1), (2, va_rf l2), (3, va_rf l3), (4, va_rf l4), (5, .int l5)] [] := by
  unfold f_law_J3800 at hE
  refine zg_goto (tgt := 4220) ok dL_law_3800 (by decide) ?_
  refine zg_wide (kc2 := kb + 1139) (ks2 := sb + 73158) (by omega) (by omega) ?_
  exact gt_f_law_J4220 hl ok tab fin hRm hk hKE hR  hE
set_option maxHeartbeats 8000000 in
theorem gt_f_law_J3735 {Xc : zw_X} {Q : Int32 → zw_H → Prop} {X : String → Nat → zw_H → Prop} (hl : (zw_l Xc).stackTraces = false) (ok : zw_ok Xc cL_law "MultipoleLineLaw" "law" 9) (tab : zw_tab Xc []) (fin : zw_fin Xc (Option.some Jvm.ClassFile.FieldType.boolean) (zq_I Q) X 1200144 5496826) (hRm : zw_rm Xc = rm_law) {kb sb KE SE : Nat} (hk : kb + 1139 ≤ KE ∧ sb + 73158 ≤ SE) (hKE : KE ≤ 1200144 ∧ SE ≤ 5496826) {R : Int32 → zw_H → Prop} {l0 : Option Nat} {l1 : Option Nat} {l2 : Option Nat} {l3 : Option Nat} {l4 : Option Nat} (hR : ∀ (l5 : Int32) (h : zw_H), R l5 h → zw_G Xc (kb + 1139) (sb + 73158) 9 h 28 [(0, va_rf l0), (1, va_rf l1), (2, va_rf l2), (3, va_rf l3), (4, va_rf l4), (5, .int l5)] [])  {l5 : Int32}  {h : zw_H} (hE : f_law_J3735 (zw_Zf Xc).2.2.2 Q X R l0 l1 l2 l3 l4 l5 h) : zw_G Xc kb sb 9 h 3735 [(0, va_rf l0), (1, va_rf l1), (2, va_rf l2), (3, va_rf l3), (4, va_rf l4), (5, .int l5)] [] := by
  unfold f_law_J3735 at hE
  refine zg_aload_n ok dL_law_3735 rfl 1 rfl ?_
  refine zg_aload_n ok dL_law_3736 rfl 0 rfl ?_
  refine zg_iload ok dL_law_3737 5 rfl ?_
  refine zg_iconst (v := 1) ok dL_law_3739 (by decide) ?_
  refine zg_iadd ok dL_law_3740 ?_
  refine zg_iald ok dL_law_3741 hE (fun v377 hE => ?_)
  refine zg_aload_n ok dL_law_3742 rfl 0 rfl ?_
  refine zg_iload ok dL_law_3743 5 rfl ?_
  refine zg_iconst (v := 2) ok dL_law_3745 (by decide) ?_
  refine zg_iadd ok dL_law_3746 ?_
  refine zg_iald ok dL_law_3747 hE (fun v378 hE => ?_)
  refine zg_aload_n ok dL_law_3748 rfl 3 rfl ?_
  refine zg_callSX (vs := [zA l1, zI v377, zI v378, zA l3]) (rest := []) (rm := rm_X0_move) ok hRm lk_X0_398 dL_law_3749 hE (fun hE => mt_X0_move hl hE) rfl (Nat.le_of_ble_eq_true rfl) ⟨⟨Nat.le_of_ble_eq_true rfl, Nat.le_of_ble_eq_true rfl⟩, (by show kb + 297 ≤ 1200144; omega), (by show sb + 2415 ≤ 5496826; omega)⟩ (zg_retI (fun v379 h168 hE => ?_)) (zg_xok ok tab fin ⟨(by show kb + 297 ≤ 1200144; omega), (by show sb + 2415 ≤ 5496826; omega)⟩)
  refine zg_cost (kc2 := kb + 297) (ks2 := sb + 2415) ⟨(by show kb + 297 = kb + 297; omega), (by show sb + 2415 = sb + 2415; omega)⟩ ?_
  refine zg_istore (L' := [(6, .int v379), (0, va_rf l0), (1, va_rf l1), (2, va_rf l2), (3, va_rf l3), (4, va_rf l4), (5, .int l5)]) ok dL_law_3752 (by decide) rfl ?_
  refine zg_aload_n ok dL_law_3754 rfl 3 rfl ?_
  refine zg_aload_n ok dL_law_3755 rfl 1 rfl ?_
  refine zg_iload ok dL_law_3756 6 rfl ?_
  refine zg_iconst (v := 1) ok dL_law_3758 (by decide) ?_
  refine zg_iadd ok dL_law_3759 ?_
  refine zg_iald ok dL_law_3760 hE (fun v380 hE => ?_)
  refine zg_aload_n ok dL_law_3761 rfl 1 rfl ?_
  refine zg_iload ok dL_law_3762 6 rfl ?_
  refine zg_iconst (v := 2) ok dL_law_3764 (by decide) ?_
  refine zg_iadd ok dL_law_3765 ?_
  refine zg_iald ok dL_law_3766 hE (fun v381 hE => ?_)
  refine zg_callV (vs := [zI v380, zI v381]) (rest := []) (rm := rm_X2_move) ok hRm lk_X0_400 dL_law_3767 hE (fun hE => mt_X2_move hl hE) rfl (Nat.le_of_ble_eq_true rfl) ⟨⟨Nat.le_of_ble_eq_true rfl, Nat.le_of_ble_eq_true rfl⟩, (by show kb + 297 + 0 ≤ 1200144; omega), (by show sb + 2415 + 0 ≤ 5496826; omega)⟩ (zg_retI (fun v382 h169 hE => ?_)) (zg_xok ok tab fin ⟨(by show kb + 297 + 0 ≤ 1200144; omega), (by show sb + 2415 + 0 ≤ 5496826; omega)⟩)
  refine zg_cost (kc2 := kb + 297) (ks2 := sb + 2415) ⟨(by show kb + 297 + 0 = kb + 297; omega), (by show sb + 2415 + 0 = sb + 2415; omega)⟩ ?_
  refine zg_istore (L' := [(7, .int v382), (6, .int v379), (0, va_rf l0), (1, va_rf l1), (2, va_rf l2), (3, va_rf l3), (4, va_rf l4), (5, .int l5)]) ok dL_law_3770 (by decide) rfl ?_
  refine zg_aload_n ok dL_law_3772 rfl 4 rfl ?_
  refine zg_callV (vs := []) (rest := []) (rm := rm_X2_thrown) ok hRm lk_X0_223 dL_law_3773 hE (fun hE => mt_X2_thrown hl hE) rfl (Nat.le_of_ble_eq_true rfl) ⟨⟨Nat.le_of_ble_eq_true rfl, Nat.le_of_ble_eq_true rfl⟩, (by show kb + 297 + 0 ≤ 1200144; omega), (by show sb + 2415 + 0 ≤ 5496826; omega)⟩ (zg_retI (fun v383 h170 hE => ?_)) (zg_xok ok tab fin ⟨(by show kb + 297 + 0 ≤ 1200144; omega), (by show sb + 2415 + 0 ≤ 5496826; omega)⟩)
  refine zg_cost (kc2 := kb + 297) (ks2 := sb + 2415) ⟨(by show kb + 297 + 0 = kb + 297; omega), (by show sb + 2415 + 0 = sb + 2415; omega)⟩ ?_
  refine zg_iload ok dL_law_3776 1 rfl ?_
  refine zg_icmp_eq (tgt := 3783) ok dL_law_3778 (by decide) hE (fun hE => ?_) (fun hE => ?_)
  · refine zg_iload ok dL_law_3783 1 rfl ?_
    refine zg_if_ne (tgt := 3800) ok dL_law_3785 (by decide) hE (fun hE => ?_) (fun hE => ?_)
    · refine zg_sub (L' := [(0, va_rf l0), (1, va_rf l1), (2, va_rf l2), (3, va_rf l3), (4, va_rf l4), (5, .int l5)]) [2, 3, 4, 5, 6, 7] rfl ?_
      exact gt_f_law_J3800 hl ok tab fin hRm hk hKE hR  hE
    · refine zg_aload_n ok dL_law_3788 rfl 5 rfl ?_
      refine zg_iconst (v := 0) ok dL_law_3789 (by decide) ?_
      refine zg_lald ok dL_law_3790 hE (fun v384 hE => ?_)
      refine zg_iload ok dL_law_3791 0 rfl ?_
      refine zg_i2l ok dL_law_3793 ?_
      refine zg_lcmp ok dL_law_3794 ?_
      refine zg_if_eq (tgt := 3800) ok dL_law_3795 (by decide) hE (fun hE => ?_) (fun hE => ?_)
      · refine zg_sub (L' := [(0, va_rf l0), (1, va_rf l1), (2, va_rf l2), (3, va_rf l3), (4, va_rf l4), (5, .int l5)]) [2, 3, 4, 5, 6, 7] rfl ?_
        exact gt_f_law_J3800 hl ok tab fin hRm hk hKE hR  hE
      · refine zg_iconst (v := 0) ok dL_law_3798 (by decide) ?_
        exact zg_zret ok fin dL_law_3799 ⟨(by omega), (by omega)⟩ rfl hE
  · refine zg_iconst (v := 0) ok dL_law_3781 (by decide) ?_
    exact zg_zret ok fin dL_law_3782 ⟨(by omega), (by omega)⟩ rfl hE
set_option maxHeartbeats 8000000 in
theorem gt_f_law_J3868 {Xc : zw_X} {Q : Int32 → zw_H → Prop} {X : String → Nat → zw_H → Prop} (hl : (zw_l Xc).stackTraces = false) (ok : zw_ok Xc cL_law "MultipoleLineLaw" "law" 9) (tab : zw_tab Xc []) (fin : zw_fin Xc (Option.some Jvm.ClassFile.FieldType.boolean) (zq_I Q) X 1200144 5496826) (hRm : zw_rm Xc = rm_law) {kb sb KE SE : Nat} (hk : kb + 1139 ≤ KE ∧ sb + 73158 ≤ SE) (hKE : KE ≤ 1200144 ∧ SE ≤ 5496826) {R : Int32 → zw_H → Prop} {l0 : Option Nat} {l1 : Option Nat} {l2 : Option Nat} {l3 : Option Nat} {l4 : Option Nat} (hR : ∀ (l5 : Int32) (h : zw_H), R l5 h → zw_G Xc (kb + 1139) (sb + 73158) 9 h 28 [(0, va_rf l0), (1, va_rf l1), (2, va_rf l2), (3, va_rf l3), (4, va_rf l4), (5, .int l5)] [])  {l5 : Int32}  {h : zw_H} (hE : f_law_J3868 (zw_Zf Xc).2.2.2 Q X R l0 l1 l2 l3 l4 l5 h) : zw_G Xc (kb + 297) (sb + 2415) 9 h 3868 [(0, va_rf l0), (1, va_rf l1), (2, va_rf l2), (3, va_rf l3), (4, va_rf l4), (5, .int l5)] [] := by
  unfold f_law_J3868 at hE
  refine zg_goto (tgt := 4220) ok dL_law_3868 (by decide) ?_
  refine zg_wide (kc2 := kb + 1139) (ks2 := sb + 73158) (by omega) (by omega) ?_
  exact gt_f_law_J4220 hl ok tab fin hRm hk hKE hR  hE
set_option maxHeartbeats 8000000 in
theorem gt_f_law_J3803 {Xc : zw_X} {Q : Int32 → zw_H → Prop} {X : String → Nat → zw_H → Prop} (hl : (zw_l Xc).stackTraces = false) (ok : zw_ok Xc cL_law "MultipoleLineLaw" "law" 9) (tab : zw_tab Xc []) (fin : zw_fin Xc (Option.some Jvm.ClassFile.FieldType.boolean) (zq_I Q) X 1200144 5496826) (hRm : zw_rm Xc = rm_law) {kb sb KE SE : Nat} (hk : kb + 1139 ≤ KE ∧ sb + 73158 ≤ SE) (hKE : KE ≤ 1200144 ∧ SE ≤ 5496826) {R : Int32 → zw_H → Prop} {l0 : Option Nat} {l1 : Option Nat} {l2 : Option Nat} {l3 : Option Nat} {l4 : Option Nat} (hR : ∀ (l5 : Int32) (h : zw_H), R l5 h → zw_G Xc (kb + 1139) (sb + 73158) 9 h 28 [(0, va_rf l0), (1, va_rf l1), (2, va_rf l2), (3, va_rf l3), (4, va_rf l4), (5, .int l5)] [])  {l5 : Int32}  {h : zw_H} (hE : f_law_J3803 (zw_Zf Xc).2.2.2 Q X R l0 l1 l2 l3 l4 l5 h) : zw_G Xc kb sb 9 h 3803 [(0, va_rf l0), (1, va_rf l1), (2, va_rf l2), (3, va_rf l3), (4, va_rf l4), (5, .int l5)] [] := by
  unfold f_law_J3803 at hE
  refine zg_aload_n ok dL_law_3803 rfl 1 rfl ?_
  refine zg_aload_n ok dL_law_3804 rfl 0 rfl ?_
  refine zg_iload ok dL_law_3805 5 rfl ?_
  refine zg_iconst (v := 1) ok dL_law_3807 (by decide) ?_
  refine zg_iadd ok dL_law_3808 ?_
  refine zg_iald ok dL_law_3809 hE (fun v385 hE => ?_)
  refine zg_aload_n ok dL_law_3810 rfl 0 rfl ?_
  refine zg_iload ok dL_law_3811 5 rfl ?_
  refine zg_iconst (v := 2) ok dL_law_3813 (by decide) ?_
  refine zg_iadd ok dL_law_3814 ?_
  refine zg_iald ok dL_law_3815 hE (fun v386 hE => ?_)
  refine zg_aload_n ok dL_law_3816 rfl 3 rfl ?_
  refine zg_callSX (vs := [zA l1, zI v385, zI v386, zA l3]) (rest := []) (rm := rm_X0_setCharge) ok hRm lk_X0_401 dL_law_3817 hE (fun hE => mt_X0_setCharge hl hE) rfl (Nat.le_of_ble_eq_true rfl) ⟨⟨Nat.le_of_ble_eq_true rfl, Nat.le_of_ble_eq_true rfl⟩, (by show kb + 297 ≤ 1200144; omega), (by show sb + 2415 ≤ 5496826; omega)⟩ (zg_retI (fun v387 h171 hE => ?_)) (zg_xok ok tab fin ⟨(by show kb + 297 ≤ 1200144; omega), (by show sb + 2415 ≤ 5496826; omega)⟩)
  refine zg_cost (kc2 := kb + 297) (ks2 := sb + 2415) ⟨(by show kb + 297 = kb + 297; omega), (by show sb + 2415 = sb + 2415; omega)⟩ ?_
  refine zg_istore (L' := [(6, .int v387), (0, va_rf l0), (1, va_rf l1), (2, va_rf l2), (3, va_rf l3), (4, va_rf l4), (5, .int l5)]) ok dL_law_3820 (by decide) rfl ?_
  refine zg_aload_n ok dL_law_3822 rfl 3 rfl ?_
  refine zg_aload_n ok dL_law_3823 rfl 1 rfl ?_
  refine zg_iload ok dL_law_3824 6 rfl ?_
  refine zg_iconst (v := 1) ok dL_law_3826 (by decide) ?_
  refine zg_iadd ok dL_law_3827 ?_
  refine zg_iald ok dL_law_3828 hE (fun v388 hE => ?_)
  refine zg_aload_n ok dL_law_3829 rfl 1 rfl ?_
  refine zg_iload ok dL_law_3830 6 rfl ?_
  refine zg_iconst (v := 2) ok dL_law_3832 (by decide) ?_
  refine zg_iadd ok dL_law_3833 ?_
  refine zg_iald ok dL_law_3834 hE (fun v389 hE => ?_)
  refine zg_callV (vs := [zI v388, zI v389]) (rest := []) (rm := rm_X2_setCharge) ok hRm lk_X0_403 dL_law_3835 hE (fun hE => mt_X2_setCharge hl hE) rfl (Nat.le_of_ble_eq_true rfl) ⟨⟨Nat.le_of_ble_eq_true rfl, Nat.le_of_ble_eq_true rfl⟩, (by show kb + 297 + 0 ≤ 1200144; omega), (by show sb + 2415 + 0 ≤ 5496826; omega)⟩ (zg_retI (fun v390 h172 hE => ?_)) (zg_xok ok tab fin ⟨(by show kb + 297 + 0 ≤ 1200144; omega), (by show sb + 2415 + 0 ≤ 5496826; omega)⟩)
  refine zg_cost (kc2 := kb + 297) (ks2 := sb + 2415) ⟨(by show kb + 297 + 0 = kb + 297; omega), (by show sb + 2415 + 0 = sb + 2415; omega)⟩ ?_
  refine zg_istore (L' := [(7, .int v390), (6, .int v387), (0, va_rf l0), (1, va_rf l1), (2, va_rf l2), (3, va_rf l3), (4, va_rf l4), (5, .int l5)]) ok dL_law_3838 (by decide) rfl ?_
  refine zg_aload_n ok dL_law_3840 rfl 4 rfl ?_
  refine zg_callV (vs := []) (rest := []) (rm := rm_X2_thrown) ok hRm lk_X0_223 dL_law_3841 hE (fun hE => mt_X2_thrown hl hE) rfl (Nat.le_of_ble_eq_true rfl) ⟨⟨Nat.le_of_ble_eq_true rfl, Nat.le_of_ble_eq_true rfl⟩, (by show kb + 297 + 0 ≤ 1200144; omega), (by show sb + 2415 + 0 ≤ 5496826; omega)⟩ (zg_retI (fun v391 h173 hE => ?_)) (zg_xok ok tab fin ⟨(by show kb + 297 + 0 ≤ 1200144; omega), (by show sb + 2415 + 0 ≤ 5496826; omega)⟩)
  refine zg_cost (kc2 := kb + 297) (ks2 := sb + 2415) ⟨(by show kb + 297 + 0 = kb + 297; omega), (by show sb + 2415 + 0 = sb + 2415; omega)⟩ ?_
  refine zg_iload ok dL_law_3844 1 rfl ?_
  refine zg_icmp_eq (tgt := 3851) ok dL_law_3846 (by decide) hE (fun hE => ?_) (fun hE => ?_)
  · refine zg_iload ok dL_law_3851 1 rfl ?_
    refine zg_if_ne (tgt := 3868) ok dL_law_3853 (by decide) hE (fun hE => ?_) (fun hE => ?_)
    · refine zg_sub (L' := [(0, va_rf l0), (1, va_rf l1), (2, va_rf l2), (3, va_rf l3), (4, va_rf l4), (5, .int l5)]) [2, 3, 4, 5, 6, 7] rfl ?_
      exact gt_f_law_J3868 hl ok tab fin hRm hk hKE hR  hE
    · refine zg_aload_n ok dL_law_3856 rfl 5 rfl ?_
      refine zg_iconst (v := 0) ok dL_law_3857 (by decide) ?_
      refine zg_lald ok dL_law_3858 hE (fun v392 hE => ?_)
      refine zg_iload ok dL_law_3859 0 rfl ?_
      refine zg_i2l ok dL_law_3861 ?_
      refine zg_lcmp ok dL_law_3862 ?_
      refine zg_if_eq (tgt := 3868) ok dL_law_3863 (by decide) hE (fun hE => ?_) (fun hE => ?_)
      · refine zg_sub (L' := [(0, va_rf l0), (1, va_rf l1), (2, va_rf l2), (3, va_rf l3), (4, va_rf l4), (5, .int l5)]) [2, 3, 4, 5, 6, 7] rfl ?_
        exact gt_f_law_J3868 hl ok tab fin hRm hk hKE hR  hE
      · refine zg_iconst (v := 0) ok dL_law_3866 (by decide) ?_
        exact zg_zret ok fin dL_law_3867 ⟨(by omega), (by omega)⟩ rfl hE
  · refine zg_iconst (v := 0) ok dL_law_3849 (by decide) ?_
    exact zg_zret ok fin dL_law_3850 ⟨(by omega), (by omega)⟩ rfl hE
set_option maxHeartbeats 8000000 in
theorem gt_f_law_J3924 {Xc : zw_X} {Q : Int32 → zw_H → Prop} {X : String → Nat → zw_H → Prop} (hl : (zw_l Xc).stackTraces = false) (ok : zw_ok Xc cL_law "MultipoleLineLaw" "law" 9) (tab : zw_tab Xc []) (fin : zw_fin Xc (Option.some Jvm.ClassFile.FieldType.boolean) (zq_I Q) X 1200144 5496826) (hRm : zw_rm Xc = rm_law) {kb sb KE SE : Nat} (hk : kb + 1139 ≤ KE ∧ sb + 73158 ≤ SE) (hKE : KE ≤ 1200144 ∧ SE ≤ 5496826) {R : Int32 → zw_H → Prop} {l0 : Option Nat} {l1 : Option Nat} {l2 : Option Nat} {l3 : Option Nat} {l4 : Option Nat} (hR : ∀ (l5 : Int32) (h : zw_H), R l5 h → zw_G Xc (kb + 1139) (sb + 73158) 9 h 28 [(0, va_rf l0), (1, va_rf l1), (2, va_rf l2), (3, va_rf l3), (4, va_rf l4), (5, .int l5)] [])  {l5 : Int32}  {h : zw_H} (hE : f_law_J3924 (zw_Zf Xc).2.2.2 Q X R l0 l1 l2 l3 l4 l5 h) : zw_G Xc (kb + 296) (sb + 2409) 9 h 3924 [(0, va_rf l0), (1, va_rf l1), (2, va_rf l2), (3, va_rf l3), (4, va_rf l4), (5, .int l5)] [] := by
  unfold f_law_J3924 at hE
  refine zg_goto (tgt := 4220) ok dL_law_3924 (by decide) ?_
  refine zg_wide (kc2 := kb + 1139) (ks2 := sb + 73158) (by omega) (by omega) ?_
  exact gt_f_law_J4220 hl ok tab fin hRm hk hKE hR  hE
set_option maxHeartbeats 8000000 in
theorem gt_f_law_J3871 {Xc : zw_X} {Q : Int32 → zw_H → Prop} {X : String → Nat → zw_H → Prop} (hl : (zw_l Xc).stackTraces = false) (ok : zw_ok Xc cL_law "MultipoleLineLaw" "law" 9) (tab : zw_tab Xc []) (fin : zw_fin Xc (Option.some Jvm.ClassFile.FieldType.boolean) (zq_I Q) X 1200144 5496826) (hRm : zw_rm Xc = rm_law) {kb sb KE SE : Nat} (hk : kb + 1139 ≤ KE ∧ sb + 73158 ≤ SE) (hKE : KE ≤ 1200144 ∧ SE ≤ 5496826) {R : Int32 → zw_H → Prop} {l0 : Option Nat} {l1 : Option Nat} {l2 : Option Nat} {l3 : Option Nat} {l4 : Option Nat} (hR : ∀ (l5 : Int32) (h : zw_H), R l5 h → zw_G Xc (kb + 1139) (sb + 73158) 9 h 28 [(0, va_rf l0), (1, va_rf l1), (2, va_rf l2), (3, va_rf l3), (4, va_rf l4), (5, .int l5)] [])  {l5 : Int32}  {h : zw_H} (hE : f_law_J3871 (zw_Zf Xc).2.2.2 Q X R l0 l1 l2 l3 l4 l5 h) : zw_G Xc kb sb 9 h 3871 [(0, va_rf l0), (1, va_rf l1), (2, va_rf l2), (3, va_rf l3), (4, va_rf l4), (5, .int l5)] [] := by
  unfold f_law_J3871 at hE
  refine zg_aload_n ok dL_law_3871 rfl 1 rfl ?_
  refine zg_aload_n ok dL_law_3872 rfl 0 rfl ?_
  refine zg_iload ok dL_law_3873 5 rfl ?_
  refine zg_iconst (v := 1) ok dL_law_3875 (by decide) ?_
  refine zg_iadd ok dL_law_3876 ?_
  refine zg_iald ok dL_law_3877 hE (fun v393 hE => ?_)
  refine zg_aload_n ok dL_law_3878 rfl 3 rfl ?_
  refine zg_callSX (vs := [zA l1, zI v393, zA l3]) (rest := []) (rm := rm_X0_remove) ok hRm lk_X0_404 dL_law_3879 hE (fun hE => mt_X0_remove hl hE) rfl (Nat.le_of_ble_eq_true rfl) ⟨⟨Nat.le_of_ble_eq_true rfl, Nat.le_of_ble_eq_true rfl⟩, (by show kb + 296 ≤ 1200144; omega), (by show sb + 2409 ≤ 5496826; omega)⟩ (zg_retI (fun v394 h174 hE => ?_)) (zg_xok ok tab fin ⟨(by show kb + 296 ≤ 1200144; omega), (by show sb + 2409 ≤ 5496826; omega)⟩)
  refine zg_cost (kc2 := kb + 296) (ks2 := sb + 2409) ⟨(by show kb + 296 = kb + 296; omega), (by show sb + 2409 = sb + 2409; omega)⟩ ?_
  refine zg_istore (L' := [(6, .int v394), (0, va_rf l0), (1, va_rf l1), (2, va_rf l2), (3, va_rf l3), (4, va_rf l4), (5, .int l5)]) ok dL_law_3882 (by decide) rfl ?_
  refine zg_aload_n ok dL_law_3884 rfl 3 rfl ?_
  refine zg_aload_n ok dL_law_3885 rfl 1 rfl ?_
  refine zg_iload ok dL_law_3886 6 rfl ?_
  refine zg_iconst (v := 1) ok dL_law_3888 (by decide) ?_
  refine zg_iadd ok dL_law_3889 ?_
  refine zg_iald ok dL_law_3890 hE (fun v395 hE => ?_)
  refine zg_callV (vs := [zI v395]) (rest := []) (rm := rm_X2_remove) ok hRm lk_X0_406 dL_law_3891 hE (fun hE => mt_X2_remove hl hE) rfl (Nat.le_of_ble_eq_true rfl) ⟨⟨Nat.le_of_ble_eq_true rfl, Nat.le_of_ble_eq_true rfl⟩, (by show kb + 296 + 0 ≤ 1200144; omega), (by show sb + 2409 + 0 ≤ 5496826; omega)⟩ (zg_retI (fun v396 h175 hE => ?_)) (zg_xok ok tab fin ⟨(by show kb + 296 + 0 ≤ 1200144; omega), (by show sb + 2409 + 0 ≤ 5496826; omega)⟩)
  refine zg_cost (kc2 := kb + 296) (ks2 := sb + 2409) ⟨(by show kb + 296 + 0 = kb + 296; omega), (by show sb + 2409 + 0 = sb + 2409; omega)⟩ ?_
  refine zg_istore (L' := [(7, .int v396), (6, .int v394), (0, va_rf l0), (1, va_rf l1), (2, va_rf l2), (3, va_rf l3), (4, va_rf l4), (5, .int l5)]) ok dL_law_3894 (by decide) rfl ?_
  refine zg_aload_n ok dL_law_3896 rfl 4 rfl ?_
  refine zg_callV (vs := []) (rest := []) (rm := rm_X2_thrown) ok hRm lk_X0_223 dL_law_3897 hE (fun hE => mt_X2_thrown hl hE) rfl (Nat.le_of_ble_eq_true rfl) ⟨⟨Nat.le_of_ble_eq_true rfl, Nat.le_of_ble_eq_true rfl⟩, (by show kb + 296 + 0 ≤ 1200144; omega), (by show sb + 2409 + 0 ≤ 5496826; omega)⟩ (zg_retI (fun v397 h176 hE => ?_)) (zg_xok ok tab fin ⟨(by show kb + 296 + 0 ≤ 1200144; omega), (by show sb + 2409 + 0 ≤ 5496826; omega)⟩)
  refine zg_cost (kc2 := kb + 296) (ks2 := sb + 2409) ⟨(by show kb + 296 + 0 = kb + 296; omega), (by show sb + 2409 + 0 = sb + 2409; omega)⟩ ?_
  refine zg_iload ok dL_law_3900 1 rfl ?_
  refine zg_icmp_eq (tgt := 3907) ok dL_law_3902 (by decide) hE (fun hE => ?_) (fun hE => ?_)
  · refine zg_iload ok dL_law_3907 1 rfl ?_
    refine zg_if_ne (tgt := 3924) ok dL_law_3909 (by decide) hE (fun hE => ?_) (fun hE => ?_)
    · refine zg_sub (L' := [(0, va_rf l0), (1, va_rf l1), (2, va_rf l2), (3, va_rf l3), (4, va_rf l4), (5, .int l5)]) [2, 3, 4, 5, 6, 7] rfl ?_
      exact gt_f_law_J3924 hl ok tab fin hRm hk hKE hR  hE
    · refine zg_aload_n ok dL_law_3912 rfl 5 rfl ?_
      refine zg_iconst (v := 0) ok dL_law_3913 (by decide) ?_
      refine zg_lald ok dL_law_3914 hE (fun v398 hE => ?_)
      refine zg_iload ok dL_law_3915 0 rfl ?_
      refine zg_i2l ok dL_law_3917 ?_
      refine zg_lcmp ok dL_law_3918 ?_
      refine zg_if_eq (tgt := 3924) ok dL_law_3919 (by decide) hE (fun hE => ?_) (fun hE => ?_)
      · refine zg_sub (L' := [(0, va_rf l0), (1, va_rf l1), (2, va_rf l2), (3, va_rf l3), (4, va_rf l4), (5, .int l5)]) [2, 3, 4, 5, 6, 7] rfl ?_
        exact gt_f_law_J3924 hl ok tab fin hRm hk hKE hR  hE
      · refine zg_iconst (v := 0) ok dL_law_3922 (by decide) ?_
        exact zg_zret ok fin dL_law_3923 ⟨(by omega), (by omega)⟩ rfl hE
  · refine zg_iconst (v := 0) ok dL_law_3905 (by decide) ?_
    exact zg_zret ok fin dL_law_3906 ⟨(by omega), (by omega)⟩ rfl hE
set_option maxHeartbeats 8000000 in
theorem gt_f_law_J3980 {Xc : zw_X} {Q : Int32 → zw_H → Prop} {X : String → Nat → zw_H → Prop} (hl : (zw_l Xc).stackTraces = false) (ok : zw_ok Xc cL_law "MultipoleLineLaw" "law" 9) (tab : zw_tab Xc []) (fin : zw_fin Xc (Option.some Jvm.ClassFile.FieldType.boolean) (zq_I Q) X 1200144 5496826) (hRm : zw_rm Xc = rm_law) {kb sb KE SE : Nat} (hk : kb + 1139 ≤ KE ∧ sb + 73158 ≤ SE) (hKE : KE ≤ 1200144 ∧ SE ≤ 5496826) {R : Int32 → zw_H → Prop} {l0 : Option Nat} {l1 : Option Nat} {l2 : Option Nat} {l3 : Option Nat} {l4 : Option Nat} (hR : ∀ (l5 : Int32) (h : zw_H), R l5 h → zw_G Xc (kb + 1139) (sb + 73158) 9 h 28 [(0, va_rf l0), (1, va_rf l1), (2, va_rf l2), (3, va_rf l3), (4, va_rf l4), (5, .int l5)] [])  {l5 : Int32}  {h : zw_H} (hE : f_law_J3980 (zw_Zf Xc).2.2.2 Q X R l0 l1 l2 l3 l4 l5 h) : zw_G Xc (kb + 297) (sb + 2415) 9 h 3980 [(0, va_rf l0), (1, va_rf l1), (2, va_rf l2), (3, va_rf l3), (4, va_rf l4), (5, .int l5)] [] := by
  unfold f_law_J3980 at hE
  refine zg_goto (tgt := 4220) ok dL_law_3980 (by decide) ?_
  refine zg_wide (kc2 := kb + 1139) (ks2 := sb + 73158) (by omega) (by omega) ?_
  exact gt_f_law_J4220 hl ok tab fin hRm hk hKE hR  hE
set_option maxHeartbeats 8000000 in
theorem gt_f_law_J3927 {Xc : zw_X} {Q : Int32 → zw_H → Prop} {X : String → Nat → zw_H → Prop} (hl : (zw_l Xc).stackTraces = false) (ok : zw_ok Xc cL_law "MultipoleLineLaw" "law" 9) (tab : zw_tab Xc []) (fin : zw_fin Xc (Option.some Jvm.ClassFile.FieldType.boolean) (zq_I Q) X 1200144 5496826) (hRm : zw_rm Xc = rm_law) {kb sb KE SE : Nat} (hk : kb + 1139 ≤ KE ∧ sb + 73158 ≤ SE) (hKE : KE ≤ 1200144 ∧ SE ≤ 5496826) {R : Int32 → zw_H → Prop} {l0 : Option Nat} {l1 : Option Nat} {l2 : Option Nat} {l3 : Option Nat} {l4 : Option Nat} (hR : ∀ (l5 : Int32) (h : zw_H), R l5 h → zw_G Xc (kb + 1139) (sb + 73158) 9 h 28 [(0, va_rf l0), (1, va_rf l1), (2, va_rf l2), (3, va_rf l3), (4, va_rf l4), (5, .int l5)] [])  {l5 : Int32}  {h : zw_H} (hE : f_law_J3927 (zw_Zf Xc).2.2.2 Q X R l0 l1 l2 l3 l4 l5 h) : zw_G Xc kb sb 9 h 3927 [(0, va_rf l0), (1, va_rf l1), (2, va_rf l2), (3, va_rf l3), (4, va_rf l4), (5, .int l5)] [] := by
  unfold f_law_J3927 at hE
  refine zg_aload_n ok dL_law_3927 rfl 1 rfl ?_
  refine zg_aload_n ok dL_law_3928 rfl 0 rfl ?_
  refine zg_iload ok dL_law_3929 5 rfl ?_
  refine zg_iconst (v := 1) ok dL_law_3931 (by decide) ?_
  refine zg_iadd ok dL_law_3932 ?_
  refine zg_iald ok dL_law_3933 hE (fun v399 hE => ?_)
  refine zg_aload_n ok dL_law_3934 rfl 3 rfl ?_
  refine zg_callSX (vs := [zA l1, zI v399, zA l3]) (rest := []) (rm := rm_X0_step) ok hRm lk_X0_407 dL_law_3935 hE (fun hE => mt_X0_step hl hE) rfl (Nat.le_of_ble_eq_true rfl) ⟨⟨Nat.le_of_ble_eq_true rfl, Nat.le_of_ble_eq_true rfl⟩, (by show kb + 297 ≤ 1200144; omega), (by show sb + 2415 ≤ 5496826; omega)⟩ (zg_retI (fun v400 h177 hE => ?_)) (zg_xok ok tab fin ⟨(by show kb + 297 ≤ 1200144; omega), (by show sb + 2415 ≤ 5496826; omega)⟩)
  refine zg_cost (kc2 := kb + 297) (ks2 := sb + 2415) ⟨(by show kb + 297 = kb + 297; omega), (by show sb + 2415 = sb + 2415; omega)⟩ ?_
  refine zg_istore (L' := [(6, .int v400), (0, va_rf l0), (1, va_rf l1), (2, va_rf l2), (3, va_rf l3), (4, va_rf l4), (5, .int l5)]) ok dL_law_3938 (by decide) rfl ?_
  refine zg_aload_n ok dL_law_3940 rfl 3 rfl ?_
  refine zg_aload_n ok dL_law_3941 rfl 1 rfl ?_
  refine zg_iload ok dL_law_3942 6 rfl ?_
  refine zg_iconst (v := 1) ok dL_law_3944 (by decide) ?_
  refine zg_iadd ok dL_law_3945 ?_
  refine zg_iald ok dL_law_3946 hE (fun v401 hE => ?_)
  refine zg_callV (vs := [zI v401]) (rest := []) (rm := rm_X2_step) ok hRm lk_X0_409 dL_law_3947 hE (fun hE => mt_X2_step hl hE) rfl (Nat.le_of_ble_eq_true rfl) ⟨⟨Nat.le_of_ble_eq_true rfl, Nat.le_of_ble_eq_true rfl⟩, (by show kb + 297 + 0 ≤ 1200144; omega), (by show sb + 2415 + 0 ≤ 5496826; omega)⟩ (zg_retI (fun v402 h178 hE => ?_)) (zg_xok ok tab fin ⟨(by show kb + 297 + 0 ≤ 1200144; omega), (by show sb + 2415 + 0 ≤ 5496826; omega)⟩)
  refine zg_cost (kc2 := kb + 297) (ks2 := sb + 2415) ⟨(by show kb + 297 + 0 = kb + 297; omega), (by show sb + 2415 + 0 = sb + 2415; omega)⟩ ?_
  refine zg_istore (L' := [(7, .int v402), (6, .int v400), (0, va_rf l0), (1, va_rf l1), (2, va_rf l2), (3, va_rf l3), (4, va_rf l4), (5, .int l5)]) ok dL_law_3950 (by decide) rfl ?_
  refine zg_aload_n ok dL_law_3952 rfl 4 rfl ?_
  refine zg_callV (vs := []) (rest := []) (rm := rm_X2_thrown) ok hRm lk_X0_223 dL_law_3953 hE (fun hE => mt_X2_thrown hl hE) rfl (Nat.le_of_ble_eq_true rfl) ⟨⟨Nat.le_of_ble_eq_true rfl, Nat.le_of_ble_eq_true rfl⟩, (by show kb + 297 + 0 ≤ 1200144; omega), (by show sb + 2415 + 0 ≤ 5496826; omega)⟩ (zg_retI (fun v403 h179 hE => ?_)) (zg_xok ok tab fin ⟨(by show kb + 297 + 0 ≤ 1200144; omega), (by show sb + 2415 + 0 ≤ 5496826; omega)⟩)
  refine zg_cost (kc2 := kb + 297) (ks2 := sb + 2415) ⟨(by show kb + 297 + 0 = kb + 297; omega), (by show sb + 2415 + 0 = sb + 2415; omega)⟩ ?_
  refine zg_iload ok dL_law_3956 1 rfl ?_
  refine zg_icmp_eq (tgt := 3963) ok dL_law_3958 (by decide) hE (fun hE => ?_) (fun hE => ?_)
  · refine zg_iload ok dL_law_3963 1 rfl ?_
    refine zg_if_ne (tgt := 3980) ok dL_law_3965 (by decide) hE (fun hE => ?_) (fun hE => ?_)
    · refine zg_sub (L' := [(0, va_rf l0), (1, va_rf l1), (2, va_rf l2), (3, va_rf l3), (4, va_rf l4), (5, .int l5)]) [2, 3, 4, 5, 6, 7] rfl ?_
      exact gt_f_law_J3980 hl ok tab fin hRm hk hKE hR  hE
    · refine zg_aload_n ok dL_law_3968 rfl 5 rfl ?_
      refine zg_iconst (v := 0) ok dL_law_3969 (by decide) ?_
      refine zg_lald ok dL_law_3970 hE (fun v404 hE => ?_)
      refine zg_iload ok dL_law_3971 0 rfl ?_
      refine zg_i2l ok dL_law_3973 ?_
      refine zg_lcmp ok dL_law_3974 ?_
      refine zg_if_eq (tgt := 3980) ok dL_law_3975 (by decide) hE (fun hE => ?_) (fun hE => ?_)
      · refine zg_sub (L' := [(0, va_rf l0), (1, va_rf l1), (2, va_rf l2), (3, va_rf l3), (4, va_rf l4), (5, .int l5)]) [2, 3, 4, 5, 6, 7] rfl ?_
        exact gt_f_law_J3980 hl ok tab fin hRm hk hKE hR  hE
      · refine zg_iconst (v := 0) ok dL_law_3978 (by decide) ?_
        exact zg_zret ok fin dL_law_3979 ⟨(by omega), (by omega)⟩ rfl hE
  · refine zg_iconst (v := 0) ok dL_law_3961 (by decide) ?_
    exact zg_zret ok fin dL_law_3962 ⟨(by omega), (by omega)⟩ rfl hE
set_option maxHeartbeats 8000000 in
theorem gt_f_law_J4048 {Xc : zw_X} {Q : Int32 → zw_H → Prop} {X : String → Nat → zw_H → Prop} (hl : (zw_l Xc).stackTraces = false) (ok : zw_ok Xc cL_law "MultipoleLineLaw" "law" 9) (tab : zw_tab Xc []) (fin : zw_fin Xc (Option.some Jvm.ClassFile.FieldType.boolean) (zq_I Q) X 1200144 5496826) (hRm : zw_rm Xc = rm_law) {kb sb KE SE : Nat} (hk : kb + 1139 ≤ KE ∧ sb + 73158 ≤ SE) (hKE : KE ≤ 1200144 ∧ SE ≤ 5496826) {R : Int32 → zw_H → Prop} {l0 : Option Nat} {l1 : Option Nat} {l2 : Option Nat} {l3 : Option Nat} {l4 : Option Nat} (hR : ∀ (l5 : Int32) (h : zw_H), R l5 h → zw_G Xc (kb + 1139) (sb + 73158) 9 h 28 [(0, va_rf l0), (1, va_rf l1), (2, va_rf l2), (3, va_rf l3), (4, va_rf l4), (5, .int l5)] [])  {l5 : Int32}  {h : zw_H} (hE : f_law_J4048 (zw_Zf Xc).2.2.2 Q X R l0 l1 l2 l3 l4 l5 h) : zw_G Xc (kb + 296) (sb + 2409) 9 h 4048 [(0, va_rf l0), (1, va_rf l1), (2, va_rf l2), (3, va_rf l3), (4, va_rf l4), (5, .int l5)] [] := by
  unfold f_law_J4048 at hE
  refine zg_goto (tgt := 4220) ok dL_law_4048 (by decide) ?_
  refine zg_wide (kc2 := kb + 1139) (ks2 := sb + 73158) (by omega) (by omega) ?_
  exact gt_f_law_J4220 hl ok tab fin hRm hk hKE hR  hE
set_option maxHeartbeats 8000000 in
theorem gt_f_law_J3983 {Xc : zw_X} {Q : Int32 → zw_H → Prop} {X : String → Nat → zw_H → Prop} (hl : (zw_l Xc).stackTraces = false) (ok : zw_ok Xc cL_law "MultipoleLineLaw" "law" 9) (tab : zw_tab Xc []) (fin : zw_fin Xc (Option.some Jvm.ClassFile.FieldType.boolean) (zq_I Q) X 1200144 5496826) (hRm : zw_rm Xc = rm_law) {kb sb KE SE : Nat} (hk : kb + 1139 ≤ KE ∧ sb + 73158 ≤ SE) (hKE : KE ≤ 1200144 ∧ SE ≤ 5496826) {R : Int32 → zw_H → Prop} {l0 : Option Nat} {l1 : Option Nat} {l2 : Option Nat} {l3 : Option Nat} {l4 : Option Nat} (hR : ∀ (l5 : Int32) (h : zw_H), R l5 h → zw_G Xc (kb + 1139) (sb + 73158) 9 h 28 [(0, va_rf l0), (1, va_rf l1), (2, va_rf l2), (3, va_rf l3), (4, va_rf l4), (5, .int l5)] [])  {l5 : Int32}  {h : zw_H} (hE : f_law_J3983 (zw_Zf Xc).2.2.2 Q X R l0 l1 l2 l3 l4 l5 h) : zw_G Xc kb sb 9 h 3983 [(0, va_rf l0), (1, va_rf l1), (2, va_rf l2), (3, va_rf l3), (4, va_rf l4), (5, .int l5)] [] := by
  unfold f_law_J3983 at hE
  refine zg_aload_n ok dL_law_3983 rfl 1 rfl ?_
  refine zg_aload_n ok dL_law_3984 rfl 0 rfl ?_
  refine zg_iload ok dL_law_3985 5 rfl ?_
  refine zg_iconst (v := 1) ok dL_law_3987 (by decide) ?_
  refine zg_iadd ok dL_law_3988 ?_
  refine zg_iald ok dL_law_3989 hE (fun v405 hE => ?_)
  refine zg_aload_n ok dL_law_3990 rfl 0 rfl ?_
  refine zg_iload ok dL_law_3991 5 rfl ?_
  refine zg_iconst (v := 2) ok dL_law_3993 (by decide) ?_
  refine zg_iadd ok dL_law_3994 ?_
  refine zg_iald ok dL_law_3995 hE (fun v406 hE => ?_)
  refine zg_aload_n ok dL_law_3996 rfl 3 rfl ?_
  refine zg_callSX (vs := [zA l1, zI v405, zI v406, zA l3]) (rest := []) (rm := rm_X0_setNumber) ok hRm lk_X0_410 dL_law_3997 hE (fun hE => mt_X0_setNumber hl hE) rfl (Nat.le_of_ble_eq_true rfl) ⟨⟨Nat.le_of_ble_eq_true rfl, Nat.le_of_ble_eq_true rfl⟩, (by show kb + 296 ≤ 1200144; omega), (by show sb + 2409 ≤ 5496826; omega)⟩ (zg_retI (fun v407 h180 hE => ?_)) (zg_xok ok tab fin ⟨(by show kb + 296 ≤ 1200144; omega), (by show sb + 2409 ≤ 5496826; omega)⟩)
  refine zg_cost (kc2 := kb + 296) (ks2 := sb + 2409) ⟨(by show kb + 296 = kb + 296; omega), (by show sb + 2409 = sb + 2409; omega)⟩ ?_
  refine zg_istore (L' := [(6, .int v407), (0, va_rf l0), (1, va_rf l1), (2, va_rf l2), (3, va_rf l3), (4, va_rf l4), (5, .int l5)]) ok dL_law_4000 (by decide) rfl ?_
  refine zg_aload_n ok dL_law_4002 rfl 3 rfl ?_
  refine zg_aload_n ok dL_law_4003 rfl 1 rfl ?_
  refine zg_iload ok dL_law_4004 6 rfl ?_
  refine zg_iconst (v := 1) ok dL_law_4006 (by decide) ?_
  refine zg_iadd ok dL_law_4007 ?_
  refine zg_iald ok dL_law_4008 hE (fun v408 hE => ?_)
  refine zg_aload_n ok dL_law_4009 rfl 1 rfl ?_
  refine zg_iload ok dL_law_4010 6 rfl ?_
  refine zg_iconst (v := 2) ok dL_law_4012 (by decide) ?_
  refine zg_iadd ok dL_law_4013 ?_
  refine zg_iald ok dL_law_4014 hE (fun v409 hE => ?_)
  refine zg_callV (vs := [zI v408, zI v409]) (rest := []) (rm := rm_X2_setNumber) ok hRm lk_X0_412 dL_law_4015 hE (fun hE => mt_X2_setNumber hl hE) rfl (Nat.le_of_ble_eq_true rfl) ⟨⟨Nat.le_of_ble_eq_true rfl, Nat.le_of_ble_eq_true rfl⟩, (by show kb + 296 + 0 ≤ 1200144; omega), (by show sb + 2409 + 0 ≤ 5496826; omega)⟩ (zg_retI (fun v410 h181 hE => ?_)) (zg_xok ok tab fin ⟨(by show kb + 296 + 0 ≤ 1200144; omega), (by show sb + 2409 + 0 ≤ 5496826; omega)⟩)
  refine zg_cost (kc2 := kb + 296) (ks2 := sb + 2409) ⟨(by show kb + 296 + 0 = kb + 296; omega), (by show sb + 2409 + 0 = sb + 2409; omega)⟩ ?_
  refine zg_istore (L' := [(7, .int v410), (6, .int v407), (0, va_rf l0), (1, va_rf l1), (2, va_rf l2), (3, va_rf l3), (4, va_rf l4), (5, .int l5)]) ok dL_law_4018 (by decide) rfl ?_
  refine zg_aload_n ok dL_law_4020 rfl 4 rfl ?_
  refine zg_callV (vs := []) (rest := []) (rm := rm_X2_thrown) ok hRm lk_X0_223 dL_law_4021 hE (fun hE => mt_X2_thrown hl hE) rfl (Nat.le_of_ble_eq_true rfl) ⟨⟨Nat.le_of_ble_eq_true rfl, Nat.le_of_ble_eq_true rfl⟩, (by show kb + 296 + 0 ≤ 1200144; omega), (by show sb + 2409 + 0 ≤ 5496826; omega)⟩ (zg_retI (fun v411 h182 hE => ?_)) (zg_xok ok tab fin ⟨(by show kb + 296 + 0 ≤ 1200144; omega), (by show sb + 2409 + 0 ≤ 5496826; omega)⟩)
  refine zg_cost (kc2 := kb + 296) (ks2 := sb + 2409) ⟨(by show kb + 296 + 0 = kb + 296; omega), (by show sb + 2409 + 0 = sb + 2409; omega)⟩ ?_
  refine zg_iload ok dL_law_4024 1 rfl ?_
  refine zg_icmp_eq (tgt := 4031) ok dL_law_4026 (by decide) hE (fun hE => ?_) (fun hE => ?_)
  · refine zg_iload ok dL_law_4031 1 rfl ?_
    refine zg_if_ne (tgt := 4048) ok dL_law_4033 (by decide) hE (fun hE => ?_) (fun hE => ?_)
    · refine zg_sub (L' := [(0, va_rf l0), (1, va_rf l1), (2, va_rf l2), (3, va_rf l3), (4, va_rf l4), (5, .int l5)]) [2, 3, 4, 5, 6, 7] rfl ?_
      exact gt_f_law_J4048 hl ok tab fin hRm hk hKE hR  hE
    · refine zg_aload_n ok dL_law_4036 rfl 5 rfl ?_
      refine zg_iconst (v := 0) ok dL_law_4037 (by decide) ?_
      refine zg_lald ok dL_law_4038 hE (fun v412 hE => ?_)
      refine zg_iload ok dL_law_4039 0 rfl ?_
      refine zg_i2l ok dL_law_4041 ?_
      refine zg_lcmp ok dL_law_4042 ?_
      refine zg_if_eq (tgt := 4048) ok dL_law_4043 (by decide) hE (fun hE => ?_) (fun hE => ?_)
      · refine zg_sub (L' := [(0, va_rf l0), (1, va_rf l1), (2, va_rf l2), (3, va_rf l3), (4, va_rf l4), (5, .int l5)]) [2, 3, 4, 5, 6, 7] rfl ?_
        exact gt_f_law_J4048 hl ok tab fin hRm hk hKE hR  hE
      · refine zg_iconst (v := 0) ok dL_law_4046 (by decide) ?_
        exact zg_zret ok fin dL_law_4047 ⟨(by omega), (by omega)⟩ rfl hE
  · refine zg_iconst (v := 0) ok dL_law_4029 (by decide) ?_
    exact zg_zret ok fin dL_law_4030 ⟨(by omega), (by omega)⟩ rfl hE
set_option maxHeartbeats 8000000 in
theorem gt_f_law_J4092 {Xc : zw_X} {Q : Int32 → zw_H → Prop} {X : String → Nat → zw_H → Prop} (hl : (zw_l Xc).stackTraces = false) (ok : zw_ok Xc cL_law "MultipoleLineLaw" "law" 9) (tab : zw_tab Xc []) (fin : zw_fin Xc (Option.some Jvm.ClassFile.FieldType.boolean) (zq_I Q) X 1200144 5496826) (hRm : zw_rm Xc = rm_law) {kb sb KE SE : Nat} (hk : kb + 1139 ≤ KE ∧ sb + 73158 ≤ SE) (hKE : KE ≤ 1200144 ∧ SE ≤ 5496826) {R : Int32 → zw_H → Prop} {l0 : Option Nat} {l1 : Option Nat} {l2 : Option Nat} {l3 : Option Nat} {l4 : Option Nat} (hR : ∀ (l5 : Int32) (h : zw_H), R l5 h → zw_G Xc (kb + 1139) (sb + 73158) 9 h 28 [(0, va_rf l0), (1, va_rf l1), (2, va_rf l2), (3, va_rf l3), (4, va_rf l4), (5, .int l5)] [])  {l5 : Int32}  {h : zw_H} (hE : f_law_J4092 (zw_Zf Xc).2.2.2 Q X R l0 l1 l2 l3 l4 l5 h) : zw_G Xc (kb + 1) (sb + 6) 9 h 4092 [(0, va_rf l0), (1, va_rf l1), (2, va_rf l2), (3, va_rf l3), (4, va_rf l4), (5, .int l5)] [] := by
  unfold f_law_J4092 at hE
  refine zg_goto (tgt := 4220) ok dL_law_4092 (by decide) ?_
  refine zg_wide (kc2 := kb + 1139) (ks2 := sb + 73158) (by omega) (by omega) ?_
  exact gt_f_law_J4220 hl ok tab fin hRm hk hKE hR  hE
set_option maxHeartbeats 8000000 in
theorem gt_f_law_J4051 {Xc : zw_X} {Q : Int32 → zw_H → Prop} {X : String → Nat → zw_H → Prop} (hl : (zw_l Xc).stackTraces = false) (ok : zw_ok Xc cL_law "MultipoleLineLaw" "law" 9) (tab : zw_tab Xc []) (fin : zw_fin Xc (Option.some Jvm.ClassFile.FieldType.boolean) (zq_I Q) X 1200144 5496826) (hRm : zw_rm Xc = rm_law) {kb sb KE SE : Nat} (hk : kb + 1139 ≤ KE ∧ sb + 73158 ≤ SE) (hKE : KE ≤ 1200144 ∧ SE ≤ 5496826) {R : Int32 → zw_H → Prop} {l0 : Option Nat} {l1 : Option Nat} {l2 : Option Nat} {l3 : Option Nat} {l4 : Option Nat} (hR : ∀ (l5 : Int32) (h : zw_H), R l5 h → zw_G Xc (kb + 1139) (sb + 73158) 9 h 28 [(0, va_rf l0), (1, va_rf l1), (2, va_rf l2), (3, va_rf l3), (4, va_rf l4), (5, .int l5)] [])  {l5 : Int32}  {h : zw_H} (hE : f_law_J4051 (zw_Zf Xc).2.2.2 Q X R l0 l1 l2 l3 l4 l5 h) : zw_G Xc kb sb 9 h 4051 [(0, va_rf l0), (1, va_rf l1), (2, va_rf l2), (3, va_rf l3), (4, va_rf l4), (5, .int l5)] [] := by
  unfold f_law_J4051 at hE
  refine zg_aload_n ok dL_law_4051 rfl 1 rfl ?_
  refine zg_aload_n ok dL_law_4052 rfl 3 rfl ?_
  refine zg_callSX (vs := [zA l1, zA l3]) (rest := []) (rm := rm_X0_undo) ok hRm lk_X0_413 dL_law_4053 hE (fun hE => mt_X0_undo hl hE) rfl (Nat.le_of_ble_eq_true rfl) ⟨⟨Nat.le_of_ble_eq_true rfl, Nat.le_of_ble_eq_true rfl⟩, (by show kb + 1 ≤ 1200144; omega), (by show sb + 6 ≤ 5496826; omega)⟩ (zg_retI (fun v413 h183 hE => ?_)) (zg_xok ok tab fin ⟨(by show kb + 1 ≤ 1200144; omega), (by show sb + 6 ≤ 5496826; omega)⟩)
  refine zg_cost (kc2 := kb + 1) (ks2 := sb + 6) ⟨(by show kb + 1 = kb + 1; omega), (by show sb + 6 = sb + 6; omega)⟩ ?_
  refine zg_istore (L' := [(6, .int v413), (0, va_rf l0), (1, va_rf l1), (2, va_rf l2), (3, va_rf l3), (4, va_rf l4), (5, .int l5)]) ok dL_law_4056 (by decide) rfl ?_
  refine zg_aload_n ok dL_law_4058 rfl 3 rfl ?_
  refine zg_callV (vs := []) (rest := []) (rm := rm_X2_undo) ok hRm lk_X0_415 dL_law_4059 hE (fun hE => mt_X2_undo hl hE) rfl (Nat.le_of_ble_eq_true rfl) ⟨⟨Nat.le_of_ble_eq_true rfl, Nat.le_of_ble_eq_true rfl⟩, (by show kb + 1 + 0 ≤ 1200144; omega), (by show sb + 6 + 0 ≤ 5496826; omega)⟩ (zg_retI (fun v414 h184 hE => ?_)) (zg_xok ok tab fin ⟨(by show kb + 1 + 0 ≤ 1200144; omega), (by show sb + 6 + 0 ≤ 5496826; omega)⟩)
  refine zg_cost (kc2 := kb + 1) (ks2 := sb + 6) ⟨(by show kb + 1 + 0 = kb + 1; omega), (by show sb + 6 + 0 = sb + 6; omega)⟩ ?_
  refine zg_istore (L' := [(7, .int v414), (6, .int v413), (0, va_rf l0), (1, va_rf l1), (2, va_rf l2), (3, va_rf l3), (4, va_rf l4), (5, .int l5)]) ok dL_law_4062 (by decide) rfl ?_
  refine zg_aload_n ok dL_law_4064 rfl 4 rfl ?_
  refine zg_callV (vs := []) (rest := []) (rm := rm_X2_thrown) ok hRm lk_X0_223 dL_law_4065 hE (fun hE => mt_X2_thrown hl hE) rfl (Nat.le_of_ble_eq_true rfl) ⟨⟨Nat.le_of_ble_eq_true rfl, Nat.le_of_ble_eq_true rfl⟩, (by show kb + 1 + 0 ≤ 1200144; omega), (by show sb + 6 + 0 ≤ 5496826; omega)⟩ (zg_retI (fun v415 h185 hE => ?_)) (zg_xok ok tab fin ⟨(by show kb + 1 + 0 ≤ 1200144; omega), (by show sb + 6 + 0 ≤ 5496826; omega)⟩)
  refine zg_cost (kc2 := kb + 1) (ks2 := sb + 6) ⟨(by show kb + 1 + 0 = kb + 1; omega), (by show sb + 6 + 0 = sb + 6; omega)⟩ ?_
  refine zg_iload ok dL_law_4068 1 rfl ?_
  refine zg_icmp_eq (tgt := 4075) ok dL_law_4070 (by decide) hE (fun hE => ?_) (fun hE => ?_)
  · refine zg_iload ok dL_law_4075 1 rfl ?_
    refine zg_if_ne (tgt := 4092) ok dL_law_4077 (by decide) hE (fun hE => ?_) (fun hE => ?_)
    · refine zg_sub (L' := [(0, va_rf l0), (1, va_rf l1), (2, va_rf l2), (3, va_rf l3), (4, va_rf l4), (5, .int l5)]) [2, 3, 4, 5, 6, 7] rfl ?_
      exact gt_f_law_J4092 hl ok tab fin hRm hk hKE hR  hE
    · refine zg_aload_n ok dL_law_4080 rfl 5 rfl ?_
      refine zg_iconst (v := 0) ok dL_law_4081 (by decide) ?_
      refine zg_lald ok dL_law_4082 hE (fun v416 hE => ?_)
      refine zg_iload ok dL_law_4083 0 rfl ?_
      refine zg_i2l ok dL_law_4085 ?_
      refine zg_lcmp ok dL_law_4086 ?_
      refine zg_if_eq (tgt := 4092) ok dL_law_4087 (by decide) hE (fun hE => ?_) (fun hE => ?_)
      · refine zg_sub (L' := [(0, va_rf l0), (1, va_rf l1), (2, va_rf l2), (3, va_rf l3), (4, va_rf l4), (5, .int l5)]) [2, 3, 4, 5, 6, 7] rfl ?_
        exact gt_f_law_J4092 hl ok tab fin hRm hk hKE hR  hE
      · refine zg_iconst (v := 0) ok dL_law_4090 (by decide) ?_
        exact zg_zret ok fin dL_law_4091 ⟨(by omega), (by omega)⟩ rfl hE
  · refine zg_iconst (v := 0) ok dL_law_4073 (by decide) ?_
    exact zg_zret ok fin dL_law_4074 ⟨(by omega), (by omega)⟩ rfl hE
set_option maxHeartbeats 8000000 in
theorem gt_f_law_J4095 {Xc : zw_X} {Q : Int32 → zw_H → Prop} {X : String → Nat → zw_H → Prop} (hl : (zw_l Xc).stackTraces = false) (ok : zw_ok Xc cL_law "MultipoleLineLaw" "law" 9) (tab : zw_tab Xc []) (fin : zw_fin Xc (Option.some Jvm.ClassFile.FieldType.boolean) (zq_I Q) X 1200144 5496826) (hRm : zw_rm Xc = rm_law) {kb sb KE SE : Nat} (hk : kb + 1139 ≤ KE ∧ sb + 73158 ≤ SE) (hKE : KE ≤ 1200144 ∧ SE ≤ 5496826) {R : Int32 → zw_H → Prop} {l0 : Option Nat} {l1 : Option Nat} {l2 : Option Nat} {l3 : Option Nat} {l4 : Option Nat} (hR : ∀ (l5 : Int32) (h : zw_H), R l5 h → zw_G Xc (kb + 1139) (sb + 73158) 9 h 28 [(0, va_rf l0), (1, va_rf l1), (2, va_rf l2), (3, va_rf l3), (4, va_rf l4), (5, .int l5)] [])  {l5 : Int32}  {h : zw_H} (hE : f_law_J4095 (zw_Zf Xc).2.2.2 Q X R l0 l1 l2 l3 l4 l5 h) : zw_G Xc kb sb 9 h 4095 [(0, va_rf l0), (1, va_rf l1), (2, va_rf l2), (3, va_rf l3), (4, va_rf l4), (5, .int l5)] [] := by
  unfold f_law_J4095 at hE
  refine zg_aload_n ok dL_law_4095 rfl 1 rfl ?_
  refine zg_callV (vs := []) (rest := []) (rm := rm_X1_undoable) ok hRm lk_X0_416 dL_law_4096 hE (fun hE => mt_X1_undoable hl hE) rfl (Nat.le_of_ble_eq_true rfl) ⟨⟨Nat.le_of_ble_eq_true rfl, Nat.le_of_ble_eq_true rfl⟩, (by show kb + 0 ≤ 1200144; omega), (by show sb + 0 ≤ 5496826; omega)⟩ (zg_retI (fun v417 h186 hE => ?_)) (zg_xok ok tab fin ⟨(by show kb + 0 ≤ 1200144; omega), (by show sb + 0 ≤ 5496826; omega)⟩)
  refine zg_cost (kc2 := kb) (ks2 := sb) ⟨(by show kb + 0 = kb; omega), (by show sb + 0 = sb; omega)⟩ ?_
  refine zg_aload_n ok dL_law_4099 rfl 2 rfl ?_
  refine zg_callV (vs := []) (rest := [.int v417]) (rm := rm_X2_undoable) ok hRm lk_X0_419 dL_law_4100 hE (fun hE => mt_X2_undoable hl hE) rfl (Nat.le_of_ble_eq_true rfl) ⟨⟨Nat.le_of_ble_eq_true rfl, Nat.le_of_ble_eq_true rfl⟩, (by show kb + 0 ≤ 1200144; omega), (by show sb + 0 ≤ 5496826; omega)⟩ (zg_retI (fun v418 h187 hE => ?_)) (zg_xok ok tab fin ⟨(by show kb + 0 ≤ 1200144; omega), (by show sb + 0 ≤ 5496826; omega)⟩)
  refine zg_cost (kc2 := kb) (ks2 := sb) ⟨(by show kb + 0 = kb; omega), (by show sb + 0 = sb; omega)⟩ ?_
  refine zg_icmp_eq (tgt := 4220) ok dL_law_4103 (by decide) hE (fun hE => ?_) (fun hE => ?_)
  · refine zg_wide (kc2 := kb + 1139) (ks2 := sb + 73158) (by omega) (by omega) ?_
    exact gt_f_law_J4220 hl ok tab fin hRm hk hKE hR  hE
  · refine zg_iconst (v := 0) ok dL_law_4106 (by decide) ?_
    exact zg_zret ok fin dL_law_4107 ⟨(by omega), (by omega)⟩ rfl hE
set_option maxHeartbeats 8000000 in
theorem gt_f_law_J4161 {Xc : zw_X} {Q : Int32 → zw_H → Prop} {X : String → Nat → zw_H → Prop} (hl : (zw_l Xc).stackTraces = false) (ok : zw_ok Xc cL_law "MultipoleLineLaw" "law" 9) (tab : zw_tab Xc []) (fin : zw_fin Xc (Option.some Jvm.ClassFile.FieldType.boolean) (zq_I Q) X 1200144 5496826) (hRm : zw_rm Xc = rm_law) {kb sb KE SE : Nat} (hk : kb + 1139 ≤ KE ∧ sb + 73158 ≤ SE) (hKE : KE ≤ 1200144 ∧ SE ≤ 5496826) {R : Int32 → zw_H → Prop} {l0 : Option Nat} {l1 : Option Nat} {l2 : Option Nat} {l3 : Option Nat} {l4 : Option Nat} (hR : ∀ (l5 : Int32) (h : zw_H), R l5 h → zw_G Xc (kb + 1139) (sb + 73158) 9 h 28 [(0, va_rf l0), (1, va_rf l1), (2, va_rf l2), (3, va_rf l3), (4, va_rf l4), (5, .int l5)] [])  {l5 : Int32}  {h : zw_H} (hE : f_law_J4161 (zw_Zf Xc).2.2.2 Q X R l0 l1 l2 l3 l4 l5 h) : zw_G Xc (kb + 295) (sb + 2369) 9 h 4161 [(0, va_rf l0), (1, va_rf l1), (2, va_rf l2), (3, va_rf l3), (4, va_rf l4), (5, .int l5)] [] := by
  unfold f_law_J4161 at hE
  refine zg_goto (tgt := 4220) ok dL_law_4161 (by decide) ?_
  refine zg_wide (kc2 := kb + 1139) (ks2 := sb + 73158) (by omega) (by omega) ?_
  exact gt_f_law_J4220 hl ok tab fin hRm hk hKE hR  hE
set_option maxHeartbeats 8000000 in
theorem gt_f_law_J4108 {Xc : zw_X} {Q : Int32 → zw_H → Prop} {X : String → Nat → zw_H → Prop} (hl : (zw_l Xc).stackTraces = false) (ok : zw_ok Xc cL_law "MultipoleLineLaw" "law" 9) (tab : zw_tab Xc []) (fin : zw_fin Xc (Option.some Jvm.ClassFile.FieldType.boolean) (zq_I Q) X 1200144 5496826) (hRm : zw_rm Xc = rm_law) {kb sb KE SE : Nat} (hk : kb + 1139 ≤ KE ∧ sb + 73158 ≤ SE) (hKE : KE ≤ 1200144 ∧ SE ≤ 5496826) {R : Int32 → zw_H → Prop} {l0 : Option Nat} {l1 : Option Nat} {l2 : Option Nat} {l3 : Option Nat} {l4 : Option Nat} (hR : ∀ (l5 : Int32) (h : zw_H), R l5 h → zw_G Xc (kb + 1139) (sb + 73158) 9 h 28 [(0, va_rf l0), (1, va_rf l1), (2, va_rf l2), (3, va_rf l3), (4, va_rf l4), (5, .int l5)] [])  {l5 : Int32}  {h : zw_H} (hE : f_law_J4108 (zw_Zf Xc).2.2.2 Q X R l0 l1 l2 l3 l4 l5 h) : zw_G Xc kb sb 9 h 4108 [(0, va_rf l0), (1, va_rf l1), (2, va_rf l2), (3, va_rf l3), (4, va_rf l4), (5, .int l5)] [] := by
  unfold f_law_J4108 at hE
  refine zg_aload_n ok dL_law_4108 rfl 1 rfl ?_
  refine zg_aload_n ok dL_law_4109 rfl 0 rfl ?_
  refine zg_iload ok dL_law_4110 5 rfl ?_
  refine zg_iconst (v := 1) ok dL_law_4112 (by decide) ?_
  refine zg_iadd ok dL_law_4113 ?_
  refine zg_iald ok dL_law_4114 hE (fun v419 hE => ?_)
  refine zg_aload_n ok dL_law_4115 rfl 3 rfl ?_
  refine zg_callSX (vs := [zA l1, zI v419, zA l3]) (rest := []) (rm := rm_X0_save) ok hRm lk_X0_420 dL_law_4116 hE (fun hE => mt_X0_save hl hE) rfl (Nat.le_of_ble_eq_true rfl) ⟨⟨Nat.le_of_ble_eq_true rfl, Nat.le_of_ble_eq_true rfl⟩, (by show kb + 295 ≤ 1200144; omega), (by show sb + 2369 ≤ 5496826; omega)⟩ (zg_retI (fun v420 h188 hE => ?_)) (zg_xok ok tab fin ⟨(by show kb + 295 ≤ 1200144; omega), (by show sb + 2369 ≤ 5496826; omega)⟩)
  refine zg_cost (kc2 := kb + 295) (ks2 := sb + 2369) ⟨(by show kb + 295 = kb + 295; omega), (by show sb + 2369 = sb + 2369; omega)⟩ ?_
  refine zg_istore (L' := [(6, .int v420), (0, va_rf l0), (1, va_rf l1), (2, va_rf l2), (3, va_rf l3), (4, va_rf l4), (5, .int l5)]) ok dL_law_4119 (by decide) rfl ?_
  refine zg_aload_n ok dL_law_4121 rfl 3 rfl ?_
  refine zg_aload_n ok dL_law_4122 rfl 1 rfl ?_
  refine zg_iload ok dL_law_4123 6 rfl ?_
  refine zg_iconst (v := 1) ok dL_law_4125 (by decide) ?_
  refine zg_iadd ok dL_law_4126 ?_
  refine zg_iald ok dL_law_4127 hE (fun v421 hE => ?_)
  refine zg_callV (vs := [zI v421]) (rest := []) (rm := rm_X2_save) ok hRm lk_X0_422 dL_law_4128 hE (fun hE => mt_X2_save hl hE) rfl (Nat.le_of_ble_eq_true rfl) ⟨⟨Nat.le_of_ble_eq_true rfl, Nat.le_of_ble_eq_true rfl⟩, (by show kb + 295 + 0 ≤ 1200144; omega), (by show sb + 2369 + 0 ≤ 5496826; omega)⟩ (zg_retI (fun v422 h189 hE => ?_)) (zg_xok ok tab fin ⟨(by show kb + 295 + 0 ≤ 1200144; omega), (by show sb + 2369 + 0 ≤ 5496826; omega)⟩)
  refine zg_cost (kc2 := kb + 295) (ks2 := sb + 2369) ⟨(by show kb + 295 + 0 = kb + 295; omega), (by show sb + 2369 + 0 = sb + 2369; omega)⟩ ?_
  refine zg_istore (L' := [(7, .int v422), (6, .int v420), (0, va_rf l0), (1, va_rf l1), (2, va_rf l2), (3, va_rf l3), (4, va_rf l4), (5, .int l5)]) ok dL_law_4131 (by decide) rfl ?_
  refine zg_aload_n ok dL_law_4133 rfl 4 rfl ?_
  refine zg_callV (vs := []) (rest := []) (rm := rm_X2_thrown) ok hRm lk_X0_223 dL_law_4134 hE (fun hE => mt_X2_thrown hl hE) rfl (Nat.le_of_ble_eq_true rfl) ⟨⟨Nat.le_of_ble_eq_true rfl, Nat.le_of_ble_eq_true rfl⟩, (by show kb + 295 + 0 ≤ 1200144; omega), (by show sb + 2369 + 0 ≤ 5496826; omega)⟩ (zg_retI (fun v423 h190 hE => ?_)) (zg_xok ok tab fin ⟨(by show kb + 295 + 0 ≤ 1200144; omega), (by show sb + 2369 + 0 ≤ 5496826; omega)⟩)
  refine zg_cost (kc2 := kb + 295) (ks2 := sb + 2369) ⟨(by show kb + 295 + 0 = kb + 295; omega), (by show sb + 2369 + 0 = sb + 2369; omega)⟩ ?_
  refine zg_iload ok dL_law_4137 1 rfl ?_
  refine zg_icmp_eq (tgt := 4144) ok dL_law_4139 (by decide) hE (fun hE => ?_) (fun hE => ?_)
  · refine zg_iload ok dL_law_4144 1 rfl ?_
    refine zg_if_ne (tgt := 4161) ok dL_law_4146 (by decide) hE (fun hE => ?_) (fun hE => ?_)
    · refine zg_sub (L' := [(0, va_rf l0), (1, va_rf l1), (2, va_rf l2), (3, va_rf l3), (4, va_rf l4), (5, .int l5)]) [2, 3, 4, 5, 6, 7] rfl ?_
      exact gt_f_law_J4161 hl ok tab fin hRm hk hKE hR  hE
    · refine zg_aload_n ok dL_law_4149 rfl 5 rfl ?_
      refine zg_iconst (v := 0) ok dL_law_4150 (by decide) ?_
      refine zg_lald ok dL_law_4151 hE (fun v424 hE => ?_)
      refine zg_iload ok dL_law_4152 0 rfl ?_
      refine zg_i2l ok dL_law_4154 ?_
      refine zg_lcmp ok dL_law_4155 ?_
      refine zg_if_eq (tgt := 4161) ok dL_law_4156 (by decide) hE (fun hE => ?_) (fun hE => ?_)
      · refine zg_sub (L' := [(0, va_rf l0), (1, va_rf l1), (2, va_rf l2), (3, va_rf l3), (4, va_rf l4), (5, .int l5)]) [2, 3, 4, 5, 6, 7] rfl ?_
        exact gt_f_law_J4161 hl ok tab fin hRm hk hKE hR  hE
      · refine zg_iconst (v := 0) ok dL_law_4159 (by decide) ?_
        exact zg_zret ok fin dL_law_4160 ⟨(by omega), (by omega)⟩ rfl hE
  · refine zg_iconst (v := 0) ok dL_law_4142 (by decide) ?_
    exact zg_zret ok fin dL_law_4143 ⟨(by omega), (by omega)⟩ rfl hE
set_option maxHeartbeats 8000000 in
theorem gt_f_law_J4217 {Xc : zw_X} {Q : Int32 → zw_H → Prop} {X : String → Nat → zw_H → Prop} (hl : (zw_l Xc).stackTraces = false) (ok : zw_ok Xc cL_law "MultipoleLineLaw" "law" 9) (tab : zw_tab Xc []) (fin : zw_fin Xc (Option.some Jvm.ClassFile.FieldType.boolean) (zq_I Q) X 1200144 5496826) (hRm : zw_rm Xc = rm_law) {kb sb KE SE : Nat} (hk : kb + 1139 ≤ KE ∧ sb + 73158 ≤ SE) (hKE : KE ≤ 1200144 ∧ SE ≤ 5496826) {R : Int32 → zw_H → Prop} {l0 : Option Nat} {l1 : Option Nat} {l2 : Option Nat} {l3 : Option Nat} {l4 : Option Nat} (hR : ∀ (l5 : Int32) (h : zw_H), R l5 h → zw_G Xc (kb + 1139) (sb + 73158) 9 h 28 [(0, va_rf l0), (1, va_rf l1), (2, va_rf l2), (3, va_rf l3), (4, va_rf l4), (5, .int l5)] [])  {l5 : Int32}  {h : zw_H} (hE : f_law_J4217 (zw_Zf Xc).2.2.2 Q X R l0 l1 l2 l3 l4 l5 h) : zw_G Xc (kb + 295) (sb + 2369) 9 h 4217 [(0, va_rf l0), (1, va_rf l1), (2, va_rf l2), (3, va_rf l3), (4, va_rf l4), (5, .int l5)] [] := by
  unfold f_law_J4217 at hE
  refine zg_goto (tgt := 4220) ok dL_law_4217 (by decide) ?_
  refine zg_wide (kc2 := kb + 1139) (ks2 := sb + 73158) (by omega) (by omega) ?_
  exact gt_f_law_J4220 hl ok tab fin hRm hk hKE hR  hE
set_option maxHeartbeats 8000000 in
theorem gt_f_law_J4164 {Xc : zw_X} {Q : Int32 → zw_H → Prop} {X : String → Nat → zw_H → Prop} (hl : (zw_l Xc).stackTraces = false) (ok : zw_ok Xc cL_law "MultipoleLineLaw" "law" 9) (tab : zw_tab Xc []) (fin : zw_fin Xc (Option.some Jvm.ClassFile.FieldType.boolean) (zq_I Q) X 1200144 5496826) (hRm : zw_rm Xc = rm_law) {kb sb KE SE : Nat} (hk : kb + 1139 ≤ KE ∧ sb + 73158 ≤ SE) (hKE : KE ≤ 1200144 ∧ SE ≤ 5496826) {R : Int32 → zw_H → Prop} {l0 : Option Nat} {l1 : Option Nat} {l2 : Option Nat} {l3 : Option Nat} {l4 : Option Nat} (hR : ∀ (l5 : Int32) (h : zw_H), R l5 h → zw_G Xc (kb + 1139) (sb + 73158) 9 h 28 [(0, va_rf l0), (1, va_rf l1), (2, va_rf l2), (3, va_rf l3), (4, va_rf l4), (5, .int l5)] [])  {l5 : Int32}  {h : zw_H} (hE : f_law_J4164 (zw_Zf Xc).2.2.2 Q X R l0 l1 l2 l3 l4 l5 h) : zw_G Xc kb sb 9 h 4164 [(0, va_rf l0), (1, va_rf l1), (2, va_rf l2), (3, va_rf l3), (4, va_rf l4), (5, .int l5)] [] := by
  unfold f_law_J4164 at hE
  refine zg_aload_n ok dL_law_4164 rfl 1 rfl ?_
  refine zg_aload_n ok dL_law_4165 rfl 0 rfl ?_
  refine zg_iload ok dL_law_4166 5 rfl ?_
  refine zg_iconst (v := 1) ok dL_law_4168 (by decide) ?_
  refine zg_iadd ok dL_law_4169 ?_
  refine zg_iald ok dL_law_4170 hE (fun v425 hE => ?_)
  refine zg_aload_n ok dL_law_4171 rfl 3 rfl ?_
  refine zg_callSX (vs := [zA l1, zI v425, zA l3]) (rest := []) (rm := rm_X0_restore) ok hRm lk_X0_423 dL_law_4172 hE (fun hE => mt_X0_restore hl hE) rfl (Nat.le_of_ble_eq_true rfl) ⟨⟨Nat.le_of_ble_eq_true rfl, Nat.le_of_ble_eq_true rfl⟩, (by show kb + 295 ≤ 1200144; omega), (by show sb + 2369 ≤ 5496826; omega)⟩ (zg_retI (fun v426 h191 hE => ?_)) (zg_xok ok tab fin ⟨(by show kb + 295 ≤ 1200144; omega), (by show sb + 2369 ≤ 5496826; omega)⟩)
  refine zg_cost (kc2 := kb + 295) (ks2 := sb + 2369) ⟨(by show kb + 295 = kb + 295; omega), (by show sb + 2369 = sb + 2369; omega)⟩ ?_
  refine zg_istore (L' := [(6, .int v426), (0, va_rf l0), (1, va_rf l1), (2, va_rf l2), (3, va_rf l3), (4, va_rf l4), (5, .int l5)]) ok dL_law_4175 (by decide) rfl ?_
  refine zg_aload_n ok dL_law_4177 rfl 3 rfl ?_
  refine zg_aload_n ok dL_law_4178 rfl 1 rfl ?_
  refine zg_iload ok dL_law_4179 6 rfl ?_
  refine zg_iconst (v := 1) ok dL_law_4181 (by decide) ?_
  refine zg_iadd ok dL_law_4182 ?_
  refine zg_iald ok dL_law_4183 hE (fun v427 hE => ?_)
  refine zg_callV (vs := [zI v427]) (rest := []) (rm := rm_X2_restore) ok hRm lk_X0_425 dL_law_4184 hE (fun hE => mt_X2_restore hl hE) rfl (Nat.le_of_ble_eq_true rfl) ⟨⟨Nat.le_of_ble_eq_true rfl, Nat.le_of_ble_eq_true rfl⟩, (by show kb + 295 + 0 ≤ 1200144; omega), (by show sb + 2369 + 0 ≤ 5496826; omega)⟩ (zg_retI (fun v428 h192 hE => ?_)) (zg_xok ok tab fin ⟨(by show kb + 295 + 0 ≤ 1200144; omega), (by show sb + 2369 + 0 ≤ 5496826; omega)⟩)
  refine zg_cost (kc2 := kb + 295) (ks2 := sb + 2369) ⟨(by show kb + 295 + 0 = kb + 295; omega), (by show sb + 2369 + 0 = sb + 2369; omega)⟩ ?_
  refine zg_istore (L' := [(7, .int v428), (6, .int v426), (0, va_rf l0), (1, va_rf l1), (2, va_rf l2), (3, va_rf l3), (4, va_rf l4), (5, .int l5)]) ok dL_law_4187 (by decide) rfl ?_
  refine zg_aload_n ok dL_law_4189 rfl 4 rfl ?_
  refine zg_callV (vs := []) (rest := []) (rm := rm_X2_thrown) ok hRm lk_X0_223 dL_law_4190 hE (fun hE => mt_X2_thrown hl hE) rfl (Nat.le_of_ble_eq_true rfl) ⟨⟨Nat.le_of_ble_eq_true rfl, Nat.le_of_ble_eq_true rfl⟩, (by show kb + 295 + 0 ≤ 1200144; omega), (by show sb + 2369 + 0 ≤ 5496826; omega)⟩ (zg_retI (fun v429 h193 hE => ?_)) (zg_xok ok tab fin ⟨(by show kb + 295 + 0 ≤ 1200144; omega), (by show sb + 2369 + 0 ≤ 5496826; omega)⟩)
  refine zg_cost (kc2 := kb + 295) (ks2 := sb + 2369) ⟨(by show kb + 295 + 0 = kb + 295; omega), (by show sb + 2369 + 0 = sb + 2369; omega)⟩ ?_
  refine zg_iload ok dL_law_4193 1 rfl ?_
  refine zg_icmp_eq (tgt := 4200) ok dL_law_4195 (by decide) hE (fun hE => ?_) (fun hE => ?_)
  · refine zg_iload ok dL_law_4200 1 rfl ?_
    refine zg_if_ne (tgt := 4217) ok dL_law_4202 (by decide) hE (fun hE => ?_) (fun hE => ?_)
    · refine zg_sub (L' := [(0, va_rf l0), (1, va_rf l1), (2, va_rf l2), (3, va_rf l3), (4, va_rf l4), (5, .int l5)]) [2, 3, 4, 5, 6, 7] rfl ?_
      exact gt_f_law_J4217 hl ok tab fin hRm hk hKE hR  hE
    · refine zg_aload_n ok dL_law_4205 rfl 5 rfl ?_
      refine zg_iconst (v := 0) ok dL_law_4206 (by decide) ?_
      refine zg_lald ok dL_law_4207 hE (fun v430 hE => ?_)
      refine zg_iload ok dL_law_4208 0 rfl ?_
      refine zg_i2l ok dL_law_4210 ?_
      refine zg_lcmp ok dL_law_4211 ?_
      refine zg_if_eq (tgt := 4217) ok dL_law_4212 (by decide) hE (fun hE => ?_) (fun hE => ?_)
      · refine zg_sub (L' := [(0, va_rf l0), (1, va_rf l1), (2, va_rf l2), (3, va_rf l3), (4, va_rf l4), (5, .int l5)]) [2, 3, 4, 5, 6, 7] rfl ?_
        exact gt_f_law_J4217 hl ok tab fin hRm hk hKE hR  hE
      · refine zg_iconst (v := 0) ok dL_law_4215 (by decide) ?_
        exact zg_zret ok fin dL_law_4216 ⟨(by omega), (by omega)⟩ rfl hE
  · refine zg_iconst (v := 0) ok dL_law_4198 (by decide) ?_
    exact zg_zret ok fin dL_law_4199 ⟨(by omega), (by omega)⟩ rfl hE
set_option maxHeartbeats 8000000 in
theorem gt_f_law_B28 {Xc : zw_X} {Q : Int32 → zw_H → Prop} {X : String → Nat → zw_H → Prop} (hl : (zw_l Xc).stackTraces = false) (ok : zw_ok Xc cL_law "MultipoleLineLaw" "law" 9) (tab : zw_tab Xc []) (fin : zw_fin Xc (Option.some Jvm.ClassFile.FieldType.boolean) (zq_I Q) X 1200144 5496826) (hRm : zw_rm Xc = rm_law) {kb sb KE SE : Nat} (hk : kb + 1139 ≤ KE ∧ sb + 73158 ≤ SE) (hKE : KE ≤ 1200144 ∧ SE ≤ 5496826) {R : Int32 → zw_H → Prop} {l0 : Option Nat} {l1 : Option Nat} {l2 : Option Nat} {l3 : Option Nat} {l4 : Option Nat} (hR : ∀ (l5 : Int32) (h : zw_H), R l5 h → zw_G Xc (kb + 1139) (sb + 73158) 9 h 28 [(0, va_rf l0), (1, va_rf l1), (2, va_rf l2), (3, va_rf l3), (4, va_rf l4), (5, .int l5)] [])  {l5 : Int32} {h : zw_H} (hE : f_law_B28 (zw_Zf Xc).2.2.2 Q X  l0 l1 l2 l3 l4 R l5 h) : zw_G Xc kb sb 9 h 28 [(0, va_rf l0), (1, va_rf l1), (2, va_rf l2), (3, va_rf l3), (4, va_rf l4), (5, .int l5)] [] := by
  unfold f_law_B28 at hE
  refine zg_iload ok dL_law_28 5 rfl ?_
  refine zg_aload_n ok dL_law_30 rfl 0 rfl ?_
  refine zg_alen ok dL_law_31 hE (fun v5 hE => ?_)
  refine zg_bipush (v := 6) ok dL_law_32 (by decide) ?_
  refine zg_isub ok dL_law_34 ?_
  refine zg_icmp_gt (tgt := 4226) ok dL_law_35 (by decide) hE (fun hE => ?_) (fun hE => ?_)
  · refine zg_iconst (v := 1) ok dL_law_4226 (by decide) ?_
    exact zg_zret ok fin dL_law_4227 ⟨(by omega), (by omega)⟩ rfl hE
  · refine zg_aload_n ok dL_law_38 rfl 0 rfl ?_
    refine zg_iload ok dL_law_39 5 rfl ?_
    refine zg_iald ok dL_law_41 hE (fun v6 hE => ?_)
    refine zg_bipush (v := 63) ok dL_law_42 (by decide) ?_
    refine zg_iand ok dL_law_44 ?_
    refine zg_letI hE (fun v7 hE => ?_)
    by_cases c9 : v7 = 0
    · rw [if_pos c9] at hE
      refine zg_tabIn (tgt := 316) ok dL_law_45 (by rw [c9] <;> decide) (by rw [c9] <;> decide) (by rw [c9]; rfl) (by decide) ?_
      exact gt_f_law_J316 hl ok tab fin hRm hk hKE hR  hE
    rw [if_neg c9] at hE
    by_cases c9 : v7 = 1
    · rw [if_pos c9] at hE
      refine zg_tabIn (tgt := 389) ok dL_law_45 (by rw [c9] <;> decide) (by rw [c9] <;> decide) (by rw [c9]; rfl) (by decide) ?_
      exact gt_f_law_J389 hl ok tab fin hRm hk hKE hR  hE
    rw [if_neg c9] at hE
    by_cases c9 : v7 = 2
    · rw [if_pos c9] at hE
      refine zg_tabIn (tgt := 445) ok dL_law_45 (by rw [c9] <;> decide) (by rw [c9] <;> decide) (by rw [c9]; rfl) (by decide) ?_
      exact gt_f_law_J445 hl ok tab fin hRm hk hKE hR  hE
    rw [if_neg c9] at hE
    by_cases c9 : v7 = 3
    · rw [if_pos c9] at hE
      refine zg_tabIn (tgt := 458) ok dL_law_45 (by rw [c9] <;> decide) (by rw [c9] <;> decide) (by rw [c9]; rfl) (by decide) ?_
      exact gt_f_law_J458 hl ok tab fin hRm hk hKE hR  hE
    rw [if_neg c9] at hE
    by_cases c9 : v7 = 4
    · rw [if_pos c9] at hE
      refine zg_tabIn (tgt := 471) ok dL_law_45 (by rw [c9] <;> decide) (by rw [c9] <;> decide) (by rw [c9]; rfl) (by decide) ?_
      exact gt_f_law_J471 hl ok tab fin hRm hk hKE hR  hE
    rw [if_neg c9] at hE
    by_cases c9 : v7 = 5
    · rw [if_pos c9] at hE
      refine zg_tabIn (tgt := 484) ok dL_law_45 (by rw [c9] <;> decide) (by rw [c9] <;> decide) (by rw [c9]; rfl) (by decide) ?_
      exact gt_f_law_J484 hl ok tab fin hRm hk hKE hR  hE
    rw [if_neg c9] at hE
    by_cases c9 : v7 = 6
    · rw [if_pos c9] at hE
      refine zg_tabIn (tgt := 540) ok dL_law_45 (by rw [c9] <;> decide) (by rw [c9] <;> decide) (by rw [c9]; rfl) (by decide) ?_
      exact gt_f_law_J540 hl ok tab fin hRm hk hKE hR  hE
    rw [if_neg c9] at hE
    by_cases c9 : v7 = 7
    · rw [if_pos c9] at hE
      refine zg_tabIn (tgt := 608) ok dL_law_45 (by rw [c9] <;> decide) (by rw [c9] <;> decide) (by rw [c9]; rfl) (by decide) ?_
      exact gt_f_law_J608 hl ok tab fin hRm hk hKE hR  hE
    rw [if_neg c9] at hE
    by_cases c9 : v7 = 8
    · rw [if_pos c9] at hE
      refine zg_tabIn (tgt := 664) ok dL_law_45 (by rw [c9] <;> decide) (by rw [c9] <;> decide) (by rw [c9]; rfl) (by decide) ?_
      exact gt_f_law_J664 hl ok tab fin hRm hk hKE hR  hE
    rw [if_neg c9] at hE
    by_cases c9 : v7 = 9
    · rw [if_pos c9] at hE
      refine zg_tabIn (tgt := 744) ok dL_law_45 (by rw [c9] <;> decide) (by rw [c9] <;> decide) (by rw [c9]; rfl) (by decide) ?_
      exact gt_f_law_J744 hl ok tab fin hRm hk hKE hR  hE
    rw [if_neg c9] at hE
    by_cases c9 : v7 = 10
    · rw [if_pos c9] at hE
      refine zg_tabIn (tgt := 812) ok dL_law_45 (by rw [c9] <;> decide) (by rw [c9] <;> decide) (by rw [c9]; rfl) (by decide) ?_
      exact gt_f_law_J812 hl ok tab fin hRm hk hKE hR  hE
    rw [if_neg c9] at hE
    by_cases c9 : v7 = 11
    · rw [if_pos c9] at hE
      refine zg_tabIn (tgt := 856) ok dL_law_45 (by rw [c9] <;> decide) (by rw [c9] <;> decide) (by rw [c9]; rfl) (by decide) ?_
      exact gt_f_law_J856 hl ok tab fin hRm hk hKE hR  hE
    rw [if_neg c9] at hE
    by_cases c9 : v7 = 12
    · rw [if_pos c9] at hE
      refine zg_tabIn (tgt := 900) ok dL_law_45 (by rw [c9] <;> decide) (by rw [c9] <;> decide) (by rw [c9]; rfl) (by decide) ?_
      exact gt_f_law_J900 hl ok tab fin hRm hk hKE hR  hE
    rw [if_neg c9] at hE
    by_cases c9 : v7 = 13
    · rw [if_pos c9] at hE
      refine zg_tabIn (tgt := 979) ok dL_law_45 (by rw [c9] <;> decide) (by rw [c9] <;> decide) (by rw [c9]; rfl) (by decide) ?_
      exact gt_f_law_J979 hl ok tab fin hRm hk hKE hR  hE
    rw [if_neg c9] at hE
    by_cases c9 : v7 = 14
    · rw [if_pos c9] at hE
      refine zg_tabIn (tgt := 1058) ok dL_law_45 (by rw [c9] <;> decide) (by rw [c9] <;> decide) (by rw [c9]; rfl) (by decide) ?_
      exact gt_f_law_J1058 hl ok tab fin hRm hk hKE hR  hE
    rw [if_neg c9] at hE
    by_cases c9 : v7 = 15
    · rw [if_pos c9] at hE
      refine zg_tabIn (tgt := 1101) ok dL_law_45 (by rw [c9] <;> decide) (by rw [c9] <;> decide) (by rw [c9]; rfl) (by decide) ?_
      exact gt_f_law_J1101 hl ok tab fin hRm hk hKE hR  hE
    rw [if_neg c9] at hE
    by_cases c9 : v7 = 16
    · rw [if_pos c9] at hE
      refine zg_tabIn (tgt := 1157) ok dL_law_45 (by rw [c9] <;> decide) (by rw [c9] <;> decide) (by rw [c9]; rfl) (by decide) ?_
      exact gt_f_law_J1157 hl ok tab fin hRm hk hKE hR  hE
    rw [if_neg c9] at hE
    by_cases c9 : v7 = 17
    · rw [if_pos c9] at hE
      refine zg_tabIn (tgt := 1225) ok dL_law_45 (by rw [c9] <;> decide) (by rw [c9] <;> decide) (by rw [c9]; rfl) (by decide) ?_
      exact gt_f_law_J1225 hl ok tab fin hRm hk hKE hR  hE
    rw [if_neg c9] at hE
    by_cases c9 : v7 = 18
    · rw [if_pos c9] at hE
      refine zg_tabIn (tgt := 1281) ok dL_law_45 (by rw [c9] <;> decide) (by rw [c9] <;> decide) (by rw [c9]; rfl) (by decide) ?_
      exact gt_f_law_J1281 hl ok tab fin hRm hk hKE hR  hE
    rw [if_neg c9] at hE
    by_cases c9 : v7 = 19
    · rw [if_pos c9] at hE
      refine zg_tabIn (tgt := 1349) ok dL_law_45 (by rw [c9] <;> decide) (by rw [c9] <;> decide) (by rw [c9]; rfl) (by decide) ?_
      exact gt_f_law_J1349 hl ok tab fin hRm hk hKE hR  hE
    rw [if_neg c9] at hE
    by_cases c9 : v7 = 20
    · rw [if_pos c9] at hE
      refine zg_tabIn (tgt := 1405) ok dL_law_45 (by rw [c9] <;> decide) (by rw [c9] <;> decide) (by rw [c9]; rfl) (by decide) ?_
      exact gt_f_law_J1405 hl ok tab fin hRm hk hKE hR  hE
    rw [if_neg c9] at hE
    by_cases c9 : v7 = 21
    · rw [if_pos c9] at hE
      refine zg_tabIn (tgt := 1489) ok dL_law_45 (by rw [c9] <;> decide) (by rw [c9] <;> decide) (by rw [c9]; rfl) (by decide) ?_
      exact gt_f_law_J1489 hl ok tab fin hRm hk hKE hR  hE
    rw [if_neg c9] at hE
    by_cases c9 : v7 = 22
    · rw [if_pos c9] at hE
      refine zg_tabIn (tgt := 1566) ok dL_law_45 (by rw [c9] <;> decide) (by rw [c9] <;> decide) (by rw [c9]; rfl) (by decide) ?_
      exact gt_f_law_J1566 hl ok tab fin hRm hk hKE hR  hE
    rw [if_neg c9] at hE
    by_cases c9 : v7 = 23
    · rw [if_pos c9] at hE
      refine zg_tabIn (tgt := 1643) ok dL_law_45 (by rw [c9] <;> decide) (by rw [c9] <;> decide) (by rw [c9]; rfl) (by decide) ?_
      exact gt_f_law_J1643 hl ok tab fin hRm hk hKE hR  hE
    rw [if_neg c9] at hE
    by_cases c9 : v7 = 24
    · rw [if_pos c9] at hE
      refine zg_tabIn (tgt := 1720) ok dL_law_45 (by rw [c9] <;> decide) (by rw [c9] <;> decide) (by rw [c9]; rfl) (by decide) ?_
      exact gt_f_law_J1720 hl ok tab fin hRm hk hKE hR  hE
    rw [if_neg c9] at hE
    by_cases c9 : v7 = 25
    · rw [if_pos c9] at hE
      refine zg_tabIn (tgt := 1775) ok dL_law_45 (by rw [c9] <;> decide) (by rw [c9] <;> decide) (by rw [c9]; rfl) (by decide) ?_
      exact gt_f_law_J1775 hl ok tab fin hRm hk hKE hR  hE
    rw [if_neg c9] at hE
    by_cases c9 : v7 = 26
    · rw [if_pos c9] at hE
      refine zg_tabIn (tgt := 1876) ok dL_law_45 (by rw [c9] <;> decide) (by rw [c9] <;> decide) (by rw [c9]; rfl) (by decide) ?_
      exact gt_f_law_J1876 hl ok tab fin hRm hk hKE hR  hE
    rw [if_neg c9] at hE
    by_cases c9 : v7 = 27
    · rw [if_pos c9] at hE
      refine zg_tabIn (tgt := 1953) ok dL_law_45 (by rw [c9] <;> decide) (by rw [c9] <;> decide) (by rw [c9]; rfl) (by decide) ?_
      exact gt_f_law_J1953 hl ok tab fin hRm hk hKE hR  hE
    rw [if_neg c9] at hE
    by_cases c9 : v7 = 28
    · rw [if_pos c9] at hE
      refine zg_tabIn (tgt := 2030) ok dL_law_45 (by rw [c9] <;> decide) (by rw [c9] <;> decide) (by rw [c9]; rfl) (by decide) ?_
      exact gt_f_law_J2030 hl ok tab fin hRm hk hKE hR  hE
    rw [if_neg c9] at hE
    by_cases c9 : v7 = 29
    · rw [if_pos c9] at hE
      refine zg_tabIn (tgt := 2093) ok dL_law_45 (by rw [c9] <;> decide) (by rw [c9] <;> decide) (by rw [c9]; rfl) (by decide) ?_
      exact gt_f_law_J2093 hl ok tab fin hRm hk hKE hR  hE
    rw [if_neg c9] at hE
    by_cases c9 : v7 = 30
    · rw [if_pos c9] at hE
      refine zg_tabIn (tgt := 2137) ok dL_law_45 (by rw [c9] <;> decide) (by rw [c9] <;> decide) (by rw [c9]; rfl) (by decide) ?_
      exact gt_f_law_J2137 hl ok tab fin hRm hk hKE hR  hE
    rw [if_neg c9] at hE
    by_cases c9 : v7 = 31
    · rw [if_pos c9] at hE
      refine zg_tabIn (tgt := 2238) ok dL_law_45 (by rw [c9] <;> decide) (by rw [c9] <;> decide) (by rw [c9]; rfl) (by decide) ?_
      exact gt_f_law_J2238 hl ok tab fin hRm hk hKE hR  hE
    rw [if_neg c9] at hE
    by_cases c9 : v7 = 32
    · rw [if_pos c9] at hE
      refine zg_tabIn (tgt := 2315) ok dL_law_45 (by rw [c9] <;> decide) (by rw [c9] <;> decide) (by rw [c9]; rfl) (by decide) ?_
      exact gt_f_law_J2315 hl ok tab fin hRm hk hKE hR  hE
    rw [if_neg c9] at hE
    by_cases c9 : v7 = 33
    · rw [if_pos c9] at hE
      refine zg_tabIn (tgt := 2392) ok dL_law_45 (by rw [c9] <;> decide) (by rw [c9] <;> decide) (by rw [c9]; rfl) (by decide) ?_
      exact gt_f_law_J2392 hl ok tab fin hRm hk hKE hR  hE
    rw [if_neg c9] at hE
    by_cases c9 : v7 = 34
    · rw [if_pos c9] at hE
      refine zg_tabIn (tgt := 2469) ok dL_law_45 (by rw [c9] <;> decide) (by rw [c9] <;> decide) (by rw [c9]; rfl) (by decide) ?_
      exact gt_f_law_J2469 hl ok tab fin hRm hk hKE hR  hE
    rw [if_neg c9] at hE
    by_cases c9 : v7 = 35
    · rw [if_pos c9] at hE
      refine zg_tabIn (tgt := 2546) ok dL_law_45 (by rw [c9] <;> decide) (by rw [c9] <;> decide) (by rw [c9]; rfl) (by decide) ?_
      exact gt_f_law_J2546 hl ok tab fin hRm hk hKE hR  hE
    rw [if_neg c9] at hE
    by_cases c9 : v7 = 36
    · rw [if_pos c9] at hE
      refine zg_tabIn (tgt := 2602) ok dL_law_45 (by rw [c9] <;> decide) (by rw [c9] <;> decide) (by rw [c9]; rfl) (by decide) ?_
      exact gt_f_law_J2602 hl ok tab fin hRm hk hKE hR  hE
    rw [if_neg c9] at hE
    by_cases c9 : v7 = 37
    · rw [if_pos c9] at hE
      refine zg_tabIn (tgt := 2670) ok dL_law_45 (by rw [c9] <;> decide) (by rw [c9] <;> decide) (by rw [c9]; rfl) (by decide) ?_
      exact gt_f_law_J2670 hl ok tab fin hRm hk hKE hR  hE
    rw [if_neg c9] at hE
    by_cases c9 : v7 = 38
    · rw [if_pos c9] at hE
      refine zg_tabIn (tgt := 2726) ok dL_law_45 (by rw [c9] <;> decide) (by rw [c9] <;> decide) (by rw [c9]; rfl) (by decide) ?_
      exact gt_f_law_J2726 hl ok tab fin hRm hk hKE hR  hE
    rw [if_neg c9] at hE
    by_cases c9 : v7 = 39
    · rw [if_pos c9] at hE
      refine zg_tabIn (tgt := 2770) ok dL_law_45 (by rw [c9] <;> decide) (by rw [c9] <;> decide) (by rw [c9]; rfl) (by decide) ?_
      exact gt_f_law_J2770 hl ok tab fin hRm hk hKE hR  hE
    rw [if_neg c9] at hE
    by_cases c9 : v7 = 40
    · rw [if_pos c9] at hE
      refine zg_tabIn (tgt := 2838) ok dL_law_45 (by rw [c9] <;> decide) (by rw [c9] <;> decide) (by rw [c9]; rfl) (by decide) ?_
      exact gt_f_law_J2838 hl ok tab fin hRm hk hKE hR  hE
    rw [if_neg c9] at hE
    by_cases c9 : v7 = 41
    · rw [if_pos c9] at hE
      refine zg_tabIn (tgt := 2882) ok dL_law_45 (by rw [c9] <;> decide) (by rw [c9] <;> decide) (by rw [c9]; rfl) (by decide) ?_
      exact gt_f_law_J2882 hl ok tab fin hRm hk hKE hR  hE
    rw [if_neg c9] at hE
    by_cases c9 : v7 = 42
    · rw [if_pos c9] at hE
      refine zg_tabIn (tgt := 2971) ok dL_law_45 (by rw [c9] <;> decide) (by rw [c9] <;> decide) (by rw [c9]; rfl) (by decide) ?_
      exact gt_f_law_J2971 hl ok tab fin hRm hk hKE hR  hE
    rw [if_neg c9] at hE
    by_cases c9 : v7 = 43
    · rw [if_pos c9] at hE
      refine zg_tabIn (tgt := 3015) ok dL_law_45 (by rw [c9] <;> decide) (by rw [c9] <;> decide) (by rw [c9]; rfl) (by decide) ?_
      exact gt_f_law_J3015 hl ok tab fin hRm hk hKE hR  hE
    rw [if_neg c9] at hE
    by_cases c9 : v7 = 44
    · rw [if_pos c9] at hE
      refine zg_tabIn (tgt := 3108) ok dL_law_45 (by rw [c9] <;> decide) (by rw [c9] <;> decide) (by rw [c9]; rfl) (by decide) ?_
      exact gt_f_law_J3108 hl ok tab fin hRm hk hKE hR  hE
    rw [if_neg c9] at hE
    by_cases c9 : v7 = 45
    · rw [if_pos c9] at hE
      refine zg_tabIn (tgt := 3164) ok dL_law_45 (by rw [c9] <;> decide) (by rw [c9] <;> decide) (by rw [c9]; rfl) (by decide) ?_
      exact gt_f_law_J3164 hl ok tab fin hRm hk hKE hR  hE
    rw [if_neg c9] at hE
    by_cases c9 : v7 = 46
    · rw [if_pos c9] at hE
      refine zg_tabIn (tgt := 3220) ok dL_law_45 (by rw [c9] <;> decide) (by rw [c9] <;> decide) (by rw [c9]; rfl) (by decide) ?_
      exact gt_f_law_J3220 hl ok tab fin hRm hk hKE hR  hE
    rw [if_neg c9] at hE
    by_cases c9 : v7 = 47
    · rw [if_pos c9] at hE
      refine zg_tabIn (tgt := 3286) ok dL_law_45 (by rw [c9] <;> decide) (by rw [c9] <;> decide) (by rw [c9]; rfl) (by decide) ?_
      exact gt_f_law_J3286 hl ok tab fin hRm hk hKE hR  hE
    rw [if_neg c9] at hE
    by_cases c9 : v7 = 48
    · rw [if_pos c9] at hE
      refine zg_tabIn (tgt := 3330) ok dL_law_45 (by rw [c9] <;> decide) (by rw [c9] <;> decide) (by rw [c9]; rfl) (by decide) ?_
      exact gt_f_law_J3330 hl ok tab fin hRm hk hKE hR  hE
    rw [if_neg c9] at hE
    by_cases c9 : v7 = 49
    · rw [if_pos c9] at hE
      refine zg_tabIn (tgt := 3395) ok dL_law_45 (by rw [c9] <;> decide) (by rw [c9] <;> decide) (by rw [c9]; rfl) (by decide) ?_
      exact gt_f_law_J3395 hl ok tab fin hRm hk hKE hR  hE
    rw [if_neg c9] at hE
    by_cases c9 : v7 = 50
    · rw [if_pos c9] at hE
      refine zg_tabIn (tgt := 3439) ok dL_law_45 (by rw [c9] <;> decide) (by rw [c9] <;> decide) (by rw [c9]; rfl) (by decide) ?_
      exact gt_f_law_J3439 hl ok tab fin hRm hk hKE hR  hE
    rw [if_neg c9] at hE
    by_cases c9 : v7 = 51
    · rw [if_pos c9] at hE
      refine zg_tabIn (tgt := 3483) ok dL_law_45 (by rw [c9] <;> decide) (by rw [c9] <;> decide) (by rw [c9]; rfl) (by decide) ?_
      exact gt_f_law_J3483 hl ok tab fin hRm hk hKE hR  hE
    rw [if_neg c9] at hE
    by_cases c9 : v7 = 52
    · rw [if_pos c9] at hE
      refine zg_tabIn (tgt := 3527) ok dL_law_45 (by rw [c9] <;> decide) (by rw [c9] <;> decide) (by rw [c9]; rfl) (by decide) ?_
      exact gt_f_law_J3527 hl ok tab fin hRm hk hKE hR  hE
    rw [if_neg c9] at hE
    by_cases c9 : v7 = 53
    · rw [if_pos c9] at hE
      refine zg_tabIn (tgt := 3583) ok dL_law_45 (by rw [c9] <;> decide) (by rw [c9] <;> decide) (by rw [c9]; rfl) (by decide) ?_
      exact gt_f_law_J3583 hl ok tab fin hRm hk hKE hR  hE
    rw [if_neg c9] at hE
    by_cases c9 : v7 = 54
    · rw [if_pos c9] at hE
      refine zg_tabIn (tgt := 3639) ok dL_law_45 (by rw [c9] <;> decide) (by rw [c9] <;> decide) (by rw [c9]; rfl) (by decide) ?_
      exact gt_f_law_J3639 hl ok tab fin hRm hk hKE hR  hE
    rw [if_neg c9] at hE
    by_cases c9 : v7 = 55
    · rw [if_pos c9] at hE
      refine zg_tabIn (tgt := 3735) ok dL_law_45 (by rw [c9] <;> decide) (by rw [c9] <;> decide) (by rw [c9]; rfl) (by decide) ?_
      exact gt_f_law_J3735 hl ok tab fin hRm hk hKE hR  hE
    rw [if_neg c9] at hE
    by_cases c9 : v7 = 56
    · rw [if_pos c9] at hE
      refine zg_tabIn (tgt := 3803) ok dL_law_45 (by rw [c9] <;> decide) (by rw [c9] <;> decide) (by rw [c9]; rfl) (by decide) ?_
      exact gt_f_law_J3803 hl ok tab fin hRm hk hKE hR  hE
    rw [if_neg c9] at hE
    by_cases c9 : v7 = 57
    · rw [if_pos c9] at hE
      refine zg_tabIn (tgt := 3871) ok dL_law_45 (by rw [c9] <;> decide) (by rw [c9] <;> decide) (by rw [c9]; rfl) (by decide) ?_
      exact gt_f_law_J3871 hl ok tab fin hRm hk hKE hR  hE
    rw [if_neg c9] at hE
    by_cases c9 : v7 = 58
    · rw [if_pos c9] at hE
      refine zg_tabIn (tgt := 3927) ok dL_law_45 (by rw [c9] <;> decide) (by rw [c9] <;> decide) (by rw [c9]; rfl) (by decide) ?_
      exact gt_f_law_J3927 hl ok tab fin hRm hk hKE hR  hE
    rw [if_neg c9] at hE
    by_cases c9 : v7 = 59
    · rw [if_pos c9] at hE
      refine zg_tabIn (tgt := 3983) ok dL_law_45 (by rw [c9] <;> decide) (by rw [c9] <;> decide) (by rw [c9]; rfl) (by decide) ?_
      exact gt_f_law_J3983 hl ok tab fin hRm hk hKE hR  hE
    rw [if_neg c9] at hE
    by_cases c9 : v7 = 60
    · rw [if_pos c9] at hE
      refine zg_tabIn (tgt := 4051) ok dL_law_45 (by rw [c9] <;> decide) (by rw [c9] <;> decide) (by rw [c9]; rfl) (by decide) ?_
      exact gt_f_law_J4051 hl ok tab fin hRm hk hKE hR  hE
    rw [if_neg c9] at hE
    by_cases c9 : v7 = 61
    · rw [if_pos c9] at hE
      refine zg_tabIn (tgt := 4095) ok dL_law_45 (by rw [c9] <;> decide) (by rw [c9] <;> decide) (by rw [c9]; rfl) (by decide) ?_
      exact gt_f_law_J4095 hl ok tab fin hRm hk hKE hR  hE
    rw [if_neg c9] at hE
    by_cases c9 : v7 = 62
    · rw [if_pos c9] at hE
      refine zg_tabIn (tgt := 4108) ok dL_law_45 (by rw [c9] <;> decide) (by rw [c9] <;> decide) (by rw [c9]; rfl) (by decide) ?_
      exact gt_f_law_J4108 hl ok tab fin hRm hk hKE hR  hE
    rw [if_neg c9] at hE
    by_cases c9 : v7 = 63
    · rw [if_pos c9] at hE
      refine zg_tabIn (tgt := 4164) ok dL_law_45 (by rw [c9] <;> decide) (by rw [c9] <;> decide) (by rw [c9]; rfl) (by decide) ?_
      exact gt_f_law_J4164 hl ok tab fin hRm hk hKE hR  hE
    rw [if_neg c9] at hE
    obtain ⟨hd9, hE⟩ := hE
    refine zg_tabOut (tgt := 4220) ok dL_law_45 hd9 (by decide) ?_
    refine zg_wide (kc2 := kb + 1139) (ks2 := sb + 73158) (by omega) (by omega) ?_
    exact gt_f_law_J4220 hl ok tab fin hRm hk hKE hR  hE
theorem gt_f_law_L28 {Xc : zw_X} {Q : Int32 → zw_H → Prop} {X : String → Nat → zw_H → Prop} (hl : (zw_l Xc).stackTraces = false) (ok : zw_ok Xc cL_law "MultipoleLineLaw" "law" 9) (tab : zw_tab Xc []) (fin : zw_fin Xc (Option.some Jvm.ClassFile.FieldType.boolean) (zq_I Q) X 1200144 5496826) (hRm : zw_rm Xc = rm_law) {KE SE : Nat} (hKE : KE ≤ 1200144 ∧ SE ≤ 5496826) {l0 : Option Nat} {l1 : Option Nat} {l2 : Option Nat} {l3 : Option Nat} {l4 : Option Nat}  : ∀ (n9 kb sb : Nat), kb + n9 * 1139 ≤ KE ∧ sb + n9 * 73158 ≤ SE → ∀ (l5 : Int32) (h : zw_H), zl2 (f_law_B28 (zw_Zf Xc).2.2.2 Q X  l0 l1 l2 l3 l4) n9 l5 h → zw_G Xc kb sb 9 h 28 [(0, va_rf l0), (1, va_rf l1), (2, va_rf l2), (3, va_rf l3), (4, va_rf l4), (5, .int l5)] [] := by
  intro n9
  induction n9 with
  | zero => intro kb sb hk9 l5 h hE; exact hE.elim
  | succ n9 ih => intro kb sb hk9 l5 h hE; exact gt_f_law_B28 hl ok tab fin hRm ⟨by omega, by omega⟩ hKE (ih (kb + 1139) (sb + 73158) ⟨by omega, by omega⟩)  hE
set_option maxHeartbeats 16000000 in
theorem mt_law {Xc : zw_X} {Q : Int32 → zw_H → Prop} {X : String → Nat → zw_H → Prop} (hl : (zw_l Xc).stackTraces = false) (ok : zw_ok Xc cL_law "MultipoleLineLaw" "law" 9) (tab : zw_tab Xc []) (fin : zw_fin Xc (Option.some Jvm.ClassFile.FieldType.boolean) (zq_I Q) X 1200144 5496826) (hRm : zw_rm Xc = rm_law) {a0 : Option Nat} {h : zw_H} (hE : f_law (zw_Zf Xc).2.2.2 a0 h Q X) : zw_G Xc 0 0 9 h 0 [(0, va_rf a0)] [] := by
  unfold f_law at hE
  refine zg_new ok ln_X0_8 (by rw [hRm]; exact ⟨Nat.le_of_ble_eq_true rfl, Nat.le_of_ble_eq_true rfl⟩) dL_law_0 hE (fun v1 h1 hE => ?_)
  refine zg_cost (kc2 := 1) (ks2 := 8) ⟨rfl, rfl⟩ ?_
  refine zg_dup ok dL_law_3 (zw_rfc _) ?_
  refine zg_callI (vs := []) (rest := [va_rf (some v1)]) (rm := rm_X1_init) ok hRm lk_X0_208 dL_law_4 (by simp) hE (fun hE => mt_X1_init hl hE) rfl (Nat.le_of_ble_eq_true rfl) ⟨⟨Nat.le_of_ble_eq_true rfl, Nat.le_of_ble_eq_true rfl⟩, Nat.le_of_ble_eq_true rfl, Nat.le_of_ble_eq_true rfl⟩ (zg_retV (fun h2 hE => ?_)) (zg_xok ok tab fin ⟨Nat.le_of_ble_eq_true rfl, Nat.le_of_ble_eq_true rfl⟩)
  refine zg_cost (kc2 := 7) (ks2 := 1200) ⟨rfl, rfl⟩ ?_
  refine zg_astore_nR (L' := [(1, va_rf (some v1)), (0, va_rf a0)]) ok dL_law_7 rfl (by decide) 0 rfl rfl rfl ?_
  refine zg_new ok ln_X0_209 (by rw [hRm]; exact ⟨Nat.le_of_ble_eq_true rfl, Nat.le_of_ble_eq_true rfl⟩) dL_law_8 hE (fun v2 h3 hE => ?_)
  refine zg_cost (kc2 := 8) (ks2 := 1226) ⟨rfl, rfl⟩ ?_
  refine zg_dup ok dL_law_11 (zw_rfc _) ?_
  refine zg_callI (vs := []) (rest := [va_rf (some v2)]) (rm := rm_X2_init) ok hRm lk_X0_211 dL_law_12 (by simp) hE (fun hE => mt_X2_init hl hE) rfl (Nat.le_of_ble_eq_true rfl) ⟨⟨Nat.le_of_ble_eq_true rfl, Nat.le_of_ble_eq_true rfl⟩, Nat.le_of_ble_eq_true rfl, Nat.le_of_ble_eq_true rfl⟩ (zg_retV (fun h4 hE => ?_)) (zg_xok ok tab fin ⟨Nat.le_of_ble_eq_true rfl, Nat.le_of_ble_eq_true rfl⟩)
  refine zg_cost (kc2 := 21) (ks2 := 11938) ⟨rfl, rfl⟩ ?_
  refine zg_astore_nR (L' := [(2, va_rf (some v2)), (1, va_rf (some v1)), (0, va_rf a0)]) ok dL_law_15 rfl (by decide) 0 rfl rfl rfl ?_
  refine zg_iconst (v := 1) ok dL_law_16 (by decide) ?_
  refine zg_newJ (b := 576) ok (by rw [hRm]; exact ⟨Nat.le_of_ble_eq_true rfl, Nat.le_of_ble_eq_true rfl⟩) (Nat.le_of_ble_eq_true rfl) dL_law_17 hE (fun v3 h5 hE => ?_)
  refine zg_cost (kc2 := 22) (ks2 := 12514) ⟨rfl, rfl⟩ ?_
  refine zg_astore_nR (L' := [(3, va_rf (some v3)), (2, va_rf (some v2)), (1, va_rf (some v1)), (0, va_rf a0)]) ok dL_law_19 rfl (by decide) 0 rfl rfl rfl ?_
  refine zg_iconst (v := 1) ok dL_law_20 (by decide) ?_
  refine zg_newD (b := 576) ok (by rw [hRm]; exact ⟨Nat.le_of_ble_eq_true rfl, Nat.le_of_ble_eq_true rfl⟩) (Nat.le_of_ble_eq_true rfl) dL_law_21 hE (fun v4 h6 hE => ?_)
  refine zg_cost (kc2 := 23) (ks2 := 13090) ⟨rfl, rfl⟩ ?_
  refine zg_astoreR (L' := [(4, va_rf (some v4)), (3, va_rf (some v3)), (2, va_rf (some v2)), (1, va_rf (some v1)), (0, va_rf a0)]) ok dL_law_23 (by decide) 0 rfl rfl rfl ?_
  refine zg_iconst (v := 0) ok dL_law_25 (by decide) ?_
  refine zg_istoreR (L' := [(5, .int 0), (4, va_rf (some v4)), (3, va_rf (some v3)), (2, va_rf (some v2)), (1, va_rf (some v1)), (0, va_rf a0)]) ok dL_law_26 (by decide) 0 rfl rfl rfl ?_
  refine zg_sub (L' := [(0, va_rf a0), (1, va_rf (some v1)), (2, va_rf (some v2)), (3, va_rf (some v3)), (4, va_rf (some v4)), (5, .int 0)]) [5, 4, 3, 2, 1, 0] rfl ?_
  refine gt_f_law_L28 (KE := 28498) (SE := 1842040) hl ok tab fin hRm ⟨Nat.le_of_ble_eq_true rfl, Nat.le_of_ble_eq_true rfl⟩  _ 23 13090 ⟨Nat.le_of_ble_eq_true rfl, Nat.le_of_ble_eq_true rfl⟩ _ _ hE
