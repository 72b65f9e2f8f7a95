/-! decode rows of X1 -/
set_option maxRecDepth 100000
def dkwX1_init_11 : List UInt8 := [42, 180, 0, 103, 27, 2, 79, 132, 1, 1, 167, 255, 240, 177]
abbrev dktX1_init_11 : List UInt8 := dkwX1_init_11 ++ []
def dkwX1_init_10 : List UInt8 := [181, 0, 109, 42, 2, 181, 0, 113, 42, 5, 189, 0, 116, 181, 0, 118, 3, 60, 27, 16, 10, 162, 0, 16]
abbrev dktX1_init_10 : List UInt8 := dkwX1_init_10 ++ dktX1_init_11
def dkwX1_init_9 : List UInt8 := [183, 0, 48, 181, 0, 100, 42, 16, 10, 188, 10, 181, 0, 103, 42, 16, 10, 188, 10, 181, 0, 106, 42, 2]
abbrev dktX1_init_9 : List UInt8 := dkwX1_init_9 ++ dktX1_init_10
def dkwX1_init_8 : List UInt8 := [16, 10, 188, 10, 181, 0, 92, 42, 16, 10, 16, 32, 197, 0, 95, 2, 181, 0, 97, 42, 187, 0, 46, 89]
abbrev dktX1_init_8 : List UInt8 := dkwX1_init_8 ++ dktX1_init_9
def dkwX1_init_7 : List UInt8 := [183, 0, 65, 181, 0, 83, 42, 16, 10, 188, 10, 181, 0, 86, 42, 16, 10, 188, 10, 181, 0, 89, 42]
abbrev dktX1_init_7 : List UInt8 := dkwX1_init_7 ++ dktX1_init_8
def dkwX1_init_6 : List UInt8 := [17, 1, 64, 188, 10, 181, 0, 77, 42, 17, 1, 64, 188, 10, 181, 0, 80, 42, 187, 0, 63, 89]
abbrev dktX1_init_6 : List UInt8 := dkwX1_init_6 ++ dktX1_init_7
def dkwX1_init_5 : List UInt8 := [181, 0, 66, 42, 17, 1, 64, 188, 10, 181, 0, 70, 42, 17, 1, 64, 188, 10, 181, 0, 74, 42]
abbrev dktX1_init_5 : List UInt8 := dkwX1_init_5 ++ dktX1_init_6
def dkwX1_init_4 : List UInt8 := [181, 0, 56, 42, 187, 0, 53, 89, 183, 0, 55, 181, 0, 60, 42, 187, 0, 63, 89, 183, 0, 65]
abbrev dktX1_init_4 : List UInt8 := dkwX1_init_4 ++ dktX1_init_5
def dkwX1_init_3 : List UInt8 := [181, 0, 43, 42, 187, 0, 46, 89, 183, 0, 48, 181, 0, 49, 42, 187, 0, 53, 89, 183, 0, 55]
abbrev dktX1_init_3 : List UInt8 := dkwX1_init_3 ++ dktX1_init_4
def dkwX1_init_2 : List UInt8 := [181, 0, 37, 42, 187, 0, 24, 89, 183, 0, 26, 181, 0, 40, 42, 187, 0, 24, 89, 183, 0, 26]
abbrev dktX1_init_2 : List UInt8 := dkwX1_init_2 ++ dktX1_init_3
def dkwX1_init_1 : List UInt8 := [181, 0, 31, 42, 187, 0, 24, 89, 183, 0, 26, 181, 0, 34, 42, 187, 0, 24, 89, 183, 0, 26]
abbrev dktX1_init_1 : List UInt8 := dkwX1_init_1 ++ dktX1_init_2
def dkwX1_init_0 : List UInt8 := [42, 183, 0, 18, 42, 187, 0, 24, 89, 183, 0, 26, 181, 0, 27, 42, 187, 0, 24, 89, 183, 0, 26]
abbrev dktX1_init_0 : List UInt8 := dkwX1_init_0 ++ dktX1_init_1
theorem dksX1_init_0 : cX1_init.data.toList.drop 0 = dktX1_init_0 := by decide +kernel
theorem dksX1_init_1 : cX1_init.data.toList.drop 23 = dktX1_init_1 := dk_seg dksX1_init_0 23 rfl rfl
theorem dksX1_init_2 : cX1_init.data.toList.drop 45 = dktX1_init_2 := dk_seg dksX1_init_1 22 rfl rfl
theorem dksX1_init_3 : cX1_init.data.toList.drop 67 = dktX1_init_3 := dk_seg dksX1_init_2 22 rfl rfl
theorem dksX1_init_4 : cX1_init.data.toList.drop 89 = dktX1_init_4 := dk_seg dksX1_init_3 22 rfl rfl
theorem dksX1_init_5 : cX1_init.data.toList.drop 111 = dktX1_init_5 := dk_seg dksX1_init_4 22 rfl rfl
theorem dksX1_init_6 : cX1_init.data.toList.drop 133 = dktX1_init_6 := dk_seg dksX1_init_5 22 rfl rfl
theorem dksX1_init_7 : cX1_init.data.toList.drop 155 = dktX1_init_7 := dk_seg dksX1_init_6 22 rfl rfl
theorem dksX1_init_8 : cX1_init.data.toList.drop 178 = dktX1_init_8 := dk_seg dksX1_init_7 23 rfl rfl
theorem dksX1_init_9 : cX1_init.data.toList.drop 202 = dktX1_init_9 := dk_seg dksX1_init_8 24 rfl rfl
theorem dksX1_init_10 : cX1_init.data.toList.drop 226 = dktX1_init_10 := dk_seg dksX1_init_9 24 rfl rfl
theorem dksX1_init_11 : cX1_init.data.toList.drop 250 = dktX1_init_11 := dk_seg dksX1_init_10 24 rfl rfl
theorem dX1_init_0 : decode cX1_init 0 = .ok (.aload_n 0, 1) := dk_42 (dk_at dksX1_init_0 0 rfl rfl)
theorem dX1_init_1 : decode cX1_init 1 = .ok (.invokespecial 18, 3) := dk_183 0 18 (dk_at dksX1_init_0 1 rfl rfl)
theorem dX1_init_4 : decode cX1_init 4 = .ok (.aload_n 0, 1) := dk_42 (dk_at dksX1_init_0 4 rfl rfl)
theorem dX1_init_5 : decode cX1_init 5 = .ok (.new 24, 3) := dk_187 0 24 (dk_at dksX1_init_0 5 rfl rfl)
theorem dX1_init_8 : decode cX1_init 8 = .ok (.dup, 1) := dk_89 (dk_at dksX1_init_0 8 rfl rfl)
theorem dX1_init_9 : decode cX1_init 9 = .ok (.invokespecial 26, 3) := dk_183 0 26 (dk_at dksX1_init_0 9 rfl rfl)
theorem dX1_init_12 : decode cX1_init 12 = .ok (.putfield 27, 3) := dk_181 0 27 (dk_at dksX1_init_0 12 rfl rfl)
theorem dX1_init_15 : decode cX1_init 15 = .ok (.aload_n 0, 1) := dk_42 (dk_at dksX1_init_0 15 rfl rfl)
theorem dX1_init_16 : decode cX1_init 16 = .ok (.new 24, 3) := dk_187 0 24 (dk_at dksX1_init_0 16 rfl rfl)
theorem dX1_init_19 : decode cX1_init 19 = .ok (.dup, 1) := dk_89 (dk_at dksX1_init_0 19 rfl rfl)
theorem dX1_init_20 : decode cX1_init 20 = .ok (.invokespecial 26, 3) := dk_183 0 26 (dk_at dksX1_init_0 20 rfl rfl)
theorem dX1_init_23 : decode cX1_init 23 = .ok (.putfield 31, 3) := dk_181 0 31 (dk_at dksX1_init_1 0 rfl rfl)
theorem dX1_init_26 : decode cX1_init 26 = .ok (.aload_n 0, 1) := dk_42 (dk_at dksX1_init_1 3 rfl rfl)
theorem dX1_init_27 : decode cX1_init 27 = .ok (.new 24, 3) := dk_187 0 24 (dk_at dksX1_init_1 4 rfl rfl)
theorem dX1_init_30 : decode cX1_init 30 = .ok (.dup, 1) := dk_89 (dk_at dksX1_init_1 7 rfl rfl)
theorem dX1_init_31 : decode cX1_init 31 = .ok (.invokespecial 26, 3) := dk_183 0 26 (dk_at dksX1_init_1 8 rfl rfl)
theorem dX1_init_34 : decode cX1_init 34 = .ok (.putfield 34, 3) := dk_181 0 34 (dk_at dksX1_init_1 11 rfl rfl)
theorem dX1_init_37 : decode cX1_init 37 = .ok (.aload_n 0, 1) := dk_42 (dk_at dksX1_init_1 14 rfl rfl)
theorem dX1_init_38 : decode cX1_init 38 = .ok (.new 24, 3) := dk_187 0 24 (dk_at dksX1_init_1 15 rfl rfl)
theorem dX1_init_41 : decode cX1_init 41 = .ok (.dup, 1) := dk_89 (dk_at dksX1_init_1 18 rfl rfl)
theorem dX1_init_42 : decode cX1_init 42 = .ok (.invokespecial 26, 3) := dk_183 0 26 (dk_at dksX1_init_1 19 rfl rfl)
theorem dX1_init_45 : decode cX1_init 45 = .ok (.putfield 37, 3) := dk_181 0 37 (dk_at dksX1_init_2 0 rfl rfl)
theorem dX1_init_48 : decode cX1_init 48 = .ok (.aload_n 0, 1) := dk_42 (dk_at dksX1_init_2 3 rfl rfl)
theorem dX1_init_49 : decode cX1_init 49 = .ok (.new 24, 3) := dk_187 0 24 (dk_at dksX1_init_2 4 rfl rfl)
theorem dX1_init_52 : decode cX1_init 52 = .ok (.dup, 1) := dk_89 (dk_at dksX1_init_2 7 rfl rfl)
theorem dX1_init_53 : decode cX1_init 53 = .ok (.invokespecial 26, 3) := dk_183 0 26 (dk_at dksX1_init_2 8 rfl rfl)
theorem dX1_init_56 : decode cX1_init 56 = .ok (.putfield 40, 3) := dk_181 0 40 (dk_at dksX1_init_2 11 rfl rfl)
theorem dX1_init_59 : decode cX1_init 59 = .ok (.aload_n 0, 1) := dk_42 (dk_at dksX1_init_2 14 rfl rfl)
theorem dX1_init_60 : decode cX1_init 60 = .ok (.new 24, 3) := dk_187 0 24 (dk_at dksX1_init_2 15 rfl rfl)
theorem dX1_init_63 : decode cX1_init 63 = .ok (.dup, 1) := dk_89 (dk_at dksX1_init_2 18 rfl rfl)
theorem dX1_init_64 : decode cX1_init 64 = .ok (.invokespecial 26, 3) := dk_183 0 26 (dk_at dksX1_init_2 19 rfl rfl)
theorem dX1_init_67 : decode cX1_init 67 = .ok (.putfield 43, 3) := dk_181 0 43 (dk_at dksX1_init_3 0 rfl rfl)
theorem dX1_init_70 : decode cX1_init 70 = .ok (.aload_n 0, 1) := dk_42 (dk_at dksX1_init_3 3 rfl rfl)
theorem dX1_init_71 : decode cX1_init 71 = .ok (.new 46, 3) := dk_187 0 46 (dk_at dksX1_init_3 4 rfl rfl)
theorem dX1_init_74 : decode cX1_init 74 = .ok (.dup, 1) := dk_89 (dk_at dksX1_init_3 7 rfl rfl)
theorem dX1_init_75 : decode cX1_init 75 = .ok (.invokespecial 48, 3) := dk_183 0 48 (dk_at dksX1_init_3 8 rfl rfl)
theorem dX1_init_78 : decode cX1_init 78 = .ok (.putfield 49, 3) := dk_181 0 49 (dk_at dksX1_init_3 11 rfl rfl)
theorem dX1_init_81 : decode cX1_init 81 = .ok (.aload_n 0, 1) := dk_42 (dk_at dksX1_init_3 14 rfl rfl)
theorem dX1_init_82 : decode cX1_init 82 = .ok (.new 53, 3) := dk_187 0 53 (dk_at dksX1_init_3 15 rfl rfl)
theorem dX1_init_85 : decode cX1_init 85 = .ok (.dup, 1) := dk_89 (dk_at dksX1_init_3 18 rfl rfl)
theorem dX1_init_86 : decode cX1_init 86 = .ok (.invokespecial 55, 3) := dk_183 0 55 (dk_at dksX1_init_3 19 rfl rfl)
theorem dX1_init_89 : decode cX1_init 89 = .ok (.putfield 56, 3) := dk_181 0 56 (dk_at dksX1_init_4 0 rfl rfl)
theorem dX1_init_92 : decode cX1_init 92 = .ok (.aload_n 0, 1) := dk_42 (dk_at dksX1_init_4 3 rfl rfl)
theorem dX1_init_93 : decode cX1_init 93 = .ok (.new 53, 3) := dk_187 0 53 (dk_at dksX1_init_4 4 rfl rfl)
theorem dX1_init_96 : decode cX1_init 96 = .ok (.dup, 1) := dk_89 (dk_at dksX1_init_4 7 rfl rfl)
theorem dX1_init_97 : decode cX1_init 97 = .ok (.invokespecial 55, 3) := dk_183 0 55 (dk_at dksX1_init_4 8 rfl rfl)
theorem dX1_init_100 : decode cX1_init 100 = .ok (.putfield 60, 3) := dk_181 0 60 (dk_at dksX1_init_4 11 rfl rfl)
theorem dX1_init_103 : decode cX1_init 103 = .ok (.aload_n 0, 1) := dk_42 (dk_at dksX1_init_4 14 rfl rfl)
theorem dX1_init_104 : decode cX1_init 104 = .ok (.new 63, 3) := dk_187 0 63 (dk_at dksX1_init_4 15 rfl rfl)
theorem dX1_init_107 : decode cX1_init 107 = .ok (.dup, 1) := dk_89 (dk_at dksX1_init_4 18 rfl rfl)
theorem dX1_init_108 : decode cX1_init 108 = .ok (.invokespecial 65, 3) := dk_183 0 65 (dk_at dksX1_init_4 19 rfl rfl)
theorem dX1_init_111 : decode cX1_init 111 = .ok (.putfield 66, 3) := dk_181 0 66 (dk_at dksX1_init_5 0 rfl rfl)
theorem dX1_init_114 : decode cX1_init 114 = .ok (.aload_n 0, 1) := dk_42 (dk_at dksX1_init_5 3 rfl rfl)
theorem dX1_init_115 : decode cX1_init 115 = .ok (.sipush 320, 3) := dk_17 1 64 (dk_at dksX1_init_5 4 rfl rfl)
theorem dX1_init_118 : decode cX1_init 118 = .ok (.newarray .int, 2) := dk_188_10 (dk_at dksX1_init_5 7 rfl rfl)
theorem dX1_init_120 : decode cX1_init 120 = .ok (.putfield 70, 3) := dk_181 0 70 (dk_at dksX1_init_5 9 rfl rfl)
theorem dX1_init_123 : decode cX1_init 123 = .ok (.aload_n 0, 1) := dk_42 (dk_at dksX1_init_5 12 rfl rfl)
theorem dX1_init_124 : decode cX1_init 124 = .ok (.sipush 320, 3) := dk_17 1 64 (dk_at dksX1_init_5 13 rfl rfl)
theorem dX1_init_127 : decode cX1_init 127 = .ok (.newarray .int, 2) := dk_188_10 (dk_at dksX1_init_5 16 rfl rfl)
theorem dX1_init_129 : decode cX1_init 129 = .ok (.putfield 74, 3) := dk_181 0 74 (dk_at dksX1_init_5 18 rfl rfl)
theorem dX1_init_132 : decode cX1_init 132 = .ok (.aload_n 0, 1) := dk_42 (dk_at dksX1_init_5 21 rfl rfl)
theorem dX1_init_133 : decode cX1_init 133 = .ok (.sipush 320, 3) := dk_17 1 64 (dk_at dksX1_init_6 0 rfl rfl)
theorem dX1_init_136 : decode cX1_init 136 = .ok (.newarray .int, 2) := dk_188_10 (dk_at dksX1_init_6 3 rfl rfl)
theorem dX1_init_138 : decode cX1_init 138 = .ok (.putfield 77, 3) := dk_181 0 77 (dk_at dksX1_init_6 5 rfl rfl)
theorem dX1_init_141 : decode cX1_init 141 = .ok (.aload_n 0, 1) := dk_42 (dk_at dksX1_init_6 8 rfl rfl)
theorem dX1_init_142 : decode cX1_init 142 = .ok (.sipush 320, 3) := dk_17 1 64 (dk_at dksX1_init_6 9 rfl rfl)
theorem dX1_init_145 : decode cX1_init 145 = .ok (.newarray .int, 2) := dk_188_10 (dk_at dksX1_init_6 12 rfl rfl)
theorem dX1_init_147 : decode cX1_init 147 = .ok (.putfield 80, 3) := dk_181 0 80 (dk_at dksX1_init_6 14 rfl rfl)
theorem dX1_init_150 : decode cX1_init 150 = .ok (.aload_n 0, 1) := dk_42 (dk_at dksX1_init_6 17 rfl rfl)
theorem dX1_init_151 : decode cX1_init 151 = .ok (.new 63, 3) := dk_187 0 63 (dk_at dksX1_init_6 18 rfl rfl)
theorem dX1_init_154 : decode cX1_init 154 = .ok (.dup, 1) := dk_89 (dk_at dksX1_init_6 21 rfl rfl)
theorem dX1_init_155 : decode cX1_init 155 = .ok (.invokespecial 65, 3) := dk_183 0 65 (dk_at dksX1_init_7 0 rfl rfl)
theorem dX1_init_158 : decode cX1_init 158 = .ok (.putfield 83, 3) := dk_181 0 83 (dk_at dksX1_init_7 3 rfl rfl)
theorem dX1_init_161 : decode cX1_init 161 = .ok (.aload_n 0, 1) := dk_42 (dk_at dksX1_init_7 6 rfl rfl)
theorem dX1_init_162 : decode cX1_init 162 = .ok (.bipush 10, 2) := dk_16 10 (dk_at dksX1_init_7 7 rfl rfl)
theorem dX1_init_164 : decode cX1_init 164 = .ok (.newarray .int, 2) := dk_188_10 (dk_at dksX1_init_7 9 rfl rfl)
theorem dX1_init_166 : decode cX1_init 166 = .ok (.putfield 86, 3) := dk_181 0 86 (dk_at dksX1_init_7 11 rfl rfl)
theorem dX1_init_169 : decode cX1_init 169 = .ok (.aload_n 0, 1) := dk_42 (dk_at dksX1_init_7 14 rfl rfl)
theorem dX1_init_170 : decode cX1_init 170 = .ok (.bipush 10, 2) := dk_16 10 (dk_at dksX1_init_7 15 rfl rfl)
theorem dX1_init_172 : decode cX1_init 172 = .ok (.newarray .int, 2) := dk_188_10 (dk_at dksX1_init_7 17 rfl rfl)
theorem dX1_init_174 : decode cX1_init 174 = .ok (.putfield 89, 3) := dk_181 0 89 (dk_at dksX1_init_7 19 rfl rfl)
theorem dX1_init_177 : decode cX1_init 177 = .ok (.aload_n 0, 1) := dk_42 (dk_at dksX1_init_7 22 rfl rfl)
theorem dX1_init_178 : decode cX1_init 178 = .ok (.bipush 10, 2) := dk_16 10 (dk_at dksX1_init_8 0 rfl rfl)
theorem dX1_init_180 : decode cX1_init 180 = .ok (.newarray .int, 2) := dk_188_10 (dk_at dksX1_init_8 2 rfl rfl)
theorem dX1_init_182 : decode cX1_init 182 = .ok (.putfield 92, 3) := dk_181 0 92 (dk_at dksX1_init_8 4 rfl rfl)
theorem dX1_init_185 : decode cX1_init 185 = .ok (.aload_n 0, 1) := dk_42 (dk_at dksX1_init_8 7 rfl rfl)
theorem dX1_init_186 : decode cX1_init 186 = .ok (.bipush 10, 2) := dk_16 10 (dk_at dksX1_init_8 8 rfl rfl)
theorem dX1_init_188 : decode cX1_init 188 = .ok (.bipush 32, 2) := dk_16 32 (dk_at dksX1_init_8 10 rfl rfl)
theorem dX1_init_190 : decode cX1_init 190 = .ok (.multianewarray 95 2, 4) := by decide +kernel
theorem dX1_init_194 : decode cX1_init 194 = .ok (.putfield 97, 3) := dk_181 0 97 (dk_at dksX1_init_8 16 rfl rfl)
theorem dX1_init_197 : decode cX1_init 197 = .ok (.aload_n 0, 1) := dk_42 (dk_at dksX1_init_8 19 rfl rfl)
theorem dX1_init_198 : decode cX1_init 198 = .ok (.new 46, 3) := dk_187 0 46 (dk_at dksX1_init_8 20 rfl rfl)
theorem dX1_init_201 : decode cX1_init 201 = .ok (.dup, 1) := dk_89 (dk_at dksX1_init_8 23 rfl rfl)
theorem dX1_init_202 : decode cX1_init 202 = .ok (.invokespecial 48, 3) := dk_183 0 48 (dk_at dksX1_init_9 0 rfl rfl)
theorem dX1_init_205 : decode cX1_init 205 = .ok (.putfield 100, 3) := dk_181 0 100 (dk_at dksX1_init_9 3 rfl rfl)
theorem dX1_init_208 : decode cX1_init 208 = .ok (.aload_n 0, 1) := dk_42 (dk_at dksX1_init_9 6 rfl rfl)
theorem dX1_init_209 : decode cX1_init 209 = .ok (.bipush 10, 2) := dk_16 10 (dk_at dksX1_init_9 7 rfl rfl)
theorem dX1_init_211 : decode cX1_init 211 = .ok (.newarray .int, 2) := dk_188_10 (dk_at dksX1_init_9 9 rfl rfl)
theorem dX1_init_213 : decode cX1_init 213 = .ok (.putfield 103, 3) := dk_181 0 103 (dk_at dksX1_init_9 11 rfl rfl)
theorem dX1_init_216 : decode cX1_init 216 = .ok (.aload_n 0, 1) := dk_42 (dk_at dksX1_init_9 14 rfl rfl)
theorem dX1_init_217 : decode cX1_init 217 = .ok (.bipush 10, 2) := dk_16 10 (dk_at dksX1_init_9 15 rfl rfl)
theorem dX1_init_219 : decode cX1_init 219 = .ok (.newarray .int, 2) := dk_188_10 (dk_at dksX1_init_9 17 rfl rfl)
theorem dX1_init_221 : decode cX1_init 221 = .ok (.putfield 106, 3) := dk_181 0 106 (dk_at dksX1_init_9 19 rfl rfl)
theorem dX1_init_224 : decode cX1_init 224 = .ok (.aload_n 0, 1) := dk_42 (dk_at dksX1_init_9 22 rfl rfl)
theorem dX1_init_225 : decode cX1_init 225 = .ok (.iconst (-1), 1) := dk_2 (dk_at dksX1_init_9 23 rfl rfl)
theorem dX1_init_226 : decode cX1_init 226 = .ok (.putfield 109, 3) := dk_181 0 109 (dk_at dksX1_init_10 0 rfl rfl)
theorem dX1_init_229 : decode cX1_init 229 = .ok (.aload_n 0, 1) := dk_42 (dk_at dksX1_init_10 3 rfl rfl)
theorem dX1_init_230 : decode cX1_init 230 = .ok (.iconst (-1), 1) := dk_2 (dk_at dksX1_init_10 4 rfl rfl)
theorem dX1_init_231 : decode cX1_init 231 = .ok (.putfield 113, 3) := dk_181 0 113 (dk_at dksX1_init_10 5 rfl rfl)
theorem dX1_init_234 : decode cX1_init 234 = .ok (.aload_n 0, 1) := dk_42 (dk_at dksX1_init_10 8 rfl rfl)
theorem dX1_init_235 : decode cX1_init 235 = .ok (.iconst 2, 1) := dk_5 (dk_at dksX1_init_10 9 rfl rfl)
theorem dX1_init_236 : decode cX1_init 236 = .ok (.anewarray 116, 3) := dk_189 0 116 (dk_at dksX1_init_10 10 rfl rfl)
theorem dX1_init_239 : decode cX1_init 239 = .ok (.putfield 118, 3) := dk_181 0 118 (dk_at dksX1_init_10 13 rfl rfl)
theorem dX1_init_242 : decode cX1_init 242 = .ok (.iconst 0, 1) := dk_3 (dk_at dksX1_init_10 16 rfl rfl)
theorem dX1_init_243 : decode cX1_init 243 = .ok (.istore_n 1, 1) := dk_60 (dk_at dksX1_init_10 17 rfl rfl)
theorem dX1_init_244 : decode cX1_init 244 = .ok (.iload_n 1, 1) := dk_27 (dk_at dksX1_init_10 18 rfl rfl)
theorem dX1_init_245 : decode cX1_init 245 = .ok (.bipush 10, 2) := dk_16 10 (dk_at dksX1_init_10 19 rfl rfl)
theorem dX1_init_247 : decode cX1_init 247 = .ok (.if_icmp .ge 16, 3) := dk_162 0 16 (dk_at dksX1_init_10 21 rfl rfl)
theorem dX1_init_250 : decode cX1_init 250 = .ok (.aload_n 0, 1) := dk_42 (dk_at dksX1_init_11 0 rfl rfl)
theorem dX1_init_251 : decode cX1_init 251 = .ok (.getfield 103, 3) := dk_180 0 103 (dk_at dksX1_init_11 1 rfl rfl)
theorem dX1_init_254 : decode cX1_init 254 = .ok (.iload_n 1, 1) := dk_27 (dk_at dksX1_init_11 4 rfl rfl)
theorem dX1_init_255 : decode cX1_init 255 = .ok (.iconst (-1), 1) := dk_2 (dk_at dksX1_init_11 5 rfl rfl)
theorem dX1_init_256 : decode cX1_init 256 = .ok (.iastore, 1) := dk_79 (dk_at dksX1_init_11 6 rfl rfl)
theorem dX1_init_257 : decode cX1_init 257 = .ok (.iinc 1 1, 3) := dk_132 1 1 (dk_at dksX1_init_11 7 rfl rfl)
theorem dX1_init_260 : decode cX1_init 260 = .ok (.goto (-16), 3) := dk_167 255 240 (dk_at dksX1_init_11 10 rfl rfl)
theorem dX1_init_263 : decode cX1_init 263 = .ok (.return_, 1) := dk_177 (dk_at dksX1_init_11 13 rfl rfl)
def dkwX1_constraints_0 : List UInt8 := [42, 180, 0, 31, 185, 0, 131, 1, 0, 172]
abbrev dktX1_constraints_0 : List UInt8 := dkwX1_constraints_0 ++ []
theorem dksX1_constraints_0 : cX1_constraints.data.toList.drop 0 = dktX1_constraints_0 := by decide +kernel
theorem dX1_constraints_0 : decode cX1_constraints 0 = .ok (.aload_n 0, 1) := dk_42 (dk_at dksX1_constraints_0 0 rfl rfl)
theorem dX1_constraints_1 : decode cX1_constraints 1 = .ok (.getfield 31, 3) := dk_180 0 31 (dk_at dksX1_constraints_0 1 rfl rfl)
theorem dX1_constraints_4 : decode cX1_constraints 4 = .ok (.invokeinterface 131 1, 5) := by decide +kernel
theorem dX1_constraints_9 : decode cX1_constraints 9 = .ok (.ireturn, 1) := dk_172 (dk_at dksX1_constraints_0 9 rfl rfl)
def dkwX1_isFailed_0 : List UInt8 := [42, 182, 1, 132, 180, 1, 88, 172]
abbrev dktX1_isFailed_0 : List UInt8 := dkwX1_isFailed_0 ++ []
theorem dksX1_isFailed_0 : cX1_isFailed.data.toList.drop 0 = dktX1_isFailed_0 := by decide +kernel
theorem dX1_isFailed_0 : decode cX1_isFailed 0 = .ok (.aload_n 0, 1) := dk_42 (dk_at dksX1_isFailed_0 0 rfl rfl)
theorem dX1_isFailed_1 : decode cX1_isFailed 1 = .ok (.invokevirtual 388, 3) := dk_182 1 132 (dk_at dksX1_isFailed_0 1 rfl rfl)
theorem dX1_isFailed_4 : decode cX1_isFailed 4 = .ok (.getfield 344, 3) := dk_180 1 88 (dk_at dksX1_isFailed_0 4 rfl rfl)
theorem dX1_isFailed_7 : decode cX1_isFailed 7 = .ok (.ireturn, 1) := dk_172 (dk_at dksX1_isFailed_0 7 rfl rfl)
def dkwX1_store_1 : List UInt8 := [180, 0, 66, 4, 182, 1, 126, 42, 4, 181, 0, 176, 42, 180, 0, 66, 176]
abbrev dktX1_store_1 : List UInt8 := dkwX1_store_1 ++ []
def dkwX1_store_0 : List UInt8 := [42, 180, 0, 176, 154, 0, 30, 42, 42, 180, 0, 66, 42, 180, 0, 49, 2, 182, 1, 122, 42, 42]
abbrev dktX1_store_0 : List UInt8 := dkwX1_store_0 ++ dktX1_store_1
theorem dksX1_store_0 : cX1_store.data.toList.drop 0 = dktX1_store_0 := by decide +kernel
theorem dksX1_store_1 : cX1_store.data.toList.drop 22 = dktX1_store_1 := dk_seg dksX1_store_0 22 rfl rfl
theorem dX1_store_0 : decode cX1_store 0 = .ok (.aload_n 0, 1) := dk_42 (dk_at dksX1_store_0 0 rfl rfl)
theorem dX1_store_1 : decode cX1_store 1 = .ok (.getfield 176, 3) := dk_180 0 176 (dk_at dksX1_store_0 1 rfl rfl)
theorem dX1_store_4 : decode cX1_store 4 = .ok (.ifCond .ne 30, 3) := dk_154 0 30 (dk_at dksX1_store_0 4 rfl rfl)
theorem dX1_store_7 : decode cX1_store 7 = .ok (.aload_n 0, 1) := dk_42 (dk_at dksX1_store_0 7 rfl rfl)
theorem dX1_store_8 : decode cX1_store 8 = .ok (.aload_n 0, 1) := dk_42 (dk_at dksX1_store_0 8 rfl rfl)
theorem dX1_store_9 : decode cX1_store 9 = .ok (.getfield 66, 3) := dk_180 0 66 (dk_at dksX1_store_0 9 rfl rfl)
theorem dX1_store_12 : decode cX1_store 12 = .ok (.aload_n 0, 1) := dk_42 (dk_at dksX1_store_0 12 rfl rfl)
theorem dX1_store_13 : decode cX1_store 13 = .ok (.getfield 49, 3) := dk_180 0 49 (dk_at dksX1_store_0 13 rfl rfl)
theorem dX1_store_16 : decode cX1_store 16 = .ok (.iconst (-1), 1) := dk_2 (dk_at dksX1_store_0 16 rfl rfl)
theorem dX1_store_17 : decode cX1_store 17 = .ok (.invokevirtual 378, 3) := dk_182 1 122 (dk_at dksX1_store_0 17 rfl rfl)
theorem dX1_store_20 : decode cX1_store 20 = .ok (.aload_n 0, 1) := dk_42 (dk_at dksX1_store_0 20 rfl rfl)
theorem dX1_store_21 : decode cX1_store 21 = .ok (.aload_n 0, 1) := dk_42 (dk_at dksX1_store_0 21 rfl rfl)
theorem dX1_store_22 : decode cX1_store 22 = .ok (.getfield 66, 3) := dk_180 0 66 (dk_at dksX1_store_1 0 rfl rfl)
theorem dX1_store_25 : decode cX1_store 25 = .ok (.iconst 1, 1) := dk_4 (dk_at dksX1_store_1 3 rfl rfl)
theorem dX1_store_26 : decode cX1_store 26 = .ok (.invokevirtual 382, 3) := dk_182 1 126 (dk_at dksX1_store_1 4 rfl rfl)
theorem dX1_store_29 : decode cX1_store 29 = .ok (.aload_n 0, 1) := dk_42 (dk_at dksX1_store_1 7 rfl rfl)
theorem dX1_store_30 : decode cX1_store 30 = .ok (.iconst 1, 1) := dk_4 (dk_at dksX1_store_1 8 rfl rfl)
theorem dX1_store_31 : decode cX1_store 31 = .ok (.putfield 176, 3) := dk_181 0 176 (dk_at dksX1_store_1 9 rfl rfl)
theorem dX1_store_34 : decode cX1_store 34 = .ok (.aload_n 0, 1) := dk_42 (dk_at dksX1_store_1 12 rfl rfl)
theorem dX1_store_35 : decode cX1_store 35 = .ok (.getfield 66, 3) := dk_180 0 66 (dk_at dksX1_store_1 13 rfl rfl)
theorem dX1_store_38 : decode cX1_store 38 = .ok (.areturn, 1) := dk_176 (dk_at dksX1_store_1 16 rfl rfl)
def dkwX1_begin_6 : List UInt8 := [182, 1, 66, 167, 0, 10, 43, 180, 1, 42, 21, 5, 46, 79, 132, 4, 1, 167, 255, 177, 177]
abbrev dktX1_begin_6 : List UInt8 := dkwX1_begin_6 ++ []
def dkwX1_begin_5 : List UInt8 := [54, 6, 43, 180, 1, 42, 21, 5, 21, 6, 153, 0, 19, 44, 21, 4, 43, 180, 1, 42, 21, 5, 46]
abbrev dktX1_begin_5 : List UInt8 := dkwX1_begin_5 ++ dktX1_begin_6
def dkwX1_begin_4 : List UInt8 := [46, 54, 5, 21, 4, 16, 12, 162, 0, 12, 29, 21, 4, 184, 1, 63, 153, 0, 7, 4, 167, 0, 4, 3]
abbrev dktX1_begin_4 : List UInt8 := dkwX1_begin_4 ++ dktX1_begin_5
def dkwX1_begin_3 : List UInt8 := [132, 4, 1, 167, 255, 187, 3, 54, 4, 21, 4, 44, 180, 1, 60, 162, 0, 76, 44, 180, 1, 61, 21, 4]
abbrev dktX1_begin_3 : List UInt8 := dkwX1_begin_3 ++ dktX1_begin_4
def dkwX1_begin_2 : List UInt8 := [180, 1, 48, 21, 4, 25, 5, 182, 1, 51, 79, 43, 180, 1, 54, 21, 4, 25, 5, 182, 1, 57, 79]
abbrev dktX1_begin_2 : List UInt8 := dkwX1_begin_2 ++ dktX1_begin_3
def dkwX1_begin_1 : List UInt8 := [185, 0, 141, 2, 0, 192, 0, 145, 58, 5, 43, 180, 1, 42, 21, 4, 25, 5, 182, 1, 45, 79, 43]
abbrev dktX1_begin_1 : List UInt8 := dkwX1_begin_1 ++ dktX1_begin_2
def dkwX1_begin_0 : List UInt8 := [3, 54, 4, 21, 4, 42, 180, 0, 27, 185, 0, 131, 1, 0, 162, 0, 61, 42, 180, 0, 27, 21, 4]
abbrev dktX1_begin_0 : List UInt8 := dkwX1_begin_0 ++ dktX1_begin_1
theorem dksX1_begin_0 : cX1_begin.data.toList.drop 0 = dktX1_begin_0 := by decide +kernel
theorem dksX1_begin_1 : cX1_begin.data.toList.drop 23 = dktX1_begin_1 := dk_seg dksX1_begin_0 23 rfl rfl
theorem dksX1_begin_2 : cX1_begin.data.toList.drop 46 = dktX1_begin_2 := dk_seg dksX1_begin_1 23 rfl rfl
theorem dksX1_begin_3 : cX1_begin.data.toList.drop 69 = dktX1_begin_3 := dk_seg dksX1_begin_2 23 rfl rfl
theorem dksX1_begin_4 : cX1_begin.data.toList.drop 93 = dktX1_begin_4 := dk_seg dksX1_begin_3 24 rfl rfl
theorem dksX1_begin_5 : cX1_begin.data.toList.drop 117 = dktX1_begin_5 := dk_seg dksX1_begin_4 24 rfl rfl
theorem dksX1_begin_6 : cX1_begin.data.toList.drop 140 = dktX1_begin_6 := dk_seg dksX1_begin_5 23 rfl rfl
theorem dX1_begin_0 : decode cX1_begin 0 = .ok (.iconst 0, 1) := dk_3 (dk_at dksX1_begin_0 0 rfl rfl)
theorem dX1_begin_1 : decode cX1_begin 1 = .ok (.istore 4, 2) := dk_54 4 (dk_at dksX1_begin_0 1 rfl rfl)
theorem dX1_begin_3 : decode cX1_begin 3 = .ok (.iload 4, 2) := dk_21 4 (dk_at dksX1_begin_0 3 rfl rfl)
theorem dX1_begin_5 : decode cX1_begin 5 = .ok (.aload_n 0, 1) := dk_42 (dk_at dksX1_begin_0 5 rfl rfl)
theorem dX1_begin_6 : decode cX1_begin 6 = .ok (.getfield 27, 3) := dk_180 0 27 (dk_at dksX1_begin_0 6 rfl rfl)
theorem dX1_begin_9 : decode cX1_begin 9 = .ok (.invokeinterface 131 1, 5) := by decide +kernel
theorem dX1_begin_14 : decode cX1_begin 14 = .ok (.if_icmp .ge 61, 3) := dk_162 0 61 (dk_at dksX1_begin_0 14 rfl rfl)
theorem dX1_begin_17 : decode cX1_begin 17 = .ok (.aload_n 0, 1) := dk_42 (dk_at dksX1_begin_0 17 rfl rfl)
theorem dX1_begin_18 : decode cX1_begin 18 = .ok (.getfield 27, 3) := dk_180 0 27 (dk_at dksX1_begin_0 18 rfl rfl)
theorem dX1_begin_21 : decode cX1_begin 21 = .ok (.iload 4, 2) := dk_21 4 (dk_at dksX1_begin_0 21 rfl rfl)
theorem dX1_begin_23 : decode cX1_begin 23 = .ok (.invokeinterface 141 2, 5) := by decide +kernel
theorem dX1_begin_28 : decode cX1_begin 28 = .ok (.checkcast 145, 3) := dk_192 0 145 (dk_at dksX1_begin_1 5 rfl rfl)
theorem dX1_begin_31 : decode cX1_begin 31 = .ok (.astore 5, 2) := dk_58 5 (dk_at dksX1_begin_1 8 rfl rfl)
theorem dX1_begin_33 : decode cX1_begin 33 = .ok (.aload_n 1, 1) := dk_43 (dk_at dksX1_begin_1 10 rfl rfl)
theorem dX1_begin_34 : decode cX1_begin 34 = .ok (.getfield 298, 3) := dk_180 1 42 (dk_at dksX1_begin_1 11 rfl rfl)
theorem dX1_begin_37 : decode cX1_begin 37 = .ok (.iload 4, 2) := dk_21 4 (dk_at dksX1_begin_1 14 rfl rfl)
theorem dX1_begin_39 : decode cX1_begin 39 = .ok (.aload 5, 2) := dk_25 5 (dk_at dksX1_begin_1 16 rfl rfl)
theorem dX1_begin_41 : decode cX1_begin 41 = .ok (.invokevirtual 301, 3) := dk_182 1 45 (dk_at dksX1_begin_1 18 rfl rfl)
theorem dX1_begin_44 : decode cX1_begin 44 = .ok (.iastore, 1) := dk_79 (dk_at dksX1_begin_1 21 rfl rfl)
theorem dX1_begin_45 : decode cX1_begin 45 = .ok (.aload_n 1, 1) := dk_43 (dk_at dksX1_begin_1 22 rfl rfl)
theorem dX1_begin_46 : decode cX1_begin 46 = .ok (.getfield 304, 3) := dk_180 1 48 (dk_at dksX1_begin_2 0 rfl rfl)
theorem dX1_begin_49 : decode cX1_begin 49 = .ok (.iload 4, 2) := dk_21 4 (dk_at dksX1_begin_2 3 rfl rfl)
theorem dX1_begin_51 : decode cX1_begin 51 = .ok (.aload 5, 2) := dk_25 5 (dk_at dksX1_begin_2 5 rfl rfl)
theorem dX1_begin_53 : decode cX1_begin 53 = .ok (.invokevirtual 307, 3) := dk_182 1 51 (dk_at dksX1_begin_2 7 rfl rfl)
theorem dX1_begin_56 : decode cX1_begin 56 = .ok (.iastore, 1) := dk_79 (dk_at dksX1_begin_2 10 rfl rfl)
theorem dX1_begin_57 : decode cX1_begin 57 = .ok (.aload_n 1, 1) := dk_43 (dk_at dksX1_begin_2 11 rfl rfl)
theorem dX1_begin_58 : decode cX1_begin 58 = .ok (.getfield 310, 3) := dk_180 1 54 (dk_at dksX1_begin_2 12 rfl rfl)
theorem dX1_begin_61 : decode cX1_begin 61 = .ok (.iload 4, 2) := dk_21 4 (dk_at dksX1_begin_2 15 rfl rfl)
theorem dX1_begin_63 : decode cX1_begin 63 = .ok (.aload 5, 2) := dk_25 5 (dk_at dksX1_begin_2 17 rfl rfl)
theorem dX1_begin_65 : decode cX1_begin 65 = .ok (.invokevirtual 313, 3) := dk_182 1 57 (dk_at dksX1_begin_2 19 rfl rfl)
theorem dX1_begin_68 : decode cX1_begin 68 = .ok (.iastore, 1) := dk_79 (dk_at dksX1_begin_2 22 rfl rfl)
theorem dX1_begin_69 : decode cX1_begin 69 = .ok (.iinc 4 1, 3) := dk_132 4 1 (dk_at dksX1_begin_3 0 rfl rfl)
theorem dX1_begin_72 : decode cX1_begin 72 = .ok (.goto (-69), 3) := dk_167 255 187 (dk_at dksX1_begin_3 3 rfl rfl)
theorem dX1_begin_75 : decode cX1_begin 75 = .ok (.iconst 0, 1) := dk_3 (dk_at dksX1_begin_3 6 rfl rfl)
theorem dX1_begin_76 : decode cX1_begin 76 = .ok (.istore 4, 2) := dk_54 4 (dk_at dksX1_begin_3 7 rfl rfl)
theorem dX1_begin_78 : decode cX1_begin 78 = .ok (.iload 4, 2) := dk_21 4 (dk_at dksX1_begin_3 9 rfl rfl)
theorem dX1_begin_80 : decode cX1_begin 80 = .ok (.aload_n 2, 1) := dk_44 (dk_at dksX1_begin_3 11 rfl rfl)
theorem dX1_begin_81 : decode cX1_begin 81 = .ok (.getfield 316, 3) := dk_180 1 60 (dk_at dksX1_begin_3 12 rfl rfl)
theorem dX1_begin_84 : decode cX1_begin 84 = .ok (.if_icmp .ge 76, 3) := dk_162 0 76 (dk_at dksX1_begin_3 15 rfl rfl)
theorem dX1_begin_87 : decode cX1_begin 87 = .ok (.aload_n 2, 1) := dk_44 (dk_at dksX1_begin_3 18 rfl rfl)
theorem dX1_begin_88 : decode cX1_begin 88 = .ok (.getfield 317, 3) := dk_180 1 61 (dk_at dksX1_begin_3 19 rfl rfl)
theorem dX1_begin_91 : decode cX1_begin 91 = .ok (.iload 4, 2) := dk_21 4 (dk_at dksX1_begin_3 22 rfl rfl)
theorem dX1_begin_93 : decode cX1_begin 93 = .ok (.iaload, 1) := dk_46 (dk_at dksX1_begin_4 0 rfl rfl)
theorem dX1_begin_94 : decode cX1_begin 94 = .ok (.istore 5, 2) := dk_54 5 (dk_at dksX1_begin_4 1 rfl rfl)
theorem dX1_begin_96 : decode cX1_begin 96 = .ok (.iload 4, 2) := dk_21 4 (dk_at dksX1_begin_4 3 rfl rfl)
theorem dX1_begin_98 : decode cX1_begin 98 = .ok (.bipush 12, 2) := dk_16 12 (dk_at dksX1_begin_4 5 rfl rfl)
theorem dX1_begin_100 : decode cX1_begin 100 = .ok (.if_icmp .ge 12, 3) := dk_162 0 12 (dk_at dksX1_begin_4 7 rfl rfl)
theorem dX1_begin_103 : decode cX1_begin 103 = .ok (.iload_n 3, 1) := dk_29 (dk_at dksX1_begin_4 10 rfl rfl)
theorem dX1_begin_104 : decode cX1_begin 104 = .ok (.iload 4, 2) := dk_21 4 (dk_at dksX1_begin_4 11 rfl rfl)
theorem dX1_begin_106 : decode cX1_begin 106 = .ok (.invokestatic 319, 3) := dk_184 1 63 (dk_at dksX1_begin_4 13 rfl rfl)
theorem dX1_begin_109 : decode cX1_begin 109 = .ok (.ifCond .eq 7, 3) := dk_153 0 7 (dk_at dksX1_begin_4 16 rfl rfl)
theorem dX1_begin_112 : decode cX1_begin 112 = .ok (.iconst 1, 1) := dk_4 (dk_at dksX1_begin_4 19 rfl rfl)
theorem dX1_begin_113 : decode cX1_begin 113 = .ok (.goto 4, 3) := dk_167 0 4 (dk_at dksX1_begin_4 20 rfl rfl)
theorem dX1_begin_116 : decode cX1_begin 116 = .ok (.iconst 0, 1) := dk_3 (dk_at dksX1_begin_4 23 rfl rfl)
theorem dX1_begin_117 : decode cX1_begin 117 = .ok (.istore 6, 2) := dk_54 6 (dk_at dksX1_begin_5 0 rfl rfl)
theorem dX1_begin_119 : decode cX1_begin 119 = .ok (.aload_n 1, 1) := dk_43 (dk_at dksX1_begin_5 2 rfl rfl)
theorem dX1_begin_120 : decode cX1_begin 120 = .ok (.getfield 298, 3) := dk_180 1 42 (dk_at dksX1_begin_5 3 rfl rfl)
theorem dX1_begin_123 : decode cX1_begin 123 = .ok (.iload 5, 2) := dk_21 5 (dk_at dksX1_begin_5 6 rfl rfl)
theorem dX1_begin_125 : decode cX1_begin 125 = .ok (.iload 6, 2) := dk_21 6 (dk_at dksX1_begin_5 8 rfl rfl)
theorem dX1_begin_127 : decode cX1_begin 127 = .ok (.ifCond .eq 19, 3) := dk_153 0 19 (dk_at dksX1_begin_5 10 rfl rfl)
theorem dX1_begin_130 : decode cX1_begin 130 = .ok (.aload_n 2, 1) := dk_44 (dk_at dksX1_begin_5 13 rfl rfl)
theorem dX1_begin_131 : decode cX1_begin 131 = .ok (.iload 4, 2) := dk_21 4 (dk_at dksX1_begin_5 14 rfl rfl)
theorem dX1_begin_133 : decode cX1_begin 133 = .ok (.aload_n 1, 1) := dk_43 (dk_at dksX1_begin_5 16 rfl rfl)
theorem dX1_begin_134 : decode cX1_begin 134 = .ok (.getfield 298, 3) := dk_180 1 42 (dk_at dksX1_begin_5 17 rfl rfl)
theorem dX1_begin_137 : decode cX1_begin 137 = .ok (.iload 5, 2) := dk_21 5 (dk_at dksX1_begin_5 20 rfl rfl)
theorem dX1_begin_139 : decode cX1_begin 139 = .ok (.iaload, 1) := dk_46 (dk_at dksX1_begin_5 22 rfl rfl)
theorem dX1_begin_140 : decode cX1_begin 140 = .ok (.invokevirtual 322, 3) := dk_182 1 66 (dk_at dksX1_begin_6 0 rfl rfl)
theorem dX1_begin_143 : decode cX1_begin 143 = .ok (.goto 10, 3) := dk_167 0 10 (dk_at dksX1_begin_6 3 rfl rfl)
theorem dX1_begin_146 : decode cX1_begin 146 = .ok (.aload_n 1, 1) := dk_43 (dk_at dksX1_begin_6 6 rfl rfl)
theorem dX1_begin_147 : decode cX1_begin 147 = .ok (.getfield 298, 3) := dk_180 1 42 (dk_at dksX1_begin_6 7 rfl rfl)
theorem dX1_begin_150 : decode cX1_begin 150 = .ok (.iload 5, 2) := dk_21 5 (dk_at dksX1_begin_6 10 rfl rfl)
theorem dX1_begin_152 : decode cX1_begin 152 = .ok (.iaload, 1) := dk_46 (dk_at dksX1_begin_6 12 rfl rfl)
theorem dX1_begin_153 : decode cX1_begin 153 = .ok (.iastore, 1) := dk_79 (dk_at dksX1_begin_6 13 rfl rfl)
theorem dX1_begin_154 : decode cX1_begin 154 = .ok (.iinc 4 1, 3) := dk_132 4 1 (dk_at dksX1_begin_6 14 rfl rfl)
theorem dX1_begin_157 : decode cX1_begin 157 = .ok (.goto (-79), 3) := dk_167 255 177 (dk_at dksX1_begin_6 17 rfl rfl)
theorem dX1_begin_160 : decode cX1_begin 160 = .ok (.return_, 1) := dk_177 (dk_at dksX1_begin_6 20 rfl rfl)
def dkwX1_has_0 : List UInt8 := [26, 27, 122, 4, 126, 4, 160, 0, 7, 4, 167, 0, 4, 3, 172]
abbrev dktX1_has_0 : List UInt8 := dkwX1_has_0 ++ []
theorem dksX1_has_0 : cX1_has.data.toList.drop 0 = dktX1_has_0 := by decide +kernel
theorem dX1_has_0 : decode cX1_has 0 = .ok (.iload_n 0, 1) := dk_26 (dk_at dksX1_has_0 0 rfl rfl)
theorem dX1_has_1 : decode cX1_has 1 = .ok (.iload_n 1, 1) := dk_27 (dk_at dksX1_has_0 1 rfl rfl)
theorem dX1_has_2 : decode cX1_has 2 = .ok (.ishr, 1) := dk_122 (dk_at dksX1_has_0 2 rfl rfl)
theorem dX1_has_3 : decode cX1_has 3 = .ok (.iconst 1, 1) := dk_4 (dk_at dksX1_has_0 3 rfl rfl)
theorem dX1_has_4 : decode cX1_has 4 = .ok (.iand, 1) := dk_126 (dk_at dksX1_has_0 4 rfl rfl)
theorem dX1_has_5 : decode cX1_has 5 = .ok (.iconst 1, 1) := dk_4 (dk_at dksX1_has_0 5 rfl rfl)
theorem dX1_has_6 : decode cX1_has 6 = .ok (.if_icmp .ne 7, 3) := dk_160 0 7 (dk_at dksX1_has_0 6 rfl rfl)
theorem dX1_has_9 : decode cX1_has 9 = .ok (.iconst 1, 1) := dk_4 (dk_at dksX1_has_0 9 rfl rfl)
theorem dX1_has_10 : decode cX1_has 10 = .ok (.goto 4, 3) := dk_167 0 4 (dk_at dksX1_has_0 10 rfl rfl)
theorem dX1_has_13 : decode cX1_has 13 = .ok (.iconst 0, 1) := dk_3 (dk_at dksX1_has_0 13 rfl rfl)
theorem dX1_has_14 : decode cX1_has 14 = .ok (.ireturn, 1) := dk_172 (dk_at dksX1_has_0 14 rfl rfl)
def dkwX1_solve_3 : List UInt8 := [167, 0, 4, 3, 62, 167, 255, 219, 177]
abbrev dktX1_solve_3 : List UInt8 := dkwX1_solve_3 ++ []
def dkwX1_solve_2 : List UInt8 := [153, 0, 30, 43, 89, 180, 1, 74, 4, 96, 181, 1, 74, 42, 43, 182, 1, 80, 154, 0, 7, 4]
abbrev dktX1_solve_2 : List UInt8 := dkwX1_solve_2 ++ dktX1_solve_3
def dkwX1_solve_1 : List UInt8 := [182, 1, 80, 154, 0, 7, 4, 167, 0, 4, 3, 62, 29, 153, 0, 39, 42, 43, 28, 182, 1, 84]
abbrev dktX1_solve_1 : List UInt8 := dkwX1_solve_1 ++ dktX1_solve_2
def dkwX1_solve_0 : List UInt8 := [43, 3, 181, 1, 74, 42, 28, 153, 0, 7, 3, 167, 0, 7, 42, 180, 1, 77, 181, 1, 77, 42, 43]
abbrev dktX1_solve_0 : List UInt8 := dkwX1_solve_0 ++ dktX1_solve_1
theorem dksX1_solve_0 : cX1_solve.data.toList.drop 0 = dktX1_solve_0 := by decide +kernel
theorem dksX1_solve_1 : cX1_solve.data.toList.drop 23 = dktX1_solve_1 := dk_seg dksX1_solve_0 23 rfl rfl
theorem dksX1_solve_2 : cX1_solve.data.toList.drop 45 = dktX1_solve_2 := dk_seg dksX1_solve_1 22 rfl rfl
theorem dksX1_solve_3 : cX1_solve.data.toList.drop 67 = dktX1_solve_3 := dk_seg dksX1_solve_2 22 rfl rfl
theorem dX1_solve_0 : decode cX1_solve 0 = .ok (.aload_n 1, 1) := dk_43 (dk_at dksX1_solve_0 0 rfl rfl)
theorem dX1_solve_1 : decode cX1_solve 1 = .ok (.iconst 0, 1) := dk_3 (dk_at dksX1_solve_0 1 rfl rfl)
theorem dX1_solve_2 : decode cX1_solve 2 = .ok (.putfield 330, 3) := dk_181 1 74 (dk_at dksX1_solve_0 2 rfl rfl)
theorem dX1_solve_5 : decode cX1_solve 5 = .ok (.aload_n 0, 1) := dk_42 (dk_at dksX1_solve_0 5 rfl rfl)
theorem dX1_solve_6 : decode cX1_solve 6 = .ok (.iload_n 2, 1) := dk_28 (dk_at dksX1_solve_0 6 rfl rfl)
theorem dX1_solve_7 : decode cX1_solve 7 = .ok (.ifCond .eq 7, 3) := dk_153 0 7 (dk_at dksX1_solve_0 7 rfl rfl)
theorem dX1_solve_10 : decode cX1_solve 10 = .ok (.iconst 0, 1) := dk_3 (dk_at dksX1_solve_0 10 rfl rfl)
theorem dX1_solve_11 : decode cX1_solve 11 = .ok (.goto 7, 3) := dk_167 0 7 (dk_at dksX1_solve_0 11 rfl rfl)
theorem dX1_solve_14 : decode cX1_solve 14 = .ok (.aload_n 0, 1) := dk_42 (dk_at dksX1_solve_0 14 rfl rfl)
theorem dX1_solve_15 : decode cX1_solve 15 = .ok (.getfield 333, 3) := dk_180 1 77 (dk_at dksX1_solve_0 15 rfl rfl)
theorem dX1_solve_18 : decode cX1_solve 18 = .ok (.putfield 333, 3) := dk_181 1 77 (dk_at dksX1_solve_0 18 rfl rfl)
theorem dX1_solve_21 : decode cX1_solve 21 = .ok (.aload_n 0, 1) := dk_42 (dk_at dksX1_solve_0 21 rfl rfl)
theorem dX1_solve_22 : decode cX1_solve 22 = .ok (.aload_n 1, 1) := dk_43 (dk_at dksX1_solve_0 22 rfl rfl)
theorem dX1_solve_23 : decode cX1_solve 23 = .ok (.invokevirtual 336, 3) := dk_182 1 80 (dk_at dksX1_solve_1 0 rfl rfl)
theorem dX1_solve_26 : decode cX1_solve 26 = .ok (.ifCond .ne 7, 3) := dk_154 0 7 (dk_at dksX1_solve_1 3 rfl rfl)
theorem dX1_solve_29 : decode cX1_solve 29 = .ok (.iconst 1, 1) := dk_4 (dk_at dksX1_solve_1 6 rfl rfl)
theorem dX1_solve_30 : decode cX1_solve 30 = .ok (.goto 4, 3) := dk_167 0 4 (dk_at dksX1_solve_1 7 rfl rfl)
theorem dX1_solve_33 : decode cX1_solve 33 = .ok (.iconst 0, 1) := dk_3 (dk_at dksX1_solve_1 10 rfl rfl)
theorem dX1_solve_34 : decode cX1_solve 34 = .ok (.istore_n 3, 1) := dk_62 (dk_at dksX1_solve_1 11 rfl rfl)
theorem dX1_solve_35 : decode cX1_solve 35 = .ok (.iload_n 3, 1) := dk_29 (dk_at dksX1_solve_1 12 rfl rfl)
theorem dX1_solve_36 : decode cX1_solve 36 = .ok (.ifCond .eq 39, 3) := dk_153 0 39 (dk_at dksX1_solve_1 13 rfl rfl)
theorem dX1_solve_39 : decode cX1_solve 39 = .ok (.aload_n 0, 1) := dk_42 (dk_at dksX1_solve_1 16 rfl rfl)
theorem dX1_solve_40 : decode cX1_solve 40 = .ok (.aload_n 1, 1) := dk_43 (dk_at dksX1_solve_1 17 rfl rfl)
theorem dX1_solve_41 : decode cX1_solve 41 = .ok (.iload_n 2, 1) := dk_28 (dk_at dksX1_solve_1 18 rfl rfl)
theorem dX1_solve_42 : decode cX1_solve 42 = .ok (.invokevirtual 340, 3) := dk_182 1 84 (dk_at dksX1_solve_1 19 rfl rfl)
theorem dX1_solve_45 : decode cX1_solve 45 = .ok (.ifCond .eq 30, 3) := dk_153 0 30 (dk_at dksX1_solve_2 0 rfl rfl)
theorem dX1_solve_48 : decode cX1_solve 48 = .ok (.aload_n 1, 1) := dk_43 (dk_at dksX1_solve_2 3 rfl rfl)
theorem dX1_solve_49 : decode cX1_solve 49 = .ok (.dup, 1) := dk_89 (dk_at dksX1_solve_2 4 rfl rfl)
theorem dX1_solve_50 : decode cX1_solve 50 = .ok (.getfield 330, 3) := dk_180 1 74 (dk_at dksX1_solve_2 5 rfl rfl)
theorem dX1_solve_53 : decode cX1_solve 53 = .ok (.iconst 1, 1) := dk_4 (dk_at dksX1_solve_2 8 rfl rfl)
theorem dX1_solve_54 : decode cX1_solve 54 = .ok (.iadd, 1) := dk_96 (dk_at dksX1_solve_2 9 rfl rfl)
theorem dX1_solve_55 : decode cX1_solve 55 = .ok (.putfield 330, 3) := dk_181 1 74 (dk_at dksX1_solve_2 10 rfl rfl)
theorem dX1_solve_58 : decode cX1_solve 58 = .ok (.aload_n 0, 1) := dk_42 (dk_at dksX1_solve_2 13 rfl rfl)
theorem dX1_solve_59 : decode cX1_solve 59 = .ok (.aload_n 1, 1) := dk_43 (dk_at dksX1_solve_2 14 rfl rfl)
theorem dX1_solve_60 : decode cX1_solve 60 = .ok (.invokevirtual 336, 3) := dk_182 1 80 (dk_at dksX1_solve_2 15 rfl rfl)
theorem dX1_solve_63 : decode cX1_solve 63 = .ok (.ifCond .ne 7, 3) := dk_154 0 7 (dk_at dksX1_solve_2 18 rfl rfl)
theorem dX1_solve_66 : decode cX1_solve 66 = .ok (.iconst 1, 1) := dk_4 (dk_at dksX1_solve_2 21 rfl rfl)
theorem dX1_solve_67 : decode cX1_solve 67 = .ok (.goto 4, 3) := dk_167 0 4 (dk_at dksX1_solve_3 0 rfl rfl)
theorem dX1_solve_70 : decode cX1_solve 70 = .ok (.iconst 0, 1) := dk_3 (dk_at dksX1_solve_3 3 rfl rfl)
theorem dX1_solve_71 : decode cX1_solve 71 = .ok (.istore_n 3, 1) := dk_62 (dk_at dksX1_solve_3 4 rfl rfl)
theorem dX1_solve_72 : decode cX1_solve 72 = .ok (.goto (-37), 3) := dk_167 255 219 (dk_at dksX1_solve_3 5 rfl rfl)
theorem dX1_solve_75 : decode cX1_solve 75 = .ok (.return_, 1) := dk_177 (dk_at dksX1_solve_3 8 rfl rfl)
def dkwX1_seesFailure_1 : List UInt8 := [180, 1, 88, 42, 43, 28, 182, 1, 91, 128, 181, 1, 88, 132, 2, 1, 167, 255, 225, 43, 180, 1, 88, 172]
abbrev dktX1_seesFailure_1 : List UInt8 := dkwX1_seesFailure_1 ++ []
def dkwX1_seesFailure_0 : List UInt8 := [43, 3, 181, 1, 88, 3, 61, 28, 42, 180, 0, 27, 185, 0, 131, 1, 0, 162, 0, 24, 43, 89]
abbrev dktX1_seesFailure_0 : List UInt8 := dkwX1_seesFailure_0 ++ dktX1_seesFailure_1
theorem dksX1_seesFailure_0 : cX1_seesFailure.data.toList.drop 0 = dktX1_seesFailure_0 := by decide +kernel
theorem dksX1_seesFailure_1 : cX1_seesFailure.data.toList.drop 22 = dktX1_seesFailure_1 := dk_seg dksX1_seesFailure_0 22 rfl rfl
theorem dX1_seesFailure_0 : decode cX1_seesFailure 0 = .ok (.aload_n 1, 1) := dk_43 (dk_at dksX1_seesFailure_0 0 rfl rfl)
theorem dX1_seesFailure_1 : decode cX1_seesFailure 1 = .ok (.iconst 0, 1) := dk_3 (dk_at dksX1_seesFailure_0 1 rfl rfl)
theorem dX1_seesFailure_2 : decode cX1_seesFailure 2 = .ok (.putfield 344, 3) := dk_181 1 88 (dk_at dksX1_seesFailure_0 2 rfl rfl)
theorem dX1_seesFailure_5 : decode cX1_seesFailure 5 = .ok (.iconst 0, 1) := dk_3 (dk_at dksX1_seesFailure_0 5 rfl rfl)
theorem dX1_seesFailure_6 : decode cX1_seesFailure 6 = .ok (.istore_n 2, 1) := dk_61 (dk_at dksX1_seesFailure_0 6 rfl rfl)
theorem dX1_seesFailure_7 : decode cX1_seesFailure 7 = .ok (.iload_n 2, 1) := dk_28 (dk_at dksX1_seesFailure_0 7 rfl rfl)
theorem dX1_seesFailure_8 : decode cX1_seesFailure 8 = .ok (.aload_n 0, 1) := dk_42 (dk_at dksX1_seesFailure_0 8 rfl rfl)
theorem dX1_seesFailure_9 : decode cX1_seesFailure 9 = .ok (.getfield 27, 3) := dk_180 0 27 (dk_at dksX1_seesFailure_0 9 rfl rfl)
theorem dX1_seesFailure_12 : decode cX1_seesFailure 12 = .ok (.invokeinterface 131 1, 5) := by decide +kernel
theorem dX1_seesFailure_17 : decode cX1_seesFailure 17 = .ok (.if_icmp .ge 24, 3) := dk_162 0 24 (dk_at dksX1_seesFailure_0 17 rfl rfl)
theorem dX1_seesFailure_20 : decode cX1_seesFailure 20 = .ok (.aload_n 1, 1) := dk_43 (dk_at dksX1_seesFailure_0 20 rfl rfl)
theorem dX1_seesFailure_21 : decode cX1_seesFailure 21 = .ok (.dup, 1) := dk_89 (dk_at dksX1_seesFailure_0 21 rfl rfl)
theorem dX1_seesFailure_22 : decode cX1_seesFailure 22 = .ok (.getfield 344, 3) := dk_180 1 88 (dk_at dksX1_seesFailure_1 0 rfl rfl)
theorem dX1_seesFailure_25 : decode cX1_seesFailure 25 = .ok (.aload_n 0, 1) := dk_42 (dk_at dksX1_seesFailure_1 3 rfl rfl)
theorem dX1_seesFailure_26 : decode cX1_seesFailure 26 = .ok (.aload_n 1, 1) := dk_43 (dk_at dksX1_seesFailure_1 4 rfl rfl)
theorem dX1_seesFailure_27 : decode cX1_seesFailure 27 = .ok (.iload_n 2, 1) := dk_28 (dk_at dksX1_seesFailure_1 5 rfl rfl)
theorem dX1_seesFailure_28 : decode cX1_seesFailure 28 = .ok (.invokevirtual 347, 3) := dk_182 1 91 (dk_at dksX1_seesFailure_1 6 rfl rfl)
theorem dX1_seesFailure_31 : decode cX1_seesFailure 31 = .ok (.ior, 1) := dk_128 (dk_at dksX1_seesFailure_1 9 rfl rfl)
theorem dX1_seesFailure_32 : decode cX1_seesFailure 32 = .ok (.putfield 344, 3) := dk_181 1 88 (dk_at dksX1_seesFailure_1 10 rfl rfl)
theorem dX1_seesFailure_35 : decode cX1_seesFailure 35 = .ok (.iinc 2 1, 3) := dk_132 2 1 (dk_at dksX1_seesFailure_1 13 rfl rfl)
theorem dX1_seesFailure_38 : decode cX1_seesFailure 38 = .ok (.goto (-31), 3) := dk_167 255 225 (dk_at dksX1_seesFailure_1 16 rfl rfl)
theorem dX1_seesFailure_41 : decode cX1_seesFailure 41 = .ok (.aload_n 1, 1) := dk_43 (dk_at dksX1_seesFailure_1 19 rfl rfl)
theorem dX1_seesFailure_42 : decode cX1_seesFailure 42 = .ok (.getfield 344, 3) := dk_180 1 88 (dk_at dksX1_seesFailure_1 20 rfl rfl)
theorem dX1_seesFailure_45 : decode cX1_seesFailure 45 = .ok (.ireturn, 1) := dk_172 (dk_at dksX1_seesFailure_1 23 rfl rfl)
def dkwX1_isEmpty_1 : List UInt8 := [167, 0, 21, 3, 167, 0, 17, 43, 180, 1, 42, 28, 46, 154, 0, 7, 4, 167, 0, 4, 3, 172]
abbrev dktX1_isEmpty_1 : List UInt8 := dkwX1_isEmpty_1 ++ []
def dkwX1_isEmpty_0 : List UInt8 := [42, 28, 182, 1, 70, 153, 0, 26, 43, 180, 1, 48, 28, 46, 43, 180, 1, 54, 28, 46, 164, 0, 7, 4]
abbrev dktX1_isEmpty_0 : List UInt8 := dkwX1_isEmpty_0 ++ dktX1_isEmpty_1
theorem dksX1_isEmpty_0 : cX1_isEmpty.data.toList.drop 0 = dktX1_isEmpty_0 := by decide +kernel
theorem dksX1_isEmpty_1 : cX1_isEmpty.data.toList.drop 24 = dktX1_isEmpty_1 := dk_seg dksX1_isEmpty_0 24 rfl rfl
theorem dX1_isEmpty_0 : decode cX1_isEmpty 0 = .ok (.aload_n 0, 1) := dk_42 (dk_at dksX1_isEmpty_0 0 rfl rfl)
theorem dX1_isEmpty_1 : decode cX1_isEmpty 1 = .ok (.iload_n 2, 1) := dk_28 (dk_at dksX1_isEmpty_0 1 rfl rfl)
theorem dX1_isEmpty_2 : decode cX1_isEmpty 2 = .ok (.invokevirtual 326, 3) := dk_182 1 70 (dk_at dksX1_isEmpty_0 2 rfl rfl)
theorem dX1_isEmpty_5 : decode cX1_isEmpty 5 = .ok (.ifCond .eq 26, 3) := dk_153 0 26 (dk_at dksX1_isEmpty_0 5 rfl rfl)
theorem dX1_isEmpty_8 : decode cX1_isEmpty 8 = .ok (.aload_n 1, 1) := dk_43 (dk_at dksX1_isEmpty_0 8 rfl rfl)
theorem dX1_isEmpty_9 : decode cX1_isEmpty 9 = .ok (.getfield 304, 3) := dk_180 1 48 (dk_at dksX1_isEmpty_0 9 rfl rfl)
theorem dX1_isEmpty_12 : decode cX1_isEmpty 12 = .ok (.iload_n 2, 1) := dk_28 (dk_at dksX1_isEmpty_0 12 rfl rfl)
theorem dX1_isEmpty_13 : decode cX1_isEmpty 13 = .ok (.iaload, 1) := dk_46 (dk_at dksX1_isEmpty_0 13 rfl rfl)
theorem dX1_isEmpty_14 : decode cX1_isEmpty 14 = .ok (.aload_n 1, 1) := dk_43 (dk_at dksX1_isEmpty_0 14 rfl rfl)
theorem dX1_isEmpty_15 : decode cX1_isEmpty 15 = .ok (.getfield 310, 3) := dk_180 1 54 (dk_at dksX1_isEmpty_0 15 rfl rfl)
theorem dX1_isEmpty_18 : decode cX1_isEmpty 18 = .ok (.iload_n 2, 1) := dk_28 (dk_at dksX1_isEmpty_0 18 rfl rfl)
theorem dX1_isEmpty_19 : decode cX1_isEmpty 19 = .ok (.iaload, 1) := dk_46 (dk_at dksX1_isEmpty_0 19 rfl rfl)
theorem dX1_isEmpty_20 : decode cX1_isEmpty 20 = .ok (.if_icmp .le 7, 3) := dk_164 0 7 (dk_at dksX1_isEmpty_0 20 rfl rfl)
theorem dX1_isEmpty_23 : decode cX1_isEmpty 23 = .ok (.iconst 1, 1) := dk_4 (dk_at dksX1_isEmpty_0 23 rfl rfl)
theorem dX1_isEmpty_24 : decode cX1_isEmpty 24 = .ok (.goto 21, 3) := dk_167 0 21 (dk_at dksX1_isEmpty_1 0 rfl rfl)
theorem dX1_isEmpty_27 : decode cX1_isEmpty 27 = .ok (.iconst 0, 1) := dk_3 (dk_at dksX1_isEmpty_1 3 rfl rfl)
theorem dX1_isEmpty_28 : decode cX1_isEmpty 28 = .ok (.goto 17, 3) := dk_167 0 17 (dk_at dksX1_isEmpty_1 4 rfl rfl)
theorem dX1_isEmpty_31 : decode cX1_isEmpty 31 = .ok (.aload_n 1, 1) := dk_43 (dk_at dksX1_isEmpty_1 7 rfl rfl)
theorem dX1_isEmpty_32 : decode cX1_isEmpty 32 = .ok (.getfield 298, 3) := dk_180 1 42 (dk_at dksX1_isEmpty_1 8 rfl rfl)
theorem dX1_isEmpty_35 : decode cX1_isEmpty 35 = .ok (.iload_n 2, 1) := dk_28 (dk_at dksX1_isEmpty_1 11 rfl rfl)
theorem dX1_isEmpty_36 : decode cX1_isEmpty 36 = .ok (.iaload, 1) := dk_46 (dk_at dksX1_isEmpty_1 12 rfl rfl)
theorem dX1_isEmpty_37 : decode cX1_isEmpty 37 = .ok (.ifCond .ne 7, 3) := dk_154 0 7 (dk_at dksX1_isEmpty_1 13 rfl rfl)
theorem dX1_isEmpty_40 : decode cX1_isEmpty 40 = .ok (.iconst 1, 1) := dk_4 (dk_at dksX1_isEmpty_1 16 rfl rfl)
theorem dX1_isEmpty_41 : decode cX1_isEmpty 41 = .ok (.goto 4, 3) := dk_167 0 4 (dk_at dksX1_isEmpty_1 17 rfl rfl)
theorem dX1_isEmpty_44 : decode cX1_isEmpty 44 = .ok (.iconst 0, 1) := dk_3 (dk_at dksX1_isEmpty_1 20 rfl rfl)
theorem dX1_isEmpty_45 : decode cX1_isEmpty 45 = .ok (.ireturn, 1) := dk_172 (dk_at dksX1_isEmpty_1 21 rfl rfl)
def dkwX1_isRatio_1 : List UInt8 := [3, 172]
abbrev dktX1_isRatio_1 : List UInt8 := dkwX1_isRatio_1 ++ []
def dkwX1_isRatio_0 : List UInt8 := [42, 180, 0, 27, 27, 185, 0, 141, 2, 0, 192, 0, 145, 182, 0, 147, 6, 160, 0, 7, 4, 167, 0, 4]
abbrev dktX1_isRatio_0 : List UInt8 := dkwX1_isRatio_0 ++ dktX1_isRatio_1
theorem dksX1_isRatio_0 : cX1_isRatio.data.toList.drop 0 = dktX1_isRatio_0 := by decide +kernel
theorem dksX1_isRatio_1 : cX1_isRatio.data.toList.drop 24 = dktX1_isRatio_1 := dk_seg dksX1_isRatio_0 24 rfl rfl
theorem dX1_isRatio_0 : decode cX1_isRatio 0 = .ok (.aload_n 0, 1) := dk_42 (dk_at dksX1_isRatio_0 0 rfl rfl)
theorem dX1_isRatio_1 : decode cX1_isRatio 1 = .ok (.getfield 27, 3) := dk_180 0 27 (dk_at dksX1_isRatio_0 1 rfl rfl)
theorem dX1_isRatio_4 : decode cX1_isRatio 4 = .ok (.iload_n 1, 1) := dk_27 (dk_at dksX1_isRatio_0 4 rfl rfl)
theorem dX1_isRatio_5 : decode cX1_isRatio 5 = .ok (.invokeinterface 141 2, 5) := by decide +kernel
theorem dX1_isRatio_10 : decode cX1_isRatio 10 = .ok (.checkcast 145, 3) := dk_192 0 145 (dk_at dksX1_isRatio_0 10 rfl rfl)
theorem dX1_isRatio_13 : decode cX1_isRatio 13 = .ok (.invokevirtual 147, 3) := dk_182 0 147 (dk_at dksX1_isRatio_0 13 rfl rfl)
theorem dX1_isRatio_16 : decode cX1_isRatio 16 = .ok (.iconst 3, 1) := dk_6 (dk_at dksX1_isRatio_0 16 rfl rfl)
theorem dX1_isRatio_17 : decode cX1_isRatio 17 = .ok (.if_icmp .ne 7, 3) := dk_160 0 7 (dk_at dksX1_isRatio_0 17 rfl rfl)
theorem dX1_isRatio_20 : decode cX1_isRatio 20 = .ok (.iconst 1, 1) := dk_4 (dk_at dksX1_isRatio_0 20 rfl rfl)
theorem dX1_isRatio_21 : decode cX1_isRatio 21 = .ok (.goto 4, 3) := dk_167 0 4 (dk_at dksX1_isRatio_0 21 rfl rfl)
theorem dX1_isRatio_24 : decode cX1_isRatio 24 = .ok (.iconst 0, 1) := dk_3 (dk_at dksX1_isRatio_1 0 rfl rfl)
theorem dX1_isRatio_25 : decode cX1_isRatio 25 = .ok (.ireturn, 1) := dk_172 (dk_at dksX1_isRatio_1 1 rfl rfl)
def dkwX1_makeRound_12 : List UInt8 := [180, 1, 54, 21, 4, 42, 180, 0, 92, 21, 4, 46, 79, 132, 4, 1, 167, 255, 96, 29, 172]
abbrev dktX1_makeRound_12 : List UInt8 := dkwX1_makeRound_12 ++ []
def dkwX1_makeRound_11 : List UInt8 := [180, 0, 86, 21, 4, 46, 79, 43, 180, 1, 48, 21, 4, 42, 180, 0, 89, 21, 4, 46, 79, 43]
abbrev dktX1_makeRound_11 : List UInt8 := dkwX1_makeRound_11 ++ dktX1_makeRound_12
def dkwX1_makeRound_10 : List UInt8 := [180, 0, 92, 21, 4, 46, 159, 0, 7, 4, 167, 0, 4, 3, 128, 62, 43, 180, 1, 42, 21, 4, 42]
abbrev dktX1_makeRound_10 : List UInt8 := dkwX1_makeRound_10 ++ dktX1_makeRound_11
def dkwX1_makeRound_9 : List UInt8 := [180, 1, 48, 21, 4, 46, 42, 180, 0, 89, 21, 4, 46, 160, 0, 20, 43, 180, 1, 54, 21, 4, 46, 42]
abbrev dktX1_makeRound_9 : List UInt8 := dkwX1_makeRound_9 ++ dktX1_makeRound_10
def dkwX1_makeRound_8 : List UInt8 := [182, 1, 105, 29, 43, 180, 1, 42, 21, 4, 46, 42, 180, 0, 86, 21, 4, 46, 160, 0, 37, 43]
abbrev dktX1_makeRound_8 : List UInt8 := dkwX1_makeRound_8 ++ dktX1_makeRound_9
def dkwX1_makeRound_7 : List UInt8 := [43, 180, 1, 42, 21, 4, 46, 42, 180, 0, 86, 21, 4, 46, 2, 130, 126, 43, 180, 1, 74, 4, 96]
abbrev dktX1_makeRound_7 : List UInt8 := dkwX1_makeRound_7 ++ dktX1_makeRound_8
def dkwX1_makeRound_6 : List UInt8 := [185, 0, 131, 1, 0, 162, 0, 152, 28, 153, 0, 41, 42, 21, 4, 182, 1, 70, 154, 0, 32, 42, 21, 4]
abbrev dktX1_makeRound_6 : List UInt8 := dkwX1_makeRound_6 ++ dktX1_makeRound_7
def dkwX1_makeRound_5 : List UInt8 := [167, 255, 234, 132, 3, 1, 167, 255, 191, 3, 62, 3, 54, 4, 21, 4, 42, 180, 0, 27]
abbrev dktX1_makeRound_5 : List UInt8 := dkwX1_makeRound_5 ++ dktX1_makeRound_6
def dkwX1_makeRound_4 : List UInt8 := [21, 5, 25, 4, 182, 1, 100, 162, 0, 18, 42, 25, 4, 21, 5, 29, 182, 1, 101, 132, 5, 1]
abbrev dktX1_makeRound_4 : List UInt8 := dkwX1_makeRound_4 ++ dktX1_makeRound_5
def dkwX1_makeRound_3 : List UInt8 := [42, 180, 0, 31, 29, 185, 0, 141, 2, 0, 192, 1, 94, 58, 4, 25, 4, 43, 182, 1, 96, 3, 54, 5]
abbrev dktX1_makeRound_3 : List UInt8 := dkwX1_makeRound_3 ++ dktX1_makeRound_4
def dkwX1_makeRound_2 : List UInt8 := [29, 46, 79, 132, 3, 1, 167, 255, 204, 3, 62, 29, 42, 180, 0, 31, 185, 0, 131, 1, 0, 162, 0, 58]
abbrev dktX1_makeRound_2 : List UInt8 := dkwX1_makeRound_2 ++ dktX1_makeRound_3
def dkwX1_makeRound_1 : List UInt8 := [29, 46, 79, 42, 180, 0, 89, 29, 43, 180, 1, 48, 29, 46, 79, 42, 180, 0, 92, 29, 43, 180, 1, 54]
abbrev dktX1_makeRound_1 : List UInt8 := dkwX1_makeRound_1 ++ dktX1_makeRound_2
def dkwX1_makeRound_0 : List UInt8 := [3, 62, 29, 42, 180, 0, 27, 185, 0, 131, 1, 0, 162, 0, 45, 42, 180, 0, 86, 29, 43, 180, 1, 42]
abbrev dktX1_makeRound_0 : List UInt8 := dkwX1_makeRound_0 ++ dktX1_makeRound_1
theorem dksX1_makeRound_0 : cX1_makeRound.data.toList.drop 0 = dktX1_makeRound_0 := by decide +kernel
theorem dksX1_makeRound_1 : cX1_makeRound.data.toList.drop 24 = dktX1_makeRound_1 := dk_seg dksX1_makeRound_0 24 rfl rfl
theorem dksX1_makeRound_2 : cX1_makeRound.data.toList.drop 48 = dktX1_makeRound_2 := dk_seg dksX1_makeRound_1 24 rfl rfl
theorem dksX1_makeRound_3 : cX1_makeRound.data.toList.drop 72 = dktX1_makeRound_3 := dk_seg dksX1_makeRound_2 24 rfl rfl
theorem dksX1_makeRound_4 : cX1_makeRound.data.toList.drop 96 = dktX1_makeRound_4 := dk_seg dksX1_makeRound_3 24 rfl rfl
theorem dksX1_makeRound_5 : cX1_makeRound.data.toList.drop 118 = dktX1_makeRound_5 := dk_seg dksX1_makeRound_4 22 rfl rfl
theorem dksX1_makeRound_6 : cX1_makeRound.data.toList.drop 138 = dktX1_makeRound_6 := dk_seg dksX1_makeRound_5 20 rfl rfl
theorem dksX1_makeRound_7 : cX1_makeRound.data.toList.drop 162 = dktX1_makeRound_7 := dk_seg dksX1_makeRound_6 24 rfl rfl
theorem dksX1_makeRound_8 : cX1_makeRound.data.toList.drop 185 = dktX1_makeRound_8 := dk_seg dksX1_makeRound_7 23 rfl rfl
theorem dksX1_makeRound_9 : cX1_makeRound.data.toList.drop 207 = dktX1_makeRound_9 := dk_seg dksX1_makeRound_8 22 rfl rfl
theorem dksX1_makeRound_10 : cX1_makeRound.data.toList.drop 231 = dktX1_makeRound_10 := dk_seg dksX1_makeRound_9 24 rfl rfl
theorem dksX1_makeRound_11 : cX1_makeRound.data.toList.drop 254 = dktX1_makeRound_11 := dk_seg dksX1_makeRound_10 23 rfl rfl
theorem dksX1_makeRound_12 : cX1_makeRound.data.toList.drop 276 = dktX1_makeRound_12 := dk_seg dksX1_makeRound_11 22 rfl rfl
theorem dX1_makeRound_0 : decode cX1_makeRound 0 = .ok (.iconst 0, 1) := dk_3 (dk_at dksX1_makeRound_0 0 rfl rfl)
theorem dX1_makeRound_1 : decode cX1_makeRound 1 = .ok (.istore_n 3, 1) := dk_62 (dk_at dksX1_makeRound_0 1 rfl rfl)
theorem dX1_makeRound_2 : decode cX1_makeRound 2 = .ok (.iload_n 3, 1) := dk_29 (dk_at dksX1_makeRound_0 2 rfl rfl)
theorem dX1_makeRound_3 : decode cX1_makeRound 3 = .ok (.aload_n 0, 1) := dk_42 (dk_at dksX1_makeRound_0 3 rfl rfl)
theorem dX1_makeRound_4 : decode cX1_makeRound 4 = .ok (.getfield 27, 3) := dk_180 0 27 (dk_at dksX1_makeRound_0 4 rfl rfl)
theorem dX1_makeRound_7 : decode cX1_makeRound 7 = .ok (.invokeinterface 131 1, 5) := by decide +kernel
theorem dX1_makeRound_12 : decode cX1_makeRound 12 = .ok (.if_icmp .ge 45, 3) := dk_162 0 45 (dk_at dksX1_makeRound_0 12 rfl rfl)
theorem dX1_makeRound_15 : decode cX1_makeRound 15 = .ok (.aload_n 0, 1) := dk_42 (dk_at dksX1_makeRound_0 15 rfl rfl)
theorem dX1_makeRound_16 : decode cX1_makeRound 16 = .ok (.getfield 86, 3) := dk_180 0 86 (dk_at dksX1_makeRound_0 16 rfl rfl)
theorem dX1_makeRound_19 : decode cX1_makeRound 19 = .ok (.iload_n 3, 1) := dk_29 (dk_at dksX1_makeRound_0 19 rfl rfl)
theorem dX1_makeRound_20 : decode cX1_makeRound 20 = .ok (.aload_n 1, 1) := dk_43 (dk_at dksX1_makeRound_0 20 rfl rfl)
theorem dX1_makeRound_21 : decode cX1_makeRound 21 = .ok (.getfield 298, 3) := dk_180 1 42 (dk_at dksX1_makeRound_0 21 rfl rfl)
theorem dX1_makeRound_24 : decode cX1_makeRound 24 = .ok (.iload_n 3, 1) := dk_29 (dk_at dksX1_makeRound_1 0 rfl rfl)
theorem dX1_makeRound_25 : decode cX1_makeRound 25 = .ok (.iaload, 1) := dk_46 (dk_at dksX1_makeRound_1 1 rfl rfl)
theorem dX1_makeRound_26 : decode cX1_makeRound 26 = .ok (.iastore, 1) := dk_79 (dk_at dksX1_makeRound_1 2 rfl rfl)
theorem dX1_makeRound_27 : decode cX1_makeRound 27 = .ok (.aload_n 0, 1) := dk_42 (dk_at dksX1_makeRound_1 3 rfl rfl)
theorem dX1_makeRound_28 : decode cX1_makeRound 28 = .ok (.getfield 89, 3) := dk_180 0 89 (dk_at dksX1_makeRound_1 4 rfl rfl)
theorem dX1_makeRound_31 : decode cX1_makeRound 31 = .ok (.iload_n 3, 1) := dk_29 (dk_at dksX1_makeRound_1 7 rfl rfl)
theorem dX1_makeRound_32 : decode cX1_makeRound 32 = .ok (.aload_n 1, 1) := dk_43 (dk_at dksX1_makeRound_1 8 rfl rfl)
theorem dX1_makeRound_33 : decode cX1_makeRound 33 = .ok (.getfield 304, 3) := dk_180 1 48 (dk_at dksX1_makeRound_1 9 rfl rfl)
theorem dX1_makeRound_36 : decode cX1_makeRound 36 = .ok (.iload_n 3, 1) := dk_29 (dk_at dksX1_makeRound_1 12 rfl rfl)
theorem dX1_makeRound_37 : decode cX1_makeRound 37 = .ok (.iaload, 1) := dk_46 (dk_at dksX1_makeRound_1 13 rfl rfl)
theorem dX1_makeRound_38 : decode cX1_makeRound 38 = .ok (.iastore, 1) := dk_79 (dk_at dksX1_makeRound_1 14 rfl rfl)
theorem dX1_makeRound_39 : decode cX1_makeRound 39 = .ok (.aload_n 0, 1) := dk_42 (dk_at dksX1_makeRound_1 15 rfl rfl)
theorem dX1_makeRound_40 : decode cX1_makeRound 40 = .ok (.getfield 92, 3) := dk_180 0 92 (dk_at dksX1_makeRound_1 16 rfl rfl)
theorem dX1_makeRound_43 : decode cX1_makeRound 43 = .ok (.iload_n 3, 1) := dk_29 (dk_at dksX1_makeRound_1 19 rfl rfl)
theorem dX1_makeRound_44 : decode cX1_makeRound 44 = .ok (.aload_n 1, 1) := dk_43 (dk_at dksX1_makeRound_1 20 rfl rfl)
theorem dX1_makeRound_45 : decode cX1_makeRound 45 = .ok (.getfield 310, 3) := dk_180 1 54 (dk_at dksX1_makeRound_1 21 rfl rfl)
theorem dX1_makeRound_48 : decode cX1_makeRound 48 = .ok (.iload_n 3, 1) := dk_29 (dk_at dksX1_makeRound_2 0 rfl rfl)
theorem dX1_makeRound_49 : decode cX1_makeRound 49 = .ok (.iaload, 1) := dk_46 (dk_at dksX1_makeRound_2 1 rfl rfl)
theorem dX1_makeRound_50 : decode cX1_makeRound 50 = .ok (.iastore, 1) := dk_79 (dk_at dksX1_makeRound_2 2 rfl rfl)
theorem dX1_makeRound_51 : decode cX1_makeRound 51 = .ok (.iinc 3 1, 3) := dk_132 3 1 (dk_at dksX1_makeRound_2 3 rfl rfl)
theorem dX1_makeRound_54 : decode cX1_makeRound 54 = .ok (.goto (-52), 3) := dk_167 255 204 (dk_at dksX1_makeRound_2 6 rfl rfl)
theorem dX1_makeRound_57 : decode cX1_makeRound 57 = .ok (.iconst 0, 1) := dk_3 (dk_at dksX1_makeRound_2 9 rfl rfl)
theorem dX1_makeRound_58 : decode cX1_makeRound 58 = .ok (.istore_n 3, 1) := dk_62 (dk_at dksX1_makeRound_2 10 rfl rfl)
theorem dX1_makeRound_59 : decode cX1_makeRound 59 = .ok (.iload_n 3, 1) := dk_29 (dk_at dksX1_makeRound_2 11 rfl rfl)
theorem dX1_makeRound_60 : decode cX1_makeRound 60 = .ok (.aload_n 0, 1) := dk_42 (dk_at dksX1_makeRound_2 12 rfl rfl)
theorem dX1_makeRound_61 : decode cX1_makeRound 61 = .ok (.getfield 31, 3) := dk_180 0 31 (dk_at dksX1_makeRound_2 13 rfl rfl)
theorem dX1_makeRound_64 : decode cX1_makeRound 64 = .ok (.invokeinterface 131 1, 5) := by decide +kernel
theorem dX1_makeRound_69 : decode cX1_makeRound 69 = .ok (.if_icmp .ge 58, 3) := dk_162 0 58 (dk_at dksX1_makeRound_2 21 rfl rfl)
theorem dX1_makeRound_72 : decode cX1_makeRound 72 = .ok (.aload_n 0, 1) := dk_42 (dk_at dksX1_makeRound_3 0 rfl rfl)
theorem dX1_makeRound_73 : decode cX1_makeRound 73 = .ok (.getfield 31, 3) := dk_180 0 31 (dk_at dksX1_makeRound_3 1 rfl rfl)
theorem dX1_makeRound_76 : decode cX1_makeRound 76 = .ok (.iload_n 3, 1) := dk_29 (dk_at dksX1_makeRound_3 4 rfl rfl)
theorem dX1_makeRound_77 : decode cX1_makeRound 77 = .ok (.invokeinterface 141 2, 5) := by decide +kernel
theorem dX1_makeRound_82 : decode cX1_makeRound 82 = .ok (.checkcast 350, 3) := dk_192 1 94 (dk_at dksX1_makeRound_3 10 rfl rfl)
theorem dX1_makeRound_85 : decode cX1_makeRound 85 = .ok (.astore 4, 2) := dk_58 4 (dk_at dksX1_makeRound_3 13 rfl rfl)
theorem dX1_makeRound_87 : decode cX1_makeRound 87 = .ok (.aload 4, 2) := dk_25 4 (dk_at dksX1_makeRound_3 15 rfl rfl)
theorem dX1_makeRound_89 : decode cX1_makeRound 89 = .ok (.aload_n 1, 1) := dk_43 (dk_at dksX1_makeRound_3 17 rfl rfl)
theorem dX1_makeRound_90 : decode cX1_makeRound 90 = .ok (.invokevirtual 352, 3) := dk_182 1 96 (dk_at dksX1_makeRound_3 18 rfl rfl)
theorem dX1_makeRound_93 : decode cX1_makeRound 93 = .ok (.iconst 0, 1) := dk_3 (dk_at dksX1_makeRound_3 21 rfl rfl)
theorem dX1_makeRound_94 : decode cX1_makeRound 94 = .ok (.istore 5, 2) := dk_54 5 (dk_at dksX1_makeRound_3 22 rfl rfl)
theorem dX1_makeRound_96 : decode cX1_makeRound 96 = .ok (.iload 5, 2) := dk_21 5 (dk_at dksX1_makeRound_4 0 rfl rfl)
theorem dX1_makeRound_98 : decode cX1_makeRound 98 = .ok (.aload 4, 2) := dk_25 4 (dk_at dksX1_makeRound_4 2 rfl rfl)
theorem dX1_makeRound_100 : decode cX1_makeRound 100 = .ok (.invokevirtual 356, 3) := dk_182 1 100 (dk_at dksX1_makeRound_4 4 rfl rfl)
theorem dX1_makeRound_103 : decode cX1_makeRound 103 = .ok (.if_icmp .ge 18, 3) := dk_162 0 18 (dk_at dksX1_makeRound_4 7 rfl rfl)
theorem dX1_makeRound_106 : decode cX1_makeRound 106 = .ok (.aload_n 0, 1) := dk_42 (dk_at dksX1_makeRound_4 10 rfl rfl)
theorem dX1_makeRound_107 : decode cX1_makeRound 107 = .ok (.aload 4, 2) := dk_25 4 (dk_at dksX1_makeRound_4 11 rfl rfl)
theorem dX1_makeRound_109 : decode cX1_makeRound 109 = .ok (.iload 5, 2) := dk_21 5 (dk_at dksX1_makeRound_4 13 rfl rfl)
theorem dX1_makeRound_111 : decode cX1_makeRound 111 = .ok (.iload_n 3, 1) := dk_29 (dk_at dksX1_makeRound_4 15 rfl rfl)
theorem dX1_makeRound_112 : decode cX1_makeRound 112 = .ok (.invokevirtual 357, 3) := dk_182 1 101 (dk_at dksX1_makeRound_4 16 rfl rfl)
theorem dX1_makeRound_115 : decode cX1_makeRound 115 = .ok (.iinc 5 1, 3) := dk_132 5 1 (dk_at dksX1_makeRound_4 19 rfl rfl)
theorem dX1_makeRound_118 : decode cX1_makeRound 118 = .ok (.goto (-22), 3) := dk_167 255 234 (dk_at dksX1_makeRound_5 0 rfl rfl)
theorem dX1_makeRound_121 : decode cX1_makeRound 121 = .ok (.iinc 3 1, 3) := dk_132 3 1 (dk_at dksX1_makeRound_5 3 rfl rfl)
theorem dX1_makeRound_124 : decode cX1_makeRound 124 = .ok (.goto (-65), 3) := dk_167 255 191 (dk_at dksX1_makeRound_5 6 rfl rfl)
theorem dX1_makeRound_127 : decode cX1_makeRound 127 = .ok (.iconst 0, 1) := dk_3 (dk_at dksX1_makeRound_5 9 rfl rfl)
theorem dX1_makeRound_128 : decode cX1_makeRound 128 = .ok (.istore_n 3, 1) := dk_62 (dk_at dksX1_makeRound_5 10 rfl rfl)
theorem dX1_makeRound_129 : decode cX1_makeRound 129 = .ok (.iconst 0, 1) := dk_3 (dk_at dksX1_makeRound_5 11 rfl rfl)
theorem dX1_makeRound_130 : decode cX1_makeRound 130 = .ok (.istore 4, 2) := dk_54 4 (dk_at dksX1_makeRound_5 12 rfl rfl)
theorem dX1_makeRound_132 : decode cX1_makeRound 132 = .ok (.iload 4, 2) := dk_21 4 (dk_at dksX1_makeRound_5 14 rfl rfl)
theorem dX1_makeRound_134 : decode cX1_makeRound 134 = .ok (.aload_n 0, 1) := dk_42 (dk_at dksX1_makeRound_5 16 rfl rfl)
theorem dX1_makeRound_135 : decode cX1_makeRound 135 = .ok (.getfield 27, 3) := dk_180 0 27 (dk_at dksX1_makeRound_5 17 rfl rfl)
theorem dX1_makeRound_138 : decode cX1_makeRound 138 = .ok (.invokeinterface 131 1, 5) := by decide +kernel
theorem dX1_makeRound_143 : decode cX1_makeRound 143 = .ok (.if_icmp .ge 152, 3) := dk_162 0 152 (dk_at dksX1_makeRound_6 5 rfl rfl)
theorem dX1_makeRound_146 : decode cX1_makeRound 146 = .ok (.iload_n 2, 1) := dk_28 (dk_at dksX1_makeRound_6 8 rfl rfl)
theorem dX1_makeRound_147 : decode cX1_makeRound 147 = .ok (.ifCond .eq 41, 3) := dk_153 0 41 (dk_at dksX1_makeRound_6 9 rfl rfl)
theorem dX1_makeRound_150 : decode cX1_makeRound 150 = .ok (.aload_n 0, 1) := dk_42 (dk_at dksX1_makeRound_6 12 rfl rfl)
theorem dX1_makeRound_151 : decode cX1_makeRound 151 = .ok (.iload 4, 2) := dk_21 4 (dk_at dksX1_makeRound_6 13 rfl rfl)
theorem dX1_makeRound_153 : decode cX1_makeRound 153 = .ok (.invokevirtual 326, 3) := dk_182 1 70 (dk_at dksX1_makeRound_6 15 rfl rfl)
theorem dX1_makeRound_156 : decode cX1_makeRound 156 = .ok (.ifCond .ne 32, 3) := dk_154 0 32 (dk_at dksX1_makeRound_6 18 rfl rfl)
theorem dX1_makeRound_159 : decode cX1_makeRound 159 = .ok (.aload_n 0, 1) := dk_42 (dk_at dksX1_makeRound_6 21 rfl rfl)
theorem dX1_makeRound_160 : decode cX1_makeRound 160 = .ok (.iload 4, 2) := dk_21 4 (dk_at dksX1_makeRound_6 22 rfl rfl)
theorem dX1_makeRound_162 : decode cX1_makeRound 162 = .ok (.aload_n 1, 1) := dk_43 (dk_at dksX1_makeRound_7 0 rfl rfl)
theorem dX1_makeRound_163 : decode cX1_makeRound 163 = .ok (.getfield 298, 3) := dk_180 1 42 (dk_at dksX1_makeRound_7 1 rfl rfl)
theorem dX1_makeRound_166 : decode cX1_makeRound 166 = .ok (.iload 4, 2) := dk_21 4 (dk_at dksX1_makeRound_7 4 rfl rfl)
theorem dX1_makeRound_168 : decode cX1_makeRound 168 = .ok (.iaload, 1) := dk_46 (dk_at dksX1_makeRound_7 6 rfl rfl)
theorem dX1_makeRound_169 : decode cX1_makeRound 169 = .ok (.aload_n 0, 1) := dk_42 (dk_at dksX1_makeRound_7 7 rfl rfl)
theorem dX1_makeRound_170 : decode cX1_makeRound 170 = .ok (.getfield 86, 3) := dk_180 0 86 (dk_at dksX1_makeRound_7 8 rfl rfl)
theorem dX1_makeRound_173 : decode cX1_makeRound 173 = .ok (.iload 4, 2) := dk_21 4 (dk_at dksX1_makeRound_7 11 rfl rfl)
theorem dX1_makeRound_175 : decode cX1_makeRound 175 = .ok (.iaload, 1) := dk_46 (dk_at dksX1_makeRound_7 13 rfl rfl)
theorem dX1_makeRound_176 : decode cX1_makeRound 176 = .ok (.iconst (-1), 1) := dk_2 (dk_at dksX1_makeRound_7 14 rfl rfl)
theorem dX1_makeRound_177 : decode cX1_makeRound 177 = .ok (.ixor, 1) := dk_130 (dk_at dksX1_makeRound_7 15 rfl rfl)
theorem dX1_makeRound_178 : decode cX1_makeRound 178 = .ok (.iand, 1) := dk_126 (dk_at dksX1_makeRound_7 16 rfl rfl)
theorem dX1_makeRound_179 : decode cX1_makeRound 179 = .ok (.aload_n 1, 1) := dk_43 (dk_at dksX1_makeRound_7 17 rfl rfl)
theorem dX1_makeRound_180 : decode cX1_makeRound 180 = .ok (.getfield 330, 3) := dk_180 1 74 (dk_at dksX1_makeRound_7 18 rfl rfl)
theorem dX1_makeRound_183 : decode cX1_makeRound 183 = .ok (.iconst 1, 1) := dk_4 (dk_at dksX1_makeRound_7 21 rfl rfl)
theorem dX1_makeRound_184 : decode cX1_makeRound 184 = .ok (.iadd, 1) := dk_96 (dk_at dksX1_makeRound_7 22 rfl rfl)
theorem dX1_makeRound_185 : decode cX1_makeRound 185 = .ok (.invokevirtual 361, 3) := dk_182 1 105 (dk_at dksX1_makeRound_8 0 rfl rfl)
theorem dX1_makeRound_188 : decode cX1_makeRound 188 = .ok (.iload_n 3, 1) := dk_29 (dk_at dksX1_makeRound_8 3 rfl rfl)
theorem dX1_makeRound_189 : decode cX1_makeRound 189 = .ok (.aload_n 1, 1) := dk_43 (dk_at dksX1_makeRound_8 4 rfl rfl)
theorem dX1_makeRound_190 : decode cX1_makeRound 190 = .ok (.getfield 298, 3) := dk_180 1 42 (dk_at dksX1_makeRound_8 5 rfl rfl)
theorem dX1_makeRound_193 : decode cX1_makeRound 193 = .ok (.iload 4, 2) := dk_21 4 (dk_at dksX1_makeRound_8 8 rfl rfl)
theorem dX1_makeRound_195 : decode cX1_makeRound 195 = .ok (.iaload, 1) := dk_46 (dk_at dksX1_makeRound_8 10 rfl rfl)
theorem dX1_makeRound_196 : decode cX1_makeRound 196 = .ok (.aload_n 0, 1) := dk_42 (dk_at dksX1_makeRound_8 11 rfl rfl)
theorem dX1_makeRound_197 : decode cX1_makeRound 197 = .ok (.getfield 86, 3) := dk_180 0 86 (dk_at dksX1_makeRound_8 12 rfl rfl)
theorem dX1_makeRound_200 : decode cX1_makeRound 200 = .ok (.iload 4, 2) := dk_21 4 (dk_at dksX1_makeRound_8 15 rfl rfl)
theorem dX1_makeRound_202 : decode cX1_makeRound 202 = .ok (.iaload, 1) := dk_46 (dk_at dksX1_makeRound_8 17 rfl rfl)
theorem dX1_makeRound_203 : decode cX1_makeRound 203 = .ok (.if_icmp .ne 37, 3) := dk_160 0 37 (dk_at dksX1_makeRound_8 18 rfl rfl)
theorem dX1_makeRound_206 : decode cX1_makeRound 206 = .ok (.aload_n 1, 1) := dk_43 (dk_at dksX1_makeRound_8 21 rfl rfl)
theorem dX1_makeRound_207 : decode cX1_makeRound 207 = .ok (.getfield 304, 3) := dk_180 1 48 (dk_at dksX1_makeRound_9 0 rfl rfl)
theorem dX1_makeRound_210 : decode cX1_makeRound 210 = .ok (.iload 4, 2) := dk_21 4 (dk_at dksX1_makeRound_9 3 rfl rfl)
theorem dX1_makeRound_212 : decode cX1_makeRound 212 = .ok (.iaload, 1) := dk_46 (dk_at dksX1_makeRound_9 5 rfl rfl)
theorem dX1_makeRound_213 : decode cX1_makeRound 213 = .ok (.aload_n 0, 1) := dk_42 (dk_at dksX1_makeRound_9 6 rfl rfl)
theorem dX1_makeRound_214 : decode cX1_makeRound 214 = .ok (.getfield 89, 3) := dk_180 0 89 (dk_at dksX1_makeRound_9 7 rfl rfl)
theorem dX1_makeRound_217 : decode cX1_makeRound 217 = .ok (.iload 4, 2) := dk_21 4 (dk_at dksX1_makeRound_9 10 rfl rfl)
theorem dX1_makeRound_219 : decode cX1_makeRound 219 = .ok (.iaload, 1) := dk_46 (dk_at dksX1_makeRound_9 12 rfl rfl)
theorem dX1_makeRound_220 : decode cX1_makeRound 220 = .ok (.if_icmp .ne 20, 3) := dk_160 0 20 (dk_at dksX1_makeRound_9 13 rfl rfl)
theorem dX1_makeRound_223 : decode cX1_makeRound 223 = .ok (.aload_n 1, 1) := dk_43 (dk_at dksX1_makeRound_9 16 rfl rfl)
theorem dX1_makeRound_224 : decode cX1_makeRound 224 = .ok (.getfield 310, 3) := dk_180 1 54 (dk_at dksX1_makeRound_9 17 rfl rfl)
theorem dX1_makeRound_227 : decode cX1_makeRound 227 = .ok (.iload 4, 2) := dk_21 4 (dk_at dksX1_makeRound_9 20 rfl rfl)
theorem dX1_makeRound_229 : decode cX1_makeRound 229 = .ok (.iaload, 1) := dk_46 (dk_at dksX1_makeRound_9 22 rfl rfl)
theorem dX1_makeRound_230 : decode cX1_makeRound 230 = .ok (.aload_n 0, 1) := dk_42 (dk_at dksX1_makeRound_9 23 rfl rfl)
theorem dX1_makeRound_231 : decode cX1_makeRound 231 = .ok (.getfield 92, 3) := dk_180 0 92 (dk_at dksX1_makeRound_10 0 rfl rfl)
theorem dX1_makeRound_234 : decode cX1_makeRound 234 = .ok (.iload 4, 2) := dk_21 4 (dk_at dksX1_makeRound_10 3 rfl rfl)
theorem dX1_makeRound_236 : decode cX1_makeRound 236 = .ok (.iaload, 1) := dk_46 (dk_at dksX1_makeRound_10 5 rfl rfl)
theorem dX1_makeRound_237 : decode cX1_makeRound 237 = .ok (.if_icmp .eq 7, 3) := dk_159 0 7 (dk_at dksX1_makeRound_10 6 rfl rfl)
theorem dX1_makeRound_240 : decode cX1_makeRound 240 = .ok (.iconst 1, 1) := dk_4 (dk_at dksX1_makeRound_10 9 rfl rfl)
theorem dX1_makeRound_241 : decode cX1_makeRound 241 = .ok (.goto 4, 3) := dk_167 0 4 (dk_at dksX1_makeRound_10 10 rfl rfl)
theorem dX1_makeRound_244 : decode cX1_makeRound 244 = .ok (.iconst 0, 1) := dk_3 (dk_at dksX1_makeRound_10 13 rfl rfl)
theorem dX1_makeRound_245 : decode cX1_makeRound 245 = .ok (.ior, 1) := dk_128 (dk_at dksX1_makeRound_10 14 rfl rfl)
theorem dX1_makeRound_246 : decode cX1_makeRound 246 = .ok (.istore_n 3, 1) := dk_62 (dk_at dksX1_makeRound_10 15 rfl rfl)
theorem dX1_makeRound_247 : decode cX1_makeRound 247 = .ok (.aload_n 1, 1) := dk_43 (dk_at dksX1_makeRound_10 16 rfl rfl)
theorem dX1_makeRound_248 : decode cX1_makeRound 248 = .ok (.getfield 298, 3) := dk_180 1 42 (dk_at dksX1_makeRound_10 17 rfl rfl)
theorem dX1_makeRound_251 : decode cX1_makeRound 251 = .ok (.iload 4, 2) := dk_21 4 (dk_at dksX1_makeRound_10 20 rfl rfl)
theorem dX1_makeRound_253 : decode cX1_makeRound 253 = .ok (.aload_n 0, 1) := dk_42 (dk_at dksX1_makeRound_10 22 rfl rfl)
theorem dX1_makeRound_254 : decode cX1_makeRound 254 = .ok (.getfield 86, 3) := dk_180 0 86 (dk_at dksX1_makeRound_11 0 rfl rfl)
theorem dX1_makeRound_257 : decode cX1_makeRound 257 = .ok (.iload 4, 2) := dk_21 4 (dk_at dksX1_makeRound_11 3 rfl rfl)
theorem dX1_makeRound_259 : decode cX1_makeRound 259 = .ok (.iaload, 1) := dk_46 (dk_at dksX1_makeRound_11 5 rfl rfl)
theorem dX1_makeRound_260 : decode cX1_makeRound 260 = .ok (.iastore, 1) := dk_79 (dk_at dksX1_makeRound_11 6 rfl rfl)
theorem dX1_makeRound_261 : decode cX1_makeRound 261 = .ok (.aload_n 1, 1) := dk_43 (dk_at dksX1_makeRound_11 7 rfl rfl)
theorem dX1_makeRound_262 : decode cX1_makeRound 262 = .ok (.getfield 304, 3) := dk_180 1 48 (dk_at dksX1_makeRound_11 8 rfl rfl)
theorem dX1_makeRound_265 : decode cX1_makeRound 265 = .ok (.iload 4, 2) := dk_21 4 (dk_at dksX1_makeRound_11 11 rfl rfl)
theorem dX1_makeRound_267 : decode cX1_makeRound 267 = .ok (.aload_n 0, 1) := dk_42 (dk_at dksX1_makeRound_11 13 rfl rfl)
theorem dX1_makeRound_268 : decode cX1_makeRound 268 = .ok (.getfield 89, 3) := dk_180 0 89 (dk_at dksX1_makeRound_11 14 rfl rfl)
theorem dX1_makeRound_271 : decode cX1_makeRound 271 = .ok (.iload 4, 2) := dk_21 4 (dk_at dksX1_makeRound_11 17 rfl rfl)
theorem dX1_makeRound_273 : decode cX1_makeRound 273 = .ok (.iaload, 1) := dk_46 (dk_at dksX1_makeRound_11 19 rfl rfl)
theorem dX1_makeRound_274 : decode cX1_makeRound 274 = .ok (.iastore, 1) := dk_79 (dk_at dksX1_makeRound_11 20 rfl rfl)
theorem dX1_makeRound_275 : decode cX1_makeRound 275 = .ok (.aload_n 1, 1) := dk_43 (dk_at dksX1_makeRound_11 21 rfl rfl)
theorem dX1_makeRound_276 : decode cX1_makeRound 276 = .ok (.getfield 310, 3) := dk_180 1 54 (dk_at dksX1_makeRound_12 0 rfl rfl)
theorem dX1_makeRound_279 : decode cX1_makeRound 279 = .ok (.iload 4, 2) := dk_21 4 (dk_at dksX1_makeRound_12 3 rfl rfl)
theorem dX1_makeRound_281 : decode cX1_makeRound 281 = .ok (.aload_n 0, 1) := dk_42 (dk_at dksX1_makeRound_12 5 rfl rfl)
theorem dX1_makeRound_282 : decode cX1_makeRound 282 = .ok (.getfield 92, 3) := dk_180 0 92 (dk_at dksX1_makeRound_12 6 rfl rfl)
theorem dX1_makeRound_285 : decode cX1_makeRound 285 = .ok (.iload 4, 2) := dk_21 4 (dk_at dksX1_makeRound_12 9 rfl rfl)
theorem dX1_makeRound_287 : decode cX1_makeRound 287 = .ok (.iaload, 1) := dk_46 (dk_at dksX1_makeRound_12 11 rfl rfl)
theorem dX1_makeRound_288 : decode cX1_makeRound 288 = .ok (.iastore, 1) := dk_79 (dk_at dksX1_makeRound_12 12 rfl rfl)
theorem dX1_makeRound_289 : decode cX1_makeRound 289 = .ok (.iinc 4 1, 3) := dk_132 4 1 (dk_at dksX1_makeRound_12 13 rfl rfl)
theorem dX1_makeRound_292 : decode cX1_makeRound 292 = .ok (.goto (-160), 3) := dk_167 255 96 (dk_at dksX1_makeRound_12 16 rfl rfl)
theorem dX1_makeRound_295 : decode cX1_makeRound 295 = .ok (.iload_n 3, 1) := dk_29 (dk_at dksX1_makeRound_12 19 rfl rfl)
theorem dX1_makeRound_296 : decode cX1_makeRound 296 = .ok (.ireturn, 1) := dk_172 (dk_at dksX1_makeRound_12 20 rfl rfl)
theorem dX1_least_0 : decode cX1_least 0 = .ok (.iload_n 0, 1) := by decide +kernel
theorem dX1_least_1 : decode cX1_least 1 = .ok (.invokestatic 1, 3) := by decide +kernel
theorem dX1_least_4 : decode cX1_least 4 = .ok (.ireturn, 1) := by decide +kernel
def dkwX1_greatest_0 : List UInt8 := [16, 31, 26, 184, 0, 9, 100, 172]
abbrev dktX1_greatest_0 : List UInt8 := dkwX1_greatest_0 ++ []
theorem dksX1_greatest_0 : cX1_greatest.data.toList.drop 0 = dktX1_greatest_0 := by decide +kernel
theorem dX1_greatest_0 : decode cX1_greatest 0 = .ok (.bipush 31, 2) := dk_16 31 (dk_at dksX1_greatest_0 0 rfl rfl)
theorem dX1_greatest_2 : decode cX1_greatest 2 = .ok (.iload_n 0, 1) := dk_26 (dk_at dksX1_greatest_0 2 rfl rfl)
theorem dX1_greatest_3 : decode cX1_greatest 3 = .ok (.invokestatic 9, 3) := dk_184 0 9 (dk_at dksX1_greatest_0 3 rfl rfl)
theorem dX1_greatest_6 : decode cX1_greatest 6 = .ok (.isub, 1) := dk_100 (dk_at dksX1_greatest_0 6 rfl rfl)
theorem dX1_greatest_7 : decode cX1_greatest 7 = .ok (.ireturn, 1) := dk_172 (dk_at dksX1_greatest_0 7 rfl rfl)
def dkwX1_take_6 : List UInt8 := [177]
abbrev dktX1_take_6 : List UInt8 := dkwX1_take_6 ++ []
def dkwX1_take_5 : List UInt8 := [29, 79, 132, 6, 1, 167, 255, 217, 42, 180, 0, 86, 21, 4, 92, 46, 43, 180, 1, 121, 28, 46, 126, 79]
abbrev dktX1_take_5 : List UInt8 := dkwX1_take_5 ++ dktX1_take_6
def dkwX1_take_4 : List UInt8 := [16, 32, 162, 0, 30, 21, 5, 21, 6, 184, 1, 63, 153, 0, 14, 42, 180, 0, 97, 21, 4, 50, 21, 6]
abbrev dktX1_take_4 : List UInt8 := dkwX1_take_4 ++ dktX1_take_5
def dkwX1_take_3 : List UInt8 := [43, 180, 1, 121, 28, 46, 2, 130, 126, 54, 5, 3, 54, 6, 21, 5, 21, 6, 124, 153, 0, 37, 21, 6]
abbrev dktX1_take_3 : List UInt8 := dkwX1_take_3 ++ dktX1_take_4
def dkwX1_take_2 : List UInt8 := [180, 1, 117, 28, 46, 42, 180, 0, 92, 21, 4, 46, 184, 1, 118, 79, 177, 42, 180, 0, 86, 21, 4, 46]
abbrev dktX1_take_2 : List UInt8 := dkwX1_take_2 ++ dktX1_take_3
def dkwX1_take_1 : List UInt8 := [180, 1, 111, 28, 46, 42, 180, 0, 89, 21, 4, 46, 184, 1, 112, 79, 42, 180, 0, 92, 21, 4, 43]
abbrev dktX1_take_1 : List UInt8 := dkwX1_take_1 ++ dktX1_take_2
def dkwX1_take_0 : List UInt8 := [43, 180, 1, 108, 28, 46, 54, 4, 42, 21, 4, 182, 1, 70, 153, 0, 50, 42, 180, 0, 89, 21, 4, 43]
abbrev dktX1_take_0 : List UInt8 := dkwX1_take_0 ++ dktX1_take_1
theorem dksX1_take_0 : cX1_take.data.toList.drop 0 = dktX1_take_0 := by decide +kernel
theorem dksX1_take_1 : cX1_take.data.toList.drop 24 = dktX1_take_1 := dk_seg dksX1_take_0 24 rfl rfl
theorem dksX1_take_2 : cX1_take.data.toList.drop 47 = dktX1_take_2 := dk_seg dksX1_take_1 23 rfl rfl
theorem dksX1_take_3 : cX1_take.data.toList.drop 71 = dktX1_take_3 := dk_seg dksX1_take_2 24 rfl rfl
theorem dksX1_take_4 : cX1_take.data.toList.drop 95 = dktX1_take_4 := dk_seg dksX1_take_3 24 rfl rfl
theorem dksX1_take_5 : cX1_take.data.toList.drop 119 = dktX1_take_5 := dk_seg dksX1_take_4 24 rfl rfl
theorem dksX1_take_6 : cX1_take.data.toList.drop 143 = dktX1_take_6 := dk_seg dksX1_take_5 24 rfl rfl
theorem dX1_take_0 : decode cX1_take 0 = .ok (.aload_n 1, 1) := dk_43 (dk_at dksX1_take_0 0 rfl rfl)
theorem dX1_take_1 : decode cX1_take 1 = .ok (.getfield 364, 3) := dk_180 1 108 (dk_at dksX1_take_0 1 rfl rfl)
theorem dX1_take_4 : decode cX1_take 4 = .ok (.iload_n 2, 1) := dk_28 (dk_at dksX1_take_0 4 rfl rfl)
theorem dX1_take_5 : decode cX1_take 5 = .ok (.iaload, 1) := dk_46 (dk_at dksX1_take_0 5 rfl rfl)
theorem dX1_take_6 : decode cX1_take 6 = .ok (.istore 4, 2) := dk_54 4 (dk_at dksX1_take_0 6 rfl rfl)
theorem dX1_take_8 : decode cX1_take 8 = .ok (.aload_n 0, 1) := dk_42 (dk_at dksX1_take_0 8 rfl rfl)
theorem dX1_take_9 : decode cX1_take 9 = .ok (.iload 4, 2) := dk_21 4 (dk_at dksX1_take_0 9 rfl rfl)
theorem dX1_take_11 : decode cX1_take 11 = .ok (.invokevirtual 326, 3) := dk_182 1 70 (dk_at dksX1_take_0 11 rfl rfl)
theorem dX1_take_14 : decode cX1_take 14 = .ok (.ifCond .eq 50, 3) := dk_153 0 50 (dk_at dksX1_take_0 14 rfl rfl)
theorem dX1_take_17 : decode cX1_take 17 = .ok (.aload_n 0, 1) := dk_42 (dk_at dksX1_take_0 17 rfl rfl)
theorem dX1_take_18 : decode cX1_take 18 = .ok (.getfield 89, 3) := dk_180 0 89 (dk_at dksX1_take_0 18 rfl rfl)
theorem dX1_take_21 : decode cX1_take 21 = .ok (.iload 4, 2) := dk_21 4 (dk_at dksX1_take_0 21 rfl rfl)
theorem dX1_take_23 : decode cX1_take 23 = .ok (.aload_n 1, 1) := dk_43 (dk_at dksX1_take_0 23 rfl rfl)
theorem dX1_take_24 : decode cX1_take 24 = .ok (.getfield 367, 3) := dk_180 1 111 (dk_at dksX1_take_1 0 rfl rfl)
theorem dX1_take_27 : decode cX1_take 27 = .ok (.iload_n 2, 1) := dk_28 (dk_at dksX1_take_1 3 rfl rfl)
theorem dX1_take_28 : decode cX1_take 28 = .ok (.iaload, 1) := dk_46 (dk_at dksX1_take_1 4 rfl rfl)
theorem dX1_take_29 : decode cX1_take 29 = .ok (.aload_n 0, 1) := dk_42 (dk_at dksX1_take_1 5 rfl rfl)
theorem dX1_take_30 : decode cX1_take 30 = .ok (.getfield 89, 3) := dk_180 0 89 (dk_at dksX1_take_1 6 rfl rfl)
theorem dX1_take_33 : decode cX1_take 33 = .ok (.iload 4, 2) := dk_21 4 (dk_at dksX1_take_1 9 rfl rfl)
theorem dX1_take_35 : decode cX1_take 35 = .ok (.iaload, 1) := dk_46 (dk_at dksX1_take_1 11 rfl rfl)
theorem dX1_take_36 : decode cX1_take 36 = .ok (.invokestatic 368, 3) := dk_184 1 112 (dk_at dksX1_take_1 12 rfl rfl)
theorem dX1_take_39 : decode cX1_take 39 = .ok (.iastore, 1) := dk_79 (dk_at dksX1_take_1 15 rfl rfl)
theorem dX1_take_40 : decode cX1_take 40 = .ok (.aload_n 0, 1) := dk_42 (dk_at dksX1_take_1 16 rfl rfl)
theorem dX1_take_41 : decode cX1_take 41 = .ok (.getfield 92, 3) := dk_180 0 92 (dk_at dksX1_take_1 17 rfl rfl)
theorem dX1_take_44 : decode cX1_take 44 = .ok (.iload 4, 2) := dk_21 4 (dk_at dksX1_take_1 20 rfl rfl)
theorem dX1_take_46 : decode cX1_take 46 = .ok (.aload_n 1, 1) := dk_43 (dk_at dksX1_take_1 22 rfl rfl)
theorem dX1_take_47 : decode cX1_take 47 = .ok (.getfield 373, 3) := dk_180 1 117 (dk_at dksX1_take_2 0 rfl rfl)
theorem dX1_take_50 : decode cX1_take 50 = .ok (.iload_n 2, 1) := dk_28 (dk_at dksX1_take_2 3 rfl rfl)
theorem dX1_take_51 : decode cX1_take 51 = .ok (.iaload, 1) := dk_46 (dk_at dksX1_take_2 4 rfl rfl)
theorem dX1_take_52 : decode cX1_take 52 = .ok (.aload_n 0, 1) := dk_42 (dk_at dksX1_take_2 5 rfl rfl)
theorem dX1_take_53 : decode cX1_take 53 = .ok (.getfield 92, 3) := dk_180 0 92 (dk_at dksX1_take_2 6 rfl rfl)
theorem dX1_take_56 : decode cX1_take 56 = .ok (.iload 4, 2) := dk_21 4 (dk_at dksX1_take_2 9 rfl rfl)
theorem dX1_take_58 : decode cX1_take 58 = .ok (.iaload, 1) := dk_46 (dk_at dksX1_take_2 11 rfl rfl)
theorem dX1_take_59 : decode cX1_take 59 = .ok (.invokestatic 374, 3) := dk_184 1 118 (dk_at dksX1_take_2 12 rfl rfl)
theorem dX1_take_62 : decode cX1_take 62 = .ok (.iastore, 1) := dk_79 (dk_at dksX1_take_2 15 rfl rfl)
theorem dX1_take_63 : decode cX1_take 63 = .ok (.return_, 1) := dk_177 (dk_at dksX1_take_2 16 rfl rfl)
theorem dX1_take_64 : decode cX1_take 64 = .ok (.aload_n 0, 1) := dk_42 (dk_at dksX1_take_2 17 rfl rfl)
theorem dX1_take_65 : decode cX1_take 65 = .ok (.getfield 86, 3) := dk_180 0 86 (dk_at dksX1_take_2 18 rfl rfl)
theorem dX1_take_68 : decode cX1_take 68 = .ok (.iload 4, 2) := dk_21 4 (dk_at dksX1_take_2 21 rfl rfl)
theorem dX1_take_70 : decode cX1_take 70 = .ok (.iaload, 1) := dk_46 (dk_at dksX1_take_2 23 rfl rfl)
theorem dX1_take_71 : decode cX1_take 71 = .ok (.aload_n 1, 1) := dk_43 (dk_at dksX1_take_3 0 rfl rfl)
theorem dX1_take_72 : decode cX1_take 72 = .ok (.getfield 377, 3) := dk_180 1 121 (dk_at dksX1_take_3 1 rfl rfl)
theorem dX1_take_75 : decode cX1_take 75 = .ok (.iload_n 2, 1) := dk_28 (dk_at dksX1_take_3 4 rfl rfl)
theorem dX1_take_76 : decode cX1_take 76 = .ok (.iaload, 1) := dk_46 (dk_at dksX1_take_3 5 rfl rfl)
theorem dX1_take_77 : decode cX1_take 77 = .ok (.iconst (-1), 1) := dk_2 (dk_at dksX1_take_3 6 rfl rfl)
theorem dX1_take_78 : decode cX1_take 78 = .ok (.ixor, 1) := dk_130 (dk_at dksX1_take_3 7 rfl rfl)
theorem dX1_take_79 : decode cX1_take 79 = .ok (.iand, 1) := dk_126 (dk_at dksX1_take_3 8 rfl rfl)
theorem dX1_take_80 : decode cX1_take 80 = .ok (.istore 5, 2) := dk_54 5 (dk_at dksX1_take_3 9 rfl rfl)
theorem dX1_take_82 : decode cX1_take 82 = .ok (.iconst 0, 1) := dk_3 (dk_at dksX1_take_3 11 rfl rfl)
theorem dX1_take_83 : decode cX1_take 83 = .ok (.istore 6, 2) := dk_54 6 (dk_at dksX1_take_3 12 rfl rfl)
theorem dX1_take_85 : decode cX1_take 85 = .ok (.iload 5, 2) := dk_21 5 (dk_at dksX1_take_3 14 rfl rfl)
theorem dX1_take_87 : decode cX1_take 87 = .ok (.iload 6, 2) := dk_21 6 (dk_at dksX1_take_3 16 rfl rfl)
theorem dX1_take_89 : decode cX1_take 89 = .ok (.iushr, 1) := dk_124 (dk_at dksX1_take_3 18 rfl rfl)
theorem dX1_take_90 : decode cX1_take 90 = .ok (.ifCond .eq 37, 3) := dk_153 0 37 (dk_at dksX1_take_3 19 rfl rfl)
theorem dX1_take_93 : decode cX1_take 93 = .ok (.iload 6, 2) := dk_21 6 (dk_at dksX1_take_3 22 rfl rfl)
theorem dX1_take_95 : decode cX1_take 95 = .ok (.bipush 32, 2) := dk_16 32 (dk_at dksX1_take_4 0 rfl rfl)
theorem dX1_take_97 : decode cX1_take 97 = .ok (.if_icmp .ge 30, 3) := dk_162 0 30 (dk_at dksX1_take_4 2 rfl rfl)
theorem dX1_take_100 : decode cX1_take 100 = .ok (.iload 5, 2) := dk_21 5 (dk_at dksX1_take_4 5 rfl rfl)
theorem dX1_take_102 : decode cX1_take 102 = .ok (.iload 6, 2) := dk_21 6 (dk_at dksX1_take_4 7 rfl rfl)
theorem dX1_take_104 : decode cX1_take 104 = .ok (.invokestatic 319, 3) := dk_184 1 63 (dk_at dksX1_take_4 9 rfl rfl)
theorem dX1_take_107 : decode cX1_take 107 = .ok (.ifCond .eq 14, 3) := dk_153 0 14 (dk_at dksX1_take_4 12 rfl rfl)
theorem dX1_take_110 : decode cX1_take 110 = .ok (.aload_n 0, 1) := dk_42 (dk_at dksX1_take_4 15 rfl rfl)
theorem dX1_take_111 : decode cX1_take 111 = .ok (.getfield 97, 3) := dk_180 0 97 (dk_at dksX1_take_4 16 rfl rfl)
theorem dX1_take_114 : decode cX1_take 114 = .ok (.iload 4, 2) := dk_21 4 (dk_at dksX1_take_4 19 rfl rfl)
theorem dX1_take_116 : decode cX1_take 116 = .ok (.aaload, 1) := dk_50 (dk_at dksX1_take_4 21 rfl rfl)
theorem dX1_take_117 : decode cX1_take 117 = .ok (.iload 6, 2) := dk_21 6 (dk_at dksX1_take_4 22 rfl rfl)
theorem dX1_take_119 : decode cX1_take 119 = .ok (.iload_n 3, 1) := dk_29 (dk_at dksX1_take_5 0 rfl rfl)
theorem dX1_take_120 : decode cX1_take 120 = .ok (.iastore, 1) := dk_79 (dk_at dksX1_take_5 1 rfl rfl)
theorem dX1_take_121 : decode cX1_take 121 = .ok (.iinc 6 1, 3) := dk_132 6 1 (dk_at dksX1_take_5 2 rfl rfl)
theorem dX1_take_124 : decode cX1_take 124 = .ok (.goto (-39), 3) := dk_167 255 217 (dk_at dksX1_take_5 5 rfl rfl)
theorem dX1_take_127 : decode cX1_take 127 = .ok (.aload_n 0, 1) := dk_42 (dk_at dksX1_take_5 8 rfl rfl)
theorem dX1_take_128 : decode cX1_take 128 = .ok (.getfield 86, 3) := dk_180 0 86 (dk_at dksX1_take_5 9 rfl rfl)
theorem dX1_take_131 : decode cX1_take 131 = .ok (.iload 4, 2) := dk_21 4 (dk_at dksX1_take_5 12 rfl rfl)
theorem dX1_take_133 : decode cX1_take 133 = .ok (.dup2, 1) := dk_92 (dk_at dksX1_take_5 14 rfl rfl)
theorem dX1_take_134 : decode cX1_take 134 = .ok (.iaload, 1) := dk_46 (dk_at dksX1_take_5 15 rfl rfl)
theorem dX1_take_135 : decode cX1_take 135 = .ok (.aload_n 1, 1) := dk_43 (dk_at dksX1_take_5 16 rfl rfl)
theorem dX1_take_136 : decode cX1_take 136 = .ok (.getfield 377, 3) := dk_180 1 121 (dk_at dksX1_take_5 17 rfl rfl)
theorem dX1_take_139 : decode cX1_take 139 = .ok (.iload_n 2, 1) := dk_28 (dk_at dksX1_take_5 20 rfl rfl)
theorem dX1_take_140 : decode cX1_take 140 = .ok (.iaload, 1) := dk_46 (dk_at dksX1_take_5 21 rfl rfl)
theorem dX1_take_141 : decode cX1_take 141 = .ok (.iand, 1) := dk_126 (dk_at dksX1_take_5 22 rfl rfl)
theorem dX1_take_142 : decode cX1_take 142 = .ok (.iastore, 1) := dk_79 (dk_at dksX1_take_5 23 rfl rfl)
theorem dX1_take_143 : decode cX1_take 143 = .ok (.return_, 1) := dk_177 (dk_at dksX1_take_6 0 rfl rfl)
def dkwX1_trace_3 : List UInt8 := [180, 1, 77, 4, 96, 181, 1, 77, 132, 4, 1, 167, 255, 178, 177]
abbrev dktX1_trace_3 : List UInt8 := dkwX1_trace_3 ++ []
def dkwX1_trace_2 : List UInt8 := [21, 4, 79, 42, 180, 0, 80, 42, 180, 1, 77, 42, 180, 0, 97, 27, 50, 21, 4, 46, 79, 42, 89]
abbrev dktX1_trace_2 : List UInt8 := dkwX1_trace_2 ++ dktX1_trace_3
def dkwX1_trace_1 : List UInt8 := [180, 1, 77, 29, 79, 42, 180, 0, 74, 42, 180, 1, 77, 27, 79, 42, 180, 0, 77, 42, 180, 1, 77]
abbrev dktX1_trace_1 : List UInt8 := dkwX1_trace_1 ++ dktX1_trace_2
def dkwX1_trace_0 : List UInt8 := [3, 54, 4, 21, 4, 16, 32, 162, 0, 77, 28, 21, 4, 184, 1, 63, 153, 0, 62, 42, 180, 0, 70, 42]
abbrev dktX1_trace_0 : List UInt8 := dkwX1_trace_0 ++ dktX1_trace_1
theorem dksX1_trace_0 : cX1_trace.data.toList.drop 0 = dktX1_trace_0 := by decide +kernel
theorem dksX1_trace_1 : cX1_trace.data.toList.drop 24 = dktX1_trace_1 := dk_seg dksX1_trace_0 24 rfl rfl
theorem dksX1_trace_2 : cX1_trace.data.toList.drop 47 = dktX1_trace_2 := dk_seg dksX1_trace_1 23 rfl rfl
theorem dksX1_trace_3 : cX1_trace.data.toList.drop 70 = dktX1_trace_3 := dk_seg dksX1_trace_2 23 rfl rfl
theorem dX1_trace_0 : decode cX1_trace 0 = .ok (.iconst 0, 1) := dk_3 (dk_at dksX1_trace_0 0 rfl rfl)
theorem dX1_trace_1 : decode cX1_trace 1 = .ok (.istore 4, 2) := dk_54 4 (dk_at dksX1_trace_0 1 rfl rfl)
theorem dX1_trace_3 : decode cX1_trace 3 = .ok (.iload 4, 2) := dk_21 4 (dk_at dksX1_trace_0 3 rfl rfl)
theorem dX1_trace_5 : decode cX1_trace 5 = .ok (.bipush 32, 2) := dk_16 32 (dk_at dksX1_trace_0 5 rfl rfl)
theorem dX1_trace_7 : decode cX1_trace 7 = .ok (.if_icmp .ge 77, 3) := dk_162 0 77 (dk_at dksX1_trace_0 7 rfl rfl)
theorem dX1_trace_10 : decode cX1_trace 10 = .ok (.iload_n 2, 1) := dk_28 (dk_at dksX1_trace_0 10 rfl rfl)
theorem dX1_trace_11 : decode cX1_trace 11 = .ok (.iload 4, 2) := dk_21 4 (dk_at dksX1_trace_0 11 rfl rfl)
theorem dX1_trace_13 : decode cX1_trace 13 = .ok (.invokestatic 319, 3) := dk_184 1 63 (dk_at dksX1_trace_0 13 rfl rfl)
theorem dX1_trace_16 : decode cX1_trace 16 = .ok (.ifCond .eq 62, 3) := dk_153 0 62 (dk_at dksX1_trace_0 16 rfl rfl)
theorem dX1_trace_19 : decode cX1_trace 19 = .ok (.aload_n 0, 1) := dk_42 (dk_at dksX1_trace_0 19 rfl rfl)
theorem dX1_trace_20 : decode cX1_trace 20 = .ok (.getfield 70, 3) := dk_180 0 70 (dk_at dksX1_trace_0 20 rfl rfl)
theorem dX1_trace_23 : decode cX1_trace 23 = .ok (.aload_n 0, 1) := dk_42 (dk_at dksX1_trace_0 23 rfl rfl)
theorem dX1_trace_24 : decode cX1_trace 24 = .ok (.getfield 333, 3) := dk_180 1 77 (dk_at dksX1_trace_1 0 rfl rfl)
theorem dX1_trace_27 : decode cX1_trace 27 = .ok (.iload_n 3, 1) := dk_29 (dk_at dksX1_trace_1 3 rfl rfl)
theorem dX1_trace_28 : decode cX1_trace 28 = .ok (.iastore, 1) := dk_79 (dk_at dksX1_trace_1 4 rfl rfl)
theorem dX1_trace_29 : decode cX1_trace 29 = .ok (.aload_n 0, 1) := dk_42 (dk_at dksX1_trace_1 5 rfl rfl)
theorem dX1_trace_30 : decode cX1_trace 30 = .ok (.getfield 74, 3) := dk_180 0 74 (dk_at dksX1_trace_1 6 rfl rfl)
theorem dX1_trace_33 : decode cX1_trace 33 = .ok (.aload_n 0, 1) := dk_42 (dk_at dksX1_trace_1 9 rfl rfl)
theorem dX1_trace_34 : decode cX1_trace 34 = .ok (.getfield 333, 3) := dk_180 1 77 (dk_at dksX1_trace_1 10 rfl rfl)
theorem dX1_trace_37 : decode cX1_trace 37 = .ok (.iload_n 1, 1) := dk_27 (dk_at dksX1_trace_1 13 rfl rfl)
theorem dX1_trace_38 : decode cX1_trace 38 = .ok (.iastore, 1) := dk_79 (dk_at dksX1_trace_1 14 rfl rfl)
theorem dX1_trace_39 : decode cX1_trace 39 = .ok (.aload_n 0, 1) := dk_42 (dk_at dksX1_trace_1 15 rfl rfl)
theorem dX1_trace_40 : decode cX1_trace 40 = .ok (.getfield 77, 3) := dk_180 0 77 (dk_at dksX1_trace_1 16 rfl rfl)
theorem dX1_trace_43 : decode cX1_trace 43 = .ok (.aload_n 0, 1) := dk_42 (dk_at dksX1_trace_1 19 rfl rfl)
theorem dX1_trace_44 : decode cX1_trace 44 = .ok (.getfield 333, 3) := dk_180 1 77 (dk_at dksX1_trace_1 20 rfl rfl)
theorem dX1_trace_47 : decode cX1_trace 47 = .ok (.iload 4, 2) := dk_21 4 (dk_at dksX1_trace_2 0 rfl rfl)
theorem dX1_trace_49 : decode cX1_trace 49 = .ok (.iastore, 1) := dk_79 (dk_at dksX1_trace_2 2 rfl rfl)
theorem dX1_trace_50 : decode cX1_trace 50 = .ok (.aload_n 0, 1) := dk_42 (dk_at dksX1_trace_2 3 rfl rfl)
theorem dX1_trace_51 : decode cX1_trace 51 = .ok (.getfield 80, 3) := dk_180 0 80 (dk_at dksX1_trace_2 4 rfl rfl)
theorem dX1_trace_54 : decode cX1_trace 54 = .ok (.aload_n 0, 1) := dk_42 (dk_at dksX1_trace_2 7 rfl rfl)
theorem dX1_trace_55 : decode cX1_trace 55 = .ok (.getfield 333, 3) := dk_180 1 77 (dk_at dksX1_trace_2 8 rfl rfl)
theorem dX1_trace_58 : decode cX1_trace 58 = .ok (.aload_n 0, 1) := dk_42 (dk_at dksX1_trace_2 11 rfl rfl)
theorem dX1_trace_59 : decode cX1_trace 59 = .ok (.getfield 97, 3) := dk_180 0 97 (dk_at dksX1_trace_2 12 rfl rfl)
theorem dX1_trace_62 : decode cX1_trace 62 = .ok (.iload_n 1, 1) := dk_27 (dk_at dksX1_trace_2 15 rfl rfl)
theorem dX1_trace_63 : decode cX1_trace 63 = .ok (.aaload, 1) := dk_50 (dk_at dksX1_trace_2 16 rfl rfl)
theorem dX1_trace_64 : decode cX1_trace 64 = .ok (.iload 4, 2) := dk_21 4 (dk_at dksX1_trace_2 17 rfl rfl)
theorem dX1_trace_66 : decode cX1_trace 66 = .ok (.iaload, 1) := dk_46 (dk_at dksX1_trace_2 19 rfl rfl)
theorem dX1_trace_67 : decode cX1_trace 67 = .ok (.iastore, 1) := dk_79 (dk_at dksX1_trace_2 20 rfl rfl)
theorem dX1_trace_68 : decode cX1_trace 68 = .ok (.aload_n 0, 1) := dk_42 (dk_at dksX1_trace_2 21 rfl rfl)
theorem dX1_trace_69 : decode cX1_trace 69 = .ok (.dup, 1) := dk_89 (dk_at dksX1_trace_2 22 rfl rfl)
theorem dX1_trace_70 : decode cX1_trace 70 = .ok (.getfield 333, 3) := dk_180 1 77 (dk_at dksX1_trace_3 0 rfl rfl)
theorem dX1_trace_73 : decode cX1_trace 73 = .ok (.iconst 1, 1) := dk_4 (dk_at dksX1_trace_3 3 rfl rfl)
theorem dX1_trace_74 : decode cX1_trace 74 = .ok (.iadd, 1) := dk_96 (dk_at dksX1_trace_3 4 rfl rfl)
theorem dX1_trace_75 : decode cX1_trace 75 = .ok (.putfield 333, 3) := dk_181 1 77 (dk_at dksX1_trace_3 5 rfl rfl)
theorem dX1_trace_78 : decode cX1_trace 78 = .ok (.iinc 4 1, 3) := dk_132 4 1 (dk_at dksX1_trace_3 8 rfl rfl)
theorem dX1_trace_81 : decode cX1_trace 81 = .ok (.goto (-78), 3) := dk_167 255 178 (dk_at dksX1_trace_3 11 rfl rfl)
theorem dX1_trace_84 : decode cX1_trace 84 = .ok (.return_, 1) := dk_177 (dk_at dksX1_trace_3 14 rfl rfl)
def dkwX1_rounds_0 : List UInt8 := [42, 182, 1, 132, 180, 1, 74, 172]
abbrev dktX1_rounds_0 : List UInt8 := dkwX1_rounds_0 ++ []
theorem dksX1_rounds_0 : cX1_rounds.data.toList.drop 0 = dktX1_rounds_0 := by decide +kernel
theorem dX1_rounds_0 : decode cX1_rounds 0 = .ok (.aload_n 0, 1) := dk_42 (dk_at dksX1_rounds_0 0 rfl rfl)
theorem dX1_rounds_1 : decode cX1_rounds 1 = .ok (.invokevirtual 388, 3) := dk_182 1 132 (dk_at dksX1_rounds_0 1 rfl rfl)
theorem dX1_rounds_4 : decode cX1_rounds 4 = .ok (.getfield 330, 3) := dk_180 1 74 (dk_at dksX1_rounds_0 4 rfl rfl)
theorem dX1_rounds_7 : decode cX1_rounds 7 = .ok (.ireturn, 1) := dk_172 (dk_at dksX1_rounds_0 7 rfl rfl)
def dkwX1_removals_0 : List UInt8 := [42, 182, 1, 132, 87, 42, 180, 1, 77, 172]
abbrev dktX1_removals_0 : List UInt8 := dkwX1_removals_0 ++ []
theorem dksX1_removals_0 : cX1_removals.data.toList.drop 0 = dktX1_removals_0 := by decide +kernel
theorem dX1_removals_0 : decode cX1_removals 0 = .ok (.aload_n 0, 1) := dk_42 (dk_at dksX1_removals_0 0 rfl rfl)
theorem dX1_removals_1 : decode cX1_removals 1 = .ok (.invokevirtual 388, 3) := dk_182 1 132 (dk_at dksX1_removals_0 1 rfl rfl)
theorem dX1_removals_4 : decode cX1_removals 4 = .ok (.pop, 1) := dk_87 (dk_at dksX1_removals_0 4 rfl rfl)
theorem dX1_removals_5 : decode cX1_removals 5 = .ok (.aload_n 0, 1) := dk_42 (dk_at dksX1_removals_0 5 rfl rfl)
theorem dX1_removals_6 : decode cX1_removals 6 = .ok (.getfield 333, 3) := dk_180 1 77 (dk_at dksX1_removals_0 6 rfl rfl)
theorem dX1_removals_9 : decode cX1_removals 9 = .ok (.ireturn, 1) := dk_172 (dk_at dksX1_removals_0 9 rfl rfl)
theorem dX1_nodes_0 : decode cX1_nodes 0 = .ok (.aload_n 0, 1) := by decide +kernel
theorem dX1_nodes_1 : decode cX1_nodes 1 = .ok (.getfield 430, 3) := by decide +kernel
theorem dX1_nodes_4 : decode cX1_nodes 4 = .ok (.ireturn, 1) := by decide +kernel
theorem dX1_failures_0 : decode cX1_failures 0 = .ok (.aload_n 0, 1) := by decide +kernel
theorem dX1_failures_1 : decode cX1_failures 1 = .ok (.getfield 437, 3) := by decide +kernel
theorem dX1_failures_4 : decode cX1_failures 4 = .ok (.ireturn, 1) := by decide +kernel
def dkwX1_best_0 : List UInt8 := [42, 180, 0, 113, 2, 160, 0, 7, 2, 167, 0, 7, 42, 180, 1, 225, 172]
abbrev dktX1_best_0 : List UInt8 := dkwX1_best_0 ++ []
theorem dksX1_best_0 : cX1_best.data.toList.drop 0 = dktX1_best_0 := by decide +kernel
theorem dX1_best_0 : decode cX1_best 0 = .ok (.aload_n 0, 1) := dk_42 (dk_at dksX1_best_0 0 rfl rfl)
theorem dX1_best_1 : decode cX1_best 1 = .ok (.getfield 113, 3) := dk_180 0 113 (dk_at dksX1_best_0 1 rfl rfl)
theorem dX1_best_4 : decode cX1_best 4 = .ok (.iconst (-1), 1) := dk_2 (dk_at dksX1_best_0 4 rfl rfl)
theorem dX1_best_5 : decode cX1_best 5 = .ok (.if_icmp .ne 7, 3) := dk_160 0 7 (dk_at dksX1_best_0 5 rfl rfl)
theorem dX1_best_8 : decode cX1_best 8 = .ok (.iconst (-1), 1) := dk_2 (dk_at dksX1_best_0 8 rfl rfl)
theorem dX1_best_9 : decode cX1_best 9 = .ok (.goto 7, 3) := dk_167 0 7 (dk_at dksX1_best_0 9 rfl rfl)
theorem dX1_best_12 : decode cX1_best 12 = .ok (.aload_n 0, 1) := dk_42 (dk_at dksX1_best_0 12 rfl rfl)
theorem dX1_best_13 : decode cX1_best 13 = .ok (.getfield 481, 3) := dk_180 1 225 (dk_at dksX1_best_0 13 rfl rfl)
theorem dX1_best_16 : decode cX1_best 16 = .ok (.ireturn, 1) := dk_172 (dk_at dksX1_best_0 16 rfl rfl)
def dkwX1_variable_2 : List UInt8 := [183, 0, 183, 182, 0, 186, 172]
abbrev dktX1_variable_2 : List UInt8 := dkwX1_variable_2 ++ []
def dkwX1_variable_1 : List UInt8 := [154, 0, 11, 28, 153, 0, 7, 4, 167, 0, 4, 3, 184, 0, 154, 42, 187, 0, 145, 89, 27, 28, 3, 3]
abbrev dktX1_variable_1 : List UInt8 := dkwX1_variable_1 ++ dktX1_variable_2
def dkwX1_variable_0 : List UInt8 := [27, 3, 5, 184, 0, 162, 2, 16, 31, 178, 0, 180, 27, 46, 100, 124, 62, 28, 29, 2, 130, 126]
abbrev dktX1_variable_0 : List UInt8 := dkwX1_variable_0 ++ dktX1_variable_1
theorem dksX1_variable_0 : cX1_variable.data.toList.drop 0 = dktX1_variable_0 := by decide +kernel
theorem dksX1_variable_1 : cX1_variable.data.toList.drop 22 = dktX1_variable_1 := dk_seg dksX1_variable_0 22 rfl rfl
theorem dksX1_variable_2 : cX1_variable.data.toList.drop 46 = dktX1_variable_2 := dk_seg dksX1_variable_1 24 rfl rfl
theorem dX1_variable_0 : decode cX1_variable 0 = .ok (.iload_n 1, 1) := dk_27 (dk_at dksX1_variable_0 0 rfl rfl)
theorem dX1_variable_1 : decode cX1_variable 1 = .ok (.iconst 0, 1) := dk_3 (dk_at dksX1_variable_0 1 rfl rfl)
theorem dX1_variable_2 : decode cX1_variable 2 = .ok (.iconst 2, 1) := dk_5 (dk_at dksX1_variable_0 2 rfl rfl)
theorem dX1_variable_3 : decode cX1_variable 3 = .ok (.invokestatic 162, 3) := dk_184 0 162 (dk_at dksX1_variable_0 3 rfl rfl)
theorem dX1_variable_6 : decode cX1_variable 6 = .ok (.iconst (-1), 1) := dk_2 (dk_at dksX1_variable_0 6 rfl rfl)
theorem dX1_variable_7 : decode cX1_variable 7 = .ok (.bipush 31, 2) := dk_16 31 (dk_at dksX1_variable_0 7 rfl rfl)
theorem dX1_variable_9 : decode cX1_variable 9 = .ok (.getstatic 180, 3) := dk_178 0 180 (dk_at dksX1_variable_0 9 rfl rfl)
theorem dX1_variable_12 : decode cX1_variable 12 = .ok (.iload_n 1, 1) := dk_27 (dk_at dksX1_variable_0 12 rfl rfl)
theorem dX1_variable_13 : decode cX1_variable 13 = .ok (.iaload, 1) := dk_46 (dk_at dksX1_variable_0 13 rfl rfl)
theorem dX1_variable_14 : decode cX1_variable 14 = .ok (.isub, 1) := dk_100 (dk_at dksX1_variable_0 14 rfl rfl)
theorem dX1_variable_15 : decode cX1_variable 15 = .ok (.iushr, 1) := dk_124 (dk_at dksX1_variable_0 15 rfl rfl)
theorem dX1_variable_16 : decode cX1_variable 16 = .ok (.istore_n 3, 1) := dk_62 (dk_at dksX1_variable_0 16 rfl rfl)
theorem dX1_variable_17 : decode cX1_variable 17 = .ok (.iload_n 2, 1) := dk_28 (dk_at dksX1_variable_0 17 rfl rfl)
theorem dX1_variable_18 : decode cX1_variable 18 = .ok (.iload_n 3, 1) := dk_29 (dk_at dksX1_variable_0 18 rfl rfl)
theorem dX1_variable_19 : decode cX1_variable 19 = .ok (.iconst (-1), 1) := dk_2 (dk_at dksX1_variable_0 19 rfl rfl)
theorem dX1_variable_20 : decode cX1_variable 20 = .ok (.ixor, 1) := dk_130 (dk_at dksX1_variable_0 20 rfl rfl)
theorem dX1_variable_21 : decode cX1_variable 21 = .ok (.iand, 1) := dk_126 (dk_at dksX1_variable_0 21 rfl rfl)
theorem dX1_variable_22 : decode cX1_variable 22 = .ok (.ifCond .ne 11, 3) := dk_154 0 11 (dk_at dksX1_variable_1 0 rfl rfl)
theorem dX1_variable_25 : decode cX1_variable 25 = .ok (.iload_n 2, 1) := dk_28 (dk_at dksX1_variable_1 3 rfl rfl)
theorem dX1_variable_26 : decode cX1_variable 26 = .ok (.ifCond .eq 7, 3) := dk_153 0 7 (dk_at dksX1_variable_1 4 rfl rfl)
theorem dX1_variable_29 : decode cX1_variable 29 = .ok (.iconst 1, 1) := dk_4 (dk_at dksX1_variable_1 7 rfl rfl)
theorem dX1_variable_30 : decode cX1_variable 30 = .ok (.goto 4, 3) := dk_167 0 4 (dk_at dksX1_variable_1 8 rfl rfl)
theorem dX1_variable_33 : decode cX1_variable 33 = .ok (.iconst 0, 1) := dk_3 (dk_at dksX1_variable_1 11 rfl rfl)
theorem dX1_variable_34 : decode cX1_variable 34 = .ok (.invokestatic 154, 3) := dk_184 0 154 (dk_at dksX1_variable_1 12 rfl rfl)
theorem dX1_variable_37 : decode cX1_variable 37 = .ok (.aload_n 0, 1) := dk_42 (dk_at dksX1_variable_1 15 rfl rfl)
theorem dX1_variable_38 : decode cX1_variable 38 = .ok (.new 145, 3) := dk_187 0 145 (dk_at dksX1_variable_1 16 rfl rfl)
theorem dX1_variable_41 : decode cX1_variable 41 = .ok (.dup, 1) := dk_89 (dk_at dksX1_variable_1 19 rfl rfl)
theorem dX1_variable_42 : decode cX1_variable 42 = .ok (.iload_n 1, 1) := dk_27 (dk_at dksX1_variable_1 20 rfl rfl)
theorem dX1_variable_43 : decode cX1_variable 43 = .ok (.iload_n 2, 1) := dk_28 (dk_at dksX1_variable_1 21 rfl rfl)
theorem dX1_variable_44 : decode cX1_variable 44 = .ok (.iconst 0, 1) := dk_3 (dk_at dksX1_variable_1 22 rfl rfl)
theorem dX1_variable_45 : decode cX1_variable 45 = .ok (.iconst 0, 1) := dk_3 (dk_at dksX1_variable_1 23 rfl rfl)
theorem dX1_variable_46 : decode cX1_variable 46 = .ok (.invokespecial 183, 3) := dk_183 0 183 (dk_at dksX1_variable_2 0 rfl rfl)
theorem dX1_variable_49 : decode cX1_variable 49 = .ok (.invokevirtual 186, 3) := dk_182 0 186 (dk_at dksX1_variable_2 3 rfl rfl)
theorem dX1_variable_52 : decode cX1_variable 52 = .ok (.ireturn, 1) := dk_172 (dk_at dksX1_variable_2 6 rfl rfl)
def dkwX1_check_0 : List UInt8 := [26, 27, 161, 0, 8, 26, 28, 164, 0, 11, 187, 0, 122, 89, 183, 0, 124, 191, 177]
abbrev dktX1_check_0 : List UInt8 := dkwX1_check_0 ++ []
theorem dksX1_check_0 : cX1_check.data.toList.drop 0 = dktX1_check_0 := by decide +kernel
theorem dX1_check_0 : decode cX1_check 0 = .ok (.iload_n 0, 1) := dk_26 (dk_at dksX1_check_0 0 rfl rfl)
theorem dX1_check_1 : decode cX1_check 1 = .ok (.iload_n 1, 1) := dk_27 (dk_at dksX1_check_0 1 rfl rfl)
theorem dX1_check_2 : decode cX1_check 2 = .ok (.if_icmp .lt 8, 3) := dk_161 0 8 (dk_at dksX1_check_0 2 rfl rfl)
theorem dX1_check_5 : decode cX1_check 5 = .ok (.iload_n 0, 1) := dk_26 (dk_at dksX1_check_0 5 rfl rfl)
theorem dX1_check_6 : decode cX1_check 6 = .ok (.iload_n 2, 1) := dk_28 (dk_at dksX1_check_0 6 rfl rfl)
theorem dX1_check_7 : decode cX1_check 7 = .ok (.if_icmp .le 11, 3) := dk_164 0 11 (dk_at dksX1_check_0 7 rfl rfl)
theorem dX1_check_10 : decode cX1_check 10 = .ok (.new 122, 3) := dk_187 0 122 (dk_at dksX1_check_0 10 rfl rfl)
theorem dX1_check_13 : decode cX1_check 13 = .ok (.dup, 1) := dk_89 (dk_at dksX1_check_0 13 rfl rfl)
theorem dX1_check_14 : decode cX1_check 14 = .ok (.invokespecial 124, 3) := dk_183 0 124 (dk_at dksX1_check_0 14 rfl rfl)
theorem dX1_check_17 : decode cX1_check 17 = .ok (.athrow, 1) := dk_191 (dk_at dksX1_check_0 17 rfl rfl)
theorem dX1_check_18 : decode cX1_check 18 = .ok (.return_, 1) := dk_177 (dk_at dksX1_check_0 18 rfl rfl)
def dkwX1_checkArgument_0 : List UInt8 := [26, 154, 0, 11, 187, 0, 122, 89, 183, 0, 124, 191, 177]
abbrev dktX1_checkArgument_0 : List UInt8 := dkwX1_checkArgument_0 ++ []
theorem dksX1_checkArgument_0 : cX1_checkArgument.data.toList.drop 0 = dktX1_checkArgument_0 := by decide +kernel
theorem dX1_checkArgument_0 : decode cX1_checkArgument 0 = .ok (.iload_n 0, 1) := dk_26 (dk_at dksX1_checkArgument_0 0 rfl rfl)
theorem dX1_checkArgument_1 : decode cX1_checkArgument 1 = .ok (.ifCond .ne 11, 3) := dk_154 0 11 (dk_at dksX1_checkArgument_0 1 rfl rfl)
theorem dX1_checkArgument_4 : decode cX1_checkArgument 4 = .ok (.new 122, 3) := dk_187 0 122 (dk_at dksX1_checkArgument_0 4 rfl rfl)
theorem dX1_checkArgument_7 : decode cX1_checkArgument 7 = .ok (.dup, 1) := dk_89 (dk_at dksX1_checkArgument_0 7 rfl rfl)
theorem dX1_checkArgument_8 : decode cX1_checkArgument 8 = .ok (.invokespecial 124, 3) := dk_183 0 124 (dk_at dksX1_checkArgument_0 8 rfl rfl)
theorem dX1_checkArgument_11 : decode cX1_checkArgument 11 = .ok (.athrow, 1) := dk_191 (dk_at dksX1_checkArgument_0 11 rfl rfl)
theorem dX1_checkArgument_12 : decode cX1_checkArgument 12 = .ok (.return_, 1) := dk_177 (dk_at dksX1_checkArgument_0 12 rfl rfl)
def dkwX1_add_2 : List UInt8 := [4, 100, 172]
abbrev dktX1_add_2 : List UInt8 := dkwX1_add_2 ++ []
def dkwX1_add_1 : List UInt8 := [180, 0, 27, 43, 185, 0, 172, 2, 0, 87, 42, 3, 181, 0, 176, 42, 180, 0, 27, 185, 0, 131, 1, 0]
abbrev dktX1_add_1 : List UInt8 := dkwX1_add_1 ++ dktX1_add_2
def dkwX1_add_0 : List UInt8 := [42, 180, 0, 27, 185, 0, 131, 1, 0, 16, 10, 162, 0, 7, 4, 167, 0, 4, 3, 184, 0, 169, 42]
abbrev dktX1_add_0 : List UInt8 := dkwX1_add_0 ++ dktX1_add_1
theorem dksX1_add_0 : cX1_add.data.toList.drop 0 = dktX1_add_0 := by decide +kernel
theorem dksX1_add_1 : cX1_add.data.toList.drop 23 = dktX1_add_1 := dk_seg dksX1_add_0 23 rfl rfl
theorem dksX1_add_2 : cX1_add.data.toList.drop 47 = dktX1_add_2 := dk_seg dksX1_add_1 24 rfl rfl
theorem dX1_add_0 : decode cX1_add 0 = .ok (.aload_n 0, 1) := dk_42 (dk_at dksX1_add_0 0 rfl rfl)
theorem dX1_add_1 : decode cX1_add 1 = .ok (.getfield 27, 3) := dk_180 0 27 (dk_at dksX1_add_0 1 rfl rfl)
theorem dX1_add_4 : decode cX1_add 4 = .ok (.invokeinterface 131 1, 5) := by decide +kernel
theorem dX1_add_9 : decode cX1_add 9 = .ok (.bipush 10, 2) := dk_16 10 (dk_at dksX1_add_0 9 rfl rfl)
theorem dX1_add_11 : decode cX1_add 11 = .ok (.if_icmp .ge 7, 3) := dk_162 0 7 (dk_at dksX1_add_0 11 rfl rfl)
theorem dX1_add_14 : decode cX1_add 14 = .ok (.iconst 1, 1) := dk_4 (dk_at dksX1_add_0 14 rfl rfl)
theorem dX1_add_15 : decode cX1_add 15 = .ok (.goto 4, 3) := dk_167 0 4 (dk_at dksX1_add_0 15 rfl rfl)
theorem dX1_add_18 : decode cX1_add 18 = .ok (.iconst 0, 1) := dk_3 (dk_at dksX1_add_0 18 rfl rfl)
theorem dX1_add_19 : decode cX1_add 19 = .ok (.invokestatic 169, 3) := dk_184 0 169 (dk_at dksX1_add_0 19 rfl rfl)
theorem dX1_add_22 : decode cX1_add 22 = .ok (.aload_n 0, 1) := dk_42 (dk_at dksX1_add_0 22 rfl rfl)
theorem dX1_add_23 : decode cX1_add 23 = .ok (.getfield 27, 3) := dk_180 0 27 (dk_at dksX1_add_1 0 rfl rfl)
theorem dX1_add_26 : decode cX1_add 26 = .ok (.aload_n 1, 1) := dk_43 (dk_at dksX1_add_1 3 rfl rfl)
theorem dX1_add_27 : decode cX1_add 27 = .ok (.invokeinterface 172 2, 5) := by decide +kernel
theorem dX1_add_32 : decode cX1_add 32 = .ok (.pop, 1) := dk_87 (dk_at dksX1_add_1 9 rfl rfl)
theorem dX1_add_33 : decode cX1_add 33 = .ok (.aload_n 0, 1) := dk_42 (dk_at dksX1_add_1 10 rfl rfl)
theorem dX1_add_34 : decode cX1_add 34 = .ok (.iconst 0, 1) := dk_3 (dk_at dksX1_add_1 11 rfl rfl)
theorem dX1_add_35 : decode cX1_add 35 = .ok (.putfield 176, 3) := dk_181 0 176 (dk_at dksX1_add_1 12 rfl rfl)
theorem dX1_add_38 : decode cX1_add 38 = .ok (.aload_n 0, 1) := dk_42 (dk_at dksX1_add_1 15 rfl rfl)
theorem dX1_add_39 : decode cX1_add 39 = .ok (.getfield 27, 3) := dk_180 0 27 (dk_at dksX1_add_1 16 rfl rfl)
theorem dX1_add_42 : decode cX1_add 42 = .ok (.invokeinterface 131 1, 5) := by decide +kernel
theorem dX1_add_47 : decode cX1_add 47 = .ok (.iconst 1, 1) := dk_4 (dk_at dksX1_add_2 0 rfl rfl)
theorem dX1_add_48 : decode cX1_add 48 = .ok (.isub, 1) := dk_100 (dk_at dksX1_add_2 1 rfl rfl)
theorem dX1_add_49 : decode cX1_add 49 = .ok (.ireturn, 1) := dk_172 (dk_at dksX1_add_2 2 rfl rfl)
def dkwX1_checkState_0 : List UInt8 := [26, 154, 0, 11, 187, 0, 125, 89, 183, 0, 127, 191, 177]
abbrev dktX1_checkState_0 : List UInt8 := dkwX1_checkState_0 ++ []
theorem dksX1_checkState_0 : cX1_checkState.data.toList.drop 0 = dktX1_checkState_0 := by decide +kernel
theorem dX1_checkState_0 : decode cX1_checkState 0 = .ok (.iload_n 0, 1) := dk_26 (dk_at dksX1_checkState_0 0 rfl rfl)
theorem dX1_checkState_1 : decode cX1_checkState 1 = .ok (.ifCond .ne 11, 3) := dk_154 0 11 (dk_at dksX1_checkState_0 1 rfl rfl)
theorem dX1_checkState_4 : decode cX1_checkState 4 = .ok (.new 125, 3) := dk_187 0 125 (dk_at dksX1_checkState_0 4 rfl rfl)
theorem dX1_checkState_7 : decode cX1_checkState 7 = .ok (.dup, 1) := dk_89 (dk_at dksX1_checkState_0 7 rfl rfl)
theorem dX1_checkState_8 : decode cX1_checkState 8 = .ok (.invokespecial 127, 3) := dk_183 0 127 (dk_at dksX1_checkState_0 8 rfl rfl)
theorem dX1_checkState_11 : decode cX1_checkState 11 = .ok (.athrow, 1) := dk_191 (dk_at dksX1_checkState_0 11 rfl rfl)
theorem dX1_checkState_12 : decode cX1_checkState 12 = .ok (.return_, 1) := dk_177 (dk_at dksX1_checkState_0 12 rfl rfl)
def dkwX1_ratio_1 : List UInt8 := [183, 0, 183, 182, 0, 186, 172]
abbrev dktX1_ratio_1 : List UInt8 := dkwX1_ratio_1 ++ []
def dkwX1_ratio_0 : List UInt8 := [27, 16, 136, 16, 120, 184, 0, 162, 28, 27, 16, 120, 184, 0, 162, 42, 187, 0, 145, 89, 6, 3, 27, 28]
abbrev dktX1_ratio_0 : List UInt8 := dkwX1_ratio_0 ++ dktX1_ratio_1
theorem dksX1_ratio_0 : cX1_ratio.data.toList.drop 0 = dktX1_ratio_0 := by decide +kernel
theorem dksX1_ratio_1 : cX1_ratio.data.toList.drop 24 = dktX1_ratio_1 := dk_seg dksX1_ratio_0 24 rfl rfl
theorem dX1_ratio_0 : decode cX1_ratio 0 = .ok (.iload_n 1, 1) := dk_27 (dk_at dksX1_ratio_0 0 rfl rfl)
theorem dX1_ratio_1 : decode cX1_ratio 1 = .ok (.bipush (-120), 2) := dk_16 136 (dk_at dksX1_ratio_0 1 rfl rfl)
theorem dX1_ratio_3 : decode cX1_ratio 3 = .ok (.bipush 120, 2) := dk_16 120 (dk_at dksX1_ratio_0 3 rfl rfl)
theorem dX1_ratio_5 : decode cX1_ratio 5 = .ok (.invokestatic 162, 3) := dk_184 0 162 (dk_at dksX1_ratio_0 5 rfl rfl)
theorem dX1_ratio_8 : decode cX1_ratio 8 = .ok (.iload_n 2, 1) := dk_28 (dk_at dksX1_ratio_0 8 rfl rfl)
theorem dX1_ratio_9 : decode cX1_ratio 9 = .ok (.iload_n 1, 1) := dk_27 (dk_at dksX1_ratio_0 9 rfl rfl)
theorem dX1_ratio_10 : decode cX1_ratio 10 = .ok (.bipush 120, 2) := dk_16 120 (dk_at dksX1_ratio_0 10 rfl rfl)
theorem dX1_ratio_12 : decode cX1_ratio 12 = .ok (.invokestatic 162, 3) := dk_184 0 162 (dk_at dksX1_ratio_0 12 rfl rfl)
theorem dX1_ratio_15 : decode cX1_ratio 15 = .ok (.aload_n 0, 1) := dk_42 (dk_at dksX1_ratio_0 15 rfl rfl)
theorem dX1_ratio_16 : decode cX1_ratio 16 = .ok (.new 145, 3) := dk_187 0 145 (dk_at dksX1_ratio_0 16 rfl rfl)
theorem dX1_ratio_19 : decode cX1_ratio 19 = .ok (.dup, 1) := dk_89 (dk_at dksX1_ratio_0 19 rfl rfl)
theorem dX1_ratio_20 : decode cX1_ratio 20 = .ok (.iconst 3, 1) := dk_6 (dk_at dksX1_ratio_0 20 rfl rfl)
theorem dX1_ratio_21 : decode cX1_ratio 21 = .ok (.iconst 0, 1) := dk_3 (dk_at dksX1_ratio_0 21 rfl rfl)
theorem dX1_ratio_22 : decode cX1_ratio 22 = .ok (.iload_n 1, 1) := dk_27 (dk_at dksX1_ratio_0 22 rfl rfl)
theorem dX1_ratio_23 : decode cX1_ratio 23 = .ok (.iload_n 2, 1) := dk_28 (dk_at dksX1_ratio_0 23 rfl rfl)
theorem dX1_ratio_24 : decode cX1_ratio 24 = .ok (.invokespecial 183, 3) := dk_183 0 183 (dk_at dksX1_ratio_1 0 rfl rfl)
theorem dX1_ratio_27 : decode cX1_ratio 27 = .ok (.invokevirtual 186, 3) := dk_182 0 186 (dk_at dksX1_ratio_1 3 rfl rfl)
theorem dX1_ratio_30 : decode cX1_ratio 30 = .ok (.ireturn, 1) := dk_172 (dk_at dksX1_ratio_1 6 rfl rfl)
def dkwX1_name_2 : List UInt8 := [185, 0, 131, 1, 0, 172]
abbrev dktX1_name_2 : List UInt8 := dkwX1_name_2 ++ []
def dkwX1_name_1 : List UInt8 := [3, 184, 0, 169, 42, 180, 0, 34, 27, 184, 0, 189, 185, 0, 172, 2, 0, 87, 42, 180, 0, 34]
abbrev dktX1_name_1 : List UInt8 := dkwX1_name_1 ++ dktX1_name_2
def dkwX1_name_0 : List UInt8 := [42, 27, 182, 0, 158, 87, 42, 180, 0, 34, 185, 0, 131, 1, 0, 16, 6, 162, 0, 7, 4, 167, 0, 4]
abbrev dktX1_name_0 : List UInt8 := dkwX1_name_0 ++ dktX1_name_1
theorem dksX1_name_0 : cX1_name.data.toList.drop 0 = dktX1_name_0 := by decide +kernel
theorem dksX1_name_1 : cX1_name.data.toList.drop 24 = dktX1_name_1 := dk_seg dksX1_name_0 24 rfl rfl
theorem dksX1_name_2 : cX1_name.data.toList.drop 46 = dktX1_name_2 := dk_seg dksX1_name_1 22 rfl rfl
theorem dX1_name_0 : decode cX1_name 0 = .ok (.aload_n 0, 1) := dk_42 (dk_at dksX1_name_0 0 rfl rfl)
theorem dX1_name_1 : decode cX1_name 1 = .ok (.iload_n 1, 1) := dk_27 (dk_at dksX1_name_0 1 rfl rfl)
theorem dX1_name_2 : decode cX1_name 2 = .ok (.invokevirtual 158, 3) := dk_182 0 158 (dk_at dksX1_name_0 2 rfl rfl)
theorem dX1_name_5 : decode cX1_name 5 = .ok (.pop, 1) := dk_87 (dk_at dksX1_name_0 5 rfl rfl)
theorem dX1_name_6 : decode cX1_name 6 = .ok (.aload_n 0, 1) := dk_42 (dk_at dksX1_name_0 6 rfl rfl)
theorem dX1_name_7 : decode cX1_name 7 = .ok (.getfield 34, 3) := dk_180 0 34 (dk_at dksX1_name_0 7 rfl rfl)
theorem dX1_name_10 : decode cX1_name 10 = .ok (.invokeinterface 131 1, 5) := by decide +kernel
theorem dX1_name_15 : decode cX1_name 15 = .ok (.bipush 6, 2) := dk_16 6 (dk_at dksX1_name_0 15 rfl rfl)
theorem dX1_name_17 : decode cX1_name 17 = .ok (.if_icmp .ge 7, 3) := dk_162 0 7 (dk_at dksX1_name_0 17 rfl rfl)
theorem dX1_name_20 : decode cX1_name 20 = .ok (.iconst 1, 1) := dk_4 (dk_at dksX1_name_0 20 rfl rfl)
theorem dX1_name_21 : decode cX1_name 21 = .ok (.goto 4, 3) := dk_167 0 4 (dk_at dksX1_name_0 21 rfl rfl)
theorem dX1_name_24 : decode cX1_name 24 = .ok (.iconst 0, 1) := dk_3 (dk_at dksX1_name_1 0 rfl rfl)
theorem dX1_name_25 : decode cX1_name 25 = .ok (.invokestatic 169, 3) := dk_184 0 169 (dk_at dksX1_name_1 1 rfl rfl)
theorem dX1_name_28 : decode cX1_name 28 = .ok (.aload_n 0, 1) := dk_42 (dk_at dksX1_name_1 4 rfl rfl)
theorem dX1_name_29 : decode cX1_name 29 = .ok (.getfield 34, 3) := dk_180 0 34 (dk_at dksX1_name_1 5 rfl rfl)
theorem dX1_name_32 : decode cX1_name 32 = .ok (.iload_n 1, 1) := dk_27 (dk_at dksX1_name_1 8 rfl rfl)
theorem dX1_name_33 : decode cX1_name 33 = .ok (.invokestatic 189, 3) := dk_184 0 189 (dk_at dksX1_name_1 9 rfl rfl)
theorem dX1_name_36 : decode cX1_name 36 = .ok (.invokeinterface 172 2, 5) := by decide +kernel
theorem dX1_name_41 : decode cX1_name 41 = .ok (.pop, 1) := dk_87 (dk_at dksX1_name_1 17 rfl rfl)
theorem dX1_name_42 : decode cX1_name 42 = .ok (.aload_n 0, 1) := dk_42 (dk_at dksX1_name_1 18 rfl rfl)
theorem dX1_name_43 : decode cX1_name 43 = .ok (.getfield 34, 3) := dk_180 0 34 (dk_at dksX1_name_1 19 rfl rfl)
theorem dX1_name_46 : decode cX1_name 46 = .ok (.invokeinterface 131 1, 5) := by decide +kernel
theorem dX1_name_51 : decode cX1_name 51 = .ok (.ireturn, 1) := dk_172 (dk_at dksX1_name_2 5 rfl rfl)
def dkwX1_variable_2_1 : List UInt8 := [192, 0, 145, 176]
abbrev dktX1_variable_2_1 : List UInt8 := dkwX1_variable_2_1 ++ []
def dkwX1_variable_2_0 : List UInt8 := [27, 42, 180, 0, 27, 185, 0, 131, 1, 0, 184, 0, 137, 42, 180, 0, 27, 27, 185, 0, 141, 2, 0]
abbrev dktX1_variable_2_0 : List UInt8 := dkwX1_variable_2_0 ++ dktX1_variable_2_1
theorem dksX1_variable_2_0 : cX1_variable_2.data.toList.drop 0 = dktX1_variable_2_0 := by decide +kernel
theorem dksX1_variable_2_1 : cX1_variable_2.data.toList.drop 23 = dktX1_variable_2_1 := dk_seg dksX1_variable_2_0 23 rfl rfl
theorem dX1_variable_2_0 : decode cX1_variable_2 0 = .ok (.iload_n 1, 1) := dk_27 (dk_at dksX1_variable_2_0 0 rfl rfl)
theorem dX1_variable_2_1 : decode cX1_variable_2 1 = .ok (.aload_n 0, 1) := dk_42 (dk_at dksX1_variable_2_0 1 rfl rfl)
theorem dX1_variable_2_2 : decode cX1_variable_2 2 = .ok (.getfield 27, 3) := dk_180 0 27 (dk_at dksX1_variable_2_0 2 rfl rfl)
theorem dX1_variable_2_5 : decode cX1_variable_2 5 = .ok (.invokeinterface 131 1, 5) := by decide +kernel
theorem dX1_variable_2_10 : decode cX1_variable_2 10 = .ok (.invokestatic 137, 3) := dk_184 0 137 (dk_at dksX1_variable_2_0 10 rfl rfl)
theorem dX1_variable_2_13 : decode cX1_variable_2 13 = .ok (.aload_n 0, 1) := dk_42 (dk_at dksX1_variable_2_0 13 rfl rfl)
theorem dX1_variable_2_14 : decode cX1_variable_2 14 = .ok (.getfield 27, 3) := dk_180 0 27 (dk_at dksX1_variable_2_0 14 rfl rfl)
theorem dX1_variable_2_17 : decode cX1_variable_2 17 = .ok (.iload_n 1, 1) := dk_27 (dk_at dksX1_variable_2_0 17 rfl rfl)
theorem dX1_variable_2_18 : decode cX1_variable_2 18 = .ok (.invokeinterface 141 2, 5) := by decide +kernel
theorem dX1_variable_2_23 : decode cX1_variable_2 23 = .ok (.checkcast 145, 3) := dk_192 0 145 (dk_at dksX1_variable_2_1 0 rfl rfl)
theorem dX1_variable_2_26 : decode cX1_variable_2 26 = .ok (.areturn, 1) := dk_176 (dk_at dksX1_variable_2_1 3 rfl rfl)
def dkwX1_checkIndex_0 : List UInt8 := [26, 155, 0, 8, 26, 27, 161, 0, 11, 187, 0, 128, 89, 183, 0, 130, 191, 177]
abbrev dktX1_checkIndex_0 : List UInt8 := dkwX1_checkIndex_0 ++ []
theorem dksX1_checkIndex_0 : cX1_checkIndex.data.toList.drop 0 = dktX1_checkIndex_0 := by decide +kernel
theorem dX1_checkIndex_0 : decode cX1_checkIndex 0 = .ok (.iload_n 0, 1) := dk_26 (dk_at dksX1_checkIndex_0 0 rfl rfl)
theorem dX1_checkIndex_1 : decode cX1_checkIndex 1 = .ok (.ifCond .lt 8, 3) := dk_155 0 8 (dk_at dksX1_checkIndex_0 1 rfl rfl)
theorem dX1_checkIndex_4 : decode cX1_checkIndex 4 = .ok (.iload_n 0, 1) := dk_26 (dk_at dksX1_checkIndex_0 4 rfl rfl)
theorem dX1_checkIndex_5 : decode cX1_checkIndex 5 = .ok (.iload_n 1, 1) := dk_27 (dk_at dksX1_checkIndex_0 5 rfl rfl)
theorem dX1_checkIndex_6 : decode cX1_checkIndex 6 = .ok (.if_icmp .lt 11, 3) := dk_161 0 11 (dk_at dksX1_checkIndex_0 6 rfl rfl)
theorem dX1_checkIndex_9 : decode cX1_checkIndex 9 = .ok (.new 128, 3) := dk_187 0 128 (dk_at dksX1_checkIndex_0 9 rfl rfl)
theorem dX1_checkIndex_12 : decode cX1_checkIndex 12 = .ok (.dup, 1) := dk_89 (dk_at dksX1_checkIndex_0 12 rfl rfl)
theorem dX1_checkIndex_13 : decode cX1_checkIndex 13 = .ok (.invokespecial 130, 3) := dk_183 0 130 (dk_at dksX1_checkIndex_0 13 rfl rfl)
theorem dX1_checkIndex_16 : decode cX1_checkIndex 16 = .ok (.athrow, 1) := dk_191 (dk_at dksX1_checkIndex_0 16 rfl rfl)
theorem dX1_checkIndex_17 : decode cX1_checkIndex 17 = .ok (.return_, 1) := dk_177 (dk_at dksX1_checkIndex_0 17 rfl rfl)
def dkwX1_number_2 : List UInt8 := [180, 0, 37, 185, 0, 131, 1, 0, 172]
abbrev dktX1_number_2 : List UInt8 := dkwX1_number_2 ++ []
def dkwX1_number_1 : List UInt8 := [167, 0, 4, 3, 184, 0, 169, 42, 180, 0, 37, 27, 184, 0, 189, 185, 0, 172, 2, 0, 87, 42]
abbrev dktX1_number_1 : List UInt8 := dkwX1_number_1 ++ dktX1_number_2
def dkwX1_number_0 : List UInt8 := [27, 16, 247, 16, 9, 184, 0, 162, 42, 180, 0, 37, 185, 0, 131, 1, 0, 16, 6, 162, 0, 7, 4]
abbrev dktX1_number_0 : List UInt8 := dkwX1_number_0 ++ dktX1_number_1
theorem dksX1_number_0 : cX1_number.data.toList.drop 0 = dktX1_number_0 := by decide +kernel
theorem dksX1_number_1 : cX1_number.data.toList.drop 23 = dktX1_number_1 := dk_seg dksX1_number_0 23 rfl rfl
theorem dksX1_number_2 : cX1_number.data.toList.drop 45 = dktX1_number_2 := dk_seg dksX1_number_1 22 rfl rfl
theorem dX1_number_0 : decode cX1_number 0 = .ok (.iload_n 1, 1) := dk_27 (dk_at dksX1_number_0 0 rfl rfl)
theorem dX1_number_1 : decode cX1_number 1 = .ok (.bipush (-9), 2) := dk_16 247 (dk_at dksX1_number_0 1 rfl rfl)
theorem dX1_number_3 : decode cX1_number 3 = .ok (.bipush 9, 2) := dk_16 9 (dk_at dksX1_number_0 3 rfl rfl)
theorem dX1_number_5 : decode cX1_number 5 = .ok (.invokestatic 162, 3) := dk_184 0 162 (dk_at dksX1_number_0 5 rfl rfl)
theorem dX1_number_8 : decode cX1_number 8 = .ok (.aload_n 0, 1) := dk_42 (dk_at dksX1_number_0 8 rfl rfl)
theorem dX1_number_9 : decode cX1_number 9 = .ok (.getfield 37, 3) := dk_180 0 37 (dk_at dksX1_number_0 9 rfl rfl)
theorem dX1_number_12 : decode cX1_number 12 = .ok (.invokeinterface 131 1, 5) := by decide +kernel
theorem dX1_number_17 : decode cX1_number 17 = .ok (.bipush 6, 2) := dk_16 6 (dk_at dksX1_number_0 17 rfl rfl)
theorem dX1_number_19 : decode cX1_number 19 = .ok (.if_icmp .ge 7, 3) := dk_162 0 7 (dk_at dksX1_number_0 19 rfl rfl)
theorem dX1_number_22 : decode cX1_number 22 = .ok (.iconst 1, 1) := dk_4 (dk_at dksX1_number_0 22 rfl rfl)
theorem dX1_number_23 : decode cX1_number 23 = .ok (.goto 4, 3) := dk_167 0 4 (dk_at dksX1_number_1 0 rfl rfl)
theorem dX1_number_26 : decode cX1_number 26 = .ok (.iconst 0, 1) := dk_3 (dk_at dksX1_number_1 3 rfl rfl)
theorem dX1_number_27 : decode cX1_number 27 = .ok (.invokestatic 169, 3) := dk_184 0 169 (dk_at dksX1_number_1 4 rfl rfl)
theorem dX1_number_30 : decode cX1_number 30 = .ok (.aload_n 0, 1) := dk_42 (dk_at dksX1_number_1 7 rfl rfl)
theorem dX1_number_31 : decode cX1_number 31 = .ok (.getfield 37, 3) := dk_180 0 37 (dk_at dksX1_number_1 8 rfl rfl)
theorem dX1_number_34 : decode cX1_number 34 = .ok (.iload_n 1, 1) := dk_27 (dk_at dksX1_number_1 11 rfl rfl)
theorem dX1_number_35 : decode cX1_number 35 = .ok (.invokestatic 189, 3) := dk_184 0 189 (dk_at dksX1_number_1 12 rfl rfl)
theorem dX1_number_38 : decode cX1_number 38 = .ok (.invokeinterface 172 2, 5) := by decide +kernel
theorem dX1_number_43 : decode cX1_number 43 = .ok (.pop, 1) := dk_87 (dk_at dksX1_number_1 20 rfl rfl)
theorem dX1_number_44 : decode cX1_number 44 = .ok (.aload_n 0, 1) := dk_42 (dk_at dksX1_number_1 21 rfl rfl)
theorem dX1_number_45 : decode cX1_number 45 = .ok (.getfield 37, 3) := dk_180 0 37 (dk_at dksX1_number_2 0 rfl rfl)
theorem dX1_number_48 : decode cX1_number 48 = .ok (.invokeinterface 131 1, 5) := by decide +kernel
theorem dX1_number_53 : decode cX1_number 53 = .ok (.ireturn, 1) := dk_172 (dk_at dksX1_number_2 8 rfl rfl)
def dkwX1_move_3 : List UInt8 := [185, 0, 131, 1, 0, 172]
abbrev dktX1_move_3 : List UInt8 := dkwX1_move_3 ++ []
def dkwX1_move_2 : List UInt8 := [180, 0, 40, 187, 0, 193, 89, 27, 28, 29, 183, 0, 195, 185, 0, 172, 2, 0, 87, 42, 180, 0, 40]
abbrev dktX1_move_2 : List UInt8 := dkwX1_move_2 ++ dktX1_move_3
def dkwX1_move_1 : List UInt8 := [180, 0, 40, 185, 0, 131, 1, 0, 16, 16, 162, 0, 7, 4, 167, 0, 4, 3, 184, 0, 169, 42]
abbrev dktX1_move_1 : List UInt8 := dkwX1_move_1 ++ dktX1_move_2
def dkwX1_move_0 : List UInt8 := [27, 3, 8, 184, 0, 162, 28, 3, 178, 0, 180, 3, 46, 184, 0, 162, 29, 3, 8, 184, 0, 162, 42]
abbrev dktX1_move_0 : List UInt8 := dkwX1_move_0 ++ dktX1_move_1
theorem dksX1_move_0 : cX1_move.data.toList.drop 0 = dktX1_move_0 := by decide +kernel
theorem dksX1_move_1 : cX1_move.data.toList.drop 23 = dktX1_move_1 := dk_seg dksX1_move_0 23 rfl rfl
theorem dksX1_move_2 : cX1_move.data.toList.drop 45 = dktX1_move_2 := dk_seg dksX1_move_1 22 rfl rfl
theorem dksX1_move_3 : cX1_move.data.toList.drop 68 = dktX1_move_3 := dk_seg dksX1_move_2 23 rfl rfl
theorem dX1_move_0 : decode cX1_move 0 = .ok (.iload_n 1, 1) := dk_27 (dk_at dksX1_move_0 0 rfl rfl)
theorem dX1_move_1 : decode cX1_move 1 = .ok (.iconst 0, 1) := dk_3 (dk_at dksX1_move_0 1 rfl rfl)
theorem dX1_move_2 : decode cX1_move 2 = .ok (.iconst 5, 1) := dk_8 (dk_at dksX1_move_0 2 rfl rfl)
theorem dX1_move_3 : decode cX1_move 3 = .ok (.invokestatic 162, 3) := dk_184 0 162 (dk_at dksX1_move_0 3 rfl rfl)
theorem dX1_move_6 : decode cX1_move 6 = .ok (.iload_n 2, 1) := dk_28 (dk_at dksX1_move_0 6 rfl rfl)
theorem dX1_move_7 : decode cX1_move 7 = .ok (.iconst 0, 1) := dk_3 (dk_at dksX1_move_0 7 rfl rfl)
theorem dX1_move_8 : decode cX1_move 8 = .ok (.getstatic 180, 3) := dk_178 0 180 (dk_at dksX1_move_0 8 rfl rfl)
theorem dX1_move_11 : decode cX1_move 11 = .ok (.iconst 0, 1) := dk_3 (dk_at dksX1_move_0 11 rfl rfl)
theorem dX1_move_12 : decode cX1_move 12 = .ok (.iaload, 1) := dk_46 (dk_at dksX1_move_0 12 rfl rfl)
theorem dX1_move_13 : decode cX1_move 13 = .ok (.invokestatic 162, 3) := dk_184 0 162 (dk_at dksX1_move_0 13 rfl rfl)
theorem dX1_move_16 : decode cX1_move 16 = .ok (.iload_n 3, 1) := dk_29 (dk_at dksX1_move_0 16 rfl rfl)
theorem dX1_move_17 : decode cX1_move 17 = .ok (.iconst 0, 1) := dk_3 (dk_at dksX1_move_0 17 rfl rfl)
theorem dX1_move_18 : decode cX1_move 18 = .ok (.iconst 5, 1) := dk_8 (dk_at dksX1_move_0 18 rfl rfl)
theorem dX1_move_19 : decode cX1_move 19 = .ok (.invokestatic 162, 3) := dk_184 0 162 (dk_at dksX1_move_0 19 rfl rfl)
theorem dX1_move_22 : decode cX1_move 22 = .ok (.aload_n 0, 1) := dk_42 (dk_at dksX1_move_0 22 rfl rfl)
theorem dX1_move_23 : decode cX1_move 23 = .ok (.getfield 40, 3) := dk_180 0 40 (dk_at dksX1_move_1 0 rfl rfl)
theorem dX1_move_26 : decode cX1_move 26 = .ok (.invokeinterface 131 1, 5) := by decide +kernel
theorem dX1_move_31 : decode cX1_move 31 = .ok (.bipush 16, 2) := dk_16 16 (dk_at dksX1_move_1 8 rfl rfl)
theorem dX1_move_33 : decode cX1_move 33 = .ok (.if_icmp .ge 7, 3) := dk_162 0 7 (dk_at dksX1_move_1 10 rfl rfl)
theorem dX1_move_36 : decode cX1_move 36 = .ok (.iconst 1, 1) := dk_4 (dk_at dksX1_move_1 13 rfl rfl)
theorem dX1_move_37 : decode cX1_move 37 = .ok (.goto 4, 3) := dk_167 0 4 (dk_at dksX1_move_1 14 rfl rfl)
theorem dX1_move_40 : decode cX1_move 40 = .ok (.iconst 0, 1) := dk_3 (dk_at dksX1_move_1 17 rfl rfl)
theorem dX1_move_41 : decode cX1_move 41 = .ok (.invokestatic 169, 3) := dk_184 0 169 (dk_at dksX1_move_1 18 rfl rfl)
theorem dX1_move_44 : decode cX1_move 44 = .ok (.aload_n 0, 1) := dk_42 (dk_at dksX1_move_1 21 rfl rfl)
theorem dX1_move_45 : decode cX1_move 45 = .ok (.getfield 40, 3) := dk_180 0 40 (dk_at dksX1_move_2 0 rfl rfl)
theorem dX1_move_48 : decode cX1_move 48 = .ok (.new 193, 3) := dk_187 0 193 (dk_at dksX1_move_2 3 rfl rfl)
theorem dX1_move_51 : decode cX1_move 51 = .ok (.dup, 1) := dk_89 (dk_at dksX1_move_2 6 rfl rfl)
theorem dX1_move_52 : decode cX1_move 52 = .ok (.iload_n 1, 1) := dk_27 (dk_at dksX1_move_2 7 rfl rfl)
theorem dX1_move_53 : decode cX1_move 53 = .ok (.iload_n 2, 1) := dk_28 (dk_at dksX1_move_2 8 rfl rfl)
theorem dX1_move_54 : decode cX1_move 54 = .ok (.iload_n 3, 1) := dk_29 (dk_at dksX1_move_2 9 rfl rfl)
theorem dX1_move_55 : decode cX1_move 55 = .ok (.invokespecial 195, 3) := dk_183 0 195 (dk_at dksX1_move_2 10 rfl rfl)
theorem dX1_move_58 : decode cX1_move 58 = .ok (.invokeinterface 172 2, 5) := by decide +kernel
theorem dX1_move_63 : decode cX1_move 63 = .ok (.pop, 1) := dk_87 (dk_at dksX1_move_2 18 rfl rfl)
theorem dX1_move_64 : decode cX1_move 64 = .ok (.aload_n 0, 1) := dk_42 (dk_at dksX1_move_2 19 rfl rfl)
theorem dX1_move_65 : decode cX1_move 65 = .ok (.getfield 40, 3) := dk_180 0 40 (dk_at dksX1_move_2 20 rfl rfl)
theorem dX1_move_68 : decode cX1_move 68 = .ok (.invokeinterface 131 1, 5) := by decide +kernel
theorem dX1_move_73 : decode cX1_move 73 = .ok (.ireturn, 1) := dk_172 (dk_at dksX1_move_3 5 rfl rfl)
def dkwX1_literal_2 : List UInt8 := [42, 180, 0, 43, 185, 0, 131, 1, 0, 172]
abbrev dktX1_literal_2 : List UInt8 := dkwX1_literal_2 ++ []
def dkwX1_literal_1 : List UInt8 := [3, 184, 0, 169, 42, 180, 0, 43, 187, 0, 200, 89, 27, 28, 29, 183, 0, 202, 185, 0, 172, 2, 0, 87]
abbrev dktX1_literal_1 : List UInt8 := dkwX1_literal_1 ++ dktX1_literal_2
def dkwX1_literal_0 : List UInt8 := [42, 27, 28, 182, 0, 197, 42, 180, 0, 43, 185, 0, 131, 1, 0, 16, 6, 162, 0, 7, 4, 167, 0, 4]
abbrev dktX1_literal_0 : List UInt8 := dkwX1_literal_0 ++ dktX1_literal_1
theorem dksX1_literal_0 : cX1_literal.data.toList.drop 0 = dktX1_literal_0 := by decide +kernel
theorem dksX1_literal_1 : cX1_literal.data.toList.drop 24 = dktX1_literal_1 := dk_seg dksX1_literal_0 24 rfl rfl
theorem dksX1_literal_2 : cX1_literal.data.toList.drop 48 = dktX1_literal_2 := dk_seg dksX1_literal_1 24 rfl rfl
theorem dX1_literal_0 : decode cX1_literal 0 = .ok (.aload_n 0, 1) := dk_42 (dk_at dksX1_literal_0 0 rfl rfl)
theorem dX1_literal_1 : decode cX1_literal 1 = .ok (.iload_n 1, 1) := dk_27 (dk_at dksX1_literal_0 1 rfl rfl)
theorem dX1_literal_2 : decode cX1_literal 2 = .ok (.iload_n 2, 1) := dk_28 (dk_at dksX1_literal_0 2 rfl rfl)
theorem dX1_literal_3 : decode cX1_literal 3 = .ok (.invokevirtual 197, 3) := dk_182 0 197 (dk_at dksX1_literal_0 3 rfl rfl)
theorem dX1_literal_6 : decode cX1_literal 6 = .ok (.aload_n 0, 1) := dk_42 (dk_at dksX1_literal_0 6 rfl rfl)
theorem dX1_literal_7 : decode cX1_literal 7 = .ok (.getfield 43, 3) := dk_180 0 43 (dk_at dksX1_literal_0 7 rfl rfl)
theorem dX1_literal_10 : decode cX1_literal 10 = .ok (.invokeinterface 131 1, 5) := by decide +kernel
theorem dX1_literal_15 : decode cX1_literal 15 = .ok (.bipush 6, 2) := dk_16 6 (dk_at dksX1_literal_0 15 rfl rfl)
theorem dX1_literal_17 : decode cX1_literal 17 = .ok (.if_icmp .ge 7, 3) := dk_162 0 7 (dk_at dksX1_literal_0 17 rfl rfl)
theorem dX1_literal_20 : decode cX1_literal 20 = .ok (.iconst 1, 1) := dk_4 (dk_at dksX1_literal_0 20 rfl rfl)
theorem dX1_literal_21 : decode cX1_literal 21 = .ok (.goto 4, 3) := dk_167 0 4 (dk_at dksX1_literal_0 21 rfl rfl)
theorem dX1_literal_24 : decode cX1_literal 24 = .ok (.iconst 0, 1) := dk_3 (dk_at dksX1_literal_1 0 rfl rfl)
theorem dX1_literal_25 : decode cX1_literal 25 = .ok (.invokestatic 169, 3) := dk_184 0 169 (dk_at dksX1_literal_1 1 rfl rfl)
theorem dX1_literal_28 : decode cX1_literal 28 = .ok (.aload_n 0, 1) := dk_42 (dk_at dksX1_literal_1 4 rfl rfl)
theorem dX1_literal_29 : decode cX1_literal 29 = .ok (.getfield 43, 3) := dk_180 0 43 (dk_at dksX1_literal_1 5 rfl rfl)
theorem dX1_literal_32 : decode cX1_literal 32 = .ok (.new 200, 3) := dk_187 0 200 (dk_at dksX1_literal_1 8 rfl rfl)
theorem dX1_literal_35 : decode cX1_literal 35 = .ok (.dup, 1) := dk_89 (dk_at dksX1_literal_1 11 rfl rfl)
theorem dX1_literal_36 : decode cX1_literal 36 = .ok (.iload_n 1, 1) := dk_27 (dk_at dksX1_literal_1 12 rfl rfl)
theorem dX1_literal_37 : decode cX1_literal 37 = .ok (.iload_n 2, 1) := dk_28 (dk_at dksX1_literal_1 13 rfl rfl)
theorem dX1_literal_38 : decode cX1_literal 38 = .ok (.iload_n 3, 1) := dk_29 (dk_at dksX1_literal_1 14 rfl rfl)
theorem dX1_literal_39 : decode cX1_literal 39 = .ok (.invokespecial 202, 3) := dk_183 0 202 (dk_at dksX1_literal_1 15 rfl rfl)
theorem dX1_literal_42 : decode cX1_literal 42 = .ok (.invokeinterface 172 2, 5) := by decide +kernel
theorem dX1_literal_47 : decode cX1_literal 47 = .ok (.pop, 1) := dk_87 (dk_at dksX1_literal_1 23 rfl rfl)
theorem dX1_literal_48 : decode cX1_literal 48 = .ok (.aload_n 0, 1) := dk_42 (dk_at dksX1_literal_2 0 rfl rfl)
theorem dX1_literal_49 : decode cX1_literal 49 = .ok (.getfield 43, 3) := dk_180 0 43 (dk_at dksX1_literal_2 1 rfl rfl)
theorem dX1_literal_52 : decode cX1_literal 52 = .ok (.invokeinterface 131 1, 5) := by decide +kernel
theorem dX1_literal_57 : decode cX1_literal 57 = .ok (.ireturn, 1) := dk_172 (dk_at dksX1_literal_2 9 rfl rfl)
def dkwX1_checkValue_1 : List UInt8 := [177]
abbrev dktX1_checkValue_1 : List UInt8 := dkwX1_checkValue_1 ++ []
def dkwX1_checkValue_0 : List UInt8 := [42, 27, 182, 0, 158, 78, 45, 182, 0, 147, 3, 5, 184, 0, 162, 28, 3, 45, 182, 0, 166, 184, 0, 162]
abbrev dktX1_checkValue_0 : List UInt8 := dkwX1_checkValue_0 ++ dktX1_checkValue_1
theorem dksX1_checkValue_0 : cX1_checkValue.data.toList.drop 0 = dktX1_checkValue_0 := by decide +kernel
theorem dksX1_checkValue_1 : cX1_checkValue.data.toList.drop 24 = dktX1_checkValue_1 := dk_seg dksX1_checkValue_0 24 rfl rfl
theorem dX1_checkValue_0 : decode cX1_checkValue 0 = .ok (.aload_n 0, 1) := dk_42 (dk_at dksX1_checkValue_0 0 rfl rfl)
theorem dX1_checkValue_1 : decode cX1_checkValue 1 = .ok (.iload_n 1, 1) := dk_27 (dk_at dksX1_checkValue_0 1 rfl rfl)
theorem dX1_checkValue_2 : decode cX1_checkValue 2 = .ok (.invokevirtual 158, 3) := dk_182 0 158 (dk_at dksX1_checkValue_0 2 rfl rfl)
theorem dX1_checkValue_5 : decode cX1_checkValue 5 = .ok (.astore_n 3, 1) := dk_78 (dk_at dksX1_checkValue_0 5 rfl rfl)
theorem dX1_checkValue_6 : decode cX1_checkValue 6 = .ok (.aload_n 3, 1) := dk_45 (dk_at dksX1_checkValue_0 6 rfl rfl)
theorem dX1_checkValue_7 : decode cX1_checkValue 7 = .ok (.invokevirtual 147, 3) := dk_182 0 147 (dk_at dksX1_checkValue_0 7 rfl rfl)
theorem dX1_checkValue_10 : decode cX1_checkValue 10 = .ok (.iconst 0, 1) := dk_3 (dk_at dksX1_checkValue_0 10 rfl rfl)
theorem dX1_checkValue_11 : decode cX1_checkValue 11 = .ok (.iconst 2, 1) := dk_5 (dk_at dksX1_checkValue_0 11 rfl rfl)
theorem dX1_checkValue_12 : decode cX1_checkValue 12 = .ok (.invokestatic 162, 3) := dk_184 0 162 (dk_at dksX1_checkValue_0 12 rfl rfl)
theorem dX1_checkValue_15 : decode cX1_checkValue 15 = .ok (.iload_n 2, 1) := dk_28 (dk_at dksX1_checkValue_0 15 rfl rfl)
theorem dX1_checkValue_16 : decode cX1_checkValue 16 = .ok (.iconst 0, 1) := dk_3 (dk_at dksX1_checkValue_0 16 rfl rfl)
theorem dX1_checkValue_17 : decode cX1_checkValue 17 = .ok (.aload_n 3, 1) := dk_45 (dk_at dksX1_checkValue_0 17 rfl rfl)
theorem dX1_checkValue_18 : decode cX1_checkValue 18 = .ok (.invokevirtual 166, 3) := dk_182 0 166 (dk_at dksX1_checkValue_0 18 rfl rfl)
theorem dX1_checkValue_21 : decode cX1_checkValue 21 = .ok (.invokestatic 162, 3) := dk_184 0 162 (dk_at dksX1_checkValue_0 21 rfl rfl)
theorem dX1_checkValue_24 : decode cX1_checkValue 24 = .ok (.return_, 1) := dk_177 (dk_at dksX1_checkValue_1 0 rfl rfl)
def dkwX1_linear_7 : List UInt8 := [184, 0, 169, 42, 187, 0, 219, 89, 45, 25, 4, 25, 5, 27, 28, 183, 0, 221, 182, 0, 224, 172]
abbrev dktX1_linear_7 : List UInt8 := dkwX1_linear_7 ++ []
def dkwX1_linear_6 : List UInt8 := [182, 0, 150, 153, 0, 7, 4, 167, 0, 4, 3, 126, 54, 6, 132, 7, 1, 167, 255, 178, 21, 6]
abbrev dktX1_linear_6 : List UInt8 := dkwX1_linear_6 ++ dktX1_linear_7
def dkwX1_linear_5 : List UInt8 := [25, 5, 21, 7, 51, 154, 0, 25, 42, 45, 21, 7, 185, 0, 141, 2, 0, 192, 0, 2, 182, 0, 209, 3]
abbrev dktX1_linear_5 : List UInt8 := dkwX1_linear_5 ++ dktX1_linear_6
def dkwX1_linear_4 : List UInt8 := [21, 7, 42, 45, 21, 7, 185, 0, 141, 2, 0, 192, 0, 2, 182, 0, 209, 6, 182, 0, 150, 84, 21, 6]
abbrev dktX1_linear_4 : List UInt8 := dkwX1_linear_4 ++ dktX1_linear_5
def dkwX1_linear_3 : List UInt8 := [4, 167, 0, 4, 3, 54, 6, 3, 54, 7, 21, 7, 45, 185, 0, 131, 1, 0, 162, 0, 73, 25, 5]
abbrev dktX1_linear_3 : List UInt8 := dkwX1_linear_3 ++ dktX1_linear_4
def dkwX1_linear_2 : List UInt8 := [185, 0, 205, 1, 0, 154, 0, 23, 45, 185, 0, 131, 1, 0, 25, 4, 185, 0, 131, 1, 0, 160, 0, 7]
abbrev dktX1_linear_2 : List UInt8 := dkwX1_linear_2 ++ dktX1_linear_3
def dkwX1_linear_1 : List UInt8 := [187, 0, 24, 89, 183, 0, 26, 181, 0, 37, 45, 185, 0, 131, 1, 0, 188, 4, 58, 5, 45]
abbrev dktX1_linear_1 : List UInt8 := dkwX1_linear_1 ++ dktX1_linear_2
def dkwX1_linear_0 : List UInt8 := [28, 17, 248, 48, 17, 7, 208, 184, 0, 162, 42, 182, 0, 215, 78, 42, 180, 0, 37, 58, 4, 42]
abbrev dktX1_linear_0 : List UInt8 := dkwX1_linear_0 ++ dktX1_linear_1
theorem dksX1_linear_0 : cX1_linear.data.toList.drop 0 = dktX1_linear_0 := by decide +kernel
theorem dksX1_linear_1 : cX1_linear.data.toList.drop 22 = dktX1_linear_1 := dk_seg dksX1_linear_0 22 rfl rfl
theorem dksX1_linear_2 : cX1_linear.data.toList.drop 43 = dktX1_linear_2 := dk_seg dksX1_linear_1 21 rfl rfl
theorem dksX1_linear_3 : cX1_linear.data.toList.drop 67 = dktX1_linear_3 := dk_seg dksX1_linear_2 24 rfl rfl
theorem dksX1_linear_4 : cX1_linear.data.toList.drop 90 = dktX1_linear_4 := dk_seg dksX1_linear_3 23 rfl rfl
theorem dksX1_linear_5 : cX1_linear.data.toList.drop 114 = dktX1_linear_5 := dk_seg dksX1_linear_4 24 rfl rfl
theorem dksX1_linear_6 : cX1_linear.data.toList.drop 138 = dktX1_linear_6 := dk_seg dksX1_linear_5 24 rfl rfl
theorem dksX1_linear_7 : cX1_linear.data.toList.drop 160 = dktX1_linear_7 := dk_seg dksX1_linear_6 22 rfl rfl
theorem dX1_linear_0 : decode cX1_linear 0 = .ok (.iload_n 2, 1) := dk_28 (dk_at dksX1_linear_0 0 rfl rfl)
theorem dX1_linear_1 : decode cX1_linear 1 = .ok (.sipush (-2000), 3) := dk_17 248 48 (dk_at dksX1_linear_0 1 rfl rfl)
theorem dX1_linear_4 : decode cX1_linear 4 = .ok (.sipush 2000, 3) := dk_17 7 208 (dk_at dksX1_linear_0 4 rfl rfl)
theorem dX1_linear_7 : decode cX1_linear 7 = .ok (.invokestatic 162, 3) := dk_184 0 162 (dk_at dksX1_linear_0 7 rfl rfl)
theorem dX1_linear_10 : decode cX1_linear 10 = .ok (.aload_n 0, 1) := dk_42 (dk_at dksX1_linear_0 10 rfl rfl)
theorem dX1_linear_11 : decode cX1_linear 11 = .ok (.invokevirtual 215, 3) := dk_182 0 215 (dk_at dksX1_linear_0 11 rfl rfl)
theorem dX1_linear_14 : decode cX1_linear 14 = .ok (.astore_n 3, 1) := dk_78 (dk_at dksX1_linear_0 14 rfl rfl)
theorem dX1_linear_15 : decode cX1_linear 15 = .ok (.aload_n 0, 1) := dk_42 (dk_at dksX1_linear_0 15 rfl rfl)
theorem dX1_linear_16 : decode cX1_linear 16 = .ok (.getfield 37, 3) := dk_180 0 37 (dk_at dksX1_linear_0 16 rfl rfl)
theorem dX1_linear_19 : decode cX1_linear 19 = .ok (.astore 4, 2) := dk_58 4 (dk_at dksX1_linear_0 19 rfl rfl)
theorem dX1_linear_21 : decode cX1_linear 21 = .ok (.aload_n 0, 1) := dk_42 (dk_at dksX1_linear_0 21 rfl rfl)
theorem dX1_linear_22 : decode cX1_linear 22 = .ok (.new 24, 3) := dk_187 0 24 (dk_at dksX1_linear_1 0 rfl rfl)
theorem dX1_linear_25 : decode cX1_linear 25 = .ok (.dup, 1) := dk_89 (dk_at dksX1_linear_1 3 rfl rfl)
theorem dX1_linear_26 : decode cX1_linear 26 = .ok (.invokespecial 26, 3) := dk_183 0 26 (dk_at dksX1_linear_1 4 rfl rfl)
theorem dX1_linear_29 : decode cX1_linear 29 = .ok (.putfield 37, 3) := dk_181 0 37 (dk_at dksX1_linear_1 7 rfl rfl)
theorem dX1_linear_32 : decode cX1_linear 32 = .ok (.aload_n 3, 1) := dk_45 (dk_at dksX1_linear_1 10 rfl rfl)
theorem dX1_linear_33 : decode cX1_linear 33 = .ok (.invokeinterface 131 1, 5) := by decide +kernel
theorem dX1_linear_38 : decode cX1_linear 38 = .ok (.newarray .boolean, 2) := dk_188_4 (dk_at dksX1_linear_1 16 rfl rfl)
theorem dX1_linear_40 : decode cX1_linear 40 = .ok (.astore 5, 2) := dk_58 5 (dk_at dksX1_linear_1 18 rfl rfl)
theorem dX1_linear_42 : decode cX1_linear 42 = .ok (.aload_n 3, 1) := dk_45 (dk_at dksX1_linear_1 20 rfl rfl)
theorem dX1_linear_43 : decode cX1_linear 43 = .ok (.invokeinterface 205 1, 5) := by decide +kernel
theorem dX1_linear_48 : decode cX1_linear 48 = .ok (.ifCond .ne 23, 3) := dk_154 0 23 (dk_at dksX1_linear_2 5 rfl rfl)
theorem dX1_linear_51 : decode cX1_linear 51 = .ok (.aload_n 3, 1) := dk_45 (dk_at dksX1_linear_2 8 rfl rfl)
theorem dX1_linear_52 : decode cX1_linear 52 = .ok (.invokeinterface 131 1, 5) := by decide +kernel
theorem dX1_linear_57 : decode cX1_linear 57 = .ok (.aload 4, 2) := dk_25 4 (dk_at dksX1_linear_2 14 rfl rfl)
theorem dX1_linear_59 : decode cX1_linear 59 = .ok (.invokeinterface 131 1, 5) := by decide +kernel
theorem dX1_linear_64 : decode cX1_linear 64 = .ok (.if_icmp .ne 7, 3) := dk_160 0 7 (dk_at dksX1_linear_2 21 rfl rfl)
theorem dX1_linear_67 : decode cX1_linear 67 = .ok (.iconst 1, 1) := dk_4 (dk_at dksX1_linear_3 0 rfl rfl)
theorem dX1_linear_68 : decode cX1_linear 68 = .ok (.goto 4, 3) := dk_167 0 4 (dk_at dksX1_linear_3 1 rfl rfl)
theorem dX1_linear_71 : decode cX1_linear 71 = .ok (.iconst 0, 1) := dk_3 (dk_at dksX1_linear_3 4 rfl rfl)
theorem dX1_linear_72 : decode cX1_linear 72 = .ok (.istore 6, 2) := dk_54 6 (dk_at dksX1_linear_3 5 rfl rfl)
theorem dX1_linear_74 : decode cX1_linear 74 = .ok (.iconst 0, 1) := dk_3 (dk_at dksX1_linear_3 7 rfl rfl)
theorem dX1_linear_75 : decode cX1_linear 75 = .ok (.istore 7, 2) := dk_54 7 (dk_at dksX1_linear_3 8 rfl rfl)
theorem dX1_linear_77 : decode cX1_linear 77 = .ok (.iload 7, 2) := dk_21 7 (dk_at dksX1_linear_3 10 rfl rfl)
theorem dX1_linear_79 : decode cX1_linear 79 = .ok (.aload_n 3, 1) := dk_45 (dk_at dksX1_linear_3 12 rfl rfl)
theorem dX1_linear_80 : decode cX1_linear 80 = .ok (.invokeinterface 131 1, 5) := by decide +kernel
theorem dX1_linear_85 : decode cX1_linear 85 = .ok (.if_icmp .ge 73, 3) := dk_162 0 73 (dk_at dksX1_linear_3 18 rfl rfl)
theorem dX1_linear_88 : decode cX1_linear 88 = .ok (.aload 5, 2) := dk_25 5 (dk_at dksX1_linear_3 21 rfl rfl)
theorem dX1_linear_90 : decode cX1_linear 90 = .ok (.iload 7, 2) := dk_21 7 (dk_at dksX1_linear_4 0 rfl rfl)
theorem dX1_linear_92 : decode cX1_linear 92 = .ok (.aload_n 0, 1) := dk_42 (dk_at dksX1_linear_4 2 rfl rfl)
theorem dX1_linear_93 : decode cX1_linear 93 = .ok (.aload_n 3, 1) := dk_45 (dk_at dksX1_linear_4 3 rfl rfl)
theorem dX1_linear_94 : decode cX1_linear 94 = .ok (.iload 7, 2) := dk_21 7 (dk_at dksX1_linear_4 4 rfl rfl)
theorem dX1_linear_96 : decode cX1_linear 96 = .ok (.invokeinterface 141 2, 5) := by decide +kernel
theorem dX1_linear_101 : decode cX1_linear 101 = .ok (.checkcast 2, 3) := dk_192 0 2 (dk_at dksX1_linear_4 11 rfl rfl)
theorem dX1_linear_104 : decode cX1_linear 104 = .ok (.invokevirtual 209, 3) := dk_182 0 209 (dk_at dksX1_linear_4 14 rfl rfl)
theorem dX1_linear_107 : decode cX1_linear 107 = .ok (.iconst 3, 1) := dk_6 (dk_at dksX1_linear_4 17 rfl rfl)
theorem dX1_linear_108 : decode cX1_linear 108 = .ok (.invokevirtual 150, 3) := dk_182 0 150 (dk_at dksX1_linear_4 18 rfl rfl)
theorem dX1_linear_111 : decode cX1_linear 111 = .ok (.bastore, 1) := dk_84 (dk_at dksX1_linear_4 21 rfl rfl)
theorem dX1_linear_112 : decode cX1_linear 112 = .ok (.iload 6, 2) := dk_21 6 (dk_at dksX1_linear_4 22 rfl rfl)
theorem dX1_linear_114 : decode cX1_linear 114 = .ok (.aload 5, 2) := dk_25 5 (dk_at dksX1_linear_5 0 rfl rfl)
theorem dX1_linear_116 : decode cX1_linear 116 = .ok (.iload 7, 2) := dk_21 7 (dk_at dksX1_linear_5 2 rfl rfl)
theorem dX1_linear_118 : decode cX1_linear 118 = .ok (.baload, 1) := dk_51 (dk_at dksX1_linear_5 4 rfl rfl)
theorem dX1_linear_119 : decode cX1_linear 119 = .ok (.ifCond .ne 25, 3) := dk_154 0 25 (dk_at dksX1_linear_5 5 rfl rfl)
theorem dX1_linear_122 : decode cX1_linear 122 = .ok (.aload_n 0, 1) := dk_42 (dk_at dksX1_linear_5 8 rfl rfl)
theorem dX1_linear_123 : decode cX1_linear 123 = .ok (.aload_n 3, 1) := dk_45 (dk_at dksX1_linear_5 9 rfl rfl)
theorem dX1_linear_124 : decode cX1_linear 124 = .ok (.iload 7, 2) := dk_21 7 (dk_at dksX1_linear_5 10 rfl rfl)
theorem dX1_linear_126 : decode cX1_linear 126 = .ok (.invokeinterface 141 2, 5) := by decide +kernel
theorem dX1_linear_131 : decode cX1_linear 131 = .ok (.checkcast 2, 3) := dk_192 0 2 (dk_at dksX1_linear_5 17 rfl rfl)
theorem dX1_linear_134 : decode cX1_linear 134 = .ok (.invokevirtual 209, 3) := dk_182 0 209 (dk_at dksX1_linear_5 20 rfl rfl)
theorem dX1_linear_137 : decode cX1_linear 137 = .ok (.iconst 0, 1) := dk_3 (dk_at dksX1_linear_5 23 rfl rfl)
theorem dX1_linear_138 : decode cX1_linear 138 = .ok (.invokevirtual 150, 3) := dk_182 0 150 (dk_at dksX1_linear_6 0 rfl rfl)
theorem dX1_linear_141 : decode cX1_linear 141 = .ok (.ifCond .eq 7, 3) := dk_153 0 7 (dk_at dksX1_linear_6 3 rfl rfl)
theorem dX1_linear_144 : decode cX1_linear 144 = .ok (.iconst 1, 1) := dk_4 (dk_at dksX1_linear_6 6 rfl rfl)
theorem dX1_linear_145 : decode cX1_linear 145 = .ok (.goto 4, 3) := dk_167 0 4 (dk_at dksX1_linear_6 7 rfl rfl)
theorem dX1_linear_148 : decode cX1_linear 148 = .ok (.iconst 0, 1) := dk_3 (dk_at dksX1_linear_6 10 rfl rfl)
theorem dX1_linear_149 : decode cX1_linear 149 = .ok (.iand, 1) := dk_126 (dk_at dksX1_linear_6 11 rfl rfl)
theorem dX1_linear_150 : decode cX1_linear 150 = .ok (.istore 6, 2) := dk_54 6 (dk_at dksX1_linear_6 12 rfl rfl)
theorem dX1_linear_152 : decode cX1_linear 152 = .ok (.iinc 7 1, 3) := dk_132 7 1 (dk_at dksX1_linear_6 14 rfl rfl)
theorem dX1_linear_155 : decode cX1_linear 155 = .ok (.goto (-78), 3) := dk_167 255 178 (dk_at dksX1_linear_6 17 rfl rfl)
theorem dX1_linear_158 : decode cX1_linear 158 = .ok (.iload 6, 2) := dk_21 6 (dk_at dksX1_linear_6 20 rfl rfl)
theorem dX1_linear_160 : decode cX1_linear 160 = .ok (.invokestatic 169, 3) := dk_184 0 169 (dk_at dksX1_linear_7 0 rfl rfl)
theorem dX1_linear_163 : decode cX1_linear 163 = .ok (.aload_n 0, 1) := dk_42 (dk_at dksX1_linear_7 3 rfl rfl)
theorem dX1_linear_164 : decode cX1_linear 164 = .ok (.new 219, 3) := dk_187 0 219 (dk_at dksX1_linear_7 4 rfl rfl)
theorem dX1_linear_167 : decode cX1_linear 167 = .ok (.dup, 1) := dk_89 (dk_at dksX1_linear_7 7 rfl rfl)
theorem dX1_linear_168 : decode cX1_linear 168 = .ok (.aload_n 3, 1) := dk_45 (dk_at dksX1_linear_7 8 rfl rfl)
theorem dX1_linear_169 : decode cX1_linear 169 = .ok (.aload 4, 2) := dk_25 4 (dk_at dksX1_linear_7 9 rfl rfl)
theorem dX1_linear_171 : decode cX1_linear 171 = .ok (.aload 5, 2) := dk_25 5 (dk_at dksX1_linear_7 11 rfl rfl)
theorem dX1_linear_173 : decode cX1_linear 173 = .ok (.iload_n 1, 1) := dk_27 (dk_at dksX1_linear_7 13 rfl rfl)
theorem dX1_linear_174 : decode cX1_linear 174 = .ok (.iload_n 2, 1) := dk_28 (dk_at dksX1_linear_7 14 rfl rfl)
theorem dX1_linear_175 : decode cX1_linear 175 = .ok (.invokespecial 221, 3) := dk_183 0 221 (dk_at dksX1_linear_7 15 rfl rfl)
theorem dX1_linear_178 : decode cX1_linear 178 = .ok (.invokevirtual 224, 3) := dk_182 0 224 (dk_at dksX1_linear_7 18 rfl rfl)
theorem dX1_linear_181 : decode cX1_linear 181 = .ok (.ireturn, 1) := dk_172 (dk_at dksX1_linear_7 21 rfl rfl)
def dkwX1_takeNames_0 : List UInt8 := [42, 180, 0, 34, 76, 42, 187, 0, 24, 89, 183, 0, 26, 181, 0, 34, 43, 176]
abbrev dktX1_takeNames_0 : List UInt8 := dkwX1_takeNames_0 ++ []
theorem dksX1_takeNames_0 : cX1_takeNames.data.toList.drop 0 = dktX1_takeNames_0 := by decide +kernel
theorem dX1_takeNames_0 : decode cX1_takeNames 0 = .ok (.aload_n 0, 1) := dk_42 (dk_at dksX1_takeNames_0 0 rfl rfl)
theorem dX1_takeNames_1 : decode cX1_takeNames 1 = .ok (.getfield 34, 3) := dk_180 0 34 (dk_at dksX1_takeNames_0 1 rfl rfl)
theorem dX1_takeNames_4 : decode cX1_takeNames 4 = .ok (.astore_n 1, 1) := dk_76 (dk_at dksX1_takeNames_0 4 rfl rfl)
theorem dX1_takeNames_5 : decode cX1_takeNames 5 = .ok (.aload_n 0, 1) := dk_42 (dk_at dksX1_takeNames_0 5 rfl rfl)
theorem dX1_takeNames_6 : decode cX1_takeNames 6 = .ok (.new 24, 3) := dk_187 0 24 (dk_at dksX1_takeNames_0 6 rfl rfl)
theorem dX1_takeNames_9 : decode cX1_takeNames 9 = .ok (.dup, 1) := dk_89 (dk_at dksX1_takeNames_0 9 rfl rfl)
theorem dX1_takeNames_10 : decode cX1_takeNames 10 = .ok (.invokespecial 26, 3) := dk_183 0 26 (dk_at dksX1_takeNames_0 10 rfl rfl)
theorem dX1_takeNames_13 : decode cX1_takeNames 13 = .ok (.putfield 34, 3) := dk_181 0 34 (dk_at dksX1_takeNames_0 13 rfl rfl)
theorem dX1_takeNames_16 : decode cX1_takeNames 16 = .ok (.aload_n 1, 1) := dk_43 (dk_at dksX1_takeNames_0 16 rfl rfl)
theorem dX1_takeNames_17 : decode cX1_takeNames 17 = .ok (.areturn, 1) := dk_176 (dk_at dksX1_takeNames_0 17 rfl rfl)
def dkwX1_isOf_1 : List UInt8 := [3, 172]
abbrev dktX1_isOf_1 : List UInt8 := dkwX1_isOf_1 ++ []
def dkwX1_isOf_0 : List UInt8 := [42, 180, 0, 27, 27, 185, 0, 141, 2, 0, 192, 0, 145, 182, 0, 147, 28, 160, 0, 7, 4, 167, 0, 4]
abbrev dktX1_isOf_0 : List UInt8 := dkwX1_isOf_0 ++ dktX1_isOf_1
theorem dksX1_isOf_0 : cX1_isOf.data.toList.drop 0 = dktX1_isOf_0 := by decide +kernel
theorem dksX1_isOf_1 : cX1_isOf.data.toList.drop 24 = dktX1_isOf_1 := dk_seg dksX1_isOf_0 24 rfl rfl
theorem dX1_isOf_0 : decode cX1_isOf 0 = .ok (.aload_n 0, 1) := dk_42 (dk_at dksX1_isOf_0 0 rfl rfl)
theorem dX1_isOf_1 : decode cX1_isOf 1 = .ok (.getfield 27, 3) := dk_180 0 27 (dk_at dksX1_isOf_0 1 rfl rfl)
theorem dX1_isOf_4 : decode cX1_isOf 4 = .ok (.iload_n 1, 1) := dk_27 (dk_at dksX1_isOf_0 4 rfl rfl)
theorem dX1_isOf_5 : decode cX1_isOf 5 = .ok (.invokeinterface 141 2, 5) := by decide +kernel
theorem dX1_isOf_10 : decode cX1_isOf 10 = .ok (.checkcast 145, 3) := dk_192 0 145 (dk_at dksX1_isOf_0 10 rfl rfl)
theorem dX1_isOf_13 : decode cX1_isOf 13 = .ok (.invokevirtual 147, 3) := dk_182 0 147 (dk_at dksX1_isOf_0 13 rfl rfl)
theorem dX1_isOf_16 : decode cX1_isOf 16 = .ok (.iload_n 2, 1) := dk_28 (dk_at dksX1_isOf_0 16 rfl rfl)
theorem dX1_isOf_17 : decode cX1_isOf 17 = .ok (.if_icmp .ne 7, 3) := dk_160 0 7 (dk_at dksX1_isOf_0 17 rfl rfl)
theorem dX1_isOf_20 : decode cX1_isOf 20 = .ok (.iconst 1, 1) := dk_4 (dk_at dksX1_isOf_0 20 rfl rfl)
theorem dX1_isOf_21 : decode cX1_isOf 21 = .ok (.goto 4, 3) := dk_167 0 4 (dk_at dksX1_isOf_0 21 rfl rfl)
theorem dX1_isOf_24 : decode cX1_isOf 24 = .ok (.iconst 0, 1) := dk_3 (dk_at dksX1_isOf_1 0 rfl rfl)
theorem dX1_isOf_25 : decode cX1_isOf 25 = .ok (.ireturn, 1) := dk_172 (dk_at dksX1_isOf_1 1 rfl rfl)
def dkwX1_add_2_1 : List UInt8 := [180, 0, 31, 185, 0, 131, 1, 0, 4, 100, 172]
abbrev dktX1_add_2_1 : List UInt8 := dkwX1_add_2_1 ++ []
def dkwX1_add_2_0 : List UInt8 := [42, 182, 0, 212, 184, 0, 169, 42, 180, 0, 31, 43, 185, 0, 172, 2, 0, 87, 42, 3, 181, 0, 176, 42]
abbrev dktX1_add_2_0 : List UInt8 := dkwX1_add_2_0 ++ dktX1_add_2_1
theorem dksX1_add_2_0 : cX1_add_2.data.toList.drop 0 = dktX1_add_2_0 := by decide +kernel
theorem dksX1_add_2_1 : cX1_add_2.data.toList.drop 24 = dktX1_add_2_1 := dk_seg dksX1_add_2_0 24 rfl rfl
theorem dX1_add_2_0 : decode cX1_add_2 0 = .ok (.aload_n 0, 1) := dk_42 (dk_at dksX1_add_2_0 0 rfl rfl)
theorem dX1_add_2_1 : decode cX1_add_2 1 = .ok (.invokevirtual 212, 3) := dk_182 0 212 (dk_at dksX1_add_2_0 1 rfl rfl)
theorem dX1_add_2_4 : decode cX1_add_2 4 = .ok (.invokestatic 169, 3) := dk_184 0 169 (dk_at dksX1_add_2_0 4 rfl rfl)
theorem dX1_add_2_7 : decode cX1_add_2 7 = .ok (.aload_n 0, 1) := dk_42 (dk_at dksX1_add_2_0 7 rfl rfl)
theorem dX1_add_2_8 : decode cX1_add_2 8 = .ok (.getfield 31, 3) := dk_180 0 31 (dk_at dksX1_add_2_0 8 rfl rfl)
theorem dX1_add_2_11 : decode cX1_add_2 11 = .ok (.aload_n 1, 1) := dk_43 (dk_at dksX1_add_2_0 11 rfl rfl)
theorem dX1_add_2_12 : decode cX1_add_2 12 = .ok (.invokeinterface 172 2, 5) := by decide +kernel
theorem dX1_add_2_17 : decode cX1_add_2 17 = .ok (.pop, 1) := dk_87 (dk_at dksX1_add_2_0 17 rfl rfl)
theorem dX1_add_2_18 : decode cX1_add_2 18 = .ok (.aload_n 0, 1) := dk_42 (dk_at dksX1_add_2_0 18 rfl rfl)
theorem dX1_add_2_19 : decode cX1_add_2 19 = .ok (.iconst 0, 1) := dk_3 (dk_at dksX1_add_2_0 19 rfl rfl)
theorem dX1_add_2_20 : decode cX1_add_2 20 = .ok (.putfield 176, 3) := dk_181 0 176 (dk_at dksX1_add_2_0 20 rfl rfl)
theorem dX1_add_2_23 : decode cX1_add_2 23 = .ok (.aload_n 0, 1) := dk_42 (dk_at dksX1_add_2_0 23 rfl rfl)
theorem dX1_add_2_24 : decode cX1_add_2 24 = .ok (.getfield 31, 3) := dk_180 0 31 (dk_at dksX1_add_2_1 0 rfl rfl)
theorem dX1_add_2_27 : decode cX1_add_2 27 = .ok (.invokeinterface 131 1, 5) := by decide +kernel
theorem dX1_add_2_32 : decode cX1_add_2 32 = .ok (.iconst 1, 1) := dk_4 (dk_at dksX1_add_2_1 8 rfl rfl)
theorem dX1_add_2_33 : decode cX1_add_2 33 = .ok (.isub, 1) := dk_100 (dk_at dksX1_add_2_1 9 rfl rfl)
theorem dX1_add_2_34 : decode cX1_add_2 34 = .ok (.ireturn, 1) := dk_172 (dk_at dksX1_add_2_1 10 rfl rfl)
def dkwX1_hasRoom_0 : List UInt8 := [42, 180, 0, 31, 185, 0, 131, 1, 0, 16, 24, 162, 0, 7, 4, 167, 0, 4, 3, 172]
abbrev dktX1_hasRoom_0 : List UInt8 := dkwX1_hasRoom_0 ++ []
theorem dksX1_hasRoom_0 : cX1_hasRoom.data.toList.drop 0 = dktX1_hasRoom_0 := by decide +kernel
theorem dX1_hasRoom_0 : decode cX1_hasRoom 0 = .ok (.aload_n 0, 1) := dk_42 (dk_at dksX1_hasRoom_0 0 rfl rfl)
theorem dX1_hasRoom_1 : decode cX1_hasRoom 1 = .ok (.getfield 31, 3) := dk_180 0 31 (dk_at dksX1_hasRoom_0 1 rfl rfl)
theorem dX1_hasRoom_4 : decode cX1_hasRoom 4 = .ok (.invokeinterface 131 1, 5) := by decide +kernel
theorem dX1_hasRoom_9 : decode cX1_hasRoom 9 = .ok (.bipush 24, 2) := dk_16 24 (dk_at dksX1_hasRoom_0 9 rfl rfl)
theorem dX1_hasRoom_11 : decode cX1_hasRoom 11 = .ok (.if_icmp .ge 7, 3) := dk_162 0 7 (dk_at dksX1_hasRoom_0 11 rfl rfl)
theorem dX1_hasRoom_14 : decode cX1_hasRoom 14 = .ok (.iconst 1, 1) := dk_4 (dk_at dksX1_hasRoom_0 14 rfl rfl)
theorem dX1_hasRoom_15 : decode cX1_hasRoom 15 = .ok (.goto 4, 3) := dk_167 0 4 (dk_at dksX1_hasRoom_0 15 rfl rfl)
theorem dX1_hasRoom_18 : decode cX1_hasRoom 18 = .ok (.iconst 0, 1) := dk_3 (dk_at dksX1_hasRoom_0 18 rfl rfl)
theorem dX1_hasRoom_19 : decode cX1_hasRoom 19 = .ok (.ireturn, 1) := dk_172 (dk_at dksX1_hasRoom_0 19 rfl rfl)
def dkwX1_different_1 : List UInt8 := [182, 0, 224, 172]
abbrev dktX1_different_1 : List UInt8 := dkwX1_different_1 ++ []
def dkwX1_different_0 : List UInt8 := [42, 182, 0, 215, 76, 42, 43, 182, 0, 227, 184, 0, 169, 42, 187, 0, 231, 89, 43, 183, 0, 233]
abbrev dktX1_different_0 : List UInt8 := dkwX1_different_0 ++ dktX1_different_1
theorem dksX1_different_0 : cX1_different.data.toList.drop 0 = dktX1_different_0 := by decide +kernel
theorem dksX1_different_1 : cX1_different.data.toList.drop 22 = dktX1_different_1 := dk_seg dksX1_different_0 22 rfl rfl
theorem dX1_different_0 : decode cX1_different 0 = .ok (.aload_n 0, 1) := dk_42 (dk_at dksX1_different_0 0 rfl rfl)
theorem dX1_different_1 : decode cX1_different 1 = .ok (.invokevirtual 215, 3) := dk_182 0 215 (dk_at dksX1_different_0 1 rfl rfl)
theorem dX1_different_4 : decode cX1_different 4 = .ok (.astore_n 1, 1) := dk_76 (dk_at dksX1_different_0 4 rfl rfl)
theorem dX1_different_5 : decode cX1_different 5 = .ok (.aload_n 0, 1) := dk_42 (dk_at dksX1_different_0 5 rfl rfl)
theorem dX1_different_6 : decode cX1_different 6 = .ok (.aload_n 1, 1) := dk_43 (dk_at dksX1_different_0 6 rfl rfl)
theorem dX1_different_7 : decode cX1_different 7 = .ok (.invokevirtual 227, 3) := dk_182 0 227 (dk_at dksX1_different_0 7 rfl rfl)
theorem dX1_different_10 : decode cX1_different 10 = .ok (.invokestatic 169, 3) := dk_184 0 169 (dk_at dksX1_different_0 10 rfl rfl)
theorem dX1_different_13 : decode cX1_different 13 = .ok (.aload_n 0, 1) := dk_42 (dk_at dksX1_different_0 13 rfl rfl)
theorem dX1_different_14 : decode cX1_different 14 = .ok (.new 231, 3) := dk_187 0 231 (dk_at dksX1_different_0 14 rfl rfl)
theorem dX1_different_17 : decode cX1_different 17 = .ok (.dup, 1) := dk_89 (dk_at dksX1_different_0 17 rfl rfl)
theorem dX1_different_18 : decode cX1_different 18 = .ok (.aload_n 1, 1) := dk_43 (dk_at dksX1_different_0 18 rfl rfl)
theorem dX1_different_19 : decode cX1_different 19 = .ok (.invokespecial 233, 3) := dk_183 0 233 (dk_at dksX1_different_0 19 rfl rfl)
theorem dX1_different_22 : decode cX1_different 22 = .ok (.invokevirtual 224, 3) := dk_182 0 224 (dk_at dksX1_different_1 0 rfl rfl)
theorem dX1_different_25 : decode cX1_different 25 = .ok (.ireturn, 1) := dk_172 (dk_at dksX1_different_1 3 rfl rfl)
def dkwX1_areInts_2 : List UInt8 := [132, 3, 1, 167, 255, 222, 28, 172]
abbrev dktX1_areInts_2 : List UInt8 := dkwX1_areInts_2 ++ []
def dkwX1_areInts_1 : List UInt8 := [162, 0, 30, 28, 42, 43, 29, 185, 0, 141, 2, 0, 192, 0, 2, 182, 0, 209, 3, 182, 0, 150, 126, 61]
abbrev dktX1_areInts_1 : List UInt8 := dkwX1_areInts_1 ++ dktX1_areInts_2
def dkwX1_areInts_0 : List UInt8 := [43, 185, 0, 205, 1, 0, 154, 0, 7, 4, 167, 0, 4, 3, 61, 3, 62, 29, 43, 185, 0, 131, 1, 0]
abbrev dktX1_areInts_0 : List UInt8 := dkwX1_areInts_0 ++ dktX1_areInts_1
theorem dksX1_areInts_0 : cX1_areInts.data.toList.drop 0 = dktX1_areInts_0 := by decide +kernel
theorem dksX1_areInts_1 : cX1_areInts.data.toList.drop 24 = dktX1_areInts_1 := dk_seg dksX1_areInts_0 24 rfl rfl
theorem dksX1_areInts_2 : cX1_areInts.data.toList.drop 48 = dktX1_areInts_2 := dk_seg dksX1_areInts_1 24 rfl rfl
theorem dX1_areInts_0 : decode cX1_areInts 0 = .ok (.aload_n 1, 1) := dk_43 (dk_at dksX1_areInts_0 0 rfl rfl)
theorem dX1_areInts_1 : decode cX1_areInts 1 = .ok (.invokeinterface 205 1, 5) := by decide +kernel
theorem dX1_areInts_6 : decode cX1_areInts 6 = .ok (.ifCond .ne 7, 3) := dk_154 0 7 (dk_at dksX1_areInts_0 6 rfl rfl)
theorem dX1_areInts_9 : decode cX1_areInts 9 = .ok (.iconst 1, 1) := dk_4 (dk_at dksX1_areInts_0 9 rfl rfl)
theorem dX1_areInts_10 : decode cX1_areInts 10 = .ok (.goto 4, 3) := dk_167 0 4 (dk_at dksX1_areInts_0 10 rfl rfl)
theorem dX1_areInts_13 : decode cX1_areInts 13 = .ok (.iconst 0, 1) := dk_3 (dk_at dksX1_areInts_0 13 rfl rfl)
theorem dX1_areInts_14 : decode cX1_areInts 14 = .ok (.istore_n 2, 1) := dk_61 (dk_at dksX1_areInts_0 14 rfl rfl)
theorem dX1_areInts_15 : decode cX1_areInts 15 = .ok (.iconst 0, 1) := dk_3 (dk_at dksX1_areInts_0 15 rfl rfl)
theorem dX1_areInts_16 : decode cX1_areInts 16 = .ok (.istore_n 3, 1) := dk_62 (dk_at dksX1_areInts_0 16 rfl rfl)
theorem dX1_areInts_17 : decode cX1_areInts 17 = .ok (.iload_n 3, 1) := dk_29 (dk_at dksX1_areInts_0 17 rfl rfl)
theorem dX1_areInts_18 : decode cX1_areInts 18 = .ok (.aload_n 1, 1) := dk_43 (dk_at dksX1_areInts_0 18 rfl rfl)
theorem dX1_areInts_19 : decode cX1_areInts 19 = .ok (.invokeinterface 131 1, 5) := by decide +kernel
theorem dX1_areInts_24 : decode cX1_areInts 24 = .ok (.if_icmp .ge 30, 3) := dk_162 0 30 (dk_at dksX1_areInts_1 0 rfl rfl)
theorem dX1_areInts_27 : decode cX1_areInts 27 = .ok (.iload_n 2, 1) := dk_28 (dk_at dksX1_areInts_1 3 rfl rfl)
theorem dX1_areInts_28 : decode cX1_areInts 28 = .ok (.aload_n 0, 1) := dk_42 (dk_at dksX1_areInts_1 4 rfl rfl)
theorem dX1_areInts_29 : decode cX1_areInts 29 = .ok (.aload_n 1, 1) := dk_43 (dk_at dksX1_areInts_1 5 rfl rfl)
theorem dX1_areInts_30 : decode cX1_areInts 30 = .ok (.iload_n 3, 1) := dk_29 (dk_at dksX1_areInts_1 6 rfl rfl)
theorem dX1_areInts_31 : decode cX1_areInts 31 = .ok (.invokeinterface 141 2, 5) := by decide +kernel
theorem dX1_areInts_36 : decode cX1_areInts 36 = .ok (.checkcast 2, 3) := dk_192 0 2 (dk_at dksX1_areInts_1 12 rfl rfl)
theorem dX1_areInts_39 : decode cX1_areInts 39 = .ok (.invokevirtual 209, 3) := dk_182 0 209 (dk_at dksX1_areInts_1 15 rfl rfl)
theorem dX1_areInts_42 : decode cX1_areInts 42 = .ok (.iconst 0, 1) := dk_3 (dk_at dksX1_areInts_1 18 rfl rfl)
theorem dX1_areInts_43 : decode cX1_areInts 43 = .ok (.invokevirtual 150, 3) := dk_182 0 150 (dk_at dksX1_areInts_1 19 rfl rfl)
theorem dX1_areInts_46 : decode cX1_areInts 46 = .ok (.iand, 1) := dk_126 (dk_at dksX1_areInts_1 22 rfl rfl)
theorem dX1_areInts_47 : decode cX1_areInts 47 = .ok (.istore_n 2, 1) := dk_61 (dk_at dksX1_areInts_1 23 rfl rfl)
theorem dX1_areInts_48 : decode cX1_areInts 48 = .ok (.iinc 3 1, 3) := dk_132 3 1 (dk_at dksX1_areInts_2 0 rfl rfl)
theorem dX1_areInts_51 : decode cX1_areInts 51 = .ok (.goto (-34), 3) := dk_167 255 222 (dk_at dksX1_areInts_2 3 rfl rfl)
theorem dX1_areInts_54 : decode cX1_areInts 54 = .ok (.iload_n 2, 1) := dk_28 (dk_at dksX1_areInts_2 6 rfl rfl)
theorem dX1_areInts_55 : decode cX1_areInts 55 = .ok (.ireturn, 1) := dk_172 (dk_at dksX1_areInts_2 7 rfl rfl)
def dkwX1_order_1 : List UInt8 := [182, 0, 224, 172]
abbrev dktX1_order_1 : List UInt8 := dkwX1_order_1 ++ []
def dkwX1_order_0 : List UInt8 := [42, 182, 0, 215, 76, 42, 43, 182, 0, 227, 184, 0, 169, 42, 187, 0, 236, 89, 43, 183, 0, 238]
abbrev dktX1_order_0 : List UInt8 := dkwX1_order_0 ++ dktX1_order_1
theorem dksX1_order_0 : cX1_order.data.toList.drop 0 = dktX1_order_0 := by decide +kernel
theorem dksX1_order_1 : cX1_order.data.toList.drop 22 = dktX1_order_1 := dk_seg dksX1_order_0 22 rfl rfl
theorem dX1_order_0 : decode cX1_order 0 = .ok (.aload_n 0, 1) := dk_42 (dk_at dksX1_order_0 0 rfl rfl)
theorem dX1_order_1 : decode cX1_order 1 = .ok (.invokevirtual 215, 3) := dk_182 0 215 (dk_at dksX1_order_0 1 rfl rfl)
theorem dX1_order_4 : decode cX1_order 4 = .ok (.astore_n 1, 1) := dk_76 (dk_at dksX1_order_0 4 rfl rfl)
theorem dX1_order_5 : decode cX1_order 5 = .ok (.aload_n 0, 1) := dk_42 (dk_at dksX1_order_0 5 rfl rfl)
theorem dX1_order_6 : decode cX1_order 6 = .ok (.aload_n 1, 1) := dk_43 (dk_at dksX1_order_0 6 rfl rfl)
theorem dX1_order_7 : decode cX1_order 7 = .ok (.invokevirtual 227, 3) := dk_182 0 227 (dk_at dksX1_order_0 7 rfl rfl)
theorem dX1_order_10 : decode cX1_order 10 = .ok (.invokestatic 169, 3) := dk_184 0 169 (dk_at dksX1_order_0 10 rfl rfl)
theorem dX1_order_13 : decode cX1_order 13 = .ok (.aload_n 0, 1) := dk_42 (dk_at dksX1_order_0 13 rfl rfl)
theorem dX1_order_14 : decode cX1_order 14 = .ok (.new 236, 3) := dk_187 0 236 (dk_at dksX1_order_0 14 rfl rfl)
theorem dX1_order_17 : decode cX1_order 17 = .ok (.dup, 1) := dk_89 (dk_at dksX1_order_0 17 rfl rfl)
theorem dX1_order_18 : decode cX1_order 18 = .ok (.aload_n 1, 1) := dk_43 (dk_at dksX1_order_0 18 rfl rfl)
theorem dX1_order_19 : decode cX1_order 19 = .ok (.invokespecial 238, 3) := dk_183 0 238 (dk_at dksX1_order_0 19 rfl rfl)
theorem dX1_order_22 : decode cX1_order 22 = .ok (.invokevirtual 224, 3) := dk_182 0 224 (dk_at dksX1_order_1 0 rfl rfl)
theorem dX1_order_25 : decode cX1_order 25 = .ok (.ireturn, 1) := dk_172 (dk_at dksX1_order_1 3 rfl rfl)
def dkwX1_regular_2 : List UInt8 := [183, 0, 241, 182, 0, 224, 172]
abbrev dktX1_regular_2 : List UInt8 := dkwX1_regular_2 ++ []
def dkwX1_regular_1 : List UInt8 := [183, 0, 26, 181, 0, 40, 42, 44, 182, 0, 227, 184, 0, 169, 42, 187, 0, 239, 89, 44, 45, 27]
abbrev dktX1_regular_1 : List UInt8 := dkwX1_regular_1 ++ dktX1_regular_2
def dkwX1_regular_0 : List UInt8 := [27, 3, 16, 63, 184, 0, 162, 42, 182, 0, 215, 77, 42, 180, 0, 40, 78, 42, 187, 0, 24, 89]
abbrev dktX1_regular_0 : List UInt8 := dkwX1_regular_0 ++ dktX1_regular_1
theorem dksX1_regular_0 : cX1_regular.data.toList.drop 0 = dktX1_regular_0 := by decide +kernel
theorem dksX1_regular_1 : cX1_regular.data.toList.drop 22 = dktX1_regular_1 := dk_seg dksX1_regular_0 22 rfl rfl
theorem dksX1_regular_2 : cX1_regular.data.toList.drop 44 = dktX1_regular_2 := dk_seg dksX1_regular_1 22 rfl rfl
theorem dX1_regular_0 : decode cX1_regular 0 = .ok (.iload_n 1, 1) := dk_27 (dk_at dksX1_regular_0 0 rfl rfl)
theorem dX1_regular_1 : decode cX1_regular 1 = .ok (.iconst 0, 1) := dk_3 (dk_at dksX1_regular_0 1 rfl rfl)
theorem dX1_regular_2 : decode cX1_regular 2 = .ok (.bipush 63, 2) := dk_16 63 (dk_at dksX1_regular_0 2 rfl rfl)
theorem dX1_regular_4 : decode cX1_regular 4 = .ok (.invokestatic 162, 3) := dk_184 0 162 (dk_at dksX1_regular_0 4 rfl rfl)
theorem dX1_regular_7 : decode cX1_regular 7 = .ok (.aload_n 0, 1) := dk_42 (dk_at dksX1_regular_0 7 rfl rfl)
theorem dX1_regular_8 : decode cX1_regular 8 = .ok (.invokevirtual 215, 3) := dk_182 0 215 (dk_at dksX1_regular_0 8 rfl rfl)
theorem dX1_regular_11 : decode cX1_regular 11 = .ok (.astore_n 2, 1) := dk_77 (dk_at dksX1_regular_0 11 rfl rfl)
theorem dX1_regular_12 : decode cX1_regular 12 = .ok (.aload_n 0, 1) := dk_42 (dk_at dksX1_regular_0 12 rfl rfl)
theorem dX1_regular_13 : decode cX1_regular 13 = .ok (.getfield 40, 3) := dk_180 0 40 (dk_at dksX1_regular_0 13 rfl rfl)
theorem dX1_regular_16 : decode cX1_regular 16 = .ok (.astore_n 3, 1) := dk_78 (dk_at dksX1_regular_0 16 rfl rfl)
theorem dX1_regular_17 : decode cX1_regular 17 = .ok (.aload_n 0, 1) := dk_42 (dk_at dksX1_regular_0 17 rfl rfl)
theorem dX1_regular_18 : decode cX1_regular 18 = .ok (.new 24, 3) := dk_187 0 24 (dk_at dksX1_regular_0 18 rfl rfl)
theorem dX1_regular_21 : decode cX1_regular 21 = .ok (.dup, 1) := dk_89 (dk_at dksX1_regular_0 21 rfl rfl)
theorem dX1_regular_22 : decode cX1_regular 22 = .ok (.invokespecial 26, 3) := dk_183 0 26 (dk_at dksX1_regular_1 0 rfl rfl)
theorem dX1_regular_25 : decode cX1_regular 25 = .ok (.putfield 40, 3) := dk_181 0 40 (dk_at dksX1_regular_1 3 rfl rfl)
theorem dX1_regular_28 : decode cX1_regular 28 = .ok (.aload_n 0, 1) := dk_42 (dk_at dksX1_regular_1 6 rfl rfl)
theorem dX1_regular_29 : decode cX1_regular 29 = .ok (.aload_n 2, 1) := dk_44 (dk_at dksX1_regular_1 7 rfl rfl)
theorem dX1_regular_30 : decode cX1_regular 30 = .ok (.invokevirtual 227, 3) := dk_182 0 227 (dk_at dksX1_regular_1 8 rfl rfl)
theorem dX1_regular_33 : decode cX1_regular 33 = .ok (.invokestatic 169, 3) := dk_184 0 169 (dk_at dksX1_regular_1 11 rfl rfl)
theorem dX1_regular_36 : decode cX1_regular 36 = .ok (.aload_n 0, 1) := dk_42 (dk_at dksX1_regular_1 14 rfl rfl)
theorem dX1_regular_37 : decode cX1_regular 37 = .ok (.new 239, 3) := dk_187 0 239 (dk_at dksX1_regular_1 15 rfl rfl)
theorem dX1_regular_40 : decode cX1_regular 40 = .ok (.dup, 1) := dk_89 (dk_at dksX1_regular_1 18 rfl rfl)
theorem dX1_regular_41 : decode cX1_regular 41 = .ok (.aload_n 2, 1) := dk_44 (dk_at dksX1_regular_1 19 rfl rfl)
theorem dX1_regular_42 : decode cX1_regular 42 = .ok (.aload_n 3, 1) := dk_45 (dk_at dksX1_regular_1 20 rfl rfl)
theorem dX1_regular_43 : decode cX1_regular 43 = .ok (.iload_n 1, 1) := dk_27 (dk_at dksX1_regular_1 21 rfl rfl)
theorem dX1_regular_44 : decode cX1_regular 44 = .ok (.invokespecial 241, 3) := dk_183 0 241 (dk_at dksX1_regular_2 0 rfl rfl)
theorem dX1_regular_47 : decode cX1_regular 47 = .ok (.invokevirtual 224, 3) := dk_182 0 224 (dk_at dksX1_regular_2 3 rfl rfl)
theorem dX1_regular_50 : decode cX1_regular 50 = .ok (.ireturn, 1) := dk_172 (dk_at dksX1_regular_2 6 rfl rfl)
def dkwX1_element_3 : List UInt8 := [45, 185, 0, 247, 2, 0, 87, 42, 187, 0, 251, 89, 25, 4, 183, 0, 253, 182, 0, 224, 172]
abbrev dktX1_element_3 : List UInt8 := dkwX1_element_3 ++ []
def dkwX1_element_2 : List UInt8 := [27, 184, 0, 189, 185, 0, 172, 2, 0, 87, 25, 4, 28, 184, 0, 189, 185, 0, 172, 2, 0, 87, 25, 4]
abbrev dktX1_element_2 : List UInt8 := dkwX1_element_2 ++ dktX1_element_3
def dkwX1_element_1 : List UInt8 := [42, 182, 0, 215, 78, 42, 45, 182, 0, 227, 184, 0, 169, 187, 0, 24, 89, 183, 0, 26, 58, 4, 25, 4]
abbrev dktX1_element_1 : List UInt8 := dkwX1_element_1 ++ dktX1_element_2
def dkwX1_element_0 : List UInt8 := [42, 27, 182, 0, 158, 87, 42, 28, 182, 0, 158, 87, 42, 27, 3, 182, 0, 244, 42, 28, 3, 182, 0, 244]
abbrev dktX1_element_0 : List UInt8 := dkwX1_element_0 ++ dktX1_element_1
theorem dksX1_element_0 : cX1_element.data.toList.drop 0 = dktX1_element_0 := by decide +kernel
theorem dksX1_element_1 : cX1_element.data.toList.drop 24 = dktX1_element_1 := dk_seg dksX1_element_0 24 rfl rfl
theorem dksX1_element_2 : cX1_element.data.toList.drop 48 = dktX1_element_2 := dk_seg dksX1_element_1 24 rfl rfl
theorem dksX1_element_3 : cX1_element.data.toList.drop 72 = dktX1_element_3 := dk_seg dksX1_element_2 24 rfl rfl
theorem dX1_element_0 : decode cX1_element 0 = .ok (.aload_n 0, 1) := dk_42 (dk_at dksX1_element_0 0 rfl rfl)
theorem dX1_element_1 : decode cX1_element 1 = .ok (.iload_n 1, 1) := dk_27 (dk_at dksX1_element_0 1 rfl rfl)
theorem dX1_element_2 : decode cX1_element 2 = .ok (.invokevirtual 158, 3) := dk_182 0 158 (dk_at dksX1_element_0 2 rfl rfl)
theorem dX1_element_5 : decode cX1_element 5 = .ok (.pop, 1) := dk_87 (dk_at dksX1_element_0 5 rfl rfl)
theorem dX1_element_6 : decode cX1_element 6 = .ok (.aload_n 0, 1) := dk_42 (dk_at dksX1_element_0 6 rfl rfl)
theorem dX1_element_7 : decode cX1_element 7 = .ok (.iload_n 2, 1) := dk_28 (dk_at dksX1_element_0 7 rfl rfl)
theorem dX1_element_8 : decode cX1_element 8 = .ok (.invokevirtual 158, 3) := dk_182 0 158 (dk_at dksX1_element_0 8 rfl rfl)
theorem dX1_element_11 : decode cX1_element 11 = .ok (.pop, 1) := dk_87 (dk_at dksX1_element_0 11 rfl rfl)
theorem dX1_element_12 : decode cX1_element 12 = .ok (.aload_n 0, 1) := dk_42 (dk_at dksX1_element_0 12 rfl rfl)
theorem dX1_element_13 : decode cX1_element 13 = .ok (.iload_n 1, 1) := dk_27 (dk_at dksX1_element_0 13 rfl rfl)
theorem dX1_element_14 : decode cX1_element 14 = .ok (.iconst 0, 1) := dk_3 (dk_at dksX1_element_0 14 rfl rfl)
theorem dX1_element_15 : decode cX1_element 15 = .ok (.invokevirtual 244, 3) := dk_182 0 244 (dk_at dksX1_element_0 15 rfl rfl)
theorem dX1_element_18 : decode cX1_element 18 = .ok (.aload_n 0, 1) := dk_42 (dk_at dksX1_element_0 18 rfl rfl)
theorem dX1_element_19 : decode cX1_element 19 = .ok (.iload_n 2, 1) := dk_28 (dk_at dksX1_element_0 19 rfl rfl)
theorem dX1_element_20 : decode cX1_element 20 = .ok (.iconst 0, 1) := dk_3 (dk_at dksX1_element_0 20 rfl rfl)
theorem dX1_element_21 : decode cX1_element 21 = .ok (.invokevirtual 244, 3) := dk_182 0 244 (dk_at dksX1_element_0 21 rfl rfl)
theorem dX1_element_24 : decode cX1_element 24 = .ok (.aload_n 0, 1) := dk_42 (dk_at dksX1_element_1 0 rfl rfl)
theorem dX1_element_25 : decode cX1_element 25 = .ok (.invokevirtual 215, 3) := dk_182 0 215 (dk_at dksX1_element_1 1 rfl rfl)
theorem dX1_element_28 : decode cX1_element 28 = .ok (.astore_n 3, 1) := dk_78 (dk_at dksX1_element_1 4 rfl rfl)
theorem dX1_element_29 : decode cX1_element 29 = .ok (.aload_n 0, 1) := dk_42 (dk_at dksX1_element_1 5 rfl rfl)
theorem dX1_element_30 : decode cX1_element 30 = .ok (.aload_n 3, 1) := dk_45 (dk_at dksX1_element_1 6 rfl rfl)
theorem dX1_element_31 : decode cX1_element 31 = .ok (.invokevirtual 227, 3) := dk_182 0 227 (dk_at dksX1_element_1 7 rfl rfl)
theorem dX1_element_34 : decode cX1_element 34 = .ok (.invokestatic 169, 3) := dk_184 0 169 (dk_at dksX1_element_1 10 rfl rfl)
theorem dX1_element_37 : decode cX1_element 37 = .ok (.new 24, 3) := dk_187 0 24 (dk_at dksX1_element_1 13 rfl rfl)
theorem dX1_element_40 : decode cX1_element 40 = .ok (.dup, 1) := dk_89 (dk_at dksX1_element_1 16 rfl rfl)
theorem dX1_element_41 : decode cX1_element 41 = .ok (.invokespecial 26, 3) := dk_183 0 26 (dk_at dksX1_element_1 17 rfl rfl)
theorem dX1_element_44 : decode cX1_element 44 = .ok (.astore 4, 2) := dk_58 4 (dk_at dksX1_element_1 20 rfl rfl)
theorem dX1_element_46 : decode cX1_element 46 = .ok (.aload 4, 2) := dk_25 4 (dk_at dksX1_element_1 22 rfl rfl)
theorem dX1_element_48 : decode cX1_element 48 = .ok (.iload_n 1, 1) := dk_27 (dk_at dksX1_element_2 0 rfl rfl)
theorem dX1_element_49 : decode cX1_element 49 = .ok (.invokestatic 189, 3) := dk_184 0 189 (dk_at dksX1_element_2 1 rfl rfl)
theorem dX1_element_52 : decode cX1_element 52 = .ok (.invokeinterface 172 2, 5) := by decide +kernel
theorem dX1_element_57 : decode cX1_element 57 = .ok (.pop, 1) := dk_87 (dk_at dksX1_element_2 9 rfl rfl)
theorem dX1_element_58 : decode cX1_element 58 = .ok (.aload 4, 2) := dk_25 4 (dk_at dksX1_element_2 10 rfl rfl)
theorem dX1_element_60 : decode cX1_element 60 = .ok (.iload_n 2, 1) := dk_28 (dk_at dksX1_element_2 12 rfl rfl)
theorem dX1_element_61 : decode cX1_element 61 = .ok (.invokestatic 189, 3) := dk_184 0 189 (dk_at dksX1_element_2 13 rfl rfl)
theorem dX1_element_64 : decode cX1_element 64 = .ok (.invokeinterface 172 2, 5) := by decide +kernel
theorem dX1_element_69 : decode cX1_element 69 = .ok (.pop, 1) := dk_87 (dk_at dksX1_element_2 21 rfl rfl)
theorem dX1_element_70 : decode cX1_element 70 = .ok (.aload 4, 2) := dk_25 4 (dk_at dksX1_element_2 22 rfl rfl)
theorem dX1_element_72 : decode cX1_element 72 = .ok (.aload_n 3, 1) := dk_45 (dk_at dksX1_element_3 0 rfl rfl)
theorem dX1_element_73 : decode cX1_element 73 = .ok (.invokeinterface 247 2, 5) := by decide +kernel
theorem dX1_element_78 : decode cX1_element 78 = .ok (.pop, 1) := dk_87 (dk_at dksX1_element_3 6 rfl rfl)
theorem dX1_element_79 : decode cX1_element 79 = .ok (.aload_n 0, 1) := dk_42 (dk_at dksX1_element_3 7 rfl rfl)
theorem dX1_element_80 : decode cX1_element 80 = .ok (.new 251, 3) := dk_187 0 251 (dk_at dksX1_element_3 8 rfl rfl)
theorem dX1_element_83 : decode cX1_element 83 = .ok (.dup, 1) := dk_89 (dk_at dksX1_element_3 11 rfl rfl)
theorem dX1_element_84 : decode cX1_element 84 = .ok (.aload 4, 2) := dk_25 4 (dk_at dksX1_element_3 12 rfl rfl)
theorem dX1_element_86 : decode cX1_element 86 = .ok (.invokespecial 253, 3) := dk_183 0 253 (dk_at dksX1_element_3 14 rfl rfl)
theorem dX1_element_89 : decode cX1_element 89 = .ok (.invokevirtual 224, 3) := dk_182 0 224 (dk_at dksX1_element_3 17 rfl rfl)
theorem dX1_element_92 : decode cX1_element 92 = .ok (.ireturn, 1) := dk_172 (dk_at dksX1_element_3 20 rfl rfl)
def dkwX1_checkKind_0 : List UInt8 := [42, 27, 28, 182, 0, 150, 184, 0, 154, 177]
abbrev dktX1_checkKind_0 : List UInt8 := dkwX1_checkKind_0 ++ []
theorem dksX1_checkKind_0 : cX1_checkKind.data.toList.drop 0 = dktX1_checkKind_0 := by decide +kernel
theorem dX1_checkKind_0 : decode cX1_checkKind 0 = .ok (.aload_n 0, 1) := dk_42 (dk_at dksX1_checkKind_0 0 rfl rfl)
theorem dX1_checkKind_1 : decode cX1_checkKind 1 = .ok (.iload_n 1, 1) := dk_27 (dk_at dksX1_checkKind_0 1 rfl rfl)
theorem dX1_checkKind_2 : decode cX1_checkKind 2 = .ok (.iload_n 2, 1) := dk_28 (dk_at dksX1_checkKind_0 2 rfl rfl)
theorem dX1_checkKind_3 : decode cX1_checkKind 3 = .ok (.invokevirtual 150, 3) := dk_182 0 150 (dk_at dksX1_checkKind_0 3 rfl rfl)
theorem dX1_checkKind_6 : decode cX1_checkKind 6 = .ok (.invokestatic 154, 3) := dk_184 0 154 (dk_at dksX1_checkKind_0 6 rfl rfl)
theorem dX1_checkKind_9 : decode cX1_checkKind 9 = .ok (.return_, 1) := dk_177 (dk_at dksX1_checkKind_0 9 rfl rfl)
def dkwX1_when_2 : List UInt8 := [79, 89, 4, 28, 79, 89, 5, 29, 79, 182, 1, 11, 172]
abbrev dktX1_when_2 : List UInt8 := dkwX1_when_2 ++ []
def dkwX1_when_1 : List UInt8 := [4, 3, 79, 89, 5, 3, 79, 182, 1, 3, 42, 21, 4, 186, 1, 7, 0, 0, 6, 188, 10, 89, 3, 27]
abbrev dktX1_when_1 : List UInt8 := dkwX1_when_1 ++ dktX1_when_2
def dkwX1_when_0 : List UInt8 := [42, 6, 188, 10, 89, 3, 27, 79, 89, 4, 28, 79, 89, 5, 29, 79, 6, 188, 10, 89, 3, 3, 79, 89]
abbrev dktX1_when_0 : List UInt8 := dkwX1_when_0 ++ dktX1_when_1
theorem dksX1_when_0 : cX1_when.data.toList.drop 0 = dktX1_when_0 := by decide +kernel
theorem dksX1_when_1 : cX1_when.data.toList.drop 24 = dktX1_when_1 := dk_seg dksX1_when_0 24 rfl rfl
theorem dksX1_when_2 : cX1_when.data.toList.drop 48 = dktX1_when_2 := dk_seg dksX1_when_1 24 rfl rfl
theorem dX1_when_0 : decode cX1_when 0 = .ok (.aload_n 0, 1) := dk_42 (dk_at dksX1_when_0 0 rfl rfl)
theorem dX1_when_1 : decode cX1_when 1 = .ok (.iconst 3, 1) := dk_6 (dk_at dksX1_when_0 1 rfl rfl)
theorem dX1_when_2 : decode cX1_when 2 = .ok (.newarray .int, 2) := dk_188_10 (dk_at dksX1_when_0 2 rfl rfl)
theorem dX1_when_4 : decode cX1_when 4 = .ok (.dup, 1) := dk_89 (dk_at dksX1_when_0 4 rfl rfl)
theorem dX1_when_5 : decode cX1_when 5 = .ok (.iconst 0, 1) := dk_3 (dk_at dksX1_when_0 5 rfl rfl)
theorem dX1_when_6 : decode cX1_when 6 = .ok (.iload_n 1, 1) := dk_27 (dk_at dksX1_when_0 6 rfl rfl)
theorem dX1_when_7 : decode cX1_when 7 = .ok (.iastore, 1) := dk_79 (dk_at dksX1_when_0 7 rfl rfl)
theorem dX1_when_8 : decode cX1_when 8 = .ok (.dup, 1) := dk_89 (dk_at dksX1_when_0 8 rfl rfl)
theorem dX1_when_9 : decode cX1_when 9 = .ok (.iconst 1, 1) := dk_4 (dk_at dksX1_when_0 9 rfl rfl)
theorem dX1_when_10 : decode cX1_when 10 = .ok (.iload_n 2, 1) := dk_28 (dk_at dksX1_when_0 10 rfl rfl)
theorem dX1_when_11 : decode cX1_when 11 = .ok (.iastore, 1) := dk_79 (dk_at dksX1_when_0 11 rfl rfl)
theorem dX1_when_12 : decode cX1_when 12 = .ok (.dup, 1) := dk_89 (dk_at dksX1_when_0 12 rfl rfl)
theorem dX1_when_13 : decode cX1_when 13 = .ok (.iconst 2, 1) := dk_5 (dk_at dksX1_when_0 13 rfl rfl)
theorem dX1_when_14 : decode cX1_when 14 = .ok (.iload_n 3, 1) := dk_29 (dk_at dksX1_when_0 14 rfl rfl)
theorem dX1_when_15 : decode cX1_when 15 = .ok (.iastore, 1) := dk_79 (dk_at dksX1_when_0 15 rfl rfl)
theorem dX1_when_16 : decode cX1_when 16 = .ok (.iconst 3, 1) := dk_6 (dk_at dksX1_when_0 16 rfl rfl)
theorem dX1_when_17 : decode cX1_when 17 = .ok (.newarray .int, 2) := dk_188_10 (dk_at dksX1_when_0 17 rfl rfl)
theorem dX1_when_19 : decode cX1_when 19 = .ok (.dup, 1) := dk_89 (dk_at dksX1_when_0 19 rfl rfl)
theorem dX1_when_20 : decode cX1_when 20 = .ok (.iconst 0, 1) := dk_3 (dk_at dksX1_when_0 20 rfl rfl)
theorem dX1_when_21 : decode cX1_when 21 = .ok (.iconst 0, 1) := dk_3 (dk_at dksX1_when_0 21 rfl rfl)
theorem dX1_when_22 : decode cX1_when 22 = .ok (.iastore, 1) := dk_79 (dk_at dksX1_when_0 22 rfl rfl)
theorem dX1_when_23 : decode cX1_when 23 = .ok (.dup, 1) := dk_89 (dk_at dksX1_when_0 23 rfl rfl)
theorem dX1_when_24 : decode cX1_when 24 = .ok (.iconst 1, 1) := dk_4 (dk_at dksX1_when_1 0 rfl rfl)
theorem dX1_when_25 : decode cX1_when 25 = .ok (.iconst 0, 1) := dk_3 (dk_at dksX1_when_1 1 rfl rfl)
theorem dX1_when_26 : decode cX1_when 26 = .ok (.iastore, 1) := dk_79 (dk_at dksX1_when_1 2 rfl rfl)
theorem dX1_when_27 : decode cX1_when 27 = .ok (.dup, 1) := dk_89 (dk_at dksX1_when_1 3 rfl rfl)
theorem dX1_when_28 : decode cX1_when 28 = .ok (.iconst 2, 1) := dk_5 (dk_at dksX1_when_1 4 rfl rfl)
theorem dX1_when_29 : decode cX1_when 29 = .ok (.iconst 0, 1) := dk_3 (dk_at dksX1_when_1 5 rfl rfl)
theorem dX1_when_30 : decode cX1_when 30 = .ok (.iastore, 1) := dk_79 (dk_at dksX1_when_1 6 rfl rfl)
theorem dX1_when_31 : decode cX1_when 31 = .ok (.invokevirtual 259, 3) := dk_182 1 3 (dk_at dksX1_when_1 7 rfl rfl)
theorem dX1_when_34 : decode cX1_when 34 = .ok (.aload_n 0, 1) := dk_42 (dk_at dksX1_when_1 10 rfl rfl)
theorem dX1_when_35 : decode cX1_when 35 = .ok (.iload 4, 2) := dk_21 4 (dk_at dksX1_when_1 11 rfl rfl)
theorem dX1_when_37 : decode cX1_when 37 = .ok (.invokedynamic 263, 5) := by decide +kernel
theorem dX1_when_42 : decode cX1_when 42 = .ok (.iconst 3, 1) := dk_6 (dk_at dksX1_when_1 18 rfl rfl)
theorem dX1_when_43 : decode cX1_when 43 = .ok (.newarray .int, 2) := dk_188_10 (dk_at dksX1_when_1 19 rfl rfl)
theorem dX1_when_45 : decode cX1_when 45 = .ok (.dup, 1) := dk_89 (dk_at dksX1_when_1 21 rfl rfl)
theorem dX1_when_46 : decode cX1_when 46 = .ok (.iconst 0, 1) := dk_3 (dk_at dksX1_when_1 22 rfl rfl)
theorem dX1_when_47 : decode cX1_when 47 = .ok (.iload_n 1, 1) := dk_27 (dk_at dksX1_when_1 23 rfl rfl)
theorem dX1_when_48 : decode cX1_when 48 = .ok (.iastore, 1) := dk_79 (dk_at dksX1_when_2 0 rfl rfl)
theorem dX1_when_49 : decode cX1_when 49 = .ok (.dup, 1) := dk_89 (dk_at dksX1_when_2 1 rfl rfl)
theorem dX1_when_50 : decode cX1_when 50 = .ok (.iconst 1, 1) := dk_4 (dk_at dksX1_when_2 2 rfl rfl)
theorem dX1_when_51 : decode cX1_when 51 = .ok (.iload_n 2, 1) := dk_28 (dk_at dksX1_when_2 3 rfl rfl)
theorem dX1_when_52 : decode cX1_when 52 = .ok (.iastore, 1) := dk_79 (dk_at dksX1_when_2 4 rfl rfl)
theorem dX1_when_53 : decode cX1_when 53 = .ok (.dup, 1) := dk_89 (dk_at dksX1_when_2 5 rfl rfl)
theorem dX1_when_54 : decode cX1_when 54 = .ok (.iconst 2, 1) := dk_5 (dk_at dksX1_when_2 6 rfl rfl)
theorem dX1_when_55 : decode cX1_when 55 = .ok (.iload_n 3, 1) := dk_29 (dk_at dksX1_when_2 7 rfl rfl)
theorem dX1_when_56 : decode cX1_when 56 = .ok (.iastore, 1) := dk_79 (dk_at dksX1_when_2 8 rfl rfl)
theorem dX1_when_57 : decode cX1_when 57 = .ok (.invokevirtual 267, 3) := dk_182 1 11 (dk_at dksX1_when_2 9 rfl rfl)
theorem dX1_when_60 : decode cX1_when 60 = .ok (.ireturn, 1) := dk_172 (dk_at dksX1_when_2 12 rfl rfl)
def dkwX1_checkAll_2 : List UInt8 := [44, 29, 46, 182, 0, 244, 132, 3, 1, 167, 255, 237, 177]
abbrev dktX1_checkAll_2 : List UInt8 := dkwX1_checkAll_2 ++ []
def dkwX1_checkAll_1 : List UInt8 := [21, 6, 182, 0, 158, 87, 132, 5, 1, 167, 255, 233, 3, 62, 29, 43, 190, 162, 0, 19, 42, 43, 29, 46]
abbrev dktX1_checkAll_1 : List UInt8 := dkwX1_checkAll_1 ++ dktX1_checkAll_2
def dkwX1_checkAll_0 : List UInt8 := [43, 78, 45, 190, 54, 4, 3, 54, 5, 21, 5, 21, 4, 162, 0, 22, 45, 21, 5, 46, 54, 6, 42]
abbrev dktX1_checkAll_0 : List UInt8 := dkwX1_checkAll_0 ++ dktX1_checkAll_1
theorem dksX1_checkAll_0 : cX1_checkAll.data.toList.drop 0 = dktX1_checkAll_0 := by decide +kernel
theorem dksX1_checkAll_1 : cX1_checkAll.data.toList.drop 23 = dktX1_checkAll_1 := dk_seg dksX1_checkAll_0 23 rfl rfl
theorem dksX1_checkAll_2 : cX1_checkAll.data.toList.drop 47 = dktX1_checkAll_2 := dk_seg dksX1_checkAll_1 24 rfl rfl
theorem dX1_checkAll_0 : decode cX1_checkAll 0 = .ok (.aload_n 1, 1) := dk_43 (dk_at dksX1_checkAll_0 0 rfl rfl)
theorem dX1_checkAll_1 : decode cX1_checkAll 1 = .ok (.astore_n 3, 1) := dk_78 (dk_at dksX1_checkAll_0 1 rfl rfl)
theorem dX1_checkAll_2 : decode cX1_checkAll 2 = .ok (.aload_n 3, 1) := dk_45 (dk_at dksX1_checkAll_0 2 rfl rfl)
theorem dX1_checkAll_3 : decode cX1_checkAll 3 = .ok (.arraylength, 1) := dk_190 (dk_at dksX1_checkAll_0 3 rfl rfl)
theorem dX1_checkAll_4 : decode cX1_checkAll 4 = .ok (.istore 4, 2) := dk_54 4 (dk_at dksX1_checkAll_0 4 rfl rfl)
theorem dX1_checkAll_6 : decode cX1_checkAll 6 = .ok (.iconst 0, 1) := dk_3 (dk_at dksX1_checkAll_0 6 rfl rfl)
theorem dX1_checkAll_7 : decode cX1_checkAll 7 = .ok (.istore 5, 2) := dk_54 5 (dk_at dksX1_checkAll_0 7 rfl rfl)
theorem dX1_checkAll_9 : decode cX1_checkAll 9 = .ok (.iload 5, 2) := dk_21 5 (dk_at dksX1_checkAll_0 9 rfl rfl)
theorem dX1_checkAll_11 : decode cX1_checkAll 11 = .ok (.iload 4, 2) := dk_21 4 (dk_at dksX1_checkAll_0 11 rfl rfl)
theorem dX1_checkAll_13 : decode cX1_checkAll 13 = .ok (.if_icmp .ge 22, 3) := dk_162 0 22 (dk_at dksX1_checkAll_0 13 rfl rfl)
theorem dX1_checkAll_16 : decode cX1_checkAll 16 = .ok (.aload_n 3, 1) := dk_45 (dk_at dksX1_checkAll_0 16 rfl rfl)
theorem dX1_checkAll_17 : decode cX1_checkAll 17 = .ok (.iload 5, 2) := dk_21 5 (dk_at dksX1_checkAll_0 17 rfl rfl)
theorem dX1_checkAll_19 : decode cX1_checkAll 19 = .ok (.iaload, 1) := dk_46 (dk_at dksX1_checkAll_0 19 rfl rfl)
theorem dX1_checkAll_20 : decode cX1_checkAll 20 = .ok (.istore 6, 2) := dk_54 6 (dk_at dksX1_checkAll_0 20 rfl rfl)
theorem dX1_checkAll_22 : decode cX1_checkAll 22 = .ok (.aload_n 0, 1) := dk_42 (dk_at dksX1_checkAll_0 22 rfl rfl)
theorem dX1_checkAll_23 : decode cX1_checkAll 23 = .ok (.iload 6, 2) := dk_21 6 (dk_at dksX1_checkAll_1 0 rfl rfl)
theorem dX1_checkAll_25 : decode cX1_checkAll 25 = .ok (.invokevirtual 158, 3) := dk_182 0 158 (dk_at dksX1_checkAll_1 2 rfl rfl)
theorem dX1_checkAll_28 : decode cX1_checkAll 28 = .ok (.pop, 1) := dk_87 (dk_at dksX1_checkAll_1 5 rfl rfl)
theorem dX1_checkAll_29 : decode cX1_checkAll 29 = .ok (.iinc 5 1, 3) := dk_132 5 1 (dk_at dksX1_checkAll_1 6 rfl rfl)
theorem dX1_checkAll_32 : decode cX1_checkAll 32 = .ok (.goto (-23), 3) := dk_167 255 233 (dk_at dksX1_checkAll_1 9 rfl rfl)
theorem dX1_checkAll_35 : decode cX1_checkAll 35 = .ok (.iconst 0, 1) := dk_3 (dk_at dksX1_checkAll_1 12 rfl rfl)
theorem dX1_checkAll_36 : decode cX1_checkAll 36 = .ok (.istore_n 3, 1) := dk_62 (dk_at dksX1_checkAll_1 13 rfl rfl)
theorem dX1_checkAll_37 : decode cX1_checkAll 37 = .ok (.iload_n 3, 1) := dk_29 (dk_at dksX1_checkAll_1 14 rfl rfl)
theorem dX1_checkAll_38 : decode cX1_checkAll 38 = .ok (.aload_n 1, 1) := dk_43 (dk_at dksX1_checkAll_1 15 rfl rfl)
theorem dX1_checkAll_39 : decode cX1_checkAll 39 = .ok (.arraylength, 1) := dk_190 (dk_at dksX1_checkAll_1 16 rfl rfl)
theorem dX1_checkAll_40 : decode cX1_checkAll 40 = .ok (.if_icmp .ge 19, 3) := dk_162 0 19 (dk_at dksX1_checkAll_1 17 rfl rfl)
theorem dX1_checkAll_43 : decode cX1_checkAll 43 = .ok (.aload_n 0, 1) := dk_42 (dk_at dksX1_checkAll_1 20 rfl rfl)
theorem dX1_checkAll_44 : decode cX1_checkAll 44 = .ok (.aload_n 1, 1) := dk_43 (dk_at dksX1_checkAll_1 21 rfl rfl)
theorem dX1_checkAll_45 : decode cX1_checkAll 45 = .ok (.iload_n 3, 1) := dk_29 (dk_at dksX1_checkAll_1 22 rfl rfl)
theorem dX1_checkAll_46 : decode cX1_checkAll 46 = .ok (.iaload, 1) := dk_46 (dk_at dksX1_checkAll_1 23 rfl rfl)
theorem dX1_checkAll_47 : decode cX1_checkAll 47 = .ok (.aload_n 2, 1) := dk_44 (dk_at dksX1_checkAll_2 0 rfl rfl)
theorem dX1_checkAll_48 : decode cX1_checkAll 48 = .ok (.iload_n 3, 1) := dk_29 (dk_at dksX1_checkAll_2 1 rfl rfl)
theorem dX1_checkAll_49 : decode cX1_checkAll 49 = .ok (.iaload, 1) := dk_46 (dk_at dksX1_checkAll_2 2 rfl rfl)
theorem dX1_checkAll_50 : decode cX1_checkAll 50 = .ok (.invokevirtual 244, 3) := dk_182 0 244 (dk_at dksX1_checkAll_2 3 rfl rfl)
theorem dX1_checkAll_53 : decode cX1_checkAll 53 = .ok (.iinc 3 1, 3) := dk_132 3 1 (dk_at dksX1_checkAll_2 6 rfl rfl)
theorem dX1_checkAll_56 : decode cX1_checkAll 56 = .ok (.goto (-19), 3) := dk_167 255 237 (dk_at dksX1_checkAll_2 9 rfl rfl)
theorem dX1_checkAll_59 : decode cX1_checkAll 59 = .ok (.return_, 1) := dk_177 (dk_at dksX1_checkAll_2 12 rfl rfl)
def dkwX1_lambda_when_0_1 : List UInt8 := [160, 0, 7, 4, 167, 0, 4, 3, 172]
abbrev dktX1_lambda_when_0_1 : List UInt8 := dkwX1_lambda_when_0_1 ++ []
def dkwX1_lambda_when_0_0 : List UInt8 := [27, 26, 153, 0, 11, 28, 29, 162, 0, 15, 167, 0, 8, 28, 29, 160, 0, 7, 4, 167, 0, 4, 3]
abbrev dktX1_lambda_when_0_0 : List UInt8 := dkwX1_lambda_when_0_0 ++ dktX1_lambda_when_0_1
theorem dksX1_lambda_when_0_0 : cX1_lambda_when_0.data.toList.drop 0 = dktX1_lambda_when_0_0 := by decide +kernel
theorem dksX1_lambda_when_0_1 : cX1_lambda_when_0.data.toList.drop 23 = dktX1_lambda_when_0_1 := dk_seg dksX1_lambda_when_0_0 23 rfl rfl
theorem dX1_lambda_when_0_0 : decode cX1_lambda_when_0 0 = .ok (.iload_n 1, 1) := dk_27 (dk_at dksX1_lambda_when_0_0 0 rfl rfl)
theorem dX1_lambda_when_0_1 : decode cX1_lambda_when_0 1 = .ok (.iload_n 0, 1) := dk_26 (dk_at dksX1_lambda_when_0_0 1 rfl rfl)
theorem dX1_lambda_when_0_2 : decode cX1_lambda_when_0 2 = .ok (.ifCond .eq 11, 3) := dk_153 0 11 (dk_at dksX1_lambda_when_0_0 2 rfl rfl)
theorem dX1_lambda_when_0_5 : decode cX1_lambda_when_0 5 = .ok (.iload_n 2, 1) := dk_28 (dk_at dksX1_lambda_when_0_0 5 rfl rfl)
theorem dX1_lambda_when_0_6 : decode cX1_lambda_when_0 6 = .ok (.iload_n 3, 1) := dk_29 (dk_at dksX1_lambda_when_0_0 6 rfl rfl)
theorem dX1_lambda_when_0_7 : decode cX1_lambda_when_0 7 = .ok (.if_icmp .ge 15, 3) := dk_162 0 15 (dk_at dksX1_lambda_when_0_0 7 rfl rfl)
theorem dX1_lambda_when_0_10 : decode cX1_lambda_when_0 10 = .ok (.goto 8, 3) := dk_167 0 8 (dk_at dksX1_lambda_when_0_0 10 rfl rfl)
theorem dX1_lambda_when_0_13 : decode cX1_lambda_when_0 13 = .ok (.iload_n 2, 1) := dk_28 (dk_at dksX1_lambda_when_0_0 13 rfl rfl)
theorem dX1_lambda_when_0_14 : decode cX1_lambda_when_0 14 = .ok (.iload_n 3, 1) := dk_29 (dk_at dksX1_lambda_when_0_0 14 rfl rfl)
theorem dX1_lambda_when_0_15 : decode cX1_lambda_when_0 15 = .ok (.if_icmp .ne 7, 3) := dk_160 0 7 (dk_at dksX1_lambda_when_0_0 15 rfl rfl)
theorem dX1_lambda_when_0_18 : decode cX1_lambda_when_0 18 = .ok (.iconst 1, 1) := dk_4 (dk_at dksX1_lambda_when_0_0 18 rfl rfl)
theorem dX1_lambda_when_0_19 : decode cX1_lambda_when_0 19 = .ok (.goto 4, 3) := dk_167 0 4 (dk_at dksX1_lambda_when_0_0 19 rfl rfl)
theorem dX1_lambda_when_0_22 : decode cX1_lambda_when_0 22 = .ok (.iconst 0, 1) := dk_3 (dk_at dksX1_lambda_when_0_0 22 rfl rfl)
theorem dX1_lambda_when_0_23 : decode cX1_lambda_when_0 23 = .ok (.if_icmp .ne 7, 3) := dk_160 0 7 (dk_at dksX1_lambda_when_0_1 0 rfl rfl)
theorem dX1_lambda_when_0_26 : decode cX1_lambda_when_0 26 = .ok (.iconst 1, 1) := dk_4 (dk_at dksX1_lambda_when_0_1 3 rfl rfl)
theorem dX1_lambda_when_0_27 : decode cX1_lambda_when_0 27 = .ok (.goto 4, 3) := dk_167 0 4 (dk_at dksX1_lambda_when_0_1 4 rfl rfl)
theorem dX1_lambda_when_0_30 : decode cX1_lambda_when_0 30 = .ok (.iconst 0, 1) := dk_3 (dk_at dksX1_lambda_when_0_1 7 rfl rfl)
theorem dX1_lambda_when_0_31 : decode cX1_lambda_when_0 31 = .ok (.ireturn, 1) := dk_172 (dk_at dksX1_lambda_when_0_1 8 rfl rfl)
def dkwX1_addSmall_2 : List UInt8 := [132, 6, 1, 167, 255, 227, 42, 187, 0, 254, 89, 45, 43, 183, 1, 0, 182, 0, 224, 172]
abbrev dktX1_addSmall_2 : List UInt8 := dkwX1_addSmall_2 ++ []
def dkwX1_addSmall_1 : List UInt8 := [162, 0, 28, 25, 4, 21, 6, 46, 54, 7, 45, 21, 7, 184, 0, 189, 185, 0, 172, 2, 0, 87]
abbrev dktX1_addSmall_1 : List UInt8 := dkwX1_addSmall_1 ++ dktX1_addSmall_2
def dkwX1_addSmall_0 : List UInt8 := [187, 0, 24, 89, 183, 0, 26, 78, 44, 58, 4, 25, 4, 190, 54, 5, 3, 54, 6, 21, 6, 21, 5]
abbrev dktX1_addSmall_0 : List UInt8 := dkwX1_addSmall_0 ++ dktX1_addSmall_1
theorem dksX1_addSmall_0 : cX1_addSmall.data.toList.drop 0 = dktX1_addSmall_0 := by decide +kernel
theorem dksX1_addSmall_1 : cX1_addSmall.data.toList.drop 23 = dktX1_addSmall_1 := dk_seg dksX1_addSmall_0 23 rfl rfl
theorem dksX1_addSmall_2 : cX1_addSmall.data.toList.drop 45 = dktX1_addSmall_2 := dk_seg dksX1_addSmall_1 22 rfl rfl
theorem dX1_addSmall_0 : decode cX1_addSmall 0 = .ok (.new 24, 3) := dk_187 0 24 (dk_at dksX1_addSmall_0 0 rfl rfl)
theorem dX1_addSmall_3 : decode cX1_addSmall 3 = .ok (.dup, 1) := dk_89 (dk_at dksX1_addSmall_0 3 rfl rfl)
theorem dX1_addSmall_4 : decode cX1_addSmall 4 = .ok (.invokespecial 26, 3) := dk_183 0 26 (dk_at dksX1_addSmall_0 4 rfl rfl)
theorem dX1_addSmall_7 : decode cX1_addSmall 7 = .ok (.astore_n 3, 1) := dk_78 (dk_at dksX1_addSmall_0 7 rfl rfl)
theorem dX1_addSmall_8 : decode cX1_addSmall 8 = .ok (.aload_n 2, 1) := dk_44 (dk_at dksX1_addSmall_0 8 rfl rfl)
theorem dX1_addSmall_9 : decode cX1_addSmall 9 = .ok (.astore 4, 2) := dk_58 4 (dk_at dksX1_addSmall_0 9 rfl rfl)
theorem dX1_addSmall_11 : decode cX1_addSmall 11 = .ok (.aload 4, 2) := dk_25 4 (dk_at dksX1_addSmall_0 11 rfl rfl)
theorem dX1_addSmall_13 : decode cX1_addSmall 13 = .ok (.arraylength, 1) := dk_190 (dk_at dksX1_addSmall_0 13 rfl rfl)
theorem dX1_addSmall_14 : decode cX1_addSmall 14 = .ok (.istore 5, 2) := dk_54 5 (dk_at dksX1_addSmall_0 14 rfl rfl)
theorem dX1_addSmall_16 : decode cX1_addSmall 16 = .ok (.iconst 0, 1) := dk_3 (dk_at dksX1_addSmall_0 16 rfl rfl)
theorem dX1_addSmall_17 : decode cX1_addSmall 17 = .ok (.istore 6, 2) := dk_54 6 (dk_at dksX1_addSmall_0 17 rfl rfl)
theorem dX1_addSmall_19 : decode cX1_addSmall 19 = .ok (.iload 6, 2) := dk_21 6 (dk_at dksX1_addSmall_0 19 rfl rfl)
theorem dX1_addSmall_21 : decode cX1_addSmall 21 = .ok (.iload 5, 2) := dk_21 5 (dk_at dksX1_addSmall_0 21 rfl rfl)
theorem dX1_addSmall_23 : decode cX1_addSmall 23 = .ok (.if_icmp .ge 28, 3) := dk_162 0 28 (dk_at dksX1_addSmall_1 0 rfl rfl)
theorem dX1_addSmall_26 : decode cX1_addSmall 26 = .ok (.aload 4, 2) := dk_25 4 (dk_at dksX1_addSmall_1 3 rfl rfl)
theorem dX1_addSmall_28 : decode cX1_addSmall 28 = .ok (.iload 6, 2) := dk_21 6 (dk_at dksX1_addSmall_1 5 rfl rfl)
theorem dX1_addSmall_30 : decode cX1_addSmall 30 = .ok (.iaload, 1) := dk_46 (dk_at dksX1_addSmall_1 7 rfl rfl)
theorem dX1_addSmall_31 : decode cX1_addSmall 31 = .ok (.istore 7, 2) := dk_54 7 (dk_at dksX1_addSmall_1 8 rfl rfl)
theorem dX1_addSmall_33 : decode cX1_addSmall 33 = .ok (.aload_n 3, 1) := dk_45 (dk_at dksX1_addSmall_1 10 rfl rfl)
theorem dX1_addSmall_34 : decode cX1_addSmall 34 = .ok (.iload 7, 2) := dk_21 7 (dk_at dksX1_addSmall_1 11 rfl rfl)
theorem dX1_addSmall_36 : decode cX1_addSmall 36 = .ok (.invokestatic 189, 3) := dk_184 0 189 (dk_at dksX1_addSmall_1 13 rfl rfl)
theorem dX1_addSmall_39 : decode cX1_addSmall 39 = .ok (.invokeinterface 172 2, 5) := by decide +kernel
theorem dX1_addSmall_44 : decode cX1_addSmall 44 = .ok (.pop, 1) := dk_87 (dk_at dksX1_addSmall_1 21 rfl rfl)
theorem dX1_addSmall_45 : decode cX1_addSmall 45 = .ok (.iinc 6 1, 3) := dk_132 6 1 (dk_at dksX1_addSmall_2 0 rfl rfl)
theorem dX1_addSmall_48 : decode cX1_addSmall 48 = .ok (.goto (-29), 3) := dk_167 255 227 (dk_at dksX1_addSmall_2 3 rfl rfl)
theorem dX1_addSmall_51 : decode cX1_addSmall 51 = .ok (.aload_n 0, 1) := dk_42 (dk_at dksX1_addSmall_2 6 rfl rfl)
theorem dX1_addSmall_52 : decode cX1_addSmall 52 = .ok (.new 254, 3) := dk_187 0 254 (dk_at dksX1_addSmall_2 7 rfl rfl)
theorem dX1_addSmall_55 : decode cX1_addSmall 55 = .ok (.dup, 1) := dk_89 (dk_at dksX1_addSmall_2 10 rfl rfl)
theorem dX1_addSmall_56 : decode cX1_addSmall 56 = .ok (.aload_n 3, 1) := dk_45 (dk_at dksX1_addSmall_2 11 rfl rfl)
theorem dX1_addSmall_57 : decode cX1_addSmall 57 = .ok (.aload_n 1, 1) := dk_43 (dk_at dksX1_addSmall_2 12 rfl rfl)
theorem dX1_addSmall_58 : decode cX1_addSmall 58 = .ok (.invokespecial 256, 3) := dk_183 1 0 (dk_at dksX1_addSmall_2 13 rfl rfl)
theorem dX1_addSmall_61 : decode cX1_addSmall 61 = .ok (.invokevirtual 224, 3) := dk_182 0 224 (dk_at dksX1_addSmall_2 16 rfl rfl)
theorem dX1_addSmall_64 : decode cX1_addSmall 64 = .ok (.ireturn, 1) := dk_172 (dk_at dksX1_addSmall_2 19 rfl rfl)
def dkwX1_sets_2 : List UInt8 := [79, 89, 4, 29, 79, 89, 5, 21, 4, 79, 182, 1, 11, 172]
abbrev dktX1_sets_2 : List UInt8 := dkwX1_sets_2 ++ []
def dkwX1_sets_1 : List UInt8 := [89, 4, 4, 79, 89, 5, 4, 79, 182, 1, 3, 42, 27, 186, 1, 15, 0, 0, 6, 188, 10, 89, 3, 28]
abbrev dktX1_sets_1 : List UInt8 := dkwX1_sets_1 ++ dktX1_sets_2
def dkwX1_sets_0 : List UInt8 := [42, 6, 188, 10, 89, 3, 28, 79, 89, 4, 29, 79, 89, 5, 21, 4, 79, 6, 188, 10, 89, 3, 4, 79]
abbrev dktX1_sets_0 : List UInt8 := dkwX1_sets_0 ++ dktX1_sets_1
theorem dksX1_sets_0 : cX1_sets.data.toList.drop 0 = dktX1_sets_0 := by decide +kernel
theorem dksX1_sets_1 : cX1_sets.data.toList.drop 24 = dktX1_sets_1 := dk_seg dksX1_sets_0 24 rfl rfl
theorem dksX1_sets_2 : cX1_sets.data.toList.drop 48 = dktX1_sets_2 := dk_seg dksX1_sets_1 24 rfl rfl
theorem dX1_sets_0 : decode cX1_sets 0 = .ok (.aload_n 0, 1) := dk_42 (dk_at dksX1_sets_0 0 rfl rfl)
theorem dX1_sets_1 : decode cX1_sets 1 = .ok (.iconst 3, 1) := dk_6 (dk_at dksX1_sets_0 1 rfl rfl)
theorem dX1_sets_2 : decode cX1_sets 2 = .ok (.newarray .int, 2) := dk_188_10 (dk_at dksX1_sets_0 2 rfl rfl)
theorem dX1_sets_4 : decode cX1_sets 4 = .ok (.dup, 1) := dk_89 (dk_at dksX1_sets_0 4 rfl rfl)
theorem dX1_sets_5 : decode cX1_sets 5 = .ok (.iconst 0, 1) := dk_3 (dk_at dksX1_sets_0 5 rfl rfl)
theorem dX1_sets_6 : decode cX1_sets 6 = .ok (.iload_n 2, 1) := dk_28 (dk_at dksX1_sets_0 6 rfl rfl)
theorem dX1_sets_7 : decode cX1_sets 7 = .ok (.iastore, 1) := dk_79 (dk_at dksX1_sets_0 7 rfl rfl)
theorem dX1_sets_8 : decode cX1_sets 8 = .ok (.dup, 1) := dk_89 (dk_at dksX1_sets_0 8 rfl rfl)
theorem dX1_sets_9 : decode cX1_sets 9 = .ok (.iconst 1, 1) := dk_4 (dk_at dksX1_sets_0 9 rfl rfl)
theorem dX1_sets_10 : decode cX1_sets 10 = .ok (.iload_n 3, 1) := dk_29 (dk_at dksX1_sets_0 10 rfl rfl)
theorem dX1_sets_11 : decode cX1_sets 11 = .ok (.iastore, 1) := dk_79 (dk_at dksX1_sets_0 11 rfl rfl)
theorem dX1_sets_12 : decode cX1_sets 12 = .ok (.dup, 1) := dk_89 (dk_at dksX1_sets_0 12 rfl rfl)
theorem dX1_sets_13 : decode cX1_sets 13 = .ok (.iconst 2, 1) := dk_5 (dk_at dksX1_sets_0 13 rfl rfl)
theorem dX1_sets_14 : decode cX1_sets 14 = .ok (.iload 4, 2) := dk_21 4 (dk_at dksX1_sets_0 14 rfl rfl)
theorem dX1_sets_16 : decode cX1_sets 16 = .ok (.iastore, 1) := dk_79 (dk_at dksX1_sets_0 16 rfl rfl)
theorem dX1_sets_17 : decode cX1_sets 17 = .ok (.iconst 3, 1) := dk_6 (dk_at dksX1_sets_0 17 rfl rfl)
theorem dX1_sets_18 : decode cX1_sets 18 = .ok (.newarray .int, 2) := dk_188_10 (dk_at dksX1_sets_0 18 rfl rfl)
theorem dX1_sets_20 : decode cX1_sets 20 = .ok (.dup, 1) := dk_89 (dk_at dksX1_sets_0 20 rfl rfl)
theorem dX1_sets_21 : decode cX1_sets 21 = .ok (.iconst 0, 1) := dk_3 (dk_at dksX1_sets_0 21 rfl rfl)
theorem dX1_sets_22 : decode cX1_sets 22 = .ok (.iconst 1, 1) := dk_4 (dk_at dksX1_sets_0 22 rfl rfl)
theorem dX1_sets_23 : decode cX1_sets 23 = .ok (.iastore, 1) := dk_79 (dk_at dksX1_sets_0 23 rfl rfl)
theorem dX1_sets_24 : decode cX1_sets 24 = .ok (.dup, 1) := dk_89 (dk_at dksX1_sets_1 0 rfl rfl)
theorem dX1_sets_25 : decode cX1_sets 25 = .ok (.iconst 1, 1) := dk_4 (dk_at dksX1_sets_1 1 rfl rfl)
theorem dX1_sets_26 : decode cX1_sets 26 = .ok (.iconst 1, 1) := dk_4 (dk_at dksX1_sets_1 2 rfl rfl)
theorem dX1_sets_27 : decode cX1_sets 27 = .ok (.iastore, 1) := dk_79 (dk_at dksX1_sets_1 3 rfl rfl)
theorem dX1_sets_28 : decode cX1_sets 28 = .ok (.dup, 1) := dk_89 (dk_at dksX1_sets_1 4 rfl rfl)
theorem dX1_sets_29 : decode cX1_sets 29 = .ok (.iconst 2, 1) := dk_5 (dk_at dksX1_sets_1 5 rfl rfl)
theorem dX1_sets_30 : decode cX1_sets 30 = .ok (.iconst 1, 1) := dk_4 (dk_at dksX1_sets_1 6 rfl rfl)
theorem dX1_sets_31 : decode cX1_sets 31 = .ok (.iastore, 1) := dk_79 (dk_at dksX1_sets_1 7 rfl rfl)
theorem dX1_sets_32 : decode cX1_sets 32 = .ok (.invokevirtual 259, 3) := dk_182 1 3 (dk_at dksX1_sets_1 8 rfl rfl)
theorem dX1_sets_35 : decode cX1_sets 35 = .ok (.aload_n 0, 1) := dk_42 (dk_at dksX1_sets_1 11 rfl rfl)
theorem dX1_sets_36 : decode cX1_sets 36 = .ok (.iload_n 1, 1) := dk_27 (dk_at dksX1_sets_1 12 rfl rfl)
theorem dX1_sets_37 : decode cX1_sets 37 = .ok (.invokedynamic 271, 5) := by decide +kernel
theorem dX1_sets_42 : decode cX1_sets 42 = .ok (.iconst 3, 1) := dk_6 (dk_at dksX1_sets_1 18 rfl rfl)
theorem dX1_sets_43 : decode cX1_sets 43 = .ok (.newarray .int, 2) := dk_188_10 (dk_at dksX1_sets_1 19 rfl rfl)
theorem dX1_sets_45 : decode cX1_sets 45 = .ok (.dup, 1) := dk_89 (dk_at dksX1_sets_1 21 rfl rfl)
theorem dX1_sets_46 : decode cX1_sets 46 = .ok (.iconst 0, 1) := dk_3 (dk_at dksX1_sets_1 22 rfl rfl)
theorem dX1_sets_47 : decode cX1_sets 47 = .ok (.iload_n 2, 1) := dk_28 (dk_at dksX1_sets_1 23 rfl rfl)
theorem dX1_sets_48 : decode cX1_sets 48 = .ok (.iastore, 1) := dk_79 (dk_at dksX1_sets_2 0 rfl rfl)
theorem dX1_sets_49 : decode cX1_sets 49 = .ok (.dup, 1) := dk_89 (dk_at dksX1_sets_2 1 rfl rfl)
theorem dX1_sets_50 : decode cX1_sets 50 = .ok (.iconst 1, 1) := dk_4 (dk_at dksX1_sets_2 2 rfl rfl)
theorem dX1_sets_51 : decode cX1_sets 51 = .ok (.iload_n 3, 1) := dk_29 (dk_at dksX1_sets_2 3 rfl rfl)
theorem dX1_sets_52 : decode cX1_sets 52 = .ok (.iastore, 1) := dk_79 (dk_at dksX1_sets_2 4 rfl rfl)
theorem dX1_sets_53 : decode cX1_sets 53 = .ok (.dup, 1) := dk_89 (dk_at dksX1_sets_2 5 rfl rfl)
theorem dX1_sets_54 : decode cX1_sets 54 = .ok (.iconst 2, 1) := dk_5 (dk_at dksX1_sets_2 6 rfl rfl)
theorem dX1_sets_55 : decode cX1_sets 55 = .ok (.iload 4, 2) := dk_21 4 (dk_at dksX1_sets_2 7 rfl rfl)
theorem dX1_sets_57 : decode cX1_sets 57 = .ok (.iastore, 1) := dk_79 (dk_at dksX1_sets_2 9 rfl rfl)
theorem dX1_sets_58 : decode cX1_sets 58 = .ok (.invokevirtual 267, 3) := dk_182 1 11 (dk_at dksX1_sets_2 10 rfl rfl)
theorem dX1_sets_61 : decode cX1_sets 61 = .ok (.ireturn, 1) := dk_172 (dk_at dksX1_sets_2 13 rfl rfl)
def dkwX1_lambda_sets_1_0 : List UInt8 := [27, 26, 153, 0, 9, 28, 29, 128, 167, 0, 6, 28, 29, 126, 160, 0, 7, 4, 167, 0, 4, 3, 172]
abbrev dktX1_lambda_sets_1_0 : List UInt8 := dkwX1_lambda_sets_1_0 ++ []
theorem dksX1_lambda_sets_1_0 : cX1_lambda_sets_1.data.toList.drop 0 = dktX1_lambda_sets_1_0 := by decide +kernel
theorem dX1_lambda_sets_1_0 : decode cX1_lambda_sets_1 0 = .ok (.iload_n 1, 1) := dk_27 (dk_at dksX1_lambda_sets_1_0 0 rfl rfl)
theorem dX1_lambda_sets_1_1 : decode cX1_lambda_sets_1 1 = .ok (.iload_n 0, 1) := dk_26 (dk_at dksX1_lambda_sets_1_0 1 rfl rfl)
theorem dX1_lambda_sets_1_2 : decode cX1_lambda_sets_1 2 = .ok (.ifCond .eq 9, 3) := dk_153 0 9 (dk_at dksX1_lambda_sets_1_0 2 rfl rfl)
theorem dX1_lambda_sets_1_5 : decode cX1_lambda_sets_1 5 = .ok (.iload_n 2, 1) := dk_28 (dk_at dksX1_lambda_sets_1_0 5 rfl rfl)
theorem dX1_lambda_sets_1_6 : decode cX1_lambda_sets_1 6 = .ok (.iload_n 3, 1) := dk_29 (dk_at dksX1_lambda_sets_1_0 6 rfl rfl)
theorem dX1_lambda_sets_1_7 : decode cX1_lambda_sets_1 7 = .ok (.ior, 1) := dk_128 (dk_at dksX1_lambda_sets_1_0 7 rfl rfl)
theorem dX1_lambda_sets_1_8 : decode cX1_lambda_sets_1 8 = .ok (.goto 6, 3) := dk_167 0 6 (dk_at dksX1_lambda_sets_1_0 8 rfl rfl)
theorem dX1_lambda_sets_1_11 : decode cX1_lambda_sets_1 11 = .ok (.iload_n 2, 1) := dk_28 (dk_at dksX1_lambda_sets_1_0 11 rfl rfl)
theorem dX1_lambda_sets_1_12 : decode cX1_lambda_sets_1 12 = .ok (.iload_n 3, 1) := dk_29 (dk_at dksX1_lambda_sets_1_0 12 rfl rfl)
theorem dX1_lambda_sets_1_13 : decode cX1_lambda_sets_1 13 = .ok (.iand, 1) := dk_126 (dk_at dksX1_lambda_sets_1_0 13 rfl rfl)
theorem dX1_lambda_sets_1_14 : decode cX1_lambda_sets_1 14 = .ok (.if_icmp .ne 7, 3) := dk_160 0 7 (dk_at dksX1_lambda_sets_1_0 14 rfl rfl)
theorem dX1_lambda_sets_1_17 : decode cX1_lambda_sets_1 17 = .ok (.iconst 1, 1) := dk_4 (dk_at dksX1_lambda_sets_1_0 17 rfl rfl)
theorem dX1_lambda_sets_1_18 : decode cX1_lambda_sets_1 18 = .ok (.goto 4, 3) := dk_167 0 4 (dk_at dksX1_lambda_sets_1_0 18 rfl rfl)
theorem dX1_lambda_sets_1_21 : decode cX1_lambda_sets_1 21 = .ok (.iconst 0, 1) := dk_3 (dk_at dksX1_lambda_sets_1_0 21 rfl rfl)
theorem dX1_lambda_sets_1_22 : decode cX1_lambda_sets_1 22 = .ok (.ireturn, 1) := dk_172 (dk_at dksX1_lambda_sets_1_0 22 rfl rfl)
def dkwX1_within_1 : List UInt8 := [182, 1, 3, 42, 186, 1, 16, 0, 0, 5, 188, 10, 89, 3, 27, 79, 89, 4, 28, 79, 182, 1, 11, 172]
abbrev dktX1_within_1 : List UInt8 := dkwX1_within_1 ++ []
def dkwX1_within_0 : List UInt8 := [42, 5, 188, 10, 89, 3, 27, 79, 89, 4, 28, 79, 5, 188, 10, 89, 3, 4, 79, 89, 4, 4, 79]
abbrev dktX1_within_0 : List UInt8 := dkwX1_within_0 ++ dktX1_within_1
theorem dksX1_within_0 : cX1_within.data.toList.drop 0 = dktX1_within_0 := by decide +kernel
theorem dksX1_within_1 : cX1_within.data.toList.drop 23 = dktX1_within_1 := dk_seg dksX1_within_0 23 rfl rfl
theorem dX1_within_0 : decode cX1_within 0 = .ok (.aload_n 0, 1) := dk_42 (dk_at dksX1_within_0 0 rfl rfl)
theorem dX1_within_1 : decode cX1_within 1 = .ok (.iconst 2, 1) := dk_5 (dk_at dksX1_within_0 1 rfl rfl)
theorem dX1_within_2 : decode cX1_within 2 = .ok (.newarray .int, 2) := dk_188_10 (dk_at dksX1_within_0 2 rfl rfl)
theorem dX1_within_4 : decode cX1_within 4 = .ok (.dup, 1) := dk_89 (dk_at dksX1_within_0 4 rfl rfl)
theorem dX1_within_5 : decode cX1_within 5 = .ok (.iconst 0, 1) := dk_3 (dk_at dksX1_within_0 5 rfl rfl)
theorem dX1_within_6 : decode cX1_within 6 = .ok (.iload_n 1, 1) := dk_27 (dk_at dksX1_within_0 6 rfl rfl)
theorem dX1_within_7 : decode cX1_within 7 = .ok (.iastore, 1) := dk_79 (dk_at dksX1_within_0 7 rfl rfl)
theorem dX1_within_8 : decode cX1_within 8 = .ok (.dup, 1) := dk_89 (dk_at dksX1_within_0 8 rfl rfl)
theorem dX1_within_9 : decode cX1_within 9 = .ok (.iconst 1, 1) := dk_4 (dk_at dksX1_within_0 9 rfl rfl)
theorem dX1_within_10 : decode cX1_within 10 = .ok (.iload_n 2, 1) := dk_28 (dk_at dksX1_within_0 10 rfl rfl)
theorem dX1_within_11 : decode cX1_within 11 = .ok (.iastore, 1) := dk_79 (dk_at dksX1_within_0 11 rfl rfl)
theorem dX1_within_12 : decode cX1_within 12 = .ok (.iconst 2, 1) := dk_5 (dk_at dksX1_within_0 12 rfl rfl)
theorem dX1_within_13 : decode cX1_within 13 = .ok (.newarray .int, 2) := dk_188_10 (dk_at dksX1_within_0 13 rfl rfl)
theorem dX1_within_15 : decode cX1_within 15 = .ok (.dup, 1) := dk_89 (dk_at dksX1_within_0 15 rfl rfl)
theorem dX1_within_16 : decode cX1_within 16 = .ok (.iconst 0, 1) := dk_3 (dk_at dksX1_within_0 16 rfl rfl)
theorem dX1_within_17 : decode cX1_within 17 = .ok (.iconst 1, 1) := dk_4 (dk_at dksX1_within_0 17 rfl rfl)
theorem dX1_within_18 : decode cX1_within 18 = .ok (.iastore, 1) := dk_79 (dk_at dksX1_within_0 18 rfl rfl)
theorem dX1_within_19 : decode cX1_within 19 = .ok (.dup, 1) := dk_89 (dk_at dksX1_within_0 19 rfl rfl)
theorem dX1_within_20 : decode cX1_within 20 = .ok (.iconst 1, 1) := dk_4 (dk_at dksX1_within_0 20 rfl rfl)
theorem dX1_within_21 : decode cX1_within 21 = .ok (.iconst 1, 1) := dk_4 (dk_at dksX1_within_0 21 rfl rfl)
theorem dX1_within_22 : decode cX1_within 22 = .ok (.iastore, 1) := dk_79 (dk_at dksX1_within_0 22 rfl rfl)
theorem dX1_within_23 : decode cX1_within 23 = .ok (.invokevirtual 259, 3) := dk_182 1 3 (dk_at dksX1_within_1 0 rfl rfl)
theorem dX1_within_26 : decode cX1_within 26 = .ok (.aload_n 0, 1) := dk_42 (dk_at dksX1_within_1 3 rfl rfl)
theorem dX1_within_27 : decode cX1_within 27 = .ok (.invokedynamic 272, 5) := by decide +kernel
theorem dX1_within_32 : decode cX1_within 32 = .ok (.iconst 2, 1) := dk_5 (dk_at dksX1_within_1 9 rfl rfl)
theorem dX1_within_33 : decode cX1_within 33 = .ok (.newarray .int, 2) := dk_188_10 (dk_at dksX1_within_1 10 rfl rfl)
theorem dX1_within_35 : decode cX1_within 35 = .ok (.dup, 1) := dk_89 (dk_at dksX1_within_1 12 rfl rfl)
theorem dX1_within_36 : decode cX1_within 36 = .ok (.iconst 0, 1) := dk_3 (dk_at dksX1_within_1 13 rfl rfl)
theorem dX1_within_37 : decode cX1_within 37 = .ok (.iload_n 1, 1) := dk_27 (dk_at dksX1_within_1 14 rfl rfl)
theorem dX1_within_38 : decode cX1_within 38 = .ok (.iastore, 1) := dk_79 (dk_at dksX1_within_1 15 rfl rfl)
theorem dX1_within_39 : decode cX1_within 39 = .ok (.dup, 1) := dk_89 (dk_at dksX1_within_1 16 rfl rfl)
theorem dX1_within_40 : decode cX1_within 40 = .ok (.iconst 1, 1) := dk_4 (dk_at dksX1_within_1 17 rfl rfl)
theorem dX1_within_41 : decode cX1_within 41 = .ok (.iload_n 2, 1) := dk_28 (dk_at dksX1_within_1 18 rfl rfl)
theorem dX1_within_42 : decode cX1_within 42 = .ok (.iastore, 1) := dk_79 (dk_at dksX1_within_1 19 rfl rfl)
theorem dX1_within_43 : decode cX1_within 43 = .ok (.invokevirtual 267, 3) := dk_182 1 11 (dk_at dksX1_within_1 20 rfl rfl)
theorem dX1_within_46 : decode cX1_within 46 = .ok (.ireturn, 1) := dk_172 (dk_at dksX1_within_1 23 rfl rfl)
def dkwX1_lambda_within_2_0 : List UInt8 := [26, 27, 2, 130, 126, 154, 0, 7, 4, 167, 0, 4, 3, 172]
abbrev dktX1_lambda_within_2_0 : List UInt8 := dkwX1_lambda_within_2_0 ++ []
theorem dksX1_lambda_within_2_0 : cX1_lambda_within_2.data.toList.drop 0 = dktX1_lambda_within_2_0 := by decide +kernel
theorem dX1_lambda_within_2_0 : decode cX1_lambda_within_2 0 = .ok (.iload_n 0, 1) := dk_26 (dk_at dksX1_lambda_within_2_0 0 rfl rfl)
theorem dX1_lambda_within_2_1 : decode cX1_lambda_within_2 1 = .ok (.iload_n 1, 1) := dk_27 (dk_at dksX1_lambda_within_2_0 1 rfl rfl)
theorem dX1_lambda_within_2_2 : decode cX1_lambda_within_2 2 = .ok (.iconst (-1), 1) := dk_2 (dk_at dksX1_lambda_within_2_0 2 rfl rfl)
theorem dX1_lambda_within_2_3 : decode cX1_lambda_within_2 3 = .ok (.ixor, 1) := dk_130 (dk_at dksX1_lambda_within_2_0 3 rfl rfl)
theorem dX1_lambda_within_2_4 : decode cX1_lambda_within_2 4 = .ok (.iand, 1) := dk_126 (dk_at dksX1_lambda_within_2_0 4 rfl rfl)
theorem dX1_lambda_within_2_5 : decode cX1_lambda_within_2 5 = .ok (.ifCond .ne 7, 3) := dk_154 0 7 (dk_at dksX1_lambda_within_2_0 5 rfl rfl)
theorem dX1_lambda_within_2_8 : decode cX1_lambda_within_2 8 = .ok (.iconst 1, 1) := dk_4 (dk_at dksX1_lambda_within_2_0 8 rfl rfl)
theorem dX1_lambda_within_2_9 : decode cX1_lambda_within_2 9 = .ok (.goto 4, 3) := dk_167 0 4 (dk_at dksX1_lambda_within_2_0 9 rfl rfl)
theorem dX1_lambda_within_2_12 : decode cX1_lambda_within_2 12 = .ok (.iconst 0, 1) := dk_3 (dk_at dksX1_lambda_within_2_0 12 rfl rfl)
theorem dX1_lambda_within_2_13 : decode cX1_lambda_within_2 13 = .ok (.ireturn, 1) := dk_172 (dk_at dksX1_lambda_within_2_0 13 rfl rfl)
def dkwX1_measure_2 : List UInt8 := [186, 1, 19, 0, 0, 5, 188, 10, 89, 3, 27, 79, 89, 4, 28, 79, 182, 1, 11, 172]
abbrev dktX1_measure_2 : List UInt8 := dkwX1_measure_2 ++ []
def dkwX1_measure_1 : List UInt8 := [27, 5, 182, 0, 150, 153, 0, 7, 4, 167, 0, 4, 3, 184, 0, 154, 42, 28, 3, 182, 0, 244, 42, 29]
abbrev dktX1_measure_1 : List UInt8 := dkwX1_measure_1 ++ dktX1_measure_2
def dkwX1_measure_0 : List UInt8 := [42, 27, 182, 0, 158, 87, 42, 28, 182, 0, 158, 87, 42, 27, 4, 182, 0, 150, 62, 29, 154, 0, 12, 42]
abbrev dktX1_measure_0 : List UInt8 := dkwX1_measure_0 ++ dktX1_measure_1
theorem dksX1_measure_0 : cX1_measure.data.toList.drop 0 = dktX1_measure_0 := by decide +kernel
theorem dksX1_measure_1 : cX1_measure.data.toList.drop 24 = dktX1_measure_1 := dk_seg dksX1_measure_0 24 rfl rfl
theorem dksX1_measure_2 : cX1_measure.data.toList.drop 48 = dktX1_measure_2 := dk_seg dksX1_measure_1 24 rfl rfl
theorem dX1_measure_0 : decode cX1_measure 0 = .ok (.aload_n 0, 1) := dk_42 (dk_at dksX1_measure_0 0 rfl rfl)
theorem dX1_measure_1 : decode cX1_measure 1 = .ok (.iload_n 1, 1) := dk_27 (dk_at dksX1_measure_0 1 rfl rfl)
theorem dX1_measure_2 : decode cX1_measure 2 = .ok (.invokevirtual 158, 3) := dk_182 0 158 (dk_at dksX1_measure_0 2 rfl rfl)
theorem dX1_measure_5 : decode cX1_measure 5 = .ok (.pop, 1) := dk_87 (dk_at dksX1_measure_0 5 rfl rfl)
theorem dX1_measure_6 : decode cX1_measure 6 = .ok (.aload_n 0, 1) := dk_42 (dk_at dksX1_measure_0 6 rfl rfl)
theorem dX1_measure_7 : decode cX1_measure 7 = .ok (.iload_n 2, 1) := dk_28 (dk_at dksX1_measure_0 7 rfl rfl)
theorem dX1_measure_8 : decode cX1_measure 8 = .ok (.invokevirtual 158, 3) := dk_182 0 158 (dk_at dksX1_measure_0 8 rfl rfl)
theorem dX1_measure_11 : decode cX1_measure 11 = .ok (.pop, 1) := dk_87 (dk_at dksX1_measure_0 11 rfl rfl)
theorem dX1_measure_12 : decode cX1_measure 12 = .ok (.aload_n 0, 1) := dk_42 (dk_at dksX1_measure_0 12 rfl rfl)
theorem dX1_measure_13 : decode cX1_measure 13 = .ok (.iload_n 1, 1) := dk_27 (dk_at dksX1_measure_0 13 rfl rfl)
theorem dX1_measure_14 : decode cX1_measure 14 = .ok (.iconst 1, 1) := dk_4 (dk_at dksX1_measure_0 14 rfl rfl)
theorem dX1_measure_15 : decode cX1_measure 15 = .ok (.invokevirtual 150, 3) := dk_182 0 150 (dk_at dksX1_measure_0 15 rfl rfl)
theorem dX1_measure_18 : decode cX1_measure 18 = .ok (.istore_n 3, 1) := dk_62 (dk_at dksX1_measure_0 18 rfl rfl)
theorem dX1_measure_19 : decode cX1_measure 19 = .ok (.iload_n 3, 1) := dk_29 (dk_at dksX1_measure_0 19 rfl rfl)
theorem dX1_measure_20 : decode cX1_measure 20 = .ok (.ifCond .ne 12, 3) := dk_154 0 12 (dk_at dksX1_measure_0 20 rfl rfl)
theorem dX1_measure_23 : decode cX1_measure 23 = .ok (.aload_n 0, 1) := dk_42 (dk_at dksX1_measure_0 23 rfl rfl)
theorem dX1_measure_24 : decode cX1_measure 24 = .ok (.iload_n 1, 1) := dk_27 (dk_at dksX1_measure_1 0 rfl rfl)
theorem dX1_measure_25 : decode cX1_measure 25 = .ok (.iconst 2, 1) := dk_5 (dk_at dksX1_measure_1 1 rfl rfl)
theorem dX1_measure_26 : decode cX1_measure 26 = .ok (.invokevirtual 150, 3) := dk_182 0 150 (dk_at dksX1_measure_1 2 rfl rfl)
theorem dX1_measure_29 : decode cX1_measure 29 = .ok (.ifCond .eq 7, 3) := dk_153 0 7 (dk_at dksX1_measure_1 5 rfl rfl)
theorem dX1_measure_32 : decode cX1_measure 32 = .ok (.iconst 1, 1) := dk_4 (dk_at dksX1_measure_1 8 rfl rfl)
theorem dX1_measure_33 : decode cX1_measure 33 = .ok (.goto 4, 3) := dk_167 0 4 (dk_at dksX1_measure_1 9 rfl rfl)
theorem dX1_measure_36 : decode cX1_measure 36 = .ok (.iconst 0, 1) := dk_3 (dk_at dksX1_measure_1 12 rfl rfl)
theorem dX1_measure_37 : decode cX1_measure 37 = .ok (.invokestatic 154, 3) := dk_184 0 154 (dk_at dksX1_measure_1 13 rfl rfl)
theorem dX1_measure_40 : decode cX1_measure 40 = .ok (.aload_n 0, 1) := dk_42 (dk_at dksX1_measure_1 16 rfl rfl)
theorem dX1_measure_41 : decode cX1_measure 41 = .ok (.iload_n 2, 1) := dk_28 (dk_at dksX1_measure_1 17 rfl rfl)
theorem dX1_measure_42 : decode cX1_measure 42 = .ok (.iconst 0, 1) := dk_3 (dk_at dksX1_measure_1 18 rfl rfl)
theorem dX1_measure_43 : decode cX1_measure 43 = .ok (.invokevirtual 244, 3) := dk_182 0 244 (dk_at dksX1_measure_1 19 rfl rfl)
theorem dX1_measure_46 : decode cX1_measure 46 = .ok (.aload_n 0, 1) := dk_42 (dk_at dksX1_measure_1 22 rfl rfl)
theorem dX1_measure_47 : decode cX1_measure 47 = .ok (.iload_n 3, 1) := dk_29 (dk_at dksX1_measure_1 23 rfl rfl)
theorem dX1_measure_48 : decode cX1_measure 48 = .ok (.invokedynamic 275, 5) := by decide +kernel
theorem dX1_measure_53 : decode cX1_measure 53 = .ok (.iconst 2, 1) := dk_5 (dk_at dksX1_measure_2 5 rfl rfl)
theorem dX1_measure_54 : decode cX1_measure 54 = .ok (.newarray .int, 2) := dk_188_10 (dk_at dksX1_measure_2 6 rfl rfl)
theorem dX1_measure_56 : decode cX1_measure 56 = .ok (.dup, 1) := dk_89 (dk_at dksX1_measure_2 8 rfl rfl)
theorem dX1_measure_57 : decode cX1_measure 57 = .ok (.iconst 0, 1) := dk_3 (dk_at dksX1_measure_2 9 rfl rfl)
theorem dX1_measure_58 : decode cX1_measure 58 = .ok (.iload_n 1, 1) := dk_27 (dk_at dksX1_measure_2 10 rfl rfl)
theorem dX1_measure_59 : decode cX1_measure 59 = .ok (.iastore, 1) := dk_79 (dk_at dksX1_measure_2 11 rfl rfl)
theorem dX1_measure_60 : decode cX1_measure 60 = .ok (.dup, 1) := dk_89 (dk_at dksX1_measure_2 12 rfl rfl)
theorem dX1_measure_61 : decode cX1_measure 61 = .ok (.iconst 1, 1) := dk_4 (dk_at dksX1_measure_2 13 rfl rfl)
theorem dX1_measure_62 : decode cX1_measure 62 = .ok (.iload_n 2, 1) := dk_28 (dk_at dksX1_measure_2 14 rfl rfl)
theorem dX1_measure_63 : decode cX1_measure 63 = .ok (.iastore, 1) := dk_79 (dk_at dksX1_measure_2 15 rfl rfl)
theorem dX1_measure_64 : decode cX1_measure 64 = .ok (.invokevirtual 267, 3) := dk_182 1 11 (dk_at dksX1_measure_2 16 rfl rfl)
theorem dX1_measure_67 : decode cX1_measure 67 = .ok (.ireturn, 1) := dk_172 (dk_at dksX1_measure_2 19 rfl rfl)
def dkwX1_lambda_measure_3_1 : List UInt8 := [172]
abbrev dktX1_lambda_measure_3_1 : List UInt8 := dkwX1_lambda_measure_3_1 ++ []
def dkwX1_lambda_measure_3_0 : List UInt8 := [28, 26, 153, 0, 10, 27, 184, 1, 149, 167, 0, 7, 27, 184, 0, 12, 160, 0, 7, 4, 167, 0, 4, 3]
abbrev dktX1_lambda_measure_3_0 : List UInt8 := dkwX1_lambda_measure_3_0 ++ dktX1_lambda_measure_3_1
theorem dksX1_lambda_measure_3_0 : cX1_lambda_measure_3.data.toList.drop 0 = dktX1_lambda_measure_3_0 := by decide +kernel
theorem dksX1_lambda_measure_3_1 : cX1_lambda_measure_3.data.toList.drop 24 = dktX1_lambda_measure_3_1 := dk_seg dksX1_lambda_measure_3_0 24 rfl rfl
theorem dX1_lambda_measure_3_0 : decode cX1_lambda_measure_3 0 = .ok (.iload_n 2, 1) := dk_28 (dk_at dksX1_lambda_measure_3_0 0 rfl rfl)
theorem dX1_lambda_measure_3_1 : decode cX1_lambda_measure_3 1 = .ok (.iload_n 0, 1) := dk_26 (dk_at dksX1_lambda_measure_3_0 1 rfl rfl)
theorem dX1_lambda_measure_3_2 : decode cX1_lambda_measure_3 2 = .ok (.ifCond .eq 10, 3) := dk_153 0 10 (dk_at dksX1_lambda_measure_3_0 2 rfl rfl)
theorem dX1_lambda_measure_3_5 : decode cX1_lambda_measure_3 5 = .ok (.iload_n 1, 1) := dk_27 (dk_at dksX1_lambda_measure_3_0 5 rfl rfl)
theorem dX1_lambda_measure_3_6 : decode cX1_lambda_measure_3 6 = .ok (.invokestatic 405, 3) := dk_184 1 149 (dk_at dksX1_lambda_measure_3_0 6 rfl rfl)
theorem dX1_lambda_measure_3_9 : decode cX1_lambda_measure_3 9 = .ok (.goto 7, 3) := dk_167 0 7 (dk_at dksX1_lambda_measure_3_0 9 rfl rfl)
theorem dX1_lambda_measure_3_12 : decode cX1_lambda_measure_3 12 = .ok (.iload_n 1, 1) := dk_27 (dk_at dksX1_lambda_measure_3_0 12 rfl rfl)
theorem dX1_lambda_measure_3_13 : decode cX1_lambda_measure_3 13 = .ok (.invokestatic 12, 3) := dk_184 0 12 (dk_at dksX1_lambda_measure_3_0 13 rfl rfl)
theorem dX1_lambda_measure_3_16 : decode cX1_lambda_measure_3 16 = .ok (.if_icmp .ne 7, 3) := dk_160 0 7 (dk_at dksX1_lambda_measure_3_0 16 rfl rfl)
theorem dX1_lambda_measure_3_19 : decode cX1_lambda_measure_3 19 = .ok (.iconst 1, 1) := dk_4 (dk_at dksX1_lambda_measure_3_0 19 rfl rfl)
theorem dX1_lambda_measure_3_20 : decode cX1_lambda_measure_3 20 = .ok (.goto 4, 3) := dk_167 0 4 (dk_at dksX1_lambda_measure_3_0 20 rfl rfl)
theorem dX1_lambda_measure_3_23 : decode cX1_lambda_measure_3 23 = .ok (.iconst 0, 1) := dk_3 (dk_at dksX1_lambda_measure_3_0 23 rfl rfl)
theorem dX1_lambda_measure_3_24 : decode cX1_lambda_measure_3 24 = .ok (.ireturn, 1) := dk_172 (dk_at dksX1_lambda_measure_3_1 0 rfl rfl)
def dkwX1_length_1 : List UInt8 := [167, 0, 4, 6, 172]
abbrev dktX1_length_1 : List UInt8 := dkwX1_length_1 ++ []
def dkwX1_length_0 : List UInt8 := [26, 154, 0, 7, 3, 167, 0, 23, 26, 6, 162, 0, 7, 4, 167, 0, 14, 26, 16, 7, 162, 0, 7, 5]
abbrev dktX1_length_0 : List UInt8 := dkwX1_length_0 ++ dktX1_length_1
theorem dksX1_length_0 : cX1_length.data.toList.drop 0 = dktX1_length_0 := by decide +kernel
theorem dksX1_length_1 : cX1_length.data.toList.drop 24 = dktX1_length_1 := dk_seg dksX1_length_0 24 rfl rfl
theorem dX1_length_0 : decode cX1_length 0 = .ok (.iload_n 0, 1) := dk_26 (dk_at dksX1_length_0 0 rfl rfl)
theorem dX1_length_1 : decode cX1_length 1 = .ok (.ifCond .ne 7, 3) := dk_154 0 7 (dk_at dksX1_length_0 1 rfl rfl)
theorem dX1_length_4 : decode cX1_length 4 = .ok (.iconst 0, 1) := dk_3 (dk_at dksX1_length_0 4 rfl rfl)
theorem dX1_length_5 : decode cX1_length 5 = .ok (.goto 23, 3) := dk_167 0 23 (dk_at dksX1_length_0 5 rfl rfl)
theorem dX1_length_8 : decode cX1_length 8 = .ok (.iload_n 0, 1) := dk_26 (dk_at dksX1_length_0 8 rfl rfl)
theorem dX1_length_9 : decode cX1_length 9 = .ok (.iconst 3, 1) := dk_6 (dk_at dksX1_length_0 9 rfl rfl)
theorem dX1_length_10 : decode cX1_length 10 = .ok (.if_icmp .ge 7, 3) := dk_162 0 7 (dk_at dksX1_length_0 10 rfl rfl)
theorem dX1_length_13 : decode cX1_length 13 = .ok (.iconst 1, 1) := dk_4 (dk_at dksX1_length_0 13 rfl rfl)
theorem dX1_length_14 : decode cX1_length 14 = .ok (.goto 14, 3) := dk_167 0 14 (dk_at dksX1_length_0 14 rfl rfl)
theorem dX1_length_17 : decode cX1_length 17 = .ok (.iload_n 0, 1) := dk_26 (dk_at dksX1_length_0 17 rfl rfl)
theorem dX1_length_18 : decode cX1_length 18 = .ok (.bipush 7, 2) := dk_16 7 (dk_at dksX1_length_0 18 rfl rfl)
theorem dX1_length_20 : decode cX1_length 20 = .ok (.if_icmp .ge 7, 3) := dk_162 0 7 (dk_at dksX1_length_0 20 rfl rfl)
theorem dX1_length_23 : decode cX1_length 23 = .ok (.iconst 2, 1) := dk_5 (dk_at dksX1_length_0 23 rfl rfl)
theorem dX1_length_24 : decode cX1_length 24 = .ok (.goto 4, 3) := dk_167 0 4 (dk_at dksX1_length_1 0 rfl rfl)
theorem dX1_length_27 : decode cX1_length 27 = .ok (.iconst 3, 1) := dk_6 (dk_at dksX1_length_1 3 rfl rfl)
theorem dX1_length_28 : decode cX1_length 28 = .ok (.ireturn, 1) := dk_172 (dk_at dksX1_length_1 4 rfl rfl)
def dkwX1_member_2 : List UInt8 := [4, 28, 79, 89, 5, 29, 79, 182, 1, 11, 172]
abbrev dktX1_member_2 : List UInt8 := dkwX1_member_2 ++ []
def dkwX1_member_1 : List UInt8 := [4, 3, 79, 89, 5, 4, 79, 182, 1, 3, 42, 186, 1, 20, 0, 0, 6, 188, 10, 89, 3, 27, 79, 89]
abbrev dktX1_member_1 : List UInt8 := dkwX1_member_1 ++ dktX1_member_2
def dkwX1_member_0 : List UInt8 := [42, 6, 188, 10, 89, 3, 27, 79, 89, 4, 28, 79, 89, 5, 29, 79, 6, 188, 10, 89, 3, 3, 79, 89]
abbrev dktX1_member_0 : List UInt8 := dkwX1_member_0 ++ dktX1_member_1
theorem dksX1_member_0 : cX1_member.data.toList.drop 0 = dktX1_member_0 := by decide +kernel
theorem dksX1_member_1 : cX1_member.data.toList.drop 24 = dktX1_member_1 := dk_seg dksX1_member_0 24 rfl rfl
theorem dksX1_member_2 : cX1_member.data.toList.drop 48 = dktX1_member_2 := dk_seg dksX1_member_1 24 rfl rfl
theorem dX1_member_0 : decode cX1_member 0 = .ok (.aload_n 0, 1) := dk_42 (dk_at dksX1_member_0 0 rfl rfl)
theorem dX1_member_1 : decode cX1_member 1 = .ok (.iconst 3, 1) := dk_6 (dk_at dksX1_member_0 1 rfl rfl)
theorem dX1_member_2 : decode cX1_member 2 = .ok (.newarray .int, 2) := dk_188_10 (dk_at dksX1_member_0 2 rfl rfl)
theorem dX1_member_4 : decode cX1_member 4 = .ok (.dup, 1) := dk_89 (dk_at dksX1_member_0 4 rfl rfl)
theorem dX1_member_5 : decode cX1_member 5 = .ok (.iconst 0, 1) := dk_3 (dk_at dksX1_member_0 5 rfl rfl)
theorem dX1_member_6 : decode cX1_member 6 = .ok (.iload_n 1, 1) := dk_27 (dk_at dksX1_member_0 6 rfl rfl)
theorem dX1_member_7 : decode cX1_member 7 = .ok (.iastore, 1) := dk_79 (dk_at dksX1_member_0 7 rfl rfl)
theorem dX1_member_8 : decode cX1_member 8 = .ok (.dup, 1) := dk_89 (dk_at dksX1_member_0 8 rfl rfl)
theorem dX1_member_9 : decode cX1_member 9 = .ok (.iconst 1, 1) := dk_4 (dk_at dksX1_member_0 9 rfl rfl)
theorem dX1_member_10 : decode cX1_member 10 = .ok (.iload_n 2, 1) := dk_28 (dk_at dksX1_member_0 10 rfl rfl)
theorem dX1_member_11 : decode cX1_member 11 = .ok (.iastore, 1) := dk_79 (dk_at dksX1_member_0 11 rfl rfl)
theorem dX1_member_12 : decode cX1_member 12 = .ok (.dup, 1) := dk_89 (dk_at dksX1_member_0 12 rfl rfl)
theorem dX1_member_13 : decode cX1_member 13 = .ok (.iconst 2, 1) := dk_5 (dk_at dksX1_member_0 13 rfl rfl)
theorem dX1_member_14 : decode cX1_member 14 = .ok (.iload_n 3, 1) := dk_29 (dk_at dksX1_member_0 14 rfl rfl)
theorem dX1_member_15 : decode cX1_member 15 = .ok (.iastore, 1) := dk_79 (dk_at dksX1_member_0 15 rfl rfl)
theorem dX1_member_16 : decode cX1_member 16 = .ok (.iconst 3, 1) := dk_6 (dk_at dksX1_member_0 16 rfl rfl)
theorem dX1_member_17 : decode cX1_member 17 = .ok (.newarray .int, 2) := dk_188_10 (dk_at dksX1_member_0 17 rfl rfl)
theorem dX1_member_19 : decode cX1_member 19 = .ok (.dup, 1) := dk_89 (dk_at dksX1_member_0 19 rfl rfl)
theorem dX1_member_20 : decode cX1_member 20 = .ok (.iconst 0, 1) := dk_3 (dk_at dksX1_member_0 20 rfl rfl)
theorem dX1_member_21 : decode cX1_member 21 = .ok (.iconst 0, 1) := dk_3 (dk_at dksX1_member_0 21 rfl rfl)
theorem dX1_member_22 : decode cX1_member 22 = .ok (.iastore, 1) := dk_79 (dk_at dksX1_member_0 22 rfl rfl)
theorem dX1_member_23 : decode cX1_member 23 = .ok (.dup, 1) := dk_89 (dk_at dksX1_member_0 23 rfl rfl)
theorem dX1_member_24 : decode cX1_member 24 = .ok (.iconst 1, 1) := dk_4 (dk_at dksX1_member_1 0 rfl rfl)
theorem dX1_member_25 : decode cX1_member 25 = .ok (.iconst 0, 1) := dk_3 (dk_at dksX1_member_1 1 rfl rfl)
theorem dX1_member_26 : decode cX1_member 26 = .ok (.iastore, 1) := dk_79 (dk_at dksX1_member_1 2 rfl rfl)
theorem dX1_member_27 : decode cX1_member 27 = .ok (.dup, 1) := dk_89 (dk_at dksX1_member_1 3 rfl rfl)
theorem dX1_member_28 : decode cX1_member 28 = .ok (.iconst 2, 1) := dk_5 (dk_at dksX1_member_1 4 rfl rfl)
theorem dX1_member_29 : decode cX1_member 29 = .ok (.iconst 1, 1) := dk_4 (dk_at dksX1_member_1 5 rfl rfl)
theorem dX1_member_30 : decode cX1_member 30 = .ok (.iastore, 1) := dk_79 (dk_at dksX1_member_1 6 rfl rfl)
theorem dX1_member_31 : decode cX1_member 31 = .ok (.invokevirtual 259, 3) := dk_182 1 3 (dk_at dksX1_member_1 7 rfl rfl)
theorem dX1_member_34 : decode cX1_member 34 = .ok (.aload_n 0, 1) := dk_42 (dk_at dksX1_member_1 10 rfl rfl)
theorem dX1_member_35 : decode cX1_member 35 = .ok (.invokedynamic 276, 5) := by decide +kernel
theorem dX1_member_40 : decode cX1_member 40 = .ok (.iconst 3, 1) := dk_6 (dk_at dksX1_member_1 16 rfl rfl)
theorem dX1_member_41 : decode cX1_member 41 = .ok (.newarray .int, 2) := dk_188_10 (dk_at dksX1_member_1 17 rfl rfl)
theorem dX1_member_43 : decode cX1_member 43 = .ok (.dup, 1) := dk_89 (dk_at dksX1_member_1 19 rfl rfl)
theorem dX1_member_44 : decode cX1_member 44 = .ok (.iconst 0, 1) := dk_3 (dk_at dksX1_member_1 20 rfl rfl)
theorem dX1_member_45 : decode cX1_member 45 = .ok (.iload_n 1, 1) := dk_27 (dk_at dksX1_member_1 21 rfl rfl)
theorem dX1_member_46 : decode cX1_member 46 = .ok (.iastore, 1) := dk_79 (dk_at dksX1_member_1 22 rfl rfl)
theorem dX1_member_47 : decode cX1_member 47 = .ok (.dup, 1) := dk_89 (dk_at dksX1_member_1 23 rfl rfl)
theorem dX1_member_48 : decode cX1_member 48 = .ok (.iconst 1, 1) := dk_4 (dk_at dksX1_member_2 0 rfl rfl)
theorem dX1_member_49 : decode cX1_member 49 = .ok (.iload_n 2, 1) := dk_28 (dk_at dksX1_member_2 1 rfl rfl)
theorem dX1_member_50 : decode cX1_member 50 = .ok (.iastore, 1) := dk_79 (dk_at dksX1_member_2 2 rfl rfl)
theorem dX1_member_51 : decode cX1_member 51 = .ok (.dup, 1) := dk_89 (dk_at dksX1_member_2 3 rfl rfl)
theorem dX1_member_52 : decode cX1_member 52 = .ok (.iconst 2, 1) := dk_5 (dk_at dksX1_member_2 4 rfl rfl)
theorem dX1_member_53 : decode cX1_member 53 = .ok (.iload_n 3, 1) := dk_29 (dk_at dksX1_member_2 5 rfl rfl)
theorem dX1_member_54 : decode cX1_member 54 = .ok (.iastore, 1) := dk_79 (dk_at dksX1_member_2 6 rfl rfl)
theorem dX1_member_55 : decode cX1_member 55 = .ok (.invokevirtual 267, 3) := dk_182 1 11 (dk_at dksX1_member_2 7 rfl rfl)
theorem dX1_member_58 : decode cX1_member 58 = .ok (.ireturn, 1) := dk_172 (dk_at dksX1_member_2 10 rfl rfl)
def dkwX1_lambda_member_4_0 : List UInt8 := [26, 28, 27, 184, 1, 63, 153, 0, 7, 4, 167, 0, 4, 3, 160, 0, 7, 4, 167, 0, 4, 3, 172]
abbrev dktX1_lambda_member_4_0 : List UInt8 := dkwX1_lambda_member_4_0 ++ []
theorem dksX1_lambda_member_4_0 : cX1_lambda_member_4.data.toList.drop 0 = dktX1_lambda_member_4_0 := by decide +kernel
theorem dX1_lambda_member_4_0 : decode cX1_lambda_member_4 0 = .ok (.iload_n 0, 1) := dk_26 (dk_at dksX1_lambda_member_4_0 0 rfl rfl)
theorem dX1_lambda_member_4_1 : decode cX1_lambda_member_4 1 = .ok (.iload_n 2, 1) := dk_28 (dk_at dksX1_lambda_member_4_0 1 rfl rfl)
theorem dX1_lambda_member_4_2 : decode cX1_lambda_member_4 2 = .ok (.iload_n 1, 1) := dk_27 (dk_at dksX1_lambda_member_4_0 2 rfl rfl)
theorem dX1_lambda_member_4_3 : decode cX1_lambda_member_4 3 = .ok (.invokestatic 319, 3) := dk_184 1 63 (dk_at dksX1_lambda_member_4_0 3 rfl rfl)
theorem dX1_lambda_member_4_6 : decode cX1_lambda_member_4 6 = .ok (.ifCond .eq 7, 3) := dk_153 0 7 (dk_at dksX1_lambda_member_4_0 6 rfl rfl)
theorem dX1_lambda_member_4_9 : decode cX1_lambda_member_4 9 = .ok (.iconst 1, 1) := dk_4 (dk_at dksX1_lambda_member_4_0 9 rfl rfl)
theorem dX1_lambda_member_4_10 : decode cX1_lambda_member_4 10 = .ok (.goto 4, 3) := dk_167 0 4 (dk_at dksX1_lambda_member_4_0 10 rfl rfl)
theorem dX1_lambda_member_4_13 : decode cX1_lambda_member_4 13 = .ok (.iconst 0, 1) := dk_3 (dk_at dksX1_lambda_member_4_0 13 rfl rfl)
theorem dX1_lambda_member_4_14 : decode cX1_lambda_member_4 14 = .ok (.if_icmp .ne 7, 3) := dk_160 0 7 (dk_at dksX1_lambda_member_4_0 14 rfl rfl)
theorem dX1_lambda_member_4_17 : decode cX1_lambda_member_4 17 = .ok (.iconst 1, 1) := dk_4 (dk_at dksX1_lambda_member_4_0 17 rfl rfl)
theorem dX1_lambda_member_4_18 : decode cX1_lambda_member_4 18 = .ok (.goto 4, 3) := dk_167 0 4 (dk_at dksX1_lambda_member_4_0 18 rfl rfl)
theorem dX1_lambda_member_4_21 : decode cX1_lambda_member_4 21 = .ok (.iconst 0, 1) := dk_3 (dk_at dksX1_lambda_member_4_0 21 rfl rfl)
theorem dX1_lambda_member_4_22 : decode cX1_lambda_member_4 22 = .ok (.ireturn, 1) := dk_172 (dk_at dksX1_lambda_member_4_0 22 rfl rfl)
def dkwX1_joined_2 : List UInt8 := [4, 28, 79, 89, 5, 29, 79, 182, 1, 11, 172]
abbrev dktX1_joined_2 : List UInt8 := dkwX1_joined_2 ++ []
def dkwX1_joined_1 : List UInt8 := [4, 5, 79, 89, 5, 5, 79, 182, 1, 3, 42, 186, 1, 21, 0, 0, 6, 188, 10, 89, 3, 27, 79, 89]
abbrev dktX1_joined_1 : List UInt8 := dkwX1_joined_1 ++ dktX1_joined_2
def dkwX1_joined_0 : List UInt8 := [42, 6, 188, 10, 89, 3, 27, 79, 89, 4, 28, 79, 89, 5, 29, 79, 6, 188, 10, 89, 3, 5, 79, 89]
abbrev dktX1_joined_0 : List UInt8 := dkwX1_joined_0 ++ dktX1_joined_1
theorem dksX1_joined_0 : cX1_joined.data.toList.drop 0 = dktX1_joined_0 := by decide +kernel
theorem dksX1_joined_1 : cX1_joined.data.toList.drop 24 = dktX1_joined_1 := dk_seg dksX1_joined_0 24 rfl rfl
theorem dksX1_joined_2 : cX1_joined.data.toList.drop 48 = dktX1_joined_2 := dk_seg dksX1_joined_1 24 rfl rfl
theorem dX1_joined_0 : decode cX1_joined 0 = .ok (.aload_n 0, 1) := dk_42 (dk_at dksX1_joined_0 0 rfl rfl)
theorem dX1_joined_1 : decode cX1_joined 1 = .ok (.iconst 3, 1) := dk_6 (dk_at dksX1_joined_0 1 rfl rfl)
theorem dX1_joined_2 : decode cX1_joined 2 = .ok (.newarray .int, 2) := dk_188_10 (dk_at dksX1_joined_0 2 rfl rfl)
theorem dX1_joined_4 : decode cX1_joined 4 = .ok (.dup, 1) := dk_89 (dk_at dksX1_joined_0 4 rfl rfl)
theorem dX1_joined_5 : decode cX1_joined 5 = .ok (.iconst 0, 1) := dk_3 (dk_at dksX1_joined_0 5 rfl rfl)
theorem dX1_joined_6 : decode cX1_joined 6 = .ok (.iload_n 1, 1) := dk_27 (dk_at dksX1_joined_0 6 rfl rfl)
theorem dX1_joined_7 : decode cX1_joined 7 = .ok (.iastore, 1) := dk_79 (dk_at dksX1_joined_0 7 rfl rfl)
theorem dX1_joined_8 : decode cX1_joined 8 = .ok (.dup, 1) := dk_89 (dk_at dksX1_joined_0 8 rfl rfl)
theorem dX1_joined_9 : decode cX1_joined 9 = .ok (.iconst 1, 1) := dk_4 (dk_at dksX1_joined_0 9 rfl rfl)
theorem dX1_joined_10 : decode cX1_joined 10 = .ok (.iload_n 2, 1) := dk_28 (dk_at dksX1_joined_0 10 rfl rfl)
theorem dX1_joined_11 : decode cX1_joined 11 = .ok (.iastore, 1) := dk_79 (dk_at dksX1_joined_0 11 rfl rfl)
theorem dX1_joined_12 : decode cX1_joined 12 = .ok (.dup, 1) := dk_89 (dk_at dksX1_joined_0 12 rfl rfl)
theorem dX1_joined_13 : decode cX1_joined 13 = .ok (.iconst 2, 1) := dk_5 (dk_at dksX1_joined_0 13 rfl rfl)
theorem dX1_joined_14 : decode cX1_joined 14 = .ok (.iload_n 3, 1) := dk_29 (dk_at dksX1_joined_0 14 rfl rfl)
theorem dX1_joined_15 : decode cX1_joined 15 = .ok (.iastore, 1) := dk_79 (dk_at dksX1_joined_0 15 rfl rfl)
theorem dX1_joined_16 : decode cX1_joined 16 = .ok (.iconst 3, 1) := dk_6 (dk_at dksX1_joined_0 16 rfl rfl)
theorem dX1_joined_17 : decode cX1_joined 17 = .ok (.newarray .int, 2) := dk_188_10 (dk_at dksX1_joined_0 17 rfl rfl)
theorem dX1_joined_19 : decode cX1_joined 19 = .ok (.dup, 1) := dk_89 (dk_at dksX1_joined_0 19 rfl rfl)
theorem dX1_joined_20 : decode cX1_joined 20 = .ok (.iconst 0, 1) := dk_3 (dk_at dksX1_joined_0 20 rfl rfl)
theorem dX1_joined_21 : decode cX1_joined 21 = .ok (.iconst 2, 1) := dk_5 (dk_at dksX1_joined_0 21 rfl rfl)
theorem dX1_joined_22 : decode cX1_joined 22 = .ok (.iastore, 1) := dk_79 (dk_at dksX1_joined_0 22 rfl rfl)
theorem dX1_joined_23 : decode cX1_joined 23 = .ok (.dup, 1) := dk_89 (dk_at dksX1_joined_0 23 rfl rfl)
theorem dX1_joined_24 : decode cX1_joined 24 = .ok (.iconst 1, 1) := dk_4 (dk_at dksX1_joined_1 0 rfl rfl)
theorem dX1_joined_25 : decode cX1_joined 25 = .ok (.iconst 2, 1) := dk_5 (dk_at dksX1_joined_1 1 rfl rfl)
theorem dX1_joined_26 : decode cX1_joined 26 = .ok (.iastore, 1) := dk_79 (dk_at dksX1_joined_1 2 rfl rfl)
theorem dX1_joined_27 : decode cX1_joined 27 = .ok (.dup, 1) := dk_89 (dk_at dksX1_joined_1 3 rfl rfl)
theorem dX1_joined_28 : decode cX1_joined 28 = .ok (.iconst 2, 1) := dk_5 (dk_at dksX1_joined_1 4 rfl rfl)
theorem dX1_joined_29 : decode cX1_joined 29 = .ok (.iconst 2, 1) := dk_5 (dk_at dksX1_joined_1 5 rfl rfl)
theorem dX1_joined_30 : decode cX1_joined 30 = .ok (.iastore, 1) := dk_79 (dk_at dksX1_joined_1 6 rfl rfl)
theorem dX1_joined_31 : decode cX1_joined 31 = .ok (.invokevirtual 259, 3) := dk_182 1 3 (dk_at dksX1_joined_1 7 rfl rfl)
theorem dX1_joined_34 : decode cX1_joined 34 = .ok (.aload_n 0, 1) := dk_42 (dk_at dksX1_joined_1 10 rfl rfl)
theorem dX1_joined_35 : decode cX1_joined 35 = .ok (.invokedynamic 277, 5) := by decide +kernel
theorem dX1_joined_40 : decode cX1_joined 40 = .ok (.iconst 3, 1) := dk_6 (dk_at dksX1_joined_1 16 rfl rfl)
theorem dX1_joined_41 : decode cX1_joined 41 = .ok (.newarray .int, 2) := dk_188_10 (dk_at dksX1_joined_1 17 rfl rfl)
theorem dX1_joined_43 : decode cX1_joined 43 = .ok (.dup, 1) := dk_89 (dk_at dksX1_joined_1 19 rfl rfl)
theorem dX1_joined_44 : decode cX1_joined 44 = .ok (.iconst 0, 1) := dk_3 (dk_at dksX1_joined_1 20 rfl rfl)
theorem dX1_joined_45 : decode cX1_joined 45 = .ok (.iload_n 1, 1) := dk_27 (dk_at dksX1_joined_1 21 rfl rfl)
theorem dX1_joined_46 : decode cX1_joined 46 = .ok (.iastore, 1) := dk_79 (dk_at dksX1_joined_1 22 rfl rfl)
theorem dX1_joined_47 : decode cX1_joined 47 = .ok (.dup, 1) := dk_89 (dk_at dksX1_joined_1 23 rfl rfl)
theorem dX1_joined_48 : decode cX1_joined 48 = .ok (.iconst 1, 1) := dk_4 (dk_at dksX1_joined_2 0 rfl rfl)
theorem dX1_joined_49 : decode cX1_joined 49 = .ok (.iload_n 2, 1) := dk_28 (dk_at dksX1_joined_2 1 rfl rfl)
theorem dX1_joined_50 : decode cX1_joined 50 = .ok (.iastore, 1) := dk_79 (dk_at dksX1_joined_2 2 rfl rfl)
theorem dX1_joined_51 : decode cX1_joined 51 = .ok (.dup, 1) := dk_89 (dk_at dksX1_joined_2 3 rfl rfl)
theorem dX1_joined_52 : decode cX1_joined 52 = .ok (.iconst 2, 1) := dk_5 (dk_at dksX1_joined_2 4 rfl rfl)
theorem dX1_joined_53 : decode cX1_joined 53 = .ok (.iload_n 3, 1) := dk_29 (dk_at dksX1_joined_2 5 rfl rfl)
theorem dX1_joined_54 : decode cX1_joined 54 = .ok (.iastore, 1) := dk_79 (dk_at dksX1_joined_2 6 rfl rfl)
theorem dX1_joined_55 : decode cX1_joined 55 = .ok (.invokevirtual 267, 3) := dk_182 1 11 (dk_at dksX1_joined_2 7 rfl rfl)
theorem dX1_joined_58 : decode cX1_joined 58 = .ok (.ireturn, 1) := dk_172 (dk_at dksX1_joined_2 10 rfl rfl)
def dkwX1_isJoined_2 : List UInt8 := [160, 0, 7, 4, 167, 0, 4, 3, 172]
abbrev dktX1_isJoined_2 : List UInt8 := dkwX1_isJoined_2 ++ []
def dkwX1_isJoined_1 : List UInt8 := [54, 4, 21, 4, 153, 0, 25, 26, 184, 0, 15, 27, 184, 0, 15, 29, 120, 28, 184, 0, 15, 128]
abbrev dktX1_isJoined_1 : List UInt8 := dkwX1_isJoined_1 ++ dktX1_isJoined_2
def dkwX1_isJoined_0 : List UInt8 := [28, 184, 0, 12, 62, 26, 184, 0, 12, 27, 184, 0, 12, 29, 96, 160, 0, 7, 4, 167, 0, 4, 3]
abbrev dktX1_isJoined_0 : List UInt8 := dkwX1_isJoined_0 ++ dktX1_isJoined_1
theorem dksX1_isJoined_0 : cX1_isJoined.data.toList.drop 0 = dktX1_isJoined_0 := by decide +kernel
theorem dksX1_isJoined_1 : cX1_isJoined.data.toList.drop 23 = dktX1_isJoined_1 := dk_seg dksX1_isJoined_0 23 rfl rfl
theorem dksX1_isJoined_2 : cX1_isJoined.data.toList.drop 45 = dktX1_isJoined_2 := dk_seg dksX1_isJoined_1 22 rfl rfl
theorem dX1_isJoined_0 : decode cX1_isJoined 0 = .ok (.iload_n 2, 1) := dk_28 (dk_at dksX1_isJoined_0 0 rfl rfl)
theorem dX1_isJoined_1 : decode cX1_isJoined 1 = .ok (.invokestatic 12, 3) := dk_184 0 12 (dk_at dksX1_isJoined_0 1 rfl rfl)
theorem dX1_isJoined_4 : decode cX1_isJoined 4 = .ok (.istore_n 3, 1) := dk_62 (dk_at dksX1_isJoined_0 4 rfl rfl)
theorem dX1_isJoined_5 : decode cX1_isJoined 5 = .ok (.iload_n 0, 1) := dk_26 (dk_at dksX1_isJoined_0 5 rfl rfl)
theorem dX1_isJoined_6 : decode cX1_isJoined 6 = .ok (.invokestatic 12, 3) := dk_184 0 12 (dk_at dksX1_isJoined_0 6 rfl rfl)
theorem dX1_isJoined_9 : decode cX1_isJoined 9 = .ok (.iload_n 1, 1) := dk_27 (dk_at dksX1_isJoined_0 9 rfl rfl)
theorem dX1_isJoined_10 : decode cX1_isJoined 10 = .ok (.invokestatic 12, 3) := dk_184 0 12 (dk_at dksX1_isJoined_0 10 rfl rfl)
theorem dX1_isJoined_13 : decode cX1_isJoined 13 = .ok (.iload_n 3, 1) := dk_29 (dk_at dksX1_isJoined_0 13 rfl rfl)
theorem dX1_isJoined_14 : decode cX1_isJoined 14 = .ok (.iadd, 1) := dk_96 (dk_at dksX1_isJoined_0 14 rfl rfl)
theorem dX1_isJoined_15 : decode cX1_isJoined 15 = .ok (.if_icmp .ne 7, 3) := dk_160 0 7 (dk_at dksX1_isJoined_0 15 rfl rfl)
theorem dX1_isJoined_18 : decode cX1_isJoined 18 = .ok (.iconst 1, 1) := dk_4 (dk_at dksX1_isJoined_0 18 rfl rfl)
theorem dX1_isJoined_19 : decode cX1_isJoined 19 = .ok (.goto 4, 3) := dk_167 0 4 (dk_at dksX1_isJoined_0 19 rfl rfl)
theorem dX1_isJoined_22 : decode cX1_isJoined 22 = .ok (.iconst 0, 1) := dk_3 (dk_at dksX1_isJoined_0 22 rfl rfl)
theorem dX1_isJoined_23 : decode cX1_isJoined 23 = .ok (.istore 4, 2) := dk_54 4 (dk_at dksX1_isJoined_1 0 rfl rfl)
theorem dX1_isJoined_25 : decode cX1_isJoined 25 = .ok (.iload 4, 2) := dk_21 4 (dk_at dksX1_isJoined_1 2 rfl rfl)
theorem dX1_isJoined_27 : decode cX1_isJoined 27 = .ok (.ifCond .eq 25, 3) := dk_153 0 25 (dk_at dksX1_isJoined_1 4 rfl rfl)
theorem dX1_isJoined_30 : decode cX1_isJoined 30 = .ok (.iload_n 0, 1) := dk_26 (dk_at dksX1_isJoined_1 7 rfl rfl)
theorem dX1_isJoined_31 : decode cX1_isJoined 31 = .ok (.invokestatic 15, 3) := dk_184 0 15 (dk_at dksX1_isJoined_1 8 rfl rfl)
theorem dX1_isJoined_34 : decode cX1_isJoined 34 = .ok (.iload_n 1, 1) := dk_27 (dk_at dksX1_isJoined_1 11 rfl rfl)
theorem dX1_isJoined_35 : decode cX1_isJoined 35 = .ok (.invokestatic 15, 3) := dk_184 0 15 (dk_at dksX1_isJoined_1 12 rfl rfl)
theorem dX1_isJoined_38 : decode cX1_isJoined 38 = .ok (.iload_n 3, 1) := dk_29 (dk_at dksX1_isJoined_1 15 rfl rfl)
theorem dX1_isJoined_39 : decode cX1_isJoined 39 = .ok (.ishl, 1) := dk_120 (dk_at dksX1_isJoined_1 16 rfl rfl)
theorem dX1_isJoined_40 : decode cX1_isJoined 40 = .ok (.iload_n 2, 1) := dk_28 (dk_at dksX1_isJoined_1 17 rfl rfl)
theorem dX1_isJoined_41 : decode cX1_isJoined 41 = .ok (.invokestatic 15, 3) := dk_184 0 15 (dk_at dksX1_isJoined_1 18 rfl rfl)
theorem dX1_isJoined_44 : decode cX1_isJoined 44 = .ok (.ior, 1) := dk_128 (dk_at dksX1_isJoined_1 21 rfl rfl)
theorem dX1_isJoined_45 : decode cX1_isJoined 45 = .ok (.if_icmp .ne 7, 3) := dk_160 0 7 (dk_at dksX1_isJoined_2 0 rfl rfl)
theorem dX1_isJoined_48 : decode cX1_isJoined 48 = .ok (.iconst 1, 1) := dk_4 (dk_at dksX1_isJoined_2 3 rfl rfl)
theorem dX1_isJoined_49 : decode cX1_isJoined 49 = .ok (.goto 4, 3) := dk_167 0 4 (dk_at dksX1_isJoined_2 4 rfl rfl)
theorem dX1_isJoined_52 : decode cX1_isJoined 52 = .ok (.iconst 0, 1) := dk_3 (dk_at dksX1_isJoined_2 7 rfl rfl)
theorem dX1_isJoined_53 : decode cX1_isJoined 53 = .ok (.ireturn, 1) := dk_172 (dk_at dksX1_isJoined_2 8 rfl rfl)
def dkwX1_letters_0 : List UInt8 := [26, 4, 26, 184, 0, 12, 120, 100, 4, 96, 172]
abbrev dktX1_letters_0 : List UInt8 := dkwX1_letters_0 ++ []
theorem dksX1_letters_0 : cX1_letters.data.toList.drop 0 = dktX1_letters_0 := by decide +kernel
theorem dX1_letters_0 : decode cX1_letters 0 = .ok (.iload_n 0, 1) := dk_26 (dk_at dksX1_letters_0 0 rfl rfl)
theorem dX1_letters_1 : decode cX1_letters 1 = .ok (.iconst 1, 1) := dk_4 (dk_at dksX1_letters_0 1 rfl rfl)
theorem dX1_letters_2 : decode cX1_letters 2 = .ok (.iload_n 0, 1) := dk_26 (dk_at dksX1_letters_0 2 rfl rfl)
theorem dX1_letters_3 : decode cX1_letters 3 = .ok (.invokestatic 12, 3) := dk_184 0 12 (dk_at dksX1_letters_0 3 rfl rfl)
theorem dX1_letters_6 : decode cX1_letters 6 = .ok (.ishl, 1) := dk_120 (dk_at dksX1_letters_0 6 rfl rfl)
theorem dX1_letters_7 : decode cX1_letters 7 = .ok (.isub, 1) := dk_100 (dk_at dksX1_letters_0 7 rfl rfl)
theorem dX1_letters_8 : decode cX1_letters 8 = .ok (.iconst 1, 1) := dk_4 (dk_at dksX1_letters_0 8 rfl rfl)
theorem dX1_letters_9 : decode cX1_letters 9 = .ok (.iadd, 1) := dk_96 (dk_at dksX1_letters_0 9 rfl rfl)
theorem dX1_letters_10 : decode cX1_letters 10 = .ok (.ireturn, 1) := dk_172 (dk_at dksX1_letters_0 10 rfl rfl)
def dkwX1_prefix_1 : List UInt8 := [182, 1, 3, 42, 186, 1, 22, 0, 0, 5, 188, 10, 89, 3, 27, 79, 89, 4, 28, 79, 182, 1, 11, 172]
abbrev dktX1_prefix_1 : List UInt8 := dkwX1_prefix_1 ++ []
def dkwX1_prefix_0 : List UInt8 := [42, 5, 188, 10, 89, 3, 27, 79, 89, 4, 28, 79, 5, 188, 10, 89, 3, 5, 79, 89, 4, 5, 79]
abbrev dktX1_prefix_0 : List UInt8 := dkwX1_prefix_0 ++ dktX1_prefix_1
theorem dksX1_prefix_0 : cX1_prefix.data.toList.drop 0 = dktX1_prefix_0 := by decide +kernel
theorem dksX1_prefix_1 : cX1_prefix.data.toList.drop 23 = dktX1_prefix_1 := dk_seg dksX1_prefix_0 23 rfl rfl
theorem dX1_prefix_0 : decode cX1_prefix 0 = .ok (.aload_n 0, 1) := dk_42 (dk_at dksX1_prefix_0 0 rfl rfl)
theorem dX1_prefix_1 : decode cX1_prefix 1 = .ok (.iconst 2, 1) := dk_5 (dk_at dksX1_prefix_0 1 rfl rfl)
theorem dX1_prefix_2 : decode cX1_prefix 2 = .ok (.newarray .int, 2) := dk_188_10 (dk_at dksX1_prefix_0 2 rfl rfl)
theorem dX1_prefix_4 : decode cX1_prefix 4 = .ok (.dup, 1) := dk_89 (dk_at dksX1_prefix_0 4 rfl rfl)
theorem dX1_prefix_5 : decode cX1_prefix 5 = .ok (.iconst 0, 1) := dk_3 (dk_at dksX1_prefix_0 5 rfl rfl)
theorem dX1_prefix_6 : decode cX1_prefix 6 = .ok (.iload_n 1, 1) := dk_27 (dk_at dksX1_prefix_0 6 rfl rfl)
theorem dX1_prefix_7 : decode cX1_prefix 7 = .ok (.iastore, 1) := dk_79 (dk_at dksX1_prefix_0 7 rfl rfl)
theorem dX1_prefix_8 : decode cX1_prefix 8 = .ok (.dup, 1) := dk_89 (dk_at dksX1_prefix_0 8 rfl rfl)
theorem dX1_prefix_9 : decode cX1_prefix 9 = .ok (.iconst 1, 1) := dk_4 (dk_at dksX1_prefix_0 9 rfl rfl)
theorem dX1_prefix_10 : decode cX1_prefix 10 = .ok (.iload_n 2, 1) := dk_28 (dk_at dksX1_prefix_0 10 rfl rfl)
theorem dX1_prefix_11 : decode cX1_prefix 11 = .ok (.iastore, 1) := dk_79 (dk_at dksX1_prefix_0 11 rfl rfl)
theorem dX1_prefix_12 : decode cX1_prefix 12 = .ok (.iconst 2, 1) := dk_5 (dk_at dksX1_prefix_0 12 rfl rfl)
theorem dX1_prefix_13 : decode cX1_prefix 13 = .ok (.newarray .int, 2) := dk_188_10 (dk_at dksX1_prefix_0 13 rfl rfl)
theorem dX1_prefix_15 : decode cX1_prefix 15 = .ok (.dup, 1) := dk_89 (dk_at dksX1_prefix_0 15 rfl rfl)
theorem dX1_prefix_16 : decode cX1_prefix 16 = .ok (.iconst 0, 1) := dk_3 (dk_at dksX1_prefix_0 16 rfl rfl)
theorem dX1_prefix_17 : decode cX1_prefix 17 = .ok (.iconst 2, 1) := dk_5 (dk_at dksX1_prefix_0 17 rfl rfl)
theorem dX1_prefix_18 : decode cX1_prefix 18 = .ok (.iastore, 1) := dk_79 (dk_at dksX1_prefix_0 18 rfl rfl)
theorem dX1_prefix_19 : decode cX1_prefix 19 = .ok (.dup, 1) := dk_89 (dk_at dksX1_prefix_0 19 rfl rfl)
theorem dX1_prefix_20 : decode cX1_prefix 20 = .ok (.iconst 1, 1) := dk_4 (dk_at dksX1_prefix_0 20 rfl rfl)
theorem dX1_prefix_21 : decode cX1_prefix 21 = .ok (.iconst 2, 1) := dk_5 (dk_at dksX1_prefix_0 21 rfl rfl)
theorem dX1_prefix_22 : decode cX1_prefix 22 = .ok (.iastore, 1) := dk_79 (dk_at dksX1_prefix_0 22 rfl rfl)
theorem dX1_prefix_23 : decode cX1_prefix 23 = .ok (.invokevirtual 259, 3) := dk_182 1 3 (dk_at dksX1_prefix_1 0 rfl rfl)
theorem dX1_prefix_26 : decode cX1_prefix 26 = .ok (.aload_n 0, 1) := dk_42 (dk_at dksX1_prefix_1 3 rfl rfl)
theorem dX1_prefix_27 : decode cX1_prefix 27 = .ok (.invokedynamic 278, 5) := by decide +kernel
theorem dX1_prefix_32 : decode cX1_prefix 32 = .ok (.iconst 2, 1) := dk_5 (dk_at dksX1_prefix_1 9 rfl rfl)
theorem dX1_prefix_33 : decode cX1_prefix 33 = .ok (.newarray .int, 2) := dk_188_10 (dk_at dksX1_prefix_1 10 rfl rfl)
theorem dX1_prefix_35 : decode cX1_prefix 35 = .ok (.dup, 1) := dk_89 (dk_at dksX1_prefix_1 12 rfl rfl)
theorem dX1_prefix_36 : decode cX1_prefix 36 = .ok (.iconst 0, 1) := dk_3 (dk_at dksX1_prefix_1 13 rfl rfl)
theorem dX1_prefix_37 : decode cX1_prefix 37 = .ok (.iload_n 1, 1) := dk_27 (dk_at dksX1_prefix_1 14 rfl rfl)
theorem dX1_prefix_38 : decode cX1_prefix 38 = .ok (.iastore, 1) := dk_79 (dk_at dksX1_prefix_1 15 rfl rfl)
theorem dX1_prefix_39 : decode cX1_prefix 39 = .ok (.dup, 1) := dk_89 (dk_at dksX1_prefix_1 16 rfl rfl)
theorem dX1_prefix_40 : decode cX1_prefix 40 = .ok (.iconst 1, 1) := dk_4 (dk_at dksX1_prefix_1 17 rfl rfl)
theorem dX1_prefix_41 : decode cX1_prefix 41 = .ok (.iload_n 2, 1) := dk_28 (dk_at dksX1_prefix_1 18 rfl rfl)
theorem dX1_prefix_42 : decode cX1_prefix 42 = .ok (.iastore, 1) := dk_79 (dk_at dksX1_prefix_1 19 rfl rfl)
theorem dX1_prefix_43 : decode cX1_prefix 43 = .ok (.invokevirtual 267, 3) := dk_182 1 11 (dk_at dksX1_prefix_1 20 rfl rfl)
theorem dX1_prefix_46 : decode cX1_prefix 46 = .ok (.ireturn, 1) := dk_172 (dk_at dksX1_prefix_1 23 rfl rfl)
def dkwX1_lambda_prefix_5_0 : List UInt8 := [26, 27, 184, 2, 31, 172]
abbrev dktX1_lambda_prefix_5_0 : List UInt8 := dkwX1_lambda_prefix_5_0 ++ []
theorem dksX1_lambda_prefix_5_0 : cX1_lambda_prefix_5.data.toList.drop 0 = dktX1_lambda_prefix_5_0 := by decide +kernel
theorem dX1_lambda_prefix_5_0 : decode cX1_lambda_prefix_5 0 = .ok (.iload_n 0, 1) := dk_26 (dk_at dksX1_lambda_prefix_5_0 0 rfl rfl)
theorem dX1_lambda_prefix_5_1 : decode cX1_lambda_prefix_5 1 = .ok (.iload_n 1, 1) := dk_27 (dk_at dksX1_lambda_prefix_5_0 1 rfl rfl)
theorem dX1_lambda_prefix_5_2 : decode cX1_lambda_prefix_5 2 = .ok (.invokestatic 543, 3) := dk_184 2 31 (dk_at dksX1_lambda_prefix_5_0 2 rfl rfl)
theorem dX1_lambda_prefix_5_5 : decode cX1_lambda_prefix_5 5 = .ok (.ireturn, 1) := dk_172 (dk_at dksX1_lambda_prefix_5_0 5 rfl rfl)
def dkwX1_begins_1 : List UInt8 := [160, 0, 7, 4, 167, 0, 4, 3, 172]
abbrev dktX1_begins_1 : List UInt8 := dkwX1_begins_1 ++ []
def dkwX1_begins_0 : List UInt8 := [27, 184, 0, 12, 26, 184, 0, 12, 100, 61, 28, 155, 0, 20, 27, 184, 0, 15, 28, 122, 26, 184, 0, 15]
abbrev dktX1_begins_0 : List UInt8 := dkwX1_begins_0 ++ dktX1_begins_1
theorem dksX1_begins_0 : cX1_begins.data.toList.drop 0 = dktX1_begins_0 := by decide +kernel
theorem dksX1_begins_1 : cX1_begins.data.toList.drop 24 = dktX1_begins_1 := dk_seg dksX1_begins_0 24 rfl rfl
theorem dX1_begins_0 : decode cX1_begins 0 = .ok (.iload_n 1, 1) := dk_27 (dk_at dksX1_begins_0 0 rfl rfl)
theorem dX1_begins_1 : decode cX1_begins 1 = .ok (.invokestatic 12, 3) := dk_184 0 12 (dk_at dksX1_begins_0 1 rfl rfl)
theorem dX1_begins_4 : decode cX1_begins 4 = .ok (.iload_n 0, 1) := dk_26 (dk_at dksX1_begins_0 4 rfl rfl)
theorem dX1_begins_5 : decode cX1_begins 5 = .ok (.invokestatic 12, 3) := dk_184 0 12 (dk_at dksX1_begins_0 5 rfl rfl)
theorem dX1_begins_8 : decode cX1_begins 8 = .ok (.isub, 1) := dk_100 (dk_at dksX1_begins_0 8 rfl rfl)
theorem dX1_begins_9 : decode cX1_begins 9 = .ok (.istore_n 2, 1) := dk_61 (dk_at dksX1_begins_0 9 rfl rfl)
theorem dX1_begins_10 : decode cX1_begins 10 = .ok (.iload_n 2, 1) := dk_28 (dk_at dksX1_begins_0 10 rfl rfl)
theorem dX1_begins_11 : decode cX1_begins 11 = .ok (.ifCond .lt 20, 3) := dk_155 0 20 (dk_at dksX1_begins_0 11 rfl rfl)
theorem dX1_begins_14 : decode cX1_begins 14 = .ok (.iload_n 1, 1) := dk_27 (dk_at dksX1_begins_0 14 rfl rfl)
theorem dX1_begins_15 : decode cX1_begins 15 = .ok (.invokestatic 15, 3) := dk_184 0 15 (dk_at dksX1_begins_0 15 rfl rfl)
theorem dX1_begins_18 : decode cX1_begins 18 = .ok (.iload_n 2, 1) := dk_28 (dk_at dksX1_begins_0 18 rfl rfl)
theorem dX1_begins_19 : decode cX1_begins 19 = .ok (.ishr, 1) := dk_122 (dk_at dksX1_begins_0 19 rfl rfl)
theorem dX1_begins_20 : decode cX1_begins 20 = .ok (.iload_n 0, 1) := dk_26 (dk_at dksX1_begins_0 20 rfl rfl)
theorem dX1_begins_21 : decode cX1_begins 21 = .ok (.invokestatic 15, 3) := dk_184 0 15 (dk_at dksX1_begins_0 21 rfl rfl)
theorem dX1_begins_24 : decode cX1_begins 24 = .ok (.if_icmp .ne 7, 3) := dk_160 0 7 (dk_at dksX1_begins_1 0 rfl rfl)
theorem dX1_begins_27 : decode cX1_begins 27 = .ok (.iconst 1, 1) := dk_4 (dk_at dksX1_begins_1 3 rfl rfl)
theorem dX1_begins_28 : decode cX1_begins 28 = .ok (.goto 4, 3) := dk_167 0 4 (dk_at dksX1_begins_1 4 rfl rfl)
theorem dX1_begins_31 : decode cX1_begins 31 = .ok (.iconst 0, 1) := dk_3 (dk_at dksX1_begins_1 7 rfl rfl)
theorem dX1_begins_32 : decode cX1_begins 32 = .ok (.ireturn, 1) := dk_172 (dk_at dksX1_begins_1 8 rfl rfl)
def dkwX1_letter_2 : List UInt8 := [4, 28, 79, 89, 5, 29, 79, 182, 1, 11, 172]
abbrev dktX1_letter_2 : List UInt8 := dkwX1_letter_2 ++ []
def dkwX1_letter_1 : List UInt8 := [4, 5, 79, 89, 5, 3, 79, 182, 1, 3, 42, 186, 1, 23, 0, 0, 6, 188, 10, 89, 3, 27, 79, 89]
abbrev dktX1_letter_1 : List UInt8 := dkwX1_letter_1 ++ dktX1_letter_2
def dkwX1_letter_0 : List UInt8 := [42, 6, 188, 10, 89, 3, 27, 79, 89, 4, 28, 79, 89, 5, 29, 79, 6, 188, 10, 89, 3, 3, 79, 89]
abbrev dktX1_letter_0 : List UInt8 := dkwX1_letter_0 ++ dktX1_letter_1
theorem dksX1_letter_0 : cX1_letter.data.toList.drop 0 = dktX1_letter_0 := by decide +kernel
theorem dksX1_letter_1 : cX1_letter.data.toList.drop 24 = dktX1_letter_1 := dk_seg dksX1_letter_0 24 rfl rfl
theorem dksX1_letter_2 : cX1_letter.data.toList.drop 48 = dktX1_letter_2 := dk_seg dksX1_letter_1 24 rfl rfl
theorem dX1_letter_0 : decode cX1_letter 0 = .ok (.aload_n 0, 1) := dk_42 (dk_at dksX1_letter_0 0 rfl rfl)
theorem dX1_letter_1 : decode cX1_letter 1 = .ok (.iconst 3, 1) := dk_6 (dk_at dksX1_letter_0 1 rfl rfl)
theorem dX1_letter_2 : decode cX1_letter 2 = .ok (.newarray .int, 2) := dk_188_10 (dk_at dksX1_letter_0 2 rfl rfl)
theorem dX1_letter_4 : decode cX1_letter 4 = .ok (.dup, 1) := dk_89 (dk_at dksX1_letter_0 4 rfl rfl)
theorem dX1_letter_5 : decode cX1_letter 5 = .ok (.iconst 0, 1) := dk_3 (dk_at dksX1_letter_0 5 rfl rfl)
theorem dX1_letter_6 : decode cX1_letter 6 = .ok (.iload_n 1, 1) := dk_27 (dk_at dksX1_letter_0 6 rfl rfl)
theorem dX1_letter_7 : decode cX1_letter 7 = .ok (.iastore, 1) := dk_79 (dk_at dksX1_letter_0 7 rfl rfl)
theorem dX1_letter_8 : decode cX1_letter 8 = .ok (.dup, 1) := dk_89 (dk_at dksX1_letter_0 8 rfl rfl)
theorem dX1_letter_9 : decode cX1_letter 9 = .ok (.iconst 1, 1) := dk_4 (dk_at dksX1_letter_0 9 rfl rfl)
theorem dX1_letter_10 : decode cX1_letter 10 = .ok (.iload_n 2, 1) := dk_28 (dk_at dksX1_letter_0 10 rfl rfl)
theorem dX1_letter_11 : decode cX1_letter 11 = .ok (.iastore, 1) := dk_79 (dk_at dksX1_letter_0 11 rfl rfl)
theorem dX1_letter_12 : decode cX1_letter 12 = .ok (.dup, 1) := dk_89 (dk_at dksX1_letter_0 12 rfl rfl)
theorem dX1_letter_13 : decode cX1_letter 13 = .ok (.iconst 2, 1) := dk_5 (dk_at dksX1_letter_0 13 rfl rfl)
theorem dX1_letter_14 : decode cX1_letter 14 = .ok (.iload_n 3, 1) := dk_29 (dk_at dksX1_letter_0 14 rfl rfl)
theorem dX1_letter_15 : decode cX1_letter 15 = .ok (.iastore, 1) := dk_79 (dk_at dksX1_letter_0 15 rfl rfl)
theorem dX1_letter_16 : decode cX1_letter 16 = .ok (.iconst 3, 1) := dk_6 (dk_at dksX1_letter_0 16 rfl rfl)
theorem dX1_letter_17 : decode cX1_letter 17 = .ok (.newarray .int, 2) := dk_188_10 (dk_at dksX1_letter_0 17 rfl rfl)
theorem dX1_letter_19 : decode cX1_letter 19 = .ok (.dup, 1) := dk_89 (dk_at dksX1_letter_0 19 rfl rfl)
theorem dX1_letter_20 : decode cX1_letter 20 = .ok (.iconst 0, 1) := dk_3 (dk_at dksX1_letter_0 20 rfl rfl)
theorem dX1_letter_21 : decode cX1_letter 21 = .ok (.iconst 0, 1) := dk_3 (dk_at dksX1_letter_0 21 rfl rfl)
theorem dX1_letter_22 : decode cX1_letter 22 = .ok (.iastore, 1) := dk_79 (dk_at dksX1_letter_0 22 rfl rfl)
theorem dX1_letter_23 : decode cX1_letter 23 = .ok (.dup, 1) := dk_89 (dk_at dksX1_letter_0 23 rfl rfl)
theorem dX1_letter_24 : decode cX1_letter 24 = .ok (.iconst 1, 1) := dk_4 (dk_at dksX1_letter_1 0 rfl rfl)
theorem dX1_letter_25 : decode cX1_letter 25 = .ok (.iconst 2, 1) := dk_5 (dk_at dksX1_letter_1 1 rfl rfl)
theorem dX1_letter_26 : decode cX1_letter 26 = .ok (.iastore, 1) := dk_79 (dk_at dksX1_letter_1 2 rfl rfl)
theorem dX1_letter_27 : decode cX1_letter 27 = .ok (.dup, 1) := dk_89 (dk_at dksX1_letter_1 3 rfl rfl)
theorem dX1_letter_28 : decode cX1_letter 28 = .ok (.iconst 2, 1) := dk_5 (dk_at dksX1_letter_1 4 rfl rfl)
theorem dX1_letter_29 : decode cX1_letter 29 = .ok (.iconst 0, 1) := dk_3 (dk_at dksX1_letter_1 5 rfl rfl)
theorem dX1_letter_30 : decode cX1_letter 30 = .ok (.iastore, 1) := dk_79 (dk_at dksX1_letter_1 6 rfl rfl)
theorem dX1_letter_31 : decode cX1_letter 31 = .ok (.invokevirtual 259, 3) := dk_182 1 3 (dk_at dksX1_letter_1 7 rfl rfl)
theorem dX1_letter_34 : decode cX1_letter 34 = .ok (.aload_n 0, 1) := dk_42 (dk_at dksX1_letter_1 10 rfl rfl)
theorem dX1_letter_35 : decode cX1_letter 35 = .ok (.invokedynamic 279, 5) := by decide +kernel
theorem dX1_letter_40 : decode cX1_letter 40 = .ok (.iconst 3, 1) := dk_6 (dk_at dksX1_letter_1 16 rfl rfl)
theorem dX1_letter_41 : decode cX1_letter 41 = .ok (.newarray .int, 2) := dk_188_10 (dk_at dksX1_letter_1 17 rfl rfl)
theorem dX1_letter_43 : decode cX1_letter 43 = .ok (.dup, 1) := dk_89 (dk_at dksX1_letter_1 19 rfl rfl)
theorem dX1_letter_44 : decode cX1_letter 44 = .ok (.iconst 0, 1) := dk_3 (dk_at dksX1_letter_1 20 rfl rfl)
theorem dX1_letter_45 : decode cX1_letter 45 = .ok (.iload_n 1, 1) := dk_27 (dk_at dksX1_letter_1 21 rfl rfl)
theorem dX1_letter_46 : decode cX1_letter 46 = .ok (.iastore, 1) := dk_79 (dk_at dksX1_letter_1 22 rfl rfl)
theorem dX1_letter_47 : decode cX1_letter 47 = .ok (.dup, 1) := dk_89 (dk_at dksX1_letter_1 23 rfl rfl)
theorem dX1_letter_48 : decode cX1_letter 48 = .ok (.iconst 1, 1) := dk_4 (dk_at dksX1_letter_2 0 rfl rfl)
theorem dX1_letter_49 : decode cX1_letter 49 = .ok (.iload_n 2, 1) := dk_28 (dk_at dksX1_letter_2 1 rfl rfl)
theorem dX1_letter_50 : decode cX1_letter 50 = .ok (.iastore, 1) := dk_79 (dk_at dksX1_letter_2 2 rfl rfl)
theorem dX1_letter_51 : decode cX1_letter 51 = .ok (.dup, 1) := dk_89 (dk_at dksX1_letter_2 3 rfl rfl)
theorem dX1_letter_52 : decode cX1_letter 52 = .ok (.iconst 2, 1) := dk_5 (dk_at dksX1_letter_2 4 rfl rfl)
theorem dX1_letter_53 : decode cX1_letter 53 = .ok (.iload_n 3, 1) := dk_29 (dk_at dksX1_letter_2 5 rfl rfl)
theorem dX1_letter_54 : decode cX1_letter 54 = .ok (.iastore, 1) := dk_79 (dk_at dksX1_letter_2 6 rfl rfl)
theorem dX1_letter_55 : decode cX1_letter 55 = .ok (.invokevirtual 267, 3) := dk_182 1 11 (dk_at dksX1_letter_2 7 rfl rfl)
theorem dX1_letter_58 : decode cX1_letter 58 = .ok (.ireturn, 1) := dk_172 (dk_at dksX1_letter_2 10 rfl rfl)
def dkwX1_isLetter_1 : List UInt8 := [160, 0, 7, 4, 167, 0, 4, 3, 172]
abbrev dktX1_isLetter_1 : List UInt8 := dkwX1_isLetter_1 ++ []
def dkwX1_isLetter_0 : List UInt8 := [28, 27, 184, 0, 12, 162, 0, 26, 27, 184, 0, 15, 27, 184, 0, 12, 4, 100, 28, 100, 122, 4, 126, 26]
abbrev dktX1_isLetter_0 : List UInt8 := dkwX1_isLetter_0 ++ dktX1_isLetter_1
theorem dksX1_isLetter_0 : cX1_isLetter.data.toList.drop 0 = dktX1_isLetter_0 := by decide +kernel
theorem dksX1_isLetter_1 : cX1_isLetter.data.toList.drop 24 = dktX1_isLetter_1 := dk_seg dksX1_isLetter_0 24 rfl rfl
theorem dX1_isLetter_0 : decode cX1_isLetter 0 = .ok (.iload_n 2, 1) := dk_28 (dk_at dksX1_isLetter_0 0 rfl rfl)
theorem dX1_isLetter_1 : decode cX1_isLetter 1 = .ok (.iload_n 1, 1) := dk_27 (dk_at dksX1_isLetter_0 1 rfl rfl)
theorem dX1_isLetter_2 : decode cX1_isLetter 2 = .ok (.invokestatic 12, 3) := dk_184 0 12 (dk_at dksX1_isLetter_0 2 rfl rfl)
theorem dX1_isLetter_5 : decode cX1_isLetter 5 = .ok (.if_icmp .ge 26, 3) := dk_162 0 26 (dk_at dksX1_isLetter_0 5 rfl rfl)
theorem dX1_isLetter_8 : decode cX1_isLetter 8 = .ok (.iload_n 1, 1) := dk_27 (dk_at dksX1_isLetter_0 8 rfl rfl)
theorem dX1_isLetter_9 : decode cX1_isLetter 9 = .ok (.invokestatic 15, 3) := dk_184 0 15 (dk_at dksX1_isLetter_0 9 rfl rfl)
theorem dX1_isLetter_12 : decode cX1_isLetter 12 = .ok (.iload_n 1, 1) := dk_27 (dk_at dksX1_isLetter_0 12 rfl rfl)
theorem dX1_isLetter_13 : decode cX1_isLetter 13 = .ok (.invokestatic 12, 3) := dk_184 0 12 (dk_at dksX1_isLetter_0 13 rfl rfl)
theorem dX1_isLetter_16 : decode cX1_isLetter 16 = .ok (.iconst 1, 1) := dk_4 (dk_at dksX1_isLetter_0 16 rfl rfl)
theorem dX1_isLetter_17 : decode cX1_isLetter 17 = .ok (.isub, 1) := dk_100 (dk_at dksX1_isLetter_0 17 rfl rfl)
theorem dX1_isLetter_18 : decode cX1_isLetter 18 = .ok (.iload_n 2, 1) := dk_28 (dk_at dksX1_isLetter_0 18 rfl rfl)
theorem dX1_isLetter_19 : decode cX1_isLetter 19 = .ok (.isub, 1) := dk_100 (dk_at dksX1_isLetter_0 19 rfl rfl)
theorem dX1_isLetter_20 : decode cX1_isLetter 20 = .ok (.ishr, 1) := dk_122 (dk_at dksX1_isLetter_0 20 rfl rfl)
theorem dX1_isLetter_21 : decode cX1_isLetter 21 = .ok (.iconst 1, 1) := dk_4 (dk_at dksX1_isLetter_0 21 rfl rfl)
theorem dX1_isLetter_22 : decode cX1_isLetter 22 = .ok (.iand, 1) := dk_126 (dk_at dksX1_isLetter_0 22 rfl rfl)
theorem dX1_isLetter_23 : decode cX1_isLetter 23 = .ok (.iload_n 0, 1) := dk_26 (dk_at dksX1_isLetter_0 23 rfl rfl)
theorem dX1_isLetter_24 : decode cX1_isLetter 24 = .ok (.if_icmp .ne 7, 3) := dk_160 0 7 (dk_at dksX1_isLetter_1 0 rfl rfl)
theorem dX1_isLetter_27 : decode cX1_isLetter 27 = .ok (.iconst 1, 1) := dk_4 (dk_at dksX1_isLetter_1 3 rfl rfl)
theorem dX1_isLetter_28 : decode cX1_isLetter 28 = .ok (.goto 4, 3) := dk_167 0 4 (dk_at dksX1_isLetter_1 4 rfl rfl)
theorem dX1_isLetter_31 : decode cX1_isLetter 31 = .ok (.iconst 0, 1) := dk_3 (dk_at dksX1_isLetter_1 7 rfl rfl)
theorem dX1_isLetter_32 : decode cX1_isLetter 32 = .ok (.ireturn, 1) := dk_172 (dk_at dksX1_isLetter_1 8 rfl rfl)
def dkwX1_clause_1 : List UInt8 := [154, 0, 7, 4, 167, 0, 4, 3, 184, 0, 169, 42, 43, 182, 1, 31, 172]
abbrev dktX1_clause_1 : List UInt8 := dkwX1_clause_1 ++ []
def dkwX1_clause_0 : List UInt8 := [42, 180, 0, 43, 76, 42, 187, 0, 24, 89, 183, 0, 26, 181, 0, 43, 43, 185, 0, 205, 1, 0]
abbrev dktX1_clause_0 : List UInt8 := dkwX1_clause_0 ++ dktX1_clause_1
theorem dksX1_clause_0 : cX1_clause.data.toList.drop 0 = dktX1_clause_0 := by decide +kernel
theorem dksX1_clause_1 : cX1_clause.data.toList.drop 22 = dktX1_clause_1 := dk_seg dksX1_clause_0 22 rfl rfl
theorem dX1_clause_0 : decode cX1_clause 0 = .ok (.aload_n 0, 1) := dk_42 (dk_at dksX1_clause_0 0 rfl rfl)
theorem dX1_clause_1 : decode cX1_clause 1 = .ok (.getfield 43, 3) := dk_180 0 43 (dk_at dksX1_clause_0 1 rfl rfl)
theorem dX1_clause_4 : decode cX1_clause 4 = .ok (.astore_n 1, 1) := dk_76 (dk_at dksX1_clause_0 4 rfl rfl)
theorem dX1_clause_5 : decode cX1_clause 5 = .ok (.aload_n 0, 1) := dk_42 (dk_at dksX1_clause_0 5 rfl rfl)
theorem dX1_clause_6 : decode cX1_clause 6 = .ok (.new 24, 3) := dk_187 0 24 (dk_at dksX1_clause_0 6 rfl rfl)
theorem dX1_clause_9 : decode cX1_clause 9 = .ok (.dup, 1) := dk_89 (dk_at dksX1_clause_0 9 rfl rfl)
theorem dX1_clause_10 : decode cX1_clause 10 = .ok (.invokespecial 26, 3) := dk_183 0 26 (dk_at dksX1_clause_0 10 rfl rfl)
theorem dX1_clause_13 : decode cX1_clause 13 = .ok (.putfield 43, 3) := dk_181 0 43 (dk_at dksX1_clause_0 13 rfl rfl)
theorem dX1_clause_16 : decode cX1_clause 16 = .ok (.aload_n 1, 1) := dk_43 (dk_at dksX1_clause_0 16 rfl rfl)
theorem dX1_clause_17 : decode cX1_clause 17 = .ok (.invokeinterface 205 1, 5) := by decide +kernel
theorem dX1_clause_22 : decode cX1_clause 22 = .ok (.ifCond .ne 7, 3) := dk_154 0 7 (dk_at dksX1_clause_1 0 rfl rfl)
theorem dX1_clause_25 : decode cX1_clause 25 = .ok (.iconst 1, 1) := dk_4 (dk_at dksX1_clause_1 3 rfl rfl)
theorem dX1_clause_26 : decode cX1_clause 26 = .ok (.goto 4, 3) := dk_167 0 4 (dk_at dksX1_clause_1 4 rfl rfl)
theorem dX1_clause_29 : decode cX1_clause 29 = .ok (.iconst 0, 1) := dk_3 (dk_at dksX1_clause_1 7 rfl rfl)
theorem dX1_clause_30 : decode cX1_clause 30 = .ok (.invokestatic 169, 3) := dk_184 0 169 (dk_at dksX1_clause_1 8 rfl rfl)
theorem dX1_clause_33 : decode cX1_clause 33 = .ok (.aload_n 0, 1) := dk_42 (dk_at dksX1_clause_1 11 rfl rfl)
theorem dX1_clause_34 : decode cX1_clause 34 = .ok (.aload_n 1, 1) := dk_43 (dk_at dksX1_clause_1 12 rfl rfl)
theorem dX1_clause_35 : decode cX1_clause 35 = .ok (.invokevirtual 287, 3) := dk_182 1 31 (dk_at dksX1_clause_1 13 rfl rfl)
theorem dX1_clause_38 : decode cX1_clause 38 = .ok (.ireturn, 1) := dk_172 (dk_at dksX1_clause_1 16 rfl rfl)
def dkwX1_addClause_2 : List UInt8 := [167, 255, 220, 42, 187, 1, 26, 89, 44, 43, 183, 1, 28, 182, 0, 224, 172]
abbrev dktX1_addClause_2 : List UInt8 := dkwX1_addClause_2 ++ []
def dkwX1_addClause_1 : List UInt8 := [185, 0, 141, 2, 0, 192, 0, 200, 182, 1, 24, 184, 0, 189, 185, 0, 172, 2, 0, 87, 132, 3, 1]
abbrev dktX1_addClause_1 : List UInt8 := dkwX1_addClause_1 ++ dktX1_addClause_2
def dkwX1_addClause_0 : List UInt8 := [187, 0, 24, 89, 183, 0, 26, 77, 3, 62, 29, 43, 185, 0, 131, 1, 0, 162, 0, 32, 44, 43, 29]
abbrev dktX1_addClause_0 : List UInt8 := dkwX1_addClause_0 ++ dktX1_addClause_1
theorem dksX1_addClause_0 : cX1_addClause.data.toList.drop 0 = dktX1_addClause_0 := by decide +kernel
theorem dksX1_addClause_1 : cX1_addClause.data.toList.drop 23 = dktX1_addClause_1 := dk_seg dksX1_addClause_0 23 rfl rfl
theorem dksX1_addClause_2 : cX1_addClause.data.toList.drop 46 = dktX1_addClause_2 := dk_seg dksX1_addClause_1 23 rfl rfl
theorem dX1_addClause_0 : decode cX1_addClause 0 = .ok (.new 24, 3) := dk_187 0 24 (dk_at dksX1_addClause_0 0 rfl rfl)
theorem dX1_addClause_3 : decode cX1_addClause 3 = .ok (.dup, 1) := dk_89 (dk_at dksX1_addClause_0 3 rfl rfl)
theorem dX1_addClause_4 : decode cX1_addClause 4 = .ok (.invokespecial 26, 3) := dk_183 0 26 (dk_at dksX1_addClause_0 4 rfl rfl)
theorem dX1_addClause_7 : decode cX1_addClause 7 = .ok (.astore_n 2, 1) := dk_77 (dk_at dksX1_addClause_0 7 rfl rfl)
theorem dX1_addClause_8 : decode cX1_addClause 8 = .ok (.iconst 0, 1) := dk_3 (dk_at dksX1_addClause_0 8 rfl rfl)
theorem dX1_addClause_9 : decode cX1_addClause 9 = .ok (.istore_n 3, 1) := dk_62 (dk_at dksX1_addClause_0 9 rfl rfl)
theorem dX1_addClause_10 : decode cX1_addClause 10 = .ok (.iload_n 3, 1) := dk_29 (dk_at dksX1_addClause_0 10 rfl rfl)
theorem dX1_addClause_11 : decode cX1_addClause 11 = .ok (.aload_n 1, 1) := dk_43 (dk_at dksX1_addClause_0 11 rfl rfl)
theorem dX1_addClause_12 : decode cX1_addClause 12 = .ok (.invokeinterface 131 1, 5) := by decide +kernel
theorem dX1_addClause_17 : decode cX1_addClause 17 = .ok (.if_icmp .ge 32, 3) := dk_162 0 32 (dk_at dksX1_addClause_0 17 rfl rfl)
theorem dX1_addClause_20 : decode cX1_addClause 20 = .ok (.aload_n 2, 1) := dk_44 (dk_at dksX1_addClause_0 20 rfl rfl)
theorem dX1_addClause_21 : decode cX1_addClause 21 = .ok (.aload_n 1, 1) := dk_43 (dk_at dksX1_addClause_0 21 rfl rfl)
theorem dX1_addClause_22 : decode cX1_addClause 22 = .ok (.iload_n 3, 1) := dk_29 (dk_at dksX1_addClause_0 22 rfl rfl)
theorem dX1_addClause_23 : decode cX1_addClause 23 = .ok (.invokeinterface 141 2, 5) := by decide +kernel
theorem dX1_addClause_28 : decode cX1_addClause 28 = .ok (.checkcast 200, 3) := dk_192 0 200 (dk_at dksX1_addClause_1 5 rfl rfl)
theorem dX1_addClause_31 : decode cX1_addClause 31 = .ok (.invokevirtual 280, 3) := dk_182 1 24 (dk_at dksX1_addClause_1 8 rfl rfl)
theorem dX1_addClause_34 : decode cX1_addClause 34 = .ok (.invokestatic 189, 3) := dk_184 0 189 (dk_at dksX1_addClause_1 11 rfl rfl)
theorem dX1_addClause_37 : decode cX1_addClause 37 = .ok (.invokeinterface 172 2, 5) := by decide +kernel
theorem dX1_addClause_42 : decode cX1_addClause 42 = .ok (.pop, 1) := dk_87 (dk_at dksX1_addClause_1 19 rfl rfl)
theorem dX1_addClause_43 : decode cX1_addClause 43 = .ok (.iinc 3 1, 3) := dk_132 3 1 (dk_at dksX1_addClause_1 20 rfl rfl)
theorem dX1_addClause_46 : decode cX1_addClause 46 = .ok (.goto (-36), 3) := dk_167 255 220 (dk_at dksX1_addClause_2 0 rfl rfl)
theorem dX1_addClause_49 : decode cX1_addClause 49 = .ok (.aload_n 0, 1) := dk_42 (dk_at dksX1_addClause_2 3 rfl rfl)
theorem dX1_addClause_50 : decode cX1_addClause 50 = .ok (.new 282, 3) := dk_187 1 26 (dk_at dksX1_addClause_2 4 rfl rfl)
theorem dX1_addClause_53 : decode cX1_addClause 53 = .ok (.dup, 1) := dk_89 (dk_at dksX1_addClause_2 7 rfl rfl)
theorem dX1_addClause_54 : decode cX1_addClause 54 = .ok (.aload_n 2, 1) := dk_44 (dk_at dksX1_addClause_2 8 rfl rfl)
theorem dX1_addClause_55 : decode cX1_addClause 55 = .ok (.aload_n 1, 1) := dk_43 (dk_at dksX1_addClause_2 9 rfl rfl)
theorem dX1_addClause_56 : decode cX1_addClause 56 = .ok (.invokespecial 284, 3) := dk_183 1 28 (dk_at dksX1_addClause_2 10 rfl rfl)
theorem dX1_addClause_59 : decode cX1_addClause 59 = .ok (.invokevirtual 224, 3) := dk_182 0 224 (dk_at dksX1_addClause_2 13 rfl rfl)
theorem dX1_addClause_62 : decode cX1_addClause 62 = .ok (.ireturn, 1) := dk_172 (dk_at dksX1_addClause_2 16 rfl rfl)
def dkwX1_symbol_2 : List UInt8 := [45, 42, 180, 0, 56, 27, 183, 1, 39, 182, 0, 224, 172]
abbrev dktX1_symbol_2 : List UInt8 := dkwX1_symbol_2 ++ []
def dkwX1_symbol_1 : List UInt8 := [187, 0, 24, 89, 183, 0, 26, 78, 45, 28, 184, 0, 189, 185, 0, 172, 2, 0, 87, 42, 187, 1, 37, 89]
abbrev dktX1_symbol_1 : List UInt8 := dkwX1_symbol_1 ++ dktX1_symbol_2
def dkwX1_symbol_0 : List UInt8 := [27, 42, 180, 0, 56, 180, 1, 35, 184, 0, 137, 42, 28, 182, 0, 158, 87, 42, 28, 3, 182, 0, 244]
abbrev dktX1_symbol_0 : List UInt8 := dkwX1_symbol_0 ++ dktX1_symbol_1
theorem dksX1_symbol_0 : cX1_symbol.data.toList.drop 0 = dktX1_symbol_0 := by decide +kernel
theorem dksX1_symbol_1 : cX1_symbol.data.toList.drop 23 = dktX1_symbol_1 := dk_seg dksX1_symbol_0 23 rfl rfl
theorem dksX1_symbol_2 : cX1_symbol.data.toList.drop 47 = dktX1_symbol_2 := dk_seg dksX1_symbol_1 24 rfl rfl
theorem dX1_symbol_0 : decode cX1_symbol 0 = .ok (.iload_n 1, 1) := dk_27 (dk_at dksX1_symbol_0 0 rfl rfl)
theorem dX1_symbol_1 : decode cX1_symbol 1 = .ok (.aload_n 0, 1) := dk_42 (dk_at dksX1_symbol_0 1 rfl rfl)
theorem dX1_symbol_2 : decode cX1_symbol 2 = .ok (.getfield 56, 3) := dk_180 0 56 (dk_at dksX1_symbol_0 2 rfl rfl)
theorem dX1_symbol_5 : decode cX1_symbol 5 = .ok (.getfield 291, 3) := dk_180 1 35 (dk_at dksX1_symbol_0 5 rfl rfl)
theorem dX1_symbol_8 : decode cX1_symbol 8 = .ok (.invokestatic 137, 3) := dk_184 0 137 (dk_at dksX1_symbol_0 8 rfl rfl)
theorem dX1_symbol_11 : decode cX1_symbol 11 = .ok (.aload_n 0, 1) := dk_42 (dk_at dksX1_symbol_0 11 rfl rfl)
theorem dX1_symbol_12 : decode cX1_symbol 12 = .ok (.iload_n 2, 1) := dk_28 (dk_at dksX1_symbol_0 12 rfl rfl)
theorem dX1_symbol_13 : decode cX1_symbol 13 = .ok (.invokevirtual 158, 3) := dk_182 0 158 (dk_at dksX1_symbol_0 13 rfl rfl)
theorem dX1_symbol_16 : decode cX1_symbol 16 = .ok (.pop, 1) := dk_87 (dk_at dksX1_symbol_0 16 rfl rfl)
theorem dX1_symbol_17 : decode cX1_symbol 17 = .ok (.aload_n 0, 1) := dk_42 (dk_at dksX1_symbol_0 17 rfl rfl)
theorem dX1_symbol_18 : decode cX1_symbol 18 = .ok (.iload_n 2, 1) := dk_28 (dk_at dksX1_symbol_0 18 rfl rfl)
theorem dX1_symbol_19 : decode cX1_symbol 19 = .ok (.iconst 0, 1) := dk_3 (dk_at dksX1_symbol_0 19 rfl rfl)
theorem dX1_symbol_20 : decode cX1_symbol 20 = .ok (.invokevirtual 244, 3) := dk_182 0 244 (dk_at dksX1_symbol_0 20 rfl rfl)
theorem dX1_symbol_23 : decode cX1_symbol 23 = .ok (.new 24, 3) := dk_187 0 24 (dk_at dksX1_symbol_1 0 rfl rfl)
theorem dX1_symbol_26 : decode cX1_symbol 26 = .ok (.dup, 1) := dk_89 (dk_at dksX1_symbol_1 3 rfl rfl)
theorem dX1_symbol_27 : decode cX1_symbol 27 = .ok (.invokespecial 26, 3) := dk_183 0 26 (dk_at dksX1_symbol_1 4 rfl rfl)
theorem dX1_symbol_30 : decode cX1_symbol 30 = .ok (.astore_n 3, 1) := dk_78 (dk_at dksX1_symbol_1 7 rfl rfl)
theorem dX1_symbol_31 : decode cX1_symbol 31 = .ok (.aload_n 3, 1) := dk_45 (dk_at dksX1_symbol_1 8 rfl rfl)
theorem dX1_symbol_32 : decode cX1_symbol 32 = .ok (.iload_n 2, 1) := dk_28 (dk_at dksX1_symbol_1 9 rfl rfl)
theorem dX1_symbol_33 : decode cX1_symbol 33 = .ok (.invokestatic 189, 3) := dk_184 0 189 (dk_at dksX1_symbol_1 10 rfl rfl)
theorem dX1_symbol_36 : decode cX1_symbol 36 = .ok (.invokeinterface 172 2, 5) := by decide +kernel
theorem dX1_symbol_41 : decode cX1_symbol 41 = .ok (.pop, 1) := dk_87 (dk_at dksX1_symbol_1 18 rfl rfl)
theorem dX1_symbol_42 : decode cX1_symbol 42 = .ok (.aload_n 0, 1) := dk_42 (dk_at dksX1_symbol_1 19 rfl rfl)
theorem dX1_symbol_43 : decode cX1_symbol 43 = .ok (.new 293, 3) := dk_187 1 37 (dk_at dksX1_symbol_1 20 rfl rfl)
theorem dX1_symbol_46 : decode cX1_symbol 46 = .ok (.dup, 1) := dk_89 (dk_at dksX1_symbol_1 23 rfl rfl)
theorem dX1_symbol_47 : decode cX1_symbol 47 = .ok (.aload_n 3, 1) := dk_45 (dk_at dksX1_symbol_2 0 rfl rfl)
theorem dX1_symbol_48 : decode cX1_symbol 48 = .ok (.aload_n 0, 1) := dk_42 (dk_at dksX1_symbol_2 1 rfl rfl)
theorem dX1_symbol_49 : decode cX1_symbol 49 = .ok (.getfield 56, 3) := dk_180 0 56 (dk_at dksX1_symbol_2 2 rfl rfl)
theorem dX1_symbol_52 : decode cX1_symbol 52 = .ok (.iload_n 1, 1) := dk_27 (dk_at dksX1_symbol_2 5 rfl rfl)
theorem dX1_symbol_53 : decode cX1_symbol 53 = .ok (.invokespecial 295, 3) := dk_183 1 39 (dk_at dksX1_symbol_2 6 rfl rfl)
theorem dX1_symbol_56 : decode cX1_symbol 56 = .ok (.invokevirtual 224, 3) := dk_182 0 224 (dk_at dksX1_symbol_2 9 rfl rfl)
theorem dX1_symbol_59 : decode cX1_symbol 59 = .ok (.ireturn, 1) := dk_172 (dk_at dksX1_symbol_2 12 rfl rfl)
def dkwX1_decide_2 : List UInt8 := [180, 1, 60, 4, 100, 172]
abbrev dktX1_decide_2 : List UInt8 := dkwX1_decide_2 ++ []
def dkwX1_decide_1 : List UInt8 := [184, 0, 169, 42, 180, 0, 49, 27, 28, 29, 182, 1, 130, 42, 3, 181, 0, 176, 42, 180, 0, 49]
abbrev dktX1_decide_1 : List UInt8 := dkwX1_decide_1 ++ dktX1_decide_2
def dkwX1_decide_0 : List UInt8 := [42, 27, 28, 182, 0, 197, 42, 180, 0, 49, 180, 1, 60, 16, 12, 162, 0, 7, 4, 167, 0, 4, 3]
abbrev dktX1_decide_0 : List UInt8 := dkwX1_decide_0 ++ dktX1_decide_1
theorem dksX1_decide_0 : cX1_decide.data.toList.drop 0 = dktX1_decide_0 := by decide +kernel
theorem dksX1_decide_1 : cX1_decide.data.toList.drop 23 = dktX1_decide_1 := dk_seg dksX1_decide_0 23 rfl rfl
theorem dksX1_decide_2 : cX1_decide.data.toList.drop 45 = dktX1_decide_2 := dk_seg dksX1_decide_1 22 rfl rfl
theorem dX1_decide_0 : decode cX1_decide 0 = .ok (.aload_n 0, 1) := dk_42 (dk_at dksX1_decide_0 0 rfl rfl)
theorem dX1_decide_1 : decode cX1_decide 1 = .ok (.iload_n 1, 1) := dk_27 (dk_at dksX1_decide_0 1 rfl rfl)
theorem dX1_decide_2 : decode cX1_decide 2 = .ok (.iload_n 2, 1) := dk_28 (dk_at dksX1_decide_0 2 rfl rfl)
theorem dX1_decide_3 : decode cX1_decide 3 = .ok (.invokevirtual 197, 3) := dk_182 0 197 (dk_at dksX1_decide_0 3 rfl rfl)
theorem dX1_decide_6 : decode cX1_decide 6 = .ok (.aload_n 0, 1) := dk_42 (dk_at dksX1_decide_0 6 rfl rfl)
theorem dX1_decide_7 : decode cX1_decide 7 = .ok (.getfield 49, 3) := dk_180 0 49 (dk_at dksX1_decide_0 7 rfl rfl)
theorem dX1_decide_10 : decode cX1_decide 10 = .ok (.getfield 316, 3) := dk_180 1 60 (dk_at dksX1_decide_0 10 rfl rfl)
theorem dX1_decide_13 : decode cX1_decide 13 = .ok (.bipush 12, 2) := dk_16 12 (dk_at dksX1_decide_0 13 rfl rfl)
theorem dX1_decide_15 : decode cX1_decide 15 = .ok (.if_icmp .ge 7, 3) := dk_162 0 7 (dk_at dksX1_decide_0 15 rfl rfl)
theorem dX1_decide_18 : decode cX1_decide 18 = .ok (.iconst 1, 1) := dk_4 (dk_at dksX1_decide_0 18 rfl rfl)
theorem dX1_decide_19 : decode cX1_decide 19 = .ok (.goto 4, 3) := dk_167 0 4 (dk_at dksX1_decide_0 19 rfl rfl)
theorem dX1_decide_22 : decode cX1_decide 22 = .ok (.iconst 0, 1) := dk_3 (dk_at dksX1_decide_0 22 rfl rfl)
theorem dX1_decide_23 : decode cX1_decide 23 = .ok (.invokestatic 169, 3) := dk_184 0 169 (dk_at dksX1_decide_1 0 rfl rfl)
theorem dX1_decide_26 : decode cX1_decide 26 = .ok (.aload_n 0, 1) := dk_42 (dk_at dksX1_decide_1 3 rfl rfl)
theorem dX1_decide_27 : decode cX1_decide 27 = .ok (.getfield 49, 3) := dk_180 0 49 (dk_at dksX1_decide_1 4 rfl rfl)
theorem dX1_decide_30 : decode cX1_decide 30 = .ok (.iload_n 1, 1) := dk_27 (dk_at dksX1_decide_1 7 rfl rfl)
theorem dX1_decide_31 : decode cX1_decide 31 = .ok (.iload_n 2, 1) := dk_28 (dk_at dksX1_decide_1 8 rfl rfl)
theorem dX1_decide_32 : decode cX1_decide 32 = .ok (.iload_n 3, 1) := dk_29 (dk_at dksX1_decide_1 9 rfl rfl)
theorem dX1_decide_33 : decode cX1_decide 33 = .ok (.invokevirtual 386, 3) := dk_182 1 130 (dk_at dksX1_decide_1 10 rfl rfl)
theorem dX1_decide_36 : decode cX1_decide 36 = .ok (.aload_n 0, 1) := dk_42 (dk_at dksX1_decide_1 13 rfl rfl)
theorem dX1_decide_37 : decode cX1_decide 37 = .ok (.iconst 0, 1) := dk_3 (dk_at dksX1_decide_1 14 rfl rfl)
theorem dX1_decide_38 : decode cX1_decide 38 = .ok (.putfield 176, 3) := dk_181 0 176 (dk_at dksX1_decide_1 15 rfl rfl)
theorem dX1_decide_41 : decode cX1_decide 41 = .ok (.aload_n 0, 1) := dk_42 (dk_at dksX1_decide_1 18 rfl rfl)
theorem dX1_decide_42 : decode cX1_decide 42 = .ok (.getfield 49, 3) := dk_180 0 49 (dk_at dksX1_decide_1 19 rfl rfl)
theorem dX1_decide_45 : decode cX1_decide 45 = .ok (.getfield 316, 3) := dk_180 1 60 (dk_at dksX1_decide_2 0 rfl rfl)
theorem dX1_decide_48 : decode cX1_decide 48 = .ok (.iconst 1, 1) := dk_4 (dk_at dksX1_decide_2 3 rfl rfl)
theorem dX1_decide_49 : decode cX1_decide 49 = .ok (.isub, 1) := dk_100 (dk_at dksX1_decide_2 4 rfl rfl)
theorem dX1_decide_50 : decode cX1_decide 50 = .ok (.ireturn, 1) := dk_172 (dk_at dksX1_decide_2 5 rfl rfl)
def dkwX1_back_1 : List UInt8 := [181, 1, 60, 42, 3, 181, 0, 176, 42, 180, 0, 49, 180, 1, 60, 172]
abbrev dktX1_back_1 : List UInt8 := dkwX1_back_1 ++ []
def dkwX1_back_0 : List UInt8 := [27, 3, 42, 180, 0, 49, 180, 1, 60, 184, 0, 162, 42, 180, 0, 49, 89, 180, 1, 60, 27, 100]
abbrev dktX1_back_0 : List UInt8 := dkwX1_back_0 ++ dktX1_back_1
theorem dksX1_back_0 : cX1_back.data.toList.drop 0 = dktX1_back_0 := by decide +kernel
theorem dksX1_back_1 : cX1_back.data.toList.drop 22 = dktX1_back_1 := dk_seg dksX1_back_0 22 rfl rfl
theorem dX1_back_0 : decode cX1_back 0 = .ok (.iload_n 1, 1) := dk_27 (dk_at dksX1_back_0 0 rfl rfl)
theorem dX1_back_1 : decode cX1_back 1 = .ok (.iconst 0, 1) := dk_3 (dk_at dksX1_back_0 1 rfl rfl)
theorem dX1_back_2 : decode cX1_back 2 = .ok (.aload_n 0, 1) := dk_42 (dk_at dksX1_back_0 2 rfl rfl)
theorem dX1_back_3 : decode cX1_back 3 = .ok (.getfield 49, 3) := dk_180 0 49 (dk_at dksX1_back_0 3 rfl rfl)
theorem dX1_back_6 : decode cX1_back 6 = .ok (.getfield 316, 3) := dk_180 1 60 (dk_at dksX1_back_0 6 rfl rfl)
theorem dX1_back_9 : decode cX1_back 9 = .ok (.invokestatic 162, 3) := dk_184 0 162 (dk_at dksX1_back_0 9 rfl rfl)
theorem dX1_back_12 : decode cX1_back 12 = .ok (.aload_n 0, 1) := dk_42 (dk_at dksX1_back_0 12 rfl rfl)
theorem dX1_back_13 : decode cX1_back 13 = .ok (.getfield 49, 3) := dk_180 0 49 (dk_at dksX1_back_0 13 rfl rfl)
theorem dX1_back_16 : decode cX1_back 16 = .ok (.dup, 1) := dk_89 (dk_at dksX1_back_0 16 rfl rfl)
theorem dX1_back_17 : decode cX1_back 17 = .ok (.getfield 316, 3) := dk_180 1 60 (dk_at dksX1_back_0 17 rfl rfl)
theorem dX1_back_20 : decode cX1_back 20 = .ok (.iload_n 1, 1) := dk_27 (dk_at dksX1_back_0 20 rfl rfl)
theorem dX1_back_21 : decode cX1_back 21 = .ok (.isub, 1) := dk_100 (dk_at dksX1_back_0 21 rfl rfl)
theorem dX1_back_22 : decode cX1_back 22 = .ok (.putfield 316, 3) := dk_181 1 60 (dk_at dksX1_back_1 0 rfl rfl)
theorem dX1_back_25 : decode cX1_back 25 = .ok (.aload_n 0, 1) := dk_42 (dk_at dksX1_back_1 3 rfl rfl)
theorem dX1_back_26 : decode cX1_back 26 = .ok (.iconst 0, 1) := dk_3 (dk_at dksX1_back_1 4 rfl rfl)
theorem dX1_back_27 : decode cX1_back 27 = .ok (.putfield 176, 3) := dk_181 0 176 (dk_at dksX1_back_1 5 rfl rfl)
theorem dX1_back_30 : decode cX1_back 30 = .ok (.aload_n 0, 1) := dk_42 (dk_at dksX1_back_1 8 rfl rfl)
theorem dX1_back_31 : decode cX1_back 31 = .ok (.getfield 49, 3) := dk_180 0 49 (dk_at dksX1_back_1 9 rfl rfl)
theorem dX1_back_34 : decode cX1_back 34 = .ok (.getfield 316, 3) := dk_180 1 60 (dk_at dksX1_back_1 12 rfl rfl)
theorem dX1_back_37 : decode cX1_back 37 = .ok (.ireturn, 1) := dk_172 (dk_at dksX1_back_1 15 rfl rfl)
def dkwX1_domain_1 : List UInt8 := [46, 44, 180, 1, 48, 27, 46, 100, 4, 96, 3, 184, 1, 112, 167, 0, 9, 44, 180, 1, 42, 27, 46, 172]
abbrev dktX1_domain_1 : List UInt8 := dkwX1_domain_1 ++ []
def dkwX1_domain_0 : List UInt8 := [42, 27, 182, 0, 158, 87, 42, 182, 1, 132, 77, 42, 27, 182, 1, 70, 153, 0, 25, 44, 180, 1, 54, 27]
abbrev dktX1_domain_0 : List UInt8 := dkwX1_domain_0 ++ dktX1_domain_1
theorem dksX1_domain_0 : cX1_domain.data.toList.drop 0 = dktX1_domain_0 := by decide +kernel
theorem dksX1_domain_1 : cX1_domain.data.toList.drop 24 = dktX1_domain_1 := dk_seg dksX1_domain_0 24 rfl rfl
theorem dX1_domain_0 : decode cX1_domain 0 = .ok (.aload_n 0, 1) := dk_42 (dk_at dksX1_domain_0 0 rfl rfl)
theorem dX1_domain_1 : decode cX1_domain 1 = .ok (.iload_n 1, 1) := dk_27 (dk_at dksX1_domain_0 1 rfl rfl)
theorem dX1_domain_2 : decode cX1_domain 2 = .ok (.invokevirtual 158, 3) := dk_182 0 158 (dk_at dksX1_domain_0 2 rfl rfl)
theorem dX1_domain_5 : decode cX1_domain 5 = .ok (.pop, 1) := dk_87 (dk_at dksX1_domain_0 5 rfl rfl)
theorem dX1_domain_6 : decode cX1_domain 6 = .ok (.aload_n 0, 1) := dk_42 (dk_at dksX1_domain_0 6 rfl rfl)
theorem dX1_domain_7 : decode cX1_domain 7 = .ok (.invokevirtual 388, 3) := dk_182 1 132 (dk_at dksX1_domain_0 7 rfl rfl)
theorem dX1_domain_10 : decode cX1_domain 10 = .ok (.astore_n 2, 1) := dk_77 (dk_at dksX1_domain_0 10 rfl rfl)
theorem dX1_domain_11 : decode cX1_domain 11 = .ok (.aload_n 0, 1) := dk_42 (dk_at dksX1_domain_0 11 rfl rfl)
theorem dX1_domain_12 : decode cX1_domain 12 = .ok (.iload_n 1, 1) := dk_27 (dk_at dksX1_domain_0 12 rfl rfl)
theorem dX1_domain_13 : decode cX1_domain 13 = .ok (.invokevirtual 326, 3) := dk_182 1 70 (dk_at dksX1_domain_0 13 rfl rfl)
theorem dX1_domain_16 : decode cX1_domain 16 = .ok (.ifCond .eq 25, 3) := dk_153 0 25 (dk_at dksX1_domain_0 16 rfl rfl)
theorem dX1_domain_19 : decode cX1_domain 19 = .ok (.aload_n 2, 1) := dk_44 (dk_at dksX1_domain_0 19 rfl rfl)
theorem dX1_domain_20 : decode cX1_domain 20 = .ok (.getfield 310, 3) := dk_180 1 54 (dk_at dksX1_domain_0 20 rfl rfl)
theorem dX1_domain_23 : decode cX1_domain 23 = .ok (.iload_n 1, 1) := dk_27 (dk_at dksX1_domain_0 23 rfl rfl)
theorem dX1_domain_24 : decode cX1_domain 24 = .ok (.iaload, 1) := dk_46 (dk_at dksX1_domain_1 0 rfl rfl)
theorem dX1_domain_25 : decode cX1_domain 25 = .ok (.aload_n 2, 1) := dk_44 (dk_at dksX1_domain_1 1 rfl rfl)
theorem dX1_domain_26 : decode cX1_domain 26 = .ok (.getfield 304, 3) := dk_180 1 48 (dk_at dksX1_domain_1 2 rfl rfl)
theorem dX1_domain_29 : decode cX1_domain 29 = .ok (.iload_n 1, 1) := dk_27 (dk_at dksX1_domain_1 5 rfl rfl)
theorem dX1_domain_30 : decode cX1_domain 30 = .ok (.iaload, 1) := dk_46 (dk_at dksX1_domain_1 6 rfl rfl)
theorem dX1_domain_31 : decode cX1_domain 31 = .ok (.isub, 1) := dk_100 (dk_at dksX1_domain_1 7 rfl rfl)
theorem dX1_domain_32 : decode cX1_domain 32 = .ok (.iconst 1, 1) := dk_4 (dk_at dksX1_domain_1 8 rfl rfl)
theorem dX1_domain_33 : decode cX1_domain 33 = .ok (.iadd, 1) := dk_96 (dk_at dksX1_domain_1 9 rfl rfl)
theorem dX1_domain_34 : decode cX1_domain 34 = .ok (.iconst 0, 1) := dk_3 (dk_at dksX1_domain_1 10 rfl rfl)
theorem dX1_domain_35 : decode cX1_domain 35 = .ok (.invokestatic 368, 3) := dk_184 1 112 (dk_at dksX1_domain_1 11 rfl rfl)
theorem dX1_domain_38 : decode cX1_domain 38 = .ok (.goto 9, 3) := dk_167 0 9 (dk_at dksX1_domain_1 14 rfl rfl)
theorem dX1_domain_41 : decode cX1_domain 41 = .ok (.aload_n 2, 1) := dk_44 (dk_at dksX1_domain_1 17 rfl rfl)
theorem dX1_domain_42 : decode cX1_domain 42 = .ok (.getfield 298, 3) := dk_180 1 42 (dk_at dksX1_domain_1 18 rfl rfl)
theorem dX1_domain_45 : decode cX1_domain 45 = .ok (.iload_n 1, 1) := dk_27 (dk_at dksX1_domain_1 21 rfl rfl)
theorem dX1_domain_46 : decode cX1_domain 46 = .ok (.iaload, 1) := dk_46 (dk_at dksX1_domain_1 22 rfl rfl)
theorem dX1_domain_47 : decode cX1_domain 47 = .ok (.ireturn, 1) := dk_172 (dk_at dksX1_domain_1 23 rfl rfl)
def dkwX1_bound_3 : List UInt8 := [180, 1, 42, 27, 46, 184, 1, 137, 172]
abbrev dktX1_bound_3 : List UInt8 := dkwX1_bound_3 ++ []
def dkwX1_bound_2 : List UInt8 := [180, 1, 48, 27, 46, 172, 28, 153, 0, 15, 45, 180, 1, 42, 27, 46, 184, 1, 135, 167, 0, 12, 45]
abbrev dktX1_bound_2 : List UInt8 := dkwX1_bound_2 ++ dktX1_bound_3
def dkwX1_bound_1 : List UInt8 := [42, 27, 182, 1, 70, 153, 0, 23, 28, 153, 0, 12, 45, 180, 1, 54, 27, 46, 167, 0, 9, 45]
abbrev dktX1_bound_1 : List UInt8 := dkwX1_bound_1 ++ dktX1_bound_2
def dkwX1_bound_0 : List UInt8 := [42, 27, 182, 0, 158, 87, 42, 182, 1, 132, 78, 42, 45, 27, 182, 1, 91, 153, 0, 7, 17, 252, 24, 172]
abbrev dktX1_bound_0 : List UInt8 := dkwX1_bound_0 ++ dktX1_bound_1
theorem dksX1_bound_0 : cX1_bound.data.toList.drop 0 = dktX1_bound_0 := by decide +kernel
theorem dksX1_bound_1 : cX1_bound.data.toList.drop 24 = dktX1_bound_1 := dk_seg dksX1_bound_0 24 rfl rfl
theorem dksX1_bound_2 : cX1_bound.data.toList.drop 46 = dktX1_bound_2 := dk_seg dksX1_bound_1 22 rfl rfl
theorem dksX1_bound_3 : cX1_bound.data.toList.drop 69 = dktX1_bound_3 := dk_seg dksX1_bound_2 23 rfl rfl
theorem dX1_bound_0 : decode cX1_bound 0 = .ok (.aload_n 0, 1) := dk_42 (dk_at dksX1_bound_0 0 rfl rfl)
theorem dX1_bound_1 : decode cX1_bound 1 = .ok (.iload_n 1, 1) := dk_27 (dk_at dksX1_bound_0 1 rfl rfl)
theorem dX1_bound_2 : decode cX1_bound 2 = .ok (.invokevirtual 158, 3) := dk_182 0 158 (dk_at dksX1_bound_0 2 rfl rfl)
theorem dX1_bound_5 : decode cX1_bound 5 = .ok (.pop, 1) := dk_87 (dk_at dksX1_bound_0 5 rfl rfl)
theorem dX1_bound_6 : decode cX1_bound 6 = .ok (.aload_n 0, 1) := dk_42 (dk_at dksX1_bound_0 6 rfl rfl)
theorem dX1_bound_7 : decode cX1_bound 7 = .ok (.invokevirtual 388, 3) := dk_182 1 132 (dk_at dksX1_bound_0 7 rfl rfl)
theorem dX1_bound_10 : decode cX1_bound 10 = .ok (.astore_n 3, 1) := dk_78 (dk_at dksX1_bound_0 10 rfl rfl)
theorem dX1_bound_11 : decode cX1_bound 11 = .ok (.aload_n 0, 1) := dk_42 (dk_at dksX1_bound_0 11 rfl rfl)
theorem dX1_bound_12 : decode cX1_bound 12 = .ok (.aload_n 3, 1) := dk_45 (dk_at dksX1_bound_0 12 rfl rfl)
theorem dX1_bound_13 : decode cX1_bound 13 = .ok (.iload_n 1, 1) := dk_27 (dk_at dksX1_bound_0 13 rfl rfl)
theorem dX1_bound_14 : decode cX1_bound 14 = .ok (.invokevirtual 347, 3) := dk_182 1 91 (dk_at dksX1_bound_0 14 rfl rfl)
theorem dX1_bound_17 : decode cX1_bound 17 = .ok (.ifCond .eq 7, 3) := dk_153 0 7 (dk_at dksX1_bound_0 17 rfl rfl)
theorem dX1_bound_20 : decode cX1_bound 20 = .ok (.sipush (-1000), 3) := dk_17 252 24 (dk_at dksX1_bound_0 20 rfl rfl)
theorem dX1_bound_23 : decode cX1_bound 23 = .ok (.ireturn, 1) := dk_172 (dk_at dksX1_bound_0 23 rfl rfl)
theorem dX1_bound_24 : decode cX1_bound 24 = .ok (.aload_n 0, 1) := dk_42 (dk_at dksX1_bound_1 0 rfl rfl)
theorem dX1_bound_25 : decode cX1_bound 25 = .ok (.iload_n 1, 1) := dk_27 (dk_at dksX1_bound_1 1 rfl rfl)
theorem dX1_bound_26 : decode cX1_bound 26 = .ok (.invokevirtual 326, 3) := dk_182 1 70 (dk_at dksX1_bound_1 2 rfl rfl)
theorem dX1_bound_29 : decode cX1_bound 29 = .ok (.ifCond .eq 23, 3) := dk_153 0 23 (dk_at dksX1_bound_1 5 rfl rfl)
theorem dX1_bound_32 : decode cX1_bound 32 = .ok (.iload_n 2, 1) := dk_28 (dk_at dksX1_bound_1 8 rfl rfl)
theorem dX1_bound_33 : decode cX1_bound 33 = .ok (.ifCond .eq 12, 3) := dk_153 0 12 (dk_at dksX1_bound_1 9 rfl rfl)
theorem dX1_bound_36 : decode cX1_bound 36 = .ok (.aload_n 3, 1) := dk_45 (dk_at dksX1_bound_1 12 rfl rfl)
theorem dX1_bound_37 : decode cX1_bound 37 = .ok (.getfield 310, 3) := dk_180 1 54 (dk_at dksX1_bound_1 13 rfl rfl)
theorem dX1_bound_40 : decode cX1_bound 40 = .ok (.iload_n 1, 1) := dk_27 (dk_at dksX1_bound_1 16 rfl rfl)
theorem dX1_bound_41 : decode cX1_bound 41 = .ok (.iaload, 1) := dk_46 (dk_at dksX1_bound_1 17 rfl rfl)
theorem dX1_bound_42 : decode cX1_bound 42 = .ok (.goto 9, 3) := dk_167 0 9 (dk_at dksX1_bound_1 18 rfl rfl)
theorem dX1_bound_45 : decode cX1_bound 45 = .ok (.aload_n 3, 1) := dk_45 (dk_at dksX1_bound_1 21 rfl rfl)
theorem dX1_bound_46 : decode cX1_bound 46 = .ok (.getfield 304, 3) := dk_180 1 48 (dk_at dksX1_bound_2 0 rfl rfl)
theorem dX1_bound_49 : decode cX1_bound 49 = .ok (.iload_n 1, 1) := dk_27 (dk_at dksX1_bound_2 3 rfl rfl)
theorem dX1_bound_50 : decode cX1_bound 50 = .ok (.iaload, 1) := dk_46 (dk_at dksX1_bound_2 4 rfl rfl)
theorem dX1_bound_51 : decode cX1_bound 51 = .ok (.ireturn, 1) := dk_172 (dk_at dksX1_bound_2 5 rfl rfl)
theorem dX1_bound_52 : decode cX1_bound 52 = .ok (.iload_n 2, 1) := dk_28 (dk_at dksX1_bound_2 6 rfl rfl)
theorem dX1_bound_53 : decode cX1_bound 53 = .ok (.ifCond .eq 15, 3) := dk_153 0 15 (dk_at dksX1_bound_2 7 rfl rfl)
theorem dX1_bound_56 : decode cX1_bound 56 = .ok (.aload_n 3, 1) := dk_45 (dk_at dksX1_bound_2 10 rfl rfl)
theorem dX1_bound_57 : decode cX1_bound 57 = .ok (.getfield 298, 3) := dk_180 1 42 (dk_at dksX1_bound_2 11 rfl rfl)
theorem dX1_bound_60 : decode cX1_bound 60 = .ok (.iload_n 1, 1) := dk_27 (dk_at dksX1_bound_2 14 rfl rfl)
theorem dX1_bound_61 : decode cX1_bound 61 = .ok (.iaload, 1) := dk_46 (dk_at dksX1_bound_2 15 rfl rfl)
theorem dX1_bound_62 : decode cX1_bound 62 = .ok (.invokestatic 391, 3) := dk_184 1 135 (dk_at dksX1_bound_2 16 rfl rfl)
theorem dX1_bound_65 : decode cX1_bound 65 = .ok (.goto 12, 3) := dk_167 0 12 (dk_at dksX1_bound_2 19 rfl rfl)
theorem dX1_bound_68 : decode cX1_bound 68 = .ok (.aload_n 3, 1) := dk_45 (dk_at dksX1_bound_2 22 rfl rfl)
theorem dX1_bound_69 : decode cX1_bound 69 = .ok (.getfield 298, 3) := dk_180 1 42 (dk_at dksX1_bound_3 0 rfl rfl)
theorem dX1_bound_72 : decode cX1_bound 72 = .ok (.iload_n 1, 1) := dk_27 (dk_at dksX1_bound_3 3 rfl rfl)
theorem dX1_bound_73 : decode cX1_bound 73 = .ok (.iaload, 1) := dk_46 (dk_at dksX1_bound_3 4 rfl rfl)
theorem dX1_bound_74 : decode cX1_bound 74 = .ok (.invokestatic 393, 3) := dk_184 1 137 (dk_at dksX1_bound_3 5 rfl rfl)
theorem dX1_bound_77 : decode cX1_bound 77 = .ok (.ireturn, 1) := dk_172 (dk_at dksX1_bound_3 8 rfl rfl)
def dkwX1_removal_3 : List UInt8 := [167, 0, 9, 42, 180, 0, 80, 27, 46, 172]
abbrev dktX1_removal_3 : List UInt8 := dkwX1_removal_3 ++ []
def dkwX1_removal_2 : List UInt8 := [42, 180, 0, 70, 27, 46, 167, 0, 27, 42, 180, 0, 74, 27, 46, 167, 0, 18, 42, 180, 0, 77, 27, 46]
abbrev dktX1_removal_2 : List UInt8 := dkwX1_removal_2 ++ dktX1_removal_3
def dkwX1_removal_1 : List UInt8 := [170, 0, 0, 0, 52, 0, 0, 0, 0, 0, 0, 0, 2, 0, 0, 0, 25, 0, 0, 0, 34, 0, 0, 0, 43]
abbrev dktX1_removal_1 : List UInt8 := dkwX1_removal_1 ++ dktX1_removal_2
def dkwX1_removal_0 : List UInt8 := [27, 42, 182, 1, 140, 184, 0, 137, 28, 3, 6, 184, 0, 162, 28]
abbrev dktX1_removal_0 : List UInt8 := dkwX1_removal_0 ++ dktX1_removal_1
theorem dksX1_removal_0 : cX1_removal.data.toList.drop 0 = dktX1_removal_0 := by decide +kernel
theorem dksX1_removal_1 : cX1_removal.data.toList.drop 15 = dktX1_removal_1 := dk_seg dksX1_removal_0 15 rfl rfl
theorem dksX1_removal_2 : cX1_removal.data.toList.drop 40 = dktX1_removal_2 := dk_seg dksX1_removal_1 25 rfl rfl
theorem dksX1_removal_3 : cX1_removal.data.toList.drop 64 = dktX1_removal_3 := dk_seg dksX1_removal_2 24 rfl rfl
theorem dX1_removal_0 : decode cX1_removal 0 = .ok (.iload_n 1, 1) := dk_27 (dk_at dksX1_removal_0 0 rfl rfl)
theorem dX1_removal_1 : decode cX1_removal 1 = .ok (.aload_n 0, 1) := dk_42 (dk_at dksX1_removal_0 1 rfl rfl)
theorem dX1_removal_2 : decode cX1_removal 2 = .ok (.invokevirtual 396, 3) := dk_182 1 140 (dk_at dksX1_removal_0 2 rfl rfl)
theorem dX1_removal_5 : decode cX1_removal 5 = .ok (.invokestatic 137, 3) := dk_184 0 137 (dk_at dksX1_removal_0 5 rfl rfl)
theorem dX1_removal_8 : decode cX1_removal 8 = .ok (.iload_n 2, 1) := dk_28 (dk_at dksX1_removal_0 8 rfl rfl)
theorem dX1_removal_9 : decode cX1_removal 9 = .ok (.iconst 0, 1) := dk_3 (dk_at dksX1_removal_0 9 rfl rfl)
theorem dX1_removal_10 : decode cX1_removal 10 = .ok (.iconst 3, 1) := dk_6 (dk_at dksX1_removal_0 10 rfl rfl)
theorem dX1_removal_11 : decode cX1_removal 11 = .ok (.invokestatic 162, 3) := dk_184 0 162 (dk_at dksX1_removal_0 11 rfl rfl)
theorem dX1_removal_14 : decode cX1_removal 14 = .ok (.iload_n 2, 1) := dk_28 (dk_at dksX1_removal_0 14 rfl rfl)
theorem dX1_removal_15 : decode cX1_removal 15 = .ok (.tableswitch 52 0 2 #[25, 34, 43], 25) := by decide +kernel
theorem dX1_removal_40 : decode cX1_removal 40 = .ok (.aload_n 0, 1) := dk_42 (dk_at dksX1_removal_2 0 rfl rfl)
theorem dX1_removal_41 : decode cX1_removal 41 = .ok (.getfield 70, 3) := dk_180 0 70 (dk_at dksX1_removal_2 1 rfl rfl)
theorem dX1_removal_44 : decode cX1_removal 44 = .ok (.iload_n 1, 1) := dk_27 (dk_at dksX1_removal_2 4 rfl rfl)
theorem dX1_removal_45 : decode cX1_removal 45 = .ok (.iaload, 1) := dk_46 (dk_at dksX1_removal_2 5 rfl rfl)
theorem dX1_removal_46 : decode cX1_removal 46 = .ok (.goto 27, 3) := dk_167 0 27 (dk_at dksX1_removal_2 6 rfl rfl)
theorem dX1_removal_49 : decode cX1_removal 49 = .ok (.aload_n 0, 1) := dk_42 (dk_at dksX1_removal_2 9 rfl rfl)
theorem dX1_removal_50 : decode cX1_removal 50 = .ok (.getfield 74, 3) := dk_180 0 74 (dk_at dksX1_removal_2 10 rfl rfl)
theorem dX1_removal_53 : decode cX1_removal 53 = .ok (.iload_n 1, 1) := dk_27 (dk_at dksX1_removal_2 13 rfl rfl)
theorem dX1_removal_54 : decode cX1_removal 54 = .ok (.iaload, 1) := dk_46 (dk_at dksX1_removal_2 14 rfl rfl)
theorem dX1_removal_55 : decode cX1_removal 55 = .ok (.goto 18, 3) := dk_167 0 18 (dk_at dksX1_removal_2 15 rfl rfl)
theorem dX1_removal_58 : decode cX1_removal 58 = .ok (.aload_n 0, 1) := dk_42 (dk_at dksX1_removal_2 18 rfl rfl)
theorem dX1_removal_59 : decode cX1_removal 59 = .ok (.getfield 77, 3) := dk_180 0 77 (dk_at dksX1_removal_2 19 rfl rfl)
theorem dX1_removal_62 : decode cX1_removal 62 = .ok (.iload_n 1, 1) := dk_27 (dk_at dksX1_removal_2 22 rfl rfl)
theorem dX1_removal_63 : decode cX1_removal 63 = .ok (.iaload, 1) := dk_46 (dk_at dksX1_removal_2 23 rfl rfl)
theorem dX1_removal_64 : decode cX1_removal 64 = .ok (.goto 9, 3) := dk_167 0 9 (dk_at dksX1_removal_3 0 rfl rfl)
theorem dX1_removal_67 : decode cX1_removal 67 = .ok (.aload_n 0, 1) := dk_42 (dk_at dksX1_removal_3 3 rfl rfl)
theorem dX1_removal_68 : decode cX1_removal 68 = .ok (.getfield 80, 3) := dk_180 0 80 (dk_at dksX1_removal_3 4 rfl rfl)
theorem dX1_removal_71 : decode cX1_removal 71 = .ok (.iload_n 1, 1) := dk_27 (dk_at dksX1_removal_3 7 rfl rfl)
theorem dX1_removal_72 : decode cX1_removal 72 = .ok (.iaload, 1) := dk_46 (dk_at dksX1_removal_3 8 rfl rfl)
theorem dX1_removal_73 : decode cX1_removal 73 = .ok (.ireturn, 1) := dk_172 (dk_at dksX1_removal_3 9 rfl rfl)
def dkwX1_reason_1 : List UInt8 := [167, 0, 4, 3, 184, 0, 169, 42, 27, 28, 182, 1, 146, 172]
abbrev dktX1_reason_1 : List UInt8 := dkwX1_reason_1 ++ []
def dkwX1_reason_0 : List UInt8 := [42, 27, 28, 182, 0, 197, 42, 182, 1, 132, 180, 1, 42, 27, 46, 28, 184, 1, 63, 154, 0, 7, 4]
abbrev dktX1_reason_0 : List UInt8 := dkwX1_reason_0 ++ dktX1_reason_1
theorem dksX1_reason_0 : cX1_reason.data.toList.drop 0 = dktX1_reason_0 := by decide +kernel
theorem dksX1_reason_1 : cX1_reason.data.toList.drop 23 = dktX1_reason_1 := dk_seg dksX1_reason_0 23 rfl rfl
theorem dX1_reason_0 : decode cX1_reason 0 = .ok (.aload_n 0, 1) := dk_42 (dk_at dksX1_reason_0 0 rfl rfl)
theorem dX1_reason_1 : decode cX1_reason 1 = .ok (.iload_n 1, 1) := dk_27 (dk_at dksX1_reason_0 1 rfl rfl)
theorem dX1_reason_2 : decode cX1_reason 2 = .ok (.iload_n 2, 1) := dk_28 (dk_at dksX1_reason_0 2 rfl rfl)
theorem dX1_reason_3 : decode cX1_reason 3 = .ok (.invokevirtual 197, 3) := dk_182 0 197 (dk_at dksX1_reason_0 3 rfl rfl)
theorem dX1_reason_6 : decode cX1_reason 6 = .ok (.aload_n 0, 1) := dk_42 (dk_at dksX1_reason_0 6 rfl rfl)
theorem dX1_reason_7 : decode cX1_reason 7 = .ok (.invokevirtual 388, 3) := dk_182 1 132 (dk_at dksX1_reason_0 7 rfl rfl)
theorem dX1_reason_10 : decode cX1_reason 10 = .ok (.getfield 298, 3) := dk_180 1 42 (dk_at dksX1_reason_0 10 rfl rfl)
theorem dX1_reason_13 : decode cX1_reason 13 = .ok (.iload_n 1, 1) := dk_27 (dk_at dksX1_reason_0 13 rfl rfl)
theorem dX1_reason_14 : decode cX1_reason 14 = .ok (.iaload, 1) := dk_46 (dk_at dksX1_reason_0 14 rfl rfl)
theorem dX1_reason_15 : decode cX1_reason 15 = .ok (.iload_n 2, 1) := dk_28 (dk_at dksX1_reason_0 15 rfl rfl)
theorem dX1_reason_16 : decode cX1_reason 16 = .ok (.invokestatic 319, 3) := dk_184 1 63 (dk_at dksX1_reason_0 16 rfl rfl)
theorem dX1_reason_19 : decode cX1_reason 19 = .ok (.ifCond .ne 7, 3) := dk_154 0 7 (dk_at dksX1_reason_0 19 rfl rfl)
theorem dX1_reason_22 : decode cX1_reason 22 = .ok (.iconst 1, 1) := dk_4 (dk_at dksX1_reason_0 22 rfl rfl)
theorem dX1_reason_23 : decode cX1_reason 23 = .ok (.goto 4, 3) := dk_167 0 4 (dk_at dksX1_reason_1 0 rfl rfl)
theorem dX1_reason_26 : decode cX1_reason 26 = .ok (.iconst 0, 1) := dk_3 (dk_at dksX1_reason_1 3 rfl rfl)
theorem dX1_reason_27 : decode cX1_reason 27 = .ok (.invokestatic 169, 3) := dk_184 0 169 (dk_at dksX1_reason_1 4 rfl rfl)
theorem dX1_reason_30 : decode cX1_reason 30 = .ok (.aload_n 0, 1) := dk_42 (dk_at dksX1_reason_1 7 rfl rfl)
theorem dX1_reason_31 : decode cX1_reason 31 = .ok (.iload_n 1, 1) := dk_27 (dk_at dksX1_reason_1 8 rfl rfl)
theorem dX1_reason_32 : decode cX1_reason 32 = .ok (.iload_n 2, 1) := dk_28 (dk_at dksX1_reason_1 9 rfl rfl)
theorem dX1_reason_33 : decode cX1_reason 33 = .ok (.invokevirtual 402, 3) := dk_182 1 146 (dk_at dksX1_reason_1 10 rfl rfl)
theorem dX1_reason_36 : decode cX1_reason 36 = .ok (.ireturn, 1) := dk_172 (dk_at dksX1_reason_1 13 rfl rfl)
def dkwX1_reasonOf_2 : List UInt8 := [153, 0, 8, 21, 5, 167, 0, 4, 29, 62, 132, 4, 255, 167, 255, 220, 29, 172]
abbrev dktX1_reasonOf_2 : List UInt8 := dkwX1_reasonOf_2 ++ []
def dkwX1_reasonOf_1 : List UInt8 := [21, 4, 155, 0, 37, 29, 4, 21, 4, 120, 2, 130, 126, 54, 5, 42, 21, 5, 27, 28, 182, 1, 142]
abbrev dktX1_reasonOf_1 : List UInt8 := dkwX1_reasonOf_1 ++ dktX1_reasonOf_2
def dkwX1_reasonOf_0 : List UInt8 := [4, 42, 180, 0, 49, 180, 1, 60, 120, 4, 100, 62, 42, 180, 0, 49, 180, 1, 60, 4, 100, 54, 4]
abbrev dktX1_reasonOf_0 : List UInt8 := dkwX1_reasonOf_0 ++ dktX1_reasonOf_1
theorem dksX1_reasonOf_0 : cX1_reasonOf.data.toList.drop 0 = dktX1_reasonOf_0 := by decide +kernel
theorem dksX1_reasonOf_1 : cX1_reasonOf.data.toList.drop 23 = dktX1_reasonOf_1 := dk_seg dksX1_reasonOf_0 23 rfl rfl
theorem dksX1_reasonOf_2 : cX1_reasonOf.data.toList.drop 46 = dktX1_reasonOf_2 := dk_seg dksX1_reasonOf_1 23 rfl rfl
theorem dX1_reasonOf_0 : decode cX1_reasonOf 0 = .ok (.iconst 1, 1) := dk_4 (dk_at dksX1_reasonOf_0 0 rfl rfl)
theorem dX1_reasonOf_1 : decode cX1_reasonOf 1 = .ok (.aload_n 0, 1) := dk_42 (dk_at dksX1_reasonOf_0 1 rfl rfl)
theorem dX1_reasonOf_2 : decode cX1_reasonOf 2 = .ok (.getfield 49, 3) := dk_180 0 49 (dk_at dksX1_reasonOf_0 2 rfl rfl)
theorem dX1_reasonOf_5 : decode cX1_reasonOf 5 = .ok (.getfield 316, 3) := dk_180 1 60 (dk_at dksX1_reasonOf_0 5 rfl rfl)
theorem dX1_reasonOf_8 : decode cX1_reasonOf 8 = .ok (.ishl, 1) := dk_120 (dk_at dksX1_reasonOf_0 8 rfl rfl)
theorem dX1_reasonOf_9 : decode cX1_reasonOf 9 = .ok (.iconst 1, 1) := dk_4 (dk_at dksX1_reasonOf_0 9 rfl rfl)
theorem dX1_reasonOf_10 : decode cX1_reasonOf 10 = .ok (.isub, 1) := dk_100 (dk_at dksX1_reasonOf_0 10 rfl rfl)
theorem dX1_reasonOf_11 : decode cX1_reasonOf 11 = .ok (.istore_n 3, 1) := dk_62 (dk_at dksX1_reasonOf_0 11 rfl rfl)
theorem dX1_reasonOf_12 : decode cX1_reasonOf 12 = .ok (.aload_n 0, 1) := dk_42 (dk_at dksX1_reasonOf_0 12 rfl rfl)
theorem dX1_reasonOf_13 : decode cX1_reasonOf 13 = .ok (.getfield 49, 3) := dk_180 0 49 (dk_at dksX1_reasonOf_0 13 rfl rfl)
theorem dX1_reasonOf_16 : decode cX1_reasonOf 16 = .ok (.getfield 316, 3) := dk_180 1 60 (dk_at dksX1_reasonOf_0 16 rfl rfl)
theorem dX1_reasonOf_19 : decode cX1_reasonOf 19 = .ok (.iconst 1, 1) := dk_4 (dk_at dksX1_reasonOf_0 19 rfl rfl)
theorem dX1_reasonOf_20 : decode cX1_reasonOf 20 = .ok (.isub, 1) := dk_100 (dk_at dksX1_reasonOf_0 20 rfl rfl)
theorem dX1_reasonOf_21 : decode cX1_reasonOf 21 = .ok (.istore 4, 2) := dk_54 4 (dk_at dksX1_reasonOf_0 21 rfl rfl)
theorem dX1_reasonOf_23 : decode cX1_reasonOf 23 = .ok (.iload 4, 2) := dk_21 4 (dk_at dksX1_reasonOf_1 0 rfl rfl)
theorem dX1_reasonOf_25 : decode cX1_reasonOf 25 = .ok (.ifCond .lt 37, 3) := dk_155 0 37 (dk_at dksX1_reasonOf_1 2 rfl rfl)
theorem dX1_reasonOf_28 : decode cX1_reasonOf 28 = .ok (.iload_n 3, 1) := dk_29 (dk_at dksX1_reasonOf_1 5 rfl rfl)
theorem dX1_reasonOf_29 : decode cX1_reasonOf 29 = .ok (.iconst 1, 1) := dk_4 (dk_at dksX1_reasonOf_1 6 rfl rfl)
theorem dX1_reasonOf_30 : decode cX1_reasonOf 30 = .ok (.iload 4, 2) := dk_21 4 (dk_at dksX1_reasonOf_1 7 rfl rfl)
theorem dX1_reasonOf_32 : decode cX1_reasonOf 32 = .ok (.ishl, 1) := dk_120 (dk_at dksX1_reasonOf_1 9 rfl rfl)
theorem dX1_reasonOf_33 : decode cX1_reasonOf 33 = .ok (.iconst (-1), 1) := dk_2 (dk_at dksX1_reasonOf_1 10 rfl rfl)
theorem dX1_reasonOf_34 : decode cX1_reasonOf 34 = .ok (.ixor, 1) := dk_130 (dk_at dksX1_reasonOf_1 11 rfl rfl)
theorem dX1_reasonOf_35 : decode cX1_reasonOf 35 = .ok (.iand, 1) := dk_126 (dk_at dksX1_reasonOf_1 12 rfl rfl)
theorem dX1_reasonOf_36 : decode cX1_reasonOf 36 = .ok (.istore 5, 2) := dk_54 5 (dk_at dksX1_reasonOf_1 13 rfl rfl)
theorem dX1_reasonOf_38 : decode cX1_reasonOf 38 = .ok (.aload_n 0, 1) := dk_42 (dk_at dksX1_reasonOf_1 15 rfl rfl)
theorem dX1_reasonOf_39 : decode cX1_reasonOf 39 = .ok (.iload 5, 2) := dk_21 5 (dk_at dksX1_reasonOf_1 16 rfl rfl)
theorem dX1_reasonOf_41 : decode cX1_reasonOf 41 = .ok (.iload_n 1, 1) := dk_27 (dk_at dksX1_reasonOf_1 18 rfl rfl)
theorem dX1_reasonOf_42 : decode cX1_reasonOf 42 = .ok (.iload_n 2, 1) := dk_28 (dk_at dksX1_reasonOf_1 19 rfl rfl)
theorem dX1_reasonOf_43 : decode cX1_reasonOf 43 = .ok (.invokevirtual 398, 3) := dk_182 1 142 (dk_at dksX1_reasonOf_1 20 rfl rfl)
theorem dX1_reasonOf_46 : decode cX1_reasonOf 46 = .ok (.ifCond .eq 8, 3) := dk_153 0 8 (dk_at dksX1_reasonOf_2 0 rfl rfl)
theorem dX1_reasonOf_49 : decode cX1_reasonOf 49 = .ok (.iload 5, 2) := dk_21 5 (dk_at dksX1_reasonOf_2 3 rfl rfl)
theorem dX1_reasonOf_51 : decode cX1_reasonOf 51 = .ok (.goto 4, 3) := dk_167 0 4 (dk_at dksX1_reasonOf_2 5 rfl rfl)
theorem dX1_reasonOf_54 : decode cX1_reasonOf 54 = .ok (.iload_n 3, 1) := dk_29 (dk_at dksX1_reasonOf_2 8 rfl rfl)
theorem dX1_reasonOf_55 : decode cX1_reasonOf 55 = .ok (.istore_n 3, 1) := dk_62 (dk_at dksX1_reasonOf_2 9 rfl rfl)
theorem dX1_reasonOf_56 : decode cX1_reasonOf 56 = .ok (.iinc 4 (-1), 3) := dk_132 4 255 (dk_at dksX1_reasonOf_2 10 rfl rfl)
theorem dX1_reasonOf_59 : decode cX1_reasonOf 59 = .ok (.goto (-36), 3) := dk_167 255 220 (dk_at dksX1_reasonOf_2 13 rfl rfl)
theorem dX1_reasonOf_62 : decode cX1_reasonOf 62 = .ok (.iload_n 3, 1) := dk_29 (dk_at dksX1_reasonOf_2 16 rfl rfl)
theorem dX1_reasonOf_63 : decode cX1_reasonOf 63 = .ok (.ireturn, 1) := dk_172 (dk_at dksX1_reasonOf_2 17 rfl rfl)
def dkwX1_isSo_2 : List UInt8 := [184, 1, 63, 154, 0, 7, 4, 167, 0, 4, 3, 172]
abbrev dktX1_isSo_2 : List UInt8 := dkwX1_isSo_2 ++ []
def dkwX1_isSo_1 : List UInt8 := [180, 0, 83, 180, 1, 88, 154, 0, 24, 28, 2, 159, 0, 23, 42, 180, 0, 83, 180, 1, 42, 28, 46, 29]
abbrev dktX1_isSo_1 : List UInt8 := dkwX1_isSo_1 ++ dktX1_isSo_2
def dkwX1_isSo_0 : List UInt8 := [42, 42, 180, 0, 83, 42, 180, 0, 49, 27, 182, 1, 122, 42, 42, 180, 0, 83, 3, 182, 1, 126, 42]
abbrev dktX1_isSo_0 : List UInt8 := dkwX1_isSo_0 ++ dktX1_isSo_1
theorem dksX1_isSo_0 : cX1_isSo.data.toList.drop 0 = dktX1_isSo_0 := by decide +kernel
theorem dksX1_isSo_1 : cX1_isSo.data.toList.drop 23 = dktX1_isSo_1 := dk_seg dksX1_isSo_0 23 rfl rfl
theorem dksX1_isSo_2 : cX1_isSo.data.toList.drop 47 = dktX1_isSo_2 := dk_seg dksX1_isSo_1 24 rfl rfl
theorem dX1_isSo_0 : decode cX1_isSo 0 = .ok (.aload_n 0, 1) := dk_42 (dk_at dksX1_isSo_0 0 rfl rfl)
theorem dX1_isSo_1 : decode cX1_isSo 1 = .ok (.aload_n 0, 1) := dk_42 (dk_at dksX1_isSo_0 1 rfl rfl)
theorem dX1_isSo_2 : decode cX1_isSo 2 = .ok (.getfield 83, 3) := dk_180 0 83 (dk_at dksX1_isSo_0 2 rfl rfl)
theorem dX1_isSo_5 : decode cX1_isSo 5 = .ok (.aload_n 0, 1) := dk_42 (dk_at dksX1_isSo_0 5 rfl rfl)
theorem dX1_isSo_6 : decode cX1_isSo 6 = .ok (.getfield 49, 3) := dk_180 0 49 (dk_at dksX1_isSo_0 6 rfl rfl)
theorem dX1_isSo_9 : decode cX1_isSo 9 = .ok (.iload_n 1, 1) := dk_27 (dk_at dksX1_isSo_0 9 rfl rfl)
theorem dX1_isSo_10 : decode cX1_isSo 10 = .ok (.invokevirtual 378, 3) := dk_182 1 122 (dk_at dksX1_isSo_0 10 rfl rfl)
theorem dX1_isSo_13 : decode cX1_isSo 13 = .ok (.aload_n 0, 1) := dk_42 (dk_at dksX1_isSo_0 13 rfl rfl)
theorem dX1_isSo_14 : decode cX1_isSo 14 = .ok (.aload_n 0, 1) := dk_42 (dk_at dksX1_isSo_0 14 rfl rfl)
theorem dX1_isSo_15 : decode cX1_isSo 15 = .ok (.getfield 83, 3) := dk_180 0 83 (dk_at dksX1_isSo_0 15 rfl rfl)
theorem dX1_isSo_18 : decode cX1_isSo 18 = .ok (.iconst 0, 1) := dk_3 (dk_at dksX1_isSo_0 18 rfl rfl)
theorem dX1_isSo_19 : decode cX1_isSo 19 = .ok (.invokevirtual 382, 3) := dk_182 1 126 (dk_at dksX1_isSo_0 19 rfl rfl)
theorem dX1_isSo_22 : decode cX1_isSo 22 = .ok (.aload_n 0, 1) := dk_42 (dk_at dksX1_isSo_0 22 rfl rfl)
theorem dX1_isSo_23 : decode cX1_isSo 23 = .ok (.getfield 83, 3) := dk_180 0 83 (dk_at dksX1_isSo_1 0 rfl rfl)
theorem dX1_isSo_26 : decode cX1_isSo 26 = .ok (.getfield 344, 3) := dk_180 1 88 (dk_at dksX1_isSo_1 3 rfl rfl)
theorem dX1_isSo_29 : decode cX1_isSo 29 = .ok (.ifCond .ne 24, 3) := dk_154 0 24 (dk_at dksX1_isSo_1 6 rfl rfl)
theorem dX1_isSo_32 : decode cX1_isSo 32 = .ok (.iload_n 2, 1) := dk_28 (dk_at dksX1_isSo_1 9 rfl rfl)
theorem dX1_isSo_33 : decode cX1_isSo 33 = .ok (.iconst (-1), 1) := dk_2 (dk_at dksX1_isSo_1 10 rfl rfl)
theorem dX1_isSo_34 : decode cX1_isSo 34 = .ok (.if_icmp .eq 23, 3) := dk_159 0 23 (dk_at dksX1_isSo_1 11 rfl rfl)
theorem dX1_isSo_37 : decode cX1_isSo 37 = .ok (.aload_n 0, 1) := dk_42 (dk_at dksX1_isSo_1 14 rfl rfl)
theorem dX1_isSo_38 : decode cX1_isSo 38 = .ok (.getfield 83, 3) := dk_180 0 83 (dk_at dksX1_isSo_1 15 rfl rfl)
theorem dX1_isSo_41 : decode cX1_isSo 41 = .ok (.getfield 298, 3) := dk_180 1 42 (dk_at dksX1_isSo_1 18 rfl rfl)
theorem dX1_isSo_44 : decode cX1_isSo 44 = .ok (.iload_n 2, 1) := dk_28 (dk_at dksX1_isSo_1 21 rfl rfl)
theorem dX1_isSo_45 : decode cX1_isSo 45 = .ok (.iaload, 1) := dk_46 (dk_at dksX1_isSo_1 22 rfl rfl)
theorem dX1_isSo_46 : decode cX1_isSo 46 = .ok (.iload_n 3, 1) := dk_29 (dk_at dksX1_isSo_1 23 rfl rfl)
theorem dX1_isSo_47 : decode cX1_isSo 47 = .ok (.invokestatic 319, 3) := dk_184 1 63 (dk_at dksX1_isSo_2 0 rfl rfl)
theorem dX1_isSo_50 : decode cX1_isSo 50 = .ok (.ifCond .ne 7, 3) := dk_154 0 7 (dk_at dksX1_isSo_2 3 rfl rfl)
theorem dX1_isSo_53 : decode cX1_isSo 53 = .ok (.iconst 1, 1) := dk_4 (dk_at dksX1_isSo_2 6 rfl rfl)
theorem dX1_isSo_54 : decode cX1_isSo 54 = .ok (.goto 4, 3) := dk_167 0 4 (dk_at dksX1_isSo_2 7 rfl rfl)
theorem dX1_isSo_57 : decode cX1_isSo 57 = .ok (.iconst 0, 1) := dk_3 (dk_at dksX1_isSo_2 10 rfl rfl)
theorem dX1_isSo_58 : decode cX1_isSo 58 = .ok (.ireturn, 1) := dk_172 (dk_at dksX1_isSo_2 11 rfl rfl)
def dkwX1_failure_0 : List UInt8 := [42, 182, 1, 132, 180, 1, 88, 184, 0, 169, 42, 2, 3, 182, 1, 146, 172]
abbrev dktX1_failure_0 : List UInt8 := dkwX1_failure_0 ++ []
theorem dksX1_failure_0 : cX1_failure.data.toList.drop 0 = dktX1_failure_0 := by decide +kernel
theorem dX1_failure_0 : decode cX1_failure 0 = .ok (.aload_n 0, 1) := dk_42 (dk_at dksX1_failure_0 0 rfl rfl)
theorem dX1_failure_1 : decode cX1_failure 1 = .ok (.invokevirtual 388, 3) := dk_182 1 132 (dk_at dksX1_failure_0 1 rfl rfl)
theorem dX1_failure_4 : decode cX1_failure 4 = .ok (.getfield 344, 3) := dk_180 1 88 (dk_at dksX1_failure_0 4 rfl rfl)
theorem dX1_failure_7 : decode cX1_failure 7 = .ok (.invokestatic 169, 3) := dk_184 0 169 (dk_at dksX1_failure_0 7 rfl rfl)
theorem dX1_failure_10 : decode cX1_failure 10 = .ok (.aload_n 0, 1) := dk_42 (dk_at dksX1_failure_0 10 rfl rfl)
theorem dX1_failure_11 : decode cX1_failure 11 = .ok (.iconst (-1), 1) := dk_2 (dk_at dksX1_failure_0 11 rfl rfl)
theorem dX1_failure_12 : decode cX1_failure 12 = .ok (.iconst 0, 1) := dk_3 (dk_at dksX1_failure_0 12 rfl rfl)
theorem dX1_failure_13 : decode cX1_failure 13 = .ok (.invokevirtual 402, 3) := dk_182 1 146 (dk_at dksX1_failure_0 13 rfl rfl)
theorem dX1_failure_16 : decode cX1_failure 16 = .ok (.ireturn, 1) := dk_172 (dk_at dksX1_failure_0 16 rfl rfl)
def dkwX1_learn_8 : List UInt8 := [180, 1, 60, 172]
abbrev dktX1_learn_8 : List UInt8 := dkwX1_learn_8 ++ []
def dkwX1_learn_7 : List UInt8 := [180, 0, 49, 29, 154, 0, 7, 3, 167, 0, 9, 29, 184, 1, 135, 4, 96, 181, 1, 60, 42, 180, 0, 49]
abbrev dktX1_learn_7 : List UInt8 := dkwX1_learn_7 ++ dktX1_learn_8
def dkwX1_learn_6 : List UInt8 := [87, 132, 3, 1, 167, 255, 185, 42, 44, 182, 1, 31, 87, 27, 27, 184, 1, 159, 2, 130, 126, 62, 42]
abbrev dktX1_learn_6 : List UInt8 := dkwX1_learn_6 ++ dktX1_learn_7
def dkwX1_learn_5 : List UInt8 := [180, 0, 49, 180, 1, 155, 29, 51, 154, 0, 7, 4, 167, 0, 4, 3, 183, 0, 202, 185, 0, 172, 2, 0]
abbrev dktX1_learn_5 : List UInt8 := dkwX1_learn_5 ++ dktX1_learn_6
def dkwX1_learn_4 : List UInt8 := [187, 0, 200, 89, 42, 180, 0, 49, 180, 1, 61, 29, 46, 42, 180, 0, 49, 180, 1, 152, 29, 46, 42]
abbrev dktX1_learn_4 : List UInt8 := dkwX1_learn_4 ++ dktX1_learn_5
def dkwX1_learn_3 : List UInt8 := [3, 62, 29, 42, 180, 0, 49, 180, 1, 60, 162, 0, 66, 27, 29, 184, 1, 63, 153, 0, 52, 44]
abbrev dktX1_learn_3 : List UInt8 := dkwX1_learn_3 ++ dktX1_learn_4
def dkwX1_learn_2 : List UInt8 := [184, 1, 149, 16, 6, 163, 0, 7, 4, 167, 0, 4, 3, 184, 0, 169, 187, 0, 24, 89, 183, 0, 26, 77]
abbrev dktX1_learn_2 : List UInt8 := dkwX1_learn_2 ++ dktX1_learn_3
def dkwX1_learn_1 : List UInt8 := [153, 0, 7, 4, 167, 0, 4, 3, 184, 0, 169, 42, 2, 3, 182, 1, 146, 60, 27, 153, 0, 16, 27]
abbrev dktX1_learn_1 : List UInt8 := dkwX1_learn_1 ++ dktX1_learn_2
def dkwX1_learn_0 : List UInt8 := [42, 182, 1, 132, 180, 1, 88, 153, 0, 24, 42, 180, 0, 49, 180, 1, 60, 158, 0, 14, 42, 182, 0, 212]
abbrev dktX1_learn_0 : List UInt8 := dkwX1_learn_0 ++ dktX1_learn_1
theorem dksX1_learn_0 : cX1_learn.data.toList.drop 0 = dktX1_learn_0 := by decide +kernel
theorem dksX1_learn_1 : cX1_learn.data.toList.drop 24 = dktX1_learn_1 := dk_seg dksX1_learn_0 24 rfl rfl
theorem dksX1_learn_2 : cX1_learn.data.toList.drop 47 = dktX1_learn_2 := dk_seg dksX1_learn_1 23 rfl rfl
theorem dksX1_learn_3 : cX1_learn.data.toList.drop 71 = dktX1_learn_3 := dk_seg dksX1_learn_2 24 rfl rfl
theorem dksX1_learn_4 : cX1_learn.data.toList.drop 93 = dktX1_learn_4 := dk_seg dksX1_learn_3 22 rfl rfl
theorem dksX1_learn_5 : cX1_learn.data.toList.drop 116 = dktX1_learn_5 := dk_seg dksX1_learn_4 23 rfl rfl
theorem dksX1_learn_6 : cX1_learn.data.toList.drop 140 = dktX1_learn_6 := dk_seg dksX1_learn_5 24 rfl rfl
theorem dksX1_learn_7 : cX1_learn.data.toList.drop 163 = dktX1_learn_7 := dk_seg dksX1_learn_6 23 rfl rfl
theorem dksX1_learn_8 : cX1_learn.data.toList.drop 187 = dktX1_learn_8 := dk_seg dksX1_learn_7 24 rfl rfl
theorem dX1_learn_0 : decode cX1_learn 0 = .ok (.aload_n 0, 1) := dk_42 (dk_at dksX1_learn_0 0 rfl rfl)
theorem dX1_learn_1 : decode cX1_learn 1 = .ok (.invokevirtual 388, 3) := dk_182 1 132 (dk_at dksX1_learn_0 1 rfl rfl)
theorem dX1_learn_4 : decode cX1_learn 4 = .ok (.getfield 344, 3) := dk_180 1 88 (dk_at dksX1_learn_0 4 rfl rfl)
theorem dX1_learn_7 : decode cX1_learn 7 = .ok (.ifCond .eq 24, 3) := dk_153 0 24 (dk_at dksX1_learn_0 7 rfl rfl)
theorem dX1_learn_10 : decode cX1_learn 10 = .ok (.aload_n 0, 1) := dk_42 (dk_at dksX1_learn_0 10 rfl rfl)
theorem dX1_learn_11 : decode cX1_learn 11 = .ok (.getfield 49, 3) := dk_180 0 49 (dk_at dksX1_learn_0 11 rfl rfl)
theorem dX1_learn_14 : decode cX1_learn 14 = .ok (.getfield 316, 3) := dk_180 1 60 (dk_at dksX1_learn_0 14 rfl rfl)
theorem dX1_learn_17 : decode cX1_learn 17 = .ok (.ifCond .le 14, 3) := dk_158 0 14 (dk_at dksX1_learn_0 17 rfl rfl)
theorem dX1_learn_20 : decode cX1_learn 20 = .ok (.aload_n 0, 1) := dk_42 (dk_at dksX1_learn_0 20 rfl rfl)
theorem dX1_learn_21 : decode cX1_learn 21 = .ok (.invokevirtual 212, 3) := dk_182 0 212 (dk_at dksX1_learn_0 21 rfl rfl)
theorem dX1_learn_24 : decode cX1_learn 24 = .ok (.ifCond .eq 7, 3) := dk_153 0 7 (dk_at dksX1_learn_1 0 rfl rfl)
theorem dX1_learn_27 : decode cX1_learn 27 = .ok (.iconst 1, 1) := dk_4 (dk_at dksX1_learn_1 3 rfl rfl)
theorem dX1_learn_28 : decode cX1_learn 28 = .ok (.goto 4, 3) := dk_167 0 4 (dk_at dksX1_learn_1 4 rfl rfl)
theorem dX1_learn_31 : decode cX1_learn 31 = .ok (.iconst 0, 1) := dk_3 (dk_at dksX1_learn_1 7 rfl rfl)
theorem dX1_learn_32 : decode cX1_learn 32 = .ok (.invokestatic 169, 3) := dk_184 0 169 (dk_at dksX1_learn_1 8 rfl rfl)
theorem dX1_learn_35 : decode cX1_learn 35 = .ok (.aload_n 0, 1) := dk_42 (dk_at dksX1_learn_1 11 rfl rfl)
theorem dX1_learn_36 : decode cX1_learn 36 = .ok (.iconst (-1), 1) := dk_2 (dk_at dksX1_learn_1 12 rfl rfl)
theorem dX1_learn_37 : decode cX1_learn 37 = .ok (.iconst 0, 1) := dk_3 (dk_at dksX1_learn_1 13 rfl rfl)
theorem dX1_learn_38 : decode cX1_learn 38 = .ok (.invokevirtual 402, 3) := dk_182 1 146 (dk_at dksX1_learn_1 14 rfl rfl)
theorem dX1_learn_41 : decode cX1_learn 41 = .ok (.istore_n 1, 1) := dk_60 (dk_at dksX1_learn_1 17 rfl rfl)
theorem dX1_learn_42 : decode cX1_learn 42 = .ok (.iload_n 1, 1) := dk_27 (dk_at dksX1_learn_1 18 rfl rfl)
theorem dX1_learn_43 : decode cX1_learn 43 = .ok (.ifCond .eq 16, 3) := dk_153 0 16 (dk_at dksX1_learn_1 19 rfl rfl)
theorem dX1_learn_46 : decode cX1_learn 46 = .ok (.iload_n 1, 1) := dk_27 (dk_at dksX1_learn_1 22 rfl rfl)
theorem dX1_learn_47 : decode cX1_learn 47 = .ok (.invokestatic 405, 3) := dk_184 1 149 (dk_at dksX1_learn_2 0 rfl rfl)
theorem dX1_learn_50 : decode cX1_learn 50 = .ok (.bipush 6, 2) := dk_16 6 (dk_at dksX1_learn_2 3 rfl rfl)
theorem dX1_learn_52 : decode cX1_learn 52 = .ok (.if_icmp .gt 7, 3) := dk_163 0 7 (dk_at dksX1_learn_2 5 rfl rfl)
theorem dX1_learn_55 : decode cX1_learn 55 = .ok (.iconst 1, 1) := dk_4 (dk_at dksX1_learn_2 8 rfl rfl)
theorem dX1_learn_56 : decode cX1_learn 56 = .ok (.goto 4, 3) := dk_167 0 4 (dk_at dksX1_learn_2 9 rfl rfl)
theorem dX1_learn_59 : decode cX1_learn 59 = .ok (.iconst 0, 1) := dk_3 (dk_at dksX1_learn_2 12 rfl rfl)
theorem dX1_learn_60 : decode cX1_learn 60 = .ok (.invokestatic 169, 3) := dk_184 0 169 (dk_at dksX1_learn_2 13 rfl rfl)
theorem dX1_learn_63 : decode cX1_learn 63 = .ok (.new 24, 3) := dk_187 0 24 (dk_at dksX1_learn_2 16 rfl rfl)
theorem dX1_learn_66 : decode cX1_learn 66 = .ok (.dup, 1) := dk_89 (dk_at dksX1_learn_2 19 rfl rfl)
theorem dX1_learn_67 : decode cX1_learn 67 = .ok (.invokespecial 26, 3) := dk_183 0 26 (dk_at dksX1_learn_2 20 rfl rfl)
theorem dX1_learn_70 : decode cX1_learn 70 = .ok (.astore_n 2, 1) := dk_77 (dk_at dksX1_learn_2 23 rfl rfl)
theorem dX1_learn_71 : decode cX1_learn 71 = .ok (.iconst 0, 1) := dk_3 (dk_at dksX1_learn_3 0 rfl rfl)
theorem dX1_learn_72 : decode cX1_learn 72 = .ok (.istore_n 3, 1) := dk_62 (dk_at dksX1_learn_3 1 rfl rfl)
theorem dX1_learn_73 : decode cX1_learn 73 = .ok (.iload_n 3, 1) := dk_29 (dk_at dksX1_learn_3 2 rfl rfl)
theorem dX1_learn_74 : decode cX1_learn 74 = .ok (.aload_n 0, 1) := dk_42 (dk_at dksX1_learn_3 3 rfl rfl)
theorem dX1_learn_75 : decode cX1_learn 75 = .ok (.getfield 49, 3) := dk_180 0 49 (dk_at dksX1_learn_3 4 rfl rfl)
theorem dX1_learn_78 : decode cX1_learn 78 = .ok (.getfield 316, 3) := dk_180 1 60 (dk_at dksX1_learn_3 7 rfl rfl)
theorem dX1_learn_81 : decode cX1_learn 81 = .ok (.if_icmp .ge 66, 3) := dk_162 0 66 (dk_at dksX1_learn_3 10 rfl rfl)
theorem dX1_learn_84 : decode cX1_learn 84 = .ok (.iload_n 1, 1) := dk_27 (dk_at dksX1_learn_3 13 rfl rfl)
theorem dX1_learn_85 : decode cX1_learn 85 = .ok (.iload_n 3, 1) := dk_29 (dk_at dksX1_learn_3 14 rfl rfl)
theorem dX1_learn_86 : decode cX1_learn 86 = .ok (.invokestatic 319, 3) := dk_184 1 63 (dk_at dksX1_learn_3 15 rfl rfl)
theorem dX1_learn_89 : decode cX1_learn 89 = .ok (.ifCond .eq 52, 3) := dk_153 0 52 (dk_at dksX1_learn_3 18 rfl rfl)
theorem dX1_learn_92 : decode cX1_learn 92 = .ok (.aload_n 2, 1) := dk_44 (dk_at dksX1_learn_3 21 rfl rfl)
theorem dX1_learn_93 : decode cX1_learn 93 = .ok (.new 200, 3) := dk_187 0 200 (dk_at dksX1_learn_4 0 rfl rfl)
theorem dX1_learn_96 : decode cX1_learn 96 = .ok (.dup, 1) := dk_89 (dk_at dksX1_learn_4 3 rfl rfl)
theorem dX1_learn_97 : decode cX1_learn 97 = .ok (.aload_n 0, 1) := dk_42 (dk_at dksX1_learn_4 4 rfl rfl)
theorem dX1_learn_98 : decode cX1_learn 98 = .ok (.getfield 49, 3) := dk_180 0 49 (dk_at dksX1_learn_4 5 rfl rfl)
theorem dX1_learn_101 : decode cX1_learn 101 = .ok (.getfield 317, 3) := dk_180 1 61 (dk_at dksX1_learn_4 8 rfl rfl)
theorem dX1_learn_104 : decode cX1_learn 104 = .ok (.iload_n 3, 1) := dk_29 (dk_at dksX1_learn_4 11 rfl rfl)
theorem dX1_learn_105 : decode cX1_learn 105 = .ok (.iaload, 1) := dk_46 (dk_at dksX1_learn_4 12 rfl rfl)
theorem dX1_learn_106 : decode cX1_learn 106 = .ok (.aload_n 0, 1) := dk_42 (dk_at dksX1_learn_4 13 rfl rfl)
theorem dX1_learn_107 : decode cX1_learn 107 = .ok (.getfield 49, 3) := dk_180 0 49 (dk_at dksX1_learn_4 14 rfl rfl)
theorem dX1_learn_110 : decode cX1_learn 110 = .ok (.getfield 408, 3) := dk_180 1 152 (dk_at dksX1_learn_4 17 rfl rfl)
theorem dX1_learn_113 : decode cX1_learn 113 = .ok (.iload_n 3, 1) := dk_29 (dk_at dksX1_learn_4 20 rfl rfl)
theorem dX1_learn_114 : decode cX1_learn 114 = .ok (.iaload, 1) := dk_46 (dk_at dksX1_learn_4 21 rfl rfl)
theorem dX1_learn_115 : decode cX1_learn 115 = .ok (.aload_n 0, 1) := dk_42 (dk_at dksX1_learn_4 22 rfl rfl)
theorem dX1_learn_116 : decode cX1_learn 116 = .ok (.getfield 49, 3) := dk_180 0 49 (dk_at dksX1_learn_5 0 rfl rfl)
theorem dX1_learn_119 : decode cX1_learn 119 = .ok (.getfield 411, 3) := dk_180 1 155 (dk_at dksX1_learn_5 3 rfl rfl)
theorem dX1_learn_122 : decode cX1_learn 122 = .ok (.iload_n 3, 1) := dk_29 (dk_at dksX1_learn_5 6 rfl rfl)
theorem dX1_learn_123 : decode cX1_learn 123 = .ok (.baload, 1) := dk_51 (dk_at dksX1_learn_5 7 rfl rfl)
theorem dX1_learn_124 : decode cX1_learn 124 = .ok (.ifCond .ne 7, 3) := dk_154 0 7 (dk_at dksX1_learn_5 8 rfl rfl)
theorem dX1_learn_127 : decode cX1_learn 127 = .ok (.iconst 1, 1) := dk_4 (dk_at dksX1_learn_5 11 rfl rfl)
theorem dX1_learn_128 : decode cX1_learn 128 = .ok (.goto 4, 3) := dk_167 0 4 (dk_at dksX1_learn_5 12 rfl rfl)
theorem dX1_learn_131 : decode cX1_learn 131 = .ok (.iconst 0, 1) := dk_3 (dk_at dksX1_learn_5 15 rfl rfl)
theorem dX1_learn_132 : decode cX1_learn 132 = .ok (.invokespecial 202, 3) := dk_183 0 202 (dk_at dksX1_learn_5 16 rfl rfl)
theorem dX1_learn_135 : decode cX1_learn 135 = .ok (.invokeinterface 172 2, 5) := by decide +kernel
theorem dX1_learn_140 : decode cX1_learn 140 = .ok (.pop, 1) := dk_87 (dk_at dksX1_learn_6 0 rfl rfl)
theorem dX1_learn_141 : decode cX1_learn 141 = .ok (.iinc 3 1, 3) := dk_132 3 1 (dk_at dksX1_learn_6 1 rfl rfl)
theorem dX1_learn_144 : decode cX1_learn 144 = .ok (.goto (-71), 3) := dk_167 255 185 (dk_at dksX1_learn_6 4 rfl rfl)
theorem dX1_learn_147 : decode cX1_learn 147 = .ok (.aload_n 0, 1) := dk_42 (dk_at dksX1_learn_6 7 rfl rfl)
theorem dX1_learn_148 : decode cX1_learn 148 = .ok (.aload_n 2, 1) := dk_44 (dk_at dksX1_learn_6 8 rfl rfl)
theorem dX1_learn_149 : decode cX1_learn 149 = .ok (.invokevirtual 287, 3) := dk_182 1 31 (dk_at dksX1_learn_6 9 rfl rfl)
theorem dX1_learn_152 : decode cX1_learn 152 = .ok (.pop, 1) := dk_87 (dk_at dksX1_learn_6 12 rfl rfl)
theorem dX1_learn_153 : decode cX1_learn 153 = .ok (.iload_n 1, 1) := dk_27 (dk_at dksX1_learn_6 13 rfl rfl)
theorem dX1_learn_154 : decode cX1_learn 154 = .ok (.iload_n 1, 1) := dk_27 (dk_at dksX1_learn_6 14 rfl rfl)
theorem dX1_learn_155 : decode cX1_learn 155 = .ok (.invokestatic 415, 3) := dk_184 1 159 (dk_at dksX1_learn_6 15 rfl rfl)
theorem dX1_learn_158 : decode cX1_learn 158 = .ok (.iconst (-1), 1) := dk_2 (dk_at dksX1_learn_6 18 rfl rfl)
theorem dX1_learn_159 : decode cX1_learn 159 = .ok (.ixor, 1) := dk_130 (dk_at dksX1_learn_6 19 rfl rfl)
theorem dX1_learn_160 : decode cX1_learn 160 = .ok (.iand, 1) := dk_126 (dk_at dksX1_learn_6 20 rfl rfl)
theorem dX1_learn_161 : decode cX1_learn 161 = .ok (.istore_n 3, 1) := dk_62 (dk_at dksX1_learn_6 21 rfl rfl)
theorem dX1_learn_162 : decode cX1_learn 162 = .ok (.aload_n 0, 1) := dk_42 (dk_at dksX1_learn_6 22 rfl rfl)
theorem dX1_learn_163 : decode cX1_learn 163 = .ok (.getfield 49, 3) := dk_180 0 49 (dk_at dksX1_learn_7 0 rfl rfl)
theorem dX1_learn_166 : decode cX1_learn 166 = .ok (.iload_n 3, 1) := dk_29 (dk_at dksX1_learn_7 3 rfl rfl)
theorem dX1_learn_167 : decode cX1_learn 167 = .ok (.ifCond .ne 7, 3) := dk_154 0 7 (dk_at dksX1_learn_7 4 rfl rfl)
theorem dX1_learn_170 : decode cX1_learn 170 = .ok (.iconst 0, 1) := dk_3 (dk_at dksX1_learn_7 7 rfl rfl)
theorem dX1_learn_171 : decode cX1_learn 171 = .ok (.goto 9, 3) := dk_167 0 9 (dk_at dksX1_learn_7 8 rfl rfl)
theorem dX1_learn_174 : decode cX1_learn 174 = .ok (.iload_n 3, 1) := dk_29 (dk_at dksX1_learn_7 11 rfl rfl)
theorem dX1_learn_175 : decode cX1_learn 175 = .ok (.invokestatic 391, 3) := dk_184 1 135 (dk_at dksX1_learn_7 12 rfl rfl)
theorem dX1_learn_178 : decode cX1_learn 178 = .ok (.iconst 1, 1) := dk_4 (dk_at dksX1_learn_7 15 rfl rfl)
theorem dX1_learn_179 : decode cX1_learn 179 = .ok (.iadd, 1) := dk_96 (dk_at dksX1_learn_7 16 rfl rfl)
theorem dX1_learn_180 : decode cX1_learn 180 = .ok (.putfield 316, 3) := dk_181 1 60 (dk_at dksX1_learn_7 17 rfl rfl)
theorem dX1_learn_183 : decode cX1_learn 183 = .ok (.aload_n 0, 1) := dk_42 (dk_at dksX1_learn_7 20 rfl rfl)
theorem dX1_learn_184 : decode cX1_learn 184 = .ok (.getfield 49, 3) := dk_180 0 49 (dk_at dksX1_learn_7 21 rfl rfl)
theorem dX1_learn_187 : decode cX1_learn 187 = .ok (.getfield 316, 3) := dk_180 1 60 (dk_at dksX1_learn_8 0 rfl rfl)
theorem dX1_learn_190 : decode cX1_learn 190 = .ok (.ireturn, 1) := dk_172 (dk_at dksX1_learn_8 3 rfl rfl)
def dkwX1_search_6 : List UInt8 := [167, 255, 208, 21, 6, 172]
abbrev dktX1_search_6 : List UInt8 := dkwX1_search_6 ++ []
def dkwX1_search_5 : List UInt8 := [104, 181, 1, 171, 42, 89, 180, 1, 165, 4, 100, 181, 1, 165, 42, 182, 1, 209, 42, 182, 1, 203, 54, 6]
abbrev dktX1_search_5 : List UInt8 := dkwX1_search_5 ++ dktX1_search_6
def dkwX1_search_4 : List UInt8 := [21, 6, 4, 160, 0, 48, 42, 182, 1, 206, 153, 0, 41, 42, 3, 181, 1, 168, 42, 89, 180, 1, 171, 5]
abbrev dktX1_search_4 : List UInt8 := dkwX1_search_4 ++ dktX1_search_5
def dkwX1_search_3 : List UInt8 := [181, 1, 174, 42, 3, 181, 1, 181, 42, 3, 181, 1, 168, 42, 182, 1, 209, 42, 182, 1, 203, 54, 6]
abbrev dktX1_search_3 : List UInt8 := dkwX1_search_3 ++ dktX1_search_4
def dkwX1_search_2 : List UInt8 := [181, 1, 197, 42, 21, 4, 181, 1, 171, 42, 21, 5, 181, 1, 165, 42, 2, 181, 0, 109, 42, 3]
abbrev dktX1_search_2 : List UInt8 := dkwX1_search_2 ++ dktX1_search_3
def dkwX1_search_1 : List UInt8 := [16, 100, 184, 0, 162, 21, 5, 3, 8, 184, 0, 162, 42, 27, 181, 1, 184, 42, 28, 181, 1, 187, 42, 29]
abbrev dktX1_search_1 : List UInt8 := dkwX1_search_1 ++ dktX1_search_2
def dkwX1_search_0 : List UInt8 := [27, 3, 17, 3, 255, 184, 0, 162, 28, 3, 4, 184, 0, 162, 29, 3, 5, 184, 0, 162, 21, 4, 4]
abbrev dktX1_search_0 : List UInt8 := dkwX1_search_0 ++ dktX1_search_1
theorem dksX1_search_0 : cX1_search.data.toList.drop 0 = dktX1_search_0 := by decide +kernel
theorem dksX1_search_1 : cX1_search.data.toList.drop 23 = dktX1_search_1 := dk_seg dksX1_search_0 23 rfl rfl
theorem dksX1_search_2 : cX1_search.data.toList.drop 47 = dktX1_search_2 := dk_seg dksX1_search_1 24 rfl rfl
theorem dksX1_search_3 : cX1_search.data.toList.drop 69 = dktX1_search_3 := dk_seg dksX1_search_2 22 rfl rfl
theorem dksX1_search_4 : cX1_search.data.toList.drop 92 = dktX1_search_4 := dk_seg dksX1_search_3 23 rfl rfl
theorem dksX1_search_5 : cX1_search.data.toList.drop 116 = dktX1_search_5 := dk_seg dksX1_search_4 24 rfl rfl
theorem dksX1_search_6 : cX1_search.data.toList.drop 140 = dktX1_search_6 := dk_seg dksX1_search_5 24 rfl rfl
theorem dX1_search_0 : decode cX1_search 0 = .ok (.iload_n 1, 1) := dk_27 (dk_at dksX1_search_0 0 rfl rfl)
theorem dX1_search_1 : decode cX1_search 1 = .ok (.iconst 0, 1) := dk_3 (dk_at dksX1_search_0 1 rfl rfl)
theorem dX1_search_2 : decode cX1_search 2 = .ok (.sipush 1023, 3) := dk_17 3 255 (dk_at dksX1_search_0 2 rfl rfl)
theorem dX1_search_5 : decode cX1_search 5 = .ok (.invokestatic 162, 3) := dk_184 0 162 (dk_at dksX1_search_0 5 rfl rfl)
theorem dX1_search_8 : decode cX1_search 8 = .ok (.iload_n 2, 1) := dk_28 (dk_at dksX1_search_0 8 rfl rfl)
theorem dX1_search_9 : decode cX1_search 9 = .ok (.iconst 0, 1) := dk_3 (dk_at dksX1_search_0 9 rfl rfl)
theorem dX1_search_10 : decode cX1_search 10 = .ok (.iconst 1, 1) := dk_4 (dk_at dksX1_search_0 10 rfl rfl)
theorem dX1_search_11 : decode cX1_search 11 = .ok (.invokestatic 162, 3) := dk_184 0 162 (dk_at dksX1_search_0 11 rfl rfl)
theorem dX1_search_14 : decode cX1_search 14 = .ok (.iload_n 3, 1) := dk_29 (dk_at dksX1_search_0 14 rfl rfl)
theorem dX1_search_15 : decode cX1_search 15 = .ok (.iconst 0, 1) := dk_3 (dk_at dksX1_search_0 15 rfl rfl)
theorem dX1_search_16 : decode cX1_search 16 = .ok (.iconst 2, 1) := dk_5 (dk_at dksX1_search_0 16 rfl rfl)
theorem dX1_search_17 : decode cX1_search 17 = .ok (.invokestatic 162, 3) := dk_184 0 162 (dk_at dksX1_search_0 17 rfl rfl)
theorem dX1_search_20 : decode cX1_search 20 = .ok (.iload 4, 2) := dk_21 4 (dk_at dksX1_search_0 20 rfl rfl)
theorem dX1_search_22 : decode cX1_search 22 = .ok (.iconst 1, 1) := dk_4 (dk_at dksX1_search_0 22 rfl rfl)
theorem dX1_search_23 : decode cX1_search 23 = .ok (.bipush 100, 2) := dk_16 100 (dk_at dksX1_search_1 0 rfl rfl)
theorem dX1_search_25 : decode cX1_search 25 = .ok (.invokestatic 162, 3) := dk_184 0 162 (dk_at dksX1_search_1 2 rfl rfl)
theorem dX1_search_28 : decode cX1_search 28 = .ok (.iload 5, 2) := dk_21 5 (dk_at dksX1_search_1 5 rfl rfl)
theorem dX1_search_30 : decode cX1_search 30 = .ok (.iconst 0, 1) := dk_3 (dk_at dksX1_search_1 7 rfl rfl)
theorem dX1_search_31 : decode cX1_search 31 = .ok (.iconst 5, 1) := dk_8 (dk_at dksX1_search_1 8 rfl rfl)
theorem dX1_search_32 : decode cX1_search 32 = .ok (.invokestatic 162, 3) := dk_184 0 162 (dk_at dksX1_search_1 9 rfl rfl)
theorem dX1_search_35 : decode cX1_search 35 = .ok (.aload_n 0, 1) := dk_42 (dk_at dksX1_search_1 12 rfl rfl)
theorem dX1_search_36 : decode cX1_search 36 = .ok (.iload_n 1, 1) := dk_27 (dk_at dksX1_search_1 13 rfl rfl)
theorem dX1_search_37 : decode cX1_search 37 = .ok (.putfield 440, 3) := dk_181 1 184 (dk_at dksX1_search_1 14 rfl rfl)
theorem dX1_search_40 : decode cX1_search 40 = .ok (.aload_n 0, 1) := dk_42 (dk_at dksX1_search_1 17 rfl rfl)
theorem dX1_search_41 : decode cX1_search 41 = .ok (.iload_n 2, 1) := dk_28 (dk_at dksX1_search_1 18 rfl rfl)
theorem dX1_search_42 : decode cX1_search 42 = .ok (.putfield 443, 3) := dk_181 1 187 (dk_at dksX1_search_1 19 rfl rfl)
theorem dX1_search_45 : decode cX1_search 45 = .ok (.aload_n 0, 1) := dk_42 (dk_at dksX1_search_1 22 rfl rfl)
theorem dX1_search_46 : decode cX1_search 46 = .ok (.iload_n 3, 1) := dk_29 (dk_at dksX1_search_1 23 rfl rfl)
theorem dX1_search_47 : decode cX1_search 47 = .ok (.putfield 453, 3) := dk_181 1 197 (dk_at dksX1_search_2 0 rfl rfl)
theorem dX1_search_50 : decode cX1_search 50 = .ok (.aload_n 0, 1) := dk_42 (dk_at dksX1_search_2 3 rfl rfl)
theorem dX1_search_51 : decode cX1_search 51 = .ok (.iload 4, 2) := dk_21 4 (dk_at dksX1_search_2 4 rfl rfl)
theorem dX1_search_53 : decode cX1_search 53 = .ok (.putfield 427, 3) := dk_181 1 171 (dk_at dksX1_search_2 6 rfl rfl)
theorem dX1_search_56 : decode cX1_search 56 = .ok (.aload_n 0, 1) := dk_42 (dk_at dksX1_search_2 9 rfl rfl)
theorem dX1_search_57 : decode cX1_search 57 = .ok (.iload 5, 2) := dk_21 5 (dk_at dksX1_search_2 10 rfl rfl)
theorem dX1_search_59 : decode cX1_search 59 = .ok (.putfield 421, 3) := dk_181 1 165 (dk_at dksX1_search_2 12 rfl rfl)
theorem dX1_search_62 : decode cX1_search 62 = .ok (.aload_n 0, 1) := dk_42 (dk_at dksX1_search_2 15 rfl rfl)
theorem dX1_search_63 : decode cX1_search 63 = .ok (.iconst (-1), 1) := dk_2 (dk_at dksX1_search_2 16 rfl rfl)
theorem dX1_search_64 : decode cX1_search 64 = .ok (.putfield 109, 3) := dk_181 0 109 (dk_at dksX1_search_2 17 rfl rfl)
theorem dX1_search_67 : decode cX1_search 67 = .ok (.aload_n 0, 1) := dk_42 (dk_at dksX1_search_2 20 rfl rfl)
theorem dX1_search_68 : decode cX1_search 68 = .ok (.iconst 0, 1) := dk_3 (dk_at dksX1_search_2 21 rfl rfl)
theorem dX1_search_69 : decode cX1_search 69 = .ok (.putfield 430, 3) := dk_181 1 174 (dk_at dksX1_search_3 0 rfl rfl)
theorem dX1_search_72 : decode cX1_search 72 = .ok (.aload_n 0, 1) := dk_42 (dk_at dksX1_search_3 3 rfl rfl)
theorem dX1_search_73 : decode cX1_search 73 = .ok (.iconst 0, 1) := dk_3 (dk_at dksX1_search_3 4 rfl rfl)
theorem dX1_search_74 : decode cX1_search 74 = .ok (.putfield 437, 3) := dk_181 1 181 (dk_at dksX1_search_3 5 rfl rfl)
theorem dX1_search_77 : decode cX1_search 77 = .ok (.aload_n 0, 1) := dk_42 (dk_at dksX1_search_3 8 rfl rfl)
theorem dX1_search_78 : decode cX1_search 78 = .ok (.iconst 0, 1) := dk_3 (dk_at dksX1_search_3 9 rfl rfl)
theorem dX1_search_79 : decode cX1_search 79 = .ok (.putfield 424, 3) := dk_181 1 168 (dk_at dksX1_search_3 10 rfl rfl)
theorem dX1_search_82 : decode cX1_search 82 = .ok (.aload_n 0, 1) := dk_42 (dk_at dksX1_search_3 13 rfl rfl)
theorem dX1_search_83 : decode cX1_search 83 = .ok (.invokevirtual 465, 3) := dk_182 1 209 (dk_at dksX1_search_3 14 rfl rfl)
theorem dX1_search_86 : decode cX1_search 86 = .ok (.aload_n 0, 1) := dk_42 (dk_at dksX1_search_3 17 rfl rfl)
theorem dX1_search_87 : decode cX1_search 87 = .ok (.invokevirtual 459, 3) := dk_182 1 203 (dk_at dksX1_search_3 18 rfl rfl)
theorem dX1_search_90 : decode cX1_search 90 = .ok (.istore 6, 2) := dk_54 6 (dk_at dksX1_search_3 21 rfl rfl)
theorem dX1_search_92 : decode cX1_search 92 = .ok (.iload 6, 2) := dk_21 6 (dk_at dksX1_search_4 0 rfl rfl)
theorem dX1_search_94 : decode cX1_search 94 = .ok (.iconst 1, 1) := dk_4 (dk_at dksX1_search_4 2 rfl rfl)
theorem dX1_search_95 : decode cX1_search 95 = .ok (.if_icmp .ne 48, 3) := dk_160 0 48 (dk_at dksX1_search_4 3 rfl rfl)
theorem dX1_search_98 : decode cX1_search 98 = .ok (.aload_n 0, 1) := dk_42 (dk_at dksX1_search_4 6 rfl rfl)
theorem dX1_search_99 : decode cX1_search 99 = .ok (.invokevirtual 462, 3) := dk_182 1 206 (dk_at dksX1_search_4 7 rfl rfl)
theorem dX1_search_102 : decode cX1_search 102 = .ok (.ifCond .eq 41, 3) := dk_153 0 41 (dk_at dksX1_search_4 10 rfl rfl)
theorem dX1_search_105 : decode cX1_search 105 = .ok (.aload_n 0, 1) := dk_42 (dk_at dksX1_search_4 13 rfl rfl)
theorem dX1_search_106 : decode cX1_search 106 = .ok (.iconst 0, 1) := dk_3 (dk_at dksX1_search_4 14 rfl rfl)
theorem dX1_search_107 : decode cX1_search 107 = .ok (.putfield 424, 3) := dk_181 1 168 (dk_at dksX1_search_4 15 rfl rfl)
theorem dX1_search_110 : decode cX1_search 110 = .ok (.aload_n 0, 1) := dk_42 (dk_at dksX1_search_4 18 rfl rfl)
theorem dX1_search_111 : decode cX1_search 111 = .ok (.dup, 1) := dk_89 (dk_at dksX1_search_4 19 rfl rfl)
theorem dX1_search_112 : decode cX1_search 112 = .ok (.getfield 427, 3) := dk_180 1 171 (dk_at dksX1_search_4 20 rfl rfl)
theorem dX1_search_115 : decode cX1_search 115 = .ok (.iconst 2, 1) := dk_5 (dk_at dksX1_search_4 23 rfl rfl)
theorem dX1_search_116 : decode cX1_search 116 = .ok (.imul, 1) := dk_104 (dk_at dksX1_search_5 0 rfl rfl)
theorem dX1_search_117 : decode cX1_search 117 = .ok (.putfield 427, 3) := dk_181 1 171 (dk_at dksX1_search_5 1 rfl rfl)
theorem dX1_search_120 : decode cX1_search 120 = .ok (.aload_n 0, 1) := dk_42 (dk_at dksX1_search_5 4 rfl rfl)
theorem dX1_search_121 : decode cX1_search 121 = .ok (.dup, 1) := dk_89 (dk_at dksX1_search_5 5 rfl rfl)
theorem dX1_search_122 : decode cX1_search 122 = .ok (.getfield 421, 3) := dk_180 1 165 (dk_at dksX1_search_5 6 rfl rfl)
theorem dX1_search_125 : decode cX1_search 125 = .ok (.iconst 1, 1) := dk_4 (dk_at dksX1_search_5 9 rfl rfl)
theorem dX1_search_126 : decode cX1_search 126 = .ok (.isub, 1) := dk_100 (dk_at dksX1_search_5 10 rfl rfl)
theorem dX1_search_127 : decode cX1_search 127 = .ok (.putfield 421, 3) := dk_181 1 165 (dk_at dksX1_search_5 11 rfl rfl)
theorem dX1_search_130 : decode cX1_search 130 = .ok (.aload_n 0, 1) := dk_42 (dk_at dksX1_search_5 14 rfl rfl)
theorem dX1_search_131 : decode cX1_search 131 = .ok (.invokevirtual 465, 3) := dk_182 1 209 (dk_at dksX1_search_5 15 rfl rfl)
theorem dX1_search_134 : decode cX1_search 134 = .ok (.aload_n 0, 1) := dk_42 (dk_at dksX1_search_5 18 rfl rfl)
theorem dX1_search_135 : decode cX1_search 135 = .ok (.invokevirtual 459, 3) := dk_182 1 203 (dk_at dksX1_search_5 19 rfl rfl)
theorem dX1_search_138 : decode cX1_search 138 = .ok (.istore 6, 2) := dk_54 6 (dk_at dksX1_search_5 22 rfl rfl)
theorem dX1_search_140 : decode cX1_search 140 = .ok (.goto (-48), 3) := dk_167 255 208 (dk_at dksX1_search_6 0 rfl rfl)
theorem dX1_search_143 : decode cX1_search 143 = .ok (.iload 6, 2) := dk_21 6 (dk_at dksX1_search_6 3 rfl rfl)
theorem dX1_search_145 : decode cX1_search 145 = .ok (.ireturn, 1) := dk_172 (dk_at dksX1_search_6 5 rfl rfl)
def dkwX1_beginPath_2 : List UInt8 := [180, 0, 49, 180, 1, 155, 27, 51, 182, 1, 130, 132, 1, 1, 167, 255, 208, 177]
abbrev dktX1_beginPath_2 : List UInt8 := dkwX1_beginPath_2 ++ []
def dkwX1_beginPath_1 : List UInt8 := [180, 0, 100, 42, 180, 0, 49, 180, 1, 61, 27, 46, 42, 180, 0, 49, 180, 1, 152, 27, 46, 42]
abbrev dktX1_beginPath_1 : List UInt8 := dkwX1_beginPath_1 ++ dktX1_beginPath_2
def dkwX1_beginPath_0 : List UInt8 := [42, 180, 0, 100, 3, 181, 1, 60, 3, 60, 27, 42, 180, 0, 49, 180, 1, 60, 162, 0, 43, 42]
abbrev dktX1_beginPath_0 : List UInt8 := dkwX1_beginPath_0 ++ dktX1_beginPath_1
theorem dksX1_beginPath_0 : cX1_beginPath.data.toList.drop 0 = dktX1_beginPath_0 := by decide +kernel
theorem dksX1_beginPath_1 : cX1_beginPath.data.toList.drop 22 = dktX1_beginPath_1 := dk_seg dksX1_beginPath_0 22 rfl rfl
theorem dksX1_beginPath_2 : cX1_beginPath.data.toList.drop 44 = dktX1_beginPath_2 := dk_seg dksX1_beginPath_1 22 rfl rfl
theorem dX1_beginPath_0 : decode cX1_beginPath 0 = .ok (.aload_n 0, 1) := dk_42 (dk_at dksX1_beginPath_0 0 rfl rfl)
theorem dX1_beginPath_1 : decode cX1_beginPath 1 = .ok (.getfield 100, 3) := dk_180 0 100 (dk_at dksX1_beginPath_0 1 rfl rfl)
theorem dX1_beginPath_4 : decode cX1_beginPath 4 = .ok (.iconst 0, 1) := dk_3 (dk_at dksX1_beginPath_0 4 rfl rfl)
theorem dX1_beginPath_5 : decode cX1_beginPath 5 = .ok (.putfield 316, 3) := dk_181 1 60 (dk_at dksX1_beginPath_0 5 rfl rfl)
theorem dX1_beginPath_8 : decode cX1_beginPath 8 = .ok (.iconst 0, 1) := dk_3 (dk_at dksX1_beginPath_0 8 rfl rfl)
theorem dX1_beginPath_9 : decode cX1_beginPath 9 = .ok (.istore_n 1, 1) := dk_60 (dk_at dksX1_beginPath_0 9 rfl rfl)
theorem dX1_beginPath_10 : decode cX1_beginPath 10 = .ok (.iload_n 1, 1) := dk_27 (dk_at dksX1_beginPath_0 10 rfl rfl)
theorem dX1_beginPath_11 : decode cX1_beginPath 11 = .ok (.aload_n 0, 1) := dk_42 (dk_at dksX1_beginPath_0 11 rfl rfl)
theorem dX1_beginPath_12 : decode cX1_beginPath 12 = .ok (.getfield 49, 3) := dk_180 0 49 (dk_at dksX1_beginPath_0 12 rfl rfl)
theorem dX1_beginPath_15 : decode cX1_beginPath 15 = .ok (.getfield 316, 3) := dk_180 1 60 (dk_at dksX1_beginPath_0 15 rfl rfl)
theorem dX1_beginPath_18 : decode cX1_beginPath 18 = .ok (.if_icmp .ge 43, 3) := dk_162 0 43 (dk_at dksX1_beginPath_0 18 rfl rfl)
theorem dX1_beginPath_21 : decode cX1_beginPath 21 = .ok (.aload_n 0, 1) := dk_42 (dk_at dksX1_beginPath_0 21 rfl rfl)
theorem dX1_beginPath_22 : decode cX1_beginPath 22 = .ok (.getfield 100, 3) := dk_180 0 100 (dk_at dksX1_beginPath_1 0 rfl rfl)
theorem dX1_beginPath_25 : decode cX1_beginPath 25 = .ok (.aload_n 0, 1) := dk_42 (dk_at dksX1_beginPath_1 3 rfl rfl)
theorem dX1_beginPath_26 : decode cX1_beginPath 26 = .ok (.getfield 49, 3) := dk_180 0 49 (dk_at dksX1_beginPath_1 4 rfl rfl)
theorem dX1_beginPath_29 : decode cX1_beginPath 29 = .ok (.getfield 317, 3) := dk_180 1 61 (dk_at dksX1_beginPath_1 7 rfl rfl)
theorem dX1_beginPath_32 : decode cX1_beginPath 32 = .ok (.iload_n 1, 1) := dk_27 (dk_at dksX1_beginPath_1 10 rfl rfl)
theorem dX1_beginPath_33 : decode cX1_beginPath 33 = .ok (.iaload, 1) := dk_46 (dk_at dksX1_beginPath_1 11 rfl rfl)
theorem dX1_beginPath_34 : decode cX1_beginPath 34 = .ok (.aload_n 0, 1) := dk_42 (dk_at dksX1_beginPath_1 12 rfl rfl)
theorem dX1_beginPath_35 : decode cX1_beginPath 35 = .ok (.getfield 49, 3) := dk_180 0 49 (dk_at dksX1_beginPath_1 13 rfl rfl)
theorem dX1_beginPath_38 : decode cX1_beginPath 38 = .ok (.getfield 408, 3) := dk_180 1 152 (dk_at dksX1_beginPath_1 16 rfl rfl)
theorem dX1_beginPath_41 : decode cX1_beginPath 41 = .ok (.iload_n 1, 1) := dk_27 (dk_at dksX1_beginPath_1 19 rfl rfl)
theorem dX1_beginPath_42 : decode cX1_beginPath 42 = .ok (.iaload, 1) := dk_46 (dk_at dksX1_beginPath_1 20 rfl rfl)
theorem dX1_beginPath_43 : decode cX1_beginPath 43 = .ok (.aload_n 0, 1) := dk_42 (dk_at dksX1_beginPath_1 21 rfl rfl)
theorem dX1_beginPath_44 : decode cX1_beginPath 44 = .ok (.getfield 49, 3) := dk_180 0 49 (dk_at dksX1_beginPath_2 0 rfl rfl)
theorem dX1_beginPath_47 : decode cX1_beginPath 47 = .ok (.getfield 411, 3) := dk_180 1 155 (dk_at dksX1_beginPath_2 3 rfl rfl)
theorem dX1_beginPath_50 : decode cX1_beginPath 50 = .ok (.iload_n 1, 1) := dk_27 (dk_at dksX1_beginPath_2 6 rfl rfl)
theorem dX1_beginPath_51 : decode cX1_beginPath 51 = .ok (.baload, 1) := dk_51 (dk_at dksX1_beginPath_2 7 rfl rfl)
theorem dX1_beginPath_52 : decode cX1_beginPath 52 = .ok (.invokevirtual 386, 3) := dk_182 1 130 (dk_at dksX1_beginPath_2 8 rfl rfl)
theorem dX1_beginPath_55 : decode cX1_beginPath 55 = .ok (.iinc 1 1, 3) := dk_132 1 1 (dk_at dksX1_beginPath_2 11 rfl rfl)
theorem dX1_beginPath_58 : decode cX1_beginPath 58 = .ok (.goto (-48), 3) := dk_167 255 208 (dk_at dksX1_beginPath_2 14 rfl rfl)
theorem dX1_beginPath_61 : decode cX1_beginPath 61 = .ok (.return_, 1) := dk_177 (dk_at dksX1_beginPath_2 17 rfl rfl)
def dkwX1_searchFrom_8 : List UInt8 := [21, 4, 172]
abbrev dktX1_searchFrom_8 : List UInt8 := dkwX1_searchFrom_8 ++ []
def dkwX1_searchFrom_7 : List UInt8 := [180, 0, 100, 27, 28, 3, 182, 1, 130, 42, 182, 1, 203, 54, 4, 42, 180, 0, 100, 29, 181, 1, 60]
abbrev dktX1_searchFrom_7 : List UInt8 := dkwX1_searchFrom_7 ++ dktX1_searchFrom_8
def dkwX1_searchFrom_6 : List UInt8 := [180, 0, 100, 29, 181, 1, 60, 21, 4, 4, 160, 0, 10, 42, 182, 1, 206, 153, 0, 6, 21, 4, 172, 42]
abbrev dktX1_searchFrom_6 : List UInt8 := dkwX1_searchFrom_6 ++ dktX1_searchFrom_7
def dkwX1_searchFrom_5 : List UInt8 := [180, 0, 100, 180, 1, 60, 62, 42, 180, 0, 100, 27, 28, 4, 182, 1, 130, 42, 182, 1, 203, 54, 4, 42]
abbrev dktX1_searchFrom_5 : List UInt8 := dkwX1_searchFrom_5 ++ dktX1_searchFrom_6
def dkwX1_searchFrom_4 : List UInt8 := [180, 0, 83, 180, 1, 42, 27, 46, 42, 180, 1, 197, 182, 1, 200, 61, 42, 180, 0, 103, 27, 28, 79, 42]
abbrev dktX1_searchFrom_4 : List UInt8 := dkwX1_searchFrom_4 ++ dktX1_searchFrom_5
def dkwX1_searchFrom_3 : List UInt8 := [42, 180, 1, 187, 182, 1, 190, 60, 27, 2, 160, 0, 9, 42, 182, 1, 194, 3, 172, 42, 27, 42]
abbrev dktX1_searchFrom_3 : List UInt8 := dkwX1_searchFrom_3 ++ dktX1_searchFrom_4
def dkwX1_searchFrom_2 : List UInt8 := [181, 1, 181, 42, 89, 180, 1, 168, 4, 96, 181, 1, 168, 4, 172, 42, 42, 180, 0, 83, 42, 180, 1, 184]
abbrev dktX1_searchFrom_2 : List UInt8 := dkwX1_searchFrom_2 ++ dktX1_searchFrom_3
def dkwX1_searchFrom_1 : List UInt8 := [180, 0, 100, 182, 1, 177, 42, 180, 0, 83, 180, 1, 88, 153, 0, 25, 42, 89, 180, 1, 181, 4, 96]
abbrev dktX1_searchFrom_1 : List UInt8 := dkwX1_searchFrom_1 ++ dktX1_searchFrom_2
def dkwX1_searchFrom_0 : List UInt8 := [42, 180, 1, 174, 17, 1, 144, 160, 0, 5, 5, 172, 42, 89, 180, 1, 174, 4, 96, 181, 1, 174, 42, 42]
abbrev dktX1_searchFrom_0 : List UInt8 := dkwX1_searchFrom_0 ++ dktX1_searchFrom_1
theorem dksX1_searchFrom_0 : cX1_searchFrom.data.toList.drop 0 = dktX1_searchFrom_0 := by decide +kernel
theorem dksX1_searchFrom_1 : cX1_searchFrom.data.toList.drop 24 = dktX1_searchFrom_1 := dk_seg dksX1_searchFrom_0 24 rfl rfl
theorem dksX1_searchFrom_2 : cX1_searchFrom.data.toList.drop 47 = dktX1_searchFrom_2 := dk_seg dksX1_searchFrom_1 23 rfl rfl
theorem dksX1_searchFrom_3 : cX1_searchFrom.data.toList.drop 71 = dktX1_searchFrom_3 := dk_seg dksX1_searchFrom_2 24 rfl rfl
theorem dksX1_searchFrom_4 : cX1_searchFrom.data.toList.drop 93 = dktX1_searchFrom_4 := dk_seg dksX1_searchFrom_3 22 rfl rfl
theorem dksX1_searchFrom_5 : cX1_searchFrom.data.toList.drop 117 = dktX1_searchFrom_5 := dk_seg dksX1_searchFrom_4 24 rfl rfl
theorem dksX1_searchFrom_6 : cX1_searchFrom.data.toList.drop 141 = dktX1_searchFrom_6 := dk_seg dksX1_searchFrom_5 24 rfl rfl
theorem dksX1_searchFrom_7 : cX1_searchFrom.data.toList.drop 165 = dktX1_searchFrom_7 := dk_seg dksX1_searchFrom_6 24 rfl rfl
theorem dksX1_searchFrom_8 : cX1_searchFrom.data.toList.drop 188 = dktX1_searchFrom_8 := dk_seg dksX1_searchFrom_7 23 rfl rfl
theorem dX1_searchFrom_0 : decode cX1_searchFrom 0 = .ok (.aload_n 0, 1) := dk_42 (dk_at dksX1_searchFrom_0 0 rfl rfl)
theorem dX1_searchFrom_1 : decode cX1_searchFrom 1 = .ok (.getfield 430, 3) := dk_180 1 174 (dk_at dksX1_searchFrom_0 1 rfl rfl)
theorem dX1_searchFrom_4 : decode cX1_searchFrom 4 = .ok (.sipush 400, 3) := dk_17 1 144 (dk_at dksX1_searchFrom_0 4 rfl rfl)
theorem dX1_searchFrom_7 : decode cX1_searchFrom 7 = .ok (.if_icmp .ne 5, 3) := dk_160 0 5 (dk_at dksX1_searchFrom_0 7 rfl rfl)
theorem dX1_searchFrom_10 : decode cX1_searchFrom 10 = .ok (.iconst 2, 1) := dk_5 (dk_at dksX1_searchFrom_0 10 rfl rfl)
theorem dX1_searchFrom_11 : decode cX1_searchFrom 11 = .ok (.ireturn, 1) := dk_172 (dk_at dksX1_searchFrom_0 11 rfl rfl)
theorem dX1_searchFrom_12 : decode cX1_searchFrom 12 = .ok (.aload_n 0, 1) := dk_42 (dk_at dksX1_searchFrom_0 12 rfl rfl)
theorem dX1_searchFrom_13 : decode cX1_searchFrom 13 = .ok (.dup, 1) := dk_89 (dk_at dksX1_searchFrom_0 13 rfl rfl)
theorem dX1_searchFrom_14 : decode cX1_searchFrom 14 = .ok (.getfield 430, 3) := dk_180 1 174 (dk_at dksX1_searchFrom_0 14 rfl rfl)
theorem dX1_searchFrom_17 : decode cX1_searchFrom 17 = .ok (.iconst 1, 1) := dk_4 (dk_at dksX1_searchFrom_0 17 rfl rfl)
theorem dX1_searchFrom_18 : decode cX1_searchFrom 18 = .ok (.iadd, 1) := dk_96 (dk_at dksX1_searchFrom_0 18 rfl rfl)
theorem dX1_searchFrom_19 : decode cX1_searchFrom 19 = .ok (.putfield 430, 3) := dk_181 1 174 (dk_at dksX1_searchFrom_0 19 rfl rfl)
theorem dX1_searchFrom_22 : decode cX1_searchFrom 22 = .ok (.aload_n 0, 1) := dk_42 (dk_at dksX1_searchFrom_0 22 rfl rfl)
theorem dX1_searchFrom_23 : decode cX1_searchFrom 23 = .ok (.aload_n 0, 1) := dk_42 (dk_at dksX1_searchFrom_0 23 rfl rfl)
theorem dX1_searchFrom_24 : decode cX1_searchFrom 24 = .ok (.getfield 100, 3) := dk_180 0 100 (dk_at dksX1_searchFrom_1 0 rfl rfl)
theorem dX1_searchFrom_27 : decode cX1_searchFrom 27 = .ok (.invokevirtual 433, 3) := dk_182 1 177 (dk_at dksX1_searchFrom_1 3 rfl rfl)
theorem dX1_searchFrom_30 : decode cX1_searchFrom 30 = .ok (.aload_n 0, 1) := dk_42 (dk_at dksX1_searchFrom_1 6 rfl rfl)
theorem dX1_searchFrom_31 : decode cX1_searchFrom 31 = .ok (.getfield 83, 3) := dk_180 0 83 (dk_at dksX1_searchFrom_1 7 rfl rfl)
theorem dX1_searchFrom_34 : decode cX1_searchFrom 34 = .ok (.getfield 344, 3) := dk_180 1 88 (dk_at dksX1_searchFrom_1 10 rfl rfl)
theorem dX1_searchFrom_37 : decode cX1_searchFrom 37 = .ok (.ifCond .eq 25, 3) := dk_153 0 25 (dk_at dksX1_searchFrom_1 13 rfl rfl)
theorem dX1_searchFrom_40 : decode cX1_searchFrom 40 = .ok (.aload_n 0, 1) := dk_42 (dk_at dksX1_searchFrom_1 16 rfl rfl)
theorem dX1_searchFrom_41 : decode cX1_searchFrom 41 = .ok (.dup, 1) := dk_89 (dk_at dksX1_searchFrom_1 17 rfl rfl)
theorem dX1_searchFrom_42 : decode cX1_searchFrom 42 = .ok (.getfield 437, 3) := dk_180 1 181 (dk_at dksX1_searchFrom_1 18 rfl rfl)
theorem dX1_searchFrom_45 : decode cX1_searchFrom 45 = .ok (.iconst 1, 1) := dk_4 (dk_at dksX1_searchFrom_1 21 rfl rfl)
theorem dX1_searchFrom_46 : decode cX1_searchFrom 46 = .ok (.iadd, 1) := dk_96 (dk_at dksX1_searchFrom_1 22 rfl rfl)
theorem dX1_searchFrom_47 : decode cX1_searchFrom 47 = .ok (.putfield 437, 3) := dk_181 1 181 (dk_at dksX1_searchFrom_2 0 rfl rfl)
theorem dX1_searchFrom_50 : decode cX1_searchFrom 50 = .ok (.aload_n 0, 1) := dk_42 (dk_at dksX1_searchFrom_2 3 rfl rfl)
theorem dX1_searchFrom_51 : decode cX1_searchFrom 51 = .ok (.dup, 1) := dk_89 (dk_at dksX1_searchFrom_2 4 rfl rfl)
theorem dX1_searchFrom_52 : decode cX1_searchFrom 52 = .ok (.getfield 424, 3) := dk_180 1 168 (dk_at dksX1_searchFrom_2 5 rfl rfl)
theorem dX1_searchFrom_55 : decode cX1_searchFrom 55 = .ok (.iconst 1, 1) := dk_4 (dk_at dksX1_searchFrom_2 8 rfl rfl)
theorem dX1_searchFrom_56 : decode cX1_searchFrom 56 = .ok (.iadd, 1) := dk_96 (dk_at dksX1_searchFrom_2 9 rfl rfl)
theorem dX1_searchFrom_57 : decode cX1_searchFrom 57 = .ok (.putfield 424, 3) := dk_181 1 168 (dk_at dksX1_searchFrom_2 10 rfl rfl)
theorem dX1_searchFrom_60 : decode cX1_searchFrom 60 = .ok (.iconst 1, 1) := dk_4 (dk_at dksX1_searchFrom_2 13 rfl rfl)
theorem dX1_searchFrom_61 : decode cX1_searchFrom 61 = .ok (.ireturn, 1) := dk_172 (dk_at dksX1_searchFrom_2 14 rfl rfl)
theorem dX1_searchFrom_62 : decode cX1_searchFrom 62 = .ok (.aload_n 0, 1) := dk_42 (dk_at dksX1_searchFrom_2 15 rfl rfl)
theorem dX1_searchFrom_63 : decode cX1_searchFrom 63 = .ok (.aload_n 0, 1) := dk_42 (dk_at dksX1_searchFrom_2 16 rfl rfl)
theorem dX1_searchFrom_64 : decode cX1_searchFrom 64 = .ok (.getfield 83, 3) := dk_180 0 83 (dk_at dksX1_searchFrom_2 17 rfl rfl)
theorem dX1_searchFrom_67 : decode cX1_searchFrom 67 = .ok (.aload_n 0, 1) := dk_42 (dk_at dksX1_searchFrom_2 20 rfl rfl)
theorem dX1_searchFrom_68 : decode cX1_searchFrom 68 = .ok (.getfield 440, 3) := dk_180 1 184 (dk_at dksX1_searchFrom_2 21 rfl rfl)
theorem dX1_searchFrom_71 : decode cX1_searchFrom 71 = .ok (.aload_n 0, 1) := dk_42 (dk_at dksX1_searchFrom_3 0 rfl rfl)
theorem dX1_searchFrom_72 : decode cX1_searchFrom 72 = .ok (.getfield 443, 3) := dk_180 1 187 (dk_at dksX1_searchFrom_3 1 rfl rfl)
theorem dX1_searchFrom_75 : decode cX1_searchFrom 75 = .ok (.invokevirtual 446, 3) := dk_182 1 190 (dk_at dksX1_searchFrom_3 4 rfl rfl)
theorem dX1_searchFrom_78 : decode cX1_searchFrom 78 = .ok (.istore_n 1, 1) := dk_60 (dk_at dksX1_searchFrom_3 7 rfl rfl)
theorem dX1_searchFrom_79 : decode cX1_searchFrom 79 = .ok (.iload_n 1, 1) := dk_27 (dk_at dksX1_searchFrom_3 8 rfl rfl)
theorem dX1_searchFrom_80 : decode cX1_searchFrom 80 = .ok (.iconst (-1), 1) := dk_2 (dk_at dksX1_searchFrom_3 9 rfl rfl)
theorem dX1_searchFrom_81 : decode cX1_searchFrom 81 = .ok (.if_icmp .ne 9, 3) := dk_160 0 9 (dk_at dksX1_searchFrom_3 10 rfl rfl)
theorem dX1_searchFrom_84 : decode cX1_searchFrom 84 = .ok (.aload_n 0, 1) := dk_42 (dk_at dksX1_searchFrom_3 13 rfl rfl)
theorem dX1_searchFrom_85 : decode cX1_searchFrom 85 = .ok (.invokevirtual 450, 3) := dk_182 1 194 (dk_at dksX1_searchFrom_3 14 rfl rfl)
theorem dX1_searchFrom_88 : decode cX1_searchFrom 88 = .ok (.iconst 0, 1) := dk_3 (dk_at dksX1_searchFrom_3 17 rfl rfl)
theorem dX1_searchFrom_89 : decode cX1_searchFrom 89 = .ok (.ireturn, 1) := dk_172 (dk_at dksX1_searchFrom_3 18 rfl rfl)
theorem dX1_searchFrom_90 : decode cX1_searchFrom 90 = .ok (.aload_n 0, 1) := dk_42 (dk_at dksX1_searchFrom_3 19 rfl rfl)
theorem dX1_searchFrom_91 : decode cX1_searchFrom 91 = .ok (.iload_n 1, 1) := dk_27 (dk_at dksX1_searchFrom_3 20 rfl rfl)
theorem dX1_searchFrom_92 : decode cX1_searchFrom 92 = .ok (.aload_n 0, 1) := dk_42 (dk_at dksX1_searchFrom_3 21 rfl rfl)
theorem dX1_searchFrom_93 : decode cX1_searchFrom 93 = .ok (.getfield 83, 3) := dk_180 0 83 (dk_at dksX1_searchFrom_4 0 rfl rfl)
theorem dX1_searchFrom_96 : decode cX1_searchFrom 96 = .ok (.getfield 298, 3) := dk_180 1 42 (dk_at dksX1_searchFrom_4 3 rfl rfl)
theorem dX1_searchFrom_99 : decode cX1_searchFrom 99 = .ok (.iload_n 1, 1) := dk_27 (dk_at dksX1_searchFrom_4 6 rfl rfl)
theorem dX1_searchFrom_100 : decode cX1_searchFrom 100 = .ok (.iaload, 1) := dk_46 (dk_at dksX1_searchFrom_4 7 rfl rfl)
theorem dX1_searchFrom_101 : decode cX1_searchFrom 101 = .ok (.aload_n 0, 1) := dk_42 (dk_at dksX1_searchFrom_4 8 rfl rfl)
theorem dX1_searchFrom_102 : decode cX1_searchFrom 102 = .ok (.getfield 453, 3) := dk_180 1 197 (dk_at dksX1_searchFrom_4 9 rfl rfl)
theorem dX1_searchFrom_105 : decode cX1_searchFrom 105 = .ok (.invokevirtual 456, 3) := dk_182 1 200 (dk_at dksX1_searchFrom_4 12 rfl rfl)
theorem dX1_searchFrom_108 : decode cX1_searchFrom 108 = .ok (.istore_n 2, 1) := dk_61 (dk_at dksX1_searchFrom_4 15 rfl rfl)
theorem dX1_searchFrom_109 : decode cX1_searchFrom 109 = .ok (.aload_n 0, 1) := dk_42 (dk_at dksX1_searchFrom_4 16 rfl rfl)
theorem dX1_searchFrom_110 : decode cX1_searchFrom 110 = .ok (.getfield 103, 3) := dk_180 0 103 (dk_at dksX1_searchFrom_4 17 rfl rfl)
theorem dX1_searchFrom_113 : decode cX1_searchFrom 113 = .ok (.iload_n 1, 1) := dk_27 (dk_at dksX1_searchFrom_4 20 rfl rfl)
theorem dX1_searchFrom_114 : decode cX1_searchFrom 114 = .ok (.iload_n 2, 1) := dk_28 (dk_at dksX1_searchFrom_4 21 rfl rfl)
theorem dX1_searchFrom_115 : decode cX1_searchFrom 115 = .ok (.iastore, 1) := dk_79 (dk_at dksX1_searchFrom_4 22 rfl rfl)
theorem dX1_searchFrom_116 : decode cX1_searchFrom 116 = .ok (.aload_n 0, 1) := dk_42 (dk_at dksX1_searchFrom_4 23 rfl rfl)
theorem dX1_searchFrom_117 : decode cX1_searchFrom 117 = .ok (.getfield 100, 3) := dk_180 0 100 (dk_at dksX1_searchFrom_5 0 rfl rfl)
theorem dX1_searchFrom_120 : decode cX1_searchFrom 120 = .ok (.getfield 316, 3) := dk_180 1 60 (dk_at dksX1_searchFrom_5 3 rfl rfl)
theorem dX1_searchFrom_123 : decode cX1_searchFrom 123 = .ok (.istore_n 3, 1) := dk_62 (dk_at dksX1_searchFrom_5 6 rfl rfl)
theorem dX1_searchFrom_124 : decode cX1_searchFrom 124 = .ok (.aload_n 0, 1) := dk_42 (dk_at dksX1_searchFrom_5 7 rfl rfl)
theorem dX1_searchFrom_125 : decode cX1_searchFrom 125 = .ok (.getfield 100, 3) := dk_180 0 100 (dk_at dksX1_searchFrom_5 8 rfl rfl)
theorem dX1_searchFrom_128 : decode cX1_searchFrom 128 = .ok (.iload_n 1, 1) := dk_27 (dk_at dksX1_searchFrom_5 11 rfl rfl)
theorem dX1_searchFrom_129 : decode cX1_searchFrom 129 = .ok (.iload_n 2, 1) := dk_28 (dk_at dksX1_searchFrom_5 12 rfl rfl)
theorem dX1_searchFrom_130 : decode cX1_searchFrom 130 = .ok (.iconst 1, 1) := dk_4 (dk_at dksX1_searchFrom_5 13 rfl rfl)
theorem dX1_searchFrom_131 : decode cX1_searchFrom 131 = .ok (.invokevirtual 386, 3) := dk_182 1 130 (dk_at dksX1_searchFrom_5 14 rfl rfl)
theorem dX1_searchFrom_134 : decode cX1_searchFrom 134 = .ok (.aload_n 0, 1) := dk_42 (dk_at dksX1_searchFrom_5 17 rfl rfl)
theorem dX1_searchFrom_135 : decode cX1_searchFrom 135 = .ok (.invokevirtual 459, 3) := dk_182 1 203 (dk_at dksX1_searchFrom_5 18 rfl rfl)
theorem dX1_searchFrom_138 : decode cX1_searchFrom 138 = .ok (.istore 4, 2) := dk_54 4 (dk_at dksX1_searchFrom_5 21 rfl rfl)
theorem dX1_searchFrom_140 : decode cX1_searchFrom 140 = .ok (.aload_n 0, 1) := dk_42 (dk_at dksX1_searchFrom_5 23 rfl rfl)
theorem dX1_searchFrom_141 : decode cX1_searchFrom 141 = .ok (.getfield 100, 3) := dk_180 0 100 (dk_at dksX1_searchFrom_6 0 rfl rfl)
theorem dX1_searchFrom_144 : decode cX1_searchFrom 144 = .ok (.iload_n 3, 1) := dk_29 (dk_at dksX1_searchFrom_6 3 rfl rfl)
theorem dX1_searchFrom_145 : decode cX1_searchFrom 145 = .ok (.putfield 316, 3) := dk_181 1 60 (dk_at dksX1_searchFrom_6 4 rfl rfl)
theorem dX1_searchFrom_148 : decode cX1_searchFrom 148 = .ok (.iload 4, 2) := dk_21 4 (dk_at dksX1_searchFrom_6 7 rfl rfl)
theorem dX1_searchFrom_150 : decode cX1_searchFrom 150 = .ok (.iconst 1, 1) := dk_4 (dk_at dksX1_searchFrom_6 9 rfl rfl)
theorem dX1_searchFrom_151 : decode cX1_searchFrom 151 = .ok (.if_icmp .ne 10, 3) := dk_160 0 10 (dk_at dksX1_searchFrom_6 10 rfl rfl)
theorem dX1_searchFrom_154 : decode cX1_searchFrom 154 = .ok (.aload_n 0, 1) := dk_42 (dk_at dksX1_searchFrom_6 13 rfl rfl)
theorem dX1_searchFrom_155 : decode cX1_searchFrom 155 = .ok (.invokevirtual 462, 3) := dk_182 1 206 (dk_at dksX1_searchFrom_6 14 rfl rfl)
theorem dX1_searchFrom_158 : decode cX1_searchFrom 158 = .ok (.ifCond .eq 6, 3) := dk_153 0 6 (dk_at dksX1_searchFrom_6 17 rfl rfl)
theorem dX1_searchFrom_161 : decode cX1_searchFrom 161 = .ok (.iload 4, 2) := dk_21 4 (dk_at dksX1_searchFrom_6 20 rfl rfl)
theorem dX1_searchFrom_163 : decode cX1_searchFrom 163 = .ok (.ireturn, 1) := dk_172 (dk_at dksX1_searchFrom_6 22 rfl rfl)
theorem dX1_searchFrom_164 : decode cX1_searchFrom 164 = .ok (.aload_n 0, 1) := dk_42 (dk_at dksX1_searchFrom_6 23 rfl rfl)
theorem dX1_searchFrom_165 : decode cX1_searchFrom 165 = .ok (.getfield 100, 3) := dk_180 0 100 (dk_at dksX1_searchFrom_7 0 rfl rfl)
theorem dX1_searchFrom_168 : decode cX1_searchFrom 168 = .ok (.iload_n 1, 1) := dk_27 (dk_at dksX1_searchFrom_7 3 rfl rfl)
theorem dX1_searchFrom_169 : decode cX1_searchFrom 169 = .ok (.iload_n 2, 1) := dk_28 (dk_at dksX1_searchFrom_7 4 rfl rfl)
theorem dX1_searchFrom_170 : decode cX1_searchFrom 170 = .ok (.iconst 0, 1) := dk_3 (dk_at dksX1_searchFrom_7 5 rfl rfl)
theorem dX1_searchFrom_171 : decode cX1_searchFrom 171 = .ok (.invokevirtual 386, 3) := dk_182 1 130 (dk_at dksX1_searchFrom_7 6 rfl rfl)
theorem dX1_searchFrom_174 : decode cX1_searchFrom 174 = .ok (.aload_n 0, 1) := dk_42 (dk_at dksX1_searchFrom_7 9 rfl rfl)
theorem dX1_searchFrom_175 : decode cX1_searchFrom 175 = .ok (.invokevirtual 459, 3) := dk_182 1 203 (dk_at dksX1_searchFrom_7 10 rfl rfl)
theorem dX1_searchFrom_178 : decode cX1_searchFrom 178 = .ok (.istore 4, 2) := dk_54 4 (dk_at dksX1_searchFrom_7 13 rfl rfl)
theorem dX1_searchFrom_180 : decode cX1_searchFrom 180 = .ok (.aload_n 0, 1) := dk_42 (dk_at dksX1_searchFrom_7 15 rfl rfl)
theorem dX1_searchFrom_181 : decode cX1_searchFrom 181 = .ok (.getfield 100, 3) := dk_180 0 100 (dk_at dksX1_searchFrom_7 16 rfl rfl)
theorem dX1_searchFrom_184 : decode cX1_searchFrom 184 = .ok (.iload_n 3, 1) := dk_29 (dk_at dksX1_searchFrom_7 19 rfl rfl)
theorem dX1_searchFrom_185 : decode cX1_searchFrom 185 = .ok (.putfield 316, 3) := dk_181 1 60 (dk_at dksX1_searchFrom_7 20 rfl rfl)
theorem dX1_searchFrom_188 : decode cX1_searchFrom 188 = .ok (.iload 4, 2) := dk_21 4 (dk_at dksX1_searchFrom_8 0 rfl rfl)
theorem dX1_searchFrom_190 : decode cX1_searchFrom 190 = .ok (.ireturn, 1) := dk_172 (dk_at dksX1_searchFrom_8 2 rfl rfl)
def dkwX1_look_0 : List UInt8 := [42, 42, 180, 0, 83, 43, 2, 182, 1, 122, 42, 42, 180, 0, 83, 3, 182, 1, 126, 177]
abbrev dktX1_look_0 : List UInt8 := dkwX1_look_0 ++ []
theorem dksX1_look_0 : cX1_look.data.toList.drop 0 = dktX1_look_0 := by decide +kernel
theorem dX1_look_0 : decode cX1_look 0 = .ok (.aload_n 0, 1) := dk_42 (dk_at dksX1_look_0 0 rfl rfl)
theorem dX1_look_1 : decode cX1_look 1 = .ok (.aload_n 0, 1) := dk_42 (dk_at dksX1_look_0 1 rfl rfl)
theorem dX1_look_2 : decode cX1_look 2 = .ok (.getfield 83, 3) := dk_180 0 83 (dk_at dksX1_look_0 2 rfl rfl)
theorem dX1_look_5 : decode cX1_look 5 = .ok (.aload_n 1, 1) := dk_43 (dk_at dksX1_look_0 5 rfl rfl)
theorem dX1_look_6 : decode cX1_look 6 = .ok (.iconst (-1), 1) := dk_2 (dk_at dksX1_look_0 6 rfl rfl)
theorem dX1_look_7 : decode cX1_look 7 = .ok (.invokevirtual 378, 3) := dk_182 1 122 (dk_at dksX1_look_0 7 rfl rfl)
theorem dX1_look_10 : decode cX1_look 10 = .ok (.aload_n 0, 1) := dk_42 (dk_at dksX1_look_0 10 rfl rfl)
theorem dX1_look_11 : decode cX1_look 11 = .ok (.aload_n 0, 1) := dk_42 (dk_at dksX1_look_0 11 rfl rfl)
theorem dX1_look_12 : decode cX1_look 12 = .ok (.getfield 83, 3) := dk_180 0 83 (dk_at dksX1_look_0 12 rfl rfl)
theorem dX1_look_15 : decode cX1_look 15 = .ok (.iconst 0, 1) := dk_3 (dk_at dksX1_look_0 15 rfl rfl)
theorem dX1_look_16 : decode cX1_look 16 = .ok (.invokevirtual 382, 3) := dk_182 1 126 (dk_at dksX1_look_0 16 rfl rfl)
theorem dX1_look_19 : decode cX1_look 19 = .ok (.return_, 1) := dk_177 (dk_at dksX1_look_0 19 rfl rfl)
def dkwX1_chosen_5 : List UInt8 := [167, 0, 5, 21, 4, 54, 4, 21, 5, 21, 7, 128, 54, 5, 132, 6, 1, 167, 255, 131, 21, 4, 172]
abbrev dktX1_chosen_5 : List UInt8 := dkwX1_chosen_5 ++ []
def dkwX1_chosen_4 : List UInt8 := [21, 7, 21, 5, 160, 0, 8, 21, 8, 167, 0, 5, 21, 7, 54, 9, 21, 9, 153, 0, 8, 21, 6]
abbrev dktX1_chosen_4 : List UInt8 := dkwX1_chosen_4 ++ dktX1_chosen_5
def dkwX1_chosen_3 : List UInt8 := [184, 1, 149, 43, 180, 1, 42, 21, 4, 46, 184, 1, 149, 162, 0, 7, 4, 167, 0, 4, 3, 54, 8]
abbrev dktX1_chosen_3 : List UInt8 := dkwX1_chosen_3 ++ dktX1_chosen_4
def dkwX1_chosen_2 : List UInt8 := [184, 1, 63, 54, 7, 21, 4, 2, 159, 0, 31, 29, 4, 160, 0, 30, 43, 180, 1, 42, 21, 6, 46]
abbrev dktX1_chosen_2 : List UInt8 := dkwX1_chosen_2 ++ dktX1_chosen_3
def dkwX1_chosen_1 : List UInt8 := [21, 6, 182, 1, 70, 154, 0, 102, 43, 180, 1, 42, 21, 6, 46, 184, 1, 162, 154, 0, 89, 28, 21, 6]
abbrev dktX1_chosen_1 : List UInt8 := dkwX1_chosen_1 ++ dktX1_chosen_2
def dkwX1_chosen_0 : List UInt8 := [2, 54, 4, 3, 54, 5, 3, 54, 6, 21, 6, 42, 180, 0, 27, 185, 0, 131, 1, 0, 162, 0, 117, 42]
abbrev dktX1_chosen_0 : List UInt8 := dkwX1_chosen_0 ++ dktX1_chosen_1
theorem dksX1_chosen_0 : cX1_chosen.data.toList.drop 0 = dktX1_chosen_0 := by decide +kernel
theorem dksX1_chosen_1 : cX1_chosen.data.toList.drop 24 = dktX1_chosen_1 := dk_seg dksX1_chosen_0 24 rfl rfl
theorem dksX1_chosen_2 : cX1_chosen.data.toList.drop 48 = dktX1_chosen_2 := dk_seg dksX1_chosen_1 24 rfl rfl
theorem dksX1_chosen_3 : cX1_chosen.data.toList.drop 71 = dktX1_chosen_3 := dk_seg dksX1_chosen_2 23 rfl rfl
theorem dksX1_chosen_4 : cX1_chosen.data.toList.drop 94 = dktX1_chosen_4 := dk_seg dksX1_chosen_3 23 rfl rfl
theorem dksX1_chosen_5 : cX1_chosen.data.toList.drop 117 = dktX1_chosen_5 := dk_seg dksX1_chosen_4 23 rfl rfl
theorem dX1_chosen_0 : decode cX1_chosen 0 = .ok (.iconst (-1), 1) := dk_2 (dk_at dksX1_chosen_0 0 rfl rfl)
theorem dX1_chosen_1 : decode cX1_chosen 1 = .ok (.istore 4, 2) := dk_54 4 (dk_at dksX1_chosen_0 1 rfl rfl)
theorem dX1_chosen_3 : decode cX1_chosen 3 = .ok (.iconst 0, 1) := dk_3 (dk_at dksX1_chosen_0 3 rfl rfl)
theorem dX1_chosen_4 : decode cX1_chosen 4 = .ok (.istore 5, 2) := dk_54 5 (dk_at dksX1_chosen_0 4 rfl rfl)
theorem dX1_chosen_6 : decode cX1_chosen 6 = .ok (.iconst 0, 1) := dk_3 (dk_at dksX1_chosen_0 6 rfl rfl)
theorem dX1_chosen_7 : decode cX1_chosen 7 = .ok (.istore 6, 2) := dk_54 6 (dk_at dksX1_chosen_0 7 rfl rfl)
theorem dX1_chosen_9 : decode cX1_chosen 9 = .ok (.iload 6, 2) := dk_21 6 (dk_at dksX1_chosen_0 9 rfl rfl)
theorem dX1_chosen_11 : decode cX1_chosen 11 = .ok (.aload_n 0, 1) := dk_42 (dk_at dksX1_chosen_0 11 rfl rfl)
theorem dX1_chosen_12 : decode cX1_chosen 12 = .ok (.getfield 27, 3) := dk_180 0 27 (dk_at dksX1_chosen_0 12 rfl rfl)
theorem dX1_chosen_15 : decode cX1_chosen 15 = .ok (.invokeinterface 131 1, 5) := by decide +kernel
theorem dX1_chosen_20 : decode cX1_chosen 20 = .ok (.if_icmp .ge 117, 3) := dk_162 0 117 (dk_at dksX1_chosen_0 20 rfl rfl)
theorem dX1_chosen_23 : decode cX1_chosen 23 = .ok (.aload_n 0, 1) := dk_42 (dk_at dksX1_chosen_0 23 rfl rfl)
theorem dX1_chosen_24 : decode cX1_chosen 24 = .ok (.iload 6, 2) := dk_21 6 (dk_at dksX1_chosen_1 0 rfl rfl)
theorem dX1_chosen_26 : decode cX1_chosen 26 = .ok (.invokevirtual 326, 3) := dk_182 1 70 (dk_at dksX1_chosen_1 2 rfl rfl)
theorem dX1_chosen_29 : decode cX1_chosen 29 = .ok (.ifCond .ne 102, 3) := dk_154 0 102 (dk_at dksX1_chosen_1 5 rfl rfl)
theorem dX1_chosen_32 : decode cX1_chosen 32 = .ok (.aload_n 1, 1) := dk_43 (dk_at dksX1_chosen_1 8 rfl rfl)
theorem dX1_chosen_33 : decode cX1_chosen 33 = .ok (.getfield 298, 3) := dk_180 1 42 (dk_at dksX1_chosen_1 9 rfl rfl)
theorem dX1_chosen_36 : decode cX1_chosen 36 = .ok (.iload 6, 2) := dk_21 6 (dk_at dksX1_chosen_1 12 rfl rfl)
theorem dX1_chosen_38 : decode cX1_chosen 38 = .ok (.iaload, 1) := dk_46 (dk_at dksX1_chosen_1 14 rfl rfl)
theorem dX1_chosen_39 : decode cX1_chosen 39 = .ok (.invokestatic 418, 3) := dk_184 1 162 (dk_at dksX1_chosen_1 15 rfl rfl)
theorem dX1_chosen_42 : decode cX1_chosen 42 = .ok (.ifCond .ne 89, 3) := dk_154 0 89 (dk_at dksX1_chosen_1 18 rfl rfl)
theorem dX1_chosen_45 : decode cX1_chosen 45 = .ok (.iload_n 2, 1) := dk_28 (dk_at dksX1_chosen_1 21 rfl rfl)
theorem dX1_chosen_46 : decode cX1_chosen 46 = .ok (.iload 6, 2) := dk_21 6 (dk_at dksX1_chosen_1 22 rfl rfl)
theorem dX1_chosen_48 : decode cX1_chosen 48 = .ok (.invokestatic 319, 3) := dk_184 1 63 (dk_at dksX1_chosen_2 0 rfl rfl)
theorem dX1_chosen_51 : decode cX1_chosen 51 = .ok (.istore 7, 2) := dk_54 7 (dk_at dksX1_chosen_2 3 rfl rfl)
theorem dX1_chosen_53 : decode cX1_chosen 53 = .ok (.iload 4, 2) := dk_21 4 (dk_at dksX1_chosen_2 5 rfl rfl)
theorem dX1_chosen_55 : decode cX1_chosen 55 = .ok (.iconst (-1), 1) := dk_2 (dk_at dksX1_chosen_2 7 rfl rfl)
theorem dX1_chosen_56 : decode cX1_chosen 56 = .ok (.if_icmp .eq 31, 3) := dk_159 0 31 (dk_at dksX1_chosen_2 8 rfl rfl)
theorem dX1_chosen_59 : decode cX1_chosen 59 = .ok (.iload_n 3, 1) := dk_29 (dk_at dksX1_chosen_2 11 rfl rfl)
theorem dX1_chosen_60 : decode cX1_chosen 60 = .ok (.iconst 1, 1) := dk_4 (dk_at dksX1_chosen_2 12 rfl rfl)
theorem dX1_chosen_61 : decode cX1_chosen 61 = .ok (.if_icmp .ne 30, 3) := dk_160 0 30 (dk_at dksX1_chosen_2 13 rfl rfl)
theorem dX1_chosen_64 : decode cX1_chosen 64 = .ok (.aload_n 1, 1) := dk_43 (dk_at dksX1_chosen_2 16 rfl rfl)
theorem dX1_chosen_65 : decode cX1_chosen 65 = .ok (.getfield 298, 3) := dk_180 1 42 (dk_at dksX1_chosen_2 17 rfl rfl)
theorem dX1_chosen_68 : decode cX1_chosen 68 = .ok (.iload 6, 2) := dk_21 6 (dk_at dksX1_chosen_2 20 rfl rfl)
theorem dX1_chosen_70 : decode cX1_chosen 70 = .ok (.iaload, 1) := dk_46 (dk_at dksX1_chosen_2 22 rfl rfl)
theorem dX1_chosen_71 : decode cX1_chosen 71 = .ok (.invokestatic 405, 3) := dk_184 1 149 (dk_at dksX1_chosen_3 0 rfl rfl)
theorem dX1_chosen_74 : decode cX1_chosen 74 = .ok (.aload_n 1, 1) := dk_43 (dk_at dksX1_chosen_3 3 rfl rfl)
theorem dX1_chosen_75 : decode cX1_chosen 75 = .ok (.getfield 298, 3) := dk_180 1 42 (dk_at dksX1_chosen_3 4 rfl rfl)
theorem dX1_chosen_78 : decode cX1_chosen 78 = .ok (.iload 4, 2) := dk_21 4 (dk_at dksX1_chosen_3 7 rfl rfl)
theorem dX1_chosen_80 : decode cX1_chosen 80 = .ok (.iaload, 1) := dk_46 (dk_at dksX1_chosen_3 9 rfl rfl)
theorem dX1_chosen_81 : decode cX1_chosen 81 = .ok (.invokestatic 405, 3) := dk_184 1 149 (dk_at dksX1_chosen_3 10 rfl rfl)
theorem dX1_chosen_84 : decode cX1_chosen 84 = .ok (.if_icmp .ge 7, 3) := dk_162 0 7 (dk_at dksX1_chosen_3 13 rfl rfl)
theorem dX1_chosen_87 : decode cX1_chosen 87 = .ok (.iconst 1, 1) := dk_4 (dk_at dksX1_chosen_3 16 rfl rfl)
theorem dX1_chosen_88 : decode cX1_chosen 88 = .ok (.goto 4, 3) := dk_167 0 4 (dk_at dksX1_chosen_3 17 rfl rfl)
theorem dX1_chosen_91 : decode cX1_chosen 91 = .ok (.iconst 0, 1) := dk_3 (dk_at dksX1_chosen_3 20 rfl rfl)
theorem dX1_chosen_92 : decode cX1_chosen 92 = .ok (.istore 8, 2) := dk_54 8 (dk_at dksX1_chosen_3 21 rfl rfl)
theorem dX1_chosen_94 : decode cX1_chosen 94 = .ok (.iload 7, 2) := dk_21 7 (dk_at dksX1_chosen_4 0 rfl rfl)
theorem dX1_chosen_96 : decode cX1_chosen 96 = .ok (.iload 5, 2) := dk_21 5 (dk_at dksX1_chosen_4 2 rfl rfl)
theorem dX1_chosen_98 : decode cX1_chosen 98 = .ok (.if_icmp .ne 8, 3) := dk_160 0 8 (dk_at dksX1_chosen_4 4 rfl rfl)
theorem dX1_chosen_101 : decode cX1_chosen 101 = .ok (.iload 8, 2) := dk_21 8 (dk_at dksX1_chosen_4 7 rfl rfl)
theorem dX1_chosen_103 : decode cX1_chosen 103 = .ok (.goto 5, 3) := dk_167 0 5 (dk_at dksX1_chosen_4 9 rfl rfl)
theorem dX1_chosen_106 : decode cX1_chosen 106 = .ok (.iload 7, 2) := dk_21 7 (dk_at dksX1_chosen_4 12 rfl rfl)
theorem dX1_chosen_108 : decode cX1_chosen 108 = .ok (.istore 9, 2) := dk_54 9 (dk_at dksX1_chosen_4 14 rfl rfl)
theorem dX1_chosen_110 : decode cX1_chosen 110 = .ok (.iload 9, 2) := dk_21 9 (dk_at dksX1_chosen_4 16 rfl rfl)
theorem dX1_chosen_112 : decode cX1_chosen 112 = .ok (.ifCond .eq 8, 3) := dk_153 0 8 (dk_at dksX1_chosen_4 18 rfl rfl)
theorem dX1_chosen_115 : decode cX1_chosen 115 = .ok (.iload 6, 2) := dk_21 6 (dk_at dksX1_chosen_4 21 rfl rfl)
theorem dX1_chosen_117 : decode cX1_chosen 117 = .ok (.goto 5, 3) := dk_167 0 5 (dk_at dksX1_chosen_5 0 rfl rfl)
theorem dX1_chosen_120 : decode cX1_chosen 120 = .ok (.iload 4, 2) := dk_21 4 (dk_at dksX1_chosen_5 3 rfl rfl)
theorem dX1_chosen_122 : decode cX1_chosen 122 = .ok (.istore 4, 2) := dk_54 4 (dk_at dksX1_chosen_5 5 rfl rfl)
theorem dX1_chosen_124 : decode cX1_chosen 124 = .ok (.iload 5, 2) := dk_21 5 (dk_at dksX1_chosen_5 7 rfl rfl)
theorem dX1_chosen_126 : decode cX1_chosen 126 = .ok (.iload 7, 2) := dk_21 7 (dk_at dksX1_chosen_5 9 rfl rfl)
theorem dX1_chosen_128 : decode cX1_chosen 128 = .ok (.ior, 1) := dk_128 (dk_at dksX1_chosen_5 11 rfl rfl)
theorem dX1_chosen_129 : decode cX1_chosen 129 = .ok (.istore 5, 2) := dk_54 5 (dk_at dksX1_chosen_5 12 rfl rfl)
theorem dX1_chosen_131 : decode cX1_chosen 131 = .ok (.iinc 6 1, 3) := dk_132 6 1 (dk_at dksX1_chosen_5 14 rfl rfl)
theorem dX1_chosen_134 : decode cX1_chosen 134 = .ok (.goto (-125), 3) := dk_167 255 131 (dk_at dksX1_chosen_5 17 rfl rfl)
theorem dX1_chosen_137 : decode cX1_chosen 137 = .ok (.iload 4, 2) := dk_21 4 (dk_at dksX1_chosen_5 20 rfl rfl)
theorem dX1_chosen_139 : decode cX1_chosen 139 = .ok (.ireturn, 1) := dk_172 (dk_at dksX1_chosen_5 22 rfl rfl)
def dkwX1_isFixed_0 : List UInt8 := [26, 184, 1, 149, 4, 160, 0, 7, 4, 167, 0, 4, 3, 172]
abbrev dktX1_isFixed_0 : List UInt8 := dkwX1_isFixed_0 ++ []
theorem dksX1_isFixed_0 : cX1_isFixed.data.toList.drop 0 = dktX1_isFixed_0 := by decide +kernel
theorem dX1_isFixed_0 : decode cX1_isFixed 0 = .ok (.iload_n 0, 1) := dk_26 (dk_at dksX1_isFixed_0 0 rfl rfl)
theorem dX1_isFixed_1 : decode cX1_isFixed 1 = .ok (.invokestatic 405, 3) := dk_184 1 149 (dk_at dksX1_isFixed_0 1 rfl rfl)
theorem dX1_isFixed_4 : decode cX1_isFixed 4 = .ok (.iconst 1, 1) := dk_4 (dk_at dksX1_isFixed_0 4 rfl rfl)
theorem dX1_isFixed_5 : decode cX1_isFixed 5 = .ok (.if_icmp .ne 7, 3) := dk_160 0 7 (dk_at dksX1_isFixed_0 5 rfl rfl)
theorem dX1_isFixed_8 : decode cX1_isFixed 8 = .ok (.iconst 1, 1) := dk_4 (dk_at dksX1_isFixed_0 8 rfl rfl)
theorem dX1_isFixed_9 : decode cX1_isFixed 9 = .ok (.goto 4, 3) := dk_167 0 4 (dk_at dksX1_isFixed_0 9 rfl rfl)
theorem dX1_isFixed_12 : decode cX1_isFixed 12 = .ok (.iconst 0, 1) := dk_3 (dk_at dksX1_isFixed_0 12 rfl rfl)
theorem dX1_isFixed_13 : decode cX1_isFixed 13 = .ok (.ireturn, 1) := dk_172 (dk_at dksX1_isFixed_0 13 rfl rfl)
def dkwX1_keepSolution_2 : List UInt8 := [42, 180, 0, 83, 180, 1, 42, 27, 46, 184, 1, 137, 79, 132, 1, 1, 167, 255, 207, 177]
abbrev dktX1_keepSolution_2 : List UInt8 := dkwX1_keepSolution_2 ++ []
def dkwX1_keepSolution_1 : List UInt8 := [180, 0, 106, 27, 42, 27, 182, 1, 70, 153, 0, 15, 42, 180, 0, 83, 180, 1, 48, 27, 46, 167, 0, 15]
abbrev dktX1_keepSolution_1 : List UInt8 := dkwX1_keepSolution_1 ++ dktX1_keepSolution_2
def dkwX1_keepSolution_0 : List UInt8 := [42, 42, 180, 0, 27, 185, 0, 131, 1, 0, 181, 0, 109, 3, 60, 27, 42, 180, 0, 109, 162, 0, 47, 42]
abbrev dktX1_keepSolution_0 : List UInt8 := dkwX1_keepSolution_0 ++ dktX1_keepSolution_1
theorem dksX1_keepSolution_0 : cX1_keepSolution.data.toList.drop 0 = dktX1_keepSolution_0 := by decide +kernel
theorem dksX1_keepSolution_1 : cX1_keepSolution.data.toList.drop 24 = dktX1_keepSolution_1 := dk_seg dksX1_keepSolution_0 24 rfl rfl
theorem dksX1_keepSolution_2 : cX1_keepSolution.data.toList.drop 48 = dktX1_keepSolution_2 := dk_seg dksX1_keepSolution_1 24 rfl rfl
theorem dX1_keepSolution_0 : decode cX1_keepSolution 0 = .ok (.aload_n 0, 1) := dk_42 (dk_at dksX1_keepSolution_0 0 rfl rfl)
theorem dX1_keepSolution_1 : decode cX1_keepSolution 1 = .ok (.aload_n 0, 1) := dk_42 (dk_at dksX1_keepSolution_0 1 rfl rfl)
theorem dX1_keepSolution_2 : decode cX1_keepSolution 2 = .ok (.getfield 27, 3) := dk_180 0 27 (dk_at dksX1_keepSolution_0 2 rfl rfl)
theorem dX1_keepSolution_5 : decode cX1_keepSolution 5 = .ok (.invokeinterface 131 1, 5) := by decide +kernel
theorem dX1_keepSolution_10 : decode cX1_keepSolution 10 = .ok (.putfield 109, 3) := dk_181 0 109 (dk_at dksX1_keepSolution_0 10 rfl rfl)
theorem dX1_keepSolution_13 : decode cX1_keepSolution 13 = .ok (.iconst 0, 1) := dk_3 (dk_at dksX1_keepSolution_0 13 rfl rfl)
theorem dX1_keepSolution_14 : decode cX1_keepSolution 14 = .ok (.istore_n 1, 1) := dk_60 (dk_at dksX1_keepSolution_0 14 rfl rfl)
theorem dX1_keepSolution_15 : decode cX1_keepSolution 15 = .ok (.iload_n 1, 1) := dk_27 (dk_at dksX1_keepSolution_0 15 rfl rfl)
theorem dX1_keepSolution_16 : decode cX1_keepSolution 16 = .ok (.aload_n 0, 1) := dk_42 (dk_at dksX1_keepSolution_0 16 rfl rfl)
theorem dX1_keepSolution_17 : decode cX1_keepSolution 17 = .ok (.getfield 109, 3) := dk_180 0 109 (dk_at dksX1_keepSolution_0 17 rfl rfl)
theorem dX1_keepSolution_20 : decode cX1_keepSolution 20 = .ok (.if_icmp .ge 47, 3) := dk_162 0 47 (dk_at dksX1_keepSolution_0 20 rfl rfl)
theorem dX1_keepSolution_23 : decode cX1_keepSolution 23 = .ok (.aload_n 0, 1) := dk_42 (dk_at dksX1_keepSolution_0 23 rfl rfl)
theorem dX1_keepSolution_24 : decode cX1_keepSolution 24 = .ok (.getfield 106, 3) := dk_180 0 106 (dk_at dksX1_keepSolution_1 0 rfl rfl)
theorem dX1_keepSolution_27 : decode cX1_keepSolution 27 = .ok (.iload_n 1, 1) := dk_27 (dk_at dksX1_keepSolution_1 3 rfl rfl)
theorem dX1_keepSolution_28 : decode cX1_keepSolution 28 = .ok (.aload_n 0, 1) := dk_42 (dk_at dksX1_keepSolution_1 4 rfl rfl)
theorem dX1_keepSolution_29 : decode cX1_keepSolution 29 = .ok (.iload_n 1, 1) := dk_27 (dk_at dksX1_keepSolution_1 5 rfl rfl)
theorem dX1_keepSolution_30 : decode cX1_keepSolution 30 = .ok (.invokevirtual 326, 3) := dk_182 1 70 (dk_at dksX1_keepSolution_1 6 rfl rfl)
theorem dX1_keepSolution_33 : decode cX1_keepSolution 33 = .ok (.ifCond .eq 15, 3) := dk_153 0 15 (dk_at dksX1_keepSolution_1 9 rfl rfl)
theorem dX1_keepSolution_36 : decode cX1_keepSolution 36 = .ok (.aload_n 0, 1) := dk_42 (dk_at dksX1_keepSolution_1 12 rfl rfl)
theorem dX1_keepSolution_37 : decode cX1_keepSolution 37 = .ok (.getfield 83, 3) := dk_180 0 83 (dk_at dksX1_keepSolution_1 13 rfl rfl)
theorem dX1_keepSolution_40 : decode cX1_keepSolution 40 = .ok (.getfield 304, 3) := dk_180 1 48 (dk_at dksX1_keepSolution_1 16 rfl rfl)
theorem dX1_keepSolution_43 : decode cX1_keepSolution 43 = .ok (.iload_n 1, 1) := dk_27 (dk_at dksX1_keepSolution_1 19 rfl rfl)
theorem dX1_keepSolution_44 : decode cX1_keepSolution 44 = .ok (.iaload, 1) := dk_46 (dk_at dksX1_keepSolution_1 20 rfl rfl)
theorem dX1_keepSolution_45 : decode cX1_keepSolution 45 = .ok (.goto 15, 3) := dk_167 0 15 (dk_at dksX1_keepSolution_1 21 rfl rfl)
theorem dX1_keepSolution_48 : decode cX1_keepSolution 48 = .ok (.aload_n 0, 1) := dk_42 (dk_at dksX1_keepSolution_2 0 rfl rfl)
theorem dX1_keepSolution_49 : decode cX1_keepSolution 49 = .ok (.getfield 83, 3) := dk_180 0 83 (dk_at dksX1_keepSolution_2 1 rfl rfl)
theorem dX1_keepSolution_52 : decode cX1_keepSolution 52 = .ok (.getfield 298, 3) := dk_180 1 42 (dk_at dksX1_keepSolution_2 4 rfl rfl)
theorem dX1_keepSolution_55 : decode cX1_keepSolution 55 = .ok (.iload_n 1, 1) := dk_27 (dk_at dksX1_keepSolution_2 7 rfl rfl)
theorem dX1_keepSolution_56 : decode cX1_keepSolution 56 = .ok (.iaload, 1) := dk_46 (dk_at dksX1_keepSolution_2 8 rfl rfl)
theorem dX1_keepSolution_57 : decode cX1_keepSolution 57 = .ok (.invokestatic 393, 3) := dk_184 1 137 (dk_at dksX1_keepSolution_2 9 rfl rfl)
theorem dX1_keepSolution_60 : decode cX1_keepSolution 60 = .ok (.iastore, 1) := dk_79 (dk_at dksX1_keepSolution_2 12 rfl rfl)
theorem dX1_keepSolution_61 : decode cX1_keepSolution 61 = .ok (.iinc 1 1, 3) := dk_132 1 1 (dk_at dksX1_keepSolution_2 13 rfl rfl)
theorem dX1_keepSolution_64 : decode cX1_keepSolution 64 = .ok (.goto (-49), 3) := dk_167 255 207 (dk_at dksX1_keepSolution_2 16 rfl rfl)
theorem dX1_keepSolution_67 : decode cX1_keepSolution 67 = .ok (.return_, 1) := dk_177 (dk_at dksX1_keepSolution_2 19 rfl rfl)
def dkwX1_valueOf_2 : List UInt8 := [167, 0, 7, 28, 184, 1, 137, 172]
abbrev dktX1_valueOf_2 : List UInt8 := dkwX1_valueOf_2 ++ []
def dkwX1_valueOf_1 : List UInt8 := [184, 1, 63, 153, 0, 10, 42, 180, 0, 103, 27, 46, 172, 29, 4, 160, 0, 10, 28, 184, 1, 135]
abbrev dktX1_valueOf_1 : List UInt8 := dkwX1_valueOf_1 ++ dktX1_valueOf_2
def dkwX1_valueOf_0 : List UInt8 := [29, 5, 160, 0, 33, 42, 180, 0, 103, 27, 46, 2, 159, 0, 23, 28, 42, 180, 0, 103, 27, 46]
abbrev dktX1_valueOf_0 : List UInt8 := dkwX1_valueOf_0 ++ dktX1_valueOf_1
theorem dksX1_valueOf_0 : cX1_valueOf.data.toList.drop 0 = dktX1_valueOf_0 := by decide +kernel
theorem dksX1_valueOf_1 : cX1_valueOf.data.toList.drop 22 = dktX1_valueOf_1 := dk_seg dksX1_valueOf_0 22 rfl rfl
theorem dksX1_valueOf_2 : cX1_valueOf.data.toList.drop 44 = dktX1_valueOf_2 := dk_seg dksX1_valueOf_1 22 rfl rfl
theorem dX1_valueOf_0 : decode cX1_valueOf 0 = .ok (.iload_n 3, 1) := dk_29 (dk_at dksX1_valueOf_0 0 rfl rfl)
theorem dX1_valueOf_1 : decode cX1_valueOf 1 = .ok (.iconst 2, 1) := dk_5 (dk_at dksX1_valueOf_0 1 rfl rfl)
theorem dX1_valueOf_2 : decode cX1_valueOf 2 = .ok (.if_icmp .ne 33, 3) := dk_160 0 33 (dk_at dksX1_valueOf_0 2 rfl rfl)
theorem dX1_valueOf_5 : decode cX1_valueOf 5 = .ok (.aload_n 0, 1) := dk_42 (dk_at dksX1_valueOf_0 5 rfl rfl)
theorem dX1_valueOf_6 : decode cX1_valueOf 6 = .ok (.getfield 103, 3) := dk_180 0 103 (dk_at dksX1_valueOf_0 6 rfl rfl)
theorem dX1_valueOf_9 : decode cX1_valueOf 9 = .ok (.iload_n 1, 1) := dk_27 (dk_at dksX1_valueOf_0 9 rfl rfl)
theorem dX1_valueOf_10 : decode cX1_valueOf 10 = .ok (.iaload, 1) := dk_46 (dk_at dksX1_valueOf_0 10 rfl rfl)
theorem dX1_valueOf_11 : decode cX1_valueOf 11 = .ok (.iconst (-1), 1) := dk_2 (dk_at dksX1_valueOf_0 11 rfl rfl)
theorem dX1_valueOf_12 : decode cX1_valueOf 12 = .ok (.if_icmp .eq 23, 3) := dk_159 0 23 (dk_at dksX1_valueOf_0 12 rfl rfl)
theorem dX1_valueOf_15 : decode cX1_valueOf 15 = .ok (.iload_n 2, 1) := dk_28 (dk_at dksX1_valueOf_0 15 rfl rfl)
theorem dX1_valueOf_16 : decode cX1_valueOf 16 = .ok (.aload_n 0, 1) := dk_42 (dk_at dksX1_valueOf_0 16 rfl rfl)
theorem dX1_valueOf_17 : decode cX1_valueOf 17 = .ok (.getfield 103, 3) := dk_180 0 103 (dk_at dksX1_valueOf_0 17 rfl rfl)
theorem dX1_valueOf_20 : decode cX1_valueOf 20 = .ok (.iload_n 1, 1) := dk_27 (dk_at dksX1_valueOf_0 20 rfl rfl)
theorem dX1_valueOf_21 : decode cX1_valueOf 21 = .ok (.iaload, 1) := dk_46 (dk_at dksX1_valueOf_0 21 rfl rfl)
theorem dX1_valueOf_22 : decode cX1_valueOf 22 = .ok (.invokestatic 319, 3) := dk_184 1 63 (dk_at dksX1_valueOf_1 0 rfl rfl)
theorem dX1_valueOf_25 : decode cX1_valueOf 25 = .ok (.ifCond .eq 10, 3) := dk_153 0 10 (dk_at dksX1_valueOf_1 3 rfl rfl)
theorem dX1_valueOf_28 : decode cX1_valueOf 28 = .ok (.aload_n 0, 1) := dk_42 (dk_at dksX1_valueOf_1 6 rfl rfl)
theorem dX1_valueOf_29 : decode cX1_valueOf 29 = .ok (.getfield 103, 3) := dk_180 0 103 (dk_at dksX1_valueOf_1 7 rfl rfl)
theorem dX1_valueOf_32 : decode cX1_valueOf 32 = .ok (.iload_n 1, 1) := dk_27 (dk_at dksX1_valueOf_1 10 rfl rfl)
theorem dX1_valueOf_33 : decode cX1_valueOf 33 = .ok (.iaload, 1) := dk_46 (dk_at dksX1_valueOf_1 11 rfl rfl)
theorem dX1_valueOf_34 : decode cX1_valueOf 34 = .ok (.ireturn, 1) := dk_172 (dk_at dksX1_valueOf_1 12 rfl rfl)
theorem dX1_valueOf_35 : decode cX1_valueOf 35 = .ok (.iload_n 3, 1) := dk_29 (dk_at dksX1_valueOf_1 13 rfl rfl)
theorem dX1_valueOf_36 : decode cX1_valueOf 36 = .ok (.iconst 1, 1) := dk_4 (dk_at dksX1_valueOf_1 14 rfl rfl)
theorem dX1_valueOf_37 : decode cX1_valueOf 37 = .ok (.if_icmp .ne 10, 3) := dk_160 0 10 (dk_at dksX1_valueOf_1 15 rfl rfl)
theorem dX1_valueOf_40 : decode cX1_valueOf 40 = .ok (.iload_n 2, 1) := dk_28 (dk_at dksX1_valueOf_1 18 rfl rfl)
theorem dX1_valueOf_41 : decode cX1_valueOf 41 = .ok (.invokestatic 391, 3) := dk_184 1 135 (dk_at dksX1_valueOf_1 19 rfl rfl)
theorem dX1_valueOf_44 : decode cX1_valueOf 44 = .ok (.goto 7, 3) := dk_167 0 7 (dk_at dksX1_valueOf_2 0 rfl rfl)
theorem dX1_valueOf_47 : decode cX1_valueOf 47 = .ok (.iload_n 2, 1) := dk_28 (dk_at dksX1_valueOf_2 3 rfl rfl)
theorem dX1_valueOf_48 : decode cX1_valueOf 48 = .ok (.invokestatic 393, 3) := dk_184 1 137 (dk_at dksX1_valueOf_2 4 rfl rfl)
theorem dX1_valueOf_51 : decode cX1_valueOf 51 = .ok (.ireturn, 1) := dk_172 (dk_at dksX1_valueOf_2 7 rfl rfl)
def dkwX1_isCut_0 : List UInt8 := [42, 180, 1, 165, 158, 0, 18, 42, 180, 1, 168, 42, 180, 1, 171, 161, 0, 7, 4, 167, 0, 4, 3, 172]
abbrev dktX1_isCut_0 : List UInt8 := dkwX1_isCut_0 ++ []
theorem dksX1_isCut_0 : cX1_isCut.data.toList.drop 0 = dktX1_isCut_0 := by decide +kernel
theorem dX1_isCut_0 : decode cX1_isCut 0 = .ok (.aload_n 0, 1) := dk_42 (dk_at dksX1_isCut_0 0 rfl rfl)
theorem dX1_isCut_1 : decode cX1_isCut 1 = .ok (.getfield 421, 3) := dk_180 1 165 (dk_at dksX1_isCut_0 1 rfl rfl)
theorem dX1_isCut_4 : decode cX1_isCut 4 = .ok (.ifCond .le 18, 3) := dk_158 0 18 (dk_at dksX1_isCut_0 4 rfl rfl)
theorem dX1_isCut_7 : decode cX1_isCut 7 = .ok (.aload_n 0, 1) := dk_42 (dk_at dksX1_isCut_0 7 rfl rfl)
theorem dX1_isCut_8 : decode cX1_isCut 8 = .ok (.getfield 424, 3) := dk_180 1 168 (dk_at dksX1_isCut_0 8 rfl rfl)
theorem dX1_isCut_11 : decode cX1_isCut 11 = .ok (.aload_n 0, 1) := dk_42 (dk_at dksX1_isCut_0 11 rfl rfl)
theorem dX1_isCut_12 : decode cX1_isCut 12 = .ok (.getfield 427, 3) := dk_180 1 171 (dk_at dksX1_isCut_0 12 rfl rfl)
theorem dX1_isCut_15 : decode cX1_isCut 15 = .ok (.if_icmp .lt 7, 3) := dk_161 0 7 (dk_at dksX1_isCut_0 15 rfl rfl)
theorem dX1_isCut_18 : decode cX1_isCut 18 = .ok (.iconst 1, 1) := dk_4 (dk_at dksX1_isCut_0 18 rfl rfl)
theorem dX1_isCut_19 : decode cX1_isCut 19 = .ok (.goto 4, 3) := dk_167 0 4 (dk_at dksX1_isCut_0 19 rfl rfl)
theorem dX1_isCut_22 : decode cX1_isCut 22 = .ok (.iconst 0, 1) := dk_3 (dk_at dksX1_isCut_0 22 rfl rfl)
theorem dX1_isCut_23 : decode cX1_isCut 23 = .ok (.ireturn, 1) := dk_172 (dk_at dksX1_isCut_0 23 rfl rfl)
def dkwX1_solution_1 : List UInt8 := [180, 0, 106, 27, 46, 172]
abbrev dktX1_solution_1 : List UInt8 := dkwX1_solution_1 ++ []
def dkwX1_solution_0 : List UInt8 := [42, 27, 182, 0, 158, 87, 27, 42, 180, 0, 109, 162, 0, 7, 4, 167, 0, 4, 3, 184, 0, 169, 42]
abbrev dktX1_solution_0 : List UInt8 := dkwX1_solution_0 ++ dktX1_solution_1
theorem dksX1_solution_0 : cX1_solution.data.toList.drop 0 = dktX1_solution_0 := by decide +kernel
theorem dksX1_solution_1 : cX1_solution.data.toList.drop 23 = dktX1_solution_1 := dk_seg dksX1_solution_0 23 rfl rfl
theorem dX1_solution_0 : decode cX1_solution 0 = .ok (.aload_n 0, 1) := dk_42 (dk_at dksX1_solution_0 0 rfl rfl)
theorem dX1_solution_1 : decode cX1_solution 1 = .ok (.iload_n 1, 1) := dk_27 (dk_at dksX1_solution_0 1 rfl rfl)
theorem dX1_solution_2 : decode cX1_solution 2 = .ok (.invokevirtual 158, 3) := dk_182 0 158 (dk_at dksX1_solution_0 2 rfl rfl)
theorem dX1_solution_5 : decode cX1_solution 5 = .ok (.pop, 1) := dk_87 (dk_at dksX1_solution_0 5 rfl rfl)
theorem dX1_solution_6 : decode cX1_solution 6 = .ok (.iload_n 1, 1) := dk_27 (dk_at dksX1_solution_0 6 rfl rfl)
theorem dX1_solution_7 : decode cX1_solution 7 = .ok (.aload_n 0, 1) := dk_42 (dk_at dksX1_solution_0 7 rfl rfl)
theorem dX1_solution_8 : decode cX1_solution 8 = .ok (.getfield 109, 3) := dk_180 0 109 (dk_at dksX1_solution_0 8 rfl rfl)
theorem dX1_solution_11 : decode cX1_solution 11 = .ok (.if_icmp .ge 7, 3) := dk_162 0 7 (dk_at dksX1_solution_0 11 rfl rfl)
theorem dX1_solution_14 : decode cX1_solution 14 = .ok (.iconst 1, 1) := dk_4 (dk_at dksX1_solution_0 14 rfl rfl)
theorem dX1_solution_15 : decode cX1_solution 15 = .ok (.goto 4, 3) := dk_167 0 4 (dk_at dksX1_solution_0 15 rfl rfl)
theorem dX1_solution_18 : decode cX1_solution 18 = .ok (.iconst 0, 1) := dk_3 (dk_at dksX1_solution_0 18 rfl rfl)
theorem dX1_solution_19 : decode cX1_solution 19 = .ok (.invokestatic 169, 3) := dk_184 0 169 (dk_at dksX1_solution_0 19 rfl rfl)
theorem dX1_solution_22 : decode cX1_solution 22 = .ok (.aload_n 0, 1) := dk_42 (dk_at dksX1_solution_0 22 rfl rfl)
theorem dX1_solution_23 : decode cX1_solution 23 = .ok (.getfield 106, 3) := dk_180 0 106 (dk_at dksX1_solution_1 0 rfl rfl)
theorem dX1_solution_26 : decode cX1_solution 26 = .ok (.iload_n 1, 1) := dk_27 (dk_at dksX1_solution_1 3 rfl rfl)
theorem dX1_solution_27 : decode cX1_solution 27 = .ok (.iaload, 1) := dk_46 (dk_at dksX1_solution_1 4 rfl rfl)
theorem dX1_solution_28 : decode cX1_solution 28 = .ok (.ireturn, 1) := dk_172 (dk_at dksX1_solution_1 5 rfl rfl)
def dkwX1_solutions_1 : List UInt8 := [184, 0, 169, 27, 172]
abbrev dktX1_solutions_1 : List UInt8 := dkwX1_solutions_1 ++ []
def dkwX1_solutions_0 : List UInt8 := [42, 182, 1, 209, 42, 4, 188, 10, 182, 1, 212, 60, 27, 2, 159, 0, 7, 4, 167, 0, 4, 3]
abbrev dktX1_solutions_0 : List UInt8 := dkwX1_solutions_0 ++ dktX1_solutions_1
theorem dksX1_solutions_0 : cX1_solutions.data.toList.drop 0 = dktX1_solutions_0 := by decide +kernel
theorem dksX1_solutions_1 : cX1_solutions.data.toList.drop 22 = dktX1_solutions_1 := dk_seg dksX1_solutions_0 22 rfl rfl
theorem dX1_solutions_0 : decode cX1_solutions 0 = .ok (.aload_n 0, 1) := dk_42 (dk_at dksX1_solutions_0 0 rfl rfl)
theorem dX1_solutions_1 : decode cX1_solutions 1 = .ok (.invokevirtual 465, 3) := dk_182 1 209 (dk_at dksX1_solutions_0 1 rfl rfl)
theorem dX1_solutions_4 : decode cX1_solutions 4 = .ok (.aload_n 0, 1) := dk_42 (dk_at dksX1_solutions_0 4 rfl rfl)
theorem dX1_solutions_5 : decode cX1_solutions 5 = .ok (.iconst 1, 1) := dk_4 (dk_at dksX1_solutions_0 5 rfl rfl)
theorem dX1_solutions_6 : decode cX1_solutions 6 = .ok (.newarray .int, 2) := dk_188_10 (dk_at dksX1_solutions_0 6 rfl rfl)
theorem dX1_solutions_8 : decode cX1_solutions 8 = .ok (.invokevirtual 468, 3) := dk_182 1 212 (dk_at dksX1_solutions_0 8 rfl rfl)
theorem dX1_solutions_11 : decode cX1_solutions 11 = .ok (.istore_n 1, 1) := dk_60 (dk_at dksX1_solutions_0 11 rfl rfl)
theorem dX1_solutions_12 : decode cX1_solutions 12 = .ok (.iload_n 1, 1) := dk_27 (dk_at dksX1_solutions_0 12 rfl rfl)
theorem dX1_solutions_13 : decode cX1_solutions 13 = .ok (.iconst (-1), 1) := dk_2 (dk_at dksX1_solutions_0 13 rfl rfl)
theorem dX1_solutions_14 : decode cX1_solutions 14 = .ok (.if_icmp .eq 7, 3) := dk_159 0 7 (dk_at dksX1_solutions_0 14 rfl rfl)
theorem dX1_solutions_17 : decode cX1_solutions 17 = .ok (.iconst 1, 1) := dk_4 (dk_at dksX1_solutions_0 17 rfl rfl)
theorem dX1_solutions_18 : decode cX1_solutions 18 = .ok (.goto 4, 3) := dk_167 0 4 (dk_at dksX1_solutions_0 18 rfl rfl)
theorem dX1_solutions_21 : decode cX1_solutions 21 = .ok (.iconst 0, 1) := dk_3 (dk_at dksX1_solutions_0 21 rfl rfl)
theorem dX1_solutions_22 : decode cX1_solutions 22 = .ok (.invokestatic 169, 3) := dk_184 0 169 (dk_at dksX1_solutions_1 0 rfl rfl)
theorem dX1_solutions_25 : decode cX1_solutions 25 = .ok (.iload_n 1, 1) := dk_27 (dk_at dksX1_solutions_1 3 rfl rfl)
theorem dX1_solutions_26 : decode cX1_solutions 26 = .ok (.ireturn, 1) := dk_172 (dk_at dksX1_solutions_1 4 rfl rfl)
def dkwX1_countFrom_7 : List UInt8 := [167, 0, 8, 21, 5, 21, 6, 96, 172]
abbrev dktX1_countFrom_7 : List UInt8 := dkwX1_countFrom_7 ++ []
def dkwX1_countFrom_6 : List UInt8 := [43, 182, 1, 212, 54, 6, 42, 180, 0, 100, 21, 4, 181, 1, 60, 21, 6, 2, 160, 0, 7, 2]
abbrev dktX1_countFrom_6 : List UInt8 := dkwX1_countFrom_6 ++ dktX1_countFrom_7
def dkwX1_countFrom_5 : List UInt8 := [181, 1, 60, 42, 180, 0, 100, 28, 29, 3, 182, 1, 130, 21, 5, 2, 160, 0, 7, 2, 167, 0, 8, 42]
abbrev dktX1_countFrom_5 : List UInt8 := dkwX1_countFrom_5 ++ dktX1_countFrom_6
def dkwX1_countFrom_4 : List UInt8 := [180, 0, 100, 28, 29, 4, 182, 1, 130, 42, 43, 182, 1, 212, 54, 5, 42, 180, 0, 100, 21, 4]
abbrev dktX1_countFrom_4 : List UInt8 := dkwX1_countFrom_4 ++ dktX1_countFrom_5
def dkwX1_countFrom_3 : List UInt8 := [172, 42, 180, 0, 83, 180, 1, 42, 28, 46, 184, 1, 137, 62, 42, 180, 0, 100, 180, 1, 60, 54, 4, 42]
abbrev dktX1_countFrom_3 : List UInt8 := dkwX1_countFrom_3 ++ dktX1_countFrom_4
def dkwX1_countFrom_2 : List UInt8 := [182, 1, 190, 61, 28, 2, 160, 0, 19, 42, 180, 0, 83, 180, 1, 88, 153, 0, 7, 3, 167, 0, 4, 4]
abbrev dktX1_countFrom_2 : List UInt8 := dkwX1_countFrom_2 ++ dktX1_countFrom_3
def dkwX1_countFrom_1 : List UInt8 := [182, 1, 177, 42, 180, 0, 83, 180, 1, 88, 153, 0, 7, 2, 167, 0, 13, 42, 42, 180, 0, 83, 3, 3]
abbrev dktX1_countFrom_1 : List UInt8 := dkwX1_countFrom_1 ++ dktX1_countFrom_2
def dkwX1_countFrom_0 : List UInt8 := [43, 3, 46, 17, 1, 144, 160, 0, 5, 2, 172, 43, 3, 92, 46, 4, 96, 79, 42, 42, 180, 0, 100]
abbrev dktX1_countFrom_0 : List UInt8 := dkwX1_countFrom_0 ++ dktX1_countFrom_1
theorem dksX1_countFrom_0 : cX1_countFrom.data.toList.drop 0 = dktX1_countFrom_0 := by decide +kernel
theorem dksX1_countFrom_1 : cX1_countFrom.data.toList.drop 23 = dktX1_countFrom_1 := dk_seg dksX1_countFrom_0 23 rfl rfl
theorem dksX1_countFrom_2 : cX1_countFrom.data.toList.drop 47 = dktX1_countFrom_2 := dk_seg dksX1_countFrom_1 24 rfl rfl
theorem dksX1_countFrom_3 : cX1_countFrom.data.toList.drop 71 = dktX1_countFrom_3 := dk_seg dksX1_countFrom_2 24 rfl rfl
theorem dksX1_countFrom_4 : cX1_countFrom.data.toList.drop 95 = dktX1_countFrom_4 := dk_seg dksX1_countFrom_3 24 rfl rfl
theorem dksX1_countFrom_5 : cX1_countFrom.data.toList.drop 117 = dktX1_countFrom_5 := dk_seg dksX1_countFrom_4 22 rfl rfl
theorem dksX1_countFrom_6 : cX1_countFrom.data.toList.drop 141 = dktX1_countFrom_6 := dk_seg dksX1_countFrom_5 24 rfl rfl
theorem dksX1_countFrom_7 : cX1_countFrom.data.toList.drop 163 = dktX1_countFrom_7 := dk_seg dksX1_countFrom_6 22 rfl rfl
theorem dX1_countFrom_0 : decode cX1_countFrom 0 = .ok (.aload_n 1, 1) := dk_43 (dk_at dksX1_countFrom_0 0 rfl rfl)
theorem dX1_countFrom_1 : decode cX1_countFrom 1 = .ok (.iconst 0, 1) := dk_3 (dk_at dksX1_countFrom_0 1 rfl rfl)
theorem dX1_countFrom_2 : decode cX1_countFrom 2 = .ok (.iaload, 1) := dk_46 (dk_at dksX1_countFrom_0 2 rfl rfl)
theorem dX1_countFrom_3 : decode cX1_countFrom 3 = .ok (.sipush 400, 3) := dk_17 1 144 (dk_at dksX1_countFrom_0 3 rfl rfl)
theorem dX1_countFrom_6 : decode cX1_countFrom 6 = .ok (.if_icmp .ne 5, 3) := dk_160 0 5 (dk_at dksX1_countFrom_0 6 rfl rfl)
theorem dX1_countFrom_9 : decode cX1_countFrom 9 = .ok (.iconst (-1), 1) := dk_2 (dk_at dksX1_countFrom_0 9 rfl rfl)
theorem dX1_countFrom_10 : decode cX1_countFrom 10 = .ok (.ireturn, 1) := dk_172 (dk_at dksX1_countFrom_0 10 rfl rfl)
theorem dX1_countFrom_11 : decode cX1_countFrom 11 = .ok (.aload_n 1, 1) := dk_43 (dk_at dksX1_countFrom_0 11 rfl rfl)
theorem dX1_countFrom_12 : decode cX1_countFrom 12 = .ok (.iconst 0, 1) := dk_3 (dk_at dksX1_countFrom_0 12 rfl rfl)
theorem dX1_countFrom_13 : decode cX1_countFrom 13 = .ok (.dup2, 1) := dk_92 (dk_at dksX1_countFrom_0 13 rfl rfl)
theorem dX1_countFrom_14 : decode cX1_countFrom 14 = .ok (.iaload, 1) := dk_46 (dk_at dksX1_countFrom_0 14 rfl rfl)
theorem dX1_countFrom_15 : decode cX1_countFrom 15 = .ok (.iconst 1, 1) := dk_4 (dk_at dksX1_countFrom_0 15 rfl rfl)
theorem dX1_countFrom_16 : decode cX1_countFrom 16 = .ok (.iadd, 1) := dk_96 (dk_at dksX1_countFrom_0 16 rfl rfl)
theorem dX1_countFrom_17 : decode cX1_countFrom 17 = .ok (.iastore, 1) := dk_79 (dk_at dksX1_countFrom_0 17 rfl rfl)
theorem dX1_countFrom_18 : decode cX1_countFrom 18 = .ok (.aload_n 0, 1) := dk_42 (dk_at dksX1_countFrom_0 18 rfl rfl)
theorem dX1_countFrom_19 : decode cX1_countFrom 19 = .ok (.aload_n 0, 1) := dk_42 (dk_at dksX1_countFrom_0 19 rfl rfl)
theorem dX1_countFrom_20 : decode cX1_countFrom 20 = .ok (.getfield 100, 3) := dk_180 0 100 (dk_at dksX1_countFrom_0 20 rfl rfl)
theorem dX1_countFrom_23 : decode cX1_countFrom 23 = .ok (.invokevirtual 433, 3) := dk_182 1 177 (dk_at dksX1_countFrom_1 0 rfl rfl)
theorem dX1_countFrom_26 : decode cX1_countFrom 26 = .ok (.aload_n 0, 1) := dk_42 (dk_at dksX1_countFrom_1 3 rfl rfl)
theorem dX1_countFrom_27 : decode cX1_countFrom 27 = .ok (.getfield 83, 3) := dk_180 0 83 (dk_at dksX1_countFrom_1 4 rfl rfl)
theorem dX1_countFrom_30 : decode cX1_countFrom 30 = .ok (.getfield 344, 3) := dk_180 1 88 (dk_at dksX1_countFrom_1 7 rfl rfl)
theorem dX1_countFrom_33 : decode cX1_countFrom 33 = .ok (.ifCond .eq 7, 3) := dk_153 0 7 (dk_at dksX1_countFrom_1 10 rfl rfl)
theorem dX1_countFrom_36 : decode cX1_countFrom 36 = .ok (.iconst (-1), 1) := dk_2 (dk_at dksX1_countFrom_1 13 rfl rfl)
theorem dX1_countFrom_37 : decode cX1_countFrom 37 = .ok (.goto 13, 3) := dk_167 0 13 (dk_at dksX1_countFrom_1 14 rfl rfl)
theorem dX1_countFrom_40 : decode cX1_countFrom 40 = .ok (.aload_n 0, 1) := dk_42 (dk_at dksX1_countFrom_1 17 rfl rfl)
theorem dX1_countFrom_41 : decode cX1_countFrom 41 = .ok (.aload_n 0, 1) := dk_42 (dk_at dksX1_countFrom_1 18 rfl rfl)
theorem dX1_countFrom_42 : decode cX1_countFrom 42 = .ok (.getfield 83, 3) := dk_180 0 83 (dk_at dksX1_countFrom_1 19 rfl rfl)
theorem dX1_countFrom_45 : decode cX1_countFrom 45 = .ok (.iconst 0, 1) := dk_3 (dk_at dksX1_countFrom_1 22 rfl rfl)
theorem dX1_countFrom_46 : decode cX1_countFrom 46 = .ok (.iconst 0, 1) := dk_3 (dk_at dksX1_countFrom_1 23 rfl rfl)
theorem dX1_countFrom_47 : decode cX1_countFrom 47 = .ok (.invokevirtual 446, 3) := dk_182 1 190 (dk_at dksX1_countFrom_2 0 rfl rfl)
theorem dX1_countFrom_50 : decode cX1_countFrom 50 = .ok (.istore_n 2, 1) := dk_61 (dk_at dksX1_countFrom_2 3 rfl rfl)
theorem dX1_countFrom_51 : decode cX1_countFrom 51 = .ok (.iload_n 2, 1) := dk_28 (dk_at dksX1_countFrom_2 4 rfl rfl)
theorem dX1_countFrom_52 : decode cX1_countFrom 52 = .ok (.iconst (-1), 1) := dk_2 (dk_at dksX1_countFrom_2 5 rfl rfl)
theorem dX1_countFrom_53 : decode cX1_countFrom 53 = .ok (.if_icmp .ne 19, 3) := dk_160 0 19 (dk_at dksX1_countFrom_2 6 rfl rfl)
theorem dX1_countFrom_56 : decode cX1_countFrom 56 = .ok (.aload_n 0, 1) := dk_42 (dk_at dksX1_countFrom_2 9 rfl rfl)
theorem dX1_countFrom_57 : decode cX1_countFrom 57 = .ok (.getfield 83, 3) := dk_180 0 83 (dk_at dksX1_countFrom_2 10 rfl rfl)
theorem dX1_countFrom_60 : decode cX1_countFrom 60 = .ok (.getfield 344, 3) := dk_180 1 88 (dk_at dksX1_countFrom_2 13 rfl rfl)
theorem dX1_countFrom_63 : decode cX1_countFrom 63 = .ok (.ifCond .eq 7, 3) := dk_153 0 7 (dk_at dksX1_countFrom_2 16 rfl rfl)
theorem dX1_countFrom_66 : decode cX1_countFrom 66 = .ok (.iconst 0, 1) := dk_3 (dk_at dksX1_countFrom_2 19 rfl rfl)
theorem dX1_countFrom_67 : decode cX1_countFrom 67 = .ok (.goto 4, 3) := dk_167 0 4 (dk_at dksX1_countFrom_2 20 rfl rfl)
theorem dX1_countFrom_70 : decode cX1_countFrom 70 = .ok (.iconst 1, 1) := dk_4 (dk_at dksX1_countFrom_2 23 rfl rfl)
theorem dX1_countFrom_71 : decode cX1_countFrom 71 = .ok (.ireturn, 1) := dk_172 (dk_at dksX1_countFrom_3 0 rfl rfl)
theorem dX1_countFrom_72 : decode cX1_countFrom 72 = .ok (.aload_n 0, 1) := dk_42 (dk_at dksX1_countFrom_3 1 rfl rfl)
theorem dX1_countFrom_73 : decode cX1_countFrom 73 = .ok (.getfield 83, 3) := dk_180 0 83 (dk_at dksX1_countFrom_3 2 rfl rfl)
theorem dX1_countFrom_76 : decode cX1_countFrom 76 = .ok (.getfield 298, 3) := dk_180 1 42 (dk_at dksX1_countFrom_3 5 rfl rfl)
theorem dX1_countFrom_79 : decode cX1_countFrom 79 = .ok (.iload_n 2, 1) := dk_28 (dk_at dksX1_countFrom_3 8 rfl rfl)
theorem dX1_countFrom_80 : decode cX1_countFrom 80 = .ok (.iaload, 1) := dk_46 (dk_at dksX1_countFrom_3 9 rfl rfl)
theorem dX1_countFrom_81 : decode cX1_countFrom 81 = .ok (.invokestatic 393, 3) := dk_184 1 137 (dk_at dksX1_countFrom_3 10 rfl rfl)
theorem dX1_countFrom_84 : decode cX1_countFrom 84 = .ok (.istore_n 3, 1) := dk_62 (dk_at dksX1_countFrom_3 13 rfl rfl)
theorem dX1_countFrom_85 : decode cX1_countFrom 85 = .ok (.aload_n 0, 1) := dk_42 (dk_at dksX1_countFrom_3 14 rfl rfl)
theorem dX1_countFrom_86 : decode cX1_countFrom 86 = .ok (.getfield 100, 3) := dk_180 0 100 (dk_at dksX1_countFrom_3 15 rfl rfl)
theorem dX1_countFrom_89 : decode cX1_countFrom 89 = .ok (.getfield 316, 3) := dk_180 1 60 (dk_at dksX1_countFrom_3 18 rfl rfl)
theorem dX1_countFrom_92 : decode cX1_countFrom 92 = .ok (.istore 4, 2) := dk_54 4 (dk_at dksX1_countFrom_3 21 rfl rfl)
theorem dX1_countFrom_94 : decode cX1_countFrom 94 = .ok (.aload_n 0, 1) := dk_42 (dk_at dksX1_countFrom_3 23 rfl rfl)
theorem dX1_countFrom_95 : decode cX1_countFrom 95 = .ok (.getfield 100, 3) := dk_180 0 100 (dk_at dksX1_countFrom_4 0 rfl rfl)
theorem dX1_countFrom_98 : decode cX1_countFrom 98 = .ok (.iload_n 2, 1) := dk_28 (dk_at dksX1_countFrom_4 3 rfl rfl)
theorem dX1_countFrom_99 : decode cX1_countFrom 99 = .ok (.iload_n 3, 1) := dk_29 (dk_at dksX1_countFrom_4 4 rfl rfl)
theorem dX1_countFrom_100 : decode cX1_countFrom 100 = .ok (.iconst 1, 1) := dk_4 (dk_at dksX1_countFrom_4 5 rfl rfl)
theorem dX1_countFrom_101 : decode cX1_countFrom 101 = .ok (.invokevirtual 386, 3) := dk_182 1 130 (dk_at dksX1_countFrom_4 6 rfl rfl)
theorem dX1_countFrom_104 : decode cX1_countFrom 104 = .ok (.aload_n 0, 1) := dk_42 (dk_at dksX1_countFrom_4 9 rfl rfl)
theorem dX1_countFrom_105 : decode cX1_countFrom 105 = .ok (.aload_n 1, 1) := dk_43 (dk_at dksX1_countFrom_4 10 rfl rfl)
theorem dX1_countFrom_106 : decode cX1_countFrom 106 = .ok (.invokevirtual 468, 3) := dk_182 1 212 (dk_at dksX1_countFrom_4 11 rfl rfl)
theorem dX1_countFrom_109 : decode cX1_countFrom 109 = .ok (.istore 5, 2) := dk_54 5 (dk_at dksX1_countFrom_4 14 rfl rfl)
theorem dX1_countFrom_111 : decode cX1_countFrom 111 = .ok (.aload_n 0, 1) := dk_42 (dk_at dksX1_countFrom_4 16 rfl rfl)
theorem dX1_countFrom_112 : decode cX1_countFrom 112 = .ok (.getfield 100, 3) := dk_180 0 100 (dk_at dksX1_countFrom_4 17 rfl rfl)
theorem dX1_countFrom_115 : decode cX1_countFrom 115 = .ok (.iload 4, 2) := dk_21 4 (dk_at dksX1_countFrom_4 20 rfl rfl)
theorem dX1_countFrom_117 : decode cX1_countFrom 117 = .ok (.putfield 316, 3) := dk_181 1 60 (dk_at dksX1_countFrom_5 0 rfl rfl)
theorem dX1_countFrom_120 : decode cX1_countFrom 120 = .ok (.aload_n 0, 1) := dk_42 (dk_at dksX1_countFrom_5 3 rfl rfl)
theorem dX1_countFrom_121 : decode cX1_countFrom 121 = .ok (.getfield 100, 3) := dk_180 0 100 (dk_at dksX1_countFrom_5 4 rfl rfl)
theorem dX1_countFrom_124 : decode cX1_countFrom 124 = .ok (.iload_n 2, 1) := dk_28 (dk_at dksX1_countFrom_5 7 rfl rfl)
theorem dX1_countFrom_125 : decode cX1_countFrom 125 = .ok (.iload_n 3, 1) := dk_29 (dk_at dksX1_countFrom_5 8 rfl rfl)
theorem dX1_countFrom_126 : decode cX1_countFrom 126 = .ok (.iconst 0, 1) := dk_3 (dk_at dksX1_countFrom_5 9 rfl rfl)
theorem dX1_countFrom_127 : decode cX1_countFrom 127 = .ok (.invokevirtual 386, 3) := dk_182 1 130 (dk_at dksX1_countFrom_5 10 rfl rfl)
theorem dX1_countFrom_130 : decode cX1_countFrom 130 = .ok (.iload 5, 2) := dk_21 5 (dk_at dksX1_countFrom_5 13 rfl rfl)
theorem dX1_countFrom_132 : decode cX1_countFrom 132 = .ok (.iconst (-1), 1) := dk_2 (dk_at dksX1_countFrom_5 15 rfl rfl)
theorem dX1_countFrom_133 : decode cX1_countFrom 133 = .ok (.if_icmp .ne 7, 3) := dk_160 0 7 (dk_at dksX1_countFrom_5 16 rfl rfl)
theorem dX1_countFrom_136 : decode cX1_countFrom 136 = .ok (.iconst (-1), 1) := dk_2 (dk_at dksX1_countFrom_5 19 rfl rfl)
theorem dX1_countFrom_137 : decode cX1_countFrom 137 = .ok (.goto 8, 3) := dk_167 0 8 (dk_at dksX1_countFrom_5 20 rfl rfl)
theorem dX1_countFrom_140 : decode cX1_countFrom 140 = .ok (.aload_n 0, 1) := dk_42 (dk_at dksX1_countFrom_5 23 rfl rfl)
theorem dX1_countFrom_141 : decode cX1_countFrom 141 = .ok (.aload_n 1, 1) := dk_43 (dk_at dksX1_countFrom_6 0 rfl rfl)
theorem dX1_countFrom_142 : decode cX1_countFrom 142 = .ok (.invokevirtual 468, 3) := dk_182 1 212 (dk_at dksX1_countFrom_6 1 rfl rfl)
theorem dX1_countFrom_145 : decode cX1_countFrom 145 = .ok (.istore 6, 2) := dk_54 6 (dk_at dksX1_countFrom_6 4 rfl rfl)
theorem dX1_countFrom_147 : decode cX1_countFrom 147 = .ok (.aload_n 0, 1) := dk_42 (dk_at dksX1_countFrom_6 6 rfl rfl)
theorem dX1_countFrom_148 : decode cX1_countFrom 148 = .ok (.getfield 100, 3) := dk_180 0 100 (dk_at dksX1_countFrom_6 7 rfl rfl)
theorem dX1_countFrom_151 : decode cX1_countFrom 151 = .ok (.iload 4, 2) := dk_21 4 (dk_at dksX1_countFrom_6 10 rfl rfl)
theorem dX1_countFrom_153 : decode cX1_countFrom 153 = .ok (.putfield 316, 3) := dk_181 1 60 (dk_at dksX1_countFrom_6 12 rfl rfl)
theorem dX1_countFrom_156 : decode cX1_countFrom 156 = .ok (.iload 6, 2) := dk_21 6 (dk_at dksX1_countFrom_6 15 rfl rfl)
theorem dX1_countFrom_158 : decode cX1_countFrom 158 = .ok (.iconst (-1), 1) := dk_2 (dk_at dksX1_countFrom_6 17 rfl rfl)
theorem dX1_countFrom_159 : decode cX1_countFrom 159 = .ok (.if_icmp .ne 7, 3) := dk_160 0 7 (dk_at dksX1_countFrom_6 18 rfl rfl)
theorem dX1_countFrom_162 : decode cX1_countFrom 162 = .ok (.iconst (-1), 1) := dk_2 (dk_at dksX1_countFrom_6 21 rfl rfl)
theorem dX1_countFrom_163 : decode cX1_countFrom 163 = .ok (.goto 8, 3) := dk_167 0 8 (dk_at dksX1_countFrom_7 0 rfl rfl)
theorem dX1_countFrom_166 : decode cX1_countFrom 166 = .ok (.iload 5, 2) := dk_21 5 (dk_at dksX1_countFrom_7 3 rfl rfl)
theorem dX1_countFrom_168 : decode cX1_countFrom 168 = .ok (.iload 6, 2) := dk_21 6 (dk_at dksX1_countFrom_7 5 rfl rfl)
theorem dX1_countFrom_170 : decode cX1_countFrom 170 = .ok (.iadd, 1) := dk_96 (dk_at dksX1_countFrom_7 7 rfl rfl)
theorem dX1_countFrom_171 : decode cX1_countFrom 171 = .ok (.ireturn, 1) := dk_172 (dk_at dksX1_countFrom_7 8 rfl rfl)
def dkwX1_solutionsByAll_1 : List UInt8 := [3, 182, 1, 216, 172]
abbrev dktX1_solutionsByAll_1 : List UInt8 := dkwX1_solutionsByAll_1 ++ []
def dkwX1_solutionsByAll_0 : List UInt8 := [42, 182, 1, 219, 20, 1, 223, 148, 157, 0, 7, 4, 167, 0, 4, 3, 184, 0, 169, 42, 182, 1, 209, 42]
abbrev dktX1_solutionsByAll_0 : List UInt8 := dkwX1_solutionsByAll_0 ++ dktX1_solutionsByAll_1
theorem dksX1_solutionsByAll_0 : cX1_solutionsByAll.data.toList.drop 0 = dktX1_solutionsByAll_0 := by decide +kernel
theorem dksX1_solutionsByAll_1 : cX1_solutionsByAll.data.toList.drop 24 = dktX1_solutionsByAll_1 := dk_seg dksX1_solutionsByAll_0 24 rfl rfl
theorem dX1_solutionsByAll_0 : decode cX1_solutionsByAll 0 = .ok (.aload_n 0, 1) := dk_42 (dk_at dksX1_solutionsByAll_0 0 rfl rfl)
theorem dX1_solutionsByAll_1 : decode cX1_solutionsByAll 1 = .ok (.invokevirtual 475, 3) := dk_182 1 219 (dk_at dksX1_solutionsByAll_0 1 rfl rfl)
theorem dX1_solutionsByAll_4 : decode cX1_solutionsByAll 4 = .ok (.ldc2_w 479, 3) := dk_20 1 223 (dk_at dksX1_solutionsByAll_0 4 rfl rfl)
theorem dX1_solutionsByAll_7 : decode cX1_solutionsByAll 7 = .ok (.lcmp, 1) := dk_148 (dk_at dksX1_solutionsByAll_0 7 rfl rfl)
theorem dX1_solutionsByAll_8 : decode cX1_solutionsByAll 8 = .ok (.ifCond .gt 7, 3) := dk_157 0 7 (dk_at dksX1_solutionsByAll_0 8 rfl rfl)
theorem dX1_solutionsByAll_11 : decode cX1_solutionsByAll 11 = .ok (.iconst 1, 1) := dk_4 (dk_at dksX1_solutionsByAll_0 11 rfl rfl)
theorem dX1_solutionsByAll_12 : decode cX1_solutionsByAll 12 = .ok (.goto 4, 3) := dk_167 0 4 (dk_at dksX1_solutionsByAll_0 12 rfl rfl)
theorem dX1_solutionsByAll_15 : decode cX1_solutionsByAll 15 = .ok (.iconst 0, 1) := dk_3 (dk_at dksX1_solutionsByAll_0 15 rfl rfl)
theorem dX1_solutionsByAll_16 : decode cX1_solutionsByAll 16 = .ok (.invokestatic 169, 3) := dk_184 0 169 (dk_at dksX1_solutionsByAll_0 16 rfl rfl)
theorem dX1_solutionsByAll_19 : decode cX1_solutionsByAll 19 = .ok (.aload_n 0, 1) := dk_42 (dk_at dksX1_solutionsByAll_0 19 rfl rfl)
theorem dX1_solutionsByAll_20 : decode cX1_solutionsByAll 20 = .ok (.invokevirtual 465, 3) := dk_182 1 209 (dk_at dksX1_solutionsByAll_0 20 rfl rfl)
theorem dX1_solutionsByAll_23 : decode cX1_solutionsByAll 23 = .ok (.aload_n 0, 1) := dk_42 (dk_at dksX1_solutionsByAll_0 23 rfl rfl)
theorem dX1_solutionsByAll_24 : decode cX1_solutionsByAll 24 = .ok (.iconst 0, 1) := dk_3 (dk_at dksX1_solutionsByAll_1 0 rfl rfl)
theorem dX1_solutionsByAll_25 : decode cX1_solutionsByAll 25 = .ok (.invokevirtual 472, 3) := dk_182 1 216 (dk_at dksX1_solutionsByAll_1 1 rfl rfl)
theorem dX1_solutionsByAll_28 : decode cX1_solutionsByAll 28 = .ok (.ireturn, 1) := dk_172 (dk_at dksX1_solutionsByAll_1 4 rfl rfl)
def dkwX1_choices_2 : List UInt8 := [184, 1, 149, 133, 105, 64, 132, 3, 1, 167, 255, 205, 31, 173]
abbrev dktX1_choices_2 : List UInt8 := dkwX1_choices_2 ++ []
def dkwX1_choices_1 : List UInt8 := [153, 0, 7, 10, 167, 0, 23, 42, 180, 0, 27, 29, 185, 0, 141, 2, 0, 192, 0, 145, 182, 1, 45]
abbrev dktX1_choices_1 : List UInt8 := dkwX1_choices_1 ++ dktX1_choices_2
def dkwX1_choices_0 : List UInt8 := [10, 64, 3, 62, 29, 42, 180, 0, 27, 185, 0, 131, 1, 0, 162, 0, 44, 31, 42, 29, 182, 1, 70]
abbrev dktX1_choices_0 : List UInt8 := dkwX1_choices_0 ++ dktX1_choices_1
theorem dksX1_choices_0 : cX1_choices.data.toList.drop 0 = dktX1_choices_0 := by decide +kernel
theorem dksX1_choices_1 : cX1_choices.data.toList.drop 23 = dktX1_choices_1 := dk_seg dksX1_choices_0 23 rfl rfl
theorem dksX1_choices_2 : cX1_choices.data.toList.drop 46 = dktX1_choices_2 := dk_seg dksX1_choices_1 23 rfl rfl
theorem dX1_choices_0 : decode cX1_choices 0 = .ok (.lconst 1, 1) := dk_10 (dk_at dksX1_choices_0 0 rfl rfl)
theorem dX1_choices_1 : decode cX1_choices 1 = .ok (.lstore_n 1, 1) := dk_64 (dk_at dksX1_choices_0 1 rfl rfl)
theorem dX1_choices_2 : decode cX1_choices 2 = .ok (.iconst 0, 1) := dk_3 (dk_at dksX1_choices_0 2 rfl rfl)
theorem dX1_choices_3 : decode cX1_choices 3 = .ok (.istore_n 3, 1) := dk_62 (dk_at dksX1_choices_0 3 rfl rfl)
theorem dX1_choices_4 : decode cX1_choices 4 = .ok (.iload_n 3, 1) := dk_29 (dk_at dksX1_choices_0 4 rfl rfl)
theorem dX1_choices_5 : decode cX1_choices 5 = .ok (.aload_n 0, 1) := dk_42 (dk_at dksX1_choices_0 5 rfl rfl)
theorem dX1_choices_6 : decode cX1_choices 6 = .ok (.getfield 27, 3) := dk_180 0 27 (dk_at dksX1_choices_0 6 rfl rfl)
theorem dX1_choices_9 : decode cX1_choices 9 = .ok (.invokeinterface 131 1, 5) := by decide +kernel
theorem dX1_choices_14 : decode cX1_choices 14 = .ok (.if_icmp .ge 44, 3) := dk_162 0 44 (dk_at dksX1_choices_0 14 rfl rfl)
theorem dX1_choices_17 : decode cX1_choices 17 = .ok (.lload_n 1, 1) := dk_31 (dk_at dksX1_choices_0 17 rfl rfl)
theorem dX1_choices_18 : decode cX1_choices 18 = .ok (.aload_n 0, 1) := dk_42 (dk_at dksX1_choices_0 18 rfl rfl)
theorem dX1_choices_19 : decode cX1_choices 19 = .ok (.iload_n 3, 1) := dk_29 (dk_at dksX1_choices_0 19 rfl rfl)
theorem dX1_choices_20 : decode cX1_choices 20 = .ok (.invokevirtual 326, 3) := dk_182 1 70 (dk_at dksX1_choices_0 20 rfl rfl)
theorem dX1_choices_23 : decode cX1_choices 23 = .ok (.ifCond .eq 7, 3) := dk_153 0 7 (dk_at dksX1_choices_1 0 rfl rfl)
theorem dX1_choices_26 : decode cX1_choices 26 = .ok (.lconst 1, 1) := dk_10 (dk_at dksX1_choices_1 3 rfl rfl)
theorem dX1_choices_27 : decode cX1_choices 27 = .ok (.goto 23, 3) := dk_167 0 23 (dk_at dksX1_choices_1 4 rfl rfl)
theorem dX1_choices_30 : decode cX1_choices 30 = .ok (.aload_n 0, 1) := dk_42 (dk_at dksX1_choices_1 7 rfl rfl)
theorem dX1_choices_31 : decode cX1_choices 31 = .ok (.getfield 27, 3) := dk_180 0 27 (dk_at dksX1_choices_1 8 rfl rfl)
theorem dX1_choices_34 : decode cX1_choices 34 = .ok (.iload_n 3, 1) := dk_29 (dk_at dksX1_choices_1 11 rfl rfl)
theorem dX1_choices_35 : decode cX1_choices 35 = .ok (.invokeinterface 141 2, 5) := by decide +kernel
theorem dX1_choices_40 : decode cX1_choices 40 = .ok (.checkcast 145, 3) := dk_192 0 145 (dk_at dksX1_choices_1 17 rfl rfl)
theorem dX1_choices_43 : decode cX1_choices 43 = .ok (.invokevirtual 301, 3) := dk_182 1 45 (dk_at dksX1_choices_1 20 rfl rfl)
theorem dX1_choices_46 : decode cX1_choices 46 = .ok (.invokestatic 405, 3) := dk_184 1 149 (dk_at dksX1_choices_2 0 rfl rfl)
theorem dX1_choices_49 : decode cX1_choices 49 = .ok (.i2l, 1) := dk_133 (dk_at dksX1_choices_2 3 rfl rfl)
theorem dX1_choices_50 : decode cX1_choices 50 = .ok (.lmul, 1) := dk_105 (dk_at dksX1_choices_2 4 rfl rfl)
theorem dX1_choices_51 : decode cX1_choices 51 = .ok (.lstore_n 1, 1) := dk_64 (dk_at dksX1_choices_2 5 rfl rfl)
theorem dX1_choices_52 : decode cX1_choices 52 = .ok (.iinc 3 1, 3) := dk_132 3 1 (dk_at dksX1_choices_2 6 rfl rfl)
theorem dX1_choices_55 : decode cX1_choices 55 = .ok (.goto (-51), 3) := dk_167 255 205 (dk_at dksX1_choices_2 9 rfl rfl)
theorem dX1_choices_58 : decode cX1_choices 58 = .ok (.lload_n 1, 1) := dk_31 (dk_at dksX1_choices_2 12 rfl rfl)
theorem dX1_choices_59 : decode cX1_choices 59 = .ok (.lreturn, 1) := dk_173 (dk_at dksX1_choices_2 13 rfl rfl)
def dkwX1_countChoices_5 : List UInt8 := [21, 5, 96, 61, 42, 180, 0, 100, 29, 181, 1, 60, 132, 4, 1, 167, 255, 189, 28, 172]
abbrev dktX1_countChoices_5 : List UInt8 := dkwX1_countChoices_5 ++ []
def dkwX1_countChoices_4 : List UInt8 := [153, 0, 36, 42, 180, 0, 100, 27, 21, 4, 4, 182, 1, 130, 42, 27, 4, 96, 182, 1, 216, 54, 5, 28]
abbrev dktX1_countChoices_4 : List UInt8 := dkwX1_countChoices_4 ++ dktX1_countChoices_5
def dkwX1_countChoices_3 : List UInt8 := [162, 0, 66, 42, 180, 0, 27, 27, 185, 0, 141, 2, 0, 192, 0, 145, 182, 1, 45, 21, 4, 184, 1, 63]
abbrev dktX1_countChoices_3 : List UInt8 := dkwX1_countChoices_3 ++ dktX1_countChoices_4
def dkwX1_countChoices_2 : List UInt8 := [27, 4, 96, 182, 1, 216, 172, 3, 61, 42, 180, 0, 100, 180, 1, 60, 62, 3, 54, 4, 21, 4, 16, 32]
abbrev dktX1_countChoices_2 : List UInt8 := dkwX1_countChoices_2 ++ dktX1_countChoices_3
def dkwX1_countChoices_1 : List UInt8 := [180, 0, 83, 180, 1, 88, 153, 0, 7, 3, 167, 0, 4, 4, 172, 42, 27, 182, 1, 70, 153, 0, 11, 42]
abbrev dktX1_countChoices_1 : List UInt8 := dkwX1_countChoices_1 ++ dktX1_countChoices_2
def dkwX1_countChoices_0 : List UInt8 := [27, 42, 180, 0, 27, 185, 0, 131, 1, 0, 160, 0, 27, 42, 42, 180, 0, 100, 182, 1, 177, 42]
abbrev dktX1_countChoices_0 : List UInt8 := dkwX1_countChoices_0 ++ dktX1_countChoices_1
theorem dksX1_countChoices_0 : cX1_countChoices.data.toList.drop 0 = dktX1_countChoices_0 := by decide +kernel
theorem dksX1_countChoices_1 : cX1_countChoices.data.toList.drop 22 = dktX1_countChoices_1 := dk_seg dksX1_countChoices_0 22 rfl rfl
theorem dksX1_countChoices_2 : cX1_countChoices.data.toList.drop 46 = dktX1_countChoices_2 := dk_seg dksX1_countChoices_1 24 rfl rfl
theorem dksX1_countChoices_3 : cX1_countChoices.data.toList.drop 70 = dktX1_countChoices_3 := dk_seg dksX1_countChoices_2 24 rfl rfl
theorem dksX1_countChoices_4 : cX1_countChoices.data.toList.drop 94 = dktX1_countChoices_4 := dk_seg dksX1_countChoices_3 24 rfl rfl
theorem dksX1_countChoices_5 : cX1_countChoices.data.toList.drop 118 = dktX1_countChoices_5 := dk_seg dksX1_countChoices_4 24 rfl rfl
theorem dX1_countChoices_0 : decode cX1_countChoices 0 = .ok (.iload_n 1, 1) := dk_27 (dk_at dksX1_countChoices_0 0 rfl rfl)
theorem dX1_countChoices_1 : decode cX1_countChoices 1 = .ok (.aload_n 0, 1) := dk_42 (dk_at dksX1_countChoices_0 1 rfl rfl)
theorem dX1_countChoices_2 : decode cX1_countChoices 2 = .ok (.getfield 27, 3) := dk_180 0 27 (dk_at dksX1_countChoices_0 2 rfl rfl)
theorem dX1_countChoices_5 : decode cX1_countChoices 5 = .ok (.invokeinterface 131 1, 5) := by decide +kernel
theorem dX1_countChoices_10 : decode cX1_countChoices 10 = .ok (.if_icmp .ne 27, 3) := dk_160 0 27 (dk_at dksX1_countChoices_0 10 rfl rfl)
theorem dX1_countChoices_13 : decode cX1_countChoices 13 = .ok (.aload_n 0, 1) := dk_42 (dk_at dksX1_countChoices_0 13 rfl rfl)
theorem dX1_countChoices_14 : decode cX1_countChoices 14 = .ok (.aload_n 0, 1) := dk_42 (dk_at dksX1_countChoices_0 14 rfl rfl)
theorem dX1_countChoices_15 : decode cX1_countChoices 15 = .ok (.getfield 100, 3) := dk_180 0 100 (dk_at dksX1_countChoices_0 15 rfl rfl)
theorem dX1_countChoices_18 : decode cX1_countChoices 18 = .ok (.invokevirtual 433, 3) := dk_182 1 177 (dk_at dksX1_countChoices_0 18 rfl rfl)
theorem dX1_countChoices_21 : decode cX1_countChoices 21 = .ok (.aload_n 0, 1) := dk_42 (dk_at dksX1_countChoices_0 21 rfl rfl)
theorem dX1_countChoices_22 : decode cX1_countChoices 22 = .ok (.getfield 83, 3) := dk_180 0 83 (dk_at dksX1_countChoices_1 0 rfl rfl)
theorem dX1_countChoices_25 : decode cX1_countChoices 25 = .ok (.getfield 344, 3) := dk_180 1 88 (dk_at dksX1_countChoices_1 3 rfl rfl)
theorem dX1_countChoices_28 : decode cX1_countChoices 28 = .ok (.ifCond .eq 7, 3) := dk_153 0 7 (dk_at dksX1_countChoices_1 6 rfl rfl)
theorem dX1_countChoices_31 : decode cX1_countChoices 31 = .ok (.iconst 0, 1) := dk_3 (dk_at dksX1_countChoices_1 9 rfl rfl)
theorem dX1_countChoices_32 : decode cX1_countChoices 32 = .ok (.goto 4, 3) := dk_167 0 4 (dk_at dksX1_countChoices_1 10 rfl rfl)
theorem dX1_countChoices_35 : decode cX1_countChoices 35 = .ok (.iconst 1, 1) := dk_4 (dk_at dksX1_countChoices_1 13 rfl rfl)
theorem dX1_countChoices_36 : decode cX1_countChoices 36 = .ok (.ireturn, 1) := dk_172 (dk_at dksX1_countChoices_1 14 rfl rfl)
theorem dX1_countChoices_37 : decode cX1_countChoices 37 = .ok (.aload_n 0, 1) := dk_42 (dk_at dksX1_countChoices_1 15 rfl rfl)
theorem dX1_countChoices_38 : decode cX1_countChoices 38 = .ok (.iload_n 1, 1) := dk_27 (dk_at dksX1_countChoices_1 16 rfl rfl)
theorem dX1_countChoices_39 : decode cX1_countChoices 39 = .ok (.invokevirtual 326, 3) := dk_182 1 70 (dk_at dksX1_countChoices_1 17 rfl rfl)
theorem dX1_countChoices_42 : decode cX1_countChoices 42 = .ok (.ifCond .eq 11, 3) := dk_153 0 11 (dk_at dksX1_countChoices_1 20 rfl rfl)
theorem dX1_countChoices_45 : decode cX1_countChoices 45 = .ok (.aload_n 0, 1) := dk_42 (dk_at dksX1_countChoices_1 23 rfl rfl)
theorem dX1_countChoices_46 : decode cX1_countChoices 46 = .ok (.iload_n 1, 1) := dk_27 (dk_at dksX1_countChoices_2 0 rfl rfl)
theorem dX1_countChoices_47 : decode cX1_countChoices 47 = .ok (.iconst 1, 1) := dk_4 (dk_at dksX1_countChoices_2 1 rfl rfl)
theorem dX1_countChoices_48 : decode cX1_countChoices 48 = .ok (.iadd, 1) := dk_96 (dk_at dksX1_countChoices_2 2 rfl rfl)
theorem dX1_countChoices_49 : decode cX1_countChoices 49 = .ok (.invokevirtual 472, 3) := dk_182 1 216 (dk_at dksX1_countChoices_2 3 rfl rfl)
theorem dX1_countChoices_52 : decode cX1_countChoices 52 = .ok (.ireturn, 1) := dk_172 (dk_at dksX1_countChoices_2 6 rfl rfl)
theorem dX1_countChoices_53 : decode cX1_countChoices 53 = .ok (.iconst 0, 1) := dk_3 (dk_at dksX1_countChoices_2 7 rfl rfl)
theorem dX1_countChoices_54 : decode cX1_countChoices 54 = .ok (.istore_n 2, 1) := dk_61 (dk_at dksX1_countChoices_2 8 rfl rfl)
theorem dX1_countChoices_55 : decode cX1_countChoices 55 = .ok (.aload_n 0, 1) := dk_42 (dk_at dksX1_countChoices_2 9 rfl rfl)
theorem dX1_countChoices_56 : decode cX1_countChoices 56 = .ok (.getfield 100, 3) := dk_180 0 100 (dk_at dksX1_countChoices_2 10 rfl rfl)
theorem dX1_countChoices_59 : decode cX1_countChoices 59 = .ok (.getfield 316, 3) := dk_180 1 60 (dk_at dksX1_countChoices_2 13 rfl rfl)
theorem dX1_countChoices_62 : decode cX1_countChoices 62 = .ok (.istore_n 3, 1) := dk_62 (dk_at dksX1_countChoices_2 16 rfl rfl)
theorem dX1_countChoices_63 : decode cX1_countChoices 63 = .ok (.iconst 0, 1) := dk_3 (dk_at dksX1_countChoices_2 17 rfl rfl)
theorem dX1_countChoices_64 : decode cX1_countChoices 64 = .ok (.istore 4, 2) := dk_54 4 (dk_at dksX1_countChoices_2 18 rfl rfl)
theorem dX1_countChoices_66 : decode cX1_countChoices 66 = .ok (.iload 4, 2) := dk_21 4 (dk_at dksX1_countChoices_2 20 rfl rfl)
theorem dX1_countChoices_68 : decode cX1_countChoices 68 = .ok (.bipush 32, 2) := dk_16 32 (dk_at dksX1_countChoices_2 22 rfl rfl)
theorem dX1_countChoices_70 : decode cX1_countChoices 70 = .ok (.if_icmp .ge 66, 3) := dk_162 0 66 (dk_at dksX1_countChoices_3 0 rfl rfl)
theorem dX1_countChoices_73 : decode cX1_countChoices 73 = .ok (.aload_n 0, 1) := dk_42 (dk_at dksX1_countChoices_3 3 rfl rfl)
theorem dX1_countChoices_74 : decode cX1_countChoices 74 = .ok (.getfield 27, 3) := dk_180 0 27 (dk_at dksX1_countChoices_3 4 rfl rfl)
theorem dX1_countChoices_77 : decode cX1_countChoices 77 = .ok (.iload_n 1, 1) := dk_27 (dk_at dksX1_countChoices_3 7 rfl rfl)
theorem dX1_countChoices_78 : decode cX1_countChoices 78 = .ok (.invokeinterface 141 2, 5) := by decide +kernel
theorem dX1_countChoices_83 : decode cX1_countChoices 83 = .ok (.checkcast 145, 3) := dk_192 0 145 (dk_at dksX1_countChoices_3 13 rfl rfl)
theorem dX1_countChoices_86 : decode cX1_countChoices 86 = .ok (.invokevirtual 301, 3) := dk_182 1 45 (dk_at dksX1_countChoices_3 16 rfl rfl)
theorem dX1_countChoices_89 : decode cX1_countChoices 89 = .ok (.iload 4, 2) := dk_21 4 (dk_at dksX1_countChoices_3 19 rfl rfl)
theorem dX1_countChoices_91 : decode cX1_countChoices 91 = .ok (.invokestatic 319, 3) := dk_184 1 63 (dk_at dksX1_countChoices_3 21 rfl rfl)
theorem dX1_countChoices_94 : decode cX1_countChoices 94 = .ok (.ifCond .eq 36, 3) := dk_153 0 36 (dk_at dksX1_countChoices_4 0 rfl rfl)
theorem dX1_countChoices_97 : decode cX1_countChoices 97 = .ok (.aload_n 0, 1) := dk_42 (dk_at dksX1_countChoices_4 3 rfl rfl)
theorem dX1_countChoices_98 : decode cX1_countChoices 98 = .ok (.getfield 100, 3) := dk_180 0 100 (dk_at dksX1_countChoices_4 4 rfl rfl)
theorem dX1_countChoices_101 : decode cX1_countChoices 101 = .ok (.iload_n 1, 1) := dk_27 (dk_at dksX1_countChoices_4 7 rfl rfl)
theorem dX1_countChoices_102 : decode cX1_countChoices 102 = .ok (.iload 4, 2) := dk_21 4 (dk_at dksX1_countChoices_4 8 rfl rfl)
theorem dX1_countChoices_104 : decode cX1_countChoices 104 = .ok (.iconst 1, 1) := dk_4 (dk_at dksX1_countChoices_4 10 rfl rfl)
theorem dX1_countChoices_105 : decode cX1_countChoices 105 = .ok (.invokevirtual 386, 3) := dk_182 1 130 (dk_at dksX1_countChoices_4 11 rfl rfl)
theorem dX1_countChoices_108 : decode cX1_countChoices 108 = .ok (.aload_n 0, 1) := dk_42 (dk_at dksX1_countChoices_4 14 rfl rfl)
theorem dX1_countChoices_109 : decode cX1_countChoices 109 = .ok (.iload_n 1, 1) := dk_27 (dk_at dksX1_countChoices_4 15 rfl rfl)
theorem dX1_countChoices_110 : decode cX1_countChoices 110 = .ok (.iconst 1, 1) := dk_4 (dk_at dksX1_countChoices_4 16 rfl rfl)
theorem dX1_countChoices_111 : decode cX1_countChoices 111 = .ok (.iadd, 1) := dk_96 (dk_at dksX1_countChoices_4 17 rfl rfl)
theorem dX1_countChoices_112 : decode cX1_countChoices 112 = .ok (.invokevirtual 472, 3) := dk_182 1 216 (dk_at dksX1_countChoices_4 18 rfl rfl)
theorem dX1_countChoices_115 : decode cX1_countChoices 115 = .ok (.istore 5, 2) := dk_54 5 (dk_at dksX1_countChoices_4 21 rfl rfl)
theorem dX1_countChoices_117 : decode cX1_countChoices 117 = .ok (.iload_n 2, 1) := dk_28 (dk_at dksX1_countChoices_4 23 rfl rfl)
theorem dX1_countChoices_118 : decode cX1_countChoices 118 = .ok (.iload 5, 2) := dk_21 5 (dk_at dksX1_countChoices_5 0 rfl rfl)
theorem dX1_countChoices_120 : decode cX1_countChoices 120 = .ok (.iadd, 1) := dk_96 (dk_at dksX1_countChoices_5 2 rfl rfl)
theorem dX1_countChoices_121 : decode cX1_countChoices 121 = .ok (.istore_n 2, 1) := dk_61 (dk_at dksX1_countChoices_5 3 rfl rfl)
theorem dX1_countChoices_122 : decode cX1_countChoices 122 = .ok (.aload_n 0, 1) := dk_42 (dk_at dksX1_countChoices_5 4 rfl rfl)
theorem dX1_countChoices_123 : decode cX1_countChoices 123 = .ok (.getfield 100, 3) := dk_180 0 100 (dk_at dksX1_countChoices_5 5 rfl rfl)
theorem dX1_countChoices_126 : decode cX1_countChoices 126 = .ok (.iload_n 3, 1) := dk_29 (dk_at dksX1_countChoices_5 8 rfl rfl)
theorem dX1_countChoices_127 : decode cX1_countChoices 127 = .ok (.putfield 316, 3) := dk_181 1 60 (dk_at dksX1_countChoices_5 9 rfl rfl)
theorem dX1_countChoices_130 : decode cX1_countChoices 130 = .ok (.iinc 4 1, 3) := dk_132 4 1 (dk_at dksX1_countChoices_5 12 rfl rfl)
theorem dX1_countChoices_133 : decode cX1_countChoices 133 = .ok (.goto (-67), 3) := dk_167 255 189 (dk_at dksX1_countChoices_5 15 rfl rfl)
theorem dX1_countChoices_136 : decode cX1_countChoices 136 = .ok (.iload_n 2, 1) := dk_28 (dk_at dksX1_countChoices_5 18 rfl rfl)
theorem dX1_countChoices_137 : decode cX1_countChoices 137 = .ok (.ireturn, 1) := dk_172 (dk_at dksX1_countChoices_5 19 rfl rfl)
def dkwX1_minimise_3 : List UInt8 := [187, 0, 116, 89, 21, 4, 21, 5, 183, 1, 228, 83, 177]
abbrev dktX1_minimise_3 : List UInt8 := dkwX1_minimise_3 ++ []
def dkwX1_minimise_2 : List UInt8 := [181, 1, 225, 42, 180, 0, 118, 3, 187, 0, 116, 89, 28, 29, 183, 1, 228, 83, 42, 180, 0, 118, 4]
abbrev dktX1_minimise_2 : List UInt8 := dkwX1_minimise_2 ++ dktX1_minimise_3
def dkwX1_minimise_1 : List UInt8 := [21, 4, 3, 4, 184, 0, 162, 21, 5, 3, 5, 184, 0, 162, 42, 27, 181, 0, 113, 42, 16, 16]
abbrev dktX1_minimise_1 : List UInt8 := dkwX1_minimise_1 ++ dktX1_minimise_2
def dkwX1_minimise_0 : List UInt8 := [42, 27, 182, 0, 158, 87, 42, 27, 3, 182, 0, 244, 28, 3, 4, 184, 0, 162, 29, 3, 5, 184, 0, 162]
abbrev dktX1_minimise_0 : List UInt8 := dkwX1_minimise_0 ++ dktX1_minimise_1
theorem dksX1_minimise_0 : cX1_minimise.data.toList.drop 0 = dktX1_minimise_0 := by decide +kernel
theorem dksX1_minimise_1 : cX1_minimise.data.toList.drop 24 = dktX1_minimise_1 := dk_seg dksX1_minimise_0 24 rfl rfl
theorem dksX1_minimise_2 : cX1_minimise.data.toList.drop 46 = dktX1_minimise_2 := dk_seg dksX1_minimise_1 22 rfl rfl
theorem dksX1_minimise_3 : cX1_minimise.data.toList.drop 69 = dktX1_minimise_3 := dk_seg dksX1_minimise_2 23 rfl rfl
theorem dX1_minimise_0 : decode cX1_minimise 0 = .ok (.aload_n 0, 1) := dk_42 (dk_at dksX1_minimise_0 0 rfl rfl)
theorem dX1_minimise_1 : decode cX1_minimise 1 = .ok (.iload_n 1, 1) := dk_27 (dk_at dksX1_minimise_0 1 rfl rfl)
theorem dX1_minimise_2 : decode cX1_minimise 2 = .ok (.invokevirtual 158, 3) := dk_182 0 158 (dk_at dksX1_minimise_0 2 rfl rfl)
theorem dX1_minimise_5 : decode cX1_minimise 5 = .ok (.pop, 1) := dk_87 (dk_at dksX1_minimise_0 5 rfl rfl)
theorem dX1_minimise_6 : decode cX1_minimise 6 = .ok (.aload_n 0, 1) := dk_42 (dk_at dksX1_minimise_0 6 rfl rfl)
theorem dX1_minimise_7 : decode cX1_minimise 7 = .ok (.iload_n 1, 1) := dk_27 (dk_at dksX1_minimise_0 7 rfl rfl)
theorem dX1_minimise_8 : decode cX1_minimise 8 = .ok (.iconst 0, 1) := dk_3 (dk_at dksX1_minimise_0 8 rfl rfl)
theorem dX1_minimise_9 : decode cX1_minimise 9 = .ok (.invokevirtual 244, 3) := dk_182 0 244 (dk_at dksX1_minimise_0 9 rfl rfl)
theorem dX1_minimise_12 : decode cX1_minimise 12 = .ok (.iload_n 2, 1) := dk_28 (dk_at dksX1_minimise_0 12 rfl rfl)
theorem dX1_minimise_13 : decode cX1_minimise 13 = .ok (.iconst 0, 1) := dk_3 (dk_at dksX1_minimise_0 13 rfl rfl)
theorem dX1_minimise_14 : decode cX1_minimise 14 = .ok (.iconst 1, 1) := dk_4 (dk_at dksX1_minimise_0 14 rfl rfl)
theorem dX1_minimise_15 : decode cX1_minimise 15 = .ok (.invokestatic 162, 3) := dk_184 0 162 (dk_at dksX1_minimise_0 15 rfl rfl)
theorem dX1_minimise_18 : decode cX1_minimise 18 = .ok (.iload_n 3, 1) := dk_29 (dk_at dksX1_minimise_0 18 rfl rfl)
theorem dX1_minimise_19 : decode cX1_minimise 19 = .ok (.iconst 0, 1) := dk_3 (dk_at dksX1_minimise_0 19 rfl rfl)
theorem dX1_minimise_20 : decode cX1_minimise 20 = .ok (.iconst 2, 1) := dk_5 (dk_at dksX1_minimise_0 20 rfl rfl)
theorem dX1_minimise_21 : decode cX1_minimise 21 = .ok (.invokestatic 162, 3) := dk_184 0 162 (dk_at dksX1_minimise_0 21 rfl rfl)
theorem dX1_minimise_24 : decode cX1_minimise 24 = .ok (.iload 4, 2) := dk_21 4 (dk_at dksX1_minimise_1 0 rfl rfl)
theorem dX1_minimise_26 : decode cX1_minimise 26 = .ok (.iconst 0, 1) := dk_3 (dk_at dksX1_minimise_1 2 rfl rfl)
theorem dX1_minimise_27 : decode cX1_minimise 27 = .ok (.iconst 1, 1) := dk_4 (dk_at dksX1_minimise_1 3 rfl rfl)
theorem dX1_minimise_28 : decode cX1_minimise 28 = .ok (.invokestatic 162, 3) := dk_184 0 162 (dk_at dksX1_minimise_1 4 rfl rfl)
theorem dX1_minimise_31 : decode cX1_minimise 31 = .ok (.iload 5, 2) := dk_21 5 (dk_at dksX1_minimise_1 7 rfl rfl)
theorem dX1_minimise_33 : decode cX1_minimise 33 = .ok (.iconst 0, 1) := dk_3 (dk_at dksX1_minimise_1 9 rfl rfl)
theorem dX1_minimise_34 : decode cX1_minimise 34 = .ok (.iconst 2, 1) := dk_5 (dk_at dksX1_minimise_1 10 rfl rfl)
theorem dX1_minimise_35 : decode cX1_minimise 35 = .ok (.invokestatic 162, 3) := dk_184 0 162 (dk_at dksX1_minimise_1 11 rfl rfl)
theorem dX1_minimise_38 : decode cX1_minimise 38 = .ok (.aload_n 0, 1) := dk_42 (dk_at dksX1_minimise_1 14 rfl rfl)
theorem dX1_minimise_39 : decode cX1_minimise 39 = .ok (.iload_n 1, 1) := dk_27 (dk_at dksX1_minimise_1 15 rfl rfl)
theorem dX1_minimise_40 : decode cX1_minimise 40 = .ok (.putfield 113, 3) := dk_181 0 113 (dk_at dksX1_minimise_1 16 rfl rfl)
theorem dX1_minimise_43 : decode cX1_minimise 43 = .ok (.aload_n 0, 1) := dk_42 (dk_at dksX1_minimise_1 19 rfl rfl)
theorem dX1_minimise_44 : decode cX1_minimise 44 = .ok (.bipush 16, 2) := dk_16 16 (dk_at dksX1_minimise_1 20 rfl rfl)
theorem dX1_minimise_46 : decode cX1_minimise 46 = .ok (.putfield 481, 3) := dk_181 1 225 (dk_at dksX1_minimise_2 0 rfl rfl)
theorem dX1_minimise_49 : decode cX1_minimise 49 = .ok (.aload_n 0, 1) := dk_42 (dk_at dksX1_minimise_2 3 rfl rfl)
theorem dX1_minimise_50 : decode cX1_minimise 50 = .ok (.getfield 118, 3) := dk_180 0 118 (dk_at dksX1_minimise_2 4 rfl rfl)
theorem dX1_minimise_53 : decode cX1_minimise 53 = .ok (.iconst 0, 1) := dk_3 (dk_at dksX1_minimise_2 7 rfl rfl)
theorem dX1_minimise_54 : decode cX1_minimise 54 = .ok (.new 116, 3) := dk_187 0 116 (dk_at dksX1_minimise_2 8 rfl rfl)
theorem dX1_minimise_57 : decode cX1_minimise 57 = .ok (.dup, 1) := dk_89 (dk_at dksX1_minimise_2 11 rfl rfl)
theorem dX1_minimise_58 : decode cX1_minimise 58 = .ok (.iload_n 2, 1) := dk_28 (dk_at dksX1_minimise_2 12 rfl rfl)
theorem dX1_minimise_59 : decode cX1_minimise 59 = .ok (.iload_n 3, 1) := dk_29 (dk_at dksX1_minimise_2 13 rfl rfl)
theorem dX1_minimise_60 : decode cX1_minimise 60 = .ok (.invokespecial 484, 3) := dk_183 1 228 (dk_at dksX1_minimise_2 14 rfl rfl)
theorem dX1_minimise_63 : decode cX1_minimise 63 = .ok (.aastore, 1) := dk_83 (dk_at dksX1_minimise_2 17 rfl rfl)
theorem dX1_minimise_64 : decode cX1_minimise 64 = .ok (.aload_n 0, 1) := dk_42 (dk_at dksX1_minimise_2 18 rfl rfl)
theorem dX1_minimise_65 : decode cX1_minimise 65 = .ok (.getfield 118, 3) := dk_180 0 118 (dk_at dksX1_minimise_2 19 rfl rfl)
theorem dX1_minimise_68 : decode cX1_minimise 68 = .ok (.iconst 1, 1) := dk_4 (dk_at dksX1_minimise_2 22 rfl rfl)
theorem dX1_minimise_69 : decode cX1_minimise 69 = .ok (.new 116, 3) := dk_187 0 116 (dk_at dksX1_minimise_3 0 rfl rfl)
theorem dX1_minimise_72 : decode cX1_minimise 72 = .ok (.dup, 1) := dk_89 (dk_at dksX1_minimise_3 3 rfl rfl)
theorem dX1_minimise_73 : decode cX1_minimise 73 = .ok (.iload 4, 2) := dk_21 4 (dk_at dksX1_minimise_3 4 rfl rfl)
theorem dX1_minimise_75 : decode cX1_minimise 75 = .ok (.iload 5, 2) := dk_21 5 (dk_at dksX1_minimise_3 6 rfl rfl)
theorem dX1_minimise_77 : decode cX1_minimise 77 = .ok (.invokespecial 484, 3) := dk_183 1 228 (dk_at dksX1_minimise_3 8 rfl rfl)
theorem dX1_minimise_80 : decode cX1_minimise 80 = .ok (.aastore, 1) := dk_83 (dk_at dksX1_minimise_3 11 rfl rfl)
theorem dX1_minimise_81 : decode cX1_minimise 81 = .ok (.return_, 1) := dk_177 (dk_at dksX1_minimise_3 12 rfl rfl)
def dkwX1_goOn_3 : List UInt8 := [29, 172]
abbrev dktX1_goOn_3 : List UInt8 := dkwX1_goOn_3 ++ []
def dkwX1_goOn_2 : List UInt8 := [185, 0, 205, 1, 0, 154, 0, 19, 42, 42, 180, 0, 118, 27, 50, 182, 1, 253, 132, 3, 1, 167, 255, 221]
abbrev dktX1_goOn_2 : List UInt8 := dkwX1_goOn_2 ++ dktX1_goOn_3
def dkwX1_goOn_1 : List UInt8 := [167, 0, 4, 3, 184, 0, 169, 3, 62, 29, 28, 162, 0, 36, 42, 180, 0, 118, 27, 50, 180, 1, 230]
abbrev dktX1_goOn_1 : List UInt8 := dkwX1_goOn_1 ++ dktX1_goOn_2
def dkwX1_goOn_0 : List UInt8 := [27, 3, 4, 184, 0, 162, 28, 4, 16, 100, 184, 0, 162, 42, 180, 0, 113, 2, 159, 0, 7, 4]
abbrev dktX1_goOn_0 : List UInt8 := dkwX1_goOn_0 ++ dktX1_goOn_1
theorem dksX1_goOn_0 : cX1_goOn.data.toList.drop 0 = dktX1_goOn_0 := by decide +kernel
theorem dksX1_goOn_1 : cX1_goOn.data.toList.drop 22 = dktX1_goOn_1 := dk_seg dksX1_goOn_0 22 rfl rfl
theorem dksX1_goOn_2 : cX1_goOn.data.toList.drop 45 = dktX1_goOn_2 := dk_seg dksX1_goOn_1 23 rfl rfl
theorem dksX1_goOn_3 : cX1_goOn.data.toList.drop 69 = dktX1_goOn_3 := dk_seg dksX1_goOn_2 24 rfl rfl
theorem dX1_goOn_0 : decode cX1_goOn 0 = .ok (.iload_n 1, 1) := dk_27 (dk_at dksX1_goOn_0 0 rfl rfl)
theorem dX1_goOn_1 : decode cX1_goOn 1 = .ok (.iconst 0, 1) := dk_3 (dk_at dksX1_goOn_0 1 rfl rfl)
theorem dX1_goOn_2 : decode cX1_goOn 2 = .ok (.iconst 1, 1) := dk_4 (dk_at dksX1_goOn_0 2 rfl rfl)
theorem dX1_goOn_3 : decode cX1_goOn 3 = .ok (.invokestatic 162, 3) := dk_184 0 162 (dk_at dksX1_goOn_0 3 rfl rfl)
theorem dX1_goOn_6 : decode cX1_goOn 6 = .ok (.iload_n 2, 1) := dk_28 (dk_at dksX1_goOn_0 6 rfl rfl)
theorem dX1_goOn_7 : decode cX1_goOn 7 = .ok (.iconst 1, 1) := dk_4 (dk_at dksX1_goOn_0 7 rfl rfl)
theorem dX1_goOn_8 : decode cX1_goOn 8 = .ok (.bipush 100, 2) := dk_16 100 (dk_at dksX1_goOn_0 8 rfl rfl)
theorem dX1_goOn_10 : decode cX1_goOn 10 = .ok (.invokestatic 162, 3) := dk_184 0 162 (dk_at dksX1_goOn_0 10 rfl rfl)
theorem dX1_goOn_13 : decode cX1_goOn 13 = .ok (.aload_n 0, 1) := dk_42 (dk_at dksX1_goOn_0 13 rfl rfl)
theorem dX1_goOn_14 : decode cX1_goOn 14 = .ok (.getfield 113, 3) := dk_180 0 113 (dk_at dksX1_goOn_0 14 rfl rfl)
theorem dX1_goOn_17 : decode cX1_goOn 17 = .ok (.iconst (-1), 1) := dk_2 (dk_at dksX1_goOn_0 17 rfl rfl)
theorem dX1_goOn_18 : decode cX1_goOn 18 = .ok (.if_icmp .eq 7, 3) := dk_159 0 7 (dk_at dksX1_goOn_0 18 rfl rfl)
theorem dX1_goOn_21 : decode cX1_goOn 21 = .ok (.iconst 1, 1) := dk_4 (dk_at dksX1_goOn_0 21 rfl rfl)
theorem dX1_goOn_22 : decode cX1_goOn 22 = .ok (.goto 4, 3) := dk_167 0 4 (dk_at dksX1_goOn_1 0 rfl rfl)
theorem dX1_goOn_25 : decode cX1_goOn 25 = .ok (.iconst 0, 1) := dk_3 (dk_at dksX1_goOn_1 3 rfl rfl)
theorem dX1_goOn_26 : decode cX1_goOn 26 = .ok (.invokestatic 169, 3) := dk_184 0 169 (dk_at dksX1_goOn_1 4 rfl rfl)
theorem dX1_goOn_29 : decode cX1_goOn 29 = .ok (.iconst 0, 1) := dk_3 (dk_at dksX1_goOn_1 7 rfl rfl)
theorem dX1_goOn_30 : decode cX1_goOn 30 = .ok (.istore_n 3, 1) := dk_62 (dk_at dksX1_goOn_1 8 rfl rfl)
theorem dX1_goOn_31 : decode cX1_goOn 31 = .ok (.iload_n 3, 1) := dk_29 (dk_at dksX1_goOn_1 9 rfl rfl)
theorem dX1_goOn_32 : decode cX1_goOn 32 = .ok (.iload_n 2, 1) := dk_28 (dk_at dksX1_goOn_1 10 rfl rfl)
theorem dX1_goOn_33 : decode cX1_goOn 33 = .ok (.if_icmp .ge 36, 3) := dk_162 0 36 (dk_at dksX1_goOn_1 11 rfl rfl)
theorem dX1_goOn_36 : decode cX1_goOn 36 = .ok (.aload_n 0, 1) := dk_42 (dk_at dksX1_goOn_1 14 rfl rfl)
theorem dX1_goOn_37 : decode cX1_goOn 37 = .ok (.getfield 118, 3) := dk_180 0 118 (dk_at dksX1_goOn_1 15 rfl rfl)
theorem dX1_goOn_40 : decode cX1_goOn 40 = .ok (.iload_n 1, 1) := dk_27 (dk_at dksX1_goOn_1 18 rfl rfl)
theorem dX1_goOn_41 : decode cX1_goOn 41 = .ok (.aaload, 1) := dk_50 (dk_at dksX1_goOn_1 19 rfl rfl)
theorem dX1_goOn_42 : decode cX1_goOn 42 = .ok (.getfield 486, 3) := dk_180 1 230 (dk_at dksX1_goOn_1 20 rfl rfl)
theorem dX1_goOn_45 : decode cX1_goOn 45 = .ok (.invokeinterface 205 1, 5) := by decide +kernel
theorem dX1_goOn_50 : decode cX1_goOn 50 = .ok (.ifCond .ne 19, 3) := dk_154 0 19 (dk_at dksX1_goOn_2 5 rfl rfl)
theorem dX1_goOn_53 : decode cX1_goOn 53 = .ok (.aload_n 0, 1) := dk_42 (dk_at dksX1_goOn_2 8 rfl rfl)
theorem dX1_goOn_54 : decode cX1_goOn 54 = .ok (.aload_n 0, 1) := dk_42 (dk_at dksX1_goOn_2 9 rfl rfl)
theorem dX1_goOn_55 : decode cX1_goOn 55 = .ok (.getfield 118, 3) := dk_180 0 118 (dk_at dksX1_goOn_2 10 rfl rfl)
theorem dX1_goOn_58 : decode cX1_goOn 58 = .ok (.iload_n 1, 1) := dk_27 (dk_at dksX1_goOn_2 13 rfl rfl)
theorem dX1_goOn_59 : decode cX1_goOn 59 = .ok (.aaload, 1) := dk_50 (dk_at dksX1_goOn_2 14 rfl rfl)
theorem dX1_goOn_60 : decode cX1_goOn 60 = .ok (.invokevirtual 509, 3) := dk_182 1 253 (dk_at dksX1_goOn_2 15 rfl rfl)
theorem dX1_goOn_63 : decode cX1_goOn 63 = .ok (.iinc 3 1, 3) := dk_132 3 1 (dk_at dksX1_goOn_2 18 rfl rfl)
theorem dX1_goOn_66 : decode cX1_goOn 66 = .ok (.goto (-35), 3) := dk_167 255 221 (dk_at dksX1_goOn_2 21 rfl rfl)
theorem dX1_goOn_69 : decode cX1_goOn 69 = .ok (.iload_n 3, 1) := dk_29 (dk_at dksX1_goOn_3 0 rfl rfl)
theorem dX1_goOn_70 : decode cX1_goOn 70 = .ok (.ireturn, 1) := dk_172 (dk_at dksX1_goOn_3 1 rfl rfl)
def dkwX1_step_11 : List UInt8 := [180, 0, 113, 46, 184, 1, 137, 181, 1, 225, 177]
abbrev dktX1_step_11 : List UInt8 := dkwX1_step_11 ++ []
def dkwX1_step_10 : List UInt8 := [167, 0, 32, 42, 180, 0, 83, 180, 1, 88, 154, 0, 22, 42, 42, 180, 0, 83, 180, 1, 42, 42]
abbrev dktX1_step_10 : List UInt8 := dkwX1_step_10 ++ dktX1_step_11
def dkwX1_step_9 : List UInt8 := [187, 1, 236, 89, 43, 180, 1, 238, 180, 1, 60, 29, 21, 4, 4, 183, 1, 250, 185, 0, 172, 2, 0, 87]
abbrev dktX1_step_9 : List UInt8 := dkwX1_step_9 ++ dktX1_step_10
def dkwX1_step_8 : List UInt8 := [180, 1, 238, 180, 1, 60, 29, 21, 4, 3, 183, 1, 250, 185, 0, 172, 2, 0, 87, 43, 180, 1, 230]
abbrev dktX1_step_8 : List UInt8 := dkwX1_step_8 ++ dktX1_step_9
def dkwX1_step_7 : List UInt8 := [180, 0, 83, 180, 1, 42, 29, 46, 184, 1, 137, 54, 4, 43, 180, 1, 230, 187, 1, 236, 89, 43]
abbrev dktX1_step_7 : List UInt8 := dkwX1_step_7 ++ dktX1_step_8
def dkwX1_step_6 : List UInt8 := [180, 1, 249, 4, 160, 0, 18, 42, 180, 0, 83, 180, 1, 42, 29, 46, 184, 1, 135, 167, 0, 15, 42]
abbrev dktX1_step_6 : List UInt8 := dkwX1_step_6 ++ dktX1_step_7
def dkwX1_step_5 : List UInt8 := [167, 0, 16, 42, 42, 180, 0, 83, 3, 43, 180, 1, 248, 182, 1, 190, 62, 29, 2, 159, 0, 99, 43]
abbrev dktX1_step_5 : List UInt8 := dkwX1_step_5 ++ dktX1_step_6
def dkwX1_step_4 : List UInt8 := [126, 79, 42, 42, 180, 0, 83, 3, 182, 1, 126, 42, 180, 0, 83, 180, 1, 88, 153, 0, 7, 2]
abbrev dktX1_step_4 : List UInt8 := dkwX1_step_4 ++ dktX1_step_5
def dkwX1_step_3 : List UInt8 := [182, 1, 122, 42, 180, 0, 83, 180, 1, 42, 42, 180, 0, 113, 92, 46, 4, 42, 180, 1, 225, 120, 4, 100]
abbrev dktX1_step_3 : List UInt8 := dkwX1_step_3 ++ dktX1_step_4
def dkwX1_step_2 : List UInt8 := [182, 1, 242, 44, 182, 1, 243, 44, 182, 1, 246, 182, 1, 130, 42, 42, 180, 0, 83, 43, 180, 1, 238, 2]
abbrev dktX1_step_2 : List UInt8 := dkwX1_step_2 ++ dktX1_step_3
def dkwX1_step_1 : List UInt8 := [43, 180, 1, 238, 44, 182, 1, 239, 181, 1, 60, 44, 182, 1, 242, 2, 159, 0, 22, 43, 180, 1, 238, 44]
abbrev dktX1_step_1 : List UInt8 := dkwX1_step_1 ++ dktX1_step_2
def dkwX1_step_0 : List UInt8 := [43, 180, 1, 230, 43, 180, 1, 230, 185, 0, 131, 1, 0, 4, 100, 185, 1, 233, 2, 0, 192, 1, 236, 77]
abbrev dktX1_step_0 : List UInt8 := dkwX1_step_0 ++ dktX1_step_1
theorem dksX1_step_0 : cX1_step.data.toList.drop 0 = dktX1_step_0 := by decide +kernel
theorem dksX1_step_1 : cX1_step.data.toList.drop 24 = dktX1_step_1 := dk_seg dksX1_step_0 24 rfl rfl
theorem dksX1_step_2 : cX1_step.data.toList.drop 48 = dktX1_step_2 := dk_seg dksX1_step_1 24 rfl rfl
theorem dksX1_step_3 : cX1_step.data.toList.drop 72 = dktX1_step_3 := dk_seg dksX1_step_2 24 rfl rfl
theorem dksX1_step_4 : cX1_step.data.toList.drop 96 = dktX1_step_4 := dk_seg dksX1_step_3 24 rfl rfl
theorem dksX1_step_5 : cX1_step.data.toList.drop 118 = dktX1_step_5 := dk_seg dksX1_step_4 22 rfl rfl
theorem dksX1_step_6 : cX1_step.data.toList.drop 141 = dktX1_step_6 := dk_seg dksX1_step_5 23 rfl rfl
theorem dksX1_step_7 : cX1_step.data.toList.drop 164 = dktX1_step_7 := dk_seg dksX1_step_6 23 rfl rfl
theorem dksX1_step_8 : cX1_step.data.toList.drop 186 = dktX1_step_8 := dk_seg dksX1_step_7 22 rfl rfl
theorem dksX1_step_9 : cX1_step.data.toList.drop 209 = dktX1_step_9 := dk_seg dksX1_step_8 23 rfl rfl
theorem dksX1_step_10 : cX1_step.data.toList.drop 233 = dktX1_step_10 := dk_seg dksX1_step_9 24 rfl rfl
theorem dksX1_step_11 : cX1_step.data.toList.drop 255 = dktX1_step_11 := dk_seg dksX1_step_10 22 rfl rfl
theorem dX1_step_0 : decode cX1_step 0 = .ok (.aload_n 1, 1) := dk_43 (dk_at dksX1_step_0 0 rfl rfl)
theorem dX1_step_1 : decode cX1_step 1 = .ok (.getfield 486, 3) := dk_180 1 230 (dk_at dksX1_step_0 1 rfl rfl)
theorem dX1_step_4 : decode cX1_step 4 = .ok (.aload_n 1, 1) := dk_43 (dk_at dksX1_step_0 4 rfl rfl)
theorem dX1_step_5 : decode cX1_step 5 = .ok (.getfield 486, 3) := dk_180 1 230 (dk_at dksX1_step_0 5 rfl rfl)
theorem dX1_step_8 : decode cX1_step 8 = .ok (.invokeinterface 131 1, 5) := by decide +kernel
theorem dX1_step_13 : decode cX1_step 13 = .ok (.iconst 1, 1) := dk_4 (dk_at dksX1_step_0 13 rfl rfl)
theorem dX1_step_14 : decode cX1_step 14 = .ok (.isub, 1) := dk_100 (dk_at dksX1_step_0 14 rfl rfl)
theorem dX1_step_15 : decode cX1_step 15 = .ok (.invokeinterface 489 2, 5) := by decide +kernel
theorem dX1_step_20 : decode cX1_step 20 = .ok (.checkcast 492, 3) := dk_192 1 236 (dk_at dksX1_step_0 20 rfl rfl)
theorem dX1_step_23 : decode cX1_step 23 = .ok (.astore_n 2, 1) := dk_77 (dk_at dksX1_step_0 23 rfl rfl)
theorem dX1_step_24 : decode cX1_step 24 = .ok (.aload_n 1, 1) := dk_43 (dk_at dksX1_step_1 0 rfl rfl)
theorem dX1_step_25 : decode cX1_step 25 = .ok (.getfield 494, 3) := dk_180 1 238 (dk_at dksX1_step_1 1 rfl rfl)
theorem dX1_step_28 : decode cX1_step 28 = .ok (.aload_n 2, 1) := dk_44 (dk_at dksX1_step_1 4 rfl rfl)
theorem dX1_step_29 : decode cX1_step 29 = .ok (.invokevirtual 495, 3) := dk_182 1 239 (dk_at dksX1_step_1 5 rfl rfl)
theorem dX1_step_32 : decode cX1_step 32 = .ok (.putfield 316, 3) := dk_181 1 60 (dk_at dksX1_step_1 8 rfl rfl)
theorem dX1_step_35 : decode cX1_step 35 = .ok (.aload_n 2, 1) := dk_44 (dk_at dksX1_step_1 11 rfl rfl)
theorem dX1_step_36 : decode cX1_step 36 = .ok (.invokevirtual 498, 3) := dk_182 1 242 (dk_at dksX1_step_1 12 rfl rfl)
theorem dX1_step_39 : decode cX1_step 39 = .ok (.iconst (-1), 1) := dk_2 (dk_at dksX1_step_1 15 rfl rfl)
theorem dX1_step_40 : decode cX1_step 40 = .ok (.if_icmp .eq 22, 3) := dk_159 0 22 (dk_at dksX1_step_1 16 rfl rfl)
theorem dX1_step_43 : decode cX1_step 43 = .ok (.aload_n 1, 1) := dk_43 (dk_at dksX1_step_1 19 rfl rfl)
theorem dX1_step_44 : decode cX1_step 44 = .ok (.getfield 494, 3) := dk_180 1 238 (dk_at dksX1_step_1 20 rfl rfl)
theorem dX1_step_47 : decode cX1_step 47 = .ok (.aload_n 2, 1) := dk_44 (dk_at dksX1_step_1 23 rfl rfl)
theorem dX1_step_48 : decode cX1_step 48 = .ok (.invokevirtual 498, 3) := dk_182 1 242 (dk_at dksX1_step_2 0 rfl rfl)
theorem dX1_step_51 : decode cX1_step 51 = .ok (.aload_n 2, 1) := dk_44 (dk_at dksX1_step_2 3 rfl rfl)
theorem dX1_step_52 : decode cX1_step 52 = .ok (.invokevirtual 499, 3) := dk_182 1 243 (dk_at dksX1_step_2 4 rfl rfl)
theorem dX1_step_55 : decode cX1_step 55 = .ok (.aload_n 2, 1) := dk_44 (dk_at dksX1_step_2 7 rfl rfl)
theorem dX1_step_56 : decode cX1_step 56 = .ok (.invokevirtual 502, 3) := dk_182 1 246 (dk_at dksX1_step_2 8 rfl rfl)
theorem dX1_step_59 : decode cX1_step 59 = .ok (.invokevirtual 386, 3) := dk_182 1 130 (dk_at dksX1_step_2 11 rfl rfl)
theorem dX1_step_62 : decode cX1_step 62 = .ok (.aload_n 0, 1) := dk_42 (dk_at dksX1_step_2 14 rfl rfl)
theorem dX1_step_63 : decode cX1_step 63 = .ok (.aload_n 0, 1) := dk_42 (dk_at dksX1_step_2 15 rfl rfl)
theorem dX1_step_64 : decode cX1_step 64 = .ok (.getfield 83, 3) := dk_180 0 83 (dk_at dksX1_step_2 16 rfl rfl)
theorem dX1_step_67 : decode cX1_step 67 = .ok (.aload_n 1, 1) := dk_43 (dk_at dksX1_step_2 19 rfl rfl)
theorem dX1_step_68 : decode cX1_step 68 = .ok (.getfield 494, 3) := dk_180 1 238 (dk_at dksX1_step_2 20 rfl rfl)
theorem dX1_step_71 : decode cX1_step 71 = .ok (.iconst (-1), 1) := dk_2 (dk_at dksX1_step_2 23 rfl rfl)
theorem dX1_step_72 : decode cX1_step 72 = .ok (.invokevirtual 378, 3) := dk_182 1 122 (dk_at dksX1_step_3 0 rfl rfl)
theorem dX1_step_75 : decode cX1_step 75 = .ok (.aload_n 0, 1) := dk_42 (dk_at dksX1_step_3 3 rfl rfl)
theorem dX1_step_76 : decode cX1_step 76 = .ok (.getfield 83, 3) := dk_180 0 83 (dk_at dksX1_step_3 4 rfl rfl)
theorem dX1_step_79 : decode cX1_step 79 = .ok (.getfield 298, 3) := dk_180 1 42 (dk_at dksX1_step_3 7 rfl rfl)
theorem dX1_step_82 : decode cX1_step 82 = .ok (.aload_n 0, 1) := dk_42 (dk_at dksX1_step_3 10 rfl rfl)
theorem dX1_step_83 : decode cX1_step 83 = .ok (.getfield 113, 3) := dk_180 0 113 (dk_at dksX1_step_3 11 rfl rfl)
theorem dX1_step_86 : decode cX1_step 86 = .ok (.dup2, 1) := dk_92 (dk_at dksX1_step_3 14 rfl rfl)
theorem dX1_step_87 : decode cX1_step 87 = .ok (.iaload, 1) := dk_46 (dk_at dksX1_step_3 15 rfl rfl)
theorem dX1_step_88 : decode cX1_step 88 = .ok (.iconst 1, 1) := dk_4 (dk_at dksX1_step_3 16 rfl rfl)
theorem dX1_step_89 : decode cX1_step 89 = .ok (.aload_n 0, 1) := dk_42 (dk_at dksX1_step_3 17 rfl rfl)
theorem dX1_step_90 : decode cX1_step 90 = .ok (.getfield 481, 3) := dk_180 1 225 (dk_at dksX1_step_3 18 rfl rfl)
theorem dX1_step_93 : decode cX1_step 93 = .ok (.ishl, 1) := dk_120 (dk_at dksX1_step_3 21 rfl rfl)
theorem dX1_step_94 : decode cX1_step 94 = .ok (.iconst 1, 1) := dk_4 (dk_at dksX1_step_3 22 rfl rfl)
theorem dX1_step_95 : decode cX1_step 95 = .ok (.isub, 1) := dk_100 (dk_at dksX1_step_3 23 rfl rfl)
theorem dX1_step_96 : decode cX1_step 96 = .ok (.iand, 1) := dk_126 (dk_at dksX1_step_4 0 rfl rfl)
theorem dX1_step_97 : decode cX1_step 97 = .ok (.iastore, 1) := dk_79 (dk_at dksX1_step_4 1 rfl rfl)
theorem dX1_step_98 : decode cX1_step 98 = .ok (.aload_n 0, 1) := dk_42 (dk_at dksX1_step_4 2 rfl rfl)
theorem dX1_step_99 : decode cX1_step 99 = .ok (.aload_n 0, 1) := dk_42 (dk_at dksX1_step_4 3 rfl rfl)
theorem dX1_step_100 : decode cX1_step 100 = .ok (.getfield 83, 3) := dk_180 0 83 (dk_at dksX1_step_4 4 rfl rfl)
theorem dX1_step_103 : decode cX1_step 103 = .ok (.iconst 0, 1) := dk_3 (dk_at dksX1_step_4 7 rfl rfl)
theorem dX1_step_104 : decode cX1_step 104 = .ok (.invokevirtual 382, 3) := dk_182 1 126 (dk_at dksX1_step_4 8 rfl rfl)
theorem dX1_step_107 : decode cX1_step 107 = .ok (.aload_n 0, 1) := dk_42 (dk_at dksX1_step_4 11 rfl rfl)
theorem dX1_step_108 : decode cX1_step 108 = .ok (.getfield 83, 3) := dk_180 0 83 (dk_at dksX1_step_4 12 rfl rfl)
theorem dX1_step_111 : decode cX1_step 111 = .ok (.getfield 344, 3) := dk_180 1 88 (dk_at dksX1_step_4 15 rfl rfl)
theorem dX1_step_114 : decode cX1_step 114 = .ok (.ifCond .eq 7, 3) := dk_153 0 7 (dk_at dksX1_step_4 18 rfl rfl)
theorem dX1_step_117 : decode cX1_step 117 = .ok (.iconst (-1), 1) := dk_2 (dk_at dksX1_step_4 21 rfl rfl)
theorem dX1_step_118 : decode cX1_step 118 = .ok (.goto 16, 3) := dk_167 0 16 (dk_at dksX1_step_5 0 rfl rfl)
theorem dX1_step_121 : decode cX1_step 121 = .ok (.aload_n 0, 1) := dk_42 (dk_at dksX1_step_5 3 rfl rfl)
theorem dX1_step_122 : decode cX1_step 122 = .ok (.aload_n 0, 1) := dk_42 (dk_at dksX1_step_5 4 rfl rfl)
theorem dX1_step_123 : decode cX1_step 123 = .ok (.getfield 83, 3) := dk_180 0 83 (dk_at dksX1_step_5 5 rfl rfl)
theorem dX1_step_126 : decode cX1_step 126 = .ok (.iconst 0, 1) := dk_3 (dk_at dksX1_step_5 8 rfl rfl)
theorem dX1_step_127 : decode cX1_step 127 = .ok (.aload_n 1, 1) := dk_43 (dk_at dksX1_step_5 9 rfl rfl)
theorem dX1_step_128 : decode cX1_step 128 = .ok (.getfield 504, 3) := dk_180 1 248 (dk_at dksX1_step_5 10 rfl rfl)
theorem dX1_step_131 : decode cX1_step 131 = .ok (.invokevirtual 446, 3) := dk_182 1 190 (dk_at dksX1_step_5 13 rfl rfl)
theorem dX1_step_134 : decode cX1_step 134 = .ok (.istore_n 3, 1) := dk_62 (dk_at dksX1_step_5 16 rfl rfl)
theorem dX1_step_135 : decode cX1_step 135 = .ok (.iload_n 3, 1) := dk_29 (dk_at dksX1_step_5 17 rfl rfl)
theorem dX1_step_136 : decode cX1_step 136 = .ok (.iconst (-1), 1) := dk_2 (dk_at dksX1_step_5 18 rfl rfl)
theorem dX1_step_137 : decode cX1_step 137 = .ok (.if_icmp .eq 99, 3) := dk_159 0 99 (dk_at dksX1_step_5 19 rfl rfl)
theorem dX1_step_140 : decode cX1_step 140 = .ok (.aload_n 1, 1) := dk_43 (dk_at dksX1_step_5 22 rfl rfl)
theorem dX1_step_141 : decode cX1_step 141 = .ok (.getfield 505, 3) := dk_180 1 249 (dk_at dksX1_step_6 0 rfl rfl)
theorem dX1_step_144 : decode cX1_step 144 = .ok (.iconst 1, 1) := dk_4 (dk_at dksX1_step_6 3 rfl rfl)
theorem dX1_step_145 : decode cX1_step 145 = .ok (.if_icmp .ne 18, 3) := dk_160 0 18 (dk_at dksX1_step_6 4 rfl rfl)
theorem dX1_step_148 : decode cX1_step 148 = .ok (.aload_n 0, 1) := dk_42 (dk_at dksX1_step_6 7 rfl rfl)
theorem dX1_step_149 : decode cX1_step 149 = .ok (.getfield 83, 3) := dk_180 0 83 (dk_at dksX1_step_6 8 rfl rfl)
theorem dX1_step_152 : decode cX1_step 152 = .ok (.getfield 298, 3) := dk_180 1 42 (dk_at dksX1_step_6 11 rfl rfl)
theorem dX1_step_155 : decode cX1_step 155 = .ok (.iload_n 3, 1) := dk_29 (dk_at dksX1_step_6 14 rfl rfl)
theorem dX1_step_156 : decode cX1_step 156 = .ok (.iaload, 1) := dk_46 (dk_at dksX1_step_6 15 rfl rfl)
theorem dX1_step_157 : decode cX1_step 157 = .ok (.invokestatic 391, 3) := dk_184 1 135 (dk_at dksX1_step_6 16 rfl rfl)
theorem dX1_step_160 : decode cX1_step 160 = .ok (.goto 15, 3) := dk_167 0 15 (dk_at dksX1_step_6 19 rfl rfl)
theorem dX1_step_163 : decode cX1_step 163 = .ok (.aload_n 0, 1) := dk_42 (dk_at dksX1_step_6 22 rfl rfl)
theorem dX1_step_164 : decode cX1_step 164 = .ok (.getfield 83, 3) := dk_180 0 83 (dk_at dksX1_step_7 0 rfl rfl)
theorem dX1_step_167 : decode cX1_step 167 = .ok (.getfield 298, 3) := dk_180 1 42 (dk_at dksX1_step_7 3 rfl rfl)
theorem dX1_step_170 : decode cX1_step 170 = .ok (.iload_n 3, 1) := dk_29 (dk_at dksX1_step_7 6 rfl rfl)
theorem dX1_step_171 : decode cX1_step 171 = .ok (.iaload, 1) := dk_46 (dk_at dksX1_step_7 7 rfl rfl)
theorem dX1_step_172 : decode cX1_step 172 = .ok (.invokestatic 393, 3) := dk_184 1 137 (dk_at dksX1_step_7 8 rfl rfl)
theorem dX1_step_175 : decode cX1_step 175 = .ok (.istore 4, 2) := dk_54 4 (dk_at dksX1_step_7 11 rfl rfl)
theorem dX1_step_177 : decode cX1_step 177 = .ok (.aload_n 1, 1) := dk_43 (dk_at dksX1_step_7 13 rfl rfl)
theorem dX1_step_178 : decode cX1_step 178 = .ok (.getfield 486, 3) := dk_180 1 230 (dk_at dksX1_step_7 14 rfl rfl)
theorem dX1_step_181 : decode cX1_step 181 = .ok (.new 492, 3) := dk_187 1 236 (dk_at dksX1_step_7 17 rfl rfl)
theorem dX1_step_184 : decode cX1_step 184 = .ok (.dup, 1) := dk_89 (dk_at dksX1_step_7 20 rfl rfl)
theorem dX1_step_185 : decode cX1_step 185 = .ok (.aload_n 1, 1) := dk_43 (dk_at dksX1_step_7 21 rfl rfl)
theorem dX1_step_186 : decode cX1_step 186 = .ok (.getfield 494, 3) := dk_180 1 238 (dk_at dksX1_step_8 0 rfl rfl)
theorem dX1_step_189 : decode cX1_step 189 = .ok (.getfield 316, 3) := dk_180 1 60 (dk_at dksX1_step_8 3 rfl rfl)
theorem dX1_step_192 : decode cX1_step 192 = .ok (.iload_n 3, 1) := dk_29 (dk_at dksX1_step_8 6 rfl rfl)
theorem dX1_step_193 : decode cX1_step 193 = .ok (.iload 4, 2) := dk_21 4 (dk_at dksX1_step_8 7 rfl rfl)
theorem dX1_step_195 : decode cX1_step 195 = .ok (.iconst 0, 1) := dk_3 (dk_at dksX1_step_8 9 rfl rfl)
theorem dX1_step_196 : decode cX1_step 196 = .ok (.invokespecial 506, 3) := dk_183 1 250 (dk_at dksX1_step_8 10 rfl rfl)
theorem dX1_step_199 : decode cX1_step 199 = .ok (.invokeinterface 172 2, 5) := by decide +kernel
theorem dX1_step_204 : decode cX1_step 204 = .ok (.pop, 1) := dk_87 (dk_at dksX1_step_8 18 rfl rfl)
theorem dX1_step_205 : decode cX1_step 205 = .ok (.aload_n 1, 1) := dk_43 (dk_at dksX1_step_8 19 rfl rfl)
theorem dX1_step_206 : decode cX1_step 206 = .ok (.getfield 486, 3) := dk_180 1 230 (dk_at dksX1_step_8 20 rfl rfl)
theorem dX1_step_209 : decode cX1_step 209 = .ok (.new 492, 3) := dk_187 1 236 (dk_at dksX1_step_9 0 rfl rfl)
theorem dX1_step_212 : decode cX1_step 212 = .ok (.dup, 1) := dk_89 (dk_at dksX1_step_9 3 rfl rfl)
theorem dX1_step_213 : decode cX1_step 213 = .ok (.aload_n 1, 1) := dk_43 (dk_at dksX1_step_9 4 rfl rfl)
theorem dX1_step_214 : decode cX1_step 214 = .ok (.getfield 494, 3) := dk_180 1 238 (dk_at dksX1_step_9 5 rfl rfl)
theorem dX1_step_217 : decode cX1_step 217 = .ok (.getfield 316, 3) := dk_180 1 60 (dk_at dksX1_step_9 8 rfl rfl)
theorem dX1_step_220 : decode cX1_step 220 = .ok (.iload_n 3, 1) := dk_29 (dk_at dksX1_step_9 11 rfl rfl)
theorem dX1_step_221 : decode cX1_step 221 = .ok (.iload 4, 2) := dk_21 4 (dk_at dksX1_step_9 12 rfl rfl)
theorem dX1_step_223 : decode cX1_step 223 = .ok (.iconst 1, 1) := dk_4 (dk_at dksX1_step_9 14 rfl rfl)
theorem dX1_step_224 : decode cX1_step 224 = .ok (.invokespecial 506, 3) := dk_183 1 250 (dk_at dksX1_step_9 15 rfl rfl)
theorem dX1_step_227 : decode cX1_step 227 = .ok (.invokeinterface 172 2, 5) := by decide +kernel
theorem dX1_step_232 : decode cX1_step 232 = .ok (.pop, 1) := dk_87 (dk_at dksX1_step_9 23 rfl rfl)
theorem dX1_step_233 : decode cX1_step 233 = .ok (.goto 32, 3) := dk_167 0 32 (dk_at dksX1_step_10 0 rfl rfl)
theorem dX1_step_236 : decode cX1_step 236 = .ok (.aload_n 0, 1) := dk_42 (dk_at dksX1_step_10 3 rfl rfl)
theorem dX1_step_237 : decode cX1_step 237 = .ok (.getfield 83, 3) := dk_180 0 83 (dk_at dksX1_step_10 4 rfl rfl)
theorem dX1_step_240 : decode cX1_step 240 = .ok (.getfield 344, 3) := dk_180 1 88 (dk_at dksX1_step_10 7 rfl rfl)
theorem dX1_step_243 : decode cX1_step 243 = .ok (.ifCond .ne 22, 3) := dk_154 0 22 (dk_at dksX1_step_10 10 rfl rfl)
theorem dX1_step_246 : decode cX1_step 246 = .ok (.aload_n 0, 1) := dk_42 (dk_at dksX1_step_10 13 rfl rfl)
theorem dX1_step_247 : decode cX1_step 247 = .ok (.aload_n 0, 1) := dk_42 (dk_at dksX1_step_10 14 rfl rfl)
theorem dX1_step_248 : decode cX1_step 248 = .ok (.getfield 83, 3) := dk_180 0 83 (dk_at dksX1_step_10 15 rfl rfl)
theorem dX1_step_251 : decode cX1_step 251 = .ok (.getfield 298, 3) := dk_180 1 42 (dk_at dksX1_step_10 18 rfl rfl)
theorem dX1_step_254 : decode cX1_step 254 = .ok (.aload_n 0, 1) := dk_42 (dk_at dksX1_step_10 21 rfl rfl)
theorem dX1_step_255 : decode cX1_step 255 = .ok (.getfield 113, 3) := dk_180 0 113 (dk_at dksX1_step_11 0 rfl rfl)
theorem dX1_step_258 : decode cX1_step 258 = .ok (.iaload, 1) := dk_46 (dk_at dksX1_step_11 3 rfl rfl)
theorem dX1_step_259 : decode cX1_step 259 = .ok (.invokestatic 393, 3) := dk_184 1 137 (dk_at dksX1_step_11 4 rfl rfl)
theorem dX1_step_262 : decode cX1_step 262 = .ok (.putfield 481, 3) := dk_181 1 225 (dk_at dksX1_step_11 7 rfl rfl)
theorem dX1_step_265 : decode cX1_step 265 = .ok (.return_, 1) := dk_177 (dk_at dksX1_step_11 10 rfl rfl)
def dkwX1_tree_1 : List UInt8 := [2, 2, 2, 182, 2, 1, 42, 180, 0, 56, 180, 1, 35, 4, 100, 172]
abbrev dktX1_tree_1 : List UInt8 := dkwX1_tree_1 ++ []
def dkwX1_tree_0 : List UInt8 := [42, 180, 0, 56, 180, 1, 35, 16, 16, 162, 0, 7, 4, 167, 0, 4, 3, 184, 0, 169, 42, 180, 0, 56]
abbrev dktX1_tree_0 : List UInt8 := dkwX1_tree_0 ++ dktX1_tree_1
theorem dksX1_tree_0 : cX1_tree.data.toList.drop 0 = dktX1_tree_0 := by decide +kernel
theorem dksX1_tree_1 : cX1_tree.data.toList.drop 24 = dktX1_tree_1 := dk_seg dksX1_tree_0 24 rfl rfl
theorem dX1_tree_0 : decode cX1_tree 0 = .ok (.aload_n 0, 1) := dk_42 (dk_at dksX1_tree_0 0 rfl rfl)
theorem dX1_tree_1 : decode cX1_tree 1 = .ok (.getfield 56, 3) := dk_180 0 56 (dk_at dksX1_tree_0 1 rfl rfl)
theorem dX1_tree_4 : decode cX1_tree 4 = .ok (.getfield 291, 3) := dk_180 1 35 (dk_at dksX1_tree_0 4 rfl rfl)
theorem dX1_tree_7 : decode cX1_tree 7 = .ok (.bipush 16, 2) := dk_16 16 (dk_at dksX1_tree_0 7 rfl rfl)
theorem dX1_tree_9 : decode cX1_tree 9 = .ok (.if_icmp .ge 7, 3) := dk_162 0 7 (dk_at dksX1_tree_0 9 rfl rfl)
theorem dX1_tree_12 : decode cX1_tree 12 = .ok (.iconst 1, 1) := dk_4 (dk_at dksX1_tree_0 12 rfl rfl)
theorem dX1_tree_13 : decode cX1_tree 13 = .ok (.goto 4, 3) := dk_167 0 4 (dk_at dksX1_tree_0 13 rfl rfl)
theorem dX1_tree_16 : decode cX1_tree 16 = .ok (.iconst 0, 1) := dk_3 (dk_at dksX1_tree_0 16 rfl rfl)
theorem dX1_tree_17 : decode cX1_tree 17 = .ok (.invokestatic 169, 3) := dk_184 0 169 (dk_at dksX1_tree_0 17 rfl rfl)
theorem dX1_tree_20 : decode cX1_tree 20 = .ok (.aload_n 0, 1) := dk_42 (dk_at dksX1_tree_0 20 rfl rfl)
theorem dX1_tree_21 : decode cX1_tree 21 = .ok (.getfield 56, 3) := dk_180 0 56 (dk_at dksX1_tree_0 21 rfl rfl)
theorem dX1_tree_24 : decode cX1_tree 24 = .ok (.iconst (-1), 1) := dk_2 (dk_at dksX1_tree_1 0 rfl rfl)
theorem dX1_tree_25 : decode cX1_tree 25 = .ok (.iconst (-1), 1) := dk_2 (dk_at dksX1_tree_1 1 rfl rfl)
theorem dX1_tree_26 : decode cX1_tree 26 = .ok (.iconst (-1), 1) := dk_2 (dk_at dksX1_tree_1 2 rfl rfl)
theorem dX1_tree_27 : decode cX1_tree 27 = .ok (.invokevirtual 513, 3) := dk_182 2 1 (dk_at dksX1_tree_1 3 rfl rfl)
theorem dX1_tree_30 : decode cX1_tree 30 = .ok (.aload_n 0, 1) := dk_42 (dk_at dksX1_tree_1 6 rfl rfl)
theorem dX1_tree_31 : decode cX1_tree 31 = .ok (.getfield 56, 3) := dk_180 0 56 (dk_at dksX1_tree_1 7 rfl rfl)
theorem dX1_tree_34 : decode cX1_tree 34 = .ok (.getfield 291, 3) := dk_180 1 35 (dk_at dksX1_tree_1 10 rfl rfl)
theorem dX1_tree_37 : decode cX1_tree 37 = .ok (.iconst 1, 1) := dk_4 (dk_at dksX1_tree_1 13 rfl rfl)
theorem dX1_tree_38 : decode cX1_tree 38 = .ok (.isub, 1) := dk_100 (dk_at dksX1_tree_1 14 rfl rfl)
theorem dX1_tree_39 : decode cX1_tree 39 = .ok (.ireturn, 1) := dk_172 (dk_at dksX1_tree_1 15 rfl rfl)
def dkwX1_term_4 : List UInt8 := [180, 0, 56, 180, 1, 35, 4, 100, 172]
abbrev dktX1_term_4 : List UInt8 := dkwX1_term_4 ++ []
def dkwX1_term_3 : List UInt8 := [16, 16, 162, 0, 7, 4, 167, 0, 4, 3, 184, 0, 169, 42, 180, 0, 56, 27, 28, 29, 182, 2, 1, 42]
abbrev dktX1_term_3 : List UInt8 := dkwX1_term_3 ++ dktX1_term_4
def dkwX1_term_2 : List UInt8 := [162, 0, 8, 29, 2, 160, 0, 7, 4, 167, 0, 4, 3, 184, 0, 154, 42, 180, 0, 56, 180, 1, 35]
abbrev dktX1_term_2 : List UInt8 := dkwX1_term_2 ++ dktX1_term_3
def dkwX1_term_1 : List UInt8 := [7, 161, 0, 7, 4, 167, 0, 4, 3, 182, 2, 3, 27, 5, 162, 0, 8, 28, 2, 160, 0, 17, 27, 7]
abbrev dktX1_term_1 : List UInt8 := dkwX1_term_1 ++ dktX1_term_2
def dkwX1_term_0 : List UInt8 := [27, 3, 8, 184, 0, 162, 42, 28, 27, 5, 161, 0, 7, 4, 167, 0, 4, 3, 182, 2, 3, 42, 29, 27]
abbrev dktX1_term_0 : List UInt8 := dkwX1_term_0 ++ dktX1_term_1
theorem dksX1_term_0 : cX1_term.data.toList.drop 0 = dktX1_term_0 := by decide +kernel
theorem dksX1_term_1 : cX1_term.data.toList.drop 24 = dktX1_term_1 := dk_seg dksX1_term_0 24 rfl rfl
theorem dksX1_term_2 : cX1_term.data.toList.drop 48 = dktX1_term_2 := dk_seg dksX1_term_1 24 rfl rfl
theorem dksX1_term_3 : cX1_term.data.toList.drop 71 = dktX1_term_3 := dk_seg dksX1_term_2 23 rfl rfl
theorem dksX1_term_4 : cX1_term.data.toList.drop 95 = dktX1_term_4 := dk_seg dksX1_term_3 24 rfl rfl
theorem dX1_term_0 : decode cX1_term 0 = .ok (.iload_n 1, 1) := dk_27 (dk_at dksX1_term_0 0 rfl rfl)
theorem dX1_term_1 : decode cX1_term 1 = .ok (.iconst 0, 1) := dk_3 (dk_at dksX1_term_0 1 rfl rfl)
theorem dX1_term_2 : decode cX1_term 2 = .ok (.iconst 5, 1) := dk_8 (dk_at dksX1_term_0 2 rfl rfl)
theorem dX1_term_3 : decode cX1_term 3 = .ok (.invokestatic 162, 3) := dk_184 0 162 (dk_at dksX1_term_0 3 rfl rfl)
theorem dX1_term_6 : decode cX1_term 6 = .ok (.aload_n 0, 1) := dk_42 (dk_at dksX1_term_0 6 rfl rfl)
theorem dX1_term_7 : decode cX1_term 7 = .ok (.iload_n 2, 1) := dk_28 (dk_at dksX1_term_0 7 rfl rfl)
theorem dX1_term_8 : decode cX1_term 8 = .ok (.iload_n 1, 1) := dk_27 (dk_at dksX1_term_0 8 rfl rfl)
theorem dX1_term_9 : decode cX1_term 9 = .ok (.iconst 2, 1) := dk_5 (dk_at dksX1_term_0 9 rfl rfl)
theorem dX1_term_10 : decode cX1_term 10 = .ok (.if_icmp .lt 7, 3) := dk_161 0 7 (dk_at dksX1_term_0 10 rfl rfl)
theorem dX1_term_13 : decode cX1_term 13 = .ok (.iconst 1, 1) := dk_4 (dk_at dksX1_term_0 13 rfl rfl)
theorem dX1_term_14 : decode cX1_term 14 = .ok (.goto 4, 3) := dk_167 0 4 (dk_at dksX1_term_0 14 rfl rfl)
theorem dX1_term_17 : decode cX1_term 17 = .ok (.iconst 0, 1) := dk_3 (dk_at dksX1_term_0 17 rfl rfl)
theorem dX1_term_18 : decode cX1_term 18 = .ok (.invokevirtual 515, 3) := dk_182 2 3 (dk_at dksX1_term_0 18 rfl rfl)
theorem dX1_term_21 : decode cX1_term 21 = .ok (.aload_n 0, 1) := dk_42 (dk_at dksX1_term_0 21 rfl rfl)
theorem dX1_term_22 : decode cX1_term 22 = .ok (.iload_n 3, 1) := dk_29 (dk_at dksX1_term_0 22 rfl rfl)
theorem dX1_term_23 : decode cX1_term 23 = .ok (.iload_n 1, 1) := dk_27 (dk_at dksX1_term_0 23 rfl rfl)
theorem dX1_term_24 : decode cX1_term 24 = .ok (.iconst 4, 1) := dk_7 (dk_at dksX1_term_1 0 rfl rfl)
theorem dX1_term_25 : decode cX1_term 25 = .ok (.if_icmp .lt 7, 3) := dk_161 0 7 (dk_at dksX1_term_1 1 rfl rfl)
theorem dX1_term_28 : decode cX1_term 28 = .ok (.iconst 1, 1) := dk_4 (dk_at dksX1_term_1 4 rfl rfl)
theorem dX1_term_29 : decode cX1_term 29 = .ok (.goto 4, 3) := dk_167 0 4 (dk_at dksX1_term_1 5 rfl rfl)
theorem dX1_term_32 : decode cX1_term 32 = .ok (.iconst 0, 1) := dk_3 (dk_at dksX1_term_1 8 rfl rfl)
theorem dX1_term_33 : decode cX1_term 33 = .ok (.invokevirtual 515, 3) := dk_182 2 3 (dk_at dksX1_term_1 9 rfl rfl)
theorem dX1_term_36 : decode cX1_term 36 = .ok (.iload_n 1, 1) := dk_27 (dk_at dksX1_term_1 12 rfl rfl)
theorem dX1_term_37 : decode cX1_term 37 = .ok (.iconst 2, 1) := dk_5 (dk_at dksX1_term_1 13 rfl rfl)
theorem dX1_term_38 : decode cX1_term 38 = .ok (.if_icmp .ge 8, 3) := dk_162 0 8 (dk_at dksX1_term_1 14 rfl rfl)
theorem dX1_term_41 : decode cX1_term 41 = .ok (.iload_n 2, 1) := dk_28 (dk_at dksX1_term_1 17 rfl rfl)
theorem dX1_term_42 : decode cX1_term 42 = .ok (.iconst (-1), 1) := dk_2 (dk_at dksX1_term_1 18 rfl rfl)
theorem dX1_term_43 : decode cX1_term 43 = .ok (.if_icmp .ne 17, 3) := dk_160 0 17 (dk_at dksX1_term_1 19 rfl rfl)
theorem dX1_term_46 : decode cX1_term 46 = .ok (.iload_n 1, 1) := dk_27 (dk_at dksX1_term_1 22 rfl rfl)
theorem dX1_term_47 : decode cX1_term 47 = .ok (.iconst 4, 1) := dk_7 (dk_at dksX1_term_1 23 rfl rfl)
theorem dX1_term_48 : decode cX1_term 48 = .ok (.if_icmp .ge 8, 3) := dk_162 0 8 (dk_at dksX1_term_2 0 rfl rfl)
theorem dX1_term_51 : decode cX1_term 51 = .ok (.iload_n 3, 1) := dk_29 (dk_at dksX1_term_2 3 rfl rfl)
theorem dX1_term_52 : decode cX1_term 52 = .ok (.iconst (-1), 1) := dk_2 (dk_at dksX1_term_2 4 rfl rfl)
theorem dX1_term_53 : decode cX1_term 53 = .ok (.if_icmp .ne 7, 3) := dk_160 0 7 (dk_at dksX1_term_2 5 rfl rfl)
theorem dX1_term_56 : decode cX1_term 56 = .ok (.iconst 1, 1) := dk_4 (dk_at dksX1_term_2 8 rfl rfl)
theorem dX1_term_57 : decode cX1_term 57 = .ok (.goto 4, 3) := dk_167 0 4 (dk_at dksX1_term_2 9 rfl rfl)
theorem dX1_term_60 : decode cX1_term 60 = .ok (.iconst 0, 1) := dk_3 (dk_at dksX1_term_2 12 rfl rfl)
theorem dX1_term_61 : decode cX1_term 61 = .ok (.invokestatic 154, 3) := dk_184 0 154 (dk_at dksX1_term_2 13 rfl rfl)
theorem dX1_term_64 : decode cX1_term 64 = .ok (.aload_n 0, 1) := dk_42 (dk_at dksX1_term_2 16 rfl rfl)
theorem dX1_term_65 : decode cX1_term 65 = .ok (.getfield 56, 3) := dk_180 0 56 (dk_at dksX1_term_2 17 rfl rfl)
theorem dX1_term_68 : decode cX1_term 68 = .ok (.getfield 291, 3) := dk_180 1 35 (dk_at dksX1_term_2 20 rfl rfl)
theorem dX1_term_71 : decode cX1_term 71 = .ok (.bipush 16, 2) := dk_16 16 (dk_at dksX1_term_3 0 rfl rfl)
theorem dX1_term_73 : decode cX1_term 73 = .ok (.if_icmp .ge 7, 3) := dk_162 0 7 (dk_at dksX1_term_3 2 rfl rfl)
theorem dX1_term_76 : decode cX1_term 76 = .ok (.iconst 1, 1) := dk_4 (dk_at dksX1_term_3 5 rfl rfl)
theorem dX1_term_77 : decode cX1_term 77 = .ok (.goto 4, 3) := dk_167 0 4 (dk_at dksX1_term_3 6 rfl rfl)
theorem dX1_term_80 : decode cX1_term 80 = .ok (.iconst 0, 1) := dk_3 (dk_at dksX1_term_3 9 rfl rfl)
theorem dX1_term_81 : decode cX1_term 81 = .ok (.invokestatic 169, 3) := dk_184 0 169 (dk_at dksX1_term_3 10 rfl rfl)
theorem dX1_term_84 : decode cX1_term 84 = .ok (.aload_n 0, 1) := dk_42 (dk_at dksX1_term_3 13 rfl rfl)
theorem dX1_term_85 : decode cX1_term 85 = .ok (.getfield 56, 3) := dk_180 0 56 (dk_at dksX1_term_3 14 rfl rfl)
theorem dX1_term_88 : decode cX1_term 88 = .ok (.iload_n 1, 1) := dk_27 (dk_at dksX1_term_3 17 rfl rfl)
theorem dX1_term_89 : decode cX1_term 89 = .ok (.iload_n 2, 1) := dk_28 (dk_at dksX1_term_3 18 rfl rfl)
theorem dX1_term_90 : decode cX1_term 90 = .ok (.iload_n 3, 1) := dk_29 (dk_at dksX1_term_3 19 rfl rfl)
theorem dX1_term_91 : decode cX1_term 91 = .ok (.invokevirtual 513, 3) := dk_182 2 1 (dk_at dksX1_term_3 20 rfl rfl)
theorem dX1_term_94 : decode cX1_term 94 = .ok (.aload_n 0, 1) := dk_42 (dk_at dksX1_term_3 23 rfl rfl)
theorem dX1_term_95 : decode cX1_term 95 = .ok (.getfield 56, 3) := dk_180 0 56 (dk_at dksX1_term_4 0 rfl rfl)
theorem dX1_term_98 : decode cX1_term 98 = .ok (.getfield 291, 3) := dk_180 1 35 (dk_at dksX1_term_4 3 rfl rfl)
theorem dX1_term_101 : decode cX1_term 101 = .ok (.iconst 1, 1) := dk_4 (dk_at dksX1_term_4 6 rfl rfl)
theorem dX1_term_102 : decode cX1_term 102 = .ok (.isub, 1) := dk_100 (dk_at dksX1_term_4 7 rfl rfl)
theorem dX1_term_103 : decode cX1_term 103 = .ok (.ireturn, 1) := dk_172 (dk_at dksX1_term_4 8 rfl rfl)
def dkwX1_checkChild_0 : List UInt8 := [28, 153, 0, 14, 27, 42, 180, 0, 56, 180, 1, 35, 184, 0, 137, 177]
abbrev dktX1_checkChild_0 : List UInt8 := dkwX1_checkChild_0 ++ []
theorem dksX1_checkChild_0 : cX1_checkChild.data.toList.drop 0 = dktX1_checkChild_0 := by decide +kernel
theorem dX1_checkChild_0 : decode cX1_checkChild 0 = .ok (.iload_n 2, 1) := dk_28 (dk_at dksX1_checkChild_0 0 rfl rfl)
theorem dX1_checkChild_1 : decode cX1_checkChild 1 = .ok (.ifCond .eq 14, 3) := dk_153 0 14 (dk_at dksX1_checkChild_0 1 rfl rfl)
theorem dX1_checkChild_4 : decode cX1_checkChild 4 = .ok (.iload_n 1, 1) := dk_27 (dk_at dksX1_checkChild_0 4 rfl rfl)
theorem dX1_checkChild_5 : decode cX1_checkChild 5 = .ok (.aload_n 0, 1) := dk_42 (dk_at dksX1_checkChild_0 5 rfl rfl)
theorem dX1_checkChild_6 : decode cX1_checkChild 6 = .ok (.getfield 56, 3) := dk_180 0 56 (dk_at dksX1_checkChild_0 6 rfl rfl)
theorem dX1_checkChild_9 : decode cX1_checkChild 9 = .ok (.getfield 291, 3) := dk_180 1 35 (dk_at dksX1_checkChild_0 9 rfl rfl)
theorem dX1_checkChild_12 : decode cX1_checkChild 12 = .ok (.invokestatic 137, 3) := dk_184 0 137 (dk_at dksX1_checkChild_0 12 rfl rfl)
theorem dX1_checkChild_15 : decode cX1_checkChild 15 = .ok (.return_, 1) := dk_177 (dk_at dksX1_checkChild_0 15 rfl rfl)
def dkwX1_unify_4 : List UInt8 := [4, 167, 0, 4, 3, 96, 62, 132, 4, 1, 167, 255, 219, 29, 172]
abbrev dktX1_unify_4 : List UInt8 := dkwX1_unify_4 ++ []
def dkwX1_unify_3 : List UInt8 := [180, 0, 56, 180, 1, 35, 162, 0, 31, 29, 42, 180, 0, 56, 21, 4, 182, 2, 14, 21, 4, 160, 0, 7]
abbrev dktX1_unify_3 : List UInt8 := dkwX1_unify_3 ++ dktX1_unify_4
def dkwX1_unify_2 : List UInt8 := [180, 0, 56, 42, 180, 0, 60, 182, 2, 7, 42, 3, 181, 0, 176, 3, 62, 3, 54, 4, 21, 4, 42]
abbrev dktX1_unify_2 : List UInt8 := dkwX1_unify_2 ++ dktX1_unify_3
def dkwX1_unify_1 : List UInt8 := [180, 0, 60, 42, 180, 0, 56, 182, 2, 7, 42, 180, 0, 60, 27, 28, 182, 2, 11, 184, 0, 169, 42]
abbrev dktX1_unify_1 : List UInt8 := dkwX1_unify_1 ++ dktX1_unify_2
def dkwX1_unify_0 : List UInt8 := [27, 42, 180, 0, 56, 180, 1, 35, 184, 0, 137, 28, 42, 180, 0, 56, 180, 1, 35, 184, 0, 137, 42]
abbrev dktX1_unify_0 : List UInt8 := dkwX1_unify_0 ++ dktX1_unify_1
theorem dksX1_unify_0 : cX1_unify.data.toList.drop 0 = dktX1_unify_0 := by decide +kernel
theorem dksX1_unify_1 : cX1_unify.data.toList.drop 23 = dktX1_unify_1 := dk_seg dksX1_unify_0 23 rfl rfl
theorem dksX1_unify_2 : cX1_unify.data.toList.drop 46 = dktX1_unify_2 := dk_seg dksX1_unify_1 23 rfl rfl
theorem dksX1_unify_3 : cX1_unify.data.toList.drop 69 = dktX1_unify_3 := dk_seg dksX1_unify_2 23 rfl rfl
theorem dksX1_unify_4 : cX1_unify.data.toList.drop 93 = dktX1_unify_4 := dk_seg dksX1_unify_3 24 rfl rfl
theorem dX1_unify_0 : decode cX1_unify 0 = .ok (.iload_n 1, 1) := dk_27 (dk_at dksX1_unify_0 0 rfl rfl)
theorem dX1_unify_1 : decode cX1_unify 1 = .ok (.aload_n 0, 1) := dk_42 (dk_at dksX1_unify_0 1 rfl rfl)
theorem dX1_unify_2 : decode cX1_unify 2 = .ok (.getfield 56, 3) := dk_180 0 56 (dk_at dksX1_unify_0 2 rfl rfl)
theorem dX1_unify_5 : decode cX1_unify 5 = .ok (.getfield 291, 3) := dk_180 1 35 (dk_at dksX1_unify_0 5 rfl rfl)
theorem dX1_unify_8 : decode cX1_unify 8 = .ok (.invokestatic 137, 3) := dk_184 0 137 (dk_at dksX1_unify_0 8 rfl rfl)
theorem dX1_unify_11 : decode cX1_unify 11 = .ok (.iload_n 2, 1) := dk_28 (dk_at dksX1_unify_0 11 rfl rfl)
theorem dX1_unify_12 : decode cX1_unify 12 = .ok (.aload_n 0, 1) := dk_42 (dk_at dksX1_unify_0 12 rfl rfl)
theorem dX1_unify_13 : decode cX1_unify 13 = .ok (.getfield 56, 3) := dk_180 0 56 (dk_at dksX1_unify_0 13 rfl rfl)
theorem dX1_unify_16 : decode cX1_unify 16 = .ok (.getfield 291, 3) := dk_180 1 35 (dk_at dksX1_unify_0 16 rfl rfl)
theorem dX1_unify_19 : decode cX1_unify 19 = .ok (.invokestatic 137, 3) := dk_184 0 137 (dk_at dksX1_unify_0 19 rfl rfl)
theorem dX1_unify_22 : decode cX1_unify 22 = .ok (.aload_n 0, 1) := dk_42 (dk_at dksX1_unify_0 22 rfl rfl)
theorem dX1_unify_23 : decode cX1_unify 23 = .ok (.getfield 60, 3) := dk_180 0 60 (dk_at dksX1_unify_1 0 rfl rfl)
theorem dX1_unify_26 : decode cX1_unify 26 = .ok (.aload_n 0, 1) := dk_42 (dk_at dksX1_unify_1 3 rfl rfl)
theorem dX1_unify_27 : decode cX1_unify 27 = .ok (.getfield 56, 3) := dk_180 0 56 (dk_at dksX1_unify_1 4 rfl rfl)
theorem dX1_unify_30 : decode cX1_unify 30 = .ok (.invokevirtual 519, 3) := dk_182 2 7 (dk_at dksX1_unify_1 7 rfl rfl)
theorem dX1_unify_33 : decode cX1_unify 33 = .ok (.aload_n 0, 1) := dk_42 (dk_at dksX1_unify_1 10 rfl rfl)
theorem dX1_unify_34 : decode cX1_unify 34 = .ok (.getfield 60, 3) := dk_180 0 60 (dk_at dksX1_unify_1 11 rfl rfl)
theorem dX1_unify_37 : decode cX1_unify 37 = .ok (.iload_n 1, 1) := dk_27 (dk_at dksX1_unify_1 14 rfl rfl)
theorem dX1_unify_38 : decode cX1_unify 38 = .ok (.iload_n 2, 1) := dk_28 (dk_at dksX1_unify_1 15 rfl rfl)
theorem dX1_unify_39 : decode cX1_unify 39 = .ok (.invokevirtual 523, 3) := dk_182 2 11 (dk_at dksX1_unify_1 16 rfl rfl)
theorem dX1_unify_42 : decode cX1_unify 42 = .ok (.invokestatic 169, 3) := dk_184 0 169 (dk_at dksX1_unify_1 19 rfl rfl)
theorem dX1_unify_45 : decode cX1_unify 45 = .ok (.aload_n 0, 1) := dk_42 (dk_at dksX1_unify_1 22 rfl rfl)
theorem dX1_unify_46 : decode cX1_unify 46 = .ok (.getfield 56, 3) := dk_180 0 56 (dk_at dksX1_unify_2 0 rfl rfl)
theorem dX1_unify_49 : decode cX1_unify 49 = .ok (.aload_n 0, 1) := dk_42 (dk_at dksX1_unify_2 3 rfl rfl)
theorem dX1_unify_50 : decode cX1_unify 50 = .ok (.getfield 60, 3) := dk_180 0 60 (dk_at dksX1_unify_2 4 rfl rfl)
theorem dX1_unify_53 : decode cX1_unify 53 = .ok (.invokevirtual 519, 3) := dk_182 2 7 (dk_at dksX1_unify_2 7 rfl rfl)
theorem dX1_unify_56 : decode cX1_unify 56 = .ok (.aload_n 0, 1) := dk_42 (dk_at dksX1_unify_2 10 rfl rfl)
theorem dX1_unify_57 : decode cX1_unify 57 = .ok (.iconst 0, 1) := dk_3 (dk_at dksX1_unify_2 11 rfl rfl)
theorem dX1_unify_58 : decode cX1_unify 58 = .ok (.putfield 176, 3) := dk_181 0 176 (dk_at dksX1_unify_2 12 rfl rfl)
theorem dX1_unify_61 : decode cX1_unify 61 = .ok (.iconst 0, 1) := dk_3 (dk_at dksX1_unify_2 15 rfl rfl)
theorem dX1_unify_62 : decode cX1_unify 62 = .ok (.istore_n 3, 1) := dk_62 (dk_at dksX1_unify_2 16 rfl rfl)
theorem dX1_unify_63 : decode cX1_unify 63 = .ok (.iconst 0, 1) := dk_3 (dk_at dksX1_unify_2 17 rfl rfl)
theorem dX1_unify_64 : decode cX1_unify 64 = .ok (.istore 4, 2) := dk_54 4 (dk_at dksX1_unify_2 18 rfl rfl)
theorem dX1_unify_66 : decode cX1_unify 66 = .ok (.iload 4, 2) := dk_21 4 (dk_at dksX1_unify_2 20 rfl rfl)
theorem dX1_unify_68 : decode cX1_unify 68 = .ok (.aload_n 0, 1) := dk_42 (dk_at dksX1_unify_2 22 rfl rfl)
theorem dX1_unify_69 : decode cX1_unify 69 = .ok (.getfield 56, 3) := dk_180 0 56 (dk_at dksX1_unify_3 0 rfl rfl)
theorem dX1_unify_72 : decode cX1_unify 72 = .ok (.getfield 291, 3) := dk_180 1 35 (dk_at dksX1_unify_3 3 rfl rfl)
theorem dX1_unify_75 : decode cX1_unify 75 = .ok (.if_icmp .ge 31, 3) := dk_162 0 31 (dk_at dksX1_unify_3 6 rfl rfl)
theorem dX1_unify_78 : decode cX1_unify 78 = .ok (.iload_n 3, 1) := dk_29 (dk_at dksX1_unify_3 9 rfl rfl)
theorem dX1_unify_79 : decode cX1_unify 79 = .ok (.aload_n 0, 1) := dk_42 (dk_at dksX1_unify_3 10 rfl rfl)
theorem dX1_unify_80 : decode cX1_unify 80 = .ok (.getfield 56, 3) := dk_180 0 56 (dk_at dksX1_unify_3 11 rfl rfl)
theorem dX1_unify_83 : decode cX1_unify 83 = .ok (.iload 4, 2) := dk_21 4 (dk_at dksX1_unify_3 14 rfl rfl)
theorem dX1_unify_85 : decode cX1_unify 85 = .ok (.invokevirtual 526, 3) := dk_182 2 14 (dk_at dksX1_unify_3 16 rfl rfl)
theorem dX1_unify_88 : decode cX1_unify 88 = .ok (.iload 4, 2) := dk_21 4 (dk_at dksX1_unify_3 19 rfl rfl)
theorem dX1_unify_90 : decode cX1_unify 90 = .ok (.if_icmp .ne 7, 3) := dk_160 0 7 (dk_at dksX1_unify_3 21 rfl rfl)
theorem dX1_unify_93 : decode cX1_unify 93 = .ok (.iconst 1, 1) := dk_4 (dk_at dksX1_unify_4 0 rfl rfl)
theorem dX1_unify_94 : decode cX1_unify 94 = .ok (.goto 4, 3) := dk_167 0 4 (dk_at dksX1_unify_4 1 rfl rfl)
theorem dX1_unify_97 : decode cX1_unify 97 = .ok (.iconst 0, 1) := dk_3 (dk_at dksX1_unify_4 4 rfl rfl)
theorem dX1_unify_98 : decode cX1_unify 98 = .ok (.iadd, 1) := dk_96 (dk_at dksX1_unify_4 5 rfl rfl)
theorem dX1_unify_99 : decode cX1_unify 99 = .ok (.istore_n 3, 1) := dk_62 (dk_at dksX1_unify_4 6 rfl rfl)
theorem dX1_unify_100 : decode cX1_unify 100 = .ok (.iinc 4 1, 3) := dk_132 4 1 (dk_at dksX1_unify_4 7 rfl rfl)
theorem dX1_unify_103 : decode cX1_unify 103 = .ok (.goto (-37), 3) := dk_167 255 219 (dk_at dksX1_unify_4 10 rfl rfl)
theorem dX1_unify_106 : decode cX1_unify 106 = .ok (.iload_n 3, 1) := dk_29 (dk_at dksX1_unify_4 13 rfl rfl)
theorem dX1_unify_107 : decode cX1_unify 107 = .ok (.ireturn, 1) := dk_172 (dk_at dksX1_unify_4 14 rfl rfl)
def dkwX1_areAlike_1 : List UInt8 := [28, 16, 16, 188, 10, 182, 2, 24, 172]
abbrev dktX1_areAlike_1 : List UInt8 := dkwX1_areAlike_1 ++ []
def dkwX1_areAlike_0 : List UInt8 := [27, 42, 180, 0, 56, 180, 1, 35, 184, 0, 137, 28, 42, 180, 0, 56, 180, 1, 35, 184, 0, 137, 42, 27]
abbrev dktX1_areAlike_0 : List UInt8 := dkwX1_areAlike_0 ++ dktX1_areAlike_1
theorem dksX1_areAlike_0 : cX1_areAlike.data.toList.drop 0 = dktX1_areAlike_0 := by decide +kernel
theorem dksX1_areAlike_1 : cX1_areAlike.data.toList.drop 24 = dktX1_areAlike_1 := dk_seg dksX1_areAlike_0 24 rfl rfl
theorem dX1_areAlike_0 : decode cX1_areAlike 0 = .ok (.iload_n 1, 1) := dk_27 (dk_at dksX1_areAlike_0 0 rfl rfl)
theorem dX1_areAlike_1 : decode cX1_areAlike 1 = .ok (.aload_n 0, 1) := dk_42 (dk_at dksX1_areAlike_0 1 rfl rfl)
theorem dX1_areAlike_2 : decode cX1_areAlike 2 = .ok (.getfield 56, 3) := dk_180 0 56 (dk_at dksX1_areAlike_0 2 rfl rfl)
theorem dX1_areAlike_5 : decode cX1_areAlike 5 = .ok (.getfield 291, 3) := dk_180 1 35 (dk_at dksX1_areAlike_0 5 rfl rfl)
theorem dX1_areAlike_8 : decode cX1_areAlike 8 = .ok (.invokestatic 137, 3) := dk_184 0 137 (dk_at dksX1_areAlike_0 8 rfl rfl)
theorem dX1_areAlike_11 : decode cX1_areAlike 11 = .ok (.iload_n 2, 1) := dk_28 (dk_at dksX1_areAlike_0 11 rfl rfl)
theorem dX1_areAlike_12 : decode cX1_areAlike 12 = .ok (.aload_n 0, 1) := dk_42 (dk_at dksX1_areAlike_0 12 rfl rfl)
theorem dX1_areAlike_13 : decode cX1_areAlike 13 = .ok (.getfield 56, 3) := dk_180 0 56 (dk_at dksX1_areAlike_0 13 rfl rfl)
theorem dX1_areAlike_16 : decode cX1_areAlike 16 = .ok (.getfield 291, 3) := dk_180 1 35 (dk_at dksX1_areAlike_0 16 rfl rfl)
theorem dX1_areAlike_19 : decode cX1_areAlike 19 = .ok (.invokestatic 137, 3) := dk_184 0 137 (dk_at dksX1_areAlike_0 19 rfl rfl)
theorem dX1_areAlike_22 : decode cX1_areAlike 22 = .ok (.aload_n 0, 1) := dk_42 (dk_at dksX1_areAlike_0 22 rfl rfl)
theorem dX1_areAlike_23 : decode cX1_areAlike 23 = .ok (.iload_n 1, 1) := dk_27 (dk_at dksX1_areAlike_0 23 rfl rfl)
theorem dX1_areAlike_24 : decode cX1_areAlike 24 = .ok (.iload_n 2, 1) := dk_28 (dk_at dksX1_areAlike_1 0 rfl rfl)
theorem dX1_areAlike_25 : decode cX1_areAlike 25 = .ok (.bipush 16, 2) := dk_16 16 (dk_at dksX1_areAlike_1 1 rfl rfl)
theorem dX1_areAlike_27 : decode cX1_areAlike 27 = .ok (.newarray .int, 2) := dk_188_10 (dk_at dksX1_areAlike_1 3 rfl rfl)
theorem dX1_areAlike_29 : decode cX1_areAlike 29 = .ok (.invokevirtual 536, 3) := dk_182 2 24 (dk_at dksX1_areAlike_1 5 rfl rfl)
theorem dX1_areAlike_32 : decode cX1_areAlike 32 = .ok (.ireturn, 1) := dk_172 (dk_at dksX1_areAlike_1 8 rfl rfl)
def dkwX1_areAlike_2_7 : List UInt8 := [182, 2, 20, 45, 182, 2, 24, 153, 0, 7, 4, 167, 0, 4, 3, 172]
abbrev dktX1_areAlike_2_7 : List UInt8 := dkwX1_areAlike_2_7 ++ []
def dkwX1_areAlike_2_6 : List UInt8 := [7, 161, 0, 31, 42, 42, 180, 0, 56, 21, 4, 4, 182, 2, 20, 42, 180, 0, 56, 21, 5, 4]
abbrev dktX1_areAlike_2_6 : List UInt8 := dkwX1_areAlike_2_6 ++ dktX1_areAlike_2_7
def dkwX1_areAlike_2_5 : List UInt8 := [182, 2, 20, 45, 182, 2, 24, 153, 0, 7, 4, 167, 0, 4, 3, 54, 7, 21, 7, 153, 0, 41, 21, 6]
abbrev dktX1_areAlike_2_5 : List UInt8 := dkwX1_areAlike_2_5 ++ dktX1_areAlike_2_6
def dkwX1_areAlike_2_4 : List UInt8 := [21, 6, 5, 161, 0, 31, 42, 42, 180, 0, 56, 21, 4, 3, 182, 2, 20, 42, 180, 0, 56, 21, 5, 3]
abbrev dktX1_areAlike_2_4 : List UInt8 := dkwX1_areAlike_2_4 ++ dktX1_areAlike_2_5
def dkwX1_areAlike_2_3 : List UInt8 := [42, 180, 0, 56, 21, 5, 182, 2, 17, 160, 0, 7, 4, 167, 0, 4, 3, 54, 7, 21, 7, 153, 0, 41]
abbrev dktX1_areAlike_2_3 : List UInt8 := dkwX1_areAlike_2_3 ++ dktX1_areAlike_2_4
def dkwX1_areAlike_2_2 : List UInt8 := [21, 5, 120, 128, 79, 42, 180, 0, 56, 21, 4, 182, 2, 17, 54, 6, 21, 6, 2, 159, 0, 21, 21, 6]
abbrev dktX1_areAlike_2_2 : List UInt8 := dkwX1_areAlike_2_2 ++ dktX1_areAlike_2_3
def dkwX1_areAlike_2_1 : List UInt8 := [159, 0, 15, 45, 21, 4, 46, 21, 5, 184, 1, 63, 153, 0, 5, 4, 172, 45, 21, 4, 92, 46, 4]
abbrev dktX1_areAlike_2_1 : List UInt8 := dkwX1_areAlike_2_1 ++ dktX1_areAlike_2_2
def dkwX1_areAlike_2_0 : List UInt8 := [42, 180, 0, 56, 27, 182, 2, 14, 54, 4, 42, 180, 0, 56, 28, 182, 2, 14, 54, 5, 21, 4, 21, 5]
abbrev dktX1_areAlike_2_0 : List UInt8 := dkwX1_areAlike_2_0 ++ dktX1_areAlike_2_1
theorem dksX1_areAlike_2_0 : cX1_areAlike_2.data.toList.drop 0 = dktX1_areAlike_2_0 := by decide +kernel
theorem dksX1_areAlike_2_1 : cX1_areAlike_2.data.toList.drop 24 = dktX1_areAlike_2_1 := dk_seg dksX1_areAlike_2_0 24 rfl rfl
theorem dksX1_areAlike_2_2 : cX1_areAlike_2.data.toList.drop 47 = dktX1_areAlike_2_2 := dk_seg dksX1_areAlike_2_1 23 rfl rfl
theorem dksX1_areAlike_2_3 : cX1_areAlike_2.data.toList.drop 71 = dktX1_areAlike_2_3 := dk_seg dksX1_areAlike_2_2 24 rfl rfl
theorem dksX1_areAlike_2_4 : cX1_areAlike_2.data.toList.drop 95 = dktX1_areAlike_2_4 := dk_seg dksX1_areAlike_2_3 24 rfl rfl
theorem dksX1_areAlike_2_5 : cX1_areAlike_2.data.toList.drop 119 = dktX1_areAlike_2_5 := dk_seg dksX1_areAlike_2_4 24 rfl rfl
theorem dksX1_areAlike_2_6 : cX1_areAlike_2.data.toList.drop 143 = dktX1_areAlike_2_6 := dk_seg dksX1_areAlike_2_5 24 rfl rfl
theorem dksX1_areAlike_2_7 : cX1_areAlike_2.data.toList.drop 165 = dktX1_areAlike_2_7 := dk_seg dksX1_areAlike_2_6 22 rfl rfl
theorem dX1_areAlike_2_0 : decode cX1_areAlike_2 0 = .ok (.aload_n 0, 1) := dk_42 (dk_at dksX1_areAlike_2_0 0 rfl rfl)
theorem dX1_areAlike_2_1 : decode cX1_areAlike_2 1 = .ok (.getfield 56, 3) := dk_180 0 56 (dk_at dksX1_areAlike_2_0 1 rfl rfl)
theorem dX1_areAlike_2_4 : decode cX1_areAlike_2 4 = .ok (.iload_n 1, 1) := dk_27 (dk_at dksX1_areAlike_2_0 4 rfl rfl)
theorem dX1_areAlike_2_5 : decode cX1_areAlike_2 5 = .ok (.invokevirtual 526, 3) := dk_182 2 14 (dk_at dksX1_areAlike_2_0 5 rfl rfl)
theorem dX1_areAlike_2_8 : decode cX1_areAlike_2 8 = .ok (.istore 4, 2) := dk_54 4 (dk_at dksX1_areAlike_2_0 8 rfl rfl)
theorem dX1_areAlike_2_10 : decode cX1_areAlike_2 10 = .ok (.aload_n 0, 1) := dk_42 (dk_at dksX1_areAlike_2_0 10 rfl rfl)
theorem dX1_areAlike_2_11 : decode cX1_areAlike_2 11 = .ok (.getfield 56, 3) := dk_180 0 56 (dk_at dksX1_areAlike_2_0 11 rfl rfl)
theorem dX1_areAlike_2_14 : decode cX1_areAlike_2 14 = .ok (.iload_n 2, 1) := dk_28 (dk_at dksX1_areAlike_2_0 14 rfl rfl)
theorem dX1_areAlike_2_15 : decode cX1_areAlike_2 15 = .ok (.invokevirtual 526, 3) := dk_182 2 14 (dk_at dksX1_areAlike_2_0 15 rfl rfl)
theorem dX1_areAlike_2_18 : decode cX1_areAlike_2 18 = .ok (.istore 5, 2) := dk_54 5 (dk_at dksX1_areAlike_2_0 18 rfl rfl)
theorem dX1_areAlike_2_20 : decode cX1_areAlike_2 20 = .ok (.iload 4, 2) := dk_21 4 (dk_at dksX1_areAlike_2_0 20 rfl rfl)
theorem dX1_areAlike_2_22 : decode cX1_areAlike_2 22 = .ok (.iload 5, 2) := dk_21 5 (dk_at dksX1_areAlike_2_0 22 rfl rfl)
theorem dX1_areAlike_2_24 : decode cX1_areAlike_2 24 = .ok (.if_icmp .eq 15, 3) := dk_159 0 15 (dk_at dksX1_areAlike_2_1 0 rfl rfl)
theorem dX1_areAlike_2_27 : decode cX1_areAlike_2 27 = .ok (.aload_n 3, 1) := dk_45 (dk_at dksX1_areAlike_2_1 3 rfl rfl)
theorem dX1_areAlike_2_28 : decode cX1_areAlike_2 28 = .ok (.iload 4, 2) := dk_21 4 (dk_at dksX1_areAlike_2_1 4 rfl rfl)
theorem dX1_areAlike_2_30 : decode cX1_areAlike_2 30 = .ok (.iaload, 1) := dk_46 (dk_at dksX1_areAlike_2_1 6 rfl rfl)
theorem dX1_areAlike_2_31 : decode cX1_areAlike_2 31 = .ok (.iload 5, 2) := dk_21 5 (dk_at dksX1_areAlike_2_1 7 rfl rfl)
theorem dX1_areAlike_2_33 : decode cX1_areAlike_2 33 = .ok (.invokestatic 319, 3) := dk_184 1 63 (dk_at dksX1_areAlike_2_1 9 rfl rfl)
theorem dX1_areAlike_2_36 : decode cX1_areAlike_2 36 = .ok (.ifCond .eq 5, 3) := dk_153 0 5 (dk_at dksX1_areAlike_2_1 12 rfl rfl)
theorem dX1_areAlike_2_39 : decode cX1_areAlike_2 39 = .ok (.iconst 1, 1) := dk_4 (dk_at dksX1_areAlike_2_1 15 rfl rfl)
theorem dX1_areAlike_2_40 : decode cX1_areAlike_2 40 = .ok (.ireturn, 1) := dk_172 (dk_at dksX1_areAlike_2_1 16 rfl rfl)
theorem dX1_areAlike_2_41 : decode cX1_areAlike_2 41 = .ok (.aload_n 3, 1) := dk_45 (dk_at dksX1_areAlike_2_1 17 rfl rfl)
theorem dX1_areAlike_2_42 : decode cX1_areAlike_2 42 = .ok (.iload 4, 2) := dk_21 4 (dk_at dksX1_areAlike_2_1 18 rfl rfl)
theorem dX1_areAlike_2_44 : decode cX1_areAlike_2 44 = .ok (.dup2, 1) := dk_92 (dk_at dksX1_areAlike_2_1 20 rfl rfl)
theorem dX1_areAlike_2_45 : decode cX1_areAlike_2 45 = .ok (.iaload, 1) := dk_46 (dk_at dksX1_areAlike_2_1 21 rfl rfl)
theorem dX1_areAlike_2_46 : decode cX1_areAlike_2 46 = .ok (.iconst 1, 1) := dk_4 (dk_at dksX1_areAlike_2_1 22 rfl rfl)
theorem dX1_areAlike_2_47 : decode cX1_areAlike_2 47 = .ok (.iload 5, 2) := dk_21 5 (dk_at dksX1_areAlike_2_2 0 rfl rfl)
theorem dX1_areAlike_2_49 : decode cX1_areAlike_2 49 = .ok (.ishl, 1) := dk_120 (dk_at dksX1_areAlike_2_2 2 rfl rfl)
theorem dX1_areAlike_2_50 : decode cX1_areAlike_2 50 = .ok (.ior, 1) := dk_128 (dk_at dksX1_areAlike_2_2 3 rfl rfl)
theorem dX1_areAlike_2_51 : decode cX1_areAlike_2 51 = .ok (.iastore, 1) := dk_79 (dk_at dksX1_areAlike_2_2 4 rfl rfl)
theorem dX1_areAlike_2_52 : decode cX1_areAlike_2 52 = .ok (.aload_n 0, 1) := dk_42 (dk_at dksX1_areAlike_2_2 5 rfl rfl)
theorem dX1_areAlike_2_53 : decode cX1_areAlike_2 53 = .ok (.getfield 56, 3) := dk_180 0 56 (dk_at dksX1_areAlike_2_2 6 rfl rfl)
theorem dX1_areAlike_2_56 : decode cX1_areAlike_2 56 = .ok (.iload 4, 2) := dk_21 4 (dk_at dksX1_areAlike_2_2 9 rfl rfl)
theorem dX1_areAlike_2_58 : decode cX1_areAlike_2 58 = .ok (.invokevirtual 529, 3) := dk_182 2 17 (dk_at dksX1_areAlike_2_2 11 rfl rfl)
theorem dX1_areAlike_2_61 : decode cX1_areAlike_2 61 = .ok (.istore 6, 2) := dk_54 6 (dk_at dksX1_areAlike_2_2 14 rfl rfl)
theorem dX1_areAlike_2_63 : decode cX1_areAlike_2 63 = .ok (.iload 6, 2) := dk_21 6 (dk_at dksX1_areAlike_2_2 16 rfl rfl)
theorem dX1_areAlike_2_65 : decode cX1_areAlike_2 65 = .ok (.iconst (-1), 1) := dk_2 (dk_at dksX1_areAlike_2_2 18 rfl rfl)
theorem dX1_areAlike_2_66 : decode cX1_areAlike_2 66 = .ok (.if_icmp .eq 21, 3) := dk_159 0 21 (dk_at dksX1_areAlike_2_2 19 rfl rfl)
theorem dX1_areAlike_2_69 : decode cX1_areAlike_2 69 = .ok (.iload 6, 2) := dk_21 6 (dk_at dksX1_areAlike_2_2 22 rfl rfl)
theorem dX1_areAlike_2_71 : decode cX1_areAlike_2 71 = .ok (.aload_n 0, 1) := dk_42 (dk_at dksX1_areAlike_2_3 0 rfl rfl)
theorem dX1_areAlike_2_72 : decode cX1_areAlike_2 72 = .ok (.getfield 56, 3) := dk_180 0 56 (dk_at dksX1_areAlike_2_3 1 rfl rfl)
theorem dX1_areAlike_2_75 : decode cX1_areAlike_2 75 = .ok (.iload 5, 2) := dk_21 5 (dk_at dksX1_areAlike_2_3 4 rfl rfl)
theorem dX1_areAlike_2_77 : decode cX1_areAlike_2 77 = .ok (.invokevirtual 529, 3) := dk_182 2 17 (dk_at dksX1_areAlike_2_3 6 rfl rfl)
theorem dX1_areAlike_2_80 : decode cX1_areAlike_2 80 = .ok (.if_icmp .ne 7, 3) := dk_160 0 7 (dk_at dksX1_areAlike_2_3 9 rfl rfl)
theorem dX1_areAlike_2_83 : decode cX1_areAlike_2 83 = .ok (.iconst 1, 1) := dk_4 (dk_at dksX1_areAlike_2_3 12 rfl rfl)
theorem dX1_areAlike_2_84 : decode cX1_areAlike_2 84 = .ok (.goto 4, 3) := dk_167 0 4 (dk_at dksX1_areAlike_2_3 13 rfl rfl)
theorem dX1_areAlike_2_87 : decode cX1_areAlike_2 87 = .ok (.iconst 0, 1) := dk_3 (dk_at dksX1_areAlike_2_3 16 rfl rfl)
theorem dX1_areAlike_2_88 : decode cX1_areAlike_2 88 = .ok (.istore 7, 2) := dk_54 7 (dk_at dksX1_areAlike_2_3 17 rfl rfl)
theorem dX1_areAlike_2_90 : decode cX1_areAlike_2 90 = .ok (.iload 7, 2) := dk_21 7 (dk_at dksX1_areAlike_2_3 19 rfl rfl)
theorem dX1_areAlike_2_92 : decode cX1_areAlike_2 92 = .ok (.ifCond .eq 41, 3) := dk_153 0 41 (dk_at dksX1_areAlike_2_3 21 rfl rfl)
theorem dX1_areAlike_2_95 : decode cX1_areAlike_2 95 = .ok (.iload 6, 2) := dk_21 6 (dk_at dksX1_areAlike_2_4 0 rfl rfl)
theorem dX1_areAlike_2_97 : decode cX1_areAlike_2 97 = .ok (.iconst 2, 1) := dk_5 (dk_at dksX1_areAlike_2_4 2 rfl rfl)
theorem dX1_areAlike_2_98 : decode cX1_areAlike_2 98 = .ok (.if_icmp .lt 31, 3) := dk_161 0 31 (dk_at dksX1_areAlike_2_4 3 rfl rfl)
theorem dX1_areAlike_2_101 : decode cX1_areAlike_2 101 = .ok (.aload_n 0, 1) := dk_42 (dk_at dksX1_areAlike_2_4 6 rfl rfl)
theorem dX1_areAlike_2_102 : decode cX1_areAlike_2 102 = .ok (.aload_n 0, 1) := dk_42 (dk_at dksX1_areAlike_2_4 7 rfl rfl)
theorem dX1_areAlike_2_103 : decode cX1_areAlike_2 103 = .ok (.getfield 56, 3) := dk_180 0 56 (dk_at dksX1_areAlike_2_4 8 rfl rfl)
theorem dX1_areAlike_2_106 : decode cX1_areAlike_2 106 = .ok (.iload 4, 2) := dk_21 4 (dk_at dksX1_areAlike_2_4 11 rfl rfl)
theorem dX1_areAlike_2_108 : decode cX1_areAlike_2 108 = .ok (.iconst 0, 1) := dk_3 (dk_at dksX1_areAlike_2_4 13 rfl rfl)
theorem dX1_areAlike_2_109 : decode cX1_areAlike_2 109 = .ok (.invokevirtual 532, 3) := dk_182 2 20 (dk_at dksX1_areAlike_2_4 14 rfl rfl)
theorem dX1_areAlike_2_112 : decode cX1_areAlike_2 112 = .ok (.aload_n 0, 1) := dk_42 (dk_at dksX1_areAlike_2_4 17 rfl rfl)
theorem dX1_areAlike_2_113 : decode cX1_areAlike_2 113 = .ok (.getfield 56, 3) := dk_180 0 56 (dk_at dksX1_areAlike_2_4 18 rfl rfl)
theorem dX1_areAlike_2_116 : decode cX1_areAlike_2 116 = .ok (.iload 5, 2) := dk_21 5 (dk_at dksX1_areAlike_2_4 21 rfl rfl)
theorem dX1_areAlike_2_118 : decode cX1_areAlike_2 118 = .ok (.iconst 0, 1) := dk_3 (dk_at dksX1_areAlike_2_4 23 rfl rfl)
theorem dX1_areAlike_2_119 : decode cX1_areAlike_2 119 = .ok (.invokevirtual 532, 3) := dk_182 2 20 (dk_at dksX1_areAlike_2_5 0 rfl rfl)
theorem dX1_areAlike_2_122 : decode cX1_areAlike_2 122 = .ok (.aload_n 3, 1) := dk_45 (dk_at dksX1_areAlike_2_5 3 rfl rfl)
theorem dX1_areAlike_2_123 : decode cX1_areAlike_2 123 = .ok (.invokevirtual 536, 3) := dk_182 2 24 (dk_at dksX1_areAlike_2_5 4 rfl rfl)
theorem dX1_areAlike_2_126 : decode cX1_areAlike_2 126 = .ok (.ifCond .eq 7, 3) := dk_153 0 7 (dk_at dksX1_areAlike_2_5 7 rfl rfl)
theorem dX1_areAlike_2_129 : decode cX1_areAlike_2 129 = .ok (.iconst 1, 1) := dk_4 (dk_at dksX1_areAlike_2_5 10 rfl rfl)
theorem dX1_areAlike_2_130 : decode cX1_areAlike_2 130 = .ok (.goto 4, 3) := dk_167 0 4 (dk_at dksX1_areAlike_2_5 11 rfl rfl)
theorem dX1_areAlike_2_133 : decode cX1_areAlike_2 133 = .ok (.iconst 0, 1) := dk_3 (dk_at dksX1_areAlike_2_5 14 rfl rfl)
theorem dX1_areAlike_2_134 : decode cX1_areAlike_2 134 = .ok (.istore 7, 2) := dk_54 7 (dk_at dksX1_areAlike_2_5 15 rfl rfl)
theorem dX1_areAlike_2_136 : decode cX1_areAlike_2 136 = .ok (.iload 7, 2) := dk_21 7 (dk_at dksX1_areAlike_2_5 17 rfl rfl)
theorem dX1_areAlike_2_138 : decode cX1_areAlike_2 138 = .ok (.ifCond .eq 41, 3) := dk_153 0 41 (dk_at dksX1_areAlike_2_5 19 rfl rfl)
theorem dX1_areAlike_2_141 : decode cX1_areAlike_2 141 = .ok (.iload 6, 2) := dk_21 6 (dk_at dksX1_areAlike_2_5 22 rfl rfl)
theorem dX1_areAlike_2_143 : decode cX1_areAlike_2 143 = .ok (.iconst 4, 1) := dk_7 (dk_at dksX1_areAlike_2_6 0 rfl rfl)
theorem dX1_areAlike_2_144 : decode cX1_areAlike_2 144 = .ok (.if_icmp .lt 31, 3) := dk_161 0 31 (dk_at dksX1_areAlike_2_6 1 rfl rfl)
theorem dX1_areAlike_2_147 : decode cX1_areAlike_2 147 = .ok (.aload_n 0, 1) := dk_42 (dk_at dksX1_areAlike_2_6 4 rfl rfl)
theorem dX1_areAlike_2_148 : decode cX1_areAlike_2 148 = .ok (.aload_n 0, 1) := dk_42 (dk_at dksX1_areAlike_2_6 5 rfl rfl)
theorem dX1_areAlike_2_149 : decode cX1_areAlike_2 149 = .ok (.getfield 56, 3) := dk_180 0 56 (dk_at dksX1_areAlike_2_6 6 rfl rfl)
theorem dX1_areAlike_2_152 : decode cX1_areAlike_2 152 = .ok (.iload 4, 2) := dk_21 4 (dk_at dksX1_areAlike_2_6 9 rfl rfl)
theorem dX1_areAlike_2_154 : decode cX1_areAlike_2 154 = .ok (.iconst 1, 1) := dk_4 (dk_at dksX1_areAlike_2_6 11 rfl rfl)
theorem dX1_areAlike_2_155 : decode cX1_areAlike_2 155 = .ok (.invokevirtual 532, 3) := dk_182 2 20 (dk_at dksX1_areAlike_2_6 12 rfl rfl)
theorem dX1_areAlike_2_158 : decode cX1_areAlike_2 158 = .ok (.aload_n 0, 1) := dk_42 (dk_at dksX1_areAlike_2_6 15 rfl rfl)
theorem dX1_areAlike_2_159 : decode cX1_areAlike_2 159 = .ok (.getfield 56, 3) := dk_180 0 56 (dk_at dksX1_areAlike_2_6 16 rfl rfl)
theorem dX1_areAlike_2_162 : decode cX1_areAlike_2 162 = .ok (.iload 5, 2) := dk_21 5 (dk_at dksX1_areAlike_2_6 19 rfl rfl)
theorem dX1_areAlike_2_164 : decode cX1_areAlike_2 164 = .ok (.iconst 1, 1) := dk_4 (dk_at dksX1_areAlike_2_6 21 rfl rfl)
theorem dX1_areAlike_2_165 : decode cX1_areAlike_2 165 = .ok (.invokevirtual 532, 3) := dk_182 2 20 (dk_at dksX1_areAlike_2_7 0 rfl rfl)
theorem dX1_areAlike_2_168 : decode cX1_areAlike_2 168 = .ok (.aload_n 3, 1) := dk_45 (dk_at dksX1_areAlike_2_7 3 rfl rfl)
theorem dX1_areAlike_2_169 : decode cX1_areAlike_2 169 = .ok (.invokevirtual 536, 3) := dk_182 2 24 (dk_at dksX1_areAlike_2_7 4 rfl rfl)
theorem dX1_areAlike_2_172 : decode cX1_areAlike_2 172 = .ok (.ifCond .eq 7, 3) := dk_153 0 7 (dk_at dksX1_areAlike_2_7 7 rfl rfl)
theorem dX1_areAlike_2_175 : decode cX1_areAlike_2 175 = .ok (.iconst 1, 1) := dk_4 (dk_at dksX1_areAlike_2_7 10 rfl rfl)
theorem dX1_areAlike_2_176 : decode cX1_areAlike_2 176 = .ok (.goto 4, 3) := dk_167 0 4 (dk_at dksX1_areAlike_2_7 11 rfl rfl)
theorem dX1_areAlike_2_179 : decode cX1_areAlike_2 179 = .ok (.iconst 0, 1) := dk_3 (dk_at dksX1_areAlike_2_7 14 rfl rfl)
theorem dX1_areAlike_2_180 : decode cX1_areAlike_2 180 = .ok (.ireturn, 1) := dk_172 (dk_at dksX1_areAlike_2_7 15 rfl rfl)
def dkwX1_symbolAt_4 : List UInt8 := [182, 2, 17, 172]
abbrev dktX1_symbolAt_4 : List UInt8 := dkwX1_symbolAt_4 ++ []
def dkwX1_symbolAt_3 : List UInt8 := [132, 5, 1, 167, 255, 224, 21, 4, 2, 160, 0, 7, 2, 167, 0, 12, 42, 180, 0, 56, 21, 4]
abbrev dktX1_symbolAt_3 : List UInt8 := dkwX1_symbolAt_3 ++ dktX1_symbolAt_4
def dkwX1_symbolAt_2 : List UInt8 := [21, 4, 2, 159, 0, 26, 42, 180, 0, 56, 21, 4, 28, 21, 5, 184, 1, 63, 182, 2, 20, 54, 4]
abbrev dktX1_symbolAt_2 : List UInt8 := dkwX1_symbolAt_2 ++ dktX1_symbolAt_3
def dkwX1_symbolAt_1 : List UInt8 := [100, 184, 0, 162, 42, 180, 0, 56, 27, 182, 2, 14, 54, 4, 3, 54, 5, 21, 5, 29, 162, 0, 32]
abbrev dktX1_symbolAt_1 : List UInt8 := dkwX1_symbolAt_1 ++ dktX1_symbolAt_2
def dkwX1_symbolAt_0 : List UInt8 := [27, 42, 180, 0, 56, 180, 1, 35, 184, 0, 137, 29, 3, 16, 20, 184, 0, 162, 28, 3, 4, 29, 120, 4]
abbrev dktX1_symbolAt_0 : List UInt8 := dkwX1_symbolAt_0 ++ dktX1_symbolAt_1
theorem dksX1_symbolAt_0 : cX1_symbolAt.data.toList.drop 0 = dktX1_symbolAt_0 := by decide +kernel
theorem dksX1_symbolAt_1 : cX1_symbolAt.data.toList.drop 24 = dktX1_symbolAt_1 := dk_seg dksX1_symbolAt_0 24 rfl rfl
theorem dksX1_symbolAt_2 : cX1_symbolAt.data.toList.drop 47 = dktX1_symbolAt_2 := dk_seg dksX1_symbolAt_1 23 rfl rfl
theorem dksX1_symbolAt_3 : cX1_symbolAt.data.toList.drop 70 = dktX1_symbolAt_3 := dk_seg dksX1_symbolAt_2 23 rfl rfl
theorem dksX1_symbolAt_4 : cX1_symbolAt.data.toList.drop 92 = dktX1_symbolAt_4 := dk_seg dksX1_symbolAt_3 22 rfl rfl
theorem dX1_symbolAt_0 : decode cX1_symbolAt 0 = .ok (.iload_n 1, 1) := dk_27 (dk_at dksX1_symbolAt_0 0 rfl rfl)
theorem dX1_symbolAt_1 : decode cX1_symbolAt 1 = .ok (.aload_n 0, 1) := dk_42 (dk_at dksX1_symbolAt_0 1 rfl rfl)
theorem dX1_symbolAt_2 : decode cX1_symbolAt 2 = .ok (.getfield 56, 3) := dk_180 0 56 (dk_at dksX1_symbolAt_0 2 rfl rfl)
theorem dX1_symbolAt_5 : decode cX1_symbolAt 5 = .ok (.getfield 291, 3) := dk_180 1 35 (dk_at dksX1_symbolAt_0 5 rfl rfl)
theorem dX1_symbolAt_8 : decode cX1_symbolAt 8 = .ok (.invokestatic 137, 3) := dk_184 0 137 (dk_at dksX1_symbolAt_0 8 rfl rfl)
theorem dX1_symbolAt_11 : decode cX1_symbolAt 11 = .ok (.iload_n 3, 1) := dk_29 (dk_at dksX1_symbolAt_0 11 rfl rfl)
theorem dX1_symbolAt_12 : decode cX1_symbolAt 12 = .ok (.iconst 0, 1) := dk_3 (dk_at dksX1_symbolAt_0 12 rfl rfl)
theorem dX1_symbolAt_13 : decode cX1_symbolAt 13 = .ok (.bipush 20, 2) := dk_16 20 (dk_at dksX1_symbolAt_0 13 rfl rfl)
theorem dX1_symbolAt_15 : decode cX1_symbolAt 15 = .ok (.invokestatic 162, 3) := dk_184 0 162 (dk_at dksX1_symbolAt_0 15 rfl rfl)
theorem dX1_symbolAt_18 : decode cX1_symbolAt 18 = .ok (.iload_n 2, 1) := dk_28 (dk_at dksX1_symbolAt_0 18 rfl rfl)
theorem dX1_symbolAt_19 : decode cX1_symbolAt 19 = .ok (.iconst 0, 1) := dk_3 (dk_at dksX1_symbolAt_0 19 rfl rfl)
theorem dX1_symbolAt_20 : decode cX1_symbolAt 20 = .ok (.iconst 1, 1) := dk_4 (dk_at dksX1_symbolAt_0 20 rfl rfl)
theorem dX1_symbolAt_21 : decode cX1_symbolAt 21 = .ok (.iload_n 3, 1) := dk_29 (dk_at dksX1_symbolAt_0 21 rfl rfl)
theorem dX1_symbolAt_22 : decode cX1_symbolAt 22 = .ok (.ishl, 1) := dk_120 (dk_at dksX1_symbolAt_0 22 rfl rfl)
theorem dX1_symbolAt_23 : decode cX1_symbolAt 23 = .ok (.iconst 1, 1) := dk_4 (dk_at dksX1_symbolAt_0 23 rfl rfl)
theorem dX1_symbolAt_24 : decode cX1_symbolAt 24 = .ok (.isub, 1) := dk_100 (dk_at dksX1_symbolAt_1 0 rfl rfl)
theorem dX1_symbolAt_25 : decode cX1_symbolAt 25 = .ok (.invokestatic 162, 3) := dk_184 0 162 (dk_at dksX1_symbolAt_1 1 rfl rfl)
theorem dX1_symbolAt_28 : decode cX1_symbolAt 28 = .ok (.aload_n 0, 1) := dk_42 (dk_at dksX1_symbolAt_1 4 rfl rfl)
theorem dX1_symbolAt_29 : decode cX1_symbolAt 29 = .ok (.getfield 56, 3) := dk_180 0 56 (dk_at dksX1_symbolAt_1 5 rfl rfl)
theorem dX1_symbolAt_32 : decode cX1_symbolAt 32 = .ok (.iload_n 1, 1) := dk_27 (dk_at dksX1_symbolAt_1 8 rfl rfl)
theorem dX1_symbolAt_33 : decode cX1_symbolAt 33 = .ok (.invokevirtual 526, 3) := dk_182 2 14 (dk_at dksX1_symbolAt_1 9 rfl rfl)
theorem dX1_symbolAt_36 : decode cX1_symbolAt 36 = .ok (.istore 4, 2) := dk_54 4 (dk_at dksX1_symbolAt_1 12 rfl rfl)
theorem dX1_symbolAt_38 : decode cX1_symbolAt 38 = .ok (.iconst 0, 1) := dk_3 (dk_at dksX1_symbolAt_1 14 rfl rfl)
theorem dX1_symbolAt_39 : decode cX1_symbolAt 39 = .ok (.istore 5, 2) := dk_54 5 (dk_at dksX1_symbolAt_1 15 rfl rfl)
theorem dX1_symbolAt_41 : decode cX1_symbolAt 41 = .ok (.iload 5, 2) := dk_21 5 (dk_at dksX1_symbolAt_1 17 rfl rfl)
theorem dX1_symbolAt_43 : decode cX1_symbolAt 43 = .ok (.iload_n 3, 1) := dk_29 (dk_at dksX1_symbolAt_1 19 rfl rfl)
theorem dX1_symbolAt_44 : decode cX1_symbolAt 44 = .ok (.if_icmp .ge 32, 3) := dk_162 0 32 (dk_at dksX1_symbolAt_1 20 rfl rfl)
theorem dX1_symbolAt_47 : decode cX1_symbolAt 47 = .ok (.iload 4, 2) := dk_21 4 (dk_at dksX1_symbolAt_2 0 rfl rfl)
theorem dX1_symbolAt_49 : decode cX1_symbolAt 49 = .ok (.iconst (-1), 1) := dk_2 (dk_at dksX1_symbolAt_2 2 rfl rfl)
theorem dX1_symbolAt_50 : decode cX1_symbolAt 50 = .ok (.if_icmp .eq 26, 3) := dk_159 0 26 (dk_at dksX1_symbolAt_2 3 rfl rfl)
theorem dX1_symbolAt_53 : decode cX1_symbolAt 53 = .ok (.aload_n 0, 1) := dk_42 (dk_at dksX1_symbolAt_2 6 rfl rfl)
theorem dX1_symbolAt_54 : decode cX1_symbolAt 54 = .ok (.getfield 56, 3) := dk_180 0 56 (dk_at dksX1_symbolAt_2 7 rfl rfl)
theorem dX1_symbolAt_57 : decode cX1_symbolAt 57 = .ok (.iload 4, 2) := dk_21 4 (dk_at dksX1_symbolAt_2 10 rfl rfl)
theorem dX1_symbolAt_59 : decode cX1_symbolAt 59 = .ok (.iload_n 2, 1) := dk_28 (dk_at dksX1_symbolAt_2 12 rfl rfl)
theorem dX1_symbolAt_60 : decode cX1_symbolAt 60 = .ok (.iload 5, 2) := dk_21 5 (dk_at dksX1_symbolAt_2 13 rfl rfl)
theorem dX1_symbolAt_62 : decode cX1_symbolAt 62 = .ok (.invokestatic 319, 3) := dk_184 1 63 (dk_at dksX1_symbolAt_2 15 rfl rfl)
theorem dX1_symbolAt_65 : decode cX1_symbolAt 65 = .ok (.invokevirtual 532, 3) := dk_182 2 20 (dk_at dksX1_symbolAt_2 18 rfl rfl)
theorem dX1_symbolAt_68 : decode cX1_symbolAt 68 = .ok (.istore 4, 2) := dk_54 4 (dk_at dksX1_symbolAt_2 21 rfl rfl)
theorem dX1_symbolAt_70 : decode cX1_symbolAt 70 = .ok (.iinc 5 1, 3) := dk_132 5 1 (dk_at dksX1_symbolAt_3 0 rfl rfl)
theorem dX1_symbolAt_73 : decode cX1_symbolAt 73 = .ok (.goto (-32), 3) := dk_167 255 224 (dk_at dksX1_symbolAt_3 3 rfl rfl)
theorem dX1_symbolAt_76 : decode cX1_symbolAt 76 = .ok (.iload 4, 2) := dk_21 4 (dk_at dksX1_symbolAt_3 6 rfl rfl)
theorem dX1_symbolAt_78 : decode cX1_symbolAt 78 = .ok (.iconst (-1), 1) := dk_2 (dk_at dksX1_symbolAt_3 8 rfl rfl)
theorem dX1_symbolAt_79 : decode cX1_symbolAt 79 = .ok (.if_icmp .ne 7, 3) := dk_160 0 7 (dk_at dksX1_symbolAt_3 9 rfl rfl)
theorem dX1_symbolAt_82 : decode cX1_symbolAt 82 = .ok (.iconst (-1), 1) := dk_2 (dk_at dksX1_symbolAt_3 12 rfl rfl)
theorem dX1_symbolAt_83 : decode cX1_symbolAt 83 = .ok (.goto 12, 3) := dk_167 0 12 (dk_at dksX1_symbolAt_3 13 rfl rfl)
theorem dX1_symbolAt_86 : decode cX1_symbolAt 86 = .ok (.aload_n 0, 1) := dk_42 (dk_at dksX1_symbolAt_3 16 rfl rfl)
theorem dX1_symbolAt_87 : decode cX1_symbolAt 87 = .ok (.getfield 56, 3) := dk_180 0 56 (dk_at dksX1_symbolAt_3 17 rfl rfl)
theorem dX1_symbolAt_90 : decode cX1_symbolAt 90 = .ok (.iload 4, 2) := dk_21 4 (dk_at dksX1_symbolAt_3 20 rfl rfl)
theorem dX1_symbolAt_92 : decode cX1_symbolAt 92 = .ok (.invokevirtual 529, 3) := dk_182 2 17 (dk_at dksX1_symbolAt_4 0 rfl rfl)
theorem dX1_symbolAt_95 : decode cX1_symbolAt 95 = .ok (.ireturn, 1) := dk_172 (dk_at dksX1_symbolAt_4 3 rfl rfl)
def dkwX1_isEndless_0 : List UInt8 := [27, 42, 180, 0, 56, 180, 1, 35, 184, 0, 137, 42, 27, 3, 182, 2, 28, 172]
abbrev dktX1_isEndless_0 : List UInt8 := dkwX1_isEndless_0 ++ []
theorem dksX1_isEndless_0 : cX1_isEndless.data.toList.drop 0 = dktX1_isEndless_0 := by decide +kernel
theorem dX1_isEndless_0 : decode cX1_isEndless 0 = .ok (.iload_n 1, 1) := dk_27 (dk_at dksX1_isEndless_0 0 rfl rfl)
theorem dX1_isEndless_1 : decode cX1_isEndless 1 = .ok (.aload_n 0, 1) := dk_42 (dk_at dksX1_isEndless_0 1 rfl rfl)
theorem dX1_isEndless_2 : decode cX1_isEndless 2 = .ok (.getfield 56, 3) := dk_180 0 56 (dk_at dksX1_isEndless_0 2 rfl rfl)
theorem dX1_isEndless_5 : decode cX1_isEndless 5 = .ok (.getfield 291, 3) := dk_180 1 35 (dk_at dksX1_isEndless_0 5 rfl rfl)
theorem dX1_isEndless_8 : decode cX1_isEndless 8 = .ok (.invokestatic 137, 3) := dk_184 0 137 (dk_at dksX1_isEndless_0 8 rfl rfl)
theorem dX1_isEndless_11 : decode cX1_isEndless 11 = .ok (.aload_n 0, 1) := dk_42 (dk_at dksX1_isEndless_0 11 rfl rfl)
theorem dX1_isEndless_12 : decode cX1_isEndless 12 = .ok (.iload_n 1, 1) := dk_27 (dk_at dksX1_isEndless_0 12 rfl rfl)
theorem dX1_isEndless_13 : decode cX1_isEndless 13 = .ok (.iconst 0, 1) := dk_3 (dk_at dksX1_isEndless_0 13 rfl rfl)
theorem dX1_isEndless_14 : decode cX1_isEndless 14 = .ok (.invokevirtual 540, 3) := dk_182 2 28 (dk_at dksX1_isEndless_0 14 rfl rfl)
theorem dX1_isEndless_17 : decode cX1_isEndless 17 = .ok (.ireturn, 1) := dk_172 (dk_at dksX1_isEndless_0 17 rfl rfl)
def dkwX1_isEndless_2_3 : List UInt8 := [29, 120, 128, 182, 2, 28, 153, 0, 7, 4, 167, 0, 4, 3, 172]
abbrev dktX1_isEndless_2_3 : List UInt8 := dkwX1_isEndless_2_3 ++ []
def dkwX1_isEndless_2_2 : List UInt8 := [21, 4, 28, 4, 29, 120, 128, 182, 2, 28, 154, 0, 23, 21, 5, 2, 159, 0, 21, 42, 21, 5, 28, 4]
abbrev dktX1_isEndless_2_2 : List UInt8 := dkwX1_isEndless_2_2 ++ dktX1_isEndless_2_3
def dkwX1_isEndless_2_1 : List UInt8 := [3, 182, 2, 20, 54, 4, 42, 180, 0, 56, 29, 4, 182, 2, 20, 54, 5, 21, 4, 2, 159, 0, 17, 42]
abbrev dktX1_isEndless_2_1 : List UInt8 := dkwX1_isEndless_2_1 ++ dktX1_isEndless_2_2
def dkwX1_isEndless_2_0 : List UInt8 := [42, 180, 0, 56, 27, 182, 2, 14, 62, 28, 29, 184, 1, 63, 153, 0, 5, 4, 172, 42, 180, 0, 56, 29]
abbrev dktX1_isEndless_2_0 : List UInt8 := dkwX1_isEndless_2_0 ++ dktX1_isEndless_2_1
theorem dksX1_isEndless_2_0 : cX1_isEndless_2.data.toList.drop 0 = dktX1_isEndless_2_0 := by decide +kernel
theorem dksX1_isEndless_2_1 : cX1_isEndless_2.data.toList.drop 24 = dktX1_isEndless_2_1 := dk_seg dksX1_isEndless_2_0 24 rfl rfl
theorem dksX1_isEndless_2_2 : cX1_isEndless_2.data.toList.drop 48 = dktX1_isEndless_2_2 := dk_seg dksX1_isEndless_2_1 24 rfl rfl
theorem dksX1_isEndless_2_3 : cX1_isEndless_2.data.toList.drop 72 = dktX1_isEndless_2_3 := dk_seg dksX1_isEndless_2_2 24 rfl rfl
theorem dX1_isEndless_2_0 : decode cX1_isEndless_2 0 = .ok (.aload_n 0, 1) := dk_42 (dk_at dksX1_isEndless_2_0 0 rfl rfl)
theorem dX1_isEndless_2_1 : decode cX1_isEndless_2 1 = .ok (.getfield 56, 3) := dk_180 0 56 (dk_at dksX1_isEndless_2_0 1 rfl rfl)
theorem dX1_isEndless_2_4 : decode cX1_isEndless_2 4 = .ok (.iload_n 1, 1) := dk_27 (dk_at dksX1_isEndless_2_0 4 rfl rfl)
theorem dX1_isEndless_2_5 : decode cX1_isEndless_2 5 = .ok (.invokevirtual 526, 3) := dk_182 2 14 (dk_at dksX1_isEndless_2_0 5 rfl rfl)
theorem dX1_isEndless_2_8 : decode cX1_isEndless_2 8 = .ok (.istore_n 3, 1) := dk_62 (dk_at dksX1_isEndless_2_0 8 rfl rfl)
theorem dX1_isEndless_2_9 : decode cX1_isEndless_2 9 = .ok (.iload_n 2, 1) := dk_28 (dk_at dksX1_isEndless_2_0 9 rfl rfl)
theorem dX1_isEndless_2_10 : decode cX1_isEndless_2 10 = .ok (.iload_n 3, 1) := dk_29 (dk_at dksX1_isEndless_2_0 10 rfl rfl)
theorem dX1_isEndless_2_11 : decode cX1_isEndless_2 11 = .ok (.invokestatic 319, 3) := dk_184 1 63 (dk_at dksX1_isEndless_2_0 11 rfl rfl)
theorem dX1_isEndless_2_14 : decode cX1_isEndless_2 14 = .ok (.ifCond .eq 5, 3) := dk_153 0 5 (dk_at dksX1_isEndless_2_0 14 rfl rfl)
theorem dX1_isEndless_2_17 : decode cX1_isEndless_2 17 = .ok (.iconst 1, 1) := dk_4 (dk_at dksX1_isEndless_2_0 17 rfl rfl)
theorem dX1_isEndless_2_18 : decode cX1_isEndless_2 18 = .ok (.ireturn, 1) := dk_172 (dk_at dksX1_isEndless_2_0 18 rfl rfl)
theorem dX1_isEndless_2_19 : decode cX1_isEndless_2 19 = .ok (.aload_n 0, 1) := dk_42 (dk_at dksX1_isEndless_2_0 19 rfl rfl)
theorem dX1_isEndless_2_20 : decode cX1_isEndless_2 20 = .ok (.getfield 56, 3) := dk_180 0 56 (dk_at dksX1_isEndless_2_0 20 rfl rfl)
theorem dX1_isEndless_2_23 : decode cX1_isEndless_2 23 = .ok (.iload_n 3, 1) := dk_29 (dk_at dksX1_isEndless_2_0 23 rfl rfl)
theorem dX1_isEndless_2_24 : decode cX1_isEndless_2 24 = .ok (.iconst 0, 1) := dk_3 (dk_at dksX1_isEndless_2_1 0 rfl rfl)
theorem dX1_isEndless_2_25 : decode cX1_isEndless_2 25 = .ok (.invokevirtual 532, 3) := dk_182 2 20 (dk_at dksX1_isEndless_2_1 1 rfl rfl)
theorem dX1_isEndless_2_28 : decode cX1_isEndless_2 28 = .ok (.istore 4, 2) := dk_54 4 (dk_at dksX1_isEndless_2_1 4 rfl rfl)
theorem dX1_isEndless_2_30 : decode cX1_isEndless_2 30 = .ok (.aload_n 0, 1) := dk_42 (dk_at dksX1_isEndless_2_1 6 rfl rfl)
theorem dX1_isEndless_2_31 : decode cX1_isEndless_2 31 = .ok (.getfield 56, 3) := dk_180 0 56 (dk_at dksX1_isEndless_2_1 7 rfl rfl)
theorem dX1_isEndless_2_34 : decode cX1_isEndless_2 34 = .ok (.iload_n 3, 1) := dk_29 (dk_at dksX1_isEndless_2_1 10 rfl rfl)
theorem dX1_isEndless_2_35 : decode cX1_isEndless_2 35 = .ok (.iconst 1, 1) := dk_4 (dk_at dksX1_isEndless_2_1 11 rfl rfl)
theorem dX1_isEndless_2_36 : decode cX1_isEndless_2 36 = .ok (.invokevirtual 532, 3) := dk_182 2 20 (dk_at dksX1_isEndless_2_1 12 rfl rfl)
theorem dX1_isEndless_2_39 : decode cX1_isEndless_2 39 = .ok (.istore 5, 2) := dk_54 5 (dk_at dksX1_isEndless_2_1 15 rfl rfl)
theorem dX1_isEndless_2_41 : decode cX1_isEndless_2 41 = .ok (.iload 4, 2) := dk_21 4 (dk_at dksX1_isEndless_2_1 17 rfl rfl)
theorem dX1_isEndless_2_43 : decode cX1_isEndless_2 43 = .ok (.iconst (-1), 1) := dk_2 (dk_at dksX1_isEndless_2_1 19 rfl rfl)
theorem dX1_isEndless_2_44 : decode cX1_isEndless_2 44 = .ok (.if_icmp .eq 17, 3) := dk_159 0 17 (dk_at dksX1_isEndless_2_1 20 rfl rfl)
theorem dX1_isEndless_2_47 : decode cX1_isEndless_2 47 = .ok (.aload_n 0, 1) := dk_42 (dk_at dksX1_isEndless_2_1 23 rfl rfl)
theorem dX1_isEndless_2_48 : decode cX1_isEndless_2 48 = .ok (.iload 4, 2) := dk_21 4 (dk_at dksX1_isEndless_2_2 0 rfl rfl)
theorem dX1_isEndless_2_50 : decode cX1_isEndless_2 50 = .ok (.iload_n 2, 1) := dk_28 (dk_at dksX1_isEndless_2_2 2 rfl rfl)
theorem dX1_isEndless_2_51 : decode cX1_isEndless_2 51 = .ok (.iconst 1, 1) := dk_4 (dk_at dksX1_isEndless_2_2 3 rfl rfl)
theorem dX1_isEndless_2_52 : decode cX1_isEndless_2 52 = .ok (.iload_n 3, 1) := dk_29 (dk_at dksX1_isEndless_2_2 4 rfl rfl)
theorem dX1_isEndless_2_53 : decode cX1_isEndless_2 53 = .ok (.ishl, 1) := dk_120 (dk_at dksX1_isEndless_2_2 5 rfl rfl)
theorem dX1_isEndless_2_54 : decode cX1_isEndless_2 54 = .ok (.ior, 1) := dk_128 (dk_at dksX1_isEndless_2_2 6 rfl rfl)
theorem dX1_isEndless_2_55 : decode cX1_isEndless_2 55 = .ok (.invokevirtual 540, 3) := dk_182 2 28 (dk_at dksX1_isEndless_2_2 7 rfl rfl)
theorem dX1_isEndless_2_58 : decode cX1_isEndless_2 58 = .ok (.ifCond .ne 23, 3) := dk_154 0 23 (dk_at dksX1_isEndless_2_2 10 rfl rfl)
theorem dX1_isEndless_2_61 : decode cX1_isEndless_2 61 = .ok (.iload 5, 2) := dk_21 5 (dk_at dksX1_isEndless_2_2 13 rfl rfl)
theorem dX1_isEndless_2_63 : decode cX1_isEndless_2 63 = .ok (.iconst (-1), 1) := dk_2 (dk_at dksX1_isEndless_2_2 15 rfl rfl)
theorem dX1_isEndless_2_64 : decode cX1_isEndless_2 64 = .ok (.if_icmp .eq 21, 3) := dk_159 0 21 (dk_at dksX1_isEndless_2_2 16 rfl rfl)
theorem dX1_isEndless_2_67 : decode cX1_isEndless_2 67 = .ok (.aload_n 0, 1) := dk_42 (dk_at dksX1_isEndless_2_2 19 rfl rfl)
theorem dX1_isEndless_2_68 : decode cX1_isEndless_2 68 = .ok (.iload 5, 2) := dk_21 5 (dk_at dksX1_isEndless_2_2 20 rfl rfl)
theorem dX1_isEndless_2_70 : decode cX1_isEndless_2 70 = .ok (.iload_n 2, 1) := dk_28 (dk_at dksX1_isEndless_2_2 22 rfl rfl)
theorem dX1_isEndless_2_71 : decode cX1_isEndless_2 71 = .ok (.iconst 1, 1) := dk_4 (dk_at dksX1_isEndless_2_2 23 rfl rfl)
theorem dX1_isEndless_2_72 : decode cX1_isEndless_2 72 = .ok (.iload_n 3, 1) := dk_29 (dk_at dksX1_isEndless_2_3 0 rfl rfl)
theorem dX1_isEndless_2_73 : decode cX1_isEndless_2 73 = .ok (.ishl, 1) := dk_120 (dk_at dksX1_isEndless_2_3 1 rfl rfl)
theorem dX1_isEndless_2_74 : decode cX1_isEndless_2 74 = .ok (.ior, 1) := dk_128 (dk_at dksX1_isEndless_2_3 2 rfl rfl)
theorem dX1_isEndless_2_75 : decode cX1_isEndless_2 75 = .ok (.invokevirtual 540, 3) := dk_182 2 28 (dk_at dksX1_isEndless_2_3 3 rfl rfl)
theorem dX1_isEndless_2_78 : decode cX1_isEndless_2 78 = .ok (.ifCond .eq 7, 3) := dk_153 0 7 (dk_at dksX1_isEndless_2_3 6 rfl rfl)
theorem dX1_isEndless_2_81 : decode cX1_isEndless_2 81 = .ok (.iconst 1, 1) := dk_4 (dk_at dksX1_isEndless_2_3 9 rfl rfl)
theorem dX1_isEndless_2_82 : decode cX1_isEndless_2 82 = .ok (.goto 4, 3) := dk_167 0 4 (dk_at dksX1_isEndless_2_3 10 rfl rfl)
theorem dX1_isEndless_2_85 : decode cX1_isEndless_2 85 = .ok (.iconst 0, 1) := dk_3 (dk_at dksX1_isEndless_2_3 13 rfl rfl)
theorem dX1_isEndless_2_86 : decode cX1_isEndless_2 86 = .ok (.ireturn, 1) := dk_172 (dk_at dksX1_isEndless_2_3 14 rfl rfl)
