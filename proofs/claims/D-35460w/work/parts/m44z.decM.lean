/-! decode rows of X5 -/
set_option maxRecDepth 100000
def dkwX5_init_18 : List UInt8 := [188, 10, 181, 0, 168, 42, 17, 1, 0, 188, 4, 181, 0, 171, 177]
abbrev dktX5_init_18 : List UInt8 := dkwX5_init_18 ++ []
def dkwX5_init_17 : List UInt8 := [188, 10, 181, 0, 159, 42, 16, 32, 188, 10, 181, 0, 162, 42, 16, 16, 188, 10, 181, 0, 165, 42, 16, 80]
abbrev dktX5_init_17 : List UInt8 := dkwX5_init_17 ++ dktX5_init_18
def dkwX5_init_16 : List UInt8 := [181, 0, 150, 42, 17, 3, 32, 188, 4, 181, 0, 153, 42, 16, 16, 188, 10, 181, 0, 156, 42, 16, 16]
abbrev dktX5_init_16 : List UInt8 := dkwX5_init_16 ++ dktX5_init_17
def dkwX5_init_15 : List UInt8 := [42, 5, 188, 10, 181, 0, 144, 42, 17, 3, 32, 188, 10, 181, 0, 147, 42, 17, 3, 32, 188, 10]
abbrev dktX5_init_15 : List UInt8 := dkwX5_init_15 ++ dktX5_init_16
def dkwX5_init_14 : List UInt8 := [181, 0, 132, 42, 5, 188, 10, 181, 0, 135, 42, 5, 188, 10, 181, 0, 138, 42, 5, 188, 4, 181, 0, 141]
abbrev dktX5_init_14 : List UInt8 := dkwX5_init_14 ++ dktX5_init_15
def dkwX5_init_13 : List UInt8 := [181, 0, 123, 42, 17, 1, 144, 188, 10, 181, 0, 126, 42, 17, 1, 144, 188, 4, 181, 0, 129, 42, 2]
abbrev dktX5_init_13 : List UInt8 := dkwX5_init_13 ++ dktX5_init_14
def dkwX5_init_12 : List UInt8 := [188, 10, 181, 0, 114, 42, 2, 181, 0, 117, 42, 16, 10, 188, 10, 181, 0, 120, 42, 17, 1, 144, 188, 10]
abbrev dktX5_init_12 : List UInt8 := dkwX5_init_12 ++ dktX5_init_13
def dkwX5_init_11 : List UInt8 := [188, 10, 181, 0, 105, 42, 16, 10, 188, 10, 181, 0, 108, 42, 16, 10, 188, 10, 181, 0, 111, 42, 16, 10]
abbrev dktX5_init_11 : List UInt8 := dkwX5_init_11 ++ dktX5_init_12
def dkwX5_init_10 : List UInt8 := [181, 0, 96, 42, 17, 5, 0, 188, 10, 181, 0, 99, 42, 17, 0, 192, 188, 10, 181, 0, 102, 42, 16, 10]
abbrev dktX5_init_10 : List UInt8 := dkwX5_init_10 ++ dktX5_init_11
def dkwX5_init_9 : List UInt8 := [181, 0, 87, 42, 16, 10, 188, 10, 181, 0, 90, 42, 16, 10, 188, 10, 181, 0, 93, 42, 16, 10, 188, 10]
abbrev dktX5_init_9 : List UInt8 := dkwX5_init_9 ++ dktX5_init_10
def dkwX5_init_8 : List UInt8 := [188, 10, 181, 0, 77, 42, 17, 3, 32, 188, 4, 181, 0, 80, 42, 2, 181, 0, 83, 42, 16, 16]
abbrev dktX5_init_8 : List UInt8 := dkwX5_init_8 ++ dktX5_init_9
def dkwX5_init_7 : List UInt8 := [181, 0, 68, 42, 16, 12, 188, 4, 181, 0, 71, 42, 17, 3, 32, 188, 10, 181, 0, 74, 42, 17, 3, 32]
abbrev dktX5_init_7 : List UInt8 := dkwX5_init_7 ++ dktX5_init_8
def dkwX5_init_6 : List UInt8 := [42, 17, 0, 144, 188, 4, 181, 0, 62, 42, 16, 12, 188, 10, 181, 0, 65, 42, 16, 12, 188, 10]
abbrev dktX5_init_6 : List UInt8 := dkwX5_init_6 ++ dktX5_init_7
def dkwX5_init_5 : List UInt8 := [16, 24, 188, 10, 181, 0, 53, 42, 16, 24, 188, 10, 181, 0, 56, 42, 17, 4, 128, 188, 10, 181, 0, 59]
abbrev dktX5_init_5 : List UInt8 := dkwX5_init_5 ++ dktX5_init_6
def dkwX5_init_4 : List UInt8 := [188, 10, 181, 0, 44, 42, 17, 0, 192, 188, 10, 181, 0, 47, 42, 17, 0, 144, 188, 10, 181, 0, 50, 42]
abbrev dktX5_init_4 : List UInt8 := dkwX5_init_4 ++ dktX5_init_5
def dkwX5_init_3 : List UInt8 := [188, 10, 181, 0, 34, 42, 16, 6, 188, 4, 181, 0, 37, 42, 16, 24, 188, 10, 181, 0, 41, 42, 16, 24]
abbrev dktX5_init_3 : List UInt8 := dkwX5_init_3 ++ dktX5_init_4
def dkwX5_init_2 : List UInt8 := [188, 10, 181, 0, 25, 42, 16, 48, 188, 10, 181, 0, 28, 42, 16, 6, 188, 10, 181, 0, 31, 42, 16, 6]
abbrev dktX5_init_2 : List UInt8 := dkwX5_init_2 ++ dktX5_init_3
def dkwX5_init_1 : List UInt8 := [188, 10, 181, 0, 16, 42, 16, 10, 188, 10, 181, 0, 19, 42, 16, 6, 188, 10, 181, 0, 22, 42, 16, 6]
abbrev dktX5_init_1 : List UInt8 := dkwX5_init_1 ++ dktX5_init_2
def dkwX5_init_0 : List UInt8 := [42, 183, 0, 1, 42, 16, 10, 188, 10, 181, 0, 7, 42, 16, 10, 188, 10, 181, 0, 13, 42, 16, 10]
abbrev dktX5_init_0 : List UInt8 := dkwX5_init_0 ++ dktX5_init_1
theorem dksX5_init_0 : cX5_init.data.toList.drop 0 = dktX5_init_0 := by decide +kernel
theorem dksX5_init_1 : cX5_init.data.toList.drop 23 = dktX5_init_1 := dk_seg dksX5_init_0 23 rfl rfl
theorem dksX5_init_2 : cX5_init.data.toList.drop 47 = dktX5_init_2 := dk_seg dksX5_init_1 24 rfl rfl
theorem dksX5_init_3 : cX5_init.data.toList.drop 71 = dktX5_init_3 := dk_seg dksX5_init_2 24 rfl rfl
theorem dksX5_init_4 : cX5_init.data.toList.drop 95 = dktX5_init_4 := dk_seg dksX5_init_3 24 rfl rfl
theorem dksX5_init_5 : cX5_init.data.toList.drop 119 = dktX5_init_5 := dk_seg dksX5_init_4 24 rfl rfl
theorem dksX5_init_6 : cX5_init.data.toList.drop 143 = dktX5_init_6 := dk_seg dksX5_init_5 24 rfl rfl
theorem dksX5_init_7 : cX5_init.data.toList.drop 165 = dktX5_init_7 := dk_seg dksX5_init_6 22 rfl rfl
theorem dksX5_init_8 : cX5_init.data.toList.drop 189 = dktX5_init_8 := dk_seg dksX5_init_7 24 rfl rfl
theorem dksX5_init_9 : cX5_init.data.toList.drop 211 = dktX5_init_9 := dk_seg dksX5_init_8 22 rfl rfl
theorem dksX5_init_10 : cX5_init.data.toList.drop 235 = dktX5_init_10 := dk_seg dksX5_init_9 24 rfl rfl
theorem dksX5_init_11 : cX5_init.data.toList.drop 259 = dktX5_init_11 := dk_seg dksX5_init_10 24 rfl rfl
theorem dksX5_init_12 : cX5_init.data.toList.drop 283 = dktX5_init_12 := dk_seg dksX5_init_11 24 rfl rfl
theorem dksX5_init_13 : cX5_init.data.toList.drop 307 = dktX5_init_13 := dk_seg dksX5_init_12 24 rfl rfl
theorem dksX5_init_14 : cX5_init.data.toList.drop 330 = dktX5_init_14 := dk_seg dksX5_init_13 23 rfl rfl
theorem dksX5_init_15 : cX5_init.data.toList.drop 354 = dktX5_init_15 := dk_seg dksX5_init_14 24 rfl rfl
theorem dksX5_init_16 : cX5_init.data.toList.drop 376 = dktX5_init_16 := dk_seg dksX5_init_15 22 rfl rfl
theorem dksX5_init_17 : cX5_init.data.toList.drop 399 = dktX5_init_17 := dk_seg dksX5_init_16 23 rfl rfl
theorem dksX5_init_18 : cX5_init.data.toList.drop 423 = dktX5_init_18 := dk_seg dksX5_init_17 24 rfl rfl
theorem dX5_init_0 : decode cX5_init 0 = .ok (.aload_n 0, 1) := dk_42 (dk_at dksX5_init_0 0 rfl rfl)
theorem dX5_init_1 : decode cX5_init 1 = .ok (.invokespecial 1, 3) := dk_183 0 1 (dk_at dksX5_init_0 1 rfl rfl)
theorem dX5_init_4 : decode cX5_init 4 = .ok (.aload_n 0, 1) := dk_42 (dk_at dksX5_init_0 4 rfl rfl)
theorem dX5_init_5 : decode cX5_init 5 = .ok (.bipush 10, 2) := dk_16 10 (dk_at dksX5_init_0 5 rfl rfl)
theorem dX5_init_7 : decode cX5_init 7 = .ok (.newarray .int, 2) := dk_188_10 (dk_at dksX5_init_0 7 rfl rfl)
theorem dX5_init_9 : decode cX5_init 9 = .ok (.putfield 7, 3) := dk_181 0 7 (dk_at dksX5_init_0 9 rfl rfl)
theorem dX5_init_12 : decode cX5_init 12 = .ok (.aload_n 0, 1) := dk_42 (dk_at dksX5_init_0 12 rfl rfl)
theorem dX5_init_13 : decode cX5_init 13 = .ok (.bipush 10, 2) := dk_16 10 (dk_at dksX5_init_0 13 rfl rfl)
theorem dX5_init_15 : decode cX5_init 15 = .ok (.newarray .int, 2) := dk_188_10 (dk_at dksX5_init_0 15 rfl rfl)
theorem dX5_init_17 : decode cX5_init 17 = .ok (.putfield 13, 3) := dk_181 0 13 (dk_at dksX5_init_0 17 rfl rfl)
theorem dX5_init_20 : decode cX5_init 20 = .ok (.aload_n 0, 1) := dk_42 (dk_at dksX5_init_0 20 rfl rfl)
theorem dX5_init_21 : decode cX5_init 21 = .ok (.bipush 10, 2) := dk_16 10 (dk_at dksX5_init_0 21 rfl rfl)
theorem dX5_init_23 : decode cX5_init 23 = .ok (.newarray .int, 2) := dk_188_10 (dk_at dksX5_init_1 0 rfl rfl)
theorem dX5_init_25 : decode cX5_init 25 = .ok (.putfield 16, 3) := dk_181 0 16 (dk_at dksX5_init_1 2 rfl rfl)
theorem dX5_init_28 : decode cX5_init 28 = .ok (.aload_n 0, 1) := dk_42 (dk_at dksX5_init_1 5 rfl rfl)
theorem dX5_init_29 : decode cX5_init 29 = .ok (.bipush 10, 2) := dk_16 10 (dk_at dksX5_init_1 6 rfl rfl)
theorem dX5_init_31 : decode cX5_init 31 = .ok (.newarray .int, 2) := dk_188_10 (dk_at dksX5_init_1 8 rfl rfl)
theorem dX5_init_33 : decode cX5_init 33 = .ok (.putfield 19, 3) := dk_181 0 19 (dk_at dksX5_init_1 10 rfl rfl)
theorem dX5_init_36 : decode cX5_init 36 = .ok (.aload_n 0, 1) := dk_42 (dk_at dksX5_init_1 13 rfl rfl)
theorem dX5_init_37 : decode cX5_init 37 = .ok (.bipush 6, 2) := dk_16 6 (dk_at dksX5_init_1 14 rfl rfl)
theorem dX5_init_39 : decode cX5_init 39 = .ok (.newarray .int, 2) := dk_188_10 (dk_at dksX5_init_1 16 rfl rfl)
theorem dX5_init_41 : decode cX5_init 41 = .ok (.putfield 22, 3) := dk_181 0 22 (dk_at dksX5_init_1 18 rfl rfl)
theorem dX5_init_44 : decode cX5_init 44 = .ok (.aload_n 0, 1) := dk_42 (dk_at dksX5_init_1 21 rfl rfl)
theorem dX5_init_45 : decode cX5_init 45 = .ok (.bipush 6, 2) := dk_16 6 (dk_at dksX5_init_1 22 rfl rfl)
theorem dX5_init_47 : decode cX5_init 47 = .ok (.newarray .int, 2) := dk_188_10 (dk_at dksX5_init_2 0 rfl rfl)
theorem dX5_init_49 : decode cX5_init 49 = .ok (.putfield 25, 3) := dk_181 0 25 (dk_at dksX5_init_2 2 rfl rfl)
theorem dX5_init_52 : decode cX5_init 52 = .ok (.aload_n 0, 1) := dk_42 (dk_at dksX5_init_2 5 rfl rfl)
theorem dX5_init_53 : decode cX5_init 53 = .ok (.bipush 48, 2) := dk_16 48 (dk_at dksX5_init_2 6 rfl rfl)
theorem dX5_init_55 : decode cX5_init 55 = .ok (.newarray .int, 2) := dk_188_10 (dk_at dksX5_init_2 8 rfl rfl)
theorem dX5_init_57 : decode cX5_init 57 = .ok (.putfield 28, 3) := dk_181 0 28 (dk_at dksX5_init_2 10 rfl rfl)
theorem dX5_init_60 : decode cX5_init 60 = .ok (.aload_n 0, 1) := dk_42 (dk_at dksX5_init_2 13 rfl rfl)
theorem dX5_init_61 : decode cX5_init 61 = .ok (.bipush 6, 2) := dk_16 6 (dk_at dksX5_init_2 14 rfl rfl)
theorem dX5_init_63 : decode cX5_init 63 = .ok (.newarray .int, 2) := dk_188_10 (dk_at dksX5_init_2 16 rfl rfl)
theorem dX5_init_65 : decode cX5_init 65 = .ok (.putfield 31, 3) := dk_181 0 31 (dk_at dksX5_init_2 18 rfl rfl)
theorem dX5_init_68 : decode cX5_init 68 = .ok (.aload_n 0, 1) := dk_42 (dk_at dksX5_init_2 21 rfl rfl)
theorem dX5_init_69 : decode cX5_init 69 = .ok (.bipush 6, 2) := dk_16 6 (dk_at dksX5_init_2 22 rfl rfl)
theorem dX5_init_71 : decode cX5_init 71 = .ok (.newarray .int, 2) := dk_188_10 (dk_at dksX5_init_3 0 rfl rfl)
theorem dX5_init_73 : decode cX5_init 73 = .ok (.putfield 34, 3) := dk_181 0 34 (dk_at dksX5_init_3 2 rfl rfl)
theorem dX5_init_76 : decode cX5_init 76 = .ok (.aload_n 0, 1) := dk_42 (dk_at dksX5_init_3 5 rfl rfl)
theorem dX5_init_77 : decode cX5_init 77 = .ok (.bipush 6, 2) := dk_16 6 (dk_at dksX5_init_3 6 rfl rfl)
theorem dX5_init_79 : decode cX5_init 79 = .ok (.newarray .boolean, 2) := dk_188_4 (dk_at dksX5_init_3 8 rfl rfl)
theorem dX5_init_81 : decode cX5_init 81 = .ok (.putfield 37, 3) := dk_181 0 37 (dk_at dksX5_init_3 10 rfl rfl)
theorem dX5_init_84 : decode cX5_init 84 = .ok (.aload_n 0, 1) := dk_42 (dk_at dksX5_init_3 13 rfl rfl)
theorem dX5_init_85 : decode cX5_init 85 = .ok (.bipush 24, 2) := dk_16 24 (dk_at dksX5_init_3 14 rfl rfl)
theorem dX5_init_87 : decode cX5_init 87 = .ok (.newarray .int, 2) := dk_188_10 (dk_at dksX5_init_3 16 rfl rfl)
theorem dX5_init_89 : decode cX5_init 89 = .ok (.putfield 41, 3) := dk_181 0 41 (dk_at dksX5_init_3 18 rfl rfl)
theorem dX5_init_92 : decode cX5_init 92 = .ok (.aload_n 0, 1) := dk_42 (dk_at dksX5_init_3 21 rfl rfl)
theorem dX5_init_93 : decode cX5_init 93 = .ok (.bipush 24, 2) := dk_16 24 (dk_at dksX5_init_3 22 rfl rfl)
theorem dX5_init_95 : decode cX5_init 95 = .ok (.newarray .int, 2) := dk_188_10 (dk_at dksX5_init_4 0 rfl rfl)
theorem dX5_init_97 : decode cX5_init 97 = .ok (.putfield 44, 3) := dk_181 0 44 (dk_at dksX5_init_4 2 rfl rfl)
theorem dX5_init_100 : decode cX5_init 100 = .ok (.aload_n 0, 1) := dk_42 (dk_at dksX5_init_4 5 rfl rfl)
theorem dX5_init_101 : decode cX5_init 101 = .ok (.sipush 192, 3) := dk_17 0 192 (dk_at dksX5_init_4 6 rfl rfl)
theorem dX5_init_104 : decode cX5_init 104 = .ok (.newarray .int, 2) := dk_188_10 (dk_at dksX5_init_4 9 rfl rfl)
theorem dX5_init_106 : decode cX5_init 106 = .ok (.putfield 47, 3) := dk_181 0 47 (dk_at dksX5_init_4 11 rfl rfl)
theorem dX5_init_109 : decode cX5_init 109 = .ok (.aload_n 0, 1) := dk_42 (dk_at dksX5_init_4 14 rfl rfl)
theorem dX5_init_110 : decode cX5_init 110 = .ok (.sipush 144, 3) := dk_17 0 144 (dk_at dksX5_init_4 15 rfl rfl)
theorem dX5_init_113 : decode cX5_init 113 = .ok (.newarray .int, 2) := dk_188_10 (dk_at dksX5_init_4 18 rfl rfl)
theorem dX5_init_115 : decode cX5_init 115 = .ok (.putfield 50, 3) := dk_181 0 50 (dk_at dksX5_init_4 20 rfl rfl)
theorem dX5_init_118 : decode cX5_init 118 = .ok (.aload_n 0, 1) := dk_42 (dk_at dksX5_init_4 23 rfl rfl)
theorem dX5_init_119 : decode cX5_init 119 = .ok (.bipush 24, 2) := dk_16 24 (dk_at dksX5_init_5 0 rfl rfl)
theorem dX5_init_121 : decode cX5_init 121 = .ok (.newarray .int, 2) := dk_188_10 (dk_at dksX5_init_5 2 rfl rfl)
theorem dX5_init_123 : decode cX5_init 123 = .ok (.putfield 53, 3) := dk_181 0 53 (dk_at dksX5_init_5 4 rfl rfl)
theorem dX5_init_126 : decode cX5_init 126 = .ok (.aload_n 0, 1) := dk_42 (dk_at dksX5_init_5 7 rfl rfl)
theorem dX5_init_127 : decode cX5_init 127 = .ok (.bipush 24, 2) := dk_16 24 (dk_at dksX5_init_5 8 rfl rfl)
theorem dX5_init_129 : decode cX5_init 129 = .ok (.newarray .int, 2) := dk_188_10 (dk_at dksX5_init_5 10 rfl rfl)
theorem dX5_init_131 : decode cX5_init 131 = .ok (.putfield 56, 3) := dk_181 0 56 (dk_at dksX5_init_5 12 rfl rfl)
theorem dX5_init_134 : decode cX5_init 134 = .ok (.aload_n 0, 1) := dk_42 (dk_at dksX5_init_5 15 rfl rfl)
theorem dX5_init_135 : decode cX5_init 135 = .ok (.sipush 1152, 3) := dk_17 4 128 (dk_at dksX5_init_5 16 rfl rfl)
theorem dX5_init_138 : decode cX5_init 138 = .ok (.newarray .int, 2) := dk_188_10 (dk_at dksX5_init_5 19 rfl rfl)
theorem dX5_init_140 : decode cX5_init 140 = .ok (.putfield 59, 3) := dk_181 0 59 (dk_at dksX5_init_5 21 rfl rfl)
theorem dX5_init_143 : decode cX5_init 143 = .ok (.aload_n 0, 1) := dk_42 (dk_at dksX5_init_6 0 rfl rfl)
theorem dX5_init_144 : decode cX5_init 144 = .ok (.sipush 144, 3) := dk_17 0 144 (dk_at dksX5_init_6 1 rfl rfl)
theorem dX5_init_147 : decode cX5_init 147 = .ok (.newarray .boolean, 2) := dk_188_4 (dk_at dksX5_init_6 4 rfl rfl)
theorem dX5_init_149 : decode cX5_init 149 = .ok (.putfield 62, 3) := dk_181 0 62 (dk_at dksX5_init_6 6 rfl rfl)
theorem dX5_init_152 : decode cX5_init 152 = .ok (.aload_n 0, 1) := dk_42 (dk_at dksX5_init_6 9 rfl rfl)
theorem dX5_init_153 : decode cX5_init 153 = .ok (.bipush 12, 2) := dk_16 12 (dk_at dksX5_init_6 10 rfl rfl)
theorem dX5_init_155 : decode cX5_init 155 = .ok (.newarray .int, 2) := dk_188_10 (dk_at dksX5_init_6 12 rfl rfl)
theorem dX5_init_157 : decode cX5_init 157 = .ok (.putfield 65, 3) := dk_181 0 65 (dk_at dksX5_init_6 14 rfl rfl)
theorem dX5_init_160 : decode cX5_init 160 = .ok (.aload_n 0, 1) := dk_42 (dk_at dksX5_init_6 17 rfl rfl)
theorem dX5_init_161 : decode cX5_init 161 = .ok (.bipush 12, 2) := dk_16 12 (dk_at dksX5_init_6 18 rfl rfl)
theorem dX5_init_163 : decode cX5_init 163 = .ok (.newarray .int, 2) := dk_188_10 (dk_at dksX5_init_6 20 rfl rfl)
theorem dX5_init_165 : decode cX5_init 165 = .ok (.putfield 68, 3) := dk_181 0 68 (dk_at dksX5_init_7 0 rfl rfl)
theorem dX5_init_168 : decode cX5_init 168 = .ok (.aload_n 0, 1) := dk_42 (dk_at dksX5_init_7 3 rfl rfl)
theorem dX5_init_169 : decode cX5_init 169 = .ok (.bipush 12, 2) := dk_16 12 (dk_at dksX5_init_7 4 rfl rfl)
theorem dX5_init_171 : decode cX5_init 171 = .ok (.newarray .boolean, 2) := dk_188_4 (dk_at dksX5_init_7 6 rfl rfl)
theorem dX5_init_173 : decode cX5_init 173 = .ok (.putfield 71, 3) := dk_181 0 71 (dk_at dksX5_init_7 8 rfl rfl)
theorem dX5_init_176 : decode cX5_init 176 = .ok (.aload_n 0, 1) := dk_42 (dk_at dksX5_init_7 11 rfl rfl)
theorem dX5_init_177 : decode cX5_init 177 = .ok (.sipush 800, 3) := dk_17 3 32 (dk_at dksX5_init_7 12 rfl rfl)
theorem dX5_init_180 : decode cX5_init 180 = .ok (.newarray .int, 2) := dk_188_10 (dk_at dksX5_init_7 15 rfl rfl)
theorem dX5_init_182 : decode cX5_init 182 = .ok (.putfield 74, 3) := dk_181 0 74 (dk_at dksX5_init_7 17 rfl rfl)
theorem dX5_init_185 : decode cX5_init 185 = .ok (.aload_n 0, 1) := dk_42 (dk_at dksX5_init_7 20 rfl rfl)
theorem dX5_init_186 : decode cX5_init 186 = .ok (.sipush 800, 3) := dk_17 3 32 (dk_at dksX5_init_7 21 rfl rfl)
theorem dX5_init_189 : decode cX5_init 189 = .ok (.newarray .int, 2) := dk_188_10 (dk_at dksX5_init_8 0 rfl rfl)
theorem dX5_init_191 : decode cX5_init 191 = .ok (.putfield 77, 3) := dk_181 0 77 (dk_at dksX5_init_8 2 rfl rfl)
theorem dX5_init_194 : decode cX5_init 194 = .ok (.aload_n 0, 1) := dk_42 (dk_at dksX5_init_8 5 rfl rfl)
theorem dX5_init_195 : decode cX5_init 195 = .ok (.sipush 800, 3) := dk_17 3 32 (dk_at dksX5_init_8 6 rfl rfl)
theorem dX5_init_198 : decode cX5_init 198 = .ok (.newarray .boolean, 2) := dk_188_4 (dk_at dksX5_init_8 9 rfl rfl)
theorem dX5_init_200 : decode cX5_init 200 = .ok (.putfield 80, 3) := dk_181 0 80 (dk_at dksX5_init_8 11 rfl rfl)
theorem dX5_init_203 : decode cX5_init 203 = .ok (.aload_n 0, 1) := dk_42 (dk_at dksX5_init_8 14 rfl rfl)
theorem dX5_init_204 : decode cX5_init 204 = .ok (.iconst (-1), 1) := dk_2 (dk_at dksX5_init_8 15 rfl rfl)
theorem dX5_init_205 : decode cX5_init 205 = .ok (.putfield 83, 3) := dk_181 0 83 (dk_at dksX5_init_8 16 rfl rfl)
theorem dX5_init_208 : decode cX5_init 208 = .ok (.aload_n 0, 1) := dk_42 (dk_at dksX5_init_8 19 rfl rfl)
theorem dX5_init_209 : decode cX5_init 209 = .ok (.bipush 16, 2) := dk_16 16 (dk_at dksX5_init_8 20 rfl rfl)
theorem dX5_init_211 : decode cX5_init 211 = .ok (.putfield 87, 3) := dk_181 0 87 (dk_at dksX5_init_9 0 rfl rfl)
theorem dX5_init_214 : decode cX5_init 214 = .ok (.aload_n 0, 1) := dk_42 (dk_at dksX5_init_9 3 rfl rfl)
theorem dX5_init_215 : decode cX5_init 215 = .ok (.bipush 10, 2) := dk_16 10 (dk_at dksX5_init_9 4 rfl rfl)
theorem dX5_init_217 : decode cX5_init 217 = .ok (.newarray .int, 2) := dk_188_10 (dk_at dksX5_init_9 6 rfl rfl)
theorem dX5_init_219 : decode cX5_init 219 = .ok (.putfield 90, 3) := dk_181 0 90 (dk_at dksX5_init_9 8 rfl rfl)
theorem dX5_init_222 : decode cX5_init 222 = .ok (.aload_n 0, 1) := dk_42 (dk_at dksX5_init_9 11 rfl rfl)
theorem dX5_init_223 : decode cX5_init 223 = .ok (.bipush 10, 2) := dk_16 10 (dk_at dksX5_init_9 12 rfl rfl)
theorem dX5_init_225 : decode cX5_init 225 = .ok (.newarray .int, 2) := dk_188_10 (dk_at dksX5_init_9 14 rfl rfl)
theorem dX5_init_227 : decode cX5_init 227 = .ok (.putfield 93, 3) := dk_181 0 93 (dk_at dksX5_init_9 16 rfl rfl)
theorem dX5_init_230 : decode cX5_init 230 = .ok (.aload_n 0, 1) := dk_42 (dk_at dksX5_init_9 19 rfl rfl)
theorem dX5_init_231 : decode cX5_init 231 = .ok (.bipush 10, 2) := dk_16 10 (dk_at dksX5_init_9 20 rfl rfl)
theorem dX5_init_233 : decode cX5_init 233 = .ok (.newarray .int, 2) := dk_188_10 (dk_at dksX5_init_9 22 rfl rfl)
theorem dX5_init_235 : decode cX5_init 235 = .ok (.putfield 96, 3) := dk_181 0 96 (dk_at dksX5_init_10 0 rfl rfl)
theorem dX5_init_238 : decode cX5_init 238 = .ok (.aload_n 0, 1) := dk_42 (dk_at dksX5_init_10 3 rfl rfl)
theorem dX5_init_239 : decode cX5_init 239 = .ok (.sipush 1280, 3) := dk_17 5 0 (dk_at dksX5_init_10 4 rfl rfl)
theorem dX5_init_242 : decode cX5_init 242 = .ok (.newarray .int, 2) := dk_188_10 (dk_at dksX5_init_10 7 rfl rfl)
theorem dX5_init_244 : decode cX5_init 244 = .ok (.putfield 99, 3) := dk_181 0 99 (dk_at dksX5_init_10 9 rfl rfl)
theorem dX5_init_247 : decode cX5_init 247 = .ok (.aload_n 0, 1) := dk_42 (dk_at dksX5_init_10 12 rfl rfl)
theorem dX5_init_248 : decode cX5_init 248 = .ok (.sipush 192, 3) := dk_17 0 192 (dk_at dksX5_init_10 13 rfl rfl)
theorem dX5_init_251 : decode cX5_init 251 = .ok (.newarray .int, 2) := dk_188_10 (dk_at dksX5_init_10 16 rfl rfl)
theorem dX5_init_253 : decode cX5_init 253 = .ok (.putfield 102, 3) := dk_181 0 102 (dk_at dksX5_init_10 18 rfl rfl)
theorem dX5_init_256 : decode cX5_init 256 = .ok (.aload_n 0, 1) := dk_42 (dk_at dksX5_init_10 21 rfl rfl)
theorem dX5_init_257 : decode cX5_init 257 = .ok (.bipush 10, 2) := dk_16 10 (dk_at dksX5_init_10 22 rfl rfl)
theorem dX5_init_259 : decode cX5_init 259 = .ok (.newarray .int, 2) := dk_188_10 (dk_at dksX5_init_11 0 rfl rfl)
theorem dX5_init_261 : decode cX5_init 261 = .ok (.putfield 105, 3) := dk_181 0 105 (dk_at dksX5_init_11 2 rfl rfl)
theorem dX5_init_264 : decode cX5_init 264 = .ok (.aload_n 0, 1) := dk_42 (dk_at dksX5_init_11 5 rfl rfl)
theorem dX5_init_265 : decode cX5_init 265 = .ok (.bipush 10, 2) := dk_16 10 (dk_at dksX5_init_11 6 rfl rfl)
theorem dX5_init_267 : decode cX5_init 267 = .ok (.newarray .int, 2) := dk_188_10 (dk_at dksX5_init_11 8 rfl rfl)
theorem dX5_init_269 : decode cX5_init 269 = .ok (.putfield 108, 3) := dk_181 0 108 (dk_at dksX5_init_11 10 rfl rfl)
theorem dX5_init_272 : decode cX5_init 272 = .ok (.aload_n 0, 1) := dk_42 (dk_at dksX5_init_11 13 rfl rfl)
theorem dX5_init_273 : decode cX5_init 273 = .ok (.bipush 10, 2) := dk_16 10 (dk_at dksX5_init_11 14 rfl rfl)
theorem dX5_init_275 : decode cX5_init 275 = .ok (.newarray .int, 2) := dk_188_10 (dk_at dksX5_init_11 16 rfl rfl)
theorem dX5_init_277 : decode cX5_init 277 = .ok (.putfield 111, 3) := dk_181 0 111 (dk_at dksX5_init_11 18 rfl rfl)
theorem dX5_init_280 : decode cX5_init 280 = .ok (.aload_n 0, 1) := dk_42 (dk_at dksX5_init_11 21 rfl rfl)
theorem dX5_init_281 : decode cX5_init 281 = .ok (.bipush 10, 2) := dk_16 10 (dk_at dksX5_init_11 22 rfl rfl)
theorem dX5_init_283 : decode cX5_init 283 = .ok (.newarray .int, 2) := dk_188_10 (dk_at dksX5_init_12 0 rfl rfl)
theorem dX5_init_285 : decode cX5_init 285 = .ok (.putfield 114, 3) := dk_181 0 114 (dk_at dksX5_init_12 2 rfl rfl)
theorem dX5_init_288 : decode cX5_init 288 = .ok (.aload_n 0, 1) := dk_42 (dk_at dksX5_init_12 5 rfl rfl)
theorem dX5_init_289 : decode cX5_init 289 = .ok (.iconst (-1), 1) := dk_2 (dk_at dksX5_init_12 6 rfl rfl)
theorem dX5_init_290 : decode cX5_init 290 = .ok (.putfield 117, 3) := dk_181 0 117 (dk_at dksX5_init_12 7 rfl rfl)
theorem dX5_init_293 : decode cX5_init 293 = .ok (.aload_n 0, 1) := dk_42 (dk_at dksX5_init_12 10 rfl rfl)
theorem dX5_init_294 : decode cX5_init 294 = .ok (.bipush 10, 2) := dk_16 10 (dk_at dksX5_init_12 11 rfl rfl)
theorem dX5_init_296 : decode cX5_init 296 = .ok (.newarray .int, 2) := dk_188_10 (dk_at dksX5_init_12 13 rfl rfl)
theorem dX5_init_298 : decode cX5_init 298 = .ok (.putfield 120, 3) := dk_181 0 120 (dk_at dksX5_init_12 15 rfl rfl)
theorem dX5_init_301 : decode cX5_init 301 = .ok (.aload_n 0, 1) := dk_42 (dk_at dksX5_init_12 18 rfl rfl)
theorem dX5_init_302 : decode cX5_init 302 = .ok (.sipush 400, 3) := dk_17 1 144 (dk_at dksX5_init_12 19 rfl rfl)
theorem dX5_init_305 : decode cX5_init 305 = .ok (.newarray .int, 2) := dk_188_10 (dk_at dksX5_init_12 22 rfl rfl)
theorem dX5_init_307 : decode cX5_init 307 = .ok (.putfield 123, 3) := dk_181 0 123 (dk_at dksX5_init_13 0 rfl rfl)
theorem dX5_init_310 : decode cX5_init 310 = .ok (.aload_n 0, 1) := dk_42 (dk_at dksX5_init_13 3 rfl rfl)
theorem dX5_init_311 : decode cX5_init 311 = .ok (.sipush 400, 3) := dk_17 1 144 (dk_at dksX5_init_13 4 rfl rfl)
theorem dX5_init_314 : decode cX5_init 314 = .ok (.newarray .int, 2) := dk_188_10 (dk_at dksX5_init_13 7 rfl rfl)
theorem dX5_init_316 : decode cX5_init 316 = .ok (.putfield 126, 3) := dk_181 0 126 (dk_at dksX5_init_13 9 rfl rfl)
theorem dX5_init_319 : decode cX5_init 319 = .ok (.aload_n 0, 1) := dk_42 (dk_at dksX5_init_13 12 rfl rfl)
theorem dX5_init_320 : decode cX5_init 320 = .ok (.sipush 400, 3) := dk_17 1 144 (dk_at dksX5_init_13 13 rfl rfl)
theorem dX5_init_323 : decode cX5_init 323 = .ok (.newarray .boolean, 2) := dk_188_4 (dk_at dksX5_init_13 16 rfl rfl)
theorem dX5_init_325 : decode cX5_init 325 = .ok (.putfield 129, 3) := dk_181 0 129 (dk_at dksX5_init_13 18 rfl rfl)
theorem dX5_init_328 : decode cX5_init 328 = .ok (.aload_n 0, 1) := dk_42 (dk_at dksX5_init_13 21 rfl rfl)
theorem dX5_init_329 : decode cX5_init 329 = .ok (.iconst (-1), 1) := dk_2 (dk_at dksX5_init_13 22 rfl rfl)
theorem dX5_init_330 : decode cX5_init 330 = .ok (.putfield 132, 3) := dk_181 0 132 (dk_at dksX5_init_14 0 rfl rfl)
theorem dX5_init_333 : decode cX5_init 333 = .ok (.aload_n 0, 1) := dk_42 (dk_at dksX5_init_14 3 rfl rfl)
theorem dX5_init_334 : decode cX5_init 334 = .ok (.iconst 2, 1) := dk_5 (dk_at dksX5_init_14 4 rfl rfl)
theorem dX5_init_335 : decode cX5_init 335 = .ok (.newarray .int, 2) := dk_188_10 (dk_at dksX5_init_14 5 rfl rfl)
theorem dX5_init_337 : decode cX5_init 337 = .ok (.putfield 135, 3) := dk_181 0 135 (dk_at dksX5_init_14 7 rfl rfl)
theorem dX5_init_340 : decode cX5_init 340 = .ok (.aload_n 0, 1) := dk_42 (dk_at dksX5_init_14 10 rfl rfl)
theorem dX5_init_341 : decode cX5_init 341 = .ok (.iconst 2, 1) := dk_5 (dk_at dksX5_init_14 11 rfl rfl)
theorem dX5_init_342 : decode cX5_init 342 = .ok (.newarray .int, 2) := dk_188_10 (dk_at dksX5_init_14 12 rfl rfl)
theorem dX5_init_344 : decode cX5_init 344 = .ok (.putfield 138, 3) := dk_181 0 138 (dk_at dksX5_init_14 14 rfl rfl)
theorem dX5_init_347 : decode cX5_init 347 = .ok (.aload_n 0, 1) := dk_42 (dk_at dksX5_init_14 17 rfl rfl)
theorem dX5_init_348 : decode cX5_init 348 = .ok (.iconst 2, 1) := dk_5 (dk_at dksX5_init_14 18 rfl rfl)
theorem dX5_init_349 : decode cX5_init 349 = .ok (.newarray .boolean, 2) := dk_188_4 (dk_at dksX5_init_14 19 rfl rfl)
theorem dX5_init_351 : decode cX5_init 351 = .ok (.putfield 141, 3) := dk_181 0 141 (dk_at dksX5_init_14 21 rfl rfl)
theorem dX5_init_354 : decode cX5_init 354 = .ok (.aload_n 0, 1) := dk_42 (dk_at dksX5_init_15 0 rfl rfl)
theorem dX5_init_355 : decode cX5_init 355 = .ok (.iconst 2, 1) := dk_5 (dk_at dksX5_init_15 1 rfl rfl)
theorem dX5_init_356 : decode cX5_init 356 = .ok (.newarray .int, 2) := dk_188_10 (dk_at dksX5_init_15 2 rfl rfl)
theorem dX5_init_358 : decode cX5_init 358 = .ok (.putfield 144, 3) := dk_181 0 144 (dk_at dksX5_init_15 4 rfl rfl)
theorem dX5_init_361 : decode cX5_init 361 = .ok (.aload_n 0, 1) := dk_42 (dk_at dksX5_init_15 7 rfl rfl)
theorem dX5_init_362 : decode cX5_init 362 = .ok (.sipush 800, 3) := dk_17 3 32 (dk_at dksX5_init_15 8 rfl rfl)
theorem dX5_init_365 : decode cX5_init 365 = .ok (.newarray .int, 2) := dk_188_10 (dk_at dksX5_init_15 11 rfl rfl)
theorem dX5_init_367 : decode cX5_init 367 = .ok (.putfield 147, 3) := dk_181 0 147 (dk_at dksX5_init_15 13 rfl rfl)
theorem dX5_init_370 : decode cX5_init 370 = .ok (.aload_n 0, 1) := dk_42 (dk_at dksX5_init_15 16 rfl rfl)
theorem dX5_init_371 : decode cX5_init 371 = .ok (.sipush 800, 3) := dk_17 3 32 (dk_at dksX5_init_15 17 rfl rfl)
theorem dX5_init_374 : decode cX5_init 374 = .ok (.newarray .int, 2) := dk_188_10 (dk_at dksX5_init_15 20 rfl rfl)
theorem dX5_init_376 : decode cX5_init 376 = .ok (.putfield 150, 3) := dk_181 0 150 (dk_at dksX5_init_16 0 rfl rfl)
theorem dX5_init_379 : decode cX5_init 379 = .ok (.aload_n 0, 1) := dk_42 (dk_at dksX5_init_16 3 rfl rfl)
theorem dX5_init_380 : decode cX5_init 380 = .ok (.sipush 800, 3) := dk_17 3 32 (dk_at dksX5_init_16 4 rfl rfl)
theorem dX5_init_383 : decode cX5_init 383 = .ok (.newarray .boolean, 2) := dk_188_4 (dk_at dksX5_init_16 7 rfl rfl)
theorem dX5_init_385 : decode cX5_init 385 = .ok (.putfield 153, 3) := dk_181 0 153 (dk_at dksX5_init_16 9 rfl rfl)
theorem dX5_init_388 : decode cX5_init 388 = .ok (.aload_n 0, 1) := dk_42 (dk_at dksX5_init_16 12 rfl rfl)
theorem dX5_init_389 : decode cX5_init 389 = .ok (.bipush 16, 2) := dk_16 16 (dk_at dksX5_init_16 13 rfl rfl)
theorem dX5_init_391 : decode cX5_init 391 = .ok (.newarray .int, 2) := dk_188_10 (dk_at dksX5_init_16 15 rfl rfl)
theorem dX5_init_393 : decode cX5_init 393 = .ok (.putfield 156, 3) := dk_181 0 156 (dk_at dksX5_init_16 17 rfl rfl)
theorem dX5_init_396 : decode cX5_init 396 = .ok (.aload_n 0, 1) := dk_42 (dk_at dksX5_init_16 20 rfl rfl)
theorem dX5_init_397 : decode cX5_init 397 = .ok (.bipush 16, 2) := dk_16 16 (dk_at dksX5_init_16 21 rfl rfl)
theorem dX5_init_399 : decode cX5_init 399 = .ok (.newarray .int, 2) := dk_188_10 (dk_at dksX5_init_17 0 rfl rfl)
theorem dX5_init_401 : decode cX5_init 401 = .ok (.putfield 159, 3) := dk_181 0 159 (dk_at dksX5_init_17 2 rfl rfl)
theorem dX5_init_404 : decode cX5_init 404 = .ok (.aload_n 0, 1) := dk_42 (dk_at dksX5_init_17 5 rfl rfl)
theorem dX5_init_405 : decode cX5_init 405 = .ok (.bipush 32, 2) := dk_16 32 (dk_at dksX5_init_17 6 rfl rfl)
theorem dX5_init_407 : decode cX5_init 407 = .ok (.newarray .int, 2) := dk_188_10 (dk_at dksX5_init_17 8 rfl rfl)
theorem dX5_init_409 : decode cX5_init 409 = .ok (.putfield 162, 3) := dk_181 0 162 (dk_at dksX5_init_17 10 rfl rfl)
theorem dX5_init_412 : decode cX5_init 412 = .ok (.aload_n 0, 1) := dk_42 (dk_at dksX5_init_17 13 rfl rfl)
theorem dX5_init_413 : decode cX5_init 413 = .ok (.bipush 16, 2) := dk_16 16 (dk_at dksX5_init_17 14 rfl rfl)
theorem dX5_init_415 : decode cX5_init 415 = .ok (.newarray .int, 2) := dk_188_10 (dk_at dksX5_init_17 16 rfl rfl)
theorem dX5_init_417 : decode cX5_init 417 = .ok (.putfield 165, 3) := dk_181 0 165 (dk_at dksX5_init_17 18 rfl rfl)
theorem dX5_init_420 : decode cX5_init 420 = .ok (.aload_n 0, 1) := dk_42 (dk_at dksX5_init_17 21 rfl rfl)
theorem dX5_init_421 : decode cX5_init 421 = .ok (.bipush 80, 2) := dk_16 80 (dk_at dksX5_init_17 22 rfl rfl)
theorem dX5_init_423 : decode cX5_init 423 = .ok (.newarray .int, 2) := dk_188_10 (dk_at dksX5_init_18 0 rfl rfl)
theorem dX5_init_425 : decode cX5_init 425 = .ok (.putfield 168, 3) := dk_181 0 168 (dk_at dksX5_init_18 2 rfl rfl)
theorem dX5_init_428 : decode cX5_init 428 = .ok (.aload_n 0, 1) := dk_42 (dk_at dksX5_init_18 5 rfl rfl)
theorem dX5_init_429 : decode cX5_init 429 = .ok (.sipush 256, 3) := dk_17 1 0 (dk_at dksX5_init_18 6 rfl rfl)
theorem dX5_init_432 : decode cX5_init 432 = .ok (.newarray .boolean, 2) := dk_188_4 (dk_at dksX5_init_18 9 rfl rfl)
theorem dX5_init_434 : decode cX5_init 434 = .ok (.putfield 171, 3) := dk_181 0 171 (dk_at dksX5_init_18 11 rfl rfl)
theorem dX5_init_437 : decode cX5_init 437 = .ok (.return_, 1) := dk_177 (dk_at dksX5_init_18 14 rfl rfl)
theorem dX5_thrown_0 : decode cX5_thrown 0 = .ok (.aload_n 0, 1) := by decide +kernel
theorem dX5_thrown_1 : decode cX5_thrown 1 = .ok (.getfield 174, 3) := by decide +kernel
theorem dX5_thrown_4 : decode cX5_thrown 4 = .ok (.ireturn, 1) := by decide +kernel
def dkwX5_variable_3 : List UInt8 := [182, 1, 89, 172]
abbrev dktX5_variable_3 : List UInt8 := dkwX5_variable_3 ++ []
def dkwX5_variable_2 : List UInt8 := [5, 167, 0, 4, 3, 181, 0, 174, 42, 180, 0, 174, 158, 0, 7, 3, 167, 0, 11, 42, 27, 28, 3, 3]
abbrev dktX5_variable_2 : List UInt8 := dkwX5_variable_2 ++ dktX5_variable_3
def dkwX5_variable_1 : List UInt8 := [4, 167, 0, 4, 3, 62, 42, 29, 154, 0, 7, 4, 167, 0, 17, 42, 180, 0, 177, 16, 10, 160, 0, 7]
abbrev dktX5_variable_1 : List UInt8 := dkwX5_variable_1 ++ dktX5_variable_2
def dkwX5_variable_0 : List UInt8 := [27, 3, 5, 184, 0, 180, 153, 0, 22, 28, 153, 0, 18, 28, 27, 184, 1, 86, 2, 130, 126, 154, 0, 7]
abbrev dktX5_variable_0 : List UInt8 := dkwX5_variable_0 ++ dktX5_variable_1
theorem dksX5_variable_0 : cX5_variable.data.toList.drop 0 = dktX5_variable_0 := by decide +kernel
theorem dksX5_variable_1 : cX5_variable.data.toList.drop 24 = dktX5_variable_1 := dk_seg dksX5_variable_0 24 rfl rfl
theorem dksX5_variable_2 : cX5_variable.data.toList.drop 48 = dktX5_variable_2 := dk_seg dksX5_variable_1 24 rfl rfl
theorem dksX5_variable_3 : cX5_variable.data.toList.drop 72 = dktX5_variable_3 := dk_seg dksX5_variable_2 24 rfl rfl
theorem dX5_variable_0 : decode cX5_variable 0 = .ok (.iload_n 1, 1) := dk_27 (dk_at dksX5_variable_0 0 rfl rfl)
theorem dX5_variable_1 : decode cX5_variable 1 = .ok (.iconst 0, 1) := dk_3 (dk_at dksX5_variable_0 1 rfl rfl)
theorem dX5_variable_2 : decode cX5_variable 2 = .ok (.iconst 2, 1) := dk_5 (dk_at dksX5_variable_0 2 rfl rfl)
theorem dX5_variable_3 : decode cX5_variable 3 = .ok (.invokestatic 180, 3) := dk_184 0 180 (dk_at dksX5_variable_0 3 rfl rfl)
theorem dX5_variable_6 : decode cX5_variable 6 = .ok (.ifCond .eq 22, 3) := dk_153 0 22 (dk_at dksX5_variable_0 6 rfl rfl)
theorem dX5_variable_9 : decode cX5_variable 9 = .ok (.iload_n 2, 1) := dk_28 (dk_at dksX5_variable_0 9 rfl rfl)
theorem dX5_variable_10 : decode cX5_variable 10 = .ok (.ifCond .eq 18, 3) := dk_153 0 18 (dk_at dksX5_variable_0 10 rfl rfl)
theorem dX5_variable_13 : decode cX5_variable 13 = .ok (.iload_n 2, 1) := dk_28 (dk_at dksX5_variable_0 13 rfl rfl)
theorem dX5_variable_14 : decode cX5_variable 14 = .ok (.iload_n 1, 1) := dk_27 (dk_at dksX5_variable_0 14 rfl rfl)
theorem dX5_variable_15 : decode cX5_variable 15 = .ok (.invokestatic 342, 3) := dk_184 1 86 (dk_at dksX5_variable_0 15 rfl rfl)
theorem dX5_variable_18 : decode cX5_variable 18 = .ok (.iconst (-1), 1) := dk_2 (dk_at dksX5_variable_0 18 rfl rfl)
theorem dX5_variable_19 : decode cX5_variable 19 = .ok (.ixor, 1) := dk_130 (dk_at dksX5_variable_0 19 rfl rfl)
theorem dX5_variable_20 : decode cX5_variable 20 = .ok (.iand, 1) := dk_126 (dk_at dksX5_variable_0 20 rfl rfl)
theorem dX5_variable_21 : decode cX5_variable 21 = .ok (.ifCond .ne 7, 3) := dk_154 0 7 (dk_at dksX5_variable_0 21 rfl rfl)
theorem dX5_variable_24 : decode cX5_variable 24 = .ok (.iconst 1, 1) := dk_4 (dk_at dksX5_variable_1 0 rfl rfl)
theorem dX5_variable_25 : decode cX5_variable 25 = .ok (.goto 4, 3) := dk_167 0 4 (dk_at dksX5_variable_1 1 rfl rfl)
theorem dX5_variable_28 : decode cX5_variable 28 = .ok (.iconst 0, 1) := dk_3 (dk_at dksX5_variable_1 4 rfl rfl)
theorem dX5_variable_29 : decode cX5_variable 29 = .ok (.istore_n 3, 1) := dk_62 (dk_at dksX5_variable_1 5 rfl rfl)
theorem dX5_variable_30 : decode cX5_variable 30 = .ok (.aload_n 0, 1) := dk_42 (dk_at dksX5_variable_1 6 rfl rfl)
theorem dX5_variable_31 : decode cX5_variable 31 = .ok (.iload_n 3, 1) := dk_29 (dk_at dksX5_variable_1 7 rfl rfl)
theorem dX5_variable_32 : decode cX5_variable 32 = .ok (.ifCond .ne 7, 3) := dk_154 0 7 (dk_at dksX5_variable_1 8 rfl rfl)
theorem dX5_variable_35 : decode cX5_variable 35 = .ok (.iconst 1, 1) := dk_4 (dk_at dksX5_variable_1 11 rfl rfl)
theorem dX5_variable_36 : decode cX5_variable 36 = .ok (.goto 17, 3) := dk_167 0 17 (dk_at dksX5_variable_1 12 rfl rfl)
theorem dX5_variable_39 : decode cX5_variable 39 = .ok (.aload_n 0, 1) := dk_42 (dk_at dksX5_variable_1 15 rfl rfl)
theorem dX5_variable_40 : decode cX5_variable 40 = .ok (.getfield 177, 3) := dk_180 0 177 (dk_at dksX5_variable_1 16 rfl rfl)
theorem dX5_variable_43 : decode cX5_variable 43 = .ok (.bipush 10, 2) := dk_16 10 (dk_at dksX5_variable_1 19 rfl rfl)
theorem dX5_variable_45 : decode cX5_variable 45 = .ok (.if_icmp .ne 7, 3) := dk_160 0 7 (dk_at dksX5_variable_1 21 rfl rfl)
theorem dX5_variable_48 : decode cX5_variable 48 = .ok (.iconst 2, 1) := dk_5 (dk_at dksX5_variable_2 0 rfl rfl)
theorem dX5_variable_49 : decode cX5_variable 49 = .ok (.goto 4, 3) := dk_167 0 4 (dk_at dksX5_variable_2 1 rfl rfl)
theorem dX5_variable_52 : decode cX5_variable 52 = .ok (.iconst 0, 1) := dk_3 (dk_at dksX5_variable_2 4 rfl rfl)
theorem dX5_variable_53 : decode cX5_variable 53 = .ok (.putfield 174, 3) := dk_181 0 174 (dk_at dksX5_variable_2 5 rfl rfl)
theorem dX5_variable_56 : decode cX5_variable 56 = .ok (.aload_n 0, 1) := dk_42 (dk_at dksX5_variable_2 8 rfl rfl)
theorem dX5_variable_57 : decode cX5_variable 57 = .ok (.getfield 174, 3) := dk_180 0 174 (dk_at dksX5_variable_2 9 rfl rfl)
theorem dX5_variable_60 : decode cX5_variable 60 = .ok (.ifCond .le 7, 3) := dk_158 0 7 (dk_at dksX5_variable_2 12 rfl rfl)
theorem dX5_variable_63 : decode cX5_variable 63 = .ok (.iconst 0, 1) := dk_3 (dk_at dksX5_variable_2 15 rfl rfl)
theorem dX5_variable_64 : decode cX5_variable 64 = .ok (.goto 11, 3) := dk_167 0 11 (dk_at dksX5_variable_2 16 rfl rfl)
theorem dX5_variable_67 : decode cX5_variable 67 = .ok (.aload_n 0, 1) := dk_42 (dk_at dksX5_variable_2 19 rfl rfl)
theorem dX5_variable_68 : decode cX5_variable 68 = .ok (.iload_n 1, 1) := dk_27 (dk_at dksX5_variable_2 20 rfl rfl)
theorem dX5_variable_69 : decode cX5_variable 69 = .ok (.iload_n 2, 1) := dk_28 (dk_at dksX5_variable_2 21 rfl rfl)
theorem dX5_variable_70 : decode cX5_variable 70 = .ok (.iconst 0, 1) := dk_3 (dk_at dksX5_variable_2 22 rfl rfl)
theorem dX5_variable_71 : decode cX5_variable 71 = .ok (.iconst 0, 1) := dk_3 (dk_at dksX5_variable_2 23 rfl rfl)
theorem dX5_variable_72 : decode cX5_variable 72 = .ok (.invokevirtual 345, 3) := dk_182 1 89 (dk_at dksX5_variable_3 0 rfl rfl)
theorem dX5_variable_75 : decode cX5_variable 75 = .ok (.ireturn, 1) := dk_172 (dk_at dksX5_variable_3 3 rfl rfl)
def dkwX5_isIn_0 : List UInt8 := [26, 27, 161, 0, 12, 26, 28, 163, 0, 7, 4, 167, 0, 4, 3, 172]
abbrev dktX5_isIn_0 : List UInt8 := dkwX5_isIn_0 ++ []
theorem dksX5_isIn_0 : cX5_isIn.data.toList.drop 0 = dktX5_isIn_0 := by decide +kernel
theorem dX5_isIn_0 : decode cX5_isIn 0 = .ok (.iload_n 0, 1) := dk_26 (dk_at dksX5_isIn_0 0 rfl rfl)
theorem dX5_isIn_1 : decode cX5_isIn 1 = .ok (.iload_n 1, 1) := dk_27 (dk_at dksX5_isIn_0 1 rfl rfl)
theorem dX5_isIn_2 : decode cX5_isIn 2 = .ok (.if_icmp .lt 12, 3) := dk_161 0 12 (dk_at dksX5_isIn_0 2 rfl rfl)
theorem dX5_isIn_5 : decode cX5_isIn 5 = .ok (.iload_n 0, 1) := dk_26 (dk_at dksX5_isIn_0 5 rfl rfl)
theorem dX5_isIn_6 : decode cX5_isIn 6 = .ok (.iload_n 2, 1) := dk_28 (dk_at dksX5_isIn_0 6 rfl rfl)
theorem dX5_isIn_7 : decode cX5_isIn 7 = .ok (.if_icmp .gt 7, 3) := dk_163 0 7 (dk_at dksX5_isIn_0 7 rfl rfl)
theorem dX5_isIn_10 : decode cX5_isIn 10 = .ok (.iconst 1, 1) := dk_4 (dk_at dksX5_isIn_0 10 rfl rfl)
theorem dX5_isIn_11 : decode cX5_isIn 11 = .ok (.goto 4, 3) := dk_167 0 4 (dk_at dksX5_isIn_0 11 rfl rfl)
theorem dX5_isIn_14 : decode cX5_isIn 14 = .ok (.iconst 0, 1) := dk_3 (dk_at dksX5_isIn_0 14 rfl rfl)
theorem dX5_isIn_15 : decode cX5_isIn 15 = .ok (.ireturn, 1) := dk_172 (dk_at dksX5_isIn_0 15 rfl rfl)
def dkwX5_all_0 : List UInt8 := [26, 154, 0, 8, 18, 184, 167, 0, 15, 26, 4, 160, 0, 7, 2, 167, 0, 6, 17, 127, 255, 172]
abbrev dktX5_all_0 : List UInt8 := dkwX5_all_0 ++ []
theorem dksX5_all_0 : cX5_all.data.toList.drop 0 = dktX5_all_0 := by decide +kernel
theorem dX5_all_0 : decode cX5_all 0 = .ok (.iload_n 0, 1) := dk_26 (dk_at dksX5_all_0 0 rfl rfl)
theorem dX5_all_1 : decode cX5_all 1 = .ok (.ifCond .ne 8, 3) := dk_154 0 8 (dk_at dksX5_all_0 1 rfl rfl)
theorem dX5_all_4 : decode cX5_all 4 = .ok (.ldc 184, 2) := dk_18 184 (dk_at dksX5_all_0 4 rfl rfl)
theorem dX5_all_6 : decode cX5_all 6 = .ok (.goto 15, 3) := dk_167 0 15 (dk_at dksX5_all_0 6 rfl rfl)
theorem dX5_all_9 : decode cX5_all 9 = .ok (.iload_n 0, 1) := dk_26 (dk_at dksX5_all_0 9 rfl rfl)
theorem dX5_all_10 : decode cX5_all 10 = .ok (.iconst 1, 1) := dk_4 (dk_at dksX5_all_0 10 rfl rfl)
theorem dX5_all_11 : decode cX5_all 11 = .ok (.if_icmp .ne 7, 3) := dk_160 0 7 (dk_at dksX5_all_0 11 rfl rfl)
theorem dX5_all_14 : decode cX5_all 14 = .ok (.iconst (-1), 1) := dk_2 (dk_at dksX5_all_0 14 rfl rfl)
theorem dX5_all_15 : decode cX5_all 15 = .ok (.goto 6, 3) := dk_167 0 6 (dk_at dksX5_all_0 15 rfl rfl)
theorem dX5_all_18 : decode cX5_all 18 = .ok (.sipush 32767, 3) := dk_17 127 255 (dk_at dksX5_all_0 18 rfl rfl)
theorem dX5_all_21 : decode cX5_all 21 = .ok (.ireturn, 1) := dk_172 (dk_at dksX5_all_0 21 rfl rfl)
def dkwX5_addsVariable_2 : List UInt8 := [180, 0, 177, 3, 79, 42, 89, 180, 0, 177, 4, 96, 181, 0, 177, 42, 180, 0, 177, 4, 100, 172]
abbrev dktX5_addsVariable_2 : List UInt8 := dkwX5_addsVariable_2 ++ []
def dkwX5_addsVariable_1 : List UInt8 := [42, 180, 0, 177, 29, 79, 42, 180, 0, 19, 42, 180, 0, 177, 21, 4, 79, 42, 180, 0, 114, 42]
abbrev dktX5_addsVariable_1 : List UInt8 := dkwX5_addsVariable_1 ++ dktX5_addsVariable_2
def dkwX5_addsVariable_0 : List UInt8 := [42, 180, 0, 7, 42, 180, 0, 177, 27, 79, 42, 180, 0, 13, 42, 180, 0, 177, 28, 79, 42, 180, 0, 16]
abbrev dktX5_addsVariable_0 : List UInt8 := dkwX5_addsVariable_0 ++ dktX5_addsVariable_1
theorem dksX5_addsVariable_0 : cX5_addsVariable.data.toList.drop 0 = dktX5_addsVariable_0 := by decide +kernel
theorem dksX5_addsVariable_1 : cX5_addsVariable.data.toList.drop 24 = dktX5_addsVariable_1 := dk_seg dksX5_addsVariable_0 24 rfl rfl
theorem dksX5_addsVariable_2 : cX5_addsVariable.data.toList.drop 46 = dktX5_addsVariable_2 := dk_seg dksX5_addsVariable_1 22 rfl rfl
theorem dX5_addsVariable_0 : decode cX5_addsVariable 0 = .ok (.aload_n 0, 1) := dk_42 (dk_at dksX5_addsVariable_0 0 rfl rfl)
theorem dX5_addsVariable_1 : decode cX5_addsVariable 1 = .ok (.getfield 7, 3) := dk_180 0 7 (dk_at dksX5_addsVariable_0 1 rfl rfl)
theorem dX5_addsVariable_4 : decode cX5_addsVariable 4 = .ok (.aload_n 0, 1) := dk_42 (dk_at dksX5_addsVariable_0 4 rfl rfl)
theorem dX5_addsVariable_5 : decode cX5_addsVariable 5 = .ok (.getfield 177, 3) := dk_180 0 177 (dk_at dksX5_addsVariable_0 5 rfl rfl)
theorem dX5_addsVariable_8 : decode cX5_addsVariable 8 = .ok (.iload_n 1, 1) := dk_27 (dk_at dksX5_addsVariable_0 8 rfl rfl)
theorem dX5_addsVariable_9 : decode cX5_addsVariable 9 = .ok (.iastore, 1) := dk_79 (dk_at dksX5_addsVariable_0 9 rfl rfl)
theorem dX5_addsVariable_10 : decode cX5_addsVariable 10 = .ok (.aload_n 0, 1) := dk_42 (dk_at dksX5_addsVariable_0 10 rfl rfl)
theorem dX5_addsVariable_11 : decode cX5_addsVariable 11 = .ok (.getfield 13, 3) := dk_180 0 13 (dk_at dksX5_addsVariable_0 11 rfl rfl)
theorem dX5_addsVariable_14 : decode cX5_addsVariable 14 = .ok (.aload_n 0, 1) := dk_42 (dk_at dksX5_addsVariable_0 14 rfl rfl)
theorem dX5_addsVariable_15 : decode cX5_addsVariable 15 = .ok (.getfield 177, 3) := dk_180 0 177 (dk_at dksX5_addsVariable_0 15 rfl rfl)
theorem dX5_addsVariable_18 : decode cX5_addsVariable 18 = .ok (.iload_n 2, 1) := dk_28 (dk_at dksX5_addsVariable_0 18 rfl rfl)
theorem dX5_addsVariable_19 : decode cX5_addsVariable 19 = .ok (.iastore, 1) := dk_79 (dk_at dksX5_addsVariable_0 19 rfl rfl)
theorem dX5_addsVariable_20 : decode cX5_addsVariable 20 = .ok (.aload_n 0, 1) := dk_42 (dk_at dksX5_addsVariable_0 20 rfl rfl)
theorem dX5_addsVariable_21 : decode cX5_addsVariable 21 = .ok (.getfield 16, 3) := dk_180 0 16 (dk_at dksX5_addsVariable_0 21 rfl rfl)
theorem dX5_addsVariable_24 : decode cX5_addsVariable 24 = .ok (.aload_n 0, 1) := dk_42 (dk_at dksX5_addsVariable_1 0 rfl rfl)
theorem dX5_addsVariable_25 : decode cX5_addsVariable 25 = .ok (.getfield 177, 3) := dk_180 0 177 (dk_at dksX5_addsVariable_1 1 rfl rfl)
theorem dX5_addsVariable_28 : decode cX5_addsVariable 28 = .ok (.iload_n 3, 1) := dk_29 (dk_at dksX5_addsVariable_1 4 rfl rfl)
theorem dX5_addsVariable_29 : decode cX5_addsVariable 29 = .ok (.iastore, 1) := dk_79 (dk_at dksX5_addsVariable_1 5 rfl rfl)
theorem dX5_addsVariable_30 : decode cX5_addsVariable 30 = .ok (.aload_n 0, 1) := dk_42 (dk_at dksX5_addsVariable_1 6 rfl rfl)
theorem dX5_addsVariable_31 : decode cX5_addsVariable 31 = .ok (.getfield 19, 3) := dk_180 0 19 (dk_at dksX5_addsVariable_1 7 rfl rfl)
theorem dX5_addsVariable_34 : decode cX5_addsVariable 34 = .ok (.aload_n 0, 1) := dk_42 (dk_at dksX5_addsVariable_1 10 rfl rfl)
theorem dX5_addsVariable_35 : decode cX5_addsVariable 35 = .ok (.getfield 177, 3) := dk_180 0 177 (dk_at dksX5_addsVariable_1 11 rfl rfl)
theorem dX5_addsVariable_38 : decode cX5_addsVariable 38 = .ok (.iload 4, 2) := dk_21 4 (dk_at dksX5_addsVariable_1 14 rfl rfl)
theorem dX5_addsVariable_40 : decode cX5_addsVariable 40 = .ok (.iastore, 1) := dk_79 (dk_at dksX5_addsVariable_1 16 rfl rfl)
theorem dX5_addsVariable_41 : decode cX5_addsVariable 41 = .ok (.aload_n 0, 1) := dk_42 (dk_at dksX5_addsVariable_1 17 rfl rfl)
theorem dX5_addsVariable_42 : decode cX5_addsVariable 42 = .ok (.getfield 114, 3) := dk_180 0 114 (dk_at dksX5_addsVariable_1 18 rfl rfl)
theorem dX5_addsVariable_45 : decode cX5_addsVariable 45 = .ok (.aload_n 0, 1) := dk_42 (dk_at dksX5_addsVariable_1 21 rfl rfl)
theorem dX5_addsVariable_46 : decode cX5_addsVariable 46 = .ok (.getfield 177, 3) := dk_180 0 177 (dk_at dksX5_addsVariable_2 0 rfl rfl)
theorem dX5_addsVariable_49 : decode cX5_addsVariable 49 = .ok (.iconst 0, 1) := dk_3 (dk_at dksX5_addsVariable_2 3 rfl rfl)
theorem dX5_addsVariable_50 : decode cX5_addsVariable 50 = .ok (.iastore, 1) := dk_79 (dk_at dksX5_addsVariable_2 4 rfl rfl)
theorem dX5_addsVariable_51 : decode cX5_addsVariable 51 = .ok (.aload_n 0, 1) := dk_42 (dk_at dksX5_addsVariable_2 5 rfl rfl)
theorem dX5_addsVariable_52 : decode cX5_addsVariable 52 = .ok (.dup, 1) := dk_89 (dk_at dksX5_addsVariable_2 6 rfl rfl)
theorem dX5_addsVariable_53 : decode cX5_addsVariable 53 = .ok (.getfield 177, 3) := dk_180 0 177 (dk_at dksX5_addsVariable_2 7 rfl rfl)
theorem dX5_addsVariable_56 : decode cX5_addsVariable 56 = .ok (.iconst 1, 1) := dk_4 (dk_at dksX5_addsVariable_2 10 rfl rfl)
theorem dX5_addsVariable_57 : decode cX5_addsVariable 57 = .ok (.iadd, 1) := dk_96 (dk_at dksX5_addsVariable_2 11 rfl rfl)
theorem dX5_addsVariable_58 : decode cX5_addsVariable 58 = .ok (.putfield 177, 3) := dk_181 0 177 (dk_at dksX5_addsVariable_2 12 rfl rfl)
theorem dX5_addsVariable_61 : decode cX5_addsVariable 61 = .ok (.aload_n 0, 1) := dk_42 (dk_at dksX5_addsVariable_2 15 rfl rfl)
theorem dX5_addsVariable_62 : decode cX5_addsVariable 62 = .ok (.getfield 177, 3) := dk_180 0 177 (dk_at dksX5_addsVariable_2 16 rfl rfl)
theorem dX5_addsVariable_65 : decode cX5_addsVariable 65 = .ok (.iconst 1, 1) := dk_4 (dk_at dksX5_addsVariable_2 19 rfl rfl)
theorem dX5_addsVariable_66 : decode cX5_addsVariable 66 = .ok (.isub, 1) := dk_100 (dk_at dksX5_addsVariable_2 20 rfl rfl)
theorem dX5_addsVariable_67 : decode cX5_addsVariable 67 = .ok (.ireturn, 1) := dk_172 (dk_at dksX5_addsVariable_2 21 rfl rfl)
def dkwX5_ratio_2 : List UInt8 := [158, 0, 7, 3, 167, 0, 11, 42, 6, 2, 27, 28, 182, 1, 89, 172]
abbrev dktX5_ratio_2 : List UInt8 := dkwX5_ratio_2 ++ []
def dkwX5_ratio_1 : List UInt8 := [167, 0, 17, 42, 180, 0, 177, 16, 10, 160, 0, 7, 5, 167, 0, 4, 3, 181, 0, 174, 42, 180, 0, 174]
abbrev dktX5_ratio_1 : List UInt8 := dkwX5_ratio_1 ++ dktX5_ratio_2
def dkwX5_ratio_0 : List UInt8 := [42, 27, 16, 136, 16, 120, 184, 0, 180, 153, 0, 13, 28, 27, 16, 120, 184, 0, 180, 154, 0, 7, 4]
abbrev dktX5_ratio_0 : List UInt8 := dkwX5_ratio_0 ++ dktX5_ratio_1
theorem dksX5_ratio_0 : cX5_ratio.data.toList.drop 0 = dktX5_ratio_0 := by decide +kernel
theorem dksX5_ratio_1 : cX5_ratio.data.toList.drop 23 = dktX5_ratio_1 := dk_seg dksX5_ratio_0 23 rfl rfl
theorem dksX5_ratio_2 : cX5_ratio.data.toList.drop 47 = dktX5_ratio_2 := dk_seg dksX5_ratio_1 24 rfl rfl
theorem dX5_ratio_0 : decode cX5_ratio 0 = .ok (.aload_n 0, 1) := dk_42 (dk_at dksX5_ratio_0 0 rfl rfl)
theorem dX5_ratio_1 : decode cX5_ratio 1 = .ok (.iload_n 1, 1) := dk_27 (dk_at dksX5_ratio_0 1 rfl rfl)
theorem dX5_ratio_2 : decode cX5_ratio 2 = .ok (.bipush (-120), 2) := dk_16 136 (dk_at dksX5_ratio_0 2 rfl rfl)
theorem dX5_ratio_4 : decode cX5_ratio 4 = .ok (.bipush 120, 2) := dk_16 120 (dk_at dksX5_ratio_0 4 rfl rfl)
theorem dX5_ratio_6 : decode cX5_ratio 6 = .ok (.invokestatic 180, 3) := dk_184 0 180 (dk_at dksX5_ratio_0 6 rfl rfl)
theorem dX5_ratio_9 : decode cX5_ratio 9 = .ok (.ifCond .eq 13, 3) := dk_153 0 13 (dk_at dksX5_ratio_0 9 rfl rfl)
theorem dX5_ratio_12 : decode cX5_ratio 12 = .ok (.iload_n 2, 1) := dk_28 (dk_at dksX5_ratio_0 12 rfl rfl)
theorem dX5_ratio_13 : decode cX5_ratio 13 = .ok (.iload_n 1, 1) := dk_27 (dk_at dksX5_ratio_0 13 rfl rfl)
theorem dX5_ratio_14 : decode cX5_ratio 14 = .ok (.bipush 120, 2) := dk_16 120 (dk_at dksX5_ratio_0 14 rfl rfl)
theorem dX5_ratio_16 : decode cX5_ratio 16 = .ok (.invokestatic 180, 3) := dk_184 0 180 (dk_at dksX5_ratio_0 16 rfl rfl)
theorem dX5_ratio_19 : decode cX5_ratio 19 = .ok (.ifCond .ne 7, 3) := dk_154 0 7 (dk_at dksX5_ratio_0 19 rfl rfl)
theorem dX5_ratio_22 : decode cX5_ratio 22 = .ok (.iconst 1, 1) := dk_4 (dk_at dksX5_ratio_0 22 rfl rfl)
theorem dX5_ratio_23 : decode cX5_ratio 23 = .ok (.goto 17, 3) := dk_167 0 17 (dk_at dksX5_ratio_1 0 rfl rfl)
theorem dX5_ratio_26 : decode cX5_ratio 26 = .ok (.aload_n 0, 1) := dk_42 (dk_at dksX5_ratio_1 3 rfl rfl)
theorem dX5_ratio_27 : decode cX5_ratio 27 = .ok (.getfield 177, 3) := dk_180 0 177 (dk_at dksX5_ratio_1 4 rfl rfl)
theorem dX5_ratio_30 : decode cX5_ratio 30 = .ok (.bipush 10, 2) := dk_16 10 (dk_at dksX5_ratio_1 7 rfl rfl)
theorem dX5_ratio_32 : decode cX5_ratio 32 = .ok (.if_icmp .ne 7, 3) := dk_160 0 7 (dk_at dksX5_ratio_1 9 rfl rfl)
theorem dX5_ratio_35 : decode cX5_ratio 35 = .ok (.iconst 2, 1) := dk_5 (dk_at dksX5_ratio_1 12 rfl rfl)
theorem dX5_ratio_36 : decode cX5_ratio 36 = .ok (.goto 4, 3) := dk_167 0 4 (dk_at dksX5_ratio_1 13 rfl rfl)
theorem dX5_ratio_39 : decode cX5_ratio 39 = .ok (.iconst 0, 1) := dk_3 (dk_at dksX5_ratio_1 16 rfl rfl)
theorem dX5_ratio_40 : decode cX5_ratio 40 = .ok (.putfield 174, 3) := dk_181 0 174 (dk_at dksX5_ratio_1 17 rfl rfl)
theorem dX5_ratio_43 : decode cX5_ratio 43 = .ok (.aload_n 0, 1) := dk_42 (dk_at dksX5_ratio_1 20 rfl rfl)
theorem dX5_ratio_44 : decode cX5_ratio 44 = .ok (.getfield 174, 3) := dk_180 0 174 (dk_at dksX5_ratio_1 21 rfl rfl)
theorem dX5_ratio_47 : decode cX5_ratio 47 = .ok (.ifCond .le 7, 3) := dk_158 0 7 (dk_at dksX5_ratio_2 0 rfl rfl)
theorem dX5_ratio_50 : decode cX5_ratio 50 = .ok (.iconst 0, 1) := dk_3 (dk_at dksX5_ratio_2 3 rfl rfl)
theorem dX5_ratio_51 : decode cX5_ratio 51 = .ok (.goto 11, 3) := dk_167 0 11 (dk_at dksX5_ratio_2 4 rfl rfl)
theorem dX5_ratio_54 : decode cX5_ratio 54 = .ok (.aload_n 0, 1) := dk_42 (dk_at dksX5_ratio_2 7 rfl rfl)
theorem dX5_ratio_55 : decode cX5_ratio 55 = .ok (.iconst 3, 1) := dk_6 (dk_at dksX5_ratio_2 8 rfl rfl)
theorem dX5_ratio_56 : decode cX5_ratio 56 = .ok (.iconst (-1), 1) := dk_2 (dk_at dksX5_ratio_2 9 rfl rfl)
theorem dX5_ratio_57 : decode cX5_ratio 57 = .ok (.iload_n 1, 1) := dk_27 (dk_at dksX5_ratio_2 10 rfl rfl)
theorem dX5_ratio_58 : decode cX5_ratio 58 = .ok (.iload_n 2, 1) := dk_28 (dk_at dksX5_ratio_2 11 rfl rfl)
theorem dX5_ratio_59 : decode cX5_ratio 59 = .ok (.invokevirtual 345, 3) := dk_182 1 89 (dk_at dksX5_ratio_2 12 rfl rfl)
theorem dX5_ratio_62 : decode cX5_ratio 62 = .ok (.ireturn, 1) := dk_172 (dk_at dksX5_ratio_2 15 rfl rfl)
def dkwX5_name_2 : List UInt8 := [27, 79, 42, 89, 180, 1, 96, 4, 96, 181, 1, 96, 42, 180, 1, 96, 172]
abbrev dktX5_name_2 : List UInt8 := dkwX5_name_2 ++ []
def dkwX5_name_1 : List UInt8 := [167, 0, 4, 3, 181, 0, 174, 42, 180, 0, 174, 158, 0, 5, 3, 172, 42, 180, 0, 22, 42, 180, 1, 96]
abbrev dktX5_name_1 : List UInt8 := dkwX5_name_1 ++ dktX5_name_2
def dkwX5_name_0 : List UInt8 := [42, 42, 27, 182, 1, 93, 154, 0, 7, 4, 167, 0, 17, 42, 180, 1, 96, 16, 6, 160, 0, 7, 5]
abbrev dktX5_name_0 : List UInt8 := dkwX5_name_0 ++ dktX5_name_1
theorem dksX5_name_0 : cX5_name.data.toList.drop 0 = dktX5_name_0 := by decide +kernel
theorem dksX5_name_1 : cX5_name.data.toList.drop 23 = dktX5_name_1 := dk_seg dksX5_name_0 23 rfl rfl
theorem dksX5_name_2 : cX5_name.data.toList.drop 47 = dktX5_name_2 := dk_seg dksX5_name_1 24 rfl rfl
theorem dX5_name_0 : decode cX5_name 0 = .ok (.aload_n 0, 1) := dk_42 (dk_at dksX5_name_0 0 rfl rfl)
theorem dX5_name_1 : decode cX5_name 1 = .ok (.aload_n 0, 1) := dk_42 (dk_at dksX5_name_0 1 rfl rfl)
theorem dX5_name_2 : decode cX5_name 2 = .ok (.iload_n 1, 1) := dk_27 (dk_at dksX5_name_0 2 rfl rfl)
theorem dX5_name_3 : decode cX5_name 3 = .ok (.invokevirtual 349, 3) := dk_182 1 93 (dk_at dksX5_name_0 3 rfl rfl)
theorem dX5_name_6 : decode cX5_name 6 = .ok (.ifCond .ne 7, 3) := dk_154 0 7 (dk_at dksX5_name_0 6 rfl rfl)
theorem dX5_name_9 : decode cX5_name 9 = .ok (.iconst 1, 1) := dk_4 (dk_at dksX5_name_0 9 rfl rfl)
theorem dX5_name_10 : decode cX5_name 10 = .ok (.goto 17, 3) := dk_167 0 17 (dk_at dksX5_name_0 10 rfl rfl)
theorem dX5_name_13 : decode cX5_name 13 = .ok (.aload_n 0, 1) := dk_42 (dk_at dksX5_name_0 13 rfl rfl)
theorem dX5_name_14 : decode cX5_name 14 = .ok (.getfield 352, 3) := dk_180 1 96 (dk_at dksX5_name_0 14 rfl rfl)
theorem dX5_name_17 : decode cX5_name 17 = .ok (.bipush 6, 2) := dk_16 6 (dk_at dksX5_name_0 17 rfl rfl)
theorem dX5_name_19 : decode cX5_name 19 = .ok (.if_icmp .ne 7, 3) := dk_160 0 7 (dk_at dksX5_name_0 19 rfl rfl)
theorem dX5_name_22 : decode cX5_name 22 = .ok (.iconst 2, 1) := dk_5 (dk_at dksX5_name_0 22 rfl rfl)
theorem dX5_name_23 : decode cX5_name 23 = .ok (.goto 4, 3) := dk_167 0 4 (dk_at dksX5_name_1 0 rfl rfl)
theorem dX5_name_26 : decode cX5_name 26 = .ok (.iconst 0, 1) := dk_3 (dk_at dksX5_name_1 3 rfl rfl)
theorem dX5_name_27 : decode cX5_name 27 = .ok (.putfield 174, 3) := dk_181 0 174 (dk_at dksX5_name_1 4 rfl rfl)
theorem dX5_name_30 : decode cX5_name 30 = .ok (.aload_n 0, 1) := dk_42 (dk_at dksX5_name_1 7 rfl rfl)
theorem dX5_name_31 : decode cX5_name 31 = .ok (.getfield 174, 3) := dk_180 0 174 (dk_at dksX5_name_1 8 rfl rfl)
theorem dX5_name_34 : decode cX5_name 34 = .ok (.ifCond .le 5, 3) := dk_158 0 5 (dk_at dksX5_name_1 11 rfl rfl)
theorem dX5_name_37 : decode cX5_name 37 = .ok (.iconst 0, 1) := dk_3 (dk_at dksX5_name_1 14 rfl rfl)
theorem dX5_name_38 : decode cX5_name 38 = .ok (.ireturn, 1) := dk_172 (dk_at dksX5_name_1 15 rfl rfl)
theorem dX5_name_39 : decode cX5_name 39 = .ok (.aload_n 0, 1) := dk_42 (dk_at dksX5_name_1 16 rfl rfl)
theorem dX5_name_40 : decode cX5_name 40 = .ok (.getfield 22, 3) := dk_180 0 22 (dk_at dksX5_name_1 17 rfl rfl)
theorem dX5_name_43 : decode cX5_name 43 = .ok (.aload_n 0, 1) := dk_42 (dk_at dksX5_name_1 20 rfl rfl)
theorem dX5_name_44 : decode cX5_name 44 = .ok (.getfield 352, 3) := dk_180 1 96 (dk_at dksX5_name_1 21 rfl rfl)
theorem dX5_name_47 : decode cX5_name 47 = .ok (.iload_n 1, 1) := dk_27 (dk_at dksX5_name_2 0 rfl rfl)
theorem dX5_name_48 : decode cX5_name 48 = .ok (.iastore, 1) := dk_79 (dk_at dksX5_name_2 1 rfl rfl)
theorem dX5_name_49 : decode cX5_name 49 = .ok (.aload_n 0, 1) := dk_42 (dk_at dksX5_name_2 2 rfl rfl)
theorem dX5_name_50 : decode cX5_name 50 = .ok (.dup, 1) := dk_89 (dk_at dksX5_name_2 3 rfl rfl)
theorem dX5_name_51 : decode cX5_name 51 = .ok (.getfield 352, 3) := dk_180 1 96 (dk_at dksX5_name_2 4 rfl rfl)
theorem dX5_name_54 : decode cX5_name 54 = .ok (.iconst 1, 1) := dk_4 (dk_at dksX5_name_2 7 rfl rfl)
theorem dX5_name_55 : decode cX5_name 55 = .ok (.iadd, 1) := dk_96 (dk_at dksX5_name_2 8 rfl rfl)
theorem dX5_name_56 : decode cX5_name 56 = .ok (.putfield 352, 3) := dk_181 1 96 (dk_at dksX5_name_2 9 rfl rfl)
theorem dX5_name_59 : decode cX5_name 59 = .ok (.aload_n 0, 1) := dk_42 (dk_at dksX5_name_2 12 rfl rfl)
theorem dX5_name_60 : decode cX5_name 60 = .ok (.getfield 352, 3) := dk_180 1 96 (dk_at dksX5_name_2 13 rfl rfl)
theorem dX5_name_63 : decode cX5_name 63 = .ok (.ireturn, 1) := dk_172 (dk_at dksX5_name_2 16 rfl rfl)
def dkwX5_isVariable_0 : List UInt8 := [27, 3, 42, 180, 0, 177, 4, 100, 184, 0, 180, 172]
abbrev dktX5_isVariable_0 : List UInt8 := dkwX5_isVariable_0 ++ []
theorem dksX5_isVariable_0 : cX5_isVariable.data.toList.drop 0 = dktX5_isVariable_0 := by decide +kernel
theorem dX5_isVariable_0 : decode cX5_isVariable 0 = .ok (.iload_n 1, 1) := dk_27 (dk_at dksX5_isVariable_0 0 rfl rfl)
theorem dX5_isVariable_1 : decode cX5_isVariable 1 = .ok (.iconst 0, 1) := dk_3 (dk_at dksX5_isVariable_0 1 rfl rfl)
theorem dX5_isVariable_2 : decode cX5_isVariable 2 = .ok (.aload_n 0, 1) := dk_42 (dk_at dksX5_isVariable_0 2 rfl rfl)
theorem dX5_isVariable_3 : decode cX5_isVariable 3 = .ok (.getfield 177, 3) := dk_180 0 177 (dk_at dksX5_isVariable_0 3 rfl rfl)
theorem dX5_isVariable_6 : decode cX5_isVariable 6 = .ok (.iconst 1, 1) := dk_4 (dk_at dksX5_isVariable_0 6 rfl rfl)
theorem dX5_isVariable_7 : decode cX5_isVariable 7 = .ok (.isub, 1) := dk_100 (dk_at dksX5_isVariable_0 7 rfl rfl)
theorem dX5_isVariable_8 : decode cX5_isVariable 8 = .ok (.invokestatic 180, 3) := dk_184 0 180 (dk_at dksX5_isVariable_0 8 rfl rfl)
theorem dX5_isVariable_11 : decode cX5_isVariable 11 = .ok (.ireturn, 1) := dk_172 (dk_at dksX5_isVariable_0 11 rfl rfl)
def dkwX5_number_2 : List UInt8 := [42, 180, 1, 99, 27, 79, 42, 89, 180, 1, 99, 4, 96, 181, 1, 99, 42, 180, 1, 99, 172]
abbrev dktX5_number_2 : List UInt8 := dkwX5_number_2 ++ []
def dkwX5_number_1 : List UInt8 := [160, 0, 7, 5, 167, 0, 4, 3, 181, 0, 174, 42, 180, 0, 174, 158, 0, 5, 3, 172, 42, 180, 0, 25]
abbrev dktX5_number_1 : List UInt8 := dkwX5_number_1 ++ dktX5_number_2
def dkwX5_number_0 : List UInt8 := [42, 27, 16, 247, 16, 9, 184, 0, 180, 154, 0, 7, 4, 167, 0, 17, 42, 180, 1, 99, 16, 6]
abbrev dktX5_number_0 : List UInt8 := dkwX5_number_0 ++ dktX5_number_1
theorem dksX5_number_0 : cX5_number.data.toList.drop 0 = dktX5_number_0 := by decide +kernel
theorem dksX5_number_1 : cX5_number.data.toList.drop 22 = dktX5_number_1 := dk_seg dksX5_number_0 22 rfl rfl
theorem dksX5_number_2 : cX5_number.data.toList.drop 46 = dktX5_number_2 := dk_seg dksX5_number_1 24 rfl rfl
theorem dX5_number_0 : decode cX5_number 0 = .ok (.aload_n 0, 1) := dk_42 (dk_at dksX5_number_0 0 rfl rfl)
theorem dX5_number_1 : decode cX5_number 1 = .ok (.iload_n 1, 1) := dk_27 (dk_at dksX5_number_0 1 rfl rfl)
theorem dX5_number_2 : decode cX5_number 2 = .ok (.bipush (-9), 2) := dk_16 247 (dk_at dksX5_number_0 2 rfl rfl)
theorem dX5_number_4 : decode cX5_number 4 = .ok (.bipush 9, 2) := dk_16 9 (dk_at dksX5_number_0 4 rfl rfl)
theorem dX5_number_6 : decode cX5_number 6 = .ok (.invokestatic 180, 3) := dk_184 0 180 (dk_at dksX5_number_0 6 rfl rfl)
theorem dX5_number_9 : decode cX5_number 9 = .ok (.ifCond .ne 7, 3) := dk_154 0 7 (dk_at dksX5_number_0 9 rfl rfl)
theorem dX5_number_12 : decode cX5_number 12 = .ok (.iconst 1, 1) := dk_4 (dk_at dksX5_number_0 12 rfl rfl)
theorem dX5_number_13 : decode cX5_number 13 = .ok (.goto 17, 3) := dk_167 0 17 (dk_at dksX5_number_0 13 rfl rfl)
theorem dX5_number_16 : decode cX5_number 16 = .ok (.aload_n 0, 1) := dk_42 (dk_at dksX5_number_0 16 rfl rfl)
theorem dX5_number_17 : decode cX5_number 17 = .ok (.getfield 355, 3) := dk_180 1 99 (dk_at dksX5_number_0 17 rfl rfl)
theorem dX5_number_20 : decode cX5_number 20 = .ok (.bipush 6, 2) := dk_16 6 (dk_at dksX5_number_0 20 rfl rfl)
theorem dX5_number_22 : decode cX5_number 22 = .ok (.if_icmp .ne 7, 3) := dk_160 0 7 (dk_at dksX5_number_1 0 rfl rfl)
theorem dX5_number_25 : decode cX5_number 25 = .ok (.iconst 2, 1) := dk_5 (dk_at dksX5_number_1 3 rfl rfl)
theorem dX5_number_26 : decode cX5_number 26 = .ok (.goto 4, 3) := dk_167 0 4 (dk_at dksX5_number_1 4 rfl rfl)
theorem dX5_number_29 : decode cX5_number 29 = .ok (.iconst 0, 1) := dk_3 (dk_at dksX5_number_1 7 rfl rfl)
theorem dX5_number_30 : decode cX5_number 30 = .ok (.putfield 174, 3) := dk_181 0 174 (dk_at dksX5_number_1 8 rfl rfl)
theorem dX5_number_33 : decode cX5_number 33 = .ok (.aload_n 0, 1) := dk_42 (dk_at dksX5_number_1 11 rfl rfl)
theorem dX5_number_34 : decode cX5_number 34 = .ok (.getfield 174, 3) := dk_180 0 174 (dk_at dksX5_number_1 12 rfl rfl)
theorem dX5_number_37 : decode cX5_number 37 = .ok (.ifCond .le 5, 3) := dk_158 0 5 (dk_at dksX5_number_1 15 rfl rfl)
theorem dX5_number_40 : decode cX5_number 40 = .ok (.iconst 0, 1) := dk_3 (dk_at dksX5_number_1 18 rfl rfl)
theorem dX5_number_41 : decode cX5_number 41 = .ok (.ireturn, 1) := dk_172 (dk_at dksX5_number_1 19 rfl rfl)
theorem dX5_number_42 : decode cX5_number 42 = .ok (.aload_n 0, 1) := dk_42 (dk_at dksX5_number_1 20 rfl rfl)
theorem dX5_number_43 : decode cX5_number 43 = .ok (.getfield 25, 3) := dk_180 0 25 (dk_at dksX5_number_1 21 rfl rfl)
theorem dX5_number_46 : decode cX5_number 46 = .ok (.aload_n 0, 1) := dk_42 (dk_at dksX5_number_2 0 rfl rfl)
theorem dX5_number_47 : decode cX5_number 47 = .ok (.getfield 355, 3) := dk_180 1 99 (dk_at dksX5_number_2 1 rfl rfl)
theorem dX5_number_50 : decode cX5_number 50 = .ok (.iload_n 1, 1) := dk_27 (dk_at dksX5_number_2 4 rfl rfl)
theorem dX5_number_51 : decode cX5_number 51 = .ok (.iastore, 1) := dk_79 (dk_at dksX5_number_2 5 rfl rfl)
theorem dX5_number_52 : decode cX5_number 52 = .ok (.aload_n 0, 1) := dk_42 (dk_at dksX5_number_2 6 rfl rfl)
theorem dX5_number_53 : decode cX5_number 53 = .ok (.dup, 1) := dk_89 (dk_at dksX5_number_2 7 rfl rfl)
theorem dX5_number_54 : decode cX5_number 54 = .ok (.getfield 355, 3) := dk_180 1 99 (dk_at dksX5_number_2 8 rfl rfl)
theorem dX5_number_57 : decode cX5_number 57 = .ok (.iconst 1, 1) := dk_4 (dk_at dksX5_number_2 11 rfl rfl)
theorem dX5_number_58 : decode cX5_number 58 = .ok (.iadd, 1) := dk_96 (dk_at dksX5_number_2 12 rfl rfl)
theorem dX5_number_59 : decode cX5_number 59 = .ok (.putfield 355, 3) := dk_181 1 99 (dk_at dksX5_number_2 13 rfl rfl)
theorem dX5_number_62 : decode cX5_number 62 = .ok (.aload_n 0, 1) := dk_42 (dk_at dksX5_number_2 16 rfl rfl)
theorem dX5_number_63 : decode cX5_number 63 = .ok (.getfield 355, 3) := dk_180 1 99 (dk_at dksX5_number_2 17 rfl rfl)
theorem dX5_number_66 : decode cX5_number 66 = .ok (.ireturn, 1) := dk_172 (dk_at dksX5_number_2 20 rfl rfl)
def dkwX5_move_4 : List UInt8 := [5, 96, 29, 79, 42, 89, 180, 1, 102, 4, 96, 181, 1, 102, 42, 180, 1, 102, 172]
abbrev dktX5_move_4 : List UInt8 := dkwX5_move_4 ++ []
def dkwX5_move_3 : List UInt8 := [42, 180, 0, 28, 6, 42, 180, 1, 102, 104, 4, 96, 28, 79, 42, 180, 0, 28, 6, 42, 180, 1, 102, 104]
abbrev dktX5_move_3 : List UInt8 := dkwX5_move_3 ++ dktX5_move_4
def dkwX5_move_2 : List UInt8 := [181, 0, 174, 42, 180, 0, 174, 158, 0, 5, 3, 172, 42, 180, 0, 28, 6, 42, 180, 1, 102, 104, 27, 79]
abbrev dktX5_move_2 : List UInt8 := dkwX5_move_2 ++ dktX5_move_3
def dkwX5_move_1 : List UInt8 := [184, 0, 180, 154, 0, 7, 4, 167, 0, 17, 42, 180, 1, 102, 16, 16, 160, 0, 7, 5, 167, 0, 4, 3]
abbrev dktX5_move_1 : List UInt8 := dkwX5_move_1 ++ dktX5_move_2
def dkwX5_move_0 : List UInt8 := [42, 27, 3, 8, 184, 0, 180, 153, 0, 22, 28, 3, 16, 15, 184, 0, 180, 153, 0, 12, 29, 3, 8]
abbrev dktX5_move_0 : List UInt8 := dkwX5_move_0 ++ dktX5_move_1
theorem dksX5_move_0 : cX5_move.data.toList.drop 0 = dktX5_move_0 := by decide +kernel
theorem dksX5_move_1 : cX5_move.data.toList.drop 23 = dktX5_move_1 := dk_seg dksX5_move_0 23 rfl rfl
theorem dksX5_move_2 : cX5_move.data.toList.drop 47 = dktX5_move_2 := dk_seg dksX5_move_1 24 rfl rfl
theorem dksX5_move_3 : cX5_move.data.toList.drop 71 = dktX5_move_3 := dk_seg dksX5_move_2 24 rfl rfl
theorem dksX5_move_4 : cX5_move.data.toList.drop 95 = dktX5_move_4 := dk_seg dksX5_move_3 24 rfl rfl
theorem dX5_move_0 : decode cX5_move 0 = .ok (.aload_n 0, 1) := dk_42 (dk_at dksX5_move_0 0 rfl rfl)
theorem dX5_move_1 : decode cX5_move 1 = .ok (.iload_n 1, 1) := dk_27 (dk_at dksX5_move_0 1 rfl rfl)
theorem dX5_move_2 : decode cX5_move 2 = .ok (.iconst 0, 1) := dk_3 (dk_at dksX5_move_0 2 rfl rfl)
theorem dX5_move_3 : decode cX5_move 3 = .ok (.iconst 5, 1) := dk_8 (dk_at dksX5_move_0 3 rfl rfl)
theorem dX5_move_4 : decode cX5_move 4 = .ok (.invokestatic 180, 3) := dk_184 0 180 (dk_at dksX5_move_0 4 rfl rfl)
theorem dX5_move_7 : decode cX5_move 7 = .ok (.ifCond .eq 22, 3) := dk_153 0 22 (dk_at dksX5_move_0 7 rfl rfl)
theorem dX5_move_10 : decode cX5_move 10 = .ok (.iload_n 2, 1) := dk_28 (dk_at dksX5_move_0 10 rfl rfl)
theorem dX5_move_11 : decode cX5_move 11 = .ok (.iconst 0, 1) := dk_3 (dk_at dksX5_move_0 11 rfl rfl)
theorem dX5_move_12 : decode cX5_move 12 = .ok (.bipush 15, 2) := dk_16 15 (dk_at dksX5_move_0 12 rfl rfl)
theorem dX5_move_14 : decode cX5_move 14 = .ok (.invokestatic 180, 3) := dk_184 0 180 (dk_at dksX5_move_0 14 rfl rfl)
theorem dX5_move_17 : decode cX5_move 17 = .ok (.ifCond .eq 12, 3) := dk_153 0 12 (dk_at dksX5_move_0 17 rfl rfl)
theorem dX5_move_20 : decode cX5_move 20 = .ok (.iload_n 3, 1) := dk_29 (dk_at dksX5_move_0 20 rfl rfl)
theorem dX5_move_21 : decode cX5_move 21 = .ok (.iconst 0, 1) := dk_3 (dk_at dksX5_move_0 21 rfl rfl)
theorem dX5_move_22 : decode cX5_move 22 = .ok (.iconst 5, 1) := dk_8 (dk_at dksX5_move_0 22 rfl rfl)
theorem dX5_move_23 : decode cX5_move 23 = .ok (.invokestatic 180, 3) := dk_184 0 180 (dk_at dksX5_move_1 0 rfl rfl)
theorem dX5_move_26 : decode cX5_move 26 = .ok (.ifCond .ne 7, 3) := dk_154 0 7 (dk_at dksX5_move_1 3 rfl rfl)
theorem dX5_move_29 : decode cX5_move 29 = .ok (.iconst 1, 1) := dk_4 (dk_at dksX5_move_1 6 rfl rfl)
theorem dX5_move_30 : decode cX5_move 30 = .ok (.goto 17, 3) := dk_167 0 17 (dk_at dksX5_move_1 7 rfl rfl)
theorem dX5_move_33 : decode cX5_move 33 = .ok (.aload_n 0, 1) := dk_42 (dk_at dksX5_move_1 10 rfl rfl)
theorem dX5_move_34 : decode cX5_move 34 = .ok (.getfield 358, 3) := dk_180 1 102 (dk_at dksX5_move_1 11 rfl rfl)
theorem dX5_move_37 : decode cX5_move 37 = .ok (.bipush 16, 2) := dk_16 16 (dk_at dksX5_move_1 14 rfl rfl)
theorem dX5_move_39 : decode cX5_move 39 = .ok (.if_icmp .ne 7, 3) := dk_160 0 7 (dk_at dksX5_move_1 16 rfl rfl)
theorem dX5_move_42 : decode cX5_move 42 = .ok (.iconst 2, 1) := dk_5 (dk_at dksX5_move_1 19 rfl rfl)
theorem dX5_move_43 : decode cX5_move 43 = .ok (.goto 4, 3) := dk_167 0 4 (dk_at dksX5_move_1 20 rfl rfl)
theorem dX5_move_46 : decode cX5_move 46 = .ok (.iconst 0, 1) := dk_3 (dk_at dksX5_move_1 23 rfl rfl)
theorem dX5_move_47 : decode cX5_move 47 = .ok (.putfield 174, 3) := dk_181 0 174 (dk_at dksX5_move_2 0 rfl rfl)
theorem dX5_move_50 : decode cX5_move 50 = .ok (.aload_n 0, 1) := dk_42 (dk_at dksX5_move_2 3 rfl rfl)
theorem dX5_move_51 : decode cX5_move 51 = .ok (.getfield 174, 3) := dk_180 0 174 (dk_at dksX5_move_2 4 rfl rfl)
theorem dX5_move_54 : decode cX5_move 54 = .ok (.ifCond .le 5, 3) := dk_158 0 5 (dk_at dksX5_move_2 7 rfl rfl)
theorem dX5_move_57 : decode cX5_move 57 = .ok (.iconst 0, 1) := dk_3 (dk_at dksX5_move_2 10 rfl rfl)
theorem dX5_move_58 : decode cX5_move 58 = .ok (.ireturn, 1) := dk_172 (dk_at dksX5_move_2 11 rfl rfl)
theorem dX5_move_59 : decode cX5_move 59 = .ok (.aload_n 0, 1) := dk_42 (dk_at dksX5_move_2 12 rfl rfl)
theorem dX5_move_60 : decode cX5_move 60 = .ok (.getfield 28, 3) := dk_180 0 28 (dk_at dksX5_move_2 13 rfl rfl)
theorem dX5_move_63 : decode cX5_move 63 = .ok (.iconst 3, 1) := dk_6 (dk_at dksX5_move_2 16 rfl rfl)
theorem dX5_move_64 : decode cX5_move 64 = .ok (.aload_n 0, 1) := dk_42 (dk_at dksX5_move_2 17 rfl rfl)
theorem dX5_move_65 : decode cX5_move 65 = .ok (.getfield 358, 3) := dk_180 1 102 (dk_at dksX5_move_2 18 rfl rfl)
theorem dX5_move_68 : decode cX5_move 68 = .ok (.imul, 1) := dk_104 (dk_at dksX5_move_2 21 rfl rfl)
theorem dX5_move_69 : decode cX5_move 69 = .ok (.iload_n 1, 1) := dk_27 (dk_at dksX5_move_2 22 rfl rfl)
theorem dX5_move_70 : decode cX5_move 70 = .ok (.iastore, 1) := dk_79 (dk_at dksX5_move_2 23 rfl rfl)
theorem dX5_move_71 : decode cX5_move 71 = .ok (.aload_n 0, 1) := dk_42 (dk_at dksX5_move_3 0 rfl rfl)
theorem dX5_move_72 : decode cX5_move 72 = .ok (.getfield 28, 3) := dk_180 0 28 (dk_at dksX5_move_3 1 rfl rfl)
theorem dX5_move_75 : decode cX5_move 75 = .ok (.iconst 3, 1) := dk_6 (dk_at dksX5_move_3 4 rfl rfl)
theorem dX5_move_76 : decode cX5_move 76 = .ok (.aload_n 0, 1) := dk_42 (dk_at dksX5_move_3 5 rfl rfl)
theorem dX5_move_77 : decode cX5_move 77 = .ok (.getfield 358, 3) := dk_180 1 102 (dk_at dksX5_move_3 6 rfl rfl)
theorem dX5_move_80 : decode cX5_move 80 = .ok (.imul, 1) := dk_104 (dk_at dksX5_move_3 9 rfl rfl)
theorem dX5_move_81 : decode cX5_move 81 = .ok (.iconst 1, 1) := dk_4 (dk_at dksX5_move_3 10 rfl rfl)
theorem dX5_move_82 : decode cX5_move 82 = .ok (.iadd, 1) := dk_96 (dk_at dksX5_move_3 11 rfl rfl)
theorem dX5_move_83 : decode cX5_move 83 = .ok (.iload_n 2, 1) := dk_28 (dk_at dksX5_move_3 12 rfl rfl)
theorem dX5_move_84 : decode cX5_move 84 = .ok (.iastore, 1) := dk_79 (dk_at dksX5_move_3 13 rfl rfl)
theorem dX5_move_85 : decode cX5_move 85 = .ok (.aload_n 0, 1) := dk_42 (dk_at dksX5_move_3 14 rfl rfl)
theorem dX5_move_86 : decode cX5_move 86 = .ok (.getfield 28, 3) := dk_180 0 28 (dk_at dksX5_move_3 15 rfl rfl)
theorem dX5_move_89 : decode cX5_move 89 = .ok (.iconst 3, 1) := dk_6 (dk_at dksX5_move_3 18 rfl rfl)
theorem dX5_move_90 : decode cX5_move 90 = .ok (.aload_n 0, 1) := dk_42 (dk_at dksX5_move_3 19 rfl rfl)
theorem dX5_move_91 : decode cX5_move 91 = .ok (.getfield 358, 3) := dk_180 1 102 (dk_at dksX5_move_3 20 rfl rfl)
theorem dX5_move_94 : decode cX5_move 94 = .ok (.imul, 1) := dk_104 (dk_at dksX5_move_3 23 rfl rfl)
theorem dX5_move_95 : decode cX5_move 95 = .ok (.iconst 2, 1) := dk_5 (dk_at dksX5_move_4 0 rfl rfl)
theorem dX5_move_96 : decode cX5_move 96 = .ok (.iadd, 1) := dk_96 (dk_at dksX5_move_4 1 rfl rfl)
theorem dX5_move_97 : decode cX5_move 97 = .ok (.iload_n 3, 1) := dk_29 (dk_at dksX5_move_4 2 rfl rfl)
theorem dX5_move_98 : decode cX5_move 98 = .ok (.iastore, 1) := dk_79 (dk_at dksX5_move_4 3 rfl rfl)
theorem dX5_move_99 : decode cX5_move 99 = .ok (.aload_n 0, 1) := dk_42 (dk_at dksX5_move_4 4 rfl rfl)
theorem dX5_move_100 : decode cX5_move 100 = .ok (.dup, 1) := dk_89 (dk_at dksX5_move_4 5 rfl rfl)
theorem dX5_move_101 : decode cX5_move 101 = .ok (.getfield 358, 3) := dk_180 1 102 (dk_at dksX5_move_4 6 rfl rfl)
theorem dX5_move_104 : decode cX5_move 104 = .ok (.iconst 1, 1) := dk_4 (dk_at dksX5_move_4 9 rfl rfl)
theorem dX5_move_105 : decode cX5_move 105 = .ok (.iadd, 1) := dk_96 (dk_at dksX5_move_4 10 rfl rfl)
theorem dX5_move_106 : decode cX5_move 106 = .ok (.putfield 358, 3) := dk_181 1 102 (dk_at dksX5_move_4 11 rfl rfl)
theorem dX5_move_109 : decode cX5_move 109 = .ok (.aload_n 0, 1) := dk_42 (dk_at dksX5_move_4 14 rfl rfl)
theorem dX5_move_110 : decode cX5_move 110 = .ok (.getfield 358, 3) := dk_180 1 102 (dk_at dksX5_move_4 15 rfl rfl)
theorem dX5_move_113 : decode cX5_move 113 = .ok (.ireturn, 1) := dk_172 (dk_at dksX5_move_4 18 rfl rfl)
def dkwX5_literal_4 : List UInt8 := [180, 1, 111, 172]
abbrev dktX5_literal_4 : List UInt8 := dkwX5_literal_4 ++ []
def dkwX5_literal_3 : List UInt8 := [79, 42, 180, 0, 37, 42, 180, 1, 111, 29, 84, 42, 89, 180, 1, 111, 4, 96, 181, 1, 111, 42]
abbrev dktX5_literal_3 : List UInt8 := dkwX5_literal_3 ++ dktX5_literal_4
def dkwX5_literal_2 : List UInt8 := [158, 0, 5, 3, 172, 42, 180, 0, 31, 42, 180, 1, 111, 27, 79, 42, 180, 0, 34, 42, 180, 1, 111, 28]
abbrev dktX5_literal_2 : List UInt8 := dkwX5_literal_2 ++ dktX5_literal_3
def dkwX5_literal_1 : List UInt8 := [167, 0, 17, 42, 180, 1, 111, 16, 6, 160, 0, 7, 6, 167, 0, 4, 3, 181, 0, 174, 42, 180, 0, 174]
abbrev dktX5_literal_1 : List UInt8 := dkwX5_literal_1 ++ dktX5_literal_2
def dkwX5_literal_0 : List UInt8 := [42, 42, 27, 182, 1, 93, 154, 0, 7, 4, 167, 0, 30, 42, 27, 28, 182, 1, 108, 154, 0, 7, 5]
abbrev dktX5_literal_0 : List UInt8 := dkwX5_literal_0 ++ dktX5_literal_1
theorem dksX5_literal_0 : cX5_literal.data.toList.drop 0 = dktX5_literal_0 := by decide +kernel
theorem dksX5_literal_1 : cX5_literal.data.toList.drop 23 = dktX5_literal_1 := dk_seg dksX5_literal_0 23 rfl rfl
theorem dksX5_literal_2 : cX5_literal.data.toList.drop 47 = dktX5_literal_2 := dk_seg dksX5_literal_1 24 rfl rfl
theorem dksX5_literal_3 : cX5_literal.data.toList.drop 71 = dktX5_literal_3 := dk_seg dksX5_literal_2 24 rfl rfl
theorem dksX5_literal_4 : cX5_literal.data.toList.drop 93 = dktX5_literal_4 := dk_seg dksX5_literal_3 22 rfl rfl
theorem dX5_literal_0 : decode cX5_literal 0 = .ok (.aload_n 0, 1) := dk_42 (dk_at dksX5_literal_0 0 rfl rfl)
theorem dX5_literal_1 : decode cX5_literal 1 = .ok (.aload_n 0, 1) := dk_42 (dk_at dksX5_literal_0 1 rfl rfl)
theorem dX5_literal_2 : decode cX5_literal 2 = .ok (.iload_n 1, 1) := dk_27 (dk_at dksX5_literal_0 2 rfl rfl)
theorem dX5_literal_3 : decode cX5_literal 3 = .ok (.invokevirtual 349, 3) := dk_182 1 93 (dk_at dksX5_literal_0 3 rfl rfl)
theorem dX5_literal_6 : decode cX5_literal 6 = .ok (.ifCond .ne 7, 3) := dk_154 0 7 (dk_at dksX5_literal_0 6 rfl rfl)
theorem dX5_literal_9 : decode cX5_literal 9 = .ok (.iconst 1, 1) := dk_4 (dk_at dksX5_literal_0 9 rfl rfl)
theorem dX5_literal_10 : decode cX5_literal 10 = .ok (.goto 30, 3) := dk_167 0 30 (dk_at dksX5_literal_0 10 rfl rfl)
theorem dX5_literal_13 : decode cX5_literal 13 = .ok (.aload_n 0, 1) := dk_42 (dk_at dksX5_literal_0 13 rfl rfl)
theorem dX5_literal_14 : decode cX5_literal 14 = .ok (.iload_n 1, 1) := dk_27 (dk_at dksX5_literal_0 14 rfl rfl)
theorem dX5_literal_15 : decode cX5_literal 15 = .ok (.iload_n 2, 1) := dk_28 (dk_at dksX5_literal_0 15 rfl rfl)
theorem dX5_literal_16 : decode cX5_literal 16 = .ok (.invokevirtual 364, 3) := dk_182 1 108 (dk_at dksX5_literal_0 16 rfl rfl)
theorem dX5_literal_19 : decode cX5_literal 19 = .ok (.ifCond .ne 7, 3) := dk_154 0 7 (dk_at dksX5_literal_0 19 rfl rfl)
theorem dX5_literal_22 : decode cX5_literal 22 = .ok (.iconst 2, 1) := dk_5 (dk_at dksX5_literal_0 22 rfl rfl)
theorem dX5_literal_23 : decode cX5_literal 23 = .ok (.goto 17, 3) := dk_167 0 17 (dk_at dksX5_literal_1 0 rfl rfl)
theorem dX5_literal_26 : decode cX5_literal 26 = .ok (.aload_n 0, 1) := dk_42 (dk_at dksX5_literal_1 3 rfl rfl)
theorem dX5_literal_27 : decode cX5_literal 27 = .ok (.getfield 367, 3) := dk_180 1 111 (dk_at dksX5_literal_1 4 rfl rfl)
theorem dX5_literal_30 : decode cX5_literal 30 = .ok (.bipush 6, 2) := dk_16 6 (dk_at dksX5_literal_1 7 rfl rfl)
theorem dX5_literal_32 : decode cX5_literal 32 = .ok (.if_icmp .ne 7, 3) := dk_160 0 7 (dk_at dksX5_literal_1 9 rfl rfl)
theorem dX5_literal_35 : decode cX5_literal 35 = .ok (.iconst 3, 1) := dk_6 (dk_at dksX5_literal_1 12 rfl rfl)
theorem dX5_literal_36 : decode cX5_literal 36 = .ok (.goto 4, 3) := dk_167 0 4 (dk_at dksX5_literal_1 13 rfl rfl)
theorem dX5_literal_39 : decode cX5_literal 39 = .ok (.iconst 0, 1) := dk_3 (dk_at dksX5_literal_1 16 rfl rfl)
theorem dX5_literal_40 : decode cX5_literal 40 = .ok (.putfield 174, 3) := dk_181 0 174 (dk_at dksX5_literal_1 17 rfl rfl)
theorem dX5_literal_43 : decode cX5_literal 43 = .ok (.aload_n 0, 1) := dk_42 (dk_at dksX5_literal_1 20 rfl rfl)
theorem dX5_literal_44 : decode cX5_literal 44 = .ok (.getfield 174, 3) := dk_180 0 174 (dk_at dksX5_literal_1 21 rfl rfl)
theorem dX5_literal_47 : decode cX5_literal 47 = .ok (.ifCond .le 5, 3) := dk_158 0 5 (dk_at dksX5_literal_2 0 rfl rfl)
theorem dX5_literal_50 : decode cX5_literal 50 = .ok (.iconst 0, 1) := dk_3 (dk_at dksX5_literal_2 3 rfl rfl)
theorem dX5_literal_51 : decode cX5_literal 51 = .ok (.ireturn, 1) := dk_172 (dk_at dksX5_literal_2 4 rfl rfl)
theorem dX5_literal_52 : decode cX5_literal 52 = .ok (.aload_n 0, 1) := dk_42 (dk_at dksX5_literal_2 5 rfl rfl)
theorem dX5_literal_53 : decode cX5_literal 53 = .ok (.getfield 31, 3) := dk_180 0 31 (dk_at dksX5_literal_2 6 rfl rfl)
theorem dX5_literal_56 : decode cX5_literal 56 = .ok (.aload_n 0, 1) := dk_42 (dk_at dksX5_literal_2 9 rfl rfl)
theorem dX5_literal_57 : decode cX5_literal 57 = .ok (.getfield 367, 3) := dk_180 1 111 (dk_at dksX5_literal_2 10 rfl rfl)
theorem dX5_literal_60 : decode cX5_literal 60 = .ok (.iload_n 1, 1) := dk_27 (dk_at dksX5_literal_2 13 rfl rfl)
theorem dX5_literal_61 : decode cX5_literal 61 = .ok (.iastore, 1) := dk_79 (dk_at dksX5_literal_2 14 rfl rfl)
theorem dX5_literal_62 : decode cX5_literal 62 = .ok (.aload_n 0, 1) := dk_42 (dk_at dksX5_literal_2 15 rfl rfl)
theorem dX5_literal_63 : decode cX5_literal 63 = .ok (.getfield 34, 3) := dk_180 0 34 (dk_at dksX5_literal_2 16 rfl rfl)
theorem dX5_literal_66 : decode cX5_literal 66 = .ok (.aload_n 0, 1) := dk_42 (dk_at dksX5_literal_2 19 rfl rfl)
theorem dX5_literal_67 : decode cX5_literal 67 = .ok (.getfield 367, 3) := dk_180 1 111 (dk_at dksX5_literal_2 20 rfl rfl)
theorem dX5_literal_70 : decode cX5_literal 70 = .ok (.iload_n 2, 1) := dk_28 (dk_at dksX5_literal_2 23 rfl rfl)
theorem dX5_literal_71 : decode cX5_literal 71 = .ok (.iastore, 1) := dk_79 (dk_at dksX5_literal_3 0 rfl rfl)
theorem dX5_literal_72 : decode cX5_literal 72 = .ok (.aload_n 0, 1) := dk_42 (dk_at dksX5_literal_3 1 rfl rfl)
theorem dX5_literal_73 : decode cX5_literal 73 = .ok (.getfield 37, 3) := dk_180 0 37 (dk_at dksX5_literal_3 2 rfl rfl)
theorem dX5_literal_76 : decode cX5_literal 76 = .ok (.aload_n 0, 1) := dk_42 (dk_at dksX5_literal_3 5 rfl rfl)
theorem dX5_literal_77 : decode cX5_literal 77 = .ok (.getfield 367, 3) := dk_180 1 111 (dk_at dksX5_literal_3 6 rfl rfl)
theorem dX5_literal_80 : decode cX5_literal 80 = .ok (.iload_n 3, 1) := dk_29 (dk_at dksX5_literal_3 9 rfl rfl)
theorem dX5_literal_81 : decode cX5_literal 81 = .ok (.bastore, 1) := dk_84 (dk_at dksX5_literal_3 10 rfl rfl)
theorem dX5_literal_82 : decode cX5_literal 82 = .ok (.aload_n 0, 1) := dk_42 (dk_at dksX5_literal_3 11 rfl rfl)
theorem dX5_literal_83 : decode cX5_literal 83 = .ok (.dup, 1) := dk_89 (dk_at dksX5_literal_3 12 rfl rfl)
theorem dX5_literal_84 : decode cX5_literal 84 = .ok (.getfield 367, 3) := dk_180 1 111 (dk_at dksX5_literal_3 13 rfl rfl)
theorem dX5_literal_87 : decode cX5_literal 87 = .ok (.iconst 1, 1) := dk_4 (dk_at dksX5_literal_3 16 rfl rfl)
theorem dX5_literal_88 : decode cX5_literal 88 = .ok (.iadd, 1) := dk_96 (dk_at dksX5_literal_3 17 rfl rfl)
theorem dX5_literal_89 : decode cX5_literal 89 = .ok (.putfield 367, 3) := dk_181 1 111 (dk_at dksX5_literal_3 18 rfl rfl)
theorem dX5_literal_92 : decode cX5_literal 92 = .ok (.aload_n 0, 1) := dk_42 (dk_at dksX5_literal_3 21 rfl rfl)
theorem dX5_literal_93 : decode cX5_literal 93 = .ok (.getfield 367, 3) := dk_180 1 111 (dk_at dksX5_literal_4 0 rfl rfl)
theorem dX5_literal_96 : decode cX5_literal 96 = .ok (.ireturn, 1) := dk_172 (dk_at dksX5_literal_4 3 rfl rfl)
def dkwX5_isValue_1 : List UInt8 := [184, 0, 180, 153, 0, 7, 4, 167, 0, 4, 3, 172]
abbrev dktX5_isValue_1 : List UInt8 := dkwX5_isValue_1 ++ []
def dkwX5_isValue_0 : List UInt8 := [42, 180, 0, 7, 27, 46, 6, 162, 0, 26, 28, 3, 42, 180, 0, 7, 27, 46, 184, 1, 105, 4, 100]
abbrev dktX5_isValue_0 : List UInt8 := dkwX5_isValue_0 ++ dktX5_isValue_1
theorem dksX5_isValue_0 : cX5_isValue.data.toList.drop 0 = dktX5_isValue_0 := by decide +kernel
theorem dksX5_isValue_1 : cX5_isValue.data.toList.drop 23 = dktX5_isValue_1 := dk_seg dksX5_isValue_0 23 rfl rfl
theorem dX5_isValue_0 : decode cX5_isValue 0 = .ok (.aload_n 0, 1) := dk_42 (dk_at dksX5_isValue_0 0 rfl rfl)
theorem dX5_isValue_1 : decode cX5_isValue 1 = .ok (.getfield 7, 3) := dk_180 0 7 (dk_at dksX5_isValue_0 1 rfl rfl)
theorem dX5_isValue_4 : decode cX5_isValue 4 = .ok (.iload_n 1, 1) := dk_27 (dk_at dksX5_isValue_0 4 rfl rfl)
theorem dX5_isValue_5 : decode cX5_isValue 5 = .ok (.iaload, 1) := dk_46 (dk_at dksX5_isValue_0 5 rfl rfl)
theorem dX5_isValue_6 : decode cX5_isValue 6 = .ok (.iconst 3, 1) := dk_6 (dk_at dksX5_isValue_0 6 rfl rfl)
theorem dX5_isValue_7 : decode cX5_isValue 7 = .ok (.if_icmp .ge 26, 3) := dk_162 0 26 (dk_at dksX5_isValue_0 7 rfl rfl)
theorem dX5_isValue_10 : decode cX5_isValue 10 = .ok (.iload_n 2, 1) := dk_28 (dk_at dksX5_isValue_0 10 rfl rfl)
theorem dX5_isValue_11 : decode cX5_isValue 11 = .ok (.iconst 0, 1) := dk_3 (dk_at dksX5_isValue_0 11 rfl rfl)
theorem dX5_isValue_12 : decode cX5_isValue 12 = .ok (.aload_n 0, 1) := dk_42 (dk_at dksX5_isValue_0 12 rfl rfl)
theorem dX5_isValue_13 : decode cX5_isValue 13 = .ok (.getfield 7, 3) := dk_180 0 7 (dk_at dksX5_isValue_0 13 rfl rfl)
theorem dX5_isValue_16 : decode cX5_isValue 16 = .ok (.iload_n 1, 1) := dk_27 (dk_at dksX5_isValue_0 16 rfl rfl)
theorem dX5_isValue_17 : decode cX5_isValue 17 = .ok (.iaload, 1) := dk_46 (dk_at dksX5_isValue_0 17 rfl rfl)
theorem dX5_isValue_18 : decode cX5_isValue 18 = .ok (.invokestatic 361, 3) := dk_184 1 105 (dk_at dksX5_isValue_0 18 rfl rfl)
theorem dX5_isValue_21 : decode cX5_isValue 21 = .ok (.iconst 1, 1) := dk_4 (dk_at dksX5_isValue_0 21 rfl rfl)
theorem dX5_isValue_22 : decode cX5_isValue 22 = .ok (.isub, 1) := dk_100 (dk_at dksX5_isValue_0 22 rfl rfl)
theorem dX5_isValue_23 : decode cX5_isValue 23 = .ok (.invokestatic 180, 3) := dk_184 0 180 (dk_at dksX5_isValue_1 0 rfl rfl)
theorem dX5_isValue_26 : decode cX5_isValue 26 = .ok (.ifCond .eq 7, 3) := dk_153 0 7 (dk_at dksX5_isValue_1 3 rfl rfl)
theorem dX5_isValue_29 : decode cX5_isValue 29 = .ok (.iconst 1, 1) := dk_4 (dk_at dksX5_isValue_1 6 rfl rfl)
theorem dX5_isValue_30 : decode cX5_isValue 30 = .ok (.goto 4, 3) := dk_167 0 4 (dk_at dksX5_isValue_1 7 rfl rfl)
theorem dX5_isValue_33 : decode cX5_isValue 33 = .ok (.iconst 0, 1) := dk_3 (dk_at dksX5_isValue_1 10 rfl rfl)
theorem dX5_isValue_34 : decode cX5_isValue 34 = .ok (.ireturn, 1) := dk_172 (dk_at dksX5_isValue_1 11 rfl rfl)
def dkwX5_values_0 : List UInt8 := [26, 154, 0, 8, 16, 16, 167, 0, 15, 26, 4, 160, 0, 8, 16, 32, 167, 0, 5, 16, 15, 172]
abbrev dktX5_values_0 : List UInt8 := dkwX5_values_0 ++ []
theorem dksX5_values_0 : cX5_values.data.toList.drop 0 = dktX5_values_0 := by decide +kernel
theorem dX5_values_0 : decode cX5_values 0 = .ok (.iload_n 0, 1) := dk_26 (dk_at dksX5_values_0 0 rfl rfl)
theorem dX5_values_1 : decode cX5_values 1 = .ok (.ifCond .ne 8, 3) := dk_154 0 8 (dk_at dksX5_values_0 1 rfl rfl)
theorem dX5_values_4 : decode cX5_values 4 = .ok (.bipush 16, 2) := dk_16 16 (dk_at dksX5_values_0 4 rfl rfl)
theorem dX5_values_6 : decode cX5_values 6 = .ok (.goto 15, 3) := dk_167 0 15 (dk_at dksX5_values_0 6 rfl rfl)
theorem dX5_values_9 : decode cX5_values 9 = .ok (.iload_n 0, 1) := dk_26 (dk_at dksX5_values_0 9 rfl rfl)
theorem dX5_values_10 : decode cX5_values 10 = .ok (.iconst 1, 1) := dk_4 (dk_at dksX5_values_0 10 rfl rfl)
theorem dX5_values_11 : decode cX5_values 11 = .ok (.if_icmp .ne 8, 3) := dk_160 0 8 (dk_at dksX5_values_0 11 rfl rfl)
theorem dX5_values_14 : decode cX5_values 14 = .ok (.bipush 32, 2) := dk_16 32 (dk_at dksX5_values_0 14 rfl rfl)
theorem dX5_values_16 : decode cX5_values 16 = .ok (.goto 5, 3) := dk_167 0 5 (dk_at dksX5_values_0 16 rfl rfl)
theorem dX5_values_19 : decode cX5_values 19 = .ok (.bipush 15, 2) := dk_16 15 (dk_at dksX5_values_0 19 rfl rfl)
theorem dX5_values_21 : decode cX5_values 21 = .ok (.ireturn, 1) := dk_172 (dk_at dksX5_values_0 21 rfl rfl)
def dkwX5_linear_7 : List UInt8 := [167, 0, 9, 42, 3, 29, 182, 1, 128, 172]
abbrev dktX5_linear_7 : List UInt8 := dkwX5_linear_7 ++ []
def dkwX5_linear_6 : List UInt8 := [42, 180, 1, 62, 28, 79, 42, 3, 181, 1, 96, 42, 3, 181, 1, 99, 42, 180, 0, 174, 158, 0, 7, 3]
abbrev dktX5_linear_6 : List UInt8 := dkwX5_linear_6 ++ dktX5_linear_7
def dkwX5_linear_5 : List UInt8 := [79, 132, 4, 1, 167, 255, 225, 42, 180, 0, 62, 16, 6, 42, 180, 1, 62, 104, 27, 84, 42, 180, 0, 53]
abbrev dktX5_linear_5 : List UInt8 := dkwX5_linear_5 ++ dktX5_linear_6
def dkwX5_linear_4 : List UInt8 := [162, 0, 31, 42, 180, 0, 50, 16, 6, 42, 180, 1, 62, 104, 21, 4, 96, 42, 180, 0, 25, 21, 4, 46]
abbrev dktX5_linear_4 : List UInt8 := dkwX5_linear_4 ++ dktX5_linear_5
def dkwX5_linear_3 : List UInt8 := [180, 1, 96, 62, 42, 180, 0, 174, 154, 0, 68, 42, 3, 182, 1, 125, 3, 54, 4, 21, 4, 29]
abbrev dktX5_linear_3 : List UInt8 := dkwX5_linear_3 ++ dktX5_linear_4
def dkwX5_linear_2 : List UInt8 := [180, 1, 99, 160, 0, 14, 42, 182, 1, 122, 153, 0, 7, 3, 167, 0, 4, 5, 181, 0, 174, 42]
abbrev dktX5_linear_2 : List UInt8 := dkwX5_linear_2 ++ dktX5_linear_3
def dkwX5_linear_1 : List UInt8 := [180, 0, 174, 158, 0, 5, 3, 172, 42, 42, 4, 182, 1, 118, 153, 0, 25, 42, 180, 1, 96, 42]
abbrev dktX5_linear_1 : List UInt8 := dkwX5_linear_1 ++ dktX5_linear_2
def dkwX5_linear_0 : List UInt8 := [42, 28, 17, 248, 48, 17, 7, 208, 184, 0, 180, 153, 0, 7, 3, 167, 0, 4, 4, 181, 0, 174, 42]
abbrev dktX5_linear_0 : List UInt8 := dkwX5_linear_0 ++ dktX5_linear_1
theorem dksX5_linear_0 : cX5_linear.data.toList.drop 0 = dktX5_linear_0 := by decide +kernel
theorem dksX5_linear_1 : cX5_linear.data.toList.drop 23 = dktX5_linear_1 := dk_seg dksX5_linear_0 23 rfl rfl
theorem dksX5_linear_2 : cX5_linear.data.toList.drop 45 = dktX5_linear_2 := dk_seg dksX5_linear_1 22 rfl rfl
theorem dksX5_linear_3 : cX5_linear.data.toList.drop 67 = dktX5_linear_3 := dk_seg dksX5_linear_2 22 rfl rfl
theorem dksX5_linear_4 : cX5_linear.data.toList.drop 89 = dktX5_linear_4 := dk_seg dksX5_linear_3 22 rfl rfl
theorem dksX5_linear_5 : cX5_linear.data.toList.drop 113 = dktX5_linear_5 := dk_seg dksX5_linear_4 24 rfl rfl
theorem dksX5_linear_6 : cX5_linear.data.toList.drop 137 = dktX5_linear_6 := dk_seg dksX5_linear_5 24 rfl rfl
theorem dksX5_linear_7 : cX5_linear.data.toList.drop 161 = dktX5_linear_7 := dk_seg dksX5_linear_6 24 rfl rfl
theorem dX5_linear_0 : decode cX5_linear 0 = .ok (.aload_n 0, 1) := dk_42 (dk_at dksX5_linear_0 0 rfl rfl)
theorem dX5_linear_1 : decode cX5_linear 1 = .ok (.iload_n 2, 1) := dk_28 (dk_at dksX5_linear_0 1 rfl rfl)
theorem dX5_linear_2 : decode cX5_linear 2 = .ok (.sipush (-2000), 3) := dk_17 248 48 (dk_at dksX5_linear_0 2 rfl rfl)
theorem dX5_linear_5 : decode cX5_linear 5 = .ok (.sipush 2000, 3) := dk_17 7 208 (dk_at dksX5_linear_0 5 rfl rfl)
theorem dX5_linear_8 : decode cX5_linear 8 = .ok (.invokestatic 180, 3) := dk_184 0 180 (dk_at dksX5_linear_0 8 rfl rfl)
theorem dX5_linear_11 : decode cX5_linear 11 = .ok (.ifCond .eq 7, 3) := dk_153 0 7 (dk_at dksX5_linear_0 11 rfl rfl)
theorem dX5_linear_14 : decode cX5_linear 14 = .ok (.iconst 0, 1) := dk_3 (dk_at dksX5_linear_0 14 rfl rfl)
theorem dX5_linear_15 : decode cX5_linear 15 = .ok (.goto 4, 3) := dk_167 0 4 (dk_at dksX5_linear_0 15 rfl rfl)
theorem dX5_linear_18 : decode cX5_linear 18 = .ok (.iconst 1, 1) := dk_4 (dk_at dksX5_linear_0 18 rfl rfl)
theorem dX5_linear_19 : decode cX5_linear 19 = .ok (.putfield 174, 3) := dk_181 0 174 (dk_at dksX5_linear_0 19 rfl rfl)
theorem dX5_linear_22 : decode cX5_linear 22 = .ok (.aload_n 0, 1) := dk_42 (dk_at dksX5_linear_0 22 rfl rfl)
theorem dX5_linear_23 : decode cX5_linear 23 = .ok (.getfield 174, 3) := dk_180 0 174 (dk_at dksX5_linear_1 0 rfl rfl)
theorem dX5_linear_26 : decode cX5_linear 26 = .ok (.ifCond .le 5, 3) := dk_158 0 5 (dk_at dksX5_linear_1 3 rfl rfl)
theorem dX5_linear_29 : decode cX5_linear 29 = .ok (.iconst 0, 1) := dk_3 (dk_at dksX5_linear_1 6 rfl rfl)
theorem dX5_linear_30 : decode cX5_linear 30 = .ok (.ireturn, 1) := dk_172 (dk_at dksX5_linear_1 7 rfl rfl)
theorem dX5_linear_31 : decode cX5_linear 31 = .ok (.aload_n 0, 1) := dk_42 (dk_at dksX5_linear_1 8 rfl rfl)
theorem dX5_linear_32 : decode cX5_linear 32 = .ok (.aload_n 0, 1) := dk_42 (dk_at dksX5_linear_1 9 rfl rfl)
theorem dX5_linear_33 : decode cX5_linear 33 = .ok (.iconst 1, 1) := dk_4 (dk_at dksX5_linear_1 10 rfl rfl)
theorem dX5_linear_34 : decode cX5_linear 34 = .ok (.invokevirtual 374, 3) := dk_182 1 118 (dk_at dksX5_linear_1 11 rfl rfl)
theorem dX5_linear_37 : decode cX5_linear 37 = .ok (.ifCond .eq 25, 3) := dk_153 0 25 (dk_at dksX5_linear_1 14 rfl rfl)
theorem dX5_linear_40 : decode cX5_linear 40 = .ok (.aload_n 0, 1) := dk_42 (dk_at dksX5_linear_1 17 rfl rfl)
theorem dX5_linear_41 : decode cX5_linear 41 = .ok (.getfield 352, 3) := dk_180 1 96 (dk_at dksX5_linear_1 18 rfl rfl)
theorem dX5_linear_44 : decode cX5_linear 44 = .ok (.aload_n 0, 1) := dk_42 (dk_at dksX5_linear_1 21 rfl rfl)
theorem dX5_linear_45 : decode cX5_linear 45 = .ok (.getfield 355, 3) := dk_180 1 99 (dk_at dksX5_linear_2 0 rfl rfl)
theorem dX5_linear_48 : decode cX5_linear 48 = .ok (.if_icmp .ne 14, 3) := dk_160 0 14 (dk_at dksX5_linear_2 3 rfl rfl)
theorem dX5_linear_51 : decode cX5_linear 51 = .ok (.aload_n 0, 1) := dk_42 (dk_at dksX5_linear_2 6 rfl rfl)
theorem dX5_linear_52 : decode cX5_linear 52 = .ok (.invokevirtual 378, 3) := dk_182 1 122 (dk_at dksX5_linear_2 7 rfl rfl)
theorem dX5_linear_55 : decode cX5_linear 55 = .ok (.ifCond .eq 7, 3) := dk_153 0 7 (dk_at dksX5_linear_2 10 rfl rfl)
theorem dX5_linear_58 : decode cX5_linear 58 = .ok (.iconst 0, 1) := dk_3 (dk_at dksX5_linear_2 13 rfl rfl)
theorem dX5_linear_59 : decode cX5_linear 59 = .ok (.goto 4, 3) := dk_167 0 4 (dk_at dksX5_linear_2 14 rfl rfl)
theorem dX5_linear_62 : decode cX5_linear 62 = .ok (.iconst 2, 1) := dk_5 (dk_at dksX5_linear_2 17 rfl rfl)
theorem dX5_linear_63 : decode cX5_linear 63 = .ok (.putfield 174, 3) := dk_181 0 174 (dk_at dksX5_linear_2 18 rfl rfl)
theorem dX5_linear_66 : decode cX5_linear 66 = .ok (.aload_n 0, 1) := dk_42 (dk_at dksX5_linear_2 21 rfl rfl)
theorem dX5_linear_67 : decode cX5_linear 67 = .ok (.getfield 352, 3) := dk_180 1 96 (dk_at dksX5_linear_3 0 rfl rfl)
theorem dX5_linear_70 : decode cX5_linear 70 = .ok (.istore_n 3, 1) := dk_62 (dk_at dksX5_linear_3 3 rfl rfl)
theorem dX5_linear_71 : decode cX5_linear 71 = .ok (.aload_n 0, 1) := dk_42 (dk_at dksX5_linear_3 4 rfl rfl)
theorem dX5_linear_72 : decode cX5_linear 72 = .ok (.getfield 174, 3) := dk_180 0 174 (dk_at dksX5_linear_3 5 rfl rfl)
theorem dX5_linear_75 : decode cX5_linear 75 = .ok (.ifCond .ne 68, 3) := dk_154 0 68 (dk_at dksX5_linear_3 8 rfl rfl)
theorem dX5_linear_78 : decode cX5_linear 78 = .ok (.aload_n 0, 1) := dk_42 (dk_at dksX5_linear_3 11 rfl rfl)
theorem dX5_linear_79 : decode cX5_linear 79 = .ok (.iconst 0, 1) := dk_3 (dk_at dksX5_linear_3 12 rfl rfl)
theorem dX5_linear_80 : decode cX5_linear 80 = .ok (.invokevirtual 381, 3) := dk_182 1 125 (dk_at dksX5_linear_3 13 rfl rfl)
theorem dX5_linear_83 : decode cX5_linear 83 = .ok (.iconst 0, 1) := dk_3 (dk_at dksX5_linear_3 16 rfl rfl)
theorem dX5_linear_84 : decode cX5_linear 84 = .ok (.istore 4, 2) := dk_54 4 (dk_at dksX5_linear_3 17 rfl rfl)
theorem dX5_linear_86 : decode cX5_linear 86 = .ok (.iload 4, 2) := dk_21 4 (dk_at dksX5_linear_3 19 rfl rfl)
theorem dX5_linear_88 : decode cX5_linear 88 = .ok (.iload_n 3, 1) := dk_29 (dk_at dksX5_linear_3 21 rfl rfl)
theorem dX5_linear_89 : decode cX5_linear 89 = .ok (.if_icmp .ge 31, 3) := dk_162 0 31 (dk_at dksX5_linear_4 0 rfl rfl)
theorem dX5_linear_92 : decode cX5_linear 92 = .ok (.aload_n 0, 1) := dk_42 (dk_at dksX5_linear_4 3 rfl rfl)
theorem dX5_linear_93 : decode cX5_linear 93 = .ok (.getfield 50, 3) := dk_180 0 50 (dk_at dksX5_linear_4 4 rfl rfl)
theorem dX5_linear_96 : decode cX5_linear 96 = .ok (.bipush 6, 2) := dk_16 6 (dk_at dksX5_linear_4 7 rfl rfl)
theorem dX5_linear_98 : decode cX5_linear 98 = .ok (.aload_n 0, 1) := dk_42 (dk_at dksX5_linear_4 9 rfl rfl)
theorem dX5_linear_99 : decode cX5_linear 99 = .ok (.getfield 318, 3) := dk_180 1 62 (dk_at dksX5_linear_4 10 rfl rfl)
theorem dX5_linear_102 : decode cX5_linear 102 = .ok (.imul, 1) := dk_104 (dk_at dksX5_linear_4 13 rfl rfl)
theorem dX5_linear_103 : decode cX5_linear 103 = .ok (.iload 4, 2) := dk_21 4 (dk_at dksX5_linear_4 14 rfl rfl)
theorem dX5_linear_105 : decode cX5_linear 105 = .ok (.iadd, 1) := dk_96 (dk_at dksX5_linear_4 16 rfl rfl)
theorem dX5_linear_106 : decode cX5_linear 106 = .ok (.aload_n 0, 1) := dk_42 (dk_at dksX5_linear_4 17 rfl rfl)
theorem dX5_linear_107 : decode cX5_linear 107 = .ok (.getfield 25, 3) := dk_180 0 25 (dk_at dksX5_linear_4 18 rfl rfl)
theorem dX5_linear_110 : decode cX5_linear 110 = .ok (.iload 4, 2) := dk_21 4 (dk_at dksX5_linear_4 21 rfl rfl)
theorem dX5_linear_112 : decode cX5_linear 112 = .ok (.iaload, 1) := dk_46 (dk_at dksX5_linear_4 23 rfl rfl)
theorem dX5_linear_113 : decode cX5_linear 113 = .ok (.iastore, 1) := dk_79 (dk_at dksX5_linear_5 0 rfl rfl)
theorem dX5_linear_114 : decode cX5_linear 114 = .ok (.iinc 4 1, 3) := dk_132 4 1 (dk_at dksX5_linear_5 1 rfl rfl)
theorem dX5_linear_117 : decode cX5_linear 117 = .ok (.goto (-31), 3) := dk_167 255 225 (dk_at dksX5_linear_5 4 rfl rfl)
theorem dX5_linear_120 : decode cX5_linear 120 = .ok (.aload_n 0, 1) := dk_42 (dk_at dksX5_linear_5 7 rfl rfl)
theorem dX5_linear_121 : decode cX5_linear 121 = .ok (.getfield 62, 3) := dk_180 0 62 (dk_at dksX5_linear_5 8 rfl rfl)
theorem dX5_linear_124 : decode cX5_linear 124 = .ok (.bipush 6, 2) := dk_16 6 (dk_at dksX5_linear_5 11 rfl rfl)
theorem dX5_linear_126 : decode cX5_linear 126 = .ok (.aload_n 0, 1) := dk_42 (dk_at dksX5_linear_5 13 rfl rfl)
theorem dX5_linear_127 : decode cX5_linear 127 = .ok (.getfield 318, 3) := dk_180 1 62 (dk_at dksX5_linear_5 14 rfl rfl)
theorem dX5_linear_130 : decode cX5_linear 130 = .ok (.imul, 1) := dk_104 (dk_at dksX5_linear_5 17 rfl rfl)
theorem dX5_linear_131 : decode cX5_linear 131 = .ok (.iload_n 1, 1) := dk_27 (dk_at dksX5_linear_5 18 rfl rfl)
theorem dX5_linear_132 : decode cX5_linear 132 = .ok (.bastore, 1) := dk_84 (dk_at dksX5_linear_5 19 rfl rfl)
theorem dX5_linear_133 : decode cX5_linear 133 = .ok (.aload_n 0, 1) := dk_42 (dk_at dksX5_linear_5 20 rfl rfl)
theorem dX5_linear_134 : decode cX5_linear 134 = .ok (.getfield 53, 3) := dk_180 0 53 (dk_at dksX5_linear_5 21 rfl rfl)
theorem dX5_linear_137 : decode cX5_linear 137 = .ok (.aload_n 0, 1) := dk_42 (dk_at dksX5_linear_6 0 rfl rfl)
theorem dX5_linear_138 : decode cX5_linear 138 = .ok (.getfield 318, 3) := dk_180 1 62 (dk_at dksX5_linear_6 1 rfl rfl)
theorem dX5_linear_141 : decode cX5_linear 141 = .ok (.iload_n 2, 1) := dk_28 (dk_at dksX5_linear_6 4 rfl rfl)
theorem dX5_linear_142 : decode cX5_linear 142 = .ok (.iastore, 1) := dk_79 (dk_at dksX5_linear_6 5 rfl rfl)
theorem dX5_linear_143 : decode cX5_linear 143 = .ok (.aload_n 0, 1) := dk_42 (dk_at dksX5_linear_6 6 rfl rfl)
theorem dX5_linear_144 : decode cX5_linear 144 = .ok (.iconst 0, 1) := dk_3 (dk_at dksX5_linear_6 7 rfl rfl)
theorem dX5_linear_145 : decode cX5_linear 145 = .ok (.putfield 352, 3) := dk_181 1 96 (dk_at dksX5_linear_6 8 rfl rfl)
theorem dX5_linear_148 : decode cX5_linear 148 = .ok (.aload_n 0, 1) := dk_42 (dk_at dksX5_linear_6 11 rfl rfl)
theorem dX5_linear_149 : decode cX5_linear 149 = .ok (.iconst 0, 1) := dk_3 (dk_at dksX5_linear_6 12 rfl rfl)
theorem dX5_linear_150 : decode cX5_linear 150 = .ok (.putfield 355, 3) := dk_181 1 99 (dk_at dksX5_linear_6 13 rfl rfl)
theorem dX5_linear_153 : decode cX5_linear 153 = .ok (.aload_n 0, 1) := dk_42 (dk_at dksX5_linear_6 16 rfl rfl)
theorem dX5_linear_154 : decode cX5_linear 154 = .ok (.getfield 174, 3) := dk_180 0 174 (dk_at dksX5_linear_6 17 rfl rfl)
theorem dX5_linear_157 : decode cX5_linear 157 = .ok (.ifCond .le 7, 3) := dk_158 0 7 (dk_at dksX5_linear_6 20 rfl rfl)
theorem dX5_linear_160 : decode cX5_linear 160 = .ok (.iconst 0, 1) := dk_3 (dk_at dksX5_linear_6 23 rfl rfl)
theorem dX5_linear_161 : decode cX5_linear 161 = .ok (.goto 9, 3) := dk_167 0 9 (dk_at dksX5_linear_7 0 rfl rfl)
theorem dX5_linear_164 : decode cX5_linear 164 = .ok (.aload_n 0, 1) := dk_42 (dk_at dksX5_linear_7 3 rfl rfl)
theorem dX5_linear_165 : decode cX5_linear 165 = .ok (.iconst 0, 1) := dk_3 (dk_at dksX5_linear_7 4 rfl rfl)
theorem dX5_linear_166 : decode cX5_linear 166 = .ok (.iload_n 3, 1) := dk_29 (dk_at dksX5_linear_7 5 rfl rfl)
theorem dX5_linear_167 : decode cX5_linear 167 = .ok (.invokevirtual 384, 3) := dk_182 1 128 (dk_at dksX5_linear_7 6 rfl rfl)
theorem dX5_linear_170 : decode cX5_linear 170 = .ok (.ireturn, 1) := dk_172 (dk_at dksX5_linear_7 9 rfl rfl)
def dkwX5_isRow_3 : List UInt8 := [172]
abbrev dktX5_isRow_3 : List UInt8 := dkwX5_isRow_3 ++ []
def dkwX5_isRow_2 : List UInt8 := [180, 0, 22, 29, 46, 46, 6, 160, 0, 7, 4, 167, 0, 4, 3, 126, 61, 132, 3, 1, 167, 255, 204, 28]
abbrev dktX5_isRow_2 : List UInt8 := dkwX5_isRow_2 ++ dktX5_isRow_3
def dkwX5_isRow_1 : List UInt8 := [42, 180, 0, 7, 42, 180, 0, 22, 29, 46, 46, 153, 0, 22, 27, 153, 0, 22, 42, 180, 0, 7, 42]
abbrev dktX5_isRow_1 : List UInt8 := dkwX5_isRow_1 ++ dktX5_isRow_2
def dkwX5_isRow_0 : List UInt8 := [42, 180, 1, 96, 158, 0, 7, 4, 167, 0, 4, 3, 61, 3, 62, 29, 42, 180, 1, 96, 162, 0, 50, 28]
abbrev dktX5_isRow_0 : List UInt8 := dkwX5_isRow_0 ++ dktX5_isRow_1
theorem dksX5_isRow_0 : cX5_isRow.data.toList.drop 0 = dktX5_isRow_0 := by decide +kernel
theorem dksX5_isRow_1 : cX5_isRow.data.toList.drop 24 = dktX5_isRow_1 := dk_seg dksX5_isRow_0 24 rfl rfl
theorem dksX5_isRow_2 : cX5_isRow.data.toList.drop 47 = dktX5_isRow_2 := dk_seg dksX5_isRow_1 23 rfl rfl
theorem dksX5_isRow_3 : cX5_isRow.data.toList.drop 71 = dktX5_isRow_3 := dk_seg dksX5_isRow_2 24 rfl rfl
theorem dX5_isRow_0 : decode cX5_isRow 0 = .ok (.aload_n 0, 1) := dk_42 (dk_at dksX5_isRow_0 0 rfl rfl)
theorem dX5_isRow_1 : decode cX5_isRow 1 = .ok (.getfield 352, 3) := dk_180 1 96 (dk_at dksX5_isRow_0 1 rfl rfl)
theorem dX5_isRow_4 : decode cX5_isRow 4 = .ok (.ifCond .le 7, 3) := dk_158 0 7 (dk_at dksX5_isRow_0 4 rfl rfl)
theorem dX5_isRow_7 : decode cX5_isRow 7 = .ok (.iconst 1, 1) := dk_4 (dk_at dksX5_isRow_0 7 rfl rfl)
theorem dX5_isRow_8 : decode cX5_isRow 8 = .ok (.goto 4, 3) := dk_167 0 4 (dk_at dksX5_isRow_0 8 rfl rfl)
theorem dX5_isRow_11 : decode cX5_isRow 11 = .ok (.iconst 0, 1) := dk_3 (dk_at dksX5_isRow_0 11 rfl rfl)
theorem dX5_isRow_12 : decode cX5_isRow 12 = .ok (.istore_n 2, 1) := dk_61 (dk_at dksX5_isRow_0 12 rfl rfl)
theorem dX5_isRow_13 : decode cX5_isRow 13 = .ok (.iconst 0, 1) := dk_3 (dk_at dksX5_isRow_0 13 rfl rfl)
theorem dX5_isRow_14 : decode cX5_isRow 14 = .ok (.istore_n 3, 1) := dk_62 (dk_at dksX5_isRow_0 14 rfl rfl)
theorem dX5_isRow_15 : decode cX5_isRow 15 = .ok (.iload_n 3, 1) := dk_29 (dk_at dksX5_isRow_0 15 rfl rfl)
theorem dX5_isRow_16 : decode cX5_isRow 16 = .ok (.aload_n 0, 1) := dk_42 (dk_at dksX5_isRow_0 16 rfl rfl)
theorem dX5_isRow_17 : decode cX5_isRow 17 = .ok (.getfield 352, 3) := dk_180 1 96 (dk_at dksX5_isRow_0 17 rfl rfl)
theorem dX5_isRow_20 : decode cX5_isRow 20 = .ok (.if_icmp .ge 50, 3) := dk_162 0 50 (dk_at dksX5_isRow_0 20 rfl rfl)
theorem dX5_isRow_23 : decode cX5_isRow 23 = .ok (.iload_n 2, 1) := dk_28 (dk_at dksX5_isRow_0 23 rfl rfl)
theorem dX5_isRow_24 : decode cX5_isRow 24 = .ok (.aload_n 0, 1) := dk_42 (dk_at dksX5_isRow_1 0 rfl rfl)
theorem dX5_isRow_25 : decode cX5_isRow 25 = .ok (.getfield 7, 3) := dk_180 0 7 (dk_at dksX5_isRow_1 1 rfl rfl)
theorem dX5_isRow_28 : decode cX5_isRow 28 = .ok (.aload_n 0, 1) := dk_42 (dk_at dksX5_isRow_1 4 rfl rfl)
theorem dX5_isRow_29 : decode cX5_isRow 29 = .ok (.getfield 22, 3) := dk_180 0 22 (dk_at dksX5_isRow_1 5 rfl rfl)
theorem dX5_isRow_32 : decode cX5_isRow 32 = .ok (.iload_n 3, 1) := dk_29 (dk_at dksX5_isRow_1 8 rfl rfl)
theorem dX5_isRow_33 : decode cX5_isRow 33 = .ok (.iaload, 1) := dk_46 (dk_at dksX5_isRow_1 9 rfl rfl)
theorem dX5_isRow_34 : decode cX5_isRow 34 = .ok (.iaload, 1) := dk_46 (dk_at dksX5_isRow_1 10 rfl rfl)
theorem dX5_isRow_35 : decode cX5_isRow 35 = .ok (.ifCond .eq 22, 3) := dk_153 0 22 (dk_at dksX5_isRow_1 11 rfl rfl)
theorem dX5_isRow_38 : decode cX5_isRow 38 = .ok (.iload_n 1, 1) := dk_27 (dk_at dksX5_isRow_1 14 rfl rfl)
theorem dX5_isRow_39 : decode cX5_isRow 39 = .ok (.ifCond .eq 22, 3) := dk_153 0 22 (dk_at dksX5_isRow_1 15 rfl rfl)
theorem dX5_isRow_42 : decode cX5_isRow 42 = .ok (.aload_n 0, 1) := dk_42 (dk_at dksX5_isRow_1 18 rfl rfl)
theorem dX5_isRow_43 : decode cX5_isRow 43 = .ok (.getfield 7, 3) := dk_180 0 7 (dk_at dksX5_isRow_1 19 rfl rfl)
theorem dX5_isRow_46 : decode cX5_isRow 46 = .ok (.aload_n 0, 1) := dk_42 (dk_at dksX5_isRow_1 22 rfl rfl)
theorem dX5_isRow_47 : decode cX5_isRow 47 = .ok (.getfield 22, 3) := dk_180 0 22 (dk_at dksX5_isRow_2 0 rfl rfl)
theorem dX5_isRow_50 : decode cX5_isRow 50 = .ok (.iload_n 3, 1) := dk_29 (dk_at dksX5_isRow_2 3 rfl rfl)
theorem dX5_isRow_51 : decode cX5_isRow 51 = .ok (.iaload, 1) := dk_46 (dk_at dksX5_isRow_2 4 rfl rfl)
theorem dX5_isRow_52 : decode cX5_isRow 52 = .ok (.iaload, 1) := dk_46 (dk_at dksX5_isRow_2 5 rfl rfl)
theorem dX5_isRow_53 : decode cX5_isRow 53 = .ok (.iconst 3, 1) := dk_6 (dk_at dksX5_isRow_2 6 rfl rfl)
theorem dX5_isRow_54 : decode cX5_isRow 54 = .ok (.if_icmp .ne 7, 3) := dk_160 0 7 (dk_at dksX5_isRow_2 7 rfl rfl)
theorem dX5_isRow_57 : decode cX5_isRow 57 = .ok (.iconst 1, 1) := dk_4 (dk_at dksX5_isRow_2 10 rfl rfl)
theorem dX5_isRow_58 : decode cX5_isRow 58 = .ok (.goto 4, 3) := dk_167 0 4 (dk_at dksX5_isRow_2 11 rfl rfl)
theorem dX5_isRow_61 : decode cX5_isRow 61 = .ok (.iconst 0, 1) := dk_3 (dk_at dksX5_isRow_2 14 rfl rfl)
theorem dX5_isRow_62 : decode cX5_isRow 62 = .ok (.iand, 1) := dk_126 (dk_at dksX5_isRow_2 15 rfl rfl)
theorem dX5_isRow_63 : decode cX5_isRow 63 = .ok (.istore_n 2, 1) := dk_61 (dk_at dksX5_isRow_2 16 rfl rfl)
theorem dX5_isRow_64 : decode cX5_isRow 64 = .ok (.iinc 3 1, 3) := dk_132 3 1 (dk_at dksX5_isRow_2 17 rfl rfl)
theorem dX5_isRow_67 : decode cX5_isRow 67 = .ok (.goto (-52), 3) := dk_167 255 204 (dk_at dksX5_isRow_2 20 rfl rfl)
theorem dX5_isRow_70 : decode cX5_isRow 70 = .ok (.iload_n 2, 1) := dk_28 (dk_at dksX5_isRow_2 23 rfl rfl)
theorem dX5_isRow_71 : decode cX5_isRow 71 = .ok (.ireturn, 1) := dk_172 (dk_at dksX5_isRow_3 0 rfl rfl)
def dkwX5_hasRoom_0 : List UInt8 := [42, 180, 1, 62, 16, 24, 162, 0, 7, 4, 167, 0, 4, 3, 172]
abbrev dktX5_hasRoom_0 : List UInt8 := dkwX5_hasRoom_0 ++ []
theorem dksX5_hasRoom_0 : cX5_hasRoom.data.toList.drop 0 = dktX5_hasRoom_0 := by decide +kernel
theorem dX5_hasRoom_0 : decode cX5_hasRoom 0 = .ok (.aload_n 0, 1) := dk_42 (dk_at dksX5_hasRoom_0 0 rfl rfl)
theorem dX5_hasRoom_1 : decode cX5_hasRoom 1 = .ok (.getfield 318, 3) := dk_180 1 62 (dk_at dksX5_hasRoom_0 1 rfl rfl)
theorem dX5_hasRoom_4 : decode cX5_hasRoom 4 = .ok (.bipush 24, 2) := dk_16 24 (dk_at dksX5_hasRoom_0 4 rfl rfl)
theorem dX5_hasRoom_6 : decode cX5_hasRoom 6 = .ok (.if_icmp .ge 7, 3) := dk_162 0 7 (dk_at dksX5_hasRoom_0 6 rfl rfl)
theorem dX5_hasRoom_9 : decode cX5_hasRoom 9 = .ok (.iconst 1, 1) := dk_4 (dk_at dksX5_hasRoom_0 9 rfl rfl)
theorem dX5_hasRoom_10 : decode cX5_hasRoom 10 = .ok (.goto 4, 3) := dk_167 0 4 (dk_at dksX5_hasRoom_0 10 rfl rfl)
theorem dX5_hasRoom_13 : decode cX5_hasRoom 13 = .ok (.iconst 0, 1) := dk_3 (dk_at dksX5_hasRoom_0 13 rfl rfl)
theorem dX5_hasRoom_14 : decode cX5_hasRoom 14 = .ok (.ireturn, 1) := dk_172 (dk_at dksX5_hasRoom_0 14 rfl rfl)
def dkwX5_takesRow_1 : List UInt8 := [132, 2, 1, 167, 255, 232, 177]
abbrev dktX5_takesRow_1 : List UInt8 := dkwX5_takesRow_1 ++ []
def dkwX5_takesRow_0 : List UInt8 := [3, 61, 28, 42, 180, 1, 96, 162, 0, 22, 42, 27, 28, 96, 42, 180, 0, 22, 28, 46, 182, 1, 114]
abbrev dktX5_takesRow_0 : List UInt8 := dkwX5_takesRow_0 ++ dktX5_takesRow_1
theorem dksX5_takesRow_0 : cX5_takesRow.data.toList.drop 0 = dktX5_takesRow_0 := by decide +kernel
theorem dksX5_takesRow_1 : cX5_takesRow.data.toList.drop 23 = dktX5_takesRow_1 := dk_seg dksX5_takesRow_0 23 rfl rfl
theorem dX5_takesRow_0 : decode cX5_takesRow 0 = .ok (.iconst 0, 1) := dk_3 (dk_at dksX5_takesRow_0 0 rfl rfl)
theorem dX5_takesRow_1 : decode cX5_takesRow 1 = .ok (.istore_n 2, 1) := dk_61 (dk_at dksX5_takesRow_0 1 rfl rfl)
theorem dX5_takesRow_2 : decode cX5_takesRow 2 = .ok (.iload_n 2, 1) := dk_28 (dk_at dksX5_takesRow_0 2 rfl rfl)
theorem dX5_takesRow_3 : decode cX5_takesRow 3 = .ok (.aload_n 0, 1) := dk_42 (dk_at dksX5_takesRow_0 3 rfl rfl)
theorem dX5_takesRow_4 : decode cX5_takesRow 4 = .ok (.getfield 352, 3) := dk_180 1 96 (dk_at dksX5_takesRow_0 4 rfl rfl)
theorem dX5_takesRow_7 : decode cX5_takesRow 7 = .ok (.if_icmp .ge 22, 3) := dk_162 0 22 (dk_at dksX5_takesRow_0 7 rfl rfl)
theorem dX5_takesRow_10 : decode cX5_takesRow 10 = .ok (.aload_n 0, 1) := dk_42 (dk_at dksX5_takesRow_0 10 rfl rfl)
theorem dX5_takesRow_11 : decode cX5_takesRow 11 = .ok (.iload_n 1, 1) := dk_27 (dk_at dksX5_takesRow_0 11 rfl rfl)
theorem dX5_takesRow_12 : decode cX5_takesRow 12 = .ok (.iload_n 2, 1) := dk_28 (dk_at dksX5_takesRow_0 12 rfl rfl)
theorem dX5_takesRow_13 : decode cX5_takesRow 13 = .ok (.iadd, 1) := dk_96 (dk_at dksX5_takesRow_0 13 rfl rfl)
theorem dX5_takesRow_14 : decode cX5_takesRow 14 = .ok (.aload_n 0, 1) := dk_42 (dk_at dksX5_takesRow_0 14 rfl rfl)
theorem dX5_takesRow_15 : decode cX5_takesRow 15 = .ok (.getfield 22, 3) := dk_180 0 22 (dk_at dksX5_takesRow_0 15 rfl rfl)
theorem dX5_takesRow_18 : decode cX5_takesRow 18 = .ok (.iload_n 2, 1) := dk_28 (dk_at dksX5_takesRow_0 18 rfl rfl)
theorem dX5_takesRow_19 : decode cX5_takesRow 19 = .ok (.iaload, 1) := dk_46 (dk_at dksX5_takesRow_0 19 rfl rfl)
theorem dX5_takesRow_20 : decode cX5_takesRow 20 = .ok (.invokevirtual 370, 3) := dk_182 1 114 (dk_at dksX5_takesRow_0 20 rfl rfl)
theorem dX5_takesRow_23 : decode cX5_takesRow 23 = .ok (.iinc 2 1, 3) := dk_132 2 1 (dk_at dksX5_takesRow_1 0 rfl rfl)
theorem dX5_takesRow_26 : decode cX5_takesRow 26 = .ok (.goto (-24), 3) := dk_167 255 232 (dk_at dksX5_takesRow_1 3 rfl rfl)
theorem dX5_takesRow_29 : decode cX5_takesRow 29 = .ok (.return_, 1) := dk_177 (dk_at dksX5_takesRow_1 6 rfl rfl)
def dkwX5_places_0 : List UInt8 := [42, 180, 0, 47, 16, 8, 42, 180, 1, 62, 104, 27, 96, 28, 79, 177]
abbrev dktX5_places_0 : List UInt8 := dkwX5_places_0 ++ []
theorem dksX5_places_0 : cX5_places.data.toList.drop 0 = dktX5_places_0 := by decide +kernel
theorem dX5_places_0 : decode cX5_places 0 = .ok (.aload_n 0, 1) := dk_42 (dk_at dksX5_places_0 0 rfl rfl)
theorem dX5_places_1 : decode cX5_places 1 = .ok (.getfield 47, 3) := dk_180 0 47 (dk_at dksX5_places_0 1 rfl rfl)
theorem dX5_places_4 : decode cX5_places 4 = .ok (.bipush 8, 2) := dk_16 8 (dk_at dksX5_places_0 4 rfl rfl)
theorem dX5_places_6 : decode cX5_places 6 = .ok (.aload_n 0, 1) := dk_42 (dk_at dksX5_places_0 6 rfl rfl)
theorem dX5_places_7 : decode cX5_places 7 = .ok (.getfield 318, 3) := dk_180 1 62 (dk_at dksX5_places_0 7 rfl rfl)
theorem dX5_places_10 : decode cX5_places 10 = .ok (.imul, 1) := dk_104 (dk_at dksX5_places_0 10 rfl rfl)
theorem dX5_places_11 : decode cX5_places 11 = .ok (.iload_n 1, 1) := dk_27 (dk_at dksX5_places_0 11 rfl rfl)
theorem dX5_places_12 : decode cX5_places 12 = .ok (.iadd, 1) := dk_96 (dk_at dksX5_places_0 12 rfl rfl)
theorem dX5_places_13 : decode cX5_places 13 = .ok (.iload_n 2, 1) := dk_28 (dk_at dksX5_places_0 13 rfl rfl)
theorem dX5_places_14 : decode cX5_places 14 = .ok (.iastore, 1) := dk_79 (dk_at dksX5_places_0 14 rfl rfl)
theorem dX5_places_15 : decode cX5_places 15 = .ok (.return_, 1) := dk_177 (dk_at dksX5_places_0 15 rfl rfl)
def dkwX5_adds_1 : List UInt8 := [180, 1, 62, 4, 96, 181, 1, 62, 42, 180, 1, 62, 4, 100, 172]
abbrev dktX5_adds_1 : List UInt8 := dkwX5_adds_1 ++ []
def dkwX5_adds_0 : List UInt8 := [42, 180, 0, 41, 42, 180, 1, 62, 27, 79, 42, 180, 0, 44, 42, 180, 1, 62, 28, 79, 42, 89]
abbrev dktX5_adds_0 : List UInt8 := dkwX5_adds_0 ++ dktX5_adds_1
theorem dksX5_adds_0 : cX5_adds.data.toList.drop 0 = dktX5_adds_0 := by decide +kernel
theorem dksX5_adds_1 : cX5_adds.data.toList.drop 22 = dktX5_adds_1 := dk_seg dksX5_adds_0 22 rfl rfl
theorem dX5_adds_0 : decode cX5_adds 0 = .ok (.aload_n 0, 1) := dk_42 (dk_at dksX5_adds_0 0 rfl rfl)
theorem dX5_adds_1 : decode cX5_adds 1 = .ok (.getfield 41, 3) := dk_180 0 41 (dk_at dksX5_adds_0 1 rfl rfl)
theorem dX5_adds_4 : decode cX5_adds 4 = .ok (.aload_n 0, 1) := dk_42 (dk_at dksX5_adds_0 4 rfl rfl)
theorem dX5_adds_5 : decode cX5_adds 5 = .ok (.getfield 318, 3) := dk_180 1 62 (dk_at dksX5_adds_0 5 rfl rfl)
theorem dX5_adds_8 : decode cX5_adds 8 = .ok (.iload_n 1, 1) := dk_27 (dk_at dksX5_adds_0 8 rfl rfl)
theorem dX5_adds_9 : decode cX5_adds 9 = .ok (.iastore, 1) := dk_79 (dk_at dksX5_adds_0 9 rfl rfl)
theorem dX5_adds_10 : decode cX5_adds 10 = .ok (.aload_n 0, 1) := dk_42 (dk_at dksX5_adds_0 10 rfl rfl)
theorem dX5_adds_11 : decode cX5_adds 11 = .ok (.getfield 44, 3) := dk_180 0 44 (dk_at dksX5_adds_0 11 rfl rfl)
theorem dX5_adds_14 : decode cX5_adds 14 = .ok (.aload_n 0, 1) := dk_42 (dk_at dksX5_adds_0 14 rfl rfl)
theorem dX5_adds_15 : decode cX5_adds 15 = .ok (.getfield 318, 3) := dk_180 1 62 (dk_at dksX5_adds_0 15 rfl rfl)
theorem dX5_adds_18 : decode cX5_adds 18 = .ok (.iload_n 2, 1) := dk_28 (dk_at dksX5_adds_0 18 rfl rfl)
theorem dX5_adds_19 : decode cX5_adds 19 = .ok (.iastore, 1) := dk_79 (dk_at dksX5_adds_0 19 rfl rfl)
theorem dX5_adds_20 : decode cX5_adds 20 = .ok (.aload_n 0, 1) := dk_42 (dk_at dksX5_adds_0 20 rfl rfl)
theorem dX5_adds_21 : decode cX5_adds 21 = .ok (.dup, 1) := dk_89 (dk_at dksX5_adds_0 21 rfl rfl)
theorem dX5_adds_22 : decode cX5_adds 22 = .ok (.getfield 318, 3) := dk_180 1 62 (dk_at dksX5_adds_1 0 rfl rfl)
theorem dX5_adds_25 : decode cX5_adds 25 = .ok (.iconst 1, 1) := dk_4 (dk_at dksX5_adds_1 3 rfl rfl)
theorem dX5_adds_26 : decode cX5_adds 26 = .ok (.iadd, 1) := dk_96 (dk_at dksX5_adds_1 4 rfl rfl)
theorem dX5_adds_27 : decode cX5_adds 27 = .ok (.putfield 318, 3) := dk_181 1 62 (dk_at dksX5_adds_1 5 rfl rfl)
theorem dX5_adds_30 : decode cX5_adds 30 = .ok (.aload_n 0, 1) := dk_42 (dk_at dksX5_adds_1 8 rfl rfl)
theorem dX5_adds_31 : decode cX5_adds 31 = .ok (.getfield 318, 3) := dk_180 1 62 (dk_at dksX5_adds_1 9 rfl rfl)
theorem dX5_adds_34 : decode cX5_adds 34 = .ok (.iconst 1, 1) := dk_4 (dk_at dksX5_adds_1 12 rfl rfl)
theorem dX5_adds_35 : decode cX5_adds 35 = .ok (.isub, 1) := dk_100 (dk_at dksX5_adds_1 13 rfl rfl)
theorem dX5_adds_36 : decode cX5_adds 36 = .ok (.ireturn, 1) := dk_172 (dk_at dksX5_adds_1 14 rfl rfl)
def dkwX5_different_0 : List UInt8 := [42, 4, 182, 1, 131, 172]
abbrev dktX5_different_0 : List UInt8 := dkwX5_different_0 ++ []
theorem dksX5_different_0 : cX5_different.data.toList.drop 0 = dktX5_different_0 := by decide +kernel
theorem dX5_different_0 : decode cX5_different 0 = .ok (.aload_n 0, 1) := dk_42 (dk_at dksX5_different_0 0 rfl rfl)
theorem dX5_different_1 : decode cX5_different 1 = .ok (.iconst 1, 1) := dk_4 (dk_at dksX5_different_0 1 rfl rfl)
theorem dX5_different_2 : decode cX5_different 2 = .ok (.invokevirtual 387, 3) := dk_182 1 131 (dk_at dksX5_different_0 2 rfl rfl)
theorem dX5_different_5 : decode cX5_different 5 = .ok (.ireturn, 1) := dk_172 (dk_at dksX5_different_0 5 rfl rfl)
def dkwX5_rowOf_2 : List UInt8 := [180, 0, 174, 158, 0, 7, 3, 167, 0, 9, 42, 27, 28, 182, 1, 128, 172]
abbrev dktX5_rowOf_2 : List UInt8 := dkwX5_rowOf_2 ++ []
def dkwX5_rowOf_1 : List UInt8 := [42, 180, 1, 96, 61, 42, 180, 0, 174, 154, 0, 8, 42, 3, 182, 1, 125, 42, 3, 181, 1, 96, 42]
abbrev dktX5_rowOf_1 : List UInt8 := dkwX5_rowOf_1 ++ dktX5_rowOf_2
def dkwX5_rowOf_0 : List UInt8 := [42, 42, 3, 182, 1, 118, 153, 0, 14, 42, 182, 1, 122, 153, 0, 7, 3, 167, 0, 4, 4, 181, 0, 174]
abbrev dktX5_rowOf_0 : List UInt8 := dkwX5_rowOf_0 ++ dktX5_rowOf_1
theorem dksX5_rowOf_0 : cX5_rowOf.data.toList.drop 0 = dktX5_rowOf_0 := by decide +kernel
theorem dksX5_rowOf_1 : cX5_rowOf.data.toList.drop 24 = dktX5_rowOf_1 := dk_seg dksX5_rowOf_0 24 rfl rfl
theorem dksX5_rowOf_2 : cX5_rowOf.data.toList.drop 47 = dktX5_rowOf_2 := dk_seg dksX5_rowOf_1 23 rfl rfl
theorem dX5_rowOf_0 : decode cX5_rowOf 0 = .ok (.aload_n 0, 1) := dk_42 (dk_at dksX5_rowOf_0 0 rfl rfl)
theorem dX5_rowOf_1 : decode cX5_rowOf 1 = .ok (.aload_n 0, 1) := dk_42 (dk_at dksX5_rowOf_0 1 rfl rfl)
theorem dX5_rowOf_2 : decode cX5_rowOf 2 = .ok (.iconst 0, 1) := dk_3 (dk_at dksX5_rowOf_0 2 rfl rfl)
theorem dX5_rowOf_3 : decode cX5_rowOf 3 = .ok (.invokevirtual 374, 3) := dk_182 1 118 (dk_at dksX5_rowOf_0 3 rfl rfl)
theorem dX5_rowOf_6 : decode cX5_rowOf 6 = .ok (.ifCond .eq 14, 3) := dk_153 0 14 (dk_at dksX5_rowOf_0 6 rfl rfl)
theorem dX5_rowOf_9 : decode cX5_rowOf 9 = .ok (.aload_n 0, 1) := dk_42 (dk_at dksX5_rowOf_0 9 rfl rfl)
theorem dX5_rowOf_10 : decode cX5_rowOf 10 = .ok (.invokevirtual 378, 3) := dk_182 1 122 (dk_at dksX5_rowOf_0 10 rfl rfl)
theorem dX5_rowOf_13 : decode cX5_rowOf 13 = .ok (.ifCond .eq 7, 3) := dk_153 0 7 (dk_at dksX5_rowOf_0 13 rfl rfl)
theorem dX5_rowOf_16 : decode cX5_rowOf 16 = .ok (.iconst 0, 1) := dk_3 (dk_at dksX5_rowOf_0 16 rfl rfl)
theorem dX5_rowOf_17 : decode cX5_rowOf 17 = .ok (.goto 4, 3) := dk_167 0 4 (dk_at dksX5_rowOf_0 17 rfl rfl)
theorem dX5_rowOf_20 : decode cX5_rowOf 20 = .ok (.iconst 1, 1) := dk_4 (dk_at dksX5_rowOf_0 20 rfl rfl)
theorem dX5_rowOf_21 : decode cX5_rowOf 21 = .ok (.putfield 174, 3) := dk_181 0 174 (dk_at dksX5_rowOf_0 21 rfl rfl)
theorem dX5_rowOf_24 : decode cX5_rowOf 24 = .ok (.aload_n 0, 1) := dk_42 (dk_at dksX5_rowOf_1 0 rfl rfl)
theorem dX5_rowOf_25 : decode cX5_rowOf 25 = .ok (.getfield 352, 3) := dk_180 1 96 (dk_at dksX5_rowOf_1 1 rfl rfl)
theorem dX5_rowOf_28 : decode cX5_rowOf 28 = .ok (.istore_n 2, 1) := dk_61 (dk_at dksX5_rowOf_1 4 rfl rfl)
theorem dX5_rowOf_29 : decode cX5_rowOf 29 = .ok (.aload_n 0, 1) := dk_42 (dk_at dksX5_rowOf_1 5 rfl rfl)
theorem dX5_rowOf_30 : decode cX5_rowOf 30 = .ok (.getfield 174, 3) := dk_180 0 174 (dk_at dksX5_rowOf_1 6 rfl rfl)
theorem dX5_rowOf_33 : decode cX5_rowOf 33 = .ok (.ifCond .ne 8, 3) := dk_154 0 8 (dk_at dksX5_rowOf_1 9 rfl rfl)
theorem dX5_rowOf_36 : decode cX5_rowOf 36 = .ok (.aload_n 0, 1) := dk_42 (dk_at dksX5_rowOf_1 12 rfl rfl)
theorem dX5_rowOf_37 : decode cX5_rowOf 37 = .ok (.iconst 0, 1) := dk_3 (dk_at dksX5_rowOf_1 13 rfl rfl)
theorem dX5_rowOf_38 : decode cX5_rowOf 38 = .ok (.invokevirtual 381, 3) := dk_182 1 125 (dk_at dksX5_rowOf_1 14 rfl rfl)
theorem dX5_rowOf_41 : decode cX5_rowOf 41 = .ok (.aload_n 0, 1) := dk_42 (dk_at dksX5_rowOf_1 17 rfl rfl)
theorem dX5_rowOf_42 : decode cX5_rowOf 42 = .ok (.iconst 0, 1) := dk_3 (dk_at dksX5_rowOf_1 18 rfl rfl)
theorem dX5_rowOf_43 : decode cX5_rowOf 43 = .ok (.putfield 352, 3) := dk_181 1 96 (dk_at dksX5_rowOf_1 19 rfl rfl)
theorem dX5_rowOf_46 : decode cX5_rowOf 46 = .ok (.aload_n 0, 1) := dk_42 (dk_at dksX5_rowOf_1 22 rfl rfl)
theorem dX5_rowOf_47 : decode cX5_rowOf 47 = .ok (.getfield 174, 3) := dk_180 0 174 (dk_at dksX5_rowOf_2 0 rfl rfl)
theorem dX5_rowOf_50 : decode cX5_rowOf 50 = .ok (.ifCond .le 7, 3) := dk_158 0 7 (dk_at dksX5_rowOf_2 3 rfl rfl)
theorem dX5_rowOf_53 : decode cX5_rowOf 53 = .ok (.iconst 0, 1) := dk_3 (dk_at dksX5_rowOf_2 6 rfl rfl)
theorem dX5_rowOf_54 : decode cX5_rowOf 54 = .ok (.goto 9, 3) := dk_167 0 9 (dk_at dksX5_rowOf_2 7 rfl rfl)
theorem dX5_rowOf_57 : decode cX5_rowOf 57 = .ok (.aload_n 0, 1) := dk_42 (dk_at dksX5_rowOf_2 10 rfl rfl)
theorem dX5_rowOf_58 : decode cX5_rowOf 58 = .ok (.iload_n 1, 1) := dk_27 (dk_at dksX5_rowOf_2 11 rfl rfl)
theorem dX5_rowOf_59 : decode cX5_rowOf 59 = .ok (.iload_n 2, 1) := dk_28 (dk_at dksX5_rowOf_2 12 rfl rfl)
theorem dX5_rowOf_60 : decode cX5_rowOf 60 = .ok (.invokevirtual 384, 3) := dk_182 1 128 (dk_at dksX5_rowOf_2 13 rfl rfl)
theorem dX5_rowOf_63 : decode cX5_rowOf 63 = .ok (.ireturn, 1) := dk_172 (dk_at dksX5_rowOf_2 16 rfl rfl)
def dkwX5_order_0 : List UInt8 := [42, 5, 182, 1, 131, 172]
abbrev dktX5_order_0 : List UInt8 := dkwX5_order_0 ++ []
theorem dksX5_order_0 : cX5_order.data.toList.drop 0 = dktX5_order_0 := by decide +kernel
theorem dX5_order_0 : decode cX5_order 0 = .ok (.aload_n 0, 1) := dk_42 (dk_at dksX5_order_0 0 rfl rfl)
theorem dX5_order_1 : decode cX5_order 1 = .ok (.iconst 2, 1) := dk_5 (dk_at dksX5_order_0 1 rfl rfl)
theorem dX5_order_2 : decode cX5_order 2 = .ok (.invokevirtual 387, 3) := dk_182 1 131 (dk_at dksX5_order_0 2 rfl rfl)
theorem dX5_order_5 : decode cX5_order 5 = .ok (.ireturn, 1) := dk_172 (dk_at dksX5_order_0 5 rfl rfl)
def dkwX5_regular_6 : List UInt8 := [180, 0, 174, 158, 0, 7, 3, 167, 0, 9, 42, 6, 28, 182, 1, 128, 172]
abbrev dktX5_regular_6 : List UInt8 := dkwX5_regular_6 ++ []
def dkwX5_regular_5 : List UInt8 := [42, 180, 0, 28, 29, 46, 79, 132, 3, 1, 167, 255, 223, 42, 3, 181, 1, 96, 42, 3, 181, 1, 102, 42]
abbrev dktX5_regular_5 : List UInt8 := dkwX5_regular_5 ++ dktX5_regular_6
def dkwX5_regular_4 : List UInt8 := [62, 29, 6, 42, 180, 1, 102, 104, 162, 0, 29, 42, 180, 0, 59, 16, 48, 42, 180, 1, 62, 104, 29, 96]
abbrev dktX5_regular_4 : List UInt8 := dkwX5_regular_4 ++ dktX5_regular_5
def dkwX5_regular_3 : List UInt8 := [42, 180, 0, 53, 42, 180, 1, 62, 27, 79, 42, 180, 0, 56, 42, 180, 1, 62, 42, 180, 1, 102, 79, 3]
abbrev dktX5_regular_3 : List UInt8 := dkwX5_regular_3 ++ dktX5_regular_4
def dkwX5_regular_2 : List UInt8 := [167, 0, 4, 5, 181, 0, 174, 42, 180, 1, 96, 61, 42, 180, 0, 174, 154, 0, 69, 42, 3, 182, 1, 125]
abbrev dktX5_regular_2 : List UInt8 := dkwX5_regular_2 ++ dktX5_regular_3
def dkwX5_regular_1 : List UInt8 := [158, 0, 5, 3, 172, 42, 42, 3, 182, 1, 118, 153, 0, 14, 42, 182, 1, 122, 153, 0, 7, 3]
abbrev dktX5_regular_1 : List UInt8 := dkwX5_regular_1 ++ dktX5_regular_2
def dkwX5_regular_0 : List UInt8 := [42, 27, 3, 16, 63, 184, 0, 180, 153, 0, 7, 3, 167, 0, 4, 4, 181, 0, 174, 42, 180, 0, 174]
abbrev dktX5_regular_0 : List UInt8 := dkwX5_regular_0 ++ dktX5_regular_1
theorem dksX5_regular_0 : cX5_regular.data.toList.drop 0 = dktX5_regular_0 := by decide +kernel
theorem dksX5_regular_1 : cX5_regular.data.toList.drop 23 = dktX5_regular_1 := dk_seg dksX5_regular_0 23 rfl rfl
theorem dksX5_regular_2 : cX5_regular.data.toList.drop 45 = dktX5_regular_2 := dk_seg dksX5_regular_1 22 rfl rfl
theorem dksX5_regular_3 : cX5_regular.data.toList.drop 69 = dktX5_regular_3 := dk_seg dksX5_regular_2 24 rfl rfl
theorem dksX5_regular_4 : cX5_regular.data.toList.drop 93 = dktX5_regular_4 := dk_seg dksX5_regular_3 24 rfl rfl
theorem dksX5_regular_5 : cX5_regular.data.toList.drop 117 = dktX5_regular_5 := dk_seg dksX5_regular_4 24 rfl rfl
theorem dksX5_regular_6 : cX5_regular.data.toList.drop 141 = dktX5_regular_6 := dk_seg dksX5_regular_5 24 rfl rfl
theorem dX5_regular_0 : decode cX5_regular 0 = .ok (.aload_n 0, 1) := dk_42 (dk_at dksX5_regular_0 0 rfl rfl)
theorem dX5_regular_1 : decode cX5_regular 1 = .ok (.iload_n 1, 1) := dk_27 (dk_at dksX5_regular_0 1 rfl rfl)
theorem dX5_regular_2 : decode cX5_regular 2 = .ok (.iconst 0, 1) := dk_3 (dk_at dksX5_regular_0 2 rfl rfl)
theorem dX5_regular_3 : decode cX5_regular 3 = .ok (.bipush 63, 2) := dk_16 63 (dk_at dksX5_regular_0 3 rfl rfl)
theorem dX5_regular_5 : decode cX5_regular 5 = .ok (.invokestatic 180, 3) := dk_184 0 180 (dk_at dksX5_regular_0 5 rfl rfl)
theorem dX5_regular_8 : decode cX5_regular 8 = .ok (.ifCond .eq 7, 3) := dk_153 0 7 (dk_at dksX5_regular_0 8 rfl rfl)
theorem dX5_regular_11 : decode cX5_regular 11 = .ok (.iconst 0, 1) := dk_3 (dk_at dksX5_regular_0 11 rfl rfl)
theorem dX5_regular_12 : decode cX5_regular 12 = .ok (.goto 4, 3) := dk_167 0 4 (dk_at dksX5_regular_0 12 rfl rfl)
theorem dX5_regular_15 : decode cX5_regular 15 = .ok (.iconst 1, 1) := dk_4 (dk_at dksX5_regular_0 15 rfl rfl)
theorem dX5_regular_16 : decode cX5_regular 16 = .ok (.putfield 174, 3) := dk_181 0 174 (dk_at dksX5_regular_0 16 rfl rfl)
theorem dX5_regular_19 : decode cX5_regular 19 = .ok (.aload_n 0, 1) := dk_42 (dk_at dksX5_regular_0 19 rfl rfl)
theorem dX5_regular_20 : decode cX5_regular 20 = .ok (.getfield 174, 3) := dk_180 0 174 (dk_at dksX5_regular_0 20 rfl rfl)
theorem dX5_regular_23 : decode cX5_regular 23 = .ok (.ifCond .le 5, 3) := dk_158 0 5 (dk_at dksX5_regular_1 0 rfl rfl)
theorem dX5_regular_26 : decode cX5_regular 26 = .ok (.iconst 0, 1) := dk_3 (dk_at dksX5_regular_1 3 rfl rfl)
theorem dX5_regular_27 : decode cX5_regular 27 = .ok (.ireturn, 1) := dk_172 (dk_at dksX5_regular_1 4 rfl rfl)
theorem dX5_regular_28 : decode cX5_regular 28 = .ok (.aload_n 0, 1) := dk_42 (dk_at dksX5_regular_1 5 rfl rfl)
theorem dX5_regular_29 : decode cX5_regular 29 = .ok (.aload_n 0, 1) := dk_42 (dk_at dksX5_regular_1 6 rfl rfl)
theorem dX5_regular_30 : decode cX5_regular 30 = .ok (.iconst 0, 1) := dk_3 (dk_at dksX5_regular_1 7 rfl rfl)
theorem dX5_regular_31 : decode cX5_regular 31 = .ok (.invokevirtual 374, 3) := dk_182 1 118 (dk_at dksX5_regular_1 8 rfl rfl)
theorem dX5_regular_34 : decode cX5_regular 34 = .ok (.ifCond .eq 14, 3) := dk_153 0 14 (dk_at dksX5_regular_1 11 rfl rfl)
theorem dX5_regular_37 : decode cX5_regular 37 = .ok (.aload_n 0, 1) := dk_42 (dk_at dksX5_regular_1 14 rfl rfl)
theorem dX5_regular_38 : decode cX5_regular 38 = .ok (.invokevirtual 378, 3) := dk_182 1 122 (dk_at dksX5_regular_1 15 rfl rfl)
theorem dX5_regular_41 : decode cX5_regular 41 = .ok (.ifCond .eq 7, 3) := dk_153 0 7 (dk_at dksX5_regular_1 18 rfl rfl)
theorem dX5_regular_44 : decode cX5_regular 44 = .ok (.iconst 0, 1) := dk_3 (dk_at dksX5_regular_1 21 rfl rfl)
theorem dX5_regular_45 : decode cX5_regular 45 = .ok (.goto 4, 3) := dk_167 0 4 (dk_at dksX5_regular_2 0 rfl rfl)
theorem dX5_regular_48 : decode cX5_regular 48 = .ok (.iconst 2, 1) := dk_5 (dk_at dksX5_regular_2 3 rfl rfl)
theorem dX5_regular_49 : decode cX5_regular 49 = .ok (.putfield 174, 3) := dk_181 0 174 (dk_at dksX5_regular_2 4 rfl rfl)
theorem dX5_regular_52 : decode cX5_regular 52 = .ok (.aload_n 0, 1) := dk_42 (dk_at dksX5_regular_2 7 rfl rfl)
theorem dX5_regular_53 : decode cX5_regular 53 = .ok (.getfield 352, 3) := dk_180 1 96 (dk_at dksX5_regular_2 8 rfl rfl)
theorem dX5_regular_56 : decode cX5_regular 56 = .ok (.istore_n 2, 1) := dk_61 (dk_at dksX5_regular_2 11 rfl rfl)
theorem dX5_regular_57 : decode cX5_regular 57 = .ok (.aload_n 0, 1) := dk_42 (dk_at dksX5_regular_2 12 rfl rfl)
theorem dX5_regular_58 : decode cX5_regular 58 = .ok (.getfield 174, 3) := dk_180 0 174 (dk_at dksX5_regular_2 13 rfl rfl)
theorem dX5_regular_61 : decode cX5_regular 61 = .ok (.ifCond .ne 69, 3) := dk_154 0 69 (dk_at dksX5_regular_2 16 rfl rfl)
theorem dX5_regular_64 : decode cX5_regular 64 = .ok (.aload_n 0, 1) := dk_42 (dk_at dksX5_regular_2 19 rfl rfl)
theorem dX5_regular_65 : decode cX5_regular 65 = .ok (.iconst 0, 1) := dk_3 (dk_at dksX5_regular_2 20 rfl rfl)
theorem dX5_regular_66 : decode cX5_regular 66 = .ok (.invokevirtual 381, 3) := dk_182 1 125 (dk_at dksX5_regular_2 21 rfl rfl)
theorem dX5_regular_69 : decode cX5_regular 69 = .ok (.aload_n 0, 1) := dk_42 (dk_at dksX5_regular_3 0 rfl rfl)
theorem dX5_regular_70 : decode cX5_regular 70 = .ok (.getfield 53, 3) := dk_180 0 53 (dk_at dksX5_regular_3 1 rfl rfl)
theorem dX5_regular_73 : decode cX5_regular 73 = .ok (.aload_n 0, 1) := dk_42 (dk_at dksX5_regular_3 4 rfl rfl)
theorem dX5_regular_74 : decode cX5_regular 74 = .ok (.getfield 318, 3) := dk_180 1 62 (dk_at dksX5_regular_3 5 rfl rfl)
theorem dX5_regular_77 : decode cX5_regular 77 = .ok (.iload_n 1, 1) := dk_27 (dk_at dksX5_regular_3 8 rfl rfl)
theorem dX5_regular_78 : decode cX5_regular 78 = .ok (.iastore, 1) := dk_79 (dk_at dksX5_regular_3 9 rfl rfl)
theorem dX5_regular_79 : decode cX5_regular 79 = .ok (.aload_n 0, 1) := dk_42 (dk_at dksX5_regular_3 10 rfl rfl)
theorem dX5_regular_80 : decode cX5_regular 80 = .ok (.getfield 56, 3) := dk_180 0 56 (dk_at dksX5_regular_3 11 rfl rfl)
theorem dX5_regular_83 : decode cX5_regular 83 = .ok (.aload_n 0, 1) := dk_42 (dk_at dksX5_regular_3 14 rfl rfl)
theorem dX5_regular_84 : decode cX5_regular 84 = .ok (.getfield 318, 3) := dk_180 1 62 (dk_at dksX5_regular_3 15 rfl rfl)
theorem dX5_regular_87 : decode cX5_regular 87 = .ok (.aload_n 0, 1) := dk_42 (dk_at dksX5_regular_3 18 rfl rfl)
theorem dX5_regular_88 : decode cX5_regular 88 = .ok (.getfield 358, 3) := dk_180 1 102 (dk_at dksX5_regular_3 19 rfl rfl)
theorem dX5_regular_91 : decode cX5_regular 91 = .ok (.iastore, 1) := dk_79 (dk_at dksX5_regular_3 22 rfl rfl)
theorem dX5_regular_92 : decode cX5_regular 92 = .ok (.iconst 0, 1) := dk_3 (dk_at dksX5_regular_3 23 rfl rfl)
theorem dX5_regular_93 : decode cX5_regular 93 = .ok (.istore_n 3, 1) := dk_62 (dk_at dksX5_regular_4 0 rfl rfl)
theorem dX5_regular_94 : decode cX5_regular 94 = .ok (.iload_n 3, 1) := dk_29 (dk_at dksX5_regular_4 1 rfl rfl)
theorem dX5_regular_95 : decode cX5_regular 95 = .ok (.iconst 3, 1) := dk_6 (dk_at dksX5_regular_4 2 rfl rfl)
theorem dX5_regular_96 : decode cX5_regular 96 = .ok (.aload_n 0, 1) := dk_42 (dk_at dksX5_regular_4 3 rfl rfl)
theorem dX5_regular_97 : decode cX5_regular 97 = .ok (.getfield 358, 3) := dk_180 1 102 (dk_at dksX5_regular_4 4 rfl rfl)
theorem dX5_regular_100 : decode cX5_regular 100 = .ok (.imul, 1) := dk_104 (dk_at dksX5_regular_4 7 rfl rfl)
theorem dX5_regular_101 : decode cX5_regular 101 = .ok (.if_icmp .ge 29, 3) := dk_162 0 29 (dk_at dksX5_regular_4 8 rfl rfl)
theorem dX5_regular_104 : decode cX5_regular 104 = .ok (.aload_n 0, 1) := dk_42 (dk_at dksX5_regular_4 11 rfl rfl)
theorem dX5_regular_105 : decode cX5_regular 105 = .ok (.getfield 59, 3) := dk_180 0 59 (dk_at dksX5_regular_4 12 rfl rfl)
theorem dX5_regular_108 : decode cX5_regular 108 = .ok (.bipush 48, 2) := dk_16 48 (dk_at dksX5_regular_4 15 rfl rfl)
theorem dX5_regular_110 : decode cX5_regular 110 = .ok (.aload_n 0, 1) := dk_42 (dk_at dksX5_regular_4 17 rfl rfl)
theorem dX5_regular_111 : decode cX5_regular 111 = .ok (.getfield 318, 3) := dk_180 1 62 (dk_at dksX5_regular_4 18 rfl rfl)
theorem dX5_regular_114 : decode cX5_regular 114 = .ok (.imul, 1) := dk_104 (dk_at dksX5_regular_4 21 rfl rfl)
theorem dX5_regular_115 : decode cX5_regular 115 = .ok (.iload_n 3, 1) := dk_29 (dk_at dksX5_regular_4 22 rfl rfl)
theorem dX5_regular_116 : decode cX5_regular 116 = .ok (.iadd, 1) := dk_96 (dk_at dksX5_regular_4 23 rfl rfl)
theorem dX5_regular_117 : decode cX5_regular 117 = .ok (.aload_n 0, 1) := dk_42 (dk_at dksX5_regular_5 0 rfl rfl)
theorem dX5_regular_118 : decode cX5_regular 118 = .ok (.getfield 28, 3) := dk_180 0 28 (dk_at dksX5_regular_5 1 rfl rfl)
theorem dX5_regular_121 : decode cX5_regular 121 = .ok (.iload_n 3, 1) := dk_29 (dk_at dksX5_regular_5 4 rfl rfl)
theorem dX5_regular_122 : decode cX5_regular 122 = .ok (.iaload, 1) := dk_46 (dk_at dksX5_regular_5 5 rfl rfl)
theorem dX5_regular_123 : decode cX5_regular 123 = .ok (.iastore, 1) := dk_79 (dk_at dksX5_regular_5 6 rfl rfl)
theorem dX5_regular_124 : decode cX5_regular 124 = .ok (.iinc 3 1, 3) := dk_132 3 1 (dk_at dksX5_regular_5 7 rfl rfl)
theorem dX5_regular_127 : decode cX5_regular 127 = .ok (.goto (-33), 3) := dk_167 255 223 (dk_at dksX5_regular_5 10 rfl rfl)
theorem dX5_regular_130 : decode cX5_regular 130 = .ok (.aload_n 0, 1) := dk_42 (dk_at dksX5_regular_5 13 rfl rfl)
theorem dX5_regular_131 : decode cX5_regular 131 = .ok (.iconst 0, 1) := dk_3 (dk_at dksX5_regular_5 14 rfl rfl)
theorem dX5_regular_132 : decode cX5_regular 132 = .ok (.putfield 352, 3) := dk_181 1 96 (dk_at dksX5_regular_5 15 rfl rfl)
theorem dX5_regular_135 : decode cX5_regular 135 = .ok (.aload_n 0, 1) := dk_42 (dk_at dksX5_regular_5 18 rfl rfl)
theorem dX5_regular_136 : decode cX5_regular 136 = .ok (.iconst 0, 1) := dk_3 (dk_at dksX5_regular_5 19 rfl rfl)
theorem dX5_regular_137 : decode cX5_regular 137 = .ok (.putfield 358, 3) := dk_181 1 102 (dk_at dksX5_regular_5 20 rfl rfl)
theorem dX5_regular_140 : decode cX5_regular 140 = .ok (.aload_n 0, 1) := dk_42 (dk_at dksX5_regular_5 23 rfl rfl)
theorem dX5_regular_141 : decode cX5_regular 141 = .ok (.getfield 174, 3) := dk_180 0 174 (dk_at dksX5_regular_6 0 rfl rfl)
theorem dX5_regular_144 : decode cX5_regular 144 = .ok (.ifCond .le 7, 3) := dk_158 0 7 (dk_at dksX5_regular_6 3 rfl rfl)
theorem dX5_regular_147 : decode cX5_regular 147 = .ok (.iconst 0, 1) := dk_3 (dk_at dksX5_regular_6 6 rfl rfl)
theorem dX5_regular_148 : decode cX5_regular 148 = .ok (.goto 9, 3) := dk_167 0 9 (dk_at dksX5_regular_6 7 rfl rfl)
theorem dX5_regular_151 : decode cX5_regular 151 = .ok (.aload_n 0, 1) := dk_42 (dk_at dksX5_regular_6 10 rfl rfl)
theorem dX5_regular_152 : decode cX5_regular 152 = .ok (.iconst 3, 1) := dk_6 (dk_at dksX5_regular_6 11 rfl rfl)
theorem dX5_regular_153 : decode cX5_regular 153 = .ok (.iload_n 2, 1) := dk_28 (dk_at dksX5_regular_6 12 rfl rfl)
theorem dX5_regular_154 : decode cX5_regular 154 = .ok (.invokevirtual 384, 3) := dk_182 1 128 (dk_at dksX5_regular_6 13 rfl rfl)
theorem dX5_regular_157 : decode cX5_regular 157 = .ok (.ireturn, 1) := dk_172 (dk_at dksX5_regular_6 16 rfl rfl)
def dkwX5_element_5 : List UInt8 := [181, 1, 96, 42, 180, 0, 174, 158, 0, 7, 3, 167, 0, 11, 42, 7, 29, 5, 96, 182, 1, 128, 172]
abbrev dktX5_element_5 : List UInt8 := dkwX5_element_5 ++ []
def dkwX5_element_4 : List UInt8 := [154, 0, 20, 42, 3, 27, 182, 1, 114, 42, 4, 28, 182, 1, 114, 42, 5, 182, 1, 125, 42, 3]
abbrev dktX5_element_4 : List UInt8 := dkwX5_element_4 ++ dktX5_element_5
def dkwX5_element_3 : List UInt8 := [182, 1, 122, 153, 0, 7, 3, 167, 0, 4, 6, 181, 0, 174, 42, 180, 1, 96, 62, 42, 180, 0, 174]
abbrev dktX5_element_3 : List UInt8 := dkwX5_element_3 ++ dktX5_element_4
def dkwX5_element_2 : List UInt8 := [181, 0, 174, 42, 180, 0, 174, 158, 0, 5, 3, 172, 42, 42, 3, 182, 1, 118, 153, 0, 14, 42]
abbrev dktX5_element_2 : List UInt8 := dkwX5_element_2 ++ dktX5_element_3
def dkwX5_element_1 : List UInt8 := [180, 0, 7, 27, 46, 154, 0, 12, 42, 180, 0, 7, 28, 46, 153, 0, 7, 5, 167, 0, 4, 3]
abbrev dktX5_element_1 : List UInt8 := dkwX5_element_1 ++ dktX5_element_2
def dkwX5_element_0 : List UInt8 := [42, 42, 27, 182, 1, 93, 153, 0, 11, 42, 28, 182, 1, 93, 154, 0, 7, 4, 167, 0, 26, 42]
abbrev dktX5_element_0 : List UInt8 := dkwX5_element_0 ++ dktX5_element_1
theorem dksX5_element_0 : cX5_element.data.toList.drop 0 = dktX5_element_0 := by decide +kernel
theorem dksX5_element_1 : cX5_element.data.toList.drop 22 = dktX5_element_1 := dk_seg dksX5_element_0 22 rfl rfl
theorem dksX5_element_2 : cX5_element.data.toList.drop 44 = dktX5_element_2 := dk_seg dksX5_element_1 22 rfl rfl
theorem dksX5_element_3 : cX5_element.data.toList.drop 66 = dktX5_element_3 := dk_seg dksX5_element_2 22 rfl rfl
theorem dksX5_element_4 : cX5_element.data.toList.drop 89 = dktX5_element_4 := dk_seg dksX5_element_3 23 rfl rfl
theorem dksX5_element_5 : cX5_element.data.toList.drop 111 = dktX5_element_5 := dk_seg dksX5_element_4 22 rfl rfl
theorem dX5_element_0 : decode cX5_element 0 = .ok (.aload_n 0, 1) := dk_42 (dk_at dksX5_element_0 0 rfl rfl)
theorem dX5_element_1 : decode cX5_element 1 = .ok (.aload_n 0, 1) := dk_42 (dk_at dksX5_element_0 1 rfl rfl)
theorem dX5_element_2 : decode cX5_element 2 = .ok (.iload_n 1, 1) := dk_27 (dk_at dksX5_element_0 2 rfl rfl)
theorem dX5_element_3 : decode cX5_element 3 = .ok (.invokevirtual 349, 3) := dk_182 1 93 (dk_at dksX5_element_0 3 rfl rfl)
theorem dX5_element_6 : decode cX5_element 6 = .ok (.ifCond .eq 11, 3) := dk_153 0 11 (dk_at dksX5_element_0 6 rfl rfl)
theorem dX5_element_9 : decode cX5_element 9 = .ok (.aload_n 0, 1) := dk_42 (dk_at dksX5_element_0 9 rfl rfl)
theorem dX5_element_10 : decode cX5_element 10 = .ok (.iload_n 2, 1) := dk_28 (dk_at dksX5_element_0 10 rfl rfl)
theorem dX5_element_11 : decode cX5_element 11 = .ok (.invokevirtual 349, 3) := dk_182 1 93 (dk_at dksX5_element_0 11 rfl rfl)
theorem dX5_element_14 : decode cX5_element 14 = .ok (.ifCond .ne 7, 3) := dk_154 0 7 (dk_at dksX5_element_0 14 rfl rfl)
theorem dX5_element_17 : decode cX5_element 17 = .ok (.iconst 1, 1) := dk_4 (dk_at dksX5_element_0 17 rfl rfl)
theorem dX5_element_18 : decode cX5_element 18 = .ok (.goto 26, 3) := dk_167 0 26 (dk_at dksX5_element_0 18 rfl rfl)
theorem dX5_element_21 : decode cX5_element 21 = .ok (.aload_n 0, 1) := dk_42 (dk_at dksX5_element_0 21 rfl rfl)
theorem dX5_element_22 : decode cX5_element 22 = .ok (.getfield 7, 3) := dk_180 0 7 (dk_at dksX5_element_1 0 rfl rfl)
theorem dX5_element_25 : decode cX5_element 25 = .ok (.iload_n 1, 1) := dk_27 (dk_at dksX5_element_1 3 rfl rfl)
theorem dX5_element_26 : decode cX5_element 26 = .ok (.iaload, 1) := dk_46 (dk_at dksX5_element_1 4 rfl rfl)
theorem dX5_element_27 : decode cX5_element 27 = .ok (.ifCond .ne 12, 3) := dk_154 0 12 (dk_at dksX5_element_1 5 rfl rfl)
theorem dX5_element_30 : decode cX5_element 30 = .ok (.aload_n 0, 1) := dk_42 (dk_at dksX5_element_1 8 rfl rfl)
theorem dX5_element_31 : decode cX5_element 31 = .ok (.getfield 7, 3) := dk_180 0 7 (dk_at dksX5_element_1 9 rfl rfl)
theorem dX5_element_34 : decode cX5_element 34 = .ok (.iload_n 2, 1) := dk_28 (dk_at dksX5_element_1 12 rfl rfl)
theorem dX5_element_35 : decode cX5_element 35 = .ok (.iaload, 1) := dk_46 (dk_at dksX5_element_1 13 rfl rfl)
theorem dX5_element_36 : decode cX5_element 36 = .ok (.ifCond .eq 7, 3) := dk_153 0 7 (dk_at dksX5_element_1 14 rfl rfl)
theorem dX5_element_39 : decode cX5_element 39 = .ok (.iconst 2, 1) := dk_5 (dk_at dksX5_element_1 17 rfl rfl)
theorem dX5_element_40 : decode cX5_element 40 = .ok (.goto 4, 3) := dk_167 0 4 (dk_at dksX5_element_1 18 rfl rfl)
theorem dX5_element_43 : decode cX5_element 43 = .ok (.iconst 0, 1) := dk_3 (dk_at dksX5_element_1 21 rfl rfl)
theorem dX5_element_44 : decode cX5_element 44 = .ok (.putfield 174, 3) := dk_181 0 174 (dk_at dksX5_element_2 0 rfl rfl)
theorem dX5_element_47 : decode cX5_element 47 = .ok (.aload_n 0, 1) := dk_42 (dk_at dksX5_element_2 3 rfl rfl)
theorem dX5_element_48 : decode cX5_element 48 = .ok (.getfield 174, 3) := dk_180 0 174 (dk_at dksX5_element_2 4 rfl rfl)
theorem dX5_element_51 : decode cX5_element 51 = .ok (.ifCond .le 5, 3) := dk_158 0 5 (dk_at dksX5_element_2 7 rfl rfl)
theorem dX5_element_54 : decode cX5_element 54 = .ok (.iconst 0, 1) := dk_3 (dk_at dksX5_element_2 10 rfl rfl)
theorem dX5_element_55 : decode cX5_element 55 = .ok (.ireturn, 1) := dk_172 (dk_at dksX5_element_2 11 rfl rfl)
theorem dX5_element_56 : decode cX5_element 56 = .ok (.aload_n 0, 1) := dk_42 (dk_at dksX5_element_2 12 rfl rfl)
theorem dX5_element_57 : decode cX5_element 57 = .ok (.aload_n 0, 1) := dk_42 (dk_at dksX5_element_2 13 rfl rfl)
theorem dX5_element_58 : decode cX5_element 58 = .ok (.iconst 0, 1) := dk_3 (dk_at dksX5_element_2 14 rfl rfl)
theorem dX5_element_59 : decode cX5_element 59 = .ok (.invokevirtual 374, 3) := dk_182 1 118 (dk_at dksX5_element_2 15 rfl rfl)
theorem dX5_element_62 : decode cX5_element 62 = .ok (.ifCond .eq 14, 3) := dk_153 0 14 (dk_at dksX5_element_2 18 rfl rfl)
theorem dX5_element_65 : decode cX5_element 65 = .ok (.aload_n 0, 1) := dk_42 (dk_at dksX5_element_2 21 rfl rfl)
theorem dX5_element_66 : decode cX5_element 66 = .ok (.invokevirtual 378, 3) := dk_182 1 122 (dk_at dksX5_element_3 0 rfl rfl)
theorem dX5_element_69 : decode cX5_element 69 = .ok (.ifCond .eq 7, 3) := dk_153 0 7 (dk_at dksX5_element_3 3 rfl rfl)
theorem dX5_element_72 : decode cX5_element 72 = .ok (.iconst 0, 1) := dk_3 (dk_at dksX5_element_3 6 rfl rfl)
theorem dX5_element_73 : decode cX5_element 73 = .ok (.goto 4, 3) := dk_167 0 4 (dk_at dksX5_element_3 7 rfl rfl)
theorem dX5_element_76 : decode cX5_element 76 = .ok (.iconst 3, 1) := dk_6 (dk_at dksX5_element_3 10 rfl rfl)
theorem dX5_element_77 : decode cX5_element 77 = .ok (.putfield 174, 3) := dk_181 0 174 (dk_at dksX5_element_3 11 rfl rfl)
theorem dX5_element_80 : decode cX5_element 80 = .ok (.aload_n 0, 1) := dk_42 (dk_at dksX5_element_3 14 rfl rfl)
theorem dX5_element_81 : decode cX5_element 81 = .ok (.getfield 352, 3) := dk_180 1 96 (dk_at dksX5_element_3 15 rfl rfl)
theorem dX5_element_84 : decode cX5_element 84 = .ok (.istore_n 3, 1) := dk_62 (dk_at dksX5_element_3 18 rfl rfl)
theorem dX5_element_85 : decode cX5_element 85 = .ok (.aload_n 0, 1) := dk_42 (dk_at dksX5_element_3 19 rfl rfl)
theorem dX5_element_86 : decode cX5_element 86 = .ok (.getfield 174, 3) := dk_180 0 174 (dk_at dksX5_element_3 20 rfl rfl)
theorem dX5_element_89 : decode cX5_element 89 = .ok (.ifCond .ne 20, 3) := dk_154 0 20 (dk_at dksX5_element_4 0 rfl rfl)
theorem dX5_element_92 : decode cX5_element 92 = .ok (.aload_n 0, 1) := dk_42 (dk_at dksX5_element_4 3 rfl rfl)
theorem dX5_element_93 : decode cX5_element 93 = .ok (.iconst 0, 1) := dk_3 (dk_at dksX5_element_4 4 rfl rfl)
theorem dX5_element_94 : decode cX5_element 94 = .ok (.iload_n 1, 1) := dk_27 (dk_at dksX5_element_4 5 rfl rfl)
theorem dX5_element_95 : decode cX5_element 95 = .ok (.invokevirtual 370, 3) := dk_182 1 114 (dk_at dksX5_element_4 6 rfl rfl)
theorem dX5_element_98 : decode cX5_element 98 = .ok (.aload_n 0, 1) := dk_42 (dk_at dksX5_element_4 9 rfl rfl)
theorem dX5_element_99 : decode cX5_element 99 = .ok (.iconst 1, 1) := dk_4 (dk_at dksX5_element_4 10 rfl rfl)
theorem dX5_element_100 : decode cX5_element 100 = .ok (.iload_n 2, 1) := dk_28 (dk_at dksX5_element_4 11 rfl rfl)
theorem dX5_element_101 : decode cX5_element 101 = .ok (.invokevirtual 370, 3) := dk_182 1 114 (dk_at dksX5_element_4 12 rfl rfl)
theorem dX5_element_104 : decode cX5_element 104 = .ok (.aload_n 0, 1) := dk_42 (dk_at dksX5_element_4 15 rfl rfl)
theorem dX5_element_105 : decode cX5_element 105 = .ok (.iconst 2, 1) := dk_5 (dk_at dksX5_element_4 16 rfl rfl)
theorem dX5_element_106 : decode cX5_element 106 = .ok (.invokevirtual 381, 3) := dk_182 1 125 (dk_at dksX5_element_4 17 rfl rfl)
theorem dX5_element_109 : decode cX5_element 109 = .ok (.aload_n 0, 1) := dk_42 (dk_at dksX5_element_4 20 rfl rfl)
theorem dX5_element_110 : decode cX5_element 110 = .ok (.iconst 0, 1) := dk_3 (dk_at dksX5_element_4 21 rfl rfl)
theorem dX5_element_111 : decode cX5_element 111 = .ok (.putfield 352, 3) := dk_181 1 96 (dk_at dksX5_element_5 0 rfl rfl)
theorem dX5_element_114 : decode cX5_element 114 = .ok (.aload_n 0, 1) := dk_42 (dk_at dksX5_element_5 3 rfl rfl)
theorem dX5_element_115 : decode cX5_element 115 = .ok (.getfield 174, 3) := dk_180 0 174 (dk_at dksX5_element_5 4 rfl rfl)
theorem dX5_element_118 : decode cX5_element 118 = .ok (.ifCond .le 7, 3) := dk_158 0 7 (dk_at dksX5_element_5 7 rfl rfl)
theorem dX5_element_121 : decode cX5_element 121 = .ok (.iconst 0, 1) := dk_3 (dk_at dksX5_element_5 10 rfl rfl)
theorem dX5_element_122 : decode cX5_element 122 = .ok (.goto 11, 3) := dk_167 0 11 (dk_at dksX5_element_5 11 rfl rfl)
theorem dX5_element_125 : decode cX5_element 125 = .ok (.aload_n 0, 1) := dk_42 (dk_at dksX5_element_5 14 rfl rfl)
theorem dX5_element_126 : decode cX5_element 126 = .ok (.iconst 4, 1) := dk_7 (dk_at dksX5_element_5 15 rfl rfl)
theorem dX5_element_127 : decode cX5_element 127 = .ok (.iload_n 3, 1) := dk_29 (dk_at dksX5_element_5 16 rfl rfl)
theorem dX5_element_128 : decode cX5_element 128 = .ok (.iconst 2, 1) := dk_5 (dk_at dksX5_element_5 17 rfl rfl)
theorem dX5_element_129 : decode cX5_element 129 = .ok (.iadd, 1) := dk_96 (dk_at dksX5_element_5 18 rfl rfl)
theorem dX5_element_130 : decode cX5_element 130 = .ok (.invokevirtual 384, 3) := dk_182 1 128 (dk_at dksX5_element_5 19 rfl rfl)
theorem dX5_element_133 : decode cX5_element 133 = .ok (.ireturn, 1) := dk_172 (dk_at dksX5_element_5 22 rfl rfl)
def dkwX5_when_1 : List UInt8 := [182, 1, 137, 172]
abbrev dktX5_when_1 : List UInt8 := dkwX5_when_1 ++ []
def dkwX5_when_0 : List UInt8 := [42, 21, 4, 153, 0, 8, 16, 7, 167, 0, 5, 16, 8, 27, 28, 29, 184, 1, 134, 3, 3, 3]
abbrev dktX5_when_0 : List UInt8 := dkwX5_when_0 ++ dktX5_when_1
theorem dksX5_when_0 : cX5_when.data.toList.drop 0 = dktX5_when_0 := by decide +kernel
theorem dksX5_when_1 : cX5_when.data.toList.drop 22 = dktX5_when_1 := dk_seg dksX5_when_0 22 rfl rfl
theorem dX5_when_0 : decode cX5_when 0 = .ok (.aload_n 0, 1) := dk_42 (dk_at dksX5_when_0 0 rfl rfl)
theorem dX5_when_1 : decode cX5_when 1 = .ok (.iload 4, 2) := dk_21 4 (dk_at dksX5_when_0 1 rfl rfl)
theorem dX5_when_3 : decode cX5_when 3 = .ok (.ifCond .eq 8, 3) := dk_153 0 8 (dk_at dksX5_when_0 3 rfl rfl)
theorem dX5_when_6 : decode cX5_when 6 = .ok (.bipush 7, 2) := dk_16 7 (dk_at dksX5_when_0 6 rfl rfl)
theorem dX5_when_8 : decode cX5_when 8 = .ok (.goto 5, 3) := dk_167 0 5 (dk_at dksX5_when_0 8 rfl rfl)
theorem dX5_when_11 : decode cX5_when 11 = .ok (.bipush 8, 2) := dk_16 8 (dk_at dksX5_when_0 11 rfl rfl)
theorem dX5_when_13 : decode cX5_when 13 = .ok (.iload_n 1, 1) := dk_27 (dk_at dksX5_when_0 13 rfl rfl)
theorem dX5_when_14 : decode cX5_when 14 = .ok (.iload_n 2, 1) := dk_28 (dk_at dksX5_when_0 14 rfl rfl)
theorem dX5_when_15 : decode cX5_when 15 = .ok (.iload_n 3, 1) := dk_29 (dk_at dksX5_when_0 15 rfl rfl)
theorem dX5_when_16 : decode cX5_when 16 = .ok (.invokestatic 390, 3) := dk_184 1 134 (dk_at dksX5_when_0 16 rfl rfl)
theorem dX5_when_19 : decode cX5_when 19 = .ok (.iconst 0, 1) := dk_3 (dk_at dksX5_when_0 19 rfl rfl)
theorem dX5_when_20 : decode cX5_when 20 = .ok (.iconst 0, 1) := dk_3 (dk_at dksX5_when_0 20 rfl rfl)
theorem dX5_when_21 : decode cX5_when 21 = .ok (.iconst 0, 1) := dk_3 (dk_at dksX5_when_0 21 rfl rfl)
theorem dX5_when_22 : decode cX5_when 22 = .ok (.invokevirtual 393, 3) := dk_182 1 137 (dk_at dksX5_when_1 0 rfl rfl)
theorem dX5_when_25 : decode cX5_when 25 = .ok (.ireturn, 1) := dk_172 (dk_at dksX5_when_1 3 rfl rfl)
def dkwX5_third_0 : List UInt8 := [26, 16, 254, 160, 0, 7, 2, 167, 0, 4, 26, 172]
abbrev dktX5_third_0 : List UInt8 := dkwX5_third_0 ++ []
theorem dksX5_third_0 : cX5_third.data.toList.drop 0 = dktX5_third_0 := by decide +kernel
theorem dX5_third_0 : decode cX5_third 0 = .ok (.iload_n 0, 1) := dk_26 (dk_at dksX5_third_0 0 rfl rfl)
theorem dX5_third_1 : decode cX5_third 1 = .ok (.bipush (-2), 2) := dk_16 254 (dk_at dksX5_third_0 1 rfl rfl)
theorem dX5_third_3 : decode cX5_third 3 = .ok (.if_icmp .ne 7, 3) := dk_160 0 7 (dk_at dksX5_third_0 3 rfl rfl)
theorem dX5_third_6 : decode cX5_third 6 = .ok (.iconst (-1), 1) := dk_2 (dk_at dksX5_third_0 6 rfl rfl)
theorem dX5_third_7 : decode cX5_third 7 = .ok (.goto 4, 3) := dk_167 0 4 (dk_at dksX5_third_0 7 rfl rfl)
theorem dX5_third_10 : decode cX5_third 10 = .ok (.iload_n 0, 1) := dk_26 (dk_at dksX5_third_0 10 rfl rfl)
theorem dX5_third_11 : decode cX5_third 11 = .ok (.ireturn, 1) := dk_172 (dk_at dksX5_third_0 11 rfl rfl)
def dkwX5_of_7 : List UInt8 := [42, 27, 21, 8, 153, 0, 7, 5, 167, 0, 4, 6, 182, 1, 128, 172]
abbrev dktX5_of_7 : List UInt8 := dkwX5_of_7 ++ []
def dkwX5_of_6 : List UInt8 := [158, 0, 5, 3, 172, 42, 3, 28, 182, 1, 114, 42, 4, 29, 182, 1, 114, 42, 5, 21, 4, 182, 1, 114]
abbrev dktX5_of_6 : List UInt8 := dkwX5_of_6 ++ dktX5_of_7
def dkwX5_of_5 : List UInt8 := [167, 0, 15, 42, 182, 1, 122, 153, 0, 7, 3, 167, 0, 4, 6, 181, 0, 174, 42, 180, 0, 174]
abbrev dktX5_of_5 : List UInt8 := dkwX5_of_5 ++ dktX5_of_6
def dkwX5_of_4 : List UInt8 := [21, 4, 46, 21, 7, 160, 0, 7, 4, 167, 0, 4, 3, 54, 9, 42, 21, 9, 154, 0, 7, 5]
abbrev dktX5_of_4 : List UInt8 := dkwX5_of_4 ++ dktX5_of_5
def dkwX5_of_3 : List UInt8 := [160, 0, 35, 42, 180, 0, 7, 29, 46, 21, 6, 160, 0, 24, 21, 8, 154, 0, 15, 42, 180, 0, 7]
abbrev dktX5_of_3 : List UInt8 := dkwX5_of_3 ++ dktX5_of_4
def dkwX5_of_2 : List UInt8 := [167, 0, 4, 4, 181, 0, 174, 42, 180, 0, 174, 158, 0, 5, 3, 172, 42, 180, 0, 7, 28, 46, 21, 5]
abbrev dktX5_of_2 : List UInt8 := dkwX5_of_2 ++ dktX5_of_3
def dkwX5_of_1 : List UInt8 := [29, 182, 1, 93, 153, 0, 21, 21, 8, 154, 0, 12, 42, 21, 4, 182, 1, 93, 153, 0, 7, 3]
abbrev dktX5_of_1 : List UInt8 := dkwX5_of_1 ++ dktX5_of_2
def dkwX5_of_0 : List UInt8 := [21, 4, 16, 254, 160, 0, 7, 4, 167, 0, 4, 3, 54, 8, 42, 42, 28, 182, 1, 93, 153, 0, 29, 42]
abbrev dktX5_of_0 : List UInt8 := dkwX5_of_0 ++ dktX5_of_1
theorem dksX5_of_0 : cX5_of.data.toList.drop 0 = dktX5_of_0 := by decide +kernel
theorem dksX5_of_1 : cX5_of.data.toList.drop 24 = dktX5_of_1 := dk_seg dksX5_of_0 24 rfl rfl
theorem dksX5_of_2 : cX5_of.data.toList.drop 46 = dktX5_of_2 := dk_seg dksX5_of_1 22 rfl rfl
theorem dksX5_of_3 : cX5_of.data.toList.drop 70 = dktX5_of_3 := dk_seg dksX5_of_2 24 rfl rfl
theorem dksX5_of_4 : cX5_of.data.toList.drop 93 = dktX5_of_4 := dk_seg dksX5_of_3 23 rfl rfl
theorem dksX5_of_5 : cX5_of.data.toList.drop 115 = dktX5_of_5 := dk_seg dksX5_of_4 22 rfl rfl
theorem dksX5_of_6 : cX5_of.data.toList.drop 137 = dktX5_of_6 := dk_seg dksX5_of_5 22 rfl rfl
theorem dksX5_of_7 : cX5_of.data.toList.drop 161 = dktX5_of_7 := dk_seg dksX5_of_6 24 rfl rfl
theorem dX5_of_0 : decode cX5_of 0 = .ok (.iload 4, 2) := dk_21 4 (dk_at dksX5_of_0 0 rfl rfl)
theorem dX5_of_2 : decode cX5_of 2 = .ok (.bipush (-2), 2) := dk_16 254 (dk_at dksX5_of_0 2 rfl rfl)
theorem dX5_of_4 : decode cX5_of 4 = .ok (.if_icmp .ne 7, 3) := dk_160 0 7 (dk_at dksX5_of_0 4 rfl rfl)
theorem dX5_of_7 : decode cX5_of 7 = .ok (.iconst 1, 1) := dk_4 (dk_at dksX5_of_0 7 rfl rfl)
theorem dX5_of_8 : decode cX5_of 8 = .ok (.goto 4, 3) := dk_167 0 4 (dk_at dksX5_of_0 8 rfl rfl)
theorem dX5_of_11 : decode cX5_of 11 = .ok (.iconst 0, 1) := dk_3 (dk_at dksX5_of_0 11 rfl rfl)
theorem dX5_of_12 : decode cX5_of 12 = .ok (.istore 8, 2) := dk_54 8 (dk_at dksX5_of_0 12 rfl rfl)
theorem dX5_of_14 : decode cX5_of 14 = .ok (.aload_n 0, 1) := dk_42 (dk_at dksX5_of_0 14 rfl rfl)
theorem dX5_of_15 : decode cX5_of 15 = .ok (.aload_n 0, 1) := dk_42 (dk_at dksX5_of_0 15 rfl rfl)
theorem dX5_of_16 : decode cX5_of 16 = .ok (.iload_n 2, 1) := dk_28 (dk_at dksX5_of_0 16 rfl rfl)
theorem dX5_of_17 : decode cX5_of 17 = .ok (.invokevirtual 349, 3) := dk_182 1 93 (dk_at dksX5_of_0 17 rfl rfl)
theorem dX5_of_20 : decode cX5_of 20 = .ok (.ifCond .eq 29, 3) := dk_153 0 29 (dk_at dksX5_of_0 20 rfl rfl)
theorem dX5_of_23 : decode cX5_of 23 = .ok (.aload_n 0, 1) := dk_42 (dk_at dksX5_of_0 23 rfl rfl)
theorem dX5_of_24 : decode cX5_of 24 = .ok (.iload_n 3, 1) := dk_29 (dk_at dksX5_of_1 0 rfl rfl)
theorem dX5_of_25 : decode cX5_of 25 = .ok (.invokevirtual 349, 3) := dk_182 1 93 (dk_at dksX5_of_1 1 rfl rfl)
theorem dX5_of_28 : decode cX5_of 28 = .ok (.ifCond .eq 21, 3) := dk_153 0 21 (dk_at dksX5_of_1 4 rfl rfl)
theorem dX5_of_31 : decode cX5_of 31 = .ok (.iload 8, 2) := dk_21 8 (dk_at dksX5_of_1 7 rfl rfl)
theorem dX5_of_33 : decode cX5_of 33 = .ok (.ifCond .ne 12, 3) := dk_154 0 12 (dk_at dksX5_of_1 9 rfl rfl)
theorem dX5_of_36 : decode cX5_of 36 = .ok (.aload_n 0, 1) := dk_42 (dk_at dksX5_of_1 12 rfl rfl)
theorem dX5_of_37 : decode cX5_of 37 = .ok (.iload 4, 2) := dk_21 4 (dk_at dksX5_of_1 13 rfl rfl)
theorem dX5_of_39 : decode cX5_of 39 = .ok (.invokevirtual 349, 3) := dk_182 1 93 (dk_at dksX5_of_1 15 rfl rfl)
theorem dX5_of_42 : decode cX5_of 42 = .ok (.ifCond .eq 7, 3) := dk_153 0 7 (dk_at dksX5_of_1 18 rfl rfl)
theorem dX5_of_45 : decode cX5_of 45 = .ok (.iconst 0, 1) := dk_3 (dk_at dksX5_of_1 21 rfl rfl)
theorem dX5_of_46 : decode cX5_of 46 = .ok (.goto 4, 3) := dk_167 0 4 (dk_at dksX5_of_2 0 rfl rfl)
theorem dX5_of_49 : decode cX5_of 49 = .ok (.iconst 1, 1) := dk_4 (dk_at dksX5_of_2 3 rfl rfl)
theorem dX5_of_50 : decode cX5_of 50 = .ok (.putfield 174, 3) := dk_181 0 174 (dk_at dksX5_of_2 4 rfl rfl)
theorem dX5_of_53 : decode cX5_of 53 = .ok (.aload_n 0, 1) := dk_42 (dk_at dksX5_of_2 7 rfl rfl)
theorem dX5_of_54 : decode cX5_of 54 = .ok (.getfield 174, 3) := dk_180 0 174 (dk_at dksX5_of_2 8 rfl rfl)
theorem dX5_of_57 : decode cX5_of 57 = .ok (.ifCond .le 5, 3) := dk_158 0 5 (dk_at dksX5_of_2 11 rfl rfl)
theorem dX5_of_60 : decode cX5_of 60 = .ok (.iconst 0, 1) := dk_3 (dk_at dksX5_of_2 14 rfl rfl)
theorem dX5_of_61 : decode cX5_of 61 = .ok (.ireturn, 1) := dk_172 (dk_at dksX5_of_2 15 rfl rfl)
theorem dX5_of_62 : decode cX5_of 62 = .ok (.aload_n 0, 1) := dk_42 (dk_at dksX5_of_2 16 rfl rfl)
theorem dX5_of_63 : decode cX5_of 63 = .ok (.getfield 7, 3) := dk_180 0 7 (dk_at dksX5_of_2 17 rfl rfl)
theorem dX5_of_66 : decode cX5_of 66 = .ok (.iload_n 2, 1) := dk_28 (dk_at dksX5_of_2 20 rfl rfl)
theorem dX5_of_67 : decode cX5_of 67 = .ok (.iaload, 1) := dk_46 (dk_at dksX5_of_2 21 rfl rfl)
theorem dX5_of_68 : decode cX5_of 68 = .ok (.iload 5, 2) := dk_21 5 (dk_at dksX5_of_2 22 rfl rfl)
theorem dX5_of_70 : decode cX5_of 70 = .ok (.if_icmp .ne 35, 3) := dk_160 0 35 (dk_at dksX5_of_3 0 rfl rfl)
theorem dX5_of_73 : decode cX5_of 73 = .ok (.aload_n 0, 1) := dk_42 (dk_at dksX5_of_3 3 rfl rfl)
theorem dX5_of_74 : decode cX5_of 74 = .ok (.getfield 7, 3) := dk_180 0 7 (dk_at dksX5_of_3 4 rfl rfl)
theorem dX5_of_77 : decode cX5_of 77 = .ok (.iload_n 3, 1) := dk_29 (dk_at dksX5_of_3 7 rfl rfl)
theorem dX5_of_78 : decode cX5_of 78 = .ok (.iaload, 1) := dk_46 (dk_at dksX5_of_3 8 rfl rfl)
theorem dX5_of_79 : decode cX5_of 79 = .ok (.iload 6, 2) := dk_21 6 (dk_at dksX5_of_3 9 rfl rfl)
theorem dX5_of_81 : decode cX5_of 81 = .ok (.if_icmp .ne 24, 3) := dk_160 0 24 (dk_at dksX5_of_3 11 rfl rfl)
theorem dX5_of_84 : decode cX5_of 84 = .ok (.iload 8, 2) := dk_21 8 (dk_at dksX5_of_3 14 rfl rfl)
theorem dX5_of_86 : decode cX5_of 86 = .ok (.ifCond .ne 15, 3) := dk_154 0 15 (dk_at dksX5_of_3 16 rfl rfl)
theorem dX5_of_89 : decode cX5_of 89 = .ok (.aload_n 0, 1) := dk_42 (dk_at dksX5_of_3 19 rfl rfl)
theorem dX5_of_90 : decode cX5_of 90 = .ok (.getfield 7, 3) := dk_180 0 7 (dk_at dksX5_of_3 20 rfl rfl)
theorem dX5_of_93 : decode cX5_of 93 = .ok (.iload 4, 2) := dk_21 4 (dk_at dksX5_of_4 0 rfl rfl)
theorem dX5_of_95 : decode cX5_of 95 = .ok (.iaload, 1) := dk_46 (dk_at dksX5_of_4 2 rfl rfl)
theorem dX5_of_96 : decode cX5_of 96 = .ok (.iload 7, 2) := dk_21 7 (dk_at dksX5_of_4 3 rfl rfl)
theorem dX5_of_98 : decode cX5_of 98 = .ok (.if_icmp .ne 7, 3) := dk_160 0 7 (dk_at dksX5_of_4 5 rfl rfl)
theorem dX5_of_101 : decode cX5_of 101 = .ok (.iconst 1, 1) := dk_4 (dk_at dksX5_of_4 8 rfl rfl)
theorem dX5_of_102 : decode cX5_of 102 = .ok (.goto 4, 3) := dk_167 0 4 (dk_at dksX5_of_4 9 rfl rfl)
theorem dX5_of_105 : decode cX5_of 105 = .ok (.iconst 0, 1) := dk_3 (dk_at dksX5_of_4 12 rfl rfl)
theorem dX5_of_106 : decode cX5_of 106 = .ok (.istore 9, 2) := dk_54 9 (dk_at dksX5_of_4 13 rfl rfl)
theorem dX5_of_108 : decode cX5_of 108 = .ok (.aload_n 0, 1) := dk_42 (dk_at dksX5_of_4 15 rfl rfl)
theorem dX5_of_109 : decode cX5_of 109 = .ok (.iload 9, 2) := dk_21 9 (dk_at dksX5_of_4 16 rfl rfl)
theorem dX5_of_111 : decode cX5_of 111 = .ok (.ifCond .ne 7, 3) := dk_154 0 7 (dk_at dksX5_of_4 18 rfl rfl)
theorem dX5_of_114 : decode cX5_of 114 = .ok (.iconst 2, 1) := dk_5 (dk_at dksX5_of_4 21 rfl rfl)
theorem dX5_of_115 : decode cX5_of 115 = .ok (.goto 15, 3) := dk_167 0 15 (dk_at dksX5_of_5 0 rfl rfl)
theorem dX5_of_118 : decode cX5_of 118 = .ok (.aload_n 0, 1) := dk_42 (dk_at dksX5_of_5 3 rfl rfl)
theorem dX5_of_119 : decode cX5_of 119 = .ok (.invokevirtual 378, 3) := dk_182 1 122 (dk_at dksX5_of_5 4 rfl rfl)
theorem dX5_of_122 : decode cX5_of 122 = .ok (.ifCond .eq 7, 3) := dk_153 0 7 (dk_at dksX5_of_5 7 rfl rfl)
theorem dX5_of_125 : decode cX5_of 125 = .ok (.iconst 0, 1) := dk_3 (dk_at dksX5_of_5 10 rfl rfl)
theorem dX5_of_126 : decode cX5_of 126 = .ok (.goto 4, 3) := dk_167 0 4 (dk_at dksX5_of_5 11 rfl rfl)
theorem dX5_of_129 : decode cX5_of 129 = .ok (.iconst 3, 1) := dk_6 (dk_at dksX5_of_5 14 rfl rfl)
theorem dX5_of_130 : decode cX5_of 130 = .ok (.putfield 174, 3) := dk_181 0 174 (dk_at dksX5_of_5 15 rfl rfl)
theorem dX5_of_133 : decode cX5_of 133 = .ok (.aload_n 0, 1) := dk_42 (dk_at dksX5_of_5 18 rfl rfl)
theorem dX5_of_134 : decode cX5_of 134 = .ok (.getfield 174, 3) := dk_180 0 174 (dk_at dksX5_of_5 19 rfl rfl)
theorem dX5_of_137 : decode cX5_of 137 = .ok (.ifCond .le 5, 3) := dk_158 0 5 (dk_at dksX5_of_6 0 rfl rfl)
theorem dX5_of_140 : decode cX5_of 140 = .ok (.iconst 0, 1) := dk_3 (dk_at dksX5_of_6 3 rfl rfl)
theorem dX5_of_141 : decode cX5_of 141 = .ok (.ireturn, 1) := dk_172 (dk_at dksX5_of_6 4 rfl rfl)
theorem dX5_of_142 : decode cX5_of 142 = .ok (.aload_n 0, 1) := dk_42 (dk_at dksX5_of_6 5 rfl rfl)
theorem dX5_of_143 : decode cX5_of 143 = .ok (.iconst 0, 1) := dk_3 (dk_at dksX5_of_6 6 rfl rfl)
theorem dX5_of_144 : decode cX5_of 144 = .ok (.iload_n 2, 1) := dk_28 (dk_at dksX5_of_6 7 rfl rfl)
theorem dX5_of_145 : decode cX5_of 145 = .ok (.invokevirtual 370, 3) := dk_182 1 114 (dk_at dksX5_of_6 8 rfl rfl)
theorem dX5_of_148 : decode cX5_of 148 = .ok (.aload_n 0, 1) := dk_42 (dk_at dksX5_of_6 11 rfl rfl)
theorem dX5_of_149 : decode cX5_of 149 = .ok (.iconst 1, 1) := dk_4 (dk_at dksX5_of_6 12 rfl rfl)
theorem dX5_of_150 : decode cX5_of 150 = .ok (.iload_n 3, 1) := dk_29 (dk_at dksX5_of_6 13 rfl rfl)
theorem dX5_of_151 : decode cX5_of 151 = .ok (.invokevirtual 370, 3) := dk_182 1 114 (dk_at dksX5_of_6 14 rfl rfl)
theorem dX5_of_154 : decode cX5_of 154 = .ok (.aload_n 0, 1) := dk_42 (dk_at dksX5_of_6 17 rfl rfl)
theorem dX5_of_155 : decode cX5_of 155 = .ok (.iconst 2, 1) := dk_5 (dk_at dksX5_of_6 18 rfl rfl)
theorem dX5_of_156 : decode cX5_of 156 = .ok (.iload 4, 2) := dk_21 4 (dk_at dksX5_of_6 19 rfl rfl)
theorem dX5_of_158 : decode cX5_of 158 = .ok (.invokevirtual 370, 3) := dk_182 1 114 (dk_at dksX5_of_6 21 rfl rfl)
theorem dX5_of_161 : decode cX5_of 161 = .ok (.aload_n 0, 1) := dk_42 (dk_at dksX5_of_7 0 rfl rfl)
theorem dX5_of_162 : decode cX5_of 162 = .ok (.iload_n 1, 1) := dk_27 (dk_at dksX5_of_7 1 rfl rfl)
theorem dX5_of_163 : decode cX5_of 163 = .ok (.iload 8, 2) := dk_21 8 (dk_at dksX5_of_7 2 rfl rfl)
theorem dX5_of_165 : decode cX5_of 165 = .ok (.ifCond .eq 7, 3) := dk_153 0 7 (dk_at dksX5_of_7 4 rfl rfl)
theorem dX5_of_168 : decode cX5_of 168 = .ok (.iconst 2, 1) := dk_5 (dk_at dksX5_of_7 7 rfl rfl)
theorem dX5_of_169 : decode cX5_of 169 = .ok (.goto 4, 3) := dk_167 0 4 (dk_at dksX5_of_7 8 rfl rfl)
theorem dX5_of_172 : decode cX5_of 172 = .ok (.iconst 3, 1) := dk_6 (dk_at dksX5_of_7 11 rfl rfl)
theorem dX5_of_173 : decode cX5_of 173 = .ok (.invokevirtual 384, 3) := dk_182 1 128 (dk_at dksX5_of_7 12 rfl rfl)
theorem dX5_of_176 : decode cX5_of 176 = .ok (.ireturn, 1) := dk_172 (dk_at dksX5_of_7 15 rfl rfl)
def dkwX5_sets_1 : List UInt8 := [182, 1, 137, 172]
abbrev dktX5_sets_1 : List UInt8 := dkwX5_sets_1 ++ []
def dkwX5_sets_0 : List UInt8 := [42, 27, 153, 0, 8, 16, 9, 167, 0, 5, 16, 10, 28, 29, 21, 4, 184, 1, 134, 4, 4, 4]
abbrev dktX5_sets_0 : List UInt8 := dkwX5_sets_0 ++ dktX5_sets_1
theorem dksX5_sets_0 : cX5_sets.data.toList.drop 0 = dktX5_sets_0 := by decide +kernel
theorem dksX5_sets_1 : cX5_sets.data.toList.drop 22 = dktX5_sets_1 := dk_seg dksX5_sets_0 22 rfl rfl
theorem dX5_sets_0 : decode cX5_sets 0 = .ok (.aload_n 0, 1) := dk_42 (dk_at dksX5_sets_0 0 rfl rfl)
theorem dX5_sets_1 : decode cX5_sets 1 = .ok (.iload_n 1, 1) := dk_27 (dk_at dksX5_sets_0 1 rfl rfl)
theorem dX5_sets_2 : decode cX5_sets 2 = .ok (.ifCond .eq 8, 3) := dk_153 0 8 (dk_at dksX5_sets_0 2 rfl rfl)
theorem dX5_sets_5 : decode cX5_sets 5 = .ok (.bipush 9, 2) := dk_16 9 (dk_at dksX5_sets_0 5 rfl rfl)
theorem dX5_sets_7 : decode cX5_sets 7 = .ok (.goto 5, 3) := dk_167 0 5 (dk_at dksX5_sets_0 7 rfl rfl)
theorem dX5_sets_10 : decode cX5_sets 10 = .ok (.bipush 10, 2) := dk_16 10 (dk_at dksX5_sets_0 10 rfl rfl)
theorem dX5_sets_12 : decode cX5_sets 12 = .ok (.iload_n 2, 1) := dk_28 (dk_at dksX5_sets_0 12 rfl rfl)
theorem dX5_sets_13 : decode cX5_sets 13 = .ok (.iload_n 3, 1) := dk_29 (dk_at dksX5_sets_0 13 rfl rfl)
theorem dX5_sets_14 : decode cX5_sets 14 = .ok (.iload 4, 2) := dk_21 4 (dk_at dksX5_sets_0 14 rfl rfl)
theorem dX5_sets_16 : decode cX5_sets 16 = .ok (.invokestatic 390, 3) := dk_184 1 134 (dk_at dksX5_sets_0 16 rfl rfl)
theorem dX5_sets_19 : decode cX5_sets 19 = .ok (.iconst 1, 1) := dk_4 (dk_at dksX5_sets_0 19 rfl rfl)
theorem dX5_sets_20 : decode cX5_sets 20 = .ok (.iconst 1, 1) := dk_4 (dk_at dksX5_sets_0 20 rfl rfl)
theorem dX5_sets_21 : decode cX5_sets 21 = .ok (.iconst 1, 1) := dk_4 (dk_at dksX5_sets_0 21 rfl rfl)
theorem dX5_sets_22 : decode cX5_sets 22 = .ok (.invokevirtual 393, 3) := dk_182 1 137 (dk_at dksX5_sets_1 0 rfl rfl)
theorem dX5_sets_25 : decode cX5_sets 25 = .ok (.ireturn, 1) := dk_172 (dk_at dksX5_sets_1 3 rfl rfl)
def dkwX5_within_0 : List UInt8 := [42, 16, 11, 27, 28, 16, 254, 4, 4, 3, 182, 1, 137, 172]
abbrev dktX5_within_0 : List UInt8 := dkwX5_within_0 ++ []
theorem dksX5_within_0 : cX5_within.data.toList.drop 0 = dktX5_within_0 := by decide +kernel
theorem dX5_within_0 : decode cX5_within 0 = .ok (.aload_n 0, 1) := dk_42 (dk_at dksX5_within_0 0 rfl rfl)
theorem dX5_within_1 : decode cX5_within 1 = .ok (.bipush 11, 2) := dk_16 11 (dk_at dksX5_within_0 1 rfl rfl)
theorem dX5_within_3 : decode cX5_within 3 = .ok (.iload_n 1, 1) := dk_27 (dk_at dksX5_within_0 3 rfl rfl)
theorem dX5_within_4 : decode cX5_within 4 = .ok (.iload_n 2, 1) := dk_28 (dk_at dksX5_within_0 4 rfl rfl)
theorem dX5_within_5 : decode cX5_within 5 = .ok (.bipush (-2), 2) := dk_16 254 (dk_at dksX5_within_0 5 rfl rfl)
theorem dX5_within_7 : decode cX5_within 7 = .ok (.iconst 1, 1) := dk_4 (dk_at dksX5_within_0 7 rfl rfl)
theorem dX5_within_8 : decode cX5_within 8 = .ok (.iconst 1, 1) := dk_4 (dk_at dksX5_within_0 8 rfl rfl)
theorem dX5_within_9 : decode cX5_within 9 = .ok (.iconst 0, 1) := dk_3 (dk_at dksX5_within_0 9 rfl rfl)
theorem dX5_within_10 : decode cX5_within 10 = .ok (.invokevirtual 393, 3) := dk_182 1 137 (dk_at dksX5_within_0 10 rfl rfl)
theorem dX5_within_13 : decode cX5_within 13 = .ok (.ireturn, 1) := dk_172 (dk_at dksX5_within_0 13 rfl rfl)
def dkwX5_measure_2 : List UInt8 := [167, 0, 4, 4, 3, 182, 1, 137, 172]
abbrev dktX5_measure_2 : List UInt8 := dkwX5_measure_2 ++ []
def dkwX5_measure_1 : List UInt8 := [42, 29, 153, 0, 8, 16, 13, 167, 0, 5, 16, 12, 28, 27, 16, 254, 3, 29, 153, 0, 7, 5]
abbrev dktX5_measure_1 : List UInt8 := dkwX5_measure_1 ++ dktX5_measure_2
def dkwX5_measure_0 : List UInt8 := [42, 27, 182, 1, 93, 153, 0, 17, 42, 180, 0, 7, 27, 46, 5, 160, 0, 7, 4, 167, 0, 4, 3, 62]
abbrev dktX5_measure_0 : List UInt8 := dkwX5_measure_0 ++ dktX5_measure_1
theorem dksX5_measure_0 : cX5_measure.data.toList.drop 0 = dktX5_measure_0 := by decide +kernel
theorem dksX5_measure_1 : cX5_measure.data.toList.drop 24 = dktX5_measure_1 := dk_seg dksX5_measure_0 24 rfl rfl
theorem dksX5_measure_2 : cX5_measure.data.toList.drop 46 = dktX5_measure_2 := dk_seg dksX5_measure_1 22 rfl rfl
theorem dX5_measure_0 : decode cX5_measure 0 = .ok (.aload_n 0, 1) := dk_42 (dk_at dksX5_measure_0 0 rfl rfl)
theorem dX5_measure_1 : decode cX5_measure 1 = .ok (.iload_n 1, 1) := dk_27 (dk_at dksX5_measure_0 1 rfl rfl)
theorem dX5_measure_2 : decode cX5_measure 2 = .ok (.invokevirtual 349, 3) := dk_182 1 93 (dk_at dksX5_measure_0 2 rfl rfl)
theorem dX5_measure_5 : decode cX5_measure 5 = .ok (.ifCond .eq 17, 3) := dk_153 0 17 (dk_at dksX5_measure_0 5 rfl rfl)
theorem dX5_measure_8 : decode cX5_measure 8 = .ok (.aload_n 0, 1) := dk_42 (dk_at dksX5_measure_0 8 rfl rfl)
theorem dX5_measure_9 : decode cX5_measure 9 = .ok (.getfield 7, 3) := dk_180 0 7 (dk_at dksX5_measure_0 9 rfl rfl)
theorem dX5_measure_12 : decode cX5_measure 12 = .ok (.iload_n 1, 1) := dk_27 (dk_at dksX5_measure_0 12 rfl rfl)
theorem dX5_measure_13 : decode cX5_measure 13 = .ok (.iaload, 1) := dk_46 (dk_at dksX5_measure_0 13 rfl rfl)
theorem dX5_measure_14 : decode cX5_measure 14 = .ok (.iconst 2, 1) := dk_5 (dk_at dksX5_measure_0 14 rfl rfl)
theorem dX5_measure_15 : decode cX5_measure 15 = .ok (.if_icmp .ne 7, 3) := dk_160 0 7 (dk_at dksX5_measure_0 15 rfl rfl)
theorem dX5_measure_18 : decode cX5_measure 18 = .ok (.iconst 1, 1) := dk_4 (dk_at dksX5_measure_0 18 rfl rfl)
theorem dX5_measure_19 : decode cX5_measure 19 = .ok (.goto 4, 3) := dk_167 0 4 (dk_at dksX5_measure_0 19 rfl rfl)
theorem dX5_measure_22 : decode cX5_measure 22 = .ok (.iconst 0, 1) := dk_3 (dk_at dksX5_measure_0 22 rfl rfl)
theorem dX5_measure_23 : decode cX5_measure 23 = .ok (.istore_n 3, 1) := dk_62 (dk_at dksX5_measure_0 23 rfl rfl)
theorem dX5_measure_24 : decode cX5_measure 24 = .ok (.aload_n 0, 1) := dk_42 (dk_at dksX5_measure_1 0 rfl rfl)
theorem dX5_measure_25 : decode cX5_measure 25 = .ok (.iload_n 3, 1) := dk_29 (dk_at dksX5_measure_1 1 rfl rfl)
theorem dX5_measure_26 : decode cX5_measure 26 = .ok (.ifCond .eq 8, 3) := dk_153 0 8 (dk_at dksX5_measure_1 2 rfl rfl)
theorem dX5_measure_29 : decode cX5_measure 29 = .ok (.bipush 13, 2) := dk_16 13 (dk_at dksX5_measure_1 5 rfl rfl)
theorem dX5_measure_31 : decode cX5_measure 31 = .ok (.goto 5, 3) := dk_167 0 5 (dk_at dksX5_measure_1 7 rfl rfl)
theorem dX5_measure_34 : decode cX5_measure 34 = .ok (.bipush 12, 2) := dk_16 12 (dk_at dksX5_measure_1 10 rfl rfl)
theorem dX5_measure_36 : decode cX5_measure 36 = .ok (.iload_n 2, 1) := dk_28 (dk_at dksX5_measure_1 12 rfl rfl)
theorem dX5_measure_37 : decode cX5_measure 37 = .ok (.iload_n 1, 1) := dk_27 (dk_at dksX5_measure_1 13 rfl rfl)
theorem dX5_measure_38 : decode cX5_measure 38 = .ok (.bipush (-2), 2) := dk_16 254 (dk_at dksX5_measure_1 14 rfl rfl)
theorem dX5_measure_40 : decode cX5_measure 40 = .ok (.iconst 0, 1) := dk_3 (dk_at dksX5_measure_1 16 rfl rfl)
theorem dX5_measure_41 : decode cX5_measure 41 = .ok (.iload_n 3, 1) := dk_29 (dk_at dksX5_measure_1 17 rfl rfl)
theorem dX5_measure_42 : decode cX5_measure 42 = .ok (.ifCond .eq 7, 3) := dk_153 0 7 (dk_at dksX5_measure_1 18 rfl rfl)
theorem dX5_measure_45 : decode cX5_measure 45 = .ok (.iconst 2, 1) := dk_5 (dk_at dksX5_measure_1 21 rfl rfl)
theorem dX5_measure_46 : decode cX5_measure 46 = .ok (.goto 4, 3) := dk_167 0 4 (dk_at dksX5_measure_2 0 rfl rfl)
theorem dX5_measure_49 : decode cX5_measure 49 = .ok (.iconst 1, 1) := dk_4 (dk_at dksX5_measure_2 3 rfl rfl)
theorem dX5_measure_50 : decode cX5_measure 50 = .ok (.iconst 0, 1) := dk_3 (dk_at dksX5_measure_2 4 rfl rfl)
theorem dX5_measure_51 : decode cX5_measure 51 = .ok (.invokevirtual 393, 3) := dk_182 1 137 (dk_at dksX5_measure_2 5 rfl rfl)
theorem dX5_measure_54 : decode cX5_measure 54 = .ok (.ireturn, 1) := dk_172 (dk_at dksX5_measure_2 8 rfl rfl)
def dkwX5_member_0 : List UInt8 := [42, 16, 14, 27, 28, 29, 184, 1, 134, 3, 3, 4, 182, 1, 137, 172]
abbrev dktX5_member_0 : List UInt8 := dkwX5_member_0 ++ []
theorem dksX5_member_0 : cX5_member.data.toList.drop 0 = dktX5_member_0 := by decide +kernel
theorem dX5_member_0 : decode cX5_member 0 = .ok (.aload_n 0, 1) := dk_42 (dk_at dksX5_member_0 0 rfl rfl)
theorem dX5_member_1 : decode cX5_member 1 = .ok (.bipush 14, 2) := dk_16 14 (dk_at dksX5_member_0 1 rfl rfl)
theorem dX5_member_3 : decode cX5_member 3 = .ok (.iload_n 1, 1) := dk_27 (dk_at dksX5_member_0 3 rfl rfl)
theorem dX5_member_4 : decode cX5_member 4 = .ok (.iload_n 2, 1) := dk_28 (dk_at dksX5_member_0 4 rfl rfl)
theorem dX5_member_5 : decode cX5_member 5 = .ok (.iload_n 3, 1) := dk_29 (dk_at dksX5_member_0 5 rfl rfl)
theorem dX5_member_6 : decode cX5_member 6 = .ok (.invokestatic 390, 3) := dk_184 1 134 (dk_at dksX5_member_0 6 rfl rfl)
theorem dX5_member_9 : decode cX5_member 9 = .ok (.iconst 0, 1) := dk_3 (dk_at dksX5_member_0 9 rfl rfl)
theorem dX5_member_10 : decode cX5_member 10 = .ok (.iconst 0, 1) := dk_3 (dk_at dksX5_member_0 10 rfl rfl)
theorem dX5_member_11 : decode cX5_member 11 = .ok (.iconst 1, 1) := dk_4 (dk_at dksX5_member_0 11 rfl rfl)
theorem dX5_member_12 : decode cX5_member 12 = .ok (.invokevirtual 393, 3) := dk_182 1 137 (dk_at dksX5_member_0 12 rfl rfl)
theorem dX5_member_15 : decode cX5_member 15 = .ok (.ireturn, 1) := dk_172 (dk_at dksX5_member_0 15 rfl rfl)
def dkwX5_joined_0 : List UInt8 := [42, 16, 15, 27, 28, 29, 184, 1, 134, 5, 5, 5, 182, 1, 137, 172]
abbrev dktX5_joined_0 : List UInt8 := dkwX5_joined_0 ++ []
theorem dksX5_joined_0 : cX5_joined.data.toList.drop 0 = dktX5_joined_0 := by decide +kernel
theorem dX5_joined_0 : decode cX5_joined 0 = .ok (.aload_n 0, 1) := dk_42 (dk_at dksX5_joined_0 0 rfl rfl)
theorem dX5_joined_1 : decode cX5_joined 1 = .ok (.bipush 15, 2) := dk_16 15 (dk_at dksX5_joined_0 1 rfl rfl)
theorem dX5_joined_3 : decode cX5_joined 3 = .ok (.iload_n 1, 1) := dk_27 (dk_at dksX5_joined_0 3 rfl rfl)
theorem dX5_joined_4 : decode cX5_joined 4 = .ok (.iload_n 2, 1) := dk_28 (dk_at dksX5_joined_0 4 rfl rfl)
theorem dX5_joined_5 : decode cX5_joined 5 = .ok (.iload_n 3, 1) := dk_29 (dk_at dksX5_joined_0 5 rfl rfl)
theorem dX5_joined_6 : decode cX5_joined 6 = .ok (.invokestatic 390, 3) := dk_184 1 134 (dk_at dksX5_joined_0 6 rfl rfl)
theorem dX5_joined_9 : decode cX5_joined 9 = .ok (.iconst 2, 1) := dk_5 (dk_at dksX5_joined_0 9 rfl rfl)
theorem dX5_joined_10 : decode cX5_joined 10 = .ok (.iconst 2, 1) := dk_5 (dk_at dksX5_joined_0 10 rfl rfl)
theorem dX5_joined_11 : decode cX5_joined 11 = .ok (.iconst 2, 1) := dk_5 (dk_at dksX5_joined_0 11 rfl rfl)
theorem dX5_joined_12 : decode cX5_joined 12 = .ok (.invokevirtual 393, 3) := dk_182 1 137 (dk_at dksX5_joined_0 12 rfl rfl)
theorem dX5_joined_15 : decode cX5_joined 15 = .ok (.ireturn, 1) := dk_172 (dk_at dksX5_joined_0 15 rfl rfl)
def dkwX5_prefix_0 : List UInt8 := [42, 16, 16, 27, 28, 16, 254, 5, 5, 3, 182, 1, 137, 172]
abbrev dktX5_prefix_0 : List UInt8 := dkwX5_prefix_0 ++ []
theorem dksX5_prefix_0 : cX5_prefix.data.toList.drop 0 = dktX5_prefix_0 := by decide +kernel
theorem dX5_prefix_0 : decode cX5_prefix 0 = .ok (.aload_n 0, 1) := dk_42 (dk_at dksX5_prefix_0 0 rfl rfl)
theorem dX5_prefix_1 : decode cX5_prefix 1 = .ok (.bipush 16, 2) := dk_16 16 (dk_at dksX5_prefix_0 1 rfl rfl)
theorem dX5_prefix_3 : decode cX5_prefix 3 = .ok (.iload_n 1, 1) := dk_27 (dk_at dksX5_prefix_0 3 rfl rfl)
theorem dX5_prefix_4 : decode cX5_prefix 4 = .ok (.iload_n 2, 1) := dk_28 (dk_at dksX5_prefix_0 4 rfl rfl)
theorem dX5_prefix_5 : decode cX5_prefix 5 = .ok (.bipush (-2), 2) := dk_16 254 (dk_at dksX5_prefix_0 5 rfl rfl)
theorem dX5_prefix_7 : decode cX5_prefix 7 = .ok (.iconst 2, 1) := dk_5 (dk_at dksX5_prefix_0 7 rfl rfl)
theorem dX5_prefix_8 : decode cX5_prefix 8 = .ok (.iconst 2, 1) := dk_5 (dk_at dksX5_prefix_0 8 rfl rfl)
theorem dX5_prefix_9 : decode cX5_prefix 9 = .ok (.iconst 0, 1) := dk_3 (dk_at dksX5_prefix_0 9 rfl rfl)
theorem dX5_prefix_10 : decode cX5_prefix 10 = .ok (.invokevirtual 393, 3) := dk_182 1 137 (dk_at dksX5_prefix_0 10 rfl rfl)
theorem dX5_prefix_13 : decode cX5_prefix 13 = .ok (.ireturn, 1) := dk_172 (dk_at dksX5_prefix_0 13 rfl rfl)
def dkwX5_letter_0 : List UInt8 := [42, 16, 17, 27, 28, 29, 184, 1, 134, 3, 5, 3, 182, 1, 137, 172]
abbrev dktX5_letter_0 : List UInt8 := dkwX5_letter_0 ++ []
theorem dksX5_letter_0 : cX5_letter.data.toList.drop 0 = dktX5_letter_0 := by decide +kernel
theorem dX5_letter_0 : decode cX5_letter 0 = .ok (.aload_n 0, 1) := dk_42 (dk_at dksX5_letter_0 0 rfl rfl)
theorem dX5_letter_1 : decode cX5_letter 1 = .ok (.bipush 17, 2) := dk_16 17 (dk_at dksX5_letter_0 1 rfl rfl)
theorem dX5_letter_3 : decode cX5_letter 3 = .ok (.iload_n 1, 1) := dk_27 (dk_at dksX5_letter_0 3 rfl rfl)
theorem dX5_letter_4 : decode cX5_letter 4 = .ok (.iload_n 2, 1) := dk_28 (dk_at dksX5_letter_0 4 rfl rfl)
theorem dX5_letter_5 : decode cX5_letter 5 = .ok (.iload_n 3, 1) := dk_29 (dk_at dksX5_letter_0 5 rfl rfl)
theorem dX5_letter_6 : decode cX5_letter 6 = .ok (.invokestatic 390, 3) := dk_184 1 134 (dk_at dksX5_letter_0 6 rfl rfl)
theorem dX5_letter_9 : decode cX5_letter 9 = .ok (.iconst 0, 1) := dk_3 (dk_at dksX5_letter_0 9 rfl rfl)
theorem dX5_letter_10 : decode cX5_letter 10 = .ok (.iconst 2, 1) := dk_5 (dk_at dksX5_letter_0 10 rfl rfl)
theorem dX5_letter_11 : decode cX5_letter 11 = .ok (.iconst 0, 1) := dk_3 (dk_at dksX5_letter_0 11 rfl rfl)
theorem dX5_letter_12 : decode cX5_letter 12 = .ok (.invokevirtual 393, 3) := dk_182 1 137 (dk_at dksX5_letter_0 12 rfl rfl)
theorem dX5_letter_15 : decode cX5_letter 15 = .ok (.ireturn, 1) := dk_172 (dk_at dksX5_letter_0 15 rfl rfl)
def dkwX5_clause_2 : List UInt8 := [8, 27, 182, 1, 128, 172]
abbrev dktX5_clause_2 : List UInt8 := dkwX5_clause_2 ++ []
def dkwX5_clause_1 : List UInt8 := [180, 1, 111, 60, 42, 3, 181, 1, 111, 42, 180, 0, 174, 158, 0, 5, 3, 172, 42, 27, 182, 1, 141, 42]
abbrev dktX5_clause_1 : List UInt8 := dkwX5_clause_1 ++ dktX5_clause_2
def dkwX5_clause_0 : List UInt8 := [42, 42, 180, 1, 111, 158, 0, 14, 42, 182, 1, 122, 153, 0, 7, 3, 167, 0, 4, 4, 181, 0, 174, 42]
abbrev dktX5_clause_0 : List UInt8 := dkwX5_clause_0 ++ dktX5_clause_1
theorem dksX5_clause_0 : cX5_clause.data.toList.drop 0 = dktX5_clause_0 := by decide +kernel
theorem dksX5_clause_1 : cX5_clause.data.toList.drop 24 = dktX5_clause_1 := dk_seg dksX5_clause_0 24 rfl rfl
theorem dksX5_clause_2 : cX5_clause.data.toList.drop 48 = dktX5_clause_2 := dk_seg dksX5_clause_1 24 rfl rfl
theorem dX5_clause_0 : decode cX5_clause 0 = .ok (.aload_n 0, 1) := dk_42 (dk_at dksX5_clause_0 0 rfl rfl)
theorem dX5_clause_1 : decode cX5_clause 1 = .ok (.aload_n 0, 1) := dk_42 (dk_at dksX5_clause_0 1 rfl rfl)
theorem dX5_clause_2 : decode cX5_clause 2 = .ok (.getfield 367, 3) := dk_180 1 111 (dk_at dksX5_clause_0 2 rfl rfl)
theorem dX5_clause_5 : decode cX5_clause 5 = .ok (.ifCond .le 14, 3) := dk_158 0 14 (dk_at dksX5_clause_0 5 rfl rfl)
theorem dX5_clause_8 : decode cX5_clause 8 = .ok (.aload_n 0, 1) := dk_42 (dk_at dksX5_clause_0 8 rfl rfl)
theorem dX5_clause_9 : decode cX5_clause 9 = .ok (.invokevirtual 378, 3) := dk_182 1 122 (dk_at dksX5_clause_0 9 rfl rfl)
theorem dX5_clause_12 : decode cX5_clause 12 = .ok (.ifCond .eq 7, 3) := dk_153 0 7 (dk_at dksX5_clause_0 12 rfl rfl)
theorem dX5_clause_15 : decode cX5_clause 15 = .ok (.iconst 0, 1) := dk_3 (dk_at dksX5_clause_0 15 rfl rfl)
theorem dX5_clause_16 : decode cX5_clause 16 = .ok (.goto 4, 3) := dk_167 0 4 (dk_at dksX5_clause_0 16 rfl rfl)
theorem dX5_clause_19 : decode cX5_clause 19 = .ok (.iconst 1, 1) := dk_4 (dk_at dksX5_clause_0 19 rfl rfl)
theorem dX5_clause_20 : decode cX5_clause 20 = .ok (.putfield 174, 3) := dk_181 0 174 (dk_at dksX5_clause_0 20 rfl rfl)
theorem dX5_clause_23 : decode cX5_clause 23 = .ok (.aload_n 0, 1) := dk_42 (dk_at dksX5_clause_0 23 rfl rfl)
theorem dX5_clause_24 : decode cX5_clause 24 = .ok (.getfield 367, 3) := dk_180 1 111 (dk_at dksX5_clause_1 0 rfl rfl)
theorem dX5_clause_27 : decode cX5_clause 27 = .ok (.istore_n 1, 1) := dk_60 (dk_at dksX5_clause_1 3 rfl rfl)
theorem dX5_clause_28 : decode cX5_clause 28 = .ok (.aload_n 0, 1) := dk_42 (dk_at dksX5_clause_1 4 rfl rfl)
theorem dX5_clause_29 : decode cX5_clause 29 = .ok (.iconst 0, 1) := dk_3 (dk_at dksX5_clause_1 5 rfl rfl)
theorem dX5_clause_30 : decode cX5_clause 30 = .ok (.putfield 367, 3) := dk_181 1 111 (dk_at dksX5_clause_1 6 rfl rfl)
theorem dX5_clause_33 : decode cX5_clause 33 = .ok (.aload_n 0, 1) := dk_42 (dk_at dksX5_clause_1 9 rfl rfl)
theorem dX5_clause_34 : decode cX5_clause 34 = .ok (.getfield 174, 3) := dk_180 0 174 (dk_at dksX5_clause_1 10 rfl rfl)
theorem dX5_clause_37 : decode cX5_clause 37 = .ok (.ifCond .le 5, 3) := dk_158 0 5 (dk_at dksX5_clause_1 13 rfl rfl)
theorem dX5_clause_40 : decode cX5_clause 40 = .ok (.iconst 0, 1) := dk_3 (dk_at dksX5_clause_1 16 rfl rfl)
theorem dX5_clause_41 : decode cX5_clause 41 = .ok (.ireturn, 1) := dk_172 (dk_at dksX5_clause_1 17 rfl rfl)
theorem dX5_clause_42 : decode cX5_clause 42 = .ok (.aload_n 0, 1) := dk_42 (dk_at dksX5_clause_1 18 rfl rfl)
theorem dX5_clause_43 : decode cX5_clause 43 = .ok (.iload_n 1, 1) := dk_27 (dk_at dksX5_clause_1 19 rfl rfl)
theorem dX5_clause_44 : decode cX5_clause 44 = .ok (.invokevirtual 397, 3) := dk_182 1 141 (dk_at dksX5_clause_1 20 rfl rfl)
theorem dX5_clause_47 : decode cX5_clause 47 = .ok (.aload_n 0, 1) := dk_42 (dk_at dksX5_clause_1 23 rfl rfl)
theorem dX5_clause_48 : decode cX5_clause 48 = .ok (.iconst 5, 1) := dk_8 (dk_at dksX5_clause_2 0 rfl rfl)
theorem dX5_clause_49 : decode cX5_clause 49 = .ok (.iload_n 1, 1) := dk_27 (dk_at dksX5_clause_2 1 rfl rfl)
theorem dX5_clause_50 : decode cX5_clause 50 = .ok (.invokevirtual 384, 3) := dk_182 1 128 (dk_at dksX5_clause_2 2 rfl rfl)
theorem dX5_clause_53 : decode cX5_clause 53 = .ok (.ireturn, 1) := dk_172 (dk_at dksX5_clause_2 5 rfl rfl)
def dkwX5_takesLiterals_2 : List UInt8 := [104, 28, 96, 42, 180, 0, 37, 28, 51, 84, 132, 2, 1, 167, 255, 197, 177]
abbrev dktX5_takesLiterals_2 : List UInt8 := dkwX5_takesLiterals_2 ++ []
def dkwX5_takesLiterals_1 : List UInt8 := [42, 180, 1, 62, 104, 28, 96, 42, 180, 0, 34, 28, 46, 79, 42, 180, 0, 62, 16, 6, 42, 180, 1, 62]
abbrev dktX5_takesLiterals_1 : List UInt8 := dkwX5_takesLiterals_1 ++ dktX5_takesLiterals_2
def dkwX5_takesLiterals_0 : List UInt8 := [3, 61, 28, 27, 162, 0, 60, 42, 28, 42, 180, 0, 31, 28, 46, 182, 1, 114, 42, 180, 0, 50, 16, 6]
abbrev dktX5_takesLiterals_0 : List UInt8 := dkwX5_takesLiterals_0 ++ dktX5_takesLiterals_1
theorem dksX5_takesLiterals_0 : cX5_takesLiterals.data.toList.drop 0 = dktX5_takesLiterals_0 := by decide +kernel
theorem dksX5_takesLiterals_1 : cX5_takesLiterals.data.toList.drop 24 = dktX5_takesLiterals_1 := dk_seg dksX5_takesLiterals_0 24 rfl rfl
theorem dksX5_takesLiterals_2 : cX5_takesLiterals.data.toList.drop 48 = dktX5_takesLiterals_2 := dk_seg dksX5_takesLiterals_1 24 rfl rfl
theorem dX5_takesLiterals_0 : decode cX5_takesLiterals 0 = .ok (.iconst 0, 1) := dk_3 (dk_at dksX5_takesLiterals_0 0 rfl rfl)
theorem dX5_takesLiterals_1 : decode cX5_takesLiterals 1 = .ok (.istore_n 2, 1) := dk_61 (dk_at dksX5_takesLiterals_0 1 rfl rfl)
theorem dX5_takesLiterals_2 : decode cX5_takesLiterals 2 = .ok (.iload_n 2, 1) := dk_28 (dk_at dksX5_takesLiterals_0 2 rfl rfl)
theorem dX5_takesLiterals_3 : decode cX5_takesLiterals 3 = .ok (.iload_n 1, 1) := dk_27 (dk_at dksX5_takesLiterals_0 3 rfl rfl)
theorem dX5_takesLiterals_4 : decode cX5_takesLiterals 4 = .ok (.if_icmp .ge 60, 3) := dk_162 0 60 (dk_at dksX5_takesLiterals_0 4 rfl rfl)
theorem dX5_takesLiterals_7 : decode cX5_takesLiterals 7 = .ok (.aload_n 0, 1) := dk_42 (dk_at dksX5_takesLiterals_0 7 rfl rfl)
theorem dX5_takesLiterals_8 : decode cX5_takesLiterals 8 = .ok (.iload_n 2, 1) := dk_28 (dk_at dksX5_takesLiterals_0 8 rfl rfl)
theorem dX5_takesLiterals_9 : decode cX5_takesLiterals 9 = .ok (.aload_n 0, 1) := dk_42 (dk_at dksX5_takesLiterals_0 9 rfl rfl)
theorem dX5_takesLiterals_10 : decode cX5_takesLiterals 10 = .ok (.getfield 31, 3) := dk_180 0 31 (dk_at dksX5_takesLiterals_0 10 rfl rfl)
theorem dX5_takesLiterals_13 : decode cX5_takesLiterals 13 = .ok (.iload_n 2, 1) := dk_28 (dk_at dksX5_takesLiterals_0 13 rfl rfl)
theorem dX5_takesLiterals_14 : decode cX5_takesLiterals 14 = .ok (.iaload, 1) := dk_46 (dk_at dksX5_takesLiterals_0 14 rfl rfl)
theorem dX5_takesLiterals_15 : decode cX5_takesLiterals 15 = .ok (.invokevirtual 370, 3) := dk_182 1 114 (dk_at dksX5_takesLiterals_0 15 rfl rfl)
theorem dX5_takesLiterals_18 : decode cX5_takesLiterals 18 = .ok (.aload_n 0, 1) := dk_42 (dk_at dksX5_takesLiterals_0 18 rfl rfl)
theorem dX5_takesLiterals_19 : decode cX5_takesLiterals 19 = .ok (.getfield 50, 3) := dk_180 0 50 (dk_at dksX5_takesLiterals_0 19 rfl rfl)
theorem dX5_takesLiterals_22 : decode cX5_takesLiterals 22 = .ok (.bipush 6, 2) := dk_16 6 (dk_at dksX5_takesLiterals_0 22 rfl rfl)
theorem dX5_takesLiterals_24 : decode cX5_takesLiterals 24 = .ok (.aload_n 0, 1) := dk_42 (dk_at dksX5_takesLiterals_1 0 rfl rfl)
theorem dX5_takesLiterals_25 : decode cX5_takesLiterals 25 = .ok (.getfield 318, 3) := dk_180 1 62 (dk_at dksX5_takesLiterals_1 1 rfl rfl)
theorem dX5_takesLiterals_28 : decode cX5_takesLiterals 28 = .ok (.imul, 1) := dk_104 (dk_at dksX5_takesLiterals_1 4 rfl rfl)
theorem dX5_takesLiterals_29 : decode cX5_takesLiterals 29 = .ok (.iload_n 2, 1) := dk_28 (dk_at dksX5_takesLiterals_1 5 rfl rfl)
theorem dX5_takesLiterals_30 : decode cX5_takesLiterals 30 = .ok (.iadd, 1) := dk_96 (dk_at dksX5_takesLiterals_1 6 rfl rfl)
theorem dX5_takesLiterals_31 : decode cX5_takesLiterals 31 = .ok (.aload_n 0, 1) := dk_42 (dk_at dksX5_takesLiterals_1 7 rfl rfl)
theorem dX5_takesLiterals_32 : decode cX5_takesLiterals 32 = .ok (.getfield 34, 3) := dk_180 0 34 (dk_at dksX5_takesLiterals_1 8 rfl rfl)
theorem dX5_takesLiterals_35 : decode cX5_takesLiterals 35 = .ok (.iload_n 2, 1) := dk_28 (dk_at dksX5_takesLiterals_1 11 rfl rfl)
theorem dX5_takesLiterals_36 : decode cX5_takesLiterals 36 = .ok (.iaload, 1) := dk_46 (dk_at dksX5_takesLiterals_1 12 rfl rfl)
theorem dX5_takesLiterals_37 : decode cX5_takesLiterals 37 = .ok (.iastore, 1) := dk_79 (dk_at dksX5_takesLiterals_1 13 rfl rfl)
theorem dX5_takesLiterals_38 : decode cX5_takesLiterals 38 = .ok (.aload_n 0, 1) := dk_42 (dk_at dksX5_takesLiterals_1 14 rfl rfl)
theorem dX5_takesLiterals_39 : decode cX5_takesLiterals 39 = .ok (.getfield 62, 3) := dk_180 0 62 (dk_at dksX5_takesLiterals_1 15 rfl rfl)
theorem dX5_takesLiterals_42 : decode cX5_takesLiterals 42 = .ok (.bipush 6, 2) := dk_16 6 (dk_at dksX5_takesLiterals_1 18 rfl rfl)
theorem dX5_takesLiterals_44 : decode cX5_takesLiterals 44 = .ok (.aload_n 0, 1) := dk_42 (dk_at dksX5_takesLiterals_1 20 rfl rfl)
theorem dX5_takesLiterals_45 : decode cX5_takesLiterals 45 = .ok (.getfield 318, 3) := dk_180 1 62 (dk_at dksX5_takesLiterals_1 21 rfl rfl)
theorem dX5_takesLiterals_48 : decode cX5_takesLiterals 48 = .ok (.imul, 1) := dk_104 (dk_at dksX5_takesLiterals_2 0 rfl rfl)
theorem dX5_takesLiterals_49 : decode cX5_takesLiterals 49 = .ok (.iload_n 2, 1) := dk_28 (dk_at dksX5_takesLiterals_2 1 rfl rfl)
theorem dX5_takesLiterals_50 : decode cX5_takesLiterals 50 = .ok (.iadd, 1) := dk_96 (dk_at dksX5_takesLiterals_2 2 rfl rfl)
theorem dX5_takesLiterals_51 : decode cX5_takesLiterals 51 = .ok (.aload_n 0, 1) := dk_42 (dk_at dksX5_takesLiterals_2 3 rfl rfl)
theorem dX5_takesLiterals_52 : decode cX5_takesLiterals 52 = .ok (.getfield 37, 3) := dk_180 0 37 (dk_at dksX5_takesLiterals_2 4 rfl rfl)
theorem dX5_takesLiterals_55 : decode cX5_takesLiterals 55 = .ok (.iload_n 2, 1) := dk_28 (dk_at dksX5_takesLiterals_2 7 rfl rfl)
theorem dX5_takesLiterals_56 : decode cX5_takesLiterals 56 = .ok (.baload, 1) := dk_51 (dk_at dksX5_takesLiterals_2 8 rfl rfl)
theorem dX5_takesLiterals_57 : decode cX5_takesLiterals 57 = .ok (.bastore, 1) := dk_84 (dk_at dksX5_takesLiterals_2 9 rfl rfl)
theorem dX5_takesLiterals_58 : decode cX5_takesLiterals 58 = .ok (.iinc 2 1, 3) := dk_132 2 1 (dk_at dksX5_takesLiterals_2 10 rfl rfl)
theorem dX5_takesLiterals_61 : decode cX5_takesLiterals 61 = .ok (.goto (-59), 3) := dk_167 255 197 (dk_at dksX5_takesLiterals_2 13 rfl rfl)
theorem dX5_takesLiterals_64 : decode cX5_takesLiterals 64 = .ok (.return_, 1) := dk_177 (dk_at dksX5_takesLiterals_2 16 rfl rfl)
def dkwX5_symbol_3 : List UInt8 := [180, 1, 62, 27, 79, 42, 16, 6, 4, 182, 1, 128, 172]
abbrev dktX5_symbol_3 : List UInt8 := dkwX5_symbol_3 ++ []
def dkwX5_symbol_2 : List UInt8 := [181, 0, 174, 42, 180, 0, 174, 158, 0, 5, 3, 172, 42, 3, 28, 182, 1, 114, 42, 180, 0, 53, 42]
abbrev dktX5_symbol_2 : List UInt8 := dkwX5_symbol_2 ++ dktX5_symbol_3
def dkwX5_symbol_1 : List UInt8 := [180, 0, 7, 28, 46, 153, 0, 7, 5, 167, 0, 15, 42, 182, 1, 122, 153, 0, 7, 3, 167, 0, 4, 6]
abbrev dktX5_symbol_1 : List UInt8 := dkwX5_symbol_1 ++ dktX5_symbol_2
def dkwX5_symbol_0 : List UInt8 := [42, 42, 27, 182, 1, 147, 153, 0, 11, 42, 28, 182, 1, 93, 154, 0, 7, 4, 167, 0, 28, 42]
abbrev dktX5_symbol_0 : List UInt8 := dkwX5_symbol_0 ++ dktX5_symbol_1
theorem dksX5_symbol_0 : cX5_symbol.data.toList.drop 0 = dktX5_symbol_0 := by decide +kernel
theorem dksX5_symbol_1 : cX5_symbol.data.toList.drop 22 = dktX5_symbol_1 := dk_seg dksX5_symbol_0 22 rfl rfl
theorem dksX5_symbol_2 : cX5_symbol.data.toList.drop 46 = dktX5_symbol_2 := dk_seg dksX5_symbol_1 24 rfl rfl
theorem dksX5_symbol_3 : cX5_symbol.data.toList.drop 69 = dktX5_symbol_3 := dk_seg dksX5_symbol_2 23 rfl rfl
theorem dX5_symbol_0 : decode cX5_symbol 0 = .ok (.aload_n 0, 1) := dk_42 (dk_at dksX5_symbol_0 0 rfl rfl)
theorem dX5_symbol_1 : decode cX5_symbol 1 = .ok (.aload_n 0, 1) := dk_42 (dk_at dksX5_symbol_0 1 rfl rfl)
theorem dX5_symbol_2 : decode cX5_symbol 2 = .ok (.iload_n 1, 1) := dk_27 (dk_at dksX5_symbol_0 2 rfl rfl)
theorem dX5_symbol_3 : decode cX5_symbol 3 = .ok (.invokevirtual 403, 3) := dk_182 1 147 (dk_at dksX5_symbol_0 3 rfl rfl)
theorem dX5_symbol_6 : decode cX5_symbol 6 = .ok (.ifCond .eq 11, 3) := dk_153 0 11 (dk_at dksX5_symbol_0 6 rfl rfl)
theorem dX5_symbol_9 : decode cX5_symbol 9 = .ok (.aload_n 0, 1) := dk_42 (dk_at dksX5_symbol_0 9 rfl rfl)
theorem dX5_symbol_10 : decode cX5_symbol 10 = .ok (.iload_n 2, 1) := dk_28 (dk_at dksX5_symbol_0 10 rfl rfl)
theorem dX5_symbol_11 : decode cX5_symbol 11 = .ok (.invokevirtual 349, 3) := dk_182 1 93 (dk_at dksX5_symbol_0 11 rfl rfl)
theorem dX5_symbol_14 : decode cX5_symbol 14 = .ok (.ifCond .ne 7, 3) := dk_154 0 7 (dk_at dksX5_symbol_0 14 rfl rfl)
theorem dX5_symbol_17 : decode cX5_symbol 17 = .ok (.iconst 1, 1) := dk_4 (dk_at dksX5_symbol_0 17 rfl rfl)
theorem dX5_symbol_18 : decode cX5_symbol 18 = .ok (.goto 28, 3) := dk_167 0 28 (dk_at dksX5_symbol_0 18 rfl rfl)
theorem dX5_symbol_21 : decode cX5_symbol 21 = .ok (.aload_n 0, 1) := dk_42 (dk_at dksX5_symbol_0 21 rfl rfl)
theorem dX5_symbol_22 : decode cX5_symbol 22 = .ok (.getfield 7, 3) := dk_180 0 7 (dk_at dksX5_symbol_1 0 rfl rfl)
theorem dX5_symbol_25 : decode cX5_symbol 25 = .ok (.iload_n 2, 1) := dk_28 (dk_at dksX5_symbol_1 3 rfl rfl)
theorem dX5_symbol_26 : decode cX5_symbol 26 = .ok (.iaload, 1) := dk_46 (dk_at dksX5_symbol_1 4 rfl rfl)
theorem dX5_symbol_27 : decode cX5_symbol 27 = .ok (.ifCond .eq 7, 3) := dk_153 0 7 (dk_at dksX5_symbol_1 5 rfl rfl)
theorem dX5_symbol_30 : decode cX5_symbol 30 = .ok (.iconst 2, 1) := dk_5 (dk_at dksX5_symbol_1 8 rfl rfl)
theorem dX5_symbol_31 : decode cX5_symbol 31 = .ok (.goto 15, 3) := dk_167 0 15 (dk_at dksX5_symbol_1 9 rfl rfl)
theorem dX5_symbol_34 : decode cX5_symbol 34 = .ok (.aload_n 0, 1) := dk_42 (dk_at dksX5_symbol_1 12 rfl rfl)
theorem dX5_symbol_35 : decode cX5_symbol 35 = .ok (.invokevirtual 378, 3) := dk_182 1 122 (dk_at dksX5_symbol_1 13 rfl rfl)
theorem dX5_symbol_38 : decode cX5_symbol 38 = .ok (.ifCond .eq 7, 3) := dk_153 0 7 (dk_at dksX5_symbol_1 16 rfl rfl)
theorem dX5_symbol_41 : decode cX5_symbol 41 = .ok (.iconst 0, 1) := dk_3 (dk_at dksX5_symbol_1 19 rfl rfl)
theorem dX5_symbol_42 : decode cX5_symbol 42 = .ok (.goto 4, 3) := dk_167 0 4 (dk_at dksX5_symbol_1 20 rfl rfl)
theorem dX5_symbol_45 : decode cX5_symbol 45 = .ok (.iconst 3, 1) := dk_6 (dk_at dksX5_symbol_1 23 rfl rfl)
theorem dX5_symbol_46 : decode cX5_symbol 46 = .ok (.putfield 174, 3) := dk_181 0 174 (dk_at dksX5_symbol_2 0 rfl rfl)
theorem dX5_symbol_49 : decode cX5_symbol 49 = .ok (.aload_n 0, 1) := dk_42 (dk_at dksX5_symbol_2 3 rfl rfl)
theorem dX5_symbol_50 : decode cX5_symbol 50 = .ok (.getfield 174, 3) := dk_180 0 174 (dk_at dksX5_symbol_2 4 rfl rfl)
theorem dX5_symbol_53 : decode cX5_symbol 53 = .ok (.ifCond .le 5, 3) := dk_158 0 5 (dk_at dksX5_symbol_2 7 rfl rfl)
theorem dX5_symbol_56 : decode cX5_symbol 56 = .ok (.iconst 0, 1) := dk_3 (dk_at dksX5_symbol_2 10 rfl rfl)
theorem dX5_symbol_57 : decode cX5_symbol 57 = .ok (.ireturn, 1) := dk_172 (dk_at dksX5_symbol_2 11 rfl rfl)
theorem dX5_symbol_58 : decode cX5_symbol 58 = .ok (.aload_n 0, 1) := dk_42 (dk_at dksX5_symbol_2 12 rfl rfl)
theorem dX5_symbol_59 : decode cX5_symbol 59 = .ok (.iconst 0, 1) := dk_3 (dk_at dksX5_symbol_2 13 rfl rfl)
theorem dX5_symbol_60 : decode cX5_symbol 60 = .ok (.iload_n 2, 1) := dk_28 (dk_at dksX5_symbol_2 14 rfl rfl)
theorem dX5_symbol_61 : decode cX5_symbol 61 = .ok (.invokevirtual 370, 3) := dk_182 1 114 (dk_at dksX5_symbol_2 15 rfl rfl)
theorem dX5_symbol_64 : decode cX5_symbol 64 = .ok (.aload_n 0, 1) := dk_42 (dk_at dksX5_symbol_2 18 rfl rfl)
theorem dX5_symbol_65 : decode cX5_symbol 65 = .ok (.getfield 53, 3) := dk_180 0 53 (dk_at dksX5_symbol_2 19 rfl rfl)
theorem dX5_symbol_68 : decode cX5_symbol 68 = .ok (.aload_n 0, 1) := dk_42 (dk_at dksX5_symbol_2 22 rfl rfl)
theorem dX5_symbol_69 : decode cX5_symbol 69 = .ok (.getfield 318, 3) := dk_180 1 62 (dk_at dksX5_symbol_3 0 rfl rfl)
theorem dX5_symbol_72 : decode cX5_symbol 72 = .ok (.iload_n 1, 1) := dk_27 (dk_at dksX5_symbol_3 3 rfl rfl)
theorem dX5_symbol_73 : decode cX5_symbol 73 = .ok (.iastore, 1) := dk_79 (dk_at dksX5_symbol_3 4 rfl rfl)
theorem dX5_symbol_74 : decode cX5_symbol 74 = .ok (.aload_n 0, 1) := dk_42 (dk_at dksX5_symbol_3 5 rfl rfl)
theorem dX5_symbol_75 : decode cX5_symbol 75 = .ok (.bipush 6, 2) := dk_16 6 (dk_at dksX5_symbol_3 6 rfl rfl)
theorem dX5_symbol_77 : decode cX5_symbol 77 = .ok (.iconst 1, 1) := dk_4 (dk_at dksX5_symbol_3 8 rfl rfl)
theorem dX5_symbol_78 : decode cX5_symbol 78 = .ok (.invokevirtual 384, 3) := dk_182 1 128 (dk_at dksX5_symbol_3 9 rfl rfl)
theorem dX5_symbol_81 : decode cX5_symbol 81 = .ok (.ireturn, 1) := dk_172 (dk_at dksX5_symbol_3 12 rfl rfl)
def dkwX5_isTree_0 : List UInt8 := [27, 3, 42, 180, 1, 144, 4, 100, 184, 0, 180, 172]
abbrev dktX5_isTree_0 : List UInt8 := dkwX5_isTree_0 ++ []
theorem dksX5_isTree_0 : cX5_isTree.data.toList.drop 0 = dktX5_isTree_0 := by decide +kernel
theorem dX5_isTree_0 : decode cX5_isTree 0 = .ok (.iload_n 1, 1) := dk_27 (dk_at dksX5_isTree_0 0 rfl rfl)
theorem dX5_isTree_1 : decode cX5_isTree 1 = .ok (.iconst 0, 1) := dk_3 (dk_at dksX5_isTree_0 1 rfl rfl)
theorem dX5_isTree_2 : decode cX5_isTree 2 = .ok (.aload_n 0, 1) := dk_42 (dk_at dksX5_isTree_0 2 rfl rfl)
theorem dX5_isTree_3 : decode cX5_isTree 3 = .ok (.getfield 400, 3) := dk_180 1 144 (dk_at dksX5_isTree_0 3 rfl rfl)
theorem dX5_isTree_6 : decode cX5_isTree 6 = .ok (.iconst 1, 1) := dk_4 (dk_at dksX5_isTree_0 6 rfl rfl)
theorem dX5_isTree_7 : decode cX5_isTree 7 = .ok (.isub, 1) := dk_100 (dk_at dksX5_isTree_0 7 rfl rfl)
theorem dX5_isTree_8 : decode cX5_isTree 8 = .ok (.invokestatic 180, 3) := dk_184 0 180 (dk_at dksX5_isTree_0 8 rfl rfl)
theorem dX5_isTree_11 : decode cX5_isTree 11 = .ok (.ireturn, 1) := dk_172 (dk_at dksX5_isTree_0 11 rfl rfl)
def dkwX5_constraints_0 : List UInt8 := [42, 3, 181, 0, 174, 42, 180, 1, 62, 172]
abbrev dktX5_constraints_0 : List UInt8 := dkwX5_constraints_0 ++ []
theorem dksX5_constraints_0 : cX5_constraints.data.toList.drop 0 = dktX5_constraints_0 := by decide +kernel
theorem dX5_constraints_0 : decode cX5_constraints 0 = .ok (.aload_n 0, 1) := dk_42 (dk_at dksX5_constraints_0 0 rfl rfl)
theorem dX5_constraints_1 : decode cX5_constraints 1 = .ok (.iconst 0, 1) := dk_3 (dk_at dksX5_constraints_0 1 rfl rfl)
theorem dX5_constraints_2 : decode cX5_constraints 2 = .ok (.putfield 174, 3) := dk_181 0 174 (dk_at dksX5_constraints_0 2 rfl rfl)
theorem dX5_constraints_5 : decode cX5_constraints 5 = .ok (.aload_n 0, 1) := dk_42 (dk_at dksX5_constraints_0 5 rfl rfl)
theorem dX5_constraints_6 : decode cX5_constraints 6 = .ok (.getfield 318, 3) := dk_180 1 62 (dk_at dksX5_constraints_0 6 rfl rfl)
theorem dX5_constraints_9 : decode cX5_constraints 9 = .ok (.ireturn, 1) := dk_172 (dk_at dksX5_constraints_0 9 rfl rfl)
def dkwX5_decide_4 : List UInt8 := [180, 1, 34, 4, 100, 172]
abbrev dktX5_decide_4 : List UInt8 := dkwX5_decide_4 ++ []
def dkwX5_decide_3 : List UInt8 := [79, 42, 180, 0, 71, 42, 180, 1, 34, 29, 84, 42, 89, 180, 1, 34, 4, 96, 181, 1, 34, 42]
abbrev dktX5_decide_3 : List UInt8 := dkwX5_decide_3 ++ dktX5_decide_4
def dkwX5_decide_2 : List UInt8 := [158, 0, 5, 3, 172, 42, 180, 0, 65, 42, 180, 1, 34, 27, 79, 42, 180, 0, 68, 42, 180, 1, 34, 28]
abbrev dktX5_decide_2 : List UInt8 := dkwX5_decide_2 ++ dktX5_decide_3
def dkwX5_decide_1 : List UInt8 := [167, 0, 17, 42, 180, 1, 34, 16, 12, 160, 0, 7, 6, 167, 0, 4, 3, 181, 0, 174, 42, 180, 0, 174]
abbrev dktX5_decide_1 : List UInt8 := dkwX5_decide_1 ++ dktX5_decide_2
def dkwX5_decide_0 : List UInt8 := [42, 42, 27, 182, 1, 93, 154, 0, 7, 4, 167, 0, 30, 42, 27, 28, 182, 1, 108, 154, 0, 7, 5]
abbrev dktX5_decide_0 : List UInt8 := dkwX5_decide_0 ++ dktX5_decide_1
theorem dksX5_decide_0 : cX5_decide.data.toList.drop 0 = dktX5_decide_0 := by decide +kernel
theorem dksX5_decide_1 : cX5_decide.data.toList.drop 23 = dktX5_decide_1 := dk_seg dksX5_decide_0 23 rfl rfl
theorem dksX5_decide_2 : cX5_decide.data.toList.drop 47 = dktX5_decide_2 := dk_seg dksX5_decide_1 24 rfl rfl
theorem dksX5_decide_3 : cX5_decide.data.toList.drop 71 = dktX5_decide_3 := dk_seg dksX5_decide_2 24 rfl rfl
theorem dksX5_decide_4 : cX5_decide.data.toList.drop 93 = dktX5_decide_4 := dk_seg dksX5_decide_3 22 rfl rfl
theorem dX5_decide_0 : decode cX5_decide 0 = .ok (.aload_n 0, 1) := dk_42 (dk_at dksX5_decide_0 0 rfl rfl)
theorem dX5_decide_1 : decode cX5_decide 1 = .ok (.aload_n 0, 1) := dk_42 (dk_at dksX5_decide_0 1 rfl rfl)
theorem dX5_decide_2 : decode cX5_decide 2 = .ok (.iload_n 1, 1) := dk_27 (dk_at dksX5_decide_0 2 rfl rfl)
theorem dX5_decide_3 : decode cX5_decide 3 = .ok (.invokevirtual 349, 3) := dk_182 1 93 (dk_at dksX5_decide_0 3 rfl rfl)
theorem dX5_decide_6 : decode cX5_decide 6 = .ok (.ifCond .ne 7, 3) := dk_154 0 7 (dk_at dksX5_decide_0 6 rfl rfl)
theorem dX5_decide_9 : decode cX5_decide 9 = .ok (.iconst 1, 1) := dk_4 (dk_at dksX5_decide_0 9 rfl rfl)
theorem dX5_decide_10 : decode cX5_decide 10 = .ok (.goto 30, 3) := dk_167 0 30 (dk_at dksX5_decide_0 10 rfl rfl)
theorem dX5_decide_13 : decode cX5_decide 13 = .ok (.aload_n 0, 1) := dk_42 (dk_at dksX5_decide_0 13 rfl rfl)
theorem dX5_decide_14 : decode cX5_decide 14 = .ok (.iload_n 1, 1) := dk_27 (dk_at dksX5_decide_0 14 rfl rfl)
theorem dX5_decide_15 : decode cX5_decide 15 = .ok (.iload_n 2, 1) := dk_28 (dk_at dksX5_decide_0 15 rfl rfl)
theorem dX5_decide_16 : decode cX5_decide 16 = .ok (.invokevirtual 364, 3) := dk_182 1 108 (dk_at dksX5_decide_0 16 rfl rfl)
theorem dX5_decide_19 : decode cX5_decide 19 = .ok (.ifCond .ne 7, 3) := dk_154 0 7 (dk_at dksX5_decide_0 19 rfl rfl)
theorem dX5_decide_22 : decode cX5_decide 22 = .ok (.iconst 2, 1) := dk_5 (dk_at dksX5_decide_0 22 rfl rfl)
theorem dX5_decide_23 : decode cX5_decide 23 = .ok (.goto 17, 3) := dk_167 0 17 (dk_at dksX5_decide_1 0 rfl rfl)
theorem dX5_decide_26 : decode cX5_decide 26 = .ok (.aload_n 0, 1) := dk_42 (dk_at dksX5_decide_1 3 rfl rfl)
theorem dX5_decide_27 : decode cX5_decide 27 = .ok (.getfield 290, 3) := dk_180 1 34 (dk_at dksX5_decide_1 4 rfl rfl)
theorem dX5_decide_30 : decode cX5_decide 30 = .ok (.bipush 12, 2) := dk_16 12 (dk_at dksX5_decide_1 7 rfl rfl)
theorem dX5_decide_32 : decode cX5_decide 32 = .ok (.if_icmp .ne 7, 3) := dk_160 0 7 (dk_at dksX5_decide_1 9 rfl rfl)
theorem dX5_decide_35 : decode cX5_decide 35 = .ok (.iconst 3, 1) := dk_6 (dk_at dksX5_decide_1 12 rfl rfl)
theorem dX5_decide_36 : decode cX5_decide 36 = .ok (.goto 4, 3) := dk_167 0 4 (dk_at dksX5_decide_1 13 rfl rfl)
theorem dX5_decide_39 : decode cX5_decide 39 = .ok (.iconst 0, 1) := dk_3 (dk_at dksX5_decide_1 16 rfl rfl)
theorem dX5_decide_40 : decode cX5_decide 40 = .ok (.putfield 174, 3) := dk_181 0 174 (dk_at dksX5_decide_1 17 rfl rfl)
theorem dX5_decide_43 : decode cX5_decide 43 = .ok (.aload_n 0, 1) := dk_42 (dk_at dksX5_decide_1 20 rfl rfl)
theorem dX5_decide_44 : decode cX5_decide 44 = .ok (.getfield 174, 3) := dk_180 0 174 (dk_at dksX5_decide_1 21 rfl rfl)
theorem dX5_decide_47 : decode cX5_decide 47 = .ok (.ifCond .le 5, 3) := dk_158 0 5 (dk_at dksX5_decide_2 0 rfl rfl)
theorem dX5_decide_50 : decode cX5_decide 50 = .ok (.iconst 0, 1) := dk_3 (dk_at dksX5_decide_2 3 rfl rfl)
theorem dX5_decide_51 : decode cX5_decide 51 = .ok (.ireturn, 1) := dk_172 (dk_at dksX5_decide_2 4 rfl rfl)
theorem dX5_decide_52 : decode cX5_decide 52 = .ok (.aload_n 0, 1) := dk_42 (dk_at dksX5_decide_2 5 rfl rfl)
theorem dX5_decide_53 : decode cX5_decide 53 = .ok (.getfield 65, 3) := dk_180 0 65 (dk_at dksX5_decide_2 6 rfl rfl)
theorem dX5_decide_56 : decode cX5_decide 56 = .ok (.aload_n 0, 1) := dk_42 (dk_at dksX5_decide_2 9 rfl rfl)
theorem dX5_decide_57 : decode cX5_decide 57 = .ok (.getfield 290, 3) := dk_180 1 34 (dk_at dksX5_decide_2 10 rfl rfl)
theorem dX5_decide_60 : decode cX5_decide 60 = .ok (.iload_n 1, 1) := dk_27 (dk_at dksX5_decide_2 13 rfl rfl)
theorem dX5_decide_61 : decode cX5_decide 61 = .ok (.iastore, 1) := dk_79 (dk_at dksX5_decide_2 14 rfl rfl)
theorem dX5_decide_62 : decode cX5_decide 62 = .ok (.aload_n 0, 1) := dk_42 (dk_at dksX5_decide_2 15 rfl rfl)
theorem dX5_decide_63 : decode cX5_decide 63 = .ok (.getfield 68, 3) := dk_180 0 68 (dk_at dksX5_decide_2 16 rfl rfl)
theorem dX5_decide_66 : decode cX5_decide 66 = .ok (.aload_n 0, 1) := dk_42 (dk_at dksX5_decide_2 19 rfl rfl)
theorem dX5_decide_67 : decode cX5_decide 67 = .ok (.getfield 290, 3) := dk_180 1 34 (dk_at dksX5_decide_2 20 rfl rfl)
theorem dX5_decide_70 : decode cX5_decide 70 = .ok (.iload_n 2, 1) := dk_28 (dk_at dksX5_decide_2 23 rfl rfl)
theorem dX5_decide_71 : decode cX5_decide 71 = .ok (.iastore, 1) := dk_79 (dk_at dksX5_decide_3 0 rfl rfl)
theorem dX5_decide_72 : decode cX5_decide 72 = .ok (.aload_n 0, 1) := dk_42 (dk_at dksX5_decide_3 1 rfl rfl)
theorem dX5_decide_73 : decode cX5_decide 73 = .ok (.getfield 71, 3) := dk_180 0 71 (dk_at dksX5_decide_3 2 rfl rfl)
theorem dX5_decide_76 : decode cX5_decide 76 = .ok (.aload_n 0, 1) := dk_42 (dk_at dksX5_decide_3 5 rfl rfl)
theorem dX5_decide_77 : decode cX5_decide 77 = .ok (.getfield 290, 3) := dk_180 1 34 (dk_at dksX5_decide_3 6 rfl rfl)
theorem dX5_decide_80 : decode cX5_decide 80 = .ok (.iload_n 3, 1) := dk_29 (dk_at dksX5_decide_3 9 rfl rfl)
theorem dX5_decide_81 : decode cX5_decide 81 = .ok (.bastore, 1) := dk_84 (dk_at dksX5_decide_3 10 rfl rfl)
theorem dX5_decide_82 : decode cX5_decide 82 = .ok (.aload_n 0, 1) := dk_42 (dk_at dksX5_decide_3 11 rfl rfl)
theorem dX5_decide_83 : decode cX5_decide 83 = .ok (.dup, 1) := dk_89 (dk_at dksX5_decide_3 12 rfl rfl)
theorem dX5_decide_84 : decode cX5_decide 84 = .ok (.getfield 290, 3) := dk_180 1 34 (dk_at dksX5_decide_3 13 rfl rfl)
theorem dX5_decide_87 : decode cX5_decide 87 = .ok (.iconst 1, 1) := dk_4 (dk_at dksX5_decide_3 16 rfl rfl)
theorem dX5_decide_88 : decode cX5_decide 88 = .ok (.iadd, 1) := dk_96 (dk_at dksX5_decide_3 17 rfl rfl)
theorem dX5_decide_89 : decode cX5_decide 89 = .ok (.putfield 290, 3) := dk_181 1 34 (dk_at dksX5_decide_3 18 rfl rfl)
theorem dX5_decide_92 : decode cX5_decide 92 = .ok (.aload_n 0, 1) := dk_42 (dk_at dksX5_decide_3 21 rfl rfl)
theorem dX5_decide_93 : decode cX5_decide 93 = .ok (.getfield 290, 3) := dk_180 1 34 (dk_at dksX5_decide_4 0 rfl rfl)
theorem dX5_decide_96 : decode cX5_decide 96 = .ok (.iconst 1, 1) := dk_4 (dk_at dksX5_decide_4 3 rfl rfl)
theorem dX5_decide_97 : decode cX5_decide 97 = .ok (.isub, 1) := dk_100 (dk_at dksX5_decide_4 4 rfl rfl)
theorem dX5_decide_98 : decode cX5_decide 98 = .ok (.ireturn, 1) := dk_172 (dk_at dksX5_decide_4 5 rfl rfl)
def dkwX5_back_1 : List UInt8 := [180, 0, 174, 158, 0, 5, 3, 172, 42, 89, 180, 1, 34, 27, 100, 181, 1, 34, 42, 180, 1, 34, 172]
abbrev dktX5_back_1 : List UInt8 := dkwX5_back_1 ++ []
def dkwX5_back_0 : List UInt8 := [42, 27, 3, 42, 180, 1, 34, 184, 0, 180, 153, 0, 7, 3, 167, 0, 4, 4, 181, 0, 174, 42]
abbrev dktX5_back_0 : List UInt8 := dkwX5_back_0 ++ dktX5_back_1
theorem dksX5_back_0 : cX5_back.data.toList.drop 0 = dktX5_back_0 := by decide +kernel
theorem dksX5_back_1 : cX5_back.data.toList.drop 22 = dktX5_back_1 := dk_seg dksX5_back_0 22 rfl rfl
theorem dX5_back_0 : decode cX5_back 0 = .ok (.aload_n 0, 1) := dk_42 (dk_at dksX5_back_0 0 rfl rfl)
theorem dX5_back_1 : decode cX5_back 1 = .ok (.iload_n 1, 1) := dk_27 (dk_at dksX5_back_0 1 rfl rfl)
theorem dX5_back_2 : decode cX5_back 2 = .ok (.iconst 0, 1) := dk_3 (dk_at dksX5_back_0 2 rfl rfl)
theorem dX5_back_3 : decode cX5_back 3 = .ok (.aload_n 0, 1) := dk_42 (dk_at dksX5_back_0 3 rfl rfl)
theorem dX5_back_4 : decode cX5_back 4 = .ok (.getfield 290, 3) := dk_180 1 34 (dk_at dksX5_back_0 4 rfl rfl)
theorem dX5_back_7 : decode cX5_back 7 = .ok (.invokestatic 180, 3) := dk_184 0 180 (dk_at dksX5_back_0 7 rfl rfl)
theorem dX5_back_10 : decode cX5_back 10 = .ok (.ifCond .eq 7, 3) := dk_153 0 7 (dk_at dksX5_back_0 10 rfl rfl)
theorem dX5_back_13 : decode cX5_back 13 = .ok (.iconst 0, 1) := dk_3 (dk_at dksX5_back_0 13 rfl rfl)
theorem dX5_back_14 : decode cX5_back 14 = .ok (.goto 4, 3) := dk_167 0 4 (dk_at dksX5_back_0 14 rfl rfl)
theorem dX5_back_17 : decode cX5_back 17 = .ok (.iconst 1, 1) := dk_4 (dk_at dksX5_back_0 17 rfl rfl)
theorem dX5_back_18 : decode cX5_back 18 = .ok (.putfield 174, 3) := dk_181 0 174 (dk_at dksX5_back_0 18 rfl rfl)
theorem dX5_back_21 : decode cX5_back 21 = .ok (.aload_n 0, 1) := dk_42 (dk_at dksX5_back_0 21 rfl rfl)
theorem dX5_back_22 : decode cX5_back 22 = .ok (.getfield 174, 3) := dk_180 0 174 (dk_at dksX5_back_1 0 rfl rfl)
theorem dX5_back_25 : decode cX5_back 25 = .ok (.ifCond .le 5, 3) := dk_158 0 5 (dk_at dksX5_back_1 3 rfl rfl)
theorem dX5_back_28 : decode cX5_back 28 = .ok (.iconst 0, 1) := dk_3 (dk_at dksX5_back_1 6 rfl rfl)
theorem dX5_back_29 : decode cX5_back 29 = .ok (.ireturn, 1) := dk_172 (dk_at dksX5_back_1 7 rfl rfl)
theorem dX5_back_30 : decode cX5_back 30 = .ok (.aload_n 0, 1) := dk_42 (dk_at dksX5_back_1 8 rfl rfl)
theorem dX5_back_31 : decode cX5_back 31 = .ok (.dup, 1) := dk_89 (dk_at dksX5_back_1 9 rfl rfl)
theorem dX5_back_32 : decode cX5_back 32 = .ok (.getfield 290, 3) := dk_180 1 34 (dk_at dksX5_back_1 10 rfl rfl)
theorem dX5_back_35 : decode cX5_back 35 = .ok (.iload_n 1, 1) := dk_27 (dk_at dksX5_back_1 13 rfl rfl)
theorem dX5_back_36 : decode cX5_back 36 = .ok (.isub, 1) := dk_100 (dk_at dksX5_back_1 14 rfl rfl)
theorem dX5_back_37 : decode cX5_back 37 = .ok (.putfield 290, 3) := dk_181 1 34 (dk_at dksX5_back_1 15 rfl rfl)
theorem dX5_back_40 : decode cX5_back 40 = .ok (.aload_n 0, 1) := dk_42 (dk_at dksX5_back_1 18 rfl rfl)
theorem dX5_back_41 : decode cX5_back 41 = .ok (.getfield 290, 3) := dk_180 1 34 (dk_at dksX5_back_1 19 rfl rfl)
theorem dX5_back_44 : decode cX5_back 44 = .ok (.ireturn, 1) := dk_172 (dk_at dksX5_back_1 22 rfl rfl)
def dkwX5_isFailed_0 : List UInt8 := [42, 3, 181, 0, 174, 42, 182, 1, 150, 42, 180, 1, 41, 172]
abbrev dktX5_isFailed_0 : List UInt8 := dkwX5_isFailed_0 ++ []
theorem dksX5_isFailed_0 : cX5_isFailed.data.toList.drop 0 = dktX5_isFailed_0 := by decide +kernel
theorem dX5_isFailed_0 : decode cX5_isFailed 0 = .ok (.aload_n 0, 1) := dk_42 (dk_at dksX5_isFailed_0 0 rfl rfl)
theorem dX5_isFailed_1 : decode cX5_isFailed 1 = .ok (.iconst 0, 1) := dk_3 (dk_at dksX5_isFailed_0 1 rfl rfl)
theorem dX5_isFailed_2 : decode cX5_isFailed 2 = .ok (.putfield 174, 3) := dk_181 0 174 (dk_at dksX5_isFailed_0 2 rfl rfl)
theorem dX5_isFailed_5 : decode cX5_isFailed 5 = .ok (.aload_n 0, 1) := dk_42 (dk_at dksX5_isFailed_0 5 rfl rfl)
theorem dX5_isFailed_6 : decode cX5_isFailed 6 = .ok (.invokevirtual 406, 3) := dk_182 1 150 (dk_at dksX5_isFailed_0 6 rfl rfl)
theorem dX5_isFailed_9 : decode cX5_isFailed 9 = .ok (.aload_n 0, 1) := dk_42 (dk_at dksX5_isFailed_0 9 rfl rfl)
theorem dX5_isFailed_10 : decode cX5_isFailed 10 = .ok (.getfield 297, 3) := dk_180 1 41 (dk_at dksX5_isFailed_0 10 rfl rfl)
theorem dX5_isFailed_13 : decode cX5_isFailed 13 = .ok (.ireturn, 1) := dk_172 (dk_at dksX5_isFailed_0 13 rfl rfl)
def dkwX5_now_0 : List UInt8 := [42, 2, 181, 0, 83, 42, 17, 15, 255, 182, 1, 77, 42, 182, 1, 80, 177]
abbrev dktX5_now_0 : List UInt8 := dkwX5_now_0 ++ []
theorem dksX5_now_0 : cX5_now.data.toList.drop 0 = dktX5_now_0 := by decide +kernel
theorem dX5_now_0 : decode cX5_now 0 = .ok (.aload_n 0, 1) := dk_42 (dk_at dksX5_now_0 0 rfl rfl)
theorem dX5_now_1 : decode cX5_now 1 = .ok (.iconst (-1), 1) := dk_2 (dk_at dksX5_now_0 1 rfl rfl)
theorem dX5_now_2 : decode cX5_now 2 = .ok (.putfield 83, 3) := dk_181 0 83 (dk_at dksX5_now_0 2 rfl rfl)
theorem dX5_now_5 : decode cX5_now 5 = .ok (.aload_n 0, 1) := dk_42 (dk_at dksX5_now_0 5 rfl rfl)
theorem dX5_now_6 : decode cX5_now 6 = .ok (.sipush 4095, 3) := dk_17 15 255 (dk_at dksX5_now_0 6 rfl rfl)
theorem dX5_now_9 : decode cX5_now 9 = .ok (.invokevirtual 333, 3) := dk_182 1 77 (dk_at dksX5_now_0 9 rfl rfl)
theorem dX5_now_12 : decode cX5_now 12 = .ok (.aload_n 0, 1) := dk_42 (dk_at dksX5_now_0 12 rfl rfl)
theorem dX5_now_13 : decode cX5_now 13 = .ok (.invokevirtual 336, 3) := dk_182 1 80 (dk_at dksX5_now_0 13 rfl rfl)
theorem dX5_now_16 : decode cX5_now 16 = .ok (.return_, 1) := dk_177 (dk_at dksX5_now_0 16 rfl rfl)
def dkwX5_takesDecisions_2 : List UInt8 := [132, 2, 1, 167, 255, 214, 177]
abbrev dktX5_takesDecisions_2 : List UInt8 := dkwX5_takesDecisions_2 ++ []
def dkwX5_takesDecisions_1 : List UInt8 := [42, 42, 180, 0, 65, 28, 46, 42, 180, 0, 68, 28, 46, 42, 180, 0, 71, 28, 51, 182, 1, 37]
abbrev dktX5_takesDecisions_1 : List UInt8 := dkwX5_takesDecisions_1 ++ dktX5_takesDecisions_2
def dkwX5_takesDecisions_0 : List UInt8 := [42, 3, 181, 1, 31, 3, 61, 28, 42, 180, 1, 34, 162, 0, 40, 27, 28, 122, 4, 126, 4, 160, 0, 25]
abbrev dktX5_takesDecisions_0 : List UInt8 := dkwX5_takesDecisions_0 ++ dktX5_takesDecisions_1
theorem dksX5_takesDecisions_0 : cX5_takesDecisions.data.toList.drop 0 = dktX5_takesDecisions_0 := by decide +kernel
theorem dksX5_takesDecisions_1 : cX5_takesDecisions.data.toList.drop 24 = dktX5_takesDecisions_1 := dk_seg dksX5_takesDecisions_0 24 rfl rfl
theorem dksX5_takesDecisions_2 : cX5_takesDecisions.data.toList.drop 46 = dktX5_takesDecisions_2 := dk_seg dksX5_takesDecisions_1 22 rfl rfl
theorem dX5_takesDecisions_0 : decode cX5_takesDecisions 0 = .ok (.aload_n 0, 1) := dk_42 (dk_at dksX5_takesDecisions_0 0 rfl rfl)
theorem dX5_takesDecisions_1 : decode cX5_takesDecisions 1 = .ok (.iconst 0, 1) := dk_3 (dk_at dksX5_takesDecisions_0 1 rfl rfl)
theorem dX5_takesDecisions_2 : decode cX5_takesDecisions 2 = .ok (.putfield 287, 3) := dk_181 1 31 (dk_at dksX5_takesDecisions_0 2 rfl rfl)
theorem dX5_takesDecisions_5 : decode cX5_takesDecisions 5 = .ok (.iconst 0, 1) := dk_3 (dk_at dksX5_takesDecisions_0 5 rfl rfl)
theorem dX5_takesDecisions_6 : decode cX5_takesDecisions 6 = .ok (.istore_n 2, 1) := dk_61 (dk_at dksX5_takesDecisions_0 6 rfl rfl)
theorem dX5_takesDecisions_7 : decode cX5_takesDecisions 7 = .ok (.iload_n 2, 1) := dk_28 (dk_at dksX5_takesDecisions_0 7 rfl rfl)
theorem dX5_takesDecisions_8 : decode cX5_takesDecisions 8 = .ok (.aload_n 0, 1) := dk_42 (dk_at dksX5_takesDecisions_0 8 rfl rfl)
theorem dX5_takesDecisions_9 : decode cX5_takesDecisions 9 = .ok (.getfield 290, 3) := dk_180 1 34 (dk_at dksX5_takesDecisions_0 9 rfl rfl)
theorem dX5_takesDecisions_12 : decode cX5_takesDecisions 12 = .ok (.if_icmp .ge 40, 3) := dk_162 0 40 (dk_at dksX5_takesDecisions_0 12 rfl rfl)
theorem dX5_takesDecisions_15 : decode cX5_takesDecisions 15 = .ok (.iload_n 1, 1) := dk_27 (dk_at dksX5_takesDecisions_0 15 rfl rfl)
theorem dX5_takesDecisions_16 : decode cX5_takesDecisions 16 = .ok (.iload_n 2, 1) := dk_28 (dk_at dksX5_takesDecisions_0 16 rfl rfl)
theorem dX5_takesDecisions_17 : decode cX5_takesDecisions 17 = .ok (.ishr, 1) := dk_122 (dk_at dksX5_takesDecisions_0 17 rfl rfl)
theorem dX5_takesDecisions_18 : decode cX5_takesDecisions 18 = .ok (.iconst 1, 1) := dk_4 (dk_at dksX5_takesDecisions_0 18 rfl rfl)
theorem dX5_takesDecisions_19 : decode cX5_takesDecisions 19 = .ok (.iand, 1) := dk_126 (dk_at dksX5_takesDecisions_0 19 rfl rfl)
theorem dX5_takesDecisions_20 : decode cX5_takesDecisions 20 = .ok (.iconst 1, 1) := dk_4 (dk_at dksX5_takesDecisions_0 20 rfl rfl)
theorem dX5_takesDecisions_21 : decode cX5_takesDecisions 21 = .ok (.if_icmp .ne 25, 3) := dk_160 0 25 (dk_at dksX5_takesDecisions_0 21 rfl rfl)
theorem dX5_takesDecisions_24 : decode cX5_takesDecisions 24 = .ok (.aload_n 0, 1) := dk_42 (dk_at dksX5_takesDecisions_1 0 rfl rfl)
theorem dX5_takesDecisions_25 : decode cX5_takesDecisions 25 = .ok (.aload_n 0, 1) := dk_42 (dk_at dksX5_takesDecisions_1 1 rfl rfl)
theorem dX5_takesDecisions_26 : decode cX5_takesDecisions 26 = .ok (.getfield 65, 3) := dk_180 0 65 (dk_at dksX5_takesDecisions_1 2 rfl rfl)
theorem dX5_takesDecisions_29 : decode cX5_takesDecisions 29 = .ok (.iload_n 2, 1) := dk_28 (dk_at dksX5_takesDecisions_1 5 rfl rfl)
theorem dX5_takesDecisions_30 : decode cX5_takesDecisions 30 = .ok (.iaload, 1) := dk_46 (dk_at dksX5_takesDecisions_1 6 rfl rfl)
theorem dX5_takesDecisions_31 : decode cX5_takesDecisions 31 = .ok (.aload_n 0, 1) := dk_42 (dk_at dksX5_takesDecisions_1 7 rfl rfl)
theorem dX5_takesDecisions_32 : decode cX5_takesDecisions 32 = .ok (.getfield 68, 3) := dk_180 0 68 (dk_at dksX5_takesDecisions_1 8 rfl rfl)
theorem dX5_takesDecisions_35 : decode cX5_takesDecisions 35 = .ok (.iload_n 2, 1) := dk_28 (dk_at dksX5_takesDecisions_1 11 rfl rfl)
theorem dX5_takesDecisions_36 : decode cX5_takesDecisions 36 = .ok (.iaload, 1) := dk_46 (dk_at dksX5_takesDecisions_1 12 rfl rfl)
theorem dX5_takesDecisions_37 : decode cX5_takesDecisions 37 = .ok (.aload_n 0, 1) := dk_42 (dk_at dksX5_takesDecisions_1 13 rfl rfl)
theorem dX5_takesDecisions_38 : decode cX5_takesDecisions 38 = .ok (.getfield 71, 3) := dk_180 0 71 (dk_at dksX5_takesDecisions_1 14 rfl rfl)
theorem dX5_takesDecisions_41 : decode cX5_takesDecisions 41 = .ok (.iload_n 2, 1) := dk_28 (dk_at dksX5_takesDecisions_1 17 rfl rfl)
theorem dX5_takesDecisions_42 : decode cX5_takesDecisions 42 = .ok (.baload, 1) := dk_51 (dk_at dksX5_takesDecisions_1 18 rfl rfl)
theorem dX5_takesDecisions_43 : decode cX5_takesDecisions 43 = .ok (.invokevirtual 293, 3) := dk_182 1 37 (dk_at dksX5_takesDecisions_1 19 rfl rfl)
theorem dX5_takesDecisions_46 : decode cX5_takesDecisions 46 = .ok (.iinc 2 1, 3) := dk_132 2 1 (dk_at dksX5_takesDecisions_2 0 rfl rfl)
theorem dX5_takesDecisions_49 : decode cX5_takesDecisions 49 = .ok (.goto (-42), 3) := dk_167 255 214 (dk_at dksX5_takesDecisions_2 3 rfl rfl)
theorem dX5_takesDecisions_52 : decode cX5_takesDecisions 52 = .ok (.return_, 1) := dk_177 (dk_at dksX5_takesDecisions_2 6 rfl rfl)
def dkwX5_takesOne_1 : List UInt8 := [42, 180, 1, 31, 29, 84, 42, 89, 180, 1, 31, 4, 96, 181, 1, 31, 177]
abbrev dktX5_takesOne_1 : List UInt8 := dkwX5_takesOne_1 ++ []
def dkwX5_takesOne_0 : List UInt8 := [42, 180, 0, 74, 42, 180, 1, 31, 27, 79, 42, 180, 0, 77, 42, 180, 1, 31, 28, 79, 42, 180, 0, 80]
abbrev dktX5_takesOne_0 : List UInt8 := dkwX5_takesOne_0 ++ dktX5_takesOne_1
theorem dksX5_takesOne_0 : cX5_takesOne.data.toList.drop 0 = dktX5_takesOne_0 := by decide +kernel
theorem dksX5_takesOne_1 : cX5_takesOne.data.toList.drop 24 = dktX5_takesOne_1 := dk_seg dksX5_takesOne_0 24 rfl rfl
theorem dX5_takesOne_0 : decode cX5_takesOne 0 = .ok (.aload_n 0, 1) := dk_42 (dk_at dksX5_takesOne_0 0 rfl rfl)
theorem dX5_takesOne_1 : decode cX5_takesOne 1 = .ok (.getfield 74, 3) := dk_180 0 74 (dk_at dksX5_takesOne_0 1 rfl rfl)
theorem dX5_takesOne_4 : decode cX5_takesOne 4 = .ok (.aload_n 0, 1) := dk_42 (dk_at dksX5_takesOne_0 4 rfl rfl)
theorem dX5_takesOne_5 : decode cX5_takesOne 5 = .ok (.getfield 287, 3) := dk_180 1 31 (dk_at dksX5_takesOne_0 5 rfl rfl)
theorem dX5_takesOne_8 : decode cX5_takesOne 8 = .ok (.iload_n 1, 1) := dk_27 (dk_at dksX5_takesOne_0 8 rfl rfl)
theorem dX5_takesOne_9 : decode cX5_takesOne 9 = .ok (.iastore, 1) := dk_79 (dk_at dksX5_takesOne_0 9 rfl rfl)
theorem dX5_takesOne_10 : decode cX5_takesOne 10 = .ok (.aload_n 0, 1) := dk_42 (dk_at dksX5_takesOne_0 10 rfl rfl)
theorem dX5_takesOne_11 : decode cX5_takesOne 11 = .ok (.getfield 77, 3) := dk_180 0 77 (dk_at dksX5_takesOne_0 11 rfl rfl)
theorem dX5_takesOne_14 : decode cX5_takesOne 14 = .ok (.aload_n 0, 1) := dk_42 (dk_at dksX5_takesOne_0 14 rfl rfl)
theorem dX5_takesOne_15 : decode cX5_takesOne 15 = .ok (.getfield 287, 3) := dk_180 1 31 (dk_at dksX5_takesOne_0 15 rfl rfl)
theorem dX5_takesOne_18 : decode cX5_takesOne 18 = .ok (.iload_n 2, 1) := dk_28 (dk_at dksX5_takesOne_0 18 rfl rfl)
theorem dX5_takesOne_19 : decode cX5_takesOne 19 = .ok (.iastore, 1) := dk_79 (dk_at dksX5_takesOne_0 19 rfl rfl)
theorem dX5_takesOne_20 : decode cX5_takesOne 20 = .ok (.aload_n 0, 1) := dk_42 (dk_at dksX5_takesOne_0 20 rfl rfl)
theorem dX5_takesOne_21 : decode cX5_takesOne 21 = .ok (.getfield 80, 3) := dk_180 0 80 (dk_at dksX5_takesOne_0 21 rfl rfl)
theorem dX5_takesOne_24 : decode cX5_takesOne 24 = .ok (.aload_n 0, 1) := dk_42 (dk_at dksX5_takesOne_1 0 rfl rfl)
theorem dX5_takesOne_25 : decode cX5_takesOne 25 = .ok (.getfield 287, 3) := dk_180 1 31 (dk_at dksX5_takesOne_1 1 rfl rfl)
theorem dX5_takesOne_28 : decode cX5_takesOne 28 = .ok (.iload_n 3, 1) := dk_29 (dk_at dksX5_takesOne_1 4 rfl rfl)
theorem dX5_takesOne_29 : decode cX5_takesOne 29 = .ok (.bastore, 1) := dk_84 (dk_at dksX5_takesOne_1 5 rfl rfl)
theorem dX5_takesOne_30 : decode cX5_takesOne 30 = .ok (.aload_n 0, 1) := dk_42 (dk_at dksX5_takesOne_1 6 rfl rfl)
theorem dX5_takesOne_31 : decode cX5_takesOne 31 = .ok (.dup, 1) := dk_89 (dk_at dksX5_takesOne_1 7 rfl rfl)
theorem dX5_takesOne_32 : decode cX5_takesOne 32 = .ok (.getfield 287, 3) := dk_180 1 31 (dk_at dksX5_takesOne_1 8 rfl rfl)
theorem dX5_takesOne_35 : decode cX5_takesOne 35 = .ok (.iconst 1, 1) := dk_4 (dk_at dksX5_takesOne_1 11 rfl rfl)
theorem dX5_takesOne_36 : decode cX5_takesOne 36 = .ok (.iadd, 1) := dk_96 (dk_at dksX5_takesOne_1 12 rfl rfl)
theorem dX5_takesOne_37 : decode cX5_takesOne 37 = .ok (.putfield 287, 3) := dk_181 1 31 (dk_at dksX5_takesOne_1 13 rfl rfl)
theorem dX5_takesOne_40 : decode cX5_takesOne 40 = .ok (.return_, 1) := dk_177 (dk_at dksX5_takesOne_1 16 rfl rfl)
def dkwX5_finds_9 : List UInt8 := [3, 126, 60, 167, 255, 210, 177]
abbrev dktX5_finds_9 : List UInt8 := dkwX5_finds_9 ++ []
def dkwX5_finds_8 : List UInt8 := [167, 0, 4, 3, 96, 181, 1, 49, 42, 182, 1, 55, 27, 42, 180, 1, 41, 154, 0, 7, 4, 167, 0, 4]
abbrev dktX5_finds_8 : List UInt8 := dkwX5_finds_8 ++ dktX5_finds_9
def dkwX5_finds_7 : List UInt8 := [167, 0, 4, 3, 60, 27, 153, 0, 48, 42, 182, 1, 58, 60, 42, 89, 180, 1, 49, 27, 153, 0, 7, 4]
abbrev dktX5_finds_7 : List UInt8 := dkwX5_finds_7 ++ dktX5_finds_8
def dkwX5_finds_6 : List UInt8 := [42, 3, 181, 1, 52, 42, 3, 181, 1, 41, 42, 182, 1, 55, 42, 180, 1, 41, 154, 0, 7, 4]
abbrev dktX5_finds_6 : List UInt8 := dkwX5_finds_6 ++ dktX5_finds_7
def dkwX5_finds_5 : List UInt8 := [180, 0, 90, 42, 180, 0, 83, 92, 46, 4, 42, 180, 0, 87, 120, 4, 100, 126, 79, 42, 3, 181, 1, 49]
abbrev dktX5_finds_5 : List UInt8 := dkwX5_finds_5 ++ dktX5_finds_6
def dkwX5_finds_4 : List UInt8 := [167, 0, 6, 28, 2, 130, 126, 79, 132, 1, 1, 167, 255, 206, 42, 180, 0, 83, 155, 0, 23, 42]
abbrev dktX5_finds_4 : List UInt8 := dkwX5_finds_4 ++ dktX5_finds_5
def dkwX5_finds_3 : List UInt8 := [61, 42, 180, 0, 90, 42, 180, 0, 74, 27, 46, 92, 46, 42, 180, 0, 80, 27, 51, 153, 0, 7, 28]
abbrev dktX5_finds_3 : List UInt8 := dkwX5_finds_3 ++ dktX5_finds_4
def dkwX5_finds_2 : List UInt8 := [132, 1, 1, 167, 255, 209, 3, 60, 27, 42, 180, 1, 31, 162, 0, 48, 4, 42, 180, 0, 77, 27, 46, 120]
abbrev dktX5_finds_2 : List UInt8 := dkwX5_finds_2 ++ dktX5_finds_3
def dkwX5_finds_1 : List UInt8 := [180, 0, 93, 27, 42, 180, 0, 16, 27, 46, 79, 42, 180, 0, 96, 27, 42, 180, 0, 19, 27, 46, 79]
abbrev dktX5_finds_1 : List UInt8 := dkwX5_finds_1 ++ dktX5_finds_2
def dkwX5_finds_0 : List UInt8 := [3, 60, 27, 42, 180, 0, 177, 162, 0, 45, 42, 180, 0, 90, 27, 42, 180, 0, 13, 27, 46, 79, 42]
abbrev dktX5_finds_0 : List UInt8 := dkwX5_finds_0 ++ dktX5_finds_1
theorem dksX5_finds_0 : cX5_finds.data.toList.drop 0 = dktX5_finds_0 := by decide +kernel
theorem dksX5_finds_1 : cX5_finds.data.toList.drop 23 = dktX5_finds_1 := dk_seg dksX5_finds_0 23 rfl rfl
theorem dksX5_finds_2 : cX5_finds.data.toList.drop 46 = dktX5_finds_2 := dk_seg dksX5_finds_1 23 rfl rfl
theorem dksX5_finds_3 : cX5_finds.data.toList.drop 70 = dktX5_finds_3 := dk_seg dksX5_finds_2 24 rfl rfl
theorem dksX5_finds_4 : cX5_finds.data.toList.drop 93 = dktX5_finds_4 := dk_seg dksX5_finds_3 23 rfl rfl
theorem dksX5_finds_5 : cX5_finds.data.toList.drop 115 = dktX5_finds_5 := dk_seg dksX5_finds_4 22 rfl rfl
theorem dksX5_finds_6 : cX5_finds.data.toList.drop 139 = dktX5_finds_6 := dk_seg dksX5_finds_5 24 rfl rfl
theorem dksX5_finds_7 : cX5_finds.data.toList.drop 161 = dktX5_finds_7 := dk_seg dksX5_finds_6 22 rfl rfl
theorem dksX5_finds_8 : cX5_finds.data.toList.drop 185 = dktX5_finds_8 := dk_seg dksX5_finds_7 24 rfl rfl
theorem dksX5_finds_9 : cX5_finds.data.toList.drop 209 = dktX5_finds_9 := dk_seg dksX5_finds_8 24 rfl rfl
theorem dX5_finds_0 : decode cX5_finds 0 = .ok (.iconst 0, 1) := dk_3 (dk_at dksX5_finds_0 0 rfl rfl)
theorem dX5_finds_1 : decode cX5_finds 1 = .ok (.istore_n 1, 1) := dk_60 (dk_at dksX5_finds_0 1 rfl rfl)
theorem dX5_finds_2 : decode cX5_finds 2 = .ok (.iload_n 1, 1) := dk_27 (dk_at dksX5_finds_0 2 rfl rfl)
theorem dX5_finds_3 : decode cX5_finds 3 = .ok (.aload_n 0, 1) := dk_42 (dk_at dksX5_finds_0 3 rfl rfl)
theorem dX5_finds_4 : decode cX5_finds 4 = .ok (.getfield 177, 3) := dk_180 0 177 (dk_at dksX5_finds_0 4 rfl rfl)
theorem dX5_finds_7 : decode cX5_finds 7 = .ok (.if_icmp .ge 45, 3) := dk_162 0 45 (dk_at dksX5_finds_0 7 rfl rfl)
theorem dX5_finds_10 : decode cX5_finds 10 = .ok (.aload_n 0, 1) := dk_42 (dk_at dksX5_finds_0 10 rfl rfl)
theorem dX5_finds_11 : decode cX5_finds 11 = .ok (.getfield 90, 3) := dk_180 0 90 (dk_at dksX5_finds_0 11 rfl rfl)
theorem dX5_finds_14 : decode cX5_finds 14 = .ok (.iload_n 1, 1) := dk_27 (dk_at dksX5_finds_0 14 rfl rfl)
theorem dX5_finds_15 : decode cX5_finds 15 = .ok (.aload_n 0, 1) := dk_42 (dk_at dksX5_finds_0 15 rfl rfl)
theorem dX5_finds_16 : decode cX5_finds 16 = .ok (.getfield 13, 3) := dk_180 0 13 (dk_at dksX5_finds_0 16 rfl rfl)
theorem dX5_finds_19 : decode cX5_finds 19 = .ok (.iload_n 1, 1) := dk_27 (dk_at dksX5_finds_0 19 rfl rfl)
theorem dX5_finds_20 : decode cX5_finds 20 = .ok (.iaload, 1) := dk_46 (dk_at dksX5_finds_0 20 rfl rfl)
theorem dX5_finds_21 : decode cX5_finds 21 = .ok (.iastore, 1) := dk_79 (dk_at dksX5_finds_0 21 rfl rfl)
theorem dX5_finds_22 : decode cX5_finds 22 = .ok (.aload_n 0, 1) := dk_42 (dk_at dksX5_finds_0 22 rfl rfl)
theorem dX5_finds_23 : decode cX5_finds 23 = .ok (.getfield 93, 3) := dk_180 0 93 (dk_at dksX5_finds_1 0 rfl rfl)
theorem dX5_finds_26 : decode cX5_finds 26 = .ok (.iload_n 1, 1) := dk_27 (dk_at dksX5_finds_1 3 rfl rfl)
theorem dX5_finds_27 : decode cX5_finds 27 = .ok (.aload_n 0, 1) := dk_42 (dk_at dksX5_finds_1 4 rfl rfl)
theorem dX5_finds_28 : decode cX5_finds 28 = .ok (.getfield 16, 3) := dk_180 0 16 (dk_at dksX5_finds_1 5 rfl rfl)
theorem dX5_finds_31 : decode cX5_finds 31 = .ok (.iload_n 1, 1) := dk_27 (dk_at dksX5_finds_1 8 rfl rfl)
theorem dX5_finds_32 : decode cX5_finds 32 = .ok (.iaload, 1) := dk_46 (dk_at dksX5_finds_1 9 rfl rfl)
theorem dX5_finds_33 : decode cX5_finds 33 = .ok (.iastore, 1) := dk_79 (dk_at dksX5_finds_1 10 rfl rfl)
theorem dX5_finds_34 : decode cX5_finds 34 = .ok (.aload_n 0, 1) := dk_42 (dk_at dksX5_finds_1 11 rfl rfl)
theorem dX5_finds_35 : decode cX5_finds 35 = .ok (.getfield 96, 3) := dk_180 0 96 (dk_at dksX5_finds_1 12 rfl rfl)
theorem dX5_finds_38 : decode cX5_finds 38 = .ok (.iload_n 1, 1) := dk_27 (dk_at dksX5_finds_1 15 rfl rfl)
theorem dX5_finds_39 : decode cX5_finds 39 = .ok (.aload_n 0, 1) := dk_42 (dk_at dksX5_finds_1 16 rfl rfl)
theorem dX5_finds_40 : decode cX5_finds 40 = .ok (.getfield 19, 3) := dk_180 0 19 (dk_at dksX5_finds_1 17 rfl rfl)
theorem dX5_finds_43 : decode cX5_finds 43 = .ok (.iload_n 1, 1) := dk_27 (dk_at dksX5_finds_1 20 rfl rfl)
theorem dX5_finds_44 : decode cX5_finds 44 = .ok (.iaload, 1) := dk_46 (dk_at dksX5_finds_1 21 rfl rfl)
theorem dX5_finds_45 : decode cX5_finds 45 = .ok (.iastore, 1) := dk_79 (dk_at dksX5_finds_1 22 rfl rfl)
theorem dX5_finds_46 : decode cX5_finds 46 = .ok (.iinc 1 1, 3) := dk_132 1 1 (dk_at dksX5_finds_2 0 rfl rfl)
theorem dX5_finds_49 : decode cX5_finds 49 = .ok (.goto (-47), 3) := dk_167 255 209 (dk_at dksX5_finds_2 3 rfl rfl)
theorem dX5_finds_52 : decode cX5_finds 52 = .ok (.iconst 0, 1) := dk_3 (dk_at dksX5_finds_2 6 rfl rfl)
theorem dX5_finds_53 : decode cX5_finds 53 = .ok (.istore_n 1, 1) := dk_60 (dk_at dksX5_finds_2 7 rfl rfl)
theorem dX5_finds_54 : decode cX5_finds 54 = .ok (.iload_n 1, 1) := dk_27 (dk_at dksX5_finds_2 8 rfl rfl)
theorem dX5_finds_55 : decode cX5_finds 55 = .ok (.aload_n 0, 1) := dk_42 (dk_at dksX5_finds_2 9 rfl rfl)
theorem dX5_finds_56 : decode cX5_finds 56 = .ok (.getfield 287, 3) := dk_180 1 31 (dk_at dksX5_finds_2 10 rfl rfl)
theorem dX5_finds_59 : decode cX5_finds 59 = .ok (.if_icmp .ge 48, 3) := dk_162 0 48 (dk_at dksX5_finds_2 13 rfl rfl)
theorem dX5_finds_62 : decode cX5_finds 62 = .ok (.iconst 1, 1) := dk_4 (dk_at dksX5_finds_2 16 rfl rfl)
theorem dX5_finds_63 : decode cX5_finds 63 = .ok (.aload_n 0, 1) := dk_42 (dk_at dksX5_finds_2 17 rfl rfl)
theorem dX5_finds_64 : decode cX5_finds 64 = .ok (.getfield 77, 3) := dk_180 0 77 (dk_at dksX5_finds_2 18 rfl rfl)
theorem dX5_finds_67 : decode cX5_finds 67 = .ok (.iload_n 1, 1) := dk_27 (dk_at dksX5_finds_2 21 rfl rfl)
theorem dX5_finds_68 : decode cX5_finds 68 = .ok (.iaload, 1) := dk_46 (dk_at dksX5_finds_2 22 rfl rfl)
theorem dX5_finds_69 : decode cX5_finds 69 = .ok (.ishl, 1) := dk_120 (dk_at dksX5_finds_2 23 rfl rfl)
theorem dX5_finds_70 : decode cX5_finds 70 = .ok (.istore_n 2, 1) := dk_61 (dk_at dksX5_finds_3 0 rfl rfl)
theorem dX5_finds_71 : decode cX5_finds 71 = .ok (.aload_n 0, 1) := dk_42 (dk_at dksX5_finds_3 1 rfl rfl)
theorem dX5_finds_72 : decode cX5_finds 72 = .ok (.getfield 90, 3) := dk_180 0 90 (dk_at dksX5_finds_3 2 rfl rfl)
theorem dX5_finds_75 : decode cX5_finds 75 = .ok (.aload_n 0, 1) := dk_42 (dk_at dksX5_finds_3 5 rfl rfl)
theorem dX5_finds_76 : decode cX5_finds 76 = .ok (.getfield 74, 3) := dk_180 0 74 (dk_at dksX5_finds_3 6 rfl rfl)
theorem dX5_finds_79 : decode cX5_finds 79 = .ok (.iload_n 1, 1) := dk_27 (dk_at dksX5_finds_3 9 rfl rfl)
theorem dX5_finds_80 : decode cX5_finds 80 = .ok (.iaload, 1) := dk_46 (dk_at dksX5_finds_3 10 rfl rfl)
theorem dX5_finds_81 : decode cX5_finds 81 = .ok (.dup2, 1) := dk_92 (dk_at dksX5_finds_3 11 rfl rfl)
theorem dX5_finds_82 : decode cX5_finds 82 = .ok (.iaload, 1) := dk_46 (dk_at dksX5_finds_3 12 rfl rfl)
theorem dX5_finds_83 : decode cX5_finds 83 = .ok (.aload_n 0, 1) := dk_42 (dk_at dksX5_finds_3 13 rfl rfl)
theorem dX5_finds_84 : decode cX5_finds 84 = .ok (.getfield 80, 3) := dk_180 0 80 (dk_at dksX5_finds_3 14 rfl rfl)
theorem dX5_finds_87 : decode cX5_finds 87 = .ok (.iload_n 1, 1) := dk_27 (dk_at dksX5_finds_3 17 rfl rfl)
theorem dX5_finds_88 : decode cX5_finds 88 = .ok (.baload, 1) := dk_51 (dk_at dksX5_finds_3 18 rfl rfl)
theorem dX5_finds_89 : decode cX5_finds 89 = .ok (.ifCond .eq 7, 3) := dk_153 0 7 (dk_at dksX5_finds_3 19 rfl rfl)
theorem dX5_finds_92 : decode cX5_finds 92 = .ok (.iload_n 2, 1) := dk_28 (dk_at dksX5_finds_3 22 rfl rfl)
theorem dX5_finds_93 : decode cX5_finds 93 = .ok (.goto 6, 3) := dk_167 0 6 (dk_at dksX5_finds_4 0 rfl rfl)
theorem dX5_finds_96 : decode cX5_finds 96 = .ok (.iload_n 2, 1) := dk_28 (dk_at dksX5_finds_4 3 rfl rfl)
theorem dX5_finds_97 : decode cX5_finds 97 = .ok (.iconst (-1), 1) := dk_2 (dk_at dksX5_finds_4 4 rfl rfl)
theorem dX5_finds_98 : decode cX5_finds 98 = .ok (.ixor, 1) := dk_130 (dk_at dksX5_finds_4 5 rfl rfl)
theorem dX5_finds_99 : decode cX5_finds 99 = .ok (.iand, 1) := dk_126 (dk_at dksX5_finds_4 6 rfl rfl)
theorem dX5_finds_100 : decode cX5_finds 100 = .ok (.iastore, 1) := dk_79 (dk_at dksX5_finds_4 7 rfl rfl)
theorem dX5_finds_101 : decode cX5_finds 101 = .ok (.iinc 1 1, 3) := dk_132 1 1 (dk_at dksX5_finds_4 8 rfl rfl)
theorem dX5_finds_104 : decode cX5_finds 104 = .ok (.goto (-50), 3) := dk_167 255 206 (dk_at dksX5_finds_4 11 rfl rfl)
theorem dX5_finds_107 : decode cX5_finds 107 = .ok (.aload_n 0, 1) := dk_42 (dk_at dksX5_finds_4 14 rfl rfl)
theorem dX5_finds_108 : decode cX5_finds 108 = .ok (.getfield 83, 3) := dk_180 0 83 (dk_at dksX5_finds_4 15 rfl rfl)
theorem dX5_finds_111 : decode cX5_finds 111 = .ok (.ifCond .lt 23, 3) := dk_155 0 23 (dk_at dksX5_finds_4 18 rfl rfl)
theorem dX5_finds_114 : decode cX5_finds 114 = .ok (.aload_n 0, 1) := dk_42 (dk_at dksX5_finds_4 21 rfl rfl)
theorem dX5_finds_115 : decode cX5_finds 115 = .ok (.getfield 90, 3) := dk_180 0 90 (dk_at dksX5_finds_5 0 rfl rfl)
theorem dX5_finds_118 : decode cX5_finds 118 = .ok (.aload_n 0, 1) := dk_42 (dk_at dksX5_finds_5 3 rfl rfl)
theorem dX5_finds_119 : decode cX5_finds 119 = .ok (.getfield 83, 3) := dk_180 0 83 (dk_at dksX5_finds_5 4 rfl rfl)
theorem dX5_finds_122 : decode cX5_finds 122 = .ok (.dup2, 1) := dk_92 (dk_at dksX5_finds_5 7 rfl rfl)
theorem dX5_finds_123 : decode cX5_finds 123 = .ok (.iaload, 1) := dk_46 (dk_at dksX5_finds_5 8 rfl rfl)
theorem dX5_finds_124 : decode cX5_finds 124 = .ok (.iconst 1, 1) := dk_4 (dk_at dksX5_finds_5 9 rfl rfl)
theorem dX5_finds_125 : decode cX5_finds 125 = .ok (.aload_n 0, 1) := dk_42 (dk_at dksX5_finds_5 10 rfl rfl)
theorem dX5_finds_126 : decode cX5_finds 126 = .ok (.getfield 87, 3) := dk_180 0 87 (dk_at dksX5_finds_5 11 rfl rfl)
theorem dX5_finds_129 : decode cX5_finds 129 = .ok (.ishl, 1) := dk_120 (dk_at dksX5_finds_5 14 rfl rfl)
theorem dX5_finds_130 : decode cX5_finds 130 = .ok (.iconst 1, 1) := dk_4 (dk_at dksX5_finds_5 15 rfl rfl)
theorem dX5_finds_131 : decode cX5_finds 131 = .ok (.isub, 1) := dk_100 (dk_at dksX5_finds_5 16 rfl rfl)
theorem dX5_finds_132 : decode cX5_finds 132 = .ok (.iand, 1) := dk_126 (dk_at dksX5_finds_5 17 rfl rfl)
theorem dX5_finds_133 : decode cX5_finds 133 = .ok (.iastore, 1) := dk_79 (dk_at dksX5_finds_5 18 rfl rfl)
theorem dX5_finds_134 : decode cX5_finds 134 = .ok (.aload_n 0, 1) := dk_42 (dk_at dksX5_finds_5 19 rfl rfl)
theorem dX5_finds_135 : decode cX5_finds 135 = .ok (.iconst 0, 1) := dk_3 (dk_at dksX5_finds_5 20 rfl rfl)
theorem dX5_finds_136 : decode cX5_finds 136 = .ok (.putfield 305, 3) := dk_181 1 49 (dk_at dksX5_finds_5 21 rfl rfl)
theorem dX5_finds_139 : decode cX5_finds 139 = .ok (.aload_n 0, 1) := dk_42 (dk_at dksX5_finds_6 0 rfl rfl)
theorem dX5_finds_140 : decode cX5_finds 140 = .ok (.iconst 0, 1) := dk_3 (dk_at dksX5_finds_6 1 rfl rfl)
theorem dX5_finds_141 : decode cX5_finds 141 = .ok (.putfield 308, 3) := dk_181 1 52 (dk_at dksX5_finds_6 2 rfl rfl)
theorem dX5_finds_144 : decode cX5_finds 144 = .ok (.aload_n 0, 1) := dk_42 (dk_at dksX5_finds_6 5 rfl rfl)
theorem dX5_finds_145 : decode cX5_finds 145 = .ok (.iconst 0, 1) := dk_3 (dk_at dksX5_finds_6 6 rfl rfl)
theorem dX5_finds_146 : decode cX5_finds 146 = .ok (.putfield 297, 3) := dk_181 1 41 (dk_at dksX5_finds_6 7 rfl rfl)
theorem dX5_finds_149 : decode cX5_finds 149 = .ok (.aload_n 0, 1) := dk_42 (dk_at dksX5_finds_6 10 rfl rfl)
theorem dX5_finds_150 : decode cX5_finds 150 = .ok (.invokevirtual 311, 3) := dk_182 1 55 (dk_at dksX5_finds_6 11 rfl rfl)
theorem dX5_finds_153 : decode cX5_finds 153 = .ok (.aload_n 0, 1) := dk_42 (dk_at dksX5_finds_6 14 rfl rfl)
theorem dX5_finds_154 : decode cX5_finds 154 = .ok (.getfield 297, 3) := dk_180 1 41 (dk_at dksX5_finds_6 15 rfl rfl)
theorem dX5_finds_157 : decode cX5_finds 157 = .ok (.ifCond .ne 7, 3) := dk_154 0 7 (dk_at dksX5_finds_6 18 rfl rfl)
theorem dX5_finds_160 : decode cX5_finds 160 = .ok (.iconst 1, 1) := dk_4 (dk_at dksX5_finds_6 21 rfl rfl)
theorem dX5_finds_161 : decode cX5_finds 161 = .ok (.goto 4, 3) := dk_167 0 4 (dk_at dksX5_finds_7 0 rfl rfl)
theorem dX5_finds_164 : decode cX5_finds 164 = .ok (.iconst 0, 1) := dk_3 (dk_at dksX5_finds_7 3 rfl rfl)
theorem dX5_finds_165 : decode cX5_finds 165 = .ok (.istore_n 1, 1) := dk_60 (dk_at dksX5_finds_7 4 rfl rfl)
theorem dX5_finds_166 : decode cX5_finds 166 = .ok (.iload_n 1, 1) := dk_27 (dk_at dksX5_finds_7 5 rfl rfl)
theorem dX5_finds_167 : decode cX5_finds 167 = .ok (.ifCond .eq 48, 3) := dk_153 0 48 (dk_at dksX5_finds_7 6 rfl rfl)
theorem dX5_finds_170 : decode cX5_finds 170 = .ok (.aload_n 0, 1) := dk_42 (dk_at dksX5_finds_7 9 rfl rfl)
theorem dX5_finds_171 : decode cX5_finds 171 = .ok (.invokevirtual 314, 3) := dk_182 1 58 (dk_at dksX5_finds_7 10 rfl rfl)
theorem dX5_finds_174 : decode cX5_finds 174 = .ok (.istore_n 1, 1) := dk_60 (dk_at dksX5_finds_7 13 rfl rfl)
theorem dX5_finds_175 : decode cX5_finds 175 = .ok (.aload_n 0, 1) := dk_42 (dk_at dksX5_finds_7 14 rfl rfl)
theorem dX5_finds_176 : decode cX5_finds 176 = .ok (.dup, 1) := dk_89 (dk_at dksX5_finds_7 15 rfl rfl)
theorem dX5_finds_177 : decode cX5_finds 177 = .ok (.getfield 305, 3) := dk_180 1 49 (dk_at dksX5_finds_7 16 rfl rfl)
theorem dX5_finds_180 : decode cX5_finds 180 = .ok (.iload_n 1, 1) := dk_27 (dk_at dksX5_finds_7 19 rfl rfl)
theorem dX5_finds_181 : decode cX5_finds 181 = .ok (.ifCond .eq 7, 3) := dk_153 0 7 (dk_at dksX5_finds_7 20 rfl rfl)
theorem dX5_finds_184 : decode cX5_finds 184 = .ok (.iconst 1, 1) := dk_4 (dk_at dksX5_finds_7 23 rfl rfl)
theorem dX5_finds_185 : decode cX5_finds 185 = .ok (.goto 4, 3) := dk_167 0 4 (dk_at dksX5_finds_8 0 rfl rfl)
theorem dX5_finds_188 : decode cX5_finds 188 = .ok (.iconst 0, 1) := dk_3 (dk_at dksX5_finds_8 3 rfl rfl)
theorem dX5_finds_189 : decode cX5_finds 189 = .ok (.iadd, 1) := dk_96 (dk_at dksX5_finds_8 4 rfl rfl)
theorem dX5_finds_190 : decode cX5_finds 190 = .ok (.putfield 305, 3) := dk_181 1 49 (dk_at dksX5_finds_8 5 rfl rfl)
theorem dX5_finds_193 : decode cX5_finds 193 = .ok (.aload_n 0, 1) := dk_42 (dk_at dksX5_finds_8 8 rfl rfl)
theorem dX5_finds_194 : decode cX5_finds 194 = .ok (.invokevirtual 311, 3) := dk_182 1 55 (dk_at dksX5_finds_8 9 rfl rfl)
theorem dX5_finds_197 : decode cX5_finds 197 = .ok (.iload_n 1, 1) := dk_27 (dk_at dksX5_finds_8 12 rfl rfl)
theorem dX5_finds_198 : decode cX5_finds 198 = .ok (.aload_n 0, 1) := dk_42 (dk_at dksX5_finds_8 13 rfl rfl)
theorem dX5_finds_199 : decode cX5_finds 199 = .ok (.getfield 297, 3) := dk_180 1 41 (dk_at dksX5_finds_8 14 rfl rfl)
theorem dX5_finds_202 : decode cX5_finds 202 = .ok (.ifCond .ne 7, 3) := dk_154 0 7 (dk_at dksX5_finds_8 17 rfl rfl)
theorem dX5_finds_205 : decode cX5_finds 205 = .ok (.iconst 1, 1) := dk_4 (dk_at dksX5_finds_8 20 rfl rfl)
theorem dX5_finds_206 : decode cX5_finds 206 = .ok (.goto 4, 3) := dk_167 0 4 (dk_at dksX5_finds_8 21 rfl rfl)
theorem dX5_finds_209 : decode cX5_finds 209 = .ok (.iconst 0, 1) := dk_3 (dk_at dksX5_finds_9 0 rfl rfl)
theorem dX5_finds_210 : decode cX5_finds 210 = .ok (.iand, 1) := dk_126 (dk_at dksX5_finds_9 1 rfl rfl)
theorem dX5_finds_211 : decode cX5_finds 211 = .ok (.istore_n 1, 1) := dk_60 (dk_at dksX5_finds_9 2 rfl rfl)
theorem dX5_finds_212 : decode cX5_finds 212 = .ok (.goto (-46), 3) := dk_167 255 210 (dk_at dksX5_finds_9 3 rfl rfl)
theorem dX5_finds_215 : decode cX5_finds 215 = .ok (.return_, 1) := dk_177 (dk_at dksX5_finds_9 6 rfl rfl)
def dkwX5_looksForFailure_1 : List UInt8 := [132, 1, 1, 167, 255, 231, 177]
abbrev dktX5_looksForFailure_1 : List UInt8 := dkwX5_looksForFailure_1 ++ []
def dkwX5_looksForFailure_0 : List UInt8 := [3, 60, 27, 42, 180, 0, 177, 162, 0, 23, 42, 89, 180, 1, 41, 42, 27, 182, 1, 45, 128, 181, 1, 41]
abbrev dktX5_looksForFailure_0 : List UInt8 := dkwX5_looksForFailure_0 ++ dktX5_looksForFailure_1
theorem dksX5_looksForFailure_0 : cX5_looksForFailure.data.toList.drop 0 = dktX5_looksForFailure_0 := by decide +kernel
theorem dksX5_looksForFailure_1 : cX5_looksForFailure.data.toList.drop 24 = dktX5_looksForFailure_1 := dk_seg dksX5_looksForFailure_0 24 rfl rfl
theorem dX5_looksForFailure_0 : decode cX5_looksForFailure 0 = .ok (.iconst 0, 1) := dk_3 (dk_at dksX5_looksForFailure_0 0 rfl rfl)
theorem dX5_looksForFailure_1 : decode cX5_looksForFailure 1 = .ok (.istore_n 1, 1) := dk_60 (dk_at dksX5_looksForFailure_0 1 rfl rfl)
theorem dX5_looksForFailure_2 : decode cX5_looksForFailure 2 = .ok (.iload_n 1, 1) := dk_27 (dk_at dksX5_looksForFailure_0 2 rfl rfl)
theorem dX5_looksForFailure_3 : decode cX5_looksForFailure 3 = .ok (.aload_n 0, 1) := dk_42 (dk_at dksX5_looksForFailure_0 3 rfl rfl)
theorem dX5_looksForFailure_4 : decode cX5_looksForFailure 4 = .ok (.getfield 177, 3) := dk_180 0 177 (dk_at dksX5_looksForFailure_0 4 rfl rfl)
theorem dX5_looksForFailure_7 : decode cX5_looksForFailure 7 = .ok (.if_icmp .ge 23, 3) := dk_162 0 23 (dk_at dksX5_looksForFailure_0 7 rfl rfl)
theorem dX5_looksForFailure_10 : decode cX5_looksForFailure 10 = .ok (.aload_n 0, 1) := dk_42 (dk_at dksX5_looksForFailure_0 10 rfl rfl)
theorem dX5_looksForFailure_11 : decode cX5_looksForFailure 11 = .ok (.dup, 1) := dk_89 (dk_at dksX5_looksForFailure_0 11 rfl rfl)
theorem dX5_looksForFailure_12 : decode cX5_looksForFailure 12 = .ok (.getfield 297, 3) := dk_180 1 41 (dk_at dksX5_looksForFailure_0 12 rfl rfl)
theorem dX5_looksForFailure_15 : decode cX5_looksForFailure 15 = .ok (.aload_n 0, 1) := dk_42 (dk_at dksX5_looksForFailure_0 15 rfl rfl)
theorem dX5_looksForFailure_16 : decode cX5_looksForFailure 16 = .ok (.iload_n 1, 1) := dk_27 (dk_at dksX5_looksForFailure_0 16 rfl rfl)
theorem dX5_looksForFailure_17 : decode cX5_looksForFailure 17 = .ok (.invokevirtual 301, 3) := dk_182 1 45 (dk_at dksX5_looksForFailure_0 17 rfl rfl)
theorem dX5_looksForFailure_20 : decode cX5_looksForFailure 20 = .ok (.ior, 1) := dk_128 (dk_at dksX5_looksForFailure_0 20 rfl rfl)
theorem dX5_looksForFailure_21 : decode cX5_looksForFailure 21 = .ok (.putfield 297, 3) := dk_181 1 41 (dk_at dksX5_looksForFailure_0 21 rfl rfl)
theorem dX5_looksForFailure_24 : decode cX5_looksForFailure 24 = .ok (.iinc 1 1, 3) := dk_132 1 1 (dk_at dksX5_looksForFailure_1 0 rfl rfl)
theorem dX5_looksForFailure_27 : decode cX5_looksForFailure 27 = .ok (.goto (-25), 3) := dk_167 255 231 (dk_at dksX5_looksForFailure_1 3 rfl rfl)
theorem dX5_looksForFailure_30 : decode cX5_looksForFailure 30 = .ok (.return_, 1) := dk_177 (dk_at dksX5_looksForFailure_1 6 rfl rfl)
def dkwX5_isEmpty_2 : List UInt8 := [3, 172]
abbrev dktX5_isEmpty_2 : List UInt8 := dkwX5_isEmpty_2 ++ []
def dkwX5_isEmpty_1 : List UInt8 := [164, 0, 7, 4, 167, 0, 21, 3, 167, 0, 17, 42, 180, 0, 90, 27, 46, 154, 0, 7, 4, 167, 0, 4]
abbrev dktX5_isEmpty_1 : List UInt8 := dkwX5_isEmpty_1 ++ dktX5_isEmpty_2
def dkwX5_isEmpty_0 : List UInt8 := [42, 180, 0, 7, 27, 46, 6, 160, 0, 26, 42, 180, 0, 93, 27, 46, 42, 180, 0, 96, 27, 46]
abbrev dktX5_isEmpty_0 : List UInt8 := dkwX5_isEmpty_0 ++ dktX5_isEmpty_1
theorem dksX5_isEmpty_0 : cX5_isEmpty.data.toList.drop 0 = dktX5_isEmpty_0 := by decide +kernel
theorem dksX5_isEmpty_1 : cX5_isEmpty.data.toList.drop 22 = dktX5_isEmpty_1 := dk_seg dksX5_isEmpty_0 22 rfl rfl
theorem dksX5_isEmpty_2 : cX5_isEmpty.data.toList.drop 46 = dktX5_isEmpty_2 := dk_seg dksX5_isEmpty_1 24 rfl rfl
theorem dX5_isEmpty_0 : decode cX5_isEmpty 0 = .ok (.aload_n 0, 1) := dk_42 (dk_at dksX5_isEmpty_0 0 rfl rfl)
theorem dX5_isEmpty_1 : decode cX5_isEmpty 1 = .ok (.getfield 7, 3) := dk_180 0 7 (dk_at dksX5_isEmpty_0 1 rfl rfl)
theorem dX5_isEmpty_4 : decode cX5_isEmpty 4 = .ok (.iload_n 1, 1) := dk_27 (dk_at dksX5_isEmpty_0 4 rfl rfl)
theorem dX5_isEmpty_5 : decode cX5_isEmpty 5 = .ok (.iaload, 1) := dk_46 (dk_at dksX5_isEmpty_0 5 rfl rfl)
theorem dX5_isEmpty_6 : decode cX5_isEmpty 6 = .ok (.iconst 3, 1) := dk_6 (dk_at dksX5_isEmpty_0 6 rfl rfl)
theorem dX5_isEmpty_7 : decode cX5_isEmpty 7 = .ok (.if_icmp .ne 26, 3) := dk_160 0 26 (dk_at dksX5_isEmpty_0 7 rfl rfl)
theorem dX5_isEmpty_10 : decode cX5_isEmpty 10 = .ok (.aload_n 0, 1) := dk_42 (dk_at dksX5_isEmpty_0 10 rfl rfl)
theorem dX5_isEmpty_11 : decode cX5_isEmpty 11 = .ok (.getfield 93, 3) := dk_180 0 93 (dk_at dksX5_isEmpty_0 11 rfl rfl)
theorem dX5_isEmpty_14 : decode cX5_isEmpty 14 = .ok (.iload_n 1, 1) := dk_27 (dk_at dksX5_isEmpty_0 14 rfl rfl)
theorem dX5_isEmpty_15 : decode cX5_isEmpty 15 = .ok (.iaload, 1) := dk_46 (dk_at dksX5_isEmpty_0 15 rfl rfl)
theorem dX5_isEmpty_16 : decode cX5_isEmpty 16 = .ok (.aload_n 0, 1) := dk_42 (dk_at dksX5_isEmpty_0 16 rfl rfl)
theorem dX5_isEmpty_17 : decode cX5_isEmpty 17 = .ok (.getfield 96, 3) := dk_180 0 96 (dk_at dksX5_isEmpty_0 17 rfl rfl)
theorem dX5_isEmpty_20 : decode cX5_isEmpty 20 = .ok (.iload_n 1, 1) := dk_27 (dk_at dksX5_isEmpty_0 20 rfl rfl)
theorem dX5_isEmpty_21 : decode cX5_isEmpty 21 = .ok (.iaload, 1) := dk_46 (dk_at dksX5_isEmpty_0 21 rfl rfl)
theorem dX5_isEmpty_22 : decode cX5_isEmpty 22 = .ok (.if_icmp .le 7, 3) := dk_164 0 7 (dk_at dksX5_isEmpty_1 0 rfl rfl)
theorem dX5_isEmpty_25 : decode cX5_isEmpty 25 = .ok (.iconst 1, 1) := dk_4 (dk_at dksX5_isEmpty_1 3 rfl rfl)
theorem dX5_isEmpty_26 : decode cX5_isEmpty 26 = .ok (.goto 21, 3) := dk_167 0 21 (dk_at dksX5_isEmpty_1 4 rfl rfl)
theorem dX5_isEmpty_29 : decode cX5_isEmpty 29 = .ok (.iconst 0, 1) := dk_3 (dk_at dksX5_isEmpty_1 7 rfl rfl)
theorem dX5_isEmpty_30 : decode cX5_isEmpty 30 = .ok (.goto 17, 3) := dk_167 0 17 (dk_at dksX5_isEmpty_1 8 rfl rfl)
theorem dX5_isEmpty_33 : decode cX5_isEmpty 33 = .ok (.aload_n 0, 1) := dk_42 (dk_at dksX5_isEmpty_1 11 rfl rfl)
theorem dX5_isEmpty_34 : decode cX5_isEmpty 34 = .ok (.getfield 90, 3) := dk_180 0 90 (dk_at dksX5_isEmpty_1 12 rfl rfl)
theorem dX5_isEmpty_37 : decode cX5_isEmpty 37 = .ok (.iload_n 1, 1) := dk_27 (dk_at dksX5_isEmpty_1 15 rfl rfl)
theorem dX5_isEmpty_38 : decode cX5_isEmpty 38 = .ok (.iaload, 1) := dk_46 (dk_at dksX5_isEmpty_1 16 rfl rfl)
theorem dX5_isEmpty_39 : decode cX5_isEmpty 39 = .ok (.ifCond .ne 7, 3) := dk_154 0 7 (dk_at dksX5_isEmpty_1 17 rfl rfl)
theorem dX5_isEmpty_42 : decode cX5_isEmpty 42 = .ok (.iconst 1, 1) := dk_4 (dk_at dksX5_isEmpty_1 20 rfl rfl)
theorem dX5_isEmpty_43 : decode cX5_isEmpty 43 = .ok (.goto 4, 3) := dk_167 0 4 (dk_at dksX5_isEmpty_1 21 rfl rfl)
theorem dX5_isEmpty_46 : decode cX5_isEmpty 46 = .ok (.iconst 0, 1) := dk_3 (dk_at dksX5_isEmpty_2 0 rfl rfl)
theorem dX5_isEmpty_47 : decode cX5_isEmpty 47 = .ok (.ireturn, 1) := dk_172 (dk_at dksX5_isEmpty_2 1 rfl rfl)
def dkwX5_round_14 : List UInt8 := [180, 0, 96, 28, 42, 180, 0, 111, 28, 46, 79, 132, 2, 1, 167, 255, 156, 27, 172]
abbrev dktX5_round_14 : List UInt8 := dkwX5_round_14 ++ []
def dkwX5_round_13 : List UInt8 := [180, 0, 90, 28, 42, 180, 0, 105, 28, 46, 79, 42, 180, 0, 93, 28, 42, 180, 0, 108, 28, 46, 79, 42]
abbrev dktX5_round_13 : List UInt8 := dkwX5_round_13 ++ dktX5_round_14
def dkwX5_round_12 : List UInt8 := [180, 0, 111, 28, 46, 42, 180, 0, 96, 28, 46, 159, 0, 7, 4, 167, 0, 4, 3, 128, 60, 42]
abbrev dktX5_round_12 : List UInt8 := dkwX5_round_12 ++ dktX5_round_13
def dkwX5_round_11 : List UInt8 := [180, 0, 90, 28, 46, 160, 0, 33, 42, 180, 0, 108, 28, 46, 42, 180, 0, 93, 28, 46, 160, 0, 18, 42]
abbrev dktX5_round_11 : List UInt8 := dkwX5_round_11 ++ dktX5_round_12
def dkwX5_round_10 : List UInt8 := [132, 2, 1, 167, 255, 43, 3, 61, 28, 42, 180, 0, 177, 162, 0, 98, 27, 42, 180, 0, 105, 28, 46, 42]
abbrev dktX5_round_10 : List UInt8 := dkwX5_round_10 ++ dktX5_round_11
def dkwX5_round_9 : List UInt8 := [180, 0, 111, 28, 46, 182, 1, 74, 154, 0, 16, 42, 180, 0, 111, 28, 92, 46, 4, 100, 79, 167, 255, 207]
abbrev dktX5_round_9 : List UInt8 := dkwX5_round_9 ++ dktX5_round_10
def dkwX5_round_8 : List UInt8 := [46, 6, 160, 0, 45, 42, 180, 0, 108, 28, 46, 42, 180, 0, 111, 28, 46, 163, 0, 30, 42, 28, 42]
abbrev dktX5_round_8 : List UInt8 := dkwX5_round_8 ++ dktX5_round_9
def dkwX5_round_7 : List UInt8 := [182, 1, 74, 154, 0, 16, 42, 180, 0, 108, 28, 92, 46, 4, 96, 79, 167, 255, 207, 42, 180, 0, 7, 28]
abbrev dktX5_round_7 : List UInt8 := dkwX5_round_7 ++ dktX5_round_8
def dkwX5_round_6 : List UInt8 := [180, 0, 108, 28, 46, 42, 180, 0, 111, 28, 46, 163, 0, 30, 42, 28, 42, 180, 0, 108, 28, 46]
abbrev dktX5_round_6 : List UInt8 := dkwX5_round_6 ++ dktX5_round_7
def dkwX5_round_5 : List UInt8 := [28, 29, 21, 4, 182, 1, 71, 132, 3, 1, 167, 255, 199, 42, 180, 0, 7, 28, 46, 6, 160, 0, 45, 42]
abbrev dktX5_round_5 : List UInt8 := dkwX5_round_5 ++ dktX5_round_6
def dkwX5_round_4 : List UInt8 := [184, 0, 213, 153, 0, 12, 42, 28, 29, 182, 1, 68, 167, 0, 4, 2, 54, 4, 21, 4, 155, 0, 11, 42]
abbrev dktX5_round_4 : List UInt8 := dkwX5_round_4 ++ dktX5_round_5
def dkwX5_round_3 : List UInt8 := [62, 29, 16, 32, 162, 0, 57, 42, 180, 0, 7, 28, 46, 6, 159, 0, 47, 42, 180, 0, 90, 28, 46, 29]
abbrev dktX5_round_3 : List UInt8 := dkwX5_round_3 ++ dktX5_round_4
def dkwX5_round_2 : List UInt8 := [180, 0, 108, 28, 42, 180, 0, 93, 28, 46, 79, 42, 180, 0, 111, 28, 42, 180, 0, 96, 28, 46, 79, 3]
abbrev dktX5_round_2 : List UInt8 := dkwX5_round_2 ++ dktX5_round_3
def dkwX5_round_1 : List UInt8 := [61, 28, 42, 180, 0, 177, 162, 0, 211, 42, 180, 0, 105, 28, 42, 180, 0, 90, 28, 46, 79, 42]
abbrev dktX5_round_1 : List UInt8 := dkwX5_round_1 ++ dktX5_round_2
def dkwX5_round_0 : List UInt8 := [3, 60, 3, 61, 28, 42, 180, 1, 62, 162, 0, 14, 42, 28, 182, 1, 65, 132, 2, 1, 167, 255, 240, 3]
abbrev dktX5_round_0 : List UInt8 := dkwX5_round_0 ++ dktX5_round_1
theorem dksX5_round_0 : cX5_round.data.toList.drop 0 = dktX5_round_0 := by decide +kernel
theorem dksX5_round_1 : cX5_round.data.toList.drop 24 = dktX5_round_1 := dk_seg dksX5_round_0 24 rfl rfl
theorem dksX5_round_2 : cX5_round.data.toList.drop 46 = dktX5_round_2 := dk_seg dksX5_round_1 22 rfl rfl
theorem dksX5_round_3 : cX5_round.data.toList.drop 70 = dktX5_round_3 := dk_seg dksX5_round_2 24 rfl rfl
theorem dksX5_round_4 : cX5_round.data.toList.drop 94 = dktX5_round_4 := dk_seg dksX5_round_3 24 rfl rfl
theorem dksX5_round_5 : cX5_round.data.toList.drop 118 = dktX5_round_5 := dk_seg dksX5_round_4 24 rfl rfl
theorem dksX5_round_6 : cX5_round.data.toList.drop 142 = dktX5_round_6 := dk_seg dksX5_round_5 24 rfl rfl
theorem dksX5_round_7 : cX5_round.data.toList.drop 164 = dktX5_round_7 := dk_seg dksX5_round_6 22 rfl rfl
theorem dksX5_round_8 : cX5_round.data.toList.drop 188 = dktX5_round_8 := dk_seg dksX5_round_7 24 rfl rfl
theorem dksX5_round_9 : cX5_round.data.toList.drop 211 = dktX5_round_9 := dk_seg dksX5_round_8 23 rfl rfl
theorem dksX5_round_10 : cX5_round.data.toList.drop 235 = dktX5_round_10 := dk_seg dksX5_round_9 24 rfl rfl
theorem dksX5_round_11 : cX5_round.data.toList.drop 259 = dktX5_round_11 := dk_seg dksX5_round_10 24 rfl rfl
theorem dksX5_round_12 : cX5_round.data.toList.drop 283 = dktX5_round_12 := dk_seg dksX5_round_11 24 rfl rfl
theorem dksX5_round_13 : cX5_round.data.toList.drop 305 = dktX5_round_13 := dk_seg dksX5_round_12 22 rfl rfl
theorem dksX5_round_14 : cX5_round.data.toList.drop 329 = dktX5_round_14 := dk_seg dksX5_round_13 24 rfl rfl
theorem dX5_round_0 : decode cX5_round 0 = .ok (.iconst 0, 1) := dk_3 (dk_at dksX5_round_0 0 rfl rfl)
theorem dX5_round_1 : decode cX5_round 1 = .ok (.istore_n 1, 1) := dk_60 (dk_at dksX5_round_0 1 rfl rfl)
theorem dX5_round_2 : decode cX5_round 2 = .ok (.iconst 0, 1) := dk_3 (dk_at dksX5_round_0 2 rfl rfl)
theorem dX5_round_3 : decode cX5_round 3 = .ok (.istore_n 2, 1) := dk_61 (dk_at dksX5_round_0 3 rfl rfl)
theorem dX5_round_4 : decode cX5_round 4 = .ok (.iload_n 2, 1) := dk_28 (dk_at dksX5_round_0 4 rfl rfl)
theorem dX5_round_5 : decode cX5_round 5 = .ok (.aload_n 0, 1) := dk_42 (dk_at dksX5_round_0 5 rfl rfl)
theorem dX5_round_6 : decode cX5_round 6 = .ok (.getfield 318, 3) := dk_180 1 62 (dk_at dksX5_round_0 6 rfl rfl)
theorem dX5_round_9 : decode cX5_round 9 = .ok (.if_icmp .ge 14, 3) := dk_162 0 14 (dk_at dksX5_round_0 9 rfl rfl)
theorem dX5_round_12 : decode cX5_round 12 = .ok (.aload_n 0, 1) := dk_42 (dk_at dksX5_round_0 12 rfl rfl)
theorem dX5_round_13 : decode cX5_round 13 = .ok (.iload_n 2, 1) := dk_28 (dk_at dksX5_round_0 13 rfl rfl)
theorem dX5_round_14 : decode cX5_round 14 = .ok (.invokevirtual 321, 3) := dk_182 1 65 (dk_at dksX5_round_0 14 rfl rfl)
theorem dX5_round_17 : decode cX5_round 17 = .ok (.iinc 2 1, 3) := dk_132 2 1 (dk_at dksX5_round_0 17 rfl rfl)
theorem dX5_round_20 : decode cX5_round 20 = .ok (.goto (-16), 3) := dk_167 255 240 (dk_at dksX5_round_0 20 rfl rfl)
theorem dX5_round_23 : decode cX5_round 23 = .ok (.iconst 0, 1) := dk_3 (dk_at dksX5_round_0 23 rfl rfl)
theorem dX5_round_24 : decode cX5_round 24 = .ok (.istore_n 2, 1) := dk_61 (dk_at dksX5_round_1 0 rfl rfl)
theorem dX5_round_25 : decode cX5_round 25 = .ok (.iload_n 2, 1) := dk_28 (dk_at dksX5_round_1 1 rfl rfl)
theorem dX5_round_26 : decode cX5_round 26 = .ok (.aload_n 0, 1) := dk_42 (dk_at dksX5_round_1 2 rfl rfl)
theorem dX5_round_27 : decode cX5_round 27 = .ok (.getfield 177, 3) := dk_180 0 177 (dk_at dksX5_round_1 3 rfl rfl)
theorem dX5_round_30 : decode cX5_round 30 = .ok (.if_icmp .ge 211, 3) := dk_162 0 211 (dk_at dksX5_round_1 6 rfl rfl)
theorem dX5_round_33 : decode cX5_round 33 = .ok (.aload_n 0, 1) := dk_42 (dk_at dksX5_round_1 9 rfl rfl)
theorem dX5_round_34 : decode cX5_round 34 = .ok (.getfield 105, 3) := dk_180 0 105 (dk_at dksX5_round_1 10 rfl rfl)
theorem dX5_round_37 : decode cX5_round 37 = .ok (.iload_n 2, 1) := dk_28 (dk_at dksX5_round_1 13 rfl rfl)
theorem dX5_round_38 : decode cX5_round 38 = .ok (.aload_n 0, 1) := dk_42 (dk_at dksX5_round_1 14 rfl rfl)
theorem dX5_round_39 : decode cX5_round 39 = .ok (.getfield 90, 3) := dk_180 0 90 (dk_at dksX5_round_1 15 rfl rfl)
theorem dX5_round_42 : decode cX5_round 42 = .ok (.iload_n 2, 1) := dk_28 (dk_at dksX5_round_1 18 rfl rfl)
theorem dX5_round_43 : decode cX5_round 43 = .ok (.iaload, 1) := dk_46 (dk_at dksX5_round_1 19 rfl rfl)
theorem dX5_round_44 : decode cX5_round 44 = .ok (.iastore, 1) := dk_79 (dk_at dksX5_round_1 20 rfl rfl)
theorem dX5_round_45 : decode cX5_round 45 = .ok (.aload_n 0, 1) := dk_42 (dk_at dksX5_round_1 21 rfl rfl)
theorem dX5_round_46 : decode cX5_round 46 = .ok (.getfield 108, 3) := dk_180 0 108 (dk_at dksX5_round_2 0 rfl rfl)
theorem dX5_round_49 : decode cX5_round 49 = .ok (.iload_n 2, 1) := dk_28 (dk_at dksX5_round_2 3 rfl rfl)
theorem dX5_round_50 : decode cX5_round 50 = .ok (.aload_n 0, 1) := dk_42 (dk_at dksX5_round_2 4 rfl rfl)
theorem dX5_round_51 : decode cX5_round 51 = .ok (.getfield 93, 3) := dk_180 0 93 (dk_at dksX5_round_2 5 rfl rfl)
theorem dX5_round_54 : decode cX5_round 54 = .ok (.iload_n 2, 1) := dk_28 (dk_at dksX5_round_2 8 rfl rfl)
theorem dX5_round_55 : decode cX5_round 55 = .ok (.iaload, 1) := dk_46 (dk_at dksX5_round_2 9 rfl rfl)
theorem dX5_round_56 : decode cX5_round 56 = .ok (.iastore, 1) := dk_79 (dk_at dksX5_round_2 10 rfl rfl)
theorem dX5_round_57 : decode cX5_round 57 = .ok (.aload_n 0, 1) := dk_42 (dk_at dksX5_round_2 11 rfl rfl)
theorem dX5_round_58 : decode cX5_round 58 = .ok (.getfield 111, 3) := dk_180 0 111 (dk_at dksX5_round_2 12 rfl rfl)
theorem dX5_round_61 : decode cX5_round 61 = .ok (.iload_n 2, 1) := dk_28 (dk_at dksX5_round_2 15 rfl rfl)
theorem dX5_round_62 : decode cX5_round 62 = .ok (.aload_n 0, 1) := dk_42 (dk_at dksX5_round_2 16 rfl rfl)
theorem dX5_round_63 : decode cX5_round 63 = .ok (.getfield 96, 3) := dk_180 0 96 (dk_at dksX5_round_2 17 rfl rfl)
theorem dX5_round_66 : decode cX5_round 66 = .ok (.iload_n 2, 1) := dk_28 (dk_at dksX5_round_2 20 rfl rfl)
theorem dX5_round_67 : decode cX5_round 67 = .ok (.iaload, 1) := dk_46 (dk_at dksX5_round_2 21 rfl rfl)
theorem dX5_round_68 : decode cX5_round 68 = .ok (.iastore, 1) := dk_79 (dk_at dksX5_round_2 22 rfl rfl)
theorem dX5_round_69 : decode cX5_round 69 = .ok (.iconst 0, 1) := dk_3 (dk_at dksX5_round_2 23 rfl rfl)
theorem dX5_round_70 : decode cX5_round 70 = .ok (.istore_n 3, 1) := dk_62 (dk_at dksX5_round_3 0 rfl rfl)
theorem dX5_round_71 : decode cX5_round 71 = .ok (.iload_n 3, 1) := dk_29 (dk_at dksX5_round_3 1 rfl rfl)
theorem dX5_round_72 : decode cX5_round 72 = .ok (.bipush 32, 2) := dk_16 32 (dk_at dksX5_round_3 2 rfl rfl)
theorem dX5_round_74 : decode cX5_round 74 = .ok (.if_icmp .ge 57, 3) := dk_162 0 57 (dk_at dksX5_round_3 4 rfl rfl)
theorem dX5_round_77 : decode cX5_round 77 = .ok (.aload_n 0, 1) := dk_42 (dk_at dksX5_round_3 7 rfl rfl)
theorem dX5_round_78 : decode cX5_round 78 = .ok (.getfield 7, 3) := dk_180 0 7 (dk_at dksX5_round_3 8 rfl rfl)
theorem dX5_round_81 : decode cX5_round 81 = .ok (.iload_n 2, 1) := dk_28 (dk_at dksX5_round_3 11 rfl rfl)
theorem dX5_round_82 : decode cX5_round 82 = .ok (.iaload, 1) := dk_46 (dk_at dksX5_round_3 12 rfl rfl)
theorem dX5_round_83 : decode cX5_round 83 = .ok (.iconst 3, 1) := dk_6 (dk_at dksX5_round_3 13 rfl rfl)
theorem dX5_round_84 : decode cX5_round 84 = .ok (.if_icmp .eq 47, 3) := dk_159 0 47 (dk_at dksX5_round_3 14 rfl rfl)
theorem dX5_round_87 : decode cX5_round 87 = .ok (.aload_n 0, 1) := dk_42 (dk_at dksX5_round_3 17 rfl rfl)
theorem dX5_round_88 : decode cX5_round 88 = .ok (.getfield 90, 3) := dk_180 0 90 (dk_at dksX5_round_3 18 rfl rfl)
theorem dX5_round_91 : decode cX5_round 91 = .ok (.iload_n 2, 1) := dk_28 (dk_at dksX5_round_3 21 rfl rfl)
theorem dX5_round_92 : decode cX5_round 92 = .ok (.iaload, 1) := dk_46 (dk_at dksX5_round_3 22 rfl rfl)
theorem dX5_round_93 : decode cX5_round 93 = .ok (.iload_n 3, 1) := dk_29 (dk_at dksX5_round_3 23 rfl rfl)
theorem dX5_round_94 : decode cX5_round 94 = .ok (.invokestatic 213, 3) := dk_184 0 213 (dk_at dksX5_round_4 0 rfl rfl)
theorem dX5_round_97 : decode cX5_round 97 = .ok (.ifCond .eq 12, 3) := dk_153 0 12 (dk_at dksX5_round_4 3 rfl rfl)
theorem dX5_round_100 : decode cX5_round 100 = .ok (.aload_n 0, 1) := dk_42 (dk_at dksX5_round_4 6 rfl rfl)
theorem dX5_round_101 : decode cX5_round 101 = .ok (.iload_n 2, 1) := dk_28 (dk_at dksX5_round_4 7 rfl rfl)
theorem dX5_round_102 : decode cX5_round 102 = .ok (.iload_n 3, 1) := dk_29 (dk_at dksX5_round_4 8 rfl rfl)
theorem dX5_round_103 : decode cX5_round 103 = .ok (.invokevirtual 324, 3) := dk_182 1 68 (dk_at dksX5_round_4 9 rfl rfl)
theorem dX5_round_106 : decode cX5_round 106 = .ok (.goto 4, 3) := dk_167 0 4 (dk_at dksX5_round_4 12 rfl rfl)
theorem dX5_round_109 : decode cX5_round 109 = .ok (.iconst (-1), 1) := dk_2 (dk_at dksX5_round_4 15 rfl rfl)
theorem dX5_round_110 : decode cX5_round 110 = .ok (.istore 4, 2) := dk_54 4 (dk_at dksX5_round_4 16 rfl rfl)
theorem dX5_round_112 : decode cX5_round 112 = .ok (.iload 4, 2) := dk_21 4 (dk_at dksX5_round_4 18 rfl rfl)
theorem dX5_round_114 : decode cX5_round 114 = .ok (.ifCond .lt 11, 3) := dk_155 0 11 (dk_at dksX5_round_4 20 rfl rfl)
theorem dX5_round_117 : decode cX5_round 117 = .ok (.aload_n 0, 1) := dk_42 (dk_at dksX5_round_4 23 rfl rfl)
theorem dX5_round_118 : decode cX5_round 118 = .ok (.iload_n 2, 1) := dk_28 (dk_at dksX5_round_5 0 rfl rfl)
theorem dX5_round_119 : decode cX5_round 119 = .ok (.iload_n 3, 1) := dk_29 (dk_at dksX5_round_5 1 rfl rfl)
theorem dX5_round_120 : decode cX5_round 120 = .ok (.iload 4, 2) := dk_21 4 (dk_at dksX5_round_5 2 rfl rfl)
theorem dX5_round_122 : decode cX5_round 122 = .ok (.invokevirtual 327, 3) := dk_182 1 71 (dk_at dksX5_round_5 4 rfl rfl)
theorem dX5_round_125 : decode cX5_round 125 = .ok (.iinc 3 1, 3) := dk_132 3 1 (dk_at dksX5_round_5 7 rfl rfl)
theorem dX5_round_128 : decode cX5_round 128 = .ok (.goto (-57), 3) := dk_167 255 199 (dk_at dksX5_round_5 10 rfl rfl)
theorem dX5_round_131 : decode cX5_round 131 = .ok (.aload_n 0, 1) := dk_42 (dk_at dksX5_round_5 13 rfl rfl)
theorem dX5_round_132 : decode cX5_round 132 = .ok (.getfield 7, 3) := dk_180 0 7 (dk_at dksX5_round_5 14 rfl rfl)
theorem dX5_round_135 : decode cX5_round 135 = .ok (.iload_n 2, 1) := dk_28 (dk_at dksX5_round_5 17 rfl rfl)
theorem dX5_round_136 : decode cX5_round 136 = .ok (.iaload, 1) := dk_46 (dk_at dksX5_round_5 18 rfl rfl)
theorem dX5_round_137 : decode cX5_round 137 = .ok (.iconst 3, 1) := dk_6 (dk_at dksX5_round_5 19 rfl rfl)
theorem dX5_round_138 : decode cX5_round 138 = .ok (.if_icmp .ne 45, 3) := dk_160 0 45 (dk_at dksX5_round_5 20 rfl rfl)
theorem dX5_round_141 : decode cX5_round 141 = .ok (.aload_n 0, 1) := dk_42 (dk_at dksX5_round_5 23 rfl rfl)
theorem dX5_round_142 : decode cX5_round 142 = .ok (.getfield 108, 3) := dk_180 0 108 (dk_at dksX5_round_6 0 rfl rfl)
theorem dX5_round_145 : decode cX5_round 145 = .ok (.iload_n 2, 1) := dk_28 (dk_at dksX5_round_6 3 rfl rfl)
theorem dX5_round_146 : decode cX5_round 146 = .ok (.iaload, 1) := dk_46 (dk_at dksX5_round_6 4 rfl rfl)
theorem dX5_round_147 : decode cX5_round 147 = .ok (.aload_n 0, 1) := dk_42 (dk_at dksX5_round_6 5 rfl rfl)
theorem dX5_round_148 : decode cX5_round 148 = .ok (.getfield 111, 3) := dk_180 0 111 (dk_at dksX5_round_6 6 rfl rfl)
theorem dX5_round_151 : decode cX5_round 151 = .ok (.iload_n 2, 1) := dk_28 (dk_at dksX5_round_6 9 rfl rfl)
theorem dX5_round_152 : decode cX5_round 152 = .ok (.iaload, 1) := dk_46 (dk_at dksX5_round_6 10 rfl rfl)
theorem dX5_round_153 : decode cX5_round 153 = .ok (.if_icmp .gt 30, 3) := dk_163 0 30 (dk_at dksX5_round_6 11 rfl rfl)
theorem dX5_round_156 : decode cX5_round 156 = .ok (.aload_n 0, 1) := dk_42 (dk_at dksX5_round_6 14 rfl rfl)
theorem dX5_round_157 : decode cX5_round 157 = .ok (.iload_n 2, 1) := dk_28 (dk_at dksX5_round_6 15 rfl rfl)
theorem dX5_round_158 : decode cX5_round 158 = .ok (.aload_n 0, 1) := dk_42 (dk_at dksX5_round_6 16 rfl rfl)
theorem dX5_round_159 : decode cX5_round 159 = .ok (.getfield 108, 3) := dk_180 0 108 (dk_at dksX5_round_6 17 rfl rfl)
theorem dX5_round_162 : decode cX5_round 162 = .ok (.iload_n 2, 1) := dk_28 (dk_at dksX5_round_6 20 rfl rfl)
theorem dX5_round_163 : decode cX5_round 163 = .ok (.iaload, 1) := dk_46 (dk_at dksX5_round_6 21 rfl rfl)
theorem dX5_round_164 : decode cX5_round 164 = .ok (.invokevirtual 330, 3) := dk_182 1 74 (dk_at dksX5_round_7 0 rfl rfl)
theorem dX5_round_167 : decode cX5_round 167 = .ok (.ifCond .ne 16, 3) := dk_154 0 16 (dk_at dksX5_round_7 3 rfl rfl)
theorem dX5_round_170 : decode cX5_round 170 = .ok (.aload_n 0, 1) := dk_42 (dk_at dksX5_round_7 6 rfl rfl)
theorem dX5_round_171 : decode cX5_round 171 = .ok (.getfield 108, 3) := dk_180 0 108 (dk_at dksX5_round_7 7 rfl rfl)
theorem dX5_round_174 : decode cX5_round 174 = .ok (.iload_n 2, 1) := dk_28 (dk_at dksX5_round_7 10 rfl rfl)
theorem dX5_round_175 : decode cX5_round 175 = .ok (.dup2, 1) := dk_92 (dk_at dksX5_round_7 11 rfl rfl)
theorem dX5_round_176 : decode cX5_round 176 = .ok (.iaload, 1) := dk_46 (dk_at dksX5_round_7 12 rfl rfl)
theorem dX5_round_177 : decode cX5_round 177 = .ok (.iconst 1, 1) := dk_4 (dk_at dksX5_round_7 13 rfl rfl)
theorem dX5_round_178 : decode cX5_round 178 = .ok (.iadd, 1) := dk_96 (dk_at dksX5_round_7 14 rfl rfl)
theorem dX5_round_179 : decode cX5_round 179 = .ok (.iastore, 1) := dk_79 (dk_at dksX5_round_7 15 rfl rfl)
theorem dX5_round_180 : decode cX5_round 180 = .ok (.goto (-49), 3) := dk_167 255 207 (dk_at dksX5_round_7 16 rfl rfl)
theorem dX5_round_183 : decode cX5_round 183 = .ok (.aload_n 0, 1) := dk_42 (dk_at dksX5_round_7 19 rfl rfl)
theorem dX5_round_184 : decode cX5_round 184 = .ok (.getfield 7, 3) := dk_180 0 7 (dk_at dksX5_round_7 20 rfl rfl)
theorem dX5_round_187 : decode cX5_round 187 = .ok (.iload_n 2, 1) := dk_28 (dk_at dksX5_round_7 23 rfl rfl)
theorem dX5_round_188 : decode cX5_round 188 = .ok (.iaload, 1) := dk_46 (dk_at dksX5_round_8 0 rfl rfl)
theorem dX5_round_189 : decode cX5_round 189 = .ok (.iconst 3, 1) := dk_6 (dk_at dksX5_round_8 1 rfl rfl)
theorem dX5_round_190 : decode cX5_round 190 = .ok (.if_icmp .ne 45, 3) := dk_160 0 45 (dk_at dksX5_round_8 2 rfl rfl)
theorem dX5_round_193 : decode cX5_round 193 = .ok (.aload_n 0, 1) := dk_42 (dk_at dksX5_round_8 5 rfl rfl)
theorem dX5_round_194 : decode cX5_round 194 = .ok (.getfield 108, 3) := dk_180 0 108 (dk_at dksX5_round_8 6 rfl rfl)
theorem dX5_round_197 : decode cX5_round 197 = .ok (.iload_n 2, 1) := dk_28 (dk_at dksX5_round_8 9 rfl rfl)
theorem dX5_round_198 : decode cX5_round 198 = .ok (.iaload, 1) := dk_46 (dk_at dksX5_round_8 10 rfl rfl)
theorem dX5_round_199 : decode cX5_round 199 = .ok (.aload_n 0, 1) := dk_42 (dk_at dksX5_round_8 11 rfl rfl)
theorem dX5_round_200 : decode cX5_round 200 = .ok (.getfield 111, 3) := dk_180 0 111 (dk_at dksX5_round_8 12 rfl rfl)
theorem dX5_round_203 : decode cX5_round 203 = .ok (.iload_n 2, 1) := dk_28 (dk_at dksX5_round_8 15 rfl rfl)
theorem dX5_round_204 : decode cX5_round 204 = .ok (.iaload, 1) := dk_46 (dk_at dksX5_round_8 16 rfl rfl)
theorem dX5_round_205 : decode cX5_round 205 = .ok (.if_icmp .gt 30, 3) := dk_163 0 30 (dk_at dksX5_round_8 17 rfl rfl)
theorem dX5_round_208 : decode cX5_round 208 = .ok (.aload_n 0, 1) := dk_42 (dk_at dksX5_round_8 20 rfl rfl)
theorem dX5_round_209 : decode cX5_round 209 = .ok (.iload_n 2, 1) := dk_28 (dk_at dksX5_round_8 21 rfl rfl)
theorem dX5_round_210 : decode cX5_round 210 = .ok (.aload_n 0, 1) := dk_42 (dk_at dksX5_round_8 22 rfl rfl)
theorem dX5_round_211 : decode cX5_round 211 = .ok (.getfield 111, 3) := dk_180 0 111 (dk_at dksX5_round_9 0 rfl rfl)
theorem dX5_round_214 : decode cX5_round 214 = .ok (.iload_n 2, 1) := dk_28 (dk_at dksX5_round_9 3 rfl rfl)
theorem dX5_round_215 : decode cX5_round 215 = .ok (.iaload, 1) := dk_46 (dk_at dksX5_round_9 4 rfl rfl)
theorem dX5_round_216 : decode cX5_round 216 = .ok (.invokevirtual 330, 3) := dk_182 1 74 (dk_at dksX5_round_9 5 rfl rfl)
theorem dX5_round_219 : decode cX5_round 219 = .ok (.ifCond .ne 16, 3) := dk_154 0 16 (dk_at dksX5_round_9 8 rfl rfl)
theorem dX5_round_222 : decode cX5_round 222 = .ok (.aload_n 0, 1) := dk_42 (dk_at dksX5_round_9 11 rfl rfl)
theorem dX5_round_223 : decode cX5_round 223 = .ok (.getfield 111, 3) := dk_180 0 111 (dk_at dksX5_round_9 12 rfl rfl)
theorem dX5_round_226 : decode cX5_round 226 = .ok (.iload_n 2, 1) := dk_28 (dk_at dksX5_round_9 15 rfl rfl)
theorem dX5_round_227 : decode cX5_round 227 = .ok (.dup2, 1) := dk_92 (dk_at dksX5_round_9 16 rfl rfl)
theorem dX5_round_228 : decode cX5_round 228 = .ok (.iaload, 1) := dk_46 (dk_at dksX5_round_9 17 rfl rfl)
theorem dX5_round_229 : decode cX5_round 229 = .ok (.iconst 1, 1) := dk_4 (dk_at dksX5_round_9 18 rfl rfl)
theorem dX5_round_230 : decode cX5_round 230 = .ok (.isub, 1) := dk_100 (dk_at dksX5_round_9 19 rfl rfl)
theorem dX5_round_231 : decode cX5_round 231 = .ok (.iastore, 1) := dk_79 (dk_at dksX5_round_9 20 rfl rfl)
theorem dX5_round_232 : decode cX5_round 232 = .ok (.goto (-49), 3) := dk_167 255 207 (dk_at dksX5_round_9 21 rfl rfl)
theorem dX5_round_235 : decode cX5_round 235 = .ok (.iinc 2 1, 3) := dk_132 2 1 (dk_at dksX5_round_10 0 rfl rfl)
theorem dX5_round_238 : decode cX5_round 238 = .ok (.goto (-213), 3) := dk_167 255 43 (dk_at dksX5_round_10 3 rfl rfl)
theorem dX5_round_241 : decode cX5_round 241 = .ok (.iconst 0, 1) := dk_3 (dk_at dksX5_round_10 6 rfl rfl)
theorem dX5_round_242 : decode cX5_round 242 = .ok (.istore_n 2, 1) := dk_61 (dk_at dksX5_round_10 7 rfl rfl)
theorem dX5_round_243 : decode cX5_round 243 = .ok (.iload_n 2, 1) := dk_28 (dk_at dksX5_round_10 8 rfl rfl)
theorem dX5_round_244 : decode cX5_round 244 = .ok (.aload_n 0, 1) := dk_42 (dk_at dksX5_round_10 9 rfl rfl)
theorem dX5_round_245 : decode cX5_round 245 = .ok (.getfield 177, 3) := dk_180 0 177 (dk_at dksX5_round_10 10 rfl rfl)
theorem dX5_round_248 : decode cX5_round 248 = .ok (.if_icmp .ge 98, 3) := dk_162 0 98 (dk_at dksX5_round_10 13 rfl rfl)
theorem dX5_round_251 : decode cX5_round 251 = .ok (.iload_n 1, 1) := dk_27 (dk_at dksX5_round_10 16 rfl rfl)
theorem dX5_round_252 : decode cX5_round 252 = .ok (.aload_n 0, 1) := dk_42 (dk_at dksX5_round_10 17 rfl rfl)
theorem dX5_round_253 : decode cX5_round 253 = .ok (.getfield 105, 3) := dk_180 0 105 (dk_at dksX5_round_10 18 rfl rfl)
theorem dX5_round_256 : decode cX5_round 256 = .ok (.iload_n 2, 1) := dk_28 (dk_at dksX5_round_10 21 rfl rfl)
theorem dX5_round_257 : decode cX5_round 257 = .ok (.iaload, 1) := dk_46 (dk_at dksX5_round_10 22 rfl rfl)
theorem dX5_round_258 : decode cX5_round 258 = .ok (.aload_n 0, 1) := dk_42 (dk_at dksX5_round_10 23 rfl rfl)
theorem dX5_round_259 : decode cX5_round 259 = .ok (.getfield 90, 3) := dk_180 0 90 (dk_at dksX5_round_11 0 rfl rfl)
theorem dX5_round_262 : decode cX5_round 262 = .ok (.iload_n 2, 1) := dk_28 (dk_at dksX5_round_11 3 rfl rfl)
theorem dX5_round_263 : decode cX5_round 263 = .ok (.iaload, 1) := dk_46 (dk_at dksX5_round_11 4 rfl rfl)
theorem dX5_round_264 : decode cX5_round 264 = .ok (.if_icmp .ne 33, 3) := dk_160 0 33 (dk_at dksX5_round_11 5 rfl rfl)
theorem dX5_round_267 : decode cX5_round 267 = .ok (.aload_n 0, 1) := dk_42 (dk_at dksX5_round_11 8 rfl rfl)
theorem dX5_round_268 : decode cX5_round 268 = .ok (.getfield 108, 3) := dk_180 0 108 (dk_at dksX5_round_11 9 rfl rfl)
theorem dX5_round_271 : decode cX5_round 271 = .ok (.iload_n 2, 1) := dk_28 (dk_at dksX5_round_11 12 rfl rfl)
theorem dX5_round_272 : decode cX5_round 272 = .ok (.iaload, 1) := dk_46 (dk_at dksX5_round_11 13 rfl rfl)
theorem dX5_round_273 : decode cX5_round 273 = .ok (.aload_n 0, 1) := dk_42 (dk_at dksX5_round_11 14 rfl rfl)
theorem dX5_round_274 : decode cX5_round 274 = .ok (.getfield 93, 3) := dk_180 0 93 (dk_at dksX5_round_11 15 rfl rfl)
theorem dX5_round_277 : decode cX5_round 277 = .ok (.iload_n 2, 1) := dk_28 (dk_at dksX5_round_11 18 rfl rfl)
theorem dX5_round_278 : decode cX5_round 278 = .ok (.iaload, 1) := dk_46 (dk_at dksX5_round_11 19 rfl rfl)
theorem dX5_round_279 : decode cX5_round 279 = .ok (.if_icmp .ne 18, 3) := dk_160 0 18 (dk_at dksX5_round_11 20 rfl rfl)
theorem dX5_round_282 : decode cX5_round 282 = .ok (.aload_n 0, 1) := dk_42 (dk_at dksX5_round_11 23 rfl rfl)
theorem dX5_round_283 : decode cX5_round 283 = .ok (.getfield 111, 3) := dk_180 0 111 (dk_at dksX5_round_12 0 rfl rfl)
theorem dX5_round_286 : decode cX5_round 286 = .ok (.iload_n 2, 1) := dk_28 (dk_at dksX5_round_12 3 rfl rfl)
theorem dX5_round_287 : decode cX5_round 287 = .ok (.iaload, 1) := dk_46 (dk_at dksX5_round_12 4 rfl rfl)
theorem dX5_round_288 : decode cX5_round 288 = .ok (.aload_n 0, 1) := dk_42 (dk_at dksX5_round_12 5 rfl rfl)
theorem dX5_round_289 : decode cX5_round 289 = .ok (.getfield 96, 3) := dk_180 0 96 (dk_at dksX5_round_12 6 rfl rfl)
theorem dX5_round_292 : decode cX5_round 292 = .ok (.iload_n 2, 1) := dk_28 (dk_at dksX5_round_12 9 rfl rfl)
theorem dX5_round_293 : decode cX5_round 293 = .ok (.iaload, 1) := dk_46 (dk_at dksX5_round_12 10 rfl rfl)
theorem dX5_round_294 : decode cX5_round 294 = .ok (.if_icmp .eq 7, 3) := dk_159 0 7 (dk_at dksX5_round_12 11 rfl rfl)
theorem dX5_round_297 : decode cX5_round 297 = .ok (.iconst 1, 1) := dk_4 (dk_at dksX5_round_12 14 rfl rfl)
theorem dX5_round_298 : decode cX5_round 298 = .ok (.goto 4, 3) := dk_167 0 4 (dk_at dksX5_round_12 15 rfl rfl)
theorem dX5_round_301 : decode cX5_round 301 = .ok (.iconst 0, 1) := dk_3 (dk_at dksX5_round_12 18 rfl rfl)
theorem dX5_round_302 : decode cX5_round 302 = .ok (.ior, 1) := dk_128 (dk_at dksX5_round_12 19 rfl rfl)
theorem dX5_round_303 : decode cX5_round 303 = .ok (.istore_n 1, 1) := dk_60 (dk_at dksX5_round_12 20 rfl rfl)
theorem dX5_round_304 : decode cX5_round 304 = .ok (.aload_n 0, 1) := dk_42 (dk_at dksX5_round_12 21 rfl rfl)
theorem dX5_round_305 : decode cX5_round 305 = .ok (.getfield 90, 3) := dk_180 0 90 (dk_at dksX5_round_13 0 rfl rfl)
theorem dX5_round_308 : decode cX5_round 308 = .ok (.iload_n 2, 1) := dk_28 (dk_at dksX5_round_13 3 rfl rfl)
theorem dX5_round_309 : decode cX5_round 309 = .ok (.aload_n 0, 1) := dk_42 (dk_at dksX5_round_13 4 rfl rfl)
theorem dX5_round_310 : decode cX5_round 310 = .ok (.getfield 105, 3) := dk_180 0 105 (dk_at dksX5_round_13 5 rfl rfl)
theorem dX5_round_313 : decode cX5_round 313 = .ok (.iload_n 2, 1) := dk_28 (dk_at dksX5_round_13 8 rfl rfl)
theorem dX5_round_314 : decode cX5_round 314 = .ok (.iaload, 1) := dk_46 (dk_at dksX5_round_13 9 rfl rfl)
theorem dX5_round_315 : decode cX5_round 315 = .ok (.iastore, 1) := dk_79 (dk_at dksX5_round_13 10 rfl rfl)
theorem dX5_round_316 : decode cX5_round 316 = .ok (.aload_n 0, 1) := dk_42 (dk_at dksX5_round_13 11 rfl rfl)
theorem dX5_round_317 : decode cX5_round 317 = .ok (.getfield 93, 3) := dk_180 0 93 (dk_at dksX5_round_13 12 rfl rfl)
theorem dX5_round_320 : decode cX5_round 320 = .ok (.iload_n 2, 1) := dk_28 (dk_at dksX5_round_13 15 rfl rfl)
theorem dX5_round_321 : decode cX5_round 321 = .ok (.aload_n 0, 1) := dk_42 (dk_at dksX5_round_13 16 rfl rfl)
theorem dX5_round_322 : decode cX5_round 322 = .ok (.getfield 108, 3) := dk_180 0 108 (dk_at dksX5_round_13 17 rfl rfl)
theorem dX5_round_325 : decode cX5_round 325 = .ok (.iload_n 2, 1) := dk_28 (dk_at dksX5_round_13 20 rfl rfl)
theorem dX5_round_326 : decode cX5_round 326 = .ok (.iaload, 1) := dk_46 (dk_at dksX5_round_13 21 rfl rfl)
theorem dX5_round_327 : decode cX5_round 327 = .ok (.iastore, 1) := dk_79 (dk_at dksX5_round_13 22 rfl rfl)
theorem dX5_round_328 : decode cX5_round 328 = .ok (.aload_n 0, 1) := dk_42 (dk_at dksX5_round_13 23 rfl rfl)
theorem dX5_round_329 : decode cX5_round 329 = .ok (.getfield 96, 3) := dk_180 0 96 (dk_at dksX5_round_14 0 rfl rfl)
theorem dX5_round_332 : decode cX5_round 332 = .ok (.iload_n 2, 1) := dk_28 (dk_at dksX5_round_14 3 rfl rfl)
theorem dX5_round_333 : decode cX5_round 333 = .ok (.aload_n 0, 1) := dk_42 (dk_at dksX5_round_14 4 rfl rfl)
theorem dX5_round_334 : decode cX5_round 334 = .ok (.getfield 111, 3) := dk_180 0 111 (dk_at dksX5_round_14 5 rfl rfl)
theorem dX5_round_337 : decode cX5_round 337 = .ok (.iload_n 2, 1) := dk_28 (dk_at dksX5_round_14 8 rfl rfl)
theorem dX5_round_338 : decode cX5_round 338 = .ok (.iaload, 1) := dk_46 (dk_at dksX5_round_14 9 rfl rfl)
theorem dX5_round_339 : decode cX5_round 339 = .ok (.iastore, 1) := dk_79 (dk_at dksX5_round_14 10 rfl rfl)
theorem dX5_round_340 : decode cX5_round 340 = .ok (.iinc 2 1, 3) := dk_132 2 1 (dk_at dksX5_round_14 11 rfl rfl)
theorem dX5_round_343 : decode cX5_round 343 = .ok (.goto (-100), 3) := dk_167 255 156 (dk_at dksX5_round_14 14 rfl rfl)
theorem dX5_round_346 : decode cX5_round 346 = .ok (.iload_n 1, 1) := dk_27 (dk_at dksX5_round_14 17 rfl rfl)
theorem dX5_round_347 : decode cX5_round 347 = .ok (.ireturn, 1) := dk_172 (dk_at dksX5_round_14 18 rfl rfl)
def dkwX5_supportsAll_7 : List UInt8 := [182, 1, 25, 167, 0, 8, 42, 27, 182, 1, 28, 177]
abbrev dktX5_supportsAll_7 : List UInt8 := dkwX5_supportsAll_7 ++ []
def dkwX5_supportsAll_6 : List UInt8 := [46, 154, 0, 7, 2, 167, 0, 13, 4, 42, 180, 0, 159, 28, 46, 4, 100, 120, 79, 167, 0, 16, 42, 27]
abbrev dktX5_supportsAll_6 : List UInt8 := dkwX5_supportsAll_6 ++ dktX5_supportsAll_7
def dkwX5_supportsAll_5 : List UInt8 := [42, 42, 180, 0, 53, 27, 46, 182, 1, 22, 61, 42, 180, 0, 102, 16, 8, 27, 104, 42, 180, 0, 159, 28]
abbrev dktX5_supportsAll_5 : List UInt8 := dkwX5_supportsAll_5 ++ dktX5_supportsAll_6
def dkwX5_supportsAll_4 : List UInt8 := [42, 27, 182, 1, 13, 167, 0, 78, 42, 27, 182, 1, 16, 167, 0, 70, 42, 27, 182, 1, 19, 167, 0, 62]
abbrev dktX5_supportsAll_4 : List UInt8 := dkwX5_supportsAll_4 ++ dktX5_supportsAll_5
def dkwX5_supportsAll_3 : List UInt8 := [42, 27, 182, 1, 3, 167, 0, 102, 42, 27, 182, 1, 7, 167, 0, 94, 42, 27, 182, 1, 10, 167, 0, 86]
abbrev dktX5_supportsAll_3 : List UInt8 := dkwX5_supportsAll_3 ++ dktX5_supportsAll_4
def dkwX5_supportsAll_2 : List UInt8 := [170, 0, 0, 0, 0, 0, 0, 186, 0, 0, 0, 0, 0, 0, 0, 16, 0, 0, 0, 84, 0, 0, 0, 92, 0, 0, 0, 100, 0, 0, 0, 108, 0, 0, 0, 116, 0, 0, 0, 124, 0, 0, 0, 132, 0, 0, 0, 186, 0, 0, 0, 186, 0, 0, 0, 186, 0, 0, 0, 186, 0, 0, 0, 178, 0, 0, 0, 186, 0, 0, 0, 186, 0, 0, 0, 186, 0, 0, 0, 186, 0, 0, 0, 178]
abbrev dktX5_supportsAll_2 : List UInt8 := dkwX5_supportsAll_2 ++ dktX5_supportsAll_3
def dkwX5_supportsAll_1 : List UInt8 := [167, 255, 235, 42, 180, 0, 41, 27, 46]
abbrev dktX5_supportsAll_1 : List UInt8 := dkwX5_supportsAll_1 ++ dktX5_supportsAll_2
def dkwX5_supportsAll_0 : List UInt8 := [3, 61, 28, 16, 8, 162, 0, 21, 42, 180, 0, 102, 16, 8, 27, 104, 28, 96, 3, 79, 132, 2, 1]
abbrev dktX5_supportsAll_0 : List UInt8 := dkwX5_supportsAll_0 ++ dktX5_supportsAll_1
theorem dksX5_supportsAll_0 : cX5_supportsAll.data.toList.drop 0 = dktX5_supportsAll_0 := by decide +kernel
theorem dksX5_supportsAll_1 : cX5_supportsAll.data.toList.drop 23 = dktX5_supportsAll_1 := dk_seg dksX5_supportsAll_0 23 rfl rfl
theorem dksX5_supportsAll_2 : cX5_supportsAll.data.toList.drop 32 = dktX5_supportsAll_2 := dk_seg dksX5_supportsAll_1 9 rfl rfl
theorem dksX5_supportsAll_3 : cX5_supportsAll.data.toList.drop 116 = dktX5_supportsAll_3 := dk_seg dksX5_supportsAll_2 84 rfl rfl
theorem dksX5_supportsAll_4 : cX5_supportsAll.data.toList.drop 140 = dktX5_supportsAll_4 := dk_seg dksX5_supportsAll_3 24 rfl rfl
theorem dksX5_supportsAll_5 : cX5_supportsAll.data.toList.drop 164 = dktX5_supportsAll_5 := dk_seg dksX5_supportsAll_4 24 rfl rfl
theorem dksX5_supportsAll_6 : cX5_supportsAll.data.toList.drop 188 = dktX5_supportsAll_6 := dk_seg dksX5_supportsAll_5 24 rfl rfl
theorem dksX5_supportsAll_7 : cX5_supportsAll.data.toList.drop 212 = dktX5_supportsAll_7 := dk_seg dksX5_supportsAll_6 24 rfl rfl
theorem dX5_supportsAll_0 : decode cX5_supportsAll 0 = .ok (.iconst 0, 1) := dk_3 (dk_at dksX5_supportsAll_0 0 rfl rfl)
theorem dX5_supportsAll_1 : decode cX5_supportsAll 1 = .ok (.istore_n 2, 1) := dk_61 (dk_at dksX5_supportsAll_0 1 rfl rfl)
theorem dX5_supportsAll_2 : decode cX5_supportsAll 2 = .ok (.iload_n 2, 1) := dk_28 (dk_at dksX5_supportsAll_0 2 rfl rfl)
theorem dX5_supportsAll_3 : decode cX5_supportsAll 3 = .ok (.bipush 8, 2) := dk_16 8 (dk_at dksX5_supportsAll_0 3 rfl rfl)
theorem dX5_supportsAll_5 : decode cX5_supportsAll 5 = .ok (.if_icmp .ge 21, 3) := dk_162 0 21 (dk_at dksX5_supportsAll_0 5 rfl rfl)
theorem dX5_supportsAll_8 : decode cX5_supportsAll 8 = .ok (.aload_n 0, 1) := dk_42 (dk_at dksX5_supportsAll_0 8 rfl rfl)
theorem dX5_supportsAll_9 : decode cX5_supportsAll 9 = .ok (.getfield 102, 3) := dk_180 0 102 (dk_at dksX5_supportsAll_0 9 rfl rfl)
theorem dX5_supportsAll_12 : decode cX5_supportsAll 12 = .ok (.bipush 8, 2) := dk_16 8 (dk_at dksX5_supportsAll_0 12 rfl rfl)
theorem dX5_supportsAll_14 : decode cX5_supportsAll 14 = .ok (.iload_n 1, 1) := dk_27 (dk_at dksX5_supportsAll_0 14 rfl rfl)
theorem dX5_supportsAll_15 : decode cX5_supportsAll 15 = .ok (.imul, 1) := dk_104 (dk_at dksX5_supportsAll_0 15 rfl rfl)
theorem dX5_supportsAll_16 : decode cX5_supportsAll 16 = .ok (.iload_n 2, 1) := dk_28 (dk_at dksX5_supportsAll_0 16 rfl rfl)
theorem dX5_supportsAll_17 : decode cX5_supportsAll 17 = .ok (.iadd, 1) := dk_96 (dk_at dksX5_supportsAll_0 17 rfl rfl)
theorem dX5_supportsAll_18 : decode cX5_supportsAll 18 = .ok (.iconst 0, 1) := dk_3 (dk_at dksX5_supportsAll_0 18 rfl rfl)
theorem dX5_supportsAll_19 : decode cX5_supportsAll 19 = .ok (.iastore, 1) := dk_79 (dk_at dksX5_supportsAll_0 19 rfl rfl)
theorem dX5_supportsAll_20 : decode cX5_supportsAll 20 = .ok (.iinc 2 1, 3) := dk_132 2 1 (dk_at dksX5_supportsAll_0 20 rfl rfl)
theorem dX5_supportsAll_23 : decode cX5_supportsAll 23 = .ok (.goto (-21), 3) := dk_167 255 235 (dk_at dksX5_supportsAll_1 0 rfl rfl)
theorem dX5_supportsAll_26 : decode cX5_supportsAll 26 = .ok (.aload_n 0, 1) := dk_42 (dk_at dksX5_supportsAll_1 3 rfl rfl)
theorem dX5_supportsAll_27 : decode cX5_supportsAll 27 = .ok (.getfield 41, 3) := dk_180 0 41 (dk_at dksX5_supportsAll_1 4 rfl rfl)
theorem dX5_supportsAll_30 : decode cX5_supportsAll 30 = .ok (.iload_n 1, 1) := dk_27 (dk_at dksX5_supportsAll_1 7 rfl rfl)
theorem dX5_supportsAll_31 : decode cX5_supportsAll 31 = .ok (.iaload, 1) := dk_46 (dk_at dksX5_supportsAll_1 8 rfl rfl)
theorem dX5_supportsAll_32 : decode cX5_supportsAll 32 = .ok (.tableswitch 186 0 16 #[84, 92, 100, 108, 116, 124, 132, 186, 186, 186, 186, 178, 186, 186, 186, 186, 178], 84) := by decide +kernel
theorem dX5_supportsAll_116 : decode cX5_supportsAll 116 = .ok (.aload_n 0, 1) := dk_42 (dk_at dksX5_supportsAll_3 0 rfl rfl)
theorem dX5_supportsAll_117 : decode cX5_supportsAll 117 = .ok (.iload_n 1, 1) := dk_27 (dk_at dksX5_supportsAll_3 1 rfl rfl)
theorem dX5_supportsAll_118 : decode cX5_supportsAll 118 = .ok (.invokevirtual 259, 3) := dk_182 1 3 (dk_at dksX5_supportsAll_3 2 rfl rfl)
theorem dX5_supportsAll_121 : decode cX5_supportsAll 121 = .ok (.goto 102, 3) := dk_167 0 102 (dk_at dksX5_supportsAll_3 5 rfl rfl)
theorem dX5_supportsAll_124 : decode cX5_supportsAll 124 = .ok (.aload_n 0, 1) := dk_42 (dk_at dksX5_supportsAll_3 8 rfl rfl)
theorem dX5_supportsAll_125 : decode cX5_supportsAll 125 = .ok (.iload_n 1, 1) := dk_27 (dk_at dksX5_supportsAll_3 9 rfl rfl)
theorem dX5_supportsAll_126 : decode cX5_supportsAll 126 = .ok (.invokevirtual 263, 3) := dk_182 1 7 (dk_at dksX5_supportsAll_3 10 rfl rfl)
theorem dX5_supportsAll_129 : decode cX5_supportsAll 129 = .ok (.goto 94, 3) := dk_167 0 94 (dk_at dksX5_supportsAll_3 13 rfl rfl)
theorem dX5_supportsAll_132 : decode cX5_supportsAll 132 = .ok (.aload_n 0, 1) := dk_42 (dk_at dksX5_supportsAll_3 16 rfl rfl)
theorem dX5_supportsAll_133 : decode cX5_supportsAll 133 = .ok (.iload_n 1, 1) := dk_27 (dk_at dksX5_supportsAll_3 17 rfl rfl)
theorem dX5_supportsAll_134 : decode cX5_supportsAll 134 = .ok (.invokevirtual 266, 3) := dk_182 1 10 (dk_at dksX5_supportsAll_3 18 rfl rfl)
theorem dX5_supportsAll_137 : decode cX5_supportsAll 137 = .ok (.goto 86, 3) := dk_167 0 86 (dk_at dksX5_supportsAll_3 21 rfl rfl)
theorem dX5_supportsAll_140 : decode cX5_supportsAll 140 = .ok (.aload_n 0, 1) := dk_42 (dk_at dksX5_supportsAll_4 0 rfl rfl)
theorem dX5_supportsAll_141 : decode cX5_supportsAll 141 = .ok (.iload_n 1, 1) := dk_27 (dk_at dksX5_supportsAll_4 1 rfl rfl)
theorem dX5_supportsAll_142 : decode cX5_supportsAll 142 = .ok (.invokevirtual 269, 3) := dk_182 1 13 (dk_at dksX5_supportsAll_4 2 rfl rfl)
theorem dX5_supportsAll_145 : decode cX5_supportsAll 145 = .ok (.goto 78, 3) := dk_167 0 78 (dk_at dksX5_supportsAll_4 5 rfl rfl)
theorem dX5_supportsAll_148 : decode cX5_supportsAll 148 = .ok (.aload_n 0, 1) := dk_42 (dk_at dksX5_supportsAll_4 8 rfl rfl)
theorem dX5_supportsAll_149 : decode cX5_supportsAll 149 = .ok (.iload_n 1, 1) := dk_27 (dk_at dksX5_supportsAll_4 9 rfl rfl)
theorem dX5_supportsAll_150 : decode cX5_supportsAll 150 = .ok (.invokevirtual 272, 3) := dk_182 1 16 (dk_at dksX5_supportsAll_4 10 rfl rfl)
theorem dX5_supportsAll_153 : decode cX5_supportsAll 153 = .ok (.goto 70, 3) := dk_167 0 70 (dk_at dksX5_supportsAll_4 13 rfl rfl)
theorem dX5_supportsAll_156 : decode cX5_supportsAll 156 = .ok (.aload_n 0, 1) := dk_42 (dk_at dksX5_supportsAll_4 16 rfl rfl)
theorem dX5_supportsAll_157 : decode cX5_supportsAll 157 = .ok (.iload_n 1, 1) := dk_27 (dk_at dksX5_supportsAll_4 17 rfl rfl)
theorem dX5_supportsAll_158 : decode cX5_supportsAll 158 = .ok (.invokevirtual 275, 3) := dk_182 1 19 (dk_at dksX5_supportsAll_4 18 rfl rfl)
theorem dX5_supportsAll_161 : decode cX5_supportsAll 161 = .ok (.goto 62, 3) := dk_167 0 62 (dk_at dksX5_supportsAll_4 21 rfl rfl)
theorem dX5_supportsAll_164 : decode cX5_supportsAll 164 = .ok (.aload_n 0, 1) := dk_42 (dk_at dksX5_supportsAll_5 0 rfl rfl)
theorem dX5_supportsAll_165 : decode cX5_supportsAll 165 = .ok (.aload_n 0, 1) := dk_42 (dk_at dksX5_supportsAll_5 1 rfl rfl)
theorem dX5_supportsAll_166 : decode cX5_supportsAll 166 = .ok (.getfield 53, 3) := dk_180 0 53 (dk_at dksX5_supportsAll_5 2 rfl rfl)
theorem dX5_supportsAll_169 : decode cX5_supportsAll 169 = .ok (.iload_n 1, 1) := dk_27 (dk_at dksX5_supportsAll_5 5 rfl rfl)
theorem dX5_supportsAll_170 : decode cX5_supportsAll 170 = .ok (.iaload, 1) := dk_46 (dk_at dksX5_supportsAll_5 6 rfl rfl)
theorem dX5_supportsAll_171 : decode cX5_supportsAll 171 = .ok (.invokevirtual 278, 3) := dk_182 1 22 (dk_at dksX5_supportsAll_5 7 rfl rfl)
theorem dX5_supportsAll_174 : decode cX5_supportsAll 174 = .ok (.istore_n 2, 1) := dk_61 (dk_at dksX5_supportsAll_5 10 rfl rfl)
theorem dX5_supportsAll_175 : decode cX5_supportsAll 175 = .ok (.aload_n 0, 1) := dk_42 (dk_at dksX5_supportsAll_5 11 rfl rfl)
theorem dX5_supportsAll_176 : decode cX5_supportsAll 176 = .ok (.getfield 102, 3) := dk_180 0 102 (dk_at dksX5_supportsAll_5 12 rfl rfl)
theorem dX5_supportsAll_179 : decode cX5_supportsAll 179 = .ok (.bipush 8, 2) := dk_16 8 (dk_at dksX5_supportsAll_5 15 rfl rfl)
theorem dX5_supportsAll_181 : decode cX5_supportsAll 181 = .ok (.iload_n 1, 1) := dk_27 (dk_at dksX5_supportsAll_5 17 rfl rfl)
theorem dX5_supportsAll_182 : decode cX5_supportsAll 182 = .ok (.imul, 1) := dk_104 (dk_at dksX5_supportsAll_5 18 rfl rfl)
theorem dX5_supportsAll_183 : decode cX5_supportsAll 183 = .ok (.aload_n 0, 1) := dk_42 (dk_at dksX5_supportsAll_5 19 rfl rfl)
theorem dX5_supportsAll_184 : decode cX5_supportsAll 184 = .ok (.getfield 159, 3) := dk_180 0 159 (dk_at dksX5_supportsAll_5 20 rfl rfl)
theorem dX5_supportsAll_187 : decode cX5_supportsAll 187 = .ok (.iload_n 2, 1) := dk_28 (dk_at dksX5_supportsAll_5 23 rfl rfl)
theorem dX5_supportsAll_188 : decode cX5_supportsAll 188 = .ok (.iaload, 1) := dk_46 (dk_at dksX5_supportsAll_6 0 rfl rfl)
theorem dX5_supportsAll_189 : decode cX5_supportsAll 189 = .ok (.ifCond .ne 7, 3) := dk_154 0 7 (dk_at dksX5_supportsAll_6 1 rfl rfl)
theorem dX5_supportsAll_192 : decode cX5_supportsAll 192 = .ok (.iconst (-1), 1) := dk_2 (dk_at dksX5_supportsAll_6 4 rfl rfl)
theorem dX5_supportsAll_193 : decode cX5_supportsAll 193 = .ok (.goto 13, 3) := dk_167 0 13 (dk_at dksX5_supportsAll_6 5 rfl rfl)
theorem dX5_supportsAll_196 : decode cX5_supportsAll 196 = .ok (.iconst 1, 1) := dk_4 (dk_at dksX5_supportsAll_6 8 rfl rfl)
theorem dX5_supportsAll_197 : decode cX5_supportsAll 197 = .ok (.aload_n 0, 1) := dk_42 (dk_at dksX5_supportsAll_6 9 rfl rfl)
theorem dX5_supportsAll_198 : decode cX5_supportsAll 198 = .ok (.getfield 159, 3) := dk_180 0 159 (dk_at dksX5_supportsAll_6 10 rfl rfl)
theorem dX5_supportsAll_201 : decode cX5_supportsAll 201 = .ok (.iload_n 2, 1) := dk_28 (dk_at dksX5_supportsAll_6 13 rfl rfl)
theorem dX5_supportsAll_202 : decode cX5_supportsAll 202 = .ok (.iaload, 1) := dk_46 (dk_at dksX5_supportsAll_6 14 rfl rfl)
theorem dX5_supportsAll_203 : decode cX5_supportsAll 203 = .ok (.iconst 1, 1) := dk_4 (dk_at dksX5_supportsAll_6 15 rfl rfl)
theorem dX5_supportsAll_204 : decode cX5_supportsAll 204 = .ok (.isub, 1) := dk_100 (dk_at dksX5_supportsAll_6 16 rfl rfl)
theorem dX5_supportsAll_205 : decode cX5_supportsAll 205 = .ok (.ishl, 1) := dk_120 (dk_at dksX5_supportsAll_6 17 rfl rfl)
theorem dX5_supportsAll_206 : decode cX5_supportsAll 206 = .ok (.iastore, 1) := dk_79 (dk_at dksX5_supportsAll_6 18 rfl rfl)
theorem dX5_supportsAll_207 : decode cX5_supportsAll 207 = .ok (.goto 16, 3) := dk_167 0 16 (dk_at dksX5_supportsAll_6 19 rfl rfl)
theorem dX5_supportsAll_210 : decode cX5_supportsAll 210 = .ok (.aload_n 0, 1) := dk_42 (dk_at dksX5_supportsAll_6 22 rfl rfl)
theorem dX5_supportsAll_211 : decode cX5_supportsAll 211 = .ok (.iload_n 1, 1) := dk_27 (dk_at dksX5_supportsAll_6 23 rfl rfl)
theorem dX5_supportsAll_212 : decode cX5_supportsAll 212 = .ok (.invokevirtual 281, 3) := dk_182 1 25 (dk_at dksX5_supportsAll_7 0 rfl rfl)
theorem dX5_supportsAll_215 : decode cX5_supportsAll 215 = .ok (.goto 8, 3) := dk_167 0 8 (dk_at dksX5_supportsAll_7 3 rfl rfl)
theorem dX5_supportsAll_218 : decode cX5_supportsAll 218 = .ok (.aload_n 0, 1) := dk_42 (dk_at dksX5_supportsAll_7 6 rfl rfl)
theorem dX5_supportsAll_219 : decode cX5_supportsAll 219 = .ok (.iload_n 1, 1) := dk_27 (dk_at dksX5_supportsAll_7 7 rfl rfl)
theorem dX5_supportsAll_220 : decode cX5_supportsAll 220 = .ok (.invokevirtual 284, 3) := dk_182 1 28 (dk_at dksX5_supportsAll_7 8 rfl rfl)
theorem dX5_supportsAll_223 : decode cX5_supportsAll 223 = .ok (.return_, 1) := dk_177 (dk_at dksX5_supportsAll_7 11 rfl rfl)
def dkwX5_byLinear_3 : List UInt8 := [21, 4, 182, 0, 220, 132, 4, 1, 167, 255, 204, 132, 2, 1, 167, 255, 173, 177]
abbrev dktX5_byLinear_3 : List UInt8 := dkwX5_byLinear_3 ++ []
def dkwX5_byLinear_2 : List UInt8 := [46, 21, 4, 184, 0, 213, 153, 0, 22, 42, 27, 28, 21, 4, 182, 0, 217, 153, 0, 11, 42, 27, 28]
abbrev dktX5_byLinear_2 : List UInt8 := dkwX5_byLinear_2 ++ dktX5_byLinear_3
def dkwX5_byLinear_1 : List UInt8 := [3, 54, 4, 21, 4, 16, 16, 162, 0, 51, 42, 180, 0, 7, 29, 46, 154, 0, 42, 42, 180, 0, 90, 29]
abbrev dktX5_byLinear_1 : List UInt8 := dkwX5_byLinear_1 ++ dktX5_byLinear_2
def dkwX5_byLinear_0 : List UInt8 := [3, 61, 28, 42, 180, 0, 44, 27, 46, 162, 0, 79, 42, 180, 0, 47, 16, 8, 27, 104, 28, 96, 46, 62]
abbrev dktX5_byLinear_0 : List UInt8 := dkwX5_byLinear_0 ++ dktX5_byLinear_1
theorem dksX5_byLinear_0 : cX5_byLinear.data.toList.drop 0 = dktX5_byLinear_0 := by decide +kernel
theorem dksX5_byLinear_1 : cX5_byLinear.data.toList.drop 24 = dktX5_byLinear_1 := dk_seg dksX5_byLinear_0 24 rfl rfl
theorem dksX5_byLinear_2 : cX5_byLinear.data.toList.drop 48 = dktX5_byLinear_2 := dk_seg dksX5_byLinear_1 24 rfl rfl
theorem dksX5_byLinear_3 : cX5_byLinear.data.toList.drop 71 = dktX5_byLinear_3 := dk_seg dksX5_byLinear_2 23 rfl rfl
theorem dX5_byLinear_0 : decode cX5_byLinear 0 = .ok (.iconst 0, 1) := dk_3 (dk_at dksX5_byLinear_0 0 rfl rfl)
theorem dX5_byLinear_1 : decode cX5_byLinear 1 = .ok (.istore_n 2, 1) := dk_61 (dk_at dksX5_byLinear_0 1 rfl rfl)
theorem dX5_byLinear_2 : decode cX5_byLinear 2 = .ok (.iload_n 2, 1) := dk_28 (dk_at dksX5_byLinear_0 2 rfl rfl)
theorem dX5_byLinear_3 : decode cX5_byLinear 3 = .ok (.aload_n 0, 1) := dk_42 (dk_at dksX5_byLinear_0 3 rfl rfl)
theorem dX5_byLinear_4 : decode cX5_byLinear 4 = .ok (.getfield 44, 3) := dk_180 0 44 (dk_at dksX5_byLinear_0 4 rfl rfl)
theorem dX5_byLinear_7 : decode cX5_byLinear 7 = .ok (.iload_n 1, 1) := dk_27 (dk_at dksX5_byLinear_0 7 rfl rfl)
theorem dX5_byLinear_8 : decode cX5_byLinear 8 = .ok (.iaload, 1) := dk_46 (dk_at dksX5_byLinear_0 8 rfl rfl)
theorem dX5_byLinear_9 : decode cX5_byLinear 9 = .ok (.if_icmp .ge 79, 3) := dk_162 0 79 (dk_at dksX5_byLinear_0 9 rfl rfl)
theorem dX5_byLinear_12 : decode cX5_byLinear 12 = .ok (.aload_n 0, 1) := dk_42 (dk_at dksX5_byLinear_0 12 rfl rfl)
theorem dX5_byLinear_13 : decode cX5_byLinear 13 = .ok (.getfield 47, 3) := dk_180 0 47 (dk_at dksX5_byLinear_0 13 rfl rfl)
theorem dX5_byLinear_16 : decode cX5_byLinear 16 = .ok (.bipush 8, 2) := dk_16 8 (dk_at dksX5_byLinear_0 16 rfl rfl)
theorem dX5_byLinear_18 : decode cX5_byLinear 18 = .ok (.iload_n 1, 1) := dk_27 (dk_at dksX5_byLinear_0 18 rfl rfl)
theorem dX5_byLinear_19 : decode cX5_byLinear 19 = .ok (.imul, 1) := dk_104 (dk_at dksX5_byLinear_0 19 rfl rfl)
theorem dX5_byLinear_20 : decode cX5_byLinear 20 = .ok (.iload_n 2, 1) := dk_28 (dk_at dksX5_byLinear_0 20 rfl rfl)
theorem dX5_byLinear_21 : decode cX5_byLinear 21 = .ok (.iadd, 1) := dk_96 (dk_at dksX5_byLinear_0 21 rfl rfl)
theorem dX5_byLinear_22 : decode cX5_byLinear 22 = .ok (.iaload, 1) := dk_46 (dk_at dksX5_byLinear_0 22 rfl rfl)
theorem dX5_byLinear_23 : decode cX5_byLinear 23 = .ok (.istore_n 3, 1) := dk_62 (dk_at dksX5_byLinear_0 23 rfl rfl)
theorem dX5_byLinear_24 : decode cX5_byLinear 24 = .ok (.iconst 0, 1) := dk_3 (dk_at dksX5_byLinear_1 0 rfl rfl)
theorem dX5_byLinear_25 : decode cX5_byLinear 25 = .ok (.istore 4, 2) := dk_54 4 (dk_at dksX5_byLinear_1 1 rfl rfl)
theorem dX5_byLinear_27 : decode cX5_byLinear 27 = .ok (.iload 4, 2) := dk_21 4 (dk_at dksX5_byLinear_1 3 rfl rfl)
theorem dX5_byLinear_29 : decode cX5_byLinear 29 = .ok (.bipush 16, 2) := dk_16 16 (dk_at dksX5_byLinear_1 5 rfl rfl)
theorem dX5_byLinear_31 : decode cX5_byLinear 31 = .ok (.if_icmp .ge 51, 3) := dk_162 0 51 (dk_at dksX5_byLinear_1 7 rfl rfl)
theorem dX5_byLinear_34 : decode cX5_byLinear 34 = .ok (.aload_n 0, 1) := dk_42 (dk_at dksX5_byLinear_1 10 rfl rfl)
theorem dX5_byLinear_35 : decode cX5_byLinear 35 = .ok (.getfield 7, 3) := dk_180 0 7 (dk_at dksX5_byLinear_1 11 rfl rfl)
theorem dX5_byLinear_38 : decode cX5_byLinear 38 = .ok (.iload_n 3, 1) := dk_29 (dk_at dksX5_byLinear_1 14 rfl rfl)
theorem dX5_byLinear_39 : decode cX5_byLinear 39 = .ok (.iaload, 1) := dk_46 (dk_at dksX5_byLinear_1 15 rfl rfl)
theorem dX5_byLinear_40 : decode cX5_byLinear 40 = .ok (.ifCond .ne 42, 3) := dk_154 0 42 (dk_at dksX5_byLinear_1 16 rfl rfl)
theorem dX5_byLinear_43 : decode cX5_byLinear 43 = .ok (.aload_n 0, 1) := dk_42 (dk_at dksX5_byLinear_1 19 rfl rfl)
theorem dX5_byLinear_44 : decode cX5_byLinear 44 = .ok (.getfield 90, 3) := dk_180 0 90 (dk_at dksX5_byLinear_1 20 rfl rfl)
theorem dX5_byLinear_47 : decode cX5_byLinear 47 = .ok (.iload_n 3, 1) := dk_29 (dk_at dksX5_byLinear_1 23 rfl rfl)
theorem dX5_byLinear_48 : decode cX5_byLinear 48 = .ok (.iaload, 1) := dk_46 (dk_at dksX5_byLinear_2 0 rfl rfl)
theorem dX5_byLinear_49 : decode cX5_byLinear 49 = .ok (.iload 4, 2) := dk_21 4 (dk_at dksX5_byLinear_2 1 rfl rfl)
theorem dX5_byLinear_51 : decode cX5_byLinear 51 = .ok (.invokestatic 213, 3) := dk_184 0 213 (dk_at dksX5_byLinear_2 3 rfl rfl)
theorem dX5_byLinear_54 : decode cX5_byLinear 54 = .ok (.ifCond .eq 22, 3) := dk_153 0 22 (dk_at dksX5_byLinear_2 6 rfl rfl)
theorem dX5_byLinear_57 : decode cX5_byLinear 57 = .ok (.aload_n 0, 1) := dk_42 (dk_at dksX5_byLinear_2 9 rfl rfl)
theorem dX5_byLinear_58 : decode cX5_byLinear 58 = .ok (.iload_n 1, 1) := dk_27 (dk_at dksX5_byLinear_2 10 rfl rfl)
theorem dX5_byLinear_59 : decode cX5_byLinear 59 = .ok (.iload_n 2, 1) := dk_28 (dk_at dksX5_byLinear_2 11 rfl rfl)
theorem dX5_byLinear_60 : decode cX5_byLinear 60 = .ok (.iload 4, 2) := dk_21 4 (dk_at dksX5_byLinear_2 12 rfl rfl)
theorem dX5_byLinear_62 : decode cX5_byLinear 62 = .ok (.invokevirtual 217, 3) := dk_182 0 217 (dk_at dksX5_byLinear_2 14 rfl rfl)
theorem dX5_byLinear_65 : decode cX5_byLinear 65 = .ok (.ifCond .eq 11, 3) := dk_153 0 11 (dk_at dksX5_byLinear_2 17 rfl rfl)
theorem dX5_byLinear_68 : decode cX5_byLinear 68 = .ok (.aload_n 0, 1) := dk_42 (dk_at dksX5_byLinear_2 20 rfl rfl)
theorem dX5_byLinear_69 : decode cX5_byLinear 69 = .ok (.iload_n 1, 1) := dk_27 (dk_at dksX5_byLinear_2 21 rfl rfl)
theorem dX5_byLinear_70 : decode cX5_byLinear 70 = .ok (.iload_n 2, 1) := dk_28 (dk_at dksX5_byLinear_2 22 rfl rfl)
theorem dX5_byLinear_71 : decode cX5_byLinear 71 = .ok (.iload 4, 2) := dk_21 4 (dk_at dksX5_byLinear_3 0 rfl rfl)
theorem dX5_byLinear_73 : decode cX5_byLinear 73 = .ok (.invokevirtual 220, 3) := dk_182 0 220 (dk_at dksX5_byLinear_3 2 rfl rfl)
theorem dX5_byLinear_76 : decode cX5_byLinear 76 = .ok (.iinc 4 1, 3) := dk_132 4 1 (dk_at dksX5_byLinear_3 5 rfl rfl)
theorem dX5_byLinear_79 : decode cX5_byLinear 79 = .ok (.goto (-52), 3) := dk_167 255 204 (dk_at dksX5_byLinear_3 8 rfl rfl)
theorem dX5_byLinear_82 : decode cX5_byLinear 82 = .ok (.iinc 2 1, 3) := dk_132 2 1 (dk_at dksX5_byLinear_3 11 rfl rfl)
theorem dX5_byLinear_85 : decode cX5_byLinear 85 = .ok (.goto (-83), 3) := dk_167 255 173 (dk_at dksX5_byLinear_3 14 rfl rfl)
theorem dX5_byLinear_88 : decode cX5_byLinear 88 = .ok (.return_, 1) := dk_177 (dk_at dksX5_byLinear_3 17 rfl rfl)
def dkwX5_hasBit_1 : List UInt8 := [172]
abbrev dktX5_hasBit_1 : List UInt8 := dkwX5_hasBit_1 ++ []
def dkwX5_hasBit_0 : List UInt8 := [27, 155, 0, 22, 27, 16, 32, 162, 0, 16, 26, 27, 124, 4, 126, 4, 160, 0, 7, 4, 167, 0, 4, 3]
abbrev dktX5_hasBit_0 : List UInt8 := dkwX5_hasBit_0 ++ dktX5_hasBit_1
theorem dksX5_hasBit_0 : cX5_hasBit.data.toList.drop 0 = dktX5_hasBit_0 := by decide +kernel
theorem dksX5_hasBit_1 : cX5_hasBit.data.toList.drop 24 = dktX5_hasBit_1 := dk_seg dksX5_hasBit_0 24 rfl rfl
theorem dX5_hasBit_0 : decode cX5_hasBit 0 = .ok (.iload_n 1, 1) := dk_27 (dk_at dksX5_hasBit_0 0 rfl rfl)
theorem dX5_hasBit_1 : decode cX5_hasBit 1 = .ok (.ifCond .lt 22, 3) := dk_155 0 22 (dk_at dksX5_hasBit_0 1 rfl rfl)
theorem dX5_hasBit_4 : decode cX5_hasBit 4 = .ok (.iload_n 1, 1) := dk_27 (dk_at dksX5_hasBit_0 4 rfl rfl)
theorem dX5_hasBit_5 : decode cX5_hasBit 5 = .ok (.bipush 32, 2) := dk_16 32 (dk_at dksX5_hasBit_0 5 rfl rfl)
theorem dX5_hasBit_7 : decode cX5_hasBit 7 = .ok (.if_icmp .ge 16, 3) := dk_162 0 16 (dk_at dksX5_hasBit_0 7 rfl rfl)
theorem dX5_hasBit_10 : decode cX5_hasBit 10 = .ok (.iload_n 0, 1) := dk_26 (dk_at dksX5_hasBit_0 10 rfl rfl)
theorem dX5_hasBit_11 : decode cX5_hasBit 11 = .ok (.iload_n 1, 1) := dk_27 (dk_at dksX5_hasBit_0 11 rfl rfl)
theorem dX5_hasBit_12 : decode cX5_hasBit 12 = .ok (.iushr, 1) := dk_124 (dk_at dksX5_hasBit_0 12 rfl rfl)
theorem dX5_hasBit_13 : decode cX5_hasBit 13 = .ok (.iconst 1, 1) := dk_4 (dk_at dksX5_hasBit_0 13 rfl rfl)
theorem dX5_hasBit_14 : decode cX5_hasBit 14 = .ok (.iand, 1) := dk_126 (dk_at dksX5_hasBit_0 14 rfl rfl)
theorem dX5_hasBit_15 : decode cX5_hasBit 15 = .ok (.iconst 1, 1) := dk_4 (dk_at dksX5_hasBit_0 15 rfl rfl)
theorem dX5_hasBit_16 : decode cX5_hasBit 16 = .ok (.if_icmp .ne 7, 3) := dk_160 0 7 (dk_at dksX5_hasBit_0 16 rfl rfl)
theorem dX5_hasBit_19 : decode cX5_hasBit 19 = .ok (.iconst 1, 1) := dk_4 (dk_at dksX5_hasBit_0 19 rfl rfl)
theorem dX5_hasBit_20 : decode cX5_hasBit 20 = .ok (.goto 4, 3) := dk_167 0 4 (dk_at dksX5_hasBit_0 20 rfl rfl)
theorem dX5_hasBit_23 : decode cX5_hasBit 23 = .ok (.iconst 0, 1) := dk_3 (dk_at dksX5_hasBit_0 23 rfl rfl)
theorem dX5_hasBit_24 : decode cX5_hasBit 24 = .ok (.ireturn, 1) := dk_172 (dk_at dksX5_hasBit_1 0 rfl rfl)
def dkwX5_linearAgrees_6 : List UInt8 := [167, 0, 4, 3, 172]
abbrev dktX5_linearAgrees_6 : List UInt8 := dkwX5_linearAgrees_6 ++ []
def dkwX5_linearAgrees_5 : List UInt8 := [180, 0, 62, 16, 6, 27, 104, 51, 153, 0, 14, 42, 180, 0, 53, 27, 46, 21, 6, 163, 0, 7, 4]
abbrev dktX5_linearAgrees_5 : List UInt8 := dkwX5_linearAgrees_5 ++ dktX5_linearAgrees_6
def dkwX5_linearAgrees_4 : List UInt8 := [182, 0, 209, 96, 54, 6, 132, 7, 1, 167, 255, 196, 21, 5, 42, 180, 0, 53, 27, 46, 163, 0, 30, 42]
abbrev dktX5_linearAgrees_4 : List UInt8 := dkwX5_linearAgrees_4 ++ dktX5_linearAgrees_5
def dkwX5_linearAgrees_3 : List UInt8 := [3, 182, 0, 209, 96, 54, 5, 21, 6, 21, 7, 28, 160, 0, 7, 3, 167, 0, 11, 42, 27, 21, 7, 4]
abbrev dktX5_linearAgrees_3 : List UInt8 := dkwX5_linearAgrees_3 ++ dktX5_linearAgrees_4
def dkwX5_linearAgrees_2 : List UInt8 := [180, 0, 44, 27, 46, 162, 0, 55, 21, 5, 21, 7, 28, 160, 0, 7, 3, 167, 0, 11, 42, 27, 21, 7]
abbrev dktX5_linearAgrees_2 : List UInt8 := dkwX5_linearAgrees_2 ++ dktX5_linearAgrees_3
def dkwX5_linearAgrees_1 : List UInt8 := [182, 0, 202, 104, 29, 104, 54, 4, 21, 4, 54, 5, 21, 4, 54, 6, 3, 54, 7, 21, 7, 42]
abbrev dktX5_linearAgrees_1 : List UInt8 := dkwX5_linearAgrees_1 ++ dktX5_linearAgrees_2
def dkwX5_linearAgrees_0 : List UInt8 := [42, 180, 0, 50, 16, 6, 27, 104, 28, 96, 46, 42, 42, 180, 0, 47, 16, 8, 27, 104, 28, 96, 46]
abbrev dktX5_linearAgrees_0 : List UInt8 := dkwX5_linearAgrees_0 ++ dktX5_linearAgrees_1
theorem dksX5_linearAgrees_0 : cX5_linearAgrees.data.toList.drop 0 = dktX5_linearAgrees_0 := by decide +kernel
theorem dksX5_linearAgrees_1 : cX5_linearAgrees.data.toList.drop 23 = dktX5_linearAgrees_1 := dk_seg dksX5_linearAgrees_0 23 rfl rfl
theorem dksX5_linearAgrees_2 : cX5_linearAgrees.data.toList.drop 45 = dktX5_linearAgrees_2 := dk_seg dksX5_linearAgrees_1 22 rfl rfl
theorem dksX5_linearAgrees_3 : cX5_linearAgrees.data.toList.drop 69 = dktX5_linearAgrees_3 := dk_seg dksX5_linearAgrees_2 24 rfl rfl
theorem dksX5_linearAgrees_4 : cX5_linearAgrees.data.toList.drop 93 = dktX5_linearAgrees_4 := dk_seg dksX5_linearAgrees_3 24 rfl rfl
theorem dksX5_linearAgrees_5 : cX5_linearAgrees.data.toList.drop 117 = dktX5_linearAgrees_5 := dk_seg dksX5_linearAgrees_4 24 rfl rfl
theorem dksX5_linearAgrees_6 : cX5_linearAgrees.data.toList.drop 140 = dktX5_linearAgrees_6 := dk_seg dksX5_linearAgrees_5 23 rfl rfl
theorem dX5_linearAgrees_0 : decode cX5_linearAgrees 0 = .ok (.aload_n 0, 1) := dk_42 (dk_at dksX5_linearAgrees_0 0 rfl rfl)
theorem dX5_linearAgrees_1 : decode cX5_linearAgrees 1 = .ok (.getfield 50, 3) := dk_180 0 50 (dk_at dksX5_linearAgrees_0 1 rfl rfl)
theorem dX5_linearAgrees_4 : decode cX5_linearAgrees 4 = .ok (.bipush 6, 2) := dk_16 6 (dk_at dksX5_linearAgrees_0 4 rfl rfl)
theorem dX5_linearAgrees_6 : decode cX5_linearAgrees 6 = .ok (.iload_n 1, 1) := dk_27 (dk_at dksX5_linearAgrees_0 6 rfl rfl)
theorem dX5_linearAgrees_7 : decode cX5_linearAgrees 7 = .ok (.imul, 1) := dk_104 (dk_at dksX5_linearAgrees_0 7 rfl rfl)
theorem dX5_linearAgrees_8 : decode cX5_linearAgrees 8 = .ok (.iload_n 2, 1) := dk_28 (dk_at dksX5_linearAgrees_0 8 rfl rfl)
theorem dX5_linearAgrees_9 : decode cX5_linearAgrees 9 = .ok (.iadd, 1) := dk_96 (dk_at dksX5_linearAgrees_0 9 rfl rfl)
theorem dX5_linearAgrees_10 : decode cX5_linearAgrees 10 = .ok (.iaload, 1) := dk_46 (dk_at dksX5_linearAgrees_0 10 rfl rfl)
theorem dX5_linearAgrees_11 : decode cX5_linearAgrees 11 = .ok (.aload_n 0, 1) := dk_42 (dk_at dksX5_linearAgrees_0 11 rfl rfl)
theorem dX5_linearAgrees_12 : decode cX5_linearAgrees 12 = .ok (.aload_n 0, 1) := dk_42 (dk_at dksX5_linearAgrees_0 12 rfl rfl)
theorem dX5_linearAgrees_13 : decode cX5_linearAgrees 13 = .ok (.getfield 47, 3) := dk_180 0 47 (dk_at dksX5_linearAgrees_0 13 rfl rfl)
theorem dX5_linearAgrees_16 : decode cX5_linearAgrees 16 = .ok (.bipush 8, 2) := dk_16 8 (dk_at dksX5_linearAgrees_0 16 rfl rfl)
theorem dX5_linearAgrees_18 : decode cX5_linearAgrees 18 = .ok (.iload_n 1, 1) := dk_27 (dk_at dksX5_linearAgrees_0 18 rfl rfl)
theorem dX5_linearAgrees_19 : decode cX5_linearAgrees 19 = .ok (.imul, 1) := dk_104 (dk_at dksX5_linearAgrees_0 19 rfl rfl)
theorem dX5_linearAgrees_20 : decode cX5_linearAgrees 20 = .ok (.iload_n 2, 1) := dk_28 (dk_at dksX5_linearAgrees_0 20 rfl rfl)
theorem dX5_linearAgrees_21 : decode cX5_linearAgrees 21 = .ok (.iadd, 1) := dk_96 (dk_at dksX5_linearAgrees_0 21 rfl rfl)
theorem dX5_linearAgrees_22 : decode cX5_linearAgrees 22 = .ok (.iaload, 1) := dk_46 (dk_at dksX5_linearAgrees_0 22 rfl rfl)
theorem dX5_linearAgrees_23 : decode cX5_linearAgrees 23 = .ok (.invokevirtual 202, 3) := dk_182 0 202 (dk_at dksX5_linearAgrees_1 0 rfl rfl)
theorem dX5_linearAgrees_26 : decode cX5_linearAgrees 26 = .ok (.imul, 1) := dk_104 (dk_at dksX5_linearAgrees_1 3 rfl rfl)
theorem dX5_linearAgrees_27 : decode cX5_linearAgrees 27 = .ok (.iload_n 3, 1) := dk_29 (dk_at dksX5_linearAgrees_1 4 rfl rfl)
theorem dX5_linearAgrees_28 : decode cX5_linearAgrees 28 = .ok (.imul, 1) := dk_104 (dk_at dksX5_linearAgrees_1 5 rfl rfl)
theorem dX5_linearAgrees_29 : decode cX5_linearAgrees 29 = .ok (.istore 4, 2) := dk_54 4 (dk_at dksX5_linearAgrees_1 6 rfl rfl)
theorem dX5_linearAgrees_31 : decode cX5_linearAgrees 31 = .ok (.iload 4, 2) := dk_21 4 (dk_at dksX5_linearAgrees_1 8 rfl rfl)
theorem dX5_linearAgrees_33 : decode cX5_linearAgrees 33 = .ok (.istore 5, 2) := dk_54 5 (dk_at dksX5_linearAgrees_1 10 rfl rfl)
theorem dX5_linearAgrees_35 : decode cX5_linearAgrees 35 = .ok (.iload 4, 2) := dk_21 4 (dk_at dksX5_linearAgrees_1 12 rfl rfl)
theorem dX5_linearAgrees_37 : decode cX5_linearAgrees 37 = .ok (.istore 6, 2) := dk_54 6 (dk_at dksX5_linearAgrees_1 14 rfl rfl)
theorem dX5_linearAgrees_39 : decode cX5_linearAgrees 39 = .ok (.iconst 0, 1) := dk_3 (dk_at dksX5_linearAgrees_1 16 rfl rfl)
theorem dX5_linearAgrees_40 : decode cX5_linearAgrees 40 = .ok (.istore 7, 2) := dk_54 7 (dk_at dksX5_linearAgrees_1 17 rfl rfl)
theorem dX5_linearAgrees_42 : decode cX5_linearAgrees 42 = .ok (.iload 7, 2) := dk_21 7 (dk_at dksX5_linearAgrees_1 19 rfl rfl)
theorem dX5_linearAgrees_44 : decode cX5_linearAgrees 44 = .ok (.aload_n 0, 1) := dk_42 (dk_at dksX5_linearAgrees_1 21 rfl rfl)
theorem dX5_linearAgrees_45 : decode cX5_linearAgrees 45 = .ok (.getfield 44, 3) := dk_180 0 44 (dk_at dksX5_linearAgrees_2 0 rfl rfl)
theorem dX5_linearAgrees_48 : decode cX5_linearAgrees 48 = .ok (.iload_n 1, 1) := dk_27 (dk_at dksX5_linearAgrees_2 3 rfl rfl)
theorem dX5_linearAgrees_49 : decode cX5_linearAgrees 49 = .ok (.iaload, 1) := dk_46 (dk_at dksX5_linearAgrees_2 4 rfl rfl)
theorem dX5_linearAgrees_50 : decode cX5_linearAgrees 50 = .ok (.if_icmp .ge 55, 3) := dk_162 0 55 (dk_at dksX5_linearAgrees_2 5 rfl rfl)
theorem dX5_linearAgrees_53 : decode cX5_linearAgrees 53 = .ok (.iload 5, 2) := dk_21 5 (dk_at dksX5_linearAgrees_2 8 rfl rfl)
theorem dX5_linearAgrees_55 : decode cX5_linearAgrees 55 = .ok (.iload 7, 2) := dk_21 7 (dk_at dksX5_linearAgrees_2 10 rfl rfl)
theorem dX5_linearAgrees_57 : decode cX5_linearAgrees 57 = .ok (.iload_n 2, 1) := dk_28 (dk_at dksX5_linearAgrees_2 12 rfl rfl)
theorem dX5_linearAgrees_58 : decode cX5_linearAgrees 58 = .ok (.if_icmp .ne 7, 3) := dk_160 0 7 (dk_at dksX5_linearAgrees_2 13 rfl rfl)
theorem dX5_linearAgrees_61 : decode cX5_linearAgrees 61 = .ok (.iconst 0, 1) := dk_3 (dk_at dksX5_linearAgrees_2 16 rfl rfl)
theorem dX5_linearAgrees_62 : decode cX5_linearAgrees 62 = .ok (.goto 11, 3) := dk_167 0 11 (dk_at dksX5_linearAgrees_2 17 rfl rfl)
theorem dX5_linearAgrees_65 : decode cX5_linearAgrees 65 = .ok (.aload_n 0, 1) := dk_42 (dk_at dksX5_linearAgrees_2 20 rfl rfl)
theorem dX5_linearAgrees_66 : decode cX5_linearAgrees 66 = .ok (.iload_n 1, 1) := dk_27 (dk_at dksX5_linearAgrees_2 21 rfl rfl)
theorem dX5_linearAgrees_67 : decode cX5_linearAgrees 67 = .ok (.iload 7, 2) := dk_21 7 (dk_at dksX5_linearAgrees_2 22 rfl rfl)
theorem dX5_linearAgrees_69 : decode cX5_linearAgrees 69 = .ok (.iconst 0, 1) := dk_3 (dk_at dksX5_linearAgrees_3 0 rfl rfl)
theorem dX5_linearAgrees_70 : decode cX5_linearAgrees 70 = .ok (.invokevirtual 209, 3) := dk_182 0 209 (dk_at dksX5_linearAgrees_3 1 rfl rfl)
theorem dX5_linearAgrees_73 : decode cX5_linearAgrees 73 = .ok (.iadd, 1) := dk_96 (dk_at dksX5_linearAgrees_3 4 rfl rfl)
theorem dX5_linearAgrees_74 : decode cX5_linearAgrees 74 = .ok (.istore 5, 2) := dk_54 5 (dk_at dksX5_linearAgrees_3 5 rfl rfl)
theorem dX5_linearAgrees_76 : decode cX5_linearAgrees 76 = .ok (.iload 6, 2) := dk_21 6 (dk_at dksX5_linearAgrees_3 7 rfl rfl)
theorem dX5_linearAgrees_78 : decode cX5_linearAgrees 78 = .ok (.iload 7, 2) := dk_21 7 (dk_at dksX5_linearAgrees_3 9 rfl rfl)
theorem dX5_linearAgrees_80 : decode cX5_linearAgrees 80 = .ok (.iload_n 2, 1) := dk_28 (dk_at dksX5_linearAgrees_3 11 rfl rfl)
theorem dX5_linearAgrees_81 : decode cX5_linearAgrees 81 = .ok (.if_icmp .ne 7, 3) := dk_160 0 7 (dk_at dksX5_linearAgrees_3 12 rfl rfl)
theorem dX5_linearAgrees_84 : decode cX5_linearAgrees 84 = .ok (.iconst 0, 1) := dk_3 (dk_at dksX5_linearAgrees_3 15 rfl rfl)
theorem dX5_linearAgrees_85 : decode cX5_linearAgrees 85 = .ok (.goto 11, 3) := dk_167 0 11 (dk_at dksX5_linearAgrees_3 16 rfl rfl)
theorem dX5_linearAgrees_88 : decode cX5_linearAgrees 88 = .ok (.aload_n 0, 1) := dk_42 (dk_at dksX5_linearAgrees_3 19 rfl rfl)
theorem dX5_linearAgrees_89 : decode cX5_linearAgrees 89 = .ok (.iload_n 1, 1) := dk_27 (dk_at dksX5_linearAgrees_3 20 rfl rfl)
theorem dX5_linearAgrees_90 : decode cX5_linearAgrees 90 = .ok (.iload 7, 2) := dk_21 7 (dk_at dksX5_linearAgrees_3 21 rfl rfl)
theorem dX5_linearAgrees_92 : decode cX5_linearAgrees 92 = .ok (.iconst 1, 1) := dk_4 (dk_at dksX5_linearAgrees_3 23 rfl rfl)
theorem dX5_linearAgrees_93 : decode cX5_linearAgrees 93 = .ok (.invokevirtual 209, 3) := dk_182 0 209 (dk_at dksX5_linearAgrees_4 0 rfl rfl)
theorem dX5_linearAgrees_96 : decode cX5_linearAgrees 96 = .ok (.iadd, 1) := dk_96 (dk_at dksX5_linearAgrees_4 3 rfl rfl)
theorem dX5_linearAgrees_97 : decode cX5_linearAgrees 97 = .ok (.istore 6, 2) := dk_54 6 (dk_at dksX5_linearAgrees_4 4 rfl rfl)
theorem dX5_linearAgrees_99 : decode cX5_linearAgrees 99 = .ok (.iinc 7 1, 3) := dk_132 7 1 (dk_at dksX5_linearAgrees_4 6 rfl rfl)
theorem dX5_linearAgrees_102 : decode cX5_linearAgrees 102 = .ok (.goto (-60), 3) := dk_167 255 196 (dk_at dksX5_linearAgrees_4 9 rfl rfl)
theorem dX5_linearAgrees_105 : decode cX5_linearAgrees 105 = .ok (.iload 5, 2) := dk_21 5 (dk_at dksX5_linearAgrees_4 12 rfl rfl)
theorem dX5_linearAgrees_107 : decode cX5_linearAgrees 107 = .ok (.aload_n 0, 1) := dk_42 (dk_at dksX5_linearAgrees_4 14 rfl rfl)
theorem dX5_linearAgrees_108 : decode cX5_linearAgrees 108 = .ok (.getfield 53, 3) := dk_180 0 53 (dk_at dksX5_linearAgrees_4 15 rfl rfl)
theorem dX5_linearAgrees_111 : decode cX5_linearAgrees 111 = .ok (.iload_n 1, 1) := dk_27 (dk_at dksX5_linearAgrees_4 18 rfl rfl)
theorem dX5_linearAgrees_112 : decode cX5_linearAgrees 112 = .ok (.iaload, 1) := dk_46 (dk_at dksX5_linearAgrees_4 19 rfl rfl)
theorem dX5_linearAgrees_113 : decode cX5_linearAgrees 113 = .ok (.if_icmp .gt 30, 3) := dk_163 0 30 (dk_at dksX5_linearAgrees_4 20 rfl rfl)
theorem dX5_linearAgrees_116 : decode cX5_linearAgrees 116 = .ok (.aload_n 0, 1) := dk_42 (dk_at dksX5_linearAgrees_4 23 rfl rfl)
theorem dX5_linearAgrees_117 : decode cX5_linearAgrees 117 = .ok (.getfield 62, 3) := dk_180 0 62 (dk_at dksX5_linearAgrees_5 0 rfl rfl)
theorem dX5_linearAgrees_120 : decode cX5_linearAgrees 120 = .ok (.bipush 6, 2) := dk_16 6 (dk_at dksX5_linearAgrees_5 3 rfl rfl)
theorem dX5_linearAgrees_122 : decode cX5_linearAgrees 122 = .ok (.iload_n 1, 1) := dk_27 (dk_at dksX5_linearAgrees_5 5 rfl rfl)
theorem dX5_linearAgrees_123 : decode cX5_linearAgrees 123 = .ok (.imul, 1) := dk_104 (dk_at dksX5_linearAgrees_5 6 rfl rfl)
theorem dX5_linearAgrees_124 : decode cX5_linearAgrees 124 = .ok (.baload, 1) := dk_51 (dk_at dksX5_linearAgrees_5 7 rfl rfl)
theorem dX5_linearAgrees_125 : decode cX5_linearAgrees 125 = .ok (.ifCond .eq 14, 3) := dk_153 0 14 (dk_at dksX5_linearAgrees_5 8 rfl rfl)
theorem dX5_linearAgrees_128 : decode cX5_linearAgrees 128 = .ok (.aload_n 0, 1) := dk_42 (dk_at dksX5_linearAgrees_5 11 rfl rfl)
theorem dX5_linearAgrees_129 : decode cX5_linearAgrees 129 = .ok (.getfield 53, 3) := dk_180 0 53 (dk_at dksX5_linearAgrees_5 12 rfl rfl)
theorem dX5_linearAgrees_132 : decode cX5_linearAgrees 132 = .ok (.iload_n 1, 1) := dk_27 (dk_at dksX5_linearAgrees_5 15 rfl rfl)
theorem dX5_linearAgrees_133 : decode cX5_linearAgrees 133 = .ok (.iaload, 1) := dk_46 (dk_at dksX5_linearAgrees_5 16 rfl rfl)
theorem dX5_linearAgrees_134 : decode cX5_linearAgrees 134 = .ok (.iload 6, 2) := dk_21 6 (dk_at dksX5_linearAgrees_5 17 rfl rfl)
theorem dX5_linearAgrees_136 : decode cX5_linearAgrees 136 = .ok (.if_icmp .gt 7, 3) := dk_163 0 7 (dk_at dksX5_linearAgrees_5 19 rfl rfl)
theorem dX5_linearAgrees_139 : decode cX5_linearAgrees 139 = .ok (.iconst 1, 1) := dk_4 (dk_at dksX5_linearAgrees_5 22 rfl rfl)
theorem dX5_linearAgrees_140 : decode cX5_linearAgrees 140 = .ok (.goto 4, 3) := dk_167 0 4 (dk_at dksX5_linearAgrees_6 0 rfl rfl)
theorem dX5_linearAgrees_143 : decode cX5_linearAgrees 143 = .ok (.iconst 0, 1) := dk_3 (dk_at dksX5_linearAgrees_6 3 rfl rfl)
theorem dX5_linearAgrees_144 : decode cX5_linearAgrees 144 = .ok (.ireturn, 1) := dk_172 (dk_at dksX5_linearAgrees_6 4 rfl rfl)
def dkwX5_unit_0 : List UInt8 := [42, 180, 0, 7, 27, 46, 6, 160, 0, 7, 4, 167, 0, 5, 16, 12, 172]
abbrev dktX5_unit_0 : List UInt8 := dkwX5_unit_0 ++ []
theorem dksX5_unit_0 : cX5_unit.data.toList.drop 0 = dktX5_unit_0 := by decide +kernel
theorem dX5_unit_0 : decode cX5_unit 0 = .ok (.aload_n 0, 1) := dk_42 (dk_at dksX5_unit_0 0 rfl rfl)
theorem dX5_unit_1 : decode cX5_unit 1 = .ok (.getfield 7, 3) := dk_180 0 7 (dk_at dksX5_unit_0 1 rfl rfl)
theorem dX5_unit_4 : decode cX5_unit 4 = .ok (.iload_n 1, 1) := dk_27 (dk_at dksX5_unit_0 4 rfl rfl)
theorem dX5_unit_5 : decode cX5_unit 5 = .ok (.iaload, 1) := dk_46 (dk_at dksX5_unit_0 5 rfl rfl)
theorem dX5_unit_6 : decode cX5_unit 6 = .ok (.iconst 3, 1) := dk_6 (dk_at dksX5_unit_0 6 rfl rfl)
theorem dX5_unit_7 : decode cX5_unit 7 = .ok (.if_icmp .ne 7, 3) := dk_160 0 7 (dk_at dksX5_unit_0 7 rfl rfl)
theorem dX5_unit_10 : decode cX5_unit 10 = .ok (.iconst 1, 1) := dk_4 (dk_at dksX5_unit_0 10 rfl rfl)
theorem dX5_unit_11 : decode cX5_unit 11 = .ok (.goto 5, 3) := dk_167 0 5 (dk_at dksX5_unit_0 11 rfl rfl)
theorem dX5_unit_14 : decode cX5_unit 14 = .ok (.bipush 12, 2) := dk_16 12 (dk_at dksX5_unit_0 14 rfl rfl)
theorem dX5_unit_16 : decode cX5_unit 16 = .ok (.ireturn, 1) := dk_172 (dk_at dksX5_unit_0 16 rfl rfl)
def dkwX5_most_2 : List UInt8 := [29, 160, 0, 7, 4, 167, 0, 4, 3, 182, 0, 205, 104, 172]
abbrev dktX5_most_2 : List UInt8 := dkwX5_most_2 ++ []
def dkwX5_most_1 : List UInt8 := [42, 21, 4, 182, 0, 202, 104, 54, 5, 21, 5, 42, 21, 4, 21, 5, 158, 0, 7, 4, 167, 0, 4, 3]
abbrev dktX5_most_1 : List UInt8 := dkwX5_most_1 ++ dktX5_most_2
def dkwX5_most_0 : List UInt8 := [42, 180, 0, 47, 16, 8, 27, 104, 28, 96, 46, 54, 4, 42, 180, 0, 50, 16, 6, 27, 104, 28, 96, 46]
abbrev dktX5_most_0 : List UInt8 := dkwX5_most_0 ++ dktX5_most_1
theorem dksX5_most_0 : cX5_most.data.toList.drop 0 = dktX5_most_0 := by decide +kernel
theorem dksX5_most_1 : cX5_most.data.toList.drop 24 = dktX5_most_1 := dk_seg dksX5_most_0 24 rfl rfl
theorem dksX5_most_2 : cX5_most.data.toList.drop 48 = dktX5_most_2 := dk_seg dksX5_most_1 24 rfl rfl
theorem dX5_most_0 : decode cX5_most 0 = .ok (.aload_n 0, 1) := dk_42 (dk_at dksX5_most_0 0 rfl rfl)
theorem dX5_most_1 : decode cX5_most 1 = .ok (.getfield 47, 3) := dk_180 0 47 (dk_at dksX5_most_0 1 rfl rfl)
theorem dX5_most_4 : decode cX5_most 4 = .ok (.bipush 8, 2) := dk_16 8 (dk_at dksX5_most_0 4 rfl rfl)
theorem dX5_most_6 : decode cX5_most 6 = .ok (.iload_n 1, 1) := dk_27 (dk_at dksX5_most_0 6 rfl rfl)
theorem dX5_most_7 : decode cX5_most 7 = .ok (.imul, 1) := dk_104 (dk_at dksX5_most_0 7 rfl rfl)
theorem dX5_most_8 : decode cX5_most 8 = .ok (.iload_n 2, 1) := dk_28 (dk_at dksX5_most_0 8 rfl rfl)
theorem dX5_most_9 : decode cX5_most 9 = .ok (.iadd, 1) := dk_96 (dk_at dksX5_most_0 9 rfl rfl)
theorem dX5_most_10 : decode cX5_most 10 = .ok (.iaload, 1) := dk_46 (dk_at dksX5_most_0 10 rfl rfl)
theorem dX5_most_11 : decode cX5_most 11 = .ok (.istore 4, 2) := dk_54 4 (dk_at dksX5_most_0 11 rfl rfl)
theorem dX5_most_13 : decode cX5_most 13 = .ok (.aload_n 0, 1) := dk_42 (dk_at dksX5_most_0 13 rfl rfl)
theorem dX5_most_14 : decode cX5_most 14 = .ok (.getfield 50, 3) := dk_180 0 50 (dk_at dksX5_most_0 14 rfl rfl)
theorem dX5_most_17 : decode cX5_most 17 = .ok (.bipush 6, 2) := dk_16 6 (dk_at dksX5_most_0 17 rfl rfl)
theorem dX5_most_19 : decode cX5_most 19 = .ok (.iload_n 1, 1) := dk_27 (dk_at dksX5_most_0 19 rfl rfl)
theorem dX5_most_20 : decode cX5_most 20 = .ok (.imul, 1) := dk_104 (dk_at dksX5_most_0 20 rfl rfl)
theorem dX5_most_21 : decode cX5_most 21 = .ok (.iload_n 2, 1) := dk_28 (dk_at dksX5_most_0 21 rfl rfl)
theorem dX5_most_22 : decode cX5_most 22 = .ok (.iadd, 1) := dk_96 (dk_at dksX5_most_0 22 rfl rfl)
theorem dX5_most_23 : decode cX5_most 23 = .ok (.iaload, 1) := dk_46 (dk_at dksX5_most_0 23 rfl rfl)
theorem dX5_most_24 : decode cX5_most 24 = .ok (.aload_n 0, 1) := dk_42 (dk_at dksX5_most_1 0 rfl rfl)
theorem dX5_most_25 : decode cX5_most 25 = .ok (.iload 4, 2) := dk_21 4 (dk_at dksX5_most_1 1 rfl rfl)
theorem dX5_most_27 : decode cX5_most 27 = .ok (.invokevirtual 202, 3) := dk_182 0 202 (dk_at dksX5_most_1 3 rfl rfl)
theorem dX5_most_30 : decode cX5_most 30 = .ok (.imul, 1) := dk_104 (dk_at dksX5_most_1 6 rfl rfl)
theorem dX5_most_31 : decode cX5_most 31 = .ok (.istore 5, 2) := dk_54 5 (dk_at dksX5_most_1 7 rfl rfl)
theorem dX5_most_33 : decode cX5_most 33 = .ok (.iload 5, 2) := dk_21 5 (dk_at dksX5_most_1 9 rfl rfl)
theorem dX5_most_35 : decode cX5_most 35 = .ok (.aload_n 0, 1) := dk_42 (dk_at dksX5_most_1 11 rfl rfl)
theorem dX5_most_36 : decode cX5_most 36 = .ok (.iload 4, 2) := dk_21 4 (dk_at dksX5_most_1 12 rfl rfl)
theorem dX5_most_38 : decode cX5_most 38 = .ok (.iload 5, 2) := dk_21 5 (dk_at dksX5_most_1 14 rfl rfl)
theorem dX5_most_40 : decode cX5_most 40 = .ok (.ifCond .le 7, 3) := dk_158 0 7 (dk_at dksX5_most_1 16 rfl rfl)
theorem dX5_most_43 : decode cX5_most 43 = .ok (.iconst 1, 1) := dk_4 (dk_at dksX5_most_1 19 rfl rfl)
theorem dX5_most_44 : decode cX5_most 44 = .ok (.goto 4, 3) := dk_167 0 4 (dk_at dksX5_most_1 20 rfl rfl)
theorem dX5_most_47 : decode cX5_most 47 = .ok (.iconst 0, 1) := dk_3 (dk_at dksX5_most_1 23 rfl rfl)
theorem dX5_most_48 : decode cX5_most 48 = .ok (.iload_n 3, 1) := dk_29 (dk_at dksX5_most_2 0 rfl rfl)
theorem dX5_most_49 : decode cX5_most 49 = .ok (.if_icmp .ne 7, 3) := dk_160 0 7 (dk_at dksX5_most_2 1 rfl rfl)
theorem dX5_most_52 : decode cX5_most 52 = .ok (.iconst 1, 1) := dk_4 (dk_at dksX5_most_2 4 rfl rfl)
theorem dX5_most_53 : decode cX5_most 53 = .ok (.goto 4, 3) := dk_167 0 4 (dk_at dksX5_most_2 5 rfl rfl)
theorem dX5_most_56 : decode cX5_most 56 = .ok (.iconst 0, 1) := dk_3 (dk_at dksX5_most_2 8 rfl rfl)
theorem dX5_most_57 : decode cX5_most 57 = .ok (.invokevirtual 205, 3) := dk_182 0 205 (dk_at dksX5_most_2 9 rfl rfl)
theorem dX5_most_60 : decode cX5_most 60 = .ok (.imul, 1) := dk_104 (dk_at dksX5_most_2 12 rfl rfl)
theorem dX5_most_61 : decode cX5_most 61 = .ok (.ireturn, 1) := dk_172 (dk_at dksX5_most_2 13 rfl rfl)
def dkwX5_end_2 : List UInt8 := [42, 180, 0, 90, 27, 46, 184, 0, 199, 172]
abbrev dktX5_end_2 : List UInt8 := dkwX5_end_2 ++ []
def dkwX5_end_1 : List UInt8 := [180, 0, 93, 27, 46, 167, 0, 28, 28, 153, 0, 15, 42, 180, 0, 90, 27, 46, 184, 0, 196, 167, 0, 12]
abbrev dktX5_end_1 : List UInt8 := dkwX5_end_1 ++ dktX5_end_2
def dkwX5_end_0 : List UInt8 := [42, 180, 0, 7, 27, 46, 6, 160, 0, 25, 28, 153, 0, 12, 42, 180, 0, 96, 27, 46, 167, 0, 37, 42]
abbrev dktX5_end_0 : List UInt8 := dkwX5_end_0 ++ dktX5_end_1
theorem dksX5_end_0 : cX5_end.data.toList.drop 0 = dktX5_end_0 := by decide +kernel
theorem dksX5_end_1 : cX5_end.data.toList.drop 24 = dktX5_end_1 := dk_seg dksX5_end_0 24 rfl rfl
theorem dksX5_end_2 : cX5_end.data.toList.drop 48 = dktX5_end_2 := dk_seg dksX5_end_1 24 rfl rfl
theorem dX5_end_0 : decode cX5_end 0 = .ok (.aload_n 0, 1) := dk_42 (dk_at dksX5_end_0 0 rfl rfl)
theorem dX5_end_1 : decode cX5_end 1 = .ok (.getfield 7, 3) := dk_180 0 7 (dk_at dksX5_end_0 1 rfl rfl)
theorem dX5_end_4 : decode cX5_end 4 = .ok (.iload_n 1, 1) := dk_27 (dk_at dksX5_end_0 4 rfl rfl)
theorem dX5_end_5 : decode cX5_end 5 = .ok (.iaload, 1) := dk_46 (dk_at dksX5_end_0 5 rfl rfl)
theorem dX5_end_6 : decode cX5_end 6 = .ok (.iconst 3, 1) := dk_6 (dk_at dksX5_end_0 6 rfl rfl)
theorem dX5_end_7 : decode cX5_end 7 = .ok (.if_icmp .ne 25, 3) := dk_160 0 25 (dk_at dksX5_end_0 7 rfl rfl)
theorem dX5_end_10 : decode cX5_end 10 = .ok (.iload_n 2, 1) := dk_28 (dk_at dksX5_end_0 10 rfl rfl)
theorem dX5_end_11 : decode cX5_end 11 = .ok (.ifCond .eq 12, 3) := dk_153 0 12 (dk_at dksX5_end_0 11 rfl rfl)
theorem dX5_end_14 : decode cX5_end 14 = .ok (.aload_n 0, 1) := dk_42 (dk_at dksX5_end_0 14 rfl rfl)
theorem dX5_end_15 : decode cX5_end 15 = .ok (.getfield 96, 3) := dk_180 0 96 (dk_at dksX5_end_0 15 rfl rfl)
theorem dX5_end_18 : decode cX5_end 18 = .ok (.iload_n 1, 1) := dk_27 (dk_at dksX5_end_0 18 rfl rfl)
theorem dX5_end_19 : decode cX5_end 19 = .ok (.iaload, 1) := dk_46 (dk_at dksX5_end_0 19 rfl rfl)
theorem dX5_end_20 : decode cX5_end 20 = .ok (.goto 37, 3) := dk_167 0 37 (dk_at dksX5_end_0 20 rfl rfl)
theorem dX5_end_23 : decode cX5_end 23 = .ok (.aload_n 0, 1) := dk_42 (dk_at dksX5_end_0 23 rfl rfl)
theorem dX5_end_24 : decode cX5_end 24 = .ok (.getfield 93, 3) := dk_180 0 93 (dk_at dksX5_end_1 0 rfl rfl)
theorem dX5_end_27 : decode cX5_end 27 = .ok (.iload_n 1, 1) := dk_27 (dk_at dksX5_end_1 3 rfl rfl)
theorem dX5_end_28 : decode cX5_end 28 = .ok (.iaload, 1) := dk_46 (dk_at dksX5_end_1 4 rfl rfl)
theorem dX5_end_29 : decode cX5_end 29 = .ok (.goto 28, 3) := dk_167 0 28 (dk_at dksX5_end_1 5 rfl rfl)
theorem dX5_end_32 : decode cX5_end 32 = .ok (.iload_n 2, 1) := dk_28 (dk_at dksX5_end_1 8 rfl rfl)
theorem dX5_end_33 : decode cX5_end 33 = .ok (.ifCond .eq 15, 3) := dk_153 0 15 (dk_at dksX5_end_1 9 rfl rfl)
theorem dX5_end_36 : decode cX5_end 36 = .ok (.aload_n 0, 1) := dk_42 (dk_at dksX5_end_1 12 rfl rfl)
theorem dX5_end_37 : decode cX5_end 37 = .ok (.getfield 90, 3) := dk_180 0 90 (dk_at dksX5_end_1 13 rfl rfl)
theorem dX5_end_40 : decode cX5_end 40 = .ok (.iload_n 1, 1) := dk_27 (dk_at dksX5_end_1 16 rfl rfl)
theorem dX5_end_41 : decode cX5_end 41 = .ok (.iaload, 1) := dk_46 (dk_at dksX5_end_1 17 rfl rfl)
theorem dX5_end_42 : decode cX5_end 42 = .ok (.invokestatic 196, 3) := dk_184 0 196 (dk_at dksX5_end_1 18 rfl rfl)
theorem dX5_end_45 : decode cX5_end 45 = .ok (.goto 12, 3) := dk_167 0 12 (dk_at dksX5_end_1 21 rfl rfl)
theorem dX5_end_48 : decode cX5_end 48 = .ok (.aload_n 0, 1) := dk_42 (dk_at dksX5_end_2 0 rfl rfl)
theorem dX5_end_49 : decode cX5_end 49 = .ok (.getfield 90, 3) := dk_180 0 90 (dk_at dksX5_end_2 1 rfl rfl)
theorem dX5_end_52 : decode cX5_end 52 = .ok (.iload_n 1, 1) := dk_27 (dk_at dksX5_end_2 4 rfl rfl)
theorem dX5_end_53 : decode cX5_end 53 = .ok (.iaload, 1) := dk_46 (dk_at dksX5_end_2 5 rfl rfl)
theorem dX5_end_54 : decode cX5_end 54 = .ok (.invokestatic 199, 3) := dk_184 0 199 (dk_at dksX5_end_2 6 rfl rfl)
theorem dX5_end_57 : decode cX5_end 57 = .ok (.ireturn, 1) := dk_172 (dk_at dksX5_end_2 9 rfl rfl)
def dkwX5_highest_0 : List UInt8 := [16, 31, 60, 27, 155, 0, 17, 26, 27, 124, 4, 126, 154, 0, 9, 132, 1, 255, 167, 255, 241, 27, 172]
abbrev dktX5_highest_0 : List UInt8 := dkwX5_highest_0 ++ []
theorem dksX5_highest_0 : cX5_highest.data.toList.drop 0 = dktX5_highest_0 := by decide +kernel
theorem dX5_highest_0 : decode cX5_highest 0 = .ok (.bipush 31, 2) := dk_16 31 (dk_at dksX5_highest_0 0 rfl rfl)
theorem dX5_highest_2 : decode cX5_highest 2 = .ok (.istore_n 1, 1) := dk_60 (dk_at dksX5_highest_0 2 rfl rfl)
theorem dX5_highest_3 : decode cX5_highest 3 = .ok (.iload_n 1, 1) := dk_27 (dk_at dksX5_highest_0 3 rfl rfl)
theorem dX5_highest_4 : decode cX5_highest 4 = .ok (.ifCond .lt 17, 3) := dk_155 0 17 (dk_at dksX5_highest_0 4 rfl rfl)
theorem dX5_highest_7 : decode cX5_highest 7 = .ok (.iload_n 0, 1) := dk_26 (dk_at dksX5_highest_0 7 rfl rfl)
theorem dX5_highest_8 : decode cX5_highest 8 = .ok (.iload_n 1, 1) := dk_27 (dk_at dksX5_highest_0 8 rfl rfl)
theorem dX5_highest_9 : decode cX5_highest 9 = .ok (.iushr, 1) := dk_124 (dk_at dksX5_highest_0 9 rfl rfl)
theorem dX5_highest_10 : decode cX5_highest 10 = .ok (.iconst 1, 1) := dk_4 (dk_at dksX5_highest_0 10 rfl rfl)
theorem dX5_highest_11 : decode cX5_highest 11 = .ok (.iand, 1) := dk_126 (dk_at dksX5_highest_0 11 rfl rfl)
theorem dX5_highest_12 : decode cX5_highest 12 = .ok (.ifCond .ne 9, 3) := dk_154 0 9 (dk_at dksX5_highest_0 12 rfl rfl)
theorem dX5_highest_15 : decode cX5_highest 15 = .ok (.iinc 1 (-1), 3) := dk_132 1 255 (dk_at dksX5_highest_0 15 rfl rfl)
theorem dX5_highest_18 : decode cX5_highest 18 = .ok (.goto (-15), 3) := dk_167 255 241 (dk_at dksX5_highest_0 18 rfl rfl)
theorem dX5_highest_21 : decode cX5_highest 21 = .ok (.iload_n 1, 1) := dk_27 (dk_at dksX5_highest_0 21 rfl rfl)
theorem dX5_highest_22 : decode cX5_highest 22 = .ok (.ireturn, 1) := dk_172 (dk_at dksX5_highest_0 22 rfl rfl)
def dkwX5_lowest_0 : List UInt8 := [3, 60, 27, 16, 32, 162, 0, 17, 26, 27, 124, 4, 126, 154, 0, 9, 132, 1, 1, 167, 255, 239, 27, 172]
abbrev dktX5_lowest_0 : List UInt8 := dkwX5_lowest_0 ++ []
theorem dksX5_lowest_0 : cX5_lowest.data.toList.drop 0 = dktX5_lowest_0 := by decide +kernel
theorem dX5_lowest_0 : decode cX5_lowest 0 = .ok (.iconst 0, 1) := dk_3 (dk_at dksX5_lowest_0 0 rfl rfl)
theorem dX5_lowest_1 : decode cX5_lowest 1 = .ok (.istore_n 1, 1) := dk_60 (dk_at dksX5_lowest_0 1 rfl rfl)
theorem dX5_lowest_2 : decode cX5_lowest 2 = .ok (.iload_n 1, 1) := dk_27 (dk_at dksX5_lowest_0 2 rfl rfl)
theorem dX5_lowest_3 : decode cX5_lowest 3 = .ok (.bipush 32, 2) := dk_16 32 (dk_at dksX5_lowest_0 3 rfl rfl)
theorem dX5_lowest_5 : decode cX5_lowest 5 = .ok (.if_icmp .ge 17, 3) := dk_162 0 17 (dk_at dksX5_lowest_0 5 rfl rfl)
theorem dX5_lowest_8 : decode cX5_lowest 8 = .ok (.iload_n 0, 1) := dk_26 (dk_at dksX5_lowest_0 8 rfl rfl)
theorem dX5_lowest_9 : decode cX5_lowest 9 = .ok (.iload_n 1, 1) := dk_27 (dk_at dksX5_lowest_0 9 rfl rfl)
theorem dX5_lowest_10 : decode cX5_lowest 10 = .ok (.iushr, 1) := dk_124 (dk_at dksX5_lowest_0 10 rfl rfl)
theorem dX5_lowest_11 : decode cX5_lowest 11 = .ok (.iconst 1, 1) := dk_4 (dk_at dksX5_lowest_0 11 rfl rfl)
theorem dX5_lowest_12 : decode cX5_lowest 12 = .ok (.iand, 1) := dk_126 (dk_at dksX5_lowest_0 12 rfl rfl)
theorem dX5_lowest_13 : decode cX5_lowest 13 = .ok (.ifCond .ne 9, 3) := dk_154 0 9 (dk_at dksX5_lowest_0 13 rfl rfl)
theorem dX5_lowest_16 : decode cX5_lowest 16 = .ok (.iinc 1 1, 3) := dk_132 1 1 (dk_at dksX5_lowest_0 16 rfl rfl)
theorem dX5_lowest_19 : decode cX5_lowest 19 = .ok (.goto (-17), 3) := dk_167 255 239 (dk_at dksX5_lowest_0 19 rfl rfl)
theorem dX5_lowest_22 : decode cX5_lowest 22 = .ok (.iload_n 1, 1) := dk_27 (dk_at dksX5_lowest_0 22 rfl rfl)
theorem dX5_lowest_23 : decode cX5_lowest 23 = .ok (.ireturn, 1) := dk_172 (dk_at dksX5_lowest_0 23 rfl rfl)
def dkwX5_supports_0 : List UInt8 := [42, 180, 0, 102, 16, 8, 27, 104, 28, 96, 92, 46, 4, 29, 120, 128, 79, 177]
abbrev dktX5_supports_0 : List UInt8 := dkwX5_supports_0 ++ []
theorem dksX5_supports_0 : cX5_supports.data.toList.drop 0 = dktX5_supports_0 := by decide +kernel
theorem dX5_supports_0 : decode cX5_supports 0 = .ok (.aload_n 0, 1) := dk_42 (dk_at dksX5_supports_0 0 rfl rfl)
theorem dX5_supports_1 : decode cX5_supports 1 = .ok (.getfield 102, 3) := dk_180 0 102 (dk_at dksX5_supports_0 1 rfl rfl)
theorem dX5_supports_4 : decode cX5_supports 4 = .ok (.bipush 8, 2) := dk_16 8 (dk_at dksX5_supports_0 4 rfl rfl)
theorem dX5_supports_6 : decode cX5_supports 6 = .ok (.iload_n 1, 1) := dk_27 (dk_at dksX5_supports_0 6 rfl rfl)
theorem dX5_supports_7 : decode cX5_supports 7 = .ok (.imul, 1) := dk_104 (dk_at dksX5_supports_0 7 rfl rfl)
theorem dX5_supports_8 : decode cX5_supports 8 = .ok (.iload_n 2, 1) := dk_28 (dk_at dksX5_supports_0 8 rfl rfl)
theorem dX5_supports_9 : decode cX5_supports 9 = .ok (.iadd, 1) := dk_96 (dk_at dksX5_supports_0 9 rfl rfl)
theorem dX5_supports_10 : decode cX5_supports 10 = .ok (.dup2, 1) := dk_92 (dk_at dksX5_supports_0 10 rfl rfl)
theorem dX5_supports_11 : decode cX5_supports 11 = .ok (.iaload, 1) := dk_46 (dk_at dksX5_supports_0 11 rfl rfl)
theorem dX5_supports_12 : decode cX5_supports 12 = .ok (.iconst 1, 1) := dk_4 (dk_at dksX5_supports_0 12 rfl rfl)
theorem dX5_supports_13 : decode cX5_supports 13 = .ok (.iload_n 3, 1) := dk_29 (dk_at dksX5_supports_0 13 rfl rfl)
theorem dX5_supports_14 : decode cX5_supports 14 = .ok (.ishl, 1) := dk_120 (dk_at dksX5_supports_0 14 rfl rfl)
theorem dX5_supports_15 : decode cX5_supports 15 = .ok (.ior, 1) := dk_128 (dk_at dksX5_supports_0 15 rfl rfl)
theorem dX5_supports_16 : decode cX5_supports 16 = .ok (.iastore, 1) := dk_79 (dk_at dksX5_supports_0 16 rfl rfl)
theorem dX5_supports_17 : decode cX5_supports 17 = .ok (.return_, 1) := dk_177 (dk_at dksX5_supports_0 17 rfl rfl)
def dkwX5_byDifferent_3 : List UInt8 := [132, 2, 1, 167, 255, 184, 177]
abbrev dktX5_byDifferent_3 : List UInt8 := dkwX5_byDifferent_3 ++ []
def dkwX5_byDifferent_2 : List UInt8 := [120, 2, 130, 126, 29, 182, 0, 230, 153, 0, 10, 42, 27, 28, 29, 182, 0, 220, 132, 3, 1, 167, 255, 202]
abbrev dktX5_byDifferent_2 : List UInt8 := dkwX5_byDifferent_2 ++ dktX5_byDifferent_3
def dkwX5_byDifferent_1 : List UInt8 := [182, 0, 224, 29, 184, 0, 213, 153, 0, 35, 42, 27, 4, 42, 180, 0, 44, 27, 46, 120, 4, 100, 4, 28]
abbrev dktX5_byDifferent_1 : List UInt8 := dkwX5_byDifferent_1 ++ dktX5_byDifferent_2
def dkwX5_byDifferent_0 : List UInt8 := [3, 61, 28, 42, 180, 0, 44, 27, 46, 162, 0, 68, 3, 62, 29, 16, 16, 162, 0, 54, 42, 27, 28]
abbrev dktX5_byDifferent_0 : List UInt8 := dkwX5_byDifferent_0 ++ dktX5_byDifferent_1
theorem dksX5_byDifferent_0 : cX5_byDifferent.data.toList.drop 0 = dktX5_byDifferent_0 := by decide +kernel
theorem dksX5_byDifferent_1 : cX5_byDifferent.data.toList.drop 23 = dktX5_byDifferent_1 := dk_seg dksX5_byDifferent_0 23 rfl rfl
theorem dksX5_byDifferent_2 : cX5_byDifferent.data.toList.drop 47 = dktX5_byDifferent_2 := dk_seg dksX5_byDifferent_1 24 rfl rfl
theorem dksX5_byDifferent_3 : cX5_byDifferent.data.toList.drop 71 = dktX5_byDifferent_3 := dk_seg dksX5_byDifferent_2 24 rfl rfl
theorem dX5_byDifferent_0 : decode cX5_byDifferent 0 = .ok (.iconst 0, 1) := dk_3 (dk_at dksX5_byDifferent_0 0 rfl rfl)
theorem dX5_byDifferent_1 : decode cX5_byDifferent 1 = .ok (.istore_n 2, 1) := dk_61 (dk_at dksX5_byDifferent_0 1 rfl rfl)
theorem dX5_byDifferent_2 : decode cX5_byDifferent 2 = .ok (.iload_n 2, 1) := dk_28 (dk_at dksX5_byDifferent_0 2 rfl rfl)
theorem dX5_byDifferent_3 : decode cX5_byDifferent 3 = .ok (.aload_n 0, 1) := dk_42 (dk_at dksX5_byDifferent_0 3 rfl rfl)
theorem dX5_byDifferent_4 : decode cX5_byDifferent 4 = .ok (.getfield 44, 3) := dk_180 0 44 (dk_at dksX5_byDifferent_0 4 rfl rfl)
theorem dX5_byDifferent_7 : decode cX5_byDifferent 7 = .ok (.iload_n 1, 1) := dk_27 (dk_at dksX5_byDifferent_0 7 rfl rfl)
theorem dX5_byDifferent_8 : decode cX5_byDifferent 8 = .ok (.iaload, 1) := dk_46 (dk_at dksX5_byDifferent_0 8 rfl rfl)
theorem dX5_byDifferent_9 : decode cX5_byDifferent 9 = .ok (.if_icmp .ge 68, 3) := dk_162 0 68 (dk_at dksX5_byDifferent_0 9 rfl rfl)
theorem dX5_byDifferent_12 : decode cX5_byDifferent 12 = .ok (.iconst 0, 1) := dk_3 (dk_at dksX5_byDifferent_0 12 rfl rfl)
theorem dX5_byDifferent_13 : decode cX5_byDifferent 13 = .ok (.istore_n 3, 1) := dk_62 (dk_at dksX5_byDifferent_0 13 rfl rfl)
theorem dX5_byDifferent_14 : decode cX5_byDifferent 14 = .ok (.iload_n 3, 1) := dk_29 (dk_at dksX5_byDifferent_0 14 rfl rfl)
theorem dX5_byDifferent_15 : decode cX5_byDifferent 15 = .ok (.bipush 16, 2) := dk_16 16 (dk_at dksX5_byDifferent_0 15 rfl rfl)
theorem dX5_byDifferent_17 : decode cX5_byDifferent 17 = .ok (.if_icmp .ge 54, 3) := dk_162 0 54 (dk_at dksX5_byDifferent_0 17 rfl rfl)
theorem dX5_byDifferent_20 : decode cX5_byDifferent 20 = .ok (.aload_n 0, 1) := dk_42 (dk_at dksX5_byDifferent_0 20 rfl rfl)
theorem dX5_byDifferent_21 : decode cX5_byDifferent 21 = .ok (.iload_n 1, 1) := dk_27 (dk_at dksX5_byDifferent_0 21 rfl rfl)
theorem dX5_byDifferent_22 : decode cX5_byDifferent 22 = .ok (.iload_n 2, 1) := dk_28 (dk_at dksX5_byDifferent_0 22 rfl rfl)
theorem dX5_byDifferent_23 : decode cX5_byDifferent 23 = .ok (.invokevirtual 224, 3) := dk_182 0 224 (dk_at dksX5_byDifferent_1 0 rfl rfl)
theorem dX5_byDifferent_26 : decode cX5_byDifferent 26 = .ok (.iload_n 3, 1) := dk_29 (dk_at dksX5_byDifferent_1 3 rfl rfl)
theorem dX5_byDifferent_27 : decode cX5_byDifferent 27 = .ok (.invokestatic 213, 3) := dk_184 0 213 (dk_at dksX5_byDifferent_1 4 rfl rfl)
theorem dX5_byDifferent_30 : decode cX5_byDifferent 30 = .ok (.ifCond .eq 35, 3) := dk_153 0 35 (dk_at dksX5_byDifferent_1 7 rfl rfl)
theorem dX5_byDifferent_33 : decode cX5_byDifferent 33 = .ok (.aload_n 0, 1) := dk_42 (dk_at dksX5_byDifferent_1 10 rfl rfl)
theorem dX5_byDifferent_34 : decode cX5_byDifferent 34 = .ok (.iload_n 1, 1) := dk_27 (dk_at dksX5_byDifferent_1 11 rfl rfl)
theorem dX5_byDifferent_35 : decode cX5_byDifferent 35 = .ok (.iconst 1, 1) := dk_4 (dk_at dksX5_byDifferent_1 12 rfl rfl)
theorem dX5_byDifferent_36 : decode cX5_byDifferent 36 = .ok (.aload_n 0, 1) := dk_42 (dk_at dksX5_byDifferent_1 13 rfl rfl)
theorem dX5_byDifferent_37 : decode cX5_byDifferent 37 = .ok (.getfield 44, 3) := dk_180 0 44 (dk_at dksX5_byDifferent_1 14 rfl rfl)
theorem dX5_byDifferent_40 : decode cX5_byDifferent 40 = .ok (.iload_n 1, 1) := dk_27 (dk_at dksX5_byDifferent_1 17 rfl rfl)
theorem dX5_byDifferent_41 : decode cX5_byDifferent 41 = .ok (.iaload, 1) := dk_46 (dk_at dksX5_byDifferent_1 18 rfl rfl)
theorem dX5_byDifferent_42 : decode cX5_byDifferent 42 = .ok (.ishl, 1) := dk_120 (dk_at dksX5_byDifferent_1 19 rfl rfl)
theorem dX5_byDifferent_43 : decode cX5_byDifferent 43 = .ok (.iconst 1, 1) := dk_4 (dk_at dksX5_byDifferent_1 20 rfl rfl)
theorem dX5_byDifferent_44 : decode cX5_byDifferent 44 = .ok (.isub, 1) := dk_100 (dk_at dksX5_byDifferent_1 21 rfl rfl)
theorem dX5_byDifferent_45 : decode cX5_byDifferent 45 = .ok (.iconst 1, 1) := dk_4 (dk_at dksX5_byDifferent_1 22 rfl rfl)
theorem dX5_byDifferent_46 : decode cX5_byDifferent 46 = .ok (.iload_n 2, 1) := dk_28 (dk_at dksX5_byDifferent_1 23 rfl rfl)
theorem dX5_byDifferent_47 : decode cX5_byDifferent 47 = .ok (.ishl, 1) := dk_120 (dk_at dksX5_byDifferent_2 0 rfl rfl)
theorem dX5_byDifferent_48 : decode cX5_byDifferent 48 = .ok (.iconst (-1), 1) := dk_2 (dk_at dksX5_byDifferent_2 1 rfl rfl)
theorem dX5_byDifferent_49 : decode cX5_byDifferent 49 = .ok (.ixor, 1) := dk_130 (dk_at dksX5_byDifferent_2 2 rfl rfl)
theorem dX5_byDifferent_50 : decode cX5_byDifferent 50 = .ok (.iand, 1) := dk_126 (dk_at dksX5_byDifferent_2 3 rfl rfl)
theorem dX5_byDifferent_51 : decode cX5_byDifferent 51 = .ok (.iload_n 3, 1) := dk_29 (dk_at dksX5_byDifferent_2 4 rfl rfl)
theorem dX5_byDifferent_52 : decode cX5_byDifferent 52 = .ok (.invokevirtual 230, 3) := dk_182 0 230 (dk_at dksX5_byDifferent_2 5 rfl rfl)
theorem dX5_byDifferent_55 : decode cX5_byDifferent 55 = .ok (.ifCond .eq 10, 3) := dk_153 0 10 (dk_at dksX5_byDifferent_2 8 rfl rfl)
theorem dX5_byDifferent_58 : decode cX5_byDifferent 58 = .ok (.aload_n 0, 1) := dk_42 (dk_at dksX5_byDifferent_2 11 rfl rfl)
theorem dX5_byDifferent_59 : decode cX5_byDifferent 59 = .ok (.iload_n 1, 1) := dk_27 (dk_at dksX5_byDifferent_2 12 rfl rfl)
theorem dX5_byDifferent_60 : decode cX5_byDifferent 60 = .ok (.iload_n 2, 1) := dk_28 (dk_at dksX5_byDifferent_2 13 rfl rfl)
theorem dX5_byDifferent_61 : decode cX5_byDifferent 61 = .ok (.iload_n 3, 1) := dk_29 (dk_at dksX5_byDifferent_2 14 rfl rfl)
theorem dX5_byDifferent_62 : decode cX5_byDifferent 62 = .ok (.invokevirtual 220, 3) := dk_182 0 220 (dk_at dksX5_byDifferent_2 15 rfl rfl)
theorem dX5_byDifferent_65 : decode cX5_byDifferent 65 = .ok (.iinc 3 1, 3) := dk_132 3 1 (dk_at dksX5_byDifferent_2 18 rfl rfl)
theorem dX5_byDifferent_68 : decode cX5_byDifferent 68 = .ok (.goto (-54), 3) := dk_167 255 202 (dk_at dksX5_byDifferent_2 21 rfl rfl)
theorem dX5_byDifferent_71 : decode cX5_byDifferent 71 = .ok (.iinc 2 1, 3) := dk_132 2 1 (dk_at dksX5_byDifferent_3 0 rfl rfl)
theorem dX5_byDifferent_74 : decode cX5_byDifferent 74 = .ok (.goto (-72), 3) := dk_167 255 184 (dk_at dksX5_byDifferent_3 3 rfl rfl)
theorem dX5_byDifferent_77 : decode cX5_byDifferent 77 = .ok (.return_, 1) := dk_177 (dk_at dksX5_byDifferent_3 6 rfl rfl)
def dkwX5_domainAt_0 : List UInt8 := [42, 180, 0, 90, 42, 180, 0, 47, 16, 8, 27, 104, 28, 96, 46, 46, 172]
abbrev dktX5_domainAt_0 : List UInt8 := dkwX5_domainAt_0 ++ []
theorem dksX5_domainAt_0 : cX5_domainAt.data.toList.drop 0 = dktX5_domainAt_0 := by decide +kernel
theorem dX5_domainAt_0 : decode cX5_domainAt 0 = .ok (.aload_n 0, 1) := dk_42 (dk_at dksX5_domainAt_0 0 rfl rfl)
theorem dX5_domainAt_1 : decode cX5_domainAt 1 = .ok (.getfield 90, 3) := dk_180 0 90 (dk_at dksX5_domainAt_0 1 rfl rfl)
theorem dX5_domainAt_4 : decode cX5_domainAt 4 = .ok (.aload_n 0, 1) := dk_42 (dk_at dksX5_domainAt_0 4 rfl rfl)
theorem dX5_domainAt_5 : decode cX5_domainAt 5 = .ok (.getfield 47, 3) := dk_180 0 47 (dk_at dksX5_domainAt_0 5 rfl rfl)
theorem dX5_domainAt_8 : decode cX5_domainAt 8 = .ok (.bipush 8, 2) := dk_16 8 (dk_at dksX5_domainAt_0 8 rfl rfl)
theorem dX5_domainAt_10 : decode cX5_domainAt 10 = .ok (.iload_n 1, 1) := dk_27 (dk_at dksX5_domainAt_0 10 rfl rfl)
theorem dX5_domainAt_11 : decode cX5_domainAt 11 = .ok (.imul, 1) := dk_104 (dk_at dksX5_domainAt_0 11 rfl rfl)
theorem dX5_domainAt_12 : decode cX5_domainAt 12 = .ok (.iload_n 2, 1) := dk_28 (dk_at dksX5_domainAt_0 12 rfl rfl)
theorem dX5_domainAt_13 : decode cX5_domainAt 13 = .ok (.iadd, 1) := dk_96 (dk_at dksX5_domainAt_0 13 rfl rfl)
theorem dX5_domainAt_14 : decode cX5_domainAt 14 = .ok (.iaload, 1) := dk_46 (dk_at dksX5_domainAt_0 14 rfl rfl)
theorem dX5_domainAt_15 : decode cX5_domainAt 15 = .ok (.iaload, 1) := dk_46 (dk_at dksX5_domainAt_0 15 rfl rfl)
theorem dX5_domainAt_16 : decode cX5_domainAt 16 = .ok (.ireturn, 1) := dk_172 (dk_at dksX5_domainAt_0 16 rfl rfl)
def dkwX5_canDiffer_4 : List UInt8 := [28, 126, 54, 5, 167, 255, 162, 21, 4, 172]
abbrev dktX5_canDiffer_4 : List UInt8 := dkwX5_canDiffer_4 ++ []
def dkwX5_canDiffer_3 : List UInt8 := [130, 126, 184, 0, 227, 21, 5, 184, 0, 227, 161, 0, 7, 4, 167, 0, 4, 3, 54, 4, 21, 5, 4, 100]
abbrev dktX5_canDiffer_3 : List UInt8 := dkwX5_canDiffer_3 ++ dktX5_canDiffer_4
def dkwX5_canDiffer_2 : List UInt8 := [21, 7, 182, 0, 224, 167, 0, 4, 3, 128, 54, 6, 132, 7, 1, 167, 255, 215, 21, 6, 4, 29, 120, 2]
abbrev dktX5_canDiffer_2 : List UInt8 := dkwX5_canDiffer_2 ++ dktX5_canDiffer_3
def dkwX5_canDiffer_1 : List UInt8 := [42, 180, 0, 44, 27, 46, 162, 0, 36, 21, 6, 21, 5, 21, 7, 122, 4, 126, 4, 160, 0, 13, 42, 27]
abbrev dktX5_canDiffer_1 : List UInt8 := dkwX5_canDiffer_1 ++ dktX5_canDiffer_2
def dkwX5_canDiffer_0 : List UInt8 := [4, 54, 4, 28, 54, 5, 21, 5, 158, 0, 95, 21, 4, 153, 0, 90, 3, 54, 6, 3, 54, 7, 21, 7]
abbrev dktX5_canDiffer_0 : List UInt8 := dkwX5_canDiffer_0 ++ dktX5_canDiffer_1
theorem dksX5_canDiffer_0 : cX5_canDiffer.data.toList.drop 0 = dktX5_canDiffer_0 := by decide +kernel
theorem dksX5_canDiffer_1 : cX5_canDiffer.data.toList.drop 24 = dktX5_canDiffer_1 := dk_seg dksX5_canDiffer_0 24 rfl rfl
theorem dksX5_canDiffer_2 : cX5_canDiffer.data.toList.drop 48 = dktX5_canDiffer_2 := dk_seg dksX5_canDiffer_1 24 rfl rfl
theorem dksX5_canDiffer_3 : cX5_canDiffer.data.toList.drop 72 = dktX5_canDiffer_3 := dk_seg dksX5_canDiffer_2 24 rfl rfl
theorem dksX5_canDiffer_4 : cX5_canDiffer.data.toList.drop 96 = dktX5_canDiffer_4 := dk_seg dksX5_canDiffer_3 24 rfl rfl
theorem dX5_canDiffer_0 : decode cX5_canDiffer 0 = .ok (.iconst 1, 1) := dk_4 (dk_at dksX5_canDiffer_0 0 rfl rfl)
theorem dX5_canDiffer_1 : decode cX5_canDiffer 1 = .ok (.istore 4, 2) := dk_54 4 (dk_at dksX5_canDiffer_0 1 rfl rfl)
theorem dX5_canDiffer_3 : decode cX5_canDiffer 3 = .ok (.iload_n 2, 1) := dk_28 (dk_at dksX5_canDiffer_0 3 rfl rfl)
theorem dX5_canDiffer_4 : decode cX5_canDiffer 4 = .ok (.istore 5, 2) := dk_54 5 (dk_at dksX5_canDiffer_0 4 rfl rfl)
theorem dX5_canDiffer_6 : decode cX5_canDiffer 6 = .ok (.iload 5, 2) := dk_21 5 (dk_at dksX5_canDiffer_0 6 rfl rfl)
theorem dX5_canDiffer_8 : decode cX5_canDiffer 8 = .ok (.ifCond .le 95, 3) := dk_158 0 95 (dk_at dksX5_canDiffer_0 8 rfl rfl)
theorem dX5_canDiffer_11 : decode cX5_canDiffer 11 = .ok (.iload 4, 2) := dk_21 4 (dk_at dksX5_canDiffer_0 11 rfl rfl)
theorem dX5_canDiffer_13 : decode cX5_canDiffer 13 = .ok (.ifCond .eq 90, 3) := dk_153 0 90 (dk_at dksX5_canDiffer_0 13 rfl rfl)
theorem dX5_canDiffer_16 : decode cX5_canDiffer 16 = .ok (.iconst 0, 1) := dk_3 (dk_at dksX5_canDiffer_0 16 rfl rfl)
theorem dX5_canDiffer_17 : decode cX5_canDiffer 17 = .ok (.istore 6, 2) := dk_54 6 (dk_at dksX5_canDiffer_0 17 rfl rfl)
theorem dX5_canDiffer_19 : decode cX5_canDiffer 19 = .ok (.iconst 0, 1) := dk_3 (dk_at dksX5_canDiffer_0 19 rfl rfl)
theorem dX5_canDiffer_20 : decode cX5_canDiffer 20 = .ok (.istore 7, 2) := dk_54 7 (dk_at dksX5_canDiffer_0 20 rfl rfl)
theorem dX5_canDiffer_22 : decode cX5_canDiffer 22 = .ok (.iload 7, 2) := dk_21 7 (dk_at dksX5_canDiffer_0 22 rfl rfl)
theorem dX5_canDiffer_24 : decode cX5_canDiffer 24 = .ok (.aload_n 0, 1) := dk_42 (dk_at dksX5_canDiffer_1 0 rfl rfl)
theorem dX5_canDiffer_25 : decode cX5_canDiffer 25 = .ok (.getfield 44, 3) := dk_180 0 44 (dk_at dksX5_canDiffer_1 1 rfl rfl)
theorem dX5_canDiffer_28 : decode cX5_canDiffer 28 = .ok (.iload_n 1, 1) := dk_27 (dk_at dksX5_canDiffer_1 4 rfl rfl)
theorem dX5_canDiffer_29 : decode cX5_canDiffer 29 = .ok (.iaload, 1) := dk_46 (dk_at dksX5_canDiffer_1 5 rfl rfl)
theorem dX5_canDiffer_30 : decode cX5_canDiffer 30 = .ok (.if_icmp .ge 36, 3) := dk_162 0 36 (dk_at dksX5_canDiffer_1 6 rfl rfl)
theorem dX5_canDiffer_33 : decode cX5_canDiffer 33 = .ok (.iload 6, 2) := dk_21 6 (dk_at dksX5_canDiffer_1 9 rfl rfl)
theorem dX5_canDiffer_35 : decode cX5_canDiffer 35 = .ok (.iload 5, 2) := dk_21 5 (dk_at dksX5_canDiffer_1 11 rfl rfl)
theorem dX5_canDiffer_37 : decode cX5_canDiffer 37 = .ok (.iload 7, 2) := dk_21 7 (dk_at dksX5_canDiffer_1 13 rfl rfl)
theorem dX5_canDiffer_39 : decode cX5_canDiffer 39 = .ok (.ishr, 1) := dk_122 (dk_at dksX5_canDiffer_1 15 rfl rfl)
theorem dX5_canDiffer_40 : decode cX5_canDiffer 40 = .ok (.iconst 1, 1) := dk_4 (dk_at dksX5_canDiffer_1 16 rfl rfl)
theorem dX5_canDiffer_41 : decode cX5_canDiffer 41 = .ok (.iand, 1) := dk_126 (dk_at dksX5_canDiffer_1 17 rfl rfl)
theorem dX5_canDiffer_42 : decode cX5_canDiffer 42 = .ok (.iconst 1, 1) := dk_4 (dk_at dksX5_canDiffer_1 18 rfl rfl)
theorem dX5_canDiffer_43 : decode cX5_canDiffer 43 = .ok (.if_icmp .ne 13, 3) := dk_160 0 13 (dk_at dksX5_canDiffer_1 19 rfl rfl)
theorem dX5_canDiffer_46 : decode cX5_canDiffer 46 = .ok (.aload_n 0, 1) := dk_42 (dk_at dksX5_canDiffer_1 22 rfl rfl)
theorem dX5_canDiffer_47 : decode cX5_canDiffer 47 = .ok (.iload_n 1, 1) := dk_27 (dk_at dksX5_canDiffer_1 23 rfl rfl)
theorem dX5_canDiffer_48 : decode cX5_canDiffer 48 = .ok (.iload 7, 2) := dk_21 7 (dk_at dksX5_canDiffer_2 0 rfl rfl)
theorem dX5_canDiffer_50 : decode cX5_canDiffer 50 = .ok (.invokevirtual 224, 3) := dk_182 0 224 (dk_at dksX5_canDiffer_2 2 rfl rfl)
theorem dX5_canDiffer_53 : decode cX5_canDiffer 53 = .ok (.goto 4, 3) := dk_167 0 4 (dk_at dksX5_canDiffer_2 5 rfl rfl)
theorem dX5_canDiffer_56 : decode cX5_canDiffer 56 = .ok (.iconst 0, 1) := dk_3 (dk_at dksX5_canDiffer_2 8 rfl rfl)
theorem dX5_canDiffer_57 : decode cX5_canDiffer 57 = .ok (.ior, 1) := dk_128 (dk_at dksX5_canDiffer_2 9 rfl rfl)
theorem dX5_canDiffer_58 : decode cX5_canDiffer 58 = .ok (.istore 6, 2) := dk_54 6 (dk_at dksX5_canDiffer_2 10 rfl rfl)
theorem dX5_canDiffer_60 : decode cX5_canDiffer 60 = .ok (.iinc 7 1, 3) := dk_132 7 1 (dk_at dksX5_canDiffer_2 12 rfl rfl)
theorem dX5_canDiffer_63 : decode cX5_canDiffer 63 = .ok (.goto (-41), 3) := dk_167 255 215 (dk_at dksX5_canDiffer_2 15 rfl rfl)
theorem dX5_canDiffer_66 : decode cX5_canDiffer 66 = .ok (.iload 6, 2) := dk_21 6 (dk_at dksX5_canDiffer_2 18 rfl rfl)
theorem dX5_canDiffer_68 : decode cX5_canDiffer 68 = .ok (.iconst 1, 1) := dk_4 (dk_at dksX5_canDiffer_2 20 rfl rfl)
theorem dX5_canDiffer_69 : decode cX5_canDiffer 69 = .ok (.iload_n 3, 1) := dk_29 (dk_at dksX5_canDiffer_2 21 rfl rfl)
theorem dX5_canDiffer_70 : decode cX5_canDiffer 70 = .ok (.ishl, 1) := dk_120 (dk_at dksX5_canDiffer_2 22 rfl rfl)
theorem dX5_canDiffer_71 : decode cX5_canDiffer 71 = .ok (.iconst (-1), 1) := dk_2 (dk_at dksX5_canDiffer_2 23 rfl rfl)
theorem dX5_canDiffer_72 : decode cX5_canDiffer 72 = .ok (.ixor, 1) := dk_130 (dk_at dksX5_canDiffer_3 0 rfl rfl)
theorem dX5_canDiffer_73 : decode cX5_canDiffer 73 = .ok (.iand, 1) := dk_126 (dk_at dksX5_canDiffer_3 1 rfl rfl)
theorem dX5_canDiffer_74 : decode cX5_canDiffer 74 = .ok (.invokestatic 227, 3) := dk_184 0 227 (dk_at dksX5_canDiffer_3 2 rfl rfl)
theorem dX5_canDiffer_77 : decode cX5_canDiffer 77 = .ok (.iload 5, 2) := dk_21 5 (dk_at dksX5_canDiffer_3 5 rfl rfl)
theorem dX5_canDiffer_79 : decode cX5_canDiffer 79 = .ok (.invokestatic 227, 3) := dk_184 0 227 (dk_at dksX5_canDiffer_3 7 rfl rfl)
theorem dX5_canDiffer_82 : decode cX5_canDiffer 82 = .ok (.if_icmp .lt 7, 3) := dk_161 0 7 (dk_at dksX5_canDiffer_3 10 rfl rfl)
theorem dX5_canDiffer_85 : decode cX5_canDiffer 85 = .ok (.iconst 1, 1) := dk_4 (dk_at dksX5_canDiffer_3 13 rfl rfl)
theorem dX5_canDiffer_86 : decode cX5_canDiffer 86 = .ok (.goto 4, 3) := dk_167 0 4 (dk_at dksX5_canDiffer_3 14 rfl rfl)
theorem dX5_canDiffer_89 : decode cX5_canDiffer 89 = .ok (.iconst 0, 1) := dk_3 (dk_at dksX5_canDiffer_3 17 rfl rfl)
theorem dX5_canDiffer_90 : decode cX5_canDiffer 90 = .ok (.istore 4, 2) := dk_54 4 (dk_at dksX5_canDiffer_3 18 rfl rfl)
theorem dX5_canDiffer_92 : decode cX5_canDiffer 92 = .ok (.iload 5, 2) := dk_21 5 (dk_at dksX5_canDiffer_3 20 rfl rfl)
theorem dX5_canDiffer_94 : decode cX5_canDiffer 94 = .ok (.iconst 1, 1) := dk_4 (dk_at dksX5_canDiffer_3 22 rfl rfl)
theorem dX5_canDiffer_95 : decode cX5_canDiffer 95 = .ok (.isub, 1) := dk_100 (dk_at dksX5_canDiffer_3 23 rfl rfl)
theorem dX5_canDiffer_96 : decode cX5_canDiffer 96 = .ok (.iload_n 2, 1) := dk_28 (dk_at dksX5_canDiffer_4 0 rfl rfl)
theorem dX5_canDiffer_97 : decode cX5_canDiffer 97 = .ok (.iand, 1) := dk_126 (dk_at dksX5_canDiffer_4 1 rfl rfl)
theorem dX5_canDiffer_98 : decode cX5_canDiffer 98 = .ok (.istore 5, 2) := dk_54 5 (dk_at dksX5_canDiffer_4 2 rfl rfl)
theorem dX5_canDiffer_100 : decode cX5_canDiffer 100 = .ok (.goto (-94), 3) := dk_167 255 162 (dk_at dksX5_canDiffer_4 4 rfl rfl)
theorem dX5_canDiffer_103 : decode cX5_canDiffer 103 = .ok (.iload 4, 2) := dk_21 4 (dk_at dksX5_canDiffer_4 7 rfl rfl)
theorem dX5_canDiffer_105 : decode cX5_canDiffer 105 = .ok (.ireturn, 1) := dk_172 (dk_at dksX5_canDiffer_4 9 rfl rfl)
def dkwX5_count_1 : List UInt8 := [27, 172]
abbrev dktX5_count_1 : List UInt8 := dkwX5_count_1 ++ []
def dkwX5_count_0 : List UInt8 := [3, 60, 3, 61, 28, 16, 32, 162, 0, 17, 27, 26, 28, 124, 4, 126, 96, 60, 132, 2, 1, 167, 255, 239]
abbrev dktX5_count_0 : List UInt8 := dkwX5_count_0 ++ dktX5_count_1
theorem dksX5_count_0 : cX5_count.data.toList.drop 0 = dktX5_count_0 := by decide +kernel
theorem dksX5_count_1 : cX5_count.data.toList.drop 24 = dktX5_count_1 := dk_seg dksX5_count_0 24 rfl rfl
theorem dX5_count_0 : decode cX5_count 0 = .ok (.iconst 0, 1) := dk_3 (dk_at dksX5_count_0 0 rfl rfl)
theorem dX5_count_1 : decode cX5_count 1 = .ok (.istore_n 1, 1) := dk_60 (dk_at dksX5_count_0 1 rfl rfl)
theorem dX5_count_2 : decode cX5_count 2 = .ok (.iconst 0, 1) := dk_3 (dk_at dksX5_count_0 2 rfl rfl)
theorem dX5_count_3 : decode cX5_count 3 = .ok (.istore_n 2, 1) := dk_61 (dk_at dksX5_count_0 3 rfl rfl)
theorem dX5_count_4 : decode cX5_count 4 = .ok (.iload_n 2, 1) := dk_28 (dk_at dksX5_count_0 4 rfl rfl)
theorem dX5_count_5 : decode cX5_count 5 = .ok (.bipush 32, 2) := dk_16 32 (dk_at dksX5_count_0 5 rfl rfl)
theorem dX5_count_7 : decode cX5_count 7 = .ok (.if_icmp .ge 17, 3) := dk_162 0 17 (dk_at dksX5_count_0 7 rfl rfl)
theorem dX5_count_10 : decode cX5_count 10 = .ok (.iload_n 1, 1) := dk_27 (dk_at dksX5_count_0 10 rfl rfl)
theorem dX5_count_11 : decode cX5_count 11 = .ok (.iload_n 0, 1) := dk_26 (dk_at dksX5_count_0 11 rfl rfl)
theorem dX5_count_12 : decode cX5_count 12 = .ok (.iload_n 2, 1) := dk_28 (dk_at dksX5_count_0 12 rfl rfl)
theorem dX5_count_13 : decode cX5_count 13 = .ok (.iushr, 1) := dk_124 (dk_at dksX5_count_0 13 rfl rfl)
theorem dX5_count_14 : decode cX5_count 14 = .ok (.iconst 1, 1) := dk_4 (dk_at dksX5_count_0 14 rfl rfl)
theorem dX5_count_15 : decode cX5_count 15 = .ok (.iand, 1) := dk_126 (dk_at dksX5_count_0 15 rfl rfl)
theorem dX5_count_16 : decode cX5_count 16 = .ok (.iadd, 1) := dk_96 (dk_at dksX5_count_0 16 rfl rfl)
theorem dX5_count_17 : decode cX5_count 17 = .ok (.istore_n 1, 1) := dk_60 (dk_at dksX5_count_0 17 rfl rfl)
theorem dX5_count_18 : decode cX5_count 18 = .ok (.iinc 2 1, 3) := dk_132 2 1 (dk_at dksX5_count_0 18 rfl rfl)
theorem dX5_count_21 : decode cX5_count 21 = .ok (.goto (-17), 3) := dk_167 255 239 (dk_at dksX5_count_0 21 rfl rfl)
theorem dX5_count_24 : decode cX5_count 24 = .ok (.iload_n 1, 1) := dk_27 (dk_at dksX5_count_1 0 rfl rfl)
theorem dX5_count_25 : decode cX5_count 25 = .ok (.ireturn, 1) := dk_172 (dk_at dksX5_count_1 1 rfl rfl)
def dkwX5_ordered_5 : List UInt8 := [132, 3, 1, 167, 255, 148, 177]
abbrev dktX5_ordered_5 : List UInt8 := dkwX5_ordered_5 ++ []
def dkwX5_ordered_4 : List UInt8 := [16, 8, 27, 104, 29, 96, 42, 27, 29, 182, 0, 224, 21, 4, 184, 0, 233, 21, 5, 184, 0, 236, 79]
abbrev dktX5_ordered_4 : List UInt8 := dkwX5_ordered_4 ++ dktX5_ordered_5
def dkwX5_ordered_3 : List UInt8 := [182, 0, 224, 21, 5, 184, 0, 236, 184, 0, 196, 54, 5, 132, 6, 255, 167, 255, 230, 42, 180, 0, 102]
abbrev dktX5_ordered_3 : List UInt8 := dkwX5_ordered_3 ++ dktX5_ordered_4
def dkwX5_ordered_2 : List UInt8 := [167, 255, 230, 16, 15, 54, 5, 28, 4, 100, 54, 6, 21, 6, 29, 164, 0, 26, 42, 27, 21, 6]
abbrev dktX5_ordered_2 : List UInt8 := dkwX5_ordered_2 ++ dktX5_ordered_3
def dkwX5_ordered_1 : List UInt8 := [162, 0, 26, 42, 27, 21, 5, 182, 0, 224, 21, 4, 184, 0, 233, 184, 0, 199, 54, 4, 132, 5, 1]
abbrev dktX5_ordered_1 : List UInt8 := dkwX5_ordered_1 ++ dktX5_ordered_2
def dkwX5_ordered_0 : List UInt8 := [42, 180, 0, 44, 27, 46, 61, 3, 62, 29, 28, 162, 0, 109, 3, 54, 4, 3, 54, 5, 21, 5, 29]
abbrev dktX5_ordered_0 : List UInt8 := dkwX5_ordered_0 ++ dktX5_ordered_1
theorem dksX5_ordered_0 : cX5_ordered.data.toList.drop 0 = dktX5_ordered_0 := by decide +kernel
theorem dksX5_ordered_1 : cX5_ordered.data.toList.drop 23 = dktX5_ordered_1 := dk_seg dksX5_ordered_0 23 rfl rfl
theorem dksX5_ordered_2 : cX5_ordered.data.toList.drop 46 = dktX5_ordered_2 := dk_seg dksX5_ordered_1 23 rfl rfl
theorem dksX5_ordered_3 : cX5_ordered.data.toList.drop 68 = dktX5_ordered_3 := dk_seg dksX5_ordered_2 22 rfl rfl
theorem dksX5_ordered_4 : cX5_ordered.data.toList.drop 91 = dktX5_ordered_4 := dk_seg dksX5_ordered_3 23 rfl rfl
theorem dksX5_ordered_5 : cX5_ordered.data.toList.drop 114 = dktX5_ordered_5 := dk_seg dksX5_ordered_4 23 rfl rfl
theorem dX5_ordered_0 : decode cX5_ordered 0 = .ok (.aload_n 0, 1) := dk_42 (dk_at dksX5_ordered_0 0 rfl rfl)
theorem dX5_ordered_1 : decode cX5_ordered 1 = .ok (.getfield 44, 3) := dk_180 0 44 (dk_at dksX5_ordered_0 1 rfl rfl)
theorem dX5_ordered_4 : decode cX5_ordered 4 = .ok (.iload_n 1, 1) := dk_27 (dk_at dksX5_ordered_0 4 rfl rfl)
theorem dX5_ordered_5 : decode cX5_ordered 5 = .ok (.iaload, 1) := dk_46 (dk_at dksX5_ordered_0 5 rfl rfl)
theorem dX5_ordered_6 : decode cX5_ordered 6 = .ok (.istore_n 2, 1) := dk_61 (dk_at dksX5_ordered_0 6 rfl rfl)
theorem dX5_ordered_7 : decode cX5_ordered 7 = .ok (.iconst 0, 1) := dk_3 (dk_at dksX5_ordered_0 7 rfl rfl)
theorem dX5_ordered_8 : decode cX5_ordered 8 = .ok (.istore_n 3, 1) := dk_62 (dk_at dksX5_ordered_0 8 rfl rfl)
theorem dX5_ordered_9 : decode cX5_ordered 9 = .ok (.iload_n 3, 1) := dk_29 (dk_at dksX5_ordered_0 9 rfl rfl)
theorem dX5_ordered_10 : decode cX5_ordered 10 = .ok (.iload_n 2, 1) := dk_28 (dk_at dksX5_ordered_0 10 rfl rfl)
theorem dX5_ordered_11 : decode cX5_ordered 11 = .ok (.if_icmp .ge 109, 3) := dk_162 0 109 (dk_at dksX5_ordered_0 11 rfl rfl)
theorem dX5_ordered_14 : decode cX5_ordered 14 = .ok (.iconst 0, 1) := dk_3 (dk_at dksX5_ordered_0 14 rfl rfl)
theorem dX5_ordered_15 : decode cX5_ordered 15 = .ok (.istore 4, 2) := dk_54 4 (dk_at dksX5_ordered_0 15 rfl rfl)
theorem dX5_ordered_17 : decode cX5_ordered 17 = .ok (.iconst 0, 1) := dk_3 (dk_at dksX5_ordered_0 17 rfl rfl)
theorem dX5_ordered_18 : decode cX5_ordered 18 = .ok (.istore 5, 2) := dk_54 5 (dk_at dksX5_ordered_0 18 rfl rfl)
theorem dX5_ordered_20 : decode cX5_ordered 20 = .ok (.iload 5, 2) := dk_21 5 (dk_at dksX5_ordered_0 20 rfl rfl)
theorem dX5_ordered_22 : decode cX5_ordered 22 = .ok (.iload_n 3, 1) := dk_29 (dk_at dksX5_ordered_0 22 rfl rfl)
theorem dX5_ordered_23 : decode cX5_ordered 23 = .ok (.if_icmp .ge 26, 3) := dk_162 0 26 (dk_at dksX5_ordered_1 0 rfl rfl)
theorem dX5_ordered_26 : decode cX5_ordered 26 = .ok (.aload_n 0, 1) := dk_42 (dk_at dksX5_ordered_1 3 rfl rfl)
theorem dX5_ordered_27 : decode cX5_ordered 27 = .ok (.iload_n 1, 1) := dk_27 (dk_at dksX5_ordered_1 4 rfl rfl)
theorem dX5_ordered_28 : decode cX5_ordered 28 = .ok (.iload 5, 2) := dk_21 5 (dk_at dksX5_ordered_1 5 rfl rfl)
theorem dX5_ordered_30 : decode cX5_ordered 30 = .ok (.invokevirtual 224, 3) := dk_182 0 224 (dk_at dksX5_ordered_1 7 rfl rfl)
theorem dX5_ordered_33 : decode cX5_ordered 33 = .ok (.iload 4, 2) := dk_21 4 (dk_at dksX5_ordered_1 10 rfl rfl)
theorem dX5_ordered_35 : decode cX5_ordered 35 = .ok (.invokestatic 233, 3) := dk_184 0 233 (dk_at dksX5_ordered_1 12 rfl rfl)
theorem dX5_ordered_38 : decode cX5_ordered 38 = .ok (.invokestatic 199, 3) := dk_184 0 199 (dk_at dksX5_ordered_1 15 rfl rfl)
theorem dX5_ordered_41 : decode cX5_ordered 41 = .ok (.istore 4, 2) := dk_54 4 (dk_at dksX5_ordered_1 18 rfl rfl)
theorem dX5_ordered_43 : decode cX5_ordered 43 = .ok (.iinc 5 1, 3) := dk_132 5 1 (dk_at dksX5_ordered_1 20 rfl rfl)
theorem dX5_ordered_46 : decode cX5_ordered 46 = .ok (.goto (-26), 3) := dk_167 255 230 (dk_at dksX5_ordered_2 0 rfl rfl)
theorem dX5_ordered_49 : decode cX5_ordered 49 = .ok (.bipush 15, 2) := dk_16 15 (dk_at dksX5_ordered_2 3 rfl rfl)
theorem dX5_ordered_51 : decode cX5_ordered 51 = .ok (.istore 5, 2) := dk_54 5 (dk_at dksX5_ordered_2 5 rfl rfl)
theorem dX5_ordered_53 : decode cX5_ordered 53 = .ok (.iload_n 2, 1) := dk_28 (dk_at dksX5_ordered_2 7 rfl rfl)
theorem dX5_ordered_54 : decode cX5_ordered 54 = .ok (.iconst 1, 1) := dk_4 (dk_at dksX5_ordered_2 8 rfl rfl)
theorem dX5_ordered_55 : decode cX5_ordered 55 = .ok (.isub, 1) := dk_100 (dk_at dksX5_ordered_2 9 rfl rfl)
theorem dX5_ordered_56 : decode cX5_ordered 56 = .ok (.istore 6, 2) := dk_54 6 (dk_at dksX5_ordered_2 10 rfl rfl)
theorem dX5_ordered_58 : decode cX5_ordered 58 = .ok (.iload 6, 2) := dk_21 6 (dk_at dksX5_ordered_2 12 rfl rfl)
theorem dX5_ordered_60 : decode cX5_ordered 60 = .ok (.iload_n 3, 1) := dk_29 (dk_at dksX5_ordered_2 14 rfl rfl)
theorem dX5_ordered_61 : decode cX5_ordered 61 = .ok (.if_icmp .le 26, 3) := dk_164 0 26 (dk_at dksX5_ordered_2 15 rfl rfl)
theorem dX5_ordered_64 : decode cX5_ordered 64 = .ok (.aload_n 0, 1) := dk_42 (dk_at dksX5_ordered_2 18 rfl rfl)
theorem dX5_ordered_65 : decode cX5_ordered 65 = .ok (.iload_n 1, 1) := dk_27 (dk_at dksX5_ordered_2 19 rfl rfl)
theorem dX5_ordered_66 : decode cX5_ordered 66 = .ok (.iload 6, 2) := dk_21 6 (dk_at dksX5_ordered_2 20 rfl rfl)
theorem dX5_ordered_68 : decode cX5_ordered 68 = .ok (.invokevirtual 224, 3) := dk_182 0 224 (dk_at dksX5_ordered_3 0 rfl rfl)
theorem dX5_ordered_71 : decode cX5_ordered 71 = .ok (.iload 5, 2) := dk_21 5 (dk_at dksX5_ordered_3 3 rfl rfl)
theorem dX5_ordered_73 : decode cX5_ordered 73 = .ok (.invokestatic 236, 3) := dk_184 0 236 (dk_at dksX5_ordered_3 5 rfl rfl)
theorem dX5_ordered_76 : decode cX5_ordered 76 = .ok (.invokestatic 196, 3) := dk_184 0 196 (dk_at dksX5_ordered_3 8 rfl rfl)
theorem dX5_ordered_79 : decode cX5_ordered 79 = .ok (.istore 5, 2) := dk_54 5 (dk_at dksX5_ordered_3 11 rfl rfl)
theorem dX5_ordered_81 : decode cX5_ordered 81 = .ok (.iinc 6 (-1), 3) := dk_132 6 255 (dk_at dksX5_ordered_3 13 rfl rfl)
theorem dX5_ordered_84 : decode cX5_ordered 84 = .ok (.goto (-26), 3) := dk_167 255 230 (dk_at dksX5_ordered_3 16 rfl rfl)
theorem dX5_ordered_87 : decode cX5_ordered 87 = .ok (.aload_n 0, 1) := dk_42 (dk_at dksX5_ordered_3 19 rfl rfl)
theorem dX5_ordered_88 : decode cX5_ordered 88 = .ok (.getfield 102, 3) := dk_180 0 102 (dk_at dksX5_ordered_3 20 rfl rfl)
theorem dX5_ordered_91 : decode cX5_ordered 91 = .ok (.bipush 8, 2) := dk_16 8 (dk_at dksX5_ordered_4 0 rfl rfl)
theorem dX5_ordered_93 : decode cX5_ordered 93 = .ok (.iload_n 1, 1) := dk_27 (dk_at dksX5_ordered_4 2 rfl rfl)
theorem dX5_ordered_94 : decode cX5_ordered 94 = .ok (.imul, 1) := dk_104 (dk_at dksX5_ordered_4 3 rfl rfl)
theorem dX5_ordered_95 : decode cX5_ordered 95 = .ok (.iload_n 3, 1) := dk_29 (dk_at dksX5_ordered_4 4 rfl rfl)
theorem dX5_ordered_96 : decode cX5_ordered 96 = .ok (.iadd, 1) := dk_96 (dk_at dksX5_ordered_4 5 rfl rfl)
theorem dX5_ordered_97 : decode cX5_ordered 97 = .ok (.aload_n 0, 1) := dk_42 (dk_at dksX5_ordered_4 6 rfl rfl)
theorem dX5_ordered_98 : decode cX5_ordered 98 = .ok (.iload_n 1, 1) := dk_27 (dk_at dksX5_ordered_4 7 rfl rfl)
theorem dX5_ordered_99 : decode cX5_ordered 99 = .ok (.iload_n 3, 1) := dk_29 (dk_at dksX5_ordered_4 8 rfl rfl)
theorem dX5_ordered_100 : decode cX5_ordered 100 = .ok (.invokevirtual 224, 3) := dk_182 0 224 (dk_at dksX5_ordered_4 9 rfl rfl)
theorem dX5_ordered_103 : decode cX5_ordered 103 = .ok (.iload 4, 2) := dk_21 4 (dk_at dksX5_ordered_4 12 rfl rfl)
theorem dX5_ordered_105 : decode cX5_ordered 105 = .ok (.invokestatic 233, 3) := dk_184 0 233 (dk_at dksX5_ordered_4 14 rfl rfl)
theorem dX5_ordered_108 : decode cX5_ordered 108 = .ok (.iload 5, 2) := dk_21 5 (dk_at dksX5_ordered_4 17 rfl rfl)
theorem dX5_ordered_110 : decode cX5_ordered 110 = .ok (.invokestatic 236, 3) := dk_184 0 236 (dk_at dksX5_ordered_4 19 rfl rfl)
theorem dX5_ordered_113 : decode cX5_ordered 113 = .ok (.iastore, 1) := dk_79 (dk_at dksX5_ordered_4 22 rfl rfl)
theorem dX5_ordered_114 : decode cX5_ordered 114 = .ok (.iinc 3 1, 3) := dk_132 3 1 (dk_at dksX5_ordered_5 0 rfl rfl)
theorem dX5_ordered_117 : decode cX5_ordered 117 = .ok (.goto (-108), 3) := dk_167 255 148 (dk_at dksX5_ordered_5 3 rfl rfl)
theorem dX5_ordered_120 : decode cX5_ordered 120 = .ok (.return_, 1) := dk_177 (dk_at dksX5_ordered_5 6 rfl rfl)
def dkwX5_atLeast_0 : List UInt8 := [27, 16, 31, 164, 0, 7, 3, 167, 0, 16, 27, 156, 0, 7, 26, 167, 0, 8, 26, 2, 27, 120, 126, 172]
abbrev dktX5_atLeast_0 : List UInt8 := dkwX5_atLeast_0 ++ []
theorem dksX5_atLeast_0 : cX5_atLeast.data.toList.drop 0 = dktX5_atLeast_0 := by decide +kernel
theorem dX5_atLeast_0 : decode cX5_atLeast 0 = .ok (.iload_n 1, 1) := dk_27 (dk_at dksX5_atLeast_0 0 rfl rfl)
theorem dX5_atLeast_1 : decode cX5_atLeast 1 = .ok (.bipush 31, 2) := dk_16 31 (dk_at dksX5_atLeast_0 1 rfl rfl)
theorem dX5_atLeast_3 : decode cX5_atLeast 3 = .ok (.if_icmp .le 7, 3) := dk_164 0 7 (dk_at dksX5_atLeast_0 3 rfl rfl)
theorem dX5_atLeast_6 : decode cX5_atLeast 6 = .ok (.iconst 0, 1) := dk_3 (dk_at dksX5_atLeast_0 6 rfl rfl)
theorem dX5_atLeast_7 : decode cX5_atLeast 7 = .ok (.goto 16, 3) := dk_167 0 16 (dk_at dksX5_atLeast_0 7 rfl rfl)
theorem dX5_atLeast_10 : decode cX5_atLeast 10 = .ok (.iload_n 1, 1) := dk_27 (dk_at dksX5_atLeast_0 10 rfl rfl)
theorem dX5_atLeast_11 : decode cX5_atLeast 11 = .ok (.ifCond .ge 7, 3) := dk_156 0 7 (dk_at dksX5_atLeast_0 11 rfl rfl)
theorem dX5_atLeast_14 : decode cX5_atLeast 14 = .ok (.iload_n 0, 1) := dk_26 (dk_at dksX5_atLeast_0 14 rfl rfl)
theorem dX5_atLeast_15 : decode cX5_atLeast 15 = .ok (.goto 8, 3) := dk_167 0 8 (dk_at dksX5_atLeast_0 15 rfl rfl)
theorem dX5_atLeast_18 : decode cX5_atLeast 18 = .ok (.iload_n 0, 1) := dk_26 (dk_at dksX5_atLeast_0 18 rfl rfl)
theorem dX5_atLeast_19 : decode cX5_atLeast 19 = .ok (.iconst (-1), 1) := dk_2 (dk_at dksX5_atLeast_0 19 rfl rfl)
theorem dX5_atLeast_20 : decode cX5_atLeast 20 = .ok (.iload_n 1, 1) := dk_27 (dk_at dksX5_atLeast_0 20 rfl rfl)
theorem dX5_atLeast_21 : decode cX5_atLeast 21 = .ok (.ishl, 1) := dk_120 (dk_at dksX5_atLeast_0 21 rfl rfl)
theorem dX5_atLeast_22 : decode cX5_atLeast 22 = .ok (.iand, 1) := dk_126 (dk_at dksX5_atLeast_0 22 rfl rfl)
theorem dX5_atLeast_23 : decode cX5_atLeast 23 = .ok (.ireturn, 1) := dk_172 (dk_at dksX5_atLeast_0 23 rfl rfl)
def dkwX5_atMost_1 : List UInt8 := [4, 100, 126, 172]
abbrev dktX5_atMost_1 : List UInt8 := dkwX5_atMost_1 ++ []
def dkwX5_atMost_0 : List UInt8 := [27, 156, 0, 7, 3, 167, 0, 22, 27, 16, 30, 164, 0, 7, 26, 167, 0, 12, 26, 4, 27, 4, 96, 120]
abbrev dktX5_atMost_0 : List UInt8 := dkwX5_atMost_0 ++ dktX5_atMost_1
theorem dksX5_atMost_0 : cX5_atMost.data.toList.drop 0 = dktX5_atMost_0 := by decide +kernel
theorem dksX5_atMost_1 : cX5_atMost.data.toList.drop 24 = dktX5_atMost_1 := dk_seg dksX5_atMost_0 24 rfl rfl
theorem dX5_atMost_0 : decode cX5_atMost 0 = .ok (.iload_n 1, 1) := dk_27 (dk_at dksX5_atMost_0 0 rfl rfl)
theorem dX5_atMost_1 : decode cX5_atMost 1 = .ok (.ifCond .ge 7, 3) := dk_156 0 7 (dk_at dksX5_atMost_0 1 rfl rfl)
theorem dX5_atMost_4 : decode cX5_atMost 4 = .ok (.iconst 0, 1) := dk_3 (dk_at dksX5_atMost_0 4 rfl rfl)
theorem dX5_atMost_5 : decode cX5_atMost 5 = .ok (.goto 22, 3) := dk_167 0 22 (dk_at dksX5_atMost_0 5 rfl rfl)
theorem dX5_atMost_8 : decode cX5_atMost 8 = .ok (.iload_n 1, 1) := dk_27 (dk_at dksX5_atMost_0 8 rfl rfl)
theorem dX5_atMost_9 : decode cX5_atMost 9 = .ok (.bipush 30, 2) := dk_16 30 (dk_at dksX5_atMost_0 9 rfl rfl)
theorem dX5_atMost_11 : decode cX5_atMost 11 = .ok (.if_icmp .le 7, 3) := dk_164 0 7 (dk_at dksX5_atMost_0 11 rfl rfl)
theorem dX5_atMost_14 : decode cX5_atMost 14 = .ok (.iload_n 0, 1) := dk_26 (dk_at dksX5_atMost_0 14 rfl rfl)
theorem dX5_atMost_15 : decode cX5_atMost 15 = .ok (.goto 12, 3) := dk_167 0 12 (dk_at dksX5_atMost_0 15 rfl rfl)
theorem dX5_atMost_18 : decode cX5_atMost 18 = .ok (.iload_n 0, 1) := dk_26 (dk_at dksX5_atMost_0 18 rfl rfl)
theorem dX5_atMost_19 : decode cX5_atMost 19 = .ok (.iconst 1, 1) := dk_4 (dk_at dksX5_atMost_0 19 rfl rfl)
theorem dX5_atMost_20 : decode cX5_atMost 20 = .ok (.iload_n 1, 1) := dk_27 (dk_at dksX5_atMost_0 20 rfl rfl)
theorem dX5_atMost_21 : decode cX5_atMost 21 = .ok (.iconst 1, 1) := dk_4 (dk_at dksX5_atMost_0 21 rfl rfl)
theorem dX5_atMost_22 : decode cX5_atMost 22 = .ok (.iadd, 1) := dk_96 (dk_at dksX5_atMost_0 22 rfl rfl)
theorem dX5_atMost_23 : decode cX5_atMost 23 = .ok (.ishl, 1) := dk_120 (dk_at dksX5_atMost_0 23 rfl rfl)
theorem dX5_atMost_24 : decode cX5_atMost 24 = .ok (.iconst 1, 1) := dk_4 (dk_at dksX5_atMost_1 0 rfl rfl)
theorem dX5_atMost_25 : decode cX5_atMost 25 = .ok (.isub, 1) := dk_100 (dk_at dksX5_atMost_1 1 rfl rfl)
theorem dX5_atMost_26 : decode cX5_atMost 26 = .ok (.iand, 1) := dk_126 (dk_at dksX5_atMost_1 2 rfl rfl)
theorem dX5_atMost_27 : decode cX5_atMost 27 = .ok (.ireturn, 1) := dk_172 (dk_at dksX5_atMost_1 3 rfl rfl)
def dkwX5_byRegular_8 : List UInt8 := [132, 3, 1, 167, 255, 73, 177]
abbrev dktX5_byRegular_8 : List UInt8 := dkwX5_byRegular_8 ++ []
def dkwX5_byRegular_7 : List UInt8 := [153, 0, 18, 42, 27, 29, 42, 180, 0, 59, 21, 6, 4, 96, 46, 182, 0, 220, 132, 6, 3, 167, 255, 167]
abbrev dktX5_byRegular_7 : List UInt8 := dkwX5_byRegular_7 ++ dktX5_byRegular_8
def dkwX5_byRegular_6 : List UInt8 := [184, 0, 213, 153, 0, 39, 42, 27, 29, 182, 0, 224, 42, 180, 0, 59, 21, 6, 4, 96, 46, 184, 0, 213]
abbrev dktX5_byRegular_6 : List UInt8 := dkwX5_byRegular_6 ++ dktX5_byRegular_7
def dkwX5_byRegular_5 : List UInt8 := [180, 0, 59, 21, 6, 46, 184, 0, 213, 153, 0, 56, 21, 5, 42, 180, 0, 59, 21, 6, 5, 96, 46]
abbrev dktX5_byRegular_5 : List UInt8 := dkwX5_byRegular_5 ++ dktX5_byRegular_6
def dkwX5_byRegular_4 : List UInt8 := [104, 54, 6, 21, 6, 16, 48, 27, 104, 6, 42, 180, 0, 56, 27, 46, 104, 96, 162, 0, 77, 21, 4, 42]
abbrev dktX5_byRegular_4 : List UInt8 := dkwX5_byRegular_4 ++ dktX5_byRegular_5
def dkwX5_byRegular_3 : List UInt8 := [21, 5, 42, 27, 21, 6, 182, 0, 224, 3, 182, 0, 239, 54, 5, 132, 6, 255, 167, 255, 230, 16, 48, 27]
abbrev dktX5_byRegular_3 : List UInt8 := dkwX5_byRegular_3 ++ dktX5_byRegular_4
def dkwX5_byRegular_2 : List UInt8 := [167, 255, 230, 42, 180, 0, 53, 27, 46, 54, 5, 28, 4, 100, 54, 6, 21, 6, 29, 164, 0, 26, 42, 27]
abbrev dktX5_byRegular_2 : List UInt8 := dkwX5_byRegular_2 ++ dktX5_byRegular_3
def dkwX5_byRegular_1 : List UInt8 := [162, 0, 26, 42, 27, 21, 4, 42, 27, 21, 5, 182, 0, 224, 4, 182, 0, 239, 54, 4, 132, 5, 1]
abbrev dktX5_byRegular_1 : List UInt8 := dkwX5_byRegular_1 ++ dktX5_byRegular_2
def dkwX5_byRegular_0 : List UInt8 := [42, 180, 0, 44, 27, 46, 61, 3, 62, 29, 28, 162, 0, 184, 4, 54, 4, 3, 54, 5, 21, 5, 29]
abbrev dktX5_byRegular_0 : List UInt8 := dkwX5_byRegular_0 ++ dktX5_byRegular_1
theorem dksX5_byRegular_0 : cX5_byRegular.data.toList.drop 0 = dktX5_byRegular_0 := by decide +kernel
theorem dksX5_byRegular_1 : cX5_byRegular.data.toList.drop 23 = dktX5_byRegular_1 := dk_seg dksX5_byRegular_0 23 rfl rfl
theorem dksX5_byRegular_2 : cX5_byRegular.data.toList.drop 46 = dktX5_byRegular_2 := dk_seg dksX5_byRegular_1 23 rfl rfl
theorem dksX5_byRegular_3 : cX5_byRegular.data.toList.drop 70 = dktX5_byRegular_3 := dk_seg dksX5_byRegular_2 24 rfl rfl
theorem dksX5_byRegular_4 : cX5_byRegular.data.toList.drop 94 = dktX5_byRegular_4 := dk_seg dksX5_byRegular_3 24 rfl rfl
theorem dksX5_byRegular_5 : cX5_byRegular.data.toList.drop 118 = dktX5_byRegular_5 := dk_seg dksX5_byRegular_4 24 rfl rfl
theorem dksX5_byRegular_6 : cX5_byRegular.data.toList.drop 141 = dktX5_byRegular_6 := dk_seg dksX5_byRegular_5 23 rfl rfl
theorem dksX5_byRegular_7 : cX5_byRegular.data.toList.drop 165 = dktX5_byRegular_7 := dk_seg dksX5_byRegular_6 24 rfl rfl
theorem dksX5_byRegular_8 : cX5_byRegular.data.toList.drop 189 = dktX5_byRegular_8 := dk_seg dksX5_byRegular_7 24 rfl rfl
theorem dX5_byRegular_0 : decode cX5_byRegular 0 = .ok (.aload_n 0, 1) := dk_42 (dk_at dksX5_byRegular_0 0 rfl rfl)
theorem dX5_byRegular_1 : decode cX5_byRegular 1 = .ok (.getfield 44, 3) := dk_180 0 44 (dk_at dksX5_byRegular_0 1 rfl rfl)
theorem dX5_byRegular_4 : decode cX5_byRegular 4 = .ok (.iload_n 1, 1) := dk_27 (dk_at dksX5_byRegular_0 4 rfl rfl)
theorem dX5_byRegular_5 : decode cX5_byRegular 5 = .ok (.iaload, 1) := dk_46 (dk_at dksX5_byRegular_0 5 rfl rfl)
theorem dX5_byRegular_6 : decode cX5_byRegular 6 = .ok (.istore_n 2, 1) := dk_61 (dk_at dksX5_byRegular_0 6 rfl rfl)
theorem dX5_byRegular_7 : decode cX5_byRegular 7 = .ok (.iconst 0, 1) := dk_3 (dk_at dksX5_byRegular_0 7 rfl rfl)
theorem dX5_byRegular_8 : decode cX5_byRegular 8 = .ok (.istore_n 3, 1) := dk_62 (dk_at dksX5_byRegular_0 8 rfl rfl)
theorem dX5_byRegular_9 : decode cX5_byRegular 9 = .ok (.iload_n 3, 1) := dk_29 (dk_at dksX5_byRegular_0 9 rfl rfl)
theorem dX5_byRegular_10 : decode cX5_byRegular 10 = .ok (.iload_n 2, 1) := dk_28 (dk_at dksX5_byRegular_0 10 rfl rfl)
theorem dX5_byRegular_11 : decode cX5_byRegular 11 = .ok (.if_icmp .ge 184, 3) := dk_162 0 184 (dk_at dksX5_byRegular_0 11 rfl rfl)
theorem dX5_byRegular_14 : decode cX5_byRegular 14 = .ok (.iconst 1, 1) := dk_4 (dk_at dksX5_byRegular_0 14 rfl rfl)
theorem dX5_byRegular_15 : decode cX5_byRegular 15 = .ok (.istore 4, 2) := dk_54 4 (dk_at dksX5_byRegular_0 15 rfl rfl)
theorem dX5_byRegular_17 : decode cX5_byRegular 17 = .ok (.iconst 0, 1) := dk_3 (dk_at dksX5_byRegular_0 17 rfl rfl)
theorem dX5_byRegular_18 : decode cX5_byRegular 18 = .ok (.istore 5, 2) := dk_54 5 (dk_at dksX5_byRegular_0 18 rfl rfl)
theorem dX5_byRegular_20 : decode cX5_byRegular 20 = .ok (.iload 5, 2) := dk_21 5 (dk_at dksX5_byRegular_0 20 rfl rfl)
theorem dX5_byRegular_22 : decode cX5_byRegular 22 = .ok (.iload_n 3, 1) := dk_29 (dk_at dksX5_byRegular_0 22 rfl rfl)
theorem dX5_byRegular_23 : decode cX5_byRegular 23 = .ok (.if_icmp .ge 26, 3) := dk_162 0 26 (dk_at dksX5_byRegular_1 0 rfl rfl)
theorem dX5_byRegular_26 : decode cX5_byRegular 26 = .ok (.aload_n 0, 1) := dk_42 (dk_at dksX5_byRegular_1 3 rfl rfl)
theorem dX5_byRegular_27 : decode cX5_byRegular 27 = .ok (.iload_n 1, 1) := dk_27 (dk_at dksX5_byRegular_1 4 rfl rfl)
theorem dX5_byRegular_28 : decode cX5_byRegular 28 = .ok (.iload 4, 2) := dk_21 4 (dk_at dksX5_byRegular_1 5 rfl rfl)
theorem dX5_byRegular_30 : decode cX5_byRegular 30 = .ok (.aload_n 0, 1) := dk_42 (dk_at dksX5_byRegular_1 7 rfl rfl)
theorem dX5_byRegular_31 : decode cX5_byRegular 31 = .ok (.iload_n 1, 1) := dk_27 (dk_at dksX5_byRegular_1 8 rfl rfl)
theorem dX5_byRegular_32 : decode cX5_byRegular 32 = .ok (.iload 5, 2) := dk_21 5 (dk_at dksX5_byRegular_1 9 rfl rfl)
theorem dX5_byRegular_34 : decode cX5_byRegular 34 = .ok (.invokevirtual 224, 3) := dk_182 0 224 (dk_at dksX5_byRegular_1 11 rfl rfl)
theorem dX5_byRegular_37 : decode cX5_byRegular 37 = .ok (.iconst 1, 1) := dk_4 (dk_at dksX5_byRegular_1 14 rfl rfl)
theorem dX5_byRegular_38 : decode cX5_byRegular 38 = .ok (.invokevirtual 239, 3) := dk_182 0 239 (dk_at dksX5_byRegular_1 15 rfl rfl)
theorem dX5_byRegular_41 : decode cX5_byRegular 41 = .ok (.istore 4, 2) := dk_54 4 (dk_at dksX5_byRegular_1 18 rfl rfl)
theorem dX5_byRegular_43 : decode cX5_byRegular 43 = .ok (.iinc 5 1, 3) := dk_132 5 1 (dk_at dksX5_byRegular_1 20 rfl rfl)
theorem dX5_byRegular_46 : decode cX5_byRegular 46 = .ok (.goto (-26), 3) := dk_167 255 230 (dk_at dksX5_byRegular_2 0 rfl rfl)
theorem dX5_byRegular_49 : decode cX5_byRegular 49 = .ok (.aload_n 0, 1) := dk_42 (dk_at dksX5_byRegular_2 3 rfl rfl)
theorem dX5_byRegular_50 : decode cX5_byRegular 50 = .ok (.getfield 53, 3) := dk_180 0 53 (dk_at dksX5_byRegular_2 4 rfl rfl)
theorem dX5_byRegular_53 : decode cX5_byRegular 53 = .ok (.iload_n 1, 1) := dk_27 (dk_at dksX5_byRegular_2 7 rfl rfl)
theorem dX5_byRegular_54 : decode cX5_byRegular 54 = .ok (.iaload, 1) := dk_46 (dk_at dksX5_byRegular_2 8 rfl rfl)
theorem dX5_byRegular_55 : decode cX5_byRegular 55 = .ok (.istore 5, 2) := dk_54 5 (dk_at dksX5_byRegular_2 9 rfl rfl)
theorem dX5_byRegular_57 : decode cX5_byRegular 57 = .ok (.iload_n 2, 1) := dk_28 (dk_at dksX5_byRegular_2 11 rfl rfl)
theorem dX5_byRegular_58 : decode cX5_byRegular 58 = .ok (.iconst 1, 1) := dk_4 (dk_at dksX5_byRegular_2 12 rfl rfl)
theorem dX5_byRegular_59 : decode cX5_byRegular 59 = .ok (.isub, 1) := dk_100 (dk_at dksX5_byRegular_2 13 rfl rfl)
theorem dX5_byRegular_60 : decode cX5_byRegular 60 = .ok (.istore 6, 2) := dk_54 6 (dk_at dksX5_byRegular_2 14 rfl rfl)
theorem dX5_byRegular_62 : decode cX5_byRegular 62 = .ok (.iload 6, 2) := dk_21 6 (dk_at dksX5_byRegular_2 16 rfl rfl)
theorem dX5_byRegular_64 : decode cX5_byRegular 64 = .ok (.iload_n 3, 1) := dk_29 (dk_at dksX5_byRegular_2 18 rfl rfl)
theorem dX5_byRegular_65 : decode cX5_byRegular 65 = .ok (.if_icmp .le 26, 3) := dk_164 0 26 (dk_at dksX5_byRegular_2 19 rfl rfl)
theorem dX5_byRegular_68 : decode cX5_byRegular 68 = .ok (.aload_n 0, 1) := dk_42 (dk_at dksX5_byRegular_2 22 rfl rfl)
theorem dX5_byRegular_69 : decode cX5_byRegular 69 = .ok (.iload_n 1, 1) := dk_27 (dk_at dksX5_byRegular_2 23 rfl rfl)
theorem dX5_byRegular_70 : decode cX5_byRegular 70 = .ok (.iload 5, 2) := dk_21 5 (dk_at dksX5_byRegular_3 0 rfl rfl)
theorem dX5_byRegular_72 : decode cX5_byRegular 72 = .ok (.aload_n 0, 1) := dk_42 (dk_at dksX5_byRegular_3 2 rfl rfl)
theorem dX5_byRegular_73 : decode cX5_byRegular 73 = .ok (.iload_n 1, 1) := dk_27 (dk_at dksX5_byRegular_3 3 rfl rfl)
theorem dX5_byRegular_74 : decode cX5_byRegular 74 = .ok (.iload 6, 2) := dk_21 6 (dk_at dksX5_byRegular_3 4 rfl rfl)
theorem dX5_byRegular_76 : decode cX5_byRegular 76 = .ok (.invokevirtual 224, 3) := dk_182 0 224 (dk_at dksX5_byRegular_3 6 rfl rfl)
theorem dX5_byRegular_79 : decode cX5_byRegular 79 = .ok (.iconst 0, 1) := dk_3 (dk_at dksX5_byRegular_3 9 rfl rfl)
theorem dX5_byRegular_80 : decode cX5_byRegular 80 = .ok (.invokevirtual 239, 3) := dk_182 0 239 (dk_at dksX5_byRegular_3 10 rfl rfl)
theorem dX5_byRegular_83 : decode cX5_byRegular 83 = .ok (.istore 5, 2) := dk_54 5 (dk_at dksX5_byRegular_3 13 rfl rfl)
theorem dX5_byRegular_85 : decode cX5_byRegular 85 = .ok (.iinc 6 (-1), 3) := dk_132 6 255 (dk_at dksX5_byRegular_3 15 rfl rfl)
theorem dX5_byRegular_88 : decode cX5_byRegular 88 = .ok (.goto (-26), 3) := dk_167 255 230 (dk_at dksX5_byRegular_3 18 rfl rfl)
theorem dX5_byRegular_91 : decode cX5_byRegular 91 = .ok (.bipush 48, 2) := dk_16 48 (dk_at dksX5_byRegular_3 21 rfl rfl)
theorem dX5_byRegular_93 : decode cX5_byRegular 93 = .ok (.iload_n 1, 1) := dk_27 (dk_at dksX5_byRegular_3 23 rfl rfl)
theorem dX5_byRegular_94 : decode cX5_byRegular 94 = .ok (.imul, 1) := dk_104 (dk_at dksX5_byRegular_4 0 rfl rfl)
theorem dX5_byRegular_95 : decode cX5_byRegular 95 = .ok (.istore 6, 2) := dk_54 6 (dk_at dksX5_byRegular_4 1 rfl rfl)
theorem dX5_byRegular_97 : decode cX5_byRegular 97 = .ok (.iload 6, 2) := dk_21 6 (dk_at dksX5_byRegular_4 3 rfl rfl)
theorem dX5_byRegular_99 : decode cX5_byRegular 99 = .ok (.bipush 48, 2) := dk_16 48 (dk_at dksX5_byRegular_4 5 rfl rfl)
theorem dX5_byRegular_101 : decode cX5_byRegular 101 = .ok (.iload_n 1, 1) := dk_27 (dk_at dksX5_byRegular_4 7 rfl rfl)
theorem dX5_byRegular_102 : decode cX5_byRegular 102 = .ok (.imul, 1) := dk_104 (dk_at dksX5_byRegular_4 8 rfl rfl)
theorem dX5_byRegular_103 : decode cX5_byRegular 103 = .ok (.iconst 3, 1) := dk_6 (dk_at dksX5_byRegular_4 9 rfl rfl)
theorem dX5_byRegular_104 : decode cX5_byRegular 104 = .ok (.aload_n 0, 1) := dk_42 (dk_at dksX5_byRegular_4 10 rfl rfl)
theorem dX5_byRegular_105 : decode cX5_byRegular 105 = .ok (.getfield 56, 3) := dk_180 0 56 (dk_at dksX5_byRegular_4 11 rfl rfl)
theorem dX5_byRegular_108 : decode cX5_byRegular 108 = .ok (.iload_n 1, 1) := dk_27 (dk_at dksX5_byRegular_4 14 rfl rfl)
theorem dX5_byRegular_109 : decode cX5_byRegular 109 = .ok (.iaload, 1) := dk_46 (dk_at dksX5_byRegular_4 15 rfl rfl)
theorem dX5_byRegular_110 : decode cX5_byRegular 110 = .ok (.imul, 1) := dk_104 (dk_at dksX5_byRegular_4 16 rfl rfl)
theorem dX5_byRegular_111 : decode cX5_byRegular 111 = .ok (.iadd, 1) := dk_96 (dk_at dksX5_byRegular_4 17 rfl rfl)
theorem dX5_byRegular_112 : decode cX5_byRegular 112 = .ok (.if_icmp .ge 77, 3) := dk_162 0 77 (dk_at dksX5_byRegular_4 18 rfl rfl)
theorem dX5_byRegular_115 : decode cX5_byRegular 115 = .ok (.iload 4, 2) := dk_21 4 (dk_at dksX5_byRegular_4 21 rfl rfl)
theorem dX5_byRegular_117 : decode cX5_byRegular 117 = .ok (.aload_n 0, 1) := dk_42 (dk_at dksX5_byRegular_4 23 rfl rfl)
theorem dX5_byRegular_118 : decode cX5_byRegular 118 = .ok (.getfield 59, 3) := dk_180 0 59 (dk_at dksX5_byRegular_5 0 rfl rfl)
theorem dX5_byRegular_121 : decode cX5_byRegular 121 = .ok (.iload 6, 2) := dk_21 6 (dk_at dksX5_byRegular_5 3 rfl rfl)
theorem dX5_byRegular_123 : decode cX5_byRegular 123 = .ok (.iaload, 1) := dk_46 (dk_at dksX5_byRegular_5 5 rfl rfl)
theorem dX5_byRegular_124 : decode cX5_byRegular 124 = .ok (.invokestatic 213, 3) := dk_184 0 213 (dk_at dksX5_byRegular_5 6 rfl rfl)
theorem dX5_byRegular_127 : decode cX5_byRegular 127 = .ok (.ifCond .eq 56, 3) := dk_153 0 56 (dk_at dksX5_byRegular_5 9 rfl rfl)
theorem dX5_byRegular_130 : decode cX5_byRegular 130 = .ok (.iload 5, 2) := dk_21 5 (dk_at dksX5_byRegular_5 12 rfl rfl)
theorem dX5_byRegular_132 : decode cX5_byRegular 132 = .ok (.aload_n 0, 1) := dk_42 (dk_at dksX5_byRegular_5 14 rfl rfl)
theorem dX5_byRegular_133 : decode cX5_byRegular 133 = .ok (.getfield 59, 3) := dk_180 0 59 (dk_at dksX5_byRegular_5 15 rfl rfl)
theorem dX5_byRegular_136 : decode cX5_byRegular 136 = .ok (.iload 6, 2) := dk_21 6 (dk_at dksX5_byRegular_5 18 rfl rfl)
theorem dX5_byRegular_138 : decode cX5_byRegular 138 = .ok (.iconst 2, 1) := dk_5 (dk_at dksX5_byRegular_5 20 rfl rfl)
theorem dX5_byRegular_139 : decode cX5_byRegular 139 = .ok (.iadd, 1) := dk_96 (dk_at dksX5_byRegular_5 21 rfl rfl)
theorem dX5_byRegular_140 : decode cX5_byRegular 140 = .ok (.iaload, 1) := dk_46 (dk_at dksX5_byRegular_5 22 rfl rfl)
theorem dX5_byRegular_141 : decode cX5_byRegular 141 = .ok (.invokestatic 213, 3) := dk_184 0 213 (dk_at dksX5_byRegular_6 0 rfl rfl)
theorem dX5_byRegular_144 : decode cX5_byRegular 144 = .ok (.ifCond .eq 39, 3) := dk_153 0 39 (dk_at dksX5_byRegular_6 3 rfl rfl)
theorem dX5_byRegular_147 : decode cX5_byRegular 147 = .ok (.aload_n 0, 1) := dk_42 (dk_at dksX5_byRegular_6 6 rfl rfl)
theorem dX5_byRegular_148 : decode cX5_byRegular 148 = .ok (.iload_n 1, 1) := dk_27 (dk_at dksX5_byRegular_6 7 rfl rfl)
theorem dX5_byRegular_149 : decode cX5_byRegular 149 = .ok (.iload_n 3, 1) := dk_29 (dk_at dksX5_byRegular_6 8 rfl rfl)
theorem dX5_byRegular_150 : decode cX5_byRegular 150 = .ok (.invokevirtual 224, 3) := dk_182 0 224 (dk_at dksX5_byRegular_6 9 rfl rfl)
theorem dX5_byRegular_153 : decode cX5_byRegular 153 = .ok (.aload_n 0, 1) := dk_42 (dk_at dksX5_byRegular_6 12 rfl rfl)
theorem dX5_byRegular_154 : decode cX5_byRegular 154 = .ok (.getfield 59, 3) := dk_180 0 59 (dk_at dksX5_byRegular_6 13 rfl rfl)
theorem dX5_byRegular_157 : decode cX5_byRegular 157 = .ok (.iload 6, 2) := dk_21 6 (dk_at dksX5_byRegular_6 16 rfl rfl)
theorem dX5_byRegular_159 : decode cX5_byRegular 159 = .ok (.iconst 1, 1) := dk_4 (dk_at dksX5_byRegular_6 18 rfl rfl)
theorem dX5_byRegular_160 : decode cX5_byRegular 160 = .ok (.iadd, 1) := dk_96 (dk_at dksX5_byRegular_6 19 rfl rfl)
theorem dX5_byRegular_161 : decode cX5_byRegular 161 = .ok (.iaload, 1) := dk_46 (dk_at dksX5_byRegular_6 20 rfl rfl)
theorem dX5_byRegular_162 : decode cX5_byRegular 162 = .ok (.invokestatic 213, 3) := dk_184 0 213 (dk_at dksX5_byRegular_6 21 rfl rfl)
theorem dX5_byRegular_165 : decode cX5_byRegular 165 = .ok (.ifCond .eq 18, 3) := dk_153 0 18 (dk_at dksX5_byRegular_7 0 rfl rfl)
theorem dX5_byRegular_168 : decode cX5_byRegular 168 = .ok (.aload_n 0, 1) := dk_42 (dk_at dksX5_byRegular_7 3 rfl rfl)
theorem dX5_byRegular_169 : decode cX5_byRegular 169 = .ok (.iload_n 1, 1) := dk_27 (dk_at dksX5_byRegular_7 4 rfl rfl)
theorem dX5_byRegular_170 : decode cX5_byRegular 170 = .ok (.iload_n 3, 1) := dk_29 (dk_at dksX5_byRegular_7 5 rfl rfl)
theorem dX5_byRegular_171 : decode cX5_byRegular 171 = .ok (.aload_n 0, 1) := dk_42 (dk_at dksX5_byRegular_7 6 rfl rfl)
theorem dX5_byRegular_172 : decode cX5_byRegular 172 = .ok (.getfield 59, 3) := dk_180 0 59 (dk_at dksX5_byRegular_7 7 rfl rfl)
theorem dX5_byRegular_175 : decode cX5_byRegular 175 = .ok (.iload 6, 2) := dk_21 6 (dk_at dksX5_byRegular_7 10 rfl rfl)
theorem dX5_byRegular_177 : decode cX5_byRegular 177 = .ok (.iconst 1, 1) := dk_4 (dk_at dksX5_byRegular_7 12 rfl rfl)
theorem dX5_byRegular_178 : decode cX5_byRegular 178 = .ok (.iadd, 1) := dk_96 (dk_at dksX5_byRegular_7 13 rfl rfl)
theorem dX5_byRegular_179 : decode cX5_byRegular 179 = .ok (.iaload, 1) := dk_46 (dk_at dksX5_byRegular_7 14 rfl rfl)
theorem dX5_byRegular_180 : decode cX5_byRegular 180 = .ok (.invokevirtual 220, 3) := dk_182 0 220 (dk_at dksX5_byRegular_7 15 rfl rfl)
theorem dX5_byRegular_183 : decode cX5_byRegular 183 = .ok (.iinc 6 3, 3) := dk_132 6 3 (dk_at dksX5_byRegular_7 18 rfl rfl)
theorem dX5_byRegular_186 : decode cX5_byRegular 186 = .ok (.goto (-89), 3) := dk_167 255 167 (dk_at dksX5_byRegular_7 21 rfl rfl)
theorem dX5_byRegular_189 : decode cX5_byRegular 189 = .ok (.iinc 3 1, 3) := dk_132 3 1 (dk_at dksX5_byRegular_8 0 rfl rfl)
theorem dX5_byRegular_192 : decode cX5_byRegular 192 = .ok (.goto (-183), 3) := dk_167 255 73 (dk_at dksX5_byRegular_8 3 rfl rfl)
theorem dX5_byRegular_195 : decode cX5_byRegular 195 = .ok (.return_, 1) := dk_177 (dk_at dksX5_byRegular_8 6 rfl rfl)
def dkwX5_stepped_4 : List UInt8 := [4, 21, 8, 120, 167, 0, 4, 3, 128, 54, 5, 132, 6, 3, 167, 255, 155, 21, 5, 172]
abbrev dktX5_stepped_4 : List UInt8 := dkwX5_stepped_4 ++ []
def dkwX5_stepped_3 : List UInt8 := [21, 7, 184, 0, 213, 153, 0, 26, 29, 42, 180, 0, 59, 21, 6, 4, 96, 46, 184, 0, 213, 153, 0, 10]
abbrev dktX5_stepped_3 : List UInt8 := dkwX5_stepped_3 ++ dktX5_stepped_4
def dkwX5_stepped_2 : List UInt8 := [42, 180, 0, 59, 21, 4, 153, 0, 10, 21, 6, 5, 96, 167, 0, 5, 21, 6, 46, 54, 8, 21, 5, 28]
abbrev dktX5_stepped_2 : List UInt8 := dkwX5_stepped_2 ++ dktX5_stepped_3
def dkwX5_stepped_1 : List UInt8 := [162, 0, 89, 42, 180, 0, 59, 21, 4, 153, 0, 8, 21, 6, 167, 0, 7, 21, 6, 5, 96, 46, 54, 7]
abbrev dktX5_stepped_1 : List UInt8 := dkwX5_stepped_1 ++ dktX5_stepped_2
def dkwX5_stepped_0 : List UInt8 := [3, 54, 5, 16, 48, 27, 104, 54, 6, 21, 6, 16, 48, 27, 104, 6, 42, 180, 0, 56, 27, 46, 104, 96]
abbrev dktX5_stepped_0 : List UInt8 := dkwX5_stepped_0 ++ dktX5_stepped_1
theorem dksX5_stepped_0 : cX5_stepped.data.toList.drop 0 = dktX5_stepped_0 := by decide +kernel
theorem dksX5_stepped_1 : cX5_stepped.data.toList.drop 24 = dktX5_stepped_1 := dk_seg dksX5_stepped_0 24 rfl rfl
theorem dksX5_stepped_2 : cX5_stepped.data.toList.drop 48 = dktX5_stepped_2 := dk_seg dksX5_stepped_1 24 rfl rfl
theorem dksX5_stepped_3 : cX5_stepped.data.toList.drop 72 = dktX5_stepped_3 := dk_seg dksX5_stepped_2 24 rfl rfl
theorem dksX5_stepped_4 : cX5_stepped.data.toList.drop 96 = dktX5_stepped_4 := dk_seg dksX5_stepped_3 24 rfl rfl
theorem dX5_stepped_0 : decode cX5_stepped 0 = .ok (.iconst 0, 1) := dk_3 (dk_at dksX5_stepped_0 0 rfl rfl)
theorem dX5_stepped_1 : decode cX5_stepped 1 = .ok (.istore 5, 2) := dk_54 5 (dk_at dksX5_stepped_0 1 rfl rfl)
theorem dX5_stepped_3 : decode cX5_stepped 3 = .ok (.bipush 48, 2) := dk_16 48 (dk_at dksX5_stepped_0 3 rfl rfl)
theorem dX5_stepped_5 : decode cX5_stepped 5 = .ok (.iload_n 1, 1) := dk_27 (dk_at dksX5_stepped_0 5 rfl rfl)
theorem dX5_stepped_6 : decode cX5_stepped 6 = .ok (.imul, 1) := dk_104 (dk_at dksX5_stepped_0 6 rfl rfl)
theorem dX5_stepped_7 : decode cX5_stepped 7 = .ok (.istore 6, 2) := dk_54 6 (dk_at dksX5_stepped_0 7 rfl rfl)
theorem dX5_stepped_9 : decode cX5_stepped 9 = .ok (.iload 6, 2) := dk_21 6 (dk_at dksX5_stepped_0 9 rfl rfl)
theorem dX5_stepped_11 : decode cX5_stepped 11 = .ok (.bipush 48, 2) := dk_16 48 (dk_at dksX5_stepped_0 11 rfl rfl)
theorem dX5_stepped_13 : decode cX5_stepped 13 = .ok (.iload_n 1, 1) := dk_27 (dk_at dksX5_stepped_0 13 rfl rfl)
theorem dX5_stepped_14 : decode cX5_stepped 14 = .ok (.imul, 1) := dk_104 (dk_at dksX5_stepped_0 14 rfl rfl)
theorem dX5_stepped_15 : decode cX5_stepped 15 = .ok (.iconst 3, 1) := dk_6 (dk_at dksX5_stepped_0 15 rfl rfl)
theorem dX5_stepped_16 : decode cX5_stepped 16 = .ok (.aload_n 0, 1) := dk_42 (dk_at dksX5_stepped_0 16 rfl rfl)
theorem dX5_stepped_17 : decode cX5_stepped 17 = .ok (.getfield 56, 3) := dk_180 0 56 (dk_at dksX5_stepped_0 17 rfl rfl)
theorem dX5_stepped_20 : decode cX5_stepped 20 = .ok (.iload_n 1, 1) := dk_27 (dk_at dksX5_stepped_0 20 rfl rfl)
theorem dX5_stepped_21 : decode cX5_stepped 21 = .ok (.iaload, 1) := dk_46 (dk_at dksX5_stepped_0 21 rfl rfl)
theorem dX5_stepped_22 : decode cX5_stepped 22 = .ok (.imul, 1) := dk_104 (dk_at dksX5_stepped_0 22 rfl rfl)
theorem dX5_stepped_23 : decode cX5_stepped 23 = .ok (.iadd, 1) := dk_96 (dk_at dksX5_stepped_0 23 rfl rfl)
theorem dX5_stepped_24 : decode cX5_stepped 24 = .ok (.if_icmp .ge 89, 3) := dk_162 0 89 (dk_at dksX5_stepped_1 0 rfl rfl)
theorem dX5_stepped_27 : decode cX5_stepped 27 = .ok (.aload_n 0, 1) := dk_42 (dk_at dksX5_stepped_1 3 rfl rfl)
theorem dX5_stepped_28 : decode cX5_stepped 28 = .ok (.getfield 59, 3) := dk_180 0 59 (dk_at dksX5_stepped_1 4 rfl rfl)
theorem dX5_stepped_31 : decode cX5_stepped 31 = .ok (.iload 4, 2) := dk_21 4 (dk_at dksX5_stepped_1 7 rfl rfl)
theorem dX5_stepped_33 : decode cX5_stepped 33 = .ok (.ifCond .eq 8, 3) := dk_153 0 8 (dk_at dksX5_stepped_1 9 rfl rfl)
theorem dX5_stepped_36 : decode cX5_stepped 36 = .ok (.iload 6, 2) := dk_21 6 (dk_at dksX5_stepped_1 12 rfl rfl)
theorem dX5_stepped_38 : decode cX5_stepped 38 = .ok (.goto 7, 3) := dk_167 0 7 (dk_at dksX5_stepped_1 14 rfl rfl)
theorem dX5_stepped_41 : decode cX5_stepped 41 = .ok (.iload 6, 2) := dk_21 6 (dk_at dksX5_stepped_1 17 rfl rfl)
theorem dX5_stepped_43 : decode cX5_stepped 43 = .ok (.iconst 2, 1) := dk_5 (dk_at dksX5_stepped_1 19 rfl rfl)
theorem dX5_stepped_44 : decode cX5_stepped 44 = .ok (.iadd, 1) := dk_96 (dk_at dksX5_stepped_1 20 rfl rfl)
theorem dX5_stepped_45 : decode cX5_stepped 45 = .ok (.iaload, 1) := dk_46 (dk_at dksX5_stepped_1 21 rfl rfl)
theorem dX5_stepped_46 : decode cX5_stepped 46 = .ok (.istore 7, 2) := dk_54 7 (dk_at dksX5_stepped_1 22 rfl rfl)
theorem dX5_stepped_48 : decode cX5_stepped 48 = .ok (.aload_n 0, 1) := dk_42 (dk_at dksX5_stepped_2 0 rfl rfl)
theorem dX5_stepped_49 : decode cX5_stepped 49 = .ok (.getfield 59, 3) := dk_180 0 59 (dk_at dksX5_stepped_2 1 rfl rfl)
theorem dX5_stepped_52 : decode cX5_stepped 52 = .ok (.iload 4, 2) := dk_21 4 (dk_at dksX5_stepped_2 4 rfl rfl)
theorem dX5_stepped_54 : decode cX5_stepped 54 = .ok (.ifCond .eq 10, 3) := dk_153 0 10 (dk_at dksX5_stepped_2 6 rfl rfl)
theorem dX5_stepped_57 : decode cX5_stepped 57 = .ok (.iload 6, 2) := dk_21 6 (dk_at dksX5_stepped_2 9 rfl rfl)
theorem dX5_stepped_59 : decode cX5_stepped 59 = .ok (.iconst 2, 1) := dk_5 (dk_at dksX5_stepped_2 11 rfl rfl)
theorem dX5_stepped_60 : decode cX5_stepped 60 = .ok (.iadd, 1) := dk_96 (dk_at dksX5_stepped_2 12 rfl rfl)
theorem dX5_stepped_61 : decode cX5_stepped 61 = .ok (.goto 5, 3) := dk_167 0 5 (dk_at dksX5_stepped_2 13 rfl rfl)
theorem dX5_stepped_64 : decode cX5_stepped 64 = .ok (.iload 6, 2) := dk_21 6 (dk_at dksX5_stepped_2 16 rfl rfl)
theorem dX5_stepped_66 : decode cX5_stepped 66 = .ok (.iaload, 1) := dk_46 (dk_at dksX5_stepped_2 18 rfl rfl)
theorem dX5_stepped_67 : decode cX5_stepped 67 = .ok (.istore 8, 2) := dk_54 8 (dk_at dksX5_stepped_2 19 rfl rfl)
theorem dX5_stepped_69 : decode cX5_stepped 69 = .ok (.iload 5, 2) := dk_21 5 (dk_at dksX5_stepped_2 21 rfl rfl)
theorem dX5_stepped_71 : decode cX5_stepped 71 = .ok (.iload_n 2, 1) := dk_28 (dk_at dksX5_stepped_2 23 rfl rfl)
theorem dX5_stepped_72 : decode cX5_stepped 72 = .ok (.iload 7, 2) := dk_21 7 (dk_at dksX5_stepped_3 0 rfl rfl)
theorem dX5_stepped_74 : decode cX5_stepped 74 = .ok (.invokestatic 213, 3) := dk_184 0 213 (dk_at dksX5_stepped_3 2 rfl rfl)
theorem dX5_stepped_77 : decode cX5_stepped 77 = .ok (.ifCond .eq 26, 3) := dk_153 0 26 (dk_at dksX5_stepped_3 5 rfl rfl)
theorem dX5_stepped_80 : decode cX5_stepped 80 = .ok (.iload_n 3, 1) := dk_29 (dk_at dksX5_stepped_3 8 rfl rfl)
theorem dX5_stepped_81 : decode cX5_stepped 81 = .ok (.aload_n 0, 1) := dk_42 (dk_at dksX5_stepped_3 9 rfl rfl)
theorem dX5_stepped_82 : decode cX5_stepped 82 = .ok (.getfield 59, 3) := dk_180 0 59 (dk_at dksX5_stepped_3 10 rfl rfl)
theorem dX5_stepped_85 : decode cX5_stepped 85 = .ok (.iload 6, 2) := dk_21 6 (dk_at dksX5_stepped_3 13 rfl rfl)
theorem dX5_stepped_87 : decode cX5_stepped 87 = .ok (.iconst 1, 1) := dk_4 (dk_at dksX5_stepped_3 15 rfl rfl)
theorem dX5_stepped_88 : decode cX5_stepped 88 = .ok (.iadd, 1) := dk_96 (dk_at dksX5_stepped_3 16 rfl rfl)
theorem dX5_stepped_89 : decode cX5_stepped 89 = .ok (.iaload, 1) := dk_46 (dk_at dksX5_stepped_3 17 rfl rfl)
theorem dX5_stepped_90 : decode cX5_stepped 90 = .ok (.invokestatic 213, 3) := dk_184 0 213 (dk_at dksX5_stepped_3 18 rfl rfl)
theorem dX5_stepped_93 : decode cX5_stepped 93 = .ok (.ifCond .eq 10, 3) := dk_153 0 10 (dk_at dksX5_stepped_3 21 rfl rfl)
theorem dX5_stepped_96 : decode cX5_stepped 96 = .ok (.iconst 1, 1) := dk_4 (dk_at dksX5_stepped_4 0 rfl rfl)
theorem dX5_stepped_97 : decode cX5_stepped 97 = .ok (.iload 8, 2) := dk_21 8 (dk_at dksX5_stepped_4 1 rfl rfl)
theorem dX5_stepped_99 : decode cX5_stepped 99 = .ok (.ishl, 1) := dk_120 (dk_at dksX5_stepped_4 3 rfl rfl)
theorem dX5_stepped_100 : decode cX5_stepped 100 = .ok (.goto 4, 3) := dk_167 0 4 (dk_at dksX5_stepped_4 4 rfl rfl)
theorem dX5_stepped_103 : decode cX5_stepped 103 = .ok (.iconst 0, 1) := dk_3 (dk_at dksX5_stepped_4 7 rfl rfl)
theorem dX5_stepped_104 : decode cX5_stepped 104 = .ok (.ior, 1) := dk_128 (dk_at dksX5_stepped_4 8 rfl rfl)
theorem dX5_stepped_105 : decode cX5_stepped 105 = .ok (.istore 5, 2) := dk_54 5 (dk_at dksX5_stepped_4 9 rfl rfl)
theorem dX5_stepped_107 : decode cX5_stepped 107 = .ok (.iinc 6 3, 3) := dk_132 6 3 (dk_at dksX5_stepped_4 11 rfl rfl)
theorem dX5_stepped_110 : decode cX5_stepped 110 = .ok (.goto (-101), 3) := dk_167 255 155 (dk_at dksX5_stepped_4 14 rfl rfl)
theorem dX5_stepped_113 : decode cX5_stepped 113 = .ok (.iload 5, 2) := dk_21 5 (dk_at dksX5_stepped_4 17 rfl rfl)
theorem dX5_stepped_115 : decode cX5_stepped 115 = .ok (.ireturn, 1) := dk_172 (dk_at dksX5_stepped_4 19 rfl rfl)
def dkwX5_byElement_9 : List UInt8 := [167, 0, 4, 3, 79, 132, 6, 1, 167, 255, 175, 177]
abbrev dktX5_byElement_9 : List UInt8 := dkwX5_byElement_9 ++ []
def dkwX5_byElement_8 : List UInt8 := [21, 7, 153, 0, 8, 21, 8, 167, 0, 21, 21, 4, 21, 6, 184, 0, 213, 153, 0, 10, 21, 8, 29, 126]
abbrev dktX5_byElement_8 : List UInt8 := dkwX5_byElement_8 ++ dktX5_byElement_9
def dkwX5_byElement_7 : List UInt8 := [27, 21, 6, 5, 96, 182, 0, 224, 54, 8, 42, 180, 0, 102, 16, 8, 27, 104, 21, 6, 96, 5, 96]
abbrev dktX5_byElement_7 : List UInt8 := dkwX5_byElement_7 ++ dktX5_byElement_8
def dkwX5_byElement_6 : List UInt8 := [28, 162, 0, 81, 21, 5, 4, 21, 6, 120, 2, 130, 126, 153, 0, 7, 4, 167, 0, 4, 3, 54, 7, 42]
abbrev dktX5_byElement_6 : List UInt8 := dkwX5_byElement_6 ++ dktX5_byElement_7
def dkwX5_byElement_5 : List UInt8 := [132, 6, 1, 167, 255, 166, 42, 180, 0, 102, 16, 8, 27, 104, 4, 96, 21, 5, 79, 3, 54, 6, 21, 6]
abbrev dktX5_byElement_5 : List UInt8 := dkwX5_byElement_5 ++ dktX5_byElement_6
def dkwX5_byElement_4 : List UInt8 := [21, 7, 153, 0, 17, 29, 42, 27, 21, 6, 5, 96, 182, 0, 224, 126, 167, 0, 4, 3, 128, 79]
abbrev dktX5_byElement_4 : List UInt8 := dkwX5_byElement_4 ++ dktX5_byElement_5
def dkwX5_byElement_3 : List UInt8 := [153, 0, 10, 4, 21, 6, 120, 167, 0, 4, 3, 128, 54, 5, 42, 180, 0, 102, 16, 8, 27, 104, 92, 46]
abbrev dktX5_byElement_3 : List UInt8 := dkwX5_byElement_3 ++ dktX5_byElement_4
def dkwX5_byElement_2 : List UInt8 := [27, 21, 6, 5, 96, 182, 0, 224, 126, 153, 0, 7, 4, 167, 0, 4, 3, 54, 7, 21, 5, 21, 7]
abbrev dktX5_byElement_2 : List UInt8 := dkwX5_byElement_2 ++ dktX5_byElement_3
def dkwX5_byElement_1 : List UInt8 := [3, 54, 5, 3, 54, 6, 21, 6, 28, 162, 0, 90, 21, 4, 21, 6, 184, 0, 213, 153, 0, 21, 29, 42]
abbrev dktX5_byElement_1 : List UInt8 := dkwX5_byElement_1 ++ dktX5_byElement_2
def dkwX5_byElement_0 : List UInt8 := [42, 180, 0, 44, 27, 46, 5, 100, 61, 42, 27, 3, 182, 0, 224, 62, 42, 27, 4, 182, 0, 224, 54, 4]
abbrev dktX5_byElement_0 : List UInt8 := dkwX5_byElement_0 ++ dktX5_byElement_1
theorem dksX5_byElement_0 : cX5_byElement.data.toList.drop 0 = dktX5_byElement_0 := by decide +kernel
theorem dksX5_byElement_1 : cX5_byElement.data.toList.drop 24 = dktX5_byElement_1 := dk_seg dksX5_byElement_0 24 rfl rfl
theorem dksX5_byElement_2 : cX5_byElement.data.toList.drop 48 = dktX5_byElement_2 := dk_seg dksX5_byElement_1 24 rfl rfl
theorem dksX5_byElement_3 : cX5_byElement.data.toList.drop 71 = dktX5_byElement_3 := dk_seg dksX5_byElement_2 23 rfl rfl
theorem dksX5_byElement_4 : cX5_byElement.data.toList.drop 95 = dktX5_byElement_4 := dk_seg dksX5_byElement_3 24 rfl rfl
theorem dksX5_byElement_5 : cX5_byElement.data.toList.drop 117 = dktX5_byElement_5 := dk_seg dksX5_byElement_4 22 rfl rfl
theorem dksX5_byElement_6 : cX5_byElement.data.toList.drop 141 = dktX5_byElement_6 := dk_seg dksX5_byElement_5 24 rfl rfl
theorem dksX5_byElement_7 : cX5_byElement.data.toList.drop 165 = dktX5_byElement_7 := dk_seg dksX5_byElement_6 24 rfl rfl
theorem dksX5_byElement_8 : cX5_byElement.data.toList.drop 188 = dktX5_byElement_8 := dk_seg dksX5_byElement_7 23 rfl rfl
theorem dksX5_byElement_9 : cX5_byElement.data.toList.drop 212 = dktX5_byElement_9 := dk_seg dksX5_byElement_8 24 rfl rfl
theorem dX5_byElement_0 : decode cX5_byElement 0 = .ok (.aload_n 0, 1) := dk_42 (dk_at dksX5_byElement_0 0 rfl rfl)
theorem dX5_byElement_1 : decode cX5_byElement 1 = .ok (.getfield 44, 3) := dk_180 0 44 (dk_at dksX5_byElement_0 1 rfl rfl)
theorem dX5_byElement_4 : decode cX5_byElement 4 = .ok (.iload_n 1, 1) := dk_27 (dk_at dksX5_byElement_0 4 rfl rfl)
theorem dX5_byElement_5 : decode cX5_byElement 5 = .ok (.iaload, 1) := dk_46 (dk_at dksX5_byElement_0 5 rfl rfl)
theorem dX5_byElement_6 : decode cX5_byElement 6 = .ok (.iconst 2, 1) := dk_5 (dk_at dksX5_byElement_0 6 rfl rfl)
theorem dX5_byElement_7 : decode cX5_byElement 7 = .ok (.isub, 1) := dk_100 (dk_at dksX5_byElement_0 7 rfl rfl)
theorem dX5_byElement_8 : decode cX5_byElement 8 = .ok (.istore_n 2, 1) := dk_61 (dk_at dksX5_byElement_0 8 rfl rfl)
theorem dX5_byElement_9 : decode cX5_byElement 9 = .ok (.aload_n 0, 1) := dk_42 (dk_at dksX5_byElement_0 9 rfl rfl)
theorem dX5_byElement_10 : decode cX5_byElement 10 = .ok (.iload_n 1, 1) := dk_27 (dk_at dksX5_byElement_0 10 rfl rfl)
theorem dX5_byElement_11 : decode cX5_byElement 11 = .ok (.iconst 0, 1) := dk_3 (dk_at dksX5_byElement_0 11 rfl rfl)
theorem dX5_byElement_12 : decode cX5_byElement 12 = .ok (.invokevirtual 224, 3) := dk_182 0 224 (dk_at dksX5_byElement_0 12 rfl rfl)
theorem dX5_byElement_15 : decode cX5_byElement 15 = .ok (.istore_n 3, 1) := dk_62 (dk_at dksX5_byElement_0 15 rfl rfl)
theorem dX5_byElement_16 : decode cX5_byElement 16 = .ok (.aload_n 0, 1) := dk_42 (dk_at dksX5_byElement_0 16 rfl rfl)
theorem dX5_byElement_17 : decode cX5_byElement 17 = .ok (.iload_n 1, 1) := dk_27 (dk_at dksX5_byElement_0 17 rfl rfl)
theorem dX5_byElement_18 : decode cX5_byElement 18 = .ok (.iconst 1, 1) := dk_4 (dk_at dksX5_byElement_0 18 rfl rfl)
theorem dX5_byElement_19 : decode cX5_byElement 19 = .ok (.invokevirtual 224, 3) := dk_182 0 224 (dk_at dksX5_byElement_0 19 rfl rfl)
theorem dX5_byElement_22 : decode cX5_byElement 22 = .ok (.istore 4, 2) := dk_54 4 (dk_at dksX5_byElement_0 22 rfl rfl)
theorem dX5_byElement_24 : decode cX5_byElement 24 = .ok (.iconst 0, 1) := dk_3 (dk_at dksX5_byElement_1 0 rfl rfl)
theorem dX5_byElement_25 : decode cX5_byElement 25 = .ok (.istore 5, 2) := dk_54 5 (dk_at dksX5_byElement_1 1 rfl rfl)
theorem dX5_byElement_27 : decode cX5_byElement 27 = .ok (.iconst 0, 1) := dk_3 (dk_at dksX5_byElement_1 3 rfl rfl)
theorem dX5_byElement_28 : decode cX5_byElement 28 = .ok (.istore 6, 2) := dk_54 6 (dk_at dksX5_byElement_1 4 rfl rfl)
theorem dX5_byElement_30 : decode cX5_byElement 30 = .ok (.iload 6, 2) := dk_21 6 (dk_at dksX5_byElement_1 6 rfl rfl)
theorem dX5_byElement_32 : decode cX5_byElement 32 = .ok (.iload_n 2, 1) := dk_28 (dk_at dksX5_byElement_1 8 rfl rfl)
theorem dX5_byElement_33 : decode cX5_byElement 33 = .ok (.if_icmp .ge 90, 3) := dk_162 0 90 (dk_at dksX5_byElement_1 9 rfl rfl)
theorem dX5_byElement_36 : decode cX5_byElement 36 = .ok (.iload 4, 2) := dk_21 4 (dk_at dksX5_byElement_1 12 rfl rfl)
theorem dX5_byElement_38 : decode cX5_byElement 38 = .ok (.iload 6, 2) := dk_21 6 (dk_at dksX5_byElement_1 14 rfl rfl)
theorem dX5_byElement_40 : decode cX5_byElement 40 = .ok (.invokestatic 213, 3) := dk_184 0 213 (dk_at dksX5_byElement_1 16 rfl rfl)
theorem dX5_byElement_43 : decode cX5_byElement 43 = .ok (.ifCond .eq 21, 3) := dk_153 0 21 (dk_at dksX5_byElement_1 19 rfl rfl)
theorem dX5_byElement_46 : decode cX5_byElement 46 = .ok (.iload_n 3, 1) := dk_29 (dk_at dksX5_byElement_1 22 rfl rfl)
theorem dX5_byElement_47 : decode cX5_byElement 47 = .ok (.aload_n 0, 1) := dk_42 (dk_at dksX5_byElement_1 23 rfl rfl)
theorem dX5_byElement_48 : decode cX5_byElement 48 = .ok (.iload_n 1, 1) := dk_27 (dk_at dksX5_byElement_2 0 rfl rfl)
theorem dX5_byElement_49 : decode cX5_byElement 49 = .ok (.iload 6, 2) := dk_21 6 (dk_at dksX5_byElement_2 1 rfl rfl)
theorem dX5_byElement_51 : decode cX5_byElement 51 = .ok (.iconst 2, 1) := dk_5 (dk_at dksX5_byElement_2 3 rfl rfl)
theorem dX5_byElement_52 : decode cX5_byElement 52 = .ok (.iadd, 1) := dk_96 (dk_at dksX5_byElement_2 4 rfl rfl)
theorem dX5_byElement_53 : decode cX5_byElement 53 = .ok (.invokevirtual 224, 3) := dk_182 0 224 (dk_at dksX5_byElement_2 5 rfl rfl)
theorem dX5_byElement_56 : decode cX5_byElement 56 = .ok (.iand, 1) := dk_126 (dk_at dksX5_byElement_2 8 rfl rfl)
theorem dX5_byElement_57 : decode cX5_byElement 57 = .ok (.ifCond .eq 7, 3) := dk_153 0 7 (dk_at dksX5_byElement_2 9 rfl rfl)
theorem dX5_byElement_60 : decode cX5_byElement 60 = .ok (.iconst 1, 1) := dk_4 (dk_at dksX5_byElement_2 12 rfl rfl)
theorem dX5_byElement_61 : decode cX5_byElement 61 = .ok (.goto 4, 3) := dk_167 0 4 (dk_at dksX5_byElement_2 13 rfl rfl)
theorem dX5_byElement_64 : decode cX5_byElement 64 = .ok (.iconst 0, 1) := dk_3 (dk_at dksX5_byElement_2 16 rfl rfl)
theorem dX5_byElement_65 : decode cX5_byElement 65 = .ok (.istore 7, 2) := dk_54 7 (dk_at dksX5_byElement_2 17 rfl rfl)
theorem dX5_byElement_67 : decode cX5_byElement 67 = .ok (.iload 5, 2) := dk_21 5 (dk_at dksX5_byElement_2 19 rfl rfl)
theorem dX5_byElement_69 : decode cX5_byElement 69 = .ok (.iload 7, 2) := dk_21 7 (dk_at dksX5_byElement_2 21 rfl rfl)
theorem dX5_byElement_71 : decode cX5_byElement 71 = .ok (.ifCond .eq 10, 3) := dk_153 0 10 (dk_at dksX5_byElement_3 0 rfl rfl)
theorem dX5_byElement_74 : decode cX5_byElement 74 = .ok (.iconst 1, 1) := dk_4 (dk_at dksX5_byElement_3 3 rfl rfl)
theorem dX5_byElement_75 : decode cX5_byElement 75 = .ok (.iload 6, 2) := dk_21 6 (dk_at dksX5_byElement_3 4 rfl rfl)
theorem dX5_byElement_77 : decode cX5_byElement 77 = .ok (.ishl, 1) := dk_120 (dk_at dksX5_byElement_3 6 rfl rfl)
theorem dX5_byElement_78 : decode cX5_byElement 78 = .ok (.goto 4, 3) := dk_167 0 4 (dk_at dksX5_byElement_3 7 rfl rfl)
theorem dX5_byElement_81 : decode cX5_byElement 81 = .ok (.iconst 0, 1) := dk_3 (dk_at dksX5_byElement_3 10 rfl rfl)
theorem dX5_byElement_82 : decode cX5_byElement 82 = .ok (.ior, 1) := dk_128 (dk_at dksX5_byElement_3 11 rfl rfl)
theorem dX5_byElement_83 : decode cX5_byElement 83 = .ok (.istore 5, 2) := dk_54 5 (dk_at dksX5_byElement_3 12 rfl rfl)
theorem dX5_byElement_85 : decode cX5_byElement 85 = .ok (.aload_n 0, 1) := dk_42 (dk_at dksX5_byElement_3 14 rfl rfl)
theorem dX5_byElement_86 : decode cX5_byElement 86 = .ok (.getfield 102, 3) := dk_180 0 102 (dk_at dksX5_byElement_3 15 rfl rfl)
theorem dX5_byElement_89 : decode cX5_byElement 89 = .ok (.bipush 8, 2) := dk_16 8 (dk_at dksX5_byElement_3 18 rfl rfl)
theorem dX5_byElement_91 : decode cX5_byElement 91 = .ok (.iload_n 1, 1) := dk_27 (dk_at dksX5_byElement_3 20 rfl rfl)
theorem dX5_byElement_92 : decode cX5_byElement 92 = .ok (.imul, 1) := dk_104 (dk_at dksX5_byElement_3 21 rfl rfl)
theorem dX5_byElement_93 : decode cX5_byElement 93 = .ok (.dup2, 1) := dk_92 (dk_at dksX5_byElement_3 22 rfl rfl)
theorem dX5_byElement_94 : decode cX5_byElement 94 = .ok (.iaload, 1) := dk_46 (dk_at dksX5_byElement_3 23 rfl rfl)
theorem dX5_byElement_95 : decode cX5_byElement 95 = .ok (.iload 7, 2) := dk_21 7 (dk_at dksX5_byElement_4 0 rfl rfl)
theorem dX5_byElement_97 : decode cX5_byElement 97 = .ok (.ifCond .eq 17, 3) := dk_153 0 17 (dk_at dksX5_byElement_4 2 rfl rfl)
theorem dX5_byElement_100 : decode cX5_byElement 100 = .ok (.iload_n 3, 1) := dk_29 (dk_at dksX5_byElement_4 5 rfl rfl)
theorem dX5_byElement_101 : decode cX5_byElement 101 = .ok (.aload_n 0, 1) := dk_42 (dk_at dksX5_byElement_4 6 rfl rfl)
theorem dX5_byElement_102 : decode cX5_byElement 102 = .ok (.iload_n 1, 1) := dk_27 (dk_at dksX5_byElement_4 7 rfl rfl)
theorem dX5_byElement_103 : decode cX5_byElement 103 = .ok (.iload 6, 2) := dk_21 6 (dk_at dksX5_byElement_4 8 rfl rfl)
theorem dX5_byElement_105 : decode cX5_byElement 105 = .ok (.iconst 2, 1) := dk_5 (dk_at dksX5_byElement_4 10 rfl rfl)
theorem dX5_byElement_106 : decode cX5_byElement 106 = .ok (.iadd, 1) := dk_96 (dk_at dksX5_byElement_4 11 rfl rfl)
theorem dX5_byElement_107 : decode cX5_byElement 107 = .ok (.invokevirtual 224, 3) := dk_182 0 224 (dk_at dksX5_byElement_4 12 rfl rfl)
theorem dX5_byElement_110 : decode cX5_byElement 110 = .ok (.iand, 1) := dk_126 (dk_at dksX5_byElement_4 15 rfl rfl)
theorem dX5_byElement_111 : decode cX5_byElement 111 = .ok (.goto 4, 3) := dk_167 0 4 (dk_at dksX5_byElement_4 16 rfl rfl)
theorem dX5_byElement_114 : decode cX5_byElement 114 = .ok (.iconst 0, 1) := dk_3 (dk_at dksX5_byElement_4 19 rfl rfl)
theorem dX5_byElement_115 : decode cX5_byElement 115 = .ok (.ior, 1) := dk_128 (dk_at dksX5_byElement_4 20 rfl rfl)
theorem dX5_byElement_116 : decode cX5_byElement 116 = .ok (.iastore, 1) := dk_79 (dk_at dksX5_byElement_4 21 rfl rfl)
theorem dX5_byElement_117 : decode cX5_byElement 117 = .ok (.iinc 6 1, 3) := dk_132 6 1 (dk_at dksX5_byElement_5 0 rfl rfl)
theorem dX5_byElement_120 : decode cX5_byElement 120 = .ok (.goto (-90), 3) := dk_167 255 166 (dk_at dksX5_byElement_5 3 rfl rfl)
theorem dX5_byElement_123 : decode cX5_byElement 123 = .ok (.aload_n 0, 1) := dk_42 (dk_at dksX5_byElement_5 6 rfl rfl)
theorem dX5_byElement_124 : decode cX5_byElement 124 = .ok (.getfield 102, 3) := dk_180 0 102 (dk_at dksX5_byElement_5 7 rfl rfl)
theorem dX5_byElement_127 : decode cX5_byElement 127 = .ok (.bipush 8, 2) := dk_16 8 (dk_at dksX5_byElement_5 10 rfl rfl)
theorem dX5_byElement_129 : decode cX5_byElement 129 = .ok (.iload_n 1, 1) := dk_27 (dk_at dksX5_byElement_5 12 rfl rfl)
theorem dX5_byElement_130 : decode cX5_byElement 130 = .ok (.imul, 1) := dk_104 (dk_at dksX5_byElement_5 13 rfl rfl)
theorem dX5_byElement_131 : decode cX5_byElement 131 = .ok (.iconst 1, 1) := dk_4 (dk_at dksX5_byElement_5 14 rfl rfl)
theorem dX5_byElement_132 : decode cX5_byElement 132 = .ok (.iadd, 1) := dk_96 (dk_at dksX5_byElement_5 15 rfl rfl)
theorem dX5_byElement_133 : decode cX5_byElement 133 = .ok (.iload 5, 2) := dk_21 5 (dk_at dksX5_byElement_5 16 rfl rfl)
theorem dX5_byElement_135 : decode cX5_byElement 135 = .ok (.iastore, 1) := dk_79 (dk_at dksX5_byElement_5 18 rfl rfl)
theorem dX5_byElement_136 : decode cX5_byElement 136 = .ok (.iconst 0, 1) := dk_3 (dk_at dksX5_byElement_5 19 rfl rfl)
theorem dX5_byElement_137 : decode cX5_byElement 137 = .ok (.istore 6, 2) := dk_54 6 (dk_at dksX5_byElement_5 20 rfl rfl)
theorem dX5_byElement_139 : decode cX5_byElement 139 = .ok (.iload 6, 2) := dk_21 6 (dk_at dksX5_byElement_5 22 rfl rfl)
theorem dX5_byElement_141 : decode cX5_byElement 141 = .ok (.iload_n 2, 1) := dk_28 (dk_at dksX5_byElement_6 0 rfl rfl)
theorem dX5_byElement_142 : decode cX5_byElement 142 = .ok (.if_icmp .ge 81, 3) := dk_162 0 81 (dk_at dksX5_byElement_6 1 rfl rfl)
theorem dX5_byElement_145 : decode cX5_byElement 145 = .ok (.iload 5, 2) := dk_21 5 (dk_at dksX5_byElement_6 4 rfl rfl)
theorem dX5_byElement_147 : decode cX5_byElement 147 = .ok (.iconst 1, 1) := dk_4 (dk_at dksX5_byElement_6 6 rfl rfl)
theorem dX5_byElement_148 : decode cX5_byElement 148 = .ok (.iload 6, 2) := dk_21 6 (dk_at dksX5_byElement_6 7 rfl rfl)
theorem dX5_byElement_150 : decode cX5_byElement 150 = .ok (.ishl, 1) := dk_120 (dk_at dksX5_byElement_6 9 rfl rfl)
theorem dX5_byElement_151 : decode cX5_byElement 151 = .ok (.iconst (-1), 1) := dk_2 (dk_at dksX5_byElement_6 10 rfl rfl)
theorem dX5_byElement_152 : decode cX5_byElement 152 = .ok (.ixor, 1) := dk_130 (dk_at dksX5_byElement_6 11 rfl rfl)
theorem dX5_byElement_153 : decode cX5_byElement 153 = .ok (.iand, 1) := dk_126 (dk_at dksX5_byElement_6 12 rfl rfl)
theorem dX5_byElement_154 : decode cX5_byElement 154 = .ok (.ifCond .eq 7, 3) := dk_153 0 7 (dk_at dksX5_byElement_6 13 rfl rfl)
theorem dX5_byElement_157 : decode cX5_byElement 157 = .ok (.iconst 1, 1) := dk_4 (dk_at dksX5_byElement_6 16 rfl rfl)
theorem dX5_byElement_158 : decode cX5_byElement 158 = .ok (.goto 4, 3) := dk_167 0 4 (dk_at dksX5_byElement_6 17 rfl rfl)
theorem dX5_byElement_161 : decode cX5_byElement 161 = .ok (.iconst 0, 1) := dk_3 (dk_at dksX5_byElement_6 20 rfl rfl)
theorem dX5_byElement_162 : decode cX5_byElement 162 = .ok (.istore 7, 2) := dk_54 7 (dk_at dksX5_byElement_6 21 rfl rfl)
theorem dX5_byElement_164 : decode cX5_byElement 164 = .ok (.aload_n 0, 1) := dk_42 (dk_at dksX5_byElement_6 23 rfl rfl)
theorem dX5_byElement_165 : decode cX5_byElement 165 = .ok (.iload_n 1, 1) := dk_27 (dk_at dksX5_byElement_7 0 rfl rfl)
theorem dX5_byElement_166 : decode cX5_byElement 166 = .ok (.iload 6, 2) := dk_21 6 (dk_at dksX5_byElement_7 1 rfl rfl)
theorem dX5_byElement_168 : decode cX5_byElement 168 = .ok (.iconst 2, 1) := dk_5 (dk_at dksX5_byElement_7 3 rfl rfl)
theorem dX5_byElement_169 : decode cX5_byElement 169 = .ok (.iadd, 1) := dk_96 (dk_at dksX5_byElement_7 4 rfl rfl)
theorem dX5_byElement_170 : decode cX5_byElement 170 = .ok (.invokevirtual 224, 3) := dk_182 0 224 (dk_at dksX5_byElement_7 5 rfl rfl)
theorem dX5_byElement_173 : decode cX5_byElement 173 = .ok (.istore 8, 2) := dk_54 8 (dk_at dksX5_byElement_7 8 rfl rfl)
theorem dX5_byElement_175 : decode cX5_byElement 175 = .ok (.aload_n 0, 1) := dk_42 (dk_at dksX5_byElement_7 10 rfl rfl)
theorem dX5_byElement_176 : decode cX5_byElement 176 = .ok (.getfield 102, 3) := dk_180 0 102 (dk_at dksX5_byElement_7 11 rfl rfl)
theorem dX5_byElement_179 : decode cX5_byElement 179 = .ok (.bipush 8, 2) := dk_16 8 (dk_at dksX5_byElement_7 14 rfl rfl)
theorem dX5_byElement_181 : decode cX5_byElement 181 = .ok (.iload_n 1, 1) := dk_27 (dk_at dksX5_byElement_7 16 rfl rfl)
theorem dX5_byElement_182 : decode cX5_byElement 182 = .ok (.imul, 1) := dk_104 (dk_at dksX5_byElement_7 17 rfl rfl)
theorem dX5_byElement_183 : decode cX5_byElement 183 = .ok (.iload 6, 2) := dk_21 6 (dk_at dksX5_byElement_7 18 rfl rfl)
theorem dX5_byElement_185 : decode cX5_byElement 185 = .ok (.iadd, 1) := dk_96 (dk_at dksX5_byElement_7 20 rfl rfl)
theorem dX5_byElement_186 : decode cX5_byElement 186 = .ok (.iconst 2, 1) := dk_5 (dk_at dksX5_byElement_7 21 rfl rfl)
theorem dX5_byElement_187 : decode cX5_byElement 187 = .ok (.iadd, 1) := dk_96 (dk_at dksX5_byElement_7 22 rfl rfl)
theorem dX5_byElement_188 : decode cX5_byElement 188 = .ok (.iload 7, 2) := dk_21 7 (dk_at dksX5_byElement_8 0 rfl rfl)
theorem dX5_byElement_190 : decode cX5_byElement 190 = .ok (.ifCond .eq 8, 3) := dk_153 0 8 (dk_at dksX5_byElement_8 2 rfl rfl)
theorem dX5_byElement_193 : decode cX5_byElement 193 = .ok (.iload 8, 2) := dk_21 8 (dk_at dksX5_byElement_8 5 rfl rfl)
theorem dX5_byElement_195 : decode cX5_byElement 195 = .ok (.goto 21, 3) := dk_167 0 21 (dk_at dksX5_byElement_8 7 rfl rfl)
theorem dX5_byElement_198 : decode cX5_byElement 198 = .ok (.iload 4, 2) := dk_21 4 (dk_at dksX5_byElement_8 10 rfl rfl)
theorem dX5_byElement_200 : decode cX5_byElement 200 = .ok (.iload 6, 2) := dk_21 6 (dk_at dksX5_byElement_8 12 rfl rfl)
theorem dX5_byElement_202 : decode cX5_byElement 202 = .ok (.invokestatic 213, 3) := dk_184 0 213 (dk_at dksX5_byElement_8 14 rfl rfl)
theorem dX5_byElement_205 : decode cX5_byElement 205 = .ok (.ifCond .eq 10, 3) := dk_153 0 10 (dk_at dksX5_byElement_8 17 rfl rfl)
theorem dX5_byElement_208 : decode cX5_byElement 208 = .ok (.iload 8, 2) := dk_21 8 (dk_at dksX5_byElement_8 20 rfl rfl)
theorem dX5_byElement_210 : decode cX5_byElement 210 = .ok (.iload_n 3, 1) := dk_29 (dk_at dksX5_byElement_8 22 rfl rfl)
theorem dX5_byElement_211 : decode cX5_byElement 211 = .ok (.iand, 1) := dk_126 (dk_at dksX5_byElement_8 23 rfl rfl)
theorem dX5_byElement_212 : decode cX5_byElement 212 = .ok (.goto 4, 3) := dk_167 0 4 (dk_at dksX5_byElement_9 0 rfl rfl)
theorem dX5_byElement_215 : decode cX5_byElement 215 = .ok (.iconst 0, 1) := dk_3 (dk_at dksX5_byElement_9 3 rfl rfl)
theorem dX5_byElement_216 : decode cX5_byElement 216 = .ok (.iastore, 1) := dk_79 (dk_at dksX5_byElement_9 4 rfl rfl)
theorem dX5_byElement_217 : decode cX5_byElement 217 = .ok (.iinc 6 1, 3) := dk_132 6 1 (dk_at dksX5_byElement_9 5 rfl rfl)
theorem dX5_byElement_220 : decode cX5_byElement 220 = .ok (.goto (-81), 3) := dk_167 255 175 (dk_at dksX5_byElement_9 8 rfl rfl)
theorem dX5_byElement_223 : decode cX5_byElement 223 = .ok (.return_, 1) := dk_177 (dk_at dksX5_byElement_9 11 rfl rfl)
def dkwX5_byClause_5 : List UInt8 := [2, 130, 126, 79, 132, 2, 1, 167, 255, 133, 177]
abbrev dktX5_byClause_5 : List UInt8 := dkwX5_byClause_5 ++ []
def dkwX5_byClause_4 : List UInt8 := [167, 0, 26, 42, 180, 0, 62, 16, 6, 27, 104, 28, 96, 51, 153, 0, 8, 21, 4, 167, 0, 7, 21, 4]
abbrev dktX5_byClause_4 : List UInt8 := dkwX5_byClause_4 ++ dktX5_byClause_5
def dkwX5_byClause_3 : List UInt8 := [120, 54, 4, 42, 180, 0, 102, 16, 8, 27, 104, 28, 96, 42, 27, 28, 182, 0, 224, 29, 153, 0, 7, 2]
abbrev dktX5_byClause_3 : List UInt8 := dkwX5_byClause_3 ++ dktX5_byClause_4
def dkwX5_byClause_2 : List UInt8 := [167, 0, 4, 3, 128, 62, 132, 4, 1, 167, 255, 218, 4, 42, 180, 0, 50, 16, 6, 27, 104, 28, 96, 46]
abbrev dktX5_byClause_2 : List UInt8 := dkwX5_byClause_2 ++ dktX5_byClause_3
def dkwX5_byClause_1 : List UInt8 := [46, 162, 0, 33, 29, 21, 4, 28, 159, 0, 17, 42, 27, 21, 4, 182, 0, 243, 153, 0, 7, 4]
abbrev dktX5_byClause_1 : List UInt8 := dkwX5_byClause_1 ++ dktX5_byClause_2
def dkwX5_byClause_0 : List UInt8 := [3, 61, 28, 42, 180, 0, 44, 27, 46, 162, 0, 119, 3, 62, 3, 54, 4, 21, 4, 42, 180, 0, 44, 27]
abbrev dktX5_byClause_0 : List UInt8 := dkwX5_byClause_0 ++ dktX5_byClause_1
theorem dksX5_byClause_0 : cX5_byClause.data.toList.drop 0 = dktX5_byClause_0 := by decide +kernel
theorem dksX5_byClause_1 : cX5_byClause.data.toList.drop 24 = dktX5_byClause_1 := dk_seg dksX5_byClause_0 24 rfl rfl
theorem dksX5_byClause_2 : cX5_byClause.data.toList.drop 46 = dktX5_byClause_2 := dk_seg dksX5_byClause_1 22 rfl rfl
theorem dksX5_byClause_3 : cX5_byClause.data.toList.drop 70 = dktX5_byClause_3 := dk_seg dksX5_byClause_2 24 rfl rfl
theorem dksX5_byClause_4 : cX5_byClause.data.toList.drop 94 = dktX5_byClause_4 := dk_seg dksX5_byClause_3 24 rfl rfl
theorem dksX5_byClause_5 : cX5_byClause.data.toList.drop 118 = dktX5_byClause_5 := dk_seg dksX5_byClause_4 24 rfl rfl
theorem dX5_byClause_0 : decode cX5_byClause 0 = .ok (.iconst 0, 1) := dk_3 (dk_at dksX5_byClause_0 0 rfl rfl)
theorem dX5_byClause_1 : decode cX5_byClause 1 = .ok (.istore_n 2, 1) := dk_61 (dk_at dksX5_byClause_0 1 rfl rfl)
theorem dX5_byClause_2 : decode cX5_byClause 2 = .ok (.iload_n 2, 1) := dk_28 (dk_at dksX5_byClause_0 2 rfl rfl)
theorem dX5_byClause_3 : decode cX5_byClause 3 = .ok (.aload_n 0, 1) := dk_42 (dk_at dksX5_byClause_0 3 rfl rfl)
theorem dX5_byClause_4 : decode cX5_byClause 4 = .ok (.getfield 44, 3) := dk_180 0 44 (dk_at dksX5_byClause_0 4 rfl rfl)
theorem dX5_byClause_7 : decode cX5_byClause 7 = .ok (.iload_n 1, 1) := dk_27 (dk_at dksX5_byClause_0 7 rfl rfl)
theorem dX5_byClause_8 : decode cX5_byClause 8 = .ok (.iaload, 1) := dk_46 (dk_at dksX5_byClause_0 8 rfl rfl)
theorem dX5_byClause_9 : decode cX5_byClause 9 = .ok (.if_icmp .ge 119, 3) := dk_162 0 119 (dk_at dksX5_byClause_0 9 rfl rfl)
theorem dX5_byClause_12 : decode cX5_byClause 12 = .ok (.iconst 0, 1) := dk_3 (dk_at dksX5_byClause_0 12 rfl rfl)
theorem dX5_byClause_13 : decode cX5_byClause 13 = .ok (.istore_n 3, 1) := dk_62 (dk_at dksX5_byClause_0 13 rfl rfl)
theorem dX5_byClause_14 : decode cX5_byClause 14 = .ok (.iconst 0, 1) := dk_3 (dk_at dksX5_byClause_0 14 rfl rfl)
theorem dX5_byClause_15 : decode cX5_byClause 15 = .ok (.istore 4, 2) := dk_54 4 (dk_at dksX5_byClause_0 15 rfl rfl)
theorem dX5_byClause_17 : decode cX5_byClause 17 = .ok (.iload 4, 2) := dk_21 4 (dk_at dksX5_byClause_0 17 rfl rfl)
theorem dX5_byClause_19 : decode cX5_byClause 19 = .ok (.aload_n 0, 1) := dk_42 (dk_at dksX5_byClause_0 19 rfl rfl)
theorem dX5_byClause_20 : decode cX5_byClause 20 = .ok (.getfield 44, 3) := dk_180 0 44 (dk_at dksX5_byClause_0 20 rfl rfl)
theorem dX5_byClause_23 : decode cX5_byClause 23 = .ok (.iload_n 1, 1) := dk_27 (dk_at dksX5_byClause_0 23 rfl rfl)
theorem dX5_byClause_24 : decode cX5_byClause 24 = .ok (.iaload, 1) := dk_46 (dk_at dksX5_byClause_1 0 rfl rfl)
theorem dX5_byClause_25 : decode cX5_byClause 25 = .ok (.if_icmp .ge 33, 3) := dk_162 0 33 (dk_at dksX5_byClause_1 1 rfl rfl)
theorem dX5_byClause_28 : decode cX5_byClause 28 = .ok (.iload_n 3, 1) := dk_29 (dk_at dksX5_byClause_1 4 rfl rfl)
theorem dX5_byClause_29 : decode cX5_byClause 29 = .ok (.iload 4, 2) := dk_21 4 (dk_at dksX5_byClause_1 5 rfl rfl)
theorem dX5_byClause_31 : decode cX5_byClause 31 = .ok (.iload_n 2, 1) := dk_28 (dk_at dksX5_byClause_1 7 rfl rfl)
theorem dX5_byClause_32 : decode cX5_byClause 32 = .ok (.if_icmp .eq 17, 3) := dk_159 0 17 (dk_at dksX5_byClause_1 8 rfl rfl)
theorem dX5_byClause_35 : decode cX5_byClause 35 = .ok (.aload_n 0, 1) := dk_42 (dk_at dksX5_byClause_1 11 rfl rfl)
theorem dX5_byClause_36 : decode cX5_byClause 36 = .ok (.iload_n 1, 1) := dk_27 (dk_at dksX5_byClause_1 12 rfl rfl)
theorem dX5_byClause_37 : decode cX5_byClause 37 = .ok (.iload 4, 2) := dk_21 4 (dk_at dksX5_byClause_1 13 rfl rfl)
theorem dX5_byClause_39 : decode cX5_byClause 39 = .ok (.invokevirtual 243, 3) := dk_182 0 243 (dk_at dksX5_byClause_1 15 rfl rfl)
theorem dX5_byClause_42 : decode cX5_byClause 42 = .ok (.ifCond .eq 7, 3) := dk_153 0 7 (dk_at dksX5_byClause_1 18 rfl rfl)
theorem dX5_byClause_45 : decode cX5_byClause 45 = .ok (.iconst 1, 1) := dk_4 (dk_at dksX5_byClause_1 21 rfl rfl)
theorem dX5_byClause_46 : decode cX5_byClause 46 = .ok (.goto 4, 3) := dk_167 0 4 (dk_at dksX5_byClause_2 0 rfl rfl)
theorem dX5_byClause_49 : decode cX5_byClause 49 = .ok (.iconst 0, 1) := dk_3 (dk_at dksX5_byClause_2 3 rfl rfl)
theorem dX5_byClause_50 : decode cX5_byClause 50 = .ok (.ior, 1) := dk_128 (dk_at dksX5_byClause_2 4 rfl rfl)
theorem dX5_byClause_51 : decode cX5_byClause 51 = .ok (.istore_n 3, 1) := dk_62 (dk_at dksX5_byClause_2 5 rfl rfl)
theorem dX5_byClause_52 : decode cX5_byClause 52 = .ok (.iinc 4 1, 3) := dk_132 4 1 (dk_at dksX5_byClause_2 6 rfl rfl)
theorem dX5_byClause_55 : decode cX5_byClause 55 = .ok (.goto (-38), 3) := dk_167 255 218 (dk_at dksX5_byClause_2 9 rfl rfl)
theorem dX5_byClause_58 : decode cX5_byClause 58 = .ok (.iconst 1, 1) := dk_4 (dk_at dksX5_byClause_2 12 rfl rfl)
theorem dX5_byClause_59 : decode cX5_byClause 59 = .ok (.aload_n 0, 1) := dk_42 (dk_at dksX5_byClause_2 13 rfl rfl)
theorem dX5_byClause_60 : decode cX5_byClause 60 = .ok (.getfield 50, 3) := dk_180 0 50 (dk_at dksX5_byClause_2 14 rfl rfl)
theorem dX5_byClause_63 : decode cX5_byClause 63 = .ok (.bipush 6, 2) := dk_16 6 (dk_at dksX5_byClause_2 17 rfl rfl)
theorem dX5_byClause_65 : decode cX5_byClause 65 = .ok (.iload_n 1, 1) := dk_27 (dk_at dksX5_byClause_2 19 rfl rfl)
theorem dX5_byClause_66 : decode cX5_byClause 66 = .ok (.imul, 1) := dk_104 (dk_at dksX5_byClause_2 20 rfl rfl)
theorem dX5_byClause_67 : decode cX5_byClause 67 = .ok (.iload_n 2, 1) := dk_28 (dk_at dksX5_byClause_2 21 rfl rfl)
theorem dX5_byClause_68 : decode cX5_byClause 68 = .ok (.iadd, 1) := dk_96 (dk_at dksX5_byClause_2 22 rfl rfl)
theorem dX5_byClause_69 : decode cX5_byClause 69 = .ok (.iaload, 1) := dk_46 (dk_at dksX5_byClause_2 23 rfl rfl)
theorem dX5_byClause_70 : decode cX5_byClause 70 = .ok (.ishl, 1) := dk_120 (dk_at dksX5_byClause_3 0 rfl rfl)
theorem dX5_byClause_71 : decode cX5_byClause 71 = .ok (.istore 4, 2) := dk_54 4 (dk_at dksX5_byClause_3 1 rfl rfl)
theorem dX5_byClause_73 : decode cX5_byClause 73 = .ok (.aload_n 0, 1) := dk_42 (dk_at dksX5_byClause_3 3 rfl rfl)
theorem dX5_byClause_74 : decode cX5_byClause 74 = .ok (.getfield 102, 3) := dk_180 0 102 (dk_at dksX5_byClause_3 4 rfl rfl)
theorem dX5_byClause_77 : decode cX5_byClause 77 = .ok (.bipush 8, 2) := dk_16 8 (dk_at dksX5_byClause_3 7 rfl rfl)
theorem dX5_byClause_79 : decode cX5_byClause 79 = .ok (.iload_n 1, 1) := dk_27 (dk_at dksX5_byClause_3 9 rfl rfl)
theorem dX5_byClause_80 : decode cX5_byClause 80 = .ok (.imul, 1) := dk_104 (dk_at dksX5_byClause_3 10 rfl rfl)
theorem dX5_byClause_81 : decode cX5_byClause 81 = .ok (.iload_n 2, 1) := dk_28 (dk_at dksX5_byClause_3 11 rfl rfl)
theorem dX5_byClause_82 : decode cX5_byClause 82 = .ok (.iadd, 1) := dk_96 (dk_at dksX5_byClause_3 12 rfl rfl)
theorem dX5_byClause_83 : decode cX5_byClause 83 = .ok (.aload_n 0, 1) := dk_42 (dk_at dksX5_byClause_3 13 rfl rfl)
theorem dX5_byClause_84 : decode cX5_byClause 84 = .ok (.iload_n 1, 1) := dk_27 (dk_at dksX5_byClause_3 14 rfl rfl)
theorem dX5_byClause_85 : decode cX5_byClause 85 = .ok (.iload_n 2, 1) := dk_28 (dk_at dksX5_byClause_3 15 rfl rfl)
theorem dX5_byClause_86 : decode cX5_byClause 86 = .ok (.invokevirtual 224, 3) := dk_182 0 224 (dk_at dksX5_byClause_3 16 rfl rfl)
theorem dX5_byClause_89 : decode cX5_byClause 89 = .ok (.iload_n 3, 1) := dk_29 (dk_at dksX5_byClause_3 19 rfl rfl)
theorem dX5_byClause_90 : decode cX5_byClause 90 = .ok (.ifCond .eq 7, 3) := dk_153 0 7 (dk_at dksX5_byClause_3 20 rfl rfl)
theorem dX5_byClause_93 : decode cX5_byClause 93 = .ok (.iconst (-1), 1) := dk_2 (dk_at dksX5_byClause_3 23 rfl rfl)
theorem dX5_byClause_94 : decode cX5_byClause 94 = .ok (.goto 26, 3) := dk_167 0 26 (dk_at dksX5_byClause_4 0 rfl rfl)
theorem dX5_byClause_97 : decode cX5_byClause 97 = .ok (.aload_n 0, 1) := dk_42 (dk_at dksX5_byClause_4 3 rfl rfl)
theorem dX5_byClause_98 : decode cX5_byClause 98 = .ok (.getfield 62, 3) := dk_180 0 62 (dk_at dksX5_byClause_4 4 rfl rfl)
theorem dX5_byClause_101 : decode cX5_byClause 101 = .ok (.bipush 6, 2) := dk_16 6 (dk_at dksX5_byClause_4 7 rfl rfl)
theorem dX5_byClause_103 : decode cX5_byClause 103 = .ok (.iload_n 1, 1) := dk_27 (dk_at dksX5_byClause_4 9 rfl rfl)
theorem dX5_byClause_104 : decode cX5_byClause 104 = .ok (.imul, 1) := dk_104 (dk_at dksX5_byClause_4 10 rfl rfl)
theorem dX5_byClause_105 : decode cX5_byClause 105 = .ok (.iload_n 2, 1) := dk_28 (dk_at dksX5_byClause_4 11 rfl rfl)
theorem dX5_byClause_106 : decode cX5_byClause 106 = .ok (.iadd, 1) := dk_96 (dk_at dksX5_byClause_4 12 rfl rfl)
theorem dX5_byClause_107 : decode cX5_byClause 107 = .ok (.baload, 1) := dk_51 (dk_at dksX5_byClause_4 13 rfl rfl)
theorem dX5_byClause_108 : decode cX5_byClause 108 = .ok (.ifCond .eq 8, 3) := dk_153 0 8 (dk_at dksX5_byClause_4 14 rfl rfl)
theorem dX5_byClause_111 : decode cX5_byClause 111 = .ok (.iload 4, 2) := dk_21 4 (dk_at dksX5_byClause_4 17 rfl rfl)
theorem dX5_byClause_113 : decode cX5_byClause 113 = .ok (.goto 7, 3) := dk_167 0 7 (dk_at dksX5_byClause_4 19 rfl rfl)
theorem dX5_byClause_116 : decode cX5_byClause 116 = .ok (.iload 4, 2) := dk_21 4 (dk_at dksX5_byClause_4 22 rfl rfl)
theorem dX5_byClause_118 : decode cX5_byClause 118 = .ok (.iconst (-1), 1) := dk_2 (dk_at dksX5_byClause_5 0 rfl rfl)
theorem dX5_byClause_119 : decode cX5_byClause 119 = .ok (.ixor, 1) := dk_130 (dk_at dksX5_byClause_5 1 rfl rfl)
theorem dX5_byClause_120 : decode cX5_byClause 120 = .ok (.iand, 1) := dk_126 (dk_at dksX5_byClause_5 2 rfl rfl)
theorem dX5_byClause_121 : decode cX5_byClause 121 = .ok (.iastore, 1) := dk_79 (dk_at dksX5_byClause_5 3 rfl rfl)
theorem dX5_byClause_122 : decode cX5_byClause 122 = .ok (.iinc 2 1, 3) := dk_132 2 1 (dk_at dksX5_byClause_5 4 rfl rfl)
theorem dX5_byClause_125 : decode cX5_byClause 125 = .ok (.goto (-123), 3) := dk_167 255 133 (dk_at dksX5_byClause_5 7 rfl rfl)
theorem dX5_byClause_128 : decode cX5_byClause 128 = .ok (.return_, 1) := dk_177 (dk_at dksX5_byClause_5 10 rfl rfl)
def dkwX5_canHold_2 : List UInt8 := [3, 167, 0, 17, 29, 21, 4, 2, 130, 126, 153, 0, 7, 4, 167, 0, 4, 3, 172]
abbrev dktX5_canHold_2 : List UInt8 := dkwX5_canHold_2 ++ []
def dkwX5_canHold_1 : List UInt8 := [180, 0, 62, 16, 6, 27, 104, 28, 96, 51, 153, 0, 18, 29, 21, 4, 126, 153, 0, 7, 4, 167, 0, 21]
abbrev dktX5_canHold_1 : List UInt8 := dkwX5_canHold_1 ++ dktX5_canHold_2
def dkwX5_canHold_0 : List UInt8 := [42, 27, 28, 182, 0, 224, 62, 4, 42, 180, 0, 50, 16, 6, 27, 104, 28, 96, 46, 120, 54, 4, 42]
abbrev dktX5_canHold_0 : List UInt8 := dkwX5_canHold_0 ++ dktX5_canHold_1
theorem dksX5_canHold_0 : cX5_canHold.data.toList.drop 0 = dktX5_canHold_0 := by decide +kernel
theorem dksX5_canHold_1 : cX5_canHold.data.toList.drop 23 = dktX5_canHold_1 := dk_seg dksX5_canHold_0 23 rfl rfl
theorem dksX5_canHold_2 : cX5_canHold.data.toList.drop 47 = dktX5_canHold_2 := dk_seg dksX5_canHold_1 24 rfl rfl
theorem dX5_canHold_0 : decode cX5_canHold 0 = .ok (.aload_n 0, 1) := dk_42 (dk_at dksX5_canHold_0 0 rfl rfl)
theorem dX5_canHold_1 : decode cX5_canHold 1 = .ok (.iload_n 1, 1) := dk_27 (dk_at dksX5_canHold_0 1 rfl rfl)
theorem dX5_canHold_2 : decode cX5_canHold 2 = .ok (.iload_n 2, 1) := dk_28 (dk_at dksX5_canHold_0 2 rfl rfl)
theorem dX5_canHold_3 : decode cX5_canHold 3 = .ok (.invokevirtual 224, 3) := dk_182 0 224 (dk_at dksX5_canHold_0 3 rfl rfl)
theorem dX5_canHold_6 : decode cX5_canHold 6 = .ok (.istore_n 3, 1) := dk_62 (dk_at dksX5_canHold_0 6 rfl rfl)
theorem dX5_canHold_7 : decode cX5_canHold 7 = .ok (.iconst 1, 1) := dk_4 (dk_at dksX5_canHold_0 7 rfl rfl)
theorem dX5_canHold_8 : decode cX5_canHold 8 = .ok (.aload_n 0, 1) := dk_42 (dk_at dksX5_canHold_0 8 rfl rfl)
theorem dX5_canHold_9 : decode cX5_canHold 9 = .ok (.getfield 50, 3) := dk_180 0 50 (dk_at dksX5_canHold_0 9 rfl rfl)
theorem dX5_canHold_12 : decode cX5_canHold 12 = .ok (.bipush 6, 2) := dk_16 6 (dk_at dksX5_canHold_0 12 rfl rfl)
theorem dX5_canHold_14 : decode cX5_canHold 14 = .ok (.iload_n 1, 1) := dk_27 (dk_at dksX5_canHold_0 14 rfl rfl)
theorem dX5_canHold_15 : decode cX5_canHold 15 = .ok (.imul, 1) := dk_104 (dk_at dksX5_canHold_0 15 rfl rfl)
theorem dX5_canHold_16 : decode cX5_canHold 16 = .ok (.iload_n 2, 1) := dk_28 (dk_at dksX5_canHold_0 16 rfl rfl)
theorem dX5_canHold_17 : decode cX5_canHold 17 = .ok (.iadd, 1) := dk_96 (dk_at dksX5_canHold_0 17 rfl rfl)
theorem dX5_canHold_18 : decode cX5_canHold 18 = .ok (.iaload, 1) := dk_46 (dk_at dksX5_canHold_0 18 rfl rfl)
theorem dX5_canHold_19 : decode cX5_canHold 19 = .ok (.ishl, 1) := dk_120 (dk_at dksX5_canHold_0 19 rfl rfl)
theorem dX5_canHold_20 : decode cX5_canHold 20 = .ok (.istore 4, 2) := dk_54 4 (dk_at dksX5_canHold_0 20 rfl rfl)
theorem dX5_canHold_22 : decode cX5_canHold 22 = .ok (.aload_n 0, 1) := dk_42 (dk_at dksX5_canHold_0 22 rfl rfl)
theorem dX5_canHold_23 : decode cX5_canHold 23 = .ok (.getfield 62, 3) := dk_180 0 62 (dk_at dksX5_canHold_1 0 rfl rfl)
theorem dX5_canHold_26 : decode cX5_canHold 26 = .ok (.bipush 6, 2) := dk_16 6 (dk_at dksX5_canHold_1 3 rfl rfl)
theorem dX5_canHold_28 : decode cX5_canHold 28 = .ok (.iload_n 1, 1) := dk_27 (dk_at dksX5_canHold_1 5 rfl rfl)
theorem dX5_canHold_29 : decode cX5_canHold 29 = .ok (.imul, 1) := dk_104 (dk_at dksX5_canHold_1 6 rfl rfl)
theorem dX5_canHold_30 : decode cX5_canHold 30 = .ok (.iload_n 2, 1) := dk_28 (dk_at dksX5_canHold_1 7 rfl rfl)
theorem dX5_canHold_31 : decode cX5_canHold 31 = .ok (.iadd, 1) := dk_96 (dk_at dksX5_canHold_1 8 rfl rfl)
theorem dX5_canHold_32 : decode cX5_canHold 32 = .ok (.baload, 1) := dk_51 (dk_at dksX5_canHold_1 9 rfl rfl)
theorem dX5_canHold_33 : decode cX5_canHold 33 = .ok (.ifCond .eq 18, 3) := dk_153 0 18 (dk_at dksX5_canHold_1 10 rfl rfl)
theorem dX5_canHold_36 : decode cX5_canHold 36 = .ok (.iload_n 3, 1) := dk_29 (dk_at dksX5_canHold_1 13 rfl rfl)
theorem dX5_canHold_37 : decode cX5_canHold 37 = .ok (.iload 4, 2) := dk_21 4 (dk_at dksX5_canHold_1 14 rfl rfl)
theorem dX5_canHold_39 : decode cX5_canHold 39 = .ok (.iand, 1) := dk_126 (dk_at dksX5_canHold_1 16 rfl rfl)
theorem dX5_canHold_40 : decode cX5_canHold 40 = .ok (.ifCond .eq 7, 3) := dk_153 0 7 (dk_at dksX5_canHold_1 17 rfl rfl)
theorem dX5_canHold_43 : decode cX5_canHold 43 = .ok (.iconst 1, 1) := dk_4 (dk_at dksX5_canHold_1 20 rfl rfl)
theorem dX5_canHold_44 : decode cX5_canHold 44 = .ok (.goto 21, 3) := dk_167 0 21 (dk_at dksX5_canHold_1 21 rfl rfl)
theorem dX5_canHold_47 : decode cX5_canHold 47 = .ok (.iconst 0, 1) := dk_3 (dk_at dksX5_canHold_2 0 rfl rfl)
theorem dX5_canHold_48 : decode cX5_canHold 48 = .ok (.goto 17, 3) := dk_167 0 17 (dk_at dksX5_canHold_2 1 rfl rfl)
theorem dX5_canHold_51 : decode cX5_canHold 51 = .ok (.iload_n 3, 1) := dk_29 (dk_at dksX5_canHold_2 4 rfl rfl)
theorem dX5_canHold_52 : decode cX5_canHold 52 = .ok (.iload 4, 2) := dk_21 4 (dk_at dksX5_canHold_2 5 rfl rfl)
theorem dX5_canHold_54 : decode cX5_canHold 54 = .ok (.iconst (-1), 1) := dk_2 (dk_at dksX5_canHold_2 7 rfl rfl)
theorem dX5_canHold_55 : decode cX5_canHold 55 = .ok (.ixor, 1) := dk_130 (dk_at dksX5_canHold_2 8 rfl rfl)
theorem dX5_canHold_56 : decode cX5_canHold 56 = .ok (.iand, 1) := dk_126 (dk_at dksX5_canHold_2 9 rfl rfl)
theorem dX5_canHold_57 : decode cX5_canHold 57 = .ok (.ifCond .eq 7, 3) := dk_153 0 7 (dk_at dksX5_canHold_2 10 rfl rfl)
theorem dX5_canHold_60 : decode cX5_canHold 60 = .ok (.iconst 1, 1) := dk_4 (dk_at dksX5_canHold_2 13 rfl rfl)
theorem dX5_canHold_61 : decode cX5_canHold 61 = .ok (.goto 4, 3) := dk_167 0 4 (dk_at dksX5_canHold_2 14 rfl rfl)
theorem dX5_canHold_64 : decode cX5_canHold 64 = .ok (.iconst 0, 1) := dk_3 (dk_at dksX5_canHold_2 17 rfl rfl)
theorem dX5_canHold_65 : decode cX5_canHold 65 = .ok (.ireturn, 1) := dk_172 (dk_at dksX5_canHold_2 18 rfl rfl)
def dkwX5_find_0 : List UInt8 := [27, 61, 42, 180, 0, 156, 28, 46, 28, 159, 0, 13, 42, 180, 0, 156, 28, 46, 61, 167, 255, 239, 28, 172]
abbrev dktX5_find_0 : List UInt8 := dkwX5_find_0 ++ []
theorem dksX5_find_0 : cX5_find.data.toList.drop 0 = dktX5_find_0 := by decide +kernel
theorem dX5_find_0 : decode cX5_find 0 = .ok (.iload_n 1, 1) := dk_27 (dk_at dksX5_find_0 0 rfl rfl)
theorem dX5_find_1 : decode cX5_find 1 = .ok (.istore_n 2, 1) := dk_61 (dk_at dksX5_find_0 1 rfl rfl)
theorem dX5_find_2 : decode cX5_find 2 = .ok (.aload_n 0, 1) := dk_42 (dk_at dksX5_find_0 2 rfl rfl)
theorem dX5_find_3 : decode cX5_find 3 = .ok (.getfield 156, 3) := dk_180 0 156 (dk_at dksX5_find_0 3 rfl rfl)
theorem dX5_find_6 : decode cX5_find 6 = .ok (.iload_n 2, 1) := dk_28 (dk_at dksX5_find_0 6 rfl rfl)
theorem dX5_find_7 : decode cX5_find 7 = .ok (.iaload, 1) := dk_46 (dk_at dksX5_find_0 7 rfl rfl)
theorem dX5_find_8 : decode cX5_find 8 = .ok (.iload_n 2, 1) := dk_28 (dk_at dksX5_find_0 8 rfl rfl)
theorem dX5_find_9 : decode cX5_find 9 = .ok (.if_icmp .eq 13, 3) := dk_159 0 13 (dk_at dksX5_find_0 9 rfl rfl)
theorem dX5_find_12 : decode cX5_find 12 = .ok (.aload_n 0, 1) := dk_42 (dk_at dksX5_find_0 12 rfl rfl)
theorem dX5_find_13 : decode cX5_find 13 = .ok (.getfield 156, 3) := dk_180 0 156 (dk_at dksX5_find_0 13 rfl rfl)
theorem dX5_find_16 : decode cX5_find 16 = .ok (.iload_n 2, 1) := dk_28 (dk_at dksX5_find_0 16 rfl rfl)
theorem dX5_find_17 : decode cX5_find 17 = .ok (.iaload, 1) := dk_46 (dk_at dksX5_find_0 17 rfl rfl)
theorem dX5_find_18 : decode cX5_find 18 = .ok (.istore_n 2, 1) := dk_61 (dk_at dksX5_find_0 18 rfl rfl)
theorem dX5_find_19 : decode cX5_find 19 = .ok (.goto (-17), 3) := dk_167 255 239 (dk_at dksX5_find_0 19 rfl rfl)
theorem dX5_find_22 : decode cX5_find 22 = .ok (.iload_n 2, 1) := dk_28 (dk_at dksX5_find_0 22 rfl rfl)
theorem dX5_find_23 : decode cX5_find 23 = .ok (.ireturn, 1) := dk_172 (dk_at dksX5_find_0 23 rfl rfl)
def dkwX5_paired_4 : List UInt8 := [4, 29, 182, 0, 220, 132, 3, 1, 167, 255, 165, 132, 2, 1, 167, 255, 151, 177]
abbrev dktX5_paired_4 : List UInt8 := dkwX5_paired_4 ++ []
def dkwX5_paired_3 : List UInt8 := [153, 0, 7, 4, 167, 0, 4, 3, 54, 4, 21, 4, 153, 0, 17, 42, 27, 3, 28, 182, 0, 220, 42, 27]
abbrev dktX5_paired_3 : List UInt8 := dkwX5_paired_3 ++ dktX5_paired_4
def dkwX5_paired_2 : List UInt8 := [46, 16, 11, 160, 0, 14, 28, 29, 2, 130, 126, 154, 0, 18, 167, 0, 11, 28, 29, 184, 1, 0]
abbrev dktX5_paired_2 : List UInt8 := dkwX5_paired_2 ++ dktX5_paired_3
def dkwX5_paired_1 : List UInt8 := [184, 0, 213, 153, 0, 78, 42, 27, 4, 182, 0, 224, 29, 184, 0, 213, 153, 0, 37, 42, 180, 0, 41, 27]
abbrev dktX5_paired_1 : List UInt8 := dkwX5_paired_1 ++ dktX5_paired_2
def dkwX5_paired_0 : List UInt8 := [3, 61, 28, 16, 32, 162, 0, 105, 3, 62, 29, 16, 32, 162, 0, 91, 42, 27, 3, 182, 0, 224, 28]
abbrev dktX5_paired_0 : List UInt8 := dkwX5_paired_0 ++ dktX5_paired_1
theorem dksX5_paired_0 : cX5_paired.data.toList.drop 0 = dktX5_paired_0 := by decide +kernel
theorem dksX5_paired_1 : cX5_paired.data.toList.drop 23 = dktX5_paired_1 := dk_seg dksX5_paired_0 23 rfl rfl
theorem dksX5_paired_2 : cX5_paired.data.toList.drop 47 = dktX5_paired_2 := dk_seg dksX5_paired_1 24 rfl rfl
theorem dksX5_paired_3 : cX5_paired.data.toList.drop 69 = dktX5_paired_3 := dk_seg dksX5_paired_2 22 rfl rfl
theorem dksX5_paired_4 : cX5_paired.data.toList.drop 93 = dktX5_paired_4 := dk_seg dksX5_paired_3 24 rfl rfl
theorem dX5_paired_0 : decode cX5_paired 0 = .ok (.iconst 0, 1) := dk_3 (dk_at dksX5_paired_0 0 rfl rfl)
theorem dX5_paired_1 : decode cX5_paired 1 = .ok (.istore_n 2, 1) := dk_61 (dk_at dksX5_paired_0 1 rfl rfl)
theorem dX5_paired_2 : decode cX5_paired 2 = .ok (.iload_n 2, 1) := dk_28 (dk_at dksX5_paired_0 2 rfl rfl)
theorem dX5_paired_3 : decode cX5_paired 3 = .ok (.bipush 32, 2) := dk_16 32 (dk_at dksX5_paired_0 3 rfl rfl)
theorem dX5_paired_5 : decode cX5_paired 5 = .ok (.if_icmp .ge 105, 3) := dk_162 0 105 (dk_at dksX5_paired_0 5 rfl rfl)
theorem dX5_paired_8 : decode cX5_paired 8 = .ok (.iconst 0, 1) := dk_3 (dk_at dksX5_paired_0 8 rfl rfl)
theorem dX5_paired_9 : decode cX5_paired 9 = .ok (.istore_n 3, 1) := dk_62 (dk_at dksX5_paired_0 9 rfl rfl)
theorem dX5_paired_10 : decode cX5_paired 10 = .ok (.iload_n 3, 1) := dk_29 (dk_at dksX5_paired_0 10 rfl rfl)
theorem dX5_paired_11 : decode cX5_paired 11 = .ok (.bipush 32, 2) := dk_16 32 (dk_at dksX5_paired_0 11 rfl rfl)
theorem dX5_paired_13 : decode cX5_paired 13 = .ok (.if_icmp .ge 91, 3) := dk_162 0 91 (dk_at dksX5_paired_0 13 rfl rfl)
theorem dX5_paired_16 : decode cX5_paired 16 = .ok (.aload_n 0, 1) := dk_42 (dk_at dksX5_paired_0 16 rfl rfl)
theorem dX5_paired_17 : decode cX5_paired 17 = .ok (.iload_n 1, 1) := dk_27 (dk_at dksX5_paired_0 17 rfl rfl)
theorem dX5_paired_18 : decode cX5_paired 18 = .ok (.iconst 0, 1) := dk_3 (dk_at dksX5_paired_0 18 rfl rfl)
theorem dX5_paired_19 : decode cX5_paired 19 = .ok (.invokevirtual 224, 3) := dk_182 0 224 (dk_at dksX5_paired_0 19 rfl rfl)
theorem dX5_paired_22 : decode cX5_paired 22 = .ok (.iload_n 2, 1) := dk_28 (dk_at dksX5_paired_0 22 rfl rfl)
theorem dX5_paired_23 : decode cX5_paired 23 = .ok (.invokestatic 213, 3) := dk_184 0 213 (dk_at dksX5_paired_1 0 rfl rfl)
theorem dX5_paired_26 : decode cX5_paired 26 = .ok (.ifCond .eq 78, 3) := dk_153 0 78 (dk_at dksX5_paired_1 3 rfl rfl)
theorem dX5_paired_29 : decode cX5_paired 29 = .ok (.aload_n 0, 1) := dk_42 (dk_at dksX5_paired_1 6 rfl rfl)
theorem dX5_paired_30 : decode cX5_paired 30 = .ok (.iload_n 1, 1) := dk_27 (dk_at dksX5_paired_1 7 rfl rfl)
theorem dX5_paired_31 : decode cX5_paired 31 = .ok (.iconst 1, 1) := dk_4 (dk_at dksX5_paired_1 8 rfl rfl)
theorem dX5_paired_32 : decode cX5_paired 32 = .ok (.invokevirtual 224, 3) := dk_182 0 224 (dk_at dksX5_paired_1 9 rfl rfl)
theorem dX5_paired_35 : decode cX5_paired 35 = .ok (.iload_n 3, 1) := dk_29 (dk_at dksX5_paired_1 12 rfl rfl)
theorem dX5_paired_36 : decode cX5_paired 36 = .ok (.invokestatic 213, 3) := dk_184 0 213 (dk_at dksX5_paired_1 13 rfl rfl)
theorem dX5_paired_39 : decode cX5_paired 39 = .ok (.ifCond .eq 37, 3) := dk_153 0 37 (dk_at dksX5_paired_1 16 rfl rfl)
theorem dX5_paired_42 : decode cX5_paired 42 = .ok (.aload_n 0, 1) := dk_42 (dk_at dksX5_paired_1 19 rfl rfl)
theorem dX5_paired_43 : decode cX5_paired 43 = .ok (.getfield 41, 3) := dk_180 0 41 (dk_at dksX5_paired_1 20 rfl rfl)
theorem dX5_paired_46 : decode cX5_paired 46 = .ok (.iload_n 1, 1) := dk_27 (dk_at dksX5_paired_1 23 rfl rfl)
theorem dX5_paired_47 : decode cX5_paired 47 = .ok (.iaload, 1) := dk_46 (dk_at dksX5_paired_2 0 rfl rfl)
theorem dX5_paired_48 : decode cX5_paired 48 = .ok (.bipush 11, 2) := dk_16 11 (dk_at dksX5_paired_2 1 rfl rfl)
theorem dX5_paired_50 : decode cX5_paired 50 = .ok (.if_icmp .ne 14, 3) := dk_160 0 14 (dk_at dksX5_paired_2 3 rfl rfl)
theorem dX5_paired_53 : decode cX5_paired 53 = .ok (.iload_n 2, 1) := dk_28 (dk_at dksX5_paired_2 6 rfl rfl)
theorem dX5_paired_54 : decode cX5_paired 54 = .ok (.iload_n 3, 1) := dk_29 (dk_at dksX5_paired_2 7 rfl rfl)
theorem dX5_paired_55 : decode cX5_paired 55 = .ok (.iconst (-1), 1) := dk_2 (dk_at dksX5_paired_2 8 rfl rfl)
theorem dX5_paired_56 : decode cX5_paired 56 = .ok (.ixor, 1) := dk_130 (dk_at dksX5_paired_2 9 rfl rfl)
theorem dX5_paired_57 : decode cX5_paired 57 = .ok (.iand, 1) := dk_126 (dk_at dksX5_paired_2 10 rfl rfl)
theorem dX5_paired_58 : decode cX5_paired 58 = .ok (.ifCond .ne 18, 3) := dk_154 0 18 (dk_at dksX5_paired_2 11 rfl rfl)
theorem dX5_paired_61 : decode cX5_paired 61 = .ok (.goto 11, 3) := dk_167 0 11 (dk_at dksX5_paired_2 14 rfl rfl)
theorem dX5_paired_64 : decode cX5_paired 64 = .ok (.iload_n 2, 1) := dk_28 (dk_at dksX5_paired_2 17 rfl rfl)
theorem dX5_paired_65 : decode cX5_paired 65 = .ok (.iload_n 3, 1) := dk_29 (dk_at dksX5_paired_2 18 rfl rfl)
theorem dX5_paired_66 : decode cX5_paired 66 = .ok (.invokestatic 256, 3) := dk_184 1 0 (dk_at dksX5_paired_2 19 rfl rfl)
theorem dX5_paired_69 : decode cX5_paired 69 = .ok (.ifCond .eq 7, 3) := dk_153 0 7 (dk_at dksX5_paired_3 0 rfl rfl)
theorem dX5_paired_72 : decode cX5_paired 72 = .ok (.iconst 1, 1) := dk_4 (dk_at dksX5_paired_3 3 rfl rfl)
theorem dX5_paired_73 : decode cX5_paired 73 = .ok (.goto 4, 3) := dk_167 0 4 (dk_at dksX5_paired_3 4 rfl rfl)
theorem dX5_paired_76 : decode cX5_paired 76 = .ok (.iconst 0, 1) := dk_3 (dk_at dksX5_paired_3 7 rfl rfl)
theorem dX5_paired_77 : decode cX5_paired 77 = .ok (.istore 4, 2) := dk_54 4 (dk_at dksX5_paired_3 8 rfl rfl)
theorem dX5_paired_79 : decode cX5_paired 79 = .ok (.iload 4, 2) := dk_21 4 (dk_at dksX5_paired_3 10 rfl rfl)
theorem dX5_paired_81 : decode cX5_paired 81 = .ok (.ifCond .eq 17, 3) := dk_153 0 17 (dk_at dksX5_paired_3 12 rfl rfl)
theorem dX5_paired_84 : decode cX5_paired 84 = .ok (.aload_n 0, 1) := dk_42 (dk_at dksX5_paired_3 15 rfl rfl)
theorem dX5_paired_85 : decode cX5_paired 85 = .ok (.iload_n 1, 1) := dk_27 (dk_at dksX5_paired_3 16 rfl rfl)
theorem dX5_paired_86 : decode cX5_paired 86 = .ok (.iconst 0, 1) := dk_3 (dk_at dksX5_paired_3 17 rfl rfl)
theorem dX5_paired_87 : decode cX5_paired 87 = .ok (.iload_n 2, 1) := dk_28 (dk_at dksX5_paired_3 18 rfl rfl)
theorem dX5_paired_88 : decode cX5_paired 88 = .ok (.invokevirtual 220, 3) := dk_182 0 220 (dk_at dksX5_paired_3 19 rfl rfl)
theorem dX5_paired_91 : decode cX5_paired 91 = .ok (.aload_n 0, 1) := dk_42 (dk_at dksX5_paired_3 22 rfl rfl)
theorem dX5_paired_92 : decode cX5_paired 92 = .ok (.iload_n 1, 1) := dk_27 (dk_at dksX5_paired_3 23 rfl rfl)
theorem dX5_paired_93 : decode cX5_paired 93 = .ok (.iconst 1, 1) := dk_4 (dk_at dksX5_paired_4 0 rfl rfl)
theorem dX5_paired_94 : decode cX5_paired 94 = .ok (.iload_n 3, 1) := dk_29 (dk_at dksX5_paired_4 1 rfl rfl)
theorem dX5_paired_95 : decode cX5_paired 95 = .ok (.invokevirtual 220, 3) := dk_182 0 220 (dk_at dksX5_paired_4 2 rfl rfl)
theorem dX5_paired_98 : decode cX5_paired 98 = .ok (.iinc 3 1, 3) := dk_132 3 1 (dk_at dksX5_paired_4 5 rfl rfl)
theorem dX5_paired_101 : decode cX5_paired 101 = .ok (.goto (-91), 3) := dk_167 255 165 (dk_at dksX5_paired_4 8 rfl rfl)
theorem dX5_paired_104 : decode cX5_paired 104 = .ok (.iinc 2 1, 3) := dk_132 2 1 (dk_at dksX5_paired_4 11 rfl rfl)
theorem dX5_paired_107 : decode cX5_paired 107 = .ok (.goto (-105), 3) := dk_167 255 151 (dk_at dksX5_paired_4 14 rfl rfl)
theorem dX5_paired_110 : decode cX5_paired 110 = .ok (.return_, 1) := dk_177 (dk_at dksX5_paired_4 17 rfl rfl)
def dkwX5_begins_1 : List UInt8 := [160, 0, 7, 4, 167, 0, 4, 3, 172]
abbrev dktX5_begins_1 : List UInt8 := dkwX5_begins_1 ++ []
def dkwX5_begins_0 : List UInt8 := [27, 184, 0, 185, 26, 184, 0, 185, 100, 61, 28, 155, 0, 20, 27, 184, 0, 189, 28, 122, 26, 184, 0, 189]
abbrev dktX5_begins_0 : List UInt8 := dkwX5_begins_0 ++ dktX5_begins_1
theorem dksX5_begins_0 : cX5_begins.data.toList.drop 0 = dktX5_begins_0 := by decide +kernel
theorem dksX5_begins_1 : cX5_begins.data.toList.drop 24 = dktX5_begins_1 := dk_seg dksX5_begins_0 24 rfl rfl
theorem dX5_begins_0 : decode cX5_begins 0 = .ok (.iload_n 1, 1) := dk_27 (dk_at dksX5_begins_0 0 rfl rfl)
theorem dX5_begins_1 : decode cX5_begins 1 = .ok (.invokestatic 185, 3) := dk_184 0 185 (dk_at dksX5_begins_0 1 rfl rfl)
theorem dX5_begins_4 : decode cX5_begins 4 = .ok (.iload_n 0, 1) := dk_26 (dk_at dksX5_begins_0 4 rfl rfl)
theorem dX5_begins_5 : decode cX5_begins 5 = .ok (.invokestatic 185, 3) := dk_184 0 185 (dk_at dksX5_begins_0 5 rfl rfl)
theorem dX5_begins_8 : decode cX5_begins 8 = .ok (.isub, 1) := dk_100 (dk_at dksX5_begins_0 8 rfl rfl)
theorem dX5_begins_9 : decode cX5_begins 9 = .ok (.istore_n 2, 1) := dk_61 (dk_at dksX5_begins_0 9 rfl rfl)
theorem dX5_begins_10 : decode cX5_begins 10 = .ok (.iload_n 2, 1) := dk_28 (dk_at dksX5_begins_0 10 rfl rfl)
theorem dX5_begins_11 : decode cX5_begins 11 = .ok (.ifCond .lt 20, 3) := dk_155 0 20 (dk_at dksX5_begins_0 11 rfl rfl)
theorem dX5_begins_14 : decode cX5_begins 14 = .ok (.iload_n 1, 1) := dk_27 (dk_at dksX5_begins_0 14 rfl rfl)
theorem dX5_begins_15 : decode cX5_begins 15 = .ok (.invokestatic 189, 3) := dk_184 0 189 (dk_at dksX5_begins_0 15 rfl rfl)
theorem dX5_begins_18 : decode cX5_begins 18 = .ok (.iload_n 2, 1) := dk_28 (dk_at dksX5_begins_0 18 rfl rfl)
theorem dX5_begins_19 : decode cX5_begins 19 = .ok (.ishr, 1) := dk_122 (dk_at dksX5_begins_0 19 rfl rfl)
theorem dX5_begins_20 : decode cX5_begins 20 = .ok (.iload_n 0, 1) := dk_26 (dk_at dksX5_begins_0 20 rfl rfl)
theorem dX5_begins_21 : decode cX5_begins 21 = .ok (.invokestatic 189, 3) := dk_184 0 189 (dk_at dksX5_begins_0 21 rfl rfl)
theorem dX5_begins_24 : decode cX5_begins 24 = .ok (.if_icmp .ne 7, 3) := dk_160 0 7 (dk_at dksX5_begins_1 0 rfl rfl)
theorem dX5_begins_27 : decode cX5_begins 27 = .ok (.iconst 1, 1) := dk_4 (dk_at dksX5_begins_1 3 rfl rfl)
theorem dX5_begins_28 : decode cX5_begins 28 = .ok (.goto 4, 3) := dk_167 0 4 (dk_at dksX5_begins_1 4 rfl rfl)
theorem dX5_begins_31 : decode cX5_begins 31 = .ok (.iconst 0, 1) := dk_3 (dk_at dksX5_begins_1 7 rfl rfl)
theorem dX5_begins_32 : decode cX5_begins 32 = .ok (.ireturn, 1) := dk_172 (dk_at dksX5_begins_1 8 rfl rfl)
def dkwX5_lengthOf_1 : List UInt8 := [167, 0, 4, 6, 172]
abbrev dktX5_lengthOf_1 : List UInt8 := dkwX5_lengthOf_1 ++ []
def dkwX5_lengthOf_0 : List UInt8 := [26, 154, 0, 7, 3, 167, 0, 23, 26, 6, 162, 0, 7, 4, 167, 0, 14, 26, 16, 7, 162, 0, 7, 5]
abbrev dktX5_lengthOf_0 : List UInt8 := dkwX5_lengthOf_0 ++ dktX5_lengthOf_1
theorem dksX5_lengthOf_0 : cX5_lengthOf.data.toList.drop 0 = dktX5_lengthOf_0 := by decide +kernel
theorem dksX5_lengthOf_1 : cX5_lengthOf.data.toList.drop 24 = dktX5_lengthOf_1 := dk_seg dksX5_lengthOf_0 24 rfl rfl
theorem dX5_lengthOf_0 : decode cX5_lengthOf 0 = .ok (.iload_n 0, 1) := dk_26 (dk_at dksX5_lengthOf_0 0 rfl rfl)
theorem dX5_lengthOf_1 : decode cX5_lengthOf 1 = .ok (.ifCond .ne 7, 3) := dk_154 0 7 (dk_at dksX5_lengthOf_0 1 rfl rfl)
theorem dX5_lengthOf_4 : decode cX5_lengthOf 4 = .ok (.iconst 0, 1) := dk_3 (dk_at dksX5_lengthOf_0 4 rfl rfl)
theorem dX5_lengthOf_5 : decode cX5_lengthOf 5 = .ok (.goto 23, 3) := dk_167 0 23 (dk_at dksX5_lengthOf_0 5 rfl rfl)
theorem dX5_lengthOf_8 : decode cX5_lengthOf 8 = .ok (.iload_n 0, 1) := dk_26 (dk_at dksX5_lengthOf_0 8 rfl rfl)
theorem dX5_lengthOf_9 : decode cX5_lengthOf 9 = .ok (.iconst 3, 1) := dk_6 (dk_at dksX5_lengthOf_0 9 rfl rfl)
theorem dX5_lengthOf_10 : decode cX5_lengthOf 10 = .ok (.if_icmp .ge 7, 3) := dk_162 0 7 (dk_at dksX5_lengthOf_0 10 rfl rfl)
theorem dX5_lengthOf_13 : decode cX5_lengthOf 13 = .ok (.iconst 1, 1) := dk_4 (dk_at dksX5_lengthOf_0 13 rfl rfl)
theorem dX5_lengthOf_14 : decode cX5_lengthOf 14 = .ok (.goto 14, 3) := dk_167 0 14 (dk_at dksX5_lengthOf_0 14 rfl rfl)
theorem dX5_lengthOf_17 : decode cX5_lengthOf 17 = .ok (.iload_n 0, 1) := dk_26 (dk_at dksX5_lengthOf_0 17 rfl rfl)
theorem dX5_lengthOf_18 : decode cX5_lengthOf 18 = .ok (.bipush 7, 2) := dk_16 7 (dk_at dksX5_lengthOf_0 18 rfl rfl)
theorem dX5_lengthOf_20 : decode cX5_lengthOf 20 = .ok (.if_icmp .ge 7, 3) := dk_162 0 7 (dk_at dksX5_lengthOf_0 20 rfl rfl)
theorem dX5_lengthOf_23 : decode cX5_lengthOf 23 = .ok (.iconst 2, 1) := dk_5 (dk_at dksX5_lengthOf_0 23 rfl rfl)
theorem dX5_lengthOf_24 : decode cX5_lengthOf 24 = .ok (.goto 4, 3) := dk_167 0 4 (dk_at dksX5_lengthOf_1 0 rfl rfl)
theorem dX5_lengthOf_27 : decode cX5_lengthOf 27 = .ok (.iconst 3, 1) := dk_6 (dk_at dksX5_lengthOf_1 3 rfl rfl)
theorem dX5_lengthOf_28 : decode cX5_lengthOf 28 = .ok (.ireturn, 1) := dk_172 (dk_at dksX5_lengthOf_1 4 rfl rfl)
def dkwX5_bitsOf_0 : List UInt8 := [26, 4, 96, 4, 26, 184, 0, 185, 120, 100, 172]
abbrev dktX5_bitsOf_0 : List UInt8 := dkwX5_bitsOf_0 ++ []
theorem dksX5_bitsOf_0 : cX5_bitsOf.data.toList.drop 0 = dktX5_bitsOf_0 := by decide +kernel
theorem dX5_bitsOf_0 : decode cX5_bitsOf 0 = .ok (.iload_n 0, 1) := dk_26 (dk_at dksX5_bitsOf_0 0 rfl rfl)
theorem dX5_bitsOf_1 : decode cX5_bitsOf 1 = .ok (.iconst 1, 1) := dk_4 (dk_at dksX5_bitsOf_0 1 rfl rfl)
theorem dX5_bitsOf_2 : decode cX5_bitsOf 2 = .ok (.iadd, 1) := dk_96 (dk_at dksX5_bitsOf_0 2 rfl rfl)
theorem dX5_bitsOf_3 : decode cX5_bitsOf 3 = .ok (.iconst 1, 1) := dk_4 (dk_at dksX5_bitsOf_0 3 rfl rfl)
theorem dX5_bitsOf_4 : decode cX5_bitsOf 4 = .ok (.iload_n 0, 1) := dk_26 (dk_at dksX5_bitsOf_0 4 rfl rfl)
theorem dX5_bitsOf_5 : decode cX5_bitsOf 5 = .ok (.invokestatic 185, 3) := dk_184 0 185 (dk_at dksX5_bitsOf_0 5 rfl rfl)
theorem dX5_bitsOf_8 : decode cX5_bitsOf 8 = .ok (.ishl, 1) := dk_120 (dk_at dksX5_bitsOf_0 8 rfl rfl)
theorem dX5_bitsOf_9 : decode cX5_bitsOf 9 = .ok (.isub, 1) := dk_100 (dk_at dksX5_bitsOf_0 9 rfl rfl)
theorem dX5_bitsOf_10 : decode cX5_bitsOf 10 = .ok (.ireturn, 1) := dk_172 (dk_at dksX5_bitsOf_0 10 rfl rfl)
def dkwX5_functional_6 : List UInt8 := [79, 132, 4, 1, 167, 255, 137, 132, 3, 1, 167, 255, 122, 177]
abbrev dktX5_functional_6 : List UInt8 := dkwX5_functional_6 ++ []
def dkwX5_functional_5 : List UInt8 := [180, 0, 102, 16, 8, 27, 104, 5, 96, 92, 46, 28, 153, 0, 10, 4, 21, 4, 120, 167, 0, 4, 3, 128]
abbrev dktX5_functional_5 : List UInt8 := dkwX5_functional_5 ++ dktX5_functional_6
def dkwX5_functional_4 : List UInt8 := [21, 5, 184, 0, 213, 153, 0, 44, 42, 27, 3, 21, 5, 182, 0, 220, 42, 27, 4, 29, 182, 0, 220, 42]
abbrev dktX5_functional_4 : List UInt8 := dkwX5_functional_4 ++ dktX5_functional_5
def dkwX5_functional_3 : List UInt8 := [153, 0, 73, 42, 42, 180, 0, 41, 27, 46, 29, 21, 4, 182, 0, 252, 54, 5, 42, 27, 3, 182, 0, 224]
abbrev dktX5_functional_3 : List UInt8 := dkwX5_functional_3 ++ dktX5_functional_4
def dkwX5_functional_2 : List UInt8 := [29, 184, 0, 213, 153, 0, 97, 28, 153, 0, 17, 42, 27, 5, 182, 0, 224, 21, 4, 184, 0, 213]
abbrev dktX5_functional_2 : List UInt8 := dkwX5_functional_2 ++ dktX5_functional_3
def dkwX5_functional_1 : List UInt8 := [3, 54, 4, 21, 4, 28, 153, 0, 8, 16, 32, 167, 0, 4, 4, 162, 0, 110, 42, 27, 4, 182, 0, 224]
abbrev dktX5_functional_1 : List UInt8 := dkwX5_functional_1 ++ dktX5_functional_2
def dkwX5_functional_0 : List UInt8 := [42, 180, 0, 44, 27, 46, 6, 160, 0, 7, 4, 167, 0, 4, 3, 61, 3, 62, 29, 16, 32, 162, 0, 134]
abbrev dktX5_functional_0 : List UInt8 := dkwX5_functional_0 ++ dktX5_functional_1
theorem dksX5_functional_0 : cX5_functional.data.toList.drop 0 = dktX5_functional_0 := by decide +kernel
theorem dksX5_functional_1 : cX5_functional.data.toList.drop 24 = dktX5_functional_1 := dk_seg dksX5_functional_0 24 rfl rfl
theorem dksX5_functional_2 : cX5_functional.data.toList.drop 48 = dktX5_functional_2 := dk_seg dksX5_functional_1 24 rfl rfl
theorem dksX5_functional_3 : cX5_functional.data.toList.drop 70 = dktX5_functional_3 := dk_seg dksX5_functional_2 22 rfl rfl
theorem dksX5_functional_4 : cX5_functional.data.toList.drop 94 = dktX5_functional_4 := dk_seg dksX5_functional_3 24 rfl rfl
theorem dksX5_functional_5 : cX5_functional.data.toList.drop 118 = dktX5_functional_5 := dk_seg dksX5_functional_4 24 rfl rfl
theorem dksX5_functional_6 : cX5_functional.data.toList.drop 142 = dktX5_functional_6 := dk_seg dksX5_functional_5 24 rfl rfl
theorem dX5_functional_0 : decode cX5_functional 0 = .ok (.aload_n 0, 1) := dk_42 (dk_at dksX5_functional_0 0 rfl rfl)
theorem dX5_functional_1 : decode cX5_functional 1 = .ok (.getfield 44, 3) := dk_180 0 44 (dk_at dksX5_functional_0 1 rfl rfl)
theorem dX5_functional_4 : decode cX5_functional 4 = .ok (.iload_n 1, 1) := dk_27 (dk_at dksX5_functional_0 4 rfl rfl)
theorem dX5_functional_5 : decode cX5_functional 5 = .ok (.iaload, 1) := dk_46 (dk_at dksX5_functional_0 5 rfl rfl)
theorem dX5_functional_6 : decode cX5_functional 6 = .ok (.iconst 3, 1) := dk_6 (dk_at dksX5_functional_0 6 rfl rfl)
theorem dX5_functional_7 : decode cX5_functional 7 = .ok (.if_icmp .ne 7, 3) := dk_160 0 7 (dk_at dksX5_functional_0 7 rfl rfl)
theorem dX5_functional_10 : decode cX5_functional 10 = .ok (.iconst 1, 1) := dk_4 (dk_at dksX5_functional_0 10 rfl rfl)
theorem dX5_functional_11 : decode cX5_functional 11 = .ok (.goto 4, 3) := dk_167 0 4 (dk_at dksX5_functional_0 11 rfl rfl)
theorem dX5_functional_14 : decode cX5_functional 14 = .ok (.iconst 0, 1) := dk_3 (dk_at dksX5_functional_0 14 rfl rfl)
theorem dX5_functional_15 : decode cX5_functional 15 = .ok (.istore_n 2, 1) := dk_61 (dk_at dksX5_functional_0 15 rfl rfl)
theorem dX5_functional_16 : decode cX5_functional 16 = .ok (.iconst 0, 1) := dk_3 (dk_at dksX5_functional_0 16 rfl rfl)
theorem dX5_functional_17 : decode cX5_functional 17 = .ok (.istore_n 3, 1) := dk_62 (dk_at dksX5_functional_0 17 rfl rfl)
theorem dX5_functional_18 : decode cX5_functional 18 = .ok (.iload_n 3, 1) := dk_29 (dk_at dksX5_functional_0 18 rfl rfl)
theorem dX5_functional_19 : decode cX5_functional 19 = .ok (.bipush 32, 2) := dk_16 32 (dk_at dksX5_functional_0 19 rfl rfl)
theorem dX5_functional_21 : decode cX5_functional 21 = .ok (.if_icmp .ge 134, 3) := dk_162 0 134 (dk_at dksX5_functional_0 21 rfl rfl)
theorem dX5_functional_24 : decode cX5_functional 24 = .ok (.iconst 0, 1) := dk_3 (dk_at dksX5_functional_1 0 rfl rfl)
theorem dX5_functional_25 : decode cX5_functional 25 = .ok (.istore 4, 2) := dk_54 4 (dk_at dksX5_functional_1 1 rfl rfl)
theorem dX5_functional_27 : decode cX5_functional 27 = .ok (.iload 4, 2) := dk_21 4 (dk_at dksX5_functional_1 3 rfl rfl)
theorem dX5_functional_29 : decode cX5_functional 29 = .ok (.iload_n 2, 1) := dk_28 (dk_at dksX5_functional_1 5 rfl rfl)
theorem dX5_functional_30 : decode cX5_functional 30 = .ok (.ifCond .eq 8, 3) := dk_153 0 8 (dk_at dksX5_functional_1 6 rfl rfl)
theorem dX5_functional_33 : decode cX5_functional 33 = .ok (.bipush 32, 2) := dk_16 32 (dk_at dksX5_functional_1 9 rfl rfl)
theorem dX5_functional_35 : decode cX5_functional 35 = .ok (.goto 4, 3) := dk_167 0 4 (dk_at dksX5_functional_1 11 rfl rfl)
theorem dX5_functional_38 : decode cX5_functional 38 = .ok (.iconst 1, 1) := dk_4 (dk_at dksX5_functional_1 14 rfl rfl)
theorem dX5_functional_39 : decode cX5_functional 39 = .ok (.if_icmp .ge 110, 3) := dk_162 0 110 (dk_at dksX5_functional_1 15 rfl rfl)
theorem dX5_functional_42 : decode cX5_functional 42 = .ok (.aload_n 0, 1) := dk_42 (dk_at dksX5_functional_1 18 rfl rfl)
theorem dX5_functional_43 : decode cX5_functional 43 = .ok (.iload_n 1, 1) := dk_27 (dk_at dksX5_functional_1 19 rfl rfl)
theorem dX5_functional_44 : decode cX5_functional 44 = .ok (.iconst 1, 1) := dk_4 (dk_at dksX5_functional_1 20 rfl rfl)
theorem dX5_functional_45 : decode cX5_functional 45 = .ok (.invokevirtual 224, 3) := dk_182 0 224 (dk_at dksX5_functional_1 21 rfl rfl)
theorem dX5_functional_48 : decode cX5_functional 48 = .ok (.iload_n 3, 1) := dk_29 (dk_at dksX5_functional_2 0 rfl rfl)
theorem dX5_functional_49 : decode cX5_functional 49 = .ok (.invokestatic 213, 3) := dk_184 0 213 (dk_at dksX5_functional_2 1 rfl rfl)
theorem dX5_functional_52 : decode cX5_functional 52 = .ok (.ifCond .eq 97, 3) := dk_153 0 97 (dk_at dksX5_functional_2 4 rfl rfl)
theorem dX5_functional_55 : decode cX5_functional 55 = .ok (.iload_n 2, 1) := dk_28 (dk_at dksX5_functional_2 7 rfl rfl)
theorem dX5_functional_56 : decode cX5_functional 56 = .ok (.ifCond .eq 17, 3) := dk_153 0 17 (dk_at dksX5_functional_2 8 rfl rfl)
theorem dX5_functional_59 : decode cX5_functional 59 = .ok (.aload_n 0, 1) := dk_42 (dk_at dksX5_functional_2 11 rfl rfl)
theorem dX5_functional_60 : decode cX5_functional 60 = .ok (.iload_n 1, 1) := dk_27 (dk_at dksX5_functional_2 12 rfl rfl)
theorem dX5_functional_61 : decode cX5_functional 61 = .ok (.iconst 2, 1) := dk_5 (dk_at dksX5_functional_2 13 rfl rfl)
theorem dX5_functional_62 : decode cX5_functional 62 = .ok (.invokevirtual 224, 3) := dk_182 0 224 (dk_at dksX5_functional_2 14 rfl rfl)
theorem dX5_functional_65 : decode cX5_functional 65 = .ok (.iload 4, 2) := dk_21 4 (dk_at dksX5_functional_2 17 rfl rfl)
theorem dX5_functional_67 : decode cX5_functional 67 = .ok (.invokestatic 213, 3) := dk_184 0 213 (dk_at dksX5_functional_2 19 rfl rfl)
theorem dX5_functional_70 : decode cX5_functional 70 = .ok (.ifCond .eq 73, 3) := dk_153 0 73 (dk_at dksX5_functional_3 0 rfl rfl)
theorem dX5_functional_73 : decode cX5_functional 73 = .ok (.aload_n 0, 1) := dk_42 (dk_at dksX5_functional_3 3 rfl rfl)
theorem dX5_functional_74 : decode cX5_functional 74 = .ok (.aload_n 0, 1) := dk_42 (dk_at dksX5_functional_3 4 rfl rfl)
theorem dX5_functional_75 : decode cX5_functional 75 = .ok (.getfield 41, 3) := dk_180 0 41 (dk_at dksX5_functional_3 5 rfl rfl)
theorem dX5_functional_78 : decode cX5_functional 78 = .ok (.iload_n 1, 1) := dk_27 (dk_at dksX5_functional_3 8 rfl rfl)
theorem dX5_functional_79 : decode cX5_functional 79 = .ok (.iaload, 1) := dk_46 (dk_at dksX5_functional_3 9 rfl rfl)
theorem dX5_functional_80 : decode cX5_functional 80 = .ok (.iload_n 3, 1) := dk_29 (dk_at dksX5_functional_3 10 rfl rfl)
theorem dX5_functional_81 : decode cX5_functional 81 = .ok (.iload 4, 2) := dk_21 4 (dk_at dksX5_functional_3 11 rfl rfl)
theorem dX5_functional_83 : decode cX5_functional 83 = .ok (.invokevirtual 252, 3) := dk_182 0 252 (dk_at dksX5_functional_3 13 rfl rfl)
theorem dX5_functional_86 : decode cX5_functional 86 = .ok (.istore 5, 2) := dk_54 5 (dk_at dksX5_functional_3 16 rfl rfl)
theorem dX5_functional_88 : decode cX5_functional 88 = .ok (.aload_n 0, 1) := dk_42 (dk_at dksX5_functional_3 18 rfl rfl)
theorem dX5_functional_89 : decode cX5_functional 89 = .ok (.iload_n 1, 1) := dk_27 (dk_at dksX5_functional_3 19 rfl rfl)
theorem dX5_functional_90 : decode cX5_functional 90 = .ok (.iconst 0, 1) := dk_3 (dk_at dksX5_functional_3 20 rfl rfl)
theorem dX5_functional_91 : decode cX5_functional 91 = .ok (.invokevirtual 224, 3) := dk_182 0 224 (dk_at dksX5_functional_3 21 rfl rfl)
theorem dX5_functional_94 : decode cX5_functional 94 = .ok (.iload 5, 2) := dk_21 5 (dk_at dksX5_functional_4 0 rfl rfl)
theorem dX5_functional_96 : decode cX5_functional 96 = .ok (.invokestatic 213, 3) := dk_184 0 213 (dk_at dksX5_functional_4 2 rfl rfl)
theorem dX5_functional_99 : decode cX5_functional 99 = .ok (.ifCond .eq 44, 3) := dk_153 0 44 (dk_at dksX5_functional_4 5 rfl rfl)
theorem dX5_functional_102 : decode cX5_functional 102 = .ok (.aload_n 0, 1) := dk_42 (dk_at dksX5_functional_4 8 rfl rfl)
theorem dX5_functional_103 : decode cX5_functional 103 = .ok (.iload_n 1, 1) := dk_27 (dk_at dksX5_functional_4 9 rfl rfl)
theorem dX5_functional_104 : decode cX5_functional 104 = .ok (.iconst 0, 1) := dk_3 (dk_at dksX5_functional_4 10 rfl rfl)
theorem dX5_functional_105 : decode cX5_functional 105 = .ok (.iload 5, 2) := dk_21 5 (dk_at dksX5_functional_4 11 rfl rfl)
theorem dX5_functional_107 : decode cX5_functional 107 = .ok (.invokevirtual 220, 3) := dk_182 0 220 (dk_at dksX5_functional_4 13 rfl rfl)
theorem dX5_functional_110 : decode cX5_functional 110 = .ok (.aload_n 0, 1) := dk_42 (dk_at dksX5_functional_4 16 rfl rfl)
theorem dX5_functional_111 : decode cX5_functional 111 = .ok (.iload_n 1, 1) := dk_27 (dk_at dksX5_functional_4 17 rfl rfl)
theorem dX5_functional_112 : decode cX5_functional 112 = .ok (.iconst 1, 1) := dk_4 (dk_at dksX5_functional_4 18 rfl rfl)
theorem dX5_functional_113 : decode cX5_functional 113 = .ok (.iload_n 3, 1) := dk_29 (dk_at dksX5_functional_4 19 rfl rfl)
theorem dX5_functional_114 : decode cX5_functional 114 = .ok (.invokevirtual 220, 3) := dk_182 0 220 (dk_at dksX5_functional_4 20 rfl rfl)
theorem dX5_functional_117 : decode cX5_functional 117 = .ok (.aload_n 0, 1) := dk_42 (dk_at dksX5_functional_4 23 rfl rfl)
theorem dX5_functional_118 : decode cX5_functional 118 = .ok (.getfield 102, 3) := dk_180 0 102 (dk_at dksX5_functional_5 0 rfl rfl)
theorem dX5_functional_121 : decode cX5_functional 121 = .ok (.bipush 8, 2) := dk_16 8 (dk_at dksX5_functional_5 3 rfl rfl)
theorem dX5_functional_123 : decode cX5_functional 123 = .ok (.iload_n 1, 1) := dk_27 (dk_at dksX5_functional_5 5 rfl rfl)
theorem dX5_functional_124 : decode cX5_functional 124 = .ok (.imul, 1) := dk_104 (dk_at dksX5_functional_5 6 rfl rfl)
theorem dX5_functional_125 : decode cX5_functional 125 = .ok (.iconst 2, 1) := dk_5 (dk_at dksX5_functional_5 7 rfl rfl)
theorem dX5_functional_126 : decode cX5_functional 126 = .ok (.iadd, 1) := dk_96 (dk_at dksX5_functional_5 8 rfl rfl)
theorem dX5_functional_127 : decode cX5_functional 127 = .ok (.dup2, 1) := dk_92 (dk_at dksX5_functional_5 9 rfl rfl)
theorem dX5_functional_128 : decode cX5_functional 128 = .ok (.iaload, 1) := dk_46 (dk_at dksX5_functional_5 10 rfl rfl)
theorem dX5_functional_129 : decode cX5_functional 129 = .ok (.iload_n 2, 1) := dk_28 (dk_at dksX5_functional_5 11 rfl rfl)
theorem dX5_functional_130 : decode cX5_functional 130 = .ok (.ifCond .eq 10, 3) := dk_153 0 10 (dk_at dksX5_functional_5 12 rfl rfl)
theorem dX5_functional_133 : decode cX5_functional 133 = .ok (.iconst 1, 1) := dk_4 (dk_at dksX5_functional_5 15 rfl rfl)
theorem dX5_functional_134 : decode cX5_functional 134 = .ok (.iload 4, 2) := dk_21 4 (dk_at dksX5_functional_5 16 rfl rfl)
theorem dX5_functional_136 : decode cX5_functional 136 = .ok (.ishl, 1) := dk_120 (dk_at dksX5_functional_5 18 rfl rfl)
theorem dX5_functional_137 : decode cX5_functional 137 = .ok (.goto 4, 3) := dk_167 0 4 (dk_at dksX5_functional_5 19 rfl rfl)
theorem dX5_functional_140 : decode cX5_functional 140 = .ok (.iconst 0, 1) := dk_3 (dk_at dksX5_functional_5 22 rfl rfl)
theorem dX5_functional_141 : decode cX5_functional 141 = .ok (.ior, 1) := dk_128 (dk_at dksX5_functional_5 23 rfl rfl)
theorem dX5_functional_142 : decode cX5_functional 142 = .ok (.iastore, 1) := dk_79 (dk_at dksX5_functional_6 0 rfl rfl)
theorem dX5_functional_143 : decode cX5_functional 143 = .ok (.iinc 4 1, 3) := dk_132 4 1 (dk_at dksX5_functional_6 1 rfl rfl)
theorem dX5_functional_146 : decode cX5_functional 146 = .ok (.goto (-119), 3) := dk_167 255 137 (dk_at dksX5_functional_6 4 rfl rfl)
theorem dX5_functional_149 : decode cX5_functional 149 = .ok (.iinc 3 1, 3) := dk_132 3 1 (dk_at dksX5_functional_6 7 rfl rfl)
theorem dX5_functional_152 : decode cX5_functional 152 = .ok (.goto (-134), 3) := dk_167 255 122 (dk_at dksX5_functional_6 10 rfl rfl)
theorem dX5_functional_155 : decode cX5_functional 155 = .ok (.return_, 1) := dk_177 (dk_at dksX5_functional_6 13 rfl rfl)
def dkwX5_first_4 : List UInt8 := [4, 167, 0, 4, 3, 172, 28, 29, 184, 0, 246, 172, 28, 29, 184, 0, 249, 172]
abbrev dktX5_first_4 : List UInt8 := dkwX5_first_4 ++ []
def dkwX5_first_3 : List UInt8 := [128, 172, 28, 29, 126, 172, 28, 184, 0, 227, 172, 28, 184, 0, 185, 172, 29, 28, 184, 0, 213, 153, 0, 7]
abbrev dktX5_first_3 : List UInt8 := dkwX5_first_3 ++ dktX5_first_4
def dkwX5_first_2 : List UInt8 := [28, 29, 162, 0, 7, 4, 167, 0, 4, 3, 172, 28, 29, 160, 0, 7, 4, 167, 0, 4, 3, 172, 28, 29]
abbrev dktX5_first_2 : List UInt8 := dkwX5_first_2 ++ dktX5_first_3
def dkwX5_first_1 : List UInt8 := [170, 0, 0, 0, 0, 0, 111, 0, 0, 0, 7, 0, 0, 0, 15, 0, 0, 0, 51, 0, 0, 0, 62, 0, 0, 0, 73, 0, 0, 0, 77, 0, 0, 0, 111, 0, 0, 0, 81, 0, 0, 0, 86, 0, 0, 0, 91, 0, 0, 0, 105]
abbrev dktX5_first_1 : List UInt8 := dkwX5_first_1 ++ dktX5_first_2
def dkwX5_first_0 : List UInt8 := [27]
abbrev dktX5_first_0 : List UInt8 := dkwX5_first_0 ++ dktX5_first_1
theorem dksX5_first_0 : cX5_first.data.toList.drop 0 = dktX5_first_0 := by decide +kernel
theorem dksX5_first_1 : cX5_first.data.toList.drop 1 = dktX5_first_1 := dk_seg dksX5_first_0 1 rfl rfl
theorem dksX5_first_2 : cX5_first.data.toList.drop 52 = dktX5_first_2 := dk_seg dksX5_first_1 51 rfl rfl
theorem dksX5_first_3 : cX5_first.data.toList.drop 76 = dktX5_first_3 := dk_seg dksX5_first_2 24 rfl rfl
theorem dksX5_first_4 : cX5_first.data.toList.drop 100 = dktX5_first_4 := dk_seg dksX5_first_3 24 rfl rfl
theorem dX5_first_0 : decode cX5_first 0 = .ok (.iload_n 1, 1) := dk_27 (dk_at dksX5_first_0 0 rfl rfl)
theorem dX5_first_1 : decode cX5_first 1 = .ok (.tableswitch 111 7 15 #[51, 62, 73, 77, 111, 81, 86, 91, 105], 51) := by decide +kernel
theorem dX5_first_52 : decode cX5_first 52 = .ok (.iload_n 2, 1) := dk_28 (dk_at dksX5_first_2 0 rfl rfl)
theorem dX5_first_53 : decode cX5_first 53 = .ok (.iload_n 3, 1) := dk_29 (dk_at dksX5_first_2 1 rfl rfl)
theorem dX5_first_54 : decode cX5_first 54 = .ok (.if_icmp .ge 7, 3) := dk_162 0 7 (dk_at dksX5_first_2 2 rfl rfl)
theorem dX5_first_57 : decode cX5_first 57 = .ok (.iconst 1, 1) := dk_4 (dk_at dksX5_first_2 5 rfl rfl)
theorem dX5_first_58 : decode cX5_first 58 = .ok (.goto 4, 3) := dk_167 0 4 (dk_at dksX5_first_2 6 rfl rfl)
theorem dX5_first_61 : decode cX5_first 61 = .ok (.iconst 0, 1) := dk_3 (dk_at dksX5_first_2 9 rfl rfl)
theorem dX5_first_62 : decode cX5_first 62 = .ok (.ireturn, 1) := dk_172 (dk_at dksX5_first_2 10 rfl rfl)
theorem dX5_first_63 : decode cX5_first 63 = .ok (.iload_n 2, 1) := dk_28 (dk_at dksX5_first_2 11 rfl rfl)
theorem dX5_first_64 : decode cX5_first 64 = .ok (.iload_n 3, 1) := dk_29 (dk_at dksX5_first_2 12 rfl rfl)
theorem dX5_first_65 : decode cX5_first 65 = .ok (.if_icmp .ne 7, 3) := dk_160 0 7 (dk_at dksX5_first_2 13 rfl rfl)
theorem dX5_first_68 : decode cX5_first 68 = .ok (.iconst 1, 1) := dk_4 (dk_at dksX5_first_2 16 rfl rfl)
theorem dX5_first_69 : decode cX5_first 69 = .ok (.goto 4, 3) := dk_167 0 4 (dk_at dksX5_first_2 17 rfl rfl)
theorem dX5_first_72 : decode cX5_first 72 = .ok (.iconst 0, 1) := dk_3 (dk_at dksX5_first_2 20 rfl rfl)
theorem dX5_first_73 : decode cX5_first 73 = .ok (.ireturn, 1) := dk_172 (dk_at dksX5_first_2 21 rfl rfl)
theorem dX5_first_74 : decode cX5_first 74 = .ok (.iload_n 2, 1) := dk_28 (dk_at dksX5_first_2 22 rfl rfl)
theorem dX5_first_75 : decode cX5_first 75 = .ok (.iload_n 3, 1) := dk_29 (dk_at dksX5_first_2 23 rfl rfl)
theorem dX5_first_76 : decode cX5_first 76 = .ok (.ior, 1) := dk_128 (dk_at dksX5_first_3 0 rfl rfl)
theorem dX5_first_77 : decode cX5_first 77 = .ok (.ireturn, 1) := dk_172 (dk_at dksX5_first_3 1 rfl rfl)
theorem dX5_first_78 : decode cX5_first 78 = .ok (.iload_n 2, 1) := dk_28 (dk_at dksX5_first_3 2 rfl rfl)
theorem dX5_first_79 : decode cX5_first 79 = .ok (.iload_n 3, 1) := dk_29 (dk_at dksX5_first_3 3 rfl rfl)
theorem dX5_first_80 : decode cX5_first 80 = .ok (.iand, 1) := dk_126 (dk_at dksX5_first_3 4 rfl rfl)
theorem dX5_first_81 : decode cX5_first 81 = .ok (.ireturn, 1) := dk_172 (dk_at dksX5_first_3 5 rfl rfl)
theorem dX5_first_82 : decode cX5_first 82 = .ok (.iload_n 2, 1) := dk_28 (dk_at dksX5_first_3 6 rfl rfl)
theorem dX5_first_83 : decode cX5_first 83 = .ok (.invokestatic 227, 3) := dk_184 0 227 (dk_at dksX5_first_3 7 rfl rfl)
theorem dX5_first_86 : decode cX5_first 86 = .ok (.ireturn, 1) := dk_172 (dk_at dksX5_first_3 10 rfl rfl)
theorem dX5_first_87 : decode cX5_first 87 = .ok (.iload_n 2, 1) := dk_28 (dk_at dksX5_first_3 11 rfl rfl)
theorem dX5_first_88 : decode cX5_first 88 = .ok (.invokestatic 185, 3) := dk_184 0 185 (dk_at dksX5_first_3 12 rfl rfl)
theorem dX5_first_91 : decode cX5_first 91 = .ok (.ireturn, 1) := dk_172 (dk_at dksX5_first_3 15 rfl rfl)
theorem dX5_first_92 : decode cX5_first 92 = .ok (.iload_n 3, 1) := dk_29 (dk_at dksX5_first_3 16 rfl rfl)
theorem dX5_first_93 : decode cX5_first 93 = .ok (.iload_n 2, 1) := dk_28 (dk_at dksX5_first_3 17 rfl rfl)
theorem dX5_first_94 : decode cX5_first 94 = .ok (.invokestatic 213, 3) := dk_184 0 213 (dk_at dksX5_first_3 18 rfl rfl)
theorem dX5_first_97 : decode cX5_first 97 = .ok (.ifCond .eq 7, 3) := dk_153 0 7 (dk_at dksX5_first_3 21 rfl rfl)
theorem dX5_first_100 : decode cX5_first 100 = .ok (.iconst 1, 1) := dk_4 (dk_at dksX5_first_4 0 rfl rfl)
theorem dX5_first_101 : decode cX5_first 101 = .ok (.goto 4, 3) := dk_167 0 4 (dk_at dksX5_first_4 1 rfl rfl)
theorem dX5_first_104 : decode cX5_first 104 = .ok (.iconst 0, 1) := dk_3 (dk_at dksX5_first_4 4 rfl rfl)
theorem dX5_first_105 : decode cX5_first 105 = .ok (.ireturn, 1) := dk_172 (dk_at dksX5_first_4 5 rfl rfl)
theorem dX5_first_106 : decode cX5_first 106 = .ok (.iload_n 2, 1) := dk_28 (dk_at dksX5_first_4 6 rfl rfl)
theorem dX5_first_107 : decode cX5_first 107 = .ok (.iload_n 3, 1) := dk_29 (dk_at dksX5_first_4 7 rfl rfl)
theorem dX5_first_108 : decode cX5_first 108 = .ok (.invokestatic 246, 3) := dk_184 0 246 (dk_at dksX5_first_4 8 rfl rfl)
theorem dX5_first_111 : decode cX5_first 111 = .ok (.ireturn, 1) := dk_172 (dk_at dksX5_first_4 11 rfl rfl)
theorem dX5_first_112 : decode cX5_first 112 = .ok (.iload_n 2, 1) := dk_28 (dk_at dksX5_first_4 12 rfl rfl)
theorem dX5_first_113 : decode cX5_first 113 = .ok (.iload_n 3, 1) := dk_29 (dk_at dksX5_first_4 13 rfl rfl)
theorem dX5_first_114 : decode cX5_first 114 = .ok (.invokestatic 249, 3) := dk_184 0 249 (dk_at dksX5_first_4 14 rfl rfl)
theorem dX5_first_117 : decode cX5_first 117 = .ok (.ireturn, 1) := dk_172 (dk_at dksX5_first_4 17 rfl rfl)
def dkwX5_joinedWord_1 : List UInt8 := [128, 184, 0, 192, 172]
abbrev dktX5_joinedWord_1 : List UInt8 := dkwX5_joinedWord_1 ++ []
def dkwX5_joinedWord_0 : List UInt8 := [26, 184, 0, 185, 27, 184, 0, 185, 96, 61, 28, 26, 184, 0, 189, 27, 184, 0, 185, 120, 27, 184, 0, 189]
abbrev dktX5_joinedWord_0 : List UInt8 := dkwX5_joinedWord_0 ++ dktX5_joinedWord_1
theorem dksX5_joinedWord_0 : cX5_joinedWord.data.toList.drop 0 = dktX5_joinedWord_0 := by decide +kernel
theorem dksX5_joinedWord_1 : cX5_joinedWord.data.toList.drop 24 = dktX5_joinedWord_1 := dk_seg dksX5_joinedWord_0 24 rfl rfl
theorem dX5_joinedWord_0 : decode cX5_joinedWord 0 = .ok (.iload_n 0, 1) := dk_26 (dk_at dksX5_joinedWord_0 0 rfl rfl)
theorem dX5_joinedWord_1 : decode cX5_joinedWord 1 = .ok (.invokestatic 185, 3) := dk_184 0 185 (dk_at dksX5_joinedWord_0 1 rfl rfl)
theorem dX5_joinedWord_4 : decode cX5_joinedWord 4 = .ok (.iload_n 1, 1) := dk_27 (dk_at dksX5_joinedWord_0 4 rfl rfl)
theorem dX5_joinedWord_5 : decode cX5_joinedWord 5 = .ok (.invokestatic 185, 3) := dk_184 0 185 (dk_at dksX5_joinedWord_0 5 rfl rfl)
theorem dX5_joinedWord_8 : decode cX5_joinedWord 8 = .ok (.iadd, 1) := dk_96 (dk_at dksX5_joinedWord_0 8 rfl rfl)
theorem dX5_joinedWord_9 : decode cX5_joinedWord 9 = .ok (.istore_n 2, 1) := dk_61 (dk_at dksX5_joinedWord_0 9 rfl rfl)
theorem dX5_joinedWord_10 : decode cX5_joinedWord 10 = .ok (.iload_n 2, 1) := dk_28 (dk_at dksX5_joinedWord_0 10 rfl rfl)
theorem dX5_joinedWord_11 : decode cX5_joinedWord 11 = .ok (.iload_n 0, 1) := dk_26 (dk_at dksX5_joinedWord_0 11 rfl rfl)
theorem dX5_joinedWord_12 : decode cX5_joinedWord 12 = .ok (.invokestatic 189, 3) := dk_184 0 189 (dk_at dksX5_joinedWord_0 12 rfl rfl)
theorem dX5_joinedWord_15 : decode cX5_joinedWord 15 = .ok (.iload_n 1, 1) := dk_27 (dk_at dksX5_joinedWord_0 15 rfl rfl)
theorem dX5_joinedWord_16 : decode cX5_joinedWord 16 = .ok (.invokestatic 185, 3) := dk_184 0 185 (dk_at dksX5_joinedWord_0 16 rfl rfl)
theorem dX5_joinedWord_19 : decode cX5_joinedWord 19 = .ok (.ishl, 1) := dk_120 (dk_at dksX5_joinedWord_0 19 rfl rfl)
theorem dX5_joinedWord_20 : decode cX5_joinedWord 20 = .ok (.iload_n 1, 1) := dk_27 (dk_at dksX5_joinedWord_0 20 rfl rfl)
theorem dX5_joinedWord_21 : decode cX5_joinedWord 21 = .ok (.invokestatic 189, 3) := dk_184 0 189 (dk_at dksX5_joinedWord_0 21 rfl rfl)
theorem dX5_joinedWord_24 : decode cX5_joinedWord 24 = .ok (.ior, 1) := dk_128 (dk_at dksX5_joinedWord_1 0 rfl rfl)
theorem dX5_joinedWord_25 : decode cX5_joinedWord 25 = .ok (.invokestatic 192, 3) := dk_184 0 192 (dk_at dksX5_joinedWord_1 1 rfl rfl)
theorem dX5_joinedWord_28 : decode cX5_joinedWord 28 = .ok (.ireturn, 1) := dk_172 (dk_at dksX5_joinedWord_1 4 rfl rfl)
def dkwX5_wordOf_0 : List UInt8 := [26, 6, 164, 0, 7, 2, 167, 0, 10, 27, 4, 26, 120, 96, 4, 100, 172]
abbrev dktX5_wordOf_0 : List UInt8 := dkwX5_wordOf_0 ++ []
theorem dksX5_wordOf_0 : cX5_wordOf.data.toList.drop 0 = dktX5_wordOf_0 := by decide +kernel
theorem dX5_wordOf_0 : decode cX5_wordOf 0 = .ok (.iload_n 0, 1) := dk_26 (dk_at dksX5_wordOf_0 0 rfl rfl)
theorem dX5_wordOf_1 : decode cX5_wordOf 1 = .ok (.iconst 3, 1) := dk_6 (dk_at dksX5_wordOf_0 1 rfl rfl)
theorem dX5_wordOf_2 : decode cX5_wordOf 2 = .ok (.if_icmp .le 7, 3) := dk_164 0 7 (dk_at dksX5_wordOf_0 2 rfl rfl)
theorem dX5_wordOf_5 : decode cX5_wordOf 5 = .ok (.iconst (-1), 1) := dk_2 (dk_at dksX5_wordOf_0 5 rfl rfl)
theorem dX5_wordOf_6 : decode cX5_wordOf 6 = .ok (.goto 10, 3) := dk_167 0 10 (dk_at dksX5_wordOf_0 6 rfl rfl)
theorem dX5_wordOf_9 : decode cX5_wordOf 9 = .ok (.iload_n 1, 1) := dk_27 (dk_at dksX5_wordOf_0 9 rfl rfl)
theorem dX5_wordOf_10 : decode cX5_wordOf 10 = .ok (.iconst 1, 1) := dk_4 (dk_at dksX5_wordOf_0 10 rfl rfl)
theorem dX5_wordOf_11 : decode cX5_wordOf 11 = .ok (.iload_n 0, 1) := dk_26 (dk_at dksX5_wordOf_0 11 rfl rfl)
theorem dX5_wordOf_12 : decode cX5_wordOf 12 = .ok (.ishl, 1) := dk_120 (dk_at dksX5_wordOf_0 12 rfl rfl)
theorem dX5_wordOf_13 : decode cX5_wordOf 13 = .ok (.iadd, 1) := dk_96 (dk_at dksX5_wordOf_0 13 rfl rfl)
theorem dX5_wordOf_14 : decode cX5_wordOf 14 = .ok (.iconst 1, 1) := dk_4 (dk_at dksX5_wordOf_0 14 rfl rfl)
theorem dX5_wordOf_15 : decode cX5_wordOf 15 = .ok (.isub, 1) := dk_100 (dk_at dksX5_wordOf_0 15 rfl rfl)
theorem dX5_wordOf_16 : decode cX5_wordOf 16 = .ok (.ireturn, 1) := dk_172 (dk_at dksX5_wordOf_0 16 rfl rfl)
def dkwX5_letterOf_1 : List UInt8 := [167, 0, 4, 2, 172]
abbrev dktX5_letterOf_1 : List UInt8 := dkwX5_letterOf_1 ++ []
def dkwX5_letterOf_0 : List UInt8 := [27, 26, 184, 0, 185, 162, 0, 21, 26, 184, 0, 189, 26, 184, 0, 185, 4, 100, 27, 100, 122, 4, 126]
abbrev dktX5_letterOf_0 : List UInt8 := dkwX5_letterOf_0 ++ dktX5_letterOf_1
theorem dksX5_letterOf_0 : cX5_letterOf.data.toList.drop 0 = dktX5_letterOf_0 := by decide +kernel
theorem dksX5_letterOf_1 : cX5_letterOf.data.toList.drop 23 = dktX5_letterOf_1 := dk_seg dksX5_letterOf_0 23 rfl rfl
theorem dX5_letterOf_0 : decode cX5_letterOf 0 = .ok (.iload_n 1, 1) := dk_27 (dk_at dksX5_letterOf_0 0 rfl rfl)
theorem dX5_letterOf_1 : decode cX5_letterOf 1 = .ok (.iload_n 0, 1) := dk_26 (dk_at dksX5_letterOf_0 1 rfl rfl)
theorem dX5_letterOf_2 : decode cX5_letterOf 2 = .ok (.invokestatic 185, 3) := dk_184 0 185 (dk_at dksX5_letterOf_0 2 rfl rfl)
theorem dX5_letterOf_5 : decode cX5_letterOf 5 = .ok (.if_icmp .ge 21, 3) := dk_162 0 21 (dk_at dksX5_letterOf_0 5 rfl rfl)
theorem dX5_letterOf_8 : decode cX5_letterOf 8 = .ok (.iload_n 0, 1) := dk_26 (dk_at dksX5_letterOf_0 8 rfl rfl)
theorem dX5_letterOf_9 : decode cX5_letterOf 9 = .ok (.invokestatic 189, 3) := dk_184 0 189 (dk_at dksX5_letterOf_0 9 rfl rfl)
theorem dX5_letterOf_12 : decode cX5_letterOf 12 = .ok (.iload_n 0, 1) := dk_26 (dk_at dksX5_letterOf_0 12 rfl rfl)
theorem dX5_letterOf_13 : decode cX5_letterOf 13 = .ok (.invokestatic 185, 3) := dk_184 0 185 (dk_at dksX5_letterOf_0 13 rfl rfl)
theorem dX5_letterOf_16 : decode cX5_letterOf 16 = .ok (.iconst 1, 1) := dk_4 (dk_at dksX5_letterOf_0 16 rfl rfl)
theorem dX5_letterOf_17 : decode cX5_letterOf 17 = .ok (.isub, 1) := dk_100 (dk_at dksX5_letterOf_0 17 rfl rfl)
theorem dX5_letterOf_18 : decode cX5_letterOf 18 = .ok (.iload_n 1, 1) := dk_27 (dk_at dksX5_letterOf_0 18 rfl rfl)
theorem dX5_letterOf_19 : decode cX5_letterOf 19 = .ok (.isub, 1) := dk_100 (dk_at dksX5_letterOf_0 19 rfl rfl)
theorem dX5_letterOf_20 : decode cX5_letterOf 20 = .ok (.ishr, 1) := dk_122 (dk_at dksX5_letterOf_0 20 rfl rfl)
theorem dX5_letterOf_21 : decode cX5_letterOf 21 = .ok (.iconst 1, 1) := dk_4 (dk_at dksX5_letterOf_0 21 rfl rfl)
theorem dX5_letterOf_22 : decode cX5_letterOf 22 = .ok (.iand, 1) := dk_126 (dk_at dksX5_letterOf_0 22 rfl rfl)
theorem dX5_letterOf_23 : decode cX5_letterOf 23 = .ok (.goto 4, 3) := dk_167 0 4 (dk_at dksX5_letterOf_1 0 rfl rfl)
theorem dX5_letterOf_26 : decode cX5_letterOf 26 = .ok (.iconst (-1), 1) := dk_2 (dk_at dksX5_letterOf_1 3 rfl rfl)
theorem dX5_letterOf_27 : decode cX5_letterOf 27 = .ok (.ireturn, 1) := dk_172 (dk_at dksX5_letterOf_1 4 rfl rfl)
def dkwX5_against_3 : List UInt8 := [167, 255, 188, 2, 172]
abbrev dktX5_against_3 : List UInt8 := dkwX5_against_3 ++ []
def dkwX5_against_2 : List UInt8 := [21, 4, 96, 46, 28, 124, 4, 126, 154, 0, 5, 29, 172, 132, 4, 1, 167, 255, 205, 132, 3, 1]
abbrev dktX5_against_2 : List UInt8 := dkwX5_against_2 ++ dktX5_against_3
def dkwX5_against_1 : List UInt8 := [42, 180, 0, 47, 16, 8, 29, 104, 21, 4, 96, 46, 27, 160, 0, 24, 42, 180, 0, 102, 16, 8, 29, 104]
abbrev dktX5_against_1 : List UInt8 := dkwX5_against_1 ++ dktX5_against_2
def dkwX5_against_0 : List UInt8 := [3, 62, 29, 42, 180, 1, 62, 162, 0, 66, 3, 54, 4, 21, 4, 42, 180, 0, 44, 29, 46, 162, 0, 46]
abbrev dktX5_against_0 : List UInt8 := dkwX5_against_0 ++ dktX5_against_1
theorem dksX5_against_0 : cX5_against.data.toList.drop 0 = dktX5_against_0 := by decide +kernel
theorem dksX5_against_1 : cX5_against.data.toList.drop 24 = dktX5_against_1 := dk_seg dksX5_against_0 24 rfl rfl
theorem dksX5_against_2 : cX5_against.data.toList.drop 48 = dktX5_against_2 := dk_seg dksX5_against_1 24 rfl rfl
theorem dksX5_against_3 : cX5_against.data.toList.drop 70 = dktX5_against_3 := dk_seg dksX5_against_2 22 rfl rfl
theorem dX5_against_0 : decode cX5_against 0 = .ok (.iconst 0, 1) := dk_3 (dk_at dksX5_against_0 0 rfl rfl)
theorem dX5_against_1 : decode cX5_against 1 = .ok (.istore_n 3, 1) := dk_62 (dk_at dksX5_against_0 1 rfl rfl)
theorem dX5_against_2 : decode cX5_against 2 = .ok (.iload_n 3, 1) := dk_29 (dk_at dksX5_against_0 2 rfl rfl)
theorem dX5_against_3 : decode cX5_against 3 = .ok (.aload_n 0, 1) := dk_42 (dk_at dksX5_against_0 3 rfl rfl)
theorem dX5_against_4 : decode cX5_against 4 = .ok (.getfield 318, 3) := dk_180 1 62 (dk_at dksX5_against_0 4 rfl rfl)
theorem dX5_against_7 : decode cX5_against 7 = .ok (.if_icmp .ge 66, 3) := dk_162 0 66 (dk_at dksX5_against_0 7 rfl rfl)
theorem dX5_against_10 : decode cX5_against 10 = .ok (.iconst 0, 1) := dk_3 (dk_at dksX5_against_0 10 rfl rfl)
theorem dX5_against_11 : decode cX5_against 11 = .ok (.istore 4, 2) := dk_54 4 (dk_at dksX5_against_0 11 rfl rfl)
theorem dX5_against_13 : decode cX5_against 13 = .ok (.iload 4, 2) := dk_21 4 (dk_at dksX5_against_0 13 rfl rfl)
theorem dX5_against_15 : decode cX5_against 15 = .ok (.aload_n 0, 1) := dk_42 (dk_at dksX5_against_0 15 rfl rfl)
theorem dX5_against_16 : decode cX5_against 16 = .ok (.getfield 44, 3) := dk_180 0 44 (dk_at dksX5_against_0 16 rfl rfl)
theorem dX5_against_19 : decode cX5_against 19 = .ok (.iload_n 3, 1) := dk_29 (dk_at dksX5_against_0 19 rfl rfl)
theorem dX5_against_20 : decode cX5_against 20 = .ok (.iaload, 1) := dk_46 (dk_at dksX5_against_0 20 rfl rfl)
theorem dX5_against_21 : decode cX5_against 21 = .ok (.if_icmp .ge 46, 3) := dk_162 0 46 (dk_at dksX5_against_0 21 rfl rfl)
theorem dX5_against_24 : decode cX5_against 24 = .ok (.aload_n 0, 1) := dk_42 (dk_at dksX5_against_1 0 rfl rfl)
theorem dX5_against_25 : decode cX5_against 25 = .ok (.getfield 47, 3) := dk_180 0 47 (dk_at dksX5_against_1 1 rfl rfl)
theorem dX5_against_28 : decode cX5_against 28 = .ok (.bipush 8, 2) := dk_16 8 (dk_at dksX5_against_1 4 rfl rfl)
theorem dX5_against_30 : decode cX5_against 30 = .ok (.iload_n 3, 1) := dk_29 (dk_at dksX5_against_1 6 rfl rfl)
theorem dX5_against_31 : decode cX5_against 31 = .ok (.imul, 1) := dk_104 (dk_at dksX5_against_1 7 rfl rfl)
theorem dX5_against_32 : decode cX5_against 32 = .ok (.iload 4, 2) := dk_21 4 (dk_at dksX5_against_1 8 rfl rfl)
theorem dX5_against_34 : decode cX5_against 34 = .ok (.iadd, 1) := dk_96 (dk_at dksX5_against_1 10 rfl rfl)
theorem dX5_against_35 : decode cX5_against 35 = .ok (.iaload, 1) := dk_46 (dk_at dksX5_against_1 11 rfl rfl)
theorem dX5_against_36 : decode cX5_against 36 = .ok (.iload_n 1, 1) := dk_27 (dk_at dksX5_against_1 12 rfl rfl)
theorem dX5_against_37 : decode cX5_against 37 = .ok (.if_icmp .ne 24, 3) := dk_160 0 24 (dk_at dksX5_against_1 13 rfl rfl)
theorem dX5_against_40 : decode cX5_against 40 = .ok (.aload_n 0, 1) := dk_42 (dk_at dksX5_against_1 16 rfl rfl)
theorem dX5_against_41 : decode cX5_against 41 = .ok (.getfield 102, 3) := dk_180 0 102 (dk_at dksX5_against_1 17 rfl rfl)
theorem dX5_against_44 : decode cX5_against 44 = .ok (.bipush 8, 2) := dk_16 8 (dk_at dksX5_against_1 20 rfl rfl)
theorem dX5_against_46 : decode cX5_against 46 = .ok (.iload_n 3, 1) := dk_29 (dk_at dksX5_against_1 22 rfl rfl)
theorem dX5_against_47 : decode cX5_against 47 = .ok (.imul, 1) := dk_104 (dk_at dksX5_against_1 23 rfl rfl)
theorem dX5_against_48 : decode cX5_against 48 = .ok (.iload 4, 2) := dk_21 4 (dk_at dksX5_against_2 0 rfl rfl)
theorem dX5_against_50 : decode cX5_against 50 = .ok (.iadd, 1) := dk_96 (dk_at dksX5_against_2 2 rfl rfl)
theorem dX5_against_51 : decode cX5_against 51 = .ok (.iaload, 1) := dk_46 (dk_at dksX5_against_2 3 rfl rfl)
theorem dX5_against_52 : decode cX5_against 52 = .ok (.iload_n 2, 1) := dk_28 (dk_at dksX5_against_2 4 rfl rfl)
theorem dX5_against_53 : decode cX5_against 53 = .ok (.iushr, 1) := dk_124 (dk_at dksX5_against_2 5 rfl rfl)
theorem dX5_against_54 : decode cX5_against 54 = .ok (.iconst 1, 1) := dk_4 (dk_at dksX5_against_2 6 rfl rfl)
theorem dX5_against_55 : decode cX5_against 55 = .ok (.iand, 1) := dk_126 (dk_at dksX5_against_2 7 rfl rfl)
theorem dX5_against_56 : decode cX5_against 56 = .ok (.ifCond .ne 5, 3) := dk_154 0 5 (dk_at dksX5_against_2 8 rfl rfl)
theorem dX5_against_59 : decode cX5_against 59 = .ok (.iload_n 3, 1) := dk_29 (dk_at dksX5_against_2 11 rfl rfl)
theorem dX5_against_60 : decode cX5_against 60 = .ok (.ireturn, 1) := dk_172 (dk_at dksX5_against_2 12 rfl rfl)
theorem dX5_against_61 : decode cX5_against 61 = .ok (.iinc 4 1, 3) := dk_132 4 1 (dk_at dksX5_against_2 13 rfl rfl)
theorem dX5_against_64 : decode cX5_against 64 = .ok (.goto (-51), 3) := dk_167 255 205 (dk_at dksX5_against_2 16 rfl rfl)
theorem dX5_against_67 : decode cX5_against 67 = .ok (.iinc 3 1, 3) := dk_132 3 1 (dk_at dksX5_against_2 19 rfl rfl)
theorem dX5_against_70 : decode cX5_against 70 = .ok (.goto (-68), 3) := dk_167 255 188 (dk_at dksX5_against_3 0 rfl rfl)
theorem dX5_against_73 : decode cX5_against 73 = .ok (.iconst (-1), 1) := dk_2 (dk_at dksX5_against_3 3 rfl rfl)
theorem dX5_against_74 : decode cX5_against 74 = .ok (.ireturn, 1) := dk_172 (dk_at dksX5_against_3 4 rfl rfl)
def dkwX5_removes_3 : List UInt8 := [96, 29, 79, 42, 89, 180, 1, 52, 4, 96, 181, 1, 52, 177]
abbrev dktX5_removes_3 : List UInt8 := dkwX5_removes_3 ++ []
def dkwX5_removes_2 : List UInt8 := [180, 0, 99, 7, 42, 180, 1, 52, 104, 5, 96, 28, 79, 42, 180, 0, 99, 7, 42, 180, 1, 52, 104, 6]
abbrev dktX5_removes_2 : List UInt8 := dkwX5_removes_2 ++ dktX5_removes_3
def dkwX5_removes_1 : List UInt8 := [42, 180, 1, 49, 4, 96, 79, 42, 180, 0, 99, 7, 42, 180, 1, 52, 104, 4, 96, 27, 79, 42]
abbrev dktX5_removes_1 : List UInt8 := dkwX5_removes_1 ++ dktX5_removes_2
def dkwX5_removes_0 : List UInt8 := [42, 180, 0, 105, 27, 92, 46, 4, 28, 120, 2, 130, 126, 79, 42, 180, 0, 99, 7, 42, 180, 1, 52, 104]
abbrev dktX5_removes_0 : List UInt8 := dkwX5_removes_0 ++ dktX5_removes_1
theorem dksX5_removes_0 : cX5_removes.data.toList.drop 0 = dktX5_removes_0 := by decide +kernel
theorem dksX5_removes_1 : cX5_removes.data.toList.drop 24 = dktX5_removes_1 := dk_seg dksX5_removes_0 24 rfl rfl
theorem dksX5_removes_2 : cX5_removes.data.toList.drop 46 = dktX5_removes_2 := dk_seg dksX5_removes_1 22 rfl rfl
theorem dksX5_removes_3 : cX5_removes.data.toList.drop 70 = dktX5_removes_3 := dk_seg dksX5_removes_2 24 rfl rfl
theorem dX5_removes_0 : decode cX5_removes 0 = .ok (.aload_n 0, 1) := dk_42 (dk_at dksX5_removes_0 0 rfl rfl)
theorem dX5_removes_1 : decode cX5_removes 1 = .ok (.getfield 105, 3) := dk_180 0 105 (dk_at dksX5_removes_0 1 rfl rfl)
theorem dX5_removes_4 : decode cX5_removes 4 = .ok (.iload_n 1, 1) := dk_27 (dk_at dksX5_removes_0 4 rfl rfl)
theorem dX5_removes_5 : decode cX5_removes 5 = .ok (.dup2, 1) := dk_92 (dk_at dksX5_removes_0 5 rfl rfl)
theorem dX5_removes_6 : decode cX5_removes 6 = .ok (.iaload, 1) := dk_46 (dk_at dksX5_removes_0 6 rfl rfl)
theorem dX5_removes_7 : decode cX5_removes 7 = .ok (.iconst 1, 1) := dk_4 (dk_at dksX5_removes_0 7 rfl rfl)
theorem dX5_removes_8 : decode cX5_removes 8 = .ok (.iload_n 2, 1) := dk_28 (dk_at dksX5_removes_0 8 rfl rfl)
theorem dX5_removes_9 : decode cX5_removes 9 = .ok (.ishl, 1) := dk_120 (dk_at dksX5_removes_0 9 rfl rfl)
theorem dX5_removes_10 : decode cX5_removes 10 = .ok (.iconst (-1), 1) := dk_2 (dk_at dksX5_removes_0 10 rfl rfl)
theorem dX5_removes_11 : decode cX5_removes 11 = .ok (.ixor, 1) := dk_130 (dk_at dksX5_removes_0 11 rfl rfl)
theorem dX5_removes_12 : decode cX5_removes 12 = .ok (.iand, 1) := dk_126 (dk_at dksX5_removes_0 12 rfl rfl)
theorem dX5_removes_13 : decode cX5_removes 13 = .ok (.iastore, 1) := dk_79 (dk_at dksX5_removes_0 13 rfl rfl)
theorem dX5_removes_14 : decode cX5_removes 14 = .ok (.aload_n 0, 1) := dk_42 (dk_at dksX5_removes_0 14 rfl rfl)
theorem dX5_removes_15 : decode cX5_removes 15 = .ok (.getfield 99, 3) := dk_180 0 99 (dk_at dksX5_removes_0 15 rfl rfl)
theorem dX5_removes_18 : decode cX5_removes 18 = .ok (.iconst 4, 1) := dk_7 (dk_at dksX5_removes_0 18 rfl rfl)
theorem dX5_removes_19 : decode cX5_removes 19 = .ok (.aload_n 0, 1) := dk_42 (dk_at dksX5_removes_0 19 rfl rfl)
theorem dX5_removes_20 : decode cX5_removes 20 = .ok (.getfield 308, 3) := dk_180 1 52 (dk_at dksX5_removes_0 20 rfl rfl)
theorem dX5_removes_23 : decode cX5_removes 23 = .ok (.imul, 1) := dk_104 (dk_at dksX5_removes_0 23 rfl rfl)
theorem dX5_removes_24 : decode cX5_removes 24 = .ok (.aload_n 0, 1) := dk_42 (dk_at dksX5_removes_1 0 rfl rfl)
theorem dX5_removes_25 : decode cX5_removes 25 = .ok (.getfield 305, 3) := dk_180 1 49 (dk_at dksX5_removes_1 1 rfl rfl)
theorem dX5_removes_28 : decode cX5_removes 28 = .ok (.iconst 1, 1) := dk_4 (dk_at dksX5_removes_1 4 rfl rfl)
theorem dX5_removes_29 : decode cX5_removes 29 = .ok (.iadd, 1) := dk_96 (dk_at dksX5_removes_1 5 rfl rfl)
theorem dX5_removes_30 : decode cX5_removes 30 = .ok (.iastore, 1) := dk_79 (dk_at dksX5_removes_1 6 rfl rfl)
theorem dX5_removes_31 : decode cX5_removes 31 = .ok (.aload_n 0, 1) := dk_42 (dk_at dksX5_removes_1 7 rfl rfl)
theorem dX5_removes_32 : decode cX5_removes 32 = .ok (.getfield 99, 3) := dk_180 0 99 (dk_at dksX5_removes_1 8 rfl rfl)
theorem dX5_removes_35 : decode cX5_removes 35 = .ok (.iconst 4, 1) := dk_7 (dk_at dksX5_removes_1 11 rfl rfl)
theorem dX5_removes_36 : decode cX5_removes 36 = .ok (.aload_n 0, 1) := dk_42 (dk_at dksX5_removes_1 12 rfl rfl)
theorem dX5_removes_37 : decode cX5_removes 37 = .ok (.getfield 308, 3) := dk_180 1 52 (dk_at dksX5_removes_1 13 rfl rfl)
theorem dX5_removes_40 : decode cX5_removes 40 = .ok (.imul, 1) := dk_104 (dk_at dksX5_removes_1 16 rfl rfl)
theorem dX5_removes_41 : decode cX5_removes 41 = .ok (.iconst 1, 1) := dk_4 (dk_at dksX5_removes_1 17 rfl rfl)
theorem dX5_removes_42 : decode cX5_removes 42 = .ok (.iadd, 1) := dk_96 (dk_at dksX5_removes_1 18 rfl rfl)
theorem dX5_removes_43 : decode cX5_removes 43 = .ok (.iload_n 1, 1) := dk_27 (dk_at dksX5_removes_1 19 rfl rfl)
theorem dX5_removes_44 : decode cX5_removes 44 = .ok (.iastore, 1) := dk_79 (dk_at dksX5_removes_1 20 rfl rfl)
theorem dX5_removes_45 : decode cX5_removes 45 = .ok (.aload_n 0, 1) := dk_42 (dk_at dksX5_removes_1 21 rfl rfl)
theorem dX5_removes_46 : decode cX5_removes 46 = .ok (.getfield 99, 3) := dk_180 0 99 (dk_at dksX5_removes_2 0 rfl rfl)
theorem dX5_removes_49 : decode cX5_removes 49 = .ok (.iconst 4, 1) := dk_7 (dk_at dksX5_removes_2 3 rfl rfl)
theorem dX5_removes_50 : decode cX5_removes 50 = .ok (.aload_n 0, 1) := dk_42 (dk_at dksX5_removes_2 4 rfl rfl)
theorem dX5_removes_51 : decode cX5_removes 51 = .ok (.getfield 308, 3) := dk_180 1 52 (dk_at dksX5_removes_2 5 rfl rfl)
theorem dX5_removes_54 : decode cX5_removes 54 = .ok (.imul, 1) := dk_104 (dk_at dksX5_removes_2 8 rfl rfl)
theorem dX5_removes_55 : decode cX5_removes 55 = .ok (.iconst 2, 1) := dk_5 (dk_at dksX5_removes_2 9 rfl rfl)
theorem dX5_removes_56 : decode cX5_removes 56 = .ok (.iadd, 1) := dk_96 (dk_at dksX5_removes_2 10 rfl rfl)
theorem dX5_removes_57 : decode cX5_removes 57 = .ok (.iload_n 2, 1) := dk_28 (dk_at dksX5_removes_2 11 rfl rfl)
theorem dX5_removes_58 : decode cX5_removes 58 = .ok (.iastore, 1) := dk_79 (dk_at dksX5_removes_2 12 rfl rfl)
theorem dX5_removes_59 : decode cX5_removes 59 = .ok (.aload_n 0, 1) := dk_42 (dk_at dksX5_removes_2 13 rfl rfl)
theorem dX5_removes_60 : decode cX5_removes 60 = .ok (.getfield 99, 3) := dk_180 0 99 (dk_at dksX5_removes_2 14 rfl rfl)
theorem dX5_removes_63 : decode cX5_removes 63 = .ok (.iconst 4, 1) := dk_7 (dk_at dksX5_removes_2 17 rfl rfl)
theorem dX5_removes_64 : decode cX5_removes 64 = .ok (.aload_n 0, 1) := dk_42 (dk_at dksX5_removes_2 18 rfl rfl)
theorem dX5_removes_65 : decode cX5_removes 65 = .ok (.getfield 308, 3) := dk_180 1 52 (dk_at dksX5_removes_2 19 rfl rfl)
theorem dX5_removes_68 : decode cX5_removes 68 = .ok (.imul, 1) := dk_104 (dk_at dksX5_removes_2 22 rfl rfl)
theorem dX5_removes_69 : decode cX5_removes 69 = .ok (.iconst 3, 1) := dk_6 (dk_at dksX5_removes_2 23 rfl rfl)
theorem dX5_removes_70 : decode cX5_removes 70 = .ok (.iadd, 1) := dk_96 (dk_at dksX5_removes_3 0 rfl rfl)
theorem dX5_removes_71 : decode cX5_removes 71 = .ok (.iload_n 3, 1) := dk_29 (dk_at dksX5_removes_3 1 rfl rfl)
theorem dX5_removes_72 : decode cX5_removes 72 = .ok (.iastore, 1) := dk_79 (dk_at dksX5_removes_3 2 rfl rfl)
theorem dX5_removes_73 : decode cX5_removes 73 = .ok (.aload_n 0, 1) := dk_42 (dk_at dksX5_removes_3 3 rfl rfl)
theorem dX5_removes_74 : decode cX5_removes 74 = .ok (.dup, 1) := dk_89 (dk_at dksX5_removes_3 4 rfl rfl)
theorem dX5_removes_75 : decode cX5_removes 75 = .ok (.getfield 308, 3) := dk_180 1 52 (dk_at dksX5_removes_3 5 rfl rfl)
theorem dX5_removes_78 : decode cX5_removes 78 = .ok (.iconst 1, 1) := dk_4 (dk_at dksX5_removes_3 8 rfl rfl)
theorem dX5_removes_79 : decode cX5_removes 79 = .ok (.iadd, 1) := dk_96 (dk_at dksX5_removes_3 9 rfl rfl)
theorem dX5_removes_80 : decode cX5_removes 80 = .ok (.putfield 308, 3) := dk_181 1 52 (dk_at dksX5_removes_3 10 rfl rfl)
theorem dX5_removes_83 : decode cX5_removes 83 = .ok (.return_, 1) := dk_177 (dk_at dksX5_removes_3 13 rfl rfl)
def dkwX5_ratioAgrees_3 : List UInt8 := [167, 0, 4, 3, 126, 62, 132, 5, 1, 167, 255, 194, 132, 4, 1, 167, 255, 176, 29, 172]
abbrev dktX5_ratioAgrees_3 : List UInt8 := dkwX5_ratioAgrees_3 ++ []
def dkwX5_ratioAgrees_2 : List UInt8 := [21, 4, 104, 21, 5, 96, 46, 27, 160, 0, 15, 42, 21, 4, 21, 5, 28, 182, 0, 217, 153, 0, 7, 4]
abbrev dktX5_ratioAgrees_2 : List UInt8 := dkwX5_ratioAgrees_2 ++ dktX5_ratioAgrees_3
def dkwX5_ratioAgrees_1 : List UInt8 := [21, 4, 46, 162, 0, 56, 29, 42, 180, 0, 41, 21, 4, 46, 154, 0, 32, 42, 180, 0, 47, 16, 8]
abbrev dktX5_ratioAgrees_1 : List UInt8 := dkwX5_ratioAgrees_1 ++ dktX5_ratioAgrees_2
def dkwX5_ratioAgrees_0 : List UInt8 := [4, 62, 3, 54, 4, 21, 4, 42, 180, 1, 62, 162, 0, 77, 3, 54, 5, 21, 5, 42, 180, 0, 44]
abbrev dktX5_ratioAgrees_0 : List UInt8 := dkwX5_ratioAgrees_0 ++ dktX5_ratioAgrees_1
theorem dksX5_ratioAgrees_0 : cX5_ratioAgrees.data.toList.drop 0 = dktX5_ratioAgrees_0 := by decide +kernel
theorem dksX5_ratioAgrees_1 : cX5_ratioAgrees.data.toList.drop 23 = dktX5_ratioAgrees_1 := dk_seg dksX5_ratioAgrees_0 23 rfl rfl
theorem dksX5_ratioAgrees_2 : cX5_ratioAgrees.data.toList.drop 46 = dktX5_ratioAgrees_2 := dk_seg dksX5_ratioAgrees_1 23 rfl rfl
theorem dksX5_ratioAgrees_3 : cX5_ratioAgrees.data.toList.drop 70 = dktX5_ratioAgrees_3 := dk_seg dksX5_ratioAgrees_2 24 rfl rfl
theorem dX5_ratioAgrees_0 : decode cX5_ratioAgrees 0 = .ok (.iconst 1, 1) := dk_4 (dk_at dksX5_ratioAgrees_0 0 rfl rfl)
theorem dX5_ratioAgrees_1 : decode cX5_ratioAgrees 1 = .ok (.istore_n 3, 1) := dk_62 (dk_at dksX5_ratioAgrees_0 1 rfl rfl)
theorem dX5_ratioAgrees_2 : decode cX5_ratioAgrees 2 = .ok (.iconst 0, 1) := dk_3 (dk_at dksX5_ratioAgrees_0 2 rfl rfl)
theorem dX5_ratioAgrees_3 : decode cX5_ratioAgrees 3 = .ok (.istore 4, 2) := dk_54 4 (dk_at dksX5_ratioAgrees_0 3 rfl rfl)
theorem dX5_ratioAgrees_5 : decode cX5_ratioAgrees 5 = .ok (.iload 4, 2) := dk_21 4 (dk_at dksX5_ratioAgrees_0 5 rfl rfl)
theorem dX5_ratioAgrees_7 : decode cX5_ratioAgrees 7 = .ok (.aload_n 0, 1) := dk_42 (dk_at dksX5_ratioAgrees_0 7 rfl rfl)
theorem dX5_ratioAgrees_8 : decode cX5_ratioAgrees 8 = .ok (.getfield 318, 3) := dk_180 1 62 (dk_at dksX5_ratioAgrees_0 8 rfl rfl)
theorem dX5_ratioAgrees_11 : decode cX5_ratioAgrees 11 = .ok (.if_icmp .ge 77, 3) := dk_162 0 77 (dk_at dksX5_ratioAgrees_0 11 rfl rfl)
theorem dX5_ratioAgrees_14 : decode cX5_ratioAgrees 14 = .ok (.iconst 0, 1) := dk_3 (dk_at dksX5_ratioAgrees_0 14 rfl rfl)
theorem dX5_ratioAgrees_15 : decode cX5_ratioAgrees 15 = .ok (.istore 5, 2) := dk_54 5 (dk_at dksX5_ratioAgrees_0 15 rfl rfl)
theorem dX5_ratioAgrees_17 : decode cX5_ratioAgrees 17 = .ok (.iload 5, 2) := dk_21 5 (dk_at dksX5_ratioAgrees_0 17 rfl rfl)
theorem dX5_ratioAgrees_19 : decode cX5_ratioAgrees 19 = .ok (.aload_n 0, 1) := dk_42 (dk_at dksX5_ratioAgrees_0 19 rfl rfl)
theorem dX5_ratioAgrees_20 : decode cX5_ratioAgrees 20 = .ok (.getfield 44, 3) := dk_180 0 44 (dk_at dksX5_ratioAgrees_0 20 rfl rfl)
theorem dX5_ratioAgrees_23 : decode cX5_ratioAgrees 23 = .ok (.iload 4, 2) := dk_21 4 (dk_at dksX5_ratioAgrees_1 0 rfl rfl)
theorem dX5_ratioAgrees_25 : decode cX5_ratioAgrees 25 = .ok (.iaload, 1) := dk_46 (dk_at dksX5_ratioAgrees_1 2 rfl rfl)
theorem dX5_ratioAgrees_26 : decode cX5_ratioAgrees 26 = .ok (.if_icmp .ge 56, 3) := dk_162 0 56 (dk_at dksX5_ratioAgrees_1 3 rfl rfl)
theorem dX5_ratioAgrees_29 : decode cX5_ratioAgrees 29 = .ok (.iload_n 3, 1) := dk_29 (dk_at dksX5_ratioAgrees_1 6 rfl rfl)
theorem dX5_ratioAgrees_30 : decode cX5_ratioAgrees 30 = .ok (.aload_n 0, 1) := dk_42 (dk_at dksX5_ratioAgrees_1 7 rfl rfl)
theorem dX5_ratioAgrees_31 : decode cX5_ratioAgrees 31 = .ok (.getfield 41, 3) := dk_180 0 41 (dk_at dksX5_ratioAgrees_1 8 rfl rfl)
theorem dX5_ratioAgrees_34 : decode cX5_ratioAgrees 34 = .ok (.iload 4, 2) := dk_21 4 (dk_at dksX5_ratioAgrees_1 11 rfl rfl)
theorem dX5_ratioAgrees_36 : decode cX5_ratioAgrees 36 = .ok (.iaload, 1) := dk_46 (dk_at dksX5_ratioAgrees_1 13 rfl rfl)
theorem dX5_ratioAgrees_37 : decode cX5_ratioAgrees 37 = .ok (.ifCond .ne 32, 3) := dk_154 0 32 (dk_at dksX5_ratioAgrees_1 14 rfl rfl)
theorem dX5_ratioAgrees_40 : decode cX5_ratioAgrees 40 = .ok (.aload_n 0, 1) := dk_42 (dk_at dksX5_ratioAgrees_1 17 rfl rfl)
theorem dX5_ratioAgrees_41 : decode cX5_ratioAgrees 41 = .ok (.getfield 47, 3) := dk_180 0 47 (dk_at dksX5_ratioAgrees_1 18 rfl rfl)
theorem dX5_ratioAgrees_44 : decode cX5_ratioAgrees 44 = .ok (.bipush 8, 2) := dk_16 8 (dk_at dksX5_ratioAgrees_1 21 rfl rfl)
theorem dX5_ratioAgrees_46 : decode cX5_ratioAgrees 46 = .ok (.iload 4, 2) := dk_21 4 (dk_at dksX5_ratioAgrees_2 0 rfl rfl)
theorem dX5_ratioAgrees_48 : decode cX5_ratioAgrees 48 = .ok (.imul, 1) := dk_104 (dk_at dksX5_ratioAgrees_2 2 rfl rfl)
theorem dX5_ratioAgrees_49 : decode cX5_ratioAgrees 49 = .ok (.iload 5, 2) := dk_21 5 (dk_at dksX5_ratioAgrees_2 3 rfl rfl)
theorem dX5_ratioAgrees_51 : decode cX5_ratioAgrees 51 = .ok (.iadd, 1) := dk_96 (dk_at dksX5_ratioAgrees_2 5 rfl rfl)
theorem dX5_ratioAgrees_52 : decode cX5_ratioAgrees 52 = .ok (.iaload, 1) := dk_46 (dk_at dksX5_ratioAgrees_2 6 rfl rfl)
theorem dX5_ratioAgrees_53 : decode cX5_ratioAgrees 53 = .ok (.iload_n 1, 1) := dk_27 (dk_at dksX5_ratioAgrees_2 7 rfl rfl)
theorem dX5_ratioAgrees_54 : decode cX5_ratioAgrees 54 = .ok (.if_icmp .ne 15, 3) := dk_160 0 15 (dk_at dksX5_ratioAgrees_2 8 rfl rfl)
theorem dX5_ratioAgrees_57 : decode cX5_ratioAgrees 57 = .ok (.aload_n 0, 1) := dk_42 (dk_at dksX5_ratioAgrees_2 11 rfl rfl)
theorem dX5_ratioAgrees_58 : decode cX5_ratioAgrees 58 = .ok (.iload 4, 2) := dk_21 4 (dk_at dksX5_ratioAgrees_2 12 rfl rfl)
theorem dX5_ratioAgrees_60 : decode cX5_ratioAgrees 60 = .ok (.iload 5, 2) := dk_21 5 (dk_at dksX5_ratioAgrees_2 14 rfl rfl)
theorem dX5_ratioAgrees_62 : decode cX5_ratioAgrees 62 = .ok (.iload_n 2, 1) := dk_28 (dk_at dksX5_ratioAgrees_2 16 rfl rfl)
theorem dX5_ratioAgrees_63 : decode cX5_ratioAgrees 63 = .ok (.invokevirtual 217, 3) := dk_182 0 217 (dk_at dksX5_ratioAgrees_2 17 rfl rfl)
theorem dX5_ratioAgrees_66 : decode cX5_ratioAgrees 66 = .ok (.ifCond .eq 7, 3) := dk_153 0 7 (dk_at dksX5_ratioAgrees_2 20 rfl rfl)
theorem dX5_ratioAgrees_69 : decode cX5_ratioAgrees 69 = .ok (.iconst 1, 1) := dk_4 (dk_at dksX5_ratioAgrees_2 23 rfl rfl)
theorem dX5_ratioAgrees_70 : decode cX5_ratioAgrees 70 = .ok (.goto 4, 3) := dk_167 0 4 (dk_at dksX5_ratioAgrees_3 0 rfl rfl)
theorem dX5_ratioAgrees_73 : decode cX5_ratioAgrees 73 = .ok (.iconst 0, 1) := dk_3 (dk_at dksX5_ratioAgrees_3 3 rfl rfl)
theorem dX5_ratioAgrees_74 : decode cX5_ratioAgrees 74 = .ok (.iand, 1) := dk_126 (dk_at dksX5_ratioAgrees_3 4 rfl rfl)
theorem dX5_ratioAgrees_75 : decode cX5_ratioAgrees 75 = .ok (.istore_n 3, 1) := dk_62 (dk_at dksX5_ratioAgrees_3 5 rfl rfl)
theorem dX5_ratioAgrees_76 : decode cX5_ratioAgrees 76 = .ok (.iinc 5 1, 3) := dk_132 5 1 (dk_at dksX5_ratioAgrees_3 6 rfl rfl)
theorem dX5_ratioAgrees_79 : decode cX5_ratioAgrees 79 = .ok (.goto (-62), 3) := dk_167 255 194 (dk_at dksX5_ratioAgrees_3 9 rfl rfl)
theorem dX5_ratioAgrees_82 : decode cX5_ratioAgrees 82 = .ok (.iinc 4 1, 3) := dk_132 4 1 (dk_at dksX5_ratioAgrees_3 12 rfl rfl)
theorem dX5_ratioAgrees_85 : decode cX5_ratioAgrees 85 = .ok (.goto (-80), 3) := dk_167 255 176 (dk_at dksX5_ratioAgrees_3 15 rfl rfl)
theorem dX5_ratioAgrees_88 : decode cX5_ratioAgrees 88 = .ok (.iload_n 3, 1) := dk_29 (dk_at dksX5_ratioAgrees_3 18 rfl rfl)
theorem dX5_ratioAgrees_89 : decode cX5_ratioAgrees 89 = .ok (.ireturn, 1) := dk_172 (dk_at dksX5_ratioAgrees_3 19 rfl rfl)
def dkwX5_domain_2 : List UInt8 := [96, 167, 0, 9, 42, 180, 0, 90, 27, 46, 172]
abbrev dktX5_domain_2 : List UInt8 := dkwX5_domain_2 ++ []
def dkwX5_domain_1 : List UInt8 := [182, 1, 45, 153, 0, 7, 3, 167, 0, 27, 42, 180, 0, 96, 27, 46, 42, 180, 0, 93, 27, 46, 100, 4]
abbrev dktX5_domain_1 : List UInt8 := dkwX5_domain_1 ++ dktX5_domain_2
def dkwX5_domain_0 : List UInt8 := [42, 27, 182, 1, 153, 154, 0, 5, 3, 172, 42, 180, 0, 7, 27, 46, 6, 160, 0, 33, 42, 27]
abbrev dktX5_domain_0 : List UInt8 := dkwX5_domain_0 ++ dktX5_domain_1
theorem dksX5_domain_0 : cX5_domain.data.toList.drop 0 = dktX5_domain_0 := by decide +kernel
theorem dksX5_domain_1 : cX5_domain.data.toList.drop 22 = dktX5_domain_1 := dk_seg dksX5_domain_0 22 rfl rfl
theorem dksX5_domain_2 : cX5_domain.data.toList.drop 46 = dktX5_domain_2 := dk_seg dksX5_domain_1 24 rfl rfl
theorem dX5_domain_0 : decode cX5_domain 0 = .ok (.aload_n 0, 1) := dk_42 (dk_at dksX5_domain_0 0 rfl rfl)
theorem dX5_domain_1 : decode cX5_domain 1 = .ok (.iload_n 1, 1) := dk_27 (dk_at dksX5_domain_0 1 rfl rfl)
theorem dX5_domain_2 : decode cX5_domain 2 = .ok (.invokevirtual 409, 3) := dk_182 1 153 (dk_at dksX5_domain_0 2 rfl rfl)
theorem dX5_domain_5 : decode cX5_domain 5 = .ok (.ifCond .ne 5, 3) := dk_154 0 5 (dk_at dksX5_domain_0 5 rfl rfl)
theorem dX5_domain_8 : decode cX5_domain 8 = .ok (.iconst 0, 1) := dk_3 (dk_at dksX5_domain_0 8 rfl rfl)
theorem dX5_domain_9 : decode cX5_domain 9 = .ok (.ireturn, 1) := dk_172 (dk_at dksX5_domain_0 9 rfl rfl)
theorem dX5_domain_10 : decode cX5_domain 10 = .ok (.aload_n 0, 1) := dk_42 (dk_at dksX5_domain_0 10 rfl rfl)
theorem dX5_domain_11 : decode cX5_domain 11 = .ok (.getfield 7, 3) := dk_180 0 7 (dk_at dksX5_domain_0 11 rfl rfl)
theorem dX5_domain_14 : decode cX5_domain 14 = .ok (.iload_n 1, 1) := dk_27 (dk_at dksX5_domain_0 14 rfl rfl)
theorem dX5_domain_15 : decode cX5_domain 15 = .ok (.iaload, 1) := dk_46 (dk_at dksX5_domain_0 15 rfl rfl)
theorem dX5_domain_16 : decode cX5_domain 16 = .ok (.iconst 3, 1) := dk_6 (dk_at dksX5_domain_0 16 rfl rfl)
theorem dX5_domain_17 : decode cX5_domain 17 = .ok (.if_icmp .ne 33, 3) := dk_160 0 33 (dk_at dksX5_domain_0 17 rfl rfl)
theorem dX5_domain_20 : decode cX5_domain 20 = .ok (.aload_n 0, 1) := dk_42 (dk_at dksX5_domain_0 20 rfl rfl)
theorem dX5_domain_21 : decode cX5_domain 21 = .ok (.iload_n 1, 1) := dk_27 (dk_at dksX5_domain_0 21 rfl rfl)
theorem dX5_domain_22 : decode cX5_domain 22 = .ok (.invokevirtual 301, 3) := dk_182 1 45 (dk_at dksX5_domain_1 0 rfl rfl)
theorem dX5_domain_25 : decode cX5_domain 25 = .ok (.ifCond .eq 7, 3) := dk_153 0 7 (dk_at dksX5_domain_1 3 rfl rfl)
theorem dX5_domain_28 : decode cX5_domain 28 = .ok (.iconst 0, 1) := dk_3 (dk_at dksX5_domain_1 6 rfl rfl)
theorem dX5_domain_29 : decode cX5_domain 29 = .ok (.goto 27, 3) := dk_167 0 27 (dk_at dksX5_domain_1 7 rfl rfl)
theorem dX5_domain_32 : decode cX5_domain 32 = .ok (.aload_n 0, 1) := dk_42 (dk_at dksX5_domain_1 10 rfl rfl)
theorem dX5_domain_33 : decode cX5_domain 33 = .ok (.getfield 96, 3) := dk_180 0 96 (dk_at dksX5_domain_1 11 rfl rfl)
theorem dX5_domain_36 : decode cX5_domain 36 = .ok (.iload_n 1, 1) := dk_27 (dk_at dksX5_domain_1 14 rfl rfl)
theorem dX5_domain_37 : decode cX5_domain 37 = .ok (.iaload, 1) := dk_46 (dk_at dksX5_domain_1 15 rfl rfl)
theorem dX5_domain_38 : decode cX5_domain 38 = .ok (.aload_n 0, 1) := dk_42 (dk_at dksX5_domain_1 16 rfl rfl)
theorem dX5_domain_39 : decode cX5_domain 39 = .ok (.getfield 93, 3) := dk_180 0 93 (dk_at dksX5_domain_1 17 rfl rfl)
theorem dX5_domain_42 : decode cX5_domain 42 = .ok (.iload_n 1, 1) := dk_27 (dk_at dksX5_domain_1 20 rfl rfl)
theorem dX5_domain_43 : decode cX5_domain 43 = .ok (.iaload, 1) := dk_46 (dk_at dksX5_domain_1 21 rfl rfl)
theorem dX5_domain_44 : decode cX5_domain 44 = .ok (.isub, 1) := dk_100 (dk_at dksX5_domain_1 22 rfl rfl)
theorem dX5_domain_45 : decode cX5_domain 45 = .ok (.iconst 1, 1) := dk_4 (dk_at dksX5_domain_1 23 rfl rfl)
theorem dX5_domain_46 : decode cX5_domain 46 = .ok (.iadd, 1) := dk_96 (dk_at dksX5_domain_2 0 rfl rfl)
theorem dX5_domain_47 : decode cX5_domain 47 = .ok (.goto 9, 3) := dk_167 0 9 (dk_at dksX5_domain_2 1 rfl rfl)
theorem dX5_domain_50 : decode cX5_domain 50 = .ok (.aload_n 0, 1) := dk_42 (dk_at dksX5_domain_2 4 rfl rfl)
theorem dX5_domain_51 : decode cX5_domain 51 = .ok (.getfield 90, 3) := dk_180 0 90 (dk_at dksX5_domain_2 5 rfl rfl)
theorem dX5_domain_54 : decode cX5_domain 54 = .ok (.iload_n 1, 1) := dk_27 (dk_at dksX5_domain_2 8 rfl rfl)
theorem dX5_domain_55 : decode cX5_domain 55 = .ok (.iaload, 1) := dk_46 (dk_at dksX5_domain_2 9 rfl rfl)
theorem dX5_domain_56 : decode cX5_domain 56 = .ok (.ireturn, 1) := dk_172 (dk_at dksX5_domain_2 10 rfl rfl)
def dkwX5_asks_1 : List UInt8 := [42, 182, 1, 150, 42, 180, 0, 174, 154, 0, 7, 4, 167, 0, 4, 3, 172]
abbrev dktX5_asks_1 : List UInt8 := dkwX5_asks_1 ++ []
def dkwX5_asks_0 : List UInt8 := [42, 42, 27, 182, 1, 93, 153, 0, 7, 3, 167, 0, 4, 4, 181, 0, 174, 42, 180, 0, 174, 154, 0, 7]
abbrev dktX5_asks_0 : List UInt8 := dkwX5_asks_0 ++ dktX5_asks_1
theorem dksX5_asks_0 : cX5_asks.data.toList.drop 0 = dktX5_asks_0 := by decide +kernel
theorem dksX5_asks_1 : cX5_asks.data.toList.drop 24 = dktX5_asks_1 := dk_seg dksX5_asks_0 24 rfl rfl
theorem dX5_asks_0 : decode cX5_asks 0 = .ok (.aload_n 0, 1) := dk_42 (dk_at dksX5_asks_0 0 rfl rfl)
theorem dX5_asks_1 : decode cX5_asks 1 = .ok (.aload_n 0, 1) := dk_42 (dk_at dksX5_asks_0 1 rfl rfl)
theorem dX5_asks_2 : decode cX5_asks 2 = .ok (.iload_n 1, 1) := dk_27 (dk_at dksX5_asks_0 2 rfl rfl)
theorem dX5_asks_3 : decode cX5_asks 3 = .ok (.invokevirtual 349, 3) := dk_182 1 93 (dk_at dksX5_asks_0 3 rfl rfl)
theorem dX5_asks_6 : decode cX5_asks 6 = .ok (.ifCond .eq 7, 3) := dk_153 0 7 (dk_at dksX5_asks_0 6 rfl rfl)
theorem dX5_asks_9 : decode cX5_asks 9 = .ok (.iconst 0, 1) := dk_3 (dk_at dksX5_asks_0 9 rfl rfl)
theorem dX5_asks_10 : decode cX5_asks 10 = .ok (.goto 4, 3) := dk_167 0 4 (dk_at dksX5_asks_0 10 rfl rfl)
theorem dX5_asks_13 : decode cX5_asks 13 = .ok (.iconst 1, 1) := dk_4 (dk_at dksX5_asks_0 13 rfl rfl)
theorem dX5_asks_14 : decode cX5_asks 14 = .ok (.putfield 174, 3) := dk_181 0 174 (dk_at dksX5_asks_0 14 rfl rfl)
theorem dX5_asks_17 : decode cX5_asks 17 = .ok (.aload_n 0, 1) := dk_42 (dk_at dksX5_asks_0 17 rfl rfl)
theorem dX5_asks_18 : decode cX5_asks 18 = .ok (.getfield 174, 3) := dk_180 0 174 (dk_at dksX5_asks_0 18 rfl rfl)
theorem dX5_asks_21 : decode cX5_asks 21 = .ok (.ifCond .ne 7, 3) := dk_154 0 7 (dk_at dksX5_asks_0 21 rfl rfl)
theorem dX5_asks_24 : decode cX5_asks 24 = .ok (.aload_n 0, 1) := dk_42 (dk_at dksX5_asks_1 0 rfl rfl)
theorem dX5_asks_25 : decode cX5_asks 25 = .ok (.invokevirtual 406, 3) := dk_182 1 150 (dk_at dksX5_asks_1 1 rfl rfl)
theorem dX5_asks_28 : decode cX5_asks 28 = .ok (.aload_n 0, 1) := dk_42 (dk_at dksX5_asks_1 4 rfl rfl)
theorem dX5_asks_29 : decode cX5_asks 29 = .ok (.getfield 174, 3) := dk_180 0 174 (dk_at dksX5_asks_1 5 rfl rfl)
theorem dX5_asks_32 : decode cX5_asks 32 = .ok (.ifCond .ne 7, 3) := dk_154 0 7 (dk_at dksX5_asks_1 8 rfl rfl)
theorem dX5_asks_35 : decode cX5_asks 35 = .ok (.iconst 1, 1) := dk_4 (dk_at dksX5_asks_1 11 rfl rfl)
theorem dX5_asks_36 : decode cX5_asks 36 = .ok (.goto 4, 3) := dk_167 0 4 (dk_at dksX5_asks_1 12 rfl rfl)
theorem dX5_asks_39 : decode cX5_asks 39 = .ok (.iconst 0, 1) := dk_3 (dk_at dksX5_asks_1 15 rfl rfl)
theorem dX5_asks_40 : decode cX5_asks 40 = .ok (.ireturn, 1) := dk_172 (dk_at dksX5_asks_1 16 rfl rfl)
def dkwX5_bound_1 : List UInt8 := [42, 27, 28, 182, 0, 205, 172]
abbrev dktX5_bound_1 : List UInt8 := dkwX5_bound_1 ++ []
def dkwX5_bound_0 : List UInt8 := [42, 27, 182, 1, 153, 154, 0, 5, 3, 172, 42, 27, 182, 1, 45, 153, 0, 9, 17, 252, 24, 167, 0, 9]
abbrev dktX5_bound_0 : List UInt8 := dkwX5_bound_0 ++ dktX5_bound_1
theorem dksX5_bound_0 : cX5_bound.data.toList.drop 0 = dktX5_bound_0 := by decide +kernel
theorem dksX5_bound_1 : cX5_bound.data.toList.drop 24 = dktX5_bound_1 := dk_seg dksX5_bound_0 24 rfl rfl
theorem dX5_bound_0 : decode cX5_bound 0 = .ok (.aload_n 0, 1) := dk_42 (dk_at dksX5_bound_0 0 rfl rfl)
theorem dX5_bound_1 : decode cX5_bound 1 = .ok (.iload_n 1, 1) := dk_27 (dk_at dksX5_bound_0 1 rfl rfl)
theorem dX5_bound_2 : decode cX5_bound 2 = .ok (.invokevirtual 409, 3) := dk_182 1 153 (dk_at dksX5_bound_0 2 rfl rfl)
theorem dX5_bound_5 : decode cX5_bound 5 = .ok (.ifCond .ne 5, 3) := dk_154 0 5 (dk_at dksX5_bound_0 5 rfl rfl)
theorem dX5_bound_8 : decode cX5_bound 8 = .ok (.iconst 0, 1) := dk_3 (dk_at dksX5_bound_0 8 rfl rfl)
theorem dX5_bound_9 : decode cX5_bound 9 = .ok (.ireturn, 1) := dk_172 (dk_at dksX5_bound_0 9 rfl rfl)
theorem dX5_bound_10 : decode cX5_bound 10 = .ok (.aload_n 0, 1) := dk_42 (dk_at dksX5_bound_0 10 rfl rfl)
theorem dX5_bound_11 : decode cX5_bound 11 = .ok (.iload_n 1, 1) := dk_27 (dk_at dksX5_bound_0 11 rfl rfl)
theorem dX5_bound_12 : decode cX5_bound 12 = .ok (.invokevirtual 301, 3) := dk_182 1 45 (dk_at dksX5_bound_0 12 rfl rfl)
theorem dX5_bound_15 : decode cX5_bound 15 = .ok (.ifCond .eq 9, 3) := dk_153 0 9 (dk_at dksX5_bound_0 15 rfl rfl)
theorem dX5_bound_18 : decode cX5_bound 18 = .ok (.sipush (-1000), 3) := dk_17 252 24 (dk_at dksX5_bound_0 18 rfl rfl)
theorem dX5_bound_21 : decode cX5_bound 21 = .ok (.goto 9, 3) := dk_167 0 9 (dk_at dksX5_bound_0 21 rfl rfl)
theorem dX5_bound_24 : decode cX5_bound 24 = .ok (.aload_n 0, 1) := dk_42 (dk_at dksX5_bound_1 0 rfl rfl)
theorem dX5_bound_25 : decode cX5_bound 25 = .ok (.iload_n 1, 1) := dk_27 (dk_at dksX5_bound_1 1 rfl rfl)
theorem dX5_bound_26 : decode cX5_bound 26 = .ok (.iload_n 2, 1) := dk_28 (dk_at dksX5_bound_1 2 rfl rfl)
theorem dX5_bound_27 : decode cX5_bound 27 = .ok (.invokevirtual 205, 3) := dk_182 0 205 (dk_at dksX5_bound_1 3 rfl rfl)
theorem dX5_bound_30 : decode cX5_bound 30 = .ok (.ireturn, 1) := dk_172 (dk_at dksX5_bound_1 6 rfl rfl)
def dkwX5_rounds_0 : List UInt8 := [42, 3, 181, 0, 174, 42, 182, 1, 150, 42, 180, 1, 49, 172]
abbrev dktX5_rounds_0 : List UInt8 := dkwX5_rounds_0 ++ []
theorem dksX5_rounds_0 : cX5_rounds.data.toList.drop 0 = dktX5_rounds_0 := by decide +kernel
theorem dX5_rounds_0 : decode cX5_rounds 0 = .ok (.aload_n 0, 1) := dk_42 (dk_at dksX5_rounds_0 0 rfl rfl)
theorem dX5_rounds_1 : decode cX5_rounds 1 = .ok (.iconst 0, 1) := dk_3 (dk_at dksX5_rounds_0 1 rfl rfl)
theorem dX5_rounds_2 : decode cX5_rounds 2 = .ok (.putfield 174, 3) := dk_181 0 174 (dk_at dksX5_rounds_0 2 rfl rfl)
theorem dX5_rounds_5 : decode cX5_rounds 5 = .ok (.aload_n 0, 1) := dk_42 (dk_at dksX5_rounds_0 5 rfl rfl)
theorem dX5_rounds_6 : decode cX5_rounds 6 = .ok (.invokevirtual 406, 3) := dk_182 1 150 (dk_at dksX5_rounds_0 6 rfl rfl)
theorem dX5_rounds_9 : decode cX5_rounds 9 = .ok (.aload_n 0, 1) := dk_42 (dk_at dksX5_rounds_0 9 rfl rfl)
theorem dX5_rounds_10 : decode cX5_rounds 10 = .ok (.getfield 305, 3) := dk_180 1 49 (dk_at dksX5_rounds_0 10 rfl rfl)
theorem dX5_rounds_13 : decode cX5_rounds 13 = .ok (.ireturn, 1) := dk_172 (dk_at dksX5_rounds_0 13 rfl rfl)
def dkwX5_removals_0 : List UInt8 := [42, 3, 181, 0, 174, 42, 182, 1, 150, 42, 180, 1, 52, 172]
abbrev dktX5_removals_0 : List UInt8 := dkwX5_removals_0 ++ []
theorem dksX5_removals_0 : cX5_removals.data.toList.drop 0 = dktX5_removals_0 := by decide +kernel
theorem dX5_removals_0 : decode cX5_removals 0 = .ok (.aload_n 0, 1) := dk_42 (dk_at dksX5_removals_0 0 rfl rfl)
theorem dX5_removals_1 : decode cX5_removals 1 = .ok (.iconst 0, 1) := dk_3 (dk_at dksX5_removals_0 1 rfl rfl)
theorem dX5_removals_2 : decode cX5_removals 2 = .ok (.putfield 174, 3) := dk_181 0 174 (dk_at dksX5_removals_0 2 rfl rfl)
theorem dX5_removals_5 : decode cX5_removals 5 = .ok (.aload_n 0, 1) := dk_42 (dk_at dksX5_removals_0 5 rfl rfl)
theorem dX5_removals_6 : decode cX5_removals 6 = .ok (.invokevirtual 406, 3) := dk_182 1 150 (dk_at dksX5_removals_0 6 rfl rfl)
theorem dX5_removals_9 : decode cX5_removals 9 = .ok (.aload_n 0, 1) := dk_42 (dk_at dksX5_removals_0 9 rfl rfl)
theorem dX5_removals_10 : decode cX5_removals 10 = .ok (.getfield 308, 3) := dk_180 1 52 (dk_at dksX5_removals_0 10 rfl rfl)
theorem dX5_removals_13 : decode cX5_removals 13 = .ok (.ireturn, 1) := dk_172 (dk_at dksX5_removals_0 13 rfl rfl)
def dkwX5_removal_2 : List UInt8 := [167, 0, 13, 42, 180, 0, 99, 7, 27, 104, 28, 96, 46, 172]
abbrev dktX5_removal_2 : List UInt8 := dkwX5_removal_2 ++ []
def dkwX5_removal_1 : List UInt8 := [3, 6, 184, 0, 180, 153, 0, 7, 3, 167, 0, 4, 5, 181, 0, 174, 42, 180, 0, 174, 158, 0, 7, 3]
abbrev dktX5_removal_1 : List UInt8 := dkwX5_removal_1 ++ dktX5_removal_2
def dkwX5_removal_0 : List UInt8 := [42, 182, 1, 150, 42, 27, 3, 42, 180, 1, 52, 4, 100, 184, 0, 180, 154, 0, 7, 4, 167, 0, 17, 28]
abbrev dktX5_removal_0 : List UInt8 := dkwX5_removal_0 ++ dktX5_removal_1
theorem dksX5_removal_0 : cX5_removal.data.toList.drop 0 = dktX5_removal_0 := by decide +kernel
theorem dksX5_removal_1 : cX5_removal.data.toList.drop 24 = dktX5_removal_1 := dk_seg dksX5_removal_0 24 rfl rfl
theorem dksX5_removal_2 : cX5_removal.data.toList.drop 48 = dktX5_removal_2 := dk_seg dksX5_removal_1 24 rfl rfl
theorem dX5_removal_0 : decode cX5_removal 0 = .ok (.aload_n 0, 1) := dk_42 (dk_at dksX5_removal_0 0 rfl rfl)
theorem dX5_removal_1 : decode cX5_removal 1 = .ok (.invokevirtual 406, 3) := dk_182 1 150 (dk_at dksX5_removal_0 1 rfl rfl)
theorem dX5_removal_4 : decode cX5_removal 4 = .ok (.aload_n 0, 1) := dk_42 (dk_at dksX5_removal_0 4 rfl rfl)
theorem dX5_removal_5 : decode cX5_removal 5 = .ok (.iload_n 1, 1) := dk_27 (dk_at dksX5_removal_0 5 rfl rfl)
theorem dX5_removal_6 : decode cX5_removal 6 = .ok (.iconst 0, 1) := dk_3 (dk_at dksX5_removal_0 6 rfl rfl)
theorem dX5_removal_7 : decode cX5_removal 7 = .ok (.aload_n 0, 1) := dk_42 (dk_at dksX5_removal_0 7 rfl rfl)
theorem dX5_removal_8 : decode cX5_removal 8 = .ok (.getfield 308, 3) := dk_180 1 52 (dk_at dksX5_removal_0 8 rfl rfl)
theorem dX5_removal_11 : decode cX5_removal 11 = .ok (.iconst 1, 1) := dk_4 (dk_at dksX5_removal_0 11 rfl rfl)
theorem dX5_removal_12 : decode cX5_removal 12 = .ok (.isub, 1) := dk_100 (dk_at dksX5_removal_0 12 rfl rfl)
theorem dX5_removal_13 : decode cX5_removal 13 = .ok (.invokestatic 180, 3) := dk_184 0 180 (dk_at dksX5_removal_0 13 rfl rfl)
theorem dX5_removal_16 : decode cX5_removal 16 = .ok (.ifCond .ne 7, 3) := dk_154 0 7 (dk_at dksX5_removal_0 16 rfl rfl)
theorem dX5_removal_19 : decode cX5_removal 19 = .ok (.iconst 1, 1) := dk_4 (dk_at dksX5_removal_0 19 rfl rfl)
theorem dX5_removal_20 : decode cX5_removal 20 = .ok (.goto 17, 3) := dk_167 0 17 (dk_at dksX5_removal_0 20 rfl rfl)
theorem dX5_removal_23 : decode cX5_removal 23 = .ok (.iload_n 2, 1) := dk_28 (dk_at dksX5_removal_0 23 rfl rfl)
theorem dX5_removal_24 : decode cX5_removal 24 = .ok (.iconst 0, 1) := dk_3 (dk_at dksX5_removal_1 0 rfl rfl)
theorem dX5_removal_25 : decode cX5_removal 25 = .ok (.iconst 3, 1) := dk_6 (dk_at dksX5_removal_1 1 rfl rfl)
theorem dX5_removal_26 : decode cX5_removal 26 = .ok (.invokestatic 180, 3) := dk_184 0 180 (dk_at dksX5_removal_1 2 rfl rfl)
theorem dX5_removal_29 : decode cX5_removal 29 = .ok (.ifCond .eq 7, 3) := dk_153 0 7 (dk_at dksX5_removal_1 5 rfl rfl)
theorem dX5_removal_32 : decode cX5_removal 32 = .ok (.iconst 0, 1) := dk_3 (dk_at dksX5_removal_1 8 rfl rfl)
theorem dX5_removal_33 : decode cX5_removal 33 = .ok (.goto 4, 3) := dk_167 0 4 (dk_at dksX5_removal_1 9 rfl rfl)
theorem dX5_removal_36 : decode cX5_removal 36 = .ok (.iconst 2, 1) := dk_5 (dk_at dksX5_removal_1 12 rfl rfl)
theorem dX5_removal_37 : decode cX5_removal 37 = .ok (.putfield 174, 3) := dk_181 0 174 (dk_at dksX5_removal_1 13 rfl rfl)
theorem dX5_removal_40 : decode cX5_removal 40 = .ok (.aload_n 0, 1) := dk_42 (dk_at dksX5_removal_1 16 rfl rfl)
theorem dX5_removal_41 : decode cX5_removal 41 = .ok (.getfield 174, 3) := dk_180 0 174 (dk_at dksX5_removal_1 17 rfl rfl)
theorem dX5_removal_44 : decode cX5_removal 44 = .ok (.ifCond .le 7, 3) := dk_158 0 7 (dk_at dksX5_removal_1 20 rfl rfl)
theorem dX5_removal_47 : decode cX5_removal 47 = .ok (.iconst 0, 1) := dk_3 (dk_at dksX5_removal_1 23 rfl rfl)
theorem dX5_removal_48 : decode cX5_removal 48 = .ok (.goto 13, 3) := dk_167 0 13 (dk_at dksX5_removal_2 0 rfl rfl)
theorem dX5_removal_51 : decode cX5_removal 51 = .ok (.aload_n 0, 1) := dk_42 (dk_at dksX5_removal_2 3 rfl rfl)
theorem dX5_removal_52 : decode cX5_removal 52 = .ok (.getfield 99, 3) := dk_180 0 99 (dk_at dksX5_removal_2 4 rfl rfl)
theorem dX5_removal_55 : decode cX5_removal 55 = .ok (.iconst 4, 1) := dk_7 (dk_at dksX5_removal_2 7 rfl rfl)
theorem dX5_removal_56 : decode cX5_removal 56 = .ok (.iload_n 1, 1) := dk_27 (dk_at dksX5_removal_2 8 rfl rfl)
theorem dX5_removal_57 : decode cX5_removal 57 = .ok (.imul, 1) := dk_104 (dk_at dksX5_removal_2 9 rfl rfl)
theorem dX5_removal_58 : decode cX5_removal 58 = .ok (.iload_n 2, 1) := dk_28 (dk_at dksX5_removal_2 10 rfl rfl)
theorem dX5_removal_59 : decode cX5_removal 59 = .ok (.iadd, 1) := dk_96 (dk_at dksX5_removal_2 11 rfl rfl)
theorem dX5_removal_60 : decode cX5_removal 60 = .ok (.iaload, 1) := dk_46 (dk_at dksX5_removal_2 12 rfl rfl)
theorem dX5_removal_61 : decode cX5_removal 61 = .ok (.ireturn, 1) := dk_172 (dk_at dksX5_removal_2 13 rfl rfl)
def dkwX5_reason_3 : List UInt8 := [158, 0, 7, 3, 167, 0, 9, 42, 27, 28, 182, 1, 156, 172]
abbrev dktX5_reason_3 : List UInt8 := dkwX5_reason_3 ++ []
def dkwX5_reason_2 : List UInt8 := [180, 0, 90, 27, 46, 28, 184, 0, 213, 153, 0, 7, 6, 167, 0, 4, 3, 181, 0, 174, 42, 180, 0, 174]
abbrev dktX5_reason_2 : List UInt8 := dkwX5_reason_2 ++ dktX5_reason_3
def dkwX5_reason_1 : List UInt8 := [167, 0, 4, 5, 181, 0, 174, 42, 180, 0, 174, 158, 0, 5, 3, 172, 42, 182, 1, 150, 42, 42]
abbrev dktX5_reason_1 : List UInt8 := dkwX5_reason_1 ++ dktX5_reason_2
def dkwX5_reason_0 : List UInt8 := [42, 42, 27, 182, 1, 93, 154, 0, 7, 4, 167, 0, 17, 42, 27, 28, 182, 1, 108, 153, 0, 7, 3]
abbrev dktX5_reason_0 : List UInt8 := dkwX5_reason_0 ++ dktX5_reason_1
theorem dksX5_reason_0 : cX5_reason.data.toList.drop 0 = dktX5_reason_0 := by decide +kernel
theorem dksX5_reason_1 : cX5_reason.data.toList.drop 23 = dktX5_reason_1 := dk_seg dksX5_reason_0 23 rfl rfl
theorem dksX5_reason_2 : cX5_reason.data.toList.drop 45 = dktX5_reason_2 := dk_seg dksX5_reason_1 22 rfl rfl
theorem dksX5_reason_3 : cX5_reason.data.toList.drop 69 = dktX5_reason_3 := dk_seg dksX5_reason_2 24 rfl rfl
theorem dX5_reason_0 : decode cX5_reason 0 = .ok (.aload_n 0, 1) := dk_42 (dk_at dksX5_reason_0 0 rfl rfl)
theorem dX5_reason_1 : decode cX5_reason 1 = .ok (.aload_n 0, 1) := dk_42 (dk_at dksX5_reason_0 1 rfl rfl)
theorem dX5_reason_2 : decode cX5_reason 2 = .ok (.iload_n 1, 1) := dk_27 (dk_at dksX5_reason_0 2 rfl rfl)
theorem dX5_reason_3 : decode cX5_reason 3 = .ok (.invokevirtual 349, 3) := dk_182 1 93 (dk_at dksX5_reason_0 3 rfl rfl)
theorem dX5_reason_6 : decode cX5_reason 6 = .ok (.ifCond .ne 7, 3) := dk_154 0 7 (dk_at dksX5_reason_0 6 rfl rfl)
theorem dX5_reason_9 : decode cX5_reason 9 = .ok (.iconst 1, 1) := dk_4 (dk_at dksX5_reason_0 9 rfl rfl)
theorem dX5_reason_10 : decode cX5_reason 10 = .ok (.goto 17, 3) := dk_167 0 17 (dk_at dksX5_reason_0 10 rfl rfl)
theorem dX5_reason_13 : decode cX5_reason 13 = .ok (.aload_n 0, 1) := dk_42 (dk_at dksX5_reason_0 13 rfl rfl)
theorem dX5_reason_14 : decode cX5_reason 14 = .ok (.iload_n 1, 1) := dk_27 (dk_at dksX5_reason_0 14 rfl rfl)
theorem dX5_reason_15 : decode cX5_reason 15 = .ok (.iload_n 2, 1) := dk_28 (dk_at dksX5_reason_0 15 rfl rfl)
theorem dX5_reason_16 : decode cX5_reason 16 = .ok (.invokevirtual 364, 3) := dk_182 1 108 (dk_at dksX5_reason_0 16 rfl rfl)
theorem dX5_reason_19 : decode cX5_reason 19 = .ok (.ifCond .eq 7, 3) := dk_153 0 7 (dk_at dksX5_reason_0 19 rfl rfl)
theorem dX5_reason_22 : decode cX5_reason 22 = .ok (.iconst 0, 1) := dk_3 (dk_at dksX5_reason_0 22 rfl rfl)
theorem dX5_reason_23 : decode cX5_reason 23 = .ok (.goto 4, 3) := dk_167 0 4 (dk_at dksX5_reason_1 0 rfl rfl)
theorem dX5_reason_26 : decode cX5_reason 26 = .ok (.iconst 2, 1) := dk_5 (dk_at dksX5_reason_1 3 rfl rfl)
theorem dX5_reason_27 : decode cX5_reason 27 = .ok (.putfield 174, 3) := dk_181 0 174 (dk_at dksX5_reason_1 4 rfl rfl)
theorem dX5_reason_30 : decode cX5_reason 30 = .ok (.aload_n 0, 1) := dk_42 (dk_at dksX5_reason_1 7 rfl rfl)
theorem dX5_reason_31 : decode cX5_reason 31 = .ok (.getfield 174, 3) := dk_180 0 174 (dk_at dksX5_reason_1 8 rfl rfl)
theorem dX5_reason_34 : decode cX5_reason 34 = .ok (.ifCond .le 5, 3) := dk_158 0 5 (dk_at dksX5_reason_1 11 rfl rfl)
theorem dX5_reason_37 : decode cX5_reason 37 = .ok (.iconst 0, 1) := dk_3 (dk_at dksX5_reason_1 14 rfl rfl)
theorem dX5_reason_38 : decode cX5_reason 38 = .ok (.ireturn, 1) := dk_172 (dk_at dksX5_reason_1 15 rfl rfl)
theorem dX5_reason_39 : decode cX5_reason 39 = .ok (.aload_n 0, 1) := dk_42 (dk_at dksX5_reason_1 16 rfl rfl)
theorem dX5_reason_40 : decode cX5_reason 40 = .ok (.invokevirtual 406, 3) := dk_182 1 150 (dk_at dksX5_reason_1 17 rfl rfl)
theorem dX5_reason_43 : decode cX5_reason 43 = .ok (.aload_n 0, 1) := dk_42 (dk_at dksX5_reason_1 20 rfl rfl)
theorem dX5_reason_44 : decode cX5_reason 44 = .ok (.aload_n 0, 1) := dk_42 (dk_at dksX5_reason_1 21 rfl rfl)
theorem dX5_reason_45 : decode cX5_reason 45 = .ok (.getfield 90, 3) := dk_180 0 90 (dk_at dksX5_reason_2 0 rfl rfl)
theorem dX5_reason_48 : decode cX5_reason 48 = .ok (.iload_n 1, 1) := dk_27 (dk_at dksX5_reason_2 3 rfl rfl)
theorem dX5_reason_49 : decode cX5_reason 49 = .ok (.iaload, 1) := dk_46 (dk_at dksX5_reason_2 4 rfl rfl)
theorem dX5_reason_50 : decode cX5_reason 50 = .ok (.iload_n 2, 1) := dk_28 (dk_at dksX5_reason_2 5 rfl rfl)
theorem dX5_reason_51 : decode cX5_reason 51 = .ok (.invokestatic 213, 3) := dk_184 0 213 (dk_at dksX5_reason_2 6 rfl rfl)
theorem dX5_reason_54 : decode cX5_reason 54 = .ok (.ifCond .eq 7, 3) := dk_153 0 7 (dk_at dksX5_reason_2 9 rfl rfl)
theorem dX5_reason_57 : decode cX5_reason 57 = .ok (.iconst 3, 1) := dk_6 (dk_at dksX5_reason_2 12 rfl rfl)
theorem dX5_reason_58 : decode cX5_reason 58 = .ok (.goto 4, 3) := dk_167 0 4 (dk_at dksX5_reason_2 13 rfl rfl)
theorem dX5_reason_61 : decode cX5_reason 61 = .ok (.iconst 0, 1) := dk_3 (dk_at dksX5_reason_2 16 rfl rfl)
theorem dX5_reason_62 : decode cX5_reason 62 = .ok (.putfield 174, 3) := dk_181 0 174 (dk_at dksX5_reason_2 17 rfl rfl)
theorem dX5_reason_65 : decode cX5_reason 65 = .ok (.aload_n 0, 1) := dk_42 (dk_at dksX5_reason_2 20 rfl rfl)
theorem dX5_reason_66 : decode cX5_reason 66 = .ok (.getfield 174, 3) := dk_180 0 174 (dk_at dksX5_reason_2 21 rfl rfl)
theorem dX5_reason_69 : decode cX5_reason 69 = .ok (.ifCond .le 7, 3) := dk_158 0 7 (dk_at dksX5_reason_3 0 rfl rfl)
theorem dX5_reason_72 : decode cX5_reason 72 = .ok (.iconst 0, 1) := dk_3 (dk_at dksX5_reason_3 3 rfl rfl)
theorem dX5_reason_73 : decode cX5_reason 73 = .ok (.goto 9, 3) := dk_167 0 9 (dk_at dksX5_reason_3 4 rfl rfl)
theorem dX5_reason_76 : decode cX5_reason 76 = .ok (.aload_n 0, 1) := dk_42 (dk_at dksX5_reason_3 7 rfl rfl)
theorem dX5_reason_77 : decode cX5_reason 77 = .ok (.iload_n 1, 1) := dk_27 (dk_at dksX5_reason_3 8 rfl rfl)
theorem dX5_reason_78 : decode cX5_reason 78 = .ok (.iload_n 2, 1) := dk_28 (dk_at dksX5_reason_3 9 rfl rfl)
theorem dX5_reason_79 : decode cX5_reason 79 = .ok (.invokevirtual 412, 3) := dk_182 1 156 (dk_at dksX5_reason_3 10 rfl rfl)
theorem dX5_reason_82 : decode cX5_reason 82 = .ok (.ireturn, 1) := dk_172 (dk_at dksX5_reason_3 13 rfl rfl)
def dkwX5_reasonOf_4 : List UInt8 := [172]
abbrev dktX5_reasonOf_4 : List UInt8 := dkwX5_reasonOf_4 ++ []
def dkwX5_reasonOf_3 : List UInt8 := [21, 5, 153, 0, 12, 4, 21, 4, 120, 2, 130, 167, 0, 4, 2, 126, 62, 132, 4, 255, 167, 255, 183, 29]
abbrev dktX5_reasonOf_3 : List UInt8 := dkwX5_reasonOf_3 ++ dktX5_reasonOf_4
def dkwX5_reasonOf_2 : List UInt8 := [155, 0, 20, 42, 180, 0, 90, 27, 46, 28, 184, 0, 213, 154, 0, 7, 4, 167, 0, 4, 3, 54, 5, 29]
abbrev dktX5_reasonOf_2 : List UInt8 := dkwX5_reasonOf_2 ++ dktX5_reasonOf_3
def dkwX5_reasonOf_1 : List UInt8 := [4, 21, 4, 120, 2, 130, 126, 182, 1, 77, 42, 182, 1, 80, 42, 180, 1, 41, 154, 0, 20, 28]
abbrev dktX5_reasonOf_1 : List UInt8 := dkwX5_reasonOf_1 ++ dktX5_reasonOf_2
def dkwX5_reasonOf_0 : List UInt8 := [4, 42, 180, 1, 34, 120, 4, 100, 62, 42, 180, 1, 34, 4, 100, 54, 4, 21, 4, 155, 0, 74, 42, 29]
abbrev dktX5_reasonOf_0 : List UInt8 := dkwX5_reasonOf_0 ++ dktX5_reasonOf_1
theorem dksX5_reasonOf_0 : cX5_reasonOf.data.toList.drop 0 = dktX5_reasonOf_0 := by decide +kernel
theorem dksX5_reasonOf_1 : cX5_reasonOf.data.toList.drop 24 = dktX5_reasonOf_1 := dk_seg dksX5_reasonOf_0 24 rfl rfl
theorem dksX5_reasonOf_2 : cX5_reasonOf.data.toList.drop 46 = dktX5_reasonOf_2 := dk_seg dksX5_reasonOf_1 22 rfl rfl
theorem dksX5_reasonOf_3 : cX5_reasonOf.data.toList.drop 70 = dktX5_reasonOf_3 := dk_seg dksX5_reasonOf_2 24 rfl rfl
theorem dksX5_reasonOf_4 : cX5_reasonOf.data.toList.drop 94 = dktX5_reasonOf_4 := dk_seg dksX5_reasonOf_3 24 rfl rfl
theorem dX5_reasonOf_0 : decode cX5_reasonOf 0 = .ok (.iconst 1, 1) := dk_4 (dk_at dksX5_reasonOf_0 0 rfl rfl)
theorem dX5_reasonOf_1 : decode cX5_reasonOf 1 = .ok (.aload_n 0, 1) := dk_42 (dk_at dksX5_reasonOf_0 1 rfl rfl)
theorem dX5_reasonOf_2 : decode cX5_reasonOf 2 = .ok (.getfield 290, 3) := dk_180 1 34 (dk_at dksX5_reasonOf_0 2 rfl rfl)
theorem dX5_reasonOf_5 : decode cX5_reasonOf 5 = .ok (.ishl, 1) := dk_120 (dk_at dksX5_reasonOf_0 5 rfl rfl)
theorem dX5_reasonOf_6 : decode cX5_reasonOf 6 = .ok (.iconst 1, 1) := dk_4 (dk_at dksX5_reasonOf_0 6 rfl rfl)
theorem dX5_reasonOf_7 : decode cX5_reasonOf 7 = .ok (.isub, 1) := dk_100 (dk_at dksX5_reasonOf_0 7 rfl rfl)
theorem dX5_reasonOf_8 : decode cX5_reasonOf 8 = .ok (.istore_n 3, 1) := dk_62 (dk_at dksX5_reasonOf_0 8 rfl rfl)
theorem dX5_reasonOf_9 : decode cX5_reasonOf 9 = .ok (.aload_n 0, 1) := dk_42 (dk_at dksX5_reasonOf_0 9 rfl rfl)
theorem dX5_reasonOf_10 : decode cX5_reasonOf 10 = .ok (.getfield 290, 3) := dk_180 1 34 (dk_at dksX5_reasonOf_0 10 rfl rfl)
theorem dX5_reasonOf_13 : decode cX5_reasonOf 13 = .ok (.iconst 1, 1) := dk_4 (dk_at dksX5_reasonOf_0 13 rfl rfl)
theorem dX5_reasonOf_14 : decode cX5_reasonOf 14 = .ok (.isub, 1) := dk_100 (dk_at dksX5_reasonOf_0 14 rfl rfl)
theorem dX5_reasonOf_15 : decode cX5_reasonOf 15 = .ok (.istore 4, 2) := dk_54 4 (dk_at dksX5_reasonOf_0 15 rfl rfl)
theorem dX5_reasonOf_17 : decode cX5_reasonOf 17 = .ok (.iload 4, 2) := dk_21 4 (dk_at dksX5_reasonOf_0 17 rfl rfl)
theorem dX5_reasonOf_19 : decode cX5_reasonOf 19 = .ok (.ifCond .lt 74, 3) := dk_155 0 74 (dk_at dksX5_reasonOf_0 19 rfl rfl)
theorem dX5_reasonOf_22 : decode cX5_reasonOf 22 = .ok (.aload_n 0, 1) := dk_42 (dk_at dksX5_reasonOf_0 22 rfl rfl)
theorem dX5_reasonOf_23 : decode cX5_reasonOf 23 = .ok (.iload_n 3, 1) := dk_29 (dk_at dksX5_reasonOf_0 23 rfl rfl)
theorem dX5_reasonOf_24 : decode cX5_reasonOf 24 = .ok (.iconst 1, 1) := dk_4 (dk_at dksX5_reasonOf_1 0 rfl rfl)
theorem dX5_reasonOf_25 : decode cX5_reasonOf 25 = .ok (.iload 4, 2) := dk_21 4 (dk_at dksX5_reasonOf_1 1 rfl rfl)
theorem dX5_reasonOf_27 : decode cX5_reasonOf 27 = .ok (.ishl, 1) := dk_120 (dk_at dksX5_reasonOf_1 3 rfl rfl)
theorem dX5_reasonOf_28 : decode cX5_reasonOf 28 = .ok (.iconst (-1), 1) := dk_2 (dk_at dksX5_reasonOf_1 4 rfl rfl)
theorem dX5_reasonOf_29 : decode cX5_reasonOf 29 = .ok (.ixor, 1) := dk_130 (dk_at dksX5_reasonOf_1 5 rfl rfl)
theorem dX5_reasonOf_30 : decode cX5_reasonOf 30 = .ok (.iand, 1) := dk_126 (dk_at dksX5_reasonOf_1 6 rfl rfl)
theorem dX5_reasonOf_31 : decode cX5_reasonOf 31 = .ok (.invokevirtual 333, 3) := dk_182 1 77 (dk_at dksX5_reasonOf_1 7 rfl rfl)
theorem dX5_reasonOf_34 : decode cX5_reasonOf 34 = .ok (.aload_n 0, 1) := dk_42 (dk_at dksX5_reasonOf_1 10 rfl rfl)
theorem dX5_reasonOf_35 : decode cX5_reasonOf 35 = .ok (.invokevirtual 336, 3) := dk_182 1 80 (dk_at dksX5_reasonOf_1 11 rfl rfl)
theorem dX5_reasonOf_38 : decode cX5_reasonOf 38 = .ok (.aload_n 0, 1) := dk_42 (dk_at dksX5_reasonOf_1 14 rfl rfl)
theorem dX5_reasonOf_39 : decode cX5_reasonOf 39 = .ok (.getfield 297, 3) := dk_180 1 41 (dk_at dksX5_reasonOf_1 15 rfl rfl)
theorem dX5_reasonOf_42 : decode cX5_reasonOf 42 = .ok (.ifCond .ne 20, 3) := dk_154 0 20 (dk_at dksX5_reasonOf_1 18 rfl rfl)
theorem dX5_reasonOf_45 : decode cX5_reasonOf 45 = .ok (.iload_n 2, 1) := dk_28 (dk_at dksX5_reasonOf_1 21 rfl rfl)
theorem dX5_reasonOf_46 : decode cX5_reasonOf 46 = .ok (.ifCond .lt 20, 3) := dk_155 0 20 (dk_at dksX5_reasonOf_2 0 rfl rfl)
theorem dX5_reasonOf_49 : decode cX5_reasonOf 49 = .ok (.aload_n 0, 1) := dk_42 (dk_at dksX5_reasonOf_2 3 rfl rfl)
theorem dX5_reasonOf_50 : decode cX5_reasonOf 50 = .ok (.getfield 90, 3) := dk_180 0 90 (dk_at dksX5_reasonOf_2 4 rfl rfl)
theorem dX5_reasonOf_53 : decode cX5_reasonOf 53 = .ok (.iload_n 1, 1) := dk_27 (dk_at dksX5_reasonOf_2 7 rfl rfl)
theorem dX5_reasonOf_54 : decode cX5_reasonOf 54 = .ok (.iaload, 1) := dk_46 (dk_at dksX5_reasonOf_2 8 rfl rfl)
theorem dX5_reasonOf_55 : decode cX5_reasonOf 55 = .ok (.iload_n 2, 1) := dk_28 (dk_at dksX5_reasonOf_2 9 rfl rfl)
theorem dX5_reasonOf_56 : decode cX5_reasonOf 56 = .ok (.invokestatic 213, 3) := dk_184 0 213 (dk_at dksX5_reasonOf_2 10 rfl rfl)
theorem dX5_reasonOf_59 : decode cX5_reasonOf 59 = .ok (.ifCond .ne 7, 3) := dk_154 0 7 (dk_at dksX5_reasonOf_2 13 rfl rfl)
theorem dX5_reasonOf_62 : decode cX5_reasonOf 62 = .ok (.iconst 1, 1) := dk_4 (dk_at dksX5_reasonOf_2 16 rfl rfl)
theorem dX5_reasonOf_63 : decode cX5_reasonOf 63 = .ok (.goto 4, 3) := dk_167 0 4 (dk_at dksX5_reasonOf_2 17 rfl rfl)
theorem dX5_reasonOf_66 : decode cX5_reasonOf 66 = .ok (.iconst 0, 1) := dk_3 (dk_at dksX5_reasonOf_2 20 rfl rfl)
theorem dX5_reasonOf_67 : decode cX5_reasonOf 67 = .ok (.istore 5, 2) := dk_54 5 (dk_at dksX5_reasonOf_2 21 rfl rfl)
theorem dX5_reasonOf_69 : decode cX5_reasonOf 69 = .ok (.iload_n 3, 1) := dk_29 (dk_at dksX5_reasonOf_2 23 rfl rfl)
theorem dX5_reasonOf_70 : decode cX5_reasonOf 70 = .ok (.iload 5, 2) := dk_21 5 (dk_at dksX5_reasonOf_3 0 rfl rfl)
theorem dX5_reasonOf_72 : decode cX5_reasonOf 72 = .ok (.ifCond .eq 12, 3) := dk_153 0 12 (dk_at dksX5_reasonOf_3 2 rfl rfl)
theorem dX5_reasonOf_75 : decode cX5_reasonOf 75 = .ok (.iconst 1, 1) := dk_4 (dk_at dksX5_reasonOf_3 5 rfl rfl)
theorem dX5_reasonOf_76 : decode cX5_reasonOf 76 = .ok (.iload 4, 2) := dk_21 4 (dk_at dksX5_reasonOf_3 6 rfl rfl)
theorem dX5_reasonOf_78 : decode cX5_reasonOf 78 = .ok (.ishl, 1) := dk_120 (dk_at dksX5_reasonOf_3 8 rfl rfl)
theorem dX5_reasonOf_79 : decode cX5_reasonOf 79 = .ok (.iconst (-1), 1) := dk_2 (dk_at dksX5_reasonOf_3 9 rfl rfl)
theorem dX5_reasonOf_80 : decode cX5_reasonOf 80 = .ok (.ixor, 1) := dk_130 (dk_at dksX5_reasonOf_3 10 rfl rfl)
theorem dX5_reasonOf_81 : decode cX5_reasonOf 81 = .ok (.goto 4, 3) := dk_167 0 4 (dk_at dksX5_reasonOf_3 11 rfl rfl)
theorem dX5_reasonOf_84 : decode cX5_reasonOf 84 = .ok (.iconst (-1), 1) := dk_2 (dk_at dksX5_reasonOf_3 14 rfl rfl)
theorem dX5_reasonOf_85 : decode cX5_reasonOf 85 = .ok (.iand, 1) := dk_126 (dk_at dksX5_reasonOf_3 15 rfl rfl)
theorem dX5_reasonOf_86 : decode cX5_reasonOf 86 = .ok (.istore_n 3, 1) := dk_62 (dk_at dksX5_reasonOf_3 16 rfl rfl)
theorem dX5_reasonOf_87 : decode cX5_reasonOf 87 = .ok (.iinc 4 (-1), 3) := dk_132 4 255 (dk_at dksX5_reasonOf_3 17 rfl rfl)
theorem dX5_reasonOf_90 : decode cX5_reasonOf 90 = .ok (.goto (-73), 3) := dk_167 255 183 (dk_at dksX5_reasonOf_3 20 rfl rfl)
theorem dX5_reasonOf_93 : decode cX5_reasonOf 93 = .ok (.iload_n 3, 1) := dk_29 (dk_at dksX5_reasonOf_3 23 rfl rfl)
theorem dX5_reasonOf_94 : decode cX5_reasonOf 94 = .ok (.ireturn, 1) := dk_172 (dk_at dksX5_reasonOf_4 0 rfl rfl)
def dkwX5_failure_1 : List UInt8 := [158, 0, 7, 3, 167, 0, 9, 42, 3, 2, 182, 1, 156, 172]
abbrev dktX5_failure_1 : List UInt8 := dkwX5_failure_1 ++ []
def dkwX5_failure_0 : List UInt8 := [42, 182, 1, 150, 42, 42, 180, 1, 41, 153, 0, 7, 3, 167, 0, 4, 4, 181, 0, 174, 42, 180, 0, 174]
abbrev dktX5_failure_0 : List UInt8 := dkwX5_failure_0 ++ dktX5_failure_1
theorem dksX5_failure_0 : cX5_failure.data.toList.drop 0 = dktX5_failure_0 := by decide +kernel
theorem dksX5_failure_1 : cX5_failure.data.toList.drop 24 = dktX5_failure_1 := dk_seg dksX5_failure_0 24 rfl rfl
theorem dX5_failure_0 : decode cX5_failure 0 = .ok (.aload_n 0, 1) := dk_42 (dk_at dksX5_failure_0 0 rfl rfl)
theorem dX5_failure_1 : decode cX5_failure 1 = .ok (.invokevirtual 406, 3) := dk_182 1 150 (dk_at dksX5_failure_0 1 rfl rfl)
theorem dX5_failure_4 : decode cX5_failure 4 = .ok (.aload_n 0, 1) := dk_42 (dk_at dksX5_failure_0 4 rfl rfl)
theorem dX5_failure_5 : decode cX5_failure 5 = .ok (.aload_n 0, 1) := dk_42 (dk_at dksX5_failure_0 5 rfl rfl)
theorem dX5_failure_6 : decode cX5_failure 6 = .ok (.getfield 297, 3) := dk_180 1 41 (dk_at dksX5_failure_0 6 rfl rfl)
theorem dX5_failure_9 : decode cX5_failure 9 = .ok (.ifCond .eq 7, 3) := dk_153 0 7 (dk_at dksX5_failure_0 9 rfl rfl)
theorem dX5_failure_12 : decode cX5_failure 12 = .ok (.iconst 0, 1) := dk_3 (dk_at dksX5_failure_0 12 rfl rfl)
theorem dX5_failure_13 : decode cX5_failure 13 = .ok (.goto 4, 3) := dk_167 0 4 (dk_at dksX5_failure_0 13 rfl rfl)
theorem dX5_failure_16 : decode cX5_failure 16 = .ok (.iconst 1, 1) := dk_4 (dk_at dksX5_failure_0 16 rfl rfl)
theorem dX5_failure_17 : decode cX5_failure 17 = .ok (.putfield 174, 3) := dk_181 0 174 (dk_at dksX5_failure_0 17 rfl rfl)
theorem dX5_failure_20 : decode cX5_failure 20 = .ok (.aload_n 0, 1) := dk_42 (dk_at dksX5_failure_0 20 rfl rfl)
theorem dX5_failure_21 : decode cX5_failure 21 = .ok (.getfield 174, 3) := dk_180 0 174 (dk_at dksX5_failure_0 21 rfl rfl)
theorem dX5_failure_24 : decode cX5_failure 24 = .ok (.ifCond .le 7, 3) := dk_158 0 7 (dk_at dksX5_failure_1 0 rfl rfl)
theorem dX5_failure_27 : decode cX5_failure 27 = .ok (.iconst 0, 1) := dk_3 (dk_at dksX5_failure_1 3 rfl rfl)
theorem dX5_failure_28 : decode cX5_failure 28 = .ok (.goto 9, 3) := dk_167 0 9 (dk_at dksX5_failure_1 4 rfl rfl)
theorem dX5_failure_31 : decode cX5_failure 31 = .ok (.aload_n 0, 1) := dk_42 (dk_at dksX5_failure_1 7 rfl rfl)
theorem dX5_failure_32 : decode cX5_failure 32 = .ok (.iconst 0, 1) := dk_3 (dk_at dksX5_failure_1 8 rfl rfl)
theorem dX5_failure_33 : decode cX5_failure 33 = .ok (.iconst (-1), 1) := dk_2 (dk_at dksX5_failure_1 9 rfl rfl)
theorem dX5_failure_34 : decode cX5_failure 34 = .ok (.invokevirtual 412, 3) := dk_182 1 156 (dk_at dksX5_failure_1 10 rfl rfl)
theorem dX5_failure_37 : decode cX5_failure 37 = .ok (.ireturn, 1) := dk_172 (dk_at dksX5_failure_1 13 rfl rfl)
def dkwX5_learn_8 : List UInt8 := [126, 154, 0, 16, 42, 89, 180, 1, 34, 4, 100, 181, 1, 34, 167, 255, 226, 42, 180, 1, 34, 172]
abbrev dktX5_learn_8 : List UInt8 := dkwX5_learn_8 ++ []
def dkwX5_learn_7 : List UInt8 := [180, 1, 34, 120, 2, 130, 126, 62, 42, 180, 1, 34, 158, 0, 29, 29, 42, 180, 1, 34, 4, 100, 122, 4]
abbrev dktX5_learn_7 : List UInt8 := dkwX5_learn_7 ++ dktX5_learn_8
def dkwX5_learn_6 : List UInt8 := [132, 3, 1, 167, 255, 174, 42, 8, 28, 182, 1, 128, 87, 42, 27, 184, 0, 196, 181, 1, 34, 27, 4, 42]
abbrev dktX5_learn_6 : List UInt8 := dkwX5_learn_6 ++ dktX5_learn_7
def dkwX5_learn_5 : List UInt8 := [180, 1, 62, 104, 28, 96, 42, 180, 0, 71, 29, 51, 154, 0, 7, 4, 167, 0, 4, 3, 84, 132, 2, 1]
abbrev dktX5_learn_5 : List UInt8 := dkwX5_learn_5 ++ dktX5_learn_6
def dkwX5_learn_4 : List UInt8 := [16, 6, 42, 180, 1, 62, 104, 28, 96, 42, 180, 0, 68, 29, 46, 79, 42, 180, 0, 62, 16, 6, 42]
abbrev dktX5_learn_4 : List UInt8 := dkwX5_learn_4 ++ dktX5_learn_5
def dkwX5_learn_3 : List UInt8 := [27, 29, 122, 4, 126, 4, 160, 0, 65, 42, 28, 42, 180, 0, 65, 29, 46, 182, 1, 114, 42, 180, 0, 50]
abbrev dktX5_learn_3 : List UInt8 := dkwX5_learn_3 ++ dktX5_learn_4
def dkwX5_learn_2 : List UInt8 := [181, 0, 174, 42, 180, 0, 174, 158, 0, 5, 3, 172, 3, 61, 3, 62, 29, 42, 180, 1, 34, 162, 0, 80]
abbrev dktX5_learn_2 : List UInt8 := dkwX5_learn_2 ++ dktX5_learn_3
def dkwX5_learn_1 : List UInt8 := [184, 0, 227, 4, 16, 6, 184, 0, 180, 153, 0, 14, 42, 182, 1, 122, 153, 0, 7, 3, 167, 0, 4, 4]
abbrev dktX5_learn_1 : List UInt8 := dkwX5_learn_1 ++ dktX5_learn_2
def dkwX5_learn_0 : List UInt8 := [42, 182, 1, 150, 42, 180, 1, 41, 153, 0, 12, 42, 3, 2, 182, 1, 156, 167, 0, 4, 3, 60, 42, 27]
abbrev dktX5_learn_0 : List UInt8 := dkwX5_learn_0 ++ dktX5_learn_1
theorem dksX5_learn_0 : cX5_learn.data.toList.drop 0 = dktX5_learn_0 := by decide +kernel
theorem dksX5_learn_1 : cX5_learn.data.toList.drop 24 = dktX5_learn_1 := dk_seg dksX5_learn_0 24 rfl rfl
theorem dksX5_learn_2 : cX5_learn.data.toList.drop 48 = dktX5_learn_2 := dk_seg dksX5_learn_1 24 rfl rfl
theorem dksX5_learn_3 : cX5_learn.data.toList.drop 72 = dktX5_learn_3 := dk_seg dksX5_learn_2 24 rfl rfl
theorem dksX5_learn_4 : cX5_learn.data.toList.drop 96 = dktX5_learn_4 := dk_seg dksX5_learn_3 24 rfl rfl
theorem dksX5_learn_5 : cX5_learn.data.toList.drop 119 = dktX5_learn_5 := dk_seg dksX5_learn_4 23 rfl rfl
theorem dksX5_learn_6 : cX5_learn.data.toList.drop 143 = dktX5_learn_6 := dk_seg dksX5_learn_5 24 rfl rfl
theorem dksX5_learn_7 : cX5_learn.data.toList.drop 167 = dktX5_learn_7 := dk_seg dksX5_learn_6 24 rfl rfl
theorem dksX5_learn_8 : cX5_learn.data.toList.drop 191 = dktX5_learn_8 := dk_seg dksX5_learn_7 24 rfl rfl
theorem dX5_learn_0 : decode cX5_learn 0 = .ok (.aload_n 0, 1) := dk_42 (dk_at dksX5_learn_0 0 rfl rfl)
theorem dX5_learn_1 : decode cX5_learn 1 = .ok (.invokevirtual 406, 3) := dk_182 1 150 (dk_at dksX5_learn_0 1 rfl rfl)
theorem dX5_learn_4 : decode cX5_learn 4 = .ok (.aload_n 0, 1) := dk_42 (dk_at dksX5_learn_0 4 rfl rfl)
theorem dX5_learn_5 : decode cX5_learn 5 = .ok (.getfield 297, 3) := dk_180 1 41 (dk_at dksX5_learn_0 5 rfl rfl)
theorem dX5_learn_8 : decode cX5_learn 8 = .ok (.ifCond .eq 12, 3) := dk_153 0 12 (dk_at dksX5_learn_0 8 rfl rfl)
theorem dX5_learn_11 : decode cX5_learn 11 = .ok (.aload_n 0, 1) := dk_42 (dk_at dksX5_learn_0 11 rfl rfl)
theorem dX5_learn_12 : decode cX5_learn 12 = .ok (.iconst 0, 1) := dk_3 (dk_at dksX5_learn_0 12 rfl rfl)
theorem dX5_learn_13 : decode cX5_learn 13 = .ok (.iconst (-1), 1) := dk_2 (dk_at dksX5_learn_0 13 rfl rfl)
theorem dX5_learn_14 : decode cX5_learn 14 = .ok (.invokevirtual 412, 3) := dk_182 1 156 (dk_at dksX5_learn_0 14 rfl rfl)
theorem dX5_learn_17 : decode cX5_learn 17 = .ok (.goto 4, 3) := dk_167 0 4 (dk_at dksX5_learn_0 17 rfl rfl)
theorem dX5_learn_20 : decode cX5_learn 20 = .ok (.iconst 0, 1) := dk_3 (dk_at dksX5_learn_0 20 rfl rfl)
theorem dX5_learn_21 : decode cX5_learn 21 = .ok (.istore_n 1, 1) := dk_60 (dk_at dksX5_learn_0 21 rfl rfl)
theorem dX5_learn_22 : decode cX5_learn 22 = .ok (.aload_n 0, 1) := dk_42 (dk_at dksX5_learn_0 22 rfl rfl)
theorem dX5_learn_23 : decode cX5_learn 23 = .ok (.iload_n 1, 1) := dk_27 (dk_at dksX5_learn_0 23 rfl rfl)
theorem dX5_learn_24 : decode cX5_learn 24 = .ok (.invokestatic 227, 3) := dk_184 0 227 (dk_at dksX5_learn_1 0 rfl rfl)
theorem dX5_learn_27 : decode cX5_learn 27 = .ok (.iconst 1, 1) := dk_4 (dk_at dksX5_learn_1 3 rfl rfl)
theorem dX5_learn_28 : decode cX5_learn 28 = .ok (.bipush 6, 2) := dk_16 6 (dk_at dksX5_learn_1 4 rfl rfl)
theorem dX5_learn_30 : decode cX5_learn 30 = .ok (.invokestatic 180, 3) := dk_184 0 180 (dk_at dksX5_learn_1 6 rfl rfl)
theorem dX5_learn_33 : decode cX5_learn 33 = .ok (.ifCond .eq 14, 3) := dk_153 0 14 (dk_at dksX5_learn_1 9 rfl rfl)
theorem dX5_learn_36 : decode cX5_learn 36 = .ok (.aload_n 0, 1) := dk_42 (dk_at dksX5_learn_1 12 rfl rfl)
theorem dX5_learn_37 : decode cX5_learn 37 = .ok (.invokevirtual 378, 3) := dk_182 1 122 (dk_at dksX5_learn_1 13 rfl rfl)
theorem dX5_learn_40 : decode cX5_learn 40 = .ok (.ifCond .eq 7, 3) := dk_153 0 7 (dk_at dksX5_learn_1 16 rfl rfl)
theorem dX5_learn_43 : decode cX5_learn 43 = .ok (.iconst 0, 1) := dk_3 (dk_at dksX5_learn_1 19 rfl rfl)
theorem dX5_learn_44 : decode cX5_learn 44 = .ok (.goto 4, 3) := dk_167 0 4 (dk_at dksX5_learn_1 20 rfl rfl)
theorem dX5_learn_47 : decode cX5_learn 47 = .ok (.iconst 1, 1) := dk_4 (dk_at dksX5_learn_1 23 rfl rfl)
theorem dX5_learn_48 : decode cX5_learn 48 = .ok (.putfield 174, 3) := dk_181 0 174 (dk_at dksX5_learn_2 0 rfl rfl)
theorem dX5_learn_51 : decode cX5_learn 51 = .ok (.aload_n 0, 1) := dk_42 (dk_at dksX5_learn_2 3 rfl rfl)
theorem dX5_learn_52 : decode cX5_learn 52 = .ok (.getfield 174, 3) := dk_180 0 174 (dk_at dksX5_learn_2 4 rfl rfl)
theorem dX5_learn_55 : decode cX5_learn 55 = .ok (.ifCond .le 5, 3) := dk_158 0 5 (dk_at dksX5_learn_2 7 rfl rfl)
theorem dX5_learn_58 : decode cX5_learn 58 = .ok (.iconst 0, 1) := dk_3 (dk_at dksX5_learn_2 10 rfl rfl)
theorem dX5_learn_59 : decode cX5_learn 59 = .ok (.ireturn, 1) := dk_172 (dk_at dksX5_learn_2 11 rfl rfl)
theorem dX5_learn_60 : decode cX5_learn 60 = .ok (.iconst 0, 1) := dk_3 (dk_at dksX5_learn_2 12 rfl rfl)
theorem dX5_learn_61 : decode cX5_learn 61 = .ok (.istore_n 2, 1) := dk_61 (dk_at dksX5_learn_2 13 rfl rfl)
theorem dX5_learn_62 : decode cX5_learn 62 = .ok (.iconst 0, 1) := dk_3 (dk_at dksX5_learn_2 14 rfl rfl)
theorem dX5_learn_63 : decode cX5_learn 63 = .ok (.istore_n 3, 1) := dk_62 (dk_at dksX5_learn_2 15 rfl rfl)
theorem dX5_learn_64 : decode cX5_learn 64 = .ok (.iload_n 3, 1) := dk_29 (dk_at dksX5_learn_2 16 rfl rfl)
theorem dX5_learn_65 : decode cX5_learn 65 = .ok (.aload_n 0, 1) := dk_42 (dk_at dksX5_learn_2 17 rfl rfl)
theorem dX5_learn_66 : decode cX5_learn 66 = .ok (.getfield 290, 3) := dk_180 1 34 (dk_at dksX5_learn_2 18 rfl rfl)
theorem dX5_learn_69 : decode cX5_learn 69 = .ok (.if_icmp .ge 80, 3) := dk_162 0 80 (dk_at dksX5_learn_2 21 rfl rfl)
theorem dX5_learn_72 : decode cX5_learn 72 = .ok (.iload_n 1, 1) := dk_27 (dk_at dksX5_learn_3 0 rfl rfl)
theorem dX5_learn_73 : decode cX5_learn 73 = .ok (.iload_n 3, 1) := dk_29 (dk_at dksX5_learn_3 1 rfl rfl)
theorem dX5_learn_74 : decode cX5_learn 74 = .ok (.ishr, 1) := dk_122 (dk_at dksX5_learn_3 2 rfl rfl)
theorem dX5_learn_75 : decode cX5_learn 75 = .ok (.iconst 1, 1) := dk_4 (dk_at dksX5_learn_3 3 rfl rfl)
theorem dX5_learn_76 : decode cX5_learn 76 = .ok (.iand, 1) := dk_126 (dk_at dksX5_learn_3 4 rfl rfl)
theorem dX5_learn_77 : decode cX5_learn 77 = .ok (.iconst 1, 1) := dk_4 (dk_at dksX5_learn_3 5 rfl rfl)
theorem dX5_learn_78 : decode cX5_learn 78 = .ok (.if_icmp .ne 65, 3) := dk_160 0 65 (dk_at dksX5_learn_3 6 rfl rfl)
theorem dX5_learn_81 : decode cX5_learn 81 = .ok (.aload_n 0, 1) := dk_42 (dk_at dksX5_learn_3 9 rfl rfl)
theorem dX5_learn_82 : decode cX5_learn 82 = .ok (.iload_n 2, 1) := dk_28 (dk_at dksX5_learn_3 10 rfl rfl)
theorem dX5_learn_83 : decode cX5_learn 83 = .ok (.aload_n 0, 1) := dk_42 (dk_at dksX5_learn_3 11 rfl rfl)
theorem dX5_learn_84 : decode cX5_learn 84 = .ok (.getfield 65, 3) := dk_180 0 65 (dk_at dksX5_learn_3 12 rfl rfl)
theorem dX5_learn_87 : decode cX5_learn 87 = .ok (.iload_n 3, 1) := dk_29 (dk_at dksX5_learn_3 15 rfl rfl)
theorem dX5_learn_88 : decode cX5_learn 88 = .ok (.iaload, 1) := dk_46 (dk_at dksX5_learn_3 16 rfl rfl)
theorem dX5_learn_89 : decode cX5_learn 89 = .ok (.invokevirtual 370, 3) := dk_182 1 114 (dk_at dksX5_learn_3 17 rfl rfl)
theorem dX5_learn_92 : decode cX5_learn 92 = .ok (.aload_n 0, 1) := dk_42 (dk_at dksX5_learn_3 20 rfl rfl)
theorem dX5_learn_93 : decode cX5_learn 93 = .ok (.getfield 50, 3) := dk_180 0 50 (dk_at dksX5_learn_3 21 rfl rfl)
theorem dX5_learn_96 : decode cX5_learn 96 = .ok (.bipush 6, 2) := dk_16 6 (dk_at dksX5_learn_4 0 rfl rfl)
theorem dX5_learn_98 : decode cX5_learn 98 = .ok (.aload_n 0, 1) := dk_42 (dk_at dksX5_learn_4 2 rfl rfl)
theorem dX5_learn_99 : decode cX5_learn 99 = .ok (.getfield 318, 3) := dk_180 1 62 (dk_at dksX5_learn_4 3 rfl rfl)
theorem dX5_learn_102 : decode cX5_learn 102 = .ok (.imul, 1) := dk_104 (dk_at dksX5_learn_4 6 rfl rfl)
theorem dX5_learn_103 : decode cX5_learn 103 = .ok (.iload_n 2, 1) := dk_28 (dk_at dksX5_learn_4 7 rfl rfl)
theorem dX5_learn_104 : decode cX5_learn 104 = .ok (.iadd, 1) := dk_96 (dk_at dksX5_learn_4 8 rfl rfl)
theorem dX5_learn_105 : decode cX5_learn 105 = .ok (.aload_n 0, 1) := dk_42 (dk_at dksX5_learn_4 9 rfl rfl)
theorem dX5_learn_106 : decode cX5_learn 106 = .ok (.getfield 68, 3) := dk_180 0 68 (dk_at dksX5_learn_4 10 rfl rfl)
theorem dX5_learn_109 : decode cX5_learn 109 = .ok (.iload_n 3, 1) := dk_29 (dk_at dksX5_learn_4 13 rfl rfl)
theorem dX5_learn_110 : decode cX5_learn 110 = .ok (.iaload, 1) := dk_46 (dk_at dksX5_learn_4 14 rfl rfl)
theorem dX5_learn_111 : decode cX5_learn 111 = .ok (.iastore, 1) := dk_79 (dk_at dksX5_learn_4 15 rfl rfl)
theorem dX5_learn_112 : decode cX5_learn 112 = .ok (.aload_n 0, 1) := dk_42 (dk_at dksX5_learn_4 16 rfl rfl)
theorem dX5_learn_113 : decode cX5_learn 113 = .ok (.getfield 62, 3) := dk_180 0 62 (dk_at dksX5_learn_4 17 rfl rfl)
theorem dX5_learn_116 : decode cX5_learn 116 = .ok (.bipush 6, 2) := dk_16 6 (dk_at dksX5_learn_4 20 rfl rfl)
theorem dX5_learn_118 : decode cX5_learn 118 = .ok (.aload_n 0, 1) := dk_42 (dk_at dksX5_learn_4 22 rfl rfl)
theorem dX5_learn_119 : decode cX5_learn 119 = .ok (.getfield 318, 3) := dk_180 1 62 (dk_at dksX5_learn_5 0 rfl rfl)
theorem dX5_learn_122 : decode cX5_learn 122 = .ok (.imul, 1) := dk_104 (dk_at dksX5_learn_5 3 rfl rfl)
theorem dX5_learn_123 : decode cX5_learn 123 = .ok (.iload_n 2, 1) := dk_28 (dk_at dksX5_learn_5 4 rfl rfl)
theorem dX5_learn_124 : decode cX5_learn 124 = .ok (.iadd, 1) := dk_96 (dk_at dksX5_learn_5 5 rfl rfl)
theorem dX5_learn_125 : decode cX5_learn 125 = .ok (.aload_n 0, 1) := dk_42 (dk_at dksX5_learn_5 6 rfl rfl)
theorem dX5_learn_126 : decode cX5_learn 126 = .ok (.getfield 71, 3) := dk_180 0 71 (dk_at dksX5_learn_5 7 rfl rfl)
theorem dX5_learn_129 : decode cX5_learn 129 = .ok (.iload_n 3, 1) := dk_29 (dk_at dksX5_learn_5 10 rfl rfl)
theorem dX5_learn_130 : decode cX5_learn 130 = .ok (.baload, 1) := dk_51 (dk_at dksX5_learn_5 11 rfl rfl)
theorem dX5_learn_131 : decode cX5_learn 131 = .ok (.ifCond .ne 7, 3) := dk_154 0 7 (dk_at dksX5_learn_5 12 rfl rfl)
theorem dX5_learn_134 : decode cX5_learn 134 = .ok (.iconst 1, 1) := dk_4 (dk_at dksX5_learn_5 15 rfl rfl)
theorem dX5_learn_135 : decode cX5_learn 135 = .ok (.goto 4, 3) := dk_167 0 4 (dk_at dksX5_learn_5 16 rfl rfl)
theorem dX5_learn_138 : decode cX5_learn 138 = .ok (.iconst 0, 1) := dk_3 (dk_at dksX5_learn_5 19 rfl rfl)
theorem dX5_learn_139 : decode cX5_learn 139 = .ok (.bastore, 1) := dk_84 (dk_at dksX5_learn_5 20 rfl rfl)
theorem dX5_learn_140 : decode cX5_learn 140 = .ok (.iinc 2 1, 3) := dk_132 2 1 (dk_at dksX5_learn_5 21 rfl rfl)
theorem dX5_learn_143 : decode cX5_learn 143 = .ok (.iinc 3 1, 3) := dk_132 3 1 (dk_at dksX5_learn_6 0 rfl rfl)
theorem dX5_learn_146 : decode cX5_learn 146 = .ok (.goto (-82), 3) := dk_167 255 174 (dk_at dksX5_learn_6 3 rfl rfl)
theorem dX5_learn_149 : decode cX5_learn 149 = .ok (.aload_n 0, 1) := dk_42 (dk_at dksX5_learn_6 6 rfl rfl)
theorem dX5_learn_150 : decode cX5_learn 150 = .ok (.iconst 5, 1) := dk_8 (dk_at dksX5_learn_6 7 rfl rfl)
theorem dX5_learn_151 : decode cX5_learn 151 = .ok (.iload_n 2, 1) := dk_28 (dk_at dksX5_learn_6 8 rfl rfl)
theorem dX5_learn_152 : decode cX5_learn 152 = .ok (.invokevirtual 384, 3) := dk_182 1 128 (dk_at dksX5_learn_6 9 rfl rfl)
theorem dX5_learn_155 : decode cX5_learn 155 = .ok (.pop, 1) := dk_87 (dk_at dksX5_learn_6 12 rfl rfl)
theorem dX5_learn_156 : decode cX5_learn 156 = .ok (.aload_n 0, 1) := dk_42 (dk_at dksX5_learn_6 13 rfl rfl)
theorem dX5_learn_157 : decode cX5_learn 157 = .ok (.iload_n 1, 1) := dk_27 (dk_at dksX5_learn_6 14 rfl rfl)
theorem dX5_learn_158 : decode cX5_learn 158 = .ok (.invokestatic 196, 3) := dk_184 0 196 (dk_at dksX5_learn_6 15 rfl rfl)
theorem dX5_learn_161 : decode cX5_learn 161 = .ok (.putfield 290, 3) := dk_181 1 34 (dk_at dksX5_learn_6 18 rfl rfl)
theorem dX5_learn_164 : decode cX5_learn 164 = .ok (.iload_n 1, 1) := dk_27 (dk_at dksX5_learn_6 21 rfl rfl)
theorem dX5_learn_165 : decode cX5_learn 165 = .ok (.iconst 1, 1) := dk_4 (dk_at dksX5_learn_6 22 rfl rfl)
theorem dX5_learn_166 : decode cX5_learn 166 = .ok (.aload_n 0, 1) := dk_42 (dk_at dksX5_learn_6 23 rfl rfl)
theorem dX5_learn_167 : decode cX5_learn 167 = .ok (.getfield 290, 3) := dk_180 1 34 (dk_at dksX5_learn_7 0 rfl rfl)
theorem dX5_learn_170 : decode cX5_learn 170 = .ok (.ishl, 1) := dk_120 (dk_at dksX5_learn_7 3 rfl rfl)
theorem dX5_learn_171 : decode cX5_learn 171 = .ok (.iconst (-1), 1) := dk_2 (dk_at dksX5_learn_7 4 rfl rfl)
theorem dX5_learn_172 : decode cX5_learn 172 = .ok (.ixor, 1) := dk_130 (dk_at dksX5_learn_7 5 rfl rfl)
theorem dX5_learn_173 : decode cX5_learn 173 = .ok (.iand, 1) := dk_126 (dk_at dksX5_learn_7 6 rfl rfl)
theorem dX5_learn_174 : decode cX5_learn 174 = .ok (.istore_n 3, 1) := dk_62 (dk_at dksX5_learn_7 7 rfl rfl)
theorem dX5_learn_175 : decode cX5_learn 175 = .ok (.aload_n 0, 1) := dk_42 (dk_at dksX5_learn_7 8 rfl rfl)
theorem dX5_learn_176 : decode cX5_learn 176 = .ok (.getfield 290, 3) := dk_180 1 34 (dk_at dksX5_learn_7 9 rfl rfl)
theorem dX5_learn_179 : decode cX5_learn 179 = .ok (.ifCond .le 29, 3) := dk_158 0 29 (dk_at dksX5_learn_7 12 rfl rfl)
theorem dX5_learn_182 : decode cX5_learn 182 = .ok (.iload_n 3, 1) := dk_29 (dk_at dksX5_learn_7 15 rfl rfl)
theorem dX5_learn_183 : decode cX5_learn 183 = .ok (.aload_n 0, 1) := dk_42 (dk_at dksX5_learn_7 16 rfl rfl)
theorem dX5_learn_184 : decode cX5_learn 184 = .ok (.getfield 290, 3) := dk_180 1 34 (dk_at dksX5_learn_7 17 rfl rfl)
theorem dX5_learn_187 : decode cX5_learn 187 = .ok (.iconst 1, 1) := dk_4 (dk_at dksX5_learn_7 20 rfl rfl)
theorem dX5_learn_188 : decode cX5_learn 188 = .ok (.isub, 1) := dk_100 (dk_at dksX5_learn_7 21 rfl rfl)
theorem dX5_learn_189 : decode cX5_learn 189 = .ok (.ishr, 1) := dk_122 (dk_at dksX5_learn_7 22 rfl rfl)
theorem dX5_learn_190 : decode cX5_learn 190 = .ok (.iconst 1, 1) := dk_4 (dk_at dksX5_learn_7 23 rfl rfl)
theorem dX5_learn_191 : decode cX5_learn 191 = .ok (.iand, 1) := dk_126 (dk_at dksX5_learn_8 0 rfl rfl)
theorem dX5_learn_192 : decode cX5_learn 192 = .ok (.ifCond .ne 16, 3) := dk_154 0 16 (dk_at dksX5_learn_8 1 rfl rfl)
theorem dX5_learn_195 : decode cX5_learn 195 = .ok (.aload_n 0, 1) := dk_42 (dk_at dksX5_learn_8 4 rfl rfl)
theorem dX5_learn_196 : decode cX5_learn 196 = .ok (.dup, 1) := dk_89 (dk_at dksX5_learn_8 5 rfl rfl)
theorem dX5_learn_197 : decode cX5_learn 197 = .ok (.getfield 290, 3) := dk_180 1 34 (dk_at dksX5_learn_8 6 rfl rfl)
theorem dX5_learn_200 : decode cX5_learn 200 = .ok (.iconst 1, 1) := dk_4 (dk_at dksX5_learn_8 9 rfl rfl)
theorem dX5_learn_201 : decode cX5_learn 201 = .ok (.isub, 1) := dk_100 (dk_at dksX5_learn_8 10 rfl rfl)
theorem dX5_learn_202 : decode cX5_learn 202 = .ok (.putfield 290, 3) := dk_181 1 34 (dk_at dksX5_learn_8 11 rfl rfl)
theorem dX5_learn_205 : decode cX5_learn 205 = .ok (.goto (-30), 3) := dk_167 255 226 (dk_at dksX5_learn_8 14 rfl rfl)
theorem dX5_learn_208 : decode cX5_learn 208 = .ok (.aload_n 0, 1) := dk_42 (dk_at dksX5_learn_8 17 rfl rfl)
theorem dX5_learn_209 : decode cX5_learn 209 = .ok (.getfield 290, 3) := dk_180 1 34 (dk_at dksX5_learn_8 18 rfl rfl)
theorem dX5_learn_212 : decode cX5_learn 212 = .ok (.ireturn, 1) := dk_172 (dk_at dksX5_learn_8 21 rfl rfl)
def dkwX5_search_11 : List UInt8 := [96, 79, 42, 21, 10, 21, 11, 182, 1, 189, 167, 255, 95, 42, 180, 0, 117, 172]
abbrev dktX5_search_11 : List UInt8 := dkwX5_search_11 ++ []
def dkwX5_search_10 : List UInt8 := [28, 182, 1, 183, 54, 10, 42, 21, 10, 29, 182, 1, 186, 54, 11, 42, 180, 0, 114, 21, 10, 21, 11, 4]
abbrev dktX5_search_10 : List UInt8 := dkwX5_search_10 ++ dktX5_search_11
def dkwX5_search_9 : List UInt8 := [167, 255, 153, 42, 182, 1, 177, 153, 0, 15, 42, 3, 181, 0, 117, 42, 182, 1, 180, 167, 255, 134, 42, 27]
abbrev dktX5_search_9 : List UInt8 := dkwX5_search_9 ++ dktX5_search_10
def dkwX5_search_8 : List UInt8 := [3, 54, 7, 42, 3, 181, 1, 159, 167, 255, 168, 42, 182, 1, 174, 154, 255, 161, 42, 4, 181, 0, 117]
abbrev dktX5_search_8 : List UInt8 := dkwX5_search_8 ++ dktX5_search_9
def dkwX5_search_7 : List UInt8 := [132, 7, 1, 21, 7, 21, 8, 160, 0, 28, 21, 9, 158, 0, 23, 132, 9, 255, 21, 8, 5, 104, 54, 8]
abbrev dktX5_search_7 : List UInt8 := dkwX5_search_7 ++ dktX5_search_8
def dkwX5_search_6 : List UInt8 := [181, 1, 165, 42, 182, 1, 171, 42, 180, 1, 41, 153, 0, 63, 42, 89, 180, 1, 168, 4, 96, 181, 1, 168]
abbrev dktX5_search_6 : List UInt8 := dkwX5_search_6 ++ dktX5_search_7
def dkwX5_search_5 : List UInt8 := [180, 1, 165, 17, 1, 144, 160, 0, 11, 42, 5, 181, 0, 117, 167, 255, 234, 42, 89, 180, 1, 165, 4, 96]
abbrev dktX5_search_5 : List UInt8 := dkwX5_search_5 ++ dktX5_search_6
def dkwX5_search_4 : List UInt8 := [42, 2, 181, 0, 117, 3, 54, 7, 21, 4, 54, 8, 21, 5, 54, 9, 42, 180, 0, 117, 156, 0, 160, 42]
abbrev dktX5_search_4 : List UInt8 := dkwX5_search_4 ++ dktX5_search_5
def dkwX5_search_3 : List UInt8 := [42, 180, 0, 174, 158, 0, 5, 3, 172, 42, 3, 181, 1, 165, 42, 3, 181, 1, 168, 42, 3, 181, 1, 159]
abbrev dktX5_search_3 : List UInt8 := dkwX5_search_3 ++ dktX5_search_4
def dkwX5_search_2 : List UInt8 := [153, 0, 7, 4, 167, 0, 4, 3, 54, 6, 42, 21, 6, 153, 0, 7, 3, 167, 0, 4, 4, 181, 0, 174]
abbrev dktX5_search_2 : List UInt8 := dkwX5_search_2 ++ dktX5_search_3
def dkwX5_search_1 : List UInt8 := [184, 0, 180, 153, 0, 28, 21, 4, 4, 16, 100, 184, 0, 180, 153, 0, 17, 21, 5, 3, 8, 184, 0, 180]
abbrev dktX5_search_1 : List UInt8 := dkwX5_search_1 ++ dktX5_search_2
def dkwX5_search_0 : List UInt8 := [27, 3, 17, 3, 255, 184, 0, 180, 153, 0, 46, 28, 3, 4, 184, 0, 180, 153, 0, 37, 29, 3, 5]
abbrev dktX5_search_0 : List UInt8 := dkwX5_search_0 ++ dktX5_search_1
theorem dksX5_search_0 : cX5_search.data.toList.drop 0 = dktX5_search_0 := by decide +kernel
theorem dksX5_search_1 : cX5_search.data.toList.drop 23 = dktX5_search_1 := dk_seg dksX5_search_0 23 rfl rfl
theorem dksX5_search_2 : cX5_search.data.toList.drop 47 = dktX5_search_2 := dk_seg dksX5_search_1 24 rfl rfl
theorem dksX5_search_3 : cX5_search.data.toList.drop 71 = dktX5_search_3 := dk_seg dksX5_search_2 24 rfl rfl
theorem dksX5_search_4 : cX5_search.data.toList.drop 95 = dktX5_search_4 := dk_seg dksX5_search_3 24 rfl rfl
theorem dksX5_search_5 : cX5_search.data.toList.drop 119 = dktX5_search_5 := dk_seg dksX5_search_4 24 rfl rfl
theorem dksX5_search_6 : cX5_search.data.toList.drop 143 = dktX5_search_6 := dk_seg dksX5_search_5 24 rfl rfl
theorem dksX5_search_7 : cX5_search.data.toList.drop 167 = dktX5_search_7 := dk_seg dksX5_search_6 24 rfl rfl
theorem dksX5_search_8 : cX5_search.data.toList.drop 191 = dktX5_search_8 := dk_seg dksX5_search_7 24 rfl rfl
theorem dksX5_search_9 : cX5_search.data.toList.drop 214 = dktX5_search_9 := dk_seg dksX5_search_8 23 rfl rfl
theorem dksX5_search_10 : cX5_search.data.toList.drop 238 = dktX5_search_10 := dk_seg dksX5_search_9 24 rfl rfl
theorem dksX5_search_11 : cX5_search.data.toList.drop 262 = dktX5_search_11 := dk_seg dksX5_search_10 24 rfl rfl
theorem dX5_search_0 : decode cX5_search 0 = .ok (.iload_n 1, 1) := dk_27 (dk_at dksX5_search_0 0 rfl rfl)
theorem dX5_search_1 : decode cX5_search 1 = .ok (.iconst 0, 1) := dk_3 (dk_at dksX5_search_0 1 rfl rfl)
theorem dX5_search_2 : decode cX5_search 2 = .ok (.sipush 1023, 3) := dk_17 3 255 (dk_at dksX5_search_0 2 rfl rfl)
theorem dX5_search_5 : decode cX5_search 5 = .ok (.invokestatic 180, 3) := dk_184 0 180 (dk_at dksX5_search_0 5 rfl rfl)
theorem dX5_search_8 : decode cX5_search 8 = .ok (.ifCond .eq 46, 3) := dk_153 0 46 (dk_at dksX5_search_0 8 rfl rfl)
theorem dX5_search_11 : decode cX5_search 11 = .ok (.iload_n 2, 1) := dk_28 (dk_at dksX5_search_0 11 rfl rfl)
theorem dX5_search_12 : decode cX5_search 12 = .ok (.iconst 0, 1) := dk_3 (dk_at dksX5_search_0 12 rfl rfl)
theorem dX5_search_13 : decode cX5_search 13 = .ok (.iconst 1, 1) := dk_4 (dk_at dksX5_search_0 13 rfl rfl)
theorem dX5_search_14 : decode cX5_search 14 = .ok (.invokestatic 180, 3) := dk_184 0 180 (dk_at dksX5_search_0 14 rfl rfl)
theorem dX5_search_17 : decode cX5_search 17 = .ok (.ifCond .eq 37, 3) := dk_153 0 37 (dk_at dksX5_search_0 17 rfl rfl)
theorem dX5_search_20 : decode cX5_search 20 = .ok (.iload_n 3, 1) := dk_29 (dk_at dksX5_search_0 20 rfl rfl)
theorem dX5_search_21 : decode cX5_search 21 = .ok (.iconst 0, 1) := dk_3 (dk_at dksX5_search_0 21 rfl rfl)
theorem dX5_search_22 : decode cX5_search 22 = .ok (.iconst 2, 1) := dk_5 (dk_at dksX5_search_0 22 rfl rfl)
theorem dX5_search_23 : decode cX5_search 23 = .ok (.invokestatic 180, 3) := dk_184 0 180 (dk_at dksX5_search_1 0 rfl rfl)
theorem dX5_search_26 : decode cX5_search 26 = .ok (.ifCond .eq 28, 3) := dk_153 0 28 (dk_at dksX5_search_1 3 rfl rfl)
theorem dX5_search_29 : decode cX5_search 29 = .ok (.iload 4, 2) := dk_21 4 (dk_at dksX5_search_1 6 rfl rfl)
theorem dX5_search_31 : decode cX5_search 31 = .ok (.iconst 1, 1) := dk_4 (dk_at dksX5_search_1 8 rfl rfl)
theorem dX5_search_32 : decode cX5_search 32 = .ok (.bipush 100, 2) := dk_16 100 (dk_at dksX5_search_1 9 rfl rfl)
theorem dX5_search_34 : decode cX5_search 34 = .ok (.invokestatic 180, 3) := dk_184 0 180 (dk_at dksX5_search_1 11 rfl rfl)
theorem dX5_search_37 : decode cX5_search 37 = .ok (.ifCond .eq 17, 3) := dk_153 0 17 (dk_at dksX5_search_1 14 rfl rfl)
theorem dX5_search_40 : decode cX5_search 40 = .ok (.iload 5, 2) := dk_21 5 (dk_at dksX5_search_1 17 rfl rfl)
theorem dX5_search_42 : decode cX5_search 42 = .ok (.iconst 0, 1) := dk_3 (dk_at dksX5_search_1 19 rfl rfl)
theorem dX5_search_43 : decode cX5_search 43 = .ok (.iconst 5, 1) := dk_8 (dk_at dksX5_search_1 20 rfl rfl)
theorem dX5_search_44 : decode cX5_search 44 = .ok (.invokestatic 180, 3) := dk_184 0 180 (dk_at dksX5_search_1 21 rfl rfl)
theorem dX5_search_47 : decode cX5_search 47 = .ok (.ifCond .eq 7, 3) := dk_153 0 7 (dk_at dksX5_search_2 0 rfl rfl)
theorem dX5_search_50 : decode cX5_search 50 = .ok (.iconst 1, 1) := dk_4 (dk_at dksX5_search_2 3 rfl rfl)
theorem dX5_search_51 : decode cX5_search 51 = .ok (.goto 4, 3) := dk_167 0 4 (dk_at dksX5_search_2 4 rfl rfl)
theorem dX5_search_54 : decode cX5_search 54 = .ok (.iconst 0, 1) := dk_3 (dk_at dksX5_search_2 7 rfl rfl)
theorem dX5_search_55 : decode cX5_search 55 = .ok (.istore 6, 2) := dk_54 6 (dk_at dksX5_search_2 8 rfl rfl)
theorem dX5_search_57 : decode cX5_search 57 = .ok (.aload_n 0, 1) := dk_42 (dk_at dksX5_search_2 10 rfl rfl)
theorem dX5_search_58 : decode cX5_search 58 = .ok (.iload 6, 2) := dk_21 6 (dk_at dksX5_search_2 11 rfl rfl)
theorem dX5_search_60 : decode cX5_search 60 = .ok (.ifCond .eq 7, 3) := dk_153 0 7 (dk_at dksX5_search_2 13 rfl rfl)
theorem dX5_search_63 : decode cX5_search 63 = .ok (.iconst 0, 1) := dk_3 (dk_at dksX5_search_2 16 rfl rfl)
theorem dX5_search_64 : decode cX5_search 64 = .ok (.goto 4, 3) := dk_167 0 4 (dk_at dksX5_search_2 17 rfl rfl)
theorem dX5_search_67 : decode cX5_search 67 = .ok (.iconst 1, 1) := dk_4 (dk_at dksX5_search_2 20 rfl rfl)
theorem dX5_search_68 : decode cX5_search 68 = .ok (.putfield 174, 3) := dk_181 0 174 (dk_at dksX5_search_2 21 rfl rfl)
theorem dX5_search_71 : decode cX5_search 71 = .ok (.aload_n 0, 1) := dk_42 (dk_at dksX5_search_3 0 rfl rfl)
theorem dX5_search_72 : decode cX5_search 72 = .ok (.getfield 174, 3) := dk_180 0 174 (dk_at dksX5_search_3 1 rfl rfl)
theorem dX5_search_75 : decode cX5_search 75 = .ok (.ifCond .le 5, 3) := dk_158 0 5 (dk_at dksX5_search_3 4 rfl rfl)
theorem dX5_search_78 : decode cX5_search 78 = .ok (.iconst 0, 1) := dk_3 (dk_at dksX5_search_3 7 rfl rfl)
theorem dX5_search_79 : decode cX5_search 79 = .ok (.ireturn, 1) := dk_172 (dk_at dksX5_search_3 8 rfl rfl)
theorem dX5_search_80 : decode cX5_search 80 = .ok (.aload_n 0, 1) := dk_42 (dk_at dksX5_search_3 9 rfl rfl)
theorem dX5_search_81 : decode cX5_search 81 = .ok (.iconst 0, 1) := dk_3 (dk_at dksX5_search_3 10 rfl rfl)
theorem dX5_search_82 : decode cX5_search 82 = .ok (.putfield 421, 3) := dk_181 1 165 (dk_at dksX5_search_3 11 rfl rfl)
theorem dX5_search_85 : decode cX5_search 85 = .ok (.aload_n 0, 1) := dk_42 (dk_at dksX5_search_3 14 rfl rfl)
theorem dX5_search_86 : decode cX5_search 86 = .ok (.iconst 0, 1) := dk_3 (dk_at dksX5_search_3 15 rfl rfl)
theorem dX5_search_87 : decode cX5_search 87 = .ok (.putfield 424, 3) := dk_181 1 168 (dk_at dksX5_search_3 16 rfl rfl)
theorem dX5_search_90 : decode cX5_search 90 = .ok (.aload_n 0, 1) := dk_42 (dk_at dksX5_search_3 19 rfl rfl)
theorem dX5_search_91 : decode cX5_search 91 = .ok (.iconst 0, 1) := dk_3 (dk_at dksX5_search_3 20 rfl rfl)
theorem dX5_search_92 : decode cX5_search 92 = .ok (.putfield 415, 3) := dk_181 1 159 (dk_at dksX5_search_3 21 rfl rfl)
theorem dX5_search_95 : decode cX5_search 95 = .ok (.aload_n 0, 1) := dk_42 (dk_at dksX5_search_4 0 rfl rfl)
theorem dX5_search_96 : decode cX5_search 96 = .ok (.iconst (-1), 1) := dk_2 (dk_at dksX5_search_4 1 rfl rfl)
theorem dX5_search_97 : decode cX5_search 97 = .ok (.putfield 117, 3) := dk_181 0 117 (dk_at dksX5_search_4 2 rfl rfl)
theorem dX5_search_100 : decode cX5_search 100 = .ok (.iconst 0, 1) := dk_3 (dk_at dksX5_search_4 5 rfl rfl)
theorem dX5_search_101 : decode cX5_search 101 = .ok (.istore 7, 2) := dk_54 7 (dk_at dksX5_search_4 6 rfl rfl)
theorem dX5_search_103 : decode cX5_search 103 = .ok (.iload 4, 2) := dk_21 4 (dk_at dksX5_search_4 8 rfl rfl)
theorem dX5_search_105 : decode cX5_search 105 = .ok (.istore 8, 2) := dk_54 8 (dk_at dksX5_search_4 10 rfl rfl)
theorem dX5_search_107 : decode cX5_search 107 = .ok (.iload 5, 2) := dk_21 5 (dk_at dksX5_search_4 12 rfl rfl)
theorem dX5_search_109 : decode cX5_search 109 = .ok (.istore 9, 2) := dk_54 9 (dk_at dksX5_search_4 14 rfl rfl)
theorem dX5_search_111 : decode cX5_search 111 = .ok (.aload_n 0, 1) := dk_42 (dk_at dksX5_search_4 16 rfl rfl)
theorem dX5_search_112 : decode cX5_search 112 = .ok (.getfield 117, 3) := dk_180 0 117 (dk_at dksX5_search_4 17 rfl rfl)
theorem dX5_search_115 : decode cX5_search 115 = .ok (.ifCond .ge 160, 3) := dk_156 0 160 (dk_at dksX5_search_4 20 rfl rfl)
theorem dX5_search_118 : decode cX5_search 118 = .ok (.aload_n 0, 1) := dk_42 (dk_at dksX5_search_4 23 rfl rfl)
theorem dX5_search_119 : decode cX5_search 119 = .ok (.getfield 421, 3) := dk_180 1 165 (dk_at dksX5_search_5 0 rfl rfl)
theorem dX5_search_122 : decode cX5_search 122 = .ok (.sipush 400, 3) := dk_17 1 144 (dk_at dksX5_search_5 3 rfl rfl)
theorem dX5_search_125 : decode cX5_search 125 = .ok (.if_icmp .ne 11, 3) := dk_160 0 11 (dk_at dksX5_search_5 6 rfl rfl)
theorem dX5_search_128 : decode cX5_search 128 = .ok (.aload_n 0, 1) := dk_42 (dk_at dksX5_search_5 9 rfl rfl)
theorem dX5_search_129 : decode cX5_search 129 = .ok (.iconst 2, 1) := dk_5 (dk_at dksX5_search_5 10 rfl rfl)
theorem dX5_search_130 : decode cX5_search 130 = .ok (.putfield 117, 3) := dk_181 0 117 (dk_at dksX5_search_5 11 rfl rfl)
theorem dX5_search_133 : decode cX5_search 133 = .ok (.goto (-22), 3) := dk_167 255 234 (dk_at dksX5_search_5 14 rfl rfl)
theorem dX5_search_136 : decode cX5_search 136 = .ok (.aload_n 0, 1) := dk_42 (dk_at dksX5_search_5 17 rfl rfl)
theorem dX5_search_137 : decode cX5_search 137 = .ok (.dup, 1) := dk_89 (dk_at dksX5_search_5 18 rfl rfl)
theorem dX5_search_138 : decode cX5_search 138 = .ok (.getfield 421, 3) := dk_180 1 165 (dk_at dksX5_search_5 19 rfl rfl)
theorem dX5_search_141 : decode cX5_search 141 = .ok (.iconst 1, 1) := dk_4 (dk_at dksX5_search_5 22 rfl rfl)
theorem dX5_search_142 : decode cX5_search 142 = .ok (.iadd, 1) := dk_96 (dk_at dksX5_search_5 23 rfl rfl)
theorem dX5_search_143 : decode cX5_search 143 = .ok (.putfield 421, 3) := dk_181 1 165 (dk_at dksX5_search_6 0 rfl rfl)
theorem dX5_search_146 : decode cX5_search 146 = .ok (.aload_n 0, 1) := dk_42 (dk_at dksX5_search_6 3 rfl rfl)
theorem dX5_search_147 : decode cX5_search 147 = .ok (.invokevirtual 427, 3) := dk_182 1 171 (dk_at dksX5_search_6 4 rfl rfl)
theorem dX5_search_150 : decode cX5_search 150 = .ok (.aload_n 0, 1) := dk_42 (dk_at dksX5_search_6 7 rfl rfl)
theorem dX5_search_151 : decode cX5_search 151 = .ok (.getfield 297, 3) := dk_180 1 41 (dk_at dksX5_search_6 8 rfl rfl)
theorem dX5_search_154 : decode cX5_search 154 = .ok (.ifCond .eq 63, 3) := dk_153 0 63 (dk_at dksX5_search_6 11 rfl rfl)
theorem dX5_search_157 : decode cX5_search 157 = .ok (.aload_n 0, 1) := dk_42 (dk_at dksX5_search_6 14 rfl rfl)
theorem dX5_search_158 : decode cX5_search 158 = .ok (.dup, 1) := dk_89 (dk_at dksX5_search_6 15 rfl rfl)
theorem dX5_search_159 : decode cX5_search 159 = .ok (.getfield 424, 3) := dk_180 1 168 (dk_at dksX5_search_6 16 rfl rfl)
theorem dX5_search_162 : decode cX5_search 162 = .ok (.iconst 1, 1) := dk_4 (dk_at dksX5_search_6 19 rfl rfl)
theorem dX5_search_163 : decode cX5_search 163 = .ok (.iadd, 1) := dk_96 (dk_at dksX5_search_6 20 rfl rfl)
theorem dX5_search_164 : decode cX5_search 164 = .ok (.putfield 424, 3) := dk_181 1 168 (dk_at dksX5_search_6 21 rfl rfl)
theorem dX5_search_167 : decode cX5_search 167 = .ok (.iinc 7 1, 3) := dk_132 7 1 (dk_at dksX5_search_7 0 rfl rfl)
theorem dX5_search_170 : decode cX5_search 170 = .ok (.iload 7, 2) := dk_21 7 (dk_at dksX5_search_7 3 rfl rfl)
theorem dX5_search_172 : decode cX5_search 172 = .ok (.iload 8, 2) := dk_21 8 (dk_at dksX5_search_7 5 rfl rfl)
theorem dX5_search_174 : decode cX5_search 174 = .ok (.if_icmp .ne 28, 3) := dk_160 0 28 (dk_at dksX5_search_7 7 rfl rfl)
theorem dX5_search_177 : decode cX5_search 177 = .ok (.iload 9, 2) := dk_21 9 (dk_at dksX5_search_7 10 rfl rfl)
theorem dX5_search_179 : decode cX5_search 179 = .ok (.ifCond .le 23, 3) := dk_158 0 23 (dk_at dksX5_search_7 12 rfl rfl)
theorem dX5_search_182 : decode cX5_search 182 = .ok (.iinc 9 (-1), 3) := dk_132 9 255 (dk_at dksX5_search_7 15 rfl rfl)
theorem dX5_search_185 : decode cX5_search 185 = .ok (.iload 8, 2) := dk_21 8 (dk_at dksX5_search_7 18 rfl rfl)
theorem dX5_search_187 : decode cX5_search 187 = .ok (.iconst 2, 1) := dk_5 (dk_at dksX5_search_7 20 rfl rfl)
theorem dX5_search_188 : decode cX5_search 188 = .ok (.imul, 1) := dk_104 (dk_at dksX5_search_7 21 rfl rfl)
theorem dX5_search_189 : decode cX5_search 189 = .ok (.istore 8, 2) := dk_54 8 (dk_at dksX5_search_7 22 rfl rfl)
theorem dX5_search_191 : decode cX5_search 191 = .ok (.iconst 0, 1) := dk_3 (dk_at dksX5_search_8 0 rfl rfl)
theorem dX5_search_192 : decode cX5_search 192 = .ok (.istore 7, 2) := dk_54 7 (dk_at dksX5_search_8 1 rfl rfl)
theorem dX5_search_194 : decode cX5_search 194 = .ok (.aload_n 0, 1) := dk_42 (dk_at dksX5_search_8 3 rfl rfl)
theorem dX5_search_195 : decode cX5_search 195 = .ok (.iconst 0, 1) := dk_3 (dk_at dksX5_search_8 4 rfl rfl)
theorem dX5_search_196 : decode cX5_search 196 = .ok (.putfield 415, 3) := dk_181 1 159 (dk_at dksX5_search_8 5 rfl rfl)
theorem dX5_search_199 : decode cX5_search 199 = .ok (.goto (-88), 3) := dk_167 255 168 (dk_at dksX5_search_8 8 rfl rfl)
theorem dX5_search_202 : decode cX5_search 202 = .ok (.aload_n 0, 1) := dk_42 (dk_at dksX5_search_8 11 rfl rfl)
theorem dX5_search_203 : decode cX5_search 203 = .ok (.invokevirtual 430, 3) := dk_182 1 174 (dk_at dksX5_search_8 12 rfl rfl)
theorem dX5_search_206 : decode cX5_search 206 = .ok (.ifCond .ne (-95), 3) := dk_154 255 161 (dk_at dksX5_search_8 15 rfl rfl)
theorem dX5_search_209 : decode cX5_search 209 = .ok (.aload_n 0, 1) := dk_42 (dk_at dksX5_search_8 18 rfl rfl)
theorem dX5_search_210 : decode cX5_search 210 = .ok (.iconst 1, 1) := dk_4 (dk_at dksX5_search_8 19 rfl rfl)
theorem dX5_search_211 : decode cX5_search 211 = .ok (.putfield 117, 3) := dk_181 0 117 (dk_at dksX5_search_8 20 rfl rfl)
theorem dX5_search_214 : decode cX5_search 214 = .ok (.goto (-103), 3) := dk_167 255 153 (dk_at dksX5_search_9 0 rfl rfl)
theorem dX5_search_217 : decode cX5_search 217 = .ok (.aload_n 0, 1) := dk_42 (dk_at dksX5_search_9 3 rfl rfl)
theorem dX5_search_218 : decode cX5_search 218 = .ok (.invokevirtual 433, 3) := dk_182 1 177 (dk_at dksX5_search_9 4 rfl rfl)
theorem dX5_search_221 : decode cX5_search 221 = .ok (.ifCond .eq 15, 3) := dk_153 0 15 (dk_at dksX5_search_9 7 rfl rfl)
theorem dX5_search_224 : decode cX5_search 224 = .ok (.aload_n 0, 1) := dk_42 (dk_at dksX5_search_9 10 rfl rfl)
theorem dX5_search_225 : decode cX5_search 225 = .ok (.iconst 0, 1) := dk_3 (dk_at dksX5_search_9 11 rfl rfl)
theorem dX5_search_226 : decode cX5_search 226 = .ok (.putfield 117, 3) := dk_181 0 117 (dk_at dksX5_search_9 12 rfl rfl)
theorem dX5_search_229 : decode cX5_search 229 = .ok (.aload_n 0, 1) := dk_42 (dk_at dksX5_search_9 15 rfl rfl)
theorem dX5_search_230 : decode cX5_search 230 = .ok (.invokevirtual 436, 3) := dk_182 1 180 (dk_at dksX5_search_9 16 rfl rfl)
theorem dX5_search_233 : decode cX5_search 233 = .ok (.goto (-122), 3) := dk_167 255 134 (dk_at dksX5_search_9 19 rfl rfl)
theorem dX5_search_236 : decode cX5_search 236 = .ok (.aload_n 0, 1) := dk_42 (dk_at dksX5_search_9 22 rfl rfl)
theorem dX5_search_237 : decode cX5_search 237 = .ok (.iload_n 1, 1) := dk_27 (dk_at dksX5_search_9 23 rfl rfl)
theorem dX5_search_238 : decode cX5_search 238 = .ok (.iload_n 2, 1) := dk_28 (dk_at dksX5_search_10 0 rfl rfl)
theorem dX5_search_239 : decode cX5_search 239 = .ok (.invokevirtual 439, 3) := dk_182 1 183 (dk_at dksX5_search_10 1 rfl rfl)
theorem dX5_search_242 : decode cX5_search 242 = .ok (.istore 10, 2) := dk_54 10 (dk_at dksX5_search_10 4 rfl rfl)
theorem dX5_search_244 : decode cX5_search 244 = .ok (.aload_n 0, 1) := dk_42 (dk_at dksX5_search_10 6 rfl rfl)
theorem dX5_search_245 : decode cX5_search 245 = .ok (.iload 10, 2) := dk_21 10 (dk_at dksX5_search_10 7 rfl rfl)
theorem dX5_search_247 : decode cX5_search 247 = .ok (.iload_n 3, 1) := dk_29 (dk_at dksX5_search_10 9 rfl rfl)
theorem dX5_search_248 : decode cX5_search 248 = .ok (.invokevirtual 442, 3) := dk_182 1 186 (dk_at dksX5_search_10 10 rfl rfl)
theorem dX5_search_251 : decode cX5_search 251 = .ok (.istore 11, 2) := dk_54 11 (dk_at dksX5_search_10 13 rfl rfl)
theorem dX5_search_253 : decode cX5_search 253 = .ok (.aload_n 0, 1) := dk_42 (dk_at dksX5_search_10 15 rfl rfl)
theorem dX5_search_254 : decode cX5_search 254 = .ok (.getfield 114, 3) := dk_180 0 114 (dk_at dksX5_search_10 16 rfl rfl)
theorem dX5_search_257 : decode cX5_search 257 = .ok (.iload 10, 2) := dk_21 10 (dk_at dksX5_search_10 19 rfl rfl)
theorem dX5_search_259 : decode cX5_search 259 = .ok (.iload 11, 2) := dk_21 11 (dk_at dksX5_search_10 21 rfl rfl)
theorem dX5_search_261 : decode cX5_search 261 = .ok (.iconst 1, 1) := dk_4 (dk_at dksX5_search_10 23 rfl rfl)
theorem dX5_search_262 : decode cX5_search 262 = .ok (.iadd, 1) := dk_96 (dk_at dksX5_search_11 0 rfl rfl)
theorem dX5_search_263 : decode cX5_search 263 = .ok (.iastore, 1) := dk_79 (dk_at dksX5_search_11 1 rfl rfl)
theorem dX5_search_264 : decode cX5_search 264 = .ok (.aload_n 0, 1) := dk_42 (dk_at dksX5_search_11 2 rfl rfl)
theorem dX5_search_265 : decode cX5_search 265 = .ok (.iload 10, 2) := dk_21 10 (dk_at dksX5_search_11 3 rfl rfl)
theorem dX5_search_267 : decode cX5_search 267 = .ok (.iload 11, 2) := dk_21 11 (dk_at dksX5_search_11 5 rfl rfl)
theorem dX5_search_269 : decode cX5_search 269 = .ok (.invokevirtual 445, 3) := dk_182 1 189 (dk_at dksX5_search_11 7 rfl rfl)
theorem dX5_search_272 : decode cX5_search 272 = .ok (.goto (-161), 3) := dk_167 255 95 (dk_at dksX5_search_11 10 rfl rfl)
theorem dX5_search_275 : decode cX5_search 275 = .ok (.aload_n 0, 1) := dk_42 (dk_at dksX5_search_11 13 rfl rfl)
theorem dX5_search_276 : decode cX5_search 276 = .ok (.getfield 117, 3) := dk_180 0 117 (dk_at dksX5_search_11 14 rfl rfl)
theorem dX5_search_279 : decode cX5_search 279 = .ok (.ireturn, 1) := dk_172 (dk_at dksX5_search_11 17 rfl rfl)
def dkwX5_findsNode_2 : List UInt8 := [167, 255, 223, 42, 182, 1, 80, 177]
abbrev dktX5_findsNode_2 : List UInt8 := dkwX5_findsNode_2 ++ []
def dkwX5_findsNode_1 : List UInt8 := [180, 0, 123, 27, 46, 42, 180, 0, 126, 27, 46, 42, 180, 0, 129, 27, 51, 182, 1, 37, 132, 1, 1]
abbrev dktX5_findsNode_1 : List UInt8 := dkwX5_findsNode_1 ++ dktX5_findsNode_2
def dkwX5_findsNode_0 : List UInt8 := [42, 2, 181, 0, 83, 42, 17, 15, 255, 182, 1, 77, 3, 60, 27, 42, 180, 1, 159, 162, 0, 31, 42, 42]
abbrev dktX5_findsNode_0 : List UInt8 := dkwX5_findsNode_0 ++ dktX5_findsNode_1
theorem dksX5_findsNode_0 : cX5_findsNode.data.toList.drop 0 = dktX5_findsNode_0 := by decide +kernel
theorem dksX5_findsNode_1 : cX5_findsNode.data.toList.drop 24 = dktX5_findsNode_1 := dk_seg dksX5_findsNode_0 24 rfl rfl
theorem dksX5_findsNode_2 : cX5_findsNode.data.toList.drop 47 = dktX5_findsNode_2 := dk_seg dksX5_findsNode_1 23 rfl rfl
theorem dX5_findsNode_0 : decode cX5_findsNode 0 = .ok (.aload_n 0, 1) := dk_42 (dk_at dksX5_findsNode_0 0 rfl rfl)
theorem dX5_findsNode_1 : decode cX5_findsNode 1 = .ok (.iconst (-1), 1) := dk_2 (dk_at dksX5_findsNode_0 1 rfl rfl)
theorem dX5_findsNode_2 : decode cX5_findsNode 2 = .ok (.putfield 83, 3) := dk_181 0 83 (dk_at dksX5_findsNode_0 2 rfl rfl)
theorem dX5_findsNode_5 : decode cX5_findsNode 5 = .ok (.aload_n 0, 1) := dk_42 (dk_at dksX5_findsNode_0 5 rfl rfl)
theorem dX5_findsNode_6 : decode cX5_findsNode 6 = .ok (.sipush 4095, 3) := dk_17 15 255 (dk_at dksX5_findsNode_0 6 rfl rfl)
theorem dX5_findsNode_9 : decode cX5_findsNode 9 = .ok (.invokevirtual 333, 3) := dk_182 1 77 (dk_at dksX5_findsNode_0 9 rfl rfl)
theorem dX5_findsNode_12 : decode cX5_findsNode 12 = .ok (.iconst 0, 1) := dk_3 (dk_at dksX5_findsNode_0 12 rfl rfl)
theorem dX5_findsNode_13 : decode cX5_findsNode 13 = .ok (.istore_n 1, 1) := dk_60 (dk_at dksX5_findsNode_0 13 rfl rfl)
theorem dX5_findsNode_14 : decode cX5_findsNode 14 = .ok (.iload_n 1, 1) := dk_27 (dk_at dksX5_findsNode_0 14 rfl rfl)
theorem dX5_findsNode_15 : decode cX5_findsNode 15 = .ok (.aload_n 0, 1) := dk_42 (dk_at dksX5_findsNode_0 15 rfl rfl)
theorem dX5_findsNode_16 : decode cX5_findsNode 16 = .ok (.getfield 415, 3) := dk_180 1 159 (dk_at dksX5_findsNode_0 16 rfl rfl)
theorem dX5_findsNode_19 : decode cX5_findsNode 19 = .ok (.if_icmp .ge 31, 3) := dk_162 0 31 (dk_at dksX5_findsNode_0 19 rfl rfl)
theorem dX5_findsNode_22 : decode cX5_findsNode 22 = .ok (.aload_n 0, 1) := dk_42 (dk_at dksX5_findsNode_0 22 rfl rfl)
theorem dX5_findsNode_23 : decode cX5_findsNode 23 = .ok (.aload_n 0, 1) := dk_42 (dk_at dksX5_findsNode_0 23 rfl rfl)
theorem dX5_findsNode_24 : decode cX5_findsNode 24 = .ok (.getfield 123, 3) := dk_180 0 123 (dk_at dksX5_findsNode_1 0 rfl rfl)
theorem dX5_findsNode_27 : decode cX5_findsNode 27 = .ok (.iload_n 1, 1) := dk_27 (dk_at dksX5_findsNode_1 3 rfl rfl)
theorem dX5_findsNode_28 : decode cX5_findsNode 28 = .ok (.iaload, 1) := dk_46 (dk_at dksX5_findsNode_1 4 rfl rfl)
theorem dX5_findsNode_29 : decode cX5_findsNode 29 = .ok (.aload_n 0, 1) := dk_42 (dk_at dksX5_findsNode_1 5 rfl rfl)
theorem dX5_findsNode_30 : decode cX5_findsNode 30 = .ok (.getfield 126, 3) := dk_180 0 126 (dk_at dksX5_findsNode_1 6 rfl rfl)
theorem dX5_findsNode_33 : decode cX5_findsNode 33 = .ok (.iload_n 1, 1) := dk_27 (dk_at dksX5_findsNode_1 9 rfl rfl)
theorem dX5_findsNode_34 : decode cX5_findsNode 34 = .ok (.iaload, 1) := dk_46 (dk_at dksX5_findsNode_1 10 rfl rfl)
theorem dX5_findsNode_35 : decode cX5_findsNode 35 = .ok (.aload_n 0, 1) := dk_42 (dk_at dksX5_findsNode_1 11 rfl rfl)
theorem dX5_findsNode_36 : decode cX5_findsNode 36 = .ok (.getfield 129, 3) := dk_180 0 129 (dk_at dksX5_findsNode_1 12 rfl rfl)
theorem dX5_findsNode_39 : decode cX5_findsNode 39 = .ok (.iload_n 1, 1) := dk_27 (dk_at dksX5_findsNode_1 15 rfl rfl)
theorem dX5_findsNode_40 : decode cX5_findsNode 40 = .ok (.baload, 1) := dk_51 (dk_at dksX5_findsNode_1 16 rfl rfl)
theorem dX5_findsNode_41 : decode cX5_findsNode 41 = .ok (.invokevirtual 293, 3) := dk_182 1 37 (dk_at dksX5_findsNode_1 17 rfl rfl)
theorem dX5_findsNode_44 : decode cX5_findsNode 44 = .ok (.iinc 1 1, 3) := dk_132 1 1 (dk_at dksX5_findsNode_1 20 rfl rfl)
theorem dX5_findsNode_47 : decode cX5_findsNode 47 = .ok (.goto (-33), 3) := dk_167 255 223 (dk_at dksX5_findsNode_2 0 rfl rfl)
theorem dX5_findsNode_50 : decode cX5_findsNode 50 = .ok (.aload_n 0, 1) := dk_42 (dk_at dksX5_findsNode_2 3 rfl rfl)
theorem dX5_findsNode_51 : decode cX5_findsNode 51 = .ok (.invokevirtual 336, 3) := dk_182 1 80 (dk_at dksX5_findsNode_2 4 rfl rfl)
theorem dX5_findsNode_54 : decode cX5_findsNode 54 = .ok (.return_, 1) := dk_177 (dk_at dksX5_findsNode_2 7 rfl rfl)
def dkwX5_goesBack_2 : List UInt8 := [180, 1, 159, 4, 100, 3, 84, 42, 180, 1, 159, 158, 0, 7, 4, 167, 0, 4, 3, 172]
abbrev dktX5_goesBack_2 : List UInt8 := dkwX5_goesBack_2 ++ []
def dkwX5_goesBack_1 : List UInt8 := [180, 1, 159, 4, 100, 181, 1, 159, 167, 255, 225, 42, 180, 1, 159, 158, 0, 15, 42, 180, 0, 129, 42]
abbrev dktX5_goesBack_1 : List UInt8 := dkwX5_goesBack_1 ++ dktX5_goesBack_2
def dkwX5_goesBack_0 : List UInt8 := [42, 180, 1, 159, 158, 0, 30, 42, 180, 0, 129, 42, 180, 1, 159, 4, 100, 51, 154, 0, 16, 42, 89]
abbrev dktX5_goesBack_0 : List UInt8 := dkwX5_goesBack_0 ++ dktX5_goesBack_1
theorem dksX5_goesBack_0 : cX5_goesBack.data.toList.drop 0 = dktX5_goesBack_0 := by decide +kernel
theorem dksX5_goesBack_1 : cX5_goesBack.data.toList.drop 23 = dktX5_goesBack_1 := dk_seg dksX5_goesBack_0 23 rfl rfl
theorem dksX5_goesBack_2 : cX5_goesBack.data.toList.drop 46 = dktX5_goesBack_2 := dk_seg dksX5_goesBack_1 23 rfl rfl
theorem dX5_goesBack_0 : decode cX5_goesBack 0 = .ok (.aload_n 0, 1) := dk_42 (dk_at dksX5_goesBack_0 0 rfl rfl)
theorem dX5_goesBack_1 : decode cX5_goesBack 1 = .ok (.getfield 415, 3) := dk_180 1 159 (dk_at dksX5_goesBack_0 1 rfl rfl)
theorem dX5_goesBack_4 : decode cX5_goesBack 4 = .ok (.ifCond .le 30, 3) := dk_158 0 30 (dk_at dksX5_goesBack_0 4 rfl rfl)
theorem dX5_goesBack_7 : decode cX5_goesBack 7 = .ok (.aload_n 0, 1) := dk_42 (dk_at dksX5_goesBack_0 7 rfl rfl)
theorem dX5_goesBack_8 : decode cX5_goesBack 8 = .ok (.getfield 129, 3) := dk_180 0 129 (dk_at dksX5_goesBack_0 8 rfl rfl)
theorem dX5_goesBack_11 : decode cX5_goesBack 11 = .ok (.aload_n 0, 1) := dk_42 (dk_at dksX5_goesBack_0 11 rfl rfl)
theorem dX5_goesBack_12 : decode cX5_goesBack 12 = .ok (.getfield 415, 3) := dk_180 1 159 (dk_at dksX5_goesBack_0 12 rfl rfl)
theorem dX5_goesBack_15 : decode cX5_goesBack 15 = .ok (.iconst 1, 1) := dk_4 (dk_at dksX5_goesBack_0 15 rfl rfl)
theorem dX5_goesBack_16 : decode cX5_goesBack 16 = .ok (.isub, 1) := dk_100 (dk_at dksX5_goesBack_0 16 rfl rfl)
theorem dX5_goesBack_17 : decode cX5_goesBack 17 = .ok (.baload, 1) := dk_51 (dk_at dksX5_goesBack_0 17 rfl rfl)
theorem dX5_goesBack_18 : decode cX5_goesBack 18 = .ok (.ifCond .ne 16, 3) := dk_154 0 16 (dk_at dksX5_goesBack_0 18 rfl rfl)
theorem dX5_goesBack_21 : decode cX5_goesBack 21 = .ok (.aload_n 0, 1) := dk_42 (dk_at dksX5_goesBack_0 21 rfl rfl)
theorem dX5_goesBack_22 : decode cX5_goesBack 22 = .ok (.dup, 1) := dk_89 (dk_at dksX5_goesBack_0 22 rfl rfl)
theorem dX5_goesBack_23 : decode cX5_goesBack 23 = .ok (.getfield 415, 3) := dk_180 1 159 (dk_at dksX5_goesBack_1 0 rfl rfl)
theorem dX5_goesBack_26 : decode cX5_goesBack 26 = .ok (.iconst 1, 1) := dk_4 (dk_at dksX5_goesBack_1 3 rfl rfl)
theorem dX5_goesBack_27 : decode cX5_goesBack 27 = .ok (.isub, 1) := dk_100 (dk_at dksX5_goesBack_1 4 rfl rfl)
theorem dX5_goesBack_28 : decode cX5_goesBack 28 = .ok (.putfield 415, 3) := dk_181 1 159 (dk_at dksX5_goesBack_1 5 rfl rfl)
theorem dX5_goesBack_31 : decode cX5_goesBack 31 = .ok (.goto (-31), 3) := dk_167 255 225 (dk_at dksX5_goesBack_1 8 rfl rfl)
theorem dX5_goesBack_34 : decode cX5_goesBack 34 = .ok (.aload_n 0, 1) := dk_42 (dk_at dksX5_goesBack_1 11 rfl rfl)
theorem dX5_goesBack_35 : decode cX5_goesBack 35 = .ok (.getfield 415, 3) := dk_180 1 159 (dk_at dksX5_goesBack_1 12 rfl rfl)
theorem dX5_goesBack_38 : decode cX5_goesBack 38 = .ok (.ifCond .le 15, 3) := dk_158 0 15 (dk_at dksX5_goesBack_1 15 rfl rfl)
theorem dX5_goesBack_41 : decode cX5_goesBack 41 = .ok (.aload_n 0, 1) := dk_42 (dk_at dksX5_goesBack_1 18 rfl rfl)
theorem dX5_goesBack_42 : decode cX5_goesBack 42 = .ok (.getfield 129, 3) := dk_180 0 129 (dk_at dksX5_goesBack_1 19 rfl rfl)
theorem dX5_goesBack_45 : decode cX5_goesBack 45 = .ok (.aload_n 0, 1) := dk_42 (dk_at dksX5_goesBack_1 22 rfl rfl)
theorem dX5_goesBack_46 : decode cX5_goesBack 46 = .ok (.getfield 415, 3) := dk_180 1 159 (dk_at dksX5_goesBack_2 0 rfl rfl)
theorem dX5_goesBack_49 : decode cX5_goesBack 49 = .ok (.iconst 1, 1) := dk_4 (dk_at dksX5_goesBack_2 3 rfl rfl)
theorem dX5_goesBack_50 : decode cX5_goesBack 50 = .ok (.isub, 1) := dk_100 (dk_at dksX5_goesBack_2 4 rfl rfl)
theorem dX5_goesBack_51 : decode cX5_goesBack 51 = .ok (.iconst 0, 1) := dk_3 (dk_at dksX5_goesBack_2 5 rfl rfl)
theorem dX5_goesBack_52 : decode cX5_goesBack 52 = .ok (.bastore, 1) := dk_84 (dk_at dksX5_goesBack_2 6 rfl rfl)
theorem dX5_goesBack_53 : decode cX5_goesBack 53 = .ok (.aload_n 0, 1) := dk_42 (dk_at dksX5_goesBack_2 7 rfl rfl)
theorem dX5_goesBack_54 : decode cX5_goesBack 54 = .ok (.getfield 415, 3) := dk_180 1 159 (dk_at dksX5_goesBack_2 8 rfl rfl)
theorem dX5_goesBack_57 : decode cX5_goesBack 57 = .ok (.ifCond .le 7, 3) := dk_158 0 7 (dk_at dksX5_goesBack_2 11 rfl rfl)
theorem dX5_goesBack_60 : decode cX5_goesBack 60 = .ok (.iconst 1, 1) := dk_4 (dk_at dksX5_goesBack_2 14 rfl rfl)
theorem dX5_goesBack_61 : decode cX5_goesBack 61 = .ok (.goto 4, 3) := dk_167 0 4 (dk_at dksX5_goesBack_2 15 rfl rfl)
theorem dX5_goesBack_64 : decode cX5_goesBack 64 = .ok (.iconst 0, 1) := dk_3 (dk_at dksX5_goesBack_2 18 rfl rfl)
theorem dX5_goesBack_65 : decode cX5_goesBack 65 = .ok (.ireturn, 1) := dk_172 (dk_at dksX5_goesBack_2 19 rfl rfl)
def dkwX5_isSolution_2 : List UInt8 := [60, 132, 2, 1, 167, 255, 219, 27, 172]
abbrev dktX5_isSolution_2 : List UInt8 := dkwX5_isSolution_2 ++ []
def dkwX5_isSolution_1 : List UInt8 := [42, 180, 0, 7, 28, 46, 6, 159, 0, 11, 42, 28, 182, 1, 83, 153, 0, 7, 4, 167, 0, 4, 3, 126]
abbrev dktX5_isSolution_1 : List UInt8 := dkwX5_isSolution_1 ++ dktX5_isSolution_2
def dkwX5_isSolution_0 : List UInt8 := [42, 180, 1, 41, 154, 0, 7, 4, 167, 0, 4, 3, 60, 3, 61, 28, 42, 180, 0, 177, 162, 0, 35, 27]
abbrev dktX5_isSolution_0 : List UInt8 := dkwX5_isSolution_0 ++ dktX5_isSolution_1
theorem dksX5_isSolution_0 : cX5_isSolution.data.toList.drop 0 = dktX5_isSolution_0 := by decide +kernel
theorem dksX5_isSolution_1 : cX5_isSolution.data.toList.drop 24 = dktX5_isSolution_1 := dk_seg dksX5_isSolution_0 24 rfl rfl
theorem dksX5_isSolution_2 : cX5_isSolution.data.toList.drop 48 = dktX5_isSolution_2 := dk_seg dksX5_isSolution_1 24 rfl rfl
theorem dX5_isSolution_0 : decode cX5_isSolution 0 = .ok (.aload_n 0, 1) := dk_42 (dk_at dksX5_isSolution_0 0 rfl rfl)
theorem dX5_isSolution_1 : decode cX5_isSolution 1 = .ok (.getfield 297, 3) := dk_180 1 41 (dk_at dksX5_isSolution_0 1 rfl rfl)
theorem dX5_isSolution_4 : decode cX5_isSolution 4 = .ok (.ifCond .ne 7, 3) := dk_154 0 7 (dk_at dksX5_isSolution_0 4 rfl rfl)
theorem dX5_isSolution_7 : decode cX5_isSolution 7 = .ok (.iconst 1, 1) := dk_4 (dk_at dksX5_isSolution_0 7 rfl rfl)
theorem dX5_isSolution_8 : decode cX5_isSolution 8 = .ok (.goto 4, 3) := dk_167 0 4 (dk_at dksX5_isSolution_0 8 rfl rfl)
theorem dX5_isSolution_11 : decode cX5_isSolution 11 = .ok (.iconst 0, 1) := dk_3 (dk_at dksX5_isSolution_0 11 rfl rfl)
theorem dX5_isSolution_12 : decode cX5_isSolution 12 = .ok (.istore_n 1, 1) := dk_60 (dk_at dksX5_isSolution_0 12 rfl rfl)
theorem dX5_isSolution_13 : decode cX5_isSolution 13 = .ok (.iconst 0, 1) := dk_3 (dk_at dksX5_isSolution_0 13 rfl rfl)
theorem dX5_isSolution_14 : decode cX5_isSolution 14 = .ok (.istore_n 2, 1) := dk_61 (dk_at dksX5_isSolution_0 14 rfl rfl)
theorem dX5_isSolution_15 : decode cX5_isSolution 15 = .ok (.iload_n 2, 1) := dk_28 (dk_at dksX5_isSolution_0 15 rfl rfl)
theorem dX5_isSolution_16 : decode cX5_isSolution 16 = .ok (.aload_n 0, 1) := dk_42 (dk_at dksX5_isSolution_0 16 rfl rfl)
theorem dX5_isSolution_17 : decode cX5_isSolution 17 = .ok (.getfield 177, 3) := dk_180 0 177 (dk_at dksX5_isSolution_0 17 rfl rfl)
theorem dX5_isSolution_20 : decode cX5_isSolution 20 = .ok (.if_icmp .ge 35, 3) := dk_162 0 35 (dk_at dksX5_isSolution_0 20 rfl rfl)
theorem dX5_isSolution_23 : decode cX5_isSolution 23 = .ok (.iload_n 1, 1) := dk_27 (dk_at dksX5_isSolution_0 23 rfl rfl)
theorem dX5_isSolution_24 : decode cX5_isSolution 24 = .ok (.aload_n 0, 1) := dk_42 (dk_at dksX5_isSolution_1 0 rfl rfl)
theorem dX5_isSolution_25 : decode cX5_isSolution 25 = .ok (.getfield 7, 3) := dk_180 0 7 (dk_at dksX5_isSolution_1 1 rfl rfl)
theorem dX5_isSolution_28 : decode cX5_isSolution 28 = .ok (.iload_n 2, 1) := dk_28 (dk_at dksX5_isSolution_1 4 rfl rfl)
theorem dX5_isSolution_29 : decode cX5_isSolution 29 = .ok (.iaload, 1) := dk_46 (dk_at dksX5_isSolution_1 5 rfl rfl)
theorem dX5_isSolution_30 : decode cX5_isSolution 30 = .ok (.iconst 3, 1) := dk_6 (dk_at dksX5_isSolution_1 6 rfl rfl)
theorem dX5_isSolution_31 : decode cX5_isSolution 31 = .ok (.if_icmp .eq 11, 3) := dk_159 0 11 (dk_at dksX5_isSolution_1 7 rfl rfl)
theorem dX5_isSolution_34 : decode cX5_isSolution 34 = .ok (.aload_n 0, 1) := dk_42 (dk_at dksX5_isSolution_1 10 rfl rfl)
theorem dX5_isSolution_35 : decode cX5_isSolution 35 = .ok (.iload_n 2, 1) := dk_28 (dk_at dksX5_isSolution_1 11 rfl rfl)
theorem dX5_isSolution_36 : decode cX5_isSolution 36 = .ok (.invokevirtual 339, 3) := dk_182 1 83 (dk_at dksX5_isSolution_1 12 rfl rfl)
theorem dX5_isSolution_39 : decode cX5_isSolution 39 = .ok (.ifCond .eq 7, 3) := dk_153 0 7 (dk_at dksX5_isSolution_1 15 rfl rfl)
theorem dX5_isSolution_42 : decode cX5_isSolution 42 = .ok (.iconst 1, 1) := dk_4 (dk_at dksX5_isSolution_1 18 rfl rfl)
theorem dX5_isSolution_43 : decode cX5_isSolution 43 = .ok (.goto 4, 3) := dk_167 0 4 (dk_at dksX5_isSolution_1 19 rfl rfl)
theorem dX5_isSolution_46 : decode cX5_isSolution 46 = .ok (.iconst 0, 1) := dk_3 (dk_at dksX5_isSolution_1 22 rfl rfl)
theorem dX5_isSolution_47 : decode cX5_isSolution 47 = .ok (.iand, 1) := dk_126 (dk_at dksX5_isSolution_1 23 rfl rfl)
theorem dX5_isSolution_48 : decode cX5_isSolution 48 = .ok (.istore_n 1, 1) := dk_60 (dk_at dksX5_isSolution_2 0 rfl rfl)
theorem dX5_isSolution_49 : decode cX5_isSolution 49 = .ok (.iinc 2 1, 3) := dk_132 2 1 (dk_at dksX5_isSolution_2 1 rfl rfl)
theorem dX5_isSolution_52 : decode cX5_isSolution 52 = .ok (.goto (-37), 3) := dk_167 255 219 (dk_at dksX5_isSolution_2 4 rfl rfl)
theorem dX5_isSolution_55 : decode cX5_isSolution 55 = .ok (.iload_n 1, 1) := dk_27 (dk_at dksX5_isSolution_2 7 rfl rfl)
theorem dX5_isSolution_56 : decode cX5_isSolution 56 = .ok (.ireturn, 1) := dk_172 (dk_at dksX5_isSolution_2 8 rfl rfl)
def dkwX5_isFixed_0 : List UInt8 := [42, 180, 0, 90, 27, 46, 184, 0, 227, 4, 160, 0, 7, 4, 167, 0, 4, 3, 172]
abbrev dktX5_isFixed_0 : List UInt8 := dkwX5_isFixed_0 ++ []
theorem dksX5_isFixed_0 : cX5_isFixed.data.toList.drop 0 = dktX5_isFixed_0 := by decide +kernel
theorem dX5_isFixed_0 : decode cX5_isFixed 0 = .ok (.aload_n 0, 1) := dk_42 (dk_at dksX5_isFixed_0 0 rfl rfl)
theorem dX5_isFixed_1 : decode cX5_isFixed 1 = .ok (.getfield 90, 3) := dk_180 0 90 (dk_at dksX5_isFixed_0 1 rfl rfl)
theorem dX5_isFixed_4 : decode cX5_isFixed 4 = .ok (.iload_n 1, 1) := dk_27 (dk_at dksX5_isFixed_0 4 rfl rfl)
theorem dX5_isFixed_5 : decode cX5_isFixed 5 = .ok (.iaload, 1) := dk_46 (dk_at dksX5_isFixed_0 5 rfl rfl)
theorem dX5_isFixed_6 : decode cX5_isFixed 6 = .ok (.invokestatic 227, 3) := dk_184 0 227 (dk_at dksX5_isFixed_0 6 rfl rfl)
theorem dX5_isFixed_9 : decode cX5_isFixed 9 = .ok (.iconst 1, 1) := dk_4 (dk_at dksX5_isFixed_0 9 rfl rfl)
theorem dX5_isFixed_10 : decode cX5_isFixed 10 = .ok (.if_icmp .ne 7, 3) := dk_160 0 7 (dk_at dksX5_isFixed_0 10 rfl rfl)
theorem dX5_isFixed_13 : decode cX5_isFixed 13 = .ok (.iconst 1, 1) := dk_4 (dk_at dksX5_isFixed_0 13 rfl rfl)
theorem dX5_isFixed_14 : decode cX5_isFixed 14 = .ok (.goto 4, 3) := dk_167 0 4 (dk_at dksX5_isFixed_0 14 rfl rfl)
theorem dX5_isFixed_17 : decode cX5_isFixed 17 = .ok (.iconst 0, 1) := dk_3 (dk_at dksX5_isFixed_0 17 rfl rfl)
theorem dX5_isFixed_18 : decode cX5_isFixed 18 = .ok (.ireturn, 1) := dk_172 (dk_at dksX5_isFixed_0 18 rfl rfl)
def dkwX5_keepsSolution_1 : List UInt8 := [27, 3, 182, 0, 205, 79, 132, 1, 1, 167, 255, 233, 177]
abbrev dktX5_keepsSolution_1 : List UInt8 := dkwX5_keepsSolution_1 ++ []
def dkwX5_keepsSolution_0 : List UInt8 := [42, 42, 180, 0, 177, 181, 1, 162, 3, 60, 27, 42, 180, 0, 177, 162, 0, 21, 42, 180, 0, 120, 27, 42]
abbrev dktX5_keepsSolution_0 : List UInt8 := dkwX5_keepsSolution_0 ++ dktX5_keepsSolution_1
theorem dksX5_keepsSolution_0 : cX5_keepsSolution.data.toList.drop 0 = dktX5_keepsSolution_0 := by decide +kernel
theorem dksX5_keepsSolution_1 : cX5_keepsSolution.data.toList.drop 24 = dktX5_keepsSolution_1 := dk_seg dksX5_keepsSolution_0 24 rfl rfl
theorem dX5_keepsSolution_0 : decode cX5_keepsSolution 0 = .ok (.aload_n 0, 1) := dk_42 (dk_at dksX5_keepsSolution_0 0 rfl rfl)
theorem dX5_keepsSolution_1 : decode cX5_keepsSolution 1 = .ok (.aload_n 0, 1) := dk_42 (dk_at dksX5_keepsSolution_0 1 rfl rfl)
theorem dX5_keepsSolution_2 : decode cX5_keepsSolution 2 = .ok (.getfield 177, 3) := dk_180 0 177 (dk_at dksX5_keepsSolution_0 2 rfl rfl)
theorem dX5_keepsSolution_5 : decode cX5_keepsSolution 5 = .ok (.putfield 418, 3) := dk_181 1 162 (dk_at dksX5_keepsSolution_0 5 rfl rfl)
theorem dX5_keepsSolution_8 : decode cX5_keepsSolution 8 = .ok (.iconst 0, 1) := dk_3 (dk_at dksX5_keepsSolution_0 8 rfl rfl)
theorem dX5_keepsSolution_9 : decode cX5_keepsSolution 9 = .ok (.istore_n 1, 1) := dk_60 (dk_at dksX5_keepsSolution_0 9 rfl rfl)
theorem dX5_keepsSolution_10 : decode cX5_keepsSolution 10 = .ok (.iload_n 1, 1) := dk_27 (dk_at dksX5_keepsSolution_0 10 rfl rfl)
theorem dX5_keepsSolution_11 : decode cX5_keepsSolution 11 = .ok (.aload_n 0, 1) := dk_42 (dk_at dksX5_keepsSolution_0 11 rfl rfl)
theorem dX5_keepsSolution_12 : decode cX5_keepsSolution 12 = .ok (.getfield 177, 3) := dk_180 0 177 (dk_at dksX5_keepsSolution_0 12 rfl rfl)
theorem dX5_keepsSolution_15 : decode cX5_keepsSolution 15 = .ok (.if_icmp .ge 21, 3) := dk_162 0 21 (dk_at dksX5_keepsSolution_0 15 rfl rfl)
theorem dX5_keepsSolution_18 : decode cX5_keepsSolution 18 = .ok (.aload_n 0, 1) := dk_42 (dk_at dksX5_keepsSolution_0 18 rfl rfl)
theorem dX5_keepsSolution_19 : decode cX5_keepsSolution 19 = .ok (.getfield 120, 3) := dk_180 0 120 (dk_at dksX5_keepsSolution_0 19 rfl rfl)
theorem dX5_keepsSolution_22 : decode cX5_keepsSolution 22 = .ok (.iload_n 1, 1) := dk_27 (dk_at dksX5_keepsSolution_0 22 rfl rfl)
theorem dX5_keepsSolution_23 : decode cX5_keepsSolution 23 = .ok (.aload_n 0, 1) := dk_42 (dk_at dksX5_keepsSolution_0 23 rfl rfl)
theorem dX5_keepsSolution_24 : decode cX5_keepsSolution 24 = .ok (.iload_n 1, 1) := dk_27 (dk_at dksX5_keepsSolution_1 0 rfl rfl)
theorem dX5_keepsSolution_25 : decode cX5_keepsSolution 25 = .ok (.iconst 0, 1) := dk_3 (dk_at dksX5_keepsSolution_1 1 rfl rfl)
theorem dX5_keepsSolution_26 : decode cX5_keepsSolution 26 = .ok (.invokevirtual 205, 3) := dk_182 0 205 (dk_at dksX5_keepsSolution_1 2 rfl rfl)
theorem dX5_keepsSolution_29 : decode cX5_keepsSolution 29 = .ok (.iastore, 1) := dk_79 (dk_at dksX5_keepsSolution_1 5 rfl rfl)
theorem dX5_keepsSolution_30 : decode cX5_keepsSolution 30 = .ok (.iinc 1 1, 3) := dk_132 1 1 (dk_at dksX5_keepsSolution_1 6 rfl rfl)
theorem dX5_keepsSolution_33 : decode cX5_keepsSolution 33 = .ok (.goto (-23), 3) := dk_167 255 233 (dk_at dksX5_keepsSolution_1 9 rfl rfl)
theorem dX5_keepsSolution_36 : decode cX5_keepsSolution 36 = .ok (.return_, 1) := dk_177 (dk_at dksX5_keepsSolution_1 12 rfl rfl)
def dkwX5_chosen_6 : List UInt8 := [167, 0, 5, 21, 4, 54, 4, 132, 5, 1, 167, 255, 181, 21, 4, 172]
abbrev dktX5_chosen_6 : List UInt8 := dkwX5_chosen_6 ++ []
def dkwX5_chosen_5 : List UInt8 := [167, 0, 4, 3, 54, 6, 29, 21, 5, 184, 0, 213, 153, 0, 13, 21, 6, 153, 0, 8, 21, 5]
abbrev dktX5_chosen_5 : List UInt8 := dkwX5_chosen_5 ++ dktX5_chosen_6
def dkwX5_chosen_4 : List UInt8 := [180, 0, 90, 21, 5, 46, 184, 0, 227, 42, 180, 0, 90, 21, 4, 46, 184, 0, 227, 162, 0, 7, 4]
abbrev dktX5_chosen_4 : List UInt8 := dkwX5_chosen_4 ++ dktX5_chosen_5
def dkwX5_chosen_3 : List UInt8 := [54, 5, 21, 5, 42, 180, 0, 177, 162, 0, 72, 21, 4, 155, 0, 31, 28, 4, 160, 0, 30, 42]
abbrev dktX5_chosen_3 : List UInt8 := dkwX5_chosen_3 ++ dktX5_chosen_4
def dkwX5_chosen_2 : List UInt8 := [132, 4, 1, 167, 255, 213, 29, 27, 126, 153, 0, 9, 29, 27, 126, 167, 0, 4, 29, 62, 2, 54, 4, 3]
abbrev dktX5_chosen_2 : List UInt8 := dkwX5_chosen_2 ++ dktX5_chosen_3
def dkwX5_chosen_1 : List UInt8 := [159, 0, 19, 42, 21, 4, 182, 1, 83, 154, 0, 10, 4, 21, 4, 120, 167, 0, 4, 3, 128, 62]
abbrev dktX5_chosen_1 : List UInt8 := dkwX5_chosen_1 ++ dktX5_chosen_2
def dkwX5_chosen_0 : List UInt8 := [3, 62, 3, 54, 4, 21, 4, 42, 180, 0, 177, 162, 0, 40, 29, 42, 180, 0, 7, 21, 4, 46, 6]
abbrev dktX5_chosen_0 : List UInt8 := dkwX5_chosen_0 ++ dktX5_chosen_1
theorem dksX5_chosen_0 : cX5_chosen.data.toList.drop 0 = dktX5_chosen_0 := by decide +kernel
theorem dksX5_chosen_1 : cX5_chosen.data.toList.drop 23 = dktX5_chosen_1 := dk_seg dksX5_chosen_0 23 rfl rfl
theorem dksX5_chosen_2 : cX5_chosen.data.toList.drop 45 = dktX5_chosen_2 := dk_seg dksX5_chosen_1 22 rfl rfl
theorem dksX5_chosen_3 : cX5_chosen.data.toList.drop 69 = dktX5_chosen_3 := dk_seg dksX5_chosen_2 24 rfl rfl
theorem dksX5_chosen_4 : cX5_chosen.data.toList.drop 91 = dktX5_chosen_4 := dk_seg dksX5_chosen_3 22 rfl rfl
theorem dksX5_chosen_5 : cX5_chosen.data.toList.drop 114 = dktX5_chosen_5 := dk_seg dksX5_chosen_4 23 rfl rfl
theorem dksX5_chosen_6 : cX5_chosen.data.toList.drop 136 = dktX5_chosen_6 := dk_seg dksX5_chosen_5 22 rfl rfl
theorem dX5_chosen_0 : decode cX5_chosen 0 = .ok (.iconst 0, 1) := dk_3 (dk_at dksX5_chosen_0 0 rfl rfl)
theorem dX5_chosen_1 : decode cX5_chosen 1 = .ok (.istore_n 3, 1) := dk_62 (dk_at dksX5_chosen_0 1 rfl rfl)
theorem dX5_chosen_2 : decode cX5_chosen 2 = .ok (.iconst 0, 1) := dk_3 (dk_at dksX5_chosen_0 2 rfl rfl)
theorem dX5_chosen_3 : decode cX5_chosen 3 = .ok (.istore 4, 2) := dk_54 4 (dk_at dksX5_chosen_0 3 rfl rfl)
theorem dX5_chosen_5 : decode cX5_chosen 5 = .ok (.iload 4, 2) := dk_21 4 (dk_at dksX5_chosen_0 5 rfl rfl)
theorem dX5_chosen_7 : decode cX5_chosen 7 = .ok (.aload_n 0, 1) := dk_42 (dk_at dksX5_chosen_0 7 rfl rfl)
theorem dX5_chosen_8 : decode cX5_chosen 8 = .ok (.getfield 177, 3) := dk_180 0 177 (dk_at dksX5_chosen_0 8 rfl rfl)
theorem dX5_chosen_11 : decode cX5_chosen 11 = .ok (.if_icmp .ge 40, 3) := dk_162 0 40 (dk_at dksX5_chosen_0 11 rfl rfl)
theorem dX5_chosen_14 : decode cX5_chosen 14 = .ok (.iload_n 3, 1) := dk_29 (dk_at dksX5_chosen_0 14 rfl rfl)
theorem dX5_chosen_15 : decode cX5_chosen 15 = .ok (.aload_n 0, 1) := dk_42 (dk_at dksX5_chosen_0 15 rfl rfl)
theorem dX5_chosen_16 : decode cX5_chosen 16 = .ok (.getfield 7, 3) := dk_180 0 7 (dk_at dksX5_chosen_0 16 rfl rfl)
theorem dX5_chosen_19 : decode cX5_chosen 19 = .ok (.iload 4, 2) := dk_21 4 (dk_at dksX5_chosen_0 19 rfl rfl)
theorem dX5_chosen_21 : decode cX5_chosen 21 = .ok (.iaload, 1) := dk_46 (dk_at dksX5_chosen_0 21 rfl rfl)
theorem dX5_chosen_22 : decode cX5_chosen 22 = .ok (.iconst 3, 1) := dk_6 (dk_at dksX5_chosen_0 22 rfl rfl)
theorem dX5_chosen_23 : decode cX5_chosen 23 = .ok (.if_icmp .eq 19, 3) := dk_159 0 19 (dk_at dksX5_chosen_1 0 rfl rfl)
theorem dX5_chosen_26 : decode cX5_chosen 26 = .ok (.aload_n 0, 1) := dk_42 (dk_at dksX5_chosen_1 3 rfl rfl)
theorem dX5_chosen_27 : decode cX5_chosen 27 = .ok (.iload 4, 2) := dk_21 4 (dk_at dksX5_chosen_1 4 rfl rfl)
theorem dX5_chosen_29 : decode cX5_chosen 29 = .ok (.invokevirtual 339, 3) := dk_182 1 83 (dk_at dksX5_chosen_1 6 rfl rfl)
theorem dX5_chosen_32 : decode cX5_chosen 32 = .ok (.ifCond .ne 10, 3) := dk_154 0 10 (dk_at dksX5_chosen_1 9 rfl rfl)
theorem dX5_chosen_35 : decode cX5_chosen 35 = .ok (.iconst 1, 1) := dk_4 (dk_at dksX5_chosen_1 12 rfl rfl)
theorem dX5_chosen_36 : decode cX5_chosen 36 = .ok (.iload 4, 2) := dk_21 4 (dk_at dksX5_chosen_1 13 rfl rfl)
theorem dX5_chosen_38 : decode cX5_chosen 38 = .ok (.ishl, 1) := dk_120 (dk_at dksX5_chosen_1 15 rfl rfl)
theorem dX5_chosen_39 : decode cX5_chosen 39 = .ok (.goto 4, 3) := dk_167 0 4 (dk_at dksX5_chosen_1 16 rfl rfl)
theorem dX5_chosen_42 : decode cX5_chosen 42 = .ok (.iconst 0, 1) := dk_3 (dk_at dksX5_chosen_1 19 rfl rfl)
theorem dX5_chosen_43 : decode cX5_chosen 43 = .ok (.ior, 1) := dk_128 (dk_at dksX5_chosen_1 20 rfl rfl)
theorem dX5_chosen_44 : decode cX5_chosen 44 = .ok (.istore_n 3, 1) := dk_62 (dk_at dksX5_chosen_1 21 rfl rfl)
theorem dX5_chosen_45 : decode cX5_chosen 45 = .ok (.iinc 4 1, 3) := dk_132 4 1 (dk_at dksX5_chosen_2 0 rfl rfl)
theorem dX5_chosen_48 : decode cX5_chosen 48 = .ok (.goto (-43), 3) := dk_167 255 213 (dk_at dksX5_chosen_2 3 rfl rfl)
theorem dX5_chosen_51 : decode cX5_chosen 51 = .ok (.iload_n 3, 1) := dk_29 (dk_at dksX5_chosen_2 6 rfl rfl)
theorem dX5_chosen_52 : decode cX5_chosen 52 = .ok (.iload_n 1, 1) := dk_27 (dk_at dksX5_chosen_2 7 rfl rfl)
theorem dX5_chosen_53 : decode cX5_chosen 53 = .ok (.iand, 1) := dk_126 (dk_at dksX5_chosen_2 8 rfl rfl)
theorem dX5_chosen_54 : decode cX5_chosen 54 = .ok (.ifCond .eq 9, 3) := dk_153 0 9 (dk_at dksX5_chosen_2 9 rfl rfl)
theorem dX5_chosen_57 : decode cX5_chosen 57 = .ok (.iload_n 3, 1) := dk_29 (dk_at dksX5_chosen_2 12 rfl rfl)
theorem dX5_chosen_58 : decode cX5_chosen 58 = .ok (.iload_n 1, 1) := dk_27 (dk_at dksX5_chosen_2 13 rfl rfl)
theorem dX5_chosen_59 : decode cX5_chosen 59 = .ok (.iand, 1) := dk_126 (dk_at dksX5_chosen_2 14 rfl rfl)
theorem dX5_chosen_60 : decode cX5_chosen 60 = .ok (.goto 4, 3) := dk_167 0 4 (dk_at dksX5_chosen_2 15 rfl rfl)
theorem dX5_chosen_63 : decode cX5_chosen 63 = .ok (.iload_n 3, 1) := dk_29 (dk_at dksX5_chosen_2 18 rfl rfl)
theorem dX5_chosen_64 : decode cX5_chosen 64 = .ok (.istore_n 3, 1) := dk_62 (dk_at dksX5_chosen_2 19 rfl rfl)
theorem dX5_chosen_65 : decode cX5_chosen 65 = .ok (.iconst (-1), 1) := dk_2 (dk_at dksX5_chosen_2 20 rfl rfl)
theorem dX5_chosen_66 : decode cX5_chosen 66 = .ok (.istore 4, 2) := dk_54 4 (dk_at dksX5_chosen_2 21 rfl rfl)
theorem dX5_chosen_68 : decode cX5_chosen 68 = .ok (.iconst 0, 1) := dk_3 (dk_at dksX5_chosen_2 23 rfl rfl)
theorem dX5_chosen_69 : decode cX5_chosen 69 = .ok (.istore 5, 2) := dk_54 5 (dk_at dksX5_chosen_3 0 rfl rfl)
theorem dX5_chosen_71 : decode cX5_chosen 71 = .ok (.iload 5, 2) := dk_21 5 (dk_at dksX5_chosen_3 2 rfl rfl)
theorem dX5_chosen_73 : decode cX5_chosen 73 = .ok (.aload_n 0, 1) := dk_42 (dk_at dksX5_chosen_3 4 rfl rfl)
theorem dX5_chosen_74 : decode cX5_chosen 74 = .ok (.getfield 177, 3) := dk_180 0 177 (dk_at dksX5_chosen_3 5 rfl rfl)
theorem dX5_chosen_77 : decode cX5_chosen 77 = .ok (.if_icmp .ge 72, 3) := dk_162 0 72 (dk_at dksX5_chosen_3 8 rfl rfl)
theorem dX5_chosen_80 : decode cX5_chosen 80 = .ok (.iload 4, 2) := dk_21 4 (dk_at dksX5_chosen_3 11 rfl rfl)
theorem dX5_chosen_82 : decode cX5_chosen 82 = .ok (.ifCond .lt 31, 3) := dk_155 0 31 (dk_at dksX5_chosen_3 13 rfl rfl)
theorem dX5_chosen_85 : decode cX5_chosen 85 = .ok (.iload_n 2, 1) := dk_28 (dk_at dksX5_chosen_3 16 rfl rfl)
theorem dX5_chosen_86 : decode cX5_chosen 86 = .ok (.iconst 1, 1) := dk_4 (dk_at dksX5_chosen_3 17 rfl rfl)
theorem dX5_chosen_87 : decode cX5_chosen 87 = .ok (.if_icmp .ne 30, 3) := dk_160 0 30 (dk_at dksX5_chosen_3 18 rfl rfl)
theorem dX5_chosen_90 : decode cX5_chosen 90 = .ok (.aload_n 0, 1) := dk_42 (dk_at dksX5_chosen_3 21 rfl rfl)
theorem dX5_chosen_91 : decode cX5_chosen 91 = .ok (.getfield 90, 3) := dk_180 0 90 (dk_at dksX5_chosen_4 0 rfl rfl)
theorem dX5_chosen_94 : decode cX5_chosen 94 = .ok (.iload 5, 2) := dk_21 5 (dk_at dksX5_chosen_4 3 rfl rfl)
theorem dX5_chosen_96 : decode cX5_chosen 96 = .ok (.iaload, 1) := dk_46 (dk_at dksX5_chosen_4 5 rfl rfl)
theorem dX5_chosen_97 : decode cX5_chosen 97 = .ok (.invokestatic 227, 3) := dk_184 0 227 (dk_at dksX5_chosen_4 6 rfl rfl)
theorem dX5_chosen_100 : decode cX5_chosen 100 = .ok (.aload_n 0, 1) := dk_42 (dk_at dksX5_chosen_4 9 rfl rfl)
theorem dX5_chosen_101 : decode cX5_chosen 101 = .ok (.getfield 90, 3) := dk_180 0 90 (dk_at dksX5_chosen_4 10 rfl rfl)
theorem dX5_chosen_104 : decode cX5_chosen 104 = .ok (.iload 4, 2) := dk_21 4 (dk_at dksX5_chosen_4 13 rfl rfl)
theorem dX5_chosen_106 : decode cX5_chosen 106 = .ok (.iaload, 1) := dk_46 (dk_at dksX5_chosen_4 15 rfl rfl)
theorem dX5_chosen_107 : decode cX5_chosen 107 = .ok (.invokestatic 227, 3) := dk_184 0 227 (dk_at dksX5_chosen_4 16 rfl rfl)
theorem dX5_chosen_110 : decode cX5_chosen 110 = .ok (.if_icmp .ge 7, 3) := dk_162 0 7 (dk_at dksX5_chosen_4 19 rfl rfl)
theorem dX5_chosen_113 : decode cX5_chosen 113 = .ok (.iconst 1, 1) := dk_4 (dk_at dksX5_chosen_4 22 rfl rfl)
theorem dX5_chosen_114 : decode cX5_chosen 114 = .ok (.goto 4, 3) := dk_167 0 4 (dk_at dksX5_chosen_5 0 rfl rfl)
theorem dX5_chosen_117 : decode cX5_chosen 117 = .ok (.iconst 0, 1) := dk_3 (dk_at dksX5_chosen_5 3 rfl rfl)
theorem dX5_chosen_118 : decode cX5_chosen 118 = .ok (.istore 6, 2) := dk_54 6 (dk_at dksX5_chosen_5 4 rfl rfl)
theorem dX5_chosen_120 : decode cX5_chosen 120 = .ok (.iload_n 3, 1) := dk_29 (dk_at dksX5_chosen_5 6 rfl rfl)
theorem dX5_chosen_121 : decode cX5_chosen 121 = .ok (.iload 5, 2) := dk_21 5 (dk_at dksX5_chosen_5 7 rfl rfl)
theorem dX5_chosen_123 : decode cX5_chosen 123 = .ok (.invokestatic 213, 3) := dk_184 0 213 (dk_at dksX5_chosen_5 9 rfl rfl)
theorem dX5_chosen_126 : decode cX5_chosen 126 = .ok (.ifCond .eq 13, 3) := dk_153 0 13 (dk_at dksX5_chosen_5 12 rfl rfl)
theorem dX5_chosen_129 : decode cX5_chosen 129 = .ok (.iload 6, 2) := dk_21 6 (dk_at dksX5_chosen_5 15 rfl rfl)
theorem dX5_chosen_131 : decode cX5_chosen 131 = .ok (.ifCond .eq 8, 3) := dk_153 0 8 (dk_at dksX5_chosen_5 17 rfl rfl)
theorem dX5_chosen_134 : decode cX5_chosen 134 = .ok (.iload 5, 2) := dk_21 5 (dk_at dksX5_chosen_5 20 rfl rfl)
theorem dX5_chosen_136 : decode cX5_chosen 136 = .ok (.goto 5, 3) := dk_167 0 5 (dk_at dksX5_chosen_6 0 rfl rfl)
theorem dX5_chosen_139 : decode cX5_chosen 139 = .ok (.iload 4, 2) := dk_21 4 (dk_at dksX5_chosen_6 3 rfl rfl)
theorem dX5_chosen_141 : decode cX5_chosen 141 = .ok (.istore 4, 2) := dk_54 4 (dk_at dksX5_chosen_6 5 rfl rfl)
theorem dX5_chosen_143 : decode cX5_chosen 143 = .ok (.iinc 5 1, 3) := dk_132 5 1 (dk_at dksX5_chosen_6 7 rfl rfl)
theorem dX5_chosen_146 : decode cX5_chosen 146 = .ok (.goto (-75), 3) := dk_167 255 181 (dk_at dksX5_chosen_6 10 rfl rfl)
theorem dX5_chosen_149 : decode cX5_chosen 149 = .ok (.iload 4, 2) := dk_21 4 (dk_at dksX5_chosen_6 13 rfl rfl)
theorem dX5_chosen_151 : decode cX5_chosen 151 = .ok (.ireturn, 1) := dk_172 (dk_at dksX5_chosen_6 15 rfl rfl)
def dkwX5_valueBy_2 : List UInt8 := [42, 180, 0, 90, 27, 46, 184, 0, 196, 167, 0, 12, 42, 180, 0, 90, 27, 46, 184, 0, 199, 172]
abbrev dktX5_valueBy_2 : List UInt8 := dkwX5_valueBy_2 ++ []
def dkwX5_valueBy_1 : List UInt8 := [27, 46, 4, 100, 184, 0, 213, 153, 0, 12, 42, 180, 0, 114, 27, 46, 4, 100, 172, 28, 4, 160, 0, 15]
abbrev dktX5_valueBy_1 : List UInt8 := dkwX5_valueBy_1 ++ dktX5_valueBy_2
def dkwX5_valueBy_0 : List UInt8 := [28, 5, 160, 0, 41, 42, 180, 0, 114, 27, 46, 158, 0, 32, 42, 180, 0, 90, 27, 46, 42, 180, 0, 114]
abbrev dktX5_valueBy_0 : List UInt8 := dkwX5_valueBy_0 ++ dktX5_valueBy_1
theorem dksX5_valueBy_0 : cX5_valueBy.data.toList.drop 0 = dktX5_valueBy_0 := by decide +kernel
theorem dksX5_valueBy_1 : cX5_valueBy.data.toList.drop 24 = dktX5_valueBy_1 := dk_seg dksX5_valueBy_0 24 rfl rfl
theorem dksX5_valueBy_2 : cX5_valueBy.data.toList.drop 48 = dktX5_valueBy_2 := dk_seg dksX5_valueBy_1 24 rfl rfl
theorem dX5_valueBy_0 : decode cX5_valueBy 0 = .ok (.iload_n 2, 1) := dk_28 (dk_at dksX5_valueBy_0 0 rfl rfl)
theorem dX5_valueBy_1 : decode cX5_valueBy 1 = .ok (.iconst 2, 1) := dk_5 (dk_at dksX5_valueBy_0 1 rfl rfl)
theorem dX5_valueBy_2 : decode cX5_valueBy 2 = .ok (.if_icmp .ne 41, 3) := dk_160 0 41 (dk_at dksX5_valueBy_0 2 rfl rfl)
theorem dX5_valueBy_5 : decode cX5_valueBy 5 = .ok (.aload_n 0, 1) := dk_42 (dk_at dksX5_valueBy_0 5 rfl rfl)
theorem dX5_valueBy_6 : decode cX5_valueBy 6 = .ok (.getfield 114, 3) := dk_180 0 114 (dk_at dksX5_valueBy_0 6 rfl rfl)
theorem dX5_valueBy_9 : decode cX5_valueBy 9 = .ok (.iload_n 1, 1) := dk_27 (dk_at dksX5_valueBy_0 9 rfl rfl)
theorem dX5_valueBy_10 : decode cX5_valueBy 10 = .ok (.iaload, 1) := dk_46 (dk_at dksX5_valueBy_0 10 rfl rfl)
theorem dX5_valueBy_11 : decode cX5_valueBy 11 = .ok (.ifCond .le 32, 3) := dk_158 0 32 (dk_at dksX5_valueBy_0 11 rfl rfl)
theorem dX5_valueBy_14 : decode cX5_valueBy 14 = .ok (.aload_n 0, 1) := dk_42 (dk_at dksX5_valueBy_0 14 rfl rfl)
theorem dX5_valueBy_15 : decode cX5_valueBy 15 = .ok (.getfield 90, 3) := dk_180 0 90 (dk_at dksX5_valueBy_0 15 rfl rfl)
theorem dX5_valueBy_18 : decode cX5_valueBy 18 = .ok (.iload_n 1, 1) := dk_27 (dk_at dksX5_valueBy_0 18 rfl rfl)
theorem dX5_valueBy_19 : decode cX5_valueBy 19 = .ok (.iaload, 1) := dk_46 (dk_at dksX5_valueBy_0 19 rfl rfl)
theorem dX5_valueBy_20 : decode cX5_valueBy 20 = .ok (.aload_n 0, 1) := dk_42 (dk_at dksX5_valueBy_0 20 rfl rfl)
theorem dX5_valueBy_21 : decode cX5_valueBy 21 = .ok (.getfield 114, 3) := dk_180 0 114 (dk_at dksX5_valueBy_0 21 rfl rfl)
theorem dX5_valueBy_24 : decode cX5_valueBy 24 = .ok (.iload_n 1, 1) := dk_27 (dk_at dksX5_valueBy_1 0 rfl rfl)
theorem dX5_valueBy_25 : decode cX5_valueBy 25 = .ok (.iaload, 1) := dk_46 (dk_at dksX5_valueBy_1 1 rfl rfl)
theorem dX5_valueBy_26 : decode cX5_valueBy 26 = .ok (.iconst 1, 1) := dk_4 (dk_at dksX5_valueBy_1 2 rfl rfl)
theorem dX5_valueBy_27 : decode cX5_valueBy 27 = .ok (.isub, 1) := dk_100 (dk_at dksX5_valueBy_1 3 rfl rfl)
theorem dX5_valueBy_28 : decode cX5_valueBy 28 = .ok (.invokestatic 213, 3) := dk_184 0 213 (dk_at dksX5_valueBy_1 4 rfl rfl)
theorem dX5_valueBy_31 : decode cX5_valueBy 31 = .ok (.ifCond .eq 12, 3) := dk_153 0 12 (dk_at dksX5_valueBy_1 7 rfl rfl)
theorem dX5_valueBy_34 : decode cX5_valueBy 34 = .ok (.aload_n 0, 1) := dk_42 (dk_at dksX5_valueBy_1 10 rfl rfl)
theorem dX5_valueBy_35 : decode cX5_valueBy 35 = .ok (.getfield 114, 3) := dk_180 0 114 (dk_at dksX5_valueBy_1 11 rfl rfl)
theorem dX5_valueBy_38 : decode cX5_valueBy 38 = .ok (.iload_n 1, 1) := dk_27 (dk_at dksX5_valueBy_1 14 rfl rfl)
theorem dX5_valueBy_39 : decode cX5_valueBy 39 = .ok (.iaload, 1) := dk_46 (dk_at dksX5_valueBy_1 15 rfl rfl)
theorem dX5_valueBy_40 : decode cX5_valueBy 40 = .ok (.iconst 1, 1) := dk_4 (dk_at dksX5_valueBy_1 16 rfl rfl)
theorem dX5_valueBy_41 : decode cX5_valueBy 41 = .ok (.isub, 1) := dk_100 (dk_at dksX5_valueBy_1 17 rfl rfl)
theorem dX5_valueBy_42 : decode cX5_valueBy 42 = .ok (.ireturn, 1) := dk_172 (dk_at dksX5_valueBy_1 18 rfl rfl)
theorem dX5_valueBy_43 : decode cX5_valueBy 43 = .ok (.iload_n 2, 1) := dk_28 (dk_at dksX5_valueBy_1 19 rfl rfl)
theorem dX5_valueBy_44 : decode cX5_valueBy 44 = .ok (.iconst 1, 1) := dk_4 (dk_at dksX5_valueBy_1 20 rfl rfl)
theorem dX5_valueBy_45 : decode cX5_valueBy 45 = .ok (.if_icmp .ne 15, 3) := dk_160 0 15 (dk_at dksX5_valueBy_1 21 rfl rfl)
theorem dX5_valueBy_48 : decode cX5_valueBy 48 = .ok (.aload_n 0, 1) := dk_42 (dk_at dksX5_valueBy_2 0 rfl rfl)
theorem dX5_valueBy_49 : decode cX5_valueBy 49 = .ok (.getfield 90, 3) := dk_180 0 90 (dk_at dksX5_valueBy_2 1 rfl rfl)
theorem dX5_valueBy_52 : decode cX5_valueBy 52 = .ok (.iload_n 1, 1) := dk_27 (dk_at dksX5_valueBy_2 4 rfl rfl)
theorem dX5_valueBy_53 : decode cX5_valueBy 53 = .ok (.iaload, 1) := dk_46 (dk_at dksX5_valueBy_2 5 rfl rfl)
theorem dX5_valueBy_54 : decode cX5_valueBy 54 = .ok (.invokestatic 196, 3) := dk_184 0 196 (dk_at dksX5_valueBy_2 6 rfl rfl)
theorem dX5_valueBy_57 : decode cX5_valueBy 57 = .ok (.goto 12, 3) := dk_167 0 12 (dk_at dksX5_valueBy_2 9 rfl rfl)
theorem dX5_valueBy_60 : decode cX5_valueBy 60 = .ok (.aload_n 0, 1) := dk_42 (dk_at dksX5_valueBy_2 12 rfl rfl)
theorem dX5_valueBy_61 : decode cX5_valueBy 61 = .ok (.getfield 90, 3) := dk_180 0 90 (dk_at dksX5_valueBy_2 13 rfl rfl)
theorem dX5_valueBy_64 : decode cX5_valueBy 64 = .ok (.iload_n 1, 1) := dk_27 (dk_at dksX5_valueBy_2 16 rfl rfl)
theorem dX5_valueBy_65 : decode cX5_valueBy 65 = .ok (.iaload, 1) := dk_46 (dk_at dksX5_valueBy_2 17 rfl rfl)
theorem dX5_valueBy_66 : decode cX5_valueBy 66 = .ok (.invokestatic 199, 3) := dk_184 0 199 (dk_at dksX5_valueBy_2 18 rfl rfl)
theorem dX5_valueBy_69 : decode cX5_valueBy 69 = .ok (.ireturn, 1) := dk_172 (dk_at dksX5_valueBy_2 21 rfl rfl)
def dkwX5_goesDown_1 : List UInt8 := [42, 180, 1, 159, 4, 84, 42, 89, 180, 1, 159, 4, 96, 181, 1, 159, 177]
abbrev dktX5_goesDown_1 : List UInt8 := dkwX5_goesDown_1 ++ []
def dkwX5_goesDown_0 : List UInt8 := [42, 180, 0, 123, 42, 180, 1, 159, 27, 79, 42, 180, 0, 126, 42, 180, 1, 159, 28, 79, 42, 180, 0, 129]
abbrev dktX5_goesDown_0 : List UInt8 := dkwX5_goesDown_0 ++ dktX5_goesDown_1
theorem dksX5_goesDown_0 : cX5_goesDown.data.toList.drop 0 = dktX5_goesDown_0 := by decide +kernel
theorem dksX5_goesDown_1 : cX5_goesDown.data.toList.drop 24 = dktX5_goesDown_1 := dk_seg dksX5_goesDown_0 24 rfl rfl
theorem dX5_goesDown_0 : decode cX5_goesDown 0 = .ok (.aload_n 0, 1) := dk_42 (dk_at dksX5_goesDown_0 0 rfl rfl)
theorem dX5_goesDown_1 : decode cX5_goesDown 1 = .ok (.getfield 123, 3) := dk_180 0 123 (dk_at dksX5_goesDown_0 1 rfl rfl)
theorem dX5_goesDown_4 : decode cX5_goesDown 4 = .ok (.aload_n 0, 1) := dk_42 (dk_at dksX5_goesDown_0 4 rfl rfl)
theorem dX5_goesDown_5 : decode cX5_goesDown 5 = .ok (.getfield 415, 3) := dk_180 1 159 (dk_at dksX5_goesDown_0 5 rfl rfl)
theorem dX5_goesDown_8 : decode cX5_goesDown 8 = .ok (.iload_n 1, 1) := dk_27 (dk_at dksX5_goesDown_0 8 rfl rfl)
theorem dX5_goesDown_9 : decode cX5_goesDown 9 = .ok (.iastore, 1) := dk_79 (dk_at dksX5_goesDown_0 9 rfl rfl)
theorem dX5_goesDown_10 : decode cX5_goesDown 10 = .ok (.aload_n 0, 1) := dk_42 (dk_at dksX5_goesDown_0 10 rfl rfl)
theorem dX5_goesDown_11 : decode cX5_goesDown 11 = .ok (.getfield 126, 3) := dk_180 0 126 (dk_at dksX5_goesDown_0 11 rfl rfl)
theorem dX5_goesDown_14 : decode cX5_goesDown 14 = .ok (.aload_n 0, 1) := dk_42 (dk_at dksX5_goesDown_0 14 rfl rfl)
theorem dX5_goesDown_15 : decode cX5_goesDown 15 = .ok (.getfield 415, 3) := dk_180 1 159 (dk_at dksX5_goesDown_0 15 rfl rfl)
theorem dX5_goesDown_18 : decode cX5_goesDown 18 = .ok (.iload_n 2, 1) := dk_28 (dk_at dksX5_goesDown_0 18 rfl rfl)
theorem dX5_goesDown_19 : decode cX5_goesDown 19 = .ok (.iastore, 1) := dk_79 (dk_at dksX5_goesDown_0 19 rfl rfl)
theorem dX5_goesDown_20 : decode cX5_goesDown 20 = .ok (.aload_n 0, 1) := dk_42 (dk_at dksX5_goesDown_0 20 rfl rfl)
theorem dX5_goesDown_21 : decode cX5_goesDown 21 = .ok (.getfield 129, 3) := dk_180 0 129 (dk_at dksX5_goesDown_0 21 rfl rfl)
theorem dX5_goesDown_24 : decode cX5_goesDown 24 = .ok (.aload_n 0, 1) := dk_42 (dk_at dksX5_goesDown_1 0 rfl rfl)
theorem dX5_goesDown_25 : decode cX5_goesDown 25 = .ok (.getfield 415, 3) := dk_180 1 159 (dk_at dksX5_goesDown_1 1 rfl rfl)
theorem dX5_goesDown_28 : decode cX5_goesDown 28 = .ok (.iconst 1, 1) := dk_4 (dk_at dksX5_goesDown_1 4 rfl rfl)
theorem dX5_goesDown_29 : decode cX5_goesDown 29 = .ok (.bastore, 1) := dk_84 (dk_at dksX5_goesDown_1 5 rfl rfl)
theorem dX5_goesDown_30 : decode cX5_goesDown 30 = .ok (.aload_n 0, 1) := dk_42 (dk_at dksX5_goesDown_1 6 rfl rfl)
theorem dX5_goesDown_31 : decode cX5_goesDown 31 = .ok (.dup, 1) := dk_89 (dk_at dksX5_goesDown_1 7 rfl rfl)
theorem dX5_goesDown_32 : decode cX5_goesDown 32 = .ok (.getfield 415, 3) := dk_180 1 159 (dk_at dksX5_goesDown_1 8 rfl rfl)
theorem dX5_goesDown_35 : decode cX5_goesDown 35 = .ok (.iconst 1, 1) := dk_4 (dk_at dksX5_goesDown_1 11 rfl rfl)
theorem dX5_goesDown_36 : decode cX5_goesDown 36 = .ok (.iadd, 1) := dk_96 (dk_at dksX5_goesDown_1 12 rfl rfl)
theorem dX5_goesDown_37 : decode cX5_goesDown 37 = .ok (.putfield 415, 3) := dk_181 1 159 (dk_at dksX5_goesDown_1 13 rfl rfl)
theorem dX5_goesDown_40 : decode cX5_goesDown 40 = .ok (.return_, 1) := dk_177 (dk_at dksX5_goesDown_1 16 rfl rfl)
def dkwX5_nodes_0 : List UInt8 := [42, 3, 181, 0, 174, 42, 180, 1, 165, 172]
abbrev dktX5_nodes_0 : List UInt8 := dkwX5_nodes_0 ++ []
theorem dksX5_nodes_0 : cX5_nodes.data.toList.drop 0 = dktX5_nodes_0 := by decide +kernel
theorem dX5_nodes_0 : decode cX5_nodes 0 = .ok (.aload_n 0, 1) := dk_42 (dk_at dksX5_nodes_0 0 rfl rfl)
theorem dX5_nodes_1 : decode cX5_nodes 1 = .ok (.iconst 0, 1) := dk_3 (dk_at dksX5_nodes_0 1 rfl rfl)
theorem dX5_nodes_2 : decode cX5_nodes 2 = .ok (.putfield 174, 3) := dk_181 0 174 (dk_at dksX5_nodes_0 2 rfl rfl)
theorem dX5_nodes_5 : decode cX5_nodes 5 = .ok (.aload_n 0, 1) := dk_42 (dk_at dksX5_nodes_0 5 rfl rfl)
theorem dX5_nodes_6 : decode cX5_nodes 6 = .ok (.getfield 421, 3) := dk_180 1 165 (dk_at dksX5_nodes_0 6 rfl rfl)
theorem dX5_nodes_9 : decode cX5_nodes 9 = .ok (.ireturn, 1) := dk_172 (dk_at dksX5_nodes_0 9 rfl rfl)
def dkwX5_failures_0 : List UInt8 := [42, 3, 181, 0, 174, 42, 180, 1, 168, 172]
abbrev dktX5_failures_0 : List UInt8 := dkwX5_failures_0 ++ []
theorem dksX5_failures_0 : cX5_failures.data.toList.drop 0 = dktX5_failures_0 := by decide +kernel
theorem dX5_failures_0 : decode cX5_failures 0 = .ok (.aload_n 0, 1) := dk_42 (dk_at dksX5_failures_0 0 rfl rfl)
theorem dX5_failures_1 : decode cX5_failures 1 = .ok (.iconst 0, 1) := dk_3 (dk_at dksX5_failures_0 1 rfl rfl)
theorem dX5_failures_2 : decode cX5_failures 2 = .ok (.putfield 174, 3) := dk_181 0 174 (dk_at dksX5_failures_0 2 rfl rfl)
theorem dX5_failures_5 : decode cX5_failures 5 = .ok (.aload_n 0, 1) := dk_42 (dk_at dksX5_failures_0 5 rfl rfl)
theorem dX5_failures_6 : decode cX5_failures 6 = .ok (.getfield 424, 3) := dk_180 1 168 (dk_at dksX5_failures_0 6 rfl rfl)
theorem dX5_failures_9 : decode cX5_failures 9 = .ok (.ireturn, 1) := dk_172 (dk_at dksX5_failures_0 9 rfl rfl)
def dkwX5_solution_2 : List UInt8 := [167, 0, 9, 42, 180, 0, 120, 27, 46, 172]
abbrev dktX5_solution_2 : List UInt8 := dkwX5_solution_2 ++ []
def dkwX5_solution_1 : List UInt8 := [180, 1, 162, 161, 0, 7, 5, 167, 0, 4, 3, 181, 0, 174, 42, 180, 0, 174, 158, 0, 7, 3]
abbrev dktX5_solution_1 : List UInt8 := dkwX5_solution_1 ++ dktX5_solution_2
def dkwX5_solution_0 : List UInt8 := [42, 42, 27, 182, 1, 93, 154, 0, 7, 4, 167, 0, 23, 42, 180, 0, 117, 154, 0, 11, 27, 42]
abbrev dktX5_solution_0 : List UInt8 := dkwX5_solution_0 ++ dktX5_solution_1
theorem dksX5_solution_0 : cX5_solution.data.toList.drop 0 = dktX5_solution_0 := by decide +kernel
theorem dksX5_solution_1 : cX5_solution.data.toList.drop 22 = dktX5_solution_1 := dk_seg dksX5_solution_0 22 rfl rfl
theorem dksX5_solution_2 : cX5_solution.data.toList.drop 44 = dktX5_solution_2 := dk_seg dksX5_solution_1 22 rfl rfl
theorem dX5_solution_0 : decode cX5_solution 0 = .ok (.aload_n 0, 1) := dk_42 (dk_at dksX5_solution_0 0 rfl rfl)
theorem dX5_solution_1 : decode cX5_solution 1 = .ok (.aload_n 0, 1) := dk_42 (dk_at dksX5_solution_0 1 rfl rfl)
theorem dX5_solution_2 : decode cX5_solution 2 = .ok (.iload_n 1, 1) := dk_27 (dk_at dksX5_solution_0 2 rfl rfl)
theorem dX5_solution_3 : decode cX5_solution 3 = .ok (.invokevirtual 349, 3) := dk_182 1 93 (dk_at dksX5_solution_0 3 rfl rfl)
theorem dX5_solution_6 : decode cX5_solution 6 = .ok (.ifCond .ne 7, 3) := dk_154 0 7 (dk_at dksX5_solution_0 6 rfl rfl)
theorem dX5_solution_9 : decode cX5_solution 9 = .ok (.iconst 1, 1) := dk_4 (dk_at dksX5_solution_0 9 rfl rfl)
theorem dX5_solution_10 : decode cX5_solution 10 = .ok (.goto 23, 3) := dk_167 0 23 (dk_at dksX5_solution_0 10 rfl rfl)
theorem dX5_solution_13 : decode cX5_solution 13 = .ok (.aload_n 0, 1) := dk_42 (dk_at dksX5_solution_0 13 rfl rfl)
theorem dX5_solution_14 : decode cX5_solution 14 = .ok (.getfield 117, 3) := dk_180 0 117 (dk_at dksX5_solution_0 14 rfl rfl)
theorem dX5_solution_17 : decode cX5_solution 17 = .ok (.ifCond .ne 11, 3) := dk_154 0 11 (dk_at dksX5_solution_0 17 rfl rfl)
theorem dX5_solution_20 : decode cX5_solution 20 = .ok (.iload_n 1, 1) := dk_27 (dk_at dksX5_solution_0 20 rfl rfl)
theorem dX5_solution_21 : decode cX5_solution 21 = .ok (.aload_n 0, 1) := dk_42 (dk_at dksX5_solution_0 21 rfl rfl)
theorem dX5_solution_22 : decode cX5_solution 22 = .ok (.getfield 418, 3) := dk_180 1 162 (dk_at dksX5_solution_1 0 rfl rfl)
theorem dX5_solution_25 : decode cX5_solution 25 = .ok (.if_icmp .lt 7, 3) := dk_161 0 7 (dk_at dksX5_solution_1 3 rfl rfl)
theorem dX5_solution_28 : decode cX5_solution 28 = .ok (.iconst 2, 1) := dk_5 (dk_at dksX5_solution_1 6 rfl rfl)
theorem dX5_solution_29 : decode cX5_solution 29 = .ok (.goto 4, 3) := dk_167 0 4 (dk_at dksX5_solution_1 7 rfl rfl)
theorem dX5_solution_32 : decode cX5_solution 32 = .ok (.iconst 0, 1) := dk_3 (dk_at dksX5_solution_1 10 rfl rfl)
theorem dX5_solution_33 : decode cX5_solution 33 = .ok (.putfield 174, 3) := dk_181 0 174 (dk_at dksX5_solution_1 11 rfl rfl)
theorem dX5_solution_36 : decode cX5_solution 36 = .ok (.aload_n 0, 1) := dk_42 (dk_at dksX5_solution_1 14 rfl rfl)
theorem dX5_solution_37 : decode cX5_solution 37 = .ok (.getfield 174, 3) := dk_180 0 174 (dk_at dksX5_solution_1 15 rfl rfl)
theorem dX5_solution_40 : decode cX5_solution 40 = .ok (.ifCond .le 7, 3) := dk_158 0 7 (dk_at dksX5_solution_1 18 rfl rfl)
theorem dX5_solution_43 : decode cX5_solution 43 = .ok (.iconst 0, 1) := dk_3 (dk_at dksX5_solution_1 21 rfl rfl)
theorem dX5_solution_44 : decode cX5_solution 44 = .ok (.goto 9, 3) := dk_167 0 9 (dk_at dksX5_solution_2 0 rfl rfl)
theorem dX5_solution_47 : decode cX5_solution 47 = .ok (.aload_n 0, 1) := dk_42 (dk_at dksX5_solution_2 3 rfl rfl)
theorem dX5_solution_48 : decode cX5_solution 48 = .ok (.getfield 120, 3) := dk_180 0 120 (dk_at dksX5_solution_2 4 rfl rfl)
theorem dX5_solution_51 : decode cX5_solution 51 = .ok (.iload_n 1, 1) := dk_27 (dk_at dksX5_solution_2 7 rfl rfl)
theorem dX5_solution_52 : decode cX5_solution 52 = .ok (.iaload, 1) := dk_46 (dk_at dksX5_solution_2 8 rfl rfl)
theorem dX5_solution_53 : decode cX5_solution 53 = .ok (.ireturn, 1) := dk_172 (dk_at dksX5_solution_2 9 rfl rfl)
def dkwX5_solutions_5 : List UInt8 := [181, 0, 174, 42, 180, 0, 174, 158, 0, 7, 3, 167, 0, 4, 27, 172]
abbrev dktX5_solutions_5 : List UInt8 := dkwX5_solutions_5 ++ []
def dkwX5_solutions_4 : List UInt8 := [46, 184, 0, 199, 182, 1, 189, 167, 255, 170, 42, 28, 17, 1, 144, 164, 0, 7, 4, 167, 0, 4, 3]
abbrev dktX5_solutions_4 : List UInt8 := dkwX5_solutions_4 ++ dktX5_solutions_5
def dkwX5_solutions_3 : List UInt8 := [182, 1, 174, 62, 167, 255, 197, 42, 3, 3, 182, 1, 183, 54, 4, 42, 21, 4, 42, 180, 0, 90, 21, 4]
abbrev dktX5_solutions_3 : List UInt8 := dkwX5_solutions_3 ++ dktX5_solutions_4
def dkwX5_solutions_2 : List UInt8 := [182, 1, 177, 153, 0, 26, 27, 42, 180, 1, 41, 153, 0, 7, 3, 167, 0, 4, 4, 96, 60, 42]
abbrev dktX5_solutions_2 : List UInt8 := dkwX5_solutions_2 ++ dktX5_solutions_3
def dkwX5_solutions_1 : List UInt8 := [132, 2, 1, 28, 17, 1, 144, 163, 255, 238, 42, 182, 1, 171, 42, 180, 1, 41, 154, 0, 10, 42]
abbrev dktX5_solutions_1 : List UInt8 := dkwX5_solutions_1 ++ dktX5_solutions_2
def dkwX5_solutions_0 : List UInt8 := [3, 60, 3, 61, 4, 62, 42, 3, 181, 1, 159, 29, 153, 0, 88, 28, 17, 1, 144, 163, 0, 81]
abbrev dktX5_solutions_0 : List UInt8 := dkwX5_solutions_0 ++ dktX5_solutions_1
theorem dksX5_solutions_0 : cX5_solutions.data.toList.drop 0 = dktX5_solutions_0 := by decide +kernel
theorem dksX5_solutions_1 : cX5_solutions.data.toList.drop 22 = dktX5_solutions_1 := dk_seg dksX5_solutions_0 22 rfl rfl
theorem dksX5_solutions_2 : cX5_solutions.data.toList.drop 44 = dktX5_solutions_2 := dk_seg dksX5_solutions_1 22 rfl rfl
theorem dksX5_solutions_3 : cX5_solutions.data.toList.drop 66 = dktX5_solutions_3 := dk_seg dksX5_solutions_2 22 rfl rfl
theorem dksX5_solutions_4 : cX5_solutions.data.toList.drop 90 = dktX5_solutions_4 := dk_seg dksX5_solutions_3 24 rfl rfl
theorem dksX5_solutions_5 : cX5_solutions.data.toList.drop 113 = dktX5_solutions_5 := dk_seg dksX5_solutions_4 23 rfl rfl
theorem dX5_solutions_0 : decode cX5_solutions 0 = .ok (.iconst 0, 1) := dk_3 (dk_at dksX5_solutions_0 0 rfl rfl)
theorem dX5_solutions_1 : decode cX5_solutions 1 = .ok (.istore_n 1, 1) := dk_60 (dk_at dksX5_solutions_0 1 rfl rfl)
theorem dX5_solutions_2 : decode cX5_solutions 2 = .ok (.iconst 0, 1) := dk_3 (dk_at dksX5_solutions_0 2 rfl rfl)
theorem dX5_solutions_3 : decode cX5_solutions 3 = .ok (.istore_n 2, 1) := dk_61 (dk_at dksX5_solutions_0 3 rfl rfl)
theorem dX5_solutions_4 : decode cX5_solutions 4 = .ok (.iconst 1, 1) := dk_4 (dk_at dksX5_solutions_0 4 rfl rfl)
theorem dX5_solutions_5 : decode cX5_solutions 5 = .ok (.istore_n 3, 1) := dk_62 (dk_at dksX5_solutions_0 5 rfl rfl)
theorem dX5_solutions_6 : decode cX5_solutions 6 = .ok (.aload_n 0, 1) := dk_42 (dk_at dksX5_solutions_0 6 rfl rfl)
theorem dX5_solutions_7 : decode cX5_solutions 7 = .ok (.iconst 0, 1) := dk_3 (dk_at dksX5_solutions_0 7 rfl rfl)
theorem dX5_solutions_8 : decode cX5_solutions 8 = .ok (.putfield 415, 3) := dk_181 1 159 (dk_at dksX5_solutions_0 8 rfl rfl)
theorem dX5_solutions_11 : decode cX5_solutions 11 = .ok (.iload_n 3, 1) := dk_29 (dk_at dksX5_solutions_0 11 rfl rfl)
theorem dX5_solutions_12 : decode cX5_solutions 12 = .ok (.ifCond .eq 88, 3) := dk_153 0 88 (dk_at dksX5_solutions_0 12 rfl rfl)
theorem dX5_solutions_15 : decode cX5_solutions 15 = .ok (.iload_n 2, 1) := dk_28 (dk_at dksX5_solutions_0 15 rfl rfl)
theorem dX5_solutions_16 : decode cX5_solutions 16 = .ok (.sipush 400, 3) := dk_17 1 144 (dk_at dksX5_solutions_0 16 rfl rfl)
theorem dX5_solutions_19 : decode cX5_solutions 19 = .ok (.if_icmp .gt 81, 3) := dk_163 0 81 (dk_at dksX5_solutions_0 19 rfl rfl)
theorem dX5_solutions_22 : decode cX5_solutions 22 = .ok (.iinc 2 1, 3) := dk_132 2 1 (dk_at dksX5_solutions_1 0 rfl rfl)
theorem dX5_solutions_25 : decode cX5_solutions 25 = .ok (.iload_n 2, 1) := dk_28 (dk_at dksX5_solutions_1 3 rfl rfl)
theorem dX5_solutions_26 : decode cX5_solutions 26 = .ok (.sipush 400, 3) := dk_17 1 144 (dk_at dksX5_solutions_1 4 rfl rfl)
theorem dX5_solutions_29 : decode cX5_solutions 29 = .ok (.if_icmp .gt (-18), 3) := dk_163 255 238 (dk_at dksX5_solutions_1 7 rfl rfl)
theorem dX5_solutions_32 : decode cX5_solutions 32 = .ok (.aload_n 0, 1) := dk_42 (dk_at dksX5_solutions_1 10 rfl rfl)
theorem dX5_solutions_33 : decode cX5_solutions 33 = .ok (.invokevirtual 427, 3) := dk_182 1 171 (dk_at dksX5_solutions_1 11 rfl rfl)
theorem dX5_solutions_36 : decode cX5_solutions 36 = .ok (.aload_n 0, 1) := dk_42 (dk_at dksX5_solutions_1 14 rfl rfl)
theorem dX5_solutions_37 : decode cX5_solutions 37 = .ok (.getfield 297, 3) := dk_180 1 41 (dk_at dksX5_solutions_1 15 rfl rfl)
theorem dX5_solutions_40 : decode cX5_solutions 40 = .ok (.ifCond .ne 10, 3) := dk_154 0 10 (dk_at dksX5_solutions_1 18 rfl rfl)
theorem dX5_solutions_43 : decode cX5_solutions 43 = .ok (.aload_n 0, 1) := dk_42 (dk_at dksX5_solutions_1 21 rfl rfl)
theorem dX5_solutions_44 : decode cX5_solutions 44 = .ok (.invokevirtual 433, 3) := dk_182 1 177 (dk_at dksX5_solutions_2 0 rfl rfl)
theorem dX5_solutions_47 : decode cX5_solutions 47 = .ok (.ifCond .eq 26, 3) := dk_153 0 26 (dk_at dksX5_solutions_2 3 rfl rfl)
theorem dX5_solutions_50 : decode cX5_solutions 50 = .ok (.iload_n 1, 1) := dk_27 (dk_at dksX5_solutions_2 6 rfl rfl)
theorem dX5_solutions_51 : decode cX5_solutions 51 = .ok (.aload_n 0, 1) := dk_42 (dk_at dksX5_solutions_2 7 rfl rfl)
theorem dX5_solutions_52 : decode cX5_solutions 52 = .ok (.getfield 297, 3) := dk_180 1 41 (dk_at dksX5_solutions_2 8 rfl rfl)
theorem dX5_solutions_55 : decode cX5_solutions 55 = .ok (.ifCond .eq 7, 3) := dk_153 0 7 (dk_at dksX5_solutions_2 11 rfl rfl)
theorem dX5_solutions_58 : decode cX5_solutions 58 = .ok (.iconst 0, 1) := dk_3 (dk_at dksX5_solutions_2 14 rfl rfl)
theorem dX5_solutions_59 : decode cX5_solutions 59 = .ok (.goto 4, 3) := dk_167 0 4 (dk_at dksX5_solutions_2 15 rfl rfl)
theorem dX5_solutions_62 : decode cX5_solutions 62 = .ok (.iconst 1, 1) := dk_4 (dk_at dksX5_solutions_2 18 rfl rfl)
theorem dX5_solutions_63 : decode cX5_solutions 63 = .ok (.iadd, 1) := dk_96 (dk_at dksX5_solutions_2 19 rfl rfl)
theorem dX5_solutions_64 : decode cX5_solutions 64 = .ok (.istore_n 1, 1) := dk_60 (dk_at dksX5_solutions_2 20 rfl rfl)
theorem dX5_solutions_65 : decode cX5_solutions 65 = .ok (.aload_n 0, 1) := dk_42 (dk_at dksX5_solutions_2 21 rfl rfl)
theorem dX5_solutions_66 : decode cX5_solutions 66 = .ok (.invokevirtual 430, 3) := dk_182 1 174 (dk_at dksX5_solutions_3 0 rfl rfl)
theorem dX5_solutions_69 : decode cX5_solutions 69 = .ok (.istore_n 3, 1) := dk_62 (dk_at dksX5_solutions_3 3 rfl rfl)
theorem dX5_solutions_70 : decode cX5_solutions 70 = .ok (.goto (-59), 3) := dk_167 255 197 (dk_at dksX5_solutions_3 4 rfl rfl)
theorem dX5_solutions_73 : decode cX5_solutions 73 = .ok (.aload_n 0, 1) := dk_42 (dk_at dksX5_solutions_3 7 rfl rfl)
theorem dX5_solutions_74 : decode cX5_solutions 74 = .ok (.iconst 0, 1) := dk_3 (dk_at dksX5_solutions_3 8 rfl rfl)
theorem dX5_solutions_75 : decode cX5_solutions 75 = .ok (.iconst 0, 1) := dk_3 (dk_at dksX5_solutions_3 9 rfl rfl)
theorem dX5_solutions_76 : decode cX5_solutions 76 = .ok (.invokevirtual 439, 3) := dk_182 1 183 (dk_at dksX5_solutions_3 10 rfl rfl)
theorem dX5_solutions_79 : decode cX5_solutions 79 = .ok (.istore 4, 2) := dk_54 4 (dk_at dksX5_solutions_3 13 rfl rfl)
theorem dX5_solutions_81 : decode cX5_solutions 81 = .ok (.aload_n 0, 1) := dk_42 (dk_at dksX5_solutions_3 15 rfl rfl)
theorem dX5_solutions_82 : decode cX5_solutions 82 = .ok (.iload 4, 2) := dk_21 4 (dk_at dksX5_solutions_3 16 rfl rfl)
theorem dX5_solutions_84 : decode cX5_solutions 84 = .ok (.aload_n 0, 1) := dk_42 (dk_at dksX5_solutions_3 18 rfl rfl)
theorem dX5_solutions_85 : decode cX5_solutions 85 = .ok (.getfield 90, 3) := dk_180 0 90 (dk_at dksX5_solutions_3 19 rfl rfl)
theorem dX5_solutions_88 : decode cX5_solutions 88 = .ok (.iload 4, 2) := dk_21 4 (dk_at dksX5_solutions_3 22 rfl rfl)
theorem dX5_solutions_90 : decode cX5_solutions 90 = .ok (.iaload, 1) := dk_46 (dk_at dksX5_solutions_4 0 rfl rfl)
theorem dX5_solutions_91 : decode cX5_solutions 91 = .ok (.invokestatic 199, 3) := dk_184 0 199 (dk_at dksX5_solutions_4 1 rfl rfl)
theorem dX5_solutions_94 : decode cX5_solutions 94 = .ok (.invokevirtual 445, 3) := dk_182 1 189 (dk_at dksX5_solutions_4 4 rfl rfl)
theorem dX5_solutions_97 : decode cX5_solutions 97 = .ok (.goto (-86), 3) := dk_167 255 170 (dk_at dksX5_solutions_4 7 rfl rfl)
theorem dX5_solutions_100 : decode cX5_solutions 100 = .ok (.aload_n 0, 1) := dk_42 (dk_at dksX5_solutions_4 10 rfl rfl)
theorem dX5_solutions_101 : decode cX5_solutions 101 = .ok (.iload_n 2, 1) := dk_28 (dk_at dksX5_solutions_4 11 rfl rfl)
theorem dX5_solutions_102 : decode cX5_solutions 102 = .ok (.sipush 400, 3) := dk_17 1 144 (dk_at dksX5_solutions_4 12 rfl rfl)
theorem dX5_solutions_105 : decode cX5_solutions 105 = .ok (.if_icmp .le 7, 3) := dk_164 0 7 (dk_at dksX5_solutions_4 15 rfl rfl)
theorem dX5_solutions_108 : decode cX5_solutions 108 = .ok (.iconst 1, 1) := dk_4 (dk_at dksX5_solutions_4 18 rfl rfl)
theorem dX5_solutions_109 : decode cX5_solutions 109 = .ok (.goto 4, 3) := dk_167 0 4 (dk_at dksX5_solutions_4 19 rfl rfl)
theorem dX5_solutions_112 : decode cX5_solutions 112 = .ok (.iconst 0, 1) := dk_3 (dk_at dksX5_solutions_4 22 rfl rfl)
theorem dX5_solutions_113 : decode cX5_solutions 113 = .ok (.putfield 174, 3) := dk_181 0 174 (dk_at dksX5_solutions_5 0 rfl rfl)
theorem dX5_solutions_116 : decode cX5_solutions 116 = .ok (.aload_n 0, 1) := dk_42 (dk_at dksX5_solutions_5 3 rfl rfl)
theorem dX5_solutions_117 : decode cX5_solutions 117 = .ok (.getfield 174, 3) := dk_180 0 174 (dk_at dksX5_solutions_5 4 rfl rfl)
theorem dX5_solutions_120 : decode cX5_solutions 120 = .ok (.ifCond .le 7, 3) := dk_158 0 7 (dk_at dksX5_solutions_5 7 rfl rfl)
theorem dX5_solutions_123 : decode cX5_solutions 123 = .ok (.iconst 0, 1) := dk_3 (dk_at dksX5_solutions_5 10 rfl rfl)
theorem dX5_solutions_124 : decode cX5_solutions 124 = .ok (.goto 4, 3) := dk_167 0 4 (dk_at dksX5_solutions_5 11 rfl rfl)
theorem dX5_solutions_127 : decode cX5_solutions 127 = .ok (.iload_n 1, 1) := dk_27 (dk_at dksX5_solutions_5 14 rfl rfl)
theorem dX5_solutions_128 : decode cX5_solutions 128 = .ok (.ireturn, 1) := dk_172 (dk_at dksX5_solutions_5 15 rfl rfl)
def dkwX5_solutionsByAll_8 : List UInt8 := [167, 0, 4, 4, 96, 62, 132, 4, 1, 167, 255, 133, 29, 172]
abbrev dktX5_solutionsByAll_8 : List UInt8 := dkwX5_solutionsByAll_8 ++ []
def dkwX5_solutionsByAll_7 : List UInt8 := [21, 7, 108, 54, 5, 132, 6, 1, 167, 255, 192, 42, 182, 1, 80, 29, 42, 180, 1, 41, 153, 0, 7, 3]
abbrev dktX5_solutionsByAll_7 : List UInt8 := dkwX5_solutionsByAll_7 ++ dktX5_solutionsByAll_8
def dkwX5_solutionsByAll_6 : List UInt8 := [21, 6, 42, 180, 0, 13, 21, 6, 46, 21, 5, 21, 7, 112, 184, 1, 194, 4, 182, 1, 37, 21, 5]
abbrev dktX5_solutionsByAll_6 : List UInt8 := dkwX5_solutionsByAll_6 ++ dktX5_solutionsByAll_7
def dkwX5_solutionsByAll_5 : List UInt8 := [42, 180, 0, 7, 21, 6, 46, 6, 159, 0, 44, 42, 180, 0, 13, 21, 6, 46, 184, 0, 227, 54, 7, 42]
abbrev dktX5_solutionsByAll_5 : List UInt8 := dkwX5_solutionsByAll_5 ++ dktX5_solutionsByAll_6
def dkwX5_solutionsByAll_4 : List UInt8 := [42, 2, 181, 0, 83, 42, 17, 15, 255, 182, 1, 77, 3, 54, 6, 21, 6, 42, 180, 0, 177, 162, 0, 61]
abbrev dktX5_solutionsByAll_4 : List UInt8 := dkwX5_solutionsByAll_4 ++ dktX5_solutionsByAll_5
def dkwX5_solutionsByAll_3 : List UInt8 := [3, 62, 3, 54, 4, 21, 4, 133, 31, 148, 156, 0, 121, 42, 180, 0, 174, 154, 0, 114, 21, 4, 54, 5]
abbrev dktX5_solutionsByAll_3 : List UInt8 := dkwX5_solutionsByAll_3 ++ dktX5_solutionsByAll_4
def dkwX5_solutionsByAll_2 : List UInt8 := [64, 132, 3, 1, 167, 255, 210, 42, 31, 20, 1, 192, 148, 158, 0, 7, 4, 167, 0, 4, 3, 181, 0, 174]
abbrev dktX5_solutionsByAll_2 : List UInt8 := dkwX5_solutionsByAll_2 ++ dktX5_solutionsByAll_3
def dkwX5_solutionsByAll_1 : List UInt8 := [180, 0, 7, 29, 46, 6, 160, 0, 7, 10, 167, 0, 13, 42, 180, 0, 13, 29, 46, 184, 0, 227, 133, 105]
abbrev dktX5_solutionsByAll_1 : List UInt8 := dkwX5_solutionsByAll_1 ++ dktX5_solutionsByAll_2
def dkwX5_solutionsByAll_0 : List UInt8 := [10, 64, 3, 62, 29, 42, 180, 0, 177, 162, 0, 44, 31, 20, 1, 192, 148, 157, 0, 36, 31, 42]
abbrev dktX5_solutionsByAll_0 : List UInt8 := dkwX5_solutionsByAll_0 ++ dktX5_solutionsByAll_1
theorem dksX5_solutionsByAll_0 : cX5_solutionsByAll.data.toList.drop 0 = dktX5_solutionsByAll_0 := by decide +kernel
theorem dksX5_solutionsByAll_1 : cX5_solutionsByAll.data.toList.drop 22 = dktX5_solutionsByAll_1 := dk_seg dksX5_solutionsByAll_0 22 rfl rfl
theorem dksX5_solutionsByAll_2 : cX5_solutionsByAll.data.toList.drop 46 = dktX5_solutionsByAll_2 := dk_seg dksX5_solutionsByAll_1 24 rfl rfl
theorem dksX5_solutionsByAll_3 : cX5_solutionsByAll.data.toList.drop 70 = dktX5_solutionsByAll_3 := dk_seg dksX5_solutionsByAll_2 24 rfl rfl
theorem dksX5_solutionsByAll_4 : cX5_solutionsByAll.data.toList.drop 94 = dktX5_solutionsByAll_4 := dk_seg dksX5_solutionsByAll_3 24 rfl rfl
theorem dksX5_solutionsByAll_5 : cX5_solutionsByAll.data.toList.drop 118 = dktX5_solutionsByAll_5 := dk_seg dksX5_solutionsByAll_4 24 rfl rfl
theorem dksX5_solutionsByAll_6 : cX5_solutionsByAll.data.toList.drop 142 = dktX5_solutionsByAll_6 := dk_seg dksX5_solutionsByAll_5 24 rfl rfl
theorem dksX5_solutionsByAll_7 : cX5_solutionsByAll.data.toList.drop 165 = dktX5_solutionsByAll_7 := dk_seg dksX5_solutionsByAll_6 23 rfl rfl
theorem dksX5_solutionsByAll_8 : cX5_solutionsByAll.data.toList.drop 189 = dktX5_solutionsByAll_8 := dk_seg dksX5_solutionsByAll_7 24 rfl rfl
theorem dX5_solutionsByAll_0 : decode cX5_solutionsByAll 0 = .ok (.lconst 1, 1) := dk_10 (dk_at dksX5_solutionsByAll_0 0 rfl rfl)
theorem dX5_solutionsByAll_1 : decode cX5_solutionsByAll 1 = .ok (.lstore_n 1, 1) := dk_64 (dk_at dksX5_solutionsByAll_0 1 rfl rfl)
theorem dX5_solutionsByAll_2 : decode cX5_solutionsByAll 2 = .ok (.iconst 0, 1) := dk_3 (dk_at dksX5_solutionsByAll_0 2 rfl rfl)
theorem dX5_solutionsByAll_3 : decode cX5_solutionsByAll 3 = .ok (.istore_n 3, 1) := dk_62 (dk_at dksX5_solutionsByAll_0 3 rfl rfl)
theorem dX5_solutionsByAll_4 : decode cX5_solutionsByAll 4 = .ok (.iload_n 3, 1) := dk_29 (dk_at dksX5_solutionsByAll_0 4 rfl rfl)
theorem dX5_solutionsByAll_5 : decode cX5_solutionsByAll 5 = .ok (.aload_n 0, 1) := dk_42 (dk_at dksX5_solutionsByAll_0 5 rfl rfl)
theorem dX5_solutionsByAll_6 : decode cX5_solutionsByAll 6 = .ok (.getfield 177, 3) := dk_180 0 177 (dk_at dksX5_solutionsByAll_0 6 rfl rfl)
theorem dX5_solutionsByAll_9 : decode cX5_solutionsByAll 9 = .ok (.if_icmp .ge 44, 3) := dk_162 0 44 (dk_at dksX5_solutionsByAll_0 9 rfl rfl)
theorem dX5_solutionsByAll_12 : decode cX5_solutionsByAll 12 = .ok (.lload_n 1, 1) := dk_31 (dk_at dksX5_solutionsByAll_0 12 rfl rfl)
theorem dX5_solutionsByAll_13 : decode cX5_solutionsByAll 13 = .ok (.ldc2_w 448, 3) := dk_20 1 192 (dk_at dksX5_solutionsByAll_0 13 rfl rfl)
theorem dX5_solutionsByAll_16 : decode cX5_solutionsByAll 16 = .ok (.lcmp, 1) := dk_148 (dk_at dksX5_solutionsByAll_0 16 rfl rfl)
theorem dX5_solutionsByAll_17 : decode cX5_solutionsByAll 17 = .ok (.ifCond .gt 36, 3) := dk_157 0 36 (dk_at dksX5_solutionsByAll_0 17 rfl rfl)
theorem dX5_solutionsByAll_20 : decode cX5_solutionsByAll 20 = .ok (.lload_n 1, 1) := dk_31 (dk_at dksX5_solutionsByAll_0 20 rfl rfl)
theorem dX5_solutionsByAll_21 : decode cX5_solutionsByAll 21 = .ok (.aload_n 0, 1) := dk_42 (dk_at dksX5_solutionsByAll_0 21 rfl rfl)
theorem dX5_solutionsByAll_22 : decode cX5_solutionsByAll 22 = .ok (.getfield 7, 3) := dk_180 0 7 (dk_at dksX5_solutionsByAll_1 0 rfl rfl)
theorem dX5_solutionsByAll_25 : decode cX5_solutionsByAll 25 = .ok (.iload_n 3, 1) := dk_29 (dk_at dksX5_solutionsByAll_1 3 rfl rfl)
theorem dX5_solutionsByAll_26 : decode cX5_solutionsByAll 26 = .ok (.iaload, 1) := dk_46 (dk_at dksX5_solutionsByAll_1 4 rfl rfl)
theorem dX5_solutionsByAll_27 : decode cX5_solutionsByAll 27 = .ok (.iconst 3, 1) := dk_6 (dk_at dksX5_solutionsByAll_1 5 rfl rfl)
theorem dX5_solutionsByAll_28 : decode cX5_solutionsByAll 28 = .ok (.if_icmp .ne 7, 3) := dk_160 0 7 (dk_at dksX5_solutionsByAll_1 6 rfl rfl)
theorem dX5_solutionsByAll_31 : decode cX5_solutionsByAll 31 = .ok (.lconst 1, 1) := dk_10 (dk_at dksX5_solutionsByAll_1 9 rfl rfl)
theorem dX5_solutionsByAll_32 : decode cX5_solutionsByAll 32 = .ok (.goto 13, 3) := dk_167 0 13 (dk_at dksX5_solutionsByAll_1 10 rfl rfl)
theorem dX5_solutionsByAll_35 : decode cX5_solutionsByAll 35 = .ok (.aload_n 0, 1) := dk_42 (dk_at dksX5_solutionsByAll_1 13 rfl rfl)
theorem dX5_solutionsByAll_36 : decode cX5_solutionsByAll 36 = .ok (.getfield 13, 3) := dk_180 0 13 (dk_at dksX5_solutionsByAll_1 14 rfl rfl)
theorem dX5_solutionsByAll_39 : decode cX5_solutionsByAll 39 = .ok (.iload_n 3, 1) := dk_29 (dk_at dksX5_solutionsByAll_1 17 rfl rfl)
theorem dX5_solutionsByAll_40 : decode cX5_solutionsByAll 40 = .ok (.iaload, 1) := dk_46 (dk_at dksX5_solutionsByAll_1 18 rfl rfl)
theorem dX5_solutionsByAll_41 : decode cX5_solutionsByAll 41 = .ok (.invokestatic 227, 3) := dk_184 0 227 (dk_at dksX5_solutionsByAll_1 19 rfl rfl)
theorem dX5_solutionsByAll_44 : decode cX5_solutionsByAll 44 = .ok (.i2l, 1) := dk_133 (dk_at dksX5_solutionsByAll_1 22 rfl rfl)
theorem dX5_solutionsByAll_45 : decode cX5_solutionsByAll 45 = .ok (.lmul, 1) := dk_105 (dk_at dksX5_solutionsByAll_1 23 rfl rfl)
theorem dX5_solutionsByAll_46 : decode cX5_solutionsByAll 46 = .ok (.lstore_n 1, 1) := dk_64 (dk_at dksX5_solutionsByAll_2 0 rfl rfl)
theorem dX5_solutionsByAll_47 : decode cX5_solutionsByAll 47 = .ok (.iinc 3 1, 3) := dk_132 3 1 (dk_at dksX5_solutionsByAll_2 1 rfl rfl)
theorem dX5_solutionsByAll_50 : decode cX5_solutionsByAll 50 = .ok (.goto (-46), 3) := dk_167 255 210 (dk_at dksX5_solutionsByAll_2 4 rfl rfl)
theorem dX5_solutionsByAll_53 : decode cX5_solutionsByAll 53 = .ok (.aload_n 0, 1) := dk_42 (dk_at dksX5_solutionsByAll_2 7 rfl rfl)
theorem dX5_solutionsByAll_54 : decode cX5_solutionsByAll 54 = .ok (.lload_n 1, 1) := dk_31 (dk_at dksX5_solutionsByAll_2 8 rfl rfl)
theorem dX5_solutionsByAll_55 : decode cX5_solutionsByAll 55 = .ok (.ldc2_w 448, 3) := dk_20 1 192 (dk_at dksX5_solutionsByAll_2 9 rfl rfl)
theorem dX5_solutionsByAll_58 : decode cX5_solutionsByAll 58 = .ok (.lcmp, 1) := dk_148 (dk_at dksX5_solutionsByAll_2 12 rfl rfl)
theorem dX5_solutionsByAll_59 : decode cX5_solutionsByAll 59 = .ok (.ifCond .le 7, 3) := dk_158 0 7 (dk_at dksX5_solutionsByAll_2 13 rfl rfl)
theorem dX5_solutionsByAll_62 : decode cX5_solutionsByAll 62 = .ok (.iconst 1, 1) := dk_4 (dk_at dksX5_solutionsByAll_2 16 rfl rfl)
theorem dX5_solutionsByAll_63 : decode cX5_solutionsByAll 63 = .ok (.goto 4, 3) := dk_167 0 4 (dk_at dksX5_solutionsByAll_2 17 rfl rfl)
theorem dX5_solutionsByAll_66 : decode cX5_solutionsByAll 66 = .ok (.iconst 0, 1) := dk_3 (dk_at dksX5_solutionsByAll_2 20 rfl rfl)
theorem dX5_solutionsByAll_67 : decode cX5_solutionsByAll 67 = .ok (.putfield 174, 3) := dk_181 0 174 (dk_at dksX5_solutionsByAll_2 21 rfl rfl)
theorem dX5_solutionsByAll_70 : decode cX5_solutionsByAll 70 = .ok (.iconst 0, 1) := dk_3 (dk_at dksX5_solutionsByAll_3 0 rfl rfl)
theorem dX5_solutionsByAll_71 : decode cX5_solutionsByAll 71 = .ok (.istore_n 3, 1) := dk_62 (dk_at dksX5_solutionsByAll_3 1 rfl rfl)
theorem dX5_solutionsByAll_72 : decode cX5_solutionsByAll 72 = .ok (.iconst 0, 1) := dk_3 (dk_at dksX5_solutionsByAll_3 2 rfl rfl)
theorem dX5_solutionsByAll_73 : decode cX5_solutionsByAll 73 = .ok (.istore 4, 2) := dk_54 4 (dk_at dksX5_solutionsByAll_3 3 rfl rfl)
theorem dX5_solutionsByAll_75 : decode cX5_solutionsByAll 75 = .ok (.iload 4, 2) := dk_21 4 (dk_at dksX5_solutionsByAll_3 5 rfl rfl)
theorem dX5_solutionsByAll_77 : decode cX5_solutionsByAll 77 = .ok (.i2l, 1) := dk_133 (dk_at dksX5_solutionsByAll_3 7 rfl rfl)
theorem dX5_solutionsByAll_78 : decode cX5_solutionsByAll 78 = .ok (.lload_n 1, 1) := dk_31 (dk_at dksX5_solutionsByAll_3 8 rfl rfl)
theorem dX5_solutionsByAll_79 : decode cX5_solutionsByAll 79 = .ok (.lcmp, 1) := dk_148 (dk_at dksX5_solutionsByAll_3 9 rfl rfl)
theorem dX5_solutionsByAll_80 : decode cX5_solutionsByAll 80 = .ok (.ifCond .ge 121, 3) := dk_156 0 121 (dk_at dksX5_solutionsByAll_3 10 rfl rfl)
theorem dX5_solutionsByAll_83 : decode cX5_solutionsByAll 83 = .ok (.aload_n 0, 1) := dk_42 (dk_at dksX5_solutionsByAll_3 13 rfl rfl)
theorem dX5_solutionsByAll_84 : decode cX5_solutionsByAll 84 = .ok (.getfield 174, 3) := dk_180 0 174 (dk_at dksX5_solutionsByAll_3 14 rfl rfl)
theorem dX5_solutionsByAll_87 : decode cX5_solutionsByAll 87 = .ok (.ifCond .ne 114, 3) := dk_154 0 114 (dk_at dksX5_solutionsByAll_3 17 rfl rfl)
theorem dX5_solutionsByAll_90 : decode cX5_solutionsByAll 90 = .ok (.iload 4, 2) := dk_21 4 (dk_at dksX5_solutionsByAll_3 20 rfl rfl)
theorem dX5_solutionsByAll_92 : decode cX5_solutionsByAll 92 = .ok (.istore 5, 2) := dk_54 5 (dk_at dksX5_solutionsByAll_3 22 rfl rfl)
theorem dX5_solutionsByAll_94 : decode cX5_solutionsByAll 94 = .ok (.aload_n 0, 1) := dk_42 (dk_at dksX5_solutionsByAll_4 0 rfl rfl)
theorem dX5_solutionsByAll_95 : decode cX5_solutionsByAll 95 = .ok (.iconst (-1), 1) := dk_2 (dk_at dksX5_solutionsByAll_4 1 rfl rfl)
theorem dX5_solutionsByAll_96 : decode cX5_solutionsByAll 96 = .ok (.putfield 83, 3) := dk_181 0 83 (dk_at dksX5_solutionsByAll_4 2 rfl rfl)
theorem dX5_solutionsByAll_99 : decode cX5_solutionsByAll 99 = .ok (.aload_n 0, 1) := dk_42 (dk_at dksX5_solutionsByAll_4 5 rfl rfl)
theorem dX5_solutionsByAll_100 : decode cX5_solutionsByAll 100 = .ok (.sipush 4095, 3) := dk_17 15 255 (dk_at dksX5_solutionsByAll_4 6 rfl rfl)
theorem dX5_solutionsByAll_103 : decode cX5_solutionsByAll 103 = .ok (.invokevirtual 333, 3) := dk_182 1 77 (dk_at dksX5_solutionsByAll_4 9 rfl rfl)
theorem dX5_solutionsByAll_106 : decode cX5_solutionsByAll 106 = .ok (.iconst 0, 1) := dk_3 (dk_at dksX5_solutionsByAll_4 12 rfl rfl)
theorem dX5_solutionsByAll_107 : decode cX5_solutionsByAll 107 = .ok (.istore 6, 2) := dk_54 6 (dk_at dksX5_solutionsByAll_4 13 rfl rfl)
theorem dX5_solutionsByAll_109 : decode cX5_solutionsByAll 109 = .ok (.iload 6, 2) := dk_21 6 (dk_at dksX5_solutionsByAll_4 15 rfl rfl)
theorem dX5_solutionsByAll_111 : decode cX5_solutionsByAll 111 = .ok (.aload_n 0, 1) := dk_42 (dk_at dksX5_solutionsByAll_4 17 rfl rfl)
theorem dX5_solutionsByAll_112 : decode cX5_solutionsByAll 112 = .ok (.getfield 177, 3) := dk_180 0 177 (dk_at dksX5_solutionsByAll_4 18 rfl rfl)
theorem dX5_solutionsByAll_115 : decode cX5_solutionsByAll 115 = .ok (.if_icmp .ge 61, 3) := dk_162 0 61 (dk_at dksX5_solutionsByAll_4 21 rfl rfl)
theorem dX5_solutionsByAll_118 : decode cX5_solutionsByAll 118 = .ok (.aload_n 0, 1) := dk_42 (dk_at dksX5_solutionsByAll_5 0 rfl rfl)
theorem dX5_solutionsByAll_119 : decode cX5_solutionsByAll 119 = .ok (.getfield 7, 3) := dk_180 0 7 (dk_at dksX5_solutionsByAll_5 1 rfl rfl)
theorem dX5_solutionsByAll_122 : decode cX5_solutionsByAll 122 = .ok (.iload 6, 2) := dk_21 6 (dk_at dksX5_solutionsByAll_5 4 rfl rfl)
theorem dX5_solutionsByAll_124 : decode cX5_solutionsByAll 124 = .ok (.iaload, 1) := dk_46 (dk_at dksX5_solutionsByAll_5 6 rfl rfl)
theorem dX5_solutionsByAll_125 : decode cX5_solutionsByAll 125 = .ok (.iconst 3, 1) := dk_6 (dk_at dksX5_solutionsByAll_5 7 rfl rfl)
theorem dX5_solutionsByAll_126 : decode cX5_solutionsByAll 126 = .ok (.if_icmp .eq 44, 3) := dk_159 0 44 (dk_at dksX5_solutionsByAll_5 8 rfl rfl)
theorem dX5_solutionsByAll_129 : decode cX5_solutionsByAll 129 = .ok (.aload_n 0, 1) := dk_42 (dk_at dksX5_solutionsByAll_5 11 rfl rfl)
theorem dX5_solutionsByAll_130 : decode cX5_solutionsByAll 130 = .ok (.getfield 13, 3) := dk_180 0 13 (dk_at dksX5_solutionsByAll_5 12 rfl rfl)
theorem dX5_solutionsByAll_133 : decode cX5_solutionsByAll 133 = .ok (.iload 6, 2) := dk_21 6 (dk_at dksX5_solutionsByAll_5 15 rfl rfl)
theorem dX5_solutionsByAll_135 : decode cX5_solutionsByAll 135 = .ok (.iaload, 1) := dk_46 (dk_at dksX5_solutionsByAll_5 17 rfl rfl)
theorem dX5_solutionsByAll_136 : decode cX5_solutionsByAll 136 = .ok (.invokestatic 227, 3) := dk_184 0 227 (dk_at dksX5_solutionsByAll_5 18 rfl rfl)
theorem dX5_solutionsByAll_139 : decode cX5_solutionsByAll 139 = .ok (.istore 7, 2) := dk_54 7 (dk_at dksX5_solutionsByAll_5 21 rfl rfl)
theorem dX5_solutionsByAll_141 : decode cX5_solutionsByAll 141 = .ok (.aload_n 0, 1) := dk_42 (dk_at dksX5_solutionsByAll_5 23 rfl rfl)
theorem dX5_solutionsByAll_142 : decode cX5_solutionsByAll 142 = .ok (.iload 6, 2) := dk_21 6 (dk_at dksX5_solutionsByAll_6 0 rfl rfl)
theorem dX5_solutionsByAll_144 : decode cX5_solutionsByAll 144 = .ok (.aload_n 0, 1) := dk_42 (dk_at dksX5_solutionsByAll_6 2 rfl rfl)
theorem dX5_solutionsByAll_145 : decode cX5_solutionsByAll 145 = .ok (.getfield 13, 3) := dk_180 0 13 (dk_at dksX5_solutionsByAll_6 3 rfl rfl)
theorem dX5_solutionsByAll_148 : decode cX5_solutionsByAll 148 = .ok (.iload 6, 2) := dk_21 6 (dk_at dksX5_solutionsByAll_6 6 rfl rfl)
theorem dX5_solutionsByAll_150 : decode cX5_solutionsByAll 150 = .ok (.iaload, 1) := dk_46 (dk_at dksX5_solutionsByAll_6 8 rfl rfl)
theorem dX5_solutionsByAll_151 : decode cX5_solutionsByAll 151 = .ok (.iload 5, 2) := dk_21 5 (dk_at dksX5_solutionsByAll_6 9 rfl rfl)
theorem dX5_solutionsByAll_153 : decode cX5_solutionsByAll 153 = .ok (.iload 7, 2) := dk_21 7 (dk_at dksX5_solutionsByAll_6 11 rfl rfl)
theorem dX5_solutionsByAll_155 : decode cX5_solutionsByAll 155 = .ok (.irem, 1) := dk_112 (dk_at dksX5_solutionsByAll_6 13 rfl rfl)
theorem dX5_solutionsByAll_156 : decode cX5_solutionsByAll 156 = .ok (.invokestatic 450, 3) := dk_184 1 194 (dk_at dksX5_solutionsByAll_6 14 rfl rfl)
theorem dX5_solutionsByAll_159 : decode cX5_solutionsByAll 159 = .ok (.iconst 1, 1) := dk_4 (dk_at dksX5_solutionsByAll_6 17 rfl rfl)
theorem dX5_solutionsByAll_160 : decode cX5_solutionsByAll 160 = .ok (.invokevirtual 293, 3) := dk_182 1 37 (dk_at dksX5_solutionsByAll_6 18 rfl rfl)
theorem dX5_solutionsByAll_163 : decode cX5_solutionsByAll 163 = .ok (.iload 5, 2) := dk_21 5 (dk_at dksX5_solutionsByAll_6 21 rfl rfl)
theorem dX5_solutionsByAll_165 : decode cX5_solutionsByAll 165 = .ok (.iload 7, 2) := dk_21 7 (dk_at dksX5_solutionsByAll_7 0 rfl rfl)
theorem dX5_solutionsByAll_167 : decode cX5_solutionsByAll 167 = .ok (.idiv, 1) := dk_108 (dk_at dksX5_solutionsByAll_7 2 rfl rfl)
theorem dX5_solutionsByAll_168 : decode cX5_solutionsByAll 168 = .ok (.istore 5, 2) := dk_54 5 (dk_at dksX5_solutionsByAll_7 3 rfl rfl)
theorem dX5_solutionsByAll_170 : decode cX5_solutionsByAll 170 = .ok (.iinc 6 1, 3) := dk_132 6 1 (dk_at dksX5_solutionsByAll_7 5 rfl rfl)
theorem dX5_solutionsByAll_173 : decode cX5_solutionsByAll 173 = .ok (.goto (-64), 3) := dk_167 255 192 (dk_at dksX5_solutionsByAll_7 8 rfl rfl)
theorem dX5_solutionsByAll_176 : decode cX5_solutionsByAll 176 = .ok (.aload_n 0, 1) := dk_42 (dk_at dksX5_solutionsByAll_7 11 rfl rfl)
theorem dX5_solutionsByAll_177 : decode cX5_solutionsByAll 177 = .ok (.invokevirtual 336, 3) := dk_182 1 80 (dk_at dksX5_solutionsByAll_7 12 rfl rfl)
theorem dX5_solutionsByAll_180 : decode cX5_solutionsByAll 180 = .ok (.iload_n 3, 1) := dk_29 (dk_at dksX5_solutionsByAll_7 15 rfl rfl)
theorem dX5_solutionsByAll_181 : decode cX5_solutionsByAll 181 = .ok (.aload_n 0, 1) := dk_42 (dk_at dksX5_solutionsByAll_7 16 rfl rfl)
theorem dX5_solutionsByAll_182 : decode cX5_solutionsByAll 182 = .ok (.getfield 297, 3) := dk_180 1 41 (dk_at dksX5_solutionsByAll_7 17 rfl rfl)
theorem dX5_solutionsByAll_185 : decode cX5_solutionsByAll 185 = .ok (.ifCond .eq 7, 3) := dk_153 0 7 (dk_at dksX5_solutionsByAll_7 20 rfl rfl)
theorem dX5_solutionsByAll_188 : decode cX5_solutionsByAll 188 = .ok (.iconst 0, 1) := dk_3 (dk_at dksX5_solutionsByAll_7 23 rfl rfl)
theorem dX5_solutionsByAll_189 : decode cX5_solutionsByAll 189 = .ok (.goto 4, 3) := dk_167 0 4 (dk_at dksX5_solutionsByAll_8 0 rfl rfl)
theorem dX5_solutionsByAll_192 : decode cX5_solutionsByAll 192 = .ok (.iconst 1, 1) := dk_4 (dk_at dksX5_solutionsByAll_8 3 rfl rfl)
theorem dX5_solutionsByAll_193 : decode cX5_solutionsByAll 193 = .ok (.iadd, 1) := dk_96 (dk_at dksX5_solutionsByAll_8 4 rfl rfl)
theorem dX5_solutionsByAll_194 : decode cX5_solutionsByAll 194 = .ok (.istore_n 3, 1) := dk_62 (dk_at dksX5_solutionsByAll_8 5 rfl rfl)
theorem dX5_solutionsByAll_195 : decode cX5_solutionsByAll 195 = .ok (.iinc 4 1, 3) := dk_132 4 1 (dk_at dksX5_solutionsByAll_8 6 rfl rfl)
theorem dX5_solutionsByAll_198 : decode cX5_solutionsByAll 198 = .ok (.goto (-123), 3) := dk_167 255 133 (dk_at dksX5_solutionsByAll_8 9 rfl rfl)
theorem dX5_solutionsByAll_201 : decode cX5_solutionsByAll 201 = .ok (.iload_n 3, 1) := dk_29 (dk_at dksX5_solutionsByAll_8 12 rfl rfl)
theorem dX5_solutionsByAll_202 : decode cX5_solutionsByAll 202 = .ok (.ireturn, 1) := dk_172 (dk_at dksX5_solutionsByAll_8 13 rfl rfl)
def dkwX5_nth_1 : List UInt8 := [184, 0, 199, 172]
abbrev dktX5_nth_1 : List UInt8 := dkwX5_nth_1 ++ []
def dkwX5_nth_0 : List UInt8 := [26, 61, 3, 62, 29, 27, 162, 0, 15, 28, 28, 4, 100, 126, 61, 132, 3, 1, 167, 255, 242, 28]
abbrev dktX5_nth_0 : List UInt8 := dkwX5_nth_0 ++ dktX5_nth_1
theorem dksX5_nth_0 : cX5_nth.data.toList.drop 0 = dktX5_nth_0 := by decide +kernel
theorem dksX5_nth_1 : cX5_nth.data.toList.drop 22 = dktX5_nth_1 := dk_seg dksX5_nth_0 22 rfl rfl
theorem dX5_nth_0 : decode cX5_nth 0 = .ok (.iload_n 0, 1) := dk_26 (dk_at dksX5_nth_0 0 rfl rfl)
theorem dX5_nth_1 : decode cX5_nth 1 = .ok (.istore_n 2, 1) := dk_61 (dk_at dksX5_nth_0 1 rfl rfl)
theorem dX5_nth_2 : decode cX5_nth 2 = .ok (.iconst 0, 1) := dk_3 (dk_at dksX5_nth_0 2 rfl rfl)
theorem dX5_nth_3 : decode cX5_nth 3 = .ok (.istore_n 3, 1) := dk_62 (dk_at dksX5_nth_0 3 rfl rfl)
theorem dX5_nth_4 : decode cX5_nth 4 = .ok (.iload_n 3, 1) := dk_29 (dk_at dksX5_nth_0 4 rfl rfl)
theorem dX5_nth_5 : decode cX5_nth 5 = .ok (.iload_n 1, 1) := dk_27 (dk_at dksX5_nth_0 5 rfl rfl)
theorem dX5_nth_6 : decode cX5_nth 6 = .ok (.if_icmp .ge 15, 3) := dk_162 0 15 (dk_at dksX5_nth_0 6 rfl rfl)
theorem dX5_nth_9 : decode cX5_nth 9 = .ok (.iload_n 2, 1) := dk_28 (dk_at dksX5_nth_0 9 rfl rfl)
theorem dX5_nth_10 : decode cX5_nth 10 = .ok (.iload_n 2, 1) := dk_28 (dk_at dksX5_nth_0 10 rfl rfl)
theorem dX5_nth_11 : decode cX5_nth 11 = .ok (.iconst 1, 1) := dk_4 (dk_at dksX5_nth_0 11 rfl rfl)
theorem dX5_nth_12 : decode cX5_nth 12 = .ok (.isub, 1) := dk_100 (dk_at dksX5_nth_0 12 rfl rfl)
theorem dX5_nth_13 : decode cX5_nth 13 = .ok (.iand, 1) := dk_126 (dk_at dksX5_nth_0 13 rfl rfl)
theorem dX5_nth_14 : decode cX5_nth 14 = .ok (.istore_n 2, 1) := dk_61 (dk_at dksX5_nth_0 14 rfl rfl)
theorem dX5_nth_15 : decode cX5_nth 15 = .ok (.iinc 3 1, 3) := dk_132 3 1 (dk_at dksX5_nth_0 15 rfl rfl)
theorem dX5_nth_18 : decode cX5_nth 18 = .ok (.goto (-14), 3) := dk_167 255 242 (dk_at dksX5_nth_0 18 rfl rfl)
theorem dX5_nth_21 : decode cX5_nth 21 = .ok (.iload_n 2, 1) := dk_28 (dk_at dksX5_nth_0 21 rfl rfl)
theorem dX5_nth_22 : decode cX5_nth 22 = .ok (.invokestatic 199, 3) := dk_184 0 199 (dk_at dksX5_nth_1 0 rfl rfl)
theorem dX5_nth_25 : decode cX5_nth 25 = .ok (.ireturn, 1) := dk_172 (dk_at dksX5_nth_1 3 rfl rfl)
def dkwX5_minimise_6 : List UInt8 := [180, 0, 141, 21, 7, 3, 84, 42, 180, 0, 144, 21, 7, 3, 79, 132, 7, 1, 167, 255, 231, 177]
abbrev dktX5_minimise_6 : List UInt8 := dkwX5_minimise_6 ++ []
def dkwX5_minimise_5 : List UInt8 := [180, 0, 138, 3, 29, 79, 42, 180, 0, 138, 4, 21, 5, 79, 3, 54, 7, 21, 7, 5, 162, 0, 25, 42]
abbrev dktX5_minimise_5 : List UInt8 := dkwX5_minimise_5 ++ dktX5_minimise_6
def dkwX5_minimise_4 : List UInt8 := [42, 16, 16, 181, 1, 197, 42, 180, 0, 135, 3, 28, 79, 42, 180, 0, 135, 4, 21, 4, 79, 42]
abbrev dktX5_minimise_4 : List UInt8 := dkwX5_minimise_4 ++ dktX5_minimise_5
def dkwX5_minimise_3 : List UInt8 := [154, 0, 7, 5, 167, 0, 4, 3, 181, 0, 174, 42, 180, 0, 174, 158, 0, 4, 177, 42, 27, 181, 0, 132]
abbrev dktX5_minimise_3 : List UInt8 := dkwX5_minimise_3 ++ dktX5_minimise_4
def dkwX5_minimise_2 : List UInt8 := [42, 27, 182, 1, 93, 154, 0, 7, 4, 167, 0, 22, 42, 180, 0, 7, 27, 46, 154, 0, 8, 21, 6]
abbrev dktX5_minimise_2 : List UInt8 := dkwX5_minimise_2 ++ dktX5_minimise_3
def dkwX5_minimise_1 : List UInt8 := [184, 0, 180, 153, 0, 17, 21, 5, 3, 5, 184, 0, 180, 153, 0, 7, 4, 167, 0, 4, 3, 54, 6, 42]
abbrev dktX5_minimise_1 : List UInt8 := dkwX5_minimise_1 ++ dktX5_minimise_2
def dkwX5_minimise_0 : List UInt8 := [28, 3, 4, 184, 0, 180, 153, 0, 36, 29, 3, 5, 184, 0, 180, 153, 0, 27, 21, 4, 3, 4]
abbrev dktX5_minimise_0 : List UInt8 := dkwX5_minimise_0 ++ dktX5_minimise_1
theorem dksX5_minimise_0 : cX5_minimise.data.toList.drop 0 = dktX5_minimise_0 := by decide +kernel
theorem dksX5_minimise_1 : cX5_minimise.data.toList.drop 22 = dktX5_minimise_1 := dk_seg dksX5_minimise_0 22 rfl rfl
theorem dksX5_minimise_2 : cX5_minimise.data.toList.drop 46 = dktX5_minimise_2 := dk_seg dksX5_minimise_1 24 rfl rfl
theorem dksX5_minimise_3 : cX5_minimise.data.toList.drop 69 = dktX5_minimise_3 := dk_seg dksX5_minimise_2 23 rfl rfl
theorem dksX5_minimise_4 : cX5_minimise.data.toList.drop 93 = dktX5_minimise_4 := dk_seg dksX5_minimise_3 24 rfl rfl
theorem dksX5_minimise_5 : cX5_minimise.data.toList.drop 115 = dktX5_minimise_5 := dk_seg dksX5_minimise_4 22 rfl rfl
theorem dksX5_minimise_6 : cX5_minimise.data.toList.drop 139 = dktX5_minimise_6 := dk_seg dksX5_minimise_5 24 rfl rfl
theorem dX5_minimise_0 : decode cX5_minimise 0 = .ok (.iload_n 2, 1) := dk_28 (dk_at dksX5_minimise_0 0 rfl rfl)
theorem dX5_minimise_1 : decode cX5_minimise 1 = .ok (.iconst 0, 1) := dk_3 (dk_at dksX5_minimise_0 1 rfl rfl)
theorem dX5_minimise_2 : decode cX5_minimise 2 = .ok (.iconst 1, 1) := dk_4 (dk_at dksX5_minimise_0 2 rfl rfl)
theorem dX5_minimise_3 : decode cX5_minimise 3 = .ok (.invokestatic 180, 3) := dk_184 0 180 (dk_at dksX5_minimise_0 3 rfl rfl)
theorem dX5_minimise_6 : decode cX5_minimise 6 = .ok (.ifCond .eq 36, 3) := dk_153 0 36 (dk_at dksX5_minimise_0 6 rfl rfl)
theorem dX5_minimise_9 : decode cX5_minimise 9 = .ok (.iload_n 3, 1) := dk_29 (dk_at dksX5_minimise_0 9 rfl rfl)
theorem dX5_minimise_10 : decode cX5_minimise 10 = .ok (.iconst 0, 1) := dk_3 (dk_at dksX5_minimise_0 10 rfl rfl)
theorem dX5_minimise_11 : decode cX5_minimise 11 = .ok (.iconst 2, 1) := dk_5 (dk_at dksX5_minimise_0 11 rfl rfl)
theorem dX5_minimise_12 : decode cX5_minimise 12 = .ok (.invokestatic 180, 3) := dk_184 0 180 (dk_at dksX5_minimise_0 12 rfl rfl)
theorem dX5_minimise_15 : decode cX5_minimise 15 = .ok (.ifCond .eq 27, 3) := dk_153 0 27 (dk_at dksX5_minimise_0 15 rfl rfl)
theorem dX5_minimise_18 : decode cX5_minimise 18 = .ok (.iload 4, 2) := dk_21 4 (dk_at dksX5_minimise_0 18 rfl rfl)
theorem dX5_minimise_20 : decode cX5_minimise 20 = .ok (.iconst 0, 1) := dk_3 (dk_at dksX5_minimise_0 20 rfl rfl)
theorem dX5_minimise_21 : decode cX5_minimise 21 = .ok (.iconst 1, 1) := dk_4 (dk_at dksX5_minimise_0 21 rfl rfl)
theorem dX5_minimise_22 : decode cX5_minimise 22 = .ok (.invokestatic 180, 3) := dk_184 0 180 (dk_at dksX5_minimise_1 0 rfl rfl)
theorem dX5_minimise_25 : decode cX5_minimise 25 = .ok (.ifCond .eq 17, 3) := dk_153 0 17 (dk_at dksX5_minimise_1 3 rfl rfl)
theorem dX5_minimise_28 : decode cX5_minimise 28 = .ok (.iload 5, 2) := dk_21 5 (dk_at dksX5_minimise_1 6 rfl rfl)
theorem dX5_minimise_30 : decode cX5_minimise 30 = .ok (.iconst 0, 1) := dk_3 (dk_at dksX5_minimise_1 8 rfl rfl)
theorem dX5_minimise_31 : decode cX5_minimise 31 = .ok (.iconst 2, 1) := dk_5 (dk_at dksX5_minimise_1 9 rfl rfl)
theorem dX5_minimise_32 : decode cX5_minimise 32 = .ok (.invokestatic 180, 3) := dk_184 0 180 (dk_at dksX5_minimise_1 10 rfl rfl)
theorem dX5_minimise_35 : decode cX5_minimise 35 = .ok (.ifCond .eq 7, 3) := dk_153 0 7 (dk_at dksX5_minimise_1 13 rfl rfl)
theorem dX5_minimise_38 : decode cX5_minimise 38 = .ok (.iconst 1, 1) := dk_4 (dk_at dksX5_minimise_1 16 rfl rfl)
theorem dX5_minimise_39 : decode cX5_minimise 39 = .ok (.goto 4, 3) := dk_167 0 4 (dk_at dksX5_minimise_1 17 rfl rfl)
theorem dX5_minimise_42 : decode cX5_minimise 42 = .ok (.iconst 0, 1) := dk_3 (dk_at dksX5_minimise_1 20 rfl rfl)
theorem dX5_minimise_43 : decode cX5_minimise 43 = .ok (.istore 6, 2) := dk_54 6 (dk_at dksX5_minimise_1 21 rfl rfl)
theorem dX5_minimise_45 : decode cX5_minimise 45 = .ok (.aload_n 0, 1) := dk_42 (dk_at dksX5_minimise_1 23 rfl rfl)
theorem dX5_minimise_46 : decode cX5_minimise 46 = .ok (.aload_n 0, 1) := dk_42 (dk_at dksX5_minimise_2 0 rfl rfl)
theorem dX5_minimise_47 : decode cX5_minimise 47 = .ok (.iload_n 1, 1) := dk_27 (dk_at dksX5_minimise_2 1 rfl rfl)
theorem dX5_minimise_48 : decode cX5_minimise 48 = .ok (.invokevirtual 349, 3) := dk_182 1 93 (dk_at dksX5_minimise_2 2 rfl rfl)
theorem dX5_minimise_51 : decode cX5_minimise 51 = .ok (.ifCond .ne 7, 3) := dk_154 0 7 (dk_at dksX5_minimise_2 5 rfl rfl)
theorem dX5_minimise_54 : decode cX5_minimise 54 = .ok (.iconst 1, 1) := dk_4 (dk_at dksX5_minimise_2 8 rfl rfl)
theorem dX5_minimise_55 : decode cX5_minimise 55 = .ok (.goto 22, 3) := dk_167 0 22 (dk_at dksX5_minimise_2 9 rfl rfl)
theorem dX5_minimise_58 : decode cX5_minimise 58 = .ok (.aload_n 0, 1) := dk_42 (dk_at dksX5_minimise_2 12 rfl rfl)
theorem dX5_minimise_59 : decode cX5_minimise 59 = .ok (.getfield 7, 3) := dk_180 0 7 (dk_at dksX5_minimise_2 13 rfl rfl)
theorem dX5_minimise_62 : decode cX5_minimise 62 = .ok (.iload_n 1, 1) := dk_27 (dk_at dksX5_minimise_2 16 rfl rfl)
theorem dX5_minimise_63 : decode cX5_minimise 63 = .ok (.iaload, 1) := dk_46 (dk_at dksX5_minimise_2 17 rfl rfl)
theorem dX5_minimise_64 : decode cX5_minimise 64 = .ok (.ifCond .ne 8, 3) := dk_154 0 8 (dk_at dksX5_minimise_2 18 rfl rfl)
theorem dX5_minimise_67 : decode cX5_minimise 67 = .ok (.iload 6, 2) := dk_21 6 (dk_at dksX5_minimise_2 21 rfl rfl)
theorem dX5_minimise_69 : decode cX5_minimise 69 = .ok (.ifCond .ne 7, 3) := dk_154 0 7 (dk_at dksX5_minimise_3 0 rfl rfl)
theorem dX5_minimise_72 : decode cX5_minimise 72 = .ok (.iconst 2, 1) := dk_5 (dk_at dksX5_minimise_3 3 rfl rfl)
theorem dX5_minimise_73 : decode cX5_minimise 73 = .ok (.goto 4, 3) := dk_167 0 4 (dk_at dksX5_minimise_3 4 rfl rfl)
theorem dX5_minimise_76 : decode cX5_minimise 76 = .ok (.iconst 0, 1) := dk_3 (dk_at dksX5_minimise_3 7 rfl rfl)
theorem dX5_minimise_77 : decode cX5_minimise 77 = .ok (.putfield 174, 3) := dk_181 0 174 (dk_at dksX5_minimise_3 8 rfl rfl)
theorem dX5_minimise_80 : decode cX5_minimise 80 = .ok (.aload_n 0, 1) := dk_42 (dk_at dksX5_minimise_3 11 rfl rfl)
theorem dX5_minimise_81 : decode cX5_minimise 81 = .ok (.getfield 174, 3) := dk_180 0 174 (dk_at dksX5_minimise_3 12 rfl rfl)
theorem dX5_minimise_84 : decode cX5_minimise 84 = .ok (.ifCond .le 4, 3) := dk_158 0 4 (dk_at dksX5_minimise_3 15 rfl rfl)
theorem dX5_minimise_87 : decode cX5_minimise 87 = .ok (.return_, 1) := dk_177 (dk_at dksX5_minimise_3 18 rfl rfl)
theorem dX5_minimise_88 : decode cX5_minimise 88 = .ok (.aload_n 0, 1) := dk_42 (dk_at dksX5_minimise_3 19 rfl rfl)
theorem dX5_minimise_89 : decode cX5_minimise 89 = .ok (.iload_n 1, 1) := dk_27 (dk_at dksX5_minimise_3 20 rfl rfl)
theorem dX5_minimise_90 : decode cX5_minimise 90 = .ok (.putfield 132, 3) := dk_181 0 132 (dk_at dksX5_minimise_3 21 rfl rfl)
theorem dX5_minimise_93 : decode cX5_minimise 93 = .ok (.aload_n 0, 1) := dk_42 (dk_at dksX5_minimise_4 0 rfl rfl)
theorem dX5_minimise_94 : decode cX5_minimise 94 = .ok (.bipush 16, 2) := dk_16 16 (dk_at dksX5_minimise_4 1 rfl rfl)
theorem dX5_minimise_96 : decode cX5_minimise 96 = .ok (.putfield 453, 3) := dk_181 1 197 (dk_at dksX5_minimise_4 3 rfl rfl)
theorem dX5_minimise_99 : decode cX5_minimise 99 = .ok (.aload_n 0, 1) := dk_42 (dk_at dksX5_minimise_4 6 rfl rfl)
theorem dX5_minimise_100 : decode cX5_minimise 100 = .ok (.getfield 135, 3) := dk_180 0 135 (dk_at dksX5_minimise_4 7 rfl rfl)
theorem dX5_minimise_103 : decode cX5_minimise 103 = .ok (.iconst 0, 1) := dk_3 (dk_at dksX5_minimise_4 10 rfl rfl)
theorem dX5_minimise_104 : decode cX5_minimise 104 = .ok (.iload_n 2, 1) := dk_28 (dk_at dksX5_minimise_4 11 rfl rfl)
theorem dX5_minimise_105 : decode cX5_minimise 105 = .ok (.iastore, 1) := dk_79 (dk_at dksX5_minimise_4 12 rfl rfl)
theorem dX5_minimise_106 : decode cX5_minimise 106 = .ok (.aload_n 0, 1) := dk_42 (dk_at dksX5_minimise_4 13 rfl rfl)
theorem dX5_minimise_107 : decode cX5_minimise 107 = .ok (.getfield 135, 3) := dk_180 0 135 (dk_at dksX5_minimise_4 14 rfl rfl)
theorem dX5_minimise_110 : decode cX5_minimise 110 = .ok (.iconst 1, 1) := dk_4 (dk_at dksX5_minimise_4 17 rfl rfl)
theorem dX5_minimise_111 : decode cX5_minimise 111 = .ok (.iload 4, 2) := dk_21 4 (dk_at dksX5_minimise_4 18 rfl rfl)
theorem dX5_minimise_113 : decode cX5_minimise 113 = .ok (.iastore, 1) := dk_79 (dk_at dksX5_minimise_4 20 rfl rfl)
theorem dX5_minimise_114 : decode cX5_minimise 114 = .ok (.aload_n 0, 1) := dk_42 (dk_at dksX5_minimise_4 21 rfl rfl)
theorem dX5_minimise_115 : decode cX5_minimise 115 = .ok (.getfield 138, 3) := dk_180 0 138 (dk_at dksX5_minimise_5 0 rfl rfl)
theorem dX5_minimise_118 : decode cX5_minimise 118 = .ok (.iconst 0, 1) := dk_3 (dk_at dksX5_minimise_5 3 rfl rfl)
theorem dX5_minimise_119 : decode cX5_minimise 119 = .ok (.iload_n 3, 1) := dk_29 (dk_at dksX5_minimise_5 4 rfl rfl)
theorem dX5_minimise_120 : decode cX5_minimise 120 = .ok (.iastore, 1) := dk_79 (dk_at dksX5_minimise_5 5 rfl rfl)
theorem dX5_minimise_121 : decode cX5_minimise 121 = .ok (.aload_n 0, 1) := dk_42 (dk_at dksX5_minimise_5 6 rfl rfl)
theorem dX5_minimise_122 : decode cX5_minimise 122 = .ok (.getfield 138, 3) := dk_180 0 138 (dk_at dksX5_minimise_5 7 rfl rfl)
theorem dX5_minimise_125 : decode cX5_minimise 125 = .ok (.iconst 1, 1) := dk_4 (dk_at dksX5_minimise_5 10 rfl rfl)
theorem dX5_minimise_126 : decode cX5_minimise 126 = .ok (.iload 5, 2) := dk_21 5 (dk_at dksX5_minimise_5 11 rfl rfl)
theorem dX5_minimise_128 : decode cX5_minimise 128 = .ok (.iastore, 1) := dk_79 (dk_at dksX5_minimise_5 13 rfl rfl)
theorem dX5_minimise_129 : decode cX5_minimise 129 = .ok (.iconst 0, 1) := dk_3 (dk_at dksX5_minimise_5 14 rfl rfl)
theorem dX5_minimise_130 : decode cX5_minimise 130 = .ok (.istore 7, 2) := dk_54 7 (dk_at dksX5_minimise_5 15 rfl rfl)
theorem dX5_minimise_132 : decode cX5_minimise 132 = .ok (.iload 7, 2) := dk_21 7 (dk_at dksX5_minimise_5 17 rfl rfl)
theorem dX5_minimise_134 : decode cX5_minimise 134 = .ok (.iconst 2, 1) := dk_5 (dk_at dksX5_minimise_5 19 rfl rfl)
theorem dX5_minimise_135 : decode cX5_minimise 135 = .ok (.if_icmp .ge 25, 3) := dk_162 0 25 (dk_at dksX5_minimise_5 20 rfl rfl)
theorem dX5_minimise_138 : decode cX5_minimise 138 = .ok (.aload_n 0, 1) := dk_42 (dk_at dksX5_minimise_5 23 rfl rfl)
theorem dX5_minimise_139 : decode cX5_minimise 139 = .ok (.getfield 141, 3) := dk_180 0 141 (dk_at dksX5_minimise_6 0 rfl rfl)
theorem dX5_minimise_142 : decode cX5_minimise 142 = .ok (.iload 7, 2) := dk_21 7 (dk_at dksX5_minimise_6 3 rfl rfl)
theorem dX5_minimise_144 : decode cX5_minimise 144 = .ok (.iconst 0, 1) := dk_3 (dk_at dksX5_minimise_6 5 rfl rfl)
theorem dX5_minimise_145 : decode cX5_minimise 145 = .ok (.bastore, 1) := dk_84 (dk_at dksX5_minimise_6 6 rfl rfl)
theorem dX5_minimise_146 : decode cX5_minimise 146 = .ok (.aload_n 0, 1) := dk_42 (dk_at dksX5_minimise_6 7 rfl rfl)
theorem dX5_minimise_147 : decode cX5_minimise 147 = .ok (.getfield 144, 3) := dk_180 0 144 (dk_at dksX5_minimise_6 8 rfl rfl)
theorem dX5_minimise_150 : decode cX5_minimise 150 = .ok (.iload 7, 2) := dk_21 7 (dk_at dksX5_minimise_6 11 rfl rfl)
theorem dX5_minimise_152 : decode cX5_minimise 152 = .ok (.iconst 0, 1) := dk_3 (dk_at dksX5_minimise_6 13 rfl rfl)
theorem dX5_minimise_153 : decode cX5_minimise 153 = .ok (.iastore, 1) := dk_79 (dk_at dksX5_minimise_6 14 rfl rfl)
theorem dX5_minimise_154 : decode cX5_minimise 154 = .ok (.iinc 7 1, 3) := dk_132 7 1 (dk_at dksX5_minimise_6 15 rfl rfl)
theorem dX5_minimise_157 : decode cX5_minimise 157 = .ok (.goto (-25), 3) := dk_167 255 231 (dk_at dksX5_minimise_6 18 rfl rfl)
theorem dX5_minimise_160 : decode cX5_minimise 160 = .ok (.return_, 1) := dk_177 (dk_at dksX5_minimise_6 21 rfl rfl)
def dkwX5_goOn_3 : List UInt8 := [167, 255, 227, 29, 172]
abbrev dktX5_goOn_3 : List UInt8 := dkwX5_goOn_3 ++ []
def dkwX5_goOn_2 : List UInt8 := [29, 28, 162, 0, 23, 42, 180, 0, 141, 27, 51, 154, 0, 14, 42, 27, 182, 1, 200, 132, 3, 1]
abbrev dktX5_goOn_2 : List UInt8 := dkwX5_goOn_2 ++ dktX5_goOn_3
def dkwX5_goOn_1 : List UInt8 := [42, 180, 0, 132, 156, 0, 7, 5, 167, 0, 4, 3, 181, 0, 174, 3, 62, 42, 180, 0, 174, 154, 0, 28]
abbrev dktX5_goOn_1 : List UInt8 := dkwX5_goOn_1 ++ dktX5_goOn_2
def dkwX5_goOn_0 : List UInt8 := [42, 27, 3, 4, 184, 0, 180, 153, 0, 13, 28, 4, 16, 100, 184, 0, 180, 154, 0, 7, 4, 167, 0, 15]
abbrev dktX5_goOn_0 : List UInt8 := dkwX5_goOn_0 ++ dktX5_goOn_1
theorem dksX5_goOn_0 : cX5_goOn.data.toList.drop 0 = dktX5_goOn_0 := by decide +kernel
theorem dksX5_goOn_1 : cX5_goOn.data.toList.drop 24 = dktX5_goOn_1 := dk_seg dksX5_goOn_0 24 rfl rfl
theorem dksX5_goOn_2 : cX5_goOn.data.toList.drop 48 = dktX5_goOn_2 := dk_seg dksX5_goOn_1 24 rfl rfl
theorem dksX5_goOn_3 : cX5_goOn.data.toList.drop 70 = dktX5_goOn_3 := dk_seg dksX5_goOn_2 22 rfl rfl
theorem dX5_goOn_0 : decode cX5_goOn 0 = .ok (.aload_n 0, 1) := dk_42 (dk_at dksX5_goOn_0 0 rfl rfl)
theorem dX5_goOn_1 : decode cX5_goOn 1 = .ok (.iload_n 1, 1) := dk_27 (dk_at dksX5_goOn_0 1 rfl rfl)
theorem dX5_goOn_2 : decode cX5_goOn 2 = .ok (.iconst 0, 1) := dk_3 (dk_at dksX5_goOn_0 2 rfl rfl)
theorem dX5_goOn_3 : decode cX5_goOn 3 = .ok (.iconst 1, 1) := dk_4 (dk_at dksX5_goOn_0 3 rfl rfl)
theorem dX5_goOn_4 : decode cX5_goOn 4 = .ok (.invokestatic 180, 3) := dk_184 0 180 (dk_at dksX5_goOn_0 4 rfl rfl)
theorem dX5_goOn_7 : decode cX5_goOn 7 = .ok (.ifCond .eq 13, 3) := dk_153 0 13 (dk_at dksX5_goOn_0 7 rfl rfl)
theorem dX5_goOn_10 : decode cX5_goOn 10 = .ok (.iload_n 2, 1) := dk_28 (dk_at dksX5_goOn_0 10 rfl rfl)
theorem dX5_goOn_11 : decode cX5_goOn 11 = .ok (.iconst 1, 1) := dk_4 (dk_at dksX5_goOn_0 11 rfl rfl)
theorem dX5_goOn_12 : decode cX5_goOn 12 = .ok (.bipush 100, 2) := dk_16 100 (dk_at dksX5_goOn_0 12 rfl rfl)
theorem dX5_goOn_14 : decode cX5_goOn 14 = .ok (.invokestatic 180, 3) := dk_184 0 180 (dk_at dksX5_goOn_0 14 rfl rfl)
theorem dX5_goOn_17 : decode cX5_goOn 17 = .ok (.ifCond .ne 7, 3) := dk_154 0 7 (dk_at dksX5_goOn_0 17 rfl rfl)
theorem dX5_goOn_20 : decode cX5_goOn 20 = .ok (.iconst 1, 1) := dk_4 (dk_at dksX5_goOn_0 20 rfl rfl)
theorem dX5_goOn_21 : decode cX5_goOn 21 = .ok (.goto 15, 3) := dk_167 0 15 (dk_at dksX5_goOn_0 21 rfl rfl)
theorem dX5_goOn_24 : decode cX5_goOn 24 = .ok (.aload_n 0, 1) := dk_42 (dk_at dksX5_goOn_1 0 rfl rfl)
theorem dX5_goOn_25 : decode cX5_goOn 25 = .ok (.getfield 132, 3) := dk_180 0 132 (dk_at dksX5_goOn_1 1 rfl rfl)
theorem dX5_goOn_28 : decode cX5_goOn 28 = .ok (.ifCond .ge 7, 3) := dk_156 0 7 (dk_at dksX5_goOn_1 4 rfl rfl)
theorem dX5_goOn_31 : decode cX5_goOn 31 = .ok (.iconst 2, 1) := dk_5 (dk_at dksX5_goOn_1 7 rfl rfl)
theorem dX5_goOn_32 : decode cX5_goOn 32 = .ok (.goto 4, 3) := dk_167 0 4 (dk_at dksX5_goOn_1 8 rfl rfl)
theorem dX5_goOn_35 : decode cX5_goOn 35 = .ok (.iconst 0, 1) := dk_3 (dk_at dksX5_goOn_1 11 rfl rfl)
theorem dX5_goOn_36 : decode cX5_goOn 36 = .ok (.putfield 174, 3) := dk_181 0 174 (dk_at dksX5_goOn_1 12 rfl rfl)
theorem dX5_goOn_39 : decode cX5_goOn 39 = .ok (.iconst 0, 1) := dk_3 (dk_at dksX5_goOn_1 15 rfl rfl)
theorem dX5_goOn_40 : decode cX5_goOn 40 = .ok (.istore_n 3, 1) := dk_62 (dk_at dksX5_goOn_1 16 rfl rfl)
theorem dX5_goOn_41 : decode cX5_goOn 41 = .ok (.aload_n 0, 1) := dk_42 (dk_at dksX5_goOn_1 17 rfl rfl)
theorem dX5_goOn_42 : decode cX5_goOn 42 = .ok (.getfield 174, 3) := dk_180 0 174 (dk_at dksX5_goOn_1 18 rfl rfl)
theorem dX5_goOn_45 : decode cX5_goOn 45 = .ok (.ifCond .ne 28, 3) := dk_154 0 28 (dk_at dksX5_goOn_1 21 rfl rfl)
theorem dX5_goOn_48 : decode cX5_goOn 48 = .ok (.iload_n 3, 1) := dk_29 (dk_at dksX5_goOn_2 0 rfl rfl)
theorem dX5_goOn_49 : decode cX5_goOn 49 = .ok (.iload_n 2, 1) := dk_28 (dk_at dksX5_goOn_2 1 rfl rfl)
theorem dX5_goOn_50 : decode cX5_goOn 50 = .ok (.if_icmp .ge 23, 3) := dk_162 0 23 (dk_at dksX5_goOn_2 2 rfl rfl)
theorem dX5_goOn_53 : decode cX5_goOn 53 = .ok (.aload_n 0, 1) := dk_42 (dk_at dksX5_goOn_2 5 rfl rfl)
theorem dX5_goOn_54 : decode cX5_goOn 54 = .ok (.getfield 141, 3) := dk_180 0 141 (dk_at dksX5_goOn_2 6 rfl rfl)
theorem dX5_goOn_57 : decode cX5_goOn 57 = .ok (.iload_n 1, 1) := dk_27 (dk_at dksX5_goOn_2 9 rfl rfl)
theorem dX5_goOn_58 : decode cX5_goOn 58 = .ok (.baload, 1) := dk_51 (dk_at dksX5_goOn_2 10 rfl rfl)
theorem dX5_goOn_59 : decode cX5_goOn 59 = .ok (.ifCond .ne 14, 3) := dk_154 0 14 (dk_at dksX5_goOn_2 11 rfl rfl)
theorem dX5_goOn_62 : decode cX5_goOn 62 = .ok (.aload_n 0, 1) := dk_42 (dk_at dksX5_goOn_2 14 rfl rfl)
theorem dX5_goOn_63 : decode cX5_goOn 63 = .ok (.iload_n 1, 1) := dk_27 (dk_at dksX5_goOn_2 15 rfl rfl)
theorem dX5_goOn_64 : decode cX5_goOn 64 = .ok (.invokevirtual 456, 3) := dk_182 1 200 (dk_at dksX5_goOn_2 16 rfl rfl)
theorem dX5_goOn_67 : decode cX5_goOn 67 = .ok (.iinc 3 1, 3) := dk_132 3 1 (dk_at dksX5_goOn_2 19 rfl rfl)
theorem dX5_goOn_70 : decode cX5_goOn 70 = .ok (.goto (-29), 3) := dk_167 255 227 (dk_at dksX5_goOn_3 0 rfl rfl)
theorem dX5_goOn_73 : decode cX5_goOn 73 = .ok (.iload_n 3, 1) := dk_29 (dk_at dksX5_goOn_3 3 rfl rfl)
theorem dX5_goOn_74 : decode cX5_goOn 74 = .ok (.ireturn, 1) := dk_172 (dk_at dksX5_goOn_3 4 rfl rfl)
def dkwX5_steps_13 : List UInt8 := [79, 177]
abbrev dktX5_steps_13 : List UInt8 := dkwX5_steps_13 ++ []
def dkwX5_steps_12 : List UInt8 := [79, 42, 180, 0, 153, 28, 42, 180, 0, 144, 27, 46, 96, 4, 84, 42, 180, 0, 144, 27, 92, 46, 4, 96]
abbrev dktX5_steps_12 : List UInt8 := dkwX5_steps_12 ++ dktX5_steps_13
def dkwX5_steps_11 : List UInt8 := [160, 0, 15, 42, 180, 0, 90, 29, 46, 184, 0, 196, 167, 0, 12, 42, 180, 0, 90, 29, 46, 184, 0, 199]
abbrev dktX5_steps_11 : List UInt8 := dkwX5_steps_11 ++ dktX5_steps_12
def dkwX5_steps_10 : List UInt8 := [27, 46, 96, 29, 79, 42, 180, 0, 150, 28, 42, 180, 0, 144, 27, 46, 96, 42, 180, 0, 138, 27, 46, 4]
abbrev dktX5_steps_10 : List UInt8 := dkwX5_steps_10 ++ dktX5_steps_11
def dkwX5_steps_9 : List UInt8 := [167, 0, 97, 42, 3, 42, 180, 0, 135, 27, 46, 182, 1, 183, 62, 42, 180, 0, 147, 28, 42, 180, 0, 144]
abbrev dktX5_steps_9 : List UInt8 := dkwX5_steps_9 ++ dktX5_steps_10
def dkwX5_steps_8 : List UInt8 := [180, 0, 141, 27, 51, 154, 0, 116, 42, 180, 0, 153, 28, 42, 180, 0, 144, 27, 46, 96, 4, 100, 3, 84]
abbrev dktX5_steps_8 : List UInt8 := dkwX5_steps_8 ++ dktX5_steps_9
def dkwX5_steps_7 : List UInt8 := [167, 255, 219, 42, 180, 0, 141, 27, 42, 180, 0, 144, 27, 46, 154, 0, 7, 4, 167, 0, 4, 3, 84, 42]
abbrev dktX5_steps_7 : List UInt8 := dkwX5_steps_7 ++ dktX5_steps_8
def dkwX5_steps_6 : List UInt8 := [42, 180, 0, 144, 27, 46, 96, 4, 100, 51, 154, 0, 16, 42, 180, 0, 144, 27, 92, 46, 4, 100, 79]
abbrev dktX5_steps_6 : List UInt8 := dkwX5_steps_6 ++ dktX5_steps_7
def dkwX5_steps_5 : List UInt8 := [180, 0, 132, 46, 184, 0, 199, 181, 1, 197, 42, 180, 0, 144, 27, 46, 158, 0, 34, 42, 180, 0, 153, 28]
abbrev dktX5_steps_5 : List UInt8 := dkwX5_steps_5 ++ dktX5_steps_6
def dkwX5_steps_4 : List UInt8 := [153, 0, 121, 42, 42, 180, 1, 41, 153, 0, 10, 42, 180, 1, 197, 167, 0, 15, 42, 180, 0, 90, 42]
abbrev dktX5_steps_4 : List UInt8 := dkwX5_steps_4 ++ dktX5_steps_5
def dkwX5_steps_3 : List UInt8 := [181, 0, 87, 42, 182, 1, 80, 42, 2, 181, 0, 83, 42, 180, 1, 41, 154, 0, 10, 42, 182, 1, 177]
abbrev dktX5_steps_3 : List UInt8 := dkwX5_steps_3 ++ dktX5_steps_4
def dkwX5_steps_2 : List UInt8 := [182, 1, 37, 132, 3, 1, 167, 255, 219, 42, 42, 180, 0, 132, 181, 0, 83, 42, 42, 180, 1, 197]
abbrev dktX5_steps_2 : List UInt8 := dkwX5_steps_2 ++ dktX5_steps_3
def dkwX5_steps_1 : List UInt8 := [162, 0, 31, 42, 42, 180, 0, 147, 29, 46, 42, 180, 0, 150, 29, 46, 42, 180, 0, 153, 29, 51]
abbrev dktX5_steps_1 : List UInt8 := dkwX5_steps_1 ++ dktX5_steps_2
def dkwX5_steps_0 : List UInt8 := [42, 3, 181, 1, 31, 17, 1, 144, 27, 104, 61, 28, 62, 29, 28, 42, 180, 0, 144, 27, 46, 96]
abbrev dktX5_steps_0 : List UInt8 := dkwX5_steps_0 ++ dktX5_steps_1
theorem dksX5_steps_0 : cX5_steps.data.toList.drop 0 = dktX5_steps_0 := by decide +kernel
theorem dksX5_steps_1 : cX5_steps.data.toList.drop 22 = dktX5_steps_1 := dk_seg dksX5_steps_0 22 rfl rfl
theorem dksX5_steps_2 : cX5_steps.data.toList.drop 44 = dktX5_steps_2 := dk_seg dksX5_steps_1 22 rfl rfl
theorem dksX5_steps_3 : cX5_steps.data.toList.drop 66 = dktX5_steps_3 := dk_seg dksX5_steps_2 22 rfl rfl
theorem dksX5_steps_4 : cX5_steps.data.toList.drop 89 = dktX5_steps_4 := dk_seg dksX5_steps_3 23 rfl rfl
theorem dksX5_steps_5 : cX5_steps.data.toList.drop 112 = dktX5_steps_5 := dk_seg dksX5_steps_4 23 rfl rfl
theorem dksX5_steps_6 : cX5_steps.data.toList.drop 136 = dktX5_steps_6 := dk_seg dksX5_steps_5 24 rfl rfl
theorem dksX5_steps_7 : cX5_steps.data.toList.drop 159 = dktX5_steps_7 := dk_seg dksX5_steps_6 23 rfl rfl
theorem dksX5_steps_8 : cX5_steps.data.toList.drop 183 = dktX5_steps_8 := dk_seg dksX5_steps_7 24 rfl rfl
theorem dksX5_steps_9 : cX5_steps.data.toList.drop 207 = dktX5_steps_9 := dk_seg dksX5_steps_8 24 rfl rfl
theorem dksX5_steps_10 : cX5_steps.data.toList.drop 231 = dktX5_steps_10 := dk_seg dksX5_steps_9 24 rfl rfl
theorem dksX5_steps_11 : cX5_steps.data.toList.drop 255 = dktX5_steps_11 := dk_seg dksX5_steps_10 24 rfl rfl
theorem dksX5_steps_12 : cX5_steps.data.toList.drop 279 = dktX5_steps_12 := dk_seg dksX5_steps_11 24 rfl rfl
theorem dksX5_steps_13 : cX5_steps.data.toList.drop 303 = dktX5_steps_13 := dk_seg dksX5_steps_12 24 rfl rfl
theorem dX5_steps_0 : decode cX5_steps 0 = .ok (.aload_n 0, 1) := dk_42 (dk_at dksX5_steps_0 0 rfl rfl)
theorem dX5_steps_1 : decode cX5_steps 1 = .ok (.iconst 0, 1) := dk_3 (dk_at dksX5_steps_0 1 rfl rfl)
theorem dX5_steps_2 : decode cX5_steps 2 = .ok (.putfield 287, 3) := dk_181 1 31 (dk_at dksX5_steps_0 2 rfl rfl)
theorem dX5_steps_5 : decode cX5_steps 5 = .ok (.sipush 400, 3) := dk_17 1 144 (dk_at dksX5_steps_0 5 rfl rfl)
theorem dX5_steps_8 : decode cX5_steps 8 = .ok (.iload_n 1, 1) := dk_27 (dk_at dksX5_steps_0 8 rfl rfl)
theorem dX5_steps_9 : decode cX5_steps 9 = .ok (.imul, 1) := dk_104 (dk_at dksX5_steps_0 9 rfl rfl)
theorem dX5_steps_10 : decode cX5_steps 10 = .ok (.istore_n 2, 1) := dk_61 (dk_at dksX5_steps_0 10 rfl rfl)
theorem dX5_steps_11 : decode cX5_steps 11 = .ok (.iload_n 2, 1) := dk_28 (dk_at dksX5_steps_0 11 rfl rfl)
theorem dX5_steps_12 : decode cX5_steps 12 = .ok (.istore_n 3, 1) := dk_62 (dk_at dksX5_steps_0 12 rfl rfl)
theorem dX5_steps_13 : decode cX5_steps 13 = .ok (.iload_n 3, 1) := dk_29 (dk_at dksX5_steps_0 13 rfl rfl)
theorem dX5_steps_14 : decode cX5_steps 14 = .ok (.iload_n 2, 1) := dk_28 (dk_at dksX5_steps_0 14 rfl rfl)
theorem dX5_steps_15 : decode cX5_steps 15 = .ok (.aload_n 0, 1) := dk_42 (dk_at dksX5_steps_0 15 rfl rfl)
theorem dX5_steps_16 : decode cX5_steps 16 = .ok (.getfield 144, 3) := dk_180 0 144 (dk_at dksX5_steps_0 16 rfl rfl)
theorem dX5_steps_19 : decode cX5_steps 19 = .ok (.iload_n 1, 1) := dk_27 (dk_at dksX5_steps_0 19 rfl rfl)
theorem dX5_steps_20 : decode cX5_steps 20 = .ok (.iaload, 1) := dk_46 (dk_at dksX5_steps_0 20 rfl rfl)
theorem dX5_steps_21 : decode cX5_steps 21 = .ok (.iadd, 1) := dk_96 (dk_at dksX5_steps_0 21 rfl rfl)
theorem dX5_steps_22 : decode cX5_steps 22 = .ok (.if_icmp .ge 31, 3) := dk_162 0 31 (dk_at dksX5_steps_1 0 rfl rfl)
theorem dX5_steps_25 : decode cX5_steps 25 = .ok (.aload_n 0, 1) := dk_42 (dk_at dksX5_steps_1 3 rfl rfl)
theorem dX5_steps_26 : decode cX5_steps 26 = .ok (.aload_n 0, 1) := dk_42 (dk_at dksX5_steps_1 4 rfl rfl)
theorem dX5_steps_27 : decode cX5_steps 27 = .ok (.getfield 147, 3) := dk_180 0 147 (dk_at dksX5_steps_1 5 rfl rfl)
theorem dX5_steps_30 : decode cX5_steps 30 = .ok (.iload_n 3, 1) := dk_29 (dk_at dksX5_steps_1 8 rfl rfl)
theorem dX5_steps_31 : decode cX5_steps 31 = .ok (.iaload, 1) := dk_46 (dk_at dksX5_steps_1 9 rfl rfl)
theorem dX5_steps_32 : decode cX5_steps 32 = .ok (.aload_n 0, 1) := dk_42 (dk_at dksX5_steps_1 10 rfl rfl)
theorem dX5_steps_33 : decode cX5_steps 33 = .ok (.getfield 150, 3) := dk_180 0 150 (dk_at dksX5_steps_1 11 rfl rfl)
theorem dX5_steps_36 : decode cX5_steps 36 = .ok (.iload_n 3, 1) := dk_29 (dk_at dksX5_steps_1 14 rfl rfl)
theorem dX5_steps_37 : decode cX5_steps 37 = .ok (.iaload, 1) := dk_46 (dk_at dksX5_steps_1 15 rfl rfl)
theorem dX5_steps_38 : decode cX5_steps 38 = .ok (.aload_n 0, 1) := dk_42 (dk_at dksX5_steps_1 16 rfl rfl)
theorem dX5_steps_39 : decode cX5_steps 39 = .ok (.getfield 153, 3) := dk_180 0 153 (dk_at dksX5_steps_1 17 rfl rfl)
theorem dX5_steps_42 : decode cX5_steps 42 = .ok (.iload_n 3, 1) := dk_29 (dk_at dksX5_steps_1 20 rfl rfl)
theorem dX5_steps_43 : decode cX5_steps 43 = .ok (.baload, 1) := dk_51 (dk_at dksX5_steps_1 21 rfl rfl)
theorem dX5_steps_44 : decode cX5_steps 44 = .ok (.invokevirtual 293, 3) := dk_182 1 37 (dk_at dksX5_steps_2 0 rfl rfl)
theorem dX5_steps_47 : decode cX5_steps 47 = .ok (.iinc 3 1, 3) := dk_132 3 1 (dk_at dksX5_steps_2 3 rfl rfl)
theorem dX5_steps_50 : decode cX5_steps 50 = .ok (.goto (-37), 3) := dk_167 255 219 (dk_at dksX5_steps_2 6 rfl rfl)
theorem dX5_steps_53 : decode cX5_steps 53 = .ok (.aload_n 0, 1) := dk_42 (dk_at dksX5_steps_2 9 rfl rfl)
theorem dX5_steps_54 : decode cX5_steps 54 = .ok (.aload_n 0, 1) := dk_42 (dk_at dksX5_steps_2 10 rfl rfl)
theorem dX5_steps_55 : decode cX5_steps 55 = .ok (.getfield 132, 3) := dk_180 0 132 (dk_at dksX5_steps_2 11 rfl rfl)
theorem dX5_steps_58 : decode cX5_steps 58 = .ok (.putfield 83, 3) := dk_181 0 83 (dk_at dksX5_steps_2 14 rfl rfl)
theorem dX5_steps_61 : decode cX5_steps 61 = .ok (.aload_n 0, 1) := dk_42 (dk_at dksX5_steps_2 17 rfl rfl)
theorem dX5_steps_62 : decode cX5_steps 62 = .ok (.aload_n 0, 1) := dk_42 (dk_at dksX5_steps_2 18 rfl rfl)
theorem dX5_steps_63 : decode cX5_steps 63 = .ok (.getfield 453, 3) := dk_180 1 197 (dk_at dksX5_steps_2 19 rfl rfl)
theorem dX5_steps_66 : decode cX5_steps 66 = .ok (.putfield 87, 3) := dk_181 0 87 (dk_at dksX5_steps_3 0 rfl rfl)
theorem dX5_steps_69 : decode cX5_steps 69 = .ok (.aload_n 0, 1) := dk_42 (dk_at dksX5_steps_3 3 rfl rfl)
theorem dX5_steps_70 : decode cX5_steps 70 = .ok (.invokevirtual 336, 3) := dk_182 1 80 (dk_at dksX5_steps_3 4 rfl rfl)
theorem dX5_steps_73 : decode cX5_steps 73 = .ok (.aload_n 0, 1) := dk_42 (dk_at dksX5_steps_3 7 rfl rfl)
theorem dX5_steps_74 : decode cX5_steps 74 = .ok (.iconst (-1), 1) := dk_2 (dk_at dksX5_steps_3 8 rfl rfl)
theorem dX5_steps_75 : decode cX5_steps 75 = .ok (.putfield 83, 3) := dk_181 0 83 (dk_at dksX5_steps_3 9 rfl rfl)
theorem dX5_steps_78 : decode cX5_steps 78 = .ok (.aload_n 0, 1) := dk_42 (dk_at dksX5_steps_3 12 rfl rfl)
theorem dX5_steps_79 : decode cX5_steps 79 = .ok (.getfield 297, 3) := dk_180 1 41 (dk_at dksX5_steps_3 13 rfl rfl)
theorem dX5_steps_82 : decode cX5_steps 82 = .ok (.ifCond .ne 10, 3) := dk_154 0 10 (dk_at dksX5_steps_3 16 rfl rfl)
theorem dX5_steps_85 : decode cX5_steps 85 = .ok (.aload_n 0, 1) := dk_42 (dk_at dksX5_steps_3 19 rfl rfl)
theorem dX5_steps_86 : decode cX5_steps 86 = .ok (.invokevirtual 433, 3) := dk_182 1 177 (dk_at dksX5_steps_3 20 rfl rfl)
theorem dX5_steps_89 : decode cX5_steps 89 = .ok (.ifCond .eq 121, 3) := dk_153 0 121 (dk_at dksX5_steps_4 0 rfl rfl)
theorem dX5_steps_92 : decode cX5_steps 92 = .ok (.aload_n 0, 1) := dk_42 (dk_at dksX5_steps_4 3 rfl rfl)
theorem dX5_steps_93 : decode cX5_steps 93 = .ok (.aload_n 0, 1) := dk_42 (dk_at dksX5_steps_4 4 rfl rfl)
theorem dX5_steps_94 : decode cX5_steps 94 = .ok (.getfield 297, 3) := dk_180 1 41 (dk_at dksX5_steps_4 5 rfl rfl)
theorem dX5_steps_97 : decode cX5_steps 97 = .ok (.ifCond .eq 10, 3) := dk_153 0 10 (dk_at dksX5_steps_4 8 rfl rfl)
theorem dX5_steps_100 : decode cX5_steps 100 = .ok (.aload_n 0, 1) := dk_42 (dk_at dksX5_steps_4 11 rfl rfl)
theorem dX5_steps_101 : decode cX5_steps 101 = .ok (.getfield 453, 3) := dk_180 1 197 (dk_at dksX5_steps_4 12 rfl rfl)
theorem dX5_steps_104 : decode cX5_steps 104 = .ok (.goto 15, 3) := dk_167 0 15 (dk_at dksX5_steps_4 15 rfl rfl)
theorem dX5_steps_107 : decode cX5_steps 107 = .ok (.aload_n 0, 1) := dk_42 (dk_at dksX5_steps_4 18 rfl rfl)
theorem dX5_steps_108 : decode cX5_steps 108 = .ok (.getfield 90, 3) := dk_180 0 90 (dk_at dksX5_steps_4 19 rfl rfl)
theorem dX5_steps_111 : decode cX5_steps 111 = .ok (.aload_n 0, 1) := dk_42 (dk_at dksX5_steps_4 22 rfl rfl)
theorem dX5_steps_112 : decode cX5_steps 112 = .ok (.getfield 132, 3) := dk_180 0 132 (dk_at dksX5_steps_5 0 rfl rfl)
theorem dX5_steps_115 : decode cX5_steps 115 = .ok (.iaload, 1) := dk_46 (dk_at dksX5_steps_5 3 rfl rfl)
theorem dX5_steps_116 : decode cX5_steps 116 = .ok (.invokestatic 199, 3) := dk_184 0 199 (dk_at dksX5_steps_5 4 rfl rfl)
theorem dX5_steps_119 : decode cX5_steps 119 = .ok (.putfield 453, 3) := dk_181 1 197 (dk_at dksX5_steps_5 7 rfl rfl)
theorem dX5_steps_122 : decode cX5_steps 122 = .ok (.aload_n 0, 1) := dk_42 (dk_at dksX5_steps_5 10 rfl rfl)
theorem dX5_steps_123 : decode cX5_steps 123 = .ok (.getfield 144, 3) := dk_180 0 144 (dk_at dksX5_steps_5 11 rfl rfl)
theorem dX5_steps_126 : decode cX5_steps 126 = .ok (.iload_n 1, 1) := dk_27 (dk_at dksX5_steps_5 14 rfl rfl)
theorem dX5_steps_127 : decode cX5_steps 127 = .ok (.iaload, 1) := dk_46 (dk_at dksX5_steps_5 15 rfl rfl)
theorem dX5_steps_128 : decode cX5_steps 128 = .ok (.ifCond .le 34, 3) := dk_158 0 34 (dk_at dksX5_steps_5 16 rfl rfl)
theorem dX5_steps_131 : decode cX5_steps 131 = .ok (.aload_n 0, 1) := dk_42 (dk_at dksX5_steps_5 19 rfl rfl)
theorem dX5_steps_132 : decode cX5_steps 132 = .ok (.getfield 153, 3) := dk_180 0 153 (dk_at dksX5_steps_5 20 rfl rfl)
theorem dX5_steps_135 : decode cX5_steps 135 = .ok (.iload_n 2, 1) := dk_28 (dk_at dksX5_steps_5 23 rfl rfl)
theorem dX5_steps_136 : decode cX5_steps 136 = .ok (.aload_n 0, 1) := dk_42 (dk_at dksX5_steps_6 0 rfl rfl)
theorem dX5_steps_137 : decode cX5_steps 137 = .ok (.getfield 144, 3) := dk_180 0 144 (dk_at dksX5_steps_6 1 rfl rfl)
theorem dX5_steps_140 : decode cX5_steps 140 = .ok (.iload_n 1, 1) := dk_27 (dk_at dksX5_steps_6 4 rfl rfl)
theorem dX5_steps_141 : decode cX5_steps 141 = .ok (.iaload, 1) := dk_46 (dk_at dksX5_steps_6 5 rfl rfl)
theorem dX5_steps_142 : decode cX5_steps 142 = .ok (.iadd, 1) := dk_96 (dk_at dksX5_steps_6 6 rfl rfl)
theorem dX5_steps_143 : decode cX5_steps 143 = .ok (.iconst 1, 1) := dk_4 (dk_at dksX5_steps_6 7 rfl rfl)
theorem dX5_steps_144 : decode cX5_steps 144 = .ok (.isub, 1) := dk_100 (dk_at dksX5_steps_6 8 rfl rfl)
theorem dX5_steps_145 : decode cX5_steps 145 = .ok (.baload, 1) := dk_51 (dk_at dksX5_steps_6 9 rfl rfl)
theorem dX5_steps_146 : decode cX5_steps 146 = .ok (.ifCond .ne 16, 3) := dk_154 0 16 (dk_at dksX5_steps_6 10 rfl rfl)
theorem dX5_steps_149 : decode cX5_steps 149 = .ok (.aload_n 0, 1) := dk_42 (dk_at dksX5_steps_6 13 rfl rfl)
theorem dX5_steps_150 : decode cX5_steps 150 = .ok (.getfield 144, 3) := dk_180 0 144 (dk_at dksX5_steps_6 14 rfl rfl)
theorem dX5_steps_153 : decode cX5_steps 153 = .ok (.iload_n 1, 1) := dk_27 (dk_at dksX5_steps_6 17 rfl rfl)
theorem dX5_steps_154 : decode cX5_steps 154 = .ok (.dup2, 1) := dk_92 (dk_at dksX5_steps_6 18 rfl rfl)
theorem dX5_steps_155 : decode cX5_steps 155 = .ok (.iaload, 1) := dk_46 (dk_at dksX5_steps_6 19 rfl rfl)
theorem dX5_steps_156 : decode cX5_steps 156 = .ok (.iconst 1, 1) := dk_4 (dk_at dksX5_steps_6 20 rfl rfl)
theorem dX5_steps_157 : decode cX5_steps 157 = .ok (.isub, 1) := dk_100 (dk_at dksX5_steps_6 21 rfl rfl)
theorem dX5_steps_158 : decode cX5_steps 158 = .ok (.iastore, 1) := dk_79 (dk_at dksX5_steps_6 22 rfl rfl)
theorem dX5_steps_159 : decode cX5_steps 159 = .ok (.goto (-37), 3) := dk_167 255 219 (dk_at dksX5_steps_7 0 rfl rfl)
theorem dX5_steps_162 : decode cX5_steps 162 = .ok (.aload_n 0, 1) := dk_42 (dk_at dksX5_steps_7 3 rfl rfl)
theorem dX5_steps_163 : decode cX5_steps 163 = .ok (.getfield 141, 3) := dk_180 0 141 (dk_at dksX5_steps_7 4 rfl rfl)
theorem dX5_steps_166 : decode cX5_steps 166 = .ok (.iload_n 1, 1) := dk_27 (dk_at dksX5_steps_7 7 rfl rfl)
theorem dX5_steps_167 : decode cX5_steps 167 = .ok (.aload_n 0, 1) := dk_42 (dk_at dksX5_steps_7 8 rfl rfl)
theorem dX5_steps_168 : decode cX5_steps 168 = .ok (.getfield 144, 3) := dk_180 0 144 (dk_at dksX5_steps_7 9 rfl rfl)
theorem dX5_steps_171 : decode cX5_steps 171 = .ok (.iload_n 1, 1) := dk_27 (dk_at dksX5_steps_7 12 rfl rfl)
theorem dX5_steps_172 : decode cX5_steps 172 = .ok (.iaload, 1) := dk_46 (dk_at dksX5_steps_7 13 rfl rfl)
theorem dX5_steps_173 : decode cX5_steps 173 = .ok (.ifCond .ne 7, 3) := dk_154 0 7 (dk_at dksX5_steps_7 14 rfl rfl)
theorem dX5_steps_176 : decode cX5_steps 176 = .ok (.iconst 1, 1) := dk_4 (dk_at dksX5_steps_7 17 rfl rfl)
theorem dX5_steps_177 : decode cX5_steps 177 = .ok (.goto 4, 3) := dk_167 0 4 (dk_at dksX5_steps_7 18 rfl rfl)
theorem dX5_steps_180 : decode cX5_steps 180 = .ok (.iconst 0, 1) := dk_3 (dk_at dksX5_steps_7 21 rfl rfl)
theorem dX5_steps_181 : decode cX5_steps 181 = .ok (.bastore, 1) := dk_84 (dk_at dksX5_steps_7 22 rfl rfl)
theorem dX5_steps_182 : decode cX5_steps 182 = .ok (.aload_n 0, 1) := dk_42 (dk_at dksX5_steps_7 23 rfl rfl)
theorem dX5_steps_183 : decode cX5_steps 183 = .ok (.getfield 141, 3) := dk_180 0 141 (dk_at dksX5_steps_8 0 rfl rfl)
theorem dX5_steps_186 : decode cX5_steps 186 = .ok (.iload_n 1, 1) := dk_27 (dk_at dksX5_steps_8 3 rfl rfl)
theorem dX5_steps_187 : decode cX5_steps 187 = .ok (.baload, 1) := dk_51 (dk_at dksX5_steps_8 4 rfl rfl)
theorem dX5_steps_188 : decode cX5_steps 188 = .ok (.ifCond .ne 116, 3) := dk_154 0 116 (dk_at dksX5_steps_8 5 rfl rfl)
theorem dX5_steps_191 : decode cX5_steps 191 = .ok (.aload_n 0, 1) := dk_42 (dk_at dksX5_steps_8 8 rfl rfl)
theorem dX5_steps_192 : decode cX5_steps 192 = .ok (.getfield 153, 3) := dk_180 0 153 (dk_at dksX5_steps_8 9 rfl rfl)
theorem dX5_steps_195 : decode cX5_steps 195 = .ok (.iload_n 2, 1) := dk_28 (dk_at dksX5_steps_8 12 rfl rfl)
theorem dX5_steps_196 : decode cX5_steps 196 = .ok (.aload_n 0, 1) := dk_42 (dk_at dksX5_steps_8 13 rfl rfl)
theorem dX5_steps_197 : decode cX5_steps 197 = .ok (.getfield 144, 3) := dk_180 0 144 (dk_at dksX5_steps_8 14 rfl rfl)
theorem dX5_steps_200 : decode cX5_steps 200 = .ok (.iload_n 1, 1) := dk_27 (dk_at dksX5_steps_8 17 rfl rfl)
theorem dX5_steps_201 : decode cX5_steps 201 = .ok (.iaload, 1) := dk_46 (dk_at dksX5_steps_8 18 rfl rfl)
theorem dX5_steps_202 : decode cX5_steps 202 = .ok (.iadd, 1) := dk_96 (dk_at dksX5_steps_8 19 rfl rfl)
theorem dX5_steps_203 : decode cX5_steps 203 = .ok (.iconst 1, 1) := dk_4 (dk_at dksX5_steps_8 20 rfl rfl)
theorem dX5_steps_204 : decode cX5_steps 204 = .ok (.isub, 1) := dk_100 (dk_at dksX5_steps_8 21 rfl rfl)
theorem dX5_steps_205 : decode cX5_steps 205 = .ok (.iconst 0, 1) := dk_3 (dk_at dksX5_steps_8 22 rfl rfl)
theorem dX5_steps_206 : decode cX5_steps 206 = .ok (.bastore, 1) := dk_84 (dk_at dksX5_steps_8 23 rfl rfl)
theorem dX5_steps_207 : decode cX5_steps 207 = .ok (.goto 97, 3) := dk_167 0 97 (dk_at dksX5_steps_9 0 rfl rfl)
theorem dX5_steps_210 : decode cX5_steps 210 = .ok (.aload_n 0, 1) := dk_42 (dk_at dksX5_steps_9 3 rfl rfl)
theorem dX5_steps_211 : decode cX5_steps 211 = .ok (.iconst 0, 1) := dk_3 (dk_at dksX5_steps_9 4 rfl rfl)
theorem dX5_steps_212 : decode cX5_steps 212 = .ok (.aload_n 0, 1) := dk_42 (dk_at dksX5_steps_9 5 rfl rfl)
theorem dX5_steps_213 : decode cX5_steps 213 = .ok (.getfield 135, 3) := dk_180 0 135 (dk_at dksX5_steps_9 6 rfl rfl)
theorem dX5_steps_216 : decode cX5_steps 216 = .ok (.iload_n 1, 1) := dk_27 (dk_at dksX5_steps_9 9 rfl rfl)
theorem dX5_steps_217 : decode cX5_steps 217 = .ok (.iaload, 1) := dk_46 (dk_at dksX5_steps_9 10 rfl rfl)
theorem dX5_steps_218 : decode cX5_steps 218 = .ok (.invokevirtual 439, 3) := dk_182 1 183 (dk_at dksX5_steps_9 11 rfl rfl)
theorem dX5_steps_221 : decode cX5_steps 221 = .ok (.istore_n 3, 1) := dk_62 (dk_at dksX5_steps_9 14 rfl rfl)
theorem dX5_steps_222 : decode cX5_steps 222 = .ok (.aload_n 0, 1) := dk_42 (dk_at dksX5_steps_9 15 rfl rfl)
theorem dX5_steps_223 : decode cX5_steps 223 = .ok (.getfield 147, 3) := dk_180 0 147 (dk_at dksX5_steps_9 16 rfl rfl)
theorem dX5_steps_226 : decode cX5_steps 226 = .ok (.iload_n 2, 1) := dk_28 (dk_at dksX5_steps_9 19 rfl rfl)
theorem dX5_steps_227 : decode cX5_steps 227 = .ok (.aload_n 0, 1) := dk_42 (dk_at dksX5_steps_9 20 rfl rfl)
theorem dX5_steps_228 : decode cX5_steps 228 = .ok (.getfield 144, 3) := dk_180 0 144 (dk_at dksX5_steps_9 21 rfl rfl)
theorem dX5_steps_231 : decode cX5_steps 231 = .ok (.iload_n 1, 1) := dk_27 (dk_at dksX5_steps_10 0 rfl rfl)
theorem dX5_steps_232 : decode cX5_steps 232 = .ok (.iaload, 1) := dk_46 (dk_at dksX5_steps_10 1 rfl rfl)
theorem dX5_steps_233 : decode cX5_steps 233 = .ok (.iadd, 1) := dk_96 (dk_at dksX5_steps_10 2 rfl rfl)
theorem dX5_steps_234 : decode cX5_steps 234 = .ok (.iload_n 3, 1) := dk_29 (dk_at dksX5_steps_10 3 rfl rfl)
theorem dX5_steps_235 : decode cX5_steps 235 = .ok (.iastore, 1) := dk_79 (dk_at dksX5_steps_10 4 rfl rfl)
theorem dX5_steps_236 : decode cX5_steps 236 = .ok (.aload_n 0, 1) := dk_42 (dk_at dksX5_steps_10 5 rfl rfl)
theorem dX5_steps_237 : decode cX5_steps 237 = .ok (.getfield 150, 3) := dk_180 0 150 (dk_at dksX5_steps_10 6 rfl rfl)
theorem dX5_steps_240 : decode cX5_steps 240 = .ok (.iload_n 2, 1) := dk_28 (dk_at dksX5_steps_10 9 rfl rfl)
theorem dX5_steps_241 : decode cX5_steps 241 = .ok (.aload_n 0, 1) := dk_42 (dk_at dksX5_steps_10 10 rfl rfl)
theorem dX5_steps_242 : decode cX5_steps 242 = .ok (.getfield 144, 3) := dk_180 0 144 (dk_at dksX5_steps_10 11 rfl rfl)
theorem dX5_steps_245 : decode cX5_steps 245 = .ok (.iload_n 1, 1) := dk_27 (dk_at dksX5_steps_10 14 rfl rfl)
theorem dX5_steps_246 : decode cX5_steps 246 = .ok (.iaload, 1) := dk_46 (dk_at dksX5_steps_10 15 rfl rfl)
theorem dX5_steps_247 : decode cX5_steps 247 = .ok (.iadd, 1) := dk_96 (dk_at dksX5_steps_10 16 rfl rfl)
theorem dX5_steps_248 : decode cX5_steps 248 = .ok (.aload_n 0, 1) := dk_42 (dk_at dksX5_steps_10 17 rfl rfl)
theorem dX5_steps_249 : decode cX5_steps 249 = .ok (.getfield 138, 3) := dk_180 0 138 (dk_at dksX5_steps_10 18 rfl rfl)
theorem dX5_steps_252 : decode cX5_steps 252 = .ok (.iload_n 1, 1) := dk_27 (dk_at dksX5_steps_10 21 rfl rfl)
theorem dX5_steps_253 : decode cX5_steps 253 = .ok (.iaload, 1) := dk_46 (dk_at dksX5_steps_10 22 rfl rfl)
theorem dX5_steps_254 : decode cX5_steps 254 = .ok (.iconst 1, 1) := dk_4 (dk_at dksX5_steps_10 23 rfl rfl)
theorem dX5_steps_255 : decode cX5_steps 255 = .ok (.if_icmp .ne 15, 3) := dk_160 0 15 (dk_at dksX5_steps_11 0 rfl rfl)
theorem dX5_steps_258 : decode cX5_steps 258 = .ok (.aload_n 0, 1) := dk_42 (dk_at dksX5_steps_11 3 rfl rfl)
theorem dX5_steps_259 : decode cX5_steps 259 = .ok (.getfield 90, 3) := dk_180 0 90 (dk_at dksX5_steps_11 4 rfl rfl)
theorem dX5_steps_262 : decode cX5_steps 262 = .ok (.iload_n 3, 1) := dk_29 (dk_at dksX5_steps_11 7 rfl rfl)
theorem dX5_steps_263 : decode cX5_steps 263 = .ok (.iaload, 1) := dk_46 (dk_at dksX5_steps_11 8 rfl rfl)
theorem dX5_steps_264 : decode cX5_steps 264 = .ok (.invokestatic 196, 3) := dk_184 0 196 (dk_at dksX5_steps_11 9 rfl rfl)
theorem dX5_steps_267 : decode cX5_steps 267 = .ok (.goto 12, 3) := dk_167 0 12 (dk_at dksX5_steps_11 12 rfl rfl)
theorem dX5_steps_270 : decode cX5_steps 270 = .ok (.aload_n 0, 1) := dk_42 (dk_at dksX5_steps_11 15 rfl rfl)
theorem dX5_steps_271 : decode cX5_steps 271 = .ok (.getfield 90, 3) := dk_180 0 90 (dk_at dksX5_steps_11 16 rfl rfl)
theorem dX5_steps_274 : decode cX5_steps 274 = .ok (.iload_n 3, 1) := dk_29 (dk_at dksX5_steps_11 19 rfl rfl)
theorem dX5_steps_275 : decode cX5_steps 275 = .ok (.iaload, 1) := dk_46 (dk_at dksX5_steps_11 20 rfl rfl)
theorem dX5_steps_276 : decode cX5_steps 276 = .ok (.invokestatic 199, 3) := dk_184 0 199 (dk_at dksX5_steps_11 21 rfl rfl)
theorem dX5_steps_279 : decode cX5_steps 279 = .ok (.iastore, 1) := dk_79 (dk_at dksX5_steps_12 0 rfl rfl)
theorem dX5_steps_280 : decode cX5_steps 280 = .ok (.aload_n 0, 1) := dk_42 (dk_at dksX5_steps_12 1 rfl rfl)
theorem dX5_steps_281 : decode cX5_steps 281 = .ok (.getfield 153, 3) := dk_180 0 153 (dk_at dksX5_steps_12 2 rfl rfl)
theorem dX5_steps_284 : decode cX5_steps 284 = .ok (.iload_n 2, 1) := dk_28 (dk_at dksX5_steps_12 5 rfl rfl)
theorem dX5_steps_285 : decode cX5_steps 285 = .ok (.aload_n 0, 1) := dk_42 (dk_at dksX5_steps_12 6 rfl rfl)
theorem dX5_steps_286 : decode cX5_steps 286 = .ok (.getfield 144, 3) := dk_180 0 144 (dk_at dksX5_steps_12 7 rfl rfl)
theorem dX5_steps_289 : decode cX5_steps 289 = .ok (.iload_n 1, 1) := dk_27 (dk_at dksX5_steps_12 10 rfl rfl)
theorem dX5_steps_290 : decode cX5_steps 290 = .ok (.iaload, 1) := dk_46 (dk_at dksX5_steps_12 11 rfl rfl)
theorem dX5_steps_291 : decode cX5_steps 291 = .ok (.iadd, 1) := dk_96 (dk_at dksX5_steps_12 12 rfl rfl)
theorem dX5_steps_292 : decode cX5_steps 292 = .ok (.iconst 1, 1) := dk_4 (dk_at dksX5_steps_12 13 rfl rfl)
theorem dX5_steps_293 : decode cX5_steps 293 = .ok (.bastore, 1) := dk_84 (dk_at dksX5_steps_12 14 rfl rfl)
theorem dX5_steps_294 : decode cX5_steps 294 = .ok (.aload_n 0, 1) := dk_42 (dk_at dksX5_steps_12 15 rfl rfl)
theorem dX5_steps_295 : decode cX5_steps 295 = .ok (.getfield 144, 3) := dk_180 0 144 (dk_at dksX5_steps_12 16 rfl rfl)
theorem dX5_steps_298 : decode cX5_steps 298 = .ok (.iload_n 1, 1) := dk_27 (dk_at dksX5_steps_12 19 rfl rfl)
theorem dX5_steps_299 : decode cX5_steps 299 = .ok (.dup2, 1) := dk_92 (dk_at dksX5_steps_12 20 rfl rfl)
theorem dX5_steps_300 : decode cX5_steps 300 = .ok (.iaload, 1) := dk_46 (dk_at dksX5_steps_12 21 rfl rfl)
theorem dX5_steps_301 : decode cX5_steps 301 = .ok (.iconst 1, 1) := dk_4 (dk_at dksX5_steps_12 22 rfl rfl)
theorem dX5_steps_302 : decode cX5_steps 302 = .ok (.iadd, 1) := dk_96 (dk_at dksX5_steps_12 23 rfl rfl)
theorem dX5_steps_303 : decode cX5_steps 303 = .ok (.iastore, 1) := dk_79 (dk_at dksX5_steps_13 0 rfl rfl)
theorem dX5_steps_304 : decode cX5_steps 304 = .ok (.return_, 1) := dk_177 (dk_at dksX5_steps_13 1 rfl rfl)
def dkwX5_best_0 : List UInt8 := [42, 3, 181, 0, 174, 42, 180, 0, 132, 156, 0, 7, 2, 167, 0, 7, 42, 180, 1, 197, 172]
abbrev dktX5_best_0 : List UInt8 := dkwX5_best_0 ++ []
theorem dksX5_best_0 : cX5_best.data.toList.drop 0 = dktX5_best_0 := by decide +kernel
theorem dX5_best_0 : decode cX5_best 0 = .ok (.aload_n 0, 1) := dk_42 (dk_at dksX5_best_0 0 rfl rfl)
theorem dX5_best_1 : decode cX5_best 1 = .ok (.iconst 0, 1) := dk_3 (dk_at dksX5_best_0 1 rfl rfl)
theorem dX5_best_2 : decode cX5_best 2 = .ok (.putfield 174, 3) := dk_181 0 174 (dk_at dksX5_best_0 2 rfl rfl)
theorem dX5_best_5 : decode cX5_best 5 = .ok (.aload_n 0, 1) := dk_42 (dk_at dksX5_best_0 5 rfl rfl)
theorem dX5_best_6 : decode cX5_best 6 = .ok (.getfield 132, 3) := dk_180 0 132 (dk_at dksX5_best_0 6 rfl rfl)
theorem dX5_best_9 : decode cX5_best 9 = .ok (.ifCond .ge 7, 3) := dk_156 0 7 (dk_at dksX5_best_0 9 rfl rfl)
theorem dX5_best_12 : decode cX5_best 12 = .ok (.iconst (-1), 1) := dk_2 (dk_at dksX5_best_0 12 rfl rfl)
theorem dX5_best_13 : decode cX5_best 13 = .ok (.goto 7, 3) := dk_167 0 7 (dk_at dksX5_best_0 13 rfl rfl)
theorem dX5_best_16 : decode cX5_best 16 = .ok (.aload_n 0, 1) := dk_42 (dk_at dksX5_best_0 16 rfl rfl)
theorem dX5_best_17 : decode cX5_best 17 = .ok (.getfield 453, 3) := dk_180 1 197 (dk_at dksX5_best_0 17 rfl rfl)
theorem dX5_best_20 : decode cX5_best 20 = .ok (.ireturn, 1) := dk_172 (dk_at dksX5_best_0 20 rfl rfl)
def dkwX5_tree_1 : List UInt8 := [158, 0, 7, 3, 167, 0, 10, 42, 3, 2, 2, 182, 1, 203, 172]
abbrev dktX5_tree_1 : List UInt8 := dkwX5_tree_1 ++ []
def dkwX5_tree_0 : List UInt8 := [42, 42, 180, 1, 144, 16, 16, 160, 0, 7, 4, 167, 0, 4, 3, 181, 0, 174, 42, 180, 0, 174]
abbrev dktX5_tree_0 : List UInt8 := dkwX5_tree_0 ++ dktX5_tree_1
theorem dksX5_tree_0 : cX5_tree.data.toList.drop 0 = dktX5_tree_0 := by decide +kernel
theorem dksX5_tree_1 : cX5_tree.data.toList.drop 22 = dktX5_tree_1 := dk_seg dksX5_tree_0 22 rfl rfl
theorem dX5_tree_0 : decode cX5_tree 0 = .ok (.aload_n 0, 1) := dk_42 (dk_at dksX5_tree_0 0 rfl rfl)
theorem dX5_tree_1 : decode cX5_tree 1 = .ok (.aload_n 0, 1) := dk_42 (dk_at dksX5_tree_0 1 rfl rfl)
theorem dX5_tree_2 : decode cX5_tree 2 = .ok (.getfield 400, 3) := dk_180 1 144 (dk_at dksX5_tree_0 2 rfl rfl)
theorem dX5_tree_5 : decode cX5_tree 5 = .ok (.bipush 16, 2) := dk_16 16 (dk_at dksX5_tree_0 5 rfl rfl)
theorem dX5_tree_7 : decode cX5_tree 7 = .ok (.if_icmp .ne 7, 3) := dk_160 0 7 (dk_at dksX5_tree_0 7 rfl rfl)
theorem dX5_tree_10 : decode cX5_tree 10 = .ok (.iconst 1, 1) := dk_4 (dk_at dksX5_tree_0 10 rfl rfl)
theorem dX5_tree_11 : decode cX5_tree 11 = .ok (.goto 4, 3) := dk_167 0 4 (dk_at dksX5_tree_0 11 rfl rfl)
theorem dX5_tree_14 : decode cX5_tree 14 = .ok (.iconst 0, 1) := dk_3 (dk_at dksX5_tree_0 14 rfl rfl)
theorem dX5_tree_15 : decode cX5_tree 15 = .ok (.putfield 174, 3) := dk_181 0 174 (dk_at dksX5_tree_0 15 rfl rfl)
theorem dX5_tree_18 : decode cX5_tree 18 = .ok (.aload_n 0, 1) := dk_42 (dk_at dksX5_tree_0 18 rfl rfl)
theorem dX5_tree_19 : decode cX5_tree 19 = .ok (.getfield 174, 3) := dk_180 0 174 (dk_at dksX5_tree_0 19 rfl rfl)
theorem dX5_tree_22 : decode cX5_tree 22 = .ok (.ifCond .le 7, 3) := dk_158 0 7 (dk_at dksX5_tree_1 0 rfl rfl)
theorem dX5_tree_25 : decode cX5_tree 25 = .ok (.iconst 0, 1) := dk_3 (dk_at dksX5_tree_1 3 rfl rfl)
theorem dX5_tree_26 : decode cX5_tree 26 = .ok (.goto 10, 3) := dk_167 0 10 (dk_at dksX5_tree_1 4 rfl rfl)
theorem dX5_tree_29 : decode cX5_tree 29 = .ok (.aload_n 0, 1) := dk_42 (dk_at dksX5_tree_1 7 rfl rfl)
theorem dX5_tree_30 : decode cX5_tree 30 = .ok (.iconst 0, 1) := dk_3 (dk_at dksX5_tree_1 8 rfl rfl)
theorem dX5_tree_31 : decode cX5_tree 31 = .ok (.iconst (-1), 1) := dk_2 (dk_at dksX5_tree_1 9 rfl rfl)
theorem dX5_tree_32 : decode cX5_tree 32 = .ok (.iconst (-1), 1) := dk_2 (dk_at dksX5_tree_1 10 rfl rfl)
theorem dX5_tree_33 : decode cX5_tree 33 = .ok (.invokevirtual 459, 3) := dk_182 1 203 (dk_at dksX5_tree_1 11 rfl rfl)
theorem dX5_tree_36 : decode cX5_tree 36 = .ok (.ireturn, 1) := dk_172 (dk_at dksX5_tree_1 14 rfl rfl)
def dkwX5_addsTree_2 : List UInt8 := [79, 42, 89, 180, 1, 144, 4, 96, 181, 1, 144, 42, 180, 1, 144, 4, 100, 172]
abbrev dktX5_addsTree_2 : List UInt8 := dkwX5_addsTree_2 ++ []
def dkwX5_addsTree_1 : List UInt8 := [180, 0, 162, 5, 42, 180, 1, 144, 104, 28, 79, 42, 180, 0, 162, 5, 42, 180, 1, 144, 104, 4, 96, 29]
abbrev dktX5_addsTree_1 : List UInt8 := dkwX5_addsTree_1 ++ dktX5_addsTree_2
def dkwX5_addsTree_0 : List UInt8 := [42, 180, 0, 156, 42, 180, 1, 144, 42, 180, 1, 144, 79, 42, 180, 0, 159, 42, 180, 1, 144, 27, 79, 42]
abbrev dktX5_addsTree_0 : List UInt8 := dkwX5_addsTree_0 ++ dktX5_addsTree_1
theorem dksX5_addsTree_0 : cX5_addsTree.data.toList.drop 0 = dktX5_addsTree_0 := by decide +kernel
theorem dksX5_addsTree_1 : cX5_addsTree.data.toList.drop 24 = dktX5_addsTree_1 := dk_seg dksX5_addsTree_0 24 rfl rfl
theorem dksX5_addsTree_2 : cX5_addsTree.data.toList.drop 48 = dktX5_addsTree_2 := dk_seg dksX5_addsTree_1 24 rfl rfl
theorem dX5_addsTree_0 : decode cX5_addsTree 0 = .ok (.aload_n 0, 1) := dk_42 (dk_at dksX5_addsTree_0 0 rfl rfl)
theorem dX5_addsTree_1 : decode cX5_addsTree 1 = .ok (.getfield 156, 3) := dk_180 0 156 (dk_at dksX5_addsTree_0 1 rfl rfl)
theorem dX5_addsTree_4 : decode cX5_addsTree 4 = .ok (.aload_n 0, 1) := dk_42 (dk_at dksX5_addsTree_0 4 rfl rfl)
theorem dX5_addsTree_5 : decode cX5_addsTree 5 = .ok (.getfield 400, 3) := dk_180 1 144 (dk_at dksX5_addsTree_0 5 rfl rfl)
theorem dX5_addsTree_8 : decode cX5_addsTree 8 = .ok (.aload_n 0, 1) := dk_42 (dk_at dksX5_addsTree_0 8 rfl rfl)
theorem dX5_addsTree_9 : decode cX5_addsTree 9 = .ok (.getfield 400, 3) := dk_180 1 144 (dk_at dksX5_addsTree_0 9 rfl rfl)
theorem dX5_addsTree_12 : decode cX5_addsTree 12 = .ok (.iastore, 1) := dk_79 (dk_at dksX5_addsTree_0 12 rfl rfl)
theorem dX5_addsTree_13 : decode cX5_addsTree 13 = .ok (.aload_n 0, 1) := dk_42 (dk_at dksX5_addsTree_0 13 rfl rfl)
theorem dX5_addsTree_14 : decode cX5_addsTree 14 = .ok (.getfield 159, 3) := dk_180 0 159 (dk_at dksX5_addsTree_0 14 rfl rfl)
theorem dX5_addsTree_17 : decode cX5_addsTree 17 = .ok (.aload_n 0, 1) := dk_42 (dk_at dksX5_addsTree_0 17 rfl rfl)
theorem dX5_addsTree_18 : decode cX5_addsTree 18 = .ok (.getfield 400, 3) := dk_180 1 144 (dk_at dksX5_addsTree_0 18 rfl rfl)
theorem dX5_addsTree_21 : decode cX5_addsTree 21 = .ok (.iload_n 1, 1) := dk_27 (dk_at dksX5_addsTree_0 21 rfl rfl)
theorem dX5_addsTree_22 : decode cX5_addsTree 22 = .ok (.iastore, 1) := dk_79 (dk_at dksX5_addsTree_0 22 rfl rfl)
theorem dX5_addsTree_23 : decode cX5_addsTree 23 = .ok (.aload_n 0, 1) := dk_42 (dk_at dksX5_addsTree_0 23 rfl rfl)
theorem dX5_addsTree_24 : decode cX5_addsTree 24 = .ok (.getfield 162, 3) := dk_180 0 162 (dk_at dksX5_addsTree_1 0 rfl rfl)
theorem dX5_addsTree_27 : decode cX5_addsTree 27 = .ok (.iconst 2, 1) := dk_5 (dk_at dksX5_addsTree_1 3 rfl rfl)
theorem dX5_addsTree_28 : decode cX5_addsTree 28 = .ok (.aload_n 0, 1) := dk_42 (dk_at dksX5_addsTree_1 4 rfl rfl)
theorem dX5_addsTree_29 : decode cX5_addsTree 29 = .ok (.getfield 400, 3) := dk_180 1 144 (dk_at dksX5_addsTree_1 5 rfl rfl)
theorem dX5_addsTree_32 : decode cX5_addsTree 32 = .ok (.imul, 1) := dk_104 (dk_at dksX5_addsTree_1 8 rfl rfl)
theorem dX5_addsTree_33 : decode cX5_addsTree 33 = .ok (.iload_n 2, 1) := dk_28 (dk_at dksX5_addsTree_1 9 rfl rfl)
theorem dX5_addsTree_34 : decode cX5_addsTree 34 = .ok (.iastore, 1) := dk_79 (dk_at dksX5_addsTree_1 10 rfl rfl)
theorem dX5_addsTree_35 : decode cX5_addsTree 35 = .ok (.aload_n 0, 1) := dk_42 (dk_at dksX5_addsTree_1 11 rfl rfl)
theorem dX5_addsTree_36 : decode cX5_addsTree 36 = .ok (.getfield 162, 3) := dk_180 0 162 (dk_at dksX5_addsTree_1 12 rfl rfl)
theorem dX5_addsTree_39 : decode cX5_addsTree 39 = .ok (.iconst 2, 1) := dk_5 (dk_at dksX5_addsTree_1 15 rfl rfl)
theorem dX5_addsTree_40 : decode cX5_addsTree 40 = .ok (.aload_n 0, 1) := dk_42 (dk_at dksX5_addsTree_1 16 rfl rfl)
theorem dX5_addsTree_41 : decode cX5_addsTree 41 = .ok (.getfield 400, 3) := dk_180 1 144 (dk_at dksX5_addsTree_1 17 rfl rfl)
theorem dX5_addsTree_44 : decode cX5_addsTree 44 = .ok (.imul, 1) := dk_104 (dk_at dksX5_addsTree_1 20 rfl rfl)
theorem dX5_addsTree_45 : decode cX5_addsTree 45 = .ok (.iconst 1, 1) := dk_4 (dk_at dksX5_addsTree_1 21 rfl rfl)
theorem dX5_addsTree_46 : decode cX5_addsTree 46 = .ok (.iadd, 1) := dk_96 (dk_at dksX5_addsTree_1 22 rfl rfl)
theorem dX5_addsTree_47 : decode cX5_addsTree 47 = .ok (.iload_n 3, 1) := dk_29 (dk_at dksX5_addsTree_1 23 rfl rfl)
theorem dX5_addsTree_48 : decode cX5_addsTree 48 = .ok (.iastore, 1) := dk_79 (dk_at dksX5_addsTree_2 0 rfl rfl)
theorem dX5_addsTree_49 : decode cX5_addsTree 49 = .ok (.aload_n 0, 1) := dk_42 (dk_at dksX5_addsTree_2 1 rfl rfl)
theorem dX5_addsTree_50 : decode cX5_addsTree 50 = .ok (.dup, 1) := dk_89 (dk_at dksX5_addsTree_2 2 rfl rfl)
theorem dX5_addsTree_51 : decode cX5_addsTree 51 = .ok (.getfield 400, 3) := dk_180 1 144 (dk_at dksX5_addsTree_2 3 rfl rfl)
theorem dX5_addsTree_54 : decode cX5_addsTree 54 = .ok (.iconst 1, 1) := dk_4 (dk_at dksX5_addsTree_2 6 rfl rfl)
theorem dX5_addsTree_55 : decode cX5_addsTree 55 = .ok (.iadd, 1) := dk_96 (dk_at dksX5_addsTree_2 7 rfl rfl)
theorem dX5_addsTree_56 : decode cX5_addsTree 56 = .ok (.putfield 400, 3) := dk_181 1 144 (dk_at dksX5_addsTree_2 8 rfl rfl)
theorem dX5_addsTree_59 : decode cX5_addsTree 59 = .ok (.aload_n 0, 1) := dk_42 (dk_at dksX5_addsTree_2 11 rfl rfl)
theorem dX5_addsTree_60 : decode cX5_addsTree 60 = .ok (.getfield 400, 3) := dk_180 1 144 (dk_at dksX5_addsTree_2 12 rfl rfl)
theorem dX5_addsTree_63 : decode cX5_addsTree 63 = .ok (.iconst 1, 1) := dk_4 (dk_at dksX5_addsTree_2 15 rfl rfl)
theorem dX5_addsTree_64 : decode cX5_addsTree 64 = .ok (.isub, 1) := dk_100 (dk_at dksX5_addsTree_2 16 rfl rfl)
theorem dX5_addsTree_65 : decode cX5_addsTree 65 = .ok (.ireturn, 1) := dk_172 (dk_at dksX5_addsTree_2 17 rfl rfl)
def dkwX5_term_5 : List UInt8 := [158, 0, 7, 3, 167, 0, 12, 42, 27, 4, 96, 28, 29, 182, 1, 203, 172]
abbrev dktX5_term_5 : List UInt8 := dkwX5_term_5 ++ []
def dkwX5_term_4 : List UInt8 := [167, 0, 17, 42, 180, 1, 144, 16, 16, 160, 0, 7, 6, 167, 0, 4, 3, 181, 0, 174, 42, 180, 0, 174]
abbrev dktX5_term_4 : List UInt8 := dkwX5_term_4 ++ dktX5_term_5
def dkwX5_term_3 : List UInt8 := [154, 0, 7, 5, 167, 0, 35, 21, 5, 154, 0, 7, 4, 167, 0, 26, 21, 6, 154, 0, 7, 5]
abbrev dktX5_term_3 : List UInt8 := dkwX5_term_3 ++ dktX5_term_4
def dkwX5_term_2 : List UInt8 := [2, 160, 0, 17, 27, 6, 163, 0, 8, 29, 2, 160, 0, 7, 4, 167, 0, 4, 3, 54, 6, 42, 21, 4]
abbrev dktX5_term_2 : List UInt8 := dkwX5_term_2 ++ dktX5_term_3
def dkwX5_term_1 : List UInt8 := [161, 0, 11, 42, 29, 182, 1, 147, 153, 0, 7, 4, 167, 0, 4, 3, 54, 5, 27, 4, 163, 0, 8, 28]
abbrev dktX5_term_1 : List UInt8 := dkwX5_term_1 ++ dktX5_term_2
def dkwX5_term_0 : List UInt8 := [27, 3, 8, 184, 0, 180, 54, 4, 27, 5, 161, 0, 24, 42, 28, 182, 1, 147, 153, 0, 20, 27, 7]
abbrev dktX5_term_0 : List UInt8 := dkwX5_term_0 ++ dktX5_term_1
theorem dksX5_term_0 : cX5_term.data.toList.drop 0 = dktX5_term_0 := by decide +kernel
theorem dksX5_term_1 : cX5_term.data.toList.drop 23 = dktX5_term_1 := dk_seg dksX5_term_0 23 rfl rfl
theorem dksX5_term_2 : cX5_term.data.toList.drop 47 = dktX5_term_2 := dk_seg dksX5_term_1 24 rfl rfl
theorem dksX5_term_3 : cX5_term.data.toList.drop 71 = dktX5_term_3 := dk_seg dksX5_term_2 24 rfl rfl
theorem dksX5_term_4 : cX5_term.data.toList.drop 93 = dktX5_term_4 := dk_seg dksX5_term_3 22 rfl rfl
theorem dksX5_term_5 : cX5_term.data.toList.drop 117 = dktX5_term_5 := dk_seg dksX5_term_4 24 rfl rfl
theorem dX5_term_0 : decode cX5_term 0 = .ok (.iload_n 1, 1) := dk_27 (dk_at dksX5_term_0 0 rfl rfl)
theorem dX5_term_1 : decode cX5_term 1 = .ok (.iconst 0, 1) := dk_3 (dk_at dksX5_term_0 1 rfl rfl)
theorem dX5_term_2 : decode cX5_term 2 = .ok (.iconst 5, 1) := dk_8 (dk_at dksX5_term_0 2 rfl rfl)
theorem dX5_term_3 : decode cX5_term 3 = .ok (.invokestatic 180, 3) := dk_184 0 180 (dk_at dksX5_term_0 3 rfl rfl)
theorem dX5_term_6 : decode cX5_term 6 = .ok (.istore 4, 2) := dk_54 4 (dk_at dksX5_term_0 6 rfl rfl)
theorem dX5_term_8 : decode cX5_term 8 = .ok (.iload_n 1, 1) := dk_27 (dk_at dksX5_term_0 8 rfl rfl)
theorem dX5_term_9 : decode cX5_term 9 = .ok (.iconst 2, 1) := dk_5 (dk_at dksX5_term_0 9 rfl rfl)
theorem dX5_term_10 : decode cX5_term 10 = .ok (.if_icmp .lt 24, 3) := dk_161 0 24 (dk_at dksX5_term_0 10 rfl rfl)
theorem dX5_term_13 : decode cX5_term 13 = .ok (.aload_n 0, 1) := dk_42 (dk_at dksX5_term_0 13 rfl rfl)
theorem dX5_term_14 : decode cX5_term 14 = .ok (.iload_n 2, 1) := dk_28 (dk_at dksX5_term_0 14 rfl rfl)
theorem dX5_term_15 : decode cX5_term 15 = .ok (.invokevirtual 403, 3) := dk_182 1 147 (dk_at dksX5_term_0 15 rfl rfl)
theorem dX5_term_18 : decode cX5_term 18 = .ok (.ifCond .eq 20, 3) := dk_153 0 20 (dk_at dksX5_term_0 18 rfl rfl)
theorem dX5_term_21 : decode cX5_term 21 = .ok (.iload_n 1, 1) := dk_27 (dk_at dksX5_term_0 21 rfl rfl)
theorem dX5_term_22 : decode cX5_term 22 = .ok (.iconst 4, 1) := dk_7 (dk_at dksX5_term_0 22 rfl rfl)
theorem dX5_term_23 : decode cX5_term 23 = .ok (.if_icmp .lt 11, 3) := dk_161 0 11 (dk_at dksX5_term_1 0 rfl rfl)
theorem dX5_term_26 : decode cX5_term 26 = .ok (.aload_n 0, 1) := dk_42 (dk_at dksX5_term_1 3 rfl rfl)
theorem dX5_term_27 : decode cX5_term 27 = .ok (.iload_n 3, 1) := dk_29 (dk_at dksX5_term_1 4 rfl rfl)
theorem dX5_term_28 : decode cX5_term 28 = .ok (.invokevirtual 403, 3) := dk_182 1 147 (dk_at dksX5_term_1 5 rfl rfl)
theorem dX5_term_31 : decode cX5_term 31 = .ok (.ifCond .eq 7, 3) := dk_153 0 7 (dk_at dksX5_term_1 8 rfl rfl)
theorem dX5_term_34 : decode cX5_term 34 = .ok (.iconst 1, 1) := dk_4 (dk_at dksX5_term_1 11 rfl rfl)
theorem dX5_term_35 : decode cX5_term 35 = .ok (.goto 4, 3) := dk_167 0 4 (dk_at dksX5_term_1 12 rfl rfl)
theorem dX5_term_38 : decode cX5_term 38 = .ok (.iconst 0, 1) := dk_3 (dk_at dksX5_term_1 15 rfl rfl)
theorem dX5_term_39 : decode cX5_term 39 = .ok (.istore 5, 2) := dk_54 5 (dk_at dksX5_term_1 16 rfl rfl)
theorem dX5_term_41 : decode cX5_term 41 = .ok (.iload_n 1, 1) := dk_27 (dk_at dksX5_term_1 18 rfl rfl)
theorem dX5_term_42 : decode cX5_term 42 = .ok (.iconst 1, 1) := dk_4 (dk_at dksX5_term_1 19 rfl rfl)
theorem dX5_term_43 : decode cX5_term 43 = .ok (.if_icmp .gt 8, 3) := dk_163 0 8 (dk_at dksX5_term_1 20 rfl rfl)
theorem dX5_term_46 : decode cX5_term 46 = .ok (.iload_n 2, 1) := dk_28 (dk_at dksX5_term_1 23 rfl rfl)
theorem dX5_term_47 : decode cX5_term 47 = .ok (.iconst (-1), 1) := dk_2 (dk_at dksX5_term_2 0 rfl rfl)
theorem dX5_term_48 : decode cX5_term 48 = .ok (.if_icmp .ne 17, 3) := dk_160 0 17 (dk_at dksX5_term_2 1 rfl rfl)
theorem dX5_term_51 : decode cX5_term 51 = .ok (.iload_n 1, 1) := dk_27 (dk_at dksX5_term_2 4 rfl rfl)
theorem dX5_term_52 : decode cX5_term 52 = .ok (.iconst 3, 1) := dk_6 (dk_at dksX5_term_2 5 rfl rfl)
theorem dX5_term_53 : decode cX5_term 53 = .ok (.if_icmp .gt 8, 3) := dk_163 0 8 (dk_at dksX5_term_2 6 rfl rfl)
theorem dX5_term_56 : decode cX5_term 56 = .ok (.iload_n 3, 1) := dk_29 (dk_at dksX5_term_2 9 rfl rfl)
theorem dX5_term_57 : decode cX5_term 57 = .ok (.iconst (-1), 1) := dk_2 (dk_at dksX5_term_2 10 rfl rfl)
theorem dX5_term_58 : decode cX5_term 58 = .ok (.if_icmp .ne 7, 3) := dk_160 0 7 (dk_at dksX5_term_2 11 rfl rfl)
theorem dX5_term_61 : decode cX5_term 61 = .ok (.iconst 1, 1) := dk_4 (dk_at dksX5_term_2 14 rfl rfl)
theorem dX5_term_62 : decode cX5_term 62 = .ok (.goto 4, 3) := dk_167 0 4 (dk_at dksX5_term_2 15 rfl rfl)
theorem dX5_term_65 : decode cX5_term 65 = .ok (.iconst 0, 1) := dk_3 (dk_at dksX5_term_2 18 rfl rfl)
theorem dX5_term_66 : decode cX5_term 66 = .ok (.istore 6, 2) := dk_54 6 (dk_at dksX5_term_2 19 rfl rfl)
theorem dX5_term_68 : decode cX5_term 68 = .ok (.aload_n 0, 1) := dk_42 (dk_at dksX5_term_2 21 rfl rfl)
theorem dX5_term_69 : decode cX5_term 69 = .ok (.iload 4, 2) := dk_21 4 (dk_at dksX5_term_2 22 rfl rfl)
theorem dX5_term_71 : decode cX5_term 71 = .ok (.ifCond .ne 7, 3) := dk_154 0 7 (dk_at dksX5_term_3 0 rfl rfl)
theorem dX5_term_74 : decode cX5_term 74 = .ok (.iconst 2, 1) := dk_5 (dk_at dksX5_term_3 3 rfl rfl)
theorem dX5_term_75 : decode cX5_term 75 = .ok (.goto 35, 3) := dk_167 0 35 (dk_at dksX5_term_3 4 rfl rfl)
theorem dX5_term_78 : decode cX5_term 78 = .ok (.iload 5, 2) := dk_21 5 (dk_at dksX5_term_3 7 rfl rfl)
theorem dX5_term_80 : decode cX5_term 80 = .ok (.ifCond .ne 7, 3) := dk_154 0 7 (dk_at dksX5_term_3 9 rfl rfl)
theorem dX5_term_83 : decode cX5_term 83 = .ok (.iconst 1, 1) := dk_4 (dk_at dksX5_term_3 12 rfl rfl)
theorem dX5_term_84 : decode cX5_term 84 = .ok (.goto 26, 3) := dk_167 0 26 (dk_at dksX5_term_3 13 rfl rfl)
theorem dX5_term_87 : decode cX5_term 87 = .ok (.iload 6, 2) := dk_21 6 (dk_at dksX5_term_3 16 rfl rfl)
theorem dX5_term_89 : decode cX5_term 89 = .ok (.ifCond .ne 7, 3) := dk_154 0 7 (dk_at dksX5_term_3 18 rfl rfl)
theorem dX5_term_92 : decode cX5_term 92 = .ok (.iconst 2, 1) := dk_5 (dk_at dksX5_term_3 21 rfl rfl)
theorem dX5_term_93 : decode cX5_term 93 = .ok (.goto 17, 3) := dk_167 0 17 (dk_at dksX5_term_4 0 rfl rfl)
theorem dX5_term_96 : decode cX5_term 96 = .ok (.aload_n 0, 1) := dk_42 (dk_at dksX5_term_4 3 rfl rfl)
theorem dX5_term_97 : decode cX5_term 97 = .ok (.getfield 400, 3) := dk_180 1 144 (dk_at dksX5_term_4 4 rfl rfl)
theorem dX5_term_100 : decode cX5_term 100 = .ok (.bipush 16, 2) := dk_16 16 (dk_at dksX5_term_4 7 rfl rfl)
theorem dX5_term_102 : decode cX5_term 102 = .ok (.if_icmp .ne 7, 3) := dk_160 0 7 (dk_at dksX5_term_4 9 rfl rfl)
theorem dX5_term_105 : decode cX5_term 105 = .ok (.iconst 3, 1) := dk_6 (dk_at dksX5_term_4 12 rfl rfl)
theorem dX5_term_106 : decode cX5_term 106 = .ok (.goto 4, 3) := dk_167 0 4 (dk_at dksX5_term_4 13 rfl rfl)
theorem dX5_term_109 : decode cX5_term 109 = .ok (.iconst 0, 1) := dk_3 (dk_at dksX5_term_4 16 rfl rfl)
theorem dX5_term_110 : decode cX5_term 110 = .ok (.putfield 174, 3) := dk_181 0 174 (dk_at dksX5_term_4 17 rfl rfl)
theorem dX5_term_113 : decode cX5_term 113 = .ok (.aload_n 0, 1) := dk_42 (dk_at dksX5_term_4 20 rfl rfl)
theorem dX5_term_114 : decode cX5_term 114 = .ok (.getfield 174, 3) := dk_180 0 174 (dk_at dksX5_term_4 21 rfl rfl)
theorem dX5_term_117 : decode cX5_term 117 = .ok (.ifCond .le 7, 3) := dk_158 0 7 (dk_at dksX5_term_5 0 rfl rfl)
theorem dX5_term_120 : decode cX5_term 120 = .ok (.iconst 0, 1) := dk_3 (dk_at dksX5_term_5 3 rfl rfl)
theorem dX5_term_121 : decode cX5_term 121 = .ok (.goto 12, 3) := dk_167 0 12 (dk_at dksX5_term_5 4 rfl rfl)
theorem dX5_term_124 : decode cX5_term 124 = .ok (.aload_n 0, 1) := dk_42 (dk_at dksX5_term_5 7 rfl rfl)
theorem dX5_term_125 : decode cX5_term 125 = .ok (.iload_n 1, 1) := dk_27 (dk_at dksX5_term_5 8 rfl rfl)
theorem dX5_term_126 : decode cX5_term 126 = .ok (.iconst 1, 1) := dk_4 (dk_at dksX5_term_5 9 rfl rfl)
theorem dX5_term_127 : decode cX5_term 127 = .ok (.iadd, 1) := dk_96 (dk_at dksX5_term_5 10 rfl rfl)
theorem dX5_term_128 : decode cX5_term 128 = .ok (.iload_n 2, 1) := dk_28 (dk_at dksX5_term_5 11 rfl rfl)
theorem dX5_term_129 : decode cX5_term 129 = .ok (.iload_n 3, 1) := dk_29 (dk_at dksX5_term_5 12 rfl rfl)
theorem dX5_term_130 : decode cX5_term 130 = .ok (.invokevirtual 459, 3) := dk_182 1 203 (dk_at dksX5_term_5 13 rfl rfl)
theorem dX5_term_133 : decode cX5_term 133 = .ok (.ireturn, 1) := dk_172 (dk_at dksX5_term_5 16 rfl rfl)
def dkwX5_unify_17 : List UInt8 := [167, 0, 4, 3, 96, 54, 5, 132, 6, 1, 167, 255, 222, 21, 5, 172]
abbrev dktX5_unify_17 : List UInt8 := dkwX5_unify_17 ++ []
def dkwX5_unify_16 : List UInt8 := [21, 6, 42, 180, 1, 144, 162, 0, 31, 21, 5, 42, 180, 0, 156, 21, 6, 46, 21, 6, 160, 0, 7, 4]
abbrev dktX5_unify_16 : List UInt8 := dkwX5_unify_16 ++ dktX5_unify_17
def dkwX5_unify_15 : List UInt8 := [21, 5, 46, 79, 132, 5, 1, 167, 255, 232, 42, 5, 181, 0, 174, 3, 172, 3, 54, 5, 3, 54, 6]
abbrev dktX5_unify_15 : List UInt8 := dkwX5_unify_15 ++ dktX5_unify_16
def dkwX5_unify_14 : List UInt8 := [154, 0, 40, 3, 54, 5, 21, 5, 16, 16, 162, 0, 23, 42, 180, 0, 156, 21, 5, 42, 180, 0, 165]
abbrev dktX5_unify_14 : List UInt8 := dkwX5_unify_14 ++ dktX5_unify_15
def dkwX5_unify_13 : List UInt8 := [21, 6, 46, 158, 0, 8, 21, 6, 167, 0, 5, 21, 7, 79, 132, 5, 1, 167, 255, 13, 21, 4]
abbrev dktX5_unify_13 : List UInt8 := dkwX5_unify_13 ++ dktX5_unify_14
def dkwX5_unify_12 : List UInt8 := [180, 0, 156, 42, 180, 0, 159, 21, 6, 46, 158, 0, 8, 21, 7, 167, 0, 5, 21, 6, 42, 180, 0, 159]
abbrev dktX5_unify_12 : List UInt8 := dkwX5_unify_12 ++ dktX5_unify_13
def dkwX5_unify_11 : List UInt8 := [180, 0, 162, 5, 21, 7, 104, 21, 9, 96, 46, 79, 132, 3, 1, 132, 9, 1, 167, 255, 182, 42]
abbrev dktX5_unify_11 : List UInt8 := dkwX5_unify_11 ++ dktX5_unify_12
def dkwX5_unify_10 : List UInt8 := [104, 42, 180, 0, 162, 5, 21, 6, 104, 21, 9, 96, 46, 79, 42, 180, 0, 168, 5, 29, 104, 4, 96, 42]
abbrev dktX5_unify_10 : List UInt8 := dkwX5_unify_10 ++ dktX5_unify_11
def dkwX5_unify_9 : List UInt8 := [46, 4, 100, 5, 108, 162, 0, 64, 21, 8, 153, 0, 59, 21, 4, 153, 0, 54, 42, 180, 0, 168, 5, 29]
abbrev dktX5_unify_9 : List UInt8 := dkwX5_unify_9 ++ dktX5_unify_10
def dkwX5_unify_8 : List UInt8 := [21, 7, 46, 158, 0, 7, 4, 167, 0, 4, 3, 54, 8, 3, 54, 9, 21, 9, 42, 180, 0, 159, 21, 6]
abbrev dktX5_unify_8 : List UInt8 := dkwX5_unify_8 ++ dktX5_unify_9
def dkwX5_unify_7 : List UInt8 := [160, 0, 7, 4, 167, 0, 4, 3, 54, 4, 42, 180, 0, 159, 21, 6, 46, 158, 0, 17, 42, 180, 0, 159]
abbrev dktX5_unify_7 : List UInt8 := dkwX5_unify_7 ++ dktX5_unify_8
def dkwX5_unify_6 : List UInt8 := [42, 180, 0, 159, 21, 7, 46, 153, 0, 20, 42, 180, 0, 159, 21, 6, 46, 42, 180, 0, 159, 21, 7, 46]
abbrev dktX5_unify_6 : List UInt8 := dkwX5_unify_6 ++ dktX5_unify_7
def dkwX5_unify_5 : List UInt8 := [96, 46, 182, 1, 22, 54, 7, 21, 6, 21, 7, 159, 0, 193, 42, 180, 0, 159, 21, 6, 46, 153, 0, 30]
abbrev dktX5_unify_5 : List UInt8 := dkwX5_unify_5 ++ dktX5_unify_6
def dkwX5_unify_4 : List UInt8 := [42, 180, 0, 168, 5, 21, 5, 104, 46, 182, 1, 22, 54, 6, 42, 42, 180, 0, 168, 5, 21, 5, 104, 4]
abbrev dktX5_unify_4 : List UInt8 := dkwX5_unify_4 ++ dktX5_unify_5
def dkwX5_unify_3 : List UInt8 := [180, 0, 168, 4, 28, 79, 4, 54, 4, 3, 54, 5, 21, 5, 29, 162, 0, 243, 21, 4, 153, 0, 238, 42]
abbrev dktX5_unify_3 : List UInt8 := dkwX5_unify_3 ++ dktX5_unify_4
def dkwX5_unify_2 : List UInt8 := [29, 42, 180, 0, 156, 29, 46, 79, 132, 3, 1, 167, 255, 235, 4, 62, 42, 180, 0, 168, 3, 27, 79, 42]
abbrev dktX5_unify_2 : List UInt8 := dkwX5_unify_2 ++ dktX5_unify_3
def dkwX5_unify_1 : List UInt8 := [181, 0, 174, 42, 180, 0, 174, 158, 0, 5, 3, 172, 3, 62, 29, 16, 16, 162, 0, 21, 42, 180, 0, 165]
abbrev dktX5_unify_1 : List UInt8 := dkwX5_unify_1 ++ dktX5_unify_2
def dkwX5_unify_0 : List UInt8 := [42, 42, 27, 182, 1, 147, 153, 0, 15, 42, 28, 182, 1, 147, 153, 0, 7, 3, 167, 0, 4, 4]
abbrev dktX5_unify_0 : List UInt8 := dkwX5_unify_0 ++ dktX5_unify_1
theorem dksX5_unify_0 : cX5_unify.data.toList.drop 0 = dktX5_unify_0 := by decide +kernel
theorem dksX5_unify_1 : cX5_unify.data.toList.drop 22 = dktX5_unify_1 := dk_seg dksX5_unify_0 22 rfl rfl
theorem dksX5_unify_2 : cX5_unify.data.toList.drop 46 = dktX5_unify_2 := dk_seg dksX5_unify_1 24 rfl rfl
theorem dksX5_unify_3 : cX5_unify.data.toList.drop 70 = dktX5_unify_3 := dk_seg dksX5_unify_2 24 rfl rfl
theorem dksX5_unify_4 : cX5_unify.data.toList.drop 94 = dktX5_unify_4 := dk_seg dksX5_unify_3 24 rfl rfl
theorem dksX5_unify_5 : cX5_unify.data.toList.drop 118 = dktX5_unify_5 := dk_seg dksX5_unify_4 24 rfl rfl
theorem dksX5_unify_6 : cX5_unify.data.toList.drop 142 = dktX5_unify_6 := dk_seg dksX5_unify_5 24 rfl rfl
theorem dksX5_unify_7 : cX5_unify.data.toList.drop 166 = dktX5_unify_7 := dk_seg dksX5_unify_6 24 rfl rfl
theorem dksX5_unify_8 : cX5_unify.data.toList.drop 190 = dktX5_unify_8 := dk_seg dksX5_unify_7 24 rfl rfl
theorem dksX5_unify_9 : cX5_unify.data.toList.drop 214 = dktX5_unify_9 := dk_seg dksX5_unify_8 24 rfl rfl
theorem dksX5_unify_10 : cX5_unify.data.toList.drop 238 = dktX5_unify_10 := dk_seg dksX5_unify_9 24 rfl rfl
theorem dksX5_unify_11 : cX5_unify.data.toList.drop 262 = dktX5_unify_11 := dk_seg dksX5_unify_10 24 rfl rfl
theorem dksX5_unify_12 : cX5_unify.data.toList.drop 284 = dktX5_unify_12 := dk_seg dksX5_unify_11 22 rfl rfl
theorem dksX5_unify_13 : cX5_unify.data.toList.drop 308 = dktX5_unify_13 := dk_seg dksX5_unify_12 24 rfl rfl
theorem dksX5_unify_14 : cX5_unify.data.toList.drop 330 = dktX5_unify_14 := dk_seg dksX5_unify_13 22 rfl rfl
theorem dksX5_unify_15 : cX5_unify.data.toList.drop 353 = dktX5_unify_15 := dk_seg dksX5_unify_14 23 rfl rfl
theorem dksX5_unify_16 : cX5_unify.data.toList.drop 376 = dktX5_unify_16 := dk_seg dksX5_unify_15 23 rfl rfl
theorem dksX5_unify_17 : cX5_unify.data.toList.drop 400 = dktX5_unify_17 := dk_seg dksX5_unify_16 24 rfl rfl
theorem dX5_unify_0 : decode cX5_unify 0 = .ok (.aload_n 0, 1) := dk_42 (dk_at dksX5_unify_0 0 rfl rfl)
theorem dX5_unify_1 : decode cX5_unify 1 = .ok (.aload_n 0, 1) := dk_42 (dk_at dksX5_unify_0 1 rfl rfl)
theorem dX5_unify_2 : decode cX5_unify 2 = .ok (.iload_n 1, 1) := dk_27 (dk_at dksX5_unify_0 2 rfl rfl)
theorem dX5_unify_3 : decode cX5_unify 3 = .ok (.invokevirtual 403, 3) := dk_182 1 147 (dk_at dksX5_unify_0 3 rfl rfl)
theorem dX5_unify_6 : decode cX5_unify 6 = .ok (.ifCond .eq 15, 3) := dk_153 0 15 (dk_at dksX5_unify_0 6 rfl rfl)
theorem dX5_unify_9 : decode cX5_unify 9 = .ok (.aload_n 0, 1) := dk_42 (dk_at dksX5_unify_0 9 rfl rfl)
theorem dX5_unify_10 : decode cX5_unify 10 = .ok (.iload_n 2, 1) := dk_28 (dk_at dksX5_unify_0 10 rfl rfl)
theorem dX5_unify_11 : decode cX5_unify 11 = .ok (.invokevirtual 403, 3) := dk_182 1 147 (dk_at dksX5_unify_0 11 rfl rfl)
theorem dX5_unify_14 : decode cX5_unify 14 = .ok (.ifCond .eq 7, 3) := dk_153 0 7 (dk_at dksX5_unify_0 14 rfl rfl)
theorem dX5_unify_17 : decode cX5_unify 17 = .ok (.iconst 0, 1) := dk_3 (dk_at dksX5_unify_0 17 rfl rfl)
theorem dX5_unify_18 : decode cX5_unify 18 = .ok (.goto 4, 3) := dk_167 0 4 (dk_at dksX5_unify_0 18 rfl rfl)
theorem dX5_unify_21 : decode cX5_unify 21 = .ok (.iconst 1, 1) := dk_4 (dk_at dksX5_unify_0 21 rfl rfl)
theorem dX5_unify_22 : decode cX5_unify 22 = .ok (.putfield 174, 3) := dk_181 0 174 (dk_at dksX5_unify_1 0 rfl rfl)
theorem dX5_unify_25 : decode cX5_unify 25 = .ok (.aload_n 0, 1) := dk_42 (dk_at dksX5_unify_1 3 rfl rfl)
theorem dX5_unify_26 : decode cX5_unify 26 = .ok (.getfield 174, 3) := dk_180 0 174 (dk_at dksX5_unify_1 4 rfl rfl)
theorem dX5_unify_29 : decode cX5_unify 29 = .ok (.ifCond .le 5, 3) := dk_158 0 5 (dk_at dksX5_unify_1 7 rfl rfl)
theorem dX5_unify_32 : decode cX5_unify 32 = .ok (.iconst 0, 1) := dk_3 (dk_at dksX5_unify_1 10 rfl rfl)
theorem dX5_unify_33 : decode cX5_unify 33 = .ok (.ireturn, 1) := dk_172 (dk_at dksX5_unify_1 11 rfl rfl)
theorem dX5_unify_34 : decode cX5_unify 34 = .ok (.iconst 0, 1) := dk_3 (dk_at dksX5_unify_1 12 rfl rfl)
theorem dX5_unify_35 : decode cX5_unify 35 = .ok (.istore_n 3, 1) := dk_62 (dk_at dksX5_unify_1 13 rfl rfl)
theorem dX5_unify_36 : decode cX5_unify 36 = .ok (.iload_n 3, 1) := dk_29 (dk_at dksX5_unify_1 14 rfl rfl)
theorem dX5_unify_37 : decode cX5_unify 37 = .ok (.bipush 16, 2) := dk_16 16 (dk_at dksX5_unify_1 15 rfl rfl)
theorem dX5_unify_39 : decode cX5_unify 39 = .ok (.if_icmp .ge 21, 3) := dk_162 0 21 (dk_at dksX5_unify_1 17 rfl rfl)
theorem dX5_unify_42 : decode cX5_unify 42 = .ok (.aload_n 0, 1) := dk_42 (dk_at dksX5_unify_1 20 rfl rfl)
theorem dX5_unify_43 : decode cX5_unify 43 = .ok (.getfield 165, 3) := dk_180 0 165 (dk_at dksX5_unify_1 21 rfl rfl)
theorem dX5_unify_46 : decode cX5_unify 46 = .ok (.iload_n 3, 1) := dk_29 (dk_at dksX5_unify_2 0 rfl rfl)
theorem dX5_unify_47 : decode cX5_unify 47 = .ok (.aload_n 0, 1) := dk_42 (dk_at dksX5_unify_2 1 rfl rfl)
theorem dX5_unify_48 : decode cX5_unify 48 = .ok (.getfield 156, 3) := dk_180 0 156 (dk_at dksX5_unify_2 2 rfl rfl)
theorem dX5_unify_51 : decode cX5_unify 51 = .ok (.iload_n 3, 1) := dk_29 (dk_at dksX5_unify_2 5 rfl rfl)
theorem dX5_unify_52 : decode cX5_unify 52 = .ok (.iaload, 1) := dk_46 (dk_at dksX5_unify_2 6 rfl rfl)
theorem dX5_unify_53 : decode cX5_unify 53 = .ok (.iastore, 1) := dk_79 (dk_at dksX5_unify_2 7 rfl rfl)
theorem dX5_unify_54 : decode cX5_unify 54 = .ok (.iinc 3 1, 3) := dk_132 3 1 (dk_at dksX5_unify_2 8 rfl rfl)
theorem dX5_unify_57 : decode cX5_unify 57 = .ok (.goto (-21), 3) := dk_167 255 235 (dk_at dksX5_unify_2 11 rfl rfl)
theorem dX5_unify_60 : decode cX5_unify 60 = .ok (.iconst 1, 1) := dk_4 (dk_at dksX5_unify_2 14 rfl rfl)
theorem dX5_unify_61 : decode cX5_unify 61 = .ok (.istore_n 3, 1) := dk_62 (dk_at dksX5_unify_2 15 rfl rfl)
theorem dX5_unify_62 : decode cX5_unify 62 = .ok (.aload_n 0, 1) := dk_42 (dk_at dksX5_unify_2 16 rfl rfl)
theorem dX5_unify_63 : decode cX5_unify 63 = .ok (.getfield 168, 3) := dk_180 0 168 (dk_at dksX5_unify_2 17 rfl rfl)
theorem dX5_unify_66 : decode cX5_unify 66 = .ok (.iconst 0, 1) := dk_3 (dk_at dksX5_unify_2 20 rfl rfl)
theorem dX5_unify_67 : decode cX5_unify 67 = .ok (.iload_n 1, 1) := dk_27 (dk_at dksX5_unify_2 21 rfl rfl)
theorem dX5_unify_68 : decode cX5_unify 68 = .ok (.iastore, 1) := dk_79 (dk_at dksX5_unify_2 22 rfl rfl)
theorem dX5_unify_69 : decode cX5_unify 69 = .ok (.aload_n 0, 1) := dk_42 (dk_at dksX5_unify_2 23 rfl rfl)
theorem dX5_unify_70 : decode cX5_unify 70 = .ok (.getfield 168, 3) := dk_180 0 168 (dk_at dksX5_unify_3 0 rfl rfl)
theorem dX5_unify_73 : decode cX5_unify 73 = .ok (.iconst 1, 1) := dk_4 (dk_at dksX5_unify_3 3 rfl rfl)
theorem dX5_unify_74 : decode cX5_unify 74 = .ok (.iload_n 2, 1) := dk_28 (dk_at dksX5_unify_3 4 rfl rfl)
theorem dX5_unify_75 : decode cX5_unify 75 = .ok (.iastore, 1) := dk_79 (dk_at dksX5_unify_3 5 rfl rfl)
theorem dX5_unify_76 : decode cX5_unify 76 = .ok (.iconst 1, 1) := dk_4 (dk_at dksX5_unify_3 6 rfl rfl)
theorem dX5_unify_77 : decode cX5_unify 77 = .ok (.istore 4, 2) := dk_54 4 (dk_at dksX5_unify_3 7 rfl rfl)
theorem dX5_unify_79 : decode cX5_unify 79 = .ok (.iconst 0, 1) := dk_3 (dk_at dksX5_unify_3 9 rfl rfl)
theorem dX5_unify_80 : decode cX5_unify 80 = .ok (.istore 5, 2) := dk_54 5 (dk_at dksX5_unify_3 10 rfl rfl)
theorem dX5_unify_82 : decode cX5_unify 82 = .ok (.iload 5, 2) := dk_21 5 (dk_at dksX5_unify_3 12 rfl rfl)
theorem dX5_unify_84 : decode cX5_unify 84 = .ok (.iload_n 3, 1) := dk_29 (dk_at dksX5_unify_3 14 rfl rfl)
theorem dX5_unify_85 : decode cX5_unify 85 = .ok (.if_icmp .ge 243, 3) := dk_162 0 243 (dk_at dksX5_unify_3 15 rfl rfl)
theorem dX5_unify_88 : decode cX5_unify 88 = .ok (.iload 4, 2) := dk_21 4 (dk_at dksX5_unify_3 18 rfl rfl)
theorem dX5_unify_90 : decode cX5_unify 90 = .ok (.ifCond .eq 238, 3) := dk_153 0 238 (dk_at dksX5_unify_3 20 rfl rfl)
theorem dX5_unify_93 : decode cX5_unify 93 = .ok (.aload_n 0, 1) := dk_42 (dk_at dksX5_unify_3 23 rfl rfl)
theorem dX5_unify_94 : decode cX5_unify 94 = .ok (.aload_n 0, 1) := dk_42 (dk_at dksX5_unify_4 0 rfl rfl)
theorem dX5_unify_95 : decode cX5_unify 95 = .ok (.getfield 168, 3) := dk_180 0 168 (dk_at dksX5_unify_4 1 rfl rfl)
theorem dX5_unify_98 : decode cX5_unify 98 = .ok (.iconst 2, 1) := dk_5 (dk_at dksX5_unify_4 4 rfl rfl)
theorem dX5_unify_99 : decode cX5_unify 99 = .ok (.iload 5, 2) := dk_21 5 (dk_at dksX5_unify_4 5 rfl rfl)
theorem dX5_unify_101 : decode cX5_unify 101 = .ok (.imul, 1) := dk_104 (dk_at dksX5_unify_4 7 rfl rfl)
theorem dX5_unify_102 : decode cX5_unify 102 = .ok (.iaload, 1) := dk_46 (dk_at dksX5_unify_4 8 rfl rfl)
theorem dX5_unify_103 : decode cX5_unify 103 = .ok (.invokevirtual 278, 3) := dk_182 1 22 (dk_at dksX5_unify_4 9 rfl rfl)
theorem dX5_unify_106 : decode cX5_unify 106 = .ok (.istore 6, 2) := dk_54 6 (dk_at dksX5_unify_4 12 rfl rfl)
theorem dX5_unify_108 : decode cX5_unify 108 = .ok (.aload_n 0, 1) := dk_42 (dk_at dksX5_unify_4 14 rfl rfl)
theorem dX5_unify_109 : decode cX5_unify 109 = .ok (.aload_n 0, 1) := dk_42 (dk_at dksX5_unify_4 15 rfl rfl)
theorem dX5_unify_110 : decode cX5_unify 110 = .ok (.getfield 168, 3) := dk_180 0 168 (dk_at dksX5_unify_4 16 rfl rfl)
theorem dX5_unify_113 : decode cX5_unify 113 = .ok (.iconst 2, 1) := dk_5 (dk_at dksX5_unify_4 19 rfl rfl)
theorem dX5_unify_114 : decode cX5_unify 114 = .ok (.iload 5, 2) := dk_21 5 (dk_at dksX5_unify_4 20 rfl rfl)
theorem dX5_unify_116 : decode cX5_unify 116 = .ok (.imul, 1) := dk_104 (dk_at dksX5_unify_4 22 rfl rfl)
theorem dX5_unify_117 : decode cX5_unify 117 = .ok (.iconst 1, 1) := dk_4 (dk_at dksX5_unify_4 23 rfl rfl)
theorem dX5_unify_118 : decode cX5_unify 118 = .ok (.iadd, 1) := dk_96 (dk_at dksX5_unify_5 0 rfl rfl)
theorem dX5_unify_119 : decode cX5_unify 119 = .ok (.iaload, 1) := dk_46 (dk_at dksX5_unify_5 1 rfl rfl)
theorem dX5_unify_120 : decode cX5_unify 120 = .ok (.invokevirtual 278, 3) := dk_182 1 22 (dk_at dksX5_unify_5 2 rfl rfl)
theorem dX5_unify_123 : decode cX5_unify 123 = .ok (.istore 7, 2) := dk_54 7 (dk_at dksX5_unify_5 5 rfl rfl)
theorem dX5_unify_125 : decode cX5_unify 125 = .ok (.iload 6, 2) := dk_21 6 (dk_at dksX5_unify_5 7 rfl rfl)
theorem dX5_unify_127 : decode cX5_unify 127 = .ok (.iload 7, 2) := dk_21 7 (dk_at dksX5_unify_5 9 rfl rfl)
theorem dX5_unify_129 : decode cX5_unify 129 = .ok (.if_icmp .eq 193, 3) := dk_159 0 193 (dk_at dksX5_unify_5 11 rfl rfl)
theorem dX5_unify_132 : decode cX5_unify 132 = .ok (.aload_n 0, 1) := dk_42 (dk_at dksX5_unify_5 14 rfl rfl)
theorem dX5_unify_133 : decode cX5_unify 133 = .ok (.getfield 159, 3) := dk_180 0 159 (dk_at dksX5_unify_5 15 rfl rfl)
theorem dX5_unify_136 : decode cX5_unify 136 = .ok (.iload 6, 2) := dk_21 6 (dk_at dksX5_unify_5 18 rfl rfl)
theorem dX5_unify_138 : decode cX5_unify 138 = .ok (.iaload, 1) := dk_46 (dk_at dksX5_unify_5 20 rfl rfl)
theorem dX5_unify_139 : decode cX5_unify 139 = .ok (.ifCond .eq 30, 3) := dk_153 0 30 (dk_at dksX5_unify_5 21 rfl rfl)
theorem dX5_unify_142 : decode cX5_unify 142 = .ok (.aload_n 0, 1) := dk_42 (dk_at dksX5_unify_6 0 rfl rfl)
theorem dX5_unify_143 : decode cX5_unify 143 = .ok (.getfield 159, 3) := dk_180 0 159 (dk_at dksX5_unify_6 1 rfl rfl)
theorem dX5_unify_146 : decode cX5_unify 146 = .ok (.iload 7, 2) := dk_21 7 (dk_at dksX5_unify_6 4 rfl rfl)
theorem dX5_unify_148 : decode cX5_unify 148 = .ok (.iaload, 1) := dk_46 (dk_at dksX5_unify_6 6 rfl rfl)
theorem dX5_unify_149 : decode cX5_unify 149 = .ok (.ifCond .eq 20, 3) := dk_153 0 20 (dk_at dksX5_unify_6 7 rfl rfl)
theorem dX5_unify_152 : decode cX5_unify 152 = .ok (.aload_n 0, 1) := dk_42 (dk_at dksX5_unify_6 10 rfl rfl)
theorem dX5_unify_153 : decode cX5_unify 153 = .ok (.getfield 159, 3) := dk_180 0 159 (dk_at dksX5_unify_6 11 rfl rfl)
theorem dX5_unify_156 : decode cX5_unify 156 = .ok (.iload 6, 2) := dk_21 6 (dk_at dksX5_unify_6 14 rfl rfl)
theorem dX5_unify_158 : decode cX5_unify 158 = .ok (.iaload, 1) := dk_46 (dk_at dksX5_unify_6 16 rfl rfl)
theorem dX5_unify_159 : decode cX5_unify 159 = .ok (.aload_n 0, 1) := dk_42 (dk_at dksX5_unify_6 17 rfl rfl)
theorem dX5_unify_160 : decode cX5_unify 160 = .ok (.getfield 159, 3) := dk_180 0 159 (dk_at dksX5_unify_6 18 rfl rfl)
theorem dX5_unify_163 : decode cX5_unify 163 = .ok (.iload 7, 2) := dk_21 7 (dk_at dksX5_unify_6 21 rfl rfl)
theorem dX5_unify_165 : decode cX5_unify 165 = .ok (.iaload, 1) := dk_46 (dk_at dksX5_unify_6 23 rfl rfl)
theorem dX5_unify_166 : decode cX5_unify 166 = .ok (.if_icmp .ne 7, 3) := dk_160 0 7 (dk_at dksX5_unify_7 0 rfl rfl)
theorem dX5_unify_169 : decode cX5_unify 169 = .ok (.iconst 1, 1) := dk_4 (dk_at dksX5_unify_7 3 rfl rfl)
theorem dX5_unify_170 : decode cX5_unify 170 = .ok (.goto 4, 3) := dk_167 0 4 (dk_at dksX5_unify_7 4 rfl rfl)
theorem dX5_unify_173 : decode cX5_unify 173 = .ok (.iconst 0, 1) := dk_3 (dk_at dksX5_unify_7 7 rfl rfl)
theorem dX5_unify_174 : decode cX5_unify 174 = .ok (.istore 4, 2) := dk_54 4 (dk_at dksX5_unify_7 8 rfl rfl)
theorem dX5_unify_176 : decode cX5_unify 176 = .ok (.aload_n 0, 1) := dk_42 (dk_at dksX5_unify_7 10 rfl rfl)
theorem dX5_unify_177 : decode cX5_unify 177 = .ok (.getfield 159, 3) := dk_180 0 159 (dk_at dksX5_unify_7 11 rfl rfl)
theorem dX5_unify_180 : decode cX5_unify 180 = .ok (.iload 6, 2) := dk_21 6 (dk_at dksX5_unify_7 14 rfl rfl)
theorem dX5_unify_182 : decode cX5_unify 182 = .ok (.iaload, 1) := dk_46 (dk_at dksX5_unify_7 16 rfl rfl)
theorem dX5_unify_183 : decode cX5_unify 183 = .ok (.ifCond .le 17, 3) := dk_158 0 17 (dk_at dksX5_unify_7 17 rfl rfl)
theorem dX5_unify_186 : decode cX5_unify 186 = .ok (.aload_n 0, 1) := dk_42 (dk_at dksX5_unify_7 20 rfl rfl)
theorem dX5_unify_187 : decode cX5_unify 187 = .ok (.getfield 159, 3) := dk_180 0 159 (dk_at dksX5_unify_7 21 rfl rfl)
theorem dX5_unify_190 : decode cX5_unify 190 = .ok (.iload 7, 2) := dk_21 7 (dk_at dksX5_unify_8 0 rfl rfl)
theorem dX5_unify_192 : decode cX5_unify 192 = .ok (.iaload, 1) := dk_46 (dk_at dksX5_unify_8 2 rfl rfl)
theorem dX5_unify_193 : decode cX5_unify 193 = .ok (.ifCond .le 7, 3) := dk_158 0 7 (dk_at dksX5_unify_8 3 rfl rfl)
theorem dX5_unify_196 : decode cX5_unify 196 = .ok (.iconst 1, 1) := dk_4 (dk_at dksX5_unify_8 6 rfl rfl)
theorem dX5_unify_197 : decode cX5_unify 197 = .ok (.goto 4, 3) := dk_167 0 4 (dk_at dksX5_unify_8 7 rfl rfl)
theorem dX5_unify_200 : decode cX5_unify 200 = .ok (.iconst 0, 1) := dk_3 (dk_at dksX5_unify_8 10 rfl rfl)
theorem dX5_unify_201 : decode cX5_unify 201 = .ok (.istore 8, 2) := dk_54 8 (dk_at dksX5_unify_8 11 rfl rfl)
theorem dX5_unify_203 : decode cX5_unify 203 = .ok (.iconst 0, 1) := dk_3 (dk_at dksX5_unify_8 13 rfl rfl)
theorem dX5_unify_204 : decode cX5_unify 204 = .ok (.istore 9, 2) := dk_54 9 (dk_at dksX5_unify_8 14 rfl rfl)
theorem dX5_unify_206 : decode cX5_unify 206 = .ok (.iload 9, 2) := dk_21 9 (dk_at dksX5_unify_8 16 rfl rfl)
theorem dX5_unify_208 : decode cX5_unify 208 = .ok (.aload_n 0, 1) := dk_42 (dk_at dksX5_unify_8 18 rfl rfl)
theorem dX5_unify_209 : decode cX5_unify 209 = .ok (.getfield 159, 3) := dk_180 0 159 (dk_at dksX5_unify_8 19 rfl rfl)
theorem dX5_unify_212 : decode cX5_unify 212 = .ok (.iload 6, 2) := dk_21 6 (dk_at dksX5_unify_8 22 rfl rfl)
theorem dX5_unify_214 : decode cX5_unify 214 = .ok (.iaload, 1) := dk_46 (dk_at dksX5_unify_9 0 rfl rfl)
theorem dX5_unify_215 : decode cX5_unify 215 = .ok (.iconst 1, 1) := dk_4 (dk_at dksX5_unify_9 1 rfl rfl)
theorem dX5_unify_216 : decode cX5_unify 216 = .ok (.isub, 1) := dk_100 (dk_at dksX5_unify_9 2 rfl rfl)
theorem dX5_unify_217 : decode cX5_unify 217 = .ok (.iconst 2, 1) := dk_5 (dk_at dksX5_unify_9 3 rfl rfl)
theorem dX5_unify_218 : decode cX5_unify 218 = .ok (.idiv, 1) := dk_108 (dk_at dksX5_unify_9 4 rfl rfl)
theorem dX5_unify_219 : decode cX5_unify 219 = .ok (.if_icmp .ge 64, 3) := dk_162 0 64 (dk_at dksX5_unify_9 5 rfl rfl)
theorem dX5_unify_222 : decode cX5_unify 222 = .ok (.iload 8, 2) := dk_21 8 (dk_at dksX5_unify_9 8 rfl rfl)
theorem dX5_unify_224 : decode cX5_unify 224 = .ok (.ifCond .eq 59, 3) := dk_153 0 59 (dk_at dksX5_unify_9 10 rfl rfl)
theorem dX5_unify_227 : decode cX5_unify 227 = .ok (.iload 4, 2) := dk_21 4 (dk_at dksX5_unify_9 13 rfl rfl)
theorem dX5_unify_229 : decode cX5_unify 229 = .ok (.ifCond .eq 54, 3) := dk_153 0 54 (dk_at dksX5_unify_9 15 rfl rfl)
theorem dX5_unify_232 : decode cX5_unify 232 = .ok (.aload_n 0, 1) := dk_42 (dk_at dksX5_unify_9 18 rfl rfl)
theorem dX5_unify_233 : decode cX5_unify 233 = .ok (.getfield 168, 3) := dk_180 0 168 (dk_at dksX5_unify_9 19 rfl rfl)
theorem dX5_unify_236 : decode cX5_unify 236 = .ok (.iconst 2, 1) := dk_5 (dk_at dksX5_unify_9 22 rfl rfl)
theorem dX5_unify_237 : decode cX5_unify 237 = .ok (.iload_n 3, 1) := dk_29 (dk_at dksX5_unify_9 23 rfl rfl)
theorem dX5_unify_238 : decode cX5_unify 238 = .ok (.imul, 1) := dk_104 (dk_at dksX5_unify_10 0 rfl rfl)
theorem dX5_unify_239 : decode cX5_unify 239 = .ok (.aload_n 0, 1) := dk_42 (dk_at dksX5_unify_10 1 rfl rfl)
theorem dX5_unify_240 : decode cX5_unify 240 = .ok (.getfield 162, 3) := dk_180 0 162 (dk_at dksX5_unify_10 2 rfl rfl)
theorem dX5_unify_243 : decode cX5_unify 243 = .ok (.iconst 2, 1) := dk_5 (dk_at dksX5_unify_10 5 rfl rfl)
theorem dX5_unify_244 : decode cX5_unify 244 = .ok (.iload 6, 2) := dk_21 6 (dk_at dksX5_unify_10 6 rfl rfl)
theorem dX5_unify_246 : decode cX5_unify 246 = .ok (.imul, 1) := dk_104 (dk_at dksX5_unify_10 8 rfl rfl)
theorem dX5_unify_247 : decode cX5_unify 247 = .ok (.iload 9, 2) := dk_21 9 (dk_at dksX5_unify_10 9 rfl rfl)
theorem dX5_unify_249 : decode cX5_unify 249 = .ok (.iadd, 1) := dk_96 (dk_at dksX5_unify_10 11 rfl rfl)
theorem dX5_unify_250 : decode cX5_unify 250 = .ok (.iaload, 1) := dk_46 (dk_at dksX5_unify_10 12 rfl rfl)
theorem dX5_unify_251 : decode cX5_unify 251 = .ok (.iastore, 1) := dk_79 (dk_at dksX5_unify_10 13 rfl rfl)
theorem dX5_unify_252 : decode cX5_unify 252 = .ok (.aload_n 0, 1) := dk_42 (dk_at dksX5_unify_10 14 rfl rfl)
theorem dX5_unify_253 : decode cX5_unify 253 = .ok (.getfield 168, 3) := dk_180 0 168 (dk_at dksX5_unify_10 15 rfl rfl)
theorem dX5_unify_256 : decode cX5_unify 256 = .ok (.iconst 2, 1) := dk_5 (dk_at dksX5_unify_10 18 rfl rfl)
theorem dX5_unify_257 : decode cX5_unify 257 = .ok (.iload_n 3, 1) := dk_29 (dk_at dksX5_unify_10 19 rfl rfl)
theorem dX5_unify_258 : decode cX5_unify 258 = .ok (.imul, 1) := dk_104 (dk_at dksX5_unify_10 20 rfl rfl)
theorem dX5_unify_259 : decode cX5_unify 259 = .ok (.iconst 1, 1) := dk_4 (dk_at dksX5_unify_10 21 rfl rfl)
theorem dX5_unify_260 : decode cX5_unify 260 = .ok (.iadd, 1) := dk_96 (dk_at dksX5_unify_10 22 rfl rfl)
theorem dX5_unify_261 : decode cX5_unify 261 = .ok (.aload_n 0, 1) := dk_42 (dk_at dksX5_unify_10 23 rfl rfl)
theorem dX5_unify_262 : decode cX5_unify 262 = .ok (.getfield 162, 3) := dk_180 0 162 (dk_at dksX5_unify_11 0 rfl rfl)
theorem dX5_unify_265 : decode cX5_unify 265 = .ok (.iconst 2, 1) := dk_5 (dk_at dksX5_unify_11 3 rfl rfl)
theorem dX5_unify_266 : decode cX5_unify 266 = .ok (.iload 7, 2) := dk_21 7 (dk_at dksX5_unify_11 4 rfl rfl)
theorem dX5_unify_268 : decode cX5_unify 268 = .ok (.imul, 1) := dk_104 (dk_at dksX5_unify_11 6 rfl rfl)
theorem dX5_unify_269 : decode cX5_unify 269 = .ok (.iload 9, 2) := dk_21 9 (dk_at dksX5_unify_11 7 rfl rfl)
theorem dX5_unify_271 : decode cX5_unify 271 = .ok (.iadd, 1) := dk_96 (dk_at dksX5_unify_11 9 rfl rfl)
theorem dX5_unify_272 : decode cX5_unify 272 = .ok (.iaload, 1) := dk_46 (dk_at dksX5_unify_11 10 rfl rfl)
theorem dX5_unify_273 : decode cX5_unify 273 = .ok (.iastore, 1) := dk_79 (dk_at dksX5_unify_11 11 rfl rfl)
theorem dX5_unify_274 : decode cX5_unify 274 = .ok (.iinc 3 1, 3) := dk_132 3 1 (dk_at dksX5_unify_11 12 rfl rfl)
theorem dX5_unify_277 : decode cX5_unify 277 = .ok (.iinc 9 1, 3) := dk_132 9 1 (dk_at dksX5_unify_11 15 rfl rfl)
theorem dX5_unify_280 : decode cX5_unify 280 = .ok (.goto (-74), 3) := dk_167 255 182 (dk_at dksX5_unify_11 18 rfl rfl)
theorem dX5_unify_283 : decode cX5_unify 283 = .ok (.aload_n 0, 1) := dk_42 (dk_at dksX5_unify_11 21 rfl rfl)
theorem dX5_unify_284 : decode cX5_unify 284 = .ok (.getfield 156, 3) := dk_180 0 156 (dk_at dksX5_unify_12 0 rfl rfl)
theorem dX5_unify_287 : decode cX5_unify 287 = .ok (.aload_n 0, 1) := dk_42 (dk_at dksX5_unify_12 3 rfl rfl)
theorem dX5_unify_288 : decode cX5_unify 288 = .ok (.getfield 159, 3) := dk_180 0 159 (dk_at dksX5_unify_12 4 rfl rfl)
theorem dX5_unify_291 : decode cX5_unify 291 = .ok (.iload 6, 2) := dk_21 6 (dk_at dksX5_unify_12 7 rfl rfl)
theorem dX5_unify_293 : decode cX5_unify 293 = .ok (.iaload, 1) := dk_46 (dk_at dksX5_unify_12 9 rfl rfl)
theorem dX5_unify_294 : decode cX5_unify 294 = .ok (.ifCond .le 8, 3) := dk_158 0 8 (dk_at dksX5_unify_12 10 rfl rfl)
theorem dX5_unify_297 : decode cX5_unify 297 = .ok (.iload 7, 2) := dk_21 7 (dk_at dksX5_unify_12 13 rfl rfl)
theorem dX5_unify_299 : decode cX5_unify 299 = .ok (.goto 5, 3) := dk_167 0 5 (dk_at dksX5_unify_12 15 rfl rfl)
theorem dX5_unify_302 : decode cX5_unify 302 = .ok (.iload 6, 2) := dk_21 6 (dk_at dksX5_unify_12 18 rfl rfl)
theorem dX5_unify_304 : decode cX5_unify 304 = .ok (.aload_n 0, 1) := dk_42 (dk_at dksX5_unify_12 20 rfl rfl)
theorem dX5_unify_305 : decode cX5_unify 305 = .ok (.getfield 159, 3) := dk_180 0 159 (dk_at dksX5_unify_12 21 rfl rfl)
theorem dX5_unify_308 : decode cX5_unify 308 = .ok (.iload 6, 2) := dk_21 6 (dk_at dksX5_unify_13 0 rfl rfl)
theorem dX5_unify_310 : decode cX5_unify 310 = .ok (.iaload, 1) := dk_46 (dk_at dksX5_unify_13 2 rfl rfl)
theorem dX5_unify_311 : decode cX5_unify 311 = .ok (.ifCond .le 8, 3) := dk_158 0 8 (dk_at dksX5_unify_13 3 rfl rfl)
theorem dX5_unify_314 : decode cX5_unify 314 = .ok (.iload 6, 2) := dk_21 6 (dk_at dksX5_unify_13 6 rfl rfl)
theorem dX5_unify_316 : decode cX5_unify 316 = .ok (.goto 5, 3) := dk_167 0 5 (dk_at dksX5_unify_13 8 rfl rfl)
theorem dX5_unify_319 : decode cX5_unify 319 = .ok (.iload 7, 2) := dk_21 7 (dk_at dksX5_unify_13 11 rfl rfl)
theorem dX5_unify_321 : decode cX5_unify 321 = .ok (.iastore, 1) := dk_79 (dk_at dksX5_unify_13 13 rfl rfl)
theorem dX5_unify_322 : decode cX5_unify 322 = .ok (.iinc 5 1, 3) := dk_132 5 1 (dk_at dksX5_unify_13 14 rfl rfl)
theorem dX5_unify_325 : decode cX5_unify 325 = .ok (.goto (-243), 3) := dk_167 255 13 (dk_at dksX5_unify_13 17 rfl rfl)
theorem dX5_unify_328 : decode cX5_unify 328 = .ok (.iload 4, 2) := dk_21 4 (dk_at dksX5_unify_13 20 rfl rfl)
theorem dX5_unify_330 : decode cX5_unify 330 = .ok (.ifCond .ne 40, 3) := dk_154 0 40 (dk_at dksX5_unify_14 0 rfl rfl)
theorem dX5_unify_333 : decode cX5_unify 333 = .ok (.iconst 0, 1) := dk_3 (dk_at dksX5_unify_14 3 rfl rfl)
theorem dX5_unify_334 : decode cX5_unify 334 = .ok (.istore 5, 2) := dk_54 5 (dk_at dksX5_unify_14 4 rfl rfl)
theorem dX5_unify_336 : decode cX5_unify 336 = .ok (.iload 5, 2) := dk_21 5 (dk_at dksX5_unify_14 6 rfl rfl)
theorem dX5_unify_338 : decode cX5_unify 338 = .ok (.bipush 16, 2) := dk_16 16 (dk_at dksX5_unify_14 8 rfl rfl)
theorem dX5_unify_340 : decode cX5_unify 340 = .ok (.if_icmp .ge 23, 3) := dk_162 0 23 (dk_at dksX5_unify_14 10 rfl rfl)
theorem dX5_unify_343 : decode cX5_unify 343 = .ok (.aload_n 0, 1) := dk_42 (dk_at dksX5_unify_14 13 rfl rfl)
theorem dX5_unify_344 : decode cX5_unify 344 = .ok (.getfield 156, 3) := dk_180 0 156 (dk_at dksX5_unify_14 14 rfl rfl)
theorem dX5_unify_347 : decode cX5_unify 347 = .ok (.iload 5, 2) := dk_21 5 (dk_at dksX5_unify_14 17 rfl rfl)
theorem dX5_unify_349 : decode cX5_unify 349 = .ok (.aload_n 0, 1) := dk_42 (dk_at dksX5_unify_14 19 rfl rfl)
theorem dX5_unify_350 : decode cX5_unify 350 = .ok (.getfield 165, 3) := dk_180 0 165 (dk_at dksX5_unify_14 20 rfl rfl)
theorem dX5_unify_353 : decode cX5_unify 353 = .ok (.iload 5, 2) := dk_21 5 (dk_at dksX5_unify_15 0 rfl rfl)
theorem dX5_unify_355 : decode cX5_unify 355 = .ok (.iaload, 1) := dk_46 (dk_at dksX5_unify_15 2 rfl rfl)
theorem dX5_unify_356 : decode cX5_unify 356 = .ok (.iastore, 1) := dk_79 (dk_at dksX5_unify_15 3 rfl rfl)
theorem dX5_unify_357 : decode cX5_unify 357 = .ok (.iinc 5 1, 3) := dk_132 5 1 (dk_at dksX5_unify_15 4 rfl rfl)
theorem dX5_unify_360 : decode cX5_unify 360 = .ok (.goto (-24), 3) := dk_167 255 232 (dk_at dksX5_unify_15 7 rfl rfl)
theorem dX5_unify_363 : decode cX5_unify 363 = .ok (.aload_n 0, 1) := dk_42 (dk_at dksX5_unify_15 10 rfl rfl)
theorem dX5_unify_364 : decode cX5_unify 364 = .ok (.iconst 2, 1) := dk_5 (dk_at dksX5_unify_15 11 rfl rfl)
theorem dX5_unify_365 : decode cX5_unify 365 = .ok (.putfield 174, 3) := dk_181 0 174 (dk_at dksX5_unify_15 12 rfl rfl)
theorem dX5_unify_368 : decode cX5_unify 368 = .ok (.iconst 0, 1) := dk_3 (dk_at dksX5_unify_15 15 rfl rfl)
theorem dX5_unify_369 : decode cX5_unify 369 = .ok (.ireturn, 1) := dk_172 (dk_at dksX5_unify_15 16 rfl rfl)
theorem dX5_unify_370 : decode cX5_unify 370 = .ok (.iconst 0, 1) := dk_3 (dk_at dksX5_unify_15 17 rfl rfl)
theorem dX5_unify_371 : decode cX5_unify 371 = .ok (.istore 5, 2) := dk_54 5 (dk_at dksX5_unify_15 18 rfl rfl)
theorem dX5_unify_373 : decode cX5_unify 373 = .ok (.iconst 0, 1) := dk_3 (dk_at dksX5_unify_15 20 rfl rfl)
theorem dX5_unify_374 : decode cX5_unify 374 = .ok (.istore 6, 2) := dk_54 6 (dk_at dksX5_unify_15 21 rfl rfl)
theorem dX5_unify_376 : decode cX5_unify 376 = .ok (.iload 6, 2) := dk_21 6 (dk_at dksX5_unify_16 0 rfl rfl)
theorem dX5_unify_378 : decode cX5_unify 378 = .ok (.aload_n 0, 1) := dk_42 (dk_at dksX5_unify_16 2 rfl rfl)
theorem dX5_unify_379 : decode cX5_unify 379 = .ok (.getfield 400, 3) := dk_180 1 144 (dk_at dksX5_unify_16 3 rfl rfl)
theorem dX5_unify_382 : decode cX5_unify 382 = .ok (.if_icmp .ge 31, 3) := dk_162 0 31 (dk_at dksX5_unify_16 6 rfl rfl)
theorem dX5_unify_385 : decode cX5_unify 385 = .ok (.iload 5, 2) := dk_21 5 (dk_at dksX5_unify_16 9 rfl rfl)
theorem dX5_unify_387 : decode cX5_unify 387 = .ok (.aload_n 0, 1) := dk_42 (dk_at dksX5_unify_16 11 rfl rfl)
theorem dX5_unify_388 : decode cX5_unify 388 = .ok (.getfield 156, 3) := dk_180 0 156 (dk_at dksX5_unify_16 12 rfl rfl)
theorem dX5_unify_391 : decode cX5_unify 391 = .ok (.iload 6, 2) := dk_21 6 (dk_at dksX5_unify_16 15 rfl rfl)
theorem dX5_unify_393 : decode cX5_unify 393 = .ok (.iaload, 1) := dk_46 (dk_at dksX5_unify_16 17 rfl rfl)
theorem dX5_unify_394 : decode cX5_unify 394 = .ok (.iload 6, 2) := dk_21 6 (dk_at dksX5_unify_16 18 rfl rfl)
theorem dX5_unify_396 : decode cX5_unify 396 = .ok (.if_icmp .ne 7, 3) := dk_160 0 7 (dk_at dksX5_unify_16 20 rfl rfl)
theorem dX5_unify_399 : decode cX5_unify 399 = .ok (.iconst 1, 1) := dk_4 (dk_at dksX5_unify_16 23 rfl rfl)
theorem dX5_unify_400 : decode cX5_unify 400 = .ok (.goto 4, 3) := dk_167 0 4 (dk_at dksX5_unify_17 0 rfl rfl)
theorem dX5_unify_403 : decode cX5_unify 403 = .ok (.iconst 0, 1) := dk_3 (dk_at dksX5_unify_17 3 rfl rfl)
theorem dX5_unify_404 : decode cX5_unify 404 = .ok (.iadd, 1) := dk_96 (dk_at dksX5_unify_17 4 rfl rfl)
theorem dX5_unify_405 : decode cX5_unify 405 = .ok (.istore 5, 2) := dk_54 5 (dk_at dksX5_unify_17 5 rfl rfl)
theorem dX5_unify_407 : decode cX5_unify 407 = .ok (.iinc 6 1, 3) := dk_132 6 1 (dk_at dksX5_unify_17 7 rfl rfl)
theorem dX5_unify_410 : decode cX5_unify 410 = .ok (.goto (-34), 3) := dk_167 255 222 (dk_at dksX5_unify_17 10 rfl rfl)
theorem dX5_unify_413 : decode cX5_unify 413 = .ok (.iload 5, 2) := dk_21 5 (dk_at dksX5_unify_17 13 rfl rfl)
theorem dX5_unify_415 : decode cX5_unify 415 = .ok (.ireturn, 1) := dk_172 (dk_at dksX5_unify_17 15 rfl rfl)
def dkwX5_areAlike_9 : List UInt8 := [167, 0, 4, 3, 172]
abbrev dktX5_areAlike_9 : List UInt8 := dkwX5_areAlike_9 ++ []
def dkwX5_areAlike_8 : List UInt8 := [42, 180, 0, 171, 16, 16, 42, 27, 182, 1, 22, 104, 42, 28, 182, 1, 22, 96, 51, 154, 0, 7, 4]
abbrev dktX5_areAlike_8 : List UInt8 := dkwX5_areAlike_8 ++ dktX5_areAlike_9
def dkwX5_areAlike_7 : List UInt8 := [21, 6, 128, 84, 29, 21, 6, 128, 62, 132, 5, 1, 167, 255, 163, 132, 4, 1, 167, 255, 145, 167, 255, 133]
abbrev dktX5_areAlike_7 : List UInt8 := dkwX5_areAlike_7 ++ dktX5_areAlike_8
def dkwX5_areAlike_6 : List UInt8 := [153, 0, 7, 4, 167, 0, 4, 3, 54, 6, 42, 180, 0, 171, 16, 16, 21, 4, 104, 21, 5, 96, 92, 51]
abbrev dktX5_areAlike_6 : List UInt8 := dkwX5_areAlike_6 ++ dktX5_areAlike_7
def dkwX5_areAlike_5 : List UInt8 := [180, 0, 171, 16, 16, 21, 4, 104, 21, 5, 96, 51, 154, 0, 18, 42, 21, 4, 21, 5, 182, 1, 212]
abbrev dktX5_areAlike_5 : List UInt8 := dkwX5_areAlike_5 ++ dktX5_areAlike_6
def dkwX5_areAlike_4 : List UInt8 := [180, 0, 156, 21, 4, 46, 21, 4, 160, 0, 46, 42, 180, 0, 156, 21, 5, 46, 21, 5, 160, 0, 34, 42]
abbrev dktX5_areAlike_4 : List UInt8 := dkwX5_areAlike_4 ++ dktX5_areAlike_5
def dkwX5_areAlike_3 : List UInt8 := [21, 4, 42, 180, 1, 144, 162, 0, 108, 3, 54, 5, 21, 5, 42, 180, 1, 144, 162, 0, 90, 42]
abbrev dktX5_areAlike_3 : List UInt8 := dkwX5_areAlike_3 ++ dktX5_areAlike_4
def dkwX5_areAlike_2 : List UInt8 := [180, 0, 171, 29, 3, 84, 132, 3, 1, 167, 255, 239, 4, 62, 29, 153, 0, 125, 3, 62, 3, 54, 4]
abbrev dktX5_areAlike_2 : List UInt8 := dkwX5_areAlike_2 ++ dktX5_areAlike_3
def dkwX5_areAlike_1 : List UInt8 := [181, 0, 174, 42, 180, 0, 174, 158, 0, 5, 3, 172, 3, 62, 29, 17, 1, 0, 162, 0, 16, 42]
abbrev dktX5_areAlike_1 : List UInt8 := dkwX5_areAlike_1 ++ dktX5_areAlike_2
def dkwX5_areAlike_0 : List UInt8 := [42, 42, 27, 182, 1, 147, 153, 0, 15, 42, 28, 182, 1, 147, 153, 0, 7, 3, 167, 0, 4, 4]
abbrev dktX5_areAlike_0 : List UInt8 := dkwX5_areAlike_0 ++ dktX5_areAlike_1
theorem dksX5_areAlike_0 : cX5_areAlike.data.toList.drop 0 = dktX5_areAlike_0 := by decide +kernel
theorem dksX5_areAlike_1 : cX5_areAlike.data.toList.drop 22 = dktX5_areAlike_1 := dk_seg dksX5_areAlike_0 22 rfl rfl
theorem dksX5_areAlike_2 : cX5_areAlike.data.toList.drop 44 = dktX5_areAlike_2 := dk_seg dksX5_areAlike_1 22 rfl rfl
theorem dksX5_areAlike_3 : cX5_areAlike.data.toList.drop 67 = dktX5_areAlike_3 := dk_seg dksX5_areAlike_2 23 rfl rfl
theorem dksX5_areAlike_4 : cX5_areAlike.data.toList.drop 89 = dktX5_areAlike_4 := dk_seg dksX5_areAlike_3 22 rfl rfl
theorem dksX5_areAlike_5 : cX5_areAlike.data.toList.drop 113 = dktX5_areAlike_5 := dk_seg dksX5_areAlike_4 24 rfl rfl
theorem dksX5_areAlike_6 : cX5_areAlike.data.toList.drop 136 = dktX5_areAlike_6 := dk_seg dksX5_areAlike_5 23 rfl rfl
theorem dksX5_areAlike_7 : cX5_areAlike.data.toList.drop 160 = dktX5_areAlike_7 := dk_seg dksX5_areAlike_6 24 rfl rfl
theorem dksX5_areAlike_8 : cX5_areAlike.data.toList.drop 184 = dktX5_areAlike_8 := dk_seg dksX5_areAlike_7 24 rfl rfl
theorem dksX5_areAlike_9 : cX5_areAlike.data.toList.drop 207 = dktX5_areAlike_9 := dk_seg dksX5_areAlike_8 23 rfl rfl
theorem dX5_areAlike_0 : decode cX5_areAlike 0 = .ok (.aload_n 0, 1) := dk_42 (dk_at dksX5_areAlike_0 0 rfl rfl)
theorem dX5_areAlike_1 : decode cX5_areAlike 1 = .ok (.aload_n 0, 1) := dk_42 (dk_at dksX5_areAlike_0 1 rfl rfl)
theorem dX5_areAlike_2 : decode cX5_areAlike 2 = .ok (.iload_n 1, 1) := dk_27 (dk_at dksX5_areAlike_0 2 rfl rfl)
theorem dX5_areAlike_3 : decode cX5_areAlike 3 = .ok (.invokevirtual 403, 3) := dk_182 1 147 (dk_at dksX5_areAlike_0 3 rfl rfl)
theorem dX5_areAlike_6 : decode cX5_areAlike 6 = .ok (.ifCond .eq 15, 3) := dk_153 0 15 (dk_at dksX5_areAlike_0 6 rfl rfl)
theorem dX5_areAlike_9 : decode cX5_areAlike 9 = .ok (.aload_n 0, 1) := dk_42 (dk_at dksX5_areAlike_0 9 rfl rfl)
theorem dX5_areAlike_10 : decode cX5_areAlike 10 = .ok (.iload_n 2, 1) := dk_28 (dk_at dksX5_areAlike_0 10 rfl rfl)
theorem dX5_areAlike_11 : decode cX5_areAlike 11 = .ok (.invokevirtual 403, 3) := dk_182 1 147 (dk_at dksX5_areAlike_0 11 rfl rfl)
theorem dX5_areAlike_14 : decode cX5_areAlike 14 = .ok (.ifCond .eq 7, 3) := dk_153 0 7 (dk_at dksX5_areAlike_0 14 rfl rfl)
theorem dX5_areAlike_17 : decode cX5_areAlike 17 = .ok (.iconst 0, 1) := dk_3 (dk_at dksX5_areAlike_0 17 rfl rfl)
theorem dX5_areAlike_18 : decode cX5_areAlike 18 = .ok (.goto 4, 3) := dk_167 0 4 (dk_at dksX5_areAlike_0 18 rfl rfl)
theorem dX5_areAlike_21 : decode cX5_areAlike 21 = .ok (.iconst 1, 1) := dk_4 (dk_at dksX5_areAlike_0 21 rfl rfl)
theorem dX5_areAlike_22 : decode cX5_areAlike 22 = .ok (.putfield 174, 3) := dk_181 0 174 (dk_at dksX5_areAlike_1 0 rfl rfl)
theorem dX5_areAlike_25 : decode cX5_areAlike 25 = .ok (.aload_n 0, 1) := dk_42 (dk_at dksX5_areAlike_1 3 rfl rfl)
theorem dX5_areAlike_26 : decode cX5_areAlike 26 = .ok (.getfield 174, 3) := dk_180 0 174 (dk_at dksX5_areAlike_1 4 rfl rfl)
theorem dX5_areAlike_29 : decode cX5_areAlike 29 = .ok (.ifCond .le 5, 3) := dk_158 0 5 (dk_at dksX5_areAlike_1 7 rfl rfl)
theorem dX5_areAlike_32 : decode cX5_areAlike 32 = .ok (.iconst 0, 1) := dk_3 (dk_at dksX5_areAlike_1 10 rfl rfl)
theorem dX5_areAlike_33 : decode cX5_areAlike 33 = .ok (.ireturn, 1) := dk_172 (dk_at dksX5_areAlike_1 11 rfl rfl)
theorem dX5_areAlike_34 : decode cX5_areAlike 34 = .ok (.iconst 0, 1) := dk_3 (dk_at dksX5_areAlike_1 12 rfl rfl)
theorem dX5_areAlike_35 : decode cX5_areAlike 35 = .ok (.istore_n 3, 1) := dk_62 (dk_at dksX5_areAlike_1 13 rfl rfl)
theorem dX5_areAlike_36 : decode cX5_areAlike 36 = .ok (.iload_n 3, 1) := dk_29 (dk_at dksX5_areAlike_1 14 rfl rfl)
theorem dX5_areAlike_37 : decode cX5_areAlike 37 = .ok (.sipush 256, 3) := dk_17 1 0 (dk_at dksX5_areAlike_1 15 rfl rfl)
theorem dX5_areAlike_40 : decode cX5_areAlike 40 = .ok (.if_icmp .ge 16, 3) := dk_162 0 16 (dk_at dksX5_areAlike_1 18 rfl rfl)
theorem dX5_areAlike_43 : decode cX5_areAlike 43 = .ok (.aload_n 0, 1) := dk_42 (dk_at dksX5_areAlike_1 21 rfl rfl)
theorem dX5_areAlike_44 : decode cX5_areAlike 44 = .ok (.getfield 171, 3) := dk_180 0 171 (dk_at dksX5_areAlike_2 0 rfl rfl)
theorem dX5_areAlike_47 : decode cX5_areAlike 47 = .ok (.iload_n 3, 1) := dk_29 (dk_at dksX5_areAlike_2 3 rfl rfl)
theorem dX5_areAlike_48 : decode cX5_areAlike 48 = .ok (.iconst 0, 1) := dk_3 (dk_at dksX5_areAlike_2 4 rfl rfl)
theorem dX5_areAlike_49 : decode cX5_areAlike 49 = .ok (.bastore, 1) := dk_84 (dk_at dksX5_areAlike_2 5 rfl rfl)
theorem dX5_areAlike_50 : decode cX5_areAlike 50 = .ok (.iinc 3 1, 3) := dk_132 3 1 (dk_at dksX5_areAlike_2 6 rfl rfl)
theorem dX5_areAlike_53 : decode cX5_areAlike 53 = .ok (.goto (-17), 3) := dk_167 255 239 (dk_at dksX5_areAlike_2 9 rfl rfl)
theorem dX5_areAlike_56 : decode cX5_areAlike 56 = .ok (.iconst 1, 1) := dk_4 (dk_at dksX5_areAlike_2 12 rfl rfl)
theorem dX5_areAlike_57 : decode cX5_areAlike 57 = .ok (.istore_n 3, 1) := dk_62 (dk_at dksX5_areAlike_2 13 rfl rfl)
theorem dX5_areAlike_58 : decode cX5_areAlike 58 = .ok (.iload_n 3, 1) := dk_29 (dk_at dksX5_areAlike_2 14 rfl rfl)
theorem dX5_areAlike_59 : decode cX5_areAlike 59 = .ok (.ifCond .eq 125, 3) := dk_153 0 125 (dk_at dksX5_areAlike_2 15 rfl rfl)
theorem dX5_areAlike_62 : decode cX5_areAlike 62 = .ok (.iconst 0, 1) := dk_3 (dk_at dksX5_areAlike_2 18 rfl rfl)
theorem dX5_areAlike_63 : decode cX5_areAlike 63 = .ok (.istore_n 3, 1) := dk_62 (dk_at dksX5_areAlike_2 19 rfl rfl)
theorem dX5_areAlike_64 : decode cX5_areAlike 64 = .ok (.iconst 0, 1) := dk_3 (dk_at dksX5_areAlike_2 20 rfl rfl)
theorem dX5_areAlike_65 : decode cX5_areAlike 65 = .ok (.istore 4, 2) := dk_54 4 (dk_at dksX5_areAlike_2 21 rfl rfl)
theorem dX5_areAlike_67 : decode cX5_areAlike 67 = .ok (.iload 4, 2) := dk_21 4 (dk_at dksX5_areAlike_3 0 rfl rfl)
theorem dX5_areAlike_69 : decode cX5_areAlike 69 = .ok (.aload_n 0, 1) := dk_42 (dk_at dksX5_areAlike_3 2 rfl rfl)
theorem dX5_areAlike_70 : decode cX5_areAlike 70 = .ok (.getfield 400, 3) := dk_180 1 144 (dk_at dksX5_areAlike_3 3 rfl rfl)
theorem dX5_areAlike_73 : decode cX5_areAlike 73 = .ok (.if_icmp .ge 108, 3) := dk_162 0 108 (dk_at dksX5_areAlike_3 6 rfl rfl)
theorem dX5_areAlike_76 : decode cX5_areAlike 76 = .ok (.iconst 0, 1) := dk_3 (dk_at dksX5_areAlike_3 9 rfl rfl)
theorem dX5_areAlike_77 : decode cX5_areAlike 77 = .ok (.istore 5, 2) := dk_54 5 (dk_at dksX5_areAlike_3 10 rfl rfl)
theorem dX5_areAlike_79 : decode cX5_areAlike 79 = .ok (.iload 5, 2) := dk_21 5 (dk_at dksX5_areAlike_3 12 rfl rfl)
theorem dX5_areAlike_81 : decode cX5_areAlike 81 = .ok (.aload_n 0, 1) := dk_42 (dk_at dksX5_areAlike_3 14 rfl rfl)
theorem dX5_areAlike_82 : decode cX5_areAlike 82 = .ok (.getfield 400, 3) := dk_180 1 144 (dk_at dksX5_areAlike_3 15 rfl rfl)
theorem dX5_areAlike_85 : decode cX5_areAlike 85 = .ok (.if_icmp .ge 90, 3) := dk_162 0 90 (dk_at dksX5_areAlike_3 18 rfl rfl)
theorem dX5_areAlike_88 : decode cX5_areAlike 88 = .ok (.aload_n 0, 1) := dk_42 (dk_at dksX5_areAlike_3 21 rfl rfl)
theorem dX5_areAlike_89 : decode cX5_areAlike 89 = .ok (.getfield 156, 3) := dk_180 0 156 (dk_at dksX5_areAlike_4 0 rfl rfl)
theorem dX5_areAlike_92 : decode cX5_areAlike 92 = .ok (.iload 4, 2) := dk_21 4 (dk_at dksX5_areAlike_4 3 rfl rfl)
theorem dX5_areAlike_94 : decode cX5_areAlike 94 = .ok (.iaload, 1) := dk_46 (dk_at dksX5_areAlike_4 5 rfl rfl)
theorem dX5_areAlike_95 : decode cX5_areAlike 95 = .ok (.iload 4, 2) := dk_21 4 (dk_at dksX5_areAlike_4 6 rfl rfl)
theorem dX5_areAlike_97 : decode cX5_areAlike 97 = .ok (.if_icmp .ne 46, 3) := dk_160 0 46 (dk_at dksX5_areAlike_4 8 rfl rfl)
theorem dX5_areAlike_100 : decode cX5_areAlike 100 = .ok (.aload_n 0, 1) := dk_42 (dk_at dksX5_areAlike_4 11 rfl rfl)
theorem dX5_areAlike_101 : decode cX5_areAlike 101 = .ok (.getfield 156, 3) := dk_180 0 156 (dk_at dksX5_areAlike_4 12 rfl rfl)
theorem dX5_areAlike_104 : decode cX5_areAlike 104 = .ok (.iload 5, 2) := dk_21 5 (dk_at dksX5_areAlike_4 15 rfl rfl)
theorem dX5_areAlike_106 : decode cX5_areAlike 106 = .ok (.iaload, 1) := dk_46 (dk_at dksX5_areAlike_4 17 rfl rfl)
theorem dX5_areAlike_107 : decode cX5_areAlike 107 = .ok (.iload 5, 2) := dk_21 5 (dk_at dksX5_areAlike_4 18 rfl rfl)
theorem dX5_areAlike_109 : decode cX5_areAlike 109 = .ok (.if_icmp .ne 34, 3) := dk_160 0 34 (dk_at dksX5_areAlike_4 20 rfl rfl)
theorem dX5_areAlike_112 : decode cX5_areAlike 112 = .ok (.aload_n 0, 1) := dk_42 (dk_at dksX5_areAlike_4 23 rfl rfl)
theorem dX5_areAlike_113 : decode cX5_areAlike 113 = .ok (.getfield 171, 3) := dk_180 0 171 (dk_at dksX5_areAlike_5 0 rfl rfl)
theorem dX5_areAlike_116 : decode cX5_areAlike 116 = .ok (.bipush 16, 2) := dk_16 16 (dk_at dksX5_areAlike_5 3 rfl rfl)
theorem dX5_areAlike_118 : decode cX5_areAlike 118 = .ok (.iload 4, 2) := dk_21 4 (dk_at dksX5_areAlike_5 5 rfl rfl)
theorem dX5_areAlike_120 : decode cX5_areAlike 120 = .ok (.imul, 1) := dk_104 (dk_at dksX5_areAlike_5 7 rfl rfl)
theorem dX5_areAlike_121 : decode cX5_areAlike 121 = .ok (.iload 5, 2) := dk_21 5 (dk_at dksX5_areAlike_5 8 rfl rfl)
theorem dX5_areAlike_123 : decode cX5_areAlike 123 = .ok (.iadd, 1) := dk_96 (dk_at dksX5_areAlike_5 10 rfl rfl)
theorem dX5_areAlike_124 : decode cX5_areAlike 124 = .ok (.baload, 1) := dk_51 (dk_at dksX5_areAlike_5 11 rfl rfl)
theorem dX5_areAlike_125 : decode cX5_areAlike 125 = .ok (.ifCond .ne 18, 3) := dk_154 0 18 (dk_at dksX5_areAlike_5 12 rfl rfl)
theorem dX5_areAlike_128 : decode cX5_areAlike 128 = .ok (.aload_n 0, 1) := dk_42 (dk_at dksX5_areAlike_5 15 rfl rfl)
theorem dX5_areAlike_129 : decode cX5_areAlike 129 = .ok (.iload 4, 2) := dk_21 4 (dk_at dksX5_areAlike_5 16 rfl rfl)
theorem dX5_areAlike_131 : decode cX5_areAlike 131 = .ok (.iload 5, 2) := dk_21 5 (dk_at dksX5_areAlike_5 18 rfl rfl)
theorem dX5_areAlike_133 : decode cX5_areAlike 133 = .ok (.invokevirtual 468, 3) := dk_182 1 212 (dk_at dksX5_areAlike_5 20 rfl rfl)
theorem dX5_areAlike_136 : decode cX5_areAlike 136 = .ok (.ifCond .eq 7, 3) := dk_153 0 7 (dk_at dksX5_areAlike_6 0 rfl rfl)
theorem dX5_areAlike_139 : decode cX5_areAlike 139 = .ok (.iconst 1, 1) := dk_4 (dk_at dksX5_areAlike_6 3 rfl rfl)
theorem dX5_areAlike_140 : decode cX5_areAlike 140 = .ok (.goto 4, 3) := dk_167 0 4 (dk_at dksX5_areAlike_6 4 rfl rfl)
theorem dX5_areAlike_143 : decode cX5_areAlike 143 = .ok (.iconst 0, 1) := dk_3 (dk_at dksX5_areAlike_6 7 rfl rfl)
theorem dX5_areAlike_144 : decode cX5_areAlike 144 = .ok (.istore 6, 2) := dk_54 6 (dk_at dksX5_areAlike_6 8 rfl rfl)
theorem dX5_areAlike_146 : decode cX5_areAlike 146 = .ok (.aload_n 0, 1) := dk_42 (dk_at dksX5_areAlike_6 10 rfl rfl)
theorem dX5_areAlike_147 : decode cX5_areAlike 147 = .ok (.getfield 171, 3) := dk_180 0 171 (dk_at dksX5_areAlike_6 11 rfl rfl)
theorem dX5_areAlike_150 : decode cX5_areAlike 150 = .ok (.bipush 16, 2) := dk_16 16 (dk_at dksX5_areAlike_6 14 rfl rfl)
theorem dX5_areAlike_152 : decode cX5_areAlike 152 = .ok (.iload 4, 2) := dk_21 4 (dk_at dksX5_areAlike_6 16 rfl rfl)
theorem dX5_areAlike_154 : decode cX5_areAlike 154 = .ok (.imul, 1) := dk_104 (dk_at dksX5_areAlike_6 18 rfl rfl)
theorem dX5_areAlike_155 : decode cX5_areAlike 155 = .ok (.iload 5, 2) := dk_21 5 (dk_at dksX5_areAlike_6 19 rfl rfl)
theorem dX5_areAlike_157 : decode cX5_areAlike 157 = .ok (.iadd, 1) := dk_96 (dk_at dksX5_areAlike_6 21 rfl rfl)
theorem dX5_areAlike_158 : decode cX5_areAlike 158 = .ok (.dup2, 1) := dk_92 (dk_at dksX5_areAlike_6 22 rfl rfl)
theorem dX5_areAlike_159 : decode cX5_areAlike 159 = .ok (.baload, 1) := dk_51 (dk_at dksX5_areAlike_6 23 rfl rfl)
theorem dX5_areAlike_160 : decode cX5_areAlike 160 = .ok (.iload 6, 2) := dk_21 6 (dk_at dksX5_areAlike_7 0 rfl rfl)
theorem dX5_areAlike_162 : decode cX5_areAlike 162 = .ok (.ior, 1) := dk_128 (dk_at dksX5_areAlike_7 2 rfl rfl)
theorem dX5_areAlike_163 : decode cX5_areAlike 163 = .ok (.bastore, 1) := dk_84 (dk_at dksX5_areAlike_7 3 rfl rfl)
theorem dX5_areAlike_164 : decode cX5_areAlike 164 = .ok (.iload_n 3, 1) := dk_29 (dk_at dksX5_areAlike_7 4 rfl rfl)
theorem dX5_areAlike_165 : decode cX5_areAlike 165 = .ok (.iload 6, 2) := dk_21 6 (dk_at dksX5_areAlike_7 5 rfl rfl)
theorem dX5_areAlike_167 : decode cX5_areAlike 167 = .ok (.ior, 1) := dk_128 (dk_at dksX5_areAlike_7 7 rfl rfl)
theorem dX5_areAlike_168 : decode cX5_areAlike 168 = .ok (.istore_n 3, 1) := dk_62 (dk_at dksX5_areAlike_7 8 rfl rfl)
theorem dX5_areAlike_169 : decode cX5_areAlike 169 = .ok (.iinc 5 1, 3) := dk_132 5 1 (dk_at dksX5_areAlike_7 9 rfl rfl)
theorem dX5_areAlike_172 : decode cX5_areAlike 172 = .ok (.goto (-93), 3) := dk_167 255 163 (dk_at dksX5_areAlike_7 12 rfl rfl)
theorem dX5_areAlike_175 : decode cX5_areAlike 175 = .ok (.iinc 4 1, 3) := dk_132 4 1 (dk_at dksX5_areAlike_7 15 rfl rfl)
theorem dX5_areAlike_178 : decode cX5_areAlike 178 = .ok (.goto (-111), 3) := dk_167 255 145 (dk_at dksX5_areAlike_7 18 rfl rfl)
theorem dX5_areAlike_181 : decode cX5_areAlike 181 = .ok (.goto (-123), 3) := dk_167 255 133 (dk_at dksX5_areAlike_7 21 rfl rfl)
theorem dX5_areAlike_184 : decode cX5_areAlike 184 = .ok (.aload_n 0, 1) := dk_42 (dk_at dksX5_areAlike_8 0 rfl rfl)
theorem dX5_areAlike_185 : decode cX5_areAlike 185 = .ok (.getfield 171, 3) := dk_180 0 171 (dk_at dksX5_areAlike_8 1 rfl rfl)
theorem dX5_areAlike_188 : decode cX5_areAlike 188 = .ok (.bipush 16, 2) := dk_16 16 (dk_at dksX5_areAlike_8 4 rfl rfl)
theorem dX5_areAlike_190 : decode cX5_areAlike 190 = .ok (.aload_n 0, 1) := dk_42 (dk_at dksX5_areAlike_8 6 rfl rfl)
theorem dX5_areAlike_191 : decode cX5_areAlike 191 = .ok (.iload_n 1, 1) := dk_27 (dk_at dksX5_areAlike_8 7 rfl rfl)
theorem dX5_areAlike_192 : decode cX5_areAlike 192 = .ok (.invokevirtual 278, 3) := dk_182 1 22 (dk_at dksX5_areAlike_8 8 rfl rfl)
theorem dX5_areAlike_195 : decode cX5_areAlike 195 = .ok (.imul, 1) := dk_104 (dk_at dksX5_areAlike_8 11 rfl rfl)
theorem dX5_areAlike_196 : decode cX5_areAlike 196 = .ok (.aload_n 0, 1) := dk_42 (dk_at dksX5_areAlike_8 12 rfl rfl)
theorem dX5_areAlike_197 : decode cX5_areAlike 197 = .ok (.iload_n 2, 1) := dk_28 (dk_at dksX5_areAlike_8 13 rfl rfl)
theorem dX5_areAlike_198 : decode cX5_areAlike 198 = .ok (.invokevirtual 278, 3) := dk_182 1 22 (dk_at dksX5_areAlike_8 14 rfl rfl)
theorem dX5_areAlike_201 : decode cX5_areAlike 201 = .ok (.iadd, 1) := dk_96 (dk_at dksX5_areAlike_8 17 rfl rfl)
theorem dX5_areAlike_202 : decode cX5_areAlike 202 = .ok (.baload, 1) := dk_51 (dk_at dksX5_areAlike_8 18 rfl rfl)
theorem dX5_areAlike_203 : decode cX5_areAlike 203 = .ok (.ifCond .ne 7, 3) := dk_154 0 7 (dk_at dksX5_areAlike_8 19 rfl rfl)
theorem dX5_areAlike_206 : decode cX5_areAlike 206 = .ok (.iconst 1, 1) := dk_4 (dk_at dksX5_areAlike_8 22 rfl rfl)
theorem dX5_areAlike_207 : decode cX5_areAlike 207 = .ok (.goto 4, 3) := dk_167 0 4 (dk_at dksX5_areAlike_9 0 rfl rfl)
theorem dX5_areAlike_210 : decode cX5_areAlike 210 = .ok (.iconst 0, 1) := dk_3 (dk_at dksX5_areAlike_9 3 rfl rfl)
theorem dX5_areAlike_211 : decode cX5_areAlike 211 = .ok (.ireturn, 1) := dk_172 (dk_at dksX5_areAlike_9 4 rfl rfl)
def dkwX5_differ_3 : List UInt8 := [21, 4, 182, 1, 209, 104, 42, 28, 21, 4, 182, 1, 209, 96, 51, 62, 132, 4, 1, 167, 255, 206, 29, 172]
abbrev dktX5_differ_3 : List UInt8 := dkwX5_differ_3 ++ []
def dkwX5_differ_2 : List UInt8 := [184, 1, 206, 162, 0, 42, 29, 154, 0, 38, 27, 28, 159, 0, 33, 42, 180, 0, 171, 16, 16, 42, 27]
abbrev dktX5_differ_2 : List UInt8 := dkwX5_differ_2 ++ dktX5_differ_3
def dkwX5_differ_1 : List UInt8 := [28, 46, 159, 0, 7, 4, 167, 0, 4, 3, 62, 3, 54, 4, 21, 4, 42, 180, 0, 159, 27, 46]
abbrev dktX5_differ_1 : List UInt8 := dkwX5_differ_1 ++ dktX5_differ_2
def dkwX5_differ_0 : List UInt8 := [27, 28, 159, 0, 31, 42, 180, 0, 159, 27, 46, 153, 0, 18, 42, 180, 0, 159, 27, 46, 42, 180, 0, 159]
abbrev dktX5_differ_0 : List UInt8 := dkwX5_differ_0 ++ dktX5_differ_1
theorem dksX5_differ_0 : cX5_differ.data.toList.drop 0 = dktX5_differ_0 := by decide +kernel
theorem dksX5_differ_1 : cX5_differ.data.toList.drop 24 = dktX5_differ_1 := dk_seg dksX5_differ_0 24 rfl rfl
theorem dksX5_differ_2 : cX5_differ.data.toList.drop 46 = dktX5_differ_2 := dk_seg dksX5_differ_1 22 rfl rfl
theorem dksX5_differ_3 : cX5_differ.data.toList.drop 69 = dktX5_differ_3 := dk_seg dksX5_differ_2 23 rfl rfl
theorem dX5_differ_0 : decode cX5_differ 0 = .ok (.iload_n 1, 1) := dk_27 (dk_at dksX5_differ_0 0 rfl rfl)
theorem dX5_differ_1 : decode cX5_differ 1 = .ok (.iload_n 2, 1) := dk_28 (dk_at dksX5_differ_0 1 rfl rfl)
theorem dX5_differ_2 : decode cX5_differ 2 = .ok (.if_icmp .eq 31, 3) := dk_159 0 31 (dk_at dksX5_differ_0 2 rfl rfl)
theorem dX5_differ_5 : decode cX5_differ 5 = .ok (.aload_n 0, 1) := dk_42 (dk_at dksX5_differ_0 5 rfl rfl)
theorem dX5_differ_6 : decode cX5_differ 6 = .ok (.getfield 159, 3) := dk_180 0 159 (dk_at dksX5_differ_0 6 rfl rfl)
theorem dX5_differ_9 : decode cX5_differ 9 = .ok (.iload_n 1, 1) := dk_27 (dk_at dksX5_differ_0 9 rfl rfl)
theorem dX5_differ_10 : decode cX5_differ 10 = .ok (.iaload, 1) := dk_46 (dk_at dksX5_differ_0 10 rfl rfl)
theorem dX5_differ_11 : decode cX5_differ 11 = .ok (.ifCond .eq 18, 3) := dk_153 0 18 (dk_at dksX5_differ_0 11 rfl rfl)
theorem dX5_differ_14 : decode cX5_differ 14 = .ok (.aload_n 0, 1) := dk_42 (dk_at dksX5_differ_0 14 rfl rfl)
theorem dX5_differ_15 : decode cX5_differ 15 = .ok (.getfield 159, 3) := dk_180 0 159 (dk_at dksX5_differ_0 15 rfl rfl)
theorem dX5_differ_18 : decode cX5_differ 18 = .ok (.iload_n 1, 1) := dk_27 (dk_at dksX5_differ_0 18 rfl rfl)
theorem dX5_differ_19 : decode cX5_differ 19 = .ok (.iaload, 1) := dk_46 (dk_at dksX5_differ_0 19 rfl rfl)
theorem dX5_differ_20 : decode cX5_differ 20 = .ok (.aload_n 0, 1) := dk_42 (dk_at dksX5_differ_0 20 rfl rfl)
theorem dX5_differ_21 : decode cX5_differ 21 = .ok (.getfield 159, 3) := dk_180 0 159 (dk_at dksX5_differ_0 21 rfl rfl)
theorem dX5_differ_24 : decode cX5_differ 24 = .ok (.iload_n 2, 1) := dk_28 (dk_at dksX5_differ_1 0 rfl rfl)
theorem dX5_differ_25 : decode cX5_differ 25 = .ok (.iaload, 1) := dk_46 (dk_at dksX5_differ_1 1 rfl rfl)
theorem dX5_differ_26 : decode cX5_differ 26 = .ok (.if_icmp .eq 7, 3) := dk_159 0 7 (dk_at dksX5_differ_1 2 rfl rfl)
theorem dX5_differ_29 : decode cX5_differ 29 = .ok (.iconst 1, 1) := dk_4 (dk_at dksX5_differ_1 5 rfl rfl)
theorem dX5_differ_30 : decode cX5_differ 30 = .ok (.goto 4, 3) := dk_167 0 4 (dk_at dksX5_differ_1 6 rfl rfl)
theorem dX5_differ_33 : decode cX5_differ 33 = .ok (.iconst 0, 1) := dk_3 (dk_at dksX5_differ_1 9 rfl rfl)
theorem dX5_differ_34 : decode cX5_differ 34 = .ok (.istore_n 3, 1) := dk_62 (dk_at dksX5_differ_1 10 rfl rfl)
theorem dX5_differ_35 : decode cX5_differ 35 = .ok (.iconst 0, 1) := dk_3 (dk_at dksX5_differ_1 11 rfl rfl)
theorem dX5_differ_36 : decode cX5_differ 36 = .ok (.istore 4, 2) := dk_54 4 (dk_at dksX5_differ_1 12 rfl rfl)
theorem dX5_differ_38 : decode cX5_differ 38 = .ok (.iload 4, 2) := dk_21 4 (dk_at dksX5_differ_1 14 rfl rfl)
theorem dX5_differ_40 : decode cX5_differ 40 = .ok (.aload_n 0, 1) := dk_42 (dk_at dksX5_differ_1 16 rfl rfl)
theorem dX5_differ_41 : decode cX5_differ 41 = .ok (.getfield 159, 3) := dk_180 0 159 (dk_at dksX5_differ_1 17 rfl rfl)
theorem dX5_differ_44 : decode cX5_differ 44 = .ok (.iload_n 1, 1) := dk_27 (dk_at dksX5_differ_1 20 rfl rfl)
theorem dX5_differ_45 : decode cX5_differ 45 = .ok (.iaload, 1) := dk_46 (dk_at dksX5_differ_1 21 rfl rfl)
theorem dX5_differ_46 : decode cX5_differ 46 = .ok (.invokestatic 462, 3) := dk_184 1 206 (dk_at dksX5_differ_2 0 rfl rfl)
theorem dX5_differ_49 : decode cX5_differ 49 = .ok (.if_icmp .ge 42, 3) := dk_162 0 42 (dk_at dksX5_differ_2 3 rfl rfl)
theorem dX5_differ_52 : decode cX5_differ 52 = .ok (.iload_n 3, 1) := dk_29 (dk_at dksX5_differ_2 6 rfl rfl)
theorem dX5_differ_53 : decode cX5_differ 53 = .ok (.ifCond .ne 38, 3) := dk_154 0 38 (dk_at dksX5_differ_2 7 rfl rfl)
theorem dX5_differ_56 : decode cX5_differ 56 = .ok (.iload_n 1, 1) := dk_27 (dk_at dksX5_differ_2 10 rfl rfl)
theorem dX5_differ_57 : decode cX5_differ 57 = .ok (.iload_n 2, 1) := dk_28 (dk_at dksX5_differ_2 11 rfl rfl)
theorem dX5_differ_58 : decode cX5_differ 58 = .ok (.if_icmp .eq 33, 3) := dk_159 0 33 (dk_at dksX5_differ_2 12 rfl rfl)
theorem dX5_differ_61 : decode cX5_differ 61 = .ok (.aload_n 0, 1) := dk_42 (dk_at dksX5_differ_2 15 rfl rfl)
theorem dX5_differ_62 : decode cX5_differ 62 = .ok (.getfield 171, 3) := dk_180 0 171 (dk_at dksX5_differ_2 16 rfl rfl)
theorem dX5_differ_65 : decode cX5_differ 65 = .ok (.bipush 16, 2) := dk_16 16 (dk_at dksX5_differ_2 19 rfl rfl)
theorem dX5_differ_67 : decode cX5_differ 67 = .ok (.aload_n 0, 1) := dk_42 (dk_at dksX5_differ_2 21 rfl rfl)
theorem dX5_differ_68 : decode cX5_differ 68 = .ok (.iload_n 1, 1) := dk_27 (dk_at dksX5_differ_2 22 rfl rfl)
theorem dX5_differ_69 : decode cX5_differ 69 = .ok (.iload 4, 2) := dk_21 4 (dk_at dksX5_differ_3 0 rfl rfl)
theorem dX5_differ_71 : decode cX5_differ 71 = .ok (.invokevirtual 465, 3) := dk_182 1 209 (dk_at dksX5_differ_3 2 rfl rfl)
theorem dX5_differ_74 : decode cX5_differ 74 = .ok (.imul, 1) := dk_104 (dk_at dksX5_differ_3 5 rfl rfl)
theorem dX5_differ_75 : decode cX5_differ 75 = .ok (.aload_n 0, 1) := dk_42 (dk_at dksX5_differ_3 6 rfl rfl)
theorem dX5_differ_76 : decode cX5_differ 76 = .ok (.iload_n 2, 1) := dk_28 (dk_at dksX5_differ_3 7 rfl rfl)
theorem dX5_differ_77 : decode cX5_differ 77 = .ok (.iload 4, 2) := dk_21 4 (dk_at dksX5_differ_3 8 rfl rfl)
theorem dX5_differ_79 : decode cX5_differ 79 = .ok (.invokevirtual 465, 3) := dk_182 1 209 (dk_at dksX5_differ_3 10 rfl rfl)
theorem dX5_differ_82 : decode cX5_differ 82 = .ok (.iadd, 1) := dk_96 (dk_at dksX5_differ_3 13 rfl rfl)
theorem dX5_differ_83 : decode cX5_differ 83 = .ok (.baload, 1) := dk_51 (dk_at dksX5_differ_3 14 rfl rfl)
theorem dX5_differ_84 : decode cX5_differ 84 = .ok (.istore_n 3, 1) := dk_62 (dk_at dksX5_differ_3 15 rfl rfl)
theorem dX5_differ_85 : decode cX5_differ 85 = .ok (.iinc 4 1, 3) := dk_132 4 1 (dk_at dksX5_differ_3 16 rfl rfl)
theorem dX5_differ_88 : decode cX5_differ 88 = .ok (.goto (-50), 3) := dk_167 255 206 (dk_at dksX5_differ_3 19 rfl rfl)
theorem dX5_differ_91 : decode cX5_differ 91 = .ok (.iload_n 3, 1) := dk_29 (dk_at dksX5_differ_3 22 rfl rfl)
theorem dX5_differ_92 : decode cX5_differ 92 = .ok (.ireturn, 1) := dk_172 (dk_at dksX5_differ_3 23 rfl rfl)
def dkwX5_children_0 : List UInt8 := [26, 154, 0, 7, 3, 167, 0, 8, 26, 4, 100, 5, 108, 172]
abbrev dktX5_children_0 : List UInt8 := dkwX5_children_0 ++ []
theorem dksX5_children_0 : cX5_children.data.toList.drop 0 = dktX5_children_0 := by decide +kernel
theorem dX5_children_0 : decode cX5_children 0 = .ok (.iload_n 0, 1) := dk_26 (dk_at dksX5_children_0 0 rfl rfl)
theorem dX5_children_1 : decode cX5_children 1 = .ok (.ifCond .ne 7, 3) := dk_154 0 7 (dk_at dksX5_children_0 1 rfl rfl)
theorem dX5_children_4 : decode cX5_children 4 = .ok (.iconst 0, 1) := dk_3 (dk_at dksX5_children_0 4 rfl rfl)
theorem dX5_children_5 : decode cX5_children 5 = .ok (.goto 8, 3) := dk_167 0 8 (dk_at dksX5_children_0 5 rfl rfl)
theorem dX5_children_8 : decode cX5_children 8 = .ok (.iload_n 0, 1) := dk_26 (dk_at dksX5_children_0 8 rfl rfl)
theorem dX5_children_9 : decode cX5_children 9 = .ok (.iconst 1, 1) := dk_4 (dk_at dksX5_children_0 9 rfl rfl)
theorem dX5_children_10 : decode cX5_children 10 = .ok (.isub, 1) := dk_100 (dk_at dksX5_children_0 10 rfl rfl)
theorem dX5_children_11 : decode cX5_children 11 = .ok (.iconst 2, 1) := dk_5 (dk_at dksX5_children_0 11 rfl rfl)
theorem dX5_children_12 : decode cX5_children 12 = .ok (.idiv, 1) := dk_108 (dk_at dksX5_children_0 12 rfl rfl)
theorem dX5_children_13 : decode cX5_children 13 = .ok (.ireturn, 1) := dk_172 (dk_at dksX5_children_0 13 rfl rfl)
def dkwX5_childOf_0 : List UInt8 := [42, 42, 180, 0, 162, 5, 27, 104, 28, 96, 46, 182, 1, 22, 172]
abbrev dktX5_childOf_0 : List UInt8 := dkwX5_childOf_0 ++ []
theorem dksX5_childOf_0 : cX5_childOf.data.toList.drop 0 = dktX5_childOf_0 := by decide +kernel
theorem dX5_childOf_0 : decode cX5_childOf 0 = .ok (.aload_n 0, 1) := dk_42 (dk_at dksX5_childOf_0 0 rfl rfl)
theorem dX5_childOf_1 : decode cX5_childOf 1 = .ok (.aload_n 0, 1) := dk_42 (dk_at dksX5_childOf_0 1 rfl rfl)
theorem dX5_childOf_2 : decode cX5_childOf 2 = .ok (.getfield 162, 3) := dk_180 0 162 (dk_at dksX5_childOf_0 2 rfl rfl)
theorem dX5_childOf_5 : decode cX5_childOf 5 = .ok (.iconst 2, 1) := dk_5 (dk_at dksX5_childOf_0 5 rfl rfl)
theorem dX5_childOf_6 : decode cX5_childOf 6 = .ok (.iload_n 1, 1) := dk_27 (dk_at dksX5_childOf_0 6 rfl rfl)
theorem dX5_childOf_7 : decode cX5_childOf 7 = .ok (.imul, 1) := dk_104 (dk_at dksX5_childOf_0 7 rfl rfl)
theorem dX5_childOf_8 : decode cX5_childOf 8 = .ok (.iload_n 2, 1) := dk_28 (dk_at dksX5_childOf_0 8 rfl rfl)
theorem dX5_childOf_9 : decode cX5_childOf 9 = .ok (.iadd, 1) := dk_96 (dk_at dksX5_childOf_0 9 rfl rfl)
theorem dX5_childOf_10 : decode cX5_childOf 10 = .ok (.iaload, 1) := dk_46 (dk_at dksX5_childOf_0 10 rfl rfl)
theorem dX5_childOf_11 : decode cX5_childOf 11 = .ok (.invokevirtual 278, 3) := dk_182 1 22 (dk_at dksX5_childOf_0 11 rfl rfl)
theorem dX5_childOf_14 : decode cX5_childOf 14 = .ok (.ireturn, 1) := dk_172 (dk_at dksX5_childOf_0 14 rfl rfl)
def dkwX5_symbolAt_5 : List UInt8 := [172]
abbrev dktX5_symbolAt_5 : List UInt8 := dkwX5_symbolAt_5 ++ []
def dkwX5_symbolAt_4 : List UInt8 := [21, 4, 21, 6, 182, 1, 209, 54, 4, 132, 5, 1, 167, 255, 212, 42, 180, 0, 159, 21, 4, 46, 4, 100]
abbrev dktX5_symbolAt_4 : List UInt8 := dkwX5_symbolAt_4 ++ dktX5_symbolAt_5
def dkwX5_symbolAt_3 : List UInt8 := [122, 4, 126, 54, 6, 21, 6, 42, 180, 0, 159, 21, 4, 46, 184, 1, 206, 161, 0, 5, 2, 172, 42]
abbrev dktX5_symbolAt_3 : List UInt8 := dkwX5_symbolAt_3 ++ dktX5_symbolAt_4
def dkwX5_symbolAt_2 : List UInt8 := [158, 0, 5, 3, 172, 42, 27, 182, 1, 22, 54, 4, 3, 54, 5, 21, 5, 29, 162, 0, 44, 28, 21, 5]
abbrev dktX5_symbolAt_2 : List UInt8 := dkwX5_symbolAt_2 ++ dktX5_symbolAt_3
def dkwX5_symbolAt_1 : List UInt8 := [3, 4, 29, 120, 4, 100, 184, 0, 180, 153, 0, 7, 3, 167, 0, 4, 5, 181, 0, 174, 42, 180, 0, 174]
abbrev dktX5_symbolAt_1 : List UInt8 := dkwX5_symbolAt_1 ++ dktX5_symbolAt_2
def dkwX5_symbolAt_0 : List UInt8 := [42, 42, 27, 182, 1, 147, 154, 0, 7, 4, 167, 0, 31, 29, 3, 16, 20, 184, 0, 180, 153, 0, 20, 28]
abbrev dktX5_symbolAt_0 : List UInt8 := dkwX5_symbolAt_0 ++ dktX5_symbolAt_1
theorem dksX5_symbolAt_0 : cX5_symbolAt.data.toList.drop 0 = dktX5_symbolAt_0 := by decide +kernel
theorem dksX5_symbolAt_1 : cX5_symbolAt.data.toList.drop 24 = dktX5_symbolAt_1 := dk_seg dksX5_symbolAt_0 24 rfl rfl
theorem dksX5_symbolAt_2 : cX5_symbolAt.data.toList.drop 48 = dktX5_symbolAt_2 := dk_seg dksX5_symbolAt_1 24 rfl rfl
theorem dksX5_symbolAt_3 : cX5_symbolAt.data.toList.drop 72 = dktX5_symbolAt_3 := dk_seg dksX5_symbolAt_2 24 rfl rfl
theorem dksX5_symbolAt_4 : cX5_symbolAt.data.toList.drop 95 = dktX5_symbolAt_4 := dk_seg dksX5_symbolAt_3 23 rfl rfl
theorem dksX5_symbolAt_5 : cX5_symbolAt.data.toList.drop 119 = dktX5_symbolAt_5 := dk_seg dksX5_symbolAt_4 24 rfl rfl
theorem dX5_symbolAt_0 : decode cX5_symbolAt 0 = .ok (.aload_n 0, 1) := dk_42 (dk_at dksX5_symbolAt_0 0 rfl rfl)
theorem dX5_symbolAt_1 : decode cX5_symbolAt 1 = .ok (.aload_n 0, 1) := dk_42 (dk_at dksX5_symbolAt_0 1 rfl rfl)
theorem dX5_symbolAt_2 : decode cX5_symbolAt 2 = .ok (.iload_n 1, 1) := dk_27 (dk_at dksX5_symbolAt_0 2 rfl rfl)
theorem dX5_symbolAt_3 : decode cX5_symbolAt 3 = .ok (.invokevirtual 403, 3) := dk_182 1 147 (dk_at dksX5_symbolAt_0 3 rfl rfl)
theorem dX5_symbolAt_6 : decode cX5_symbolAt 6 = .ok (.ifCond .ne 7, 3) := dk_154 0 7 (dk_at dksX5_symbolAt_0 6 rfl rfl)
theorem dX5_symbolAt_9 : decode cX5_symbolAt 9 = .ok (.iconst 1, 1) := dk_4 (dk_at dksX5_symbolAt_0 9 rfl rfl)
theorem dX5_symbolAt_10 : decode cX5_symbolAt 10 = .ok (.goto 31, 3) := dk_167 0 31 (dk_at dksX5_symbolAt_0 10 rfl rfl)
theorem dX5_symbolAt_13 : decode cX5_symbolAt 13 = .ok (.iload_n 3, 1) := dk_29 (dk_at dksX5_symbolAt_0 13 rfl rfl)
theorem dX5_symbolAt_14 : decode cX5_symbolAt 14 = .ok (.iconst 0, 1) := dk_3 (dk_at dksX5_symbolAt_0 14 rfl rfl)
theorem dX5_symbolAt_15 : decode cX5_symbolAt 15 = .ok (.bipush 20, 2) := dk_16 20 (dk_at dksX5_symbolAt_0 15 rfl rfl)
theorem dX5_symbolAt_17 : decode cX5_symbolAt 17 = .ok (.invokestatic 180, 3) := dk_184 0 180 (dk_at dksX5_symbolAt_0 17 rfl rfl)
theorem dX5_symbolAt_20 : decode cX5_symbolAt 20 = .ok (.ifCond .eq 20, 3) := dk_153 0 20 (dk_at dksX5_symbolAt_0 20 rfl rfl)
theorem dX5_symbolAt_23 : decode cX5_symbolAt 23 = .ok (.iload_n 2, 1) := dk_28 (dk_at dksX5_symbolAt_0 23 rfl rfl)
theorem dX5_symbolAt_24 : decode cX5_symbolAt 24 = .ok (.iconst 0, 1) := dk_3 (dk_at dksX5_symbolAt_1 0 rfl rfl)
theorem dX5_symbolAt_25 : decode cX5_symbolAt 25 = .ok (.iconst 1, 1) := dk_4 (dk_at dksX5_symbolAt_1 1 rfl rfl)
theorem dX5_symbolAt_26 : decode cX5_symbolAt 26 = .ok (.iload_n 3, 1) := dk_29 (dk_at dksX5_symbolAt_1 2 rfl rfl)
theorem dX5_symbolAt_27 : decode cX5_symbolAt 27 = .ok (.ishl, 1) := dk_120 (dk_at dksX5_symbolAt_1 3 rfl rfl)
theorem dX5_symbolAt_28 : decode cX5_symbolAt 28 = .ok (.iconst 1, 1) := dk_4 (dk_at dksX5_symbolAt_1 4 rfl rfl)
theorem dX5_symbolAt_29 : decode cX5_symbolAt 29 = .ok (.isub, 1) := dk_100 (dk_at dksX5_symbolAt_1 5 rfl rfl)
theorem dX5_symbolAt_30 : decode cX5_symbolAt 30 = .ok (.invokestatic 180, 3) := dk_184 0 180 (dk_at dksX5_symbolAt_1 6 rfl rfl)
theorem dX5_symbolAt_33 : decode cX5_symbolAt 33 = .ok (.ifCond .eq 7, 3) := dk_153 0 7 (dk_at dksX5_symbolAt_1 9 rfl rfl)
theorem dX5_symbolAt_36 : decode cX5_symbolAt 36 = .ok (.iconst 0, 1) := dk_3 (dk_at dksX5_symbolAt_1 12 rfl rfl)
theorem dX5_symbolAt_37 : decode cX5_symbolAt 37 = .ok (.goto 4, 3) := dk_167 0 4 (dk_at dksX5_symbolAt_1 13 rfl rfl)
theorem dX5_symbolAt_40 : decode cX5_symbolAt 40 = .ok (.iconst 2, 1) := dk_5 (dk_at dksX5_symbolAt_1 16 rfl rfl)
theorem dX5_symbolAt_41 : decode cX5_symbolAt 41 = .ok (.putfield 174, 3) := dk_181 0 174 (dk_at dksX5_symbolAt_1 17 rfl rfl)
theorem dX5_symbolAt_44 : decode cX5_symbolAt 44 = .ok (.aload_n 0, 1) := dk_42 (dk_at dksX5_symbolAt_1 20 rfl rfl)
theorem dX5_symbolAt_45 : decode cX5_symbolAt 45 = .ok (.getfield 174, 3) := dk_180 0 174 (dk_at dksX5_symbolAt_1 21 rfl rfl)
theorem dX5_symbolAt_48 : decode cX5_symbolAt 48 = .ok (.ifCond .le 5, 3) := dk_158 0 5 (dk_at dksX5_symbolAt_2 0 rfl rfl)
theorem dX5_symbolAt_51 : decode cX5_symbolAt 51 = .ok (.iconst 0, 1) := dk_3 (dk_at dksX5_symbolAt_2 3 rfl rfl)
theorem dX5_symbolAt_52 : decode cX5_symbolAt 52 = .ok (.ireturn, 1) := dk_172 (dk_at dksX5_symbolAt_2 4 rfl rfl)
theorem dX5_symbolAt_53 : decode cX5_symbolAt 53 = .ok (.aload_n 0, 1) := dk_42 (dk_at dksX5_symbolAt_2 5 rfl rfl)
theorem dX5_symbolAt_54 : decode cX5_symbolAt 54 = .ok (.iload_n 1, 1) := dk_27 (dk_at dksX5_symbolAt_2 6 rfl rfl)
theorem dX5_symbolAt_55 : decode cX5_symbolAt 55 = .ok (.invokevirtual 278, 3) := dk_182 1 22 (dk_at dksX5_symbolAt_2 7 rfl rfl)
theorem dX5_symbolAt_58 : decode cX5_symbolAt 58 = .ok (.istore 4, 2) := dk_54 4 (dk_at dksX5_symbolAt_2 10 rfl rfl)
theorem dX5_symbolAt_60 : decode cX5_symbolAt 60 = .ok (.iconst 0, 1) := dk_3 (dk_at dksX5_symbolAt_2 12 rfl rfl)
theorem dX5_symbolAt_61 : decode cX5_symbolAt 61 = .ok (.istore 5, 2) := dk_54 5 (dk_at dksX5_symbolAt_2 13 rfl rfl)
theorem dX5_symbolAt_63 : decode cX5_symbolAt 63 = .ok (.iload 5, 2) := dk_21 5 (dk_at dksX5_symbolAt_2 15 rfl rfl)
theorem dX5_symbolAt_65 : decode cX5_symbolAt 65 = .ok (.iload_n 3, 1) := dk_29 (dk_at dksX5_symbolAt_2 17 rfl rfl)
theorem dX5_symbolAt_66 : decode cX5_symbolAt 66 = .ok (.if_icmp .ge 44, 3) := dk_162 0 44 (dk_at dksX5_symbolAt_2 18 rfl rfl)
theorem dX5_symbolAt_69 : decode cX5_symbolAt 69 = .ok (.iload_n 2, 1) := dk_28 (dk_at dksX5_symbolAt_2 21 rfl rfl)
theorem dX5_symbolAt_70 : decode cX5_symbolAt 70 = .ok (.iload 5, 2) := dk_21 5 (dk_at dksX5_symbolAt_2 22 rfl rfl)
theorem dX5_symbolAt_72 : decode cX5_symbolAt 72 = .ok (.ishr, 1) := dk_122 (dk_at dksX5_symbolAt_3 0 rfl rfl)
theorem dX5_symbolAt_73 : decode cX5_symbolAt 73 = .ok (.iconst 1, 1) := dk_4 (dk_at dksX5_symbolAt_3 1 rfl rfl)
theorem dX5_symbolAt_74 : decode cX5_symbolAt 74 = .ok (.iand, 1) := dk_126 (dk_at dksX5_symbolAt_3 2 rfl rfl)
theorem dX5_symbolAt_75 : decode cX5_symbolAt 75 = .ok (.istore 6, 2) := dk_54 6 (dk_at dksX5_symbolAt_3 3 rfl rfl)
theorem dX5_symbolAt_77 : decode cX5_symbolAt 77 = .ok (.iload 6, 2) := dk_21 6 (dk_at dksX5_symbolAt_3 5 rfl rfl)
theorem dX5_symbolAt_79 : decode cX5_symbolAt 79 = .ok (.aload_n 0, 1) := dk_42 (dk_at dksX5_symbolAt_3 7 rfl rfl)
theorem dX5_symbolAt_80 : decode cX5_symbolAt 80 = .ok (.getfield 159, 3) := dk_180 0 159 (dk_at dksX5_symbolAt_3 8 rfl rfl)
theorem dX5_symbolAt_83 : decode cX5_symbolAt 83 = .ok (.iload 4, 2) := dk_21 4 (dk_at dksX5_symbolAt_3 11 rfl rfl)
theorem dX5_symbolAt_85 : decode cX5_symbolAt 85 = .ok (.iaload, 1) := dk_46 (dk_at dksX5_symbolAt_3 13 rfl rfl)
theorem dX5_symbolAt_86 : decode cX5_symbolAt 86 = .ok (.invokestatic 462, 3) := dk_184 1 206 (dk_at dksX5_symbolAt_3 14 rfl rfl)
theorem dX5_symbolAt_89 : decode cX5_symbolAt 89 = .ok (.if_icmp .lt 5, 3) := dk_161 0 5 (dk_at dksX5_symbolAt_3 17 rfl rfl)
theorem dX5_symbolAt_92 : decode cX5_symbolAt 92 = .ok (.iconst (-1), 1) := dk_2 (dk_at dksX5_symbolAt_3 20 rfl rfl)
theorem dX5_symbolAt_93 : decode cX5_symbolAt 93 = .ok (.ireturn, 1) := dk_172 (dk_at dksX5_symbolAt_3 21 rfl rfl)
theorem dX5_symbolAt_94 : decode cX5_symbolAt 94 = .ok (.aload_n 0, 1) := dk_42 (dk_at dksX5_symbolAt_3 22 rfl rfl)
theorem dX5_symbolAt_95 : decode cX5_symbolAt 95 = .ok (.iload 4, 2) := dk_21 4 (dk_at dksX5_symbolAt_4 0 rfl rfl)
theorem dX5_symbolAt_97 : decode cX5_symbolAt 97 = .ok (.iload 6, 2) := dk_21 6 (dk_at dksX5_symbolAt_4 2 rfl rfl)
theorem dX5_symbolAt_99 : decode cX5_symbolAt 99 = .ok (.invokevirtual 465, 3) := dk_182 1 209 (dk_at dksX5_symbolAt_4 4 rfl rfl)
theorem dX5_symbolAt_102 : decode cX5_symbolAt 102 = .ok (.istore 4, 2) := dk_54 4 (dk_at dksX5_symbolAt_4 7 rfl rfl)
theorem dX5_symbolAt_104 : decode cX5_symbolAt 104 = .ok (.iinc 5 1, 3) := dk_132 5 1 (dk_at dksX5_symbolAt_4 9 rfl rfl)
theorem dX5_symbolAt_107 : decode cX5_symbolAt 107 = .ok (.goto (-44), 3) := dk_167 255 212 (dk_at dksX5_symbolAt_4 12 rfl rfl)
theorem dX5_symbolAt_110 : decode cX5_symbolAt 110 = .ok (.aload_n 0, 1) := dk_42 (dk_at dksX5_symbolAt_4 15 rfl rfl)
theorem dX5_symbolAt_111 : decode cX5_symbolAt 111 = .ok (.getfield 159, 3) := dk_180 0 159 (dk_at dksX5_symbolAt_4 16 rfl rfl)
theorem dX5_symbolAt_114 : decode cX5_symbolAt 114 = .ok (.iload 4, 2) := dk_21 4 (dk_at dksX5_symbolAt_4 19 rfl rfl)
theorem dX5_symbolAt_116 : decode cX5_symbolAt 116 = .ok (.iaload, 1) := dk_46 (dk_at dksX5_symbolAt_4 21 rfl rfl)
theorem dX5_symbolAt_117 : decode cX5_symbolAt 117 = .ok (.iconst 1, 1) := dk_4 (dk_at dksX5_symbolAt_4 22 rfl rfl)
theorem dX5_symbolAt_118 : decode cX5_symbolAt 118 = .ok (.isub, 1) := dk_100 (dk_at dksX5_symbolAt_4 23 rfl rfl)
theorem dX5_symbolAt_119 : decode cX5_symbolAt 119 = .ok (.ireturn, 1) := dk_172 (dk_at dksX5_symbolAt_5 0 rfl rfl)
def dkwX5_isEndless_6 : List UInt8 := [167, 255, 157, 167, 255, 144, 28, 42, 27, 182, 1, 22, 122, 4, 126, 154, 0, 7, 4, 167, 0, 4, 3, 172]
abbrev dktX5_isEndless_6 : List UInt8 := dkwX5_isEndless_6 ++ []
def dkwX5_isEndless_5 : List UInt8 := [167, 255, 210, 28, 21, 5, 153, 0, 10, 4, 21, 4, 120, 167, 0, 4, 3, 128, 61, 132, 4, 1]
abbrev dktX5_isEndless_5 : List UInt8 := dkwX5_isEndless_5 ++ dktX5_isEndless_6
def dkwX5_isEndless_4 : List UInt8 := [21, 4, 21, 6, 182, 1, 209, 122, 4, 126, 4, 160, 0, 7, 4, 167, 0, 4, 3, 54, 5, 132, 6, 1]
abbrev dktX5_isEndless_4 : List UInt8 := dkwX5_isEndless_4 ++ dktX5_isEndless_5
def dkwX5_isEndless_3 : List UInt8 := [54, 6, 21, 6, 42, 180, 0, 159, 21, 4, 46, 184, 1, 206, 162, 0, 37, 21, 5, 153, 0, 32, 28, 42]
abbrev dktX5_isEndless_3 : List UInt8 := dkwX5_isEndless_3 ++ dktX5_isEndless_4
def dkwX5_isEndless_2 : List UInt8 := [162, 0, 96, 42, 180, 0, 156, 21, 4, 46, 21, 4, 160, 0, 7, 4, 167, 0, 4, 3, 54, 5, 3]
abbrev dktX5_isEndless_2 : List UInt8 := dkwX5_isEndless_2 ++ dktX5_isEndless_3
def dkwX5_isEndless_1 : List UInt8 := [3, 172, 3, 61, 2, 62, 29, 28, 159, 0, 113, 28, 62, 3, 54, 4, 21, 4, 42, 180, 1, 144]
abbrev dktX5_isEndless_1 : List UInt8 := dkwX5_isEndless_1 ++ dktX5_isEndless_2
def dkwX5_isEndless_0 : List UInt8 := [42, 42, 27, 182, 1, 147, 153, 0, 7, 3, 167, 0, 4, 4, 181, 0, 174, 42, 180, 0, 174, 158, 0, 5]
abbrev dktX5_isEndless_0 : List UInt8 := dkwX5_isEndless_0 ++ dktX5_isEndless_1
theorem dksX5_isEndless_0 : cX5_isEndless.data.toList.drop 0 = dktX5_isEndless_0 := by decide +kernel
theorem dksX5_isEndless_1 : cX5_isEndless.data.toList.drop 24 = dktX5_isEndless_1 := dk_seg dksX5_isEndless_0 24 rfl rfl
theorem dksX5_isEndless_2 : cX5_isEndless.data.toList.drop 46 = dktX5_isEndless_2 := dk_seg dksX5_isEndless_1 22 rfl rfl
theorem dksX5_isEndless_3 : cX5_isEndless.data.toList.drop 69 = dktX5_isEndless_3 := dk_seg dksX5_isEndless_2 23 rfl rfl
theorem dksX5_isEndless_4 : cX5_isEndless.data.toList.drop 93 = dktX5_isEndless_4 := dk_seg dksX5_isEndless_3 24 rfl rfl
theorem dksX5_isEndless_5 : cX5_isEndless.data.toList.drop 117 = dktX5_isEndless_5 := dk_seg dksX5_isEndless_4 24 rfl rfl
theorem dksX5_isEndless_6 : cX5_isEndless.data.toList.drop 139 = dktX5_isEndless_6 := dk_seg dksX5_isEndless_5 22 rfl rfl
theorem dX5_isEndless_0 : decode cX5_isEndless 0 = .ok (.aload_n 0, 1) := dk_42 (dk_at dksX5_isEndless_0 0 rfl rfl)
theorem dX5_isEndless_1 : decode cX5_isEndless 1 = .ok (.aload_n 0, 1) := dk_42 (dk_at dksX5_isEndless_0 1 rfl rfl)
theorem dX5_isEndless_2 : decode cX5_isEndless 2 = .ok (.iload_n 1, 1) := dk_27 (dk_at dksX5_isEndless_0 2 rfl rfl)
theorem dX5_isEndless_3 : decode cX5_isEndless 3 = .ok (.invokevirtual 403, 3) := dk_182 1 147 (dk_at dksX5_isEndless_0 3 rfl rfl)
theorem dX5_isEndless_6 : decode cX5_isEndless 6 = .ok (.ifCond .eq 7, 3) := dk_153 0 7 (dk_at dksX5_isEndless_0 6 rfl rfl)
theorem dX5_isEndless_9 : decode cX5_isEndless 9 = .ok (.iconst 0, 1) := dk_3 (dk_at dksX5_isEndless_0 9 rfl rfl)
theorem dX5_isEndless_10 : decode cX5_isEndless 10 = .ok (.goto 4, 3) := dk_167 0 4 (dk_at dksX5_isEndless_0 10 rfl rfl)
theorem dX5_isEndless_13 : decode cX5_isEndless 13 = .ok (.iconst 1, 1) := dk_4 (dk_at dksX5_isEndless_0 13 rfl rfl)
theorem dX5_isEndless_14 : decode cX5_isEndless 14 = .ok (.putfield 174, 3) := dk_181 0 174 (dk_at dksX5_isEndless_0 14 rfl rfl)
theorem dX5_isEndless_17 : decode cX5_isEndless 17 = .ok (.aload_n 0, 1) := dk_42 (dk_at dksX5_isEndless_0 17 rfl rfl)
theorem dX5_isEndless_18 : decode cX5_isEndless 18 = .ok (.getfield 174, 3) := dk_180 0 174 (dk_at dksX5_isEndless_0 18 rfl rfl)
theorem dX5_isEndless_21 : decode cX5_isEndless 21 = .ok (.ifCond .le 5, 3) := dk_158 0 5 (dk_at dksX5_isEndless_0 21 rfl rfl)
theorem dX5_isEndless_24 : decode cX5_isEndless 24 = .ok (.iconst 0, 1) := dk_3 (dk_at dksX5_isEndless_1 0 rfl rfl)
theorem dX5_isEndless_25 : decode cX5_isEndless 25 = .ok (.ireturn, 1) := dk_172 (dk_at dksX5_isEndless_1 1 rfl rfl)
theorem dX5_isEndless_26 : decode cX5_isEndless 26 = .ok (.iconst 0, 1) := dk_3 (dk_at dksX5_isEndless_1 2 rfl rfl)
theorem dX5_isEndless_27 : decode cX5_isEndless 27 = .ok (.istore_n 2, 1) := dk_61 (dk_at dksX5_isEndless_1 3 rfl rfl)
theorem dX5_isEndless_28 : decode cX5_isEndless 28 = .ok (.iconst (-1), 1) := dk_2 (dk_at dksX5_isEndless_1 4 rfl rfl)
theorem dX5_isEndless_29 : decode cX5_isEndless 29 = .ok (.istore_n 3, 1) := dk_62 (dk_at dksX5_isEndless_1 5 rfl rfl)
theorem dX5_isEndless_30 : decode cX5_isEndless 30 = .ok (.iload_n 3, 1) := dk_29 (dk_at dksX5_isEndless_1 6 rfl rfl)
theorem dX5_isEndless_31 : decode cX5_isEndless 31 = .ok (.iload_n 2, 1) := dk_28 (dk_at dksX5_isEndless_1 7 rfl rfl)
theorem dX5_isEndless_32 : decode cX5_isEndless 32 = .ok (.if_icmp .eq 113, 3) := dk_159 0 113 (dk_at dksX5_isEndless_1 8 rfl rfl)
theorem dX5_isEndless_35 : decode cX5_isEndless 35 = .ok (.iload_n 2, 1) := dk_28 (dk_at dksX5_isEndless_1 11 rfl rfl)
theorem dX5_isEndless_36 : decode cX5_isEndless 36 = .ok (.istore_n 3, 1) := dk_62 (dk_at dksX5_isEndless_1 12 rfl rfl)
theorem dX5_isEndless_37 : decode cX5_isEndless 37 = .ok (.iconst 0, 1) := dk_3 (dk_at dksX5_isEndless_1 13 rfl rfl)
theorem dX5_isEndless_38 : decode cX5_isEndless 38 = .ok (.istore 4, 2) := dk_54 4 (dk_at dksX5_isEndless_1 14 rfl rfl)
theorem dX5_isEndless_40 : decode cX5_isEndless 40 = .ok (.iload 4, 2) := dk_21 4 (dk_at dksX5_isEndless_1 16 rfl rfl)
theorem dX5_isEndless_42 : decode cX5_isEndless 42 = .ok (.aload_n 0, 1) := dk_42 (dk_at dksX5_isEndless_1 18 rfl rfl)
theorem dX5_isEndless_43 : decode cX5_isEndless 43 = .ok (.getfield 400, 3) := dk_180 1 144 (dk_at dksX5_isEndless_1 19 rfl rfl)
theorem dX5_isEndless_46 : decode cX5_isEndless 46 = .ok (.if_icmp .ge 96, 3) := dk_162 0 96 (dk_at dksX5_isEndless_2 0 rfl rfl)
theorem dX5_isEndless_49 : decode cX5_isEndless 49 = .ok (.aload_n 0, 1) := dk_42 (dk_at dksX5_isEndless_2 3 rfl rfl)
theorem dX5_isEndless_50 : decode cX5_isEndless 50 = .ok (.getfield 156, 3) := dk_180 0 156 (dk_at dksX5_isEndless_2 4 rfl rfl)
theorem dX5_isEndless_53 : decode cX5_isEndless 53 = .ok (.iload 4, 2) := dk_21 4 (dk_at dksX5_isEndless_2 7 rfl rfl)
theorem dX5_isEndless_55 : decode cX5_isEndless 55 = .ok (.iaload, 1) := dk_46 (dk_at dksX5_isEndless_2 9 rfl rfl)
theorem dX5_isEndless_56 : decode cX5_isEndless 56 = .ok (.iload 4, 2) := dk_21 4 (dk_at dksX5_isEndless_2 10 rfl rfl)
theorem dX5_isEndless_58 : decode cX5_isEndless 58 = .ok (.if_icmp .ne 7, 3) := dk_160 0 7 (dk_at dksX5_isEndless_2 12 rfl rfl)
theorem dX5_isEndless_61 : decode cX5_isEndless 61 = .ok (.iconst 1, 1) := dk_4 (dk_at dksX5_isEndless_2 15 rfl rfl)
theorem dX5_isEndless_62 : decode cX5_isEndless 62 = .ok (.goto 4, 3) := dk_167 0 4 (dk_at dksX5_isEndless_2 16 rfl rfl)
theorem dX5_isEndless_65 : decode cX5_isEndless 65 = .ok (.iconst 0, 1) := dk_3 (dk_at dksX5_isEndless_2 19 rfl rfl)
theorem dX5_isEndless_66 : decode cX5_isEndless 66 = .ok (.istore 5, 2) := dk_54 5 (dk_at dksX5_isEndless_2 20 rfl rfl)
theorem dX5_isEndless_68 : decode cX5_isEndless 68 = .ok (.iconst 0, 1) := dk_3 (dk_at dksX5_isEndless_2 22 rfl rfl)
theorem dX5_isEndless_69 : decode cX5_isEndless 69 = .ok (.istore 6, 2) := dk_54 6 (dk_at dksX5_isEndless_3 0 rfl rfl)
theorem dX5_isEndless_71 : decode cX5_isEndless 71 = .ok (.iload 6, 2) := dk_21 6 (dk_at dksX5_isEndless_3 2 rfl rfl)
theorem dX5_isEndless_73 : decode cX5_isEndless 73 = .ok (.aload_n 0, 1) := dk_42 (dk_at dksX5_isEndless_3 4 rfl rfl)
theorem dX5_isEndless_74 : decode cX5_isEndless 74 = .ok (.getfield 159, 3) := dk_180 0 159 (dk_at dksX5_isEndless_3 5 rfl rfl)
theorem dX5_isEndless_77 : decode cX5_isEndless 77 = .ok (.iload 4, 2) := dk_21 4 (dk_at dksX5_isEndless_3 8 rfl rfl)
theorem dX5_isEndless_79 : decode cX5_isEndless 79 = .ok (.iaload, 1) := dk_46 (dk_at dksX5_isEndless_3 10 rfl rfl)
theorem dX5_isEndless_80 : decode cX5_isEndless 80 = .ok (.invokestatic 462, 3) := dk_184 1 206 (dk_at dksX5_isEndless_3 11 rfl rfl)
theorem dX5_isEndless_83 : decode cX5_isEndless 83 = .ok (.if_icmp .ge 37, 3) := dk_162 0 37 (dk_at dksX5_isEndless_3 14 rfl rfl)
theorem dX5_isEndless_86 : decode cX5_isEndless 86 = .ok (.iload 5, 2) := dk_21 5 (dk_at dksX5_isEndless_3 17 rfl rfl)
theorem dX5_isEndless_88 : decode cX5_isEndless 88 = .ok (.ifCond .eq 32, 3) := dk_153 0 32 (dk_at dksX5_isEndless_3 19 rfl rfl)
theorem dX5_isEndless_91 : decode cX5_isEndless 91 = .ok (.iload_n 2, 1) := dk_28 (dk_at dksX5_isEndless_3 22 rfl rfl)
theorem dX5_isEndless_92 : decode cX5_isEndless 92 = .ok (.aload_n 0, 1) := dk_42 (dk_at dksX5_isEndless_3 23 rfl rfl)
theorem dX5_isEndless_93 : decode cX5_isEndless 93 = .ok (.iload 4, 2) := dk_21 4 (dk_at dksX5_isEndless_4 0 rfl rfl)
theorem dX5_isEndless_95 : decode cX5_isEndless 95 = .ok (.iload 6, 2) := dk_21 6 (dk_at dksX5_isEndless_4 2 rfl rfl)
theorem dX5_isEndless_97 : decode cX5_isEndless 97 = .ok (.invokevirtual 465, 3) := dk_182 1 209 (dk_at dksX5_isEndless_4 4 rfl rfl)
theorem dX5_isEndless_100 : decode cX5_isEndless 100 = .ok (.ishr, 1) := dk_122 (dk_at dksX5_isEndless_4 7 rfl rfl)
theorem dX5_isEndless_101 : decode cX5_isEndless 101 = .ok (.iconst 1, 1) := dk_4 (dk_at dksX5_isEndless_4 8 rfl rfl)
theorem dX5_isEndless_102 : decode cX5_isEndless 102 = .ok (.iand, 1) := dk_126 (dk_at dksX5_isEndless_4 9 rfl rfl)
theorem dX5_isEndless_103 : decode cX5_isEndless 103 = .ok (.iconst 1, 1) := dk_4 (dk_at dksX5_isEndless_4 10 rfl rfl)
theorem dX5_isEndless_104 : decode cX5_isEndless 104 = .ok (.if_icmp .ne 7, 3) := dk_160 0 7 (dk_at dksX5_isEndless_4 11 rfl rfl)
theorem dX5_isEndless_107 : decode cX5_isEndless 107 = .ok (.iconst 1, 1) := dk_4 (dk_at dksX5_isEndless_4 14 rfl rfl)
theorem dX5_isEndless_108 : decode cX5_isEndless 108 = .ok (.goto 4, 3) := dk_167 0 4 (dk_at dksX5_isEndless_4 15 rfl rfl)
theorem dX5_isEndless_111 : decode cX5_isEndless 111 = .ok (.iconst 0, 1) := dk_3 (dk_at dksX5_isEndless_4 18 rfl rfl)
theorem dX5_isEndless_112 : decode cX5_isEndless 112 = .ok (.istore 5, 2) := dk_54 5 (dk_at dksX5_isEndless_4 19 rfl rfl)
theorem dX5_isEndless_114 : decode cX5_isEndless 114 = .ok (.iinc 6 1, 3) := dk_132 6 1 (dk_at dksX5_isEndless_4 21 rfl rfl)
theorem dX5_isEndless_117 : decode cX5_isEndless 117 = .ok (.goto (-46), 3) := dk_167 255 210 (dk_at dksX5_isEndless_5 0 rfl rfl)
theorem dX5_isEndless_120 : decode cX5_isEndless 120 = .ok (.iload_n 2, 1) := dk_28 (dk_at dksX5_isEndless_5 3 rfl rfl)
theorem dX5_isEndless_121 : decode cX5_isEndless 121 = .ok (.iload 5, 2) := dk_21 5 (dk_at dksX5_isEndless_5 4 rfl rfl)
theorem dX5_isEndless_123 : decode cX5_isEndless 123 = .ok (.ifCond .eq 10, 3) := dk_153 0 10 (dk_at dksX5_isEndless_5 6 rfl rfl)
theorem dX5_isEndless_126 : decode cX5_isEndless 126 = .ok (.iconst 1, 1) := dk_4 (dk_at dksX5_isEndless_5 9 rfl rfl)
theorem dX5_isEndless_127 : decode cX5_isEndless 127 = .ok (.iload 4, 2) := dk_21 4 (dk_at dksX5_isEndless_5 10 rfl rfl)
theorem dX5_isEndless_129 : decode cX5_isEndless 129 = .ok (.ishl, 1) := dk_120 (dk_at dksX5_isEndless_5 12 rfl rfl)
theorem dX5_isEndless_130 : decode cX5_isEndless 130 = .ok (.goto 4, 3) := dk_167 0 4 (dk_at dksX5_isEndless_5 13 rfl rfl)
theorem dX5_isEndless_133 : decode cX5_isEndless 133 = .ok (.iconst 0, 1) := dk_3 (dk_at dksX5_isEndless_5 16 rfl rfl)
theorem dX5_isEndless_134 : decode cX5_isEndless 134 = .ok (.ior, 1) := dk_128 (dk_at dksX5_isEndless_5 17 rfl rfl)
theorem dX5_isEndless_135 : decode cX5_isEndless 135 = .ok (.istore_n 2, 1) := dk_61 (dk_at dksX5_isEndless_5 18 rfl rfl)
theorem dX5_isEndless_136 : decode cX5_isEndless 136 = .ok (.iinc 4 1, 3) := dk_132 4 1 (dk_at dksX5_isEndless_5 19 rfl rfl)
theorem dX5_isEndless_139 : decode cX5_isEndless 139 = .ok (.goto (-99), 3) := dk_167 255 157 (dk_at dksX5_isEndless_6 0 rfl rfl)
theorem dX5_isEndless_142 : decode cX5_isEndless 142 = .ok (.goto (-112), 3) := dk_167 255 144 (dk_at dksX5_isEndless_6 3 rfl rfl)
theorem dX5_isEndless_145 : decode cX5_isEndless 145 = .ok (.iload_n 2, 1) := dk_28 (dk_at dksX5_isEndless_6 6 rfl rfl)
theorem dX5_isEndless_146 : decode cX5_isEndless 146 = .ok (.aload_n 0, 1) := dk_42 (dk_at dksX5_isEndless_6 7 rfl rfl)
theorem dX5_isEndless_147 : decode cX5_isEndless 147 = .ok (.iload_n 1, 1) := dk_27 (dk_at dksX5_isEndless_6 8 rfl rfl)
theorem dX5_isEndless_148 : decode cX5_isEndless 148 = .ok (.invokevirtual 278, 3) := dk_182 1 22 (dk_at dksX5_isEndless_6 9 rfl rfl)
theorem dX5_isEndless_151 : decode cX5_isEndless 151 = .ok (.ishr, 1) := dk_122 (dk_at dksX5_isEndless_6 12 rfl rfl)
theorem dX5_isEndless_152 : decode cX5_isEndless 152 = .ok (.iconst 1, 1) := dk_4 (dk_at dksX5_isEndless_6 13 rfl rfl)
theorem dX5_isEndless_153 : decode cX5_isEndless 153 = .ok (.iand, 1) := dk_126 (dk_at dksX5_isEndless_6 14 rfl rfl)
theorem dX5_isEndless_154 : decode cX5_isEndless 154 = .ok (.ifCond .ne 7, 3) := dk_154 0 7 (dk_at dksX5_isEndless_6 15 rfl rfl)
theorem dX5_isEndless_157 : decode cX5_isEndless 157 = .ok (.iconst 1, 1) := dk_4 (dk_at dksX5_isEndless_6 18 rfl rfl)
theorem dX5_isEndless_158 : decode cX5_isEndless 158 = .ok (.goto 4, 3) := dk_167 0 4 (dk_at dksX5_isEndless_6 19 rfl rfl)
theorem dX5_isEndless_161 : decode cX5_isEndless 161 = .ok (.iconst 0, 1) := dk_3 (dk_at dksX5_isEndless_6 22 rfl rfl)
theorem dX5_isEndless_162 : decode cX5_isEndless 162 = .ok (.ireturn, 1) := dk_172 (dk_at dksX5_isEndless_6 23 rfl rfl)
