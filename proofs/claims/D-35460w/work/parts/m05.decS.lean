/-! decode rows of the others -/
set_option maxRecDepth 100000
theorem dJ0_init_0 : decode cJ0_init 0 = .ok (.aload_n 0, 1) := by decide +kernel
theorem dJ0_init_1 : decode cJ0_init 1 = .ok (.invokespecial 1, 3) := by decide +kernel
theorem dJ0_init_4 : decode cJ0_init 4 = .ok (.return_, 1) := by decide +kernel
def dkwJ1_init_0 : List UInt8 := [42, 183, 0, 1, 42, 3, 181, 0, 7, 177]
abbrev dktJ1_init_0 : List UInt8 := dkwJ1_init_0 ++ []
theorem dksJ1_init_0 : cJ1_init.data.toList.drop 0 = dktJ1_init_0 := by decide +kernel
theorem dJ1_init_0 : decode cJ1_init 0 = .ok (.aload_n 0, 1) := dk_42 (dk_at dksJ1_init_0 0 rfl rfl)
theorem dJ1_init_1 : decode cJ1_init 1 = .ok (.invokespecial 1, 3) := dk_183 0 1 (dk_at dksJ1_init_0 1 rfl rfl)
theorem dJ1_init_4 : decode cJ1_init 4 = .ok (.aload_n 0, 1) := dk_42 (dk_at dksJ1_init_0 4 rfl rfl)
theorem dJ1_init_5 : decode cJ1_init 5 = .ok (.iconst 0, 1) := dk_3 (dk_at dksJ1_init_0 5 rfl rfl)
theorem dJ1_init_6 : decode cJ1_init 6 = .ok (.putfield 7, 3) := dk_181 0 7 (dk_at dksJ1_init_0 6 rfl rfl)
theorem dJ1_init_9 : decode cJ1_init 9 = .ok (.return_, 1) := dk_177 (dk_at dksJ1_init_0 9 rfl rfl)
def dkwJ10_max_0 : List UInt8 := [26, 27, 161, 0, 7, 26, 167, 0, 4, 27, 172]
abbrev dktJ10_max_0 : List UInt8 := dkwJ10_max_0 ++ []
theorem dksJ10_max_0 : cJ10_max.data.toList.drop 0 = dktJ10_max_0 := by decide +kernel
theorem dJ10_max_0 : decode cJ10_max 0 = .ok (.iload_n 0, 1) := dk_26 (dk_at dksJ10_max_0 0 rfl rfl)
theorem dJ10_max_1 : decode cJ10_max 1 = .ok (.iload_n 1, 1) := dk_27 (dk_at dksJ10_max_0 1 rfl rfl)
theorem dJ10_max_2 : decode cJ10_max 2 = .ok (.if_icmp .lt 7, 3) := dk_161 0 7 (dk_at dksJ10_max_0 2 rfl rfl)
theorem dJ10_max_5 : decode cJ10_max 5 = .ok (.iload_n 0, 1) := dk_26 (dk_at dksJ10_max_0 5 rfl rfl)
theorem dJ10_max_6 : decode cJ10_max 6 = .ok (.goto 4, 3) := dk_167 0 4 (dk_at dksJ10_max_0 6 rfl rfl)
theorem dJ10_max_9 : decode cJ10_max 9 = .ok (.iload_n 1, 1) := dk_27 (dk_at dksJ10_max_0 9 rfl rfl)
theorem dJ10_max_10 : decode cJ10_max 10 = .ok (.ireturn, 1) := dk_172 (dk_at dksJ10_max_0 10 rfl rfl)
def dkwJ10_min_0 : List UInt8 := [26, 27, 163, 0, 7, 26, 167, 0, 4, 27, 172]
abbrev dktJ10_min_0 : List UInt8 := dkwJ10_min_0 ++ []
theorem dksJ10_min_0 : cJ10_min.data.toList.drop 0 = dktJ10_min_0 := by decide +kernel
theorem dJ10_min_0 : decode cJ10_min 0 = .ok (.iload_n 0, 1) := dk_26 (dk_at dksJ10_min_0 0 rfl rfl)
theorem dJ10_min_1 : decode cJ10_min 1 = .ok (.iload_n 1, 1) := dk_27 (dk_at dksJ10_min_0 1 rfl rfl)
theorem dJ10_min_2 : decode cJ10_min 2 = .ok (.if_icmp .gt 7, 3) := dk_163 0 7 (dk_at dksJ10_min_0 2 rfl rfl)
theorem dJ10_min_5 : decode cJ10_min 5 = .ok (.iload_n 0, 1) := dk_26 (dk_at dksJ10_min_0 5 rfl rfl)
theorem dJ10_min_6 : decode cJ10_min 6 = .ok (.goto 4, 3) := dk_167 0 4 (dk_at dksJ10_min_0 6 rfl rfl)
theorem dJ10_min_9 : decode cJ10_min 9 = .ok (.iload_n 1, 1) := dk_27 (dk_at dksJ10_min_0 9 rfl rfl)
theorem dJ10_min_10 : decode cJ10_min 10 = .ok (.ireturn, 1) := dk_172 (dk_at dksJ10_min_0 10 rfl rfl)
def dkwJ11_copyOf_0 : List UInt8 := [42, 27, 42, 182, 0, 86, 184, 1, 44, 176]
abbrev dktJ11_copyOf_0 : List UInt8 := dkwJ11_copyOf_0 ++ []
theorem dksJ11_copyOf_0 : cJ11_copyOf.data.toList.drop 0 = dktJ11_copyOf_0 := by decide +kernel
theorem dJ11_copyOf_0 : decode cJ11_copyOf 0 = .ok (.aload_n 0, 1) := dk_42 (dk_at dksJ11_copyOf_0 0 rfl rfl)
theorem dJ11_copyOf_1 : decode cJ11_copyOf 1 = .ok (.iload_n 1, 1) := dk_27 (dk_at dksJ11_copyOf_0 1 rfl rfl)
theorem dJ11_copyOf_2 : decode cJ11_copyOf 2 = .ok (.aload_n 0, 1) := dk_42 (dk_at dksJ11_copyOf_0 2 rfl rfl)
theorem dJ11_copyOf_3 : decode cJ11_copyOf 3 = .ok (.invokevirtual 86, 3) := dk_182 0 86 (dk_at dksJ11_copyOf_0 3 rfl rfl)
theorem dJ11_copyOf_6 : decode cJ11_copyOf 6 = .ok (.invokestatic 300, 3) := dk_184 1 44 (dk_at dksJ11_copyOf_0 6 rfl rfl)
theorem dJ11_copyOf_9 : decode cJ11_copyOf 9 = .ok (.areturn, 1) := dk_176 (dk_at dksJ11_copyOf_0 9 rfl rfl)
def dkwJ11_copyOf_2_1 : List UInt8 := [78, 42, 3, 45, 3, 42, 190, 27, 184, 1, 48, 184, 0, 150, 45, 176]
abbrev dktJ11_copyOf_2_1 : List UInt8 := dkwJ11_copyOf_2_1 ++ []
def dkwJ11_copyOf_2_0 : List UInt8 := [44, 18, 110, 166, 0, 10, 27, 189, 0, 2, 167, 0, 14, 44, 182, 0, 90, 27, 184, 0, 95, 192, 0, 110]
abbrev dktJ11_copyOf_2_0 : List UInt8 := dkwJ11_copyOf_2_0 ++ dktJ11_copyOf_2_1
theorem dksJ11_copyOf_2_0 : cJ11_copyOf_2.data.toList.drop 0 = dktJ11_copyOf_2_0 := by decide +kernel
theorem dksJ11_copyOf_2_1 : cJ11_copyOf_2.data.toList.drop 24 = dktJ11_copyOf_2_1 := dk_seg dksJ11_copyOf_2_0 24 rfl rfl
theorem dJ11_copyOf_2_0 : decode cJ11_copyOf_2 0 = .ok (.aload_n 2, 1) := dk_44 (dk_at dksJ11_copyOf_2_0 0 rfl rfl)
theorem dJ11_copyOf_2_1 : decode cJ11_copyOf_2 1 = .ok (.ldc 110, 2) := dk_18 110 (dk_at dksJ11_copyOf_2_0 1 rfl rfl)
theorem dJ11_copyOf_2_3 : decode cJ11_copyOf_2 3 = .ok (.if_acmp .ne 10, 3) := dk_166 0 10 (dk_at dksJ11_copyOf_2_0 3 rfl rfl)
theorem dJ11_copyOf_2_6 : decode cJ11_copyOf_2 6 = .ok (.iload_n 1, 1) := dk_27 (dk_at dksJ11_copyOf_2_0 6 rfl rfl)
theorem dJ11_copyOf_2_7 : decode cJ11_copyOf_2 7 = .ok (.anewarray 2, 3) := dk_189 0 2 (dk_at dksJ11_copyOf_2_0 7 rfl rfl)
theorem dJ11_copyOf_2_10 : decode cJ11_copyOf_2 10 = .ok (.goto 14, 3) := dk_167 0 14 (dk_at dksJ11_copyOf_2_0 10 rfl rfl)
theorem dJ11_copyOf_2_13 : decode cJ11_copyOf_2 13 = .ok (.aload_n 2, 1) := dk_44 (dk_at dksJ11_copyOf_2_0 13 rfl rfl)
theorem dJ11_copyOf_2_14 : decode cJ11_copyOf_2 14 = .ok (.invokevirtual 90, 3) := dk_182 0 90 (dk_at dksJ11_copyOf_2_0 14 rfl rfl)
theorem dJ11_copyOf_2_17 : decode cJ11_copyOf_2 17 = .ok (.iload_n 1, 1) := dk_27 (dk_at dksJ11_copyOf_2_0 17 rfl rfl)
theorem dJ11_copyOf_2_18 : decode cJ11_copyOf_2 18 = .ok (.invokestatic 95, 3) := dk_184 0 95 (dk_at dksJ11_copyOf_2_0 18 rfl rfl)
theorem dJ11_copyOf_2_21 : decode cJ11_copyOf_2 21 = .ok (.checkcast 110, 3) := dk_192 0 110 (dk_at dksJ11_copyOf_2_0 21 rfl rfl)
theorem dJ11_copyOf_2_24 : decode cJ11_copyOf_2 24 = .ok (.astore_n 3, 1) := dk_78 (dk_at dksJ11_copyOf_2_1 0 rfl rfl)
theorem dJ11_copyOf_2_25 : decode cJ11_copyOf_2 25 = .ok (.aload_n 0, 1) := dk_42 (dk_at dksJ11_copyOf_2_1 1 rfl rfl)
theorem dJ11_copyOf_2_26 : decode cJ11_copyOf_2 26 = .ok (.iconst 0, 1) := dk_3 (dk_at dksJ11_copyOf_2_1 2 rfl rfl)
theorem dJ11_copyOf_2_27 : decode cJ11_copyOf_2 27 = .ok (.aload_n 3, 1) := dk_45 (dk_at dksJ11_copyOf_2_1 3 rfl rfl)
theorem dJ11_copyOf_2_28 : decode cJ11_copyOf_2 28 = .ok (.iconst 0, 1) := dk_3 (dk_at dksJ11_copyOf_2_1 4 rfl rfl)
theorem dJ11_copyOf_2_29 : decode cJ11_copyOf_2 29 = .ok (.aload_n 0, 1) := dk_42 (dk_at dksJ11_copyOf_2_1 5 rfl rfl)
theorem dJ11_copyOf_2_30 : decode cJ11_copyOf_2 30 = .ok (.arraylength, 1) := dk_190 (dk_at dksJ11_copyOf_2_1 6 rfl rfl)
theorem dJ11_copyOf_2_31 : decode cJ11_copyOf_2 31 = .ok (.iload_n 1, 1) := dk_27 (dk_at dksJ11_copyOf_2_1 7 rfl rfl)
theorem dJ11_copyOf_2_32 : decode cJ11_copyOf_2 32 = .ok (.invokestatic 304, 3) := dk_184 1 48 (dk_at dksJ11_copyOf_2_1 8 rfl rfl)
theorem dJ11_copyOf_2_35 : decode cJ11_copyOf_2 35 = .ok (.invokestatic 150, 3) := dk_184 0 150 (dk_at dksJ11_copyOf_2_1 11 rfl rfl)
theorem dJ11_copyOf_2_38 : decode cJ11_copyOf_2 38 = .ok (.aload_n 3, 1) := dk_45 (dk_at dksJ11_copyOf_2_1 14 rfl rfl)
theorem dJ11_copyOf_2_39 : decode cJ11_copyOf_2 39 = .ok (.areturn, 1) := dk_176 (dk_at dksJ11_copyOf_2_1 15 rfl rfl)
def dkwJ12_init_0 : List UInt8 := [42, 43, 183, 0, 7, 177]
abbrev dktJ12_init_0 : List UInt8 := dkwJ12_init_0 ++ []
theorem dksJ12_init_0 : cJ12_init.data.toList.drop 0 = dktJ12_init_0 := by decide +kernel
theorem dJ12_init_0 : decode cJ12_init 0 = .ok (.aload_n 0, 1) := dk_42 (dk_at dksJ12_init_0 0 rfl rfl)
theorem dJ12_init_1 : decode cJ12_init 1 = .ok (.aload_n 1, 1) := dk_43 (dk_at dksJ12_init_0 1 rfl rfl)
theorem dJ12_init_2 : decode cJ12_init 2 = .ok (.invokespecial 7, 3) := dk_183 0 7 (dk_at dksJ12_init_0 2 rfl rfl)
theorem dJ12_init_5 : decode cJ12_init 5 = .ok (.return_, 1) := dk_177 (dk_at dksJ12_init_0 5 rfl rfl)
theorem dJ12_init_2_0 : decode cJ12_init_2 0 = .ok (.aload_n 0, 1) := by decide +kernel
theorem dJ12_init_2_1 : decode cJ12_init_2 1 = .ok (.invokespecial 1, 3) := by decide +kernel
theorem dJ12_init_2_4 : decode cJ12_init_2 4 = .ok (.return_, 1) := by decide +kernel
def dkwJ13_init_0 : List UInt8 := [42, 43, 183, 0, 7, 177]
abbrev dktJ13_init_0 : List UInt8 := dkwJ13_init_0 ++ []
theorem dksJ13_init_0 : cJ13_init.data.toList.drop 0 = dktJ13_init_0 := by decide +kernel
theorem dJ13_init_0 : decode cJ13_init 0 = .ok (.aload_n 0, 1) := dk_42 (dk_at dksJ13_init_0 0 rfl rfl)
theorem dJ13_init_1 : decode cJ13_init 1 = .ok (.aload_n 1, 1) := dk_43 (dk_at dksJ13_init_0 1 rfl rfl)
theorem dJ13_init_2 : decode cJ13_init 2 = .ok (.invokespecial 7, 3) := dk_183 0 7 (dk_at dksJ13_init_0 2 rfl rfl)
theorem dJ13_init_5 : decode cJ13_init 5 = .ok (.return_, 1) := dk_177 (dk_at dksJ13_init_0 5 rfl rfl)
def dkwJ15_checkIndex_0 : List UInt8 := [26, 27, 1, 184, 0, 105, 172]
abbrev dktJ15_checkIndex_0 : List UInt8 := dkwJ15_checkIndex_0 ++ []
theorem dksJ15_checkIndex_0 : cJ15_checkIndex.data.toList.drop 0 = dktJ15_checkIndex_0 := by decide +kernel
theorem dJ15_checkIndex_0 : decode cJ15_checkIndex 0 = .ok (.iload_n 0, 1) := dk_26 (dk_at dksJ15_checkIndex_0 0 rfl rfl)
theorem dJ15_checkIndex_1 : decode cJ15_checkIndex 1 = .ok (.iload_n 1, 1) := dk_27 (dk_at dksJ15_checkIndex_0 1 rfl rfl)
theorem dJ15_checkIndex_2 : decode cJ15_checkIndex 2 = .ok (.aconst_null, 1) := dk_1 (dk_at dksJ15_checkIndex_0 2 rfl rfl)
theorem dJ15_checkIndex_3 : decode cJ15_checkIndex 3 = .ok (.invokestatic 105, 3) := dk_184 0 105 (dk_at dksJ15_checkIndex_0 3 rfl rfl)
theorem dJ15_checkIndex_6 : decode cJ15_checkIndex 6 = .ok (.ireturn, 1) := dk_172 (dk_at dksJ15_checkIndex_0 6 rfl rfl)
def dkwJ16_checkIndex_0 : List UInt8 := [26, 155, 0, 8, 26, 27, 161, 0, 10, 44, 26, 27, 184, 0, 95, 191, 26, 172]
abbrev dktJ16_checkIndex_0 : List UInt8 := dkwJ16_checkIndex_0 ++ []
theorem dksJ16_checkIndex_0 : cJ16_checkIndex.data.toList.drop 0 = dktJ16_checkIndex_0 := by decide +kernel
theorem dJ16_checkIndex_0 : decode cJ16_checkIndex 0 = .ok (.iload_n 0, 1) := dk_26 (dk_at dksJ16_checkIndex_0 0 rfl rfl)
theorem dJ16_checkIndex_1 : decode cJ16_checkIndex 1 = .ok (.ifCond .lt 8, 3) := dk_155 0 8 (dk_at dksJ16_checkIndex_0 1 rfl rfl)
theorem dJ16_checkIndex_4 : decode cJ16_checkIndex 4 = .ok (.iload_n 0, 1) := dk_26 (dk_at dksJ16_checkIndex_0 4 rfl rfl)
theorem dJ16_checkIndex_5 : decode cJ16_checkIndex 5 = .ok (.iload_n 1, 1) := dk_27 (dk_at dksJ16_checkIndex_0 5 rfl rfl)
theorem dJ16_checkIndex_6 : decode cJ16_checkIndex 6 = .ok (.if_icmp .lt 10, 3) := dk_161 0 10 (dk_at dksJ16_checkIndex_0 6 rfl rfl)
theorem dJ16_checkIndex_9 : decode cJ16_checkIndex 9 = .ok (.aload_n 2, 1) := dk_44 (dk_at dksJ16_checkIndex_0 9 rfl rfl)
theorem dJ16_checkIndex_10 : decode cJ16_checkIndex 10 = .ok (.iload_n 0, 1) := dk_26 (dk_at dksJ16_checkIndex_0 10 rfl rfl)
theorem dJ16_checkIndex_11 : decode cJ16_checkIndex 11 = .ok (.iload_n 1, 1) := dk_27 (dk_at dksJ16_checkIndex_0 11 rfl rfl)
theorem dJ16_checkIndex_12 : decode cJ16_checkIndex 12 = .ok (.invokestatic 95, 3) := dk_184 0 95 (dk_at dksJ16_checkIndex_0 12 rfl rfl)
theorem dJ16_checkIndex_15 : decode cJ16_checkIndex 15 = .ok (.athrow, 1) := dk_191 (dk_at dksJ16_checkIndex_0 15 rfl rfl)
theorem dJ16_checkIndex_16 : decode cJ16_checkIndex 16 = .ok (.iload_n 0, 1) := dk_26 (dk_at dksJ16_checkIndex_0 16 rfl rfl)
theorem dJ16_checkIndex_17 : decode cJ16_checkIndex 17 = .ok (.ireturn, 1) := dk_172 (dk_at dksJ16_checkIndex_0 17 rfl rfl)
theorem dJ17_init_0 : decode cJ17_init 0 = .ok (.aload_n 0, 1) := by decide +kernel
theorem dJ17_init_1 : decode cJ17_init 1 = .ok (.invokespecial 1, 3) := by decide +kernel
theorem dJ17_init_4 : decode cJ17_init 4 = .ok (.return_, 1) := by decide +kernel
def dkwJ18_numberOfTrailingZeros_3 : List UInt8 := [5, 124, 59, 27, 26, 4, 124, 96, 172]
abbrev dktJ18_numberOfTrailingZeros_3 : List UInt8 := dkwJ18_numberOfTrailingZeros_3 ++ []
def dkwJ18_numberOfTrailingZeros_2 : List UInt8 := [124, 59, 26, 16, 16, 164, 0, 10, 132, 1, 4, 26, 7, 124, 59, 26, 7, 164, 0, 10, 132, 1, 2, 26]
abbrev dktJ18_numberOfTrailingZeros_2 : List UInt8 := dkwJ18_numberOfTrailingZeros_2 ++ dktJ18_numberOfTrailingZeros_3
def dkwJ18_numberOfTrailingZeros_1 : List UInt8 := [164, 0, 11, 132, 1, 16, 26, 16, 16, 124, 59, 26, 17, 1, 0, 164, 0, 11, 132, 1, 8, 26, 16, 8]
abbrev dktJ18_numberOfTrailingZeros_1 : List UInt8 := dkwJ18_numberOfTrailingZeros_1 ++ dktJ18_numberOfTrailingZeros_2
def dkwJ18_numberOfTrailingZeros_0 : List UInt8 := [26, 2, 130, 26, 4, 100, 126, 59, 26, 157, 0, 8, 26, 16, 32, 126, 172, 4, 60, 26, 19, 1, 8]
abbrev dktJ18_numberOfTrailingZeros_0 : List UInt8 := dkwJ18_numberOfTrailingZeros_0 ++ dktJ18_numberOfTrailingZeros_1
theorem dksJ18_numberOfTrailingZeros_0 : cJ18_numberOfTrailingZeros.data.toList.drop 0 = dktJ18_numberOfTrailingZeros_0 := by decide +kernel
theorem dksJ18_numberOfTrailingZeros_1 : cJ18_numberOfTrailingZeros.data.toList.drop 23 = dktJ18_numberOfTrailingZeros_1 := dk_seg dksJ18_numberOfTrailingZeros_0 23 rfl rfl
theorem dksJ18_numberOfTrailingZeros_2 : cJ18_numberOfTrailingZeros.data.toList.drop 47 = dktJ18_numberOfTrailingZeros_2 := dk_seg dksJ18_numberOfTrailingZeros_1 24 rfl rfl
theorem dksJ18_numberOfTrailingZeros_3 : cJ18_numberOfTrailingZeros.data.toList.drop 71 = dktJ18_numberOfTrailingZeros_3 := dk_seg dksJ18_numberOfTrailingZeros_2 24 rfl rfl
theorem dJ18_numberOfTrailingZeros_0 : decode cJ18_numberOfTrailingZeros 0 = .ok (.iload_n 0, 1) := dk_26 (dk_at dksJ18_numberOfTrailingZeros_0 0 rfl rfl)
theorem dJ18_numberOfTrailingZeros_1 : decode cJ18_numberOfTrailingZeros 1 = .ok (.iconst (-1), 1) := dk_2 (dk_at dksJ18_numberOfTrailingZeros_0 1 rfl rfl)
theorem dJ18_numberOfTrailingZeros_2 : decode cJ18_numberOfTrailingZeros 2 = .ok (.ixor, 1) := dk_130 (dk_at dksJ18_numberOfTrailingZeros_0 2 rfl rfl)
theorem dJ18_numberOfTrailingZeros_3 : decode cJ18_numberOfTrailingZeros 3 = .ok (.iload_n 0, 1) := dk_26 (dk_at dksJ18_numberOfTrailingZeros_0 3 rfl rfl)
theorem dJ18_numberOfTrailingZeros_4 : decode cJ18_numberOfTrailingZeros 4 = .ok (.iconst 1, 1) := dk_4 (dk_at dksJ18_numberOfTrailingZeros_0 4 rfl rfl)
theorem dJ18_numberOfTrailingZeros_5 : decode cJ18_numberOfTrailingZeros 5 = .ok (.isub, 1) := dk_100 (dk_at dksJ18_numberOfTrailingZeros_0 5 rfl rfl)
theorem dJ18_numberOfTrailingZeros_6 : decode cJ18_numberOfTrailingZeros 6 = .ok (.iand, 1) := dk_126 (dk_at dksJ18_numberOfTrailingZeros_0 6 rfl rfl)
theorem dJ18_numberOfTrailingZeros_7 : decode cJ18_numberOfTrailingZeros 7 = .ok (.istore_n 0, 1) := dk_59 (dk_at dksJ18_numberOfTrailingZeros_0 7 rfl rfl)
theorem dJ18_numberOfTrailingZeros_8 : decode cJ18_numberOfTrailingZeros 8 = .ok (.iload_n 0, 1) := dk_26 (dk_at dksJ18_numberOfTrailingZeros_0 8 rfl rfl)
theorem dJ18_numberOfTrailingZeros_9 : decode cJ18_numberOfTrailingZeros 9 = .ok (.ifCond .gt 8, 3) := dk_157 0 8 (dk_at dksJ18_numberOfTrailingZeros_0 9 rfl rfl)
theorem dJ18_numberOfTrailingZeros_12 : decode cJ18_numberOfTrailingZeros 12 = .ok (.iload_n 0, 1) := dk_26 (dk_at dksJ18_numberOfTrailingZeros_0 12 rfl rfl)
theorem dJ18_numberOfTrailingZeros_13 : decode cJ18_numberOfTrailingZeros 13 = .ok (.bipush 32, 2) := dk_16 32 (dk_at dksJ18_numberOfTrailingZeros_0 13 rfl rfl)
theorem dJ18_numberOfTrailingZeros_15 : decode cJ18_numberOfTrailingZeros 15 = .ok (.iand, 1) := dk_126 (dk_at dksJ18_numberOfTrailingZeros_0 15 rfl rfl)
theorem dJ18_numberOfTrailingZeros_16 : decode cJ18_numberOfTrailingZeros 16 = .ok (.ireturn, 1) := dk_172 (dk_at dksJ18_numberOfTrailingZeros_0 16 rfl rfl)
theorem dJ18_numberOfTrailingZeros_17 : decode cJ18_numberOfTrailingZeros 17 = .ok (.iconst 1, 1) := dk_4 (dk_at dksJ18_numberOfTrailingZeros_0 17 rfl rfl)
theorem dJ18_numberOfTrailingZeros_18 : decode cJ18_numberOfTrailingZeros 18 = .ok (.istore_n 1, 1) := dk_60 (dk_at dksJ18_numberOfTrailingZeros_0 18 rfl rfl)
theorem dJ18_numberOfTrailingZeros_19 : decode cJ18_numberOfTrailingZeros 19 = .ok (.iload_n 0, 1) := dk_26 (dk_at dksJ18_numberOfTrailingZeros_0 19 rfl rfl)
theorem dJ18_numberOfTrailingZeros_20 : decode cJ18_numberOfTrailingZeros 20 = .ok (.ldc_w 264, 3) := dk_19 1 8 (dk_at dksJ18_numberOfTrailingZeros_0 20 rfl rfl)
theorem dJ18_numberOfTrailingZeros_23 : decode cJ18_numberOfTrailingZeros 23 = .ok (.if_icmp .le 11, 3) := dk_164 0 11 (dk_at dksJ18_numberOfTrailingZeros_1 0 rfl rfl)
theorem dJ18_numberOfTrailingZeros_26 : decode cJ18_numberOfTrailingZeros 26 = .ok (.iinc 1 16, 3) := dk_132 1 16 (dk_at dksJ18_numberOfTrailingZeros_1 3 rfl rfl)
theorem dJ18_numberOfTrailingZeros_29 : decode cJ18_numberOfTrailingZeros 29 = .ok (.iload_n 0, 1) := dk_26 (dk_at dksJ18_numberOfTrailingZeros_1 6 rfl rfl)
theorem dJ18_numberOfTrailingZeros_30 : decode cJ18_numberOfTrailingZeros 30 = .ok (.bipush 16, 2) := dk_16 16 (dk_at dksJ18_numberOfTrailingZeros_1 7 rfl rfl)
theorem dJ18_numberOfTrailingZeros_32 : decode cJ18_numberOfTrailingZeros 32 = .ok (.iushr, 1) := dk_124 (dk_at dksJ18_numberOfTrailingZeros_1 9 rfl rfl)
theorem dJ18_numberOfTrailingZeros_33 : decode cJ18_numberOfTrailingZeros 33 = .ok (.istore_n 0, 1) := dk_59 (dk_at dksJ18_numberOfTrailingZeros_1 10 rfl rfl)
theorem dJ18_numberOfTrailingZeros_34 : decode cJ18_numberOfTrailingZeros 34 = .ok (.iload_n 0, 1) := dk_26 (dk_at dksJ18_numberOfTrailingZeros_1 11 rfl rfl)
theorem dJ18_numberOfTrailingZeros_35 : decode cJ18_numberOfTrailingZeros 35 = .ok (.sipush 256, 3) := dk_17 1 0 (dk_at dksJ18_numberOfTrailingZeros_1 12 rfl rfl)
theorem dJ18_numberOfTrailingZeros_38 : decode cJ18_numberOfTrailingZeros 38 = .ok (.if_icmp .le 11, 3) := dk_164 0 11 (dk_at dksJ18_numberOfTrailingZeros_1 15 rfl rfl)
theorem dJ18_numberOfTrailingZeros_41 : decode cJ18_numberOfTrailingZeros 41 = .ok (.iinc 1 8, 3) := dk_132 1 8 (dk_at dksJ18_numberOfTrailingZeros_1 18 rfl rfl)
theorem dJ18_numberOfTrailingZeros_44 : decode cJ18_numberOfTrailingZeros 44 = .ok (.iload_n 0, 1) := dk_26 (dk_at dksJ18_numberOfTrailingZeros_1 21 rfl rfl)
theorem dJ18_numberOfTrailingZeros_45 : decode cJ18_numberOfTrailingZeros 45 = .ok (.bipush 8, 2) := dk_16 8 (dk_at dksJ18_numberOfTrailingZeros_1 22 rfl rfl)
theorem dJ18_numberOfTrailingZeros_47 : decode cJ18_numberOfTrailingZeros 47 = .ok (.iushr, 1) := dk_124 (dk_at dksJ18_numberOfTrailingZeros_2 0 rfl rfl)
theorem dJ18_numberOfTrailingZeros_48 : decode cJ18_numberOfTrailingZeros 48 = .ok (.istore_n 0, 1) := dk_59 (dk_at dksJ18_numberOfTrailingZeros_2 1 rfl rfl)
theorem dJ18_numberOfTrailingZeros_49 : decode cJ18_numberOfTrailingZeros 49 = .ok (.iload_n 0, 1) := dk_26 (dk_at dksJ18_numberOfTrailingZeros_2 2 rfl rfl)
theorem dJ18_numberOfTrailingZeros_50 : decode cJ18_numberOfTrailingZeros 50 = .ok (.bipush 16, 2) := dk_16 16 (dk_at dksJ18_numberOfTrailingZeros_2 3 rfl rfl)
theorem dJ18_numberOfTrailingZeros_52 : decode cJ18_numberOfTrailingZeros 52 = .ok (.if_icmp .le 10, 3) := dk_164 0 10 (dk_at dksJ18_numberOfTrailingZeros_2 5 rfl rfl)
theorem dJ18_numberOfTrailingZeros_55 : decode cJ18_numberOfTrailingZeros 55 = .ok (.iinc 1 4, 3) := dk_132 1 4 (dk_at dksJ18_numberOfTrailingZeros_2 8 rfl rfl)
theorem dJ18_numberOfTrailingZeros_58 : decode cJ18_numberOfTrailingZeros 58 = .ok (.iload_n 0, 1) := dk_26 (dk_at dksJ18_numberOfTrailingZeros_2 11 rfl rfl)
theorem dJ18_numberOfTrailingZeros_59 : decode cJ18_numberOfTrailingZeros 59 = .ok (.iconst 4, 1) := dk_7 (dk_at dksJ18_numberOfTrailingZeros_2 12 rfl rfl)
theorem dJ18_numberOfTrailingZeros_60 : decode cJ18_numberOfTrailingZeros 60 = .ok (.iushr, 1) := dk_124 (dk_at dksJ18_numberOfTrailingZeros_2 13 rfl rfl)
theorem dJ18_numberOfTrailingZeros_61 : decode cJ18_numberOfTrailingZeros 61 = .ok (.istore_n 0, 1) := dk_59 (dk_at dksJ18_numberOfTrailingZeros_2 14 rfl rfl)
theorem dJ18_numberOfTrailingZeros_62 : decode cJ18_numberOfTrailingZeros 62 = .ok (.iload_n 0, 1) := dk_26 (dk_at dksJ18_numberOfTrailingZeros_2 15 rfl rfl)
theorem dJ18_numberOfTrailingZeros_63 : decode cJ18_numberOfTrailingZeros 63 = .ok (.iconst 4, 1) := dk_7 (dk_at dksJ18_numberOfTrailingZeros_2 16 rfl rfl)
theorem dJ18_numberOfTrailingZeros_64 : decode cJ18_numberOfTrailingZeros 64 = .ok (.if_icmp .le 10, 3) := dk_164 0 10 (dk_at dksJ18_numberOfTrailingZeros_2 17 rfl rfl)
theorem dJ18_numberOfTrailingZeros_67 : decode cJ18_numberOfTrailingZeros 67 = .ok (.iinc 1 2, 3) := dk_132 1 2 (dk_at dksJ18_numberOfTrailingZeros_2 20 rfl rfl)
theorem dJ18_numberOfTrailingZeros_70 : decode cJ18_numberOfTrailingZeros 70 = .ok (.iload_n 0, 1) := dk_26 (dk_at dksJ18_numberOfTrailingZeros_2 23 rfl rfl)
theorem dJ18_numberOfTrailingZeros_71 : decode cJ18_numberOfTrailingZeros 71 = .ok (.iconst 2, 1) := dk_5 (dk_at dksJ18_numberOfTrailingZeros_3 0 rfl rfl)
theorem dJ18_numberOfTrailingZeros_72 : decode cJ18_numberOfTrailingZeros 72 = .ok (.iushr, 1) := dk_124 (dk_at dksJ18_numberOfTrailingZeros_3 1 rfl rfl)
theorem dJ18_numberOfTrailingZeros_73 : decode cJ18_numberOfTrailingZeros 73 = .ok (.istore_n 0, 1) := dk_59 (dk_at dksJ18_numberOfTrailingZeros_3 2 rfl rfl)
theorem dJ18_numberOfTrailingZeros_74 : decode cJ18_numberOfTrailingZeros 74 = .ok (.iload_n 1, 1) := dk_27 (dk_at dksJ18_numberOfTrailingZeros_3 3 rfl rfl)
theorem dJ18_numberOfTrailingZeros_75 : decode cJ18_numberOfTrailingZeros 75 = .ok (.iload_n 0, 1) := dk_26 (dk_at dksJ18_numberOfTrailingZeros_3 4 rfl rfl)
theorem dJ18_numberOfTrailingZeros_76 : decode cJ18_numberOfTrailingZeros 76 = .ok (.iconst 1, 1) := dk_4 (dk_at dksJ18_numberOfTrailingZeros_3 5 rfl rfl)
theorem dJ18_numberOfTrailingZeros_77 : decode cJ18_numberOfTrailingZeros 77 = .ok (.iushr, 1) := dk_124 (dk_at dksJ18_numberOfTrailingZeros_3 6 rfl rfl)
theorem dJ18_numberOfTrailingZeros_78 : decode cJ18_numberOfTrailingZeros 78 = .ok (.iadd, 1) := dk_96 (dk_at dksJ18_numberOfTrailingZeros_3 7 rfl rfl)
theorem dJ18_numberOfTrailingZeros_79 : decode cJ18_numberOfTrailingZeros 79 = .ok (.ireturn, 1) := dk_172 (dk_at dksJ18_numberOfTrailingZeros_3 8 rfl rfl)
def dkwJ18_numberOfLeadingZeros_3 : List UInt8 := [5, 124, 59, 27, 26, 4, 124, 100, 172]
abbrev dktJ18_numberOfLeadingZeros_3 : List UInt8 := dkwJ18_numberOfLeadingZeros_3 ++ []
def dkwJ18_numberOfLeadingZeros_2 : List UInt8 := [124, 59, 26, 16, 16, 161, 0, 10, 132, 1, 252, 26, 7, 124, 59, 26, 7, 161, 0, 10, 132, 1, 254, 26]
abbrev dktJ18_numberOfLeadingZeros_2 : List UInt8 := dkwJ18_numberOfLeadingZeros_2 ++ dktJ18_numberOfLeadingZeros_3
def dkwJ18_numberOfLeadingZeros_1 : List UInt8 := [161, 0, 11, 132, 1, 240, 26, 16, 16, 124, 59, 26, 17, 1, 0, 161, 0, 11, 132, 1, 248, 26, 16, 8]
abbrev dktJ18_numberOfLeadingZeros_1 : List UInt8 := dkwJ18_numberOfLeadingZeros_1 ++ dktJ18_numberOfLeadingZeros_2
def dkwJ18_numberOfLeadingZeros_0 : List UInt8 := [26, 157, 0, 14, 26, 154, 0, 8, 16, 32, 167, 0, 4, 3, 172, 16, 31, 60, 26, 19, 1, 8]
abbrev dktJ18_numberOfLeadingZeros_0 : List UInt8 := dkwJ18_numberOfLeadingZeros_0 ++ dktJ18_numberOfLeadingZeros_1
theorem dksJ18_numberOfLeadingZeros_0 : cJ18_numberOfLeadingZeros.data.toList.drop 0 = dktJ18_numberOfLeadingZeros_0 := by decide +kernel
theorem dksJ18_numberOfLeadingZeros_1 : cJ18_numberOfLeadingZeros.data.toList.drop 22 = dktJ18_numberOfLeadingZeros_1 := dk_seg dksJ18_numberOfLeadingZeros_0 22 rfl rfl
theorem dksJ18_numberOfLeadingZeros_2 : cJ18_numberOfLeadingZeros.data.toList.drop 46 = dktJ18_numberOfLeadingZeros_2 := dk_seg dksJ18_numberOfLeadingZeros_1 24 rfl rfl
theorem dksJ18_numberOfLeadingZeros_3 : cJ18_numberOfLeadingZeros.data.toList.drop 70 = dktJ18_numberOfLeadingZeros_3 := dk_seg dksJ18_numberOfLeadingZeros_2 24 rfl rfl
theorem dJ18_numberOfLeadingZeros_0 : decode cJ18_numberOfLeadingZeros 0 = .ok (.iload_n 0, 1) := dk_26 (dk_at dksJ18_numberOfLeadingZeros_0 0 rfl rfl)
theorem dJ18_numberOfLeadingZeros_1 : decode cJ18_numberOfLeadingZeros 1 = .ok (.ifCond .gt 14, 3) := dk_157 0 14 (dk_at dksJ18_numberOfLeadingZeros_0 1 rfl rfl)
theorem dJ18_numberOfLeadingZeros_4 : decode cJ18_numberOfLeadingZeros 4 = .ok (.iload_n 0, 1) := dk_26 (dk_at dksJ18_numberOfLeadingZeros_0 4 rfl rfl)
theorem dJ18_numberOfLeadingZeros_5 : decode cJ18_numberOfLeadingZeros 5 = .ok (.ifCond .ne 8, 3) := dk_154 0 8 (dk_at dksJ18_numberOfLeadingZeros_0 5 rfl rfl)
theorem dJ18_numberOfLeadingZeros_8 : decode cJ18_numberOfLeadingZeros 8 = .ok (.bipush 32, 2) := dk_16 32 (dk_at dksJ18_numberOfLeadingZeros_0 8 rfl rfl)
theorem dJ18_numberOfLeadingZeros_10 : decode cJ18_numberOfLeadingZeros 10 = .ok (.goto 4, 3) := dk_167 0 4 (dk_at dksJ18_numberOfLeadingZeros_0 10 rfl rfl)
theorem dJ18_numberOfLeadingZeros_13 : decode cJ18_numberOfLeadingZeros 13 = .ok (.iconst 0, 1) := dk_3 (dk_at dksJ18_numberOfLeadingZeros_0 13 rfl rfl)
theorem dJ18_numberOfLeadingZeros_14 : decode cJ18_numberOfLeadingZeros 14 = .ok (.ireturn, 1) := dk_172 (dk_at dksJ18_numberOfLeadingZeros_0 14 rfl rfl)
theorem dJ18_numberOfLeadingZeros_15 : decode cJ18_numberOfLeadingZeros 15 = .ok (.bipush 31, 2) := dk_16 31 (dk_at dksJ18_numberOfLeadingZeros_0 15 rfl rfl)
theorem dJ18_numberOfLeadingZeros_17 : decode cJ18_numberOfLeadingZeros 17 = .ok (.istore_n 1, 1) := dk_60 (dk_at dksJ18_numberOfLeadingZeros_0 17 rfl rfl)
theorem dJ18_numberOfLeadingZeros_18 : decode cJ18_numberOfLeadingZeros 18 = .ok (.iload_n 0, 1) := dk_26 (dk_at dksJ18_numberOfLeadingZeros_0 18 rfl rfl)
theorem dJ18_numberOfLeadingZeros_19 : decode cJ18_numberOfLeadingZeros 19 = .ok (.ldc_w 264, 3) := dk_19 1 8 (dk_at dksJ18_numberOfLeadingZeros_0 19 rfl rfl)
theorem dJ18_numberOfLeadingZeros_22 : decode cJ18_numberOfLeadingZeros 22 = .ok (.if_icmp .lt 11, 3) := dk_161 0 11 (dk_at dksJ18_numberOfLeadingZeros_1 0 rfl rfl)
theorem dJ18_numberOfLeadingZeros_25 : decode cJ18_numberOfLeadingZeros 25 = .ok (.iinc 1 (-16), 3) := dk_132 1 240 (dk_at dksJ18_numberOfLeadingZeros_1 3 rfl rfl)
theorem dJ18_numberOfLeadingZeros_28 : decode cJ18_numberOfLeadingZeros 28 = .ok (.iload_n 0, 1) := dk_26 (dk_at dksJ18_numberOfLeadingZeros_1 6 rfl rfl)
theorem dJ18_numberOfLeadingZeros_29 : decode cJ18_numberOfLeadingZeros 29 = .ok (.bipush 16, 2) := dk_16 16 (dk_at dksJ18_numberOfLeadingZeros_1 7 rfl rfl)
theorem dJ18_numberOfLeadingZeros_31 : decode cJ18_numberOfLeadingZeros 31 = .ok (.iushr, 1) := dk_124 (dk_at dksJ18_numberOfLeadingZeros_1 9 rfl rfl)
theorem dJ18_numberOfLeadingZeros_32 : decode cJ18_numberOfLeadingZeros 32 = .ok (.istore_n 0, 1) := dk_59 (dk_at dksJ18_numberOfLeadingZeros_1 10 rfl rfl)
theorem dJ18_numberOfLeadingZeros_33 : decode cJ18_numberOfLeadingZeros 33 = .ok (.iload_n 0, 1) := dk_26 (dk_at dksJ18_numberOfLeadingZeros_1 11 rfl rfl)
theorem dJ18_numberOfLeadingZeros_34 : decode cJ18_numberOfLeadingZeros 34 = .ok (.sipush 256, 3) := dk_17 1 0 (dk_at dksJ18_numberOfLeadingZeros_1 12 rfl rfl)
theorem dJ18_numberOfLeadingZeros_37 : decode cJ18_numberOfLeadingZeros 37 = .ok (.if_icmp .lt 11, 3) := dk_161 0 11 (dk_at dksJ18_numberOfLeadingZeros_1 15 rfl rfl)
theorem dJ18_numberOfLeadingZeros_40 : decode cJ18_numberOfLeadingZeros 40 = .ok (.iinc 1 (-8), 3) := dk_132 1 248 (dk_at dksJ18_numberOfLeadingZeros_1 18 rfl rfl)
theorem dJ18_numberOfLeadingZeros_43 : decode cJ18_numberOfLeadingZeros 43 = .ok (.iload_n 0, 1) := dk_26 (dk_at dksJ18_numberOfLeadingZeros_1 21 rfl rfl)
theorem dJ18_numberOfLeadingZeros_44 : decode cJ18_numberOfLeadingZeros 44 = .ok (.bipush 8, 2) := dk_16 8 (dk_at dksJ18_numberOfLeadingZeros_1 22 rfl rfl)
theorem dJ18_numberOfLeadingZeros_46 : decode cJ18_numberOfLeadingZeros 46 = .ok (.iushr, 1) := dk_124 (dk_at dksJ18_numberOfLeadingZeros_2 0 rfl rfl)
theorem dJ18_numberOfLeadingZeros_47 : decode cJ18_numberOfLeadingZeros 47 = .ok (.istore_n 0, 1) := dk_59 (dk_at dksJ18_numberOfLeadingZeros_2 1 rfl rfl)
theorem dJ18_numberOfLeadingZeros_48 : decode cJ18_numberOfLeadingZeros 48 = .ok (.iload_n 0, 1) := dk_26 (dk_at dksJ18_numberOfLeadingZeros_2 2 rfl rfl)
theorem dJ18_numberOfLeadingZeros_49 : decode cJ18_numberOfLeadingZeros 49 = .ok (.bipush 16, 2) := dk_16 16 (dk_at dksJ18_numberOfLeadingZeros_2 3 rfl rfl)
theorem dJ18_numberOfLeadingZeros_51 : decode cJ18_numberOfLeadingZeros 51 = .ok (.if_icmp .lt 10, 3) := dk_161 0 10 (dk_at dksJ18_numberOfLeadingZeros_2 5 rfl rfl)
theorem dJ18_numberOfLeadingZeros_54 : decode cJ18_numberOfLeadingZeros 54 = .ok (.iinc 1 (-4), 3) := dk_132 1 252 (dk_at dksJ18_numberOfLeadingZeros_2 8 rfl rfl)
theorem dJ18_numberOfLeadingZeros_57 : decode cJ18_numberOfLeadingZeros 57 = .ok (.iload_n 0, 1) := dk_26 (dk_at dksJ18_numberOfLeadingZeros_2 11 rfl rfl)
theorem dJ18_numberOfLeadingZeros_58 : decode cJ18_numberOfLeadingZeros 58 = .ok (.iconst 4, 1) := dk_7 (dk_at dksJ18_numberOfLeadingZeros_2 12 rfl rfl)
theorem dJ18_numberOfLeadingZeros_59 : decode cJ18_numberOfLeadingZeros 59 = .ok (.iushr, 1) := dk_124 (dk_at dksJ18_numberOfLeadingZeros_2 13 rfl rfl)
theorem dJ18_numberOfLeadingZeros_60 : decode cJ18_numberOfLeadingZeros 60 = .ok (.istore_n 0, 1) := dk_59 (dk_at dksJ18_numberOfLeadingZeros_2 14 rfl rfl)
theorem dJ18_numberOfLeadingZeros_61 : decode cJ18_numberOfLeadingZeros 61 = .ok (.iload_n 0, 1) := dk_26 (dk_at dksJ18_numberOfLeadingZeros_2 15 rfl rfl)
theorem dJ18_numberOfLeadingZeros_62 : decode cJ18_numberOfLeadingZeros 62 = .ok (.iconst 4, 1) := dk_7 (dk_at dksJ18_numberOfLeadingZeros_2 16 rfl rfl)
theorem dJ18_numberOfLeadingZeros_63 : decode cJ18_numberOfLeadingZeros 63 = .ok (.if_icmp .lt 10, 3) := dk_161 0 10 (dk_at dksJ18_numberOfLeadingZeros_2 17 rfl rfl)
theorem dJ18_numberOfLeadingZeros_66 : decode cJ18_numberOfLeadingZeros 66 = .ok (.iinc 1 (-2), 3) := dk_132 1 254 (dk_at dksJ18_numberOfLeadingZeros_2 20 rfl rfl)
theorem dJ18_numberOfLeadingZeros_69 : decode cJ18_numberOfLeadingZeros 69 = .ok (.iload_n 0, 1) := dk_26 (dk_at dksJ18_numberOfLeadingZeros_2 23 rfl rfl)
theorem dJ18_numberOfLeadingZeros_70 : decode cJ18_numberOfLeadingZeros 70 = .ok (.iconst 2, 1) := dk_5 (dk_at dksJ18_numberOfLeadingZeros_3 0 rfl rfl)
theorem dJ18_numberOfLeadingZeros_71 : decode cJ18_numberOfLeadingZeros 71 = .ok (.iushr, 1) := dk_124 (dk_at dksJ18_numberOfLeadingZeros_3 1 rfl rfl)
theorem dJ18_numberOfLeadingZeros_72 : decode cJ18_numberOfLeadingZeros 72 = .ok (.istore_n 0, 1) := dk_59 (dk_at dksJ18_numberOfLeadingZeros_3 2 rfl rfl)
theorem dJ18_numberOfLeadingZeros_73 : decode cJ18_numberOfLeadingZeros 73 = .ok (.iload_n 1, 1) := dk_27 (dk_at dksJ18_numberOfLeadingZeros_3 3 rfl rfl)
theorem dJ18_numberOfLeadingZeros_74 : decode cJ18_numberOfLeadingZeros 74 = .ok (.iload_n 0, 1) := dk_26 (dk_at dksJ18_numberOfLeadingZeros_3 4 rfl rfl)
theorem dJ18_numberOfLeadingZeros_75 : decode cJ18_numberOfLeadingZeros 75 = .ok (.iconst 1, 1) := dk_4 (dk_at dksJ18_numberOfLeadingZeros_3 5 rfl rfl)
theorem dJ18_numberOfLeadingZeros_76 : decode cJ18_numberOfLeadingZeros 76 = .ok (.iushr, 1) := dk_124 (dk_at dksJ18_numberOfLeadingZeros_3 6 rfl rfl)
theorem dJ18_numberOfLeadingZeros_77 : decode cJ18_numberOfLeadingZeros 77 = .ok (.isub, 1) := dk_100 (dk_at dksJ18_numberOfLeadingZeros_3 7 rfl rfl)
theorem dJ18_numberOfLeadingZeros_78 : decode cJ18_numberOfLeadingZeros 78 = .ok (.ireturn, 1) := dk_172 (dk_at dksJ18_numberOfLeadingZeros_3 8 rfl rfl)
def dkwJ18_valueOf_1 : List UInt8 := [187, 0, 1, 89, 26, 183, 0, 199, 176]
abbrev dktJ18_valueOf_1 : List UInt8 := dkwJ18_valueOf_1 ++ []
def dkwJ18_valueOf_0 : List UInt8 := [26, 16, 128, 161, 0, 20, 26, 178, 0, 191, 163, 0, 13, 178, 0, 195, 26, 17, 0, 128, 96, 50, 176]
abbrev dktJ18_valueOf_0 : List UInt8 := dkwJ18_valueOf_0 ++ dktJ18_valueOf_1
theorem dksJ18_valueOf_0 : cJ18_valueOf.data.toList.drop 0 = dktJ18_valueOf_0 := by decide +kernel
theorem dksJ18_valueOf_1 : cJ18_valueOf.data.toList.drop 23 = dktJ18_valueOf_1 := dk_seg dksJ18_valueOf_0 23 rfl rfl
theorem dJ18_valueOf_0 : decode cJ18_valueOf 0 = .ok (.iload_n 0, 1) := dk_26 (dk_at dksJ18_valueOf_0 0 rfl rfl)
theorem dJ18_valueOf_1 : decode cJ18_valueOf 1 = .ok (.bipush (-128), 2) := dk_16 128 (dk_at dksJ18_valueOf_0 1 rfl rfl)
theorem dJ18_valueOf_3 : decode cJ18_valueOf 3 = .ok (.if_icmp .lt 20, 3) := dk_161 0 20 (dk_at dksJ18_valueOf_0 3 rfl rfl)
theorem dJ18_valueOf_6 : decode cJ18_valueOf 6 = .ok (.iload_n 0, 1) := dk_26 (dk_at dksJ18_valueOf_0 6 rfl rfl)
theorem dJ18_valueOf_7 : decode cJ18_valueOf 7 = .ok (.getstatic 191, 3) := dk_178 0 191 (dk_at dksJ18_valueOf_0 7 rfl rfl)
theorem dJ18_valueOf_10 : decode cJ18_valueOf 10 = .ok (.if_icmp .gt 13, 3) := dk_163 0 13 (dk_at dksJ18_valueOf_0 10 rfl rfl)
theorem dJ18_valueOf_13 : decode cJ18_valueOf 13 = .ok (.getstatic 195, 3) := dk_178 0 195 (dk_at dksJ18_valueOf_0 13 rfl rfl)
theorem dJ18_valueOf_16 : decode cJ18_valueOf 16 = .ok (.iload_n 0, 1) := dk_26 (dk_at dksJ18_valueOf_0 16 rfl rfl)
theorem dJ18_valueOf_17 : decode cJ18_valueOf 17 = .ok (.sipush 128, 3) := dk_17 0 128 (dk_at dksJ18_valueOf_0 17 rfl rfl)
theorem dJ18_valueOf_20 : decode cJ18_valueOf 20 = .ok (.iadd, 1) := dk_96 (dk_at dksJ18_valueOf_0 20 rfl rfl)
theorem dJ18_valueOf_21 : decode cJ18_valueOf 21 = .ok (.aaload, 1) := dk_50 (dk_at dksJ18_valueOf_0 21 rfl rfl)
theorem dJ18_valueOf_22 : decode cJ18_valueOf 22 = .ok (.areturn, 1) := dk_176 (dk_at dksJ18_valueOf_0 22 rfl rfl)
theorem dJ18_valueOf_23 : decode cJ18_valueOf 23 = .ok (.new 1, 3) := dk_187 0 1 (dk_at dksJ18_valueOf_1 0 rfl rfl)
theorem dJ18_valueOf_26 : decode cJ18_valueOf 26 = .ok (.dup, 1) := dk_89 (dk_at dksJ18_valueOf_1 3 rfl rfl)
theorem dJ18_valueOf_27 : decode cJ18_valueOf 27 = .ok (.iload_n 0, 1) := dk_26 (dk_at dksJ18_valueOf_1 4 rfl rfl)
theorem dJ18_valueOf_28 : decode cJ18_valueOf 28 = .ok (.invokespecial 199, 3) := dk_183 0 199 (dk_at dksJ18_valueOf_1 5 rfl rfl)
theorem dJ18_valueOf_31 : decode cJ18_valueOf 31 = .ok (.areturn, 1) := dk_176 (dk_at dksJ18_valueOf_1 8 rfl rfl)
def dkwJ18_init_0 : List UInt8 := [42, 183, 0, 202, 42, 27, 181, 0, 205, 177]
abbrev dktJ18_init_0 : List UInt8 := dkwJ18_init_0 ++ []
theorem dksJ18_init_0 : cJ18_init.data.toList.drop 0 = dktJ18_init_0 := by decide +kernel
theorem dJ18_init_0 : decode cJ18_init 0 = .ok (.aload_n 0, 1) := dk_42 (dk_at dksJ18_init_0 0 rfl rfl)
theorem dJ18_init_1 : decode cJ18_init 1 = .ok (.invokespecial 202, 3) := dk_183 0 202 (dk_at dksJ18_init_0 1 rfl rfl)
theorem dJ18_init_4 : decode cJ18_init 4 = .ok (.aload_n 0, 1) := dk_42 (dk_at dksJ18_init_0 4 rfl rfl)
theorem dJ18_init_5 : decode cJ18_init 5 = .ok (.iload_n 1, 1) := dk_27 (dk_at dksJ18_init_0 5 rfl rfl)
theorem dJ18_init_6 : decode cJ18_init 6 = .ok (.putfield 205, 3) := dk_181 0 205 (dk_at dksJ18_init_0 6 rfl rfl)
theorem dJ18_init_9 : decode cJ18_init 9 = .ok (.return_, 1) := dk_177 (dk_at dksJ18_init_0 9 rfl rfl)
theorem dJ18_intValue_0 : decode cJ18_intValue 0 = .ok (.aload_n 0, 1) := by decide +kernel
theorem dJ18_intValue_1 : decode cJ18_intValue 1 = .ok (.getfield 205, 3) := by decide +kernel
theorem dJ18_intValue_4 : decode cJ18_intValue 4 = .ok (.ireturn, 1) := by decide +kernel
def dkwJ18_bitCount_2 : List UInt8 := [26, 16, 63, 126, 172]
abbrev dktJ18_bitCount_2 : List UInt8 := dkwJ18_bitCount_2 ++ []
def dkwJ18_bitCount_1 : List UInt8 := [26, 26, 7, 124, 96, 19, 1, 11, 126, 59, 26, 26, 16, 8, 124, 96, 59, 26, 26, 16, 16, 124, 96, 59]
abbrev dktJ18_bitCount_1 : List UInt8 := dkwJ18_bitCount_1 ++ dktJ18_bitCount_2
def dkwJ18_bitCount_0 : List UInt8 := [26, 26, 4, 124, 19, 1, 9, 126, 100, 59, 26, 19, 1, 10, 126, 26, 5, 124, 19, 1, 10, 126, 96, 59]
abbrev dktJ18_bitCount_0 : List UInt8 := dkwJ18_bitCount_0 ++ dktJ18_bitCount_1
theorem dksJ18_bitCount_0 : cJ18_bitCount.data.toList.drop 0 = dktJ18_bitCount_0 := by decide +kernel
theorem dksJ18_bitCount_1 : cJ18_bitCount.data.toList.drop 24 = dktJ18_bitCount_1 := dk_seg dksJ18_bitCount_0 24 rfl rfl
theorem dksJ18_bitCount_2 : cJ18_bitCount.data.toList.drop 48 = dktJ18_bitCount_2 := dk_seg dksJ18_bitCount_1 24 rfl rfl
theorem dJ18_bitCount_0 : decode cJ18_bitCount 0 = .ok (.iload_n 0, 1) := dk_26 (dk_at dksJ18_bitCount_0 0 rfl rfl)
theorem dJ18_bitCount_1 : decode cJ18_bitCount 1 = .ok (.iload_n 0, 1) := dk_26 (dk_at dksJ18_bitCount_0 1 rfl rfl)
theorem dJ18_bitCount_2 : decode cJ18_bitCount 2 = .ok (.iconst 1, 1) := dk_4 (dk_at dksJ18_bitCount_0 2 rfl rfl)
theorem dJ18_bitCount_3 : decode cJ18_bitCount 3 = .ok (.iushr, 1) := dk_124 (dk_at dksJ18_bitCount_0 3 rfl rfl)
theorem dJ18_bitCount_4 : decode cJ18_bitCount 4 = .ok (.ldc_w 265, 3) := dk_19 1 9 (dk_at dksJ18_bitCount_0 4 rfl rfl)
theorem dJ18_bitCount_7 : decode cJ18_bitCount 7 = .ok (.iand, 1) := dk_126 (dk_at dksJ18_bitCount_0 7 rfl rfl)
theorem dJ18_bitCount_8 : decode cJ18_bitCount 8 = .ok (.isub, 1) := dk_100 (dk_at dksJ18_bitCount_0 8 rfl rfl)
theorem dJ18_bitCount_9 : decode cJ18_bitCount 9 = .ok (.istore_n 0, 1) := dk_59 (dk_at dksJ18_bitCount_0 9 rfl rfl)
theorem dJ18_bitCount_10 : decode cJ18_bitCount 10 = .ok (.iload_n 0, 1) := dk_26 (dk_at dksJ18_bitCount_0 10 rfl rfl)
theorem dJ18_bitCount_11 : decode cJ18_bitCount 11 = .ok (.ldc_w 266, 3) := dk_19 1 10 (dk_at dksJ18_bitCount_0 11 rfl rfl)
theorem dJ18_bitCount_14 : decode cJ18_bitCount 14 = .ok (.iand, 1) := dk_126 (dk_at dksJ18_bitCount_0 14 rfl rfl)
theorem dJ18_bitCount_15 : decode cJ18_bitCount 15 = .ok (.iload_n 0, 1) := dk_26 (dk_at dksJ18_bitCount_0 15 rfl rfl)
theorem dJ18_bitCount_16 : decode cJ18_bitCount 16 = .ok (.iconst 2, 1) := dk_5 (dk_at dksJ18_bitCount_0 16 rfl rfl)
theorem dJ18_bitCount_17 : decode cJ18_bitCount 17 = .ok (.iushr, 1) := dk_124 (dk_at dksJ18_bitCount_0 17 rfl rfl)
theorem dJ18_bitCount_18 : decode cJ18_bitCount 18 = .ok (.ldc_w 266, 3) := dk_19 1 10 (dk_at dksJ18_bitCount_0 18 rfl rfl)
theorem dJ18_bitCount_21 : decode cJ18_bitCount 21 = .ok (.iand, 1) := dk_126 (dk_at dksJ18_bitCount_0 21 rfl rfl)
theorem dJ18_bitCount_22 : decode cJ18_bitCount 22 = .ok (.iadd, 1) := dk_96 (dk_at dksJ18_bitCount_0 22 rfl rfl)
theorem dJ18_bitCount_23 : decode cJ18_bitCount 23 = .ok (.istore_n 0, 1) := dk_59 (dk_at dksJ18_bitCount_0 23 rfl rfl)
theorem dJ18_bitCount_24 : decode cJ18_bitCount 24 = .ok (.iload_n 0, 1) := dk_26 (dk_at dksJ18_bitCount_1 0 rfl rfl)
theorem dJ18_bitCount_25 : decode cJ18_bitCount 25 = .ok (.iload_n 0, 1) := dk_26 (dk_at dksJ18_bitCount_1 1 rfl rfl)
theorem dJ18_bitCount_26 : decode cJ18_bitCount 26 = .ok (.iconst 4, 1) := dk_7 (dk_at dksJ18_bitCount_1 2 rfl rfl)
theorem dJ18_bitCount_27 : decode cJ18_bitCount 27 = .ok (.iushr, 1) := dk_124 (dk_at dksJ18_bitCount_1 3 rfl rfl)
theorem dJ18_bitCount_28 : decode cJ18_bitCount 28 = .ok (.iadd, 1) := dk_96 (dk_at dksJ18_bitCount_1 4 rfl rfl)
theorem dJ18_bitCount_29 : decode cJ18_bitCount 29 = .ok (.ldc_w 267, 3) := dk_19 1 11 (dk_at dksJ18_bitCount_1 5 rfl rfl)
theorem dJ18_bitCount_32 : decode cJ18_bitCount 32 = .ok (.iand, 1) := dk_126 (dk_at dksJ18_bitCount_1 8 rfl rfl)
theorem dJ18_bitCount_33 : decode cJ18_bitCount 33 = .ok (.istore_n 0, 1) := dk_59 (dk_at dksJ18_bitCount_1 9 rfl rfl)
theorem dJ18_bitCount_34 : decode cJ18_bitCount 34 = .ok (.iload_n 0, 1) := dk_26 (dk_at dksJ18_bitCount_1 10 rfl rfl)
theorem dJ18_bitCount_35 : decode cJ18_bitCount 35 = .ok (.iload_n 0, 1) := dk_26 (dk_at dksJ18_bitCount_1 11 rfl rfl)
theorem dJ18_bitCount_36 : decode cJ18_bitCount 36 = .ok (.bipush 8, 2) := dk_16 8 (dk_at dksJ18_bitCount_1 12 rfl rfl)
theorem dJ18_bitCount_38 : decode cJ18_bitCount 38 = .ok (.iushr, 1) := dk_124 (dk_at dksJ18_bitCount_1 14 rfl rfl)
theorem dJ18_bitCount_39 : decode cJ18_bitCount 39 = .ok (.iadd, 1) := dk_96 (dk_at dksJ18_bitCount_1 15 rfl rfl)
theorem dJ18_bitCount_40 : decode cJ18_bitCount 40 = .ok (.istore_n 0, 1) := dk_59 (dk_at dksJ18_bitCount_1 16 rfl rfl)
theorem dJ18_bitCount_41 : decode cJ18_bitCount 41 = .ok (.iload_n 0, 1) := dk_26 (dk_at dksJ18_bitCount_1 17 rfl rfl)
theorem dJ18_bitCount_42 : decode cJ18_bitCount 42 = .ok (.iload_n 0, 1) := dk_26 (dk_at dksJ18_bitCount_1 18 rfl rfl)
theorem dJ18_bitCount_43 : decode cJ18_bitCount 43 = .ok (.bipush 16, 2) := dk_16 16 (dk_at dksJ18_bitCount_1 19 rfl rfl)
theorem dJ18_bitCount_45 : decode cJ18_bitCount 45 = .ok (.iushr, 1) := dk_124 (dk_at dksJ18_bitCount_1 21 rfl rfl)
theorem dJ18_bitCount_46 : decode cJ18_bitCount 46 = .ok (.iadd, 1) := dk_96 (dk_at dksJ18_bitCount_1 22 rfl rfl)
theorem dJ18_bitCount_47 : decode cJ18_bitCount 47 = .ok (.istore_n 0, 1) := dk_59 (dk_at dksJ18_bitCount_1 23 rfl rfl)
theorem dJ18_bitCount_48 : decode cJ18_bitCount 48 = .ok (.iload_n 0, 1) := dk_26 (dk_at dksJ18_bitCount_2 0 rfl rfl)
theorem dJ18_bitCount_49 : decode cJ18_bitCount 49 = .ok (.bipush 63, 2) := dk_16 63 (dk_at dksJ18_bitCount_2 1 rfl rfl)
theorem dJ18_bitCount_51 : decode cJ18_bitCount 51 = .ok (.iand, 1) := dk_126 (dk_at dksJ18_bitCount_2 3 rfl rfl)
theorem dJ18_bitCount_52 : decode cJ18_bitCount 52 = .ok (.ireturn, 1) := dk_172 (dk_at dksJ18_bitCount_2 4 rfl rfl)
def dkwJ18_highestOneBit_0 : List UInt8 := [26, 18, 127, 26, 184, 0, 51, 124, 126, 172]
abbrev dktJ18_highestOneBit_0 : List UInt8 := dkwJ18_highestOneBit_0 ++ []
theorem dksJ18_highestOneBit_0 : cJ18_highestOneBit.data.toList.drop 0 = dktJ18_highestOneBit_0 := by decide +kernel
theorem dJ18_highestOneBit_0 : decode cJ18_highestOneBit 0 = .ok (.iload_n 0, 1) := dk_26 (dk_at dksJ18_highestOneBit_0 0 rfl rfl)
theorem dJ18_highestOneBit_1 : decode cJ18_highestOneBit 1 = .ok (.ldc 127, 2) := dk_18 127 (dk_at dksJ18_highestOneBit_0 1 rfl rfl)
theorem dJ18_highestOneBit_3 : decode cJ18_highestOneBit 3 = .ok (.iload_n 0, 1) := dk_26 (dk_at dksJ18_highestOneBit_0 3 rfl rfl)
theorem dJ18_highestOneBit_4 : decode cJ18_highestOneBit 4 = .ok (.invokestatic 51, 3) := dk_184 0 51 (dk_at dksJ18_highestOneBit_0 4 rfl rfl)
theorem dJ18_highestOneBit_7 : decode cJ18_highestOneBit 7 = .ok (.iushr, 1) := dk_124 (dk_at dksJ18_highestOneBit_0 7 rfl rfl)
theorem dJ18_highestOneBit_8 : decode cJ18_highestOneBit 8 = .ok (.iand, 1) := dk_126 (dk_at dksJ18_highestOneBit_0 8 rfl rfl)
theorem dJ18_highestOneBit_9 : decode cJ18_highestOneBit 9 = .ok (.ireturn, 1) := dk_172 (dk_at dksJ18_highestOneBit_0 9 rfl rfl)
theorem dJ19_init_0 : decode cJ19_init 0 = .ok (.return_, 1) := by decide +kernel
def dkwJ2_init_0 : List UInt8 := [42, 183, 0, 1, 42, 178, 0, 39, 181, 0, 9, 177]
abbrev dktJ2_init_0 : List UInt8 := dkwJ2_init_0 ++ []
theorem dksJ2_init_0 : cJ2_init.data.toList.drop 0 = dktJ2_init_0 := by decide +kernel
theorem dJ2_init_0 : decode cJ2_init 0 = .ok (.aload_n 0, 1) := dk_42 (dk_at dksJ2_init_0 0 rfl rfl)
theorem dJ2_init_1 : decode cJ2_init 1 = .ok (.invokespecial 1, 3) := dk_183 0 1 (dk_at dksJ2_init_0 1 rfl rfl)
theorem dJ2_init_4 : decode cJ2_init 4 = .ok (.aload_n 0, 1) := dk_42 (dk_at dksJ2_init_0 4 rfl rfl)
theorem dJ2_init_5 : decode cJ2_init 5 = .ok (.getstatic 39, 3) := dk_178 0 39 (dk_at dksJ2_init_0 5 rfl rfl)
theorem dJ2_init_8 : decode cJ2_init 8 = .ok (.putfield 9, 3) := dk_181 0 9 (dk_at dksJ2_init_0 8 rfl rfl)
theorem dJ2_init_11 : decode cJ2_init 11 = .ok (.return_, 1) := dk_177 (dk_at dksJ2_init_0 11 rfl rfl)
theorem dJ2_size_0 : decode cJ2_size 0 = .ok (.aload_n 0, 1) := by decide +kernel
theorem dJ2_size_1 : decode cJ2_size 1 = .ok (.getfield 48, 3) := by decide +kernel
theorem dJ2_size_4 : decode cJ2_size 4 = .ok (.ireturn, 1) := by decide +kernel
def dkwJ2_get_0 : List UInt8 := [27, 42, 180, 0, 48, 184, 0, 118, 87, 42, 27, 182, 0, 123, 176]
abbrev dktJ2_get_0 : List UInt8 := dkwJ2_get_0 ++ []
theorem dksJ2_get_0 : cJ2_get.data.toList.drop 0 = dktJ2_get_0 := by decide +kernel
theorem dJ2_get_0 : decode cJ2_get 0 = .ok (.iload_n 1, 1) := dk_27 (dk_at dksJ2_get_0 0 rfl rfl)
theorem dJ2_get_1 : decode cJ2_get 1 = .ok (.aload_n 0, 1) := dk_42 (dk_at dksJ2_get_0 1 rfl rfl)
theorem dJ2_get_2 : decode cJ2_get 2 = .ok (.getfield 48, 3) := dk_180 0 48 (dk_at dksJ2_get_0 2 rfl rfl)
theorem dJ2_get_5 : decode cJ2_get 5 = .ok (.invokestatic 118, 3) := dk_184 0 118 (dk_at dksJ2_get_0 5 rfl rfl)
theorem dJ2_get_8 : decode cJ2_get 8 = .ok (.pop, 1) := dk_87 (dk_at dksJ2_get_0 8 rfl rfl)
theorem dJ2_get_9 : decode cJ2_get 9 = .ok (.aload_n 0, 1) := dk_42 (dk_at dksJ2_get_0 9 rfl rfl)
theorem dJ2_get_10 : decode cJ2_get 10 = .ok (.iload_n 1, 1) := dk_27 (dk_at dksJ2_get_0 10 rfl rfl)
theorem dJ2_get_11 : decode cJ2_get 11 = .ok (.invokevirtual 123, 3) := dk_182 0 123 (dk_at dksJ2_get_0 11 rfl rfl)
theorem dJ2_get_14 : decode cJ2_get 14 = .ok (.areturn, 1) := dk_176 (dk_at dksJ2_get_0 14 rfl rfl)
def dkwJ2_elementData_0 : List UInt8 := [42, 180, 0, 9, 27, 50, 176]
abbrev dktJ2_elementData_0 : List UInt8 := dkwJ2_elementData_0 ++ []
theorem dksJ2_elementData_0 : cJ2_elementData.data.toList.drop 0 = dktJ2_elementData_0 := by decide +kernel
theorem dJ2_elementData_0 : decode cJ2_elementData 0 = .ok (.aload_n 0, 1) := dk_42 (dk_at dksJ2_elementData_0 0 rfl rfl)
theorem dJ2_elementData_1 : decode cJ2_elementData 1 = .ok (.getfield 9, 3) := dk_180 0 9 (dk_at dksJ2_elementData_0 1 rfl rfl)
theorem dJ2_elementData_4 : decode cJ2_elementData 4 = .ok (.iload_n 1, 1) := dk_27 (dk_at dksJ2_elementData_0 4 rfl rfl)
theorem dJ2_elementData_5 : decode cJ2_elementData 5 = .ok (.aaload, 1) := dk_50 (dk_at dksJ2_elementData_0 5 rfl rfl)
theorem dJ2_elementData_6 : decode cJ2_elementData 6 = .ok (.areturn, 1) := dk_176 (dk_at dksJ2_elementData_0 6 rfl rfl)
def dkwJ2_add_1 : List UInt8 := [172]
abbrev dktJ2_add_1 : List UInt8 := dkwJ2_add_1 ++ []
def dkwJ2_add_0 : List UInt8 := [42, 89, 180, 0, 63, 4, 96, 181, 0, 63, 42, 43, 42, 180, 0, 9, 42, 180, 0, 48, 182, 0, 131, 4]
abbrev dktJ2_add_0 : List UInt8 := dkwJ2_add_0 ++ dktJ2_add_1
theorem dksJ2_add_0 : cJ2_add.data.toList.drop 0 = dktJ2_add_0 := by decide +kernel
theorem dksJ2_add_1 : cJ2_add.data.toList.drop 24 = dktJ2_add_1 := dk_seg dksJ2_add_0 24 rfl rfl
theorem dJ2_add_0 : decode cJ2_add 0 = .ok (.aload_n 0, 1) := dk_42 (dk_at dksJ2_add_0 0 rfl rfl)
theorem dJ2_add_1 : decode cJ2_add 1 = .ok (.dup, 1) := dk_89 (dk_at dksJ2_add_0 1 rfl rfl)
theorem dJ2_add_2 : decode cJ2_add 2 = .ok (.getfield 63, 3) := dk_180 0 63 (dk_at dksJ2_add_0 2 rfl rfl)
theorem dJ2_add_5 : decode cJ2_add 5 = .ok (.iconst 1, 1) := dk_4 (dk_at dksJ2_add_0 5 rfl rfl)
theorem dJ2_add_6 : decode cJ2_add 6 = .ok (.iadd, 1) := dk_96 (dk_at dksJ2_add_0 6 rfl rfl)
theorem dJ2_add_7 : decode cJ2_add 7 = .ok (.putfield 63, 3) := dk_181 0 63 (dk_at dksJ2_add_0 7 rfl rfl)
theorem dJ2_add_10 : decode cJ2_add 10 = .ok (.aload_n 0, 1) := dk_42 (dk_at dksJ2_add_0 10 rfl rfl)
theorem dJ2_add_11 : decode cJ2_add 11 = .ok (.aload_n 1, 1) := dk_43 (dk_at dksJ2_add_0 11 rfl rfl)
theorem dJ2_add_12 : decode cJ2_add 12 = .ok (.aload_n 0, 1) := dk_42 (dk_at dksJ2_add_0 12 rfl rfl)
theorem dJ2_add_13 : decode cJ2_add 13 = .ok (.getfield 9, 3) := dk_180 0 9 (dk_at dksJ2_add_0 13 rfl rfl)
theorem dJ2_add_16 : decode cJ2_add 16 = .ok (.aload_n 0, 1) := dk_42 (dk_at dksJ2_add_0 16 rfl rfl)
theorem dJ2_add_17 : decode cJ2_add 17 = .ok (.getfield 48, 3) := dk_180 0 48 (dk_at dksJ2_add_0 17 rfl rfl)
theorem dJ2_add_20 : decode cJ2_add 20 = .ok (.invokevirtual 131, 3) := dk_182 0 131 (dk_at dksJ2_add_0 20 rfl rfl)
theorem dJ2_add_23 : decode cJ2_add 23 = .ok (.iconst 1, 1) := dk_4 (dk_at dksJ2_add_0 23 rfl rfl)
theorem dJ2_add_24 : decode cJ2_add 24 = .ok (.ireturn, 1) := dk_172 (dk_at dksJ2_add_1 0 rfl rfl)
def dkwJ2_add_2_0 : List UInt8 := [29, 44, 190, 160, 0, 8, 42, 182, 0, 129, 77, 44, 29, 43, 83, 42, 29, 4, 96, 181, 0, 48, 177]
abbrev dktJ2_add_2_0 : List UInt8 := dkwJ2_add_2_0 ++ []
theorem dksJ2_add_2_0 : cJ2_add_2.data.toList.drop 0 = dktJ2_add_2_0 := by decide +kernel
theorem dJ2_add_2_0 : decode cJ2_add_2 0 = .ok (.iload_n 3, 1) := dk_29 (dk_at dksJ2_add_2_0 0 rfl rfl)
theorem dJ2_add_2_1 : decode cJ2_add_2 1 = .ok (.aload_n 2, 1) := dk_44 (dk_at dksJ2_add_2_0 1 rfl rfl)
theorem dJ2_add_2_2 : decode cJ2_add_2 2 = .ok (.arraylength, 1) := dk_190 (dk_at dksJ2_add_2_0 2 rfl rfl)
theorem dJ2_add_2_3 : decode cJ2_add_2 3 = .ok (.if_icmp .ne 8, 3) := dk_160 0 8 (dk_at dksJ2_add_2_0 3 rfl rfl)
theorem dJ2_add_2_6 : decode cJ2_add_2 6 = .ok (.aload_n 0, 1) := dk_42 (dk_at dksJ2_add_2_0 6 rfl rfl)
theorem dJ2_add_2_7 : decode cJ2_add_2 7 = .ok (.invokevirtual 129, 3) := dk_182 0 129 (dk_at dksJ2_add_2_0 7 rfl rfl)
theorem dJ2_add_2_10 : decode cJ2_add_2 10 = .ok (.astore_n 2, 1) := dk_77 (dk_at dksJ2_add_2_0 10 rfl rfl)
theorem dJ2_add_2_11 : decode cJ2_add_2 11 = .ok (.aload_n 2, 1) := dk_44 (dk_at dksJ2_add_2_0 11 rfl rfl)
theorem dJ2_add_2_12 : decode cJ2_add_2 12 = .ok (.iload_n 3, 1) := dk_29 (dk_at dksJ2_add_2_0 12 rfl rfl)
theorem dJ2_add_2_13 : decode cJ2_add_2 13 = .ok (.aload_n 1, 1) := dk_43 (dk_at dksJ2_add_2_0 13 rfl rfl)
theorem dJ2_add_2_14 : decode cJ2_add_2 14 = .ok (.aastore, 1) := dk_83 (dk_at dksJ2_add_2_0 14 rfl rfl)
theorem dJ2_add_2_15 : decode cJ2_add_2 15 = .ok (.aload_n 0, 1) := dk_42 (dk_at dksJ2_add_2_0 15 rfl rfl)
theorem dJ2_add_2_16 : decode cJ2_add_2 16 = .ok (.iload_n 3, 1) := dk_29 (dk_at dksJ2_add_2_0 16 rfl rfl)
theorem dJ2_add_2_17 : decode cJ2_add_2 17 = .ok (.iconst 1, 1) := dk_4 (dk_at dksJ2_add_2_0 17 rfl rfl)
theorem dJ2_add_2_18 : decode cJ2_add_2 18 = .ok (.iadd, 1) := dk_96 (dk_at dksJ2_add_2_0 18 rfl rfl)
theorem dJ2_add_2_19 : decode cJ2_add_2 19 = .ok (.putfield 48, 3) := dk_181 0 48 (dk_at dksJ2_add_2_0 19 rfl rfl)
theorem dJ2_add_2_22 : decode cJ2_add_2 22 = .ok (.return_, 1) := dk_177 (dk_at dksJ2_add_2_0 22 rfl rfl)
def dkwJ2_grow_0 : List UInt8 := [42, 42, 180, 0, 48, 4, 96, 182, 0, 69, 176]
abbrev dktJ2_grow_0 : List UInt8 := dkwJ2_grow_0 ++ []
theorem dksJ2_grow_0 : cJ2_grow.data.toList.drop 0 = dktJ2_grow_0 := by decide +kernel
theorem dJ2_grow_0 : decode cJ2_grow 0 = .ok (.aload_n 0, 1) := dk_42 (dk_at dksJ2_grow_0 0 rfl rfl)
theorem dJ2_grow_1 : decode cJ2_grow 1 = .ok (.aload_n 0, 1) := dk_42 (dk_at dksJ2_grow_0 1 rfl rfl)
theorem dJ2_grow_2 : decode cJ2_grow 2 = .ok (.getfield 48, 3) := dk_180 0 48 (dk_at dksJ2_grow_0 2 rfl rfl)
theorem dJ2_grow_5 : decode cJ2_grow 5 = .ok (.iconst 1, 1) := dk_4 (dk_at dksJ2_grow_0 5 rfl rfl)
theorem dJ2_grow_6 : decode cJ2_grow 6 = .ok (.iadd, 1) := dk_96 (dk_at dksJ2_grow_0 6 rfl rfl)
theorem dJ2_grow_7 : decode cJ2_grow 7 = .ok (.invokevirtual 69, 3) := dk_182 0 69 (dk_at dksJ2_grow_0 7 rfl rfl)
theorem dJ2_grow_10 : decode cJ2_grow 10 = .ok (.areturn, 1) := dk_176 (dk_at dksJ2_grow_0 10 rfl rfl)
def dkwJ2_grow_2_2 : List UInt8 := [27, 184, 0, 79, 189, 0, 7, 90, 181, 0, 9, 176]
abbrev dktJ2_grow_2_2 : List UInt8 := dkwJ2_grow_2_2 ++ []
def dkwJ2_grow_2_1 : List UInt8 := [28, 4, 122, 184, 0, 73, 62, 42, 42, 180, 0, 9, 29, 184, 0, 66, 90, 181, 0, 9, 176, 42, 16, 10]
abbrev dktJ2_grow_2_1 : List UInt8 := dkwJ2_grow_2_1 ++ dktJ2_grow_2_2
def dkwJ2_grow_2_0 : List UInt8 := [42, 180, 0, 9, 190, 61, 28, 157, 0, 13, 42, 180, 0, 9, 178, 0, 39, 165, 0, 28, 28, 27, 28, 100]
abbrev dktJ2_grow_2_0 : List UInt8 := dkwJ2_grow_2_0 ++ dktJ2_grow_2_1
theorem dksJ2_grow_2_0 : cJ2_grow_2.data.toList.drop 0 = dktJ2_grow_2_0 := by decide +kernel
theorem dksJ2_grow_2_1 : cJ2_grow_2.data.toList.drop 24 = dktJ2_grow_2_1 := dk_seg dksJ2_grow_2_0 24 rfl rfl
theorem dksJ2_grow_2_2 : cJ2_grow_2.data.toList.drop 48 = dktJ2_grow_2_2 := dk_seg dksJ2_grow_2_1 24 rfl rfl
theorem dJ2_grow_2_0 : decode cJ2_grow_2 0 = .ok (.aload_n 0, 1) := dk_42 (dk_at dksJ2_grow_2_0 0 rfl rfl)
theorem dJ2_grow_2_1 : decode cJ2_grow_2 1 = .ok (.getfield 9, 3) := dk_180 0 9 (dk_at dksJ2_grow_2_0 1 rfl rfl)
theorem dJ2_grow_2_4 : decode cJ2_grow_2 4 = .ok (.arraylength, 1) := dk_190 (dk_at dksJ2_grow_2_0 4 rfl rfl)
theorem dJ2_grow_2_5 : decode cJ2_grow_2 5 = .ok (.istore_n 2, 1) := dk_61 (dk_at dksJ2_grow_2_0 5 rfl rfl)
theorem dJ2_grow_2_6 : decode cJ2_grow_2 6 = .ok (.iload_n 2, 1) := dk_28 (dk_at dksJ2_grow_2_0 6 rfl rfl)
theorem dJ2_grow_2_7 : decode cJ2_grow_2 7 = .ok (.ifCond .gt 13, 3) := dk_157 0 13 (dk_at dksJ2_grow_2_0 7 rfl rfl)
theorem dJ2_grow_2_10 : decode cJ2_grow_2 10 = .ok (.aload_n 0, 1) := dk_42 (dk_at dksJ2_grow_2_0 10 rfl rfl)
theorem dJ2_grow_2_11 : decode cJ2_grow_2 11 = .ok (.getfield 9, 3) := dk_180 0 9 (dk_at dksJ2_grow_2_0 11 rfl rfl)
theorem dJ2_grow_2_14 : decode cJ2_grow_2 14 = .ok (.getstatic 39, 3) := dk_178 0 39 (dk_at dksJ2_grow_2_0 14 rfl rfl)
theorem dJ2_grow_2_17 : decode cJ2_grow_2 17 = .ok (.if_acmp .eq 28, 3) := dk_165 0 28 (dk_at dksJ2_grow_2_0 17 rfl rfl)
theorem dJ2_grow_2_20 : decode cJ2_grow_2 20 = .ok (.iload_n 2, 1) := dk_28 (dk_at dksJ2_grow_2_0 20 rfl rfl)
theorem dJ2_grow_2_21 : decode cJ2_grow_2 21 = .ok (.iload_n 1, 1) := dk_27 (dk_at dksJ2_grow_2_0 21 rfl rfl)
theorem dJ2_grow_2_22 : decode cJ2_grow_2 22 = .ok (.iload_n 2, 1) := dk_28 (dk_at dksJ2_grow_2_0 22 rfl rfl)
theorem dJ2_grow_2_23 : decode cJ2_grow_2 23 = .ok (.isub, 1) := dk_100 (dk_at dksJ2_grow_2_0 23 rfl rfl)
theorem dJ2_grow_2_24 : decode cJ2_grow_2 24 = .ok (.iload_n 2, 1) := dk_28 (dk_at dksJ2_grow_2_1 0 rfl rfl)
theorem dJ2_grow_2_25 : decode cJ2_grow_2 25 = .ok (.iconst 1, 1) := dk_4 (dk_at dksJ2_grow_2_1 1 rfl rfl)
theorem dJ2_grow_2_26 : decode cJ2_grow_2 26 = .ok (.ishr, 1) := dk_122 (dk_at dksJ2_grow_2_1 2 rfl rfl)
theorem dJ2_grow_2_27 : decode cJ2_grow_2 27 = .ok (.invokestatic 73, 3) := dk_184 0 73 (dk_at dksJ2_grow_2_1 3 rfl rfl)
theorem dJ2_grow_2_30 : decode cJ2_grow_2 30 = .ok (.istore_n 3, 1) := dk_62 (dk_at dksJ2_grow_2_1 6 rfl rfl)
theorem dJ2_grow_2_31 : decode cJ2_grow_2 31 = .ok (.aload_n 0, 1) := dk_42 (dk_at dksJ2_grow_2_1 7 rfl rfl)
theorem dJ2_grow_2_32 : decode cJ2_grow_2 32 = .ok (.aload_n 0, 1) := dk_42 (dk_at dksJ2_grow_2_1 8 rfl rfl)
theorem dJ2_grow_2_33 : decode cJ2_grow_2 33 = .ok (.getfield 9, 3) := dk_180 0 9 (dk_at dksJ2_grow_2_1 9 rfl rfl)
theorem dJ2_grow_2_36 : decode cJ2_grow_2 36 = .ok (.iload_n 3, 1) := dk_29 (dk_at dksJ2_grow_2_1 12 rfl rfl)
theorem dJ2_grow_2_37 : decode cJ2_grow_2 37 = .ok (.invokestatic 66, 3) := dk_184 0 66 (dk_at dksJ2_grow_2_1 13 rfl rfl)
theorem dJ2_grow_2_40 : decode cJ2_grow_2 40 = .ok (.dup_x1, 1) := dk_90 (dk_at dksJ2_grow_2_1 16 rfl rfl)
theorem dJ2_grow_2_41 : decode cJ2_grow_2 41 = .ok (.putfield 9, 3) := dk_181 0 9 (dk_at dksJ2_grow_2_1 17 rfl rfl)
theorem dJ2_grow_2_44 : decode cJ2_grow_2 44 = .ok (.areturn, 1) := dk_176 (dk_at dksJ2_grow_2_1 20 rfl rfl)
theorem dJ2_grow_2_45 : decode cJ2_grow_2 45 = .ok (.aload_n 0, 1) := dk_42 (dk_at dksJ2_grow_2_1 21 rfl rfl)
theorem dJ2_grow_2_46 : decode cJ2_grow_2 46 = .ok (.bipush 10, 2) := dk_16 10 (dk_at dksJ2_grow_2_1 22 rfl rfl)
theorem dJ2_grow_2_48 : decode cJ2_grow_2 48 = .ok (.iload_n 1, 1) := dk_27 (dk_at dksJ2_grow_2_2 0 rfl rfl)
theorem dJ2_grow_2_49 : decode cJ2_grow_2 49 = .ok (.invokestatic 79, 3) := dk_184 0 79 (dk_at dksJ2_grow_2_2 1 rfl rfl)
theorem dJ2_grow_2_52 : decode cJ2_grow_2 52 = .ok (.anewarray 7, 3) := dk_189 0 7 (dk_at dksJ2_grow_2_2 4 rfl rfl)
theorem dJ2_grow_2_55 : decode cJ2_grow_2 55 = .ok (.dup_x1, 1) := dk_90 (dk_at dksJ2_grow_2_2 7 rfl rfl)
theorem dJ2_grow_2_56 : decode cJ2_grow_2 56 = .ok (.putfield 9, 3) := dk_181 0 9 (dk_at dksJ2_grow_2_2 8 rfl rfl)
theorem dJ2_grow_2_59 : decode cJ2_grow_2 59 = .ok (.areturn, 1) := dk_176 (dk_at dksJ2_grow_2_2 11 rfl rfl)
def dkwJ2_isEmpty_0 : List UInt8 := [42, 180, 0, 48, 154, 0, 7, 4, 167, 0, 4, 3, 172]
abbrev dktJ2_isEmpty_0 : List UInt8 := dkwJ2_isEmpty_0 ++ []
theorem dksJ2_isEmpty_0 : cJ2_isEmpty.data.toList.drop 0 = dktJ2_isEmpty_0 := by decide +kernel
theorem dJ2_isEmpty_0 : decode cJ2_isEmpty 0 = .ok (.aload_n 0, 1) := dk_42 (dk_at dksJ2_isEmpty_0 0 rfl rfl)
theorem dJ2_isEmpty_1 : decode cJ2_isEmpty 1 = .ok (.getfield 48, 3) := dk_180 0 48 (dk_at dksJ2_isEmpty_0 1 rfl rfl)
theorem dJ2_isEmpty_4 : decode cJ2_isEmpty 4 = .ok (.ifCond .ne 7, 3) := dk_154 0 7 (dk_at dksJ2_isEmpty_0 4 rfl rfl)
theorem dJ2_isEmpty_7 : decode cJ2_isEmpty 7 = .ok (.iconst 1, 1) := dk_4 (dk_at dksJ2_isEmpty_0 7 rfl rfl)
theorem dJ2_isEmpty_8 : decode cJ2_isEmpty 8 = .ok (.goto 4, 3) := dk_167 0 4 (dk_at dksJ2_isEmpty_0 8 rfl rfl)
theorem dJ2_isEmpty_11 : decode cJ2_isEmpty 11 = .ok (.iconst 0, 1) := dk_3 (dk_at dksJ2_isEmpty_0 11 rfl rfl)
theorem dJ2_isEmpty_12 : decode cJ2_isEmpty 12 = .ok (.ireturn, 1) := dk_172 (dk_at dksJ2_isEmpty_0 12 rfl rfl)
def dkwJ2_addAll_3 : List UInt8 := [181, 0, 48, 4, 172]
abbrev dktJ2_addAll_3 : List UInt8 := dkwJ2_addAll_3 ++ []
def dkwJ2_addAll_2 : List UInt8 := [21, 5, 29, 96, 182, 0, 69, 58, 4, 44, 3, 25, 4, 21, 5, 29, 184, 0, 112, 42, 21, 5, 29, 96]
abbrev dktJ2_addAll_2 : List UInt8 := dkwJ2_addAll_2 ++ dktJ2_addAll_3
def dkwJ2_addAll_1 : List UInt8 := [3, 172, 29, 42, 180, 0, 9, 89, 58, 4, 190, 42, 180, 0, 48, 89, 54, 5, 100, 164, 0, 13, 42]
abbrev dktJ2_addAll_1 : List UInt8 := dkwJ2_addAll_1 ++ dktJ2_addAll_2
def dkwJ2_addAll_0 : List UInt8 := [43, 185, 0, 42, 1, 0, 77, 42, 89, 180, 0, 63, 4, 96, 181, 0, 63, 44, 190, 62, 29, 154, 0, 5]
abbrev dktJ2_addAll_0 : List UInt8 := dkwJ2_addAll_0 ++ dktJ2_addAll_1
theorem dksJ2_addAll_0 : cJ2_addAll.data.toList.drop 0 = dktJ2_addAll_0 := by decide +kernel
theorem dksJ2_addAll_1 : cJ2_addAll.data.toList.drop 24 = dktJ2_addAll_1 := dk_seg dksJ2_addAll_0 24 rfl rfl
theorem dksJ2_addAll_2 : cJ2_addAll.data.toList.drop 47 = dktJ2_addAll_2 := dk_seg dksJ2_addAll_1 23 rfl rfl
theorem dksJ2_addAll_3 : cJ2_addAll.data.toList.drop 71 = dktJ2_addAll_3 := dk_seg dksJ2_addAll_2 24 rfl rfl
theorem dJ2_addAll_0 : decode cJ2_addAll 0 = .ok (.aload_n 1, 1) := dk_43 (dk_at dksJ2_addAll_0 0 rfl rfl)
theorem dJ2_addAll_1 : decode cJ2_addAll 1 = .ok (.invokeinterface 42 1, 5) := by decide +kernel
theorem dJ2_addAll_6 : decode cJ2_addAll 6 = .ok (.astore_n 2, 1) := dk_77 (dk_at dksJ2_addAll_0 6 rfl rfl)
theorem dJ2_addAll_7 : decode cJ2_addAll 7 = .ok (.aload_n 0, 1) := dk_42 (dk_at dksJ2_addAll_0 7 rfl rfl)
theorem dJ2_addAll_8 : decode cJ2_addAll 8 = .ok (.dup, 1) := dk_89 (dk_at dksJ2_addAll_0 8 rfl rfl)
theorem dJ2_addAll_9 : decode cJ2_addAll 9 = .ok (.getfield 63, 3) := dk_180 0 63 (dk_at dksJ2_addAll_0 9 rfl rfl)
theorem dJ2_addAll_12 : decode cJ2_addAll 12 = .ok (.iconst 1, 1) := dk_4 (dk_at dksJ2_addAll_0 12 rfl rfl)
theorem dJ2_addAll_13 : decode cJ2_addAll 13 = .ok (.iadd, 1) := dk_96 (dk_at dksJ2_addAll_0 13 rfl rfl)
theorem dJ2_addAll_14 : decode cJ2_addAll 14 = .ok (.putfield 63, 3) := dk_181 0 63 (dk_at dksJ2_addAll_0 14 rfl rfl)
theorem dJ2_addAll_17 : decode cJ2_addAll 17 = .ok (.aload_n 2, 1) := dk_44 (dk_at dksJ2_addAll_0 17 rfl rfl)
theorem dJ2_addAll_18 : decode cJ2_addAll 18 = .ok (.arraylength, 1) := dk_190 (dk_at dksJ2_addAll_0 18 rfl rfl)
theorem dJ2_addAll_19 : decode cJ2_addAll 19 = .ok (.istore_n 3, 1) := dk_62 (dk_at dksJ2_addAll_0 19 rfl rfl)
theorem dJ2_addAll_20 : decode cJ2_addAll 20 = .ok (.iload_n 3, 1) := dk_29 (dk_at dksJ2_addAll_0 20 rfl rfl)
theorem dJ2_addAll_21 : decode cJ2_addAll 21 = .ok (.ifCond .ne 5, 3) := dk_154 0 5 (dk_at dksJ2_addAll_0 21 rfl rfl)
theorem dJ2_addAll_24 : decode cJ2_addAll 24 = .ok (.iconst 0, 1) := dk_3 (dk_at dksJ2_addAll_1 0 rfl rfl)
theorem dJ2_addAll_25 : decode cJ2_addAll 25 = .ok (.ireturn, 1) := dk_172 (dk_at dksJ2_addAll_1 1 rfl rfl)
theorem dJ2_addAll_26 : decode cJ2_addAll 26 = .ok (.iload_n 3, 1) := dk_29 (dk_at dksJ2_addAll_1 2 rfl rfl)
theorem dJ2_addAll_27 : decode cJ2_addAll 27 = .ok (.aload_n 0, 1) := dk_42 (dk_at dksJ2_addAll_1 3 rfl rfl)
theorem dJ2_addAll_28 : decode cJ2_addAll 28 = .ok (.getfield 9, 3) := dk_180 0 9 (dk_at dksJ2_addAll_1 4 rfl rfl)
theorem dJ2_addAll_31 : decode cJ2_addAll 31 = .ok (.dup, 1) := dk_89 (dk_at dksJ2_addAll_1 7 rfl rfl)
theorem dJ2_addAll_32 : decode cJ2_addAll 32 = .ok (.astore 4, 2) := dk_58 4 (dk_at dksJ2_addAll_1 8 rfl rfl)
theorem dJ2_addAll_34 : decode cJ2_addAll 34 = .ok (.arraylength, 1) := dk_190 (dk_at dksJ2_addAll_1 10 rfl rfl)
theorem dJ2_addAll_35 : decode cJ2_addAll 35 = .ok (.aload_n 0, 1) := dk_42 (dk_at dksJ2_addAll_1 11 rfl rfl)
theorem dJ2_addAll_36 : decode cJ2_addAll 36 = .ok (.getfield 48, 3) := dk_180 0 48 (dk_at dksJ2_addAll_1 12 rfl rfl)
theorem dJ2_addAll_39 : decode cJ2_addAll 39 = .ok (.dup, 1) := dk_89 (dk_at dksJ2_addAll_1 15 rfl rfl)
theorem dJ2_addAll_40 : decode cJ2_addAll 40 = .ok (.istore 5, 2) := dk_54 5 (dk_at dksJ2_addAll_1 16 rfl rfl)
theorem dJ2_addAll_42 : decode cJ2_addAll 42 = .ok (.isub, 1) := dk_100 (dk_at dksJ2_addAll_1 18 rfl rfl)
theorem dJ2_addAll_43 : decode cJ2_addAll 43 = .ok (.if_icmp .le 13, 3) := dk_164 0 13 (dk_at dksJ2_addAll_1 19 rfl rfl)
theorem dJ2_addAll_46 : decode cJ2_addAll 46 = .ok (.aload_n 0, 1) := dk_42 (dk_at dksJ2_addAll_1 22 rfl rfl)
theorem dJ2_addAll_47 : decode cJ2_addAll 47 = .ok (.iload 5, 2) := dk_21 5 (dk_at dksJ2_addAll_2 0 rfl rfl)
theorem dJ2_addAll_49 : decode cJ2_addAll 49 = .ok (.iload_n 3, 1) := dk_29 (dk_at dksJ2_addAll_2 2 rfl rfl)
theorem dJ2_addAll_50 : decode cJ2_addAll 50 = .ok (.iadd, 1) := dk_96 (dk_at dksJ2_addAll_2 3 rfl rfl)
theorem dJ2_addAll_51 : decode cJ2_addAll 51 = .ok (.invokevirtual 69, 3) := dk_182 0 69 (dk_at dksJ2_addAll_2 4 rfl rfl)
theorem dJ2_addAll_54 : decode cJ2_addAll 54 = .ok (.astore 4, 2) := dk_58 4 (dk_at dksJ2_addAll_2 7 rfl rfl)
theorem dJ2_addAll_56 : decode cJ2_addAll 56 = .ok (.aload_n 2, 1) := dk_44 (dk_at dksJ2_addAll_2 9 rfl rfl)
theorem dJ2_addAll_57 : decode cJ2_addAll 57 = .ok (.iconst 0, 1) := dk_3 (dk_at dksJ2_addAll_2 10 rfl rfl)
theorem dJ2_addAll_58 : decode cJ2_addAll 58 = .ok (.aload 4, 2) := dk_25 4 (dk_at dksJ2_addAll_2 11 rfl rfl)
theorem dJ2_addAll_60 : decode cJ2_addAll 60 = .ok (.iload 5, 2) := dk_21 5 (dk_at dksJ2_addAll_2 13 rfl rfl)
theorem dJ2_addAll_62 : decode cJ2_addAll 62 = .ok (.iload_n 3, 1) := dk_29 (dk_at dksJ2_addAll_2 15 rfl rfl)
theorem dJ2_addAll_63 : decode cJ2_addAll 63 = .ok (.invokestatic 112, 3) := dk_184 0 112 (dk_at dksJ2_addAll_2 16 rfl rfl)
theorem dJ2_addAll_66 : decode cJ2_addAll 66 = .ok (.aload_n 0, 1) := dk_42 (dk_at dksJ2_addAll_2 19 rfl rfl)
theorem dJ2_addAll_67 : decode cJ2_addAll 67 = .ok (.iload 5, 2) := dk_21 5 (dk_at dksJ2_addAll_2 20 rfl rfl)
theorem dJ2_addAll_69 : decode cJ2_addAll 69 = .ok (.iload_n 3, 1) := dk_29 (dk_at dksJ2_addAll_2 22 rfl rfl)
theorem dJ2_addAll_70 : decode cJ2_addAll 70 = .ok (.iadd, 1) := dk_96 (dk_at dksJ2_addAll_2 23 rfl rfl)
theorem dJ2_addAll_71 : decode cJ2_addAll 71 = .ok (.putfield 48, 3) := dk_181 0 48 (dk_at dksJ2_addAll_3 0 rfl rfl)
theorem dJ2_addAll_74 : decode cJ2_addAll 74 = .ok (.iconst 1, 1) := dk_4 (dk_at dksJ2_addAll_3 3 rfl rfl)
theorem dJ2_addAll_75 : decode cJ2_addAll 75 = .ok (.ireturn, 1) := dk_172 (dk_at dksJ2_addAll_3 4 rfl rfl)
def dkwJ2_toArray_0 : List UInt8 := [42, 180, 0, 9, 42, 180, 0, 48, 184, 0, 66, 176]
abbrev dktJ2_toArray_0 : List UInt8 := dkwJ2_toArray_0 ++ []
theorem dksJ2_toArray_0 : cJ2_toArray.data.toList.drop 0 = dktJ2_toArray_0 := by decide +kernel
theorem dJ2_toArray_0 : decode cJ2_toArray 0 = .ok (.aload_n 0, 1) := dk_42 (dk_at dksJ2_toArray_0 0 rfl rfl)
theorem dJ2_toArray_1 : decode cJ2_toArray 1 = .ok (.getfield 9, 3) := dk_180 0 9 (dk_at dksJ2_toArray_0 1 rfl rfl)
theorem dJ2_toArray_4 : decode cJ2_toArray 4 = .ok (.aload_n 0, 1) := dk_42 (dk_at dksJ2_toArray_0 4 rfl rfl)
theorem dJ2_toArray_5 : decode cJ2_toArray 5 = .ok (.getfield 48, 3) := dk_180 0 48 (dk_at dksJ2_toArray_0 5 rfl rfl)
theorem dJ2_toArray_8 : decode cJ2_toArray 8 = .ok (.invokestatic 66, 3) := dk_184 0 66 (dk_at dksJ2_toArray_0 8 rfl rfl)
theorem dJ2_toArray_11 : decode cJ2_toArray 11 = .ok (.areturn, 1) := dk_176 (dk_at dksJ2_toArray_0 11 rfl rfl)
def dkwJ2_remove_1 : List UInt8 := [45, 176]
abbrev dktJ2_remove_1 : List UInt8 := dkwJ2_remove_1 ++ []
def dkwJ2_remove_0 : List UInt8 := [27, 42, 180, 0, 48, 184, 0, 118, 87, 42, 180, 0, 9, 77, 44, 27, 50, 78, 42, 44, 27, 182, 0, 144]
abbrev dktJ2_remove_0 : List UInt8 := dkwJ2_remove_0 ++ dktJ2_remove_1
theorem dksJ2_remove_0 : cJ2_remove.data.toList.drop 0 = dktJ2_remove_0 := by decide +kernel
theorem dksJ2_remove_1 : cJ2_remove.data.toList.drop 24 = dktJ2_remove_1 := dk_seg dksJ2_remove_0 24 rfl rfl
theorem dJ2_remove_0 : decode cJ2_remove 0 = .ok (.iload_n 1, 1) := dk_27 (dk_at dksJ2_remove_0 0 rfl rfl)
theorem dJ2_remove_1 : decode cJ2_remove 1 = .ok (.aload_n 0, 1) := dk_42 (dk_at dksJ2_remove_0 1 rfl rfl)
theorem dJ2_remove_2 : decode cJ2_remove 2 = .ok (.getfield 48, 3) := dk_180 0 48 (dk_at dksJ2_remove_0 2 rfl rfl)
theorem dJ2_remove_5 : decode cJ2_remove 5 = .ok (.invokestatic 118, 3) := dk_184 0 118 (dk_at dksJ2_remove_0 5 rfl rfl)
theorem dJ2_remove_8 : decode cJ2_remove 8 = .ok (.pop, 1) := dk_87 (dk_at dksJ2_remove_0 8 rfl rfl)
theorem dJ2_remove_9 : decode cJ2_remove 9 = .ok (.aload_n 0, 1) := dk_42 (dk_at dksJ2_remove_0 9 rfl rfl)
theorem dJ2_remove_10 : decode cJ2_remove 10 = .ok (.getfield 9, 3) := dk_180 0 9 (dk_at dksJ2_remove_0 10 rfl rfl)
theorem dJ2_remove_13 : decode cJ2_remove 13 = .ok (.astore_n 2, 1) := dk_77 (dk_at dksJ2_remove_0 13 rfl rfl)
theorem dJ2_remove_14 : decode cJ2_remove 14 = .ok (.aload_n 2, 1) := dk_44 (dk_at dksJ2_remove_0 14 rfl rfl)
theorem dJ2_remove_15 : decode cJ2_remove 15 = .ok (.iload_n 1, 1) := dk_27 (dk_at dksJ2_remove_0 15 rfl rfl)
theorem dJ2_remove_16 : decode cJ2_remove 16 = .ok (.aaload, 1) := dk_50 (dk_at dksJ2_remove_0 16 rfl rfl)
theorem dJ2_remove_17 : decode cJ2_remove 17 = .ok (.astore_n 3, 1) := dk_78 (dk_at dksJ2_remove_0 17 rfl rfl)
theorem dJ2_remove_18 : decode cJ2_remove 18 = .ok (.aload_n 0, 1) := dk_42 (dk_at dksJ2_remove_0 18 rfl rfl)
theorem dJ2_remove_19 : decode cJ2_remove 19 = .ok (.aload_n 2, 1) := dk_44 (dk_at dksJ2_remove_0 19 rfl rfl)
theorem dJ2_remove_20 : decode cJ2_remove 20 = .ok (.iload_n 1, 1) := dk_27 (dk_at dksJ2_remove_0 20 rfl rfl)
theorem dJ2_remove_21 : decode cJ2_remove 21 = .ok (.invokevirtual 144, 3) := dk_182 0 144 (dk_at dksJ2_remove_0 21 rfl rfl)
theorem dJ2_remove_24 : decode cJ2_remove 24 = .ok (.aload_n 3, 1) := dk_45 (dk_at dksJ2_remove_1 0 rfl rfl)
theorem dJ2_remove_25 : decode cJ2_remove 25 = .ok (.areturn, 1) := dk_176 (dk_at dksJ2_remove_1 1 rfl rfl)
def dkwJ2_fastRemove_1 : List UInt8 := [4, 96, 43, 28, 29, 28, 100, 184, 0, 112, 43, 42, 29, 90, 181, 0, 48, 1, 83, 177]
abbrev dktJ2_fastRemove_1 : List UInt8 := dkwJ2_fastRemove_1 ++ []
def dkwJ2_fastRemove_0 : List UInt8 := [42, 89, 180, 0, 63, 4, 96, 181, 0, 63, 42, 180, 0, 48, 4, 100, 89, 62, 28, 164, 0, 15, 43, 28]
abbrev dktJ2_fastRemove_0 : List UInt8 := dkwJ2_fastRemove_0 ++ dktJ2_fastRemove_1
theorem dksJ2_fastRemove_0 : cJ2_fastRemove.data.toList.drop 0 = dktJ2_fastRemove_0 := by decide +kernel
theorem dksJ2_fastRemove_1 : cJ2_fastRemove.data.toList.drop 24 = dktJ2_fastRemove_1 := dk_seg dksJ2_fastRemove_0 24 rfl rfl
theorem dJ2_fastRemove_0 : decode cJ2_fastRemove 0 = .ok (.aload_n 0, 1) := dk_42 (dk_at dksJ2_fastRemove_0 0 rfl rfl)
theorem dJ2_fastRemove_1 : decode cJ2_fastRemove 1 = .ok (.dup, 1) := dk_89 (dk_at dksJ2_fastRemove_0 1 rfl rfl)
theorem dJ2_fastRemove_2 : decode cJ2_fastRemove 2 = .ok (.getfield 63, 3) := dk_180 0 63 (dk_at dksJ2_fastRemove_0 2 rfl rfl)
theorem dJ2_fastRemove_5 : decode cJ2_fastRemove 5 = .ok (.iconst 1, 1) := dk_4 (dk_at dksJ2_fastRemove_0 5 rfl rfl)
theorem dJ2_fastRemove_6 : decode cJ2_fastRemove 6 = .ok (.iadd, 1) := dk_96 (dk_at dksJ2_fastRemove_0 6 rfl rfl)
theorem dJ2_fastRemove_7 : decode cJ2_fastRemove 7 = .ok (.putfield 63, 3) := dk_181 0 63 (dk_at dksJ2_fastRemove_0 7 rfl rfl)
theorem dJ2_fastRemove_10 : decode cJ2_fastRemove 10 = .ok (.aload_n 0, 1) := dk_42 (dk_at dksJ2_fastRemove_0 10 rfl rfl)
theorem dJ2_fastRemove_11 : decode cJ2_fastRemove 11 = .ok (.getfield 48, 3) := dk_180 0 48 (dk_at dksJ2_fastRemove_0 11 rfl rfl)
theorem dJ2_fastRemove_14 : decode cJ2_fastRemove 14 = .ok (.iconst 1, 1) := dk_4 (dk_at dksJ2_fastRemove_0 14 rfl rfl)
theorem dJ2_fastRemove_15 : decode cJ2_fastRemove 15 = .ok (.isub, 1) := dk_100 (dk_at dksJ2_fastRemove_0 15 rfl rfl)
theorem dJ2_fastRemove_16 : decode cJ2_fastRemove 16 = .ok (.dup, 1) := dk_89 (dk_at dksJ2_fastRemove_0 16 rfl rfl)
theorem dJ2_fastRemove_17 : decode cJ2_fastRemove 17 = .ok (.istore_n 3, 1) := dk_62 (dk_at dksJ2_fastRemove_0 17 rfl rfl)
theorem dJ2_fastRemove_18 : decode cJ2_fastRemove 18 = .ok (.iload_n 2, 1) := dk_28 (dk_at dksJ2_fastRemove_0 18 rfl rfl)
theorem dJ2_fastRemove_19 : decode cJ2_fastRemove 19 = .ok (.if_icmp .le 15, 3) := dk_164 0 15 (dk_at dksJ2_fastRemove_0 19 rfl rfl)
theorem dJ2_fastRemove_22 : decode cJ2_fastRemove 22 = .ok (.aload_n 1, 1) := dk_43 (dk_at dksJ2_fastRemove_0 22 rfl rfl)
theorem dJ2_fastRemove_23 : decode cJ2_fastRemove 23 = .ok (.iload_n 2, 1) := dk_28 (dk_at dksJ2_fastRemove_0 23 rfl rfl)
theorem dJ2_fastRemove_24 : decode cJ2_fastRemove 24 = .ok (.iconst 1, 1) := dk_4 (dk_at dksJ2_fastRemove_1 0 rfl rfl)
theorem dJ2_fastRemove_25 : decode cJ2_fastRemove 25 = .ok (.iadd, 1) := dk_96 (dk_at dksJ2_fastRemove_1 1 rfl rfl)
theorem dJ2_fastRemove_26 : decode cJ2_fastRemove 26 = .ok (.aload_n 1, 1) := dk_43 (dk_at dksJ2_fastRemove_1 2 rfl rfl)
theorem dJ2_fastRemove_27 : decode cJ2_fastRemove 27 = .ok (.iload_n 2, 1) := dk_28 (dk_at dksJ2_fastRemove_1 3 rfl rfl)
theorem dJ2_fastRemove_28 : decode cJ2_fastRemove 28 = .ok (.iload_n 3, 1) := dk_29 (dk_at dksJ2_fastRemove_1 4 rfl rfl)
theorem dJ2_fastRemove_29 : decode cJ2_fastRemove 29 = .ok (.iload_n 2, 1) := dk_28 (dk_at dksJ2_fastRemove_1 5 rfl rfl)
theorem dJ2_fastRemove_30 : decode cJ2_fastRemove 30 = .ok (.isub, 1) := dk_100 (dk_at dksJ2_fastRemove_1 6 rfl rfl)
theorem dJ2_fastRemove_31 : decode cJ2_fastRemove 31 = .ok (.invokestatic 112, 3) := dk_184 0 112 (dk_at dksJ2_fastRemove_1 7 rfl rfl)
theorem dJ2_fastRemove_34 : decode cJ2_fastRemove 34 = .ok (.aload_n 1, 1) := dk_43 (dk_at dksJ2_fastRemove_1 10 rfl rfl)
theorem dJ2_fastRemove_35 : decode cJ2_fastRemove 35 = .ok (.aload_n 0, 1) := dk_42 (dk_at dksJ2_fastRemove_1 11 rfl rfl)
theorem dJ2_fastRemove_36 : decode cJ2_fastRemove 36 = .ok (.iload_n 3, 1) := dk_29 (dk_at dksJ2_fastRemove_1 12 rfl rfl)
theorem dJ2_fastRemove_37 : decode cJ2_fastRemove 37 = .ok (.dup_x1, 1) := dk_90 (dk_at dksJ2_fastRemove_1 13 rfl rfl)
theorem dJ2_fastRemove_38 : decode cJ2_fastRemove 38 = .ok (.putfield 48, 3) := dk_181 0 48 (dk_at dksJ2_fastRemove_1 14 rfl rfl)
theorem dJ2_fastRemove_41 : decode cJ2_fastRemove 41 = .ok (.aconst_null, 1) := dk_1 (dk_at dksJ2_fastRemove_1 17 rfl rfl)
theorem dJ2_fastRemove_42 : decode cJ2_fastRemove 42 = .ok (.aastore, 1) := dk_83 (dk_at dksJ2_fastRemove_1 18 rfl rfl)
theorem dJ2_fastRemove_43 : decode cJ2_fastRemove 43 = .ok (.return_, 1) := dk_177 (dk_at dksJ2_fastRemove_1 19 rfl rfl)
def dkwJ3_init_1 : List UInt8 := [182, 0, 27, 87, 177]
abbrev dktJ3_init_1 : List UInt8 := dkwJ3_init_1 ++ []
def dkwJ3_init_0 : List UInt8 := [42, 183, 0, 1, 42, 42, 181, 0, 7, 42, 178, 0, 13, 181, 0, 17, 42, 178, 0, 20, 181, 0, 24, 42]
abbrev dktJ3_init_0 : List UInt8 := dkwJ3_init_0 ++ dktJ3_init_1
theorem dksJ3_init_0 : cJ3_init.data.toList.drop 0 = dktJ3_init_0 := by decide +kernel
theorem dksJ3_init_1 : cJ3_init.data.toList.drop 24 = dktJ3_init_1 := dk_seg dksJ3_init_0 24 rfl rfl
theorem dJ3_init_0 : decode cJ3_init 0 = .ok (.aload_n 0, 1) := dk_42 (dk_at dksJ3_init_0 0 rfl rfl)
theorem dJ3_init_1 : decode cJ3_init 1 = .ok (.invokespecial 1, 3) := dk_183 0 1 (dk_at dksJ3_init_0 1 rfl rfl)
theorem dJ3_init_4 : decode cJ3_init 4 = .ok (.aload_n 0, 1) := dk_42 (dk_at dksJ3_init_0 4 rfl rfl)
theorem dJ3_init_5 : decode cJ3_init 5 = .ok (.aload_n 0, 1) := dk_42 (dk_at dksJ3_init_0 5 rfl rfl)
theorem dJ3_init_6 : decode cJ3_init 6 = .ok (.putfield 7, 3) := dk_181 0 7 (dk_at dksJ3_init_0 6 rfl rfl)
theorem dJ3_init_9 : decode cJ3_init 9 = .ok (.aload_n 0, 1) := dk_42 (dk_at dksJ3_init_0 9 rfl rfl)
theorem dJ3_init_10 : decode cJ3_init 10 = .ok (.getstatic 13, 3) := dk_178 0 13 (dk_at dksJ3_init_0 10 rfl rfl)
theorem dJ3_init_13 : decode cJ3_init 13 = .ok (.putfield 17, 3) := dk_181 0 17 (dk_at dksJ3_init_0 13 rfl rfl)
theorem dJ3_init_16 : decode cJ3_init 16 = .ok (.aload_n 0, 1) := dk_42 (dk_at dksJ3_init_0 16 rfl rfl)
theorem dJ3_init_17 : decode cJ3_init 17 = .ok (.getstatic 20, 3) := dk_178 0 20 (dk_at dksJ3_init_0 17 rfl rfl)
theorem dJ3_init_20 : decode cJ3_init 20 = .ok (.putfield 24, 3) := dk_181 0 24 (dk_at dksJ3_init_0 20 rfl rfl)
theorem dJ3_init_23 : decode cJ3_init 23 = .ok (.aload_n 0, 1) := dk_42 (dk_at dksJ3_init_0 23 rfl rfl)
theorem dJ3_init_24 : decode cJ3_init 24 = .ok (.invokevirtual 27, 3) := dk_182 0 27 (dk_at dksJ3_init_1 0 rfl rfl)
theorem dJ3_init_27 : decode cJ3_init 27 = .ok (.pop, 1) := dk_87 (dk_at dksJ3_init_1 3 rfl rfl)
theorem dJ3_init_28 : decode cJ3_init 28 = .ok (.return_, 1) := dk_177 (dk_at dksJ3_init_1 4 rfl rfl)
def dkwJ3_init_2_1 : List UInt8 := [182, 0, 27, 87, 42, 43, 181, 0, 31, 177]
abbrev dktJ3_init_2_1 : List UInt8 := dkwJ3_init_2_1 ++ []
def dkwJ3_init_2_0 : List UInt8 := [42, 183, 0, 1, 42, 42, 181, 0, 7, 42, 178, 0, 13, 181, 0, 17, 42, 178, 0, 20, 181, 0, 24, 42]
abbrev dktJ3_init_2_0 : List UInt8 := dkwJ3_init_2_0 ++ dktJ3_init_2_1
theorem dksJ3_init_2_0 : cJ3_init_2.data.toList.drop 0 = dktJ3_init_2_0 := by decide +kernel
theorem dksJ3_init_2_1 : cJ3_init_2.data.toList.drop 24 = dktJ3_init_2_1 := dk_seg dksJ3_init_2_0 24 rfl rfl
theorem dJ3_init_2_0 : decode cJ3_init_2 0 = .ok (.aload_n 0, 1) := dk_42 (dk_at dksJ3_init_2_0 0 rfl rfl)
theorem dJ3_init_2_1 : decode cJ3_init_2 1 = .ok (.invokespecial 1, 3) := dk_183 0 1 (dk_at dksJ3_init_2_0 1 rfl rfl)
theorem dJ3_init_2_4 : decode cJ3_init_2 4 = .ok (.aload_n 0, 1) := dk_42 (dk_at dksJ3_init_2_0 4 rfl rfl)
theorem dJ3_init_2_5 : decode cJ3_init_2 5 = .ok (.aload_n 0, 1) := dk_42 (dk_at dksJ3_init_2_0 5 rfl rfl)
theorem dJ3_init_2_6 : decode cJ3_init_2 6 = .ok (.putfield 7, 3) := dk_181 0 7 (dk_at dksJ3_init_2_0 6 rfl rfl)
theorem dJ3_init_2_9 : decode cJ3_init_2 9 = .ok (.aload_n 0, 1) := dk_42 (dk_at dksJ3_init_2_0 9 rfl rfl)
theorem dJ3_init_2_10 : decode cJ3_init_2 10 = .ok (.getstatic 13, 3) := dk_178 0 13 (dk_at dksJ3_init_2_0 10 rfl rfl)
theorem dJ3_init_2_13 : decode cJ3_init_2 13 = .ok (.putfield 17, 3) := dk_181 0 17 (dk_at dksJ3_init_2_0 13 rfl rfl)
theorem dJ3_init_2_16 : decode cJ3_init_2 16 = .ok (.aload_n 0, 1) := dk_42 (dk_at dksJ3_init_2_0 16 rfl rfl)
theorem dJ3_init_2_17 : decode cJ3_init_2 17 = .ok (.getstatic 20, 3) := dk_178 0 20 (dk_at dksJ3_init_2_0 17 rfl rfl)
theorem dJ3_init_2_20 : decode cJ3_init_2 20 = .ok (.putfield 24, 3) := dk_181 0 24 (dk_at dksJ3_init_2_0 20 rfl rfl)
theorem dJ3_init_2_23 : decode cJ3_init_2 23 = .ok (.aload_n 0, 1) := dk_42 (dk_at dksJ3_init_2_0 23 rfl rfl)
theorem dJ3_init_2_24 : decode cJ3_init_2 24 = .ok (.invokevirtual 27, 3) := dk_182 0 27 (dk_at dksJ3_init_2_1 0 rfl rfl)
theorem dJ3_init_2_27 : decode cJ3_init_2 27 = .ok (.pop, 1) := dk_87 (dk_at dksJ3_init_2_1 3 rfl rfl)
theorem dJ3_init_2_28 : decode cJ3_init_2 28 = .ok (.aload_n 0, 1) := dk_42 (dk_at dksJ3_init_2_1 4 rfl rfl)
theorem dJ3_init_2_29 : decode cJ3_init_2 29 = .ok (.aload_n 1, 1) := dk_43 (dk_at dksJ3_init_2_1 5 rfl rfl)
theorem dJ3_init_2_30 : decode cJ3_init_2 30 = .ok (.putfield 31, 3) := dk_181 0 31 (dk_at dksJ3_init_2_1 6 rfl rfl)
theorem dJ3_init_2_33 : decode cJ3_init_2 33 = .ok (.return_, 1) := dk_177 (dk_at dksJ3_init_2_1 9 rfl rfl)
theorem dJ4_init_0 : decode cJ4_init 0 = .ok (.aload_n 0, 1) := by decide +kernel
theorem dJ4_init_1 : decode cJ4_init 1 = .ok (.invokespecial 1, 3) := by decide +kernel
theorem dJ4_init_4 : decode cJ4_init 4 = .ok (.return_, 1) := by decide +kernel
def dkwJ4_init_2_0 : List UInt8 := [42, 43, 183, 0, 7, 177]
abbrev dktJ4_init_2_0 : List UInt8 := dkwJ4_init_2_0 ++ []
theorem dksJ4_init_2_0 : cJ4_init_2.data.toList.drop 0 = dktJ4_init_2_0 := by decide +kernel
theorem dJ4_init_2_0 : decode cJ4_init_2 0 = .ok (.aload_n 0, 1) := dk_42 (dk_at dksJ4_init_2_0 0 rfl rfl)
theorem dJ4_init_2_1 : decode cJ4_init_2 1 = .ok (.aload_n 1, 1) := dk_43 (dk_at dksJ4_init_2_0 1 rfl rfl)
theorem dJ4_init_2_2 : decode cJ4_init_2 2 = .ok (.invokespecial 7, 3) := dk_183 0 7 (dk_at dksJ4_init_2_0 2 rfl rfl)
theorem dJ4_init_2_5 : decode cJ4_init_2 5 = .ok (.return_, 1) := dk_177 (dk_at dksJ4_init_2_0 5 rfl rfl)
theorem dJ5_init_0 : decode cJ5_init 0 = .ok (.aload_n 0, 1) := by decide +kernel
theorem dJ5_init_1 : decode cJ5_init 1 = .ok (.invokespecial 1, 3) := by decide +kernel
theorem dJ5_init_4 : decode cJ5_init 4 = .ok (.return_, 1) := by decide +kernel
def dkwJ5_init_2_0 : List UInt8 := [42, 43, 183, 0, 7, 177]
abbrev dktJ5_init_2_0 : List UInt8 := dkwJ5_init_2_0 ++ []
theorem dksJ5_init_2_0 : cJ5_init_2.data.toList.drop 0 = dktJ5_init_2_0 := by decide +kernel
theorem dJ5_init_2_0 : decode cJ5_init_2 0 = .ok (.aload_n 0, 1) := dk_42 (dk_at dksJ5_init_2_0 0 rfl rfl)
theorem dJ5_init_2_1 : decode cJ5_init_2 1 = .ok (.aload_n 1, 1) := dk_43 (dk_at dksJ5_init_2_0 1 rfl rfl)
theorem dJ5_init_2_2 : decode cJ5_init_2 2 = .ok (.invokespecial 7, 3) := dk_183 0 7 (dk_at dksJ5_init_2_0 2 rfl rfl)
theorem dJ5_init_2_5 : decode cJ5_init_2 5 = .ok (.return_, 1) := dk_177 (dk_at dksJ5_init_2_0 5 rfl rfl)
theorem dJ6_init_0 : decode cJ6_init 0 = .ok (.aload_n 0, 1) := by decide +kernel
theorem dJ6_init_1 : decode cJ6_init 1 = .ok (.invokespecial 1, 3) := by decide +kernel
theorem dJ6_init_4 : decode cJ6_init 4 = .ok (.return_, 1) := by decide +kernel
theorem dJ7_init_0 : decode cJ7_init 0 = .ok (.aload_n 0, 1) := by decide +kernel
theorem dJ7_init_1 : decode cJ7_init 1 = .ok (.invokespecial 1, 3) := by decide +kernel
theorem dJ7_init_4 : decode cJ7_init 4 = .ok (.return_, 1) := by decide +kernel
theorem dJ8_init_0 : decode cJ8_init 0 = .ok (.aload_n 0, 1) := by decide +kernel
theorem dJ8_init_1 : decode cJ8_init 1 = .ok (.invokespecial 1, 3) := by decide +kernel
theorem dJ8_init_4 : decode cJ8_init 4 = .ok (.return_, 1) := by decide +kernel
def dkwJ9_newLength_1 : List UInt8 := [184, 0, 201, 172]
abbrev dktJ9_newLength_1 : List UInt8 := dkwJ9_newLength_1 ++ []
def dkwJ9_newLength_0 : List UInt8 := [26, 27, 28, 184, 0, 194, 96, 62, 3, 29, 162, 0, 11, 29, 18, 200, 163, 0, 5, 29, 172, 26, 27]
abbrev dktJ9_newLength_0 : List UInt8 := dkwJ9_newLength_0 ++ dktJ9_newLength_1
theorem dksJ9_newLength_0 : cJ9_newLength.data.toList.drop 0 = dktJ9_newLength_0 := by decide +kernel
theorem dksJ9_newLength_1 : cJ9_newLength.data.toList.drop 23 = dktJ9_newLength_1 := dk_seg dksJ9_newLength_0 23 rfl rfl
theorem dJ9_newLength_0 : decode cJ9_newLength 0 = .ok (.iload_n 0, 1) := dk_26 (dk_at dksJ9_newLength_0 0 rfl rfl)
theorem dJ9_newLength_1 : decode cJ9_newLength 1 = .ok (.iload_n 1, 1) := dk_27 (dk_at dksJ9_newLength_0 1 rfl rfl)
theorem dJ9_newLength_2 : decode cJ9_newLength 2 = .ok (.iload_n 2, 1) := dk_28 (dk_at dksJ9_newLength_0 2 rfl rfl)
theorem dJ9_newLength_3 : decode cJ9_newLength 3 = .ok (.invokestatic 194, 3) := dk_184 0 194 (dk_at dksJ9_newLength_0 3 rfl rfl)
theorem dJ9_newLength_6 : decode cJ9_newLength 6 = .ok (.iadd, 1) := dk_96 (dk_at dksJ9_newLength_0 6 rfl rfl)
theorem dJ9_newLength_7 : decode cJ9_newLength 7 = .ok (.istore_n 3, 1) := dk_62 (dk_at dksJ9_newLength_0 7 rfl rfl)
theorem dJ9_newLength_8 : decode cJ9_newLength 8 = .ok (.iconst 0, 1) := dk_3 (dk_at dksJ9_newLength_0 8 rfl rfl)
theorem dJ9_newLength_9 : decode cJ9_newLength 9 = .ok (.iload_n 3, 1) := dk_29 (dk_at dksJ9_newLength_0 9 rfl rfl)
theorem dJ9_newLength_10 : decode cJ9_newLength 10 = .ok (.if_icmp .ge 11, 3) := dk_162 0 11 (dk_at dksJ9_newLength_0 10 rfl rfl)
theorem dJ9_newLength_13 : decode cJ9_newLength 13 = .ok (.iload_n 3, 1) := dk_29 (dk_at dksJ9_newLength_0 13 rfl rfl)
theorem dJ9_newLength_14 : decode cJ9_newLength 14 = .ok (.ldc 200, 2) := dk_18 200 (dk_at dksJ9_newLength_0 14 rfl rfl)
theorem dJ9_newLength_16 : decode cJ9_newLength 16 = .ok (.if_icmp .gt 5, 3) := dk_163 0 5 (dk_at dksJ9_newLength_0 16 rfl rfl)
theorem dJ9_newLength_19 : decode cJ9_newLength 19 = .ok (.iload_n 3, 1) := dk_29 (dk_at dksJ9_newLength_0 19 rfl rfl)
theorem dJ9_newLength_20 : decode cJ9_newLength 20 = .ok (.ireturn, 1) := dk_172 (dk_at dksJ9_newLength_0 20 rfl rfl)
theorem dJ9_newLength_21 : decode cJ9_newLength 21 = .ok (.iload_n 0, 1) := dk_26 (dk_at dksJ9_newLength_0 21 rfl rfl)
theorem dJ9_newLength_22 : decode cJ9_newLength 22 = .ok (.iload_n 1, 1) := dk_27 (dk_at dksJ9_newLength_0 22 rfl rfl)
theorem dJ9_newLength_23 : decode cJ9_newLength 23 = .ok (.invokestatic 201, 3) := dk_184 0 201 (dk_at dksJ9_newLength_1 0 rfl rfl)
theorem dJ9_newLength_26 : decode cJ9_newLength 26 = .ok (.ireturn, 1) := dk_172 (dk_at dksJ9_newLength_1 3 rfl rfl)
def dkwJ9_hugeLength_2 : List UInt8 := [191, 28, 18, 200, 163, 0, 6, 18, 200, 172, 28, 172]
abbrev dktJ9_hugeLength_2 : List UInt8 := dkwJ9_hugeLength_2 ++ []
def dkwJ9_hugeLength_1 : List UInt8 := [26, 182, 0, 98, 18, 208, 182, 0, 94, 27, 182, 0, 98, 18, 210, 182, 0, 94, 182, 0, 101, 183, 0, 212]
abbrev dktJ9_hugeLength_1 : List UInt8 := dkwJ9_hugeLength_1 ++ dktJ9_hugeLength_2
def dkwJ9_hugeLength_0 : List UInt8 := [26, 27, 96, 61, 28, 156, 0, 44, 187, 0, 204, 89, 187, 0, 89, 89, 183, 0, 91, 18, 206, 182, 0, 94]
abbrev dktJ9_hugeLength_0 : List UInt8 := dkwJ9_hugeLength_0 ++ dktJ9_hugeLength_1
theorem dksJ9_hugeLength_0 : cJ9_hugeLength.data.toList.drop 0 = dktJ9_hugeLength_0 := by decide +kernel
theorem dksJ9_hugeLength_1 : cJ9_hugeLength.data.toList.drop 24 = dktJ9_hugeLength_1 := dk_seg dksJ9_hugeLength_0 24 rfl rfl
theorem dksJ9_hugeLength_2 : cJ9_hugeLength.data.toList.drop 48 = dktJ9_hugeLength_2 := dk_seg dksJ9_hugeLength_1 24 rfl rfl
theorem dJ9_hugeLength_0 : decode cJ9_hugeLength 0 = .ok (.iload_n 0, 1) := dk_26 (dk_at dksJ9_hugeLength_0 0 rfl rfl)
theorem dJ9_hugeLength_1 : decode cJ9_hugeLength 1 = .ok (.iload_n 1, 1) := dk_27 (dk_at dksJ9_hugeLength_0 1 rfl rfl)
theorem dJ9_hugeLength_2 : decode cJ9_hugeLength 2 = .ok (.iadd, 1) := dk_96 (dk_at dksJ9_hugeLength_0 2 rfl rfl)
theorem dJ9_hugeLength_3 : decode cJ9_hugeLength 3 = .ok (.istore_n 2, 1) := dk_61 (dk_at dksJ9_hugeLength_0 3 rfl rfl)
theorem dJ9_hugeLength_4 : decode cJ9_hugeLength 4 = .ok (.iload_n 2, 1) := dk_28 (dk_at dksJ9_hugeLength_0 4 rfl rfl)
theorem dJ9_hugeLength_5 : decode cJ9_hugeLength 5 = .ok (.ifCond .ge 44, 3) := dk_156 0 44 (dk_at dksJ9_hugeLength_0 5 rfl rfl)
theorem dJ9_hugeLength_8 : decode cJ9_hugeLength 8 = .ok (.new 204, 3) := dk_187 0 204 (dk_at dksJ9_hugeLength_0 8 rfl rfl)
theorem dJ9_hugeLength_11 : decode cJ9_hugeLength 11 = .ok (.dup, 1) := dk_89 (dk_at dksJ9_hugeLength_0 11 rfl rfl)
theorem dJ9_hugeLength_12 : decode cJ9_hugeLength 12 = .ok (.new 89, 3) := dk_187 0 89 (dk_at dksJ9_hugeLength_0 12 rfl rfl)
theorem dJ9_hugeLength_15 : decode cJ9_hugeLength 15 = .ok (.dup, 1) := dk_89 (dk_at dksJ9_hugeLength_0 15 rfl rfl)
theorem dJ9_hugeLength_16 : decode cJ9_hugeLength 16 = .ok (.invokespecial 91, 3) := dk_183 0 91 (dk_at dksJ9_hugeLength_0 16 rfl rfl)
theorem dJ9_hugeLength_19 : decode cJ9_hugeLength 19 = .ok (.ldc 206, 2) := dk_18 206 (dk_at dksJ9_hugeLength_0 19 rfl rfl)
theorem dJ9_hugeLength_21 : decode cJ9_hugeLength 21 = .ok (.invokevirtual 94, 3) := dk_182 0 94 (dk_at dksJ9_hugeLength_0 21 rfl rfl)
theorem dJ9_hugeLength_24 : decode cJ9_hugeLength 24 = .ok (.iload_n 0, 1) := dk_26 (dk_at dksJ9_hugeLength_1 0 rfl rfl)
theorem dJ9_hugeLength_25 : decode cJ9_hugeLength 25 = .ok (.invokevirtual 98, 3) := dk_182 0 98 (dk_at dksJ9_hugeLength_1 1 rfl rfl)
theorem dJ9_hugeLength_28 : decode cJ9_hugeLength 28 = .ok (.ldc 208, 2) := dk_18 208 (dk_at dksJ9_hugeLength_1 4 rfl rfl)
theorem dJ9_hugeLength_30 : decode cJ9_hugeLength 30 = .ok (.invokevirtual 94, 3) := dk_182 0 94 (dk_at dksJ9_hugeLength_1 6 rfl rfl)
theorem dJ9_hugeLength_33 : decode cJ9_hugeLength 33 = .ok (.iload_n 1, 1) := dk_27 (dk_at dksJ9_hugeLength_1 9 rfl rfl)
theorem dJ9_hugeLength_34 : decode cJ9_hugeLength 34 = .ok (.invokevirtual 98, 3) := dk_182 0 98 (dk_at dksJ9_hugeLength_1 10 rfl rfl)
theorem dJ9_hugeLength_37 : decode cJ9_hugeLength 37 = .ok (.ldc 210, 2) := dk_18 210 (dk_at dksJ9_hugeLength_1 13 rfl rfl)
theorem dJ9_hugeLength_39 : decode cJ9_hugeLength 39 = .ok (.invokevirtual 94, 3) := dk_182 0 94 (dk_at dksJ9_hugeLength_1 15 rfl rfl)
theorem dJ9_hugeLength_42 : decode cJ9_hugeLength 42 = .ok (.invokevirtual 101, 3) := dk_182 0 101 (dk_at dksJ9_hugeLength_1 18 rfl rfl)
theorem dJ9_hugeLength_45 : decode cJ9_hugeLength 45 = .ok (.invokespecial 212, 3) := dk_183 0 212 (dk_at dksJ9_hugeLength_1 21 rfl rfl)
theorem dJ9_hugeLength_48 : decode cJ9_hugeLength 48 = .ok (.athrow, 1) := dk_191 (dk_at dksJ9_hugeLength_2 0 rfl rfl)
theorem dJ9_hugeLength_49 : decode cJ9_hugeLength 49 = .ok (.iload_n 2, 1) := dk_28 (dk_at dksJ9_hugeLength_2 1 rfl rfl)
theorem dJ9_hugeLength_50 : decode cJ9_hugeLength 50 = .ok (.ldc 200, 2) := dk_18 200 (dk_at dksJ9_hugeLength_2 2 rfl rfl)
theorem dJ9_hugeLength_52 : decode cJ9_hugeLength 52 = .ok (.if_icmp .gt 6, 3) := dk_163 0 6 (dk_at dksJ9_hugeLength_2 4 rfl rfl)
theorem dJ9_hugeLength_55 : decode cJ9_hugeLength 55 = .ok (.ldc 200, 2) := dk_18 200 (dk_at dksJ9_hugeLength_2 7 rfl rfl)
theorem dJ9_hugeLength_57 : decode cJ9_hugeLength 57 = .ok (.ireturn, 1) := dk_172 (dk_at dksJ9_hugeLength_2 9 rfl rfl)
theorem dJ9_hugeLength_58 : decode cJ9_hugeLength 58 = .ok (.iload_n 2, 1) := dk_28 (dk_at dksJ9_hugeLength_2 10 rfl rfl)
theorem dJ9_hugeLength_59 : decode cJ9_hugeLength 59 = .ok (.ireturn, 1) := dk_172 (dk_at dksJ9_hugeLength_2 11 rfl rfl)
def dkwX10_keep_3 : List UInt8 := [182, 0, 72, 100, 182, 0, 74, 132, 4, 1, 167, 255, 219, 177]
abbrev dktX10_keep_3 : List UInt8 := dkwX10_keep_3 ++ []
def dkwX10_keep_2 : List UInt8 := [182, 0, 23, 162, 0, 34, 42, 43, 21, 4, 28, 42, 43, 21, 4, 182, 0, 70, 100, 29, 42, 43, 21, 4]
abbrev dktX10_keep_2 : List UInt8 := dkwX10_keep_2 ++ dktX10_keep_3
def dkwX10_keep_1 : List UInt8 := [96, 61, 29, 42, 43, 21, 4, 182, 0, 72, 96, 62, 132, 4, 1, 167, 255, 224, 3, 54, 4, 21, 4, 42]
abbrev dktX10_keep_1 : List UInt8 := dkwX10_keep_1 ++ dktX10_keep_2
def dkwX10_keep_0 : List UInt8 := [3, 61, 3, 62, 3, 54, 4, 21, 4, 42, 182, 0, 23, 162, 0, 29, 28, 42, 43, 21, 4, 182, 0, 70]
abbrev dktX10_keep_0 : List UInt8 := dkwX10_keep_0 ++ dktX10_keep_1
theorem dksX10_keep_0 : cX10_keep.data.toList.drop 0 = dktX10_keep_0 := by decide +kernel
theorem dksX10_keep_1 : cX10_keep.data.toList.drop 24 = dktX10_keep_1 := dk_seg dksX10_keep_0 24 rfl rfl
theorem dksX10_keep_2 : cX10_keep.data.toList.drop 48 = dktX10_keep_2 := dk_seg dksX10_keep_1 24 rfl rfl
theorem dksX10_keep_3 : cX10_keep.data.toList.drop 72 = dktX10_keep_3 := dk_seg dksX10_keep_2 24 rfl rfl
theorem dX10_keep_0 : decode cX10_keep 0 = .ok (.iconst 0, 1) := dk_3 (dk_at dksX10_keep_0 0 rfl rfl)
theorem dX10_keep_1 : decode cX10_keep 1 = .ok (.istore_n 2, 1) := dk_61 (dk_at dksX10_keep_0 1 rfl rfl)
theorem dX10_keep_2 : decode cX10_keep 2 = .ok (.iconst 0, 1) := dk_3 (dk_at dksX10_keep_0 2 rfl rfl)
theorem dX10_keep_3 : decode cX10_keep 3 = .ok (.istore_n 3, 1) := dk_62 (dk_at dksX10_keep_0 3 rfl rfl)
theorem dX10_keep_4 : decode cX10_keep 4 = .ok (.iconst 0, 1) := dk_3 (dk_at dksX10_keep_0 4 rfl rfl)
theorem dX10_keep_5 : decode cX10_keep 5 = .ok (.istore 4, 2) := dk_54 4 (dk_at dksX10_keep_0 5 rfl rfl)
theorem dX10_keep_7 : decode cX10_keep 7 = .ok (.iload 4, 2) := dk_21 4 (dk_at dksX10_keep_0 7 rfl rfl)
theorem dX10_keep_9 : decode cX10_keep 9 = .ok (.aload_n 0, 1) := dk_42 (dk_at dksX10_keep_0 9 rfl rfl)
theorem dX10_keep_10 : decode cX10_keep 10 = .ok (.invokevirtual 23, 3) := dk_182 0 23 (dk_at dksX10_keep_0 10 rfl rfl)
theorem dX10_keep_13 : decode cX10_keep 13 = .ok (.if_icmp .ge 29, 3) := dk_162 0 29 (dk_at dksX10_keep_0 13 rfl rfl)
theorem dX10_keep_16 : decode cX10_keep 16 = .ok (.iload_n 2, 1) := dk_28 (dk_at dksX10_keep_0 16 rfl rfl)
theorem dX10_keep_17 : decode cX10_keep 17 = .ok (.aload_n 0, 1) := dk_42 (dk_at dksX10_keep_0 17 rfl rfl)
theorem dX10_keep_18 : decode cX10_keep 18 = .ok (.aload_n 1, 1) := dk_43 (dk_at dksX10_keep_0 18 rfl rfl)
theorem dX10_keep_19 : decode cX10_keep 19 = .ok (.iload 4, 2) := dk_21 4 (dk_at dksX10_keep_0 19 rfl rfl)
theorem dX10_keep_21 : decode cX10_keep 21 = .ok (.invokevirtual 70, 3) := dk_182 0 70 (dk_at dksX10_keep_0 21 rfl rfl)
theorem dX10_keep_24 : decode cX10_keep 24 = .ok (.iadd, 1) := dk_96 (dk_at dksX10_keep_1 0 rfl rfl)
theorem dX10_keep_25 : decode cX10_keep 25 = .ok (.istore_n 2, 1) := dk_61 (dk_at dksX10_keep_1 1 rfl rfl)
theorem dX10_keep_26 : decode cX10_keep 26 = .ok (.iload_n 3, 1) := dk_29 (dk_at dksX10_keep_1 2 rfl rfl)
theorem dX10_keep_27 : decode cX10_keep 27 = .ok (.aload_n 0, 1) := dk_42 (dk_at dksX10_keep_1 3 rfl rfl)
theorem dX10_keep_28 : decode cX10_keep 28 = .ok (.aload_n 1, 1) := dk_43 (dk_at dksX10_keep_1 4 rfl rfl)
theorem dX10_keep_29 : decode cX10_keep 29 = .ok (.iload 4, 2) := dk_21 4 (dk_at dksX10_keep_1 5 rfl rfl)
theorem dX10_keep_31 : decode cX10_keep 31 = .ok (.invokevirtual 72, 3) := dk_182 0 72 (dk_at dksX10_keep_1 7 rfl rfl)
theorem dX10_keep_34 : decode cX10_keep 34 = .ok (.iadd, 1) := dk_96 (dk_at dksX10_keep_1 10 rfl rfl)
theorem dX10_keep_35 : decode cX10_keep 35 = .ok (.istore_n 3, 1) := dk_62 (dk_at dksX10_keep_1 11 rfl rfl)
theorem dX10_keep_36 : decode cX10_keep 36 = .ok (.iinc 4 1, 3) := dk_132 4 1 (dk_at dksX10_keep_1 12 rfl rfl)
theorem dX10_keep_39 : decode cX10_keep 39 = .ok (.goto (-32), 3) := dk_167 255 224 (dk_at dksX10_keep_1 15 rfl rfl)
theorem dX10_keep_42 : decode cX10_keep 42 = .ok (.iconst 0, 1) := dk_3 (dk_at dksX10_keep_1 18 rfl rfl)
theorem dX10_keep_43 : decode cX10_keep 43 = .ok (.istore 4, 2) := dk_54 4 (dk_at dksX10_keep_1 19 rfl rfl)
theorem dX10_keep_45 : decode cX10_keep 45 = .ok (.iload 4, 2) := dk_21 4 (dk_at dksX10_keep_1 21 rfl rfl)
theorem dX10_keep_47 : decode cX10_keep 47 = .ok (.aload_n 0, 1) := dk_42 (dk_at dksX10_keep_1 23 rfl rfl)
theorem dX10_keep_48 : decode cX10_keep 48 = .ok (.invokevirtual 23, 3) := dk_182 0 23 (dk_at dksX10_keep_2 0 rfl rfl)
theorem dX10_keep_51 : decode cX10_keep 51 = .ok (.if_icmp .ge 34, 3) := dk_162 0 34 (dk_at dksX10_keep_2 3 rfl rfl)
theorem dX10_keep_54 : decode cX10_keep 54 = .ok (.aload_n 0, 1) := dk_42 (dk_at dksX10_keep_2 6 rfl rfl)
theorem dX10_keep_55 : decode cX10_keep 55 = .ok (.aload_n 1, 1) := dk_43 (dk_at dksX10_keep_2 7 rfl rfl)
theorem dX10_keep_56 : decode cX10_keep 56 = .ok (.iload 4, 2) := dk_21 4 (dk_at dksX10_keep_2 8 rfl rfl)
theorem dX10_keep_58 : decode cX10_keep 58 = .ok (.iload_n 2, 1) := dk_28 (dk_at dksX10_keep_2 10 rfl rfl)
theorem dX10_keep_59 : decode cX10_keep 59 = .ok (.aload_n 0, 1) := dk_42 (dk_at dksX10_keep_2 11 rfl rfl)
theorem dX10_keep_60 : decode cX10_keep 60 = .ok (.aload_n 1, 1) := dk_43 (dk_at dksX10_keep_2 12 rfl rfl)
theorem dX10_keep_61 : decode cX10_keep 61 = .ok (.iload 4, 2) := dk_21 4 (dk_at dksX10_keep_2 13 rfl rfl)
theorem dX10_keep_63 : decode cX10_keep 63 = .ok (.invokevirtual 70, 3) := dk_182 0 70 (dk_at dksX10_keep_2 15 rfl rfl)
theorem dX10_keep_66 : decode cX10_keep 66 = .ok (.isub, 1) := dk_100 (dk_at dksX10_keep_2 18 rfl rfl)
theorem dX10_keep_67 : decode cX10_keep 67 = .ok (.iload_n 3, 1) := dk_29 (dk_at dksX10_keep_2 19 rfl rfl)
theorem dX10_keep_68 : decode cX10_keep 68 = .ok (.aload_n 0, 1) := dk_42 (dk_at dksX10_keep_2 20 rfl rfl)
theorem dX10_keep_69 : decode cX10_keep 69 = .ok (.aload_n 1, 1) := dk_43 (dk_at dksX10_keep_2 21 rfl rfl)
theorem dX10_keep_70 : decode cX10_keep 70 = .ok (.iload 4, 2) := dk_21 4 (dk_at dksX10_keep_2 22 rfl rfl)
theorem dX10_keep_72 : decode cX10_keep 72 = .ok (.invokevirtual 72, 3) := dk_182 0 72 (dk_at dksX10_keep_3 0 rfl rfl)
theorem dX10_keep_75 : decode cX10_keep 75 = .ok (.isub, 1) := dk_100 (dk_at dksX10_keep_3 3 rfl rfl)
theorem dX10_keep_76 : decode cX10_keep 76 = .ok (.invokevirtual 74, 3) := dk_182 0 74 (dk_at dksX10_keep_3 4 rfl rfl)
theorem dX10_keep_79 : decode cX10_keep 79 = .ok (.iinc 4 1, 3) := dk_132 4 1 (dk_at dksX10_keep_3 7 rfl rfl)
theorem dX10_keep_82 : decode cX10_keep 82 = .ok (.goto (-37), 3) := dk_167 255 219 (dk_at dksX10_keep_3 10 rfl rfl)
theorem dX10_keep_85 : decode cX10_keep 85 = .ok (.return_, 1) := dk_177 (dk_at dksX10_keep_3 13 rfl rfl)
def dkwX10_least_1 : List UInt8 := [42, 43, 28, 182, 0, 67, 104, 172]
abbrev dktX10_least_1 : List UInt8 := dkwX10_least_1 ++ []
def dkwX10_least_0 : List UInt8 := [42, 180, 0, 27, 28, 46, 42, 180, 0, 27, 28, 46, 155, 0, 12, 42, 43, 28, 182, 0, 64, 167, 0, 9]
abbrev dktX10_least_0 : List UInt8 := dkwX10_least_0 ++ dktX10_least_1
theorem dksX10_least_0 : cX10_least.data.toList.drop 0 = dktX10_least_0 := by decide +kernel
theorem dksX10_least_1 : cX10_least.data.toList.drop 24 = dktX10_least_1 := dk_seg dksX10_least_0 24 rfl rfl
theorem dX10_least_0 : decode cX10_least 0 = .ok (.aload_n 0, 1) := dk_42 (dk_at dksX10_least_0 0 rfl rfl)
theorem dX10_least_1 : decode cX10_least 1 = .ok (.getfield 27, 3) := dk_180 0 27 (dk_at dksX10_least_0 1 rfl rfl)
theorem dX10_least_4 : decode cX10_least 4 = .ok (.iload_n 2, 1) := dk_28 (dk_at dksX10_least_0 4 rfl rfl)
theorem dX10_least_5 : decode cX10_least 5 = .ok (.iaload, 1) := dk_46 (dk_at dksX10_least_0 5 rfl rfl)
theorem dX10_least_6 : decode cX10_least 6 = .ok (.aload_n 0, 1) := dk_42 (dk_at dksX10_least_0 6 rfl rfl)
theorem dX10_least_7 : decode cX10_least 7 = .ok (.getfield 27, 3) := dk_180 0 27 (dk_at dksX10_least_0 7 rfl rfl)
theorem dX10_least_10 : decode cX10_least 10 = .ok (.iload_n 2, 1) := dk_28 (dk_at dksX10_least_0 10 rfl rfl)
theorem dX10_least_11 : decode cX10_least 11 = .ok (.iaload, 1) := dk_46 (dk_at dksX10_least_0 11 rfl rfl)
theorem dX10_least_12 : decode cX10_least 12 = .ok (.ifCond .lt 12, 3) := dk_155 0 12 (dk_at dksX10_least_0 12 rfl rfl)
theorem dX10_least_15 : decode cX10_least 15 = .ok (.aload_n 0, 1) := dk_42 (dk_at dksX10_least_0 15 rfl rfl)
theorem dX10_least_16 : decode cX10_least 16 = .ok (.aload_n 1, 1) := dk_43 (dk_at dksX10_least_0 16 rfl rfl)
theorem dX10_least_17 : decode cX10_least 17 = .ok (.iload_n 2, 1) := dk_28 (dk_at dksX10_least_0 17 rfl rfl)
theorem dX10_least_18 : decode cX10_least 18 = .ok (.invokevirtual 64, 3) := dk_182 0 64 (dk_at dksX10_least_0 18 rfl rfl)
theorem dX10_least_21 : decode cX10_least 21 = .ok (.goto 9, 3) := dk_167 0 9 (dk_at dksX10_least_0 21 rfl rfl)
theorem dX10_least_24 : decode cX10_least 24 = .ok (.aload_n 0, 1) := dk_42 (dk_at dksX10_least_1 0 rfl rfl)
theorem dX10_least_25 : decode cX10_least 25 = .ok (.aload_n 1, 1) := dk_43 (dk_at dksX10_least_1 1 rfl rfl)
theorem dX10_least_26 : decode cX10_least 26 = .ok (.iload_n 2, 1) := dk_28 (dk_at dksX10_least_1 2 rfl rfl)
theorem dX10_least_27 : decode cX10_least 27 = .ok (.invokevirtual 67, 3) := dk_182 0 67 (dk_at dksX10_least_1 3 rfl rfl)
theorem dX10_least_30 : decode cX10_least 30 = .ok (.imul, 1) := dk_104 (dk_at dksX10_least_1 6 rfl rfl)
theorem dX10_least_31 : decode cX10_least 31 = .ok (.ireturn, 1) := dk_172 (dk_at dksX10_least_1 7 rfl rfl)
def dkwX10_low_1 : List UInt8 := [16, 12, 42, 43, 28, 182, 0, 50, 184, 0, 54, 104, 172]
abbrev dktX10_low_1 : List UInt8 := dkwX10_low_1 ++ []
def dkwX10_low_0 : List UInt8 := [42, 180, 0, 9, 28, 51, 153, 0, 17, 43, 180, 0, 42, 42, 180, 0, 47, 28, 46, 46, 167, 0, 15]
abbrev dktX10_low_0 : List UInt8 := dkwX10_low_0 ++ dktX10_low_1
theorem dksX10_low_0 : cX10_low.data.toList.drop 0 = dktX10_low_0 := by decide +kernel
theorem dksX10_low_1 : cX10_low.data.toList.drop 23 = dktX10_low_1 := dk_seg dksX10_low_0 23 rfl rfl
theorem dX10_low_0 : decode cX10_low 0 = .ok (.aload_n 0, 1) := dk_42 (dk_at dksX10_low_0 0 rfl rfl)
theorem dX10_low_1 : decode cX10_low 1 = .ok (.getfield 9, 3) := dk_180 0 9 (dk_at dksX10_low_0 1 rfl rfl)
theorem dX10_low_4 : decode cX10_low 4 = .ok (.iload_n 2, 1) := dk_28 (dk_at dksX10_low_0 4 rfl rfl)
theorem dX10_low_5 : decode cX10_low 5 = .ok (.baload, 1) := dk_51 (dk_at dksX10_low_0 5 rfl rfl)
theorem dX10_low_6 : decode cX10_low 6 = .ok (.ifCond .eq 17, 3) := dk_153 0 17 (dk_at dksX10_low_0 6 rfl rfl)
theorem dX10_low_9 : decode cX10_low 9 = .ok (.aload_n 1, 1) := dk_43 (dk_at dksX10_low_0 9 rfl rfl)
theorem dX10_low_10 : decode cX10_low 10 = .ok (.getfield 42, 3) := dk_180 0 42 (dk_at dksX10_low_0 10 rfl rfl)
theorem dX10_low_13 : decode cX10_low 13 = .ok (.aload_n 0, 1) := dk_42 (dk_at dksX10_low_0 13 rfl rfl)
theorem dX10_low_14 : decode cX10_low 14 = .ok (.getfield 47, 3) := dk_180 0 47 (dk_at dksX10_low_0 14 rfl rfl)
theorem dX10_low_17 : decode cX10_low 17 = .ok (.iload_n 2, 1) := dk_28 (dk_at dksX10_low_0 17 rfl rfl)
theorem dX10_low_18 : decode cX10_low 18 = .ok (.iaload, 1) := dk_46 (dk_at dksX10_low_0 18 rfl rfl)
theorem dX10_low_19 : decode cX10_low 19 = .ok (.iaload, 1) := dk_46 (dk_at dksX10_low_0 19 rfl rfl)
theorem dX10_low_20 : decode cX10_low 20 = .ok (.goto 15, 3) := dk_167 0 15 (dk_at dksX10_low_0 20 rfl rfl)
theorem dX10_low_23 : decode cX10_low 23 = .ok (.bipush 12, 2) := dk_16 12 (dk_at dksX10_low_1 0 rfl rfl)
theorem dX10_low_25 : decode cX10_low 25 = .ok (.aload_n 0, 1) := dk_42 (dk_at dksX10_low_1 2 rfl rfl)
theorem dX10_low_26 : decode cX10_low 26 = .ok (.aload_n 1, 1) := dk_43 (dk_at dksX10_low_1 3 rfl rfl)
theorem dX10_low_27 : decode cX10_low 27 = .ok (.iload_n 2, 1) := dk_28 (dk_at dksX10_low_1 4 rfl rfl)
theorem dX10_low_28 : decode cX10_low 28 = .ok (.invokevirtual 50, 3) := dk_182 0 50 (dk_at dksX10_low_1 5 rfl rfl)
theorem dX10_low_31 : decode cX10_low 31 = .ok (.invokestatic 54, 3) := dk_184 0 54 (dk_at dksX10_low_1 8 rfl rfl)
theorem dX10_low_34 : decode cX10_low 34 = .ok (.imul, 1) := dk_104 (dk_at dksX10_low_1 11 rfl rfl)
theorem dX10_low_35 : decode cX10_low 35 = .ok (.ireturn, 1) := dk_172 (dk_at dksX10_low_1 12 rfl rfl)
def dkwX10_high_1 : List UInt8 := [16, 12, 42, 43, 28, 182, 0, 50, 184, 0, 61, 104, 172]
abbrev dktX10_high_1 : List UInt8 := dkwX10_high_1 ++ []
def dkwX10_high_0 : List UInt8 := [42, 180, 0, 9, 28, 51, 153, 0, 17, 43, 180, 0, 58, 42, 180, 0, 47, 28, 46, 46, 167, 0, 15]
abbrev dktX10_high_0 : List UInt8 := dkwX10_high_0 ++ dktX10_high_1
theorem dksX10_high_0 : cX10_high.data.toList.drop 0 = dktX10_high_0 := by decide +kernel
theorem dksX10_high_1 : cX10_high.data.toList.drop 23 = dktX10_high_1 := dk_seg dksX10_high_0 23 rfl rfl
theorem dX10_high_0 : decode cX10_high 0 = .ok (.aload_n 0, 1) := dk_42 (dk_at dksX10_high_0 0 rfl rfl)
theorem dX10_high_1 : decode cX10_high 1 = .ok (.getfield 9, 3) := dk_180 0 9 (dk_at dksX10_high_0 1 rfl rfl)
theorem dX10_high_4 : decode cX10_high 4 = .ok (.iload_n 2, 1) := dk_28 (dk_at dksX10_high_0 4 rfl rfl)
theorem dX10_high_5 : decode cX10_high 5 = .ok (.baload, 1) := dk_51 (dk_at dksX10_high_0 5 rfl rfl)
theorem dX10_high_6 : decode cX10_high 6 = .ok (.ifCond .eq 17, 3) := dk_153 0 17 (dk_at dksX10_high_0 6 rfl rfl)
theorem dX10_high_9 : decode cX10_high 9 = .ok (.aload_n 1, 1) := dk_43 (dk_at dksX10_high_0 9 rfl rfl)
theorem dX10_high_10 : decode cX10_high 10 = .ok (.getfield 58, 3) := dk_180 0 58 (dk_at dksX10_high_0 10 rfl rfl)
theorem dX10_high_13 : decode cX10_high 13 = .ok (.aload_n 0, 1) := dk_42 (dk_at dksX10_high_0 13 rfl rfl)
theorem dX10_high_14 : decode cX10_high 14 = .ok (.getfield 47, 3) := dk_180 0 47 (dk_at dksX10_high_0 14 rfl rfl)
theorem dX10_high_17 : decode cX10_high 17 = .ok (.iload_n 2, 1) := dk_28 (dk_at dksX10_high_0 17 rfl rfl)
theorem dX10_high_18 : decode cX10_high 18 = .ok (.iaload, 1) := dk_46 (dk_at dksX10_high_0 18 rfl rfl)
theorem dX10_high_19 : decode cX10_high 19 = .ok (.iaload, 1) := dk_46 (dk_at dksX10_high_0 19 rfl rfl)
theorem dX10_high_20 : decode cX10_high 20 = .ok (.goto 15, 3) := dk_167 0 15 (dk_at dksX10_high_0 20 rfl rfl)
theorem dX10_high_23 : decode cX10_high 23 = .ok (.bipush 12, 2) := dk_16 12 (dk_at dksX10_high_1 0 rfl rfl)
theorem dX10_high_25 : decode cX10_high 25 = .ok (.aload_n 0, 1) := dk_42 (dk_at dksX10_high_1 2 rfl rfl)
theorem dX10_high_26 : decode cX10_high 26 = .ok (.aload_n 1, 1) := dk_43 (dk_at dksX10_high_1 3 rfl rfl)
theorem dX10_high_27 : decode cX10_high 27 = .ok (.iload_n 2, 1) := dk_28 (dk_at dksX10_high_1 4 rfl rfl)
theorem dX10_high_28 : decode cX10_high 28 = .ok (.invokevirtual 50, 3) := dk_182 0 50 (dk_at dksX10_high_1 5 rfl rfl)
theorem dX10_high_31 : decode cX10_high 31 = .ok (.invokestatic 61, 3) := dk_184 0 61 (dk_at dksX10_high_1 8 rfl rfl)
theorem dX10_high_34 : decode cX10_high 34 = .ok (.imul, 1) := dk_104 (dk_at dksX10_high_1 11 rfl rfl)
theorem dX10_high_35 : decode cX10_high 35 = .ok (.ireturn, 1) := dk_172 (dk_at dksX10_high_1 12 rfl rfl)
def dkwX10_greatest_1 : List UInt8 := [42, 43, 28, 182, 0, 64, 104, 172]
abbrev dktX10_greatest_1 : List UInt8 := dkwX10_greatest_1 ++ []
def dkwX10_greatest_0 : List UInt8 := [42, 180, 0, 27, 28, 46, 42, 180, 0, 27, 28, 46, 155, 0, 12, 42, 43, 28, 182, 0, 67, 167, 0, 9]
abbrev dktX10_greatest_0 : List UInt8 := dkwX10_greatest_0 ++ dktX10_greatest_1
theorem dksX10_greatest_0 : cX10_greatest.data.toList.drop 0 = dktX10_greatest_0 := by decide +kernel
theorem dksX10_greatest_1 : cX10_greatest.data.toList.drop 24 = dktX10_greatest_1 := dk_seg dksX10_greatest_0 24 rfl rfl
theorem dX10_greatest_0 : decode cX10_greatest 0 = .ok (.aload_n 0, 1) := dk_42 (dk_at dksX10_greatest_0 0 rfl rfl)
theorem dX10_greatest_1 : decode cX10_greatest 1 = .ok (.getfield 27, 3) := dk_180 0 27 (dk_at dksX10_greatest_0 1 rfl rfl)
theorem dX10_greatest_4 : decode cX10_greatest 4 = .ok (.iload_n 2, 1) := dk_28 (dk_at dksX10_greatest_0 4 rfl rfl)
theorem dX10_greatest_5 : decode cX10_greatest 5 = .ok (.iaload, 1) := dk_46 (dk_at dksX10_greatest_0 5 rfl rfl)
theorem dX10_greatest_6 : decode cX10_greatest 6 = .ok (.aload_n 0, 1) := dk_42 (dk_at dksX10_greatest_0 6 rfl rfl)
theorem dX10_greatest_7 : decode cX10_greatest 7 = .ok (.getfield 27, 3) := dk_180 0 27 (dk_at dksX10_greatest_0 7 rfl rfl)
theorem dX10_greatest_10 : decode cX10_greatest 10 = .ok (.iload_n 2, 1) := dk_28 (dk_at dksX10_greatest_0 10 rfl rfl)
theorem dX10_greatest_11 : decode cX10_greatest 11 = .ok (.iaload, 1) := dk_46 (dk_at dksX10_greatest_0 11 rfl rfl)
theorem dX10_greatest_12 : decode cX10_greatest 12 = .ok (.ifCond .lt 12, 3) := dk_155 0 12 (dk_at dksX10_greatest_0 12 rfl rfl)
theorem dX10_greatest_15 : decode cX10_greatest 15 = .ok (.aload_n 0, 1) := dk_42 (dk_at dksX10_greatest_0 15 rfl rfl)
theorem dX10_greatest_16 : decode cX10_greatest 16 = .ok (.aload_n 1, 1) := dk_43 (dk_at dksX10_greatest_0 16 rfl rfl)
theorem dX10_greatest_17 : decode cX10_greatest 17 = .ok (.iload_n 2, 1) := dk_28 (dk_at dksX10_greatest_0 17 rfl rfl)
theorem dX10_greatest_18 : decode cX10_greatest 18 = .ok (.invokevirtual 67, 3) := dk_182 0 67 (dk_at dksX10_greatest_0 18 rfl rfl)
theorem dX10_greatest_21 : decode cX10_greatest 21 = .ok (.goto 9, 3) := dk_167 0 9 (dk_at dksX10_greatest_0 21 rfl rfl)
theorem dX10_greatest_24 : decode cX10_greatest 24 = .ok (.aload_n 0, 1) := dk_42 (dk_at dksX10_greatest_1 0 rfl rfl)
theorem dX10_greatest_25 : decode cX10_greatest 25 = .ok (.aload_n 1, 1) := dk_43 (dk_at dksX10_greatest_1 1 rfl rfl)
theorem dX10_greatest_26 : decode cX10_greatest 26 = .ok (.iload_n 2, 1) := dk_28 (dk_at dksX10_greatest_1 2 rfl rfl)
theorem dX10_greatest_27 : decode cX10_greatest 27 = .ok (.invokevirtual 64, 3) := dk_182 0 64 (dk_at dksX10_greatest_1 3 rfl rfl)
theorem dX10_greatest_30 : decode cX10_greatest 30 = .ok (.imul, 1) := dk_104 (dk_at dksX10_greatest_1 6 rfl rfl)
theorem dX10_greatest_31 : decode cX10_greatest 31 = .ok (.ireturn, 1) := dk_172 (dk_at dksX10_greatest_1 7 rfl rfl)
def dkwX10_keepAt_8 : List UInt8 := [4, 21, 5, 120, 167, 0, 4, 3, 128, 79, 132, 5, 1, 167, 255, 204, 177]
abbrev dktX10_keepAt_8 : List UInt8 := dkwX10_keepAt_8 ++ []
def dkwX10_keepAt_7 : List UInt8 := [92, 46, 42, 42, 180, 0, 27, 28, 46, 16, 12, 104, 21, 5, 104, 29, 21, 4, 182, 0, 80, 153, 0, 10]
abbrev dktX10_keepAt_7 : List UInt8 := dkwX10_keepAt_7 ++ dktX10_keepAt_8
def dkwX10_keepAt_6 : List UInt8 := [180, 0, 84, 28, 3, 79, 3, 54, 5, 21, 5, 178, 0, 87, 3, 46, 163, 0, 48, 42, 180, 0, 84, 28]
abbrev dktX10_keepAt_6 : List UInt8 := dkwX10_keepAt_6 ++ dktX10_keepAt_7
def dkwX10_keepAt_5 : List UInt8 := [21, 4, 182, 0, 80, 154, 0, 81, 42, 180, 0, 79, 28, 92, 46, 4, 100, 79, 167, 255, 208, 42]
abbrev dktX10_keepAt_5 : List UInt8 := dkwX10_keepAt_5 ++ dktX10_keepAt_6
def dkwX10_keepAt_4 : List UInt8 := [180, 0, 79, 28, 46, 163, 0, 104, 42, 42, 180, 0, 27, 28, 46, 42, 180, 0, 79, 28, 46, 104, 29]
abbrev dktX10_keepAt_4 : List UInt8 := dkwX10_keepAt_4 ++ dktX10_keepAt_5
def dkwX10_keepAt_3 : List UInt8 := [154, 0, 16, 42, 180, 0, 78, 28, 92, 46, 4, 96, 79, 167, 255, 208, 42, 180, 0, 78, 28, 46, 42]
abbrev dktX10_keepAt_3 : List UInt8 := dkwX10_keepAt_3 ++ dktX10_keepAt_4
def dkwX10_keepAt_2 : List UInt8 := [163, 0, 39, 42, 42, 180, 0, 27, 28, 46, 42, 180, 0, 78, 28, 46, 104, 29, 21, 4, 182, 0, 80]
abbrev dktX10_keepAt_2 : List UInt8 := dkwX10_keepAt_2 ++ dktX10_keepAt_3
def dkwX10_keepAt_1 : List UInt8 := [180, 0, 79, 28, 42, 43, 28, 182, 0, 67, 79, 42, 180, 0, 78, 28, 46, 42, 180, 0, 79, 28, 46]
abbrev dktX10_keepAt_1 : List UInt8 := dkwX10_keepAt_1 ++ dktX10_keepAt_2
def dkwX10_keepAt_0 : List UInt8 := [42, 180, 0, 9, 28, 51, 153, 0, 129, 42, 180, 0, 78, 28, 42, 43, 28, 182, 0, 64, 79, 42]
abbrev dktX10_keepAt_0 : List UInt8 := dkwX10_keepAt_0 ++ dktX10_keepAt_1
theorem dksX10_keepAt_0 : cX10_keepAt.data.toList.drop 0 = dktX10_keepAt_0 := by decide +kernel
theorem dksX10_keepAt_1 : cX10_keepAt.data.toList.drop 22 = dktX10_keepAt_1 := dk_seg dksX10_keepAt_0 22 rfl rfl
theorem dksX10_keepAt_2 : cX10_keepAt.data.toList.drop 45 = dktX10_keepAt_2 := dk_seg dksX10_keepAt_1 23 rfl rfl
theorem dksX10_keepAt_3 : cX10_keepAt.data.toList.drop 68 = dktX10_keepAt_3 := dk_seg dksX10_keepAt_2 23 rfl rfl
theorem dksX10_keepAt_4 : cX10_keepAt.data.toList.drop 91 = dktX10_keepAt_4 := dk_seg dksX10_keepAt_3 23 rfl rfl
theorem dksX10_keepAt_5 : cX10_keepAt.data.toList.drop 114 = dktX10_keepAt_5 := dk_seg dksX10_keepAt_4 23 rfl rfl
theorem dksX10_keepAt_6 : cX10_keepAt.data.toList.drop 136 = dktX10_keepAt_6 := dk_seg dksX10_keepAt_5 22 rfl rfl
theorem dksX10_keepAt_7 : cX10_keepAt.data.toList.drop 160 = dktX10_keepAt_7 := dk_seg dksX10_keepAt_6 24 rfl rfl
theorem dksX10_keepAt_8 : cX10_keepAt.data.toList.drop 184 = dktX10_keepAt_8 := dk_seg dksX10_keepAt_7 24 rfl rfl
theorem dX10_keepAt_0 : decode cX10_keepAt 0 = .ok (.aload_n 0, 1) := dk_42 (dk_at dksX10_keepAt_0 0 rfl rfl)
theorem dX10_keepAt_1 : decode cX10_keepAt 1 = .ok (.getfield 9, 3) := dk_180 0 9 (dk_at dksX10_keepAt_0 1 rfl rfl)
theorem dX10_keepAt_4 : decode cX10_keepAt 4 = .ok (.iload_n 2, 1) := dk_28 (dk_at dksX10_keepAt_0 4 rfl rfl)
theorem dX10_keepAt_5 : decode cX10_keepAt 5 = .ok (.baload, 1) := dk_51 (dk_at dksX10_keepAt_0 5 rfl rfl)
theorem dX10_keepAt_6 : decode cX10_keepAt 6 = .ok (.ifCond .eq 129, 3) := dk_153 0 129 (dk_at dksX10_keepAt_0 6 rfl rfl)
theorem dX10_keepAt_9 : decode cX10_keepAt 9 = .ok (.aload_n 0, 1) := dk_42 (dk_at dksX10_keepAt_0 9 rfl rfl)
theorem dX10_keepAt_10 : decode cX10_keepAt 10 = .ok (.getfield 78, 3) := dk_180 0 78 (dk_at dksX10_keepAt_0 10 rfl rfl)
theorem dX10_keepAt_13 : decode cX10_keepAt 13 = .ok (.iload_n 2, 1) := dk_28 (dk_at dksX10_keepAt_0 13 rfl rfl)
theorem dX10_keepAt_14 : decode cX10_keepAt 14 = .ok (.aload_n 0, 1) := dk_42 (dk_at dksX10_keepAt_0 14 rfl rfl)
theorem dX10_keepAt_15 : decode cX10_keepAt 15 = .ok (.aload_n 1, 1) := dk_43 (dk_at dksX10_keepAt_0 15 rfl rfl)
theorem dX10_keepAt_16 : decode cX10_keepAt 16 = .ok (.iload_n 2, 1) := dk_28 (dk_at dksX10_keepAt_0 16 rfl rfl)
theorem dX10_keepAt_17 : decode cX10_keepAt 17 = .ok (.invokevirtual 64, 3) := dk_182 0 64 (dk_at dksX10_keepAt_0 17 rfl rfl)
theorem dX10_keepAt_20 : decode cX10_keepAt 20 = .ok (.iastore, 1) := dk_79 (dk_at dksX10_keepAt_0 20 rfl rfl)
theorem dX10_keepAt_21 : decode cX10_keepAt 21 = .ok (.aload_n 0, 1) := dk_42 (dk_at dksX10_keepAt_0 21 rfl rfl)
theorem dX10_keepAt_22 : decode cX10_keepAt 22 = .ok (.getfield 79, 3) := dk_180 0 79 (dk_at dksX10_keepAt_1 0 rfl rfl)
theorem dX10_keepAt_25 : decode cX10_keepAt 25 = .ok (.iload_n 2, 1) := dk_28 (dk_at dksX10_keepAt_1 3 rfl rfl)
theorem dX10_keepAt_26 : decode cX10_keepAt 26 = .ok (.aload_n 0, 1) := dk_42 (dk_at dksX10_keepAt_1 4 rfl rfl)
theorem dX10_keepAt_27 : decode cX10_keepAt 27 = .ok (.aload_n 1, 1) := dk_43 (dk_at dksX10_keepAt_1 5 rfl rfl)
theorem dX10_keepAt_28 : decode cX10_keepAt 28 = .ok (.iload_n 2, 1) := dk_28 (dk_at dksX10_keepAt_1 6 rfl rfl)
theorem dX10_keepAt_29 : decode cX10_keepAt 29 = .ok (.invokevirtual 67, 3) := dk_182 0 67 (dk_at dksX10_keepAt_1 7 rfl rfl)
theorem dX10_keepAt_32 : decode cX10_keepAt 32 = .ok (.iastore, 1) := dk_79 (dk_at dksX10_keepAt_1 10 rfl rfl)
theorem dX10_keepAt_33 : decode cX10_keepAt 33 = .ok (.aload_n 0, 1) := dk_42 (dk_at dksX10_keepAt_1 11 rfl rfl)
theorem dX10_keepAt_34 : decode cX10_keepAt 34 = .ok (.getfield 78, 3) := dk_180 0 78 (dk_at dksX10_keepAt_1 12 rfl rfl)
theorem dX10_keepAt_37 : decode cX10_keepAt 37 = .ok (.iload_n 2, 1) := dk_28 (dk_at dksX10_keepAt_1 15 rfl rfl)
theorem dX10_keepAt_38 : decode cX10_keepAt 38 = .ok (.iaload, 1) := dk_46 (dk_at dksX10_keepAt_1 16 rfl rfl)
theorem dX10_keepAt_39 : decode cX10_keepAt 39 = .ok (.aload_n 0, 1) := dk_42 (dk_at dksX10_keepAt_1 17 rfl rfl)
theorem dX10_keepAt_40 : decode cX10_keepAt 40 = .ok (.getfield 79, 3) := dk_180 0 79 (dk_at dksX10_keepAt_1 18 rfl rfl)
theorem dX10_keepAt_43 : decode cX10_keepAt 43 = .ok (.iload_n 2, 1) := dk_28 (dk_at dksX10_keepAt_1 21 rfl rfl)
theorem dX10_keepAt_44 : decode cX10_keepAt 44 = .ok (.iaload, 1) := dk_46 (dk_at dksX10_keepAt_1 22 rfl rfl)
theorem dX10_keepAt_45 : decode cX10_keepAt 45 = .ok (.if_icmp .gt 39, 3) := dk_163 0 39 (dk_at dksX10_keepAt_2 0 rfl rfl)
theorem dX10_keepAt_48 : decode cX10_keepAt 48 = .ok (.aload_n 0, 1) := dk_42 (dk_at dksX10_keepAt_2 3 rfl rfl)
theorem dX10_keepAt_49 : decode cX10_keepAt 49 = .ok (.aload_n 0, 1) := dk_42 (dk_at dksX10_keepAt_2 4 rfl rfl)
theorem dX10_keepAt_50 : decode cX10_keepAt 50 = .ok (.getfield 27, 3) := dk_180 0 27 (dk_at dksX10_keepAt_2 5 rfl rfl)
theorem dX10_keepAt_53 : decode cX10_keepAt 53 = .ok (.iload_n 2, 1) := dk_28 (dk_at dksX10_keepAt_2 8 rfl rfl)
theorem dX10_keepAt_54 : decode cX10_keepAt 54 = .ok (.iaload, 1) := dk_46 (dk_at dksX10_keepAt_2 9 rfl rfl)
theorem dX10_keepAt_55 : decode cX10_keepAt 55 = .ok (.aload_n 0, 1) := dk_42 (dk_at dksX10_keepAt_2 10 rfl rfl)
theorem dX10_keepAt_56 : decode cX10_keepAt 56 = .ok (.getfield 78, 3) := dk_180 0 78 (dk_at dksX10_keepAt_2 11 rfl rfl)
theorem dX10_keepAt_59 : decode cX10_keepAt 59 = .ok (.iload_n 2, 1) := dk_28 (dk_at dksX10_keepAt_2 14 rfl rfl)
theorem dX10_keepAt_60 : decode cX10_keepAt 60 = .ok (.iaload, 1) := dk_46 (dk_at dksX10_keepAt_2 15 rfl rfl)
theorem dX10_keepAt_61 : decode cX10_keepAt 61 = .ok (.imul, 1) := dk_104 (dk_at dksX10_keepAt_2 16 rfl rfl)
theorem dX10_keepAt_62 : decode cX10_keepAt 62 = .ok (.iload_n 3, 1) := dk_29 (dk_at dksX10_keepAt_2 17 rfl rfl)
theorem dX10_keepAt_63 : decode cX10_keepAt 63 = .ok (.iload 4, 2) := dk_21 4 (dk_at dksX10_keepAt_2 18 rfl rfl)
theorem dX10_keepAt_65 : decode cX10_keepAt 65 = .ok (.invokevirtual 80, 3) := dk_182 0 80 (dk_at dksX10_keepAt_2 20 rfl rfl)
theorem dX10_keepAt_68 : decode cX10_keepAt 68 = .ok (.ifCond .ne 16, 3) := dk_154 0 16 (dk_at dksX10_keepAt_3 0 rfl rfl)
theorem dX10_keepAt_71 : decode cX10_keepAt 71 = .ok (.aload_n 0, 1) := dk_42 (dk_at dksX10_keepAt_3 3 rfl rfl)
theorem dX10_keepAt_72 : decode cX10_keepAt 72 = .ok (.getfield 78, 3) := dk_180 0 78 (dk_at dksX10_keepAt_3 4 rfl rfl)
theorem dX10_keepAt_75 : decode cX10_keepAt 75 = .ok (.iload_n 2, 1) := dk_28 (dk_at dksX10_keepAt_3 7 rfl rfl)
theorem dX10_keepAt_76 : decode cX10_keepAt 76 = .ok (.dup2, 1) := dk_92 (dk_at dksX10_keepAt_3 8 rfl rfl)
theorem dX10_keepAt_77 : decode cX10_keepAt 77 = .ok (.iaload, 1) := dk_46 (dk_at dksX10_keepAt_3 9 rfl rfl)
theorem dX10_keepAt_78 : decode cX10_keepAt 78 = .ok (.iconst 1, 1) := dk_4 (dk_at dksX10_keepAt_3 10 rfl rfl)
theorem dX10_keepAt_79 : decode cX10_keepAt 79 = .ok (.iadd, 1) := dk_96 (dk_at dksX10_keepAt_3 11 rfl rfl)
theorem dX10_keepAt_80 : decode cX10_keepAt 80 = .ok (.iastore, 1) := dk_79 (dk_at dksX10_keepAt_3 12 rfl rfl)
theorem dX10_keepAt_81 : decode cX10_keepAt 81 = .ok (.goto (-48), 3) := dk_167 255 208 (dk_at dksX10_keepAt_3 13 rfl rfl)
theorem dX10_keepAt_84 : decode cX10_keepAt 84 = .ok (.aload_n 0, 1) := dk_42 (dk_at dksX10_keepAt_3 16 rfl rfl)
theorem dX10_keepAt_85 : decode cX10_keepAt 85 = .ok (.getfield 78, 3) := dk_180 0 78 (dk_at dksX10_keepAt_3 17 rfl rfl)
theorem dX10_keepAt_88 : decode cX10_keepAt 88 = .ok (.iload_n 2, 1) := dk_28 (dk_at dksX10_keepAt_3 20 rfl rfl)
theorem dX10_keepAt_89 : decode cX10_keepAt 89 = .ok (.iaload, 1) := dk_46 (dk_at dksX10_keepAt_3 21 rfl rfl)
theorem dX10_keepAt_90 : decode cX10_keepAt 90 = .ok (.aload_n 0, 1) := dk_42 (dk_at dksX10_keepAt_3 22 rfl rfl)
theorem dX10_keepAt_91 : decode cX10_keepAt 91 = .ok (.getfield 79, 3) := dk_180 0 79 (dk_at dksX10_keepAt_4 0 rfl rfl)
theorem dX10_keepAt_94 : decode cX10_keepAt 94 = .ok (.iload_n 2, 1) := dk_28 (dk_at dksX10_keepAt_4 3 rfl rfl)
theorem dX10_keepAt_95 : decode cX10_keepAt 95 = .ok (.iaload, 1) := dk_46 (dk_at dksX10_keepAt_4 4 rfl rfl)
theorem dX10_keepAt_96 : decode cX10_keepAt 96 = .ok (.if_icmp .gt 104, 3) := dk_163 0 104 (dk_at dksX10_keepAt_4 5 rfl rfl)
theorem dX10_keepAt_99 : decode cX10_keepAt 99 = .ok (.aload_n 0, 1) := dk_42 (dk_at dksX10_keepAt_4 8 rfl rfl)
theorem dX10_keepAt_100 : decode cX10_keepAt 100 = .ok (.aload_n 0, 1) := dk_42 (dk_at dksX10_keepAt_4 9 rfl rfl)
theorem dX10_keepAt_101 : decode cX10_keepAt 101 = .ok (.getfield 27, 3) := dk_180 0 27 (dk_at dksX10_keepAt_4 10 rfl rfl)
theorem dX10_keepAt_104 : decode cX10_keepAt 104 = .ok (.iload_n 2, 1) := dk_28 (dk_at dksX10_keepAt_4 13 rfl rfl)
theorem dX10_keepAt_105 : decode cX10_keepAt 105 = .ok (.iaload, 1) := dk_46 (dk_at dksX10_keepAt_4 14 rfl rfl)
theorem dX10_keepAt_106 : decode cX10_keepAt 106 = .ok (.aload_n 0, 1) := dk_42 (dk_at dksX10_keepAt_4 15 rfl rfl)
theorem dX10_keepAt_107 : decode cX10_keepAt 107 = .ok (.getfield 79, 3) := dk_180 0 79 (dk_at dksX10_keepAt_4 16 rfl rfl)
theorem dX10_keepAt_110 : decode cX10_keepAt 110 = .ok (.iload_n 2, 1) := dk_28 (dk_at dksX10_keepAt_4 19 rfl rfl)
theorem dX10_keepAt_111 : decode cX10_keepAt 111 = .ok (.iaload, 1) := dk_46 (dk_at dksX10_keepAt_4 20 rfl rfl)
theorem dX10_keepAt_112 : decode cX10_keepAt 112 = .ok (.imul, 1) := dk_104 (dk_at dksX10_keepAt_4 21 rfl rfl)
theorem dX10_keepAt_113 : decode cX10_keepAt 113 = .ok (.iload_n 3, 1) := dk_29 (dk_at dksX10_keepAt_4 22 rfl rfl)
theorem dX10_keepAt_114 : decode cX10_keepAt 114 = .ok (.iload 4, 2) := dk_21 4 (dk_at dksX10_keepAt_5 0 rfl rfl)
theorem dX10_keepAt_116 : decode cX10_keepAt 116 = .ok (.invokevirtual 80, 3) := dk_182 0 80 (dk_at dksX10_keepAt_5 2 rfl rfl)
theorem dX10_keepAt_119 : decode cX10_keepAt 119 = .ok (.ifCond .ne 81, 3) := dk_154 0 81 (dk_at dksX10_keepAt_5 5 rfl rfl)
theorem dX10_keepAt_122 : decode cX10_keepAt 122 = .ok (.aload_n 0, 1) := dk_42 (dk_at dksX10_keepAt_5 8 rfl rfl)
theorem dX10_keepAt_123 : decode cX10_keepAt 123 = .ok (.getfield 79, 3) := dk_180 0 79 (dk_at dksX10_keepAt_5 9 rfl rfl)
theorem dX10_keepAt_126 : decode cX10_keepAt 126 = .ok (.iload_n 2, 1) := dk_28 (dk_at dksX10_keepAt_5 12 rfl rfl)
theorem dX10_keepAt_127 : decode cX10_keepAt 127 = .ok (.dup2, 1) := dk_92 (dk_at dksX10_keepAt_5 13 rfl rfl)
theorem dX10_keepAt_128 : decode cX10_keepAt 128 = .ok (.iaload, 1) := dk_46 (dk_at dksX10_keepAt_5 14 rfl rfl)
theorem dX10_keepAt_129 : decode cX10_keepAt 129 = .ok (.iconst 1, 1) := dk_4 (dk_at dksX10_keepAt_5 15 rfl rfl)
theorem dX10_keepAt_130 : decode cX10_keepAt 130 = .ok (.isub, 1) := dk_100 (dk_at dksX10_keepAt_5 16 rfl rfl)
theorem dX10_keepAt_131 : decode cX10_keepAt 131 = .ok (.iastore, 1) := dk_79 (dk_at dksX10_keepAt_5 17 rfl rfl)
theorem dX10_keepAt_132 : decode cX10_keepAt 132 = .ok (.goto (-48), 3) := dk_167 255 208 (dk_at dksX10_keepAt_5 18 rfl rfl)
theorem dX10_keepAt_135 : decode cX10_keepAt 135 = .ok (.aload_n 0, 1) := dk_42 (dk_at dksX10_keepAt_5 21 rfl rfl)
theorem dX10_keepAt_136 : decode cX10_keepAt 136 = .ok (.getfield 84, 3) := dk_180 0 84 (dk_at dksX10_keepAt_6 0 rfl rfl)
theorem dX10_keepAt_139 : decode cX10_keepAt 139 = .ok (.iload_n 2, 1) := dk_28 (dk_at dksX10_keepAt_6 3 rfl rfl)
theorem dX10_keepAt_140 : decode cX10_keepAt 140 = .ok (.iconst 0, 1) := dk_3 (dk_at dksX10_keepAt_6 4 rfl rfl)
theorem dX10_keepAt_141 : decode cX10_keepAt 141 = .ok (.iastore, 1) := dk_79 (dk_at dksX10_keepAt_6 5 rfl rfl)
theorem dX10_keepAt_142 : decode cX10_keepAt 142 = .ok (.iconst 0, 1) := dk_3 (dk_at dksX10_keepAt_6 6 rfl rfl)
theorem dX10_keepAt_143 : decode cX10_keepAt 143 = .ok (.istore 5, 2) := dk_54 5 (dk_at dksX10_keepAt_6 7 rfl rfl)
theorem dX10_keepAt_145 : decode cX10_keepAt 145 = .ok (.iload 5, 2) := dk_21 5 (dk_at dksX10_keepAt_6 9 rfl rfl)
theorem dX10_keepAt_147 : decode cX10_keepAt 147 = .ok (.getstatic 87, 3) := dk_178 0 87 (dk_at dksX10_keepAt_6 11 rfl rfl)
theorem dX10_keepAt_150 : decode cX10_keepAt 150 = .ok (.iconst 0, 1) := dk_3 (dk_at dksX10_keepAt_6 14 rfl rfl)
theorem dX10_keepAt_151 : decode cX10_keepAt 151 = .ok (.iaload, 1) := dk_46 (dk_at dksX10_keepAt_6 15 rfl rfl)
theorem dX10_keepAt_152 : decode cX10_keepAt 152 = .ok (.if_icmp .gt 48, 3) := dk_163 0 48 (dk_at dksX10_keepAt_6 16 rfl rfl)
theorem dX10_keepAt_155 : decode cX10_keepAt 155 = .ok (.aload_n 0, 1) := dk_42 (dk_at dksX10_keepAt_6 19 rfl rfl)
theorem dX10_keepAt_156 : decode cX10_keepAt 156 = .ok (.getfield 84, 3) := dk_180 0 84 (dk_at dksX10_keepAt_6 20 rfl rfl)
theorem dX10_keepAt_159 : decode cX10_keepAt 159 = .ok (.iload_n 2, 1) := dk_28 (dk_at dksX10_keepAt_6 23 rfl rfl)
theorem dX10_keepAt_160 : decode cX10_keepAt 160 = .ok (.dup2, 1) := dk_92 (dk_at dksX10_keepAt_7 0 rfl rfl)
theorem dX10_keepAt_161 : decode cX10_keepAt 161 = .ok (.iaload, 1) := dk_46 (dk_at dksX10_keepAt_7 1 rfl rfl)
theorem dX10_keepAt_162 : decode cX10_keepAt 162 = .ok (.aload_n 0, 1) := dk_42 (dk_at dksX10_keepAt_7 2 rfl rfl)
theorem dX10_keepAt_163 : decode cX10_keepAt 163 = .ok (.aload_n 0, 1) := dk_42 (dk_at dksX10_keepAt_7 3 rfl rfl)
theorem dX10_keepAt_164 : decode cX10_keepAt 164 = .ok (.getfield 27, 3) := dk_180 0 27 (dk_at dksX10_keepAt_7 4 rfl rfl)
theorem dX10_keepAt_167 : decode cX10_keepAt 167 = .ok (.iload_n 2, 1) := dk_28 (dk_at dksX10_keepAt_7 7 rfl rfl)
theorem dX10_keepAt_168 : decode cX10_keepAt 168 = .ok (.iaload, 1) := dk_46 (dk_at dksX10_keepAt_7 8 rfl rfl)
theorem dX10_keepAt_169 : decode cX10_keepAt 169 = .ok (.bipush 12, 2) := dk_16 12 (dk_at dksX10_keepAt_7 9 rfl rfl)
theorem dX10_keepAt_171 : decode cX10_keepAt 171 = .ok (.imul, 1) := dk_104 (dk_at dksX10_keepAt_7 11 rfl rfl)
theorem dX10_keepAt_172 : decode cX10_keepAt 172 = .ok (.iload 5, 2) := dk_21 5 (dk_at dksX10_keepAt_7 12 rfl rfl)
theorem dX10_keepAt_174 : decode cX10_keepAt 174 = .ok (.imul, 1) := dk_104 (dk_at dksX10_keepAt_7 14 rfl rfl)
theorem dX10_keepAt_175 : decode cX10_keepAt 175 = .ok (.iload_n 3, 1) := dk_29 (dk_at dksX10_keepAt_7 15 rfl rfl)
theorem dX10_keepAt_176 : decode cX10_keepAt 176 = .ok (.iload 4, 2) := dk_21 4 (dk_at dksX10_keepAt_7 16 rfl rfl)
theorem dX10_keepAt_178 : decode cX10_keepAt 178 = .ok (.invokevirtual 80, 3) := dk_182 0 80 (dk_at dksX10_keepAt_7 18 rfl rfl)
theorem dX10_keepAt_181 : decode cX10_keepAt 181 = .ok (.ifCond .eq 10, 3) := dk_153 0 10 (dk_at dksX10_keepAt_7 21 rfl rfl)
theorem dX10_keepAt_184 : decode cX10_keepAt 184 = .ok (.iconst 1, 1) := dk_4 (dk_at dksX10_keepAt_8 0 rfl rfl)
theorem dX10_keepAt_185 : decode cX10_keepAt 185 = .ok (.iload 5, 2) := dk_21 5 (dk_at dksX10_keepAt_8 1 rfl rfl)
theorem dX10_keepAt_187 : decode cX10_keepAt 187 = .ok (.ishl, 1) := dk_120 (dk_at dksX10_keepAt_8 3 rfl rfl)
theorem dX10_keepAt_188 : decode cX10_keepAt 188 = .ok (.goto 4, 3) := dk_167 0 4 (dk_at dksX10_keepAt_8 4 rfl rfl)
theorem dX10_keepAt_191 : decode cX10_keepAt 191 = .ok (.iconst 0, 1) := dk_3 (dk_at dksX10_keepAt_8 7 rfl rfl)
theorem dX10_keepAt_192 : decode cX10_keepAt 192 = .ok (.ior, 1) := dk_128 (dk_at dksX10_keepAt_8 8 rfl rfl)
theorem dX10_keepAt_193 : decode cX10_keepAt 193 = .ok (.iastore, 1) := dk_79 (dk_at dksX10_keepAt_8 9 rfl rfl)
theorem dX10_keepAt_194 : decode cX10_keepAt 194 = .ok (.iinc 5 1, 3) := dk_132 5 1 (dk_at dksX10_keepAt_8 10 rfl rfl)
theorem dX10_keepAt_197 : decode cX10_keepAt 197 = .ok (.goto (-52), 3) := dk_167 255 204 (dk_at dksX10_keepAt_8 13 rfl rfl)
theorem dX10_keepAt_200 : decode cX10_keepAt 200 = .ok (.return_, 1) := dk_177 (dk_at dksX10_keepAt_8 16 rfl rfl)
def dkwX10_agrees_1 : List UInt8 := [161, 0, 7, 4, 167, 0, 4, 3, 172]
abbrev dktX10_agrees_1 : List UInt8 := dkwX10_agrees_1 ++ []
def dkwX10_agrees_0 : List UInt8 := [27, 28, 96, 42, 180, 0, 19, 163, 0, 24, 42, 180, 0, 15, 153, 0, 13, 27, 29, 96, 42, 180, 0, 19]
abbrev dktX10_agrees_0 : List UInt8 := dkwX10_agrees_0 ++ dktX10_agrees_1
theorem dksX10_agrees_0 : cX10_agrees.data.toList.drop 0 = dktX10_agrees_0 := by decide +kernel
theorem dksX10_agrees_1 : cX10_agrees.data.toList.drop 24 = dktX10_agrees_1 := dk_seg dksX10_agrees_0 24 rfl rfl
theorem dX10_agrees_0 : decode cX10_agrees 0 = .ok (.iload_n 1, 1) := dk_27 (dk_at dksX10_agrees_0 0 rfl rfl)
theorem dX10_agrees_1 : decode cX10_agrees 1 = .ok (.iload_n 2, 1) := dk_28 (dk_at dksX10_agrees_0 1 rfl rfl)
theorem dX10_agrees_2 : decode cX10_agrees 2 = .ok (.iadd, 1) := dk_96 (dk_at dksX10_agrees_0 2 rfl rfl)
theorem dX10_agrees_3 : decode cX10_agrees 3 = .ok (.aload_n 0, 1) := dk_42 (dk_at dksX10_agrees_0 3 rfl rfl)
theorem dX10_agrees_4 : decode cX10_agrees 4 = .ok (.getfield 19, 3) := dk_180 0 19 (dk_at dksX10_agrees_0 4 rfl rfl)
theorem dX10_agrees_7 : decode cX10_agrees 7 = .ok (.if_icmp .gt 24, 3) := dk_163 0 24 (dk_at dksX10_agrees_0 7 rfl rfl)
theorem dX10_agrees_10 : decode cX10_agrees 10 = .ok (.aload_n 0, 1) := dk_42 (dk_at dksX10_agrees_0 10 rfl rfl)
theorem dX10_agrees_11 : decode cX10_agrees 11 = .ok (.getfield 15, 3) := dk_180 0 15 (dk_at dksX10_agrees_0 11 rfl rfl)
theorem dX10_agrees_14 : decode cX10_agrees 14 = .ok (.ifCond .eq 13, 3) := dk_153 0 13 (dk_at dksX10_agrees_0 14 rfl rfl)
theorem dX10_agrees_17 : decode cX10_agrees 17 = .ok (.iload_n 1, 1) := dk_27 (dk_at dksX10_agrees_0 17 rfl rfl)
theorem dX10_agrees_18 : decode cX10_agrees 18 = .ok (.iload_n 3, 1) := dk_29 (dk_at dksX10_agrees_0 18 rfl rfl)
theorem dX10_agrees_19 : decode cX10_agrees 19 = .ok (.iadd, 1) := dk_96 (dk_at dksX10_agrees_0 19 rfl rfl)
theorem dX10_agrees_20 : decode cX10_agrees 20 = .ok (.aload_n 0, 1) := dk_42 (dk_at dksX10_agrees_0 20 rfl rfl)
theorem dX10_agrees_21 : decode cX10_agrees 21 = .ok (.getfield 19, 3) := dk_180 0 19 (dk_at dksX10_agrees_0 21 rfl rfl)
theorem dX10_agrees_24 : decode cX10_agrees 24 = .ok (.if_icmp .lt 7, 3) := dk_161 0 7 (dk_at dksX10_agrees_1 0 rfl rfl)
theorem dX10_agrees_27 : decode cX10_agrees 27 = .ok (.iconst 1, 1) := dk_4 (dk_at dksX10_agrees_1 3 rfl rfl)
theorem dX10_agrees_28 : decode cX10_agrees 28 = .ok (.goto 4, 3) := dk_167 0 4 (dk_at dksX10_agrees_1 4 rfl rfl)
theorem dX10_agrees_31 : decode cX10_agrees 31 = .ok (.iconst 0, 1) := dk_3 (dk_at dksX10_agrees_1 7 rfl rfl)
theorem dX10_agrees_32 : decode cX10_agrees 32 = .ok (.ireturn, 1) := dk_172 (dk_at dksX10_agrees_1 8 rfl rfl)
def dkwX10_init_3 : List UInt8 := [167, 255, 222, 177]
abbrev dktX10_init_3 : List UInt8 := dkwX10_init_3 ++ []
def dkwX10_init_2 : List UInt8 := [180, 0, 27, 21, 6, 44, 21, 6, 185, 0, 31, 2, 0, 192, 0, 37, 182, 0, 39, 79, 132, 6, 1]
abbrev dktX10_init_2 : List UInt8 := dkwX10_init_2 ++ dktX10_init_3
def dkwX10_init_1 : List UInt8 := [182, 0, 23, 188, 10, 181, 0, 27, 3, 54, 6, 21, 6, 42, 180, 0, 27, 190, 162, 0, 30, 42]
abbrev dktX10_init_1 : List UInt8 := dkwX10_init_1 ++ dktX10_init_2
def dkwX10_init_0 : List UInt8 := [42, 43, 183, 0, 3, 42, 45, 181, 0, 9, 42, 21, 4, 181, 0, 15, 42, 21, 5, 181, 0, 19, 42, 42]
abbrev dktX10_init_0 : List UInt8 := dkwX10_init_0 ++ dktX10_init_1
theorem dksX10_init_0 : cX10_init.data.toList.drop 0 = dktX10_init_0 := by decide +kernel
theorem dksX10_init_1 : cX10_init.data.toList.drop 24 = dktX10_init_1 := dk_seg dksX10_init_0 24 rfl rfl
theorem dksX10_init_2 : cX10_init.data.toList.drop 46 = dktX10_init_2 := dk_seg dksX10_init_1 22 rfl rfl
theorem dksX10_init_3 : cX10_init.data.toList.drop 69 = dktX10_init_3 := dk_seg dksX10_init_2 23 rfl rfl
theorem dX10_init_0 : decode cX10_init 0 = .ok (.aload_n 0, 1) := dk_42 (dk_at dksX10_init_0 0 rfl rfl)
theorem dX10_init_1 : decode cX10_init 1 = .ok (.aload_n 1, 1) := dk_43 (dk_at dksX10_init_0 1 rfl rfl)
theorem dX10_init_2 : decode cX10_init 2 = .ok (.invokespecial 3, 3) := dk_183 0 3 (dk_at dksX10_init_0 2 rfl rfl)
theorem dX10_init_5 : decode cX10_init 5 = .ok (.aload_n 0, 1) := dk_42 (dk_at dksX10_init_0 5 rfl rfl)
theorem dX10_init_6 : decode cX10_init 6 = .ok (.aload_n 3, 1) := dk_45 (dk_at dksX10_init_0 6 rfl rfl)
theorem dX10_init_7 : decode cX10_init 7 = .ok (.putfield 9, 3) := dk_181 0 9 (dk_at dksX10_init_0 7 rfl rfl)
theorem dX10_init_10 : decode cX10_init 10 = .ok (.aload_n 0, 1) := dk_42 (dk_at dksX10_init_0 10 rfl rfl)
theorem dX10_init_11 : decode cX10_init 11 = .ok (.iload 4, 2) := dk_21 4 (dk_at dksX10_init_0 11 rfl rfl)
theorem dX10_init_13 : decode cX10_init 13 = .ok (.putfield 15, 3) := dk_181 0 15 (dk_at dksX10_init_0 13 rfl rfl)
theorem dX10_init_16 : decode cX10_init 16 = .ok (.aload_n 0, 1) := dk_42 (dk_at dksX10_init_0 16 rfl rfl)
theorem dX10_init_17 : decode cX10_init 17 = .ok (.iload 5, 2) := dk_21 5 (dk_at dksX10_init_0 17 rfl rfl)
theorem dX10_init_19 : decode cX10_init 19 = .ok (.putfield 19, 3) := dk_181 0 19 (dk_at dksX10_init_0 19 rfl rfl)
theorem dX10_init_22 : decode cX10_init 22 = .ok (.aload_n 0, 1) := dk_42 (dk_at dksX10_init_0 22 rfl rfl)
theorem dX10_init_23 : decode cX10_init 23 = .ok (.aload_n 0, 1) := dk_42 (dk_at dksX10_init_0 23 rfl rfl)
theorem dX10_init_24 : decode cX10_init 24 = .ok (.invokevirtual 23, 3) := dk_182 0 23 (dk_at dksX10_init_1 0 rfl rfl)
theorem dX10_init_27 : decode cX10_init 27 = .ok (.newarray .int, 2) := dk_188_10 (dk_at dksX10_init_1 3 rfl rfl)
theorem dX10_init_29 : decode cX10_init 29 = .ok (.putfield 27, 3) := dk_181 0 27 (dk_at dksX10_init_1 5 rfl rfl)
theorem dX10_init_32 : decode cX10_init 32 = .ok (.iconst 0, 1) := dk_3 (dk_at dksX10_init_1 8 rfl rfl)
theorem dX10_init_33 : decode cX10_init 33 = .ok (.istore 6, 2) := dk_54 6 (dk_at dksX10_init_1 9 rfl rfl)
theorem dX10_init_35 : decode cX10_init 35 = .ok (.iload 6, 2) := dk_21 6 (dk_at dksX10_init_1 11 rfl rfl)
theorem dX10_init_37 : decode cX10_init 37 = .ok (.aload_n 0, 1) := dk_42 (dk_at dksX10_init_1 13 rfl rfl)
theorem dX10_init_38 : decode cX10_init 38 = .ok (.getfield 27, 3) := dk_180 0 27 (dk_at dksX10_init_1 14 rfl rfl)
theorem dX10_init_41 : decode cX10_init 41 = .ok (.arraylength, 1) := dk_190 (dk_at dksX10_init_1 17 rfl rfl)
theorem dX10_init_42 : decode cX10_init 42 = .ok (.if_icmp .ge 30, 3) := dk_162 0 30 (dk_at dksX10_init_1 18 rfl rfl)
theorem dX10_init_45 : decode cX10_init 45 = .ok (.aload_n 0, 1) := dk_42 (dk_at dksX10_init_1 21 rfl rfl)
theorem dX10_init_46 : decode cX10_init 46 = .ok (.getfield 27, 3) := dk_180 0 27 (dk_at dksX10_init_2 0 rfl rfl)
theorem dX10_init_49 : decode cX10_init 49 = .ok (.iload 6, 2) := dk_21 6 (dk_at dksX10_init_2 3 rfl rfl)
theorem dX10_init_51 : decode cX10_init 51 = .ok (.aload_n 2, 1) := dk_44 (dk_at dksX10_init_2 5 rfl rfl)
theorem dX10_init_52 : decode cX10_init 52 = .ok (.iload 6, 2) := dk_21 6 (dk_at dksX10_init_2 6 rfl rfl)
theorem dX10_init_54 : decode cX10_init 54 = .ok (.invokeinterface 31 2, 5) := by decide +kernel
theorem dX10_init_59 : decode cX10_init 59 = .ok (.checkcast 37, 3) := dk_192 0 37 (dk_at dksX10_init_2 13 rfl rfl)
theorem dX10_init_62 : decode cX10_init 62 = .ok (.invokevirtual 39, 3) := dk_182 0 39 (dk_at dksX10_init_2 16 rfl rfl)
theorem dX10_init_65 : decode cX10_init 65 = .ok (.iastore, 1) := dk_79 (dk_at dksX10_init_2 19 rfl rfl)
theorem dX10_init_66 : decode cX10_init 66 = .ok (.iinc 6 1, 3) := dk_132 6 1 (dk_at dksX10_init_2 20 rfl rfl)
theorem dX10_init_69 : decode cX10_init 69 = .ok (.goto (-34), 3) := dk_167 255 222 (dk_at dksX10_init_3 0 rfl rfl)
theorem dX10_init_72 : decode cX10_init 72 = .ok (.return_, 1) := dk_177 (dk_at dksX10_init_3 3 rfl rfl)
def dkwX11_keep_3 : List UInt8 := [120, 167, 0, 4, 3, 128, 79, 132, 3, 1, 167, 255, 193, 132, 2, 1, 167, 255, 170, 177]
abbrev dktX11_keep_3 : List UInt8 := dkwX11_keep_3 ++ []
def dkwX11_keep_2 : List UInt8 := [153, 0, 7, 4, 167, 0, 4, 3, 54, 4, 42, 180, 0, 38, 28, 92, 46, 21, 4, 153, 0, 9, 4, 29]
abbrev dktX11_keep_2 : List UInt8 := dkwX11_keep_2 ++ dktX11_keep_3
def dkwX11_keep_1 : List UInt8 := [46, 163, 0, 60, 42, 43, 28, 182, 0, 15, 29, 184, 0, 26, 153, 0, 17, 42, 43, 28, 29, 182, 0, 41]
abbrev dktX11_keep_1 : List UInt8 := dkwX11_keep_1 ++ dktX11_keep_2
def dkwX11_keep_0 : List UInt8 := [3, 61, 28, 42, 182, 0, 34, 162, 0, 84, 42, 180, 0, 38, 28, 3, 79, 3, 62, 29, 178, 0, 19, 3]
abbrev dktX11_keep_0 : List UInt8 := dkwX11_keep_0 ++ dktX11_keep_1
theorem dksX11_keep_0 : cX11_keep.data.toList.drop 0 = dktX11_keep_0 := by decide +kernel
theorem dksX11_keep_1 : cX11_keep.data.toList.drop 24 = dktX11_keep_1 := dk_seg dksX11_keep_0 24 rfl rfl
theorem dksX11_keep_2 : cX11_keep.data.toList.drop 48 = dktX11_keep_2 := dk_seg dksX11_keep_1 24 rfl rfl
theorem dksX11_keep_3 : cX11_keep.data.toList.drop 72 = dktX11_keep_3 := dk_seg dksX11_keep_2 24 rfl rfl
theorem dX11_keep_0 : decode cX11_keep 0 = .ok (.iconst 0, 1) := dk_3 (dk_at dksX11_keep_0 0 rfl rfl)
theorem dX11_keep_1 : decode cX11_keep 1 = .ok (.istore_n 2, 1) := dk_61 (dk_at dksX11_keep_0 1 rfl rfl)
theorem dX11_keep_2 : decode cX11_keep 2 = .ok (.iload_n 2, 1) := dk_28 (dk_at dksX11_keep_0 2 rfl rfl)
theorem dX11_keep_3 : decode cX11_keep 3 = .ok (.aload_n 0, 1) := dk_42 (dk_at dksX11_keep_0 3 rfl rfl)
theorem dX11_keep_4 : decode cX11_keep 4 = .ok (.invokevirtual 34, 3) := dk_182 0 34 (dk_at dksX11_keep_0 4 rfl rfl)
theorem dX11_keep_7 : decode cX11_keep 7 = .ok (.if_icmp .ge 84, 3) := dk_162 0 84 (dk_at dksX11_keep_0 7 rfl rfl)
theorem dX11_keep_10 : decode cX11_keep 10 = .ok (.aload_n 0, 1) := dk_42 (dk_at dksX11_keep_0 10 rfl rfl)
theorem dX11_keep_11 : decode cX11_keep 11 = .ok (.getfield 38, 3) := dk_180 0 38 (dk_at dksX11_keep_0 11 rfl rfl)
theorem dX11_keep_14 : decode cX11_keep 14 = .ok (.iload_n 2, 1) := dk_28 (dk_at dksX11_keep_0 14 rfl rfl)
theorem dX11_keep_15 : decode cX11_keep 15 = .ok (.iconst 0, 1) := dk_3 (dk_at dksX11_keep_0 15 rfl rfl)
theorem dX11_keep_16 : decode cX11_keep 16 = .ok (.iastore, 1) := dk_79 (dk_at dksX11_keep_0 16 rfl rfl)
theorem dX11_keep_17 : decode cX11_keep 17 = .ok (.iconst 0, 1) := dk_3 (dk_at dksX11_keep_0 17 rfl rfl)
theorem dX11_keep_18 : decode cX11_keep 18 = .ok (.istore_n 3, 1) := dk_62 (dk_at dksX11_keep_0 18 rfl rfl)
theorem dX11_keep_19 : decode cX11_keep 19 = .ok (.iload_n 3, 1) := dk_29 (dk_at dksX11_keep_0 19 rfl rfl)
theorem dX11_keep_20 : decode cX11_keep 20 = .ok (.getstatic 19, 3) := dk_178 0 19 (dk_at dksX11_keep_0 20 rfl rfl)
theorem dX11_keep_23 : decode cX11_keep 23 = .ok (.iconst 0, 1) := dk_3 (dk_at dksX11_keep_0 23 rfl rfl)
theorem dX11_keep_24 : decode cX11_keep 24 = .ok (.iaload, 1) := dk_46 (dk_at dksX11_keep_1 0 rfl rfl)
theorem dX11_keep_25 : decode cX11_keep 25 = .ok (.if_icmp .gt 60, 3) := dk_163 0 60 (dk_at dksX11_keep_1 1 rfl rfl)
theorem dX11_keep_28 : decode cX11_keep 28 = .ok (.aload_n 0, 1) := dk_42 (dk_at dksX11_keep_1 4 rfl rfl)
theorem dX11_keep_29 : decode cX11_keep 29 = .ok (.aload_n 1, 1) := dk_43 (dk_at dksX11_keep_1 5 rfl rfl)
theorem dX11_keep_30 : decode cX11_keep 30 = .ok (.iload_n 2, 1) := dk_28 (dk_at dksX11_keep_1 6 rfl rfl)
theorem dX11_keep_31 : decode cX11_keep 31 = .ok (.invokevirtual 15, 3) := dk_182 0 15 (dk_at dksX11_keep_1 7 rfl rfl)
theorem dX11_keep_34 : decode cX11_keep 34 = .ok (.iload_n 3, 1) := dk_29 (dk_at dksX11_keep_1 10 rfl rfl)
theorem dX11_keep_35 : decode cX11_keep 35 = .ok (.invokestatic 26, 3) := dk_184 0 26 (dk_at dksX11_keep_1 11 rfl rfl)
theorem dX11_keep_38 : decode cX11_keep 38 = .ok (.ifCond .eq 17, 3) := dk_153 0 17 (dk_at dksX11_keep_1 14 rfl rfl)
theorem dX11_keep_41 : decode cX11_keep 41 = .ok (.aload_n 0, 1) := dk_42 (dk_at dksX11_keep_1 17 rfl rfl)
theorem dX11_keep_42 : decode cX11_keep 42 = .ok (.aload_n 1, 1) := dk_43 (dk_at dksX11_keep_1 18 rfl rfl)
theorem dX11_keep_43 : decode cX11_keep 43 = .ok (.iload_n 2, 1) := dk_28 (dk_at dksX11_keep_1 19 rfl rfl)
theorem dX11_keep_44 : decode cX11_keep 44 = .ok (.iload_n 3, 1) := dk_29 (dk_at dksX11_keep_1 20 rfl rfl)
theorem dX11_keep_45 : decode cX11_keep 45 = .ok (.invokevirtual 41, 3) := dk_182 0 41 (dk_at dksX11_keep_1 21 rfl rfl)
theorem dX11_keep_48 : decode cX11_keep 48 = .ok (.ifCond .eq 7, 3) := dk_153 0 7 (dk_at dksX11_keep_2 0 rfl rfl)
theorem dX11_keep_51 : decode cX11_keep 51 = .ok (.iconst 1, 1) := dk_4 (dk_at dksX11_keep_2 3 rfl rfl)
theorem dX11_keep_52 : decode cX11_keep 52 = .ok (.goto 4, 3) := dk_167 0 4 (dk_at dksX11_keep_2 4 rfl rfl)
theorem dX11_keep_55 : decode cX11_keep 55 = .ok (.iconst 0, 1) := dk_3 (dk_at dksX11_keep_2 7 rfl rfl)
theorem dX11_keep_56 : decode cX11_keep 56 = .ok (.istore 4, 2) := dk_54 4 (dk_at dksX11_keep_2 8 rfl rfl)
theorem dX11_keep_58 : decode cX11_keep 58 = .ok (.aload_n 0, 1) := dk_42 (dk_at dksX11_keep_2 10 rfl rfl)
theorem dX11_keep_59 : decode cX11_keep 59 = .ok (.getfield 38, 3) := dk_180 0 38 (dk_at dksX11_keep_2 11 rfl rfl)
theorem dX11_keep_62 : decode cX11_keep 62 = .ok (.iload_n 2, 1) := dk_28 (dk_at dksX11_keep_2 14 rfl rfl)
theorem dX11_keep_63 : decode cX11_keep 63 = .ok (.dup2, 1) := dk_92 (dk_at dksX11_keep_2 15 rfl rfl)
theorem dX11_keep_64 : decode cX11_keep 64 = .ok (.iaload, 1) := dk_46 (dk_at dksX11_keep_2 16 rfl rfl)
theorem dX11_keep_65 : decode cX11_keep 65 = .ok (.iload 4, 2) := dk_21 4 (dk_at dksX11_keep_2 17 rfl rfl)
theorem dX11_keep_67 : decode cX11_keep 67 = .ok (.ifCond .eq 9, 3) := dk_153 0 9 (dk_at dksX11_keep_2 19 rfl rfl)
theorem dX11_keep_70 : decode cX11_keep 70 = .ok (.iconst 1, 1) := dk_4 (dk_at dksX11_keep_2 22 rfl rfl)
theorem dX11_keep_71 : decode cX11_keep 71 = .ok (.iload_n 3, 1) := dk_29 (dk_at dksX11_keep_2 23 rfl rfl)
theorem dX11_keep_72 : decode cX11_keep 72 = .ok (.ishl, 1) := dk_120 (dk_at dksX11_keep_3 0 rfl rfl)
theorem dX11_keep_73 : decode cX11_keep 73 = .ok (.goto 4, 3) := dk_167 0 4 (dk_at dksX11_keep_3 1 rfl rfl)
theorem dX11_keep_76 : decode cX11_keep 76 = .ok (.iconst 0, 1) := dk_3 (dk_at dksX11_keep_3 4 rfl rfl)
theorem dX11_keep_77 : decode cX11_keep 77 = .ok (.ior, 1) := dk_128 (dk_at dksX11_keep_3 5 rfl rfl)
theorem dX11_keep_78 : decode cX11_keep 78 = .ok (.iastore, 1) := dk_79 (dk_at dksX11_keep_3 6 rfl rfl)
theorem dX11_keep_79 : decode cX11_keep 79 = .ok (.iinc 3 1, 3) := dk_132 3 1 (dk_at dksX11_keep_3 7 rfl rfl)
theorem dX11_keep_82 : decode cX11_keep 82 = .ok (.goto (-63), 3) := dk_167 255 193 (dk_at dksX11_keep_3 10 rfl rfl)
theorem dX11_keep_85 : decode cX11_keep 85 = .ok (.iinc 2 1, 3) := dk_132 2 1 (dk_at dksX11_keep_3 13 rfl rfl)
theorem dX11_keep_88 : decode cX11_keep 88 = .ok (.goto (-86), 3) := dk_167 255 170 (dk_at dksX11_keep_3 16 rfl rfl)
theorem dX11_keep_91 : decode cX11_keep 91 = .ok (.return_, 1) := dk_177 (dk_at dksX11_keep_3 19 rfl rfl)
def dkwX11_agrees_3 : List UInt8 := [167, 0, 4, 3, 54, 4, 132, 5, 1, 167, 255, 208, 21, 4, 172]
abbrev dktX11_agrees_3 : List UInt8 := dkwX11_agrees_3 ++ []
def dkwX11_agrees_2 : List UInt8 := [181, 0, 22, 21, 5, 28, 159, 0, 16, 42, 43, 21, 5, 4, 29, 120, 182, 0, 30, 153, 0, 7, 4]
abbrev dktX11_agrees_2 : List UInt8 := dkwX11_agrees_2 ++ dktX11_agrees_3
def dkwX11_agrees_1 : List UInt8 := [4, 54, 4, 3, 54, 5, 21, 5, 42, 182, 0, 34, 162, 0, 45, 21, 4, 153, 0, 40, 42, 3]
abbrev dktX11_agrees_1 : List UInt8 := dkwX11_agrees_1 ++ dktX11_agrees_2
def dkwX11_agrees_0 : List UInt8 := [3, 54, 4, 21, 4, 16, 32, 162, 0, 17, 42, 180, 0, 9, 21, 4, 2, 79, 132, 4, 1, 167, 255, 238]
abbrev dktX11_agrees_0 : List UInt8 := dkwX11_agrees_0 ++ dktX11_agrees_1
theorem dksX11_agrees_0 : cX11_agrees.data.toList.drop 0 = dktX11_agrees_0 := by decide +kernel
theorem dksX11_agrees_1 : cX11_agrees.data.toList.drop 24 = dktX11_agrees_1 := dk_seg dksX11_agrees_0 24 rfl rfl
theorem dksX11_agrees_2 : cX11_agrees.data.toList.drop 46 = dktX11_agrees_2 := dk_seg dksX11_agrees_1 22 rfl rfl
theorem dksX11_agrees_3 : cX11_agrees.data.toList.drop 69 = dktX11_agrees_3 := dk_seg dksX11_agrees_2 23 rfl rfl
theorem dX11_agrees_0 : decode cX11_agrees 0 = .ok (.iconst 0, 1) := dk_3 (dk_at dksX11_agrees_0 0 rfl rfl)
theorem dX11_agrees_1 : decode cX11_agrees 1 = .ok (.istore 4, 2) := dk_54 4 (dk_at dksX11_agrees_0 1 rfl rfl)
theorem dX11_agrees_3 : decode cX11_agrees 3 = .ok (.iload 4, 2) := dk_21 4 (dk_at dksX11_agrees_0 3 rfl rfl)
theorem dX11_agrees_5 : decode cX11_agrees 5 = .ok (.bipush 32, 2) := dk_16 32 (dk_at dksX11_agrees_0 5 rfl rfl)
theorem dX11_agrees_7 : decode cX11_agrees 7 = .ok (.if_icmp .ge 17, 3) := dk_162 0 17 (dk_at dksX11_agrees_0 7 rfl rfl)
theorem dX11_agrees_10 : decode cX11_agrees 10 = .ok (.aload_n 0, 1) := dk_42 (dk_at dksX11_agrees_0 10 rfl rfl)
theorem dX11_agrees_11 : decode cX11_agrees 11 = .ok (.getfield 9, 3) := dk_180 0 9 (dk_at dksX11_agrees_0 11 rfl rfl)
theorem dX11_agrees_14 : decode cX11_agrees 14 = .ok (.iload 4, 2) := dk_21 4 (dk_at dksX11_agrees_0 14 rfl rfl)
theorem dX11_agrees_16 : decode cX11_agrees 16 = .ok (.iconst (-1), 1) := dk_2 (dk_at dksX11_agrees_0 16 rfl rfl)
theorem dX11_agrees_17 : decode cX11_agrees 17 = .ok (.iastore, 1) := dk_79 (dk_at dksX11_agrees_0 17 rfl rfl)
theorem dX11_agrees_18 : decode cX11_agrees 18 = .ok (.iinc 4 1, 3) := dk_132 4 1 (dk_at dksX11_agrees_0 18 rfl rfl)
theorem dX11_agrees_21 : decode cX11_agrees 21 = .ok (.goto (-18), 3) := dk_167 255 238 (dk_at dksX11_agrees_0 21 rfl rfl)
theorem dX11_agrees_24 : decode cX11_agrees 24 = .ok (.iconst 1, 1) := dk_4 (dk_at dksX11_agrees_1 0 rfl rfl)
theorem dX11_agrees_25 : decode cX11_agrees 25 = .ok (.istore 4, 2) := dk_54 4 (dk_at dksX11_agrees_1 1 rfl rfl)
theorem dX11_agrees_27 : decode cX11_agrees 27 = .ok (.iconst 0, 1) := dk_3 (dk_at dksX11_agrees_1 3 rfl rfl)
theorem dX11_agrees_28 : decode cX11_agrees 28 = .ok (.istore 5, 2) := dk_54 5 (dk_at dksX11_agrees_1 4 rfl rfl)
theorem dX11_agrees_30 : decode cX11_agrees 30 = .ok (.iload 5, 2) := dk_21 5 (dk_at dksX11_agrees_1 6 rfl rfl)
theorem dX11_agrees_32 : decode cX11_agrees 32 = .ok (.aload_n 0, 1) := dk_42 (dk_at dksX11_agrees_1 8 rfl rfl)
theorem dX11_agrees_33 : decode cX11_agrees 33 = .ok (.invokevirtual 34, 3) := dk_182 0 34 (dk_at dksX11_agrees_1 9 rfl rfl)
theorem dX11_agrees_36 : decode cX11_agrees 36 = .ok (.if_icmp .ge 45, 3) := dk_162 0 45 (dk_at dksX11_agrees_1 12 rfl rfl)
theorem dX11_agrees_39 : decode cX11_agrees 39 = .ok (.iload 4, 2) := dk_21 4 (dk_at dksX11_agrees_1 15 rfl rfl)
theorem dX11_agrees_41 : decode cX11_agrees 41 = .ok (.ifCond .eq 40, 3) := dk_153 0 40 (dk_at dksX11_agrees_1 17 rfl rfl)
theorem dX11_agrees_44 : decode cX11_agrees 44 = .ok (.aload_n 0, 1) := dk_42 (dk_at dksX11_agrees_1 20 rfl rfl)
theorem dX11_agrees_45 : decode cX11_agrees 45 = .ok (.iconst 0, 1) := dk_3 (dk_at dksX11_agrees_1 21 rfl rfl)
theorem dX11_agrees_46 : decode cX11_agrees 46 = .ok (.putfield 22, 3) := dk_181 0 22 (dk_at dksX11_agrees_2 0 rfl rfl)
theorem dX11_agrees_49 : decode cX11_agrees 49 = .ok (.iload 5, 2) := dk_21 5 (dk_at dksX11_agrees_2 3 rfl rfl)
theorem dX11_agrees_51 : decode cX11_agrees 51 = .ok (.iload_n 2, 1) := dk_28 (dk_at dksX11_agrees_2 5 rfl rfl)
theorem dX11_agrees_52 : decode cX11_agrees 52 = .ok (.if_icmp .eq 16, 3) := dk_159 0 16 (dk_at dksX11_agrees_2 6 rfl rfl)
theorem dX11_agrees_55 : decode cX11_agrees 55 = .ok (.aload_n 0, 1) := dk_42 (dk_at dksX11_agrees_2 9 rfl rfl)
theorem dX11_agrees_56 : decode cX11_agrees 56 = .ok (.aload_n 1, 1) := dk_43 (dk_at dksX11_agrees_2 10 rfl rfl)
theorem dX11_agrees_57 : decode cX11_agrees 57 = .ok (.iload 5, 2) := dk_21 5 (dk_at dksX11_agrees_2 11 rfl rfl)
theorem dX11_agrees_59 : decode cX11_agrees 59 = .ok (.iconst 1, 1) := dk_4 (dk_at dksX11_agrees_2 13 rfl rfl)
theorem dX11_agrees_60 : decode cX11_agrees 60 = .ok (.iload_n 3, 1) := dk_29 (dk_at dksX11_agrees_2 14 rfl rfl)
theorem dX11_agrees_61 : decode cX11_agrees 61 = .ok (.ishl, 1) := dk_120 (dk_at dksX11_agrees_2 15 rfl rfl)
theorem dX11_agrees_62 : decode cX11_agrees 62 = .ok (.invokevirtual 30, 3) := dk_182 0 30 (dk_at dksX11_agrees_2 16 rfl rfl)
theorem dX11_agrees_65 : decode cX11_agrees 65 = .ok (.ifCond .eq 7, 3) := dk_153 0 7 (dk_at dksX11_agrees_2 19 rfl rfl)
theorem dX11_agrees_68 : decode cX11_agrees 68 = .ok (.iconst 1, 1) := dk_4 (dk_at dksX11_agrees_2 22 rfl rfl)
theorem dX11_agrees_69 : decode cX11_agrees 69 = .ok (.goto 4, 3) := dk_167 0 4 (dk_at dksX11_agrees_3 0 rfl rfl)
theorem dX11_agrees_72 : decode cX11_agrees 72 = .ok (.iconst 0, 1) := dk_3 (dk_at dksX11_agrees_3 3 rfl rfl)
theorem dX11_agrees_73 : decode cX11_agrees 73 = .ok (.istore 4, 2) := dk_54 4 (dk_at dksX11_agrees_3 4 rfl rfl)
theorem dX11_agrees_75 : decode cX11_agrees 75 = .ok (.iinc 5 1, 3) := dk_132 5 1 (dk_at dksX11_agrees_3 6 rfl rfl)
theorem dX11_agrees_78 : decode cX11_agrees 78 = .ok (.goto (-48), 3) := dk_167 255 208 (dk_at dksX11_agrees_3 9 rfl rfl)
theorem dX11_agrees_81 : decode cX11_agrees 81 = .ok (.iload 4, 2) := dk_21 4 (dk_at dksX11_agrees_3 12 rfl rfl)
theorem dX11_agrees_83 : decode cX11_agrees 83 = .ok (.ireturn, 1) := dk_172 (dk_at dksX11_agrees_3 14 rfl rfl)
def dkwX11_findFor_4 : List UInt8 := [132, 5, 1, 167, 255, 176, 3, 172]
abbrev dktX11_findFor_4 : List UInt8 := dkwX11_findFor_4 ++ []
def dkwX11_findFor_3 : List UInt8 := [42, 180, 0, 9, 21, 5, 46, 29, 182, 0, 30, 153, 0, 13, 42, 180, 0, 9, 21, 5, 28, 79, 4, 172]
abbrev dktX11_findFor_3 : List UInt8 := dkwX11_findFor_3 ++ dktX11_findFor_4
def dkwX11_findFor_2 : List UInt8 := [180, 0, 22, 4, 21, 5, 120, 128, 181, 0, 22, 42, 180, 0, 9, 21, 5, 46, 2, 159, 0, 19, 42, 43]
abbrev dktX11_findFor_2 : List UInt8 := dkwX11_findFor_2 ++ dktX11_findFor_3
def dkwX11_findFor_1 : List UInt8 := [163, 0, 76, 21, 4, 42, 180, 0, 22, 2, 130, 126, 21, 5, 184, 0, 26, 153, 0, 53, 42, 89]
abbrev dktX11_findFor_1 : List UInt8 := dkwX11_findFor_1 ++ dktX11_findFor_2
def dkwX11_findFor_0 : List UInt8 := [42, 43, 28, 182, 0, 15, 29, 2, 130, 126, 54, 4, 3, 54, 5, 21, 5, 178, 0, 19, 3, 46]
abbrev dktX11_findFor_0 : List UInt8 := dkwX11_findFor_0 ++ dktX11_findFor_1
theorem dksX11_findFor_0 : cX11_findFor.data.toList.drop 0 = dktX11_findFor_0 := by decide +kernel
theorem dksX11_findFor_1 : cX11_findFor.data.toList.drop 22 = dktX11_findFor_1 := dk_seg dksX11_findFor_0 22 rfl rfl
theorem dksX11_findFor_2 : cX11_findFor.data.toList.drop 44 = dktX11_findFor_2 := dk_seg dksX11_findFor_1 22 rfl rfl
theorem dksX11_findFor_3 : cX11_findFor.data.toList.drop 68 = dktX11_findFor_3 := dk_seg dksX11_findFor_2 24 rfl rfl
theorem dksX11_findFor_4 : cX11_findFor.data.toList.drop 92 = dktX11_findFor_4 := dk_seg dksX11_findFor_3 24 rfl rfl
theorem dX11_findFor_0 : decode cX11_findFor 0 = .ok (.aload_n 0, 1) := dk_42 (dk_at dksX11_findFor_0 0 rfl rfl)
theorem dX11_findFor_1 : decode cX11_findFor 1 = .ok (.aload_n 1, 1) := dk_43 (dk_at dksX11_findFor_0 1 rfl rfl)
theorem dX11_findFor_2 : decode cX11_findFor 2 = .ok (.iload_n 2, 1) := dk_28 (dk_at dksX11_findFor_0 2 rfl rfl)
theorem dX11_findFor_3 : decode cX11_findFor 3 = .ok (.invokevirtual 15, 3) := dk_182 0 15 (dk_at dksX11_findFor_0 3 rfl rfl)
theorem dX11_findFor_6 : decode cX11_findFor 6 = .ok (.iload_n 3, 1) := dk_29 (dk_at dksX11_findFor_0 6 rfl rfl)
theorem dX11_findFor_7 : decode cX11_findFor 7 = .ok (.iconst (-1), 1) := dk_2 (dk_at dksX11_findFor_0 7 rfl rfl)
theorem dX11_findFor_8 : decode cX11_findFor 8 = .ok (.ixor, 1) := dk_130 (dk_at dksX11_findFor_0 8 rfl rfl)
theorem dX11_findFor_9 : decode cX11_findFor 9 = .ok (.iand, 1) := dk_126 (dk_at dksX11_findFor_0 9 rfl rfl)
theorem dX11_findFor_10 : decode cX11_findFor 10 = .ok (.istore 4, 2) := dk_54 4 (dk_at dksX11_findFor_0 10 rfl rfl)
theorem dX11_findFor_12 : decode cX11_findFor 12 = .ok (.iconst 0, 1) := dk_3 (dk_at dksX11_findFor_0 12 rfl rfl)
theorem dX11_findFor_13 : decode cX11_findFor 13 = .ok (.istore 5, 2) := dk_54 5 (dk_at dksX11_findFor_0 13 rfl rfl)
theorem dX11_findFor_15 : decode cX11_findFor 15 = .ok (.iload 5, 2) := dk_21 5 (dk_at dksX11_findFor_0 15 rfl rfl)
theorem dX11_findFor_17 : decode cX11_findFor 17 = .ok (.getstatic 19, 3) := dk_178 0 19 (dk_at dksX11_findFor_0 17 rfl rfl)
theorem dX11_findFor_20 : decode cX11_findFor 20 = .ok (.iconst 0, 1) := dk_3 (dk_at dksX11_findFor_0 20 rfl rfl)
theorem dX11_findFor_21 : decode cX11_findFor 21 = .ok (.iaload, 1) := dk_46 (dk_at dksX11_findFor_0 21 rfl rfl)
theorem dX11_findFor_22 : decode cX11_findFor 22 = .ok (.if_icmp .gt 76, 3) := dk_163 0 76 (dk_at dksX11_findFor_1 0 rfl rfl)
theorem dX11_findFor_25 : decode cX11_findFor 25 = .ok (.iload 4, 2) := dk_21 4 (dk_at dksX11_findFor_1 3 rfl rfl)
theorem dX11_findFor_27 : decode cX11_findFor 27 = .ok (.aload_n 0, 1) := dk_42 (dk_at dksX11_findFor_1 5 rfl rfl)
theorem dX11_findFor_28 : decode cX11_findFor 28 = .ok (.getfield 22, 3) := dk_180 0 22 (dk_at dksX11_findFor_1 6 rfl rfl)
theorem dX11_findFor_31 : decode cX11_findFor 31 = .ok (.iconst (-1), 1) := dk_2 (dk_at dksX11_findFor_1 9 rfl rfl)
theorem dX11_findFor_32 : decode cX11_findFor 32 = .ok (.ixor, 1) := dk_130 (dk_at dksX11_findFor_1 10 rfl rfl)
theorem dX11_findFor_33 : decode cX11_findFor 33 = .ok (.iand, 1) := dk_126 (dk_at dksX11_findFor_1 11 rfl rfl)
theorem dX11_findFor_34 : decode cX11_findFor 34 = .ok (.iload 5, 2) := dk_21 5 (dk_at dksX11_findFor_1 12 rfl rfl)
theorem dX11_findFor_36 : decode cX11_findFor 36 = .ok (.invokestatic 26, 3) := dk_184 0 26 (dk_at dksX11_findFor_1 14 rfl rfl)
theorem dX11_findFor_39 : decode cX11_findFor 39 = .ok (.ifCond .eq 53, 3) := dk_153 0 53 (dk_at dksX11_findFor_1 17 rfl rfl)
theorem dX11_findFor_42 : decode cX11_findFor 42 = .ok (.aload_n 0, 1) := dk_42 (dk_at dksX11_findFor_1 20 rfl rfl)
theorem dX11_findFor_43 : decode cX11_findFor 43 = .ok (.dup, 1) := dk_89 (dk_at dksX11_findFor_1 21 rfl rfl)
theorem dX11_findFor_44 : decode cX11_findFor 44 = .ok (.getfield 22, 3) := dk_180 0 22 (dk_at dksX11_findFor_2 0 rfl rfl)
theorem dX11_findFor_47 : decode cX11_findFor 47 = .ok (.iconst 1, 1) := dk_4 (dk_at dksX11_findFor_2 3 rfl rfl)
theorem dX11_findFor_48 : decode cX11_findFor 48 = .ok (.iload 5, 2) := dk_21 5 (dk_at dksX11_findFor_2 4 rfl rfl)
theorem dX11_findFor_50 : decode cX11_findFor 50 = .ok (.ishl, 1) := dk_120 (dk_at dksX11_findFor_2 6 rfl rfl)
theorem dX11_findFor_51 : decode cX11_findFor 51 = .ok (.ior, 1) := dk_128 (dk_at dksX11_findFor_2 7 rfl rfl)
theorem dX11_findFor_52 : decode cX11_findFor 52 = .ok (.putfield 22, 3) := dk_181 0 22 (dk_at dksX11_findFor_2 8 rfl rfl)
theorem dX11_findFor_55 : decode cX11_findFor 55 = .ok (.aload_n 0, 1) := dk_42 (dk_at dksX11_findFor_2 11 rfl rfl)
theorem dX11_findFor_56 : decode cX11_findFor 56 = .ok (.getfield 9, 3) := dk_180 0 9 (dk_at dksX11_findFor_2 12 rfl rfl)
theorem dX11_findFor_59 : decode cX11_findFor 59 = .ok (.iload 5, 2) := dk_21 5 (dk_at dksX11_findFor_2 15 rfl rfl)
theorem dX11_findFor_61 : decode cX11_findFor 61 = .ok (.iaload, 1) := dk_46 (dk_at dksX11_findFor_2 17 rfl rfl)
theorem dX11_findFor_62 : decode cX11_findFor 62 = .ok (.iconst (-1), 1) := dk_2 (dk_at dksX11_findFor_2 18 rfl rfl)
theorem dX11_findFor_63 : decode cX11_findFor 63 = .ok (.if_icmp .eq 19, 3) := dk_159 0 19 (dk_at dksX11_findFor_2 19 rfl rfl)
theorem dX11_findFor_66 : decode cX11_findFor 66 = .ok (.aload_n 0, 1) := dk_42 (dk_at dksX11_findFor_2 22 rfl rfl)
theorem dX11_findFor_67 : decode cX11_findFor 67 = .ok (.aload_n 1, 1) := dk_43 (dk_at dksX11_findFor_2 23 rfl rfl)
theorem dX11_findFor_68 : decode cX11_findFor 68 = .ok (.aload_n 0, 1) := dk_42 (dk_at dksX11_findFor_3 0 rfl rfl)
theorem dX11_findFor_69 : decode cX11_findFor 69 = .ok (.getfield 9, 3) := dk_180 0 9 (dk_at dksX11_findFor_3 1 rfl rfl)
theorem dX11_findFor_72 : decode cX11_findFor 72 = .ok (.iload 5, 2) := dk_21 5 (dk_at dksX11_findFor_3 4 rfl rfl)
theorem dX11_findFor_74 : decode cX11_findFor 74 = .ok (.iaload, 1) := dk_46 (dk_at dksX11_findFor_3 6 rfl rfl)
theorem dX11_findFor_75 : decode cX11_findFor 75 = .ok (.iload_n 3, 1) := dk_29 (dk_at dksX11_findFor_3 7 rfl rfl)
theorem dX11_findFor_76 : decode cX11_findFor 76 = .ok (.invokevirtual 30, 3) := dk_182 0 30 (dk_at dksX11_findFor_3 8 rfl rfl)
theorem dX11_findFor_79 : decode cX11_findFor 79 = .ok (.ifCond .eq 13, 3) := dk_153 0 13 (dk_at dksX11_findFor_3 11 rfl rfl)
theorem dX11_findFor_82 : decode cX11_findFor 82 = .ok (.aload_n 0, 1) := dk_42 (dk_at dksX11_findFor_3 14 rfl rfl)
theorem dX11_findFor_83 : decode cX11_findFor 83 = .ok (.getfield 9, 3) := dk_180 0 9 (dk_at dksX11_findFor_3 15 rfl rfl)
theorem dX11_findFor_86 : decode cX11_findFor 86 = .ok (.iload 5, 2) := dk_21 5 (dk_at dksX11_findFor_3 18 rfl rfl)
theorem dX11_findFor_88 : decode cX11_findFor 88 = .ok (.iload_n 2, 1) := dk_28 (dk_at dksX11_findFor_3 20 rfl rfl)
theorem dX11_findFor_89 : decode cX11_findFor 89 = .ok (.iastore, 1) := dk_79 (dk_at dksX11_findFor_3 21 rfl rfl)
theorem dX11_findFor_90 : decode cX11_findFor 90 = .ok (.iconst 1, 1) := dk_4 (dk_at dksX11_findFor_3 22 rfl rfl)
theorem dX11_findFor_91 : decode cX11_findFor 91 = .ok (.ireturn, 1) := dk_172 (dk_at dksX11_findFor_3 23 rfl rfl)
theorem dX11_findFor_92 : decode cX11_findFor 92 = .ok (.iinc 5 1, 3) := dk_132 5 1 (dk_at dksX11_findFor_4 0 rfl rfl)
theorem dX11_findFor_95 : decode cX11_findFor 95 = .ok (.goto (-80), 3) := dk_167 255 176 (dk_at dksX11_findFor_4 3 rfl rfl)
theorem dX11_findFor_98 : decode cX11_findFor 98 = .ok (.iconst 0, 1) := dk_3 (dk_at dksX11_findFor_4 6 rfl rfl)
theorem dX11_findFor_99 : decode cX11_findFor 99 = .ok (.ireturn, 1) := dk_172 (dk_at dksX11_findFor_4 7 rfl rfl)
def dkwX11_init_0 : List UInt8 := [42, 43, 183, 0, 3, 42, 16, 32, 188, 10, 181, 0, 9, 177]
abbrev dktX11_init_0 : List UInt8 := dkwX11_init_0 ++ []
theorem dksX11_init_0 : cX11_init.data.toList.drop 0 = dktX11_init_0 := by decide +kernel
theorem dX11_init_0 : decode cX11_init 0 = .ok (.aload_n 0, 1) := dk_42 (dk_at dksX11_init_0 0 rfl rfl)
theorem dX11_init_1 : decode cX11_init 1 = .ok (.aload_n 1, 1) := dk_43 (dk_at dksX11_init_0 1 rfl rfl)
theorem dX11_init_2 : decode cX11_init 2 = .ok (.invokespecial 3, 3) := dk_183 0 3 (dk_at dksX11_init_0 2 rfl rfl)
theorem dX11_init_5 : decode cX11_init 5 = .ok (.aload_n 0, 1) := dk_42 (dk_at dksX11_init_0 5 rfl rfl)
theorem dX11_init_6 : decode cX11_init 6 = .ok (.bipush 32, 2) := dk_16 32 (dk_at dksX11_init_0 6 rfl rfl)
theorem dX11_init_8 : decode cX11_init 8 = .ok (.newarray .int, 2) := dk_188_10 (dk_at dksX11_init_0 8 rfl rfl)
theorem dX11_init_10 : decode cX11_init 10 = .ok (.putfield 9, 3) := dk_181 0 9 (dk_at dksX11_init_0 10 rfl rfl)
theorem dX11_init_13 : decode cX11_init 13 = .ok (.return_, 1) := dk_177 (dk_at dksX11_init_0 13 rfl rfl)
def dkwX12_keep_6 : List UInt8 := [177]
abbrev dktX12_keep_6 : List UInt8 := dkwX12_keep_6 ++ []
def dkwX12_keep_5 : List UInt8 := [21, 5, 184, 0, 27, 62, 42, 180, 0, 15, 21, 4, 92, 46, 21, 5, 126, 79, 132, 4, 255, 167, 255, 197]
abbrev dktX12_keep_5 : List UInt8 := dkwX12_keep_5 ++ dktX12_keep_6
def dkwX12_keep_4 : List UInt8 := [21, 4, 182, 0, 19, 2, 16, 31, 29, 100, 124, 126, 54, 5, 21, 5, 154, 0, 7, 2, 167, 0, 8]
abbrev dktX12_keep_4 : List UInt8 := dkwX12_keep_4 ++ dktX12_keep_5
def dkwX12_keep_3 : List UInt8 := [42, 182, 0, 9, 4, 100, 54, 4, 21, 4, 155, 0, 60, 29, 156, 0, 7, 3, 167, 0, 17, 42, 43]
abbrev dktX12_keep_3 : List UInt8 := dkwX12_keep_3 ++ dktX12_keep_4
def dkwX12_keep_2 : List UInt8 := [16, 32, 167, 0, 12, 42, 180, 0, 15, 29, 46, 184, 0, 23, 61, 132, 3, 1, 167, 255, 195, 16, 31, 62]
abbrev dktX12_keep_2 : List UInt8 := dkwX12_keep_2 ++ dktX12_keep_3
def dkwX12_keep_1 : List UInt8 := [167, 0, 13, 42, 43, 29, 182, 0, 19, 2, 28, 120, 126, 79, 42, 180, 0, 15, 29, 46, 154, 0, 8]
abbrev dktX12_keep_1 : List UInt8 := dkwX12_keep_1 ++ dktX12_keep_2
def dkwX12_keep_0 : List UInt8 := [3, 61, 3, 62, 29, 42, 182, 0, 9, 162, 0, 59, 42, 180, 0, 15, 29, 28, 16, 32, 161, 0, 7, 3]
abbrev dktX12_keep_0 : List UInt8 := dkwX12_keep_0 ++ dktX12_keep_1
theorem dksX12_keep_0 : cX12_keep.data.toList.drop 0 = dktX12_keep_0 := by decide +kernel
theorem dksX12_keep_1 : cX12_keep.data.toList.drop 24 = dktX12_keep_1 := dk_seg dksX12_keep_0 24 rfl rfl
theorem dksX12_keep_2 : cX12_keep.data.toList.drop 47 = dktX12_keep_2 := dk_seg dksX12_keep_1 23 rfl rfl
theorem dksX12_keep_3 : cX12_keep.data.toList.drop 71 = dktX12_keep_3 := dk_seg dksX12_keep_2 24 rfl rfl
theorem dksX12_keep_4 : cX12_keep.data.toList.drop 94 = dktX12_keep_4 := dk_seg dksX12_keep_3 23 rfl rfl
theorem dksX12_keep_5 : cX12_keep.data.toList.drop 117 = dktX12_keep_5 := dk_seg dksX12_keep_4 23 rfl rfl
theorem dksX12_keep_6 : cX12_keep.data.toList.drop 141 = dktX12_keep_6 := dk_seg dksX12_keep_5 24 rfl rfl
theorem dX12_keep_0 : decode cX12_keep 0 = .ok (.iconst 0, 1) := dk_3 (dk_at dksX12_keep_0 0 rfl rfl)
theorem dX12_keep_1 : decode cX12_keep 1 = .ok (.istore_n 2, 1) := dk_61 (dk_at dksX12_keep_0 1 rfl rfl)
theorem dX12_keep_2 : decode cX12_keep 2 = .ok (.iconst 0, 1) := dk_3 (dk_at dksX12_keep_0 2 rfl rfl)
theorem dX12_keep_3 : decode cX12_keep 3 = .ok (.istore_n 3, 1) := dk_62 (dk_at dksX12_keep_0 3 rfl rfl)
theorem dX12_keep_4 : decode cX12_keep 4 = .ok (.iload_n 3, 1) := dk_29 (dk_at dksX12_keep_0 4 rfl rfl)
theorem dX12_keep_5 : decode cX12_keep 5 = .ok (.aload_n 0, 1) := dk_42 (dk_at dksX12_keep_0 5 rfl rfl)
theorem dX12_keep_6 : decode cX12_keep 6 = .ok (.invokevirtual 9, 3) := dk_182 0 9 (dk_at dksX12_keep_0 6 rfl rfl)
theorem dX12_keep_9 : decode cX12_keep 9 = .ok (.if_icmp .ge 59, 3) := dk_162 0 59 (dk_at dksX12_keep_0 9 rfl rfl)
theorem dX12_keep_12 : decode cX12_keep 12 = .ok (.aload_n 0, 1) := dk_42 (dk_at dksX12_keep_0 12 rfl rfl)
theorem dX12_keep_13 : decode cX12_keep 13 = .ok (.getfield 15, 3) := dk_180 0 15 (dk_at dksX12_keep_0 13 rfl rfl)
theorem dX12_keep_16 : decode cX12_keep 16 = .ok (.iload_n 3, 1) := dk_29 (dk_at dksX12_keep_0 16 rfl rfl)
theorem dX12_keep_17 : decode cX12_keep 17 = .ok (.iload_n 2, 1) := dk_28 (dk_at dksX12_keep_0 17 rfl rfl)
theorem dX12_keep_18 : decode cX12_keep 18 = .ok (.bipush 32, 2) := dk_16 32 (dk_at dksX12_keep_0 18 rfl rfl)
theorem dX12_keep_20 : decode cX12_keep 20 = .ok (.if_icmp .lt 7, 3) := dk_161 0 7 (dk_at dksX12_keep_0 20 rfl rfl)
theorem dX12_keep_23 : decode cX12_keep 23 = .ok (.iconst 0, 1) := dk_3 (dk_at dksX12_keep_0 23 rfl rfl)
theorem dX12_keep_24 : decode cX12_keep 24 = .ok (.goto 13, 3) := dk_167 0 13 (dk_at dksX12_keep_1 0 rfl rfl)
theorem dX12_keep_27 : decode cX12_keep 27 = .ok (.aload_n 0, 1) := dk_42 (dk_at dksX12_keep_1 3 rfl rfl)
theorem dX12_keep_28 : decode cX12_keep 28 = .ok (.aload_n 1, 1) := dk_43 (dk_at dksX12_keep_1 4 rfl rfl)
theorem dX12_keep_29 : decode cX12_keep 29 = .ok (.iload_n 3, 1) := dk_29 (dk_at dksX12_keep_1 5 rfl rfl)
theorem dX12_keep_30 : decode cX12_keep 30 = .ok (.invokevirtual 19, 3) := dk_182 0 19 (dk_at dksX12_keep_1 6 rfl rfl)
theorem dX12_keep_33 : decode cX12_keep 33 = .ok (.iconst (-1), 1) := dk_2 (dk_at dksX12_keep_1 9 rfl rfl)
theorem dX12_keep_34 : decode cX12_keep 34 = .ok (.iload_n 2, 1) := dk_28 (dk_at dksX12_keep_1 10 rfl rfl)
theorem dX12_keep_35 : decode cX12_keep 35 = .ok (.ishl, 1) := dk_120 (dk_at dksX12_keep_1 11 rfl rfl)
theorem dX12_keep_36 : decode cX12_keep 36 = .ok (.iand, 1) := dk_126 (dk_at dksX12_keep_1 12 rfl rfl)
theorem dX12_keep_37 : decode cX12_keep 37 = .ok (.iastore, 1) := dk_79 (dk_at dksX12_keep_1 13 rfl rfl)
theorem dX12_keep_38 : decode cX12_keep 38 = .ok (.aload_n 0, 1) := dk_42 (dk_at dksX12_keep_1 14 rfl rfl)
theorem dX12_keep_39 : decode cX12_keep 39 = .ok (.getfield 15, 3) := dk_180 0 15 (dk_at dksX12_keep_1 15 rfl rfl)
theorem dX12_keep_42 : decode cX12_keep 42 = .ok (.iload_n 3, 1) := dk_29 (dk_at dksX12_keep_1 18 rfl rfl)
theorem dX12_keep_43 : decode cX12_keep 43 = .ok (.iaload, 1) := dk_46 (dk_at dksX12_keep_1 19 rfl rfl)
theorem dX12_keep_44 : decode cX12_keep 44 = .ok (.ifCond .ne 8, 3) := dk_154 0 8 (dk_at dksX12_keep_1 20 rfl rfl)
theorem dX12_keep_47 : decode cX12_keep 47 = .ok (.bipush 32, 2) := dk_16 32 (dk_at dksX12_keep_2 0 rfl rfl)
theorem dX12_keep_49 : decode cX12_keep 49 = .ok (.goto 12, 3) := dk_167 0 12 (dk_at dksX12_keep_2 2 rfl rfl)
theorem dX12_keep_52 : decode cX12_keep 52 = .ok (.aload_n 0, 1) := dk_42 (dk_at dksX12_keep_2 5 rfl rfl)
theorem dX12_keep_53 : decode cX12_keep 53 = .ok (.getfield 15, 3) := dk_180 0 15 (dk_at dksX12_keep_2 6 rfl rfl)
theorem dX12_keep_56 : decode cX12_keep 56 = .ok (.iload_n 3, 1) := dk_29 (dk_at dksX12_keep_2 9 rfl rfl)
theorem dX12_keep_57 : decode cX12_keep 57 = .ok (.iaload, 1) := dk_46 (dk_at dksX12_keep_2 10 rfl rfl)
theorem dX12_keep_58 : decode cX12_keep 58 = .ok (.invokestatic 23, 3) := dk_184 0 23 (dk_at dksX12_keep_2 11 rfl rfl)
theorem dX12_keep_61 : decode cX12_keep 61 = .ok (.istore_n 2, 1) := dk_61 (dk_at dksX12_keep_2 14 rfl rfl)
theorem dX12_keep_62 : decode cX12_keep 62 = .ok (.iinc 3 1, 3) := dk_132 3 1 (dk_at dksX12_keep_2 15 rfl rfl)
theorem dX12_keep_65 : decode cX12_keep 65 = .ok (.goto (-61), 3) := dk_167 255 195 (dk_at dksX12_keep_2 18 rfl rfl)
theorem dX12_keep_68 : decode cX12_keep 68 = .ok (.bipush 31, 2) := dk_16 31 (dk_at dksX12_keep_2 21 rfl rfl)
theorem dX12_keep_70 : decode cX12_keep 70 = .ok (.istore_n 3, 1) := dk_62 (dk_at dksX12_keep_2 23 rfl rfl)
theorem dX12_keep_71 : decode cX12_keep 71 = .ok (.aload_n 0, 1) := dk_42 (dk_at dksX12_keep_3 0 rfl rfl)
theorem dX12_keep_72 : decode cX12_keep 72 = .ok (.invokevirtual 9, 3) := dk_182 0 9 (dk_at dksX12_keep_3 1 rfl rfl)
theorem dX12_keep_75 : decode cX12_keep 75 = .ok (.iconst 1, 1) := dk_4 (dk_at dksX12_keep_3 4 rfl rfl)
theorem dX12_keep_76 : decode cX12_keep 76 = .ok (.isub, 1) := dk_100 (dk_at dksX12_keep_3 5 rfl rfl)
theorem dX12_keep_77 : decode cX12_keep 77 = .ok (.istore 4, 2) := dk_54 4 (dk_at dksX12_keep_3 6 rfl rfl)
theorem dX12_keep_79 : decode cX12_keep 79 = .ok (.iload 4, 2) := dk_21 4 (dk_at dksX12_keep_3 8 rfl rfl)
theorem dX12_keep_81 : decode cX12_keep 81 = .ok (.ifCond .lt 60, 3) := dk_155 0 60 (dk_at dksX12_keep_3 10 rfl rfl)
theorem dX12_keep_84 : decode cX12_keep 84 = .ok (.iload_n 3, 1) := dk_29 (dk_at dksX12_keep_3 13 rfl rfl)
theorem dX12_keep_85 : decode cX12_keep 85 = .ok (.ifCond .ge 7, 3) := dk_156 0 7 (dk_at dksX12_keep_3 14 rfl rfl)
theorem dX12_keep_88 : decode cX12_keep 88 = .ok (.iconst 0, 1) := dk_3 (dk_at dksX12_keep_3 17 rfl rfl)
theorem dX12_keep_89 : decode cX12_keep 89 = .ok (.goto 17, 3) := dk_167 0 17 (dk_at dksX12_keep_3 18 rfl rfl)
theorem dX12_keep_92 : decode cX12_keep 92 = .ok (.aload_n 0, 1) := dk_42 (dk_at dksX12_keep_3 21 rfl rfl)
theorem dX12_keep_93 : decode cX12_keep 93 = .ok (.aload_n 1, 1) := dk_43 (dk_at dksX12_keep_3 22 rfl rfl)
theorem dX12_keep_94 : decode cX12_keep 94 = .ok (.iload 4, 2) := dk_21 4 (dk_at dksX12_keep_4 0 rfl rfl)
theorem dX12_keep_96 : decode cX12_keep 96 = .ok (.invokevirtual 19, 3) := dk_182 0 19 (dk_at dksX12_keep_4 2 rfl rfl)
theorem dX12_keep_99 : decode cX12_keep 99 = .ok (.iconst (-1), 1) := dk_2 (dk_at dksX12_keep_4 5 rfl rfl)
theorem dX12_keep_100 : decode cX12_keep 100 = .ok (.bipush 31, 2) := dk_16 31 (dk_at dksX12_keep_4 6 rfl rfl)
theorem dX12_keep_102 : decode cX12_keep 102 = .ok (.iload_n 3, 1) := dk_29 (dk_at dksX12_keep_4 8 rfl rfl)
theorem dX12_keep_103 : decode cX12_keep 103 = .ok (.isub, 1) := dk_100 (dk_at dksX12_keep_4 9 rfl rfl)
theorem dX12_keep_104 : decode cX12_keep 104 = .ok (.iushr, 1) := dk_124 (dk_at dksX12_keep_4 10 rfl rfl)
theorem dX12_keep_105 : decode cX12_keep 105 = .ok (.iand, 1) := dk_126 (dk_at dksX12_keep_4 11 rfl rfl)
theorem dX12_keep_106 : decode cX12_keep 106 = .ok (.istore 5, 2) := dk_54 5 (dk_at dksX12_keep_4 12 rfl rfl)
theorem dX12_keep_108 : decode cX12_keep 108 = .ok (.iload 5, 2) := dk_21 5 (dk_at dksX12_keep_4 14 rfl rfl)
theorem dX12_keep_110 : decode cX12_keep 110 = .ok (.ifCond .ne 7, 3) := dk_154 0 7 (dk_at dksX12_keep_4 16 rfl rfl)
theorem dX12_keep_113 : decode cX12_keep 113 = .ok (.iconst (-1), 1) := dk_2 (dk_at dksX12_keep_4 19 rfl rfl)
theorem dX12_keep_114 : decode cX12_keep 114 = .ok (.goto 8, 3) := dk_167 0 8 (dk_at dksX12_keep_4 20 rfl rfl)
theorem dX12_keep_117 : decode cX12_keep 117 = .ok (.iload 5, 2) := dk_21 5 (dk_at dksX12_keep_5 0 rfl rfl)
theorem dX12_keep_119 : decode cX12_keep 119 = .ok (.invokestatic 27, 3) := dk_184 0 27 (dk_at dksX12_keep_5 2 rfl rfl)
theorem dX12_keep_122 : decode cX12_keep 122 = .ok (.istore_n 3, 1) := dk_62 (dk_at dksX12_keep_5 5 rfl rfl)
theorem dX12_keep_123 : decode cX12_keep 123 = .ok (.aload_n 0, 1) := dk_42 (dk_at dksX12_keep_5 6 rfl rfl)
theorem dX12_keep_124 : decode cX12_keep 124 = .ok (.getfield 15, 3) := dk_180 0 15 (dk_at dksX12_keep_5 7 rfl rfl)
theorem dX12_keep_127 : decode cX12_keep 127 = .ok (.iload 4, 2) := dk_21 4 (dk_at dksX12_keep_5 10 rfl rfl)
theorem dX12_keep_129 : decode cX12_keep 129 = .ok (.dup2, 1) := dk_92 (dk_at dksX12_keep_5 12 rfl rfl)
theorem dX12_keep_130 : decode cX12_keep 130 = .ok (.iaload, 1) := dk_46 (dk_at dksX12_keep_5 13 rfl rfl)
theorem dX12_keep_131 : decode cX12_keep 131 = .ok (.iload 5, 2) := dk_21 5 (dk_at dksX12_keep_5 14 rfl rfl)
theorem dX12_keep_133 : decode cX12_keep 133 = .ok (.iand, 1) := dk_126 (dk_at dksX12_keep_5 16 rfl rfl)
theorem dX12_keep_134 : decode cX12_keep 134 = .ok (.iastore, 1) := dk_79 (dk_at dksX12_keep_5 17 rfl rfl)
theorem dX12_keep_135 : decode cX12_keep 135 = .ok (.iinc 4 (-1), 3) := dk_132 4 255 (dk_at dksX12_keep_5 18 rfl rfl)
theorem dX12_keep_138 : decode cX12_keep 138 = .ok (.goto (-59), 3) := dk_167 255 197 (dk_at dksX12_keep_5 21 rfl rfl)
theorem dX12_keep_141 : decode cX12_keep 141 = .ok (.return_, 1) := dk_177 (dk_at dksX12_keep_6 0 rfl rfl)
def dkwX12_init_0 : List UInt8 := [42, 43, 183, 0, 3, 177]
abbrev dktX12_init_0 : List UInt8 := dkwX12_init_0 ++ []
theorem dksX12_init_0 : cX12_init.data.toList.drop 0 = dktX12_init_0 := by decide +kernel
theorem dX12_init_0 : decode cX12_init 0 = .ok (.aload_n 0, 1) := dk_42 (dk_at dksX12_init_0 0 rfl rfl)
theorem dX12_init_1 : decode cX12_init 1 = .ok (.aload_n 1, 1) := dk_43 (dk_at dksX12_init_0 1 rfl rfl)
theorem dX12_init_2 : decode cX12_init 2 = .ok (.invokespecial 3, 3) := dk_183 0 3 (dk_at dksX12_init_0 2 rfl rfl)
theorem dX12_init_5 : decode cX12_init 5 = .ok (.return_, 1) := dk_177 (dk_at dksX12_init_0 5 rfl rfl)
def dkwX13_keep_14 : List UInt8 := [167, 0, 4, 3, 128, 79, 132, 3, 1, 167, 255, 115, 132, 2, 255, 167, 255, 89, 177]
abbrev dktX13_keep_14 : List UInt8 := dkwX13_keep_14 ++ []
def dkwX13_keep_13 : List UInt8 := [42, 180, 0, 9, 28, 46, 25, 4, 182, 0, 39, 184, 0, 42, 153, 0, 13, 4, 25, 4, 182, 0, 50, 120]
abbrev dktX13_keep_13 : List UInt8 := dkwX13_keep_13 ++ dktX13_keep_14
def dkwX13_keep_12 : List UInt8 := [25, 4, 182, 0, 39, 120, 167, 0, 4, 3, 128, 79, 42, 180, 0, 56, 28, 92, 46, 21, 5, 153, 0, 30]
abbrev dktX13_keep_12 : List UInt8 := dkwX13_keep_12 ++ dktX13_keep_13
def dkwX13_keep_11 : List UInt8 := [153, 0, 7, 4, 167, 0, 4, 3, 54, 5, 42, 180, 0, 15, 28, 92, 46, 21, 5, 153, 0, 13, 4]
abbrev dktX13_keep_11 : List UInt8 := dkwX13_keep_11 ++ dktX13_keep_12
def dkwX13_keep_10 : List UInt8 := [182, 0, 53, 184, 0, 42, 153, 0, 24, 42, 43, 28, 182, 0, 46, 25, 4, 182, 0, 50, 184, 0, 42]
abbrev dktX13_keep_10 : List UInt8 := dkwX13_keep_10 ++ dktX13_keep_11
def dkwX13_keep_9 : List UInt8 := [180, 0, 18, 29, 185, 0, 33, 2, 0, 192, 0, 37, 58, 4, 42, 180, 0, 15, 28, 4, 96, 46, 25, 4]
abbrev dktX13_keep_9 : List UInt8 := dkwX13_keep_9 ++ dktX13_keep_10
def dkwX13_keep_8 : List UInt8 := [42, 180, 0, 56, 28, 3, 79, 3, 62, 29, 42, 180, 0, 18, 185, 0, 30, 1, 0, 162, 0, 134, 42]
abbrev dktX13_keep_8 : List UInt8 := dkwX13_keep_8 ++ dktX13_keep_9
def dkwX13_keep_7 : List UInt8 := [132, 2, 1, 167, 255, 114, 42, 182, 0, 26, 4, 100, 61, 28, 155, 0, 169, 42, 180, 0, 15, 28, 3, 79]
abbrev dktX13_keep_7 : List UInt8 := dkwX13_keep_7 ++ dktX13_keep_8
def dkwX13_keep_6 : List UInt8 := [185, 0, 33, 2, 0, 192, 0, 37, 182, 0, 53, 120, 167, 0, 4, 3, 128, 79, 132, 3, 1, 167, 255, 139]
abbrev dktX13_keep_6 : List UInt8 := dkwX13_keep_6 ++ dktX13_keep_7
def dkwX13_keep_5 : List UInt8 := [42, 180, 0, 9, 28, 4, 96, 92, 46, 21, 4, 153, 0, 24, 4, 42, 180, 0, 18, 29]
abbrev dktX13_keep_5 : List UInt8 := dkwX13_keep_5 ++ dktX13_keep_6
def dkwX13_keep_4 : List UInt8 := [185, 0, 33, 2, 0, 192, 0, 37, 182, 0, 50, 184, 0, 42, 153, 0, 7, 4, 167, 0, 4, 3, 54, 4]
abbrev dktX13_keep_4 : List UInt8 := dkwX13_keep_4 ++ dktX13_keep_5
def dkwX13_keep_3 : List UInt8 := [192, 0, 37, 182, 0, 39, 184, 0, 42, 153, 0, 35, 42, 43, 28, 182, 0, 46, 42, 180, 0, 18, 29]
abbrev dktX13_keep_3 : List UInt8 := dkwX13_keep_3 ++ dktX13_keep_4
def dkwX13_keep_2 : List UInt8 := [185, 0, 30, 1, 0, 162, 0, 110, 42, 180, 0, 9, 28, 46, 42, 180, 0, 18, 29, 185, 0, 33, 2, 0]
abbrev dktX13_keep_2 : List UInt8 := dkwX13_keep_2 ++ dktX13_keep_3
def dkwX13_keep_1 : List UInt8 := [182, 0, 26, 162, 0, 140, 42, 180, 0, 9, 28, 4, 96, 3, 79, 3, 62, 29, 42, 180, 0, 18]
abbrev dktX13_keep_1 : List UInt8 := dkwX13_keep_1 ++ dktX13_keep_2
def dkwX13_keep_0 : List UInt8 := [42, 180, 0, 9, 3, 4, 79, 42, 180, 0, 15, 42, 182, 0, 26, 42, 180, 0, 22, 79, 3, 61, 28, 42]
abbrev dktX13_keep_0 : List UInt8 := dkwX13_keep_0 ++ dktX13_keep_1
theorem dksX13_keep_0 : cX13_keep.data.toList.drop 0 = dktX13_keep_0 := by decide +kernel
theorem dksX13_keep_1 : cX13_keep.data.toList.drop 24 = dktX13_keep_1 := dk_seg dksX13_keep_0 24 rfl rfl
theorem dksX13_keep_2 : cX13_keep.data.toList.drop 46 = dktX13_keep_2 := dk_seg dksX13_keep_1 22 rfl rfl
theorem dksX13_keep_3 : cX13_keep.data.toList.drop 70 = dktX13_keep_3 := dk_seg dksX13_keep_2 24 rfl rfl
theorem dksX13_keep_4 : cX13_keep.data.toList.drop 93 = dktX13_keep_4 := dk_seg dksX13_keep_3 23 rfl rfl
theorem dksX13_keep_5 : cX13_keep.data.toList.drop 117 = dktX13_keep_5 := dk_seg dksX13_keep_4 24 rfl rfl
theorem dksX13_keep_6 : cX13_keep.data.toList.drop 137 = dktX13_keep_6 := dk_seg dksX13_keep_5 20 rfl rfl
theorem dksX13_keep_7 : cX13_keep.data.toList.drop 161 = dktX13_keep_7 := dk_seg dksX13_keep_6 24 rfl rfl
theorem dksX13_keep_8 : cX13_keep.data.toList.drop 185 = dktX13_keep_8 := dk_seg dksX13_keep_7 24 rfl rfl
theorem dksX13_keep_9 : cX13_keep.data.toList.drop 208 = dktX13_keep_9 := dk_seg dksX13_keep_8 23 rfl rfl
theorem dksX13_keep_10 : cX13_keep.data.toList.drop 232 = dktX13_keep_10 := dk_seg dksX13_keep_9 24 rfl rfl
theorem dksX13_keep_11 : cX13_keep.data.toList.drop 255 = dktX13_keep_11 := dk_seg dksX13_keep_10 23 rfl rfl
theorem dksX13_keep_12 : cX13_keep.data.toList.drop 278 = dktX13_keep_12 := dk_seg dksX13_keep_11 23 rfl rfl
theorem dksX13_keep_13 : cX13_keep.data.toList.drop 302 = dktX13_keep_13 := dk_seg dksX13_keep_12 24 rfl rfl
theorem dksX13_keep_14 : cX13_keep.data.toList.drop 326 = dktX13_keep_14 := dk_seg dksX13_keep_13 24 rfl rfl
theorem dX13_keep_0 : decode cX13_keep 0 = .ok (.aload_n 0, 1) := dk_42 (dk_at dksX13_keep_0 0 rfl rfl)
theorem dX13_keep_1 : decode cX13_keep 1 = .ok (.getfield 9, 3) := dk_180 0 9 (dk_at dksX13_keep_0 1 rfl rfl)
theorem dX13_keep_4 : decode cX13_keep 4 = .ok (.iconst 0, 1) := dk_3 (dk_at dksX13_keep_0 4 rfl rfl)
theorem dX13_keep_5 : decode cX13_keep 5 = .ok (.iconst 1, 1) := dk_4 (dk_at dksX13_keep_0 5 rfl rfl)
theorem dX13_keep_6 : decode cX13_keep 6 = .ok (.iastore, 1) := dk_79 (dk_at dksX13_keep_0 6 rfl rfl)
theorem dX13_keep_7 : decode cX13_keep 7 = .ok (.aload_n 0, 1) := dk_42 (dk_at dksX13_keep_0 7 rfl rfl)
theorem dX13_keep_8 : decode cX13_keep 8 = .ok (.getfield 15, 3) := dk_180 0 15 (dk_at dksX13_keep_0 8 rfl rfl)
theorem dX13_keep_11 : decode cX13_keep 11 = .ok (.aload_n 0, 1) := dk_42 (dk_at dksX13_keep_0 11 rfl rfl)
theorem dX13_keep_12 : decode cX13_keep 12 = .ok (.invokevirtual 26, 3) := dk_182 0 26 (dk_at dksX13_keep_0 12 rfl rfl)
theorem dX13_keep_15 : decode cX13_keep 15 = .ok (.aload_n 0, 1) := dk_42 (dk_at dksX13_keep_0 15 rfl rfl)
theorem dX13_keep_16 : decode cX13_keep 16 = .ok (.getfield 22, 3) := dk_180 0 22 (dk_at dksX13_keep_0 16 rfl rfl)
theorem dX13_keep_19 : decode cX13_keep 19 = .ok (.iastore, 1) := dk_79 (dk_at dksX13_keep_0 19 rfl rfl)
theorem dX13_keep_20 : decode cX13_keep 20 = .ok (.iconst 0, 1) := dk_3 (dk_at dksX13_keep_0 20 rfl rfl)
theorem dX13_keep_21 : decode cX13_keep 21 = .ok (.istore_n 2, 1) := dk_61 (dk_at dksX13_keep_0 21 rfl rfl)
theorem dX13_keep_22 : decode cX13_keep 22 = .ok (.iload_n 2, 1) := dk_28 (dk_at dksX13_keep_0 22 rfl rfl)
theorem dX13_keep_23 : decode cX13_keep 23 = .ok (.aload_n 0, 1) := dk_42 (dk_at dksX13_keep_0 23 rfl rfl)
theorem dX13_keep_24 : decode cX13_keep 24 = .ok (.invokevirtual 26, 3) := dk_182 0 26 (dk_at dksX13_keep_1 0 rfl rfl)
theorem dX13_keep_27 : decode cX13_keep 27 = .ok (.if_icmp .ge 140, 3) := dk_162 0 140 (dk_at dksX13_keep_1 3 rfl rfl)
theorem dX13_keep_30 : decode cX13_keep 30 = .ok (.aload_n 0, 1) := dk_42 (dk_at dksX13_keep_1 6 rfl rfl)
theorem dX13_keep_31 : decode cX13_keep 31 = .ok (.getfield 9, 3) := dk_180 0 9 (dk_at dksX13_keep_1 7 rfl rfl)
theorem dX13_keep_34 : decode cX13_keep 34 = .ok (.iload_n 2, 1) := dk_28 (dk_at dksX13_keep_1 10 rfl rfl)
theorem dX13_keep_35 : decode cX13_keep 35 = .ok (.iconst 1, 1) := dk_4 (dk_at dksX13_keep_1 11 rfl rfl)
theorem dX13_keep_36 : decode cX13_keep 36 = .ok (.iadd, 1) := dk_96 (dk_at dksX13_keep_1 12 rfl rfl)
theorem dX13_keep_37 : decode cX13_keep 37 = .ok (.iconst 0, 1) := dk_3 (dk_at dksX13_keep_1 13 rfl rfl)
theorem dX13_keep_38 : decode cX13_keep 38 = .ok (.iastore, 1) := dk_79 (dk_at dksX13_keep_1 14 rfl rfl)
theorem dX13_keep_39 : decode cX13_keep 39 = .ok (.iconst 0, 1) := dk_3 (dk_at dksX13_keep_1 15 rfl rfl)
theorem dX13_keep_40 : decode cX13_keep 40 = .ok (.istore_n 3, 1) := dk_62 (dk_at dksX13_keep_1 16 rfl rfl)
theorem dX13_keep_41 : decode cX13_keep 41 = .ok (.iload_n 3, 1) := dk_29 (dk_at dksX13_keep_1 17 rfl rfl)
theorem dX13_keep_42 : decode cX13_keep 42 = .ok (.aload_n 0, 1) := dk_42 (dk_at dksX13_keep_1 18 rfl rfl)
theorem dX13_keep_43 : decode cX13_keep 43 = .ok (.getfield 18, 3) := dk_180 0 18 (dk_at dksX13_keep_1 19 rfl rfl)
theorem dX13_keep_46 : decode cX13_keep 46 = .ok (.invokeinterface 30 1, 5) := by decide +kernel
theorem dX13_keep_51 : decode cX13_keep 51 = .ok (.if_icmp .ge 110, 3) := dk_162 0 110 (dk_at dksX13_keep_2 5 rfl rfl)
theorem dX13_keep_54 : decode cX13_keep 54 = .ok (.aload_n 0, 1) := dk_42 (dk_at dksX13_keep_2 8 rfl rfl)
theorem dX13_keep_55 : decode cX13_keep 55 = .ok (.getfield 9, 3) := dk_180 0 9 (dk_at dksX13_keep_2 9 rfl rfl)
theorem dX13_keep_58 : decode cX13_keep 58 = .ok (.iload_n 2, 1) := dk_28 (dk_at dksX13_keep_2 12 rfl rfl)
theorem dX13_keep_59 : decode cX13_keep 59 = .ok (.iaload, 1) := dk_46 (dk_at dksX13_keep_2 13 rfl rfl)
theorem dX13_keep_60 : decode cX13_keep 60 = .ok (.aload_n 0, 1) := dk_42 (dk_at dksX13_keep_2 14 rfl rfl)
theorem dX13_keep_61 : decode cX13_keep 61 = .ok (.getfield 18, 3) := dk_180 0 18 (dk_at dksX13_keep_2 15 rfl rfl)
theorem dX13_keep_64 : decode cX13_keep 64 = .ok (.iload_n 3, 1) := dk_29 (dk_at dksX13_keep_2 18 rfl rfl)
theorem dX13_keep_65 : decode cX13_keep 65 = .ok (.invokeinterface 33 2, 5) := by decide +kernel
theorem dX13_keep_70 : decode cX13_keep 70 = .ok (.checkcast 37, 3) := dk_192 0 37 (dk_at dksX13_keep_3 0 rfl rfl)
theorem dX13_keep_73 : decode cX13_keep 73 = .ok (.invokevirtual 39, 3) := dk_182 0 39 (dk_at dksX13_keep_3 3 rfl rfl)
theorem dX13_keep_76 : decode cX13_keep 76 = .ok (.invokestatic 42, 3) := dk_184 0 42 (dk_at dksX13_keep_3 6 rfl rfl)
theorem dX13_keep_79 : decode cX13_keep 79 = .ok (.ifCond .eq 35, 3) := dk_153 0 35 (dk_at dksX13_keep_3 9 rfl rfl)
theorem dX13_keep_82 : decode cX13_keep 82 = .ok (.aload_n 0, 1) := dk_42 (dk_at dksX13_keep_3 12 rfl rfl)
theorem dX13_keep_83 : decode cX13_keep 83 = .ok (.aload_n 1, 1) := dk_43 (dk_at dksX13_keep_3 13 rfl rfl)
theorem dX13_keep_84 : decode cX13_keep 84 = .ok (.iload_n 2, 1) := dk_28 (dk_at dksX13_keep_3 14 rfl rfl)
theorem dX13_keep_85 : decode cX13_keep 85 = .ok (.invokevirtual 46, 3) := dk_182 0 46 (dk_at dksX13_keep_3 15 rfl rfl)
theorem dX13_keep_88 : decode cX13_keep 88 = .ok (.aload_n 0, 1) := dk_42 (dk_at dksX13_keep_3 18 rfl rfl)
theorem dX13_keep_89 : decode cX13_keep 89 = .ok (.getfield 18, 3) := dk_180 0 18 (dk_at dksX13_keep_3 19 rfl rfl)
theorem dX13_keep_92 : decode cX13_keep 92 = .ok (.iload_n 3, 1) := dk_29 (dk_at dksX13_keep_3 22 rfl rfl)
theorem dX13_keep_93 : decode cX13_keep 93 = .ok (.invokeinterface 33 2, 5) := by decide +kernel
theorem dX13_keep_98 : decode cX13_keep 98 = .ok (.checkcast 37, 3) := dk_192 0 37 (dk_at dksX13_keep_4 5 rfl rfl)
theorem dX13_keep_101 : decode cX13_keep 101 = .ok (.invokevirtual 50, 3) := dk_182 0 50 (dk_at dksX13_keep_4 8 rfl rfl)
theorem dX13_keep_104 : decode cX13_keep 104 = .ok (.invokestatic 42, 3) := dk_184 0 42 (dk_at dksX13_keep_4 11 rfl rfl)
theorem dX13_keep_107 : decode cX13_keep 107 = .ok (.ifCond .eq 7, 3) := dk_153 0 7 (dk_at dksX13_keep_4 14 rfl rfl)
theorem dX13_keep_110 : decode cX13_keep 110 = .ok (.iconst 1, 1) := dk_4 (dk_at dksX13_keep_4 17 rfl rfl)
theorem dX13_keep_111 : decode cX13_keep 111 = .ok (.goto 4, 3) := dk_167 0 4 (dk_at dksX13_keep_4 18 rfl rfl)
theorem dX13_keep_114 : decode cX13_keep 114 = .ok (.iconst 0, 1) := dk_3 (dk_at dksX13_keep_4 21 rfl rfl)
theorem dX13_keep_115 : decode cX13_keep 115 = .ok (.istore 4, 2) := dk_54 4 (dk_at dksX13_keep_4 22 rfl rfl)
theorem dX13_keep_117 : decode cX13_keep 117 = .ok (.aload_n 0, 1) := dk_42 (dk_at dksX13_keep_5 0 rfl rfl)
theorem dX13_keep_118 : decode cX13_keep 118 = .ok (.getfield 9, 3) := dk_180 0 9 (dk_at dksX13_keep_5 1 rfl rfl)
theorem dX13_keep_121 : decode cX13_keep 121 = .ok (.iload_n 2, 1) := dk_28 (dk_at dksX13_keep_5 4 rfl rfl)
theorem dX13_keep_122 : decode cX13_keep 122 = .ok (.iconst 1, 1) := dk_4 (dk_at dksX13_keep_5 5 rfl rfl)
theorem dX13_keep_123 : decode cX13_keep 123 = .ok (.iadd, 1) := dk_96 (dk_at dksX13_keep_5 6 rfl rfl)
theorem dX13_keep_124 : decode cX13_keep 124 = .ok (.dup2, 1) := dk_92 (dk_at dksX13_keep_5 7 rfl rfl)
theorem dX13_keep_125 : decode cX13_keep 125 = .ok (.iaload, 1) := dk_46 (dk_at dksX13_keep_5 8 rfl rfl)
theorem dX13_keep_126 : decode cX13_keep 126 = .ok (.iload 4, 2) := dk_21 4 (dk_at dksX13_keep_5 9 rfl rfl)
theorem dX13_keep_128 : decode cX13_keep 128 = .ok (.ifCond .eq 24, 3) := dk_153 0 24 (dk_at dksX13_keep_5 11 rfl rfl)
theorem dX13_keep_131 : decode cX13_keep 131 = .ok (.iconst 1, 1) := dk_4 (dk_at dksX13_keep_5 14 rfl rfl)
theorem dX13_keep_132 : decode cX13_keep 132 = .ok (.aload_n 0, 1) := dk_42 (dk_at dksX13_keep_5 15 rfl rfl)
theorem dX13_keep_133 : decode cX13_keep 133 = .ok (.getfield 18, 3) := dk_180 0 18 (dk_at dksX13_keep_5 16 rfl rfl)
theorem dX13_keep_136 : decode cX13_keep 136 = .ok (.iload_n 3, 1) := dk_29 (dk_at dksX13_keep_5 19 rfl rfl)
theorem dX13_keep_137 : decode cX13_keep 137 = .ok (.invokeinterface 33 2, 5) := by decide +kernel
theorem dX13_keep_142 : decode cX13_keep 142 = .ok (.checkcast 37, 3) := dk_192 0 37 (dk_at dksX13_keep_6 5 rfl rfl)
theorem dX13_keep_145 : decode cX13_keep 145 = .ok (.invokevirtual 53, 3) := dk_182 0 53 (dk_at dksX13_keep_6 8 rfl rfl)
theorem dX13_keep_148 : decode cX13_keep 148 = .ok (.ishl, 1) := dk_120 (dk_at dksX13_keep_6 11 rfl rfl)
theorem dX13_keep_149 : decode cX13_keep 149 = .ok (.goto 4, 3) := dk_167 0 4 (dk_at dksX13_keep_6 12 rfl rfl)
theorem dX13_keep_152 : decode cX13_keep 152 = .ok (.iconst 0, 1) := dk_3 (dk_at dksX13_keep_6 15 rfl rfl)
theorem dX13_keep_153 : decode cX13_keep 153 = .ok (.ior, 1) := dk_128 (dk_at dksX13_keep_6 16 rfl rfl)
theorem dX13_keep_154 : decode cX13_keep 154 = .ok (.iastore, 1) := dk_79 (dk_at dksX13_keep_6 17 rfl rfl)
theorem dX13_keep_155 : decode cX13_keep 155 = .ok (.iinc 3 1, 3) := dk_132 3 1 (dk_at dksX13_keep_6 18 rfl rfl)
theorem dX13_keep_158 : decode cX13_keep 158 = .ok (.goto (-117), 3) := dk_167 255 139 (dk_at dksX13_keep_6 21 rfl rfl)
theorem dX13_keep_161 : decode cX13_keep 161 = .ok (.iinc 2 1, 3) := dk_132 2 1 (dk_at dksX13_keep_7 0 rfl rfl)
theorem dX13_keep_164 : decode cX13_keep 164 = .ok (.goto (-142), 3) := dk_167 255 114 (dk_at dksX13_keep_7 3 rfl rfl)
theorem dX13_keep_167 : decode cX13_keep 167 = .ok (.aload_n 0, 1) := dk_42 (dk_at dksX13_keep_7 6 rfl rfl)
theorem dX13_keep_168 : decode cX13_keep 168 = .ok (.invokevirtual 26, 3) := dk_182 0 26 (dk_at dksX13_keep_7 7 rfl rfl)
theorem dX13_keep_171 : decode cX13_keep 171 = .ok (.iconst 1, 1) := dk_4 (dk_at dksX13_keep_7 10 rfl rfl)
theorem dX13_keep_172 : decode cX13_keep 172 = .ok (.isub, 1) := dk_100 (dk_at dksX13_keep_7 11 rfl rfl)
theorem dX13_keep_173 : decode cX13_keep 173 = .ok (.istore_n 2, 1) := dk_61 (dk_at dksX13_keep_7 12 rfl rfl)
theorem dX13_keep_174 : decode cX13_keep 174 = .ok (.iload_n 2, 1) := dk_28 (dk_at dksX13_keep_7 13 rfl rfl)
theorem dX13_keep_175 : decode cX13_keep 175 = .ok (.ifCond .lt 169, 3) := dk_155 0 169 (dk_at dksX13_keep_7 14 rfl rfl)
theorem dX13_keep_178 : decode cX13_keep 178 = .ok (.aload_n 0, 1) := dk_42 (dk_at dksX13_keep_7 17 rfl rfl)
theorem dX13_keep_179 : decode cX13_keep 179 = .ok (.getfield 15, 3) := dk_180 0 15 (dk_at dksX13_keep_7 18 rfl rfl)
theorem dX13_keep_182 : decode cX13_keep 182 = .ok (.iload_n 2, 1) := dk_28 (dk_at dksX13_keep_7 21 rfl rfl)
theorem dX13_keep_183 : decode cX13_keep 183 = .ok (.iconst 0, 1) := dk_3 (dk_at dksX13_keep_7 22 rfl rfl)
theorem dX13_keep_184 : decode cX13_keep 184 = .ok (.iastore, 1) := dk_79 (dk_at dksX13_keep_7 23 rfl rfl)
theorem dX13_keep_185 : decode cX13_keep 185 = .ok (.aload_n 0, 1) := dk_42 (dk_at dksX13_keep_8 0 rfl rfl)
theorem dX13_keep_186 : decode cX13_keep 186 = .ok (.getfield 56, 3) := dk_180 0 56 (dk_at dksX13_keep_8 1 rfl rfl)
theorem dX13_keep_189 : decode cX13_keep 189 = .ok (.iload_n 2, 1) := dk_28 (dk_at dksX13_keep_8 4 rfl rfl)
theorem dX13_keep_190 : decode cX13_keep 190 = .ok (.iconst 0, 1) := dk_3 (dk_at dksX13_keep_8 5 rfl rfl)
theorem dX13_keep_191 : decode cX13_keep 191 = .ok (.iastore, 1) := dk_79 (dk_at dksX13_keep_8 6 rfl rfl)
theorem dX13_keep_192 : decode cX13_keep 192 = .ok (.iconst 0, 1) := dk_3 (dk_at dksX13_keep_8 7 rfl rfl)
theorem dX13_keep_193 : decode cX13_keep 193 = .ok (.istore_n 3, 1) := dk_62 (dk_at dksX13_keep_8 8 rfl rfl)
theorem dX13_keep_194 : decode cX13_keep 194 = .ok (.iload_n 3, 1) := dk_29 (dk_at dksX13_keep_8 9 rfl rfl)
theorem dX13_keep_195 : decode cX13_keep 195 = .ok (.aload_n 0, 1) := dk_42 (dk_at dksX13_keep_8 10 rfl rfl)
theorem dX13_keep_196 : decode cX13_keep 196 = .ok (.getfield 18, 3) := dk_180 0 18 (dk_at dksX13_keep_8 11 rfl rfl)
theorem dX13_keep_199 : decode cX13_keep 199 = .ok (.invokeinterface 30 1, 5) := by decide +kernel
theorem dX13_keep_204 : decode cX13_keep 204 = .ok (.if_icmp .ge 134, 3) := dk_162 0 134 (dk_at dksX13_keep_8 19 rfl rfl)
theorem dX13_keep_207 : decode cX13_keep 207 = .ok (.aload_n 0, 1) := dk_42 (dk_at dksX13_keep_8 22 rfl rfl)
theorem dX13_keep_208 : decode cX13_keep 208 = .ok (.getfield 18, 3) := dk_180 0 18 (dk_at dksX13_keep_9 0 rfl rfl)
theorem dX13_keep_211 : decode cX13_keep 211 = .ok (.iload_n 3, 1) := dk_29 (dk_at dksX13_keep_9 3 rfl rfl)
theorem dX13_keep_212 : decode cX13_keep 212 = .ok (.invokeinterface 33 2, 5) := by decide +kernel
theorem dX13_keep_217 : decode cX13_keep 217 = .ok (.checkcast 37, 3) := dk_192 0 37 (dk_at dksX13_keep_9 9 rfl rfl)
theorem dX13_keep_220 : decode cX13_keep 220 = .ok (.astore 4, 2) := dk_58 4 (dk_at dksX13_keep_9 12 rfl rfl)
theorem dX13_keep_222 : decode cX13_keep 222 = .ok (.aload_n 0, 1) := dk_42 (dk_at dksX13_keep_9 14 rfl rfl)
theorem dX13_keep_223 : decode cX13_keep 223 = .ok (.getfield 15, 3) := dk_180 0 15 (dk_at dksX13_keep_9 15 rfl rfl)
theorem dX13_keep_226 : decode cX13_keep 226 = .ok (.iload_n 2, 1) := dk_28 (dk_at dksX13_keep_9 18 rfl rfl)
theorem dX13_keep_227 : decode cX13_keep 227 = .ok (.iconst 1, 1) := dk_4 (dk_at dksX13_keep_9 19 rfl rfl)
theorem dX13_keep_228 : decode cX13_keep 228 = .ok (.iadd, 1) := dk_96 (dk_at dksX13_keep_9 20 rfl rfl)
theorem dX13_keep_229 : decode cX13_keep 229 = .ok (.iaload, 1) := dk_46 (dk_at dksX13_keep_9 21 rfl rfl)
theorem dX13_keep_230 : decode cX13_keep 230 = .ok (.aload 4, 2) := dk_25 4 (dk_at dksX13_keep_9 22 rfl rfl)
theorem dX13_keep_232 : decode cX13_keep 232 = .ok (.invokevirtual 53, 3) := dk_182 0 53 (dk_at dksX13_keep_10 0 rfl rfl)
theorem dX13_keep_235 : decode cX13_keep 235 = .ok (.invokestatic 42, 3) := dk_184 0 42 (dk_at dksX13_keep_10 3 rfl rfl)
theorem dX13_keep_238 : decode cX13_keep 238 = .ok (.ifCond .eq 24, 3) := dk_153 0 24 (dk_at dksX13_keep_10 6 rfl rfl)
theorem dX13_keep_241 : decode cX13_keep 241 = .ok (.aload_n 0, 1) := dk_42 (dk_at dksX13_keep_10 9 rfl rfl)
theorem dX13_keep_242 : decode cX13_keep 242 = .ok (.aload_n 1, 1) := dk_43 (dk_at dksX13_keep_10 10 rfl rfl)
theorem dX13_keep_243 : decode cX13_keep 243 = .ok (.iload_n 2, 1) := dk_28 (dk_at dksX13_keep_10 11 rfl rfl)
theorem dX13_keep_244 : decode cX13_keep 244 = .ok (.invokevirtual 46, 3) := dk_182 0 46 (dk_at dksX13_keep_10 12 rfl rfl)
theorem dX13_keep_247 : decode cX13_keep 247 = .ok (.aload 4, 2) := dk_25 4 (dk_at dksX13_keep_10 15 rfl rfl)
theorem dX13_keep_249 : decode cX13_keep 249 = .ok (.invokevirtual 50, 3) := dk_182 0 50 (dk_at dksX13_keep_10 17 rfl rfl)
theorem dX13_keep_252 : decode cX13_keep 252 = .ok (.invokestatic 42, 3) := dk_184 0 42 (dk_at dksX13_keep_10 20 rfl rfl)
theorem dX13_keep_255 : decode cX13_keep 255 = .ok (.ifCond .eq 7, 3) := dk_153 0 7 (dk_at dksX13_keep_11 0 rfl rfl)
theorem dX13_keep_258 : decode cX13_keep 258 = .ok (.iconst 1, 1) := dk_4 (dk_at dksX13_keep_11 3 rfl rfl)
theorem dX13_keep_259 : decode cX13_keep 259 = .ok (.goto 4, 3) := dk_167 0 4 (dk_at dksX13_keep_11 4 rfl rfl)
theorem dX13_keep_262 : decode cX13_keep 262 = .ok (.iconst 0, 1) := dk_3 (dk_at dksX13_keep_11 7 rfl rfl)
theorem dX13_keep_263 : decode cX13_keep 263 = .ok (.istore 5, 2) := dk_54 5 (dk_at dksX13_keep_11 8 rfl rfl)
theorem dX13_keep_265 : decode cX13_keep 265 = .ok (.aload_n 0, 1) := dk_42 (dk_at dksX13_keep_11 10 rfl rfl)
theorem dX13_keep_266 : decode cX13_keep 266 = .ok (.getfield 15, 3) := dk_180 0 15 (dk_at dksX13_keep_11 11 rfl rfl)
theorem dX13_keep_269 : decode cX13_keep 269 = .ok (.iload_n 2, 1) := dk_28 (dk_at dksX13_keep_11 14 rfl rfl)
theorem dX13_keep_270 : decode cX13_keep 270 = .ok (.dup2, 1) := dk_92 (dk_at dksX13_keep_11 15 rfl rfl)
theorem dX13_keep_271 : decode cX13_keep 271 = .ok (.iaload, 1) := dk_46 (dk_at dksX13_keep_11 16 rfl rfl)
theorem dX13_keep_272 : decode cX13_keep 272 = .ok (.iload 5, 2) := dk_21 5 (dk_at dksX13_keep_11 17 rfl rfl)
theorem dX13_keep_274 : decode cX13_keep 274 = .ok (.ifCond .eq 13, 3) := dk_153 0 13 (dk_at dksX13_keep_11 19 rfl rfl)
theorem dX13_keep_277 : decode cX13_keep 277 = .ok (.iconst 1, 1) := dk_4 (dk_at dksX13_keep_11 22 rfl rfl)
theorem dX13_keep_278 : decode cX13_keep 278 = .ok (.aload 4, 2) := dk_25 4 (dk_at dksX13_keep_12 0 rfl rfl)
theorem dX13_keep_280 : decode cX13_keep 280 = .ok (.invokevirtual 39, 3) := dk_182 0 39 (dk_at dksX13_keep_12 2 rfl rfl)
theorem dX13_keep_283 : decode cX13_keep 283 = .ok (.ishl, 1) := dk_120 (dk_at dksX13_keep_12 5 rfl rfl)
theorem dX13_keep_284 : decode cX13_keep 284 = .ok (.goto 4, 3) := dk_167 0 4 (dk_at dksX13_keep_12 6 rfl rfl)
theorem dX13_keep_287 : decode cX13_keep 287 = .ok (.iconst 0, 1) := dk_3 (dk_at dksX13_keep_12 9 rfl rfl)
theorem dX13_keep_288 : decode cX13_keep 288 = .ok (.ior, 1) := dk_128 (dk_at dksX13_keep_12 10 rfl rfl)
theorem dX13_keep_289 : decode cX13_keep 289 = .ok (.iastore, 1) := dk_79 (dk_at dksX13_keep_12 11 rfl rfl)
theorem dX13_keep_290 : decode cX13_keep 290 = .ok (.aload_n 0, 1) := dk_42 (dk_at dksX13_keep_12 12 rfl rfl)
theorem dX13_keep_291 : decode cX13_keep 291 = .ok (.getfield 56, 3) := dk_180 0 56 (dk_at dksX13_keep_12 13 rfl rfl)
theorem dX13_keep_294 : decode cX13_keep 294 = .ok (.iload_n 2, 1) := dk_28 (dk_at dksX13_keep_12 16 rfl rfl)
theorem dX13_keep_295 : decode cX13_keep 295 = .ok (.dup2, 1) := dk_92 (dk_at dksX13_keep_12 17 rfl rfl)
theorem dX13_keep_296 : decode cX13_keep 296 = .ok (.iaload, 1) := dk_46 (dk_at dksX13_keep_12 18 rfl rfl)
theorem dX13_keep_297 : decode cX13_keep 297 = .ok (.iload 5, 2) := dk_21 5 (dk_at dksX13_keep_12 19 rfl rfl)
theorem dX13_keep_299 : decode cX13_keep 299 = .ok (.ifCond .eq 30, 3) := dk_153 0 30 (dk_at dksX13_keep_12 21 rfl rfl)
theorem dX13_keep_302 : decode cX13_keep 302 = .ok (.aload_n 0, 1) := dk_42 (dk_at dksX13_keep_13 0 rfl rfl)
theorem dX13_keep_303 : decode cX13_keep 303 = .ok (.getfield 9, 3) := dk_180 0 9 (dk_at dksX13_keep_13 1 rfl rfl)
theorem dX13_keep_306 : decode cX13_keep 306 = .ok (.iload_n 2, 1) := dk_28 (dk_at dksX13_keep_13 4 rfl rfl)
theorem dX13_keep_307 : decode cX13_keep 307 = .ok (.iaload, 1) := dk_46 (dk_at dksX13_keep_13 5 rfl rfl)
theorem dX13_keep_308 : decode cX13_keep 308 = .ok (.aload 4, 2) := dk_25 4 (dk_at dksX13_keep_13 6 rfl rfl)
theorem dX13_keep_310 : decode cX13_keep 310 = .ok (.invokevirtual 39, 3) := dk_182 0 39 (dk_at dksX13_keep_13 8 rfl rfl)
theorem dX13_keep_313 : decode cX13_keep 313 = .ok (.invokestatic 42, 3) := dk_184 0 42 (dk_at dksX13_keep_13 11 rfl rfl)
theorem dX13_keep_316 : decode cX13_keep 316 = .ok (.ifCond .eq 13, 3) := dk_153 0 13 (dk_at dksX13_keep_13 14 rfl rfl)
theorem dX13_keep_319 : decode cX13_keep 319 = .ok (.iconst 1, 1) := dk_4 (dk_at dksX13_keep_13 17 rfl rfl)
theorem dX13_keep_320 : decode cX13_keep 320 = .ok (.aload 4, 2) := dk_25 4 (dk_at dksX13_keep_13 18 rfl rfl)
theorem dX13_keep_322 : decode cX13_keep 322 = .ok (.invokevirtual 50, 3) := dk_182 0 50 (dk_at dksX13_keep_13 20 rfl rfl)
theorem dX13_keep_325 : decode cX13_keep 325 = .ok (.ishl, 1) := dk_120 (dk_at dksX13_keep_13 23 rfl rfl)
theorem dX13_keep_326 : decode cX13_keep 326 = .ok (.goto 4, 3) := dk_167 0 4 (dk_at dksX13_keep_14 0 rfl rfl)
theorem dX13_keep_329 : decode cX13_keep 329 = .ok (.iconst 0, 1) := dk_3 (dk_at dksX13_keep_14 3 rfl rfl)
theorem dX13_keep_330 : decode cX13_keep 330 = .ok (.ior, 1) := dk_128 (dk_at dksX13_keep_14 4 rfl rfl)
theorem dX13_keep_331 : decode cX13_keep 331 = .ok (.iastore, 1) := dk_79 (dk_at dksX13_keep_14 5 rfl rfl)
theorem dX13_keep_332 : decode cX13_keep 332 = .ok (.iinc 3 1, 3) := dk_132 3 1 (dk_at dksX13_keep_14 6 rfl rfl)
theorem dX13_keep_335 : decode cX13_keep 335 = .ok (.goto (-141), 3) := dk_167 255 115 (dk_at dksX13_keep_14 9 rfl rfl)
theorem dX13_keep_338 : decode cX13_keep 338 = .ok (.iinc 2 (-1), 3) := dk_132 2 255 (dk_at dksX13_keep_14 12 rfl rfl)
theorem dX13_keep_341 : decode cX13_keep 341 = .ok (.goto (-167), 3) := dk_167 255 89 (dk_at dksX13_keep_14 15 rfl rfl)
theorem dX13_keep_344 : decode cX13_keep 344 = .ok (.return_, 1) := dk_177 (dk_at dksX13_keep_14 18 rfl rfl)
def dkwX13_init_1 : List UInt8 := [181, 0, 18, 42, 29, 181, 0, 22, 177]
abbrev dktX13_init_1 : List UInt8 := dkwX13_init_1 ++ []
def dkwX13_init_0 : List UInt8 := [42, 43, 183, 0, 3, 42, 16, 7, 188, 10, 181, 0, 9, 42, 16, 7, 188, 10, 181, 0, 15, 42, 44]
abbrev dktX13_init_0 : List UInt8 := dkwX13_init_0 ++ dktX13_init_1
theorem dksX13_init_0 : cX13_init.data.toList.drop 0 = dktX13_init_0 := by decide +kernel
theorem dksX13_init_1 : cX13_init.data.toList.drop 23 = dktX13_init_1 := dk_seg dksX13_init_0 23 rfl rfl
theorem dX13_init_0 : decode cX13_init 0 = .ok (.aload_n 0, 1) := dk_42 (dk_at dksX13_init_0 0 rfl rfl)
theorem dX13_init_1 : decode cX13_init 1 = .ok (.aload_n 1, 1) := dk_43 (dk_at dksX13_init_0 1 rfl rfl)
theorem dX13_init_2 : decode cX13_init 2 = .ok (.invokespecial 3, 3) := dk_183 0 3 (dk_at dksX13_init_0 2 rfl rfl)
theorem dX13_init_5 : decode cX13_init 5 = .ok (.aload_n 0, 1) := dk_42 (dk_at dksX13_init_0 5 rfl rfl)
theorem dX13_init_6 : decode cX13_init 6 = .ok (.bipush 7, 2) := dk_16 7 (dk_at dksX13_init_0 6 rfl rfl)
theorem dX13_init_8 : decode cX13_init 8 = .ok (.newarray .int, 2) := dk_188_10 (dk_at dksX13_init_0 8 rfl rfl)
theorem dX13_init_10 : decode cX13_init 10 = .ok (.putfield 9, 3) := dk_181 0 9 (dk_at dksX13_init_0 10 rfl rfl)
theorem dX13_init_13 : decode cX13_init 13 = .ok (.aload_n 0, 1) := dk_42 (dk_at dksX13_init_0 13 rfl rfl)
theorem dX13_init_14 : decode cX13_init 14 = .ok (.bipush 7, 2) := dk_16 7 (dk_at dksX13_init_0 14 rfl rfl)
theorem dX13_init_16 : decode cX13_init 16 = .ok (.newarray .int, 2) := dk_188_10 (dk_at dksX13_init_0 16 rfl rfl)
theorem dX13_init_18 : decode cX13_init 18 = .ok (.putfield 15, 3) := dk_181 0 15 (dk_at dksX13_init_0 18 rfl rfl)
theorem dX13_init_21 : decode cX13_init 21 = .ok (.aload_n 0, 1) := dk_42 (dk_at dksX13_init_0 21 rfl rfl)
theorem dX13_init_22 : decode cX13_init 22 = .ok (.aload_n 2, 1) := dk_44 (dk_at dksX13_init_0 22 rfl rfl)
theorem dX13_init_23 : decode cX13_init 23 = .ok (.putfield 18, 3) := dk_181 0 18 (dk_at dksX13_init_1 0 rfl rfl)
theorem dX13_init_26 : decode cX13_init 26 = .ok (.aload_n 0, 1) := dk_42 (dk_at dksX13_init_1 3 rfl rfl)
theorem dX13_init_27 : decode cX13_init 27 = .ok (.iload_n 3, 1) := dk_29 (dk_at dksX13_init_1 4 rfl rfl)
theorem dX13_init_28 : decode cX13_init 28 = .ok (.putfield 22, 3) := dk_181 0 22 (dk_at dksX13_init_1 5 rfl rfl)
theorem dX13_init_31 : decode cX13_init 31 = .ok (.return_, 1) := dk_177 (dk_at dksX13_init_1 8 rfl rfl)
def dkwX14_keep_9 : List UInt8 := [132, 3, 1, 167, 255, 190, 177]
abbrev dktX14_keep_9 : List UInt8 := dkwX14_keep_9 ++ []
def dkwX14_keep_8 : List UInt8 := [167, 0, 22, 42, 43, 29, 182, 0, 27, 153, 0, 12, 42, 43, 3, 182, 0, 13, 167, 0, 4, 3, 79]
abbrev dktX14_keep_8 : List UInt8 := dkwX14_keep_8 ++ dktX14_keep_9
def dkwX14_keep_7 : List UInt8 := [153, 0, 7, 4, 167, 0, 4, 3, 54, 4, 42, 180, 0, 23, 29, 5, 96, 21, 4, 153, 0, 7, 2]
abbrev dktX14_keep_7 : List UInt8 := dkwX14_keep_7 ++ dktX14_keep_8
def dkwX14_keep_6 : List UInt8 := [167, 255, 130, 3, 62, 29, 42, 182, 0, 7, 5, 100, 162, 0, 62, 28, 4, 29, 120, 2, 130, 126]
abbrev dktX14_keep_6 : List UInt8 := dkwX14_keep_6 ++ dktX14_keep_7
def dkwX14_keep_5 : List UInt8 := [167, 0, 4, 3, 128, 79, 28, 21, 4, 153, 0, 9, 4, 29, 120, 167, 0, 4, 3, 128, 61, 132, 3, 1]
abbrev dktX14_keep_5 : List UInt8 := dkwX14_keep_5 ++ dktX14_keep_6
def dkwX14_keep_4 : List UInt8 := [4, 92, 46, 42, 43, 3, 182, 0, 13, 42, 43, 29, 5, 96, 182, 0, 13, 126, 153, 0, 9, 4, 29, 120]
abbrev dktX14_keep_4 : List UInt8 := dkwX14_keep_4 ++ dktX14_keep_5
def dkwX14_keep_3 : List UInt8 := [182, 0, 27, 153, 0, 14, 42, 43, 29, 5, 96, 182, 0, 13, 167, 0, 4, 3, 128, 79, 42, 180, 0, 23]
abbrev dktX14_keep_3 : List UInt8 := dkwX14_keep_3 ++ dktX14_keep_4
def dkwX14_keep_2 : List UInt8 := [182, 0, 13, 126, 153, 0, 7, 4, 167, 0, 4, 3, 54, 4, 42, 180, 0, 23, 3, 92, 46, 42, 43, 29]
abbrev dktX14_keep_2 : List UInt8 := dkwX14_keep_2 ++ dktX14_keep_3
def dkwX14_keep_1 : List UInt8 := [100, 162, 0, 122, 42, 43, 29, 182, 0, 27, 153, 0, 25, 42, 43, 3, 182, 0, 13, 42, 43, 29, 5, 96]
abbrev dktX14_keep_1 : List UInt8 := dkwX14_keep_1 ++ dktX14_keep_2
def dkwX14_keep_0 : List UInt8 := [42, 180, 0, 23, 3, 3, 79, 42, 180, 0, 23, 4, 3, 79, 3, 61, 3, 62, 29, 42, 182, 0, 7, 5]
abbrev dktX14_keep_0 : List UInt8 := dkwX14_keep_0 ++ dktX14_keep_1
theorem dksX14_keep_0 : cX14_keep.data.toList.drop 0 = dktX14_keep_0 := by decide +kernel
theorem dksX14_keep_1 : cX14_keep.data.toList.drop 24 = dktX14_keep_1 := dk_seg dksX14_keep_0 24 rfl rfl
theorem dksX14_keep_2 : cX14_keep.data.toList.drop 48 = dktX14_keep_2 := dk_seg dksX14_keep_1 24 rfl rfl
theorem dksX14_keep_3 : cX14_keep.data.toList.drop 72 = dktX14_keep_3 := dk_seg dksX14_keep_2 24 rfl rfl
theorem dksX14_keep_4 : cX14_keep.data.toList.drop 96 = dktX14_keep_4 := dk_seg dksX14_keep_3 24 rfl rfl
theorem dksX14_keep_5 : cX14_keep.data.toList.drop 120 = dktX14_keep_5 := dk_seg dksX14_keep_4 24 rfl rfl
theorem dksX14_keep_6 : cX14_keep.data.toList.drop 144 = dktX14_keep_6 := dk_seg dksX14_keep_5 24 rfl rfl
theorem dksX14_keep_7 : cX14_keep.data.toList.drop 166 = dktX14_keep_7 := dk_seg dksX14_keep_6 22 rfl rfl
theorem dksX14_keep_8 : cX14_keep.data.toList.drop 189 = dktX14_keep_8 := dk_seg dksX14_keep_7 23 rfl rfl
theorem dksX14_keep_9 : cX14_keep.data.toList.drop 212 = dktX14_keep_9 := dk_seg dksX14_keep_8 23 rfl rfl
theorem dX14_keep_0 : decode cX14_keep 0 = .ok (.aload_n 0, 1) := dk_42 (dk_at dksX14_keep_0 0 rfl rfl)
theorem dX14_keep_1 : decode cX14_keep 1 = .ok (.getfield 23, 3) := dk_180 0 23 (dk_at dksX14_keep_0 1 rfl rfl)
theorem dX14_keep_4 : decode cX14_keep 4 = .ok (.iconst 0, 1) := dk_3 (dk_at dksX14_keep_0 4 rfl rfl)
theorem dX14_keep_5 : decode cX14_keep 5 = .ok (.iconst 0, 1) := dk_3 (dk_at dksX14_keep_0 5 rfl rfl)
theorem dX14_keep_6 : decode cX14_keep 6 = .ok (.iastore, 1) := dk_79 (dk_at dksX14_keep_0 6 rfl rfl)
theorem dX14_keep_7 : decode cX14_keep 7 = .ok (.aload_n 0, 1) := dk_42 (dk_at dksX14_keep_0 7 rfl rfl)
theorem dX14_keep_8 : decode cX14_keep 8 = .ok (.getfield 23, 3) := dk_180 0 23 (dk_at dksX14_keep_0 8 rfl rfl)
theorem dX14_keep_11 : decode cX14_keep 11 = .ok (.iconst 1, 1) := dk_4 (dk_at dksX14_keep_0 11 rfl rfl)
theorem dX14_keep_12 : decode cX14_keep 12 = .ok (.iconst 0, 1) := dk_3 (dk_at dksX14_keep_0 12 rfl rfl)
theorem dX14_keep_13 : decode cX14_keep 13 = .ok (.iastore, 1) := dk_79 (dk_at dksX14_keep_0 13 rfl rfl)
theorem dX14_keep_14 : decode cX14_keep 14 = .ok (.iconst 0, 1) := dk_3 (dk_at dksX14_keep_0 14 rfl rfl)
theorem dX14_keep_15 : decode cX14_keep 15 = .ok (.istore_n 2, 1) := dk_61 (dk_at dksX14_keep_0 15 rfl rfl)
theorem dX14_keep_16 : decode cX14_keep 16 = .ok (.iconst 0, 1) := dk_3 (dk_at dksX14_keep_0 16 rfl rfl)
theorem dX14_keep_17 : decode cX14_keep 17 = .ok (.istore_n 3, 1) := dk_62 (dk_at dksX14_keep_0 17 rfl rfl)
theorem dX14_keep_18 : decode cX14_keep 18 = .ok (.iload_n 3, 1) := dk_29 (dk_at dksX14_keep_0 18 rfl rfl)
theorem dX14_keep_19 : decode cX14_keep 19 = .ok (.aload_n 0, 1) := dk_42 (dk_at dksX14_keep_0 19 rfl rfl)
theorem dX14_keep_20 : decode cX14_keep 20 = .ok (.invokevirtual 7, 3) := dk_182 0 7 (dk_at dksX14_keep_0 20 rfl rfl)
theorem dX14_keep_23 : decode cX14_keep 23 = .ok (.iconst 2, 1) := dk_5 (dk_at dksX14_keep_0 23 rfl rfl)
theorem dX14_keep_24 : decode cX14_keep 24 = .ok (.isub, 1) := dk_100 (dk_at dksX14_keep_1 0 rfl rfl)
theorem dX14_keep_25 : decode cX14_keep 25 = .ok (.if_icmp .ge 122, 3) := dk_162 0 122 (dk_at dksX14_keep_1 1 rfl rfl)
theorem dX14_keep_28 : decode cX14_keep 28 = .ok (.aload_n 0, 1) := dk_42 (dk_at dksX14_keep_1 4 rfl rfl)
theorem dX14_keep_29 : decode cX14_keep 29 = .ok (.aload_n 1, 1) := dk_43 (dk_at dksX14_keep_1 5 rfl rfl)
theorem dX14_keep_30 : decode cX14_keep 30 = .ok (.iload_n 3, 1) := dk_29 (dk_at dksX14_keep_1 6 rfl rfl)
theorem dX14_keep_31 : decode cX14_keep 31 = .ok (.invokevirtual 27, 3) := dk_182 0 27 (dk_at dksX14_keep_1 7 rfl rfl)
theorem dX14_keep_34 : decode cX14_keep 34 = .ok (.ifCond .eq 25, 3) := dk_153 0 25 (dk_at dksX14_keep_1 10 rfl rfl)
theorem dX14_keep_37 : decode cX14_keep 37 = .ok (.aload_n 0, 1) := dk_42 (dk_at dksX14_keep_1 13 rfl rfl)
theorem dX14_keep_38 : decode cX14_keep 38 = .ok (.aload_n 1, 1) := dk_43 (dk_at dksX14_keep_1 14 rfl rfl)
theorem dX14_keep_39 : decode cX14_keep 39 = .ok (.iconst 0, 1) := dk_3 (dk_at dksX14_keep_1 15 rfl rfl)
theorem dX14_keep_40 : decode cX14_keep 40 = .ok (.invokevirtual 13, 3) := dk_182 0 13 (dk_at dksX14_keep_1 16 rfl rfl)
theorem dX14_keep_43 : decode cX14_keep 43 = .ok (.aload_n 0, 1) := dk_42 (dk_at dksX14_keep_1 19 rfl rfl)
theorem dX14_keep_44 : decode cX14_keep 44 = .ok (.aload_n 1, 1) := dk_43 (dk_at dksX14_keep_1 20 rfl rfl)
theorem dX14_keep_45 : decode cX14_keep 45 = .ok (.iload_n 3, 1) := dk_29 (dk_at dksX14_keep_1 21 rfl rfl)
theorem dX14_keep_46 : decode cX14_keep 46 = .ok (.iconst 2, 1) := dk_5 (dk_at dksX14_keep_1 22 rfl rfl)
theorem dX14_keep_47 : decode cX14_keep 47 = .ok (.iadd, 1) := dk_96 (dk_at dksX14_keep_1 23 rfl rfl)
theorem dX14_keep_48 : decode cX14_keep 48 = .ok (.invokevirtual 13, 3) := dk_182 0 13 (dk_at dksX14_keep_2 0 rfl rfl)
theorem dX14_keep_51 : decode cX14_keep 51 = .ok (.iand, 1) := dk_126 (dk_at dksX14_keep_2 3 rfl rfl)
theorem dX14_keep_52 : decode cX14_keep 52 = .ok (.ifCond .eq 7, 3) := dk_153 0 7 (dk_at dksX14_keep_2 4 rfl rfl)
theorem dX14_keep_55 : decode cX14_keep 55 = .ok (.iconst 1, 1) := dk_4 (dk_at dksX14_keep_2 7 rfl rfl)
theorem dX14_keep_56 : decode cX14_keep 56 = .ok (.goto 4, 3) := dk_167 0 4 (dk_at dksX14_keep_2 8 rfl rfl)
theorem dX14_keep_59 : decode cX14_keep 59 = .ok (.iconst 0, 1) := dk_3 (dk_at dksX14_keep_2 11 rfl rfl)
theorem dX14_keep_60 : decode cX14_keep 60 = .ok (.istore 4, 2) := dk_54 4 (dk_at dksX14_keep_2 12 rfl rfl)
theorem dX14_keep_62 : decode cX14_keep 62 = .ok (.aload_n 0, 1) := dk_42 (dk_at dksX14_keep_2 14 rfl rfl)
theorem dX14_keep_63 : decode cX14_keep 63 = .ok (.getfield 23, 3) := dk_180 0 23 (dk_at dksX14_keep_2 15 rfl rfl)
theorem dX14_keep_66 : decode cX14_keep 66 = .ok (.iconst 0, 1) := dk_3 (dk_at dksX14_keep_2 18 rfl rfl)
theorem dX14_keep_67 : decode cX14_keep 67 = .ok (.dup2, 1) := dk_92 (dk_at dksX14_keep_2 19 rfl rfl)
theorem dX14_keep_68 : decode cX14_keep 68 = .ok (.iaload, 1) := dk_46 (dk_at dksX14_keep_2 20 rfl rfl)
theorem dX14_keep_69 : decode cX14_keep 69 = .ok (.aload_n 0, 1) := dk_42 (dk_at dksX14_keep_2 21 rfl rfl)
theorem dX14_keep_70 : decode cX14_keep 70 = .ok (.aload_n 1, 1) := dk_43 (dk_at dksX14_keep_2 22 rfl rfl)
theorem dX14_keep_71 : decode cX14_keep 71 = .ok (.iload_n 3, 1) := dk_29 (dk_at dksX14_keep_2 23 rfl rfl)
theorem dX14_keep_72 : decode cX14_keep 72 = .ok (.invokevirtual 27, 3) := dk_182 0 27 (dk_at dksX14_keep_3 0 rfl rfl)
theorem dX14_keep_75 : decode cX14_keep 75 = .ok (.ifCond .eq 14, 3) := dk_153 0 14 (dk_at dksX14_keep_3 3 rfl rfl)
theorem dX14_keep_78 : decode cX14_keep 78 = .ok (.aload_n 0, 1) := dk_42 (dk_at dksX14_keep_3 6 rfl rfl)
theorem dX14_keep_79 : decode cX14_keep 79 = .ok (.aload_n 1, 1) := dk_43 (dk_at dksX14_keep_3 7 rfl rfl)
theorem dX14_keep_80 : decode cX14_keep 80 = .ok (.iload_n 3, 1) := dk_29 (dk_at dksX14_keep_3 8 rfl rfl)
theorem dX14_keep_81 : decode cX14_keep 81 = .ok (.iconst 2, 1) := dk_5 (dk_at dksX14_keep_3 9 rfl rfl)
theorem dX14_keep_82 : decode cX14_keep 82 = .ok (.iadd, 1) := dk_96 (dk_at dksX14_keep_3 10 rfl rfl)
theorem dX14_keep_83 : decode cX14_keep 83 = .ok (.invokevirtual 13, 3) := dk_182 0 13 (dk_at dksX14_keep_3 11 rfl rfl)
theorem dX14_keep_86 : decode cX14_keep 86 = .ok (.goto 4, 3) := dk_167 0 4 (dk_at dksX14_keep_3 14 rfl rfl)
theorem dX14_keep_89 : decode cX14_keep 89 = .ok (.iconst 0, 1) := dk_3 (dk_at dksX14_keep_3 17 rfl rfl)
theorem dX14_keep_90 : decode cX14_keep 90 = .ok (.ior, 1) := dk_128 (dk_at dksX14_keep_3 18 rfl rfl)
theorem dX14_keep_91 : decode cX14_keep 91 = .ok (.iastore, 1) := dk_79 (dk_at dksX14_keep_3 19 rfl rfl)
theorem dX14_keep_92 : decode cX14_keep 92 = .ok (.aload_n 0, 1) := dk_42 (dk_at dksX14_keep_3 20 rfl rfl)
theorem dX14_keep_93 : decode cX14_keep 93 = .ok (.getfield 23, 3) := dk_180 0 23 (dk_at dksX14_keep_3 21 rfl rfl)
theorem dX14_keep_96 : decode cX14_keep 96 = .ok (.iconst 1, 1) := dk_4 (dk_at dksX14_keep_4 0 rfl rfl)
theorem dX14_keep_97 : decode cX14_keep 97 = .ok (.dup2, 1) := dk_92 (dk_at dksX14_keep_4 1 rfl rfl)
theorem dX14_keep_98 : decode cX14_keep 98 = .ok (.iaload, 1) := dk_46 (dk_at dksX14_keep_4 2 rfl rfl)
theorem dX14_keep_99 : decode cX14_keep 99 = .ok (.aload_n 0, 1) := dk_42 (dk_at dksX14_keep_4 3 rfl rfl)
theorem dX14_keep_100 : decode cX14_keep 100 = .ok (.aload_n 1, 1) := dk_43 (dk_at dksX14_keep_4 4 rfl rfl)
theorem dX14_keep_101 : decode cX14_keep 101 = .ok (.iconst 0, 1) := dk_3 (dk_at dksX14_keep_4 5 rfl rfl)
theorem dX14_keep_102 : decode cX14_keep 102 = .ok (.invokevirtual 13, 3) := dk_182 0 13 (dk_at dksX14_keep_4 6 rfl rfl)
theorem dX14_keep_105 : decode cX14_keep 105 = .ok (.aload_n 0, 1) := dk_42 (dk_at dksX14_keep_4 9 rfl rfl)
theorem dX14_keep_106 : decode cX14_keep 106 = .ok (.aload_n 1, 1) := dk_43 (dk_at dksX14_keep_4 10 rfl rfl)
theorem dX14_keep_107 : decode cX14_keep 107 = .ok (.iload_n 3, 1) := dk_29 (dk_at dksX14_keep_4 11 rfl rfl)
theorem dX14_keep_108 : decode cX14_keep 108 = .ok (.iconst 2, 1) := dk_5 (dk_at dksX14_keep_4 12 rfl rfl)
theorem dX14_keep_109 : decode cX14_keep 109 = .ok (.iadd, 1) := dk_96 (dk_at dksX14_keep_4 13 rfl rfl)
theorem dX14_keep_110 : decode cX14_keep 110 = .ok (.invokevirtual 13, 3) := dk_182 0 13 (dk_at dksX14_keep_4 14 rfl rfl)
theorem dX14_keep_113 : decode cX14_keep 113 = .ok (.iand, 1) := dk_126 (dk_at dksX14_keep_4 17 rfl rfl)
theorem dX14_keep_114 : decode cX14_keep 114 = .ok (.ifCond .eq 9, 3) := dk_153 0 9 (dk_at dksX14_keep_4 18 rfl rfl)
theorem dX14_keep_117 : decode cX14_keep 117 = .ok (.iconst 1, 1) := dk_4 (dk_at dksX14_keep_4 21 rfl rfl)
theorem dX14_keep_118 : decode cX14_keep 118 = .ok (.iload_n 3, 1) := dk_29 (dk_at dksX14_keep_4 22 rfl rfl)
theorem dX14_keep_119 : decode cX14_keep 119 = .ok (.ishl, 1) := dk_120 (dk_at dksX14_keep_4 23 rfl rfl)
theorem dX14_keep_120 : decode cX14_keep 120 = .ok (.goto 4, 3) := dk_167 0 4 (dk_at dksX14_keep_5 0 rfl rfl)
theorem dX14_keep_123 : decode cX14_keep 123 = .ok (.iconst 0, 1) := dk_3 (dk_at dksX14_keep_5 3 rfl rfl)
theorem dX14_keep_124 : decode cX14_keep 124 = .ok (.ior, 1) := dk_128 (dk_at dksX14_keep_5 4 rfl rfl)
theorem dX14_keep_125 : decode cX14_keep 125 = .ok (.iastore, 1) := dk_79 (dk_at dksX14_keep_5 5 rfl rfl)
theorem dX14_keep_126 : decode cX14_keep 126 = .ok (.iload_n 2, 1) := dk_28 (dk_at dksX14_keep_5 6 rfl rfl)
theorem dX14_keep_127 : decode cX14_keep 127 = .ok (.iload 4, 2) := dk_21 4 (dk_at dksX14_keep_5 7 rfl rfl)
theorem dX14_keep_129 : decode cX14_keep 129 = .ok (.ifCond .eq 9, 3) := dk_153 0 9 (dk_at dksX14_keep_5 9 rfl rfl)
theorem dX14_keep_132 : decode cX14_keep 132 = .ok (.iconst 1, 1) := dk_4 (dk_at dksX14_keep_5 12 rfl rfl)
theorem dX14_keep_133 : decode cX14_keep 133 = .ok (.iload_n 3, 1) := dk_29 (dk_at dksX14_keep_5 13 rfl rfl)
theorem dX14_keep_134 : decode cX14_keep 134 = .ok (.ishl, 1) := dk_120 (dk_at dksX14_keep_5 14 rfl rfl)
theorem dX14_keep_135 : decode cX14_keep 135 = .ok (.goto 4, 3) := dk_167 0 4 (dk_at dksX14_keep_5 15 rfl rfl)
theorem dX14_keep_138 : decode cX14_keep 138 = .ok (.iconst 0, 1) := dk_3 (dk_at dksX14_keep_5 18 rfl rfl)
theorem dX14_keep_139 : decode cX14_keep 139 = .ok (.ior, 1) := dk_128 (dk_at dksX14_keep_5 19 rfl rfl)
theorem dX14_keep_140 : decode cX14_keep 140 = .ok (.istore_n 2, 1) := dk_61 (dk_at dksX14_keep_5 20 rfl rfl)
theorem dX14_keep_141 : decode cX14_keep 141 = .ok (.iinc 3 1, 3) := dk_132 3 1 (dk_at dksX14_keep_5 21 rfl rfl)
theorem dX14_keep_144 : decode cX14_keep 144 = .ok (.goto (-126), 3) := dk_167 255 130 (dk_at dksX14_keep_6 0 rfl rfl)
theorem dX14_keep_147 : decode cX14_keep 147 = .ok (.iconst 0, 1) := dk_3 (dk_at dksX14_keep_6 3 rfl rfl)
theorem dX14_keep_148 : decode cX14_keep 148 = .ok (.istore_n 3, 1) := dk_62 (dk_at dksX14_keep_6 4 rfl rfl)
theorem dX14_keep_149 : decode cX14_keep 149 = .ok (.iload_n 3, 1) := dk_29 (dk_at dksX14_keep_6 5 rfl rfl)
theorem dX14_keep_150 : decode cX14_keep 150 = .ok (.aload_n 0, 1) := dk_42 (dk_at dksX14_keep_6 6 rfl rfl)
theorem dX14_keep_151 : decode cX14_keep 151 = .ok (.invokevirtual 7, 3) := dk_182 0 7 (dk_at dksX14_keep_6 7 rfl rfl)
theorem dX14_keep_154 : decode cX14_keep 154 = .ok (.iconst 2, 1) := dk_5 (dk_at dksX14_keep_6 10 rfl rfl)
theorem dX14_keep_155 : decode cX14_keep 155 = .ok (.isub, 1) := dk_100 (dk_at dksX14_keep_6 11 rfl rfl)
theorem dX14_keep_156 : decode cX14_keep 156 = .ok (.if_icmp .ge 62, 3) := dk_162 0 62 (dk_at dksX14_keep_6 12 rfl rfl)
theorem dX14_keep_159 : decode cX14_keep 159 = .ok (.iload_n 2, 1) := dk_28 (dk_at dksX14_keep_6 15 rfl rfl)
theorem dX14_keep_160 : decode cX14_keep 160 = .ok (.iconst 1, 1) := dk_4 (dk_at dksX14_keep_6 16 rfl rfl)
theorem dX14_keep_161 : decode cX14_keep 161 = .ok (.iload_n 3, 1) := dk_29 (dk_at dksX14_keep_6 17 rfl rfl)
theorem dX14_keep_162 : decode cX14_keep 162 = .ok (.ishl, 1) := dk_120 (dk_at dksX14_keep_6 18 rfl rfl)
theorem dX14_keep_163 : decode cX14_keep 163 = .ok (.iconst (-1), 1) := dk_2 (dk_at dksX14_keep_6 19 rfl rfl)
theorem dX14_keep_164 : decode cX14_keep 164 = .ok (.ixor, 1) := dk_130 (dk_at dksX14_keep_6 20 rfl rfl)
theorem dX14_keep_165 : decode cX14_keep 165 = .ok (.iand, 1) := dk_126 (dk_at dksX14_keep_6 21 rfl rfl)
theorem dX14_keep_166 : decode cX14_keep 166 = .ok (.ifCond .eq 7, 3) := dk_153 0 7 (dk_at dksX14_keep_7 0 rfl rfl)
theorem dX14_keep_169 : decode cX14_keep 169 = .ok (.iconst 1, 1) := dk_4 (dk_at dksX14_keep_7 3 rfl rfl)
theorem dX14_keep_170 : decode cX14_keep 170 = .ok (.goto 4, 3) := dk_167 0 4 (dk_at dksX14_keep_7 4 rfl rfl)
theorem dX14_keep_173 : decode cX14_keep 173 = .ok (.iconst 0, 1) := dk_3 (dk_at dksX14_keep_7 7 rfl rfl)
theorem dX14_keep_174 : decode cX14_keep 174 = .ok (.istore 4, 2) := dk_54 4 (dk_at dksX14_keep_7 8 rfl rfl)
theorem dX14_keep_176 : decode cX14_keep 176 = .ok (.aload_n 0, 1) := dk_42 (dk_at dksX14_keep_7 10 rfl rfl)
theorem dX14_keep_177 : decode cX14_keep 177 = .ok (.getfield 23, 3) := dk_180 0 23 (dk_at dksX14_keep_7 11 rfl rfl)
theorem dX14_keep_180 : decode cX14_keep 180 = .ok (.iload_n 3, 1) := dk_29 (dk_at dksX14_keep_7 14 rfl rfl)
theorem dX14_keep_181 : decode cX14_keep 181 = .ok (.iconst 2, 1) := dk_5 (dk_at dksX14_keep_7 15 rfl rfl)
theorem dX14_keep_182 : decode cX14_keep 182 = .ok (.iadd, 1) := dk_96 (dk_at dksX14_keep_7 16 rfl rfl)
theorem dX14_keep_183 : decode cX14_keep 183 = .ok (.iload 4, 2) := dk_21 4 (dk_at dksX14_keep_7 17 rfl rfl)
theorem dX14_keep_185 : decode cX14_keep 185 = .ok (.ifCond .eq 7, 3) := dk_153 0 7 (dk_at dksX14_keep_7 19 rfl rfl)
theorem dX14_keep_188 : decode cX14_keep 188 = .ok (.iconst (-1), 1) := dk_2 (dk_at dksX14_keep_7 22 rfl rfl)
theorem dX14_keep_189 : decode cX14_keep 189 = .ok (.goto 22, 3) := dk_167 0 22 (dk_at dksX14_keep_8 0 rfl rfl)
theorem dX14_keep_192 : decode cX14_keep 192 = .ok (.aload_n 0, 1) := dk_42 (dk_at dksX14_keep_8 3 rfl rfl)
theorem dX14_keep_193 : decode cX14_keep 193 = .ok (.aload_n 1, 1) := dk_43 (dk_at dksX14_keep_8 4 rfl rfl)
theorem dX14_keep_194 : decode cX14_keep 194 = .ok (.iload_n 3, 1) := dk_29 (dk_at dksX14_keep_8 5 rfl rfl)
theorem dX14_keep_195 : decode cX14_keep 195 = .ok (.invokevirtual 27, 3) := dk_182 0 27 (dk_at dksX14_keep_8 6 rfl rfl)
theorem dX14_keep_198 : decode cX14_keep 198 = .ok (.ifCond .eq 12, 3) := dk_153 0 12 (dk_at dksX14_keep_8 9 rfl rfl)
theorem dX14_keep_201 : decode cX14_keep 201 = .ok (.aload_n 0, 1) := dk_42 (dk_at dksX14_keep_8 12 rfl rfl)
theorem dX14_keep_202 : decode cX14_keep 202 = .ok (.aload_n 1, 1) := dk_43 (dk_at dksX14_keep_8 13 rfl rfl)
theorem dX14_keep_203 : decode cX14_keep 203 = .ok (.iconst 0, 1) := dk_3 (dk_at dksX14_keep_8 14 rfl rfl)
theorem dX14_keep_204 : decode cX14_keep 204 = .ok (.invokevirtual 13, 3) := dk_182 0 13 (dk_at dksX14_keep_8 15 rfl rfl)
theorem dX14_keep_207 : decode cX14_keep 207 = .ok (.goto 4, 3) := dk_167 0 4 (dk_at dksX14_keep_8 18 rfl rfl)
theorem dX14_keep_210 : decode cX14_keep 210 = .ok (.iconst 0, 1) := dk_3 (dk_at dksX14_keep_8 21 rfl rfl)
theorem dX14_keep_211 : decode cX14_keep 211 = .ok (.iastore, 1) := dk_79 (dk_at dksX14_keep_8 22 rfl rfl)
theorem dX14_keep_212 : decode cX14_keep 212 = .ok (.iinc 3 1, 3) := dk_132 3 1 (dk_at dksX14_keep_9 0 rfl rfl)
theorem dX14_keep_215 : decode cX14_keep 215 = .ok (.goto (-66), 3) := dk_167 255 190 (dk_at dksX14_keep_9 3 rfl rfl)
theorem dX14_keep_218 : decode cX14_keep 218 = .ok (.return_, 1) := dk_177 (dk_at dksX14_keep_9 6 rfl rfl)
def dkwX14_canTell_1 : List UInt8 := [167, 0, 4, 3, 172]
abbrev dktX14_canTell_1 : List UInt8 := dkwX14_canTell_1 ++ []
def dkwX14_canTell_0 : List UInt8 := [28, 42, 182, 0, 7, 5, 100, 162, 0, 20, 42, 43, 4, 182, 0, 13, 28, 184, 0, 17, 153, 0, 7, 4]
abbrev dktX14_canTell_0 : List UInt8 := dkwX14_canTell_0 ++ dktX14_canTell_1
theorem dksX14_canTell_0 : cX14_canTell.data.toList.drop 0 = dktX14_canTell_0 := by decide +kernel
theorem dksX14_canTell_1 : cX14_canTell.data.toList.drop 24 = dktX14_canTell_1 := dk_seg dksX14_canTell_0 24 rfl rfl
theorem dX14_canTell_0 : decode cX14_canTell 0 = .ok (.iload_n 2, 1) := dk_28 (dk_at dksX14_canTell_0 0 rfl rfl)
theorem dX14_canTell_1 : decode cX14_canTell 1 = .ok (.aload_n 0, 1) := dk_42 (dk_at dksX14_canTell_0 1 rfl rfl)
theorem dX14_canTell_2 : decode cX14_canTell 2 = .ok (.invokevirtual 7, 3) := dk_182 0 7 (dk_at dksX14_canTell_0 2 rfl rfl)
theorem dX14_canTell_5 : decode cX14_canTell 5 = .ok (.iconst 2, 1) := dk_5 (dk_at dksX14_canTell_0 5 rfl rfl)
theorem dX14_canTell_6 : decode cX14_canTell 6 = .ok (.isub, 1) := dk_100 (dk_at dksX14_canTell_0 6 rfl rfl)
theorem dX14_canTell_7 : decode cX14_canTell 7 = .ok (.if_icmp .ge 20, 3) := dk_162 0 20 (dk_at dksX14_canTell_0 7 rfl rfl)
theorem dX14_canTell_10 : decode cX14_canTell 10 = .ok (.aload_n 0, 1) := dk_42 (dk_at dksX14_canTell_0 10 rfl rfl)
theorem dX14_canTell_11 : decode cX14_canTell 11 = .ok (.aload_n 1, 1) := dk_43 (dk_at dksX14_canTell_0 11 rfl rfl)
theorem dX14_canTell_12 : decode cX14_canTell 12 = .ok (.iconst 1, 1) := dk_4 (dk_at dksX14_canTell_0 12 rfl rfl)
theorem dX14_canTell_13 : decode cX14_canTell 13 = .ok (.invokevirtual 13, 3) := dk_182 0 13 (dk_at dksX14_canTell_0 13 rfl rfl)
theorem dX14_canTell_16 : decode cX14_canTell 16 = .ok (.iload_n 2, 1) := dk_28 (dk_at dksX14_canTell_0 16 rfl rfl)
theorem dX14_canTell_17 : decode cX14_canTell 17 = .ok (.invokestatic 17, 3) := dk_184 0 17 (dk_at dksX14_canTell_0 17 rfl rfl)
theorem dX14_canTell_20 : decode cX14_canTell 20 = .ok (.ifCond .eq 7, 3) := dk_153 0 7 (dk_at dksX14_canTell_0 20 rfl rfl)
theorem dX14_canTell_23 : decode cX14_canTell 23 = .ok (.iconst 1, 1) := dk_4 (dk_at dksX14_canTell_0 23 rfl rfl)
theorem dX14_canTell_24 : decode cX14_canTell 24 = .ok (.goto 4, 3) := dk_167 0 4 (dk_at dksX14_canTell_1 0 rfl rfl)
theorem dX14_canTell_27 : decode cX14_canTell 27 = .ok (.iconst 0, 1) := dk_3 (dk_at dksX14_canTell_1 3 rfl rfl)
theorem dX14_canTell_28 : decode cX14_canTell 28 = .ok (.ireturn, 1) := dk_172 (dk_at dksX14_canTell_1 4 rfl rfl)
def dkwX14_init_0 : List UInt8 := [42, 43, 183, 0, 1, 177]
abbrev dktX14_init_0 : List UInt8 := dkwX14_init_0 ++ []
theorem dksX14_init_0 : cX14_init.data.toList.drop 0 = dktX14_init_0 := by decide +kernel
theorem dX14_init_0 : decode cX14_init 0 = .ok (.aload_n 0, 1) := dk_42 (dk_at dksX14_init_0 0 rfl rfl)
theorem dX14_init_1 : decode cX14_init 1 = .ok (.aload_n 1, 1) := dk_43 (dk_at dksX14_init_0 1 rfl rfl)
theorem dX14_init_2 : decode cX14_init 2 = .ok (.invokespecial 1, 3) := dk_183 0 1 (dk_at dksX14_init_0 2 rfl rfl)
theorem dX14_init_5 : decode cX14_init 5 = .ok (.return_, 1) := dk_177 (dk_at dksX14_init_0 5 rfl rfl)
def dkwX15_keep_5 : List UInt8 := [167, 255, 214, 132, 4, 1, 167, 255, 185, 132, 3, 1, 167, 255, 170, 177]
abbrev dktX15_keep_5 : List UInt8 := dkwX15_keep_5 ++ []
def dkwX15_keep_4 : List UInt8 := [153, 0, 27, 28, 21, 5, 184, 0, 33, 153, 0, 12, 42, 29, 21, 4, 21, 5, 182, 0, 37, 132, 5, 1]
abbrev dktX15_keep_4 : List UInt8 := dkwX15_keep_4 ++ dktX15_keep_5
def dkwX15_keep_3 : List UInt8 := [153, 0, 57, 3, 54, 5, 21, 5, 16, 32, 162, 0, 41, 42, 43, 4, 182, 0, 29, 21, 4, 184, 0, 33]
abbrev dktX15_keep_3 : List UInt8 := dkwX15_keep_3 ++ dktX15_keep_4
def dkwX15_keep_2 : List UInt8 := [162, 0, 86, 3, 54, 4, 21, 4, 16, 32, 162, 0, 70, 42, 43, 3, 182, 0, 29, 29, 184, 0, 33]
abbrev dktX15_keep_2 : List UInt8 := dkwX15_keep_2 ++ dktX15_keep_3
def dkwX15_keep_1 : List UInt8 := [182, 0, 25, 5, 164, 0, 12, 42, 43, 5, 182, 0, 29, 167, 0, 4, 4, 61, 3, 62, 29, 16, 32]
abbrev dktX15_keep_1 : List UInt8 := dkwX15_keep_1 ++ dktX15_keep_2
def dkwX15_keep_0 : List UInt8 := [3, 61, 28, 42, 182, 0, 25, 162, 0, 16, 42, 180, 0, 21, 28, 3, 79, 132, 2, 1, 167, 255, 238, 42]
abbrev dktX15_keep_0 : List UInt8 := dkwX15_keep_0 ++ dktX15_keep_1
theorem dksX15_keep_0 : cX15_keep.data.toList.drop 0 = dktX15_keep_0 := by decide +kernel
theorem dksX15_keep_1 : cX15_keep.data.toList.drop 24 = dktX15_keep_1 := dk_seg dksX15_keep_0 24 rfl rfl
theorem dksX15_keep_2 : cX15_keep.data.toList.drop 47 = dktX15_keep_2 := dk_seg dksX15_keep_1 23 rfl rfl
theorem dksX15_keep_3 : cX15_keep.data.toList.drop 70 = dktX15_keep_3 := dk_seg dksX15_keep_2 23 rfl rfl
theorem dksX15_keep_4 : cX15_keep.data.toList.drop 94 = dktX15_keep_4 := dk_seg dksX15_keep_3 24 rfl rfl
theorem dksX15_keep_5 : cX15_keep.data.toList.drop 118 = dktX15_keep_5 := dk_seg dksX15_keep_4 24 rfl rfl
theorem dX15_keep_0 : decode cX15_keep 0 = .ok (.iconst 0, 1) := dk_3 (dk_at dksX15_keep_0 0 rfl rfl)
theorem dX15_keep_1 : decode cX15_keep 1 = .ok (.istore_n 2, 1) := dk_61 (dk_at dksX15_keep_0 1 rfl rfl)
theorem dX15_keep_2 : decode cX15_keep 2 = .ok (.iload_n 2, 1) := dk_28 (dk_at dksX15_keep_0 2 rfl rfl)
theorem dX15_keep_3 : decode cX15_keep 3 = .ok (.aload_n 0, 1) := dk_42 (dk_at dksX15_keep_0 3 rfl rfl)
theorem dX15_keep_4 : decode cX15_keep 4 = .ok (.invokevirtual 25, 3) := dk_182 0 25 (dk_at dksX15_keep_0 4 rfl rfl)
theorem dX15_keep_7 : decode cX15_keep 7 = .ok (.if_icmp .ge 16, 3) := dk_162 0 16 (dk_at dksX15_keep_0 7 rfl rfl)
theorem dX15_keep_10 : decode cX15_keep 10 = .ok (.aload_n 0, 1) := dk_42 (dk_at dksX15_keep_0 10 rfl rfl)
theorem dX15_keep_11 : decode cX15_keep 11 = .ok (.getfield 21, 3) := dk_180 0 21 (dk_at dksX15_keep_0 11 rfl rfl)
theorem dX15_keep_14 : decode cX15_keep 14 = .ok (.iload_n 2, 1) := dk_28 (dk_at dksX15_keep_0 14 rfl rfl)
theorem dX15_keep_15 : decode cX15_keep 15 = .ok (.iconst 0, 1) := dk_3 (dk_at dksX15_keep_0 15 rfl rfl)
theorem dX15_keep_16 : decode cX15_keep 16 = .ok (.iastore, 1) := dk_79 (dk_at dksX15_keep_0 16 rfl rfl)
theorem dX15_keep_17 : decode cX15_keep 17 = .ok (.iinc 2 1, 3) := dk_132 2 1 (dk_at dksX15_keep_0 17 rfl rfl)
theorem dX15_keep_20 : decode cX15_keep 20 = .ok (.goto (-18), 3) := dk_167 255 238 (dk_at dksX15_keep_0 20 rfl rfl)
theorem dX15_keep_23 : decode cX15_keep 23 = .ok (.aload_n 0, 1) := dk_42 (dk_at dksX15_keep_0 23 rfl rfl)
theorem dX15_keep_24 : decode cX15_keep 24 = .ok (.invokevirtual 25, 3) := dk_182 0 25 (dk_at dksX15_keep_1 0 rfl rfl)
theorem dX15_keep_27 : decode cX15_keep 27 = .ok (.iconst 2, 1) := dk_5 (dk_at dksX15_keep_1 3 rfl rfl)
theorem dX15_keep_28 : decode cX15_keep 28 = .ok (.if_icmp .le 12, 3) := dk_164 0 12 (dk_at dksX15_keep_1 4 rfl rfl)
theorem dX15_keep_31 : decode cX15_keep 31 = .ok (.aload_n 0, 1) := dk_42 (dk_at dksX15_keep_1 7 rfl rfl)
theorem dX15_keep_32 : decode cX15_keep 32 = .ok (.aload_n 1, 1) := dk_43 (dk_at dksX15_keep_1 8 rfl rfl)
theorem dX15_keep_33 : decode cX15_keep 33 = .ok (.iconst 2, 1) := dk_5 (dk_at dksX15_keep_1 9 rfl rfl)
theorem dX15_keep_34 : decode cX15_keep 34 = .ok (.invokevirtual 29, 3) := dk_182 0 29 (dk_at dksX15_keep_1 10 rfl rfl)
theorem dX15_keep_37 : decode cX15_keep 37 = .ok (.goto 4, 3) := dk_167 0 4 (dk_at dksX15_keep_1 13 rfl rfl)
theorem dX15_keep_40 : decode cX15_keep 40 = .ok (.iconst 1, 1) := dk_4 (dk_at dksX15_keep_1 16 rfl rfl)
theorem dX15_keep_41 : decode cX15_keep 41 = .ok (.istore_n 2, 1) := dk_61 (dk_at dksX15_keep_1 17 rfl rfl)
theorem dX15_keep_42 : decode cX15_keep 42 = .ok (.iconst 0, 1) := dk_3 (dk_at dksX15_keep_1 18 rfl rfl)
theorem dX15_keep_43 : decode cX15_keep 43 = .ok (.istore_n 3, 1) := dk_62 (dk_at dksX15_keep_1 19 rfl rfl)
theorem dX15_keep_44 : decode cX15_keep 44 = .ok (.iload_n 3, 1) := dk_29 (dk_at dksX15_keep_1 20 rfl rfl)
theorem dX15_keep_45 : decode cX15_keep 45 = .ok (.bipush 32, 2) := dk_16 32 (dk_at dksX15_keep_1 21 rfl rfl)
theorem dX15_keep_47 : decode cX15_keep 47 = .ok (.if_icmp .ge 86, 3) := dk_162 0 86 (dk_at dksX15_keep_2 0 rfl rfl)
theorem dX15_keep_50 : decode cX15_keep 50 = .ok (.iconst 0, 1) := dk_3 (dk_at dksX15_keep_2 3 rfl rfl)
theorem dX15_keep_51 : decode cX15_keep 51 = .ok (.istore 4, 2) := dk_54 4 (dk_at dksX15_keep_2 4 rfl rfl)
theorem dX15_keep_53 : decode cX15_keep 53 = .ok (.iload 4, 2) := dk_21 4 (dk_at dksX15_keep_2 6 rfl rfl)
theorem dX15_keep_55 : decode cX15_keep 55 = .ok (.bipush 32, 2) := dk_16 32 (dk_at dksX15_keep_2 8 rfl rfl)
theorem dX15_keep_57 : decode cX15_keep 57 = .ok (.if_icmp .ge 70, 3) := dk_162 0 70 (dk_at dksX15_keep_2 10 rfl rfl)
theorem dX15_keep_60 : decode cX15_keep 60 = .ok (.aload_n 0, 1) := dk_42 (dk_at dksX15_keep_2 13 rfl rfl)
theorem dX15_keep_61 : decode cX15_keep 61 = .ok (.aload_n 1, 1) := dk_43 (dk_at dksX15_keep_2 14 rfl rfl)
theorem dX15_keep_62 : decode cX15_keep 62 = .ok (.iconst 0, 1) := dk_3 (dk_at dksX15_keep_2 15 rfl rfl)
theorem dX15_keep_63 : decode cX15_keep 63 = .ok (.invokevirtual 29, 3) := dk_182 0 29 (dk_at dksX15_keep_2 16 rfl rfl)
theorem dX15_keep_66 : decode cX15_keep 66 = .ok (.iload_n 3, 1) := dk_29 (dk_at dksX15_keep_2 19 rfl rfl)
theorem dX15_keep_67 : decode cX15_keep 67 = .ok (.invokestatic 33, 3) := dk_184 0 33 (dk_at dksX15_keep_2 20 rfl rfl)
theorem dX15_keep_70 : decode cX15_keep 70 = .ok (.ifCond .eq 57, 3) := dk_153 0 57 (dk_at dksX15_keep_3 0 rfl rfl)
theorem dX15_keep_73 : decode cX15_keep 73 = .ok (.iconst 0, 1) := dk_3 (dk_at dksX15_keep_3 3 rfl rfl)
theorem dX15_keep_74 : decode cX15_keep 74 = .ok (.istore 5, 2) := dk_54 5 (dk_at dksX15_keep_3 4 rfl rfl)
theorem dX15_keep_76 : decode cX15_keep 76 = .ok (.iload 5, 2) := dk_21 5 (dk_at dksX15_keep_3 6 rfl rfl)
theorem dX15_keep_78 : decode cX15_keep 78 = .ok (.bipush 32, 2) := dk_16 32 (dk_at dksX15_keep_3 8 rfl rfl)
theorem dX15_keep_80 : decode cX15_keep 80 = .ok (.if_icmp .ge 41, 3) := dk_162 0 41 (dk_at dksX15_keep_3 10 rfl rfl)
theorem dX15_keep_83 : decode cX15_keep 83 = .ok (.aload_n 0, 1) := dk_42 (dk_at dksX15_keep_3 13 rfl rfl)
theorem dX15_keep_84 : decode cX15_keep 84 = .ok (.aload_n 1, 1) := dk_43 (dk_at dksX15_keep_3 14 rfl rfl)
theorem dX15_keep_85 : decode cX15_keep 85 = .ok (.iconst 1, 1) := dk_4 (dk_at dksX15_keep_3 15 rfl rfl)
theorem dX15_keep_86 : decode cX15_keep 86 = .ok (.invokevirtual 29, 3) := dk_182 0 29 (dk_at dksX15_keep_3 16 rfl rfl)
theorem dX15_keep_89 : decode cX15_keep 89 = .ok (.iload 4, 2) := dk_21 4 (dk_at dksX15_keep_3 19 rfl rfl)
theorem dX15_keep_91 : decode cX15_keep 91 = .ok (.invokestatic 33, 3) := dk_184 0 33 (dk_at dksX15_keep_3 21 rfl rfl)
theorem dX15_keep_94 : decode cX15_keep 94 = .ok (.ifCond .eq 27, 3) := dk_153 0 27 (dk_at dksX15_keep_4 0 rfl rfl)
theorem dX15_keep_97 : decode cX15_keep 97 = .ok (.iload_n 2, 1) := dk_28 (dk_at dksX15_keep_4 3 rfl rfl)
theorem dX15_keep_98 : decode cX15_keep 98 = .ok (.iload 5, 2) := dk_21 5 (dk_at dksX15_keep_4 4 rfl rfl)
theorem dX15_keep_100 : decode cX15_keep 100 = .ok (.invokestatic 33, 3) := dk_184 0 33 (dk_at dksX15_keep_4 6 rfl rfl)
theorem dX15_keep_103 : decode cX15_keep 103 = .ok (.ifCond .eq 12, 3) := dk_153 0 12 (dk_at dksX15_keep_4 9 rfl rfl)
theorem dX15_keep_106 : decode cX15_keep 106 = .ok (.aload_n 0, 1) := dk_42 (dk_at dksX15_keep_4 12 rfl rfl)
theorem dX15_keep_107 : decode cX15_keep 107 = .ok (.iload_n 3, 1) := dk_29 (dk_at dksX15_keep_4 13 rfl rfl)
theorem dX15_keep_108 : decode cX15_keep 108 = .ok (.iload 4, 2) := dk_21 4 (dk_at dksX15_keep_4 14 rfl rfl)
theorem dX15_keep_110 : decode cX15_keep 110 = .ok (.iload 5, 2) := dk_21 5 (dk_at dksX15_keep_4 16 rfl rfl)
theorem dX15_keep_112 : decode cX15_keep 112 = .ok (.invokevirtual 37, 3) := dk_182 0 37 (dk_at dksX15_keep_4 18 rfl rfl)
theorem dX15_keep_115 : decode cX15_keep 115 = .ok (.iinc 5 1, 3) := dk_132 5 1 (dk_at dksX15_keep_4 21 rfl rfl)
theorem dX15_keep_118 : decode cX15_keep 118 = .ok (.goto (-42), 3) := dk_167 255 214 (dk_at dksX15_keep_5 0 rfl rfl)
theorem dX15_keep_121 : decode cX15_keep 121 = .ok (.iinc 4 1, 3) := dk_132 4 1 (dk_at dksX15_keep_5 3 rfl rfl)
theorem dX15_keep_124 : decode cX15_keep 124 = .ok (.goto (-71), 3) := dk_167 255 185 (dk_at dksX15_keep_5 6 rfl rfl)
theorem dX15_keep_127 : decode cX15_keep 127 = .ok (.iinc 3 1, 3) := dk_132 3 1 (dk_at dksX15_keep_5 9 rfl rfl)
theorem dX15_keep_130 : decode cX15_keep 130 = .ok (.goto (-86), 3) := dk_167 255 170 (dk_at dksX15_keep_5 12 rfl rfl)
theorem dX15_keep_133 : decode cX15_keep 133 = .ok (.return_, 1) := dk_177 (dk_at dksX15_keep_5 15 rfl rfl)
def dkwX15_keep_2_2 : List UInt8 := [180, 0, 21, 5, 92, 46, 4, 29, 120, 128, 79, 177]
abbrev dktX15_keep_2_2 : List UInt8 := dkwX15_keep_2_2 ++ []
def dkwX15_keep_2_1 : List UInt8 := [120, 128, 79, 42, 180, 0, 21, 4, 92, 46, 4, 28, 120, 128, 79, 42, 182, 0, 25, 5, 164, 0, 15, 42]
abbrev dktX15_keep_2_1 : List UInt8 := dkwX15_keep_2_1 ++ dktX15_keep_2_2
def dkwX15_keep_2_0 : List UInt8 := [42, 180, 0, 9, 27, 28, 29, 185, 0, 15, 4, 0, 153, 0, 47, 42, 180, 0, 21, 3, 92, 46, 4, 27]
abbrev dktX15_keep_2_0 : List UInt8 := dkwX15_keep_2_0 ++ dktX15_keep_2_1
theorem dksX15_keep_2_0 : cX15_keep_2.data.toList.drop 0 = dktX15_keep_2_0 := by decide +kernel
theorem dksX15_keep_2_1 : cX15_keep_2.data.toList.drop 24 = dktX15_keep_2_1 := dk_seg dksX15_keep_2_0 24 rfl rfl
theorem dksX15_keep_2_2 : cX15_keep_2.data.toList.drop 48 = dktX15_keep_2_2 := dk_seg dksX15_keep_2_1 24 rfl rfl
theorem dX15_keep_2_0 : decode cX15_keep_2 0 = .ok (.aload_n 0, 1) := dk_42 (dk_at dksX15_keep_2_0 0 rfl rfl)
theorem dX15_keep_2_1 : decode cX15_keep_2 1 = .ok (.getfield 9, 3) := dk_180 0 9 (dk_at dksX15_keep_2_0 1 rfl rfl)
theorem dX15_keep_2_4 : decode cX15_keep_2 4 = .ok (.iload_n 1, 1) := dk_27 (dk_at dksX15_keep_2_0 4 rfl rfl)
theorem dX15_keep_2_5 : decode cX15_keep_2 5 = .ok (.iload_n 2, 1) := dk_28 (dk_at dksX15_keep_2_0 5 rfl rfl)
theorem dX15_keep_2_6 : decode cX15_keep_2 6 = .ok (.iload_n 3, 1) := dk_29 (dk_at dksX15_keep_2_0 6 rfl rfl)
theorem dX15_keep_2_7 : decode cX15_keep_2 7 = .ok (.invokeinterface 15 4, 5) := by decide +kernel
theorem dX15_keep_2_12 : decode cX15_keep_2 12 = .ok (.ifCond .eq 47, 3) := dk_153 0 47 (dk_at dksX15_keep_2_0 12 rfl rfl)
theorem dX15_keep_2_15 : decode cX15_keep_2 15 = .ok (.aload_n 0, 1) := dk_42 (dk_at dksX15_keep_2_0 15 rfl rfl)
theorem dX15_keep_2_16 : decode cX15_keep_2 16 = .ok (.getfield 21, 3) := dk_180 0 21 (dk_at dksX15_keep_2_0 16 rfl rfl)
theorem dX15_keep_2_19 : decode cX15_keep_2 19 = .ok (.iconst 0, 1) := dk_3 (dk_at dksX15_keep_2_0 19 rfl rfl)
theorem dX15_keep_2_20 : decode cX15_keep_2 20 = .ok (.dup2, 1) := dk_92 (dk_at dksX15_keep_2_0 20 rfl rfl)
theorem dX15_keep_2_21 : decode cX15_keep_2 21 = .ok (.iaload, 1) := dk_46 (dk_at dksX15_keep_2_0 21 rfl rfl)
theorem dX15_keep_2_22 : decode cX15_keep_2 22 = .ok (.iconst 1, 1) := dk_4 (dk_at dksX15_keep_2_0 22 rfl rfl)
theorem dX15_keep_2_23 : decode cX15_keep_2 23 = .ok (.iload_n 1, 1) := dk_27 (dk_at dksX15_keep_2_0 23 rfl rfl)
theorem dX15_keep_2_24 : decode cX15_keep_2 24 = .ok (.ishl, 1) := dk_120 (dk_at dksX15_keep_2_1 0 rfl rfl)
theorem dX15_keep_2_25 : decode cX15_keep_2 25 = .ok (.ior, 1) := dk_128 (dk_at dksX15_keep_2_1 1 rfl rfl)
theorem dX15_keep_2_26 : decode cX15_keep_2 26 = .ok (.iastore, 1) := dk_79 (dk_at dksX15_keep_2_1 2 rfl rfl)
theorem dX15_keep_2_27 : decode cX15_keep_2 27 = .ok (.aload_n 0, 1) := dk_42 (dk_at dksX15_keep_2_1 3 rfl rfl)
theorem dX15_keep_2_28 : decode cX15_keep_2 28 = .ok (.getfield 21, 3) := dk_180 0 21 (dk_at dksX15_keep_2_1 4 rfl rfl)
theorem dX15_keep_2_31 : decode cX15_keep_2 31 = .ok (.iconst 1, 1) := dk_4 (dk_at dksX15_keep_2_1 7 rfl rfl)
theorem dX15_keep_2_32 : decode cX15_keep_2 32 = .ok (.dup2, 1) := dk_92 (dk_at dksX15_keep_2_1 8 rfl rfl)
theorem dX15_keep_2_33 : decode cX15_keep_2 33 = .ok (.iaload, 1) := dk_46 (dk_at dksX15_keep_2_1 9 rfl rfl)
theorem dX15_keep_2_34 : decode cX15_keep_2 34 = .ok (.iconst 1, 1) := dk_4 (dk_at dksX15_keep_2_1 10 rfl rfl)
theorem dX15_keep_2_35 : decode cX15_keep_2 35 = .ok (.iload_n 2, 1) := dk_28 (dk_at dksX15_keep_2_1 11 rfl rfl)
theorem dX15_keep_2_36 : decode cX15_keep_2 36 = .ok (.ishl, 1) := dk_120 (dk_at dksX15_keep_2_1 12 rfl rfl)
theorem dX15_keep_2_37 : decode cX15_keep_2 37 = .ok (.ior, 1) := dk_128 (dk_at dksX15_keep_2_1 13 rfl rfl)
theorem dX15_keep_2_38 : decode cX15_keep_2 38 = .ok (.iastore, 1) := dk_79 (dk_at dksX15_keep_2_1 14 rfl rfl)
theorem dX15_keep_2_39 : decode cX15_keep_2 39 = .ok (.aload_n 0, 1) := dk_42 (dk_at dksX15_keep_2_1 15 rfl rfl)
theorem dX15_keep_2_40 : decode cX15_keep_2 40 = .ok (.invokevirtual 25, 3) := dk_182 0 25 (dk_at dksX15_keep_2_1 16 rfl rfl)
theorem dX15_keep_2_43 : decode cX15_keep_2 43 = .ok (.iconst 2, 1) := dk_5 (dk_at dksX15_keep_2_1 19 rfl rfl)
theorem dX15_keep_2_44 : decode cX15_keep_2 44 = .ok (.if_icmp .le 15, 3) := dk_164 0 15 (dk_at dksX15_keep_2_1 20 rfl rfl)
theorem dX15_keep_2_47 : decode cX15_keep_2 47 = .ok (.aload_n 0, 1) := dk_42 (dk_at dksX15_keep_2_1 23 rfl rfl)
theorem dX15_keep_2_48 : decode cX15_keep_2 48 = .ok (.getfield 21, 3) := dk_180 0 21 (dk_at dksX15_keep_2_2 0 rfl rfl)
theorem dX15_keep_2_51 : decode cX15_keep_2 51 = .ok (.iconst 2, 1) := dk_5 (dk_at dksX15_keep_2_2 3 rfl rfl)
theorem dX15_keep_2_52 : decode cX15_keep_2 52 = .ok (.dup2, 1) := dk_92 (dk_at dksX15_keep_2_2 4 rfl rfl)
theorem dX15_keep_2_53 : decode cX15_keep_2 53 = .ok (.iaload, 1) := dk_46 (dk_at dksX15_keep_2_2 5 rfl rfl)
theorem dX15_keep_2_54 : decode cX15_keep_2 54 = .ok (.iconst 1, 1) := dk_4 (dk_at dksX15_keep_2_2 6 rfl rfl)
theorem dX15_keep_2_55 : decode cX15_keep_2 55 = .ok (.iload_n 3, 1) := dk_29 (dk_at dksX15_keep_2_2 7 rfl rfl)
theorem dX15_keep_2_56 : decode cX15_keep_2 56 = .ok (.ishl, 1) := dk_120 (dk_at dksX15_keep_2_2 8 rfl rfl)
theorem dX15_keep_2_57 : decode cX15_keep_2 57 = .ok (.ior, 1) := dk_128 (dk_at dksX15_keep_2_2 9 rfl rfl)
theorem dX15_keep_2_58 : decode cX15_keep_2 58 = .ok (.iastore, 1) := dk_79 (dk_at dksX15_keep_2_2 10 rfl rfl)
theorem dX15_keep_2_59 : decode cX15_keep_2 59 = .ok (.return_, 1) := dk_177 (dk_at dksX15_keep_2_2 11 rfl rfl)
def dkwX15_init_0 : List UInt8 := [42, 43, 183, 0, 3, 42, 44, 181, 0, 9, 177]
abbrev dktX15_init_0 : List UInt8 := dkwX15_init_0 ++ []
theorem dksX15_init_0 : cX15_init.data.toList.drop 0 = dktX15_init_0 := by decide +kernel
theorem dX15_init_0 : decode cX15_init 0 = .ok (.aload_n 0, 1) := dk_42 (dk_at dksX15_init_0 0 rfl rfl)
theorem dX15_init_1 : decode cX15_init 1 = .ok (.aload_n 1, 1) := dk_43 (dk_at dksX15_init_0 1 rfl rfl)
theorem dX15_init_2 : decode cX15_init 2 = .ok (.invokespecial 3, 3) := dk_183 0 3 (dk_at dksX15_init_0 2 rfl rfl)
theorem dX15_init_5 : decode cX15_init 5 = .ok (.aload_n 0, 1) := dk_42 (dk_at dksX15_init_0 5 rfl rfl)
theorem dX15_init_6 : decode cX15_init 6 = .ok (.aload_n 2, 1) := dk_44 (dk_at dksX15_init_0 6 rfl rfl)
theorem dX15_init_7 : decode cX15_init 7 = .ok (.putfield 9, 3) := dk_181 0 9 (dk_at dksX15_init_0 7 rfl rfl)
theorem dX15_init_10 : decode cX15_init 10 = .ok (.return_, 1) := dk_177 (dk_at dksX15_init_0 10 rfl rfl)
def dkwX16_keep_3 : List UInt8 := [167, 0, 8, 42, 28, 182, 0, 36, 79, 132, 2, 1, 167, 255, 175, 177]
abbrev dktX16_keep_3 : List UInt8 := dkwX16_keep_3 ++ []
def dkwX16_keep_2 : List UInt8 := [4, 167, 0, 4, 3, 128, 62, 132, 4, 1, 167, 255, 213, 42, 180, 0, 40, 28, 29, 153, 0, 7, 2]
abbrev dktX16_keep_2 : List UInt8 := dkwX16_keep_2 ++ dktX16_keep_3
def dkwX16_keep_1 : List UInt8 := [29, 21, 4, 28, 159, 0, 24, 42, 43, 21, 4, 182, 0, 32, 42, 21, 4, 182, 0, 36, 126, 153, 0, 7]
abbrev dktX16_keep_1 : List UInt8 := dkwX16_keep_1 ++ dktX16_keep_2
def dkwX16_keep_0 : List UInt8 := [3, 61, 28, 42, 182, 0, 29, 162, 0, 79, 3, 62, 3, 54, 4, 21, 4, 42, 182, 0, 29, 162, 0, 40]
abbrev dktX16_keep_0 : List UInt8 := dkwX16_keep_0 ++ dktX16_keep_1
theorem dksX16_keep_0 : cX16_keep.data.toList.drop 0 = dktX16_keep_0 := by decide +kernel
theorem dksX16_keep_1 : cX16_keep.data.toList.drop 24 = dktX16_keep_1 := dk_seg dksX16_keep_0 24 rfl rfl
theorem dksX16_keep_2 : cX16_keep.data.toList.drop 48 = dktX16_keep_2 := dk_seg dksX16_keep_1 24 rfl rfl
theorem dksX16_keep_3 : cX16_keep.data.toList.drop 71 = dktX16_keep_3 := dk_seg dksX16_keep_2 23 rfl rfl
theorem dX16_keep_0 : decode cX16_keep 0 = .ok (.iconst 0, 1) := dk_3 (dk_at dksX16_keep_0 0 rfl rfl)
theorem dX16_keep_1 : decode cX16_keep 1 = .ok (.istore_n 2, 1) := dk_61 (dk_at dksX16_keep_0 1 rfl rfl)
theorem dX16_keep_2 : decode cX16_keep 2 = .ok (.iload_n 2, 1) := dk_28 (dk_at dksX16_keep_0 2 rfl rfl)
theorem dX16_keep_3 : decode cX16_keep 3 = .ok (.aload_n 0, 1) := dk_42 (dk_at dksX16_keep_0 3 rfl rfl)
theorem dX16_keep_4 : decode cX16_keep 4 = .ok (.invokevirtual 29, 3) := dk_182 0 29 (dk_at dksX16_keep_0 4 rfl rfl)
theorem dX16_keep_7 : decode cX16_keep 7 = .ok (.if_icmp .ge 79, 3) := dk_162 0 79 (dk_at dksX16_keep_0 7 rfl rfl)
theorem dX16_keep_10 : decode cX16_keep 10 = .ok (.iconst 0, 1) := dk_3 (dk_at dksX16_keep_0 10 rfl rfl)
theorem dX16_keep_11 : decode cX16_keep 11 = .ok (.istore_n 3, 1) := dk_62 (dk_at dksX16_keep_0 11 rfl rfl)
theorem dX16_keep_12 : decode cX16_keep 12 = .ok (.iconst 0, 1) := dk_3 (dk_at dksX16_keep_0 12 rfl rfl)
theorem dX16_keep_13 : decode cX16_keep 13 = .ok (.istore 4, 2) := dk_54 4 (dk_at dksX16_keep_0 13 rfl rfl)
theorem dX16_keep_15 : decode cX16_keep 15 = .ok (.iload 4, 2) := dk_21 4 (dk_at dksX16_keep_0 15 rfl rfl)
theorem dX16_keep_17 : decode cX16_keep 17 = .ok (.aload_n 0, 1) := dk_42 (dk_at dksX16_keep_0 17 rfl rfl)
theorem dX16_keep_18 : decode cX16_keep 18 = .ok (.invokevirtual 29, 3) := dk_182 0 29 (dk_at dksX16_keep_0 18 rfl rfl)
theorem dX16_keep_21 : decode cX16_keep 21 = .ok (.if_icmp .ge 40, 3) := dk_162 0 40 (dk_at dksX16_keep_0 21 rfl rfl)
theorem dX16_keep_24 : decode cX16_keep 24 = .ok (.iload_n 3, 1) := dk_29 (dk_at dksX16_keep_1 0 rfl rfl)
theorem dX16_keep_25 : decode cX16_keep 25 = .ok (.iload 4, 2) := dk_21 4 (dk_at dksX16_keep_1 1 rfl rfl)
theorem dX16_keep_27 : decode cX16_keep 27 = .ok (.iload_n 2, 1) := dk_28 (dk_at dksX16_keep_1 3 rfl rfl)
theorem dX16_keep_28 : decode cX16_keep 28 = .ok (.if_icmp .eq 24, 3) := dk_159 0 24 (dk_at dksX16_keep_1 4 rfl rfl)
theorem dX16_keep_31 : decode cX16_keep 31 = .ok (.aload_n 0, 1) := dk_42 (dk_at dksX16_keep_1 7 rfl rfl)
theorem dX16_keep_32 : decode cX16_keep 32 = .ok (.aload_n 1, 1) := dk_43 (dk_at dksX16_keep_1 8 rfl rfl)
theorem dX16_keep_33 : decode cX16_keep 33 = .ok (.iload 4, 2) := dk_21 4 (dk_at dksX16_keep_1 9 rfl rfl)
theorem dX16_keep_35 : decode cX16_keep 35 = .ok (.invokevirtual 32, 3) := dk_182 0 32 (dk_at dksX16_keep_1 11 rfl rfl)
theorem dX16_keep_38 : decode cX16_keep 38 = .ok (.aload_n 0, 1) := dk_42 (dk_at dksX16_keep_1 14 rfl rfl)
theorem dX16_keep_39 : decode cX16_keep 39 = .ok (.iload 4, 2) := dk_21 4 (dk_at dksX16_keep_1 15 rfl rfl)
theorem dX16_keep_41 : decode cX16_keep 41 = .ok (.invokevirtual 36, 3) := dk_182 0 36 (dk_at dksX16_keep_1 17 rfl rfl)
theorem dX16_keep_44 : decode cX16_keep 44 = .ok (.iand, 1) := dk_126 (dk_at dksX16_keep_1 20 rfl rfl)
theorem dX16_keep_45 : decode cX16_keep 45 = .ok (.ifCond .eq 7, 3) := dk_153 0 7 (dk_at dksX16_keep_1 21 rfl rfl)
theorem dX16_keep_48 : decode cX16_keep 48 = .ok (.iconst 1, 1) := dk_4 (dk_at dksX16_keep_2 0 rfl rfl)
theorem dX16_keep_49 : decode cX16_keep 49 = .ok (.goto 4, 3) := dk_167 0 4 (dk_at dksX16_keep_2 1 rfl rfl)
theorem dX16_keep_52 : decode cX16_keep 52 = .ok (.iconst 0, 1) := dk_3 (dk_at dksX16_keep_2 4 rfl rfl)
theorem dX16_keep_53 : decode cX16_keep 53 = .ok (.ior, 1) := dk_128 (dk_at dksX16_keep_2 5 rfl rfl)
theorem dX16_keep_54 : decode cX16_keep 54 = .ok (.istore_n 3, 1) := dk_62 (dk_at dksX16_keep_2 6 rfl rfl)
theorem dX16_keep_55 : decode cX16_keep 55 = .ok (.iinc 4 1, 3) := dk_132 4 1 (dk_at dksX16_keep_2 7 rfl rfl)
theorem dX16_keep_58 : decode cX16_keep 58 = .ok (.goto (-43), 3) := dk_167 255 213 (dk_at dksX16_keep_2 10 rfl rfl)
theorem dX16_keep_61 : decode cX16_keep 61 = .ok (.aload_n 0, 1) := dk_42 (dk_at dksX16_keep_2 13 rfl rfl)
theorem dX16_keep_62 : decode cX16_keep 62 = .ok (.getfield 40, 3) := dk_180 0 40 (dk_at dksX16_keep_2 14 rfl rfl)
theorem dX16_keep_65 : decode cX16_keep 65 = .ok (.iload_n 2, 1) := dk_28 (dk_at dksX16_keep_2 17 rfl rfl)
theorem dX16_keep_66 : decode cX16_keep 66 = .ok (.iload_n 3, 1) := dk_29 (dk_at dksX16_keep_2 18 rfl rfl)
theorem dX16_keep_67 : decode cX16_keep 67 = .ok (.ifCond .eq 7, 3) := dk_153 0 7 (dk_at dksX16_keep_2 19 rfl rfl)
theorem dX16_keep_70 : decode cX16_keep 70 = .ok (.iconst (-1), 1) := dk_2 (dk_at dksX16_keep_2 22 rfl rfl)
theorem dX16_keep_71 : decode cX16_keep 71 = .ok (.goto 8, 3) := dk_167 0 8 (dk_at dksX16_keep_3 0 rfl rfl)
theorem dX16_keep_74 : decode cX16_keep 74 = .ok (.aload_n 0, 1) := dk_42 (dk_at dksX16_keep_3 3 rfl rfl)
theorem dX16_keep_75 : decode cX16_keep 75 = .ok (.iload_n 2, 1) := dk_28 (dk_at dksX16_keep_3 4 rfl rfl)
theorem dX16_keep_76 : decode cX16_keep 76 = .ok (.invokevirtual 36, 3) := dk_182 0 36 (dk_at dksX16_keep_3 5 rfl rfl)
theorem dX16_keep_79 : decode cX16_keep 79 = .ok (.iastore, 1) := dk_79 (dk_at dksX16_keep_3 8 rfl rfl)
theorem dX16_keep_80 : decode cX16_keep 80 = .ok (.iinc 2 1, 3) := dk_132 2 1 (dk_at dksX16_keep_3 9 rfl rfl)
theorem dX16_keep_83 : decode cX16_keep 83 = .ok (.goto (-81), 3) := dk_167 255 175 (dk_at dksX16_keep_3 12 rfl rfl)
theorem dX16_keep_86 : decode cX16_keep 86 = .ok (.return_, 1) := dk_177 (dk_at dksX16_keep_3 15 rfl rfl)
def dkwX16_holding_1 : List UInt8 := [185, 0, 13, 2, 0, 192, 0, 19, 182, 0, 25, 153, 0, 7, 28, 167, 0, 6, 28, 2, 130, 172]
abbrev dktX16_holding_1 : List UInt8 := dkwX16_holding_1 ++ []
def dkwX16_holding_0 : List UInt8 := [4, 42, 180, 0, 7, 27, 185, 0, 13, 2, 0, 192, 0, 19, 182, 0, 21, 120, 61, 42, 180, 0, 7, 27]
abbrev dktX16_holding_0 : List UInt8 := dkwX16_holding_0 ++ dktX16_holding_1
theorem dksX16_holding_0 : cX16_holding.data.toList.drop 0 = dktX16_holding_0 := by decide +kernel
theorem dksX16_holding_1 : cX16_holding.data.toList.drop 24 = dktX16_holding_1 := dk_seg dksX16_holding_0 24 rfl rfl
theorem dX16_holding_0 : decode cX16_holding 0 = .ok (.iconst 1, 1) := dk_4 (dk_at dksX16_holding_0 0 rfl rfl)
theorem dX16_holding_1 : decode cX16_holding 1 = .ok (.aload_n 0, 1) := dk_42 (dk_at dksX16_holding_0 1 rfl rfl)
theorem dX16_holding_2 : decode cX16_holding 2 = .ok (.getfield 7, 3) := dk_180 0 7 (dk_at dksX16_holding_0 2 rfl rfl)
theorem dX16_holding_5 : decode cX16_holding 5 = .ok (.iload_n 1, 1) := dk_27 (dk_at dksX16_holding_0 5 rfl rfl)
theorem dX16_holding_6 : decode cX16_holding 6 = .ok (.invokeinterface 13 2, 5) := by decide +kernel
theorem dX16_holding_11 : decode cX16_holding 11 = .ok (.checkcast 19, 3) := dk_192 0 19 (dk_at dksX16_holding_0 11 rfl rfl)
theorem dX16_holding_14 : decode cX16_holding 14 = .ok (.invokevirtual 21, 3) := dk_182 0 21 (dk_at dksX16_holding_0 14 rfl rfl)
theorem dX16_holding_17 : decode cX16_holding 17 = .ok (.ishl, 1) := dk_120 (dk_at dksX16_holding_0 17 rfl rfl)
theorem dX16_holding_18 : decode cX16_holding 18 = .ok (.istore_n 2, 1) := dk_61 (dk_at dksX16_holding_0 18 rfl rfl)
theorem dX16_holding_19 : decode cX16_holding 19 = .ok (.aload_n 0, 1) := dk_42 (dk_at dksX16_holding_0 19 rfl rfl)
theorem dX16_holding_20 : decode cX16_holding 20 = .ok (.getfield 7, 3) := dk_180 0 7 (dk_at dksX16_holding_0 20 rfl rfl)
theorem dX16_holding_23 : decode cX16_holding 23 = .ok (.iload_n 1, 1) := dk_27 (dk_at dksX16_holding_0 23 rfl rfl)
theorem dX16_holding_24 : decode cX16_holding 24 = .ok (.invokeinterface 13 2, 5) := by decide +kernel
theorem dX16_holding_29 : decode cX16_holding 29 = .ok (.checkcast 19, 3) := dk_192 0 19 (dk_at dksX16_holding_1 5 rfl rfl)
theorem dX16_holding_32 : decode cX16_holding 32 = .ok (.invokevirtual 25, 3) := dk_182 0 25 (dk_at dksX16_holding_1 8 rfl rfl)
theorem dX16_holding_35 : decode cX16_holding 35 = .ok (.ifCond .eq 7, 3) := dk_153 0 7 (dk_at dksX16_holding_1 11 rfl rfl)
theorem dX16_holding_38 : decode cX16_holding 38 = .ok (.iload_n 2, 1) := dk_28 (dk_at dksX16_holding_1 14 rfl rfl)
theorem dX16_holding_39 : decode cX16_holding 39 = .ok (.goto 6, 3) := dk_167 0 6 (dk_at dksX16_holding_1 15 rfl rfl)
theorem dX16_holding_42 : decode cX16_holding 42 = .ok (.iload_n 2, 1) := dk_28 (dk_at dksX16_holding_1 18 rfl rfl)
theorem dX16_holding_43 : decode cX16_holding 43 = .ok (.iconst (-1), 1) := dk_2 (dk_at dksX16_holding_1 19 rfl rfl)
theorem dX16_holding_44 : decode cX16_holding 44 = .ok (.ixor, 1) := dk_130 (dk_at dksX16_holding_1 20 rfl rfl)
theorem dX16_holding_45 : decode cX16_holding 45 = .ok (.ireturn, 1) := dk_172 (dk_at dksX16_holding_1 21 rfl rfl)
def dkwX16_init_0 : List UInt8 := [42, 43, 183, 0, 1, 42, 44, 181, 0, 7, 177]
abbrev dktX16_init_0 : List UInt8 := dkwX16_init_0 ++ []
theorem dksX16_init_0 : cX16_init.data.toList.drop 0 = dktX16_init_0 := by decide +kernel
theorem dX16_init_0 : decode cX16_init 0 = .ok (.aload_n 0, 1) := dk_42 (dk_at dksX16_init_0 0 rfl rfl)
theorem dX16_init_1 : decode cX16_init 1 = .ok (.aload_n 1, 1) := dk_43 (dk_at dksX16_init_0 1 rfl rfl)
theorem dX16_init_2 : decode cX16_init 2 = .ok (.invokespecial 1, 3) := dk_183 0 1 (dk_at dksX16_init_0 2 rfl rfl)
theorem dX16_init_5 : decode cX16_init 5 = .ok (.aload_n 0, 1) := dk_42 (dk_at dksX16_init_0 5 rfl rfl)
theorem dX16_init_6 : decode cX16_init 6 = .ok (.aload_n 2, 1) := dk_44 (dk_at dksX16_init_0 6 rfl rfl)
theorem dX16_init_7 : decode cX16_init 7 = .ok (.putfield 7, 3) := dk_181 0 7 (dk_at dksX16_init_0 7 rfl rfl)
theorem dX16_init_10 : decode cX16_init 10 = .ok (.return_, 1) := dk_177 (dk_at dksX16_init_0 10 rfl rfl)
def dkwX17_keep_1 : List UInt8 := [167, 0, 6, 4, 28, 120, 79, 177]
abbrev dktX17_keep_1 : List UInt8 := dkwX17_keep_1 ++ []
def dkwX17_keep_0 : List UInt8 := [42, 180, 0, 9, 42, 180, 0, 15, 182, 0, 19, 61, 42, 180, 0, 25, 3, 28, 2, 160, 0, 7, 2]
abbrev dktX17_keep_0 : List UInt8 := dkwX17_keep_0 ++ dktX17_keep_1
theorem dksX17_keep_0 : cX17_keep.data.toList.drop 0 = dktX17_keep_0 := by decide +kernel
theorem dksX17_keep_1 : cX17_keep.data.toList.drop 23 = dktX17_keep_1 := dk_seg dksX17_keep_0 23 rfl rfl
theorem dX17_keep_0 : decode cX17_keep 0 = .ok (.aload_n 0, 1) := dk_42 (dk_at dksX17_keep_0 0 rfl rfl)
theorem dX17_keep_1 : decode cX17_keep 1 = .ok (.getfield 9, 3) := dk_180 0 9 (dk_at dksX17_keep_0 1 rfl rfl)
theorem dX17_keep_4 : decode cX17_keep 4 = .ok (.aload_n 0, 1) := dk_42 (dk_at dksX17_keep_0 4 rfl rfl)
theorem dX17_keep_5 : decode cX17_keep 5 = .ok (.getfield 15, 3) := dk_180 0 15 (dk_at dksX17_keep_0 5 rfl rfl)
theorem dX17_keep_8 : decode cX17_keep 8 = .ok (.invokevirtual 19, 3) := dk_182 0 19 (dk_at dksX17_keep_0 8 rfl rfl)
theorem dX17_keep_11 : decode cX17_keep 11 = .ok (.istore_n 2, 1) := dk_61 (dk_at dksX17_keep_0 11 rfl rfl)
theorem dX17_keep_12 : decode cX17_keep 12 = .ok (.aload_n 0, 1) := dk_42 (dk_at dksX17_keep_0 12 rfl rfl)
theorem dX17_keep_13 : decode cX17_keep 13 = .ok (.getfield 25, 3) := dk_180 0 25 (dk_at dksX17_keep_0 13 rfl rfl)
theorem dX17_keep_16 : decode cX17_keep 16 = .ok (.iconst 0, 1) := dk_3 (dk_at dksX17_keep_0 16 rfl rfl)
theorem dX17_keep_17 : decode cX17_keep 17 = .ok (.iload_n 2, 1) := dk_28 (dk_at dksX17_keep_0 17 rfl rfl)
theorem dX17_keep_18 : decode cX17_keep 18 = .ok (.iconst (-1), 1) := dk_2 (dk_at dksX17_keep_0 18 rfl rfl)
theorem dX17_keep_19 : decode cX17_keep 19 = .ok (.if_icmp .ne 7, 3) := dk_160 0 7 (dk_at dksX17_keep_0 19 rfl rfl)
theorem dX17_keep_22 : decode cX17_keep 22 = .ok (.iconst (-1), 1) := dk_2 (dk_at dksX17_keep_0 22 rfl rfl)
theorem dX17_keep_23 : decode cX17_keep 23 = .ok (.goto 6, 3) := dk_167 0 6 (dk_at dksX17_keep_1 0 rfl rfl)
theorem dX17_keep_26 : decode cX17_keep 26 = .ok (.iconst 1, 1) := dk_4 (dk_at dksX17_keep_1 3 rfl rfl)
theorem dX17_keep_27 : decode cX17_keep 27 = .ok (.iload_n 2, 1) := dk_28 (dk_at dksX17_keep_1 4 rfl rfl)
theorem dX17_keep_28 : decode cX17_keep 28 = .ok (.ishl, 1) := dk_120 (dk_at dksX17_keep_1 5 rfl rfl)
theorem dX17_keep_29 : decode cX17_keep 29 = .ok (.iastore, 1) := dk_79 (dk_at dksX17_keep_1 6 rfl rfl)
theorem dX17_keep_30 : decode cX17_keep 30 = .ok (.return_, 1) := dk_177 (dk_at dksX17_keep_1 7 rfl rfl)
def dkwX17_init_0 : List UInt8 := [42, 43, 183, 0, 3, 42, 44, 181, 0, 9, 42, 29, 181, 0, 15, 177]
abbrev dktX17_init_0 : List UInt8 := dkwX17_init_0 ++ []
theorem dksX17_init_0 : cX17_init.data.toList.drop 0 = dktX17_init_0 := by decide +kernel
theorem dX17_init_0 : decode cX17_init 0 = .ok (.aload_n 0, 1) := dk_42 (dk_at dksX17_init_0 0 rfl rfl)
theorem dX17_init_1 : decode cX17_init 1 = .ok (.aload_n 1, 1) := dk_43 (dk_at dksX17_init_0 1 rfl rfl)
theorem dX17_init_2 : decode cX17_init 2 = .ok (.invokespecial 3, 3) := dk_183 0 3 (dk_at dksX17_init_0 2 rfl rfl)
theorem dX17_init_5 : decode cX17_init 5 = .ok (.aload_n 0, 1) := dk_42 (dk_at dksX17_init_0 5 rfl rfl)
theorem dX17_init_6 : decode cX17_init 6 = .ok (.aload_n 2, 1) := dk_44 (dk_at dksX17_init_0 6 rfl rfl)
theorem dX17_init_7 : decode cX17_init 7 = .ok (.putfield 9, 3) := dk_181 0 9 (dk_at dksX17_init_0 7 rfl rfl)
theorem dX17_init_10 : decode cX17_init 10 = .ok (.aload_n 0, 1) := dk_42 (dk_at dksX17_init_0 10 rfl rfl)
theorem dX17_init_11 : decode cX17_init 11 = .ok (.iload_n 3, 1) := dk_29 (dk_at dksX17_init_0 11 rfl rfl)
theorem dX17_init_12 : decode cX17_init 12 = .ok (.putfield 15, 3) := dk_181 0 15 (dk_at dksX17_init_0 12 rfl rfl)
theorem dX17_init_15 : decode cX17_init 15 = .ok (.return_, 1) := dk_177 (dk_at dksX17_init_0 15 rfl rfl)
def dkwX18_init_2 : List UInt8 := [3, 183, 0, 34, 185, 0, 37, 2, 0, 87, 177]
abbrev dktX18_init_2 : List UInt8 := dkwX18_init_2 ++ []
def dkwX18_init_1 : List UInt8 := [181, 0, 21, 42, 27, 181, 0, 25, 42, 28, 181, 0, 29, 42, 180, 0, 21, 187, 0, 32, 89, 3, 2, 3]
abbrev dktX18_init_1 : List UInt8 := dkwX18_init_1 ++ dktX18_init_2
def dkwX18_init_0 : List UInt8 := [42, 183, 0, 3, 42, 187, 0, 9, 89, 183, 0, 11, 181, 0, 12, 42, 187, 0, 18, 89, 183, 0, 20]
abbrev dktX18_init_0 : List UInt8 := dkwX18_init_0 ++ dktX18_init_1
theorem dksX18_init_0 : cX18_init.data.toList.drop 0 = dktX18_init_0 := by decide +kernel
theorem dksX18_init_1 : cX18_init.data.toList.drop 23 = dktX18_init_1 := dk_seg dksX18_init_0 23 rfl rfl
theorem dksX18_init_2 : cX18_init.data.toList.drop 47 = dktX18_init_2 := dk_seg dksX18_init_1 24 rfl rfl
theorem dX18_init_0 : decode cX18_init 0 = .ok (.aload_n 0, 1) := dk_42 (dk_at dksX18_init_0 0 rfl rfl)
theorem dX18_init_1 : decode cX18_init 1 = .ok (.invokespecial 3, 3) := dk_183 0 3 (dk_at dksX18_init_0 1 rfl rfl)
theorem dX18_init_4 : decode cX18_init 4 = .ok (.aload_n 0, 1) := dk_42 (dk_at dksX18_init_0 4 rfl rfl)
theorem dX18_init_5 : decode cX18_init 5 = .ok (.new 9, 3) := dk_187 0 9 (dk_at dksX18_init_0 5 rfl rfl)
theorem dX18_init_8 : decode cX18_init 8 = .ok (.dup, 1) := dk_89 (dk_at dksX18_init_0 8 rfl rfl)
theorem dX18_init_9 : decode cX18_init 9 = .ok (.invokespecial 11, 3) := dk_183 0 11 (dk_at dksX18_init_0 9 rfl rfl)
theorem dX18_init_12 : decode cX18_init 12 = .ok (.putfield 12, 3) := dk_181 0 12 (dk_at dksX18_init_0 12 rfl rfl)
theorem dX18_init_15 : decode cX18_init 15 = .ok (.aload_n 0, 1) := dk_42 (dk_at dksX18_init_0 15 rfl rfl)
theorem dX18_init_16 : decode cX18_init 16 = .ok (.new 18, 3) := dk_187 0 18 (dk_at dksX18_init_0 16 rfl rfl)
theorem dX18_init_19 : decode cX18_init 19 = .ok (.dup, 1) := dk_89 (dk_at dksX18_init_0 19 rfl rfl)
theorem dX18_init_20 : decode cX18_init 20 = .ok (.invokespecial 20, 3) := dk_183 0 20 (dk_at dksX18_init_0 20 rfl rfl)
theorem dX18_init_23 : decode cX18_init 23 = .ok (.putfield 21, 3) := dk_181 0 21 (dk_at dksX18_init_1 0 rfl rfl)
theorem dX18_init_26 : decode cX18_init 26 = .ok (.aload_n 0, 1) := dk_42 (dk_at dksX18_init_1 3 rfl rfl)
theorem dX18_init_27 : decode cX18_init 27 = .ok (.iload_n 1, 1) := dk_27 (dk_at dksX18_init_1 4 rfl rfl)
theorem dX18_init_28 : decode cX18_init 28 = .ok (.putfield 25, 3) := dk_181 0 25 (dk_at dksX18_init_1 5 rfl rfl)
theorem dX18_init_31 : decode cX18_init 31 = .ok (.aload_n 0, 1) := dk_42 (dk_at dksX18_init_1 8 rfl rfl)
theorem dX18_init_32 : decode cX18_init 32 = .ok (.iload_n 2, 1) := dk_28 (dk_at dksX18_init_1 9 rfl rfl)
theorem dX18_init_33 : decode cX18_init 33 = .ok (.putfield 29, 3) := dk_181 0 29 (dk_at dksX18_init_1 10 rfl rfl)
theorem dX18_init_36 : decode cX18_init 36 = .ok (.aload_n 0, 1) := dk_42 (dk_at dksX18_init_1 13 rfl rfl)
theorem dX18_init_37 : decode cX18_init 37 = .ok (.getfield 21, 3) := dk_180 0 21 (dk_at dksX18_init_1 14 rfl rfl)
theorem dX18_init_40 : decode cX18_init 40 = .ok (.new 32, 3) := dk_187 0 32 (dk_at dksX18_init_1 17 rfl rfl)
theorem dX18_init_43 : decode cX18_init 43 = .ok (.dup, 1) := dk_89 (dk_at dksX18_init_1 20 rfl rfl)
theorem dX18_init_44 : decode cX18_init 44 = .ok (.iconst 0, 1) := dk_3 (dk_at dksX18_init_1 21 rfl rfl)
theorem dX18_init_45 : decode cX18_init 45 = .ok (.iconst (-1), 1) := dk_2 (dk_at dksX18_init_1 22 rfl rfl)
theorem dX18_init_46 : decode cX18_init 46 = .ok (.iconst 0, 1) := dk_3 (dk_at dksX18_init_1 23 rfl rfl)
theorem dX18_init_47 : decode cX18_init 47 = .ok (.iconst 0, 1) := dk_3 (dk_at dksX18_init_2 0 rfl rfl)
theorem dX18_init_48 : decode cX18_init 48 = .ok (.invokespecial 34, 3) := dk_183 0 34 (dk_at dksX18_init_2 1 rfl rfl)
theorem dX18_init_51 : decode cX18_init 51 = .ok (.invokeinterface 37 2, 5) := by decide +kernel
theorem dX18_init_56 : decode cX18_init 56 = .ok (.pop, 1) := dk_87 (dk_at dksX18_init_2 9 rfl rfl)
theorem dX18_init_57 : decode cX18_init 57 = .ok (.return_, 1) := dk_177 (dk_at dksX18_init_2 10 rfl rfl)
def dkwX19_init_1 : List UInt8 := [181, 0, 19, 177]
abbrev dktX19_init_1 : List UInt8 := dkwX19_init_1 ++ []
def dkwX19_init_0 : List UInt8 := [42, 183, 0, 1, 42, 27, 181, 0, 7, 42, 28, 181, 0, 13, 42, 29, 181, 0, 16, 42, 21, 4]
abbrev dktX19_init_0 : List UInt8 := dkwX19_init_0 ++ dktX19_init_1
theorem dksX19_init_0 : cX19_init.data.toList.drop 0 = dktX19_init_0 := by decide +kernel
theorem dksX19_init_1 : cX19_init.data.toList.drop 22 = dktX19_init_1 := dk_seg dksX19_init_0 22 rfl rfl
theorem dX19_init_0 : decode cX19_init 0 = .ok (.aload_n 0, 1) := dk_42 (dk_at dksX19_init_0 0 rfl rfl)
theorem dX19_init_1 : decode cX19_init 1 = .ok (.invokespecial 1, 3) := dk_183 0 1 (dk_at dksX19_init_0 1 rfl rfl)
theorem dX19_init_4 : decode cX19_init 4 = .ok (.aload_n 0, 1) := dk_42 (dk_at dksX19_init_0 4 rfl rfl)
theorem dX19_init_5 : decode cX19_init 5 = .ok (.iload_n 1, 1) := dk_27 (dk_at dksX19_init_0 5 rfl rfl)
theorem dX19_init_6 : decode cX19_init 6 = .ok (.putfield 7, 3) := dk_181 0 7 (dk_at dksX19_init_0 6 rfl rfl)
theorem dX19_init_9 : decode cX19_init 9 = .ok (.aload_n 0, 1) := dk_42 (dk_at dksX19_init_0 9 rfl rfl)
theorem dX19_init_10 : decode cX19_init 10 = .ok (.iload_n 2, 1) := dk_28 (dk_at dksX19_init_0 10 rfl rfl)
theorem dX19_init_11 : decode cX19_init 11 = .ok (.putfield 13, 3) := dk_181 0 13 (dk_at dksX19_init_0 11 rfl rfl)
theorem dX19_init_14 : decode cX19_init 14 = .ok (.aload_n 0, 1) := dk_42 (dk_at dksX19_init_0 14 rfl rfl)
theorem dX19_init_15 : decode cX19_init 15 = .ok (.iload_n 3, 1) := dk_29 (dk_at dksX19_init_0 15 rfl rfl)
theorem dX19_init_16 : decode cX19_init 16 = .ok (.putfield 16, 3) := dk_181 0 16 (dk_at dksX19_init_0 16 rfl rfl)
theorem dX19_init_19 : decode cX19_init 19 = .ok (.aload_n 0, 1) := dk_42 (dk_at dksX19_init_0 19 rfl rfl)
theorem dX19_init_20 : decode cX19_init 20 = .ok (.iload 4, 2) := dk_21 4 (dk_at dksX19_init_0 20 rfl rfl)
theorem dX19_init_22 : decode cX19_init 22 = .ok (.putfield 19, 3) := dk_181 0 19 (dk_at dksX19_init_1 0 rfl rfl)
theorem dX19_init_25 : decode cX19_init 25 = .ok (.return_, 1) := dk_177 (dk_at dksX19_init_1 3 rfl rfl)
theorem dX19_stay_0 : decode cX19_stay 0 = .ok (.aload_n 0, 1) := by decide +kernel
theorem dX19_stay_1 : decode cX19_stay 1 = .ok (.getfield 7, 3) := by decide +kernel
theorem dX19_stay_4 : decode cX19_stay 4 = .ok (.ireturn, 1) := by decide +kernel
theorem dX19_variable_0 : decode cX19_variable 0 = .ok (.aload_n 0, 1) := by decide +kernel
theorem dX19_variable_1 : decode cX19_variable 1 = .ok (.getfield 13, 3) := by decide +kernel
theorem dX19_variable_4 : decode cX19_variable 4 = .ok (.ireturn, 1) := by decide +kernel
theorem dX19_value_0 : decode cX19_value 0 = .ok (.aload_n 0, 1) := by decide +kernel
theorem dX19_value_1 : decode cX19_value 1 = .ok (.getfield 16, 3) := by decide +kernel
theorem dX19_value_4 : decode cX19_value 4 = .ok (.ireturn, 1) := by decide +kernel
theorem dX19_has_0 : decode cX19_has 0 = .ok (.aload_n 0, 1) := by decide +kernel
theorem dX19_has_1 : decode cX19_has 1 = .ok (.getfield 19, 3) := by decide +kernel
theorem dX19_has_4 : decode cX19_has 4 = .ok (.ireturn, 1) := by decide +kernel
def dkwX2_init_1 : List UInt8 := [17, 1, 157, 188, 4, 181, 0, 18, 177]
abbrev dktX2_init_1 : List UInt8 := dkwX2_init_1 ++ []
def dkwX2_init_0 : List UInt8 := [42, 183, 0, 3, 42, 17, 1, 157, 188, 10, 181, 0, 9, 42, 17, 1, 157, 188, 10, 181, 0, 15, 42]
abbrev dktX2_init_0 : List UInt8 := dkwX2_init_0 ++ dktX2_init_1
theorem dksX2_init_0 : cX2_init.data.toList.drop 0 = dktX2_init_0 := by decide +kernel
theorem dksX2_init_1 : cX2_init.data.toList.drop 23 = dktX2_init_1 := dk_seg dksX2_init_0 23 rfl rfl
theorem dX2_init_0 : decode cX2_init 0 = .ok (.aload_n 0, 1) := dk_42 (dk_at dksX2_init_0 0 rfl rfl)
theorem dX2_init_1 : decode cX2_init 1 = .ok (.invokespecial 3, 3) := dk_183 0 3 (dk_at dksX2_init_0 1 rfl rfl)
theorem dX2_init_4 : decode cX2_init 4 = .ok (.aload_n 0, 1) := dk_42 (dk_at dksX2_init_0 4 rfl rfl)
theorem dX2_init_5 : decode cX2_init 5 = .ok (.sipush 413, 3) := dk_17 1 157 (dk_at dksX2_init_0 5 rfl rfl)
theorem dX2_init_8 : decode cX2_init 8 = .ok (.newarray .int, 2) := dk_188_10 (dk_at dksX2_init_0 8 rfl rfl)
theorem dX2_init_10 : decode cX2_init 10 = .ok (.putfield 9, 3) := dk_181 0 9 (dk_at dksX2_init_0 10 rfl rfl)
theorem dX2_init_13 : decode cX2_init 13 = .ok (.aload_n 0, 1) := dk_42 (dk_at dksX2_init_0 13 rfl rfl)
theorem dX2_init_14 : decode cX2_init 14 = .ok (.sipush 413, 3) := dk_17 1 157 (dk_at dksX2_init_0 14 rfl rfl)
theorem dX2_init_17 : decode cX2_init 17 = .ok (.newarray .int, 2) := dk_188_10 (dk_at dksX2_init_0 17 rfl rfl)
theorem dX2_init_19 : decode cX2_init 19 = .ok (.putfield 15, 3) := dk_181 0 15 (dk_at dksX2_init_0 19 rfl rfl)
theorem dX2_init_22 : decode cX2_init 22 = .ok (.aload_n 0, 1) := dk_42 (dk_at dksX2_init_0 22 rfl rfl)
theorem dX2_init_23 : decode cX2_init 23 = .ok (.sipush 413, 3) := dk_17 1 157 (dk_at dksX2_init_1 0 rfl rfl)
theorem dX2_init_26 : decode cX2_init 26 = .ok (.newarray .boolean, 2) := dk_188_4 (dk_at dksX2_init_1 3 rfl rfl)
theorem dX2_init_28 : decode cX2_init 28 = .ok (.putfield 18, 3) := dk_181 0 18 (dk_at dksX2_init_1 5 rfl rfl)
theorem dX2_init_31 : decode cX2_init 31 = .ok (.return_, 1) := dk_177 (dk_at dksX2_init_1 8 rfl rfl)
def dkwX2_left_1 : List UInt8 := [28, 29, 2, 130, 126, 172]
abbrev dktX2_left_1 : List UInt8 := dkwX2_left_1 ++ []
def dkwX2_left_0 : List UInt8 := [4, 42, 180, 0, 15, 27, 46, 120, 62, 42, 180, 0, 18, 27, 51, 153, 0, 9, 28, 29, 126, 167, 0, 8]
abbrev dktX2_left_0 : List UInt8 := dkwX2_left_0 ++ dktX2_left_1
theorem dksX2_left_0 : cX2_left.data.toList.drop 0 = dktX2_left_0 := by decide +kernel
theorem dksX2_left_1 : cX2_left.data.toList.drop 24 = dktX2_left_1 := dk_seg dksX2_left_0 24 rfl rfl
theorem dX2_left_0 : decode cX2_left 0 = .ok (.iconst 1, 1) := dk_4 (dk_at dksX2_left_0 0 rfl rfl)
theorem dX2_left_1 : decode cX2_left 1 = .ok (.aload_n 0, 1) := dk_42 (dk_at dksX2_left_0 1 rfl rfl)
theorem dX2_left_2 : decode cX2_left 2 = .ok (.getfield 15, 3) := dk_180 0 15 (dk_at dksX2_left_0 2 rfl rfl)
theorem dX2_left_5 : decode cX2_left 5 = .ok (.iload_n 1, 1) := dk_27 (dk_at dksX2_left_0 5 rfl rfl)
theorem dX2_left_6 : decode cX2_left 6 = .ok (.iaload, 1) := dk_46 (dk_at dksX2_left_0 6 rfl rfl)
theorem dX2_left_7 : decode cX2_left 7 = .ok (.ishl, 1) := dk_120 (dk_at dksX2_left_0 7 rfl rfl)
theorem dX2_left_8 : decode cX2_left 8 = .ok (.istore_n 3, 1) := dk_62 (dk_at dksX2_left_0 8 rfl rfl)
theorem dX2_left_9 : decode cX2_left 9 = .ok (.aload_n 0, 1) := dk_42 (dk_at dksX2_left_0 9 rfl rfl)
theorem dX2_left_10 : decode cX2_left 10 = .ok (.getfield 18, 3) := dk_180 0 18 (dk_at dksX2_left_0 10 rfl rfl)
theorem dX2_left_13 : decode cX2_left 13 = .ok (.iload_n 1, 1) := dk_27 (dk_at dksX2_left_0 13 rfl rfl)
theorem dX2_left_14 : decode cX2_left 14 = .ok (.baload, 1) := dk_51 (dk_at dksX2_left_0 14 rfl rfl)
theorem dX2_left_15 : decode cX2_left 15 = .ok (.ifCond .eq 9, 3) := dk_153 0 9 (dk_at dksX2_left_0 15 rfl rfl)
theorem dX2_left_18 : decode cX2_left 18 = .ok (.iload_n 2, 1) := dk_28 (dk_at dksX2_left_0 18 rfl rfl)
theorem dX2_left_19 : decode cX2_left 19 = .ok (.iload_n 3, 1) := dk_29 (dk_at dksX2_left_0 19 rfl rfl)
theorem dX2_left_20 : decode cX2_left 20 = .ok (.iand, 1) := dk_126 (dk_at dksX2_left_0 20 rfl rfl)
theorem dX2_left_21 : decode cX2_left 21 = .ok (.goto 8, 3) := dk_167 0 8 (dk_at dksX2_left_0 21 rfl rfl)
theorem dX2_left_24 : decode cX2_left 24 = .ok (.iload_n 2, 1) := dk_28 (dk_at dksX2_left_1 0 rfl rfl)
theorem dX2_left_25 : decode cX2_left 25 = .ok (.iload_n 3, 1) := dk_29 (dk_at dksX2_left_1 1 rfl rfl)
theorem dX2_left_26 : decode cX2_left 26 = .ok (.iconst (-1), 1) := dk_2 (dk_at dksX2_left_1 2 rfl rfl)
theorem dX2_left_27 : decode cX2_left 27 = .ok (.ixor, 1) := dk_130 (dk_at dksX2_left_1 3 rfl rfl)
theorem dX2_left_28 : decode cX2_left 28 = .ok (.iand, 1) := dk_126 (dk_at dksX2_left_1 4 rfl rfl)
theorem dX2_left_29 : decode cX2_left 29 = .ok (.ireturn, 1) := dk_172 (dk_at dksX2_left_1 5 rfl rfl)
def dkwX2_add_1 : List UInt8 := [42, 180, 0, 22, 29, 84, 42, 89, 180, 0, 22, 4, 96, 181, 0, 22, 177]
abbrev dktX2_add_1 : List UInt8 := dkwX2_add_1 ++ []
def dkwX2_add_0 : List UInt8 := [42, 180, 0, 9, 42, 180, 0, 22, 27, 79, 42, 180, 0, 15, 42, 180, 0, 22, 28, 79, 42, 180, 0, 18]
abbrev dktX2_add_0 : List UInt8 := dkwX2_add_0 ++ dktX2_add_1
theorem dksX2_add_0 : cX2_add.data.toList.drop 0 = dktX2_add_0 := by decide +kernel
theorem dksX2_add_1 : cX2_add.data.toList.drop 24 = dktX2_add_1 := dk_seg dksX2_add_0 24 rfl rfl
theorem dX2_add_0 : decode cX2_add 0 = .ok (.aload_n 0, 1) := dk_42 (dk_at dksX2_add_0 0 rfl rfl)
theorem dX2_add_1 : decode cX2_add 1 = .ok (.getfield 9, 3) := dk_180 0 9 (dk_at dksX2_add_0 1 rfl rfl)
theorem dX2_add_4 : decode cX2_add 4 = .ok (.aload_n 0, 1) := dk_42 (dk_at dksX2_add_0 4 rfl rfl)
theorem dX2_add_5 : decode cX2_add 5 = .ok (.getfield 22, 3) := dk_180 0 22 (dk_at dksX2_add_0 5 rfl rfl)
theorem dX2_add_8 : decode cX2_add 8 = .ok (.iload_n 1, 1) := dk_27 (dk_at dksX2_add_0 8 rfl rfl)
theorem dX2_add_9 : decode cX2_add 9 = .ok (.iastore, 1) := dk_79 (dk_at dksX2_add_0 9 rfl rfl)
theorem dX2_add_10 : decode cX2_add 10 = .ok (.aload_n 0, 1) := dk_42 (dk_at dksX2_add_0 10 rfl rfl)
theorem dX2_add_11 : decode cX2_add 11 = .ok (.getfield 15, 3) := dk_180 0 15 (dk_at dksX2_add_0 11 rfl rfl)
theorem dX2_add_14 : decode cX2_add 14 = .ok (.aload_n 0, 1) := dk_42 (dk_at dksX2_add_0 14 rfl rfl)
theorem dX2_add_15 : decode cX2_add 15 = .ok (.getfield 22, 3) := dk_180 0 22 (dk_at dksX2_add_0 15 rfl rfl)
theorem dX2_add_18 : decode cX2_add 18 = .ok (.iload_n 2, 1) := dk_28 (dk_at dksX2_add_0 18 rfl rfl)
theorem dX2_add_19 : decode cX2_add 19 = .ok (.iastore, 1) := dk_79 (dk_at dksX2_add_0 19 rfl rfl)
theorem dX2_add_20 : decode cX2_add 20 = .ok (.aload_n 0, 1) := dk_42 (dk_at dksX2_add_0 20 rfl rfl)
theorem dX2_add_21 : decode cX2_add 21 = .ok (.getfield 18, 3) := dk_180 0 18 (dk_at dksX2_add_0 21 rfl rfl)
theorem dX2_add_24 : decode cX2_add 24 = .ok (.aload_n 0, 1) := dk_42 (dk_at dksX2_add_1 0 rfl rfl)
theorem dX2_add_25 : decode cX2_add 25 = .ok (.getfield 22, 3) := dk_180 0 22 (dk_at dksX2_add_1 1 rfl rfl)
theorem dX2_add_28 : decode cX2_add 28 = .ok (.iload_n 3, 1) := dk_29 (dk_at dksX2_add_1 4 rfl rfl)
theorem dX2_add_29 : decode cX2_add 29 = .ok (.bastore, 1) := dk_84 (dk_at dksX2_add_1 5 rfl rfl)
theorem dX2_add_30 : decode cX2_add 30 = .ok (.aload_n 0, 1) := dk_42 (dk_at dksX2_add_1 6 rfl rfl)
theorem dX2_add_31 : decode cX2_add 31 = .ok (.dup, 1) := dk_89 (dk_at dksX2_add_1 7 rfl rfl)
theorem dX2_add_32 : decode cX2_add 32 = .ok (.getfield 22, 3) := dk_180 0 22 (dk_at dksX2_add_1 8 rfl rfl)
theorem dX2_add_35 : decode cX2_add 35 = .ok (.iconst 1, 1) := dk_4 (dk_at dksX2_add_1 11 rfl rfl)
theorem dX2_add_36 : decode cX2_add 36 = .ok (.iadd, 1) := dk_96 (dk_at dksX2_add_1 12 rfl rfl)
theorem dX2_add_37 : decode cX2_add 37 = .ok (.putfield 22, 3) := dk_181 0 22 (dk_at dksX2_add_1 13 rfl rfl)
theorem dX2_add_40 : decode cX2_add 40 = .ok (.return_, 1) := dk_177 (dk_at dksX2_add_1 16 rfl rfl)
def dkwX3_init_1 : List UInt8 := [188, 10, 181, 0, 18, 42, 16, 16, 188, 10, 181, 0, 21, 177]
abbrev dktX3_init_1 : List UInt8 := dkwX3_init_1 ++ []
def dkwX3_init_0 : List UInt8 := [42, 183, 0, 3, 42, 16, 16, 188, 10, 181, 0, 9, 42, 16, 16, 188, 10, 181, 0, 15, 42, 16, 16]
abbrev dktX3_init_0 : List UInt8 := dkwX3_init_0 ++ dktX3_init_1
theorem dksX3_init_0 : cX3_init.data.toList.drop 0 = dktX3_init_0 := by decide +kernel
theorem dksX3_init_1 : cX3_init.data.toList.drop 23 = dktX3_init_1 := dk_seg dksX3_init_0 23 rfl rfl
theorem dX3_init_0 : decode cX3_init 0 = .ok (.aload_n 0, 1) := dk_42 (dk_at dksX3_init_0 0 rfl rfl)
theorem dX3_init_1 : decode cX3_init 1 = .ok (.invokespecial 3, 3) := dk_183 0 3 (dk_at dksX3_init_0 1 rfl rfl)
theorem dX3_init_4 : decode cX3_init 4 = .ok (.aload_n 0, 1) := dk_42 (dk_at dksX3_init_0 4 rfl rfl)
theorem dX3_init_5 : decode cX3_init 5 = .ok (.bipush 16, 2) := dk_16 16 (dk_at dksX3_init_0 5 rfl rfl)
theorem dX3_init_7 : decode cX3_init 7 = .ok (.newarray .int, 2) := dk_188_10 (dk_at dksX3_init_0 7 rfl rfl)
theorem dX3_init_9 : decode cX3_init 9 = .ok (.putfield 9, 3) := dk_181 0 9 (dk_at dksX3_init_0 9 rfl rfl)
theorem dX3_init_12 : decode cX3_init 12 = .ok (.aload_n 0, 1) := dk_42 (dk_at dksX3_init_0 12 rfl rfl)
theorem dX3_init_13 : decode cX3_init 13 = .ok (.bipush 16, 2) := dk_16 16 (dk_at dksX3_init_0 13 rfl rfl)
theorem dX3_init_15 : decode cX3_init 15 = .ok (.newarray .int, 2) := dk_188_10 (dk_at dksX3_init_0 15 rfl rfl)
theorem dX3_init_17 : decode cX3_init 17 = .ok (.putfield 15, 3) := dk_181 0 15 (dk_at dksX3_init_0 17 rfl rfl)
theorem dX3_init_20 : decode cX3_init 20 = .ok (.aload_n 0, 1) := dk_42 (dk_at dksX3_init_0 20 rfl rfl)
theorem dX3_init_21 : decode cX3_init 21 = .ok (.bipush 16, 2) := dk_16 16 (dk_at dksX3_init_0 21 rfl rfl)
theorem dX3_init_23 : decode cX3_init 23 = .ok (.newarray .int, 2) := dk_188_10 (dk_at dksX3_init_1 0 rfl rfl)
theorem dX3_init_25 : decode cX3_init 25 = .ok (.putfield 18, 3) := dk_181 0 18 (dk_at dksX3_init_1 2 rfl rfl)
theorem dX3_init_28 : decode cX3_init 28 = .ok (.aload_n 0, 1) := dk_42 (dk_at dksX3_init_1 5 rfl rfl)
theorem dX3_init_29 : decode cX3_init 29 = .ok (.bipush 16, 2) := dk_16 16 (dk_at dksX3_init_1 6 rfl rfl)
theorem dX3_init_31 : decode cX3_init 31 = .ok (.newarray .int, 2) := dk_188_10 (dk_at dksX3_init_1 8 rfl rfl)
theorem dX3_init_33 : decode cX3_init 33 = .ok (.putfield 21, 3) := dk_181 0 21 (dk_at dksX3_init_1 10 rfl rfl)
theorem dX3_init_36 : decode cX3_init 36 = .ok (.return_, 1) := dk_177 (dk_at dksX3_init_1 13 rfl rfl)
def dkwX3_symbol_0 : List UInt8 := [42, 180, 0, 15, 42, 27, 182, 0, 28, 46, 172]
abbrev dktX3_symbol_0 : List UInt8 := dkwX3_symbol_0 ++ []
theorem dksX3_symbol_0 : cX3_symbol.data.toList.drop 0 = dktX3_symbol_0 := by decide +kernel
theorem dX3_symbol_0 : decode cX3_symbol 0 = .ok (.aload_n 0, 1) := dk_42 (dk_at dksX3_symbol_0 0 rfl rfl)
theorem dX3_symbol_1 : decode cX3_symbol 1 = .ok (.getfield 15, 3) := dk_180 0 15 (dk_at dksX3_symbol_0 1 rfl rfl)
theorem dX3_symbol_4 : decode cX3_symbol 4 = .ok (.aload_n 0, 1) := dk_42 (dk_at dksX3_symbol_0 4 rfl rfl)
theorem dX3_symbol_5 : decode cX3_symbol 5 = .ok (.iload_n 1, 1) := dk_27 (dk_at dksX3_symbol_0 5 rfl rfl)
theorem dX3_symbol_6 : decode cX3_symbol 6 = .ok (.invokevirtual 28, 3) := dk_182 0 28 (dk_at dksX3_symbol_0 6 rfl rfl)
theorem dX3_symbol_9 : decode cX3_symbol 9 = .ok (.iaload, 1) := dk_46 (dk_at dksX3_symbol_0 9 rfl rfl)
theorem dX3_symbol_10 : decode cX3_symbol 10 = .ok (.ireturn, 1) := dk_172 (dk_at dksX3_symbol_0 10 rfl rfl)
def dkwX3_one_0 : List UInt8 := [27, 61, 42, 180, 0, 9, 28, 46, 28, 159, 0, 13, 42, 180, 0, 9, 28, 46, 61, 167, 255, 239, 28, 172]
abbrev dktX3_one_0 : List UInt8 := dkwX3_one_0 ++ []
theorem dksX3_one_0 : cX3_one.data.toList.drop 0 = dktX3_one_0 := by decide +kernel
theorem dX3_one_0 : decode cX3_one 0 = .ok (.iload_n 1, 1) := dk_27 (dk_at dksX3_one_0 0 rfl rfl)
theorem dX3_one_1 : decode cX3_one 1 = .ok (.istore_n 2, 1) := dk_61 (dk_at dksX3_one_0 1 rfl rfl)
theorem dX3_one_2 : decode cX3_one 2 = .ok (.aload_n 0, 1) := dk_42 (dk_at dksX3_one_0 2 rfl rfl)
theorem dX3_one_3 : decode cX3_one 3 = .ok (.getfield 9, 3) := dk_180 0 9 (dk_at dksX3_one_0 3 rfl rfl)
theorem dX3_one_6 : decode cX3_one 6 = .ok (.iload_n 2, 1) := dk_28 (dk_at dksX3_one_0 6 rfl rfl)
theorem dX3_one_7 : decode cX3_one 7 = .ok (.iaload, 1) := dk_46 (dk_at dksX3_one_0 7 rfl rfl)
theorem dX3_one_8 : decode cX3_one 8 = .ok (.iload_n 2, 1) := dk_28 (dk_at dksX3_one_0 8 rfl rfl)
theorem dX3_one_9 : decode cX3_one 9 = .ok (.if_icmp .eq 13, 3) := dk_159 0 13 (dk_at dksX3_one_0 9 rfl rfl)
theorem dX3_one_12 : decode cX3_one 12 = .ok (.aload_n 0, 1) := dk_42 (dk_at dksX3_one_0 12 rfl rfl)
theorem dX3_one_13 : decode cX3_one 13 = .ok (.getfield 9, 3) := dk_180 0 9 (dk_at dksX3_one_0 13 rfl rfl)
theorem dX3_one_16 : decode cX3_one 16 = .ok (.iload_n 2, 1) := dk_28 (dk_at dksX3_one_0 16 rfl rfl)
theorem dX3_one_17 : decode cX3_one 17 = .ok (.iaload, 1) := dk_46 (dk_at dksX3_one_0 17 rfl rfl)
theorem dX3_one_18 : decode cX3_one 18 = .ok (.istore_n 2, 1) := dk_61 (dk_at dksX3_one_0 18 rfl rfl)
theorem dX3_one_19 : decode cX3_one 19 = .ok (.goto (-17), 3) := dk_167 255 239 (dk_at dksX3_one_0 19 rfl rfl)
theorem dX3_one_22 : decode cX3_one 22 = .ok (.iload_n 2, 1) := dk_28 (dk_at dksX3_one_0 22 rfl rfl)
theorem dX3_one_23 : decode cX3_one 23 = .ok (.ireturn, 1) := dk_172 (dk_at dksX3_one_0 23 rfl rfl)
def dkwX3_add_2 : List UInt8 := [4, 96, 181, 0, 24, 177]
abbrev dktX3_add_2 : List UInt8 := dkwX3_add_2 ++ []
def dkwX3_add_1 : List UInt8 := [180, 0, 18, 42, 180, 0, 24, 28, 79, 42, 180, 0, 21, 42, 180, 0, 24, 29, 79, 42, 89, 180, 0, 24]
abbrev dktX3_add_1 : List UInt8 := dkwX3_add_1 ++ dktX3_add_2
def dkwX3_add_0 : List UInt8 := [42, 180, 0, 9, 42, 180, 0, 24, 42, 180, 0, 24, 79, 42, 180, 0, 15, 42, 180, 0, 24, 27, 79, 42]
abbrev dktX3_add_0 : List UInt8 := dkwX3_add_0 ++ dktX3_add_1
theorem dksX3_add_0 : cX3_add.data.toList.drop 0 = dktX3_add_0 := by decide +kernel
theorem dksX3_add_1 : cX3_add.data.toList.drop 24 = dktX3_add_1 := dk_seg dksX3_add_0 24 rfl rfl
theorem dksX3_add_2 : cX3_add.data.toList.drop 48 = dktX3_add_2 := dk_seg dksX3_add_1 24 rfl rfl
theorem dX3_add_0 : decode cX3_add 0 = .ok (.aload_n 0, 1) := dk_42 (dk_at dksX3_add_0 0 rfl rfl)
theorem dX3_add_1 : decode cX3_add 1 = .ok (.getfield 9, 3) := dk_180 0 9 (dk_at dksX3_add_0 1 rfl rfl)
theorem dX3_add_4 : decode cX3_add 4 = .ok (.aload_n 0, 1) := dk_42 (dk_at dksX3_add_0 4 rfl rfl)
theorem dX3_add_5 : decode cX3_add 5 = .ok (.getfield 24, 3) := dk_180 0 24 (dk_at dksX3_add_0 5 rfl rfl)
theorem dX3_add_8 : decode cX3_add 8 = .ok (.aload_n 0, 1) := dk_42 (dk_at dksX3_add_0 8 rfl rfl)
theorem dX3_add_9 : decode cX3_add 9 = .ok (.getfield 24, 3) := dk_180 0 24 (dk_at dksX3_add_0 9 rfl rfl)
theorem dX3_add_12 : decode cX3_add 12 = .ok (.iastore, 1) := dk_79 (dk_at dksX3_add_0 12 rfl rfl)
theorem dX3_add_13 : decode cX3_add 13 = .ok (.aload_n 0, 1) := dk_42 (dk_at dksX3_add_0 13 rfl rfl)
theorem dX3_add_14 : decode cX3_add 14 = .ok (.getfield 15, 3) := dk_180 0 15 (dk_at dksX3_add_0 14 rfl rfl)
theorem dX3_add_17 : decode cX3_add 17 = .ok (.aload_n 0, 1) := dk_42 (dk_at dksX3_add_0 17 rfl rfl)
theorem dX3_add_18 : decode cX3_add 18 = .ok (.getfield 24, 3) := dk_180 0 24 (dk_at dksX3_add_0 18 rfl rfl)
theorem dX3_add_21 : decode cX3_add 21 = .ok (.iload_n 1, 1) := dk_27 (dk_at dksX3_add_0 21 rfl rfl)
theorem dX3_add_22 : decode cX3_add 22 = .ok (.iastore, 1) := dk_79 (dk_at dksX3_add_0 22 rfl rfl)
theorem dX3_add_23 : decode cX3_add 23 = .ok (.aload_n 0, 1) := dk_42 (dk_at dksX3_add_0 23 rfl rfl)
theorem dX3_add_24 : decode cX3_add 24 = .ok (.getfield 18, 3) := dk_180 0 18 (dk_at dksX3_add_1 0 rfl rfl)
theorem dX3_add_27 : decode cX3_add 27 = .ok (.aload_n 0, 1) := dk_42 (dk_at dksX3_add_1 3 rfl rfl)
theorem dX3_add_28 : decode cX3_add 28 = .ok (.getfield 24, 3) := dk_180 0 24 (dk_at dksX3_add_1 4 rfl rfl)
theorem dX3_add_31 : decode cX3_add 31 = .ok (.iload_n 2, 1) := dk_28 (dk_at dksX3_add_1 7 rfl rfl)
theorem dX3_add_32 : decode cX3_add 32 = .ok (.iastore, 1) := dk_79 (dk_at dksX3_add_1 8 rfl rfl)
theorem dX3_add_33 : decode cX3_add 33 = .ok (.aload_n 0, 1) := dk_42 (dk_at dksX3_add_1 9 rfl rfl)
theorem dX3_add_34 : decode cX3_add 34 = .ok (.getfield 21, 3) := dk_180 0 21 (dk_at dksX3_add_1 10 rfl rfl)
theorem dX3_add_37 : decode cX3_add 37 = .ok (.aload_n 0, 1) := dk_42 (dk_at dksX3_add_1 13 rfl rfl)
theorem dX3_add_38 : decode cX3_add 38 = .ok (.getfield 24, 3) := dk_180 0 24 (dk_at dksX3_add_1 14 rfl rfl)
theorem dX3_add_41 : decode cX3_add 41 = .ok (.iload_n 3, 1) := dk_29 (dk_at dksX3_add_1 17 rfl rfl)
theorem dX3_add_42 : decode cX3_add 42 = .ok (.iastore, 1) := dk_79 (dk_at dksX3_add_1 18 rfl rfl)
theorem dX3_add_43 : decode cX3_add 43 = .ok (.aload_n 0, 1) := dk_42 (dk_at dksX3_add_1 19 rfl rfl)
theorem dX3_add_44 : decode cX3_add 44 = .ok (.dup, 1) := dk_89 (dk_at dksX3_add_1 20 rfl rfl)
theorem dX3_add_45 : decode cX3_add 45 = .ok (.getfield 24, 3) := dk_180 0 24 (dk_at dksX3_add_1 21 rfl rfl)
theorem dX3_add_48 : decode cX3_add 48 = .ok (.iconst 1, 1) := dk_4 (dk_at dksX3_add_2 0 rfl rfl)
theorem dX3_add_49 : decode cX3_add 49 = .ok (.iadd, 1) := dk_96 (dk_at dksX3_add_2 1 rfl rfl)
theorem dX3_add_50 : decode cX3_add 50 = .ok (.putfield 24, 3) := dk_181 0 24 (dk_at dksX3_add_2 2 rfl rfl)
theorem dX3_add_53 : decode cX3_add 53 = .ok (.return_, 1) := dk_177 (dk_at dksX3_add_2 5 rfl rfl)
def dkwX3_copy_3 : List UInt8 := [177]
abbrev dktX3_copy_3 : List UInt8 := dkwX3_copy_3 ++ []
def dkwX3_copy_2 : List UInt8 := [180, 0, 18, 28, 46, 79, 42, 180, 0, 21, 28, 43, 180, 0, 21, 28, 46, 79, 132, 2, 1, 167, 255, 197]
abbrev dktX3_copy_2 : List UInt8 := dkwX3_copy_2 ++ dktX3_copy_3
def dkwX3_copy_1 : List UInt8 := [180, 0, 9, 28, 46, 79, 42, 180, 0, 15, 28, 43, 180, 0, 15, 28, 46, 79, 42, 180, 0, 18, 28, 43]
abbrev dktX3_copy_1 : List UInt8 := dkwX3_copy_1 ++ dktX3_copy_2
def dkwX3_copy_0 : List UInt8 := [42, 43, 180, 0, 24, 181, 0, 24, 3, 61, 28, 42, 180, 0, 24, 162, 0, 57, 42, 180, 0, 9, 28, 43]
abbrev dktX3_copy_0 : List UInt8 := dkwX3_copy_0 ++ dktX3_copy_1
theorem dksX3_copy_0 : cX3_copy.data.toList.drop 0 = dktX3_copy_0 := by decide +kernel
theorem dksX3_copy_1 : cX3_copy.data.toList.drop 24 = dktX3_copy_1 := dk_seg dksX3_copy_0 24 rfl rfl
theorem dksX3_copy_2 : cX3_copy.data.toList.drop 48 = dktX3_copy_2 := dk_seg dksX3_copy_1 24 rfl rfl
theorem dksX3_copy_3 : cX3_copy.data.toList.drop 72 = dktX3_copy_3 := dk_seg dksX3_copy_2 24 rfl rfl
theorem dX3_copy_0 : decode cX3_copy 0 = .ok (.aload_n 0, 1) := dk_42 (dk_at dksX3_copy_0 0 rfl rfl)
theorem dX3_copy_1 : decode cX3_copy 1 = .ok (.aload_n 1, 1) := dk_43 (dk_at dksX3_copy_0 1 rfl rfl)
theorem dX3_copy_2 : decode cX3_copy 2 = .ok (.getfield 24, 3) := dk_180 0 24 (dk_at dksX3_copy_0 2 rfl rfl)
theorem dX3_copy_5 : decode cX3_copy 5 = .ok (.putfield 24, 3) := dk_181 0 24 (dk_at dksX3_copy_0 5 rfl rfl)
theorem dX3_copy_8 : decode cX3_copy 8 = .ok (.iconst 0, 1) := dk_3 (dk_at dksX3_copy_0 8 rfl rfl)
theorem dX3_copy_9 : decode cX3_copy 9 = .ok (.istore_n 2, 1) := dk_61 (dk_at dksX3_copy_0 9 rfl rfl)
theorem dX3_copy_10 : decode cX3_copy 10 = .ok (.iload_n 2, 1) := dk_28 (dk_at dksX3_copy_0 10 rfl rfl)
theorem dX3_copy_11 : decode cX3_copy 11 = .ok (.aload_n 0, 1) := dk_42 (dk_at dksX3_copy_0 11 rfl rfl)
theorem dX3_copy_12 : decode cX3_copy 12 = .ok (.getfield 24, 3) := dk_180 0 24 (dk_at dksX3_copy_0 12 rfl rfl)
theorem dX3_copy_15 : decode cX3_copy 15 = .ok (.if_icmp .ge 57, 3) := dk_162 0 57 (dk_at dksX3_copy_0 15 rfl rfl)
theorem dX3_copy_18 : decode cX3_copy 18 = .ok (.aload_n 0, 1) := dk_42 (dk_at dksX3_copy_0 18 rfl rfl)
theorem dX3_copy_19 : decode cX3_copy 19 = .ok (.getfield 9, 3) := dk_180 0 9 (dk_at dksX3_copy_0 19 rfl rfl)
theorem dX3_copy_22 : decode cX3_copy 22 = .ok (.iload_n 2, 1) := dk_28 (dk_at dksX3_copy_0 22 rfl rfl)
theorem dX3_copy_23 : decode cX3_copy 23 = .ok (.aload_n 1, 1) := dk_43 (dk_at dksX3_copy_0 23 rfl rfl)
theorem dX3_copy_24 : decode cX3_copy 24 = .ok (.getfield 9, 3) := dk_180 0 9 (dk_at dksX3_copy_1 0 rfl rfl)
theorem dX3_copy_27 : decode cX3_copy 27 = .ok (.iload_n 2, 1) := dk_28 (dk_at dksX3_copy_1 3 rfl rfl)
theorem dX3_copy_28 : decode cX3_copy 28 = .ok (.iaload, 1) := dk_46 (dk_at dksX3_copy_1 4 rfl rfl)
theorem dX3_copy_29 : decode cX3_copy 29 = .ok (.iastore, 1) := dk_79 (dk_at dksX3_copy_1 5 rfl rfl)
theorem dX3_copy_30 : decode cX3_copy 30 = .ok (.aload_n 0, 1) := dk_42 (dk_at dksX3_copy_1 6 rfl rfl)
theorem dX3_copy_31 : decode cX3_copy 31 = .ok (.getfield 15, 3) := dk_180 0 15 (dk_at dksX3_copy_1 7 rfl rfl)
theorem dX3_copy_34 : decode cX3_copy 34 = .ok (.iload_n 2, 1) := dk_28 (dk_at dksX3_copy_1 10 rfl rfl)
theorem dX3_copy_35 : decode cX3_copy 35 = .ok (.aload_n 1, 1) := dk_43 (dk_at dksX3_copy_1 11 rfl rfl)
theorem dX3_copy_36 : decode cX3_copy 36 = .ok (.getfield 15, 3) := dk_180 0 15 (dk_at dksX3_copy_1 12 rfl rfl)
theorem dX3_copy_39 : decode cX3_copy 39 = .ok (.iload_n 2, 1) := dk_28 (dk_at dksX3_copy_1 15 rfl rfl)
theorem dX3_copy_40 : decode cX3_copy 40 = .ok (.iaload, 1) := dk_46 (dk_at dksX3_copy_1 16 rfl rfl)
theorem dX3_copy_41 : decode cX3_copy 41 = .ok (.iastore, 1) := dk_79 (dk_at dksX3_copy_1 17 rfl rfl)
theorem dX3_copy_42 : decode cX3_copy 42 = .ok (.aload_n 0, 1) := dk_42 (dk_at dksX3_copy_1 18 rfl rfl)
theorem dX3_copy_43 : decode cX3_copy 43 = .ok (.getfield 18, 3) := dk_180 0 18 (dk_at dksX3_copy_1 19 rfl rfl)
theorem dX3_copy_46 : decode cX3_copy 46 = .ok (.iload_n 2, 1) := dk_28 (dk_at dksX3_copy_1 22 rfl rfl)
theorem dX3_copy_47 : decode cX3_copy 47 = .ok (.aload_n 1, 1) := dk_43 (dk_at dksX3_copy_1 23 rfl rfl)
theorem dX3_copy_48 : decode cX3_copy 48 = .ok (.getfield 18, 3) := dk_180 0 18 (dk_at dksX3_copy_2 0 rfl rfl)
theorem dX3_copy_51 : decode cX3_copy 51 = .ok (.iload_n 2, 1) := dk_28 (dk_at dksX3_copy_2 3 rfl rfl)
theorem dX3_copy_52 : decode cX3_copy 52 = .ok (.iaload, 1) := dk_46 (dk_at dksX3_copy_2 4 rfl rfl)
theorem dX3_copy_53 : decode cX3_copy 53 = .ok (.iastore, 1) := dk_79 (dk_at dksX3_copy_2 5 rfl rfl)
theorem dX3_copy_54 : decode cX3_copy 54 = .ok (.aload_n 0, 1) := dk_42 (dk_at dksX3_copy_2 6 rfl rfl)
theorem dX3_copy_55 : decode cX3_copy 55 = .ok (.getfield 21, 3) := dk_180 0 21 (dk_at dksX3_copy_2 7 rfl rfl)
theorem dX3_copy_58 : decode cX3_copy 58 = .ok (.iload_n 2, 1) := dk_28 (dk_at dksX3_copy_2 10 rfl rfl)
theorem dX3_copy_59 : decode cX3_copy 59 = .ok (.aload_n 1, 1) := dk_43 (dk_at dksX3_copy_2 11 rfl rfl)
theorem dX3_copy_60 : decode cX3_copy 60 = .ok (.getfield 21, 3) := dk_180 0 21 (dk_at dksX3_copy_2 12 rfl rfl)
theorem dX3_copy_63 : decode cX3_copy 63 = .ok (.iload_n 2, 1) := dk_28 (dk_at dksX3_copy_2 15 rfl rfl)
theorem dX3_copy_64 : decode cX3_copy 64 = .ok (.iaload, 1) := dk_46 (dk_at dksX3_copy_2 16 rfl rfl)
theorem dX3_copy_65 : decode cX3_copy 65 = .ok (.iastore, 1) := dk_79 (dk_at dksX3_copy_2 17 rfl rfl)
theorem dX3_copy_66 : decode cX3_copy 66 = .ok (.iinc 2 1, 3) := dk_132 2 1 (dk_at dksX3_copy_2 18 rfl rfl)
theorem dX3_copy_69 : decode cX3_copy 69 = .ok (.goto (-59), 3) := dk_167 255 197 (dk_at dksX3_copy_2 21 rfl rfl)
theorem dX3_copy_72 : decode cX3_copy 72 = .ok (.return_, 1) := dk_177 (dk_at dksX3_copy_3 0 rfl rfl)
def dkwX3_unify_10 : List UInt8 := [172]
abbrev dktX3_unify_10 : List UInt8 := dkwX3_unify_10 ++ []
def dkwX3_unify_9 : List UInt8 := [159, 0, 19, 42, 21, 7, 42, 180, 0, 21, 21, 4, 46, 182, 0, 41, 153, 0, 7, 4, 167, 0, 4, 3]
abbrev dktX3_unify_9 : List UInt8 := dkwX3_unify_9 ++ dktX3_unify_10
def dkwX3_unify_8 : List UInt8 := [153, 0, 7, 4, 167, 0, 4, 3, 54, 8, 21, 8, 153, 0, 34, 21, 5, 153, 0, 25, 21, 7, 2]
abbrev dktX3_unify_8 : List UInt8 := dkwX3_unify_8 ++ dktX3_unify_9
def dkwX3_unify_7 : List UInt8 := [153, 0, 25, 21, 6, 2, 159, 0, 19, 42, 21, 6, 42, 180, 0, 18, 21, 4, 46, 182, 0, 41]
abbrev dktX3_unify_7 : List UInt8 := dkwX3_unify_7 ++ dktX3_unify_8
def dkwX3_unify_6 : List UInt8 := [180, 0, 18, 21, 4, 46, 79, 42, 180, 0, 21, 29, 42, 180, 0, 21, 21, 4, 46, 79, 21, 5]
abbrev dktX3_unify_6 : List UInt8 := dkwX3_unify_6 ++ dktX3_unify_7
def dkwX3_unify_5 : List UInt8 := [2, 160, 0, 42, 42, 180, 0, 15, 29, 42, 180, 0, 15, 21, 4, 46, 79, 42, 180, 0, 18, 29, 42]
abbrev dktX3_unify_5 : List UInt8 := dkwX3_unify_5 ++ dktX3_unify_6
def dkwX3_unify_4 : List UInt8 := [54, 6, 42, 180, 0, 21, 29, 46, 54, 7, 42, 180, 0, 9, 21, 4, 29, 79, 42, 180, 0, 15, 29, 46]
abbrev dktX3_unify_4 : List UInt8 := dkwX3_unify_4 ++ dktX3_unify_5
def dkwX3_unify_3 : List UInt8 := [180, 0, 15, 29, 46, 42, 180, 0, 15, 21, 4, 46, 159, 0, 5, 3, 172, 42, 180, 0, 18, 29, 46]
abbrev dktX3_unify_3 : List UInt8 := dkwX3_unify_3 ++ dktX3_unify_4
def dkwX3_unify_2 : List UInt8 := [180, 0, 15, 21, 4, 46, 2, 159, 0, 7, 4, 167, 0, 4, 3, 54, 5, 21, 5, 153, 0, 21, 42]
abbrev dktX3_unify_2 : List UInt8 := dkwX3_unify_2 ++ dktX3_unify_3
def dkwX3_unify_1 : List UInt8 := [184, 0, 38, 54, 4, 29, 21, 4, 160, 0, 5, 4, 172, 42, 180, 0, 15, 29, 46, 2, 159, 0, 18, 42]
abbrev dktX3_unify_1 : List UInt8 := dkwX3_unify_1 ++ dktX3_unify_2
def dkwX3_unify_0 : List UInt8 := [42, 27, 182, 0, 28, 42, 28, 182, 0, 28, 184, 0, 32, 62, 42, 27, 182, 0, 28, 42, 28, 182, 0, 28]
abbrev dktX3_unify_0 : List UInt8 := dkwX3_unify_0 ++ dktX3_unify_1
theorem dksX3_unify_0 : cX3_unify.data.toList.drop 0 = dktX3_unify_0 := by decide +kernel
theorem dksX3_unify_1 : cX3_unify.data.toList.drop 24 = dktX3_unify_1 := dk_seg dksX3_unify_0 24 rfl rfl
theorem dksX3_unify_2 : cX3_unify.data.toList.drop 48 = dktX3_unify_2 := dk_seg dksX3_unify_1 24 rfl rfl
theorem dksX3_unify_3 : cX3_unify.data.toList.drop 71 = dktX3_unify_3 := dk_seg dksX3_unify_2 23 rfl rfl
theorem dksX3_unify_4 : cX3_unify.data.toList.drop 94 = dktX3_unify_4 := dk_seg dksX3_unify_3 23 rfl rfl
theorem dksX3_unify_5 : cX3_unify.data.toList.drop 118 = dktX3_unify_5 := dk_seg dksX3_unify_4 24 rfl rfl
theorem dksX3_unify_6 : cX3_unify.data.toList.drop 141 = dktX3_unify_6 := dk_seg dksX3_unify_5 23 rfl rfl
theorem dksX3_unify_7 : cX3_unify.data.toList.drop 163 = dktX3_unify_7 := dk_seg dksX3_unify_6 22 rfl rfl
theorem dksX3_unify_8 : cX3_unify.data.toList.drop 185 = dktX3_unify_8 := dk_seg dksX3_unify_7 22 rfl rfl
theorem dksX3_unify_9 : cX3_unify.data.toList.drop 208 = dktX3_unify_9 := dk_seg dksX3_unify_8 23 rfl rfl
theorem dksX3_unify_10 : cX3_unify.data.toList.drop 232 = dktX3_unify_10 := dk_seg dksX3_unify_9 24 rfl rfl
theorem dX3_unify_0 : decode cX3_unify 0 = .ok (.aload_n 0, 1) := dk_42 (dk_at dksX3_unify_0 0 rfl rfl)
theorem dX3_unify_1 : decode cX3_unify 1 = .ok (.iload_n 1, 1) := dk_27 (dk_at dksX3_unify_0 1 rfl rfl)
theorem dX3_unify_2 : decode cX3_unify 2 = .ok (.invokevirtual 28, 3) := dk_182 0 28 (dk_at dksX3_unify_0 2 rfl rfl)
theorem dX3_unify_5 : decode cX3_unify 5 = .ok (.aload_n 0, 1) := dk_42 (dk_at dksX3_unify_0 5 rfl rfl)
theorem dX3_unify_6 : decode cX3_unify 6 = .ok (.iload_n 2, 1) := dk_28 (dk_at dksX3_unify_0 6 rfl rfl)
theorem dX3_unify_7 : decode cX3_unify 7 = .ok (.invokevirtual 28, 3) := dk_182 0 28 (dk_at dksX3_unify_0 7 rfl rfl)
theorem dX3_unify_10 : decode cX3_unify 10 = .ok (.invokestatic 32, 3) := dk_184 0 32 (dk_at dksX3_unify_0 10 rfl rfl)
theorem dX3_unify_13 : decode cX3_unify 13 = .ok (.istore_n 3, 1) := dk_62 (dk_at dksX3_unify_0 13 rfl rfl)
theorem dX3_unify_14 : decode cX3_unify 14 = .ok (.aload_n 0, 1) := dk_42 (dk_at dksX3_unify_0 14 rfl rfl)
theorem dX3_unify_15 : decode cX3_unify 15 = .ok (.iload_n 1, 1) := dk_27 (dk_at dksX3_unify_0 15 rfl rfl)
theorem dX3_unify_16 : decode cX3_unify 16 = .ok (.invokevirtual 28, 3) := dk_182 0 28 (dk_at dksX3_unify_0 16 rfl rfl)
theorem dX3_unify_19 : decode cX3_unify 19 = .ok (.aload_n 0, 1) := dk_42 (dk_at dksX3_unify_0 19 rfl rfl)
theorem dX3_unify_20 : decode cX3_unify 20 = .ok (.iload_n 2, 1) := dk_28 (dk_at dksX3_unify_0 20 rfl rfl)
theorem dX3_unify_21 : decode cX3_unify 21 = .ok (.invokevirtual 28, 3) := dk_182 0 28 (dk_at dksX3_unify_0 21 rfl rfl)
theorem dX3_unify_24 : decode cX3_unify 24 = .ok (.invokestatic 38, 3) := dk_184 0 38 (dk_at dksX3_unify_1 0 rfl rfl)
theorem dX3_unify_27 : decode cX3_unify 27 = .ok (.istore 4, 2) := dk_54 4 (dk_at dksX3_unify_1 3 rfl rfl)
theorem dX3_unify_29 : decode cX3_unify 29 = .ok (.iload_n 3, 1) := dk_29 (dk_at dksX3_unify_1 5 rfl rfl)
theorem dX3_unify_30 : decode cX3_unify 30 = .ok (.iload 4, 2) := dk_21 4 (dk_at dksX3_unify_1 6 rfl rfl)
theorem dX3_unify_32 : decode cX3_unify 32 = .ok (.if_icmp .ne 5, 3) := dk_160 0 5 (dk_at dksX3_unify_1 8 rfl rfl)
theorem dX3_unify_35 : decode cX3_unify 35 = .ok (.iconst 1, 1) := dk_4 (dk_at dksX3_unify_1 11 rfl rfl)
theorem dX3_unify_36 : decode cX3_unify 36 = .ok (.ireturn, 1) := dk_172 (dk_at dksX3_unify_1 12 rfl rfl)
theorem dX3_unify_37 : decode cX3_unify 37 = .ok (.aload_n 0, 1) := dk_42 (dk_at dksX3_unify_1 13 rfl rfl)
theorem dX3_unify_38 : decode cX3_unify 38 = .ok (.getfield 15, 3) := dk_180 0 15 (dk_at dksX3_unify_1 14 rfl rfl)
theorem dX3_unify_41 : decode cX3_unify 41 = .ok (.iload_n 3, 1) := dk_29 (dk_at dksX3_unify_1 17 rfl rfl)
theorem dX3_unify_42 : decode cX3_unify 42 = .ok (.iaload, 1) := dk_46 (dk_at dksX3_unify_1 18 rfl rfl)
theorem dX3_unify_43 : decode cX3_unify 43 = .ok (.iconst (-1), 1) := dk_2 (dk_at dksX3_unify_1 19 rfl rfl)
theorem dX3_unify_44 : decode cX3_unify 44 = .ok (.if_icmp .eq 18, 3) := dk_159 0 18 (dk_at dksX3_unify_1 20 rfl rfl)
theorem dX3_unify_47 : decode cX3_unify 47 = .ok (.aload_n 0, 1) := dk_42 (dk_at dksX3_unify_1 23 rfl rfl)
theorem dX3_unify_48 : decode cX3_unify 48 = .ok (.getfield 15, 3) := dk_180 0 15 (dk_at dksX3_unify_2 0 rfl rfl)
theorem dX3_unify_51 : decode cX3_unify 51 = .ok (.iload 4, 2) := dk_21 4 (dk_at dksX3_unify_2 3 rfl rfl)
theorem dX3_unify_53 : decode cX3_unify 53 = .ok (.iaload, 1) := dk_46 (dk_at dksX3_unify_2 5 rfl rfl)
theorem dX3_unify_54 : decode cX3_unify 54 = .ok (.iconst (-1), 1) := dk_2 (dk_at dksX3_unify_2 6 rfl rfl)
theorem dX3_unify_55 : decode cX3_unify 55 = .ok (.if_icmp .eq 7, 3) := dk_159 0 7 (dk_at dksX3_unify_2 7 rfl rfl)
theorem dX3_unify_58 : decode cX3_unify 58 = .ok (.iconst 1, 1) := dk_4 (dk_at dksX3_unify_2 10 rfl rfl)
theorem dX3_unify_59 : decode cX3_unify 59 = .ok (.goto 4, 3) := dk_167 0 4 (dk_at dksX3_unify_2 11 rfl rfl)
theorem dX3_unify_62 : decode cX3_unify 62 = .ok (.iconst 0, 1) := dk_3 (dk_at dksX3_unify_2 14 rfl rfl)
theorem dX3_unify_63 : decode cX3_unify 63 = .ok (.istore 5, 2) := dk_54 5 (dk_at dksX3_unify_2 15 rfl rfl)
theorem dX3_unify_65 : decode cX3_unify 65 = .ok (.iload 5, 2) := dk_21 5 (dk_at dksX3_unify_2 17 rfl rfl)
theorem dX3_unify_67 : decode cX3_unify 67 = .ok (.ifCond .eq 21, 3) := dk_153 0 21 (dk_at dksX3_unify_2 19 rfl rfl)
theorem dX3_unify_70 : decode cX3_unify 70 = .ok (.aload_n 0, 1) := dk_42 (dk_at dksX3_unify_2 22 rfl rfl)
theorem dX3_unify_71 : decode cX3_unify 71 = .ok (.getfield 15, 3) := dk_180 0 15 (dk_at dksX3_unify_3 0 rfl rfl)
theorem dX3_unify_74 : decode cX3_unify 74 = .ok (.iload_n 3, 1) := dk_29 (dk_at dksX3_unify_3 3 rfl rfl)
theorem dX3_unify_75 : decode cX3_unify 75 = .ok (.iaload, 1) := dk_46 (dk_at dksX3_unify_3 4 rfl rfl)
theorem dX3_unify_76 : decode cX3_unify 76 = .ok (.aload_n 0, 1) := dk_42 (dk_at dksX3_unify_3 5 rfl rfl)
theorem dX3_unify_77 : decode cX3_unify 77 = .ok (.getfield 15, 3) := dk_180 0 15 (dk_at dksX3_unify_3 6 rfl rfl)
theorem dX3_unify_80 : decode cX3_unify 80 = .ok (.iload 4, 2) := dk_21 4 (dk_at dksX3_unify_3 9 rfl rfl)
theorem dX3_unify_82 : decode cX3_unify 82 = .ok (.iaload, 1) := dk_46 (dk_at dksX3_unify_3 11 rfl rfl)
theorem dX3_unify_83 : decode cX3_unify 83 = .ok (.if_icmp .eq 5, 3) := dk_159 0 5 (dk_at dksX3_unify_3 12 rfl rfl)
theorem dX3_unify_86 : decode cX3_unify 86 = .ok (.iconst 0, 1) := dk_3 (dk_at dksX3_unify_3 15 rfl rfl)
theorem dX3_unify_87 : decode cX3_unify 87 = .ok (.ireturn, 1) := dk_172 (dk_at dksX3_unify_3 16 rfl rfl)
theorem dX3_unify_88 : decode cX3_unify 88 = .ok (.aload_n 0, 1) := dk_42 (dk_at dksX3_unify_3 17 rfl rfl)
theorem dX3_unify_89 : decode cX3_unify 89 = .ok (.getfield 18, 3) := dk_180 0 18 (dk_at dksX3_unify_3 18 rfl rfl)
theorem dX3_unify_92 : decode cX3_unify 92 = .ok (.iload_n 3, 1) := dk_29 (dk_at dksX3_unify_3 21 rfl rfl)
theorem dX3_unify_93 : decode cX3_unify 93 = .ok (.iaload, 1) := dk_46 (dk_at dksX3_unify_3 22 rfl rfl)
theorem dX3_unify_94 : decode cX3_unify 94 = .ok (.istore 6, 2) := dk_54 6 (dk_at dksX3_unify_4 0 rfl rfl)
theorem dX3_unify_96 : decode cX3_unify 96 = .ok (.aload_n 0, 1) := dk_42 (dk_at dksX3_unify_4 2 rfl rfl)
theorem dX3_unify_97 : decode cX3_unify 97 = .ok (.getfield 21, 3) := dk_180 0 21 (dk_at dksX3_unify_4 3 rfl rfl)
theorem dX3_unify_100 : decode cX3_unify 100 = .ok (.iload_n 3, 1) := dk_29 (dk_at dksX3_unify_4 6 rfl rfl)
theorem dX3_unify_101 : decode cX3_unify 101 = .ok (.iaload, 1) := dk_46 (dk_at dksX3_unify_4 7 rfl rfl)
theorem dX3_unify_102 : decode cX3_unify 102 = .ok (.istore 7, 2) := dk_54 7 (dk_at dksX3_unify_4 8 rfl rfl)
theorem dX3_unify_104 : decode cX3_unify 104 = .ok (.aload_n 0, 1) := dk_42 (dk_at dksX3_unify_4 10 rfl rfl)
theorem dX3_unify_105 : decode cX3_unify 105 = .ok (.getfield 9, 3) := dk_180 0 9 (dk_at dksX3_unify_4 11 rfl rfl)
theorem dX3_unify_108 : decode cX3_unify 108 = .ok (.iload 4, 2) := dk_21 4 (dk_at dksX3_unify_4 14 rfl rfl)
theorem dX3_unify_110 : decode cX3_unify 110 = .ok (.iload_n 3, 1) := dk_29 (dk_at dksX3_unify_4 16 rfl rfl)
theorem dX3_unify_111 : decode cX3_unify 111 = .ok (.iastore, 1) := dk_79 (dk_at dksX3_unify_4 17 rfl rfl)
theorem dX3_unify_112 : decode cX3_unify 112 = .ok (.aload_n 0, 1) := dk_42 (dk_at dksX3_unify_4 18 rfl rfl)
theorem dX3_unify_113 : decode cX3_unify 113 = .ok (.getfield 15, 3) := dk_180 0 15 (dk_at dksX3_unify_4 19 rfl rfl)
theorem dX3_unify_116 : decode cX3_unify 116 = .ok (.iload_n 3, 1) := dk_29 (dk_at dksX3_unify_4 22 rfl rfl)
theorem dX3_unify_117 : decode cX3_unify 117 = .ok (.iaload, 1) := dk_46 (dk_at dksX3_unify_4 23 rfl rfl)
theorem dX3_unify_118 : decode cX3_unify 118 = .ok (.iconst (-1), 1) := dk_2 (dk_at dksX3_unify_5 0 rfl rfl)
theorem dX3_unify_119 : decode cX3_unify 119 = .ok (.if_icmp .ne 42, 3) := dk_160 0 42 (dk_at dksX3_unify_5 1 rfl rfl)
theorem dX3_unify_122 : decode cX3_unify 122 = .ok (.aload_n 0, 1) := dk_42 (dk_at dksX3_unify_5 4 rfl rfl)
theorem dX3_unify_123 : decode cX3_unify 123 = .ok (.getfield 15, 3) := dk_180 0 15 (dk_at dksX3_unify_5 5 rfl rfl)
theorem dX3_unify_126 : decode cX3_unify 126 = .ok (.iload_n 3, 1) := dk_29 (dk_at dksX3_unify_5 8 rfl rfl)
theorem dX3_unify_127 : decode cX3_unify 127 = .ok (.aload_n 0, 1) := dk_42 (dk_at dksX3_unify_5 9 rfl rfl)
theorem dX3_unify_128 : decode cX3_unify 128 = .ok (.getfield 15, 3) := dk_180 0 15 (dk_at dksX3_unify_5 10 rfl rfl)
theorem dX3_unify_131 : decode cX3_unify 131 = .ok (.iload 4, 2) := dk_21 4 (dk_at dksX3_unify_5 13 rfl rfl)
theorem dX3_unify_133 : decode cX3_unify 133 = .ok (.iaload, 1) := dk_46 (dk_at dksX3_unify_5 15 rfl rfl)
theorem dX3_unify_134 : decode cX3_unify 134 = .ok (.iastore, 1) := dk_79 (dk_at dksX3_unify_5 16 rfl rfl)
theorem dX3_unify_135 : decode cX3_unify 135 = .ok (.aload_n 0, 1) := dk_42 (dk_at dksX3_unify_5 17 rfl rfl)
theorem dX3_unify_136 : decode cX3_unify 136 = .ok (.getfield 18, 3) := dk_180 0 18 (dk_at dksX3_unify_5 18 rfl rfl)
theorem dX3_unify_139 : decode cX3_unify 139 = .ok (.iload_n 3, 1) := dk_29 (dk_at dksX3_unify_5 21 rfl rfl)
theorem dX3_unify_140 : decode cX3_unify 140 = .ok (.aload_n 0, 1) := dk_42 (dk_at dksX3_unify_5 22 rfl rfl)
theorem dX3_unify_141 : decode cX3_unify 141 = .ok (.getfield 18, 3) := dk_180 0 18 (dk_at dksX3_unify_6 0 rfl rfl)
theorem dX3_unify_144 : decode cX3_unify 144 = .ok (.iload 4, 2) := dk_21 4 (dk_at dksX3_unify_6 3 rfl rfl)
theorem dX3_unify_146 : decode cX3_unify 146 = .ok (.iaload, 1) := dk_46 (dk_at dksX3_unify_6 5 rfl rfl)
theorem dX3_unify_147 : decode cX3_unify 147 = .ok (.iastore, 1) := dk_79 (dk_at dksX3_unify_6 6 rfl rfl)
theorem dX3_unify_148 : decode cX3_unify 148 = .ok (.aload_n 0, 1) := dk_42 (dk_at dksX3_unify_6 7 rfl rfl)
theorem dX3_unify_149 : decode cX3_unify 149 = .ok (.getfield 21, 3) := dk_180 0 21 (dk_at dksX3_unify_6 8 rfl rfl)
theorem dX3_unify_152 : decode cX3_unify 152 = .ok (.iload_n 3, 1) := dk_29 (dk_at dksX3_unify_6 11 rfl rfl)
theorem dX3_unify_153 : decode cX3_unify 153 = .ok (.aload_n 0, 1) := dk_42 (dk_at dksX3_unify_6 12 rfl rfl)
theorem dX3_unify_154 : decode cX3_unify 154 = .ok (.getfield 21, 3) := dk_180 0 21 (dk_at dksX3_unify_6 13 rfl rfl)
theorem dX3_unify_157 : decode cX3_unify 157 = .ok (.iload 4, 2) := dk_21 4 (dk_at dksX3_unify_6 16 rfl rfl)
theorem dX3_unify_159 : decode cX3_unify 159 = .ok (.iaload, 1) := dk_46 (dk_at dksX3_unify_6 18 rfl rfl)
theorem dX3_unify_160 : decode cX3_unify 160 = .ok (.iastore, 1) := dk_79 (dk_at dksX3_unify_6 19 rfl rfl)
theorem dX3_unify_161 : decode cX3_unify 161 = .ok (.iload 5, 2) := dk_21 5 (dk_at dksX3_unify_6 20 rfl rfl)
theorem dX3_unify_163 : decode cX3_unify 163 = .ok (.ifCond .eq 25, 3) := dk_153 0 25 (dk_at dksX3_unify_7 0 rfl rfl)
theorem dX3_unify_166 : decode cX3_unify 166 = .ok (.iload 6, 2) := dk_21 6 (dk_at dksX3_unify_7 3 rfl rfl)
theorem dX3_unify_168 : decode cX3_unify 168 = .ok (.iconst (-1), 1) := dk_2 (dk_at dksX3_unify_7 5 rfl rfl)
theorem dX3_unify_169 : decode cX3_unify 169 = .ok (.if_icmp .eq 19, 3) := dk_159 0 19 (dk_at dksX3_unify_7 6 rfl rfl)
theorem dX3_unify_172 : decode cX3_unify 172 = .ok (.aload_n 0, 1) := dk_42 (dk_at dksX3_unify_7 9 rfl rfl)
theorem dX3_unify_173 : decode cX3_unify 173 = .ok (.iload 6, 2) := dk_21 6 (dk_at dksX3_unify_7 10 rfl rfl)
theorem dX3_unify_175 : decode cX3_unify 175 = .ok (.aload_n 0, 1) := dk_42 (dk_at dksX3_unify_7 12 rfl rfl)
theorem dX3_unify_176 : decode cX3_unify 176 = .ok (.getfield 18, 3) := dk_180 0 18 (dk_at dksX3_unify_7 13 rfl rfl)
theorem dX3_unify_179 : decode cX3_unify 179 = .ok (.iload 4, 2) := dk_21 4 (dk_at dksX3_unify_7 16 rfl rfl)
theorem dX3_unify_181 : decode cX3_unify 181 = .ok (.iaload, 1) := dk_46 (dk_at dksX3_unify_7 18 rfl rfl)
theorem dX3_unify_182 : decode cX3_unify 182 = .ok (.invokevirtual 41, 3) := dk_182 0 41 (dk_at dksX3_unify_7 19 rfl rfl)
theorem dX3_unify_185 : decode cX3_unify 185 = .ok (.ifCond .eq 7, 3) := dk_153 0 7 (dk_at dksX3_unify_8 0 rfl rfl)
theorem dX3_unify_188 : decode cX3_unify 188 = .ok (.iconst 1, 1) := dk_4 (dk_at dksX3_unify_8 3 rfl rfl)
theorem dX3_unify_189 : decode cX3_unify 189 = .ok (.goto 4, 3) := dk_167 0 4 (dk_at dksX3_unify_8 4 rfl rfl)
theorem dX3_unify_192 : decode cX3_unify 192 = .ok (.iconst 0, 1) := dk_3 (dk_at dksX3_unify_8 7 rfl rfl)
theorem dX3_unify_193 : decode cX3_unify 193 = .ok (.istore 8, 2) := dk_54 8 (dk_at dksX3_unify_8 8 rfl rfl)
theorem dX3_unify_195 : decode cX3_unify 195 = .ok (.iload 8, 2) := dk_21 8 (dk_at dksX3_unify_8 10 rfl rfl)
theorem dX3_unify_197 : decode cX3_unify 197 = .ok (.ifCond .eq 34, 3) := dk_153 0 34 (dk_at dksX3_unify_8 12 rfl rfl)
theorem dX3_unify_200 : decode cX3_unify 200 = .ok (.iload 5, 2) := dk_21 5 (dk_at dksX3_unify_8 15 rfl rfl)
theorem dX3_unify_202 : decode cX3_unify 202 = .ok (.ifCond .eq 25, 3) := dk_153 0 25 (dk_at dksX3_unify_8 17 rfl rfl)
theorem dX3_unify_205 : decode cX3_unify 205 = .ok (.iload 7, 2) := dk_21 7 (dk_at dksX3_unify_8 20 rfl rfl)
theorem dX3_unify_207 : decode cX3_unify 207 = .ok (.iconst (-1), 1) := dk_2 (dk_at dksX3_unify_8 22 rfl rfl)
theorem dX3_unify_208 : decode cX3_unify 208 = .ok (.if_icmp .eq 19, 3) := dk_159 0 19 (dk_at dksX3_unify_9 0 rfl rfl)
theorem dX3_unify_211 : decode cX3_unify 211 = .ok (.aload_n 0, 1) := dk_42 (dk_at dksX3_unify_9 3 rfl rfl)
theorem dX3_unify_212 : decode cX3_unify 212 = .ok (.iload 7, 2) := dk_21 7 (dk_at dksX3_unify_9 4 rfl rfl)
theorem dX3_unify_214 : decode cX3_unify 214 = .ok (.aload_n 0, 1) := dk_42 (dk_at dksX3_unify_9 6 rfl rfl)
theorem dX3_unify_215 : decode cX3_unify 215 = .ok (.getfield 21, 3) := dk_180 0 21 (dk_at dksX3_unify_9 7 rfl rfl)
theorem dX3_unify_218 : decode cX3_unify 218 = .ok (.iload 4, 2) := dk_21 4 (dk_at dksX3_unify_9 10 rfl rfl)
theorem dX3_unify_220 : decode cX3_unify 220 = .ok (.iaload, 1) := dk_46 (dk_at dksX3_unify_9 12 rfl rfl)
theorem dX3_unify_221 : decode cX3_unify 221 = .ok (.invokevirtual 41, 3) := dk_182 0 41 (dk_at dksX3_unify_9 13 rfl rfl)
theorem dX3_unify_224 : decode cX3_unify 224 = .ok (.ifCond .eq 7, 3) := dk_153 0 7 (dk_at dksX3_unify_9 16 rfl rfl)
theorem dX3_unify_227 : decode cX3_unify 227 = .ok (.iconst 1, 1) := dk_4 (dk_at dksX3_unify_9 19 rfl rfl)
theorem dX3_unify_228 : decode cX3_unify 228 = .ok (.goto 4, 3) := dk_167 0 4 (dk_at dksX3_unify_9 20 rfl rfl)
theorem dX3_unify_231 : decode cX3_unify 231 = .ok (.iconst 0, 1) := dk_3 (dk_at dksX3_unify_9 23 rfl rfl)
theorem dX3_unify_232 : decode cX3_unify 232 = .ok (.ireturn, 1) := dk_172 (dk_at dksX3_unify_10 0 rfl rfl)
def dkwX3_child_1 : List UInt8 := [46, 54, 4, 21, 4, 2, 160, 0, 7, 2, 167, 0, 9, 42, 21, 4, 182, 0, 28, 172]
abbrev dktX3_child_1 : List UInt8 := dkwX3_child_1 ++ []
def dkwX3_child_0 : List UInt8 := [42, 27, 182, 0, 28, 62, 28, 153, 0, 12, 42, 180, 0, 21, 29, 46, 167, 0, 9, 42, 180, 0, 18, 29]
abbrev dktX3_child_0 : List UInt8 := dkwX3_child_0 ++ dktX3_child_1
theorem dksX3_child_0 : cX3_child.data.toList.drop 0 = dktX3_child_0 := by decide +kernel
theorem dksX3_child_1 : cX3_child.data.toList.drop 24 = dktX3_child_1 := dk_seg dksX3_child_0 24 rfl rfl
theorem dX3_child_0 : decode cX3_child 0 = .ok (.aload_n 0, 1) := dk_42 (dk_at dksX3_child_0 0 rfl rfl)
theorem dX3_child_1 : decode cX3_child 1 = .ok (.iload_n 1, 1) := dk_27 (dk_at dksX3_child_0 1 rfl rfl)
theorem dX3_child_2 : decode cX3_child 2 = .ok (.invokevirtual 28, 3) := dk_182 0 28 (dk_at dksX3_child_0 2 rfl rfl)
theorem dX3_child_5 : decode cX3_child 5 = .ok (.istore_n 3, 1) := dk_62 (dk_at dksX3_child_0 5 rfl rfl)
theorem dX3_child_6 : decode cX3_child 6 = .ok (.iload_n 2, 1) := dk_28 (dk_at dksX3_child_0 6 rfl rfl)
theorem dX3_child_7 : decode cX3_child 7 = .ok (.ifCond .eq 12, 3) := dk_153 0 12 (dk_at dksX3_child_0 7 rfl rfl)
theorem dX3_child_10 : decode cX3_child 10 = .ok (.aload_n 0, 1) := dk_42 (dk_at dksX3_child_0 10 rfl rfl)
theorem dX3_child_11 : decode cX3_child 11 = .ok (.getfield 21, 3) := dk_180 0 21 (dk_at dksX3_child_0 11 rfl rfl)
theorem dX3_child_14 : decode cX3_child 14 = .ok (.iload_n 3, 1) := dk_29 (dk_at dksX3_child_0 14 rfl rfl)
theorem dX3_child_15 : decode cX3_child 15 = .ok (.iaload, 1) := dk_46 (dk_at dksX3_child_0 15 rfl rfl)
theorem dX3_child_16 : decode cX3_child 16 = .ok (.goto 9, 3) := dk_167 0 9 (dk_at dksX3_child_0 16 rfl rfl)
theorem dX3_child_19 : decode cX3_child 19 = .ok (.aload_n 0, 1) := dk_42 (dk_at dksX3_child_0 19 rfl rfl)
theorem dX3_child_20 : decode cX3_child 20 = .ok (.getfield 18, 3) := dk_180 0 18 (dk_at dksX3_child_0 20 rfl rfl)
theorem dX3_child_23 : decode cX3_child 23 = .ok (.iload_n 3, 1) := dk_29 (dk_at dksX3_child_0 23 rfl rfl)
theorem dX3_child_24 : decode cX3_child 24 = .ok (.iaload, 1) := dk_46 (dk_at dksX3_child_1 0 rfl rfl)
theorem dX3_child_25 : decode cX3_child 25 = .ok (.istore 4, 2) := dk_54 4 (dk_at dksX3_child_1 1 rfl rfl)
theorem dX3_child_27 : decode cX3_child 27 = .ok (.iload 4, 2) := dk_21 4 (dk_at dksX3_child_1 3 rfl rfl)
theorem dX3_child_29 : decode cX3_child 29 = .ok (.iconst (-1), 1) := dk_2 (dk_at dksX3_child_1 5 rfl rfl)
theorem dX3_child_30 : decode cX3_child 30 = .ok (.if_icmp .ne 7, 3) := dk_160 0 7 (dk_at dksX3_child_1 6 rfl rfl)
theorem dX3_child_33 : decode cX3_child 33 = .ok (.iconst (-1), 1) := dk_2 (dk_at dksX3_child_1 9 rfl rfl)
theorem dX3_child_34 : decode cX3_child 34 = .ok (.goto 9, 3) := dk_167 0 9 (dk_at dksX3_child_1 10 rfl rfl)
theorem dX3_child_37 : decode cX3_child 37 = .ok (.aload_n 0, 1) := dk_42 (dk_at dksX3_child_1 13 rfl rfl)
theorem dX3_child_38 : decode cX3_child 38 = .ok (.iload 4, 2) := dk_21 4 (dk_at dksX3_child_1 14 rfl rfl)
theorem dX3_child_40 : decode cX3_child 40 = .ok (.invokevirtual 28, 3) := dk_182 0 28 (dk_at dksX3_child_1 16 rfl rfl)
theorem dX3_child_43 : decode cX3_child 43 = .ok (.ireturn, 1) := dk_172 (dk_at dksX3_child_1 19 rfl rfl)
def dkwX4_init_1 : List UInt8 := [188, 10, 181, 0, 18, 177]
abbrev dktX4_init_1 : List UInt8 := dkwX4_init_1 ++ []
def dkwX4_init_0 : List UInt8 := [42, 183, 0, 3, 42, 16, 10, 188, 10, 181, 0, 9, 42, 16, 10, 188, 10, 181, 0, 15, 42, 16, 10]
abbrev dktX4_init_0 : List UInt8 := dkwX4_init_0 ++ dktX4_init_1
theorem dksX4_init_0 : cX4_init.data.toList.drop 0 = dktX4_init_0 := by decide +kernel
theorem dksX4_init_1 : cX4_init.data.toList.drop 23 = dktX4_init_1 := dk_seg dksX4_init_0 23 rfl rfl
theorem dX4_init_0 : decode cX4_init 0 = .ok (.aload_n 0, 1) := dk_42 (dk_at dksX4_init_0 0 rfl rfl)
theorem dX4_init_1 : decode cX4_init 1 = .ok (.invokespecial 3, 3) := dk_183 0 3 (dk_at dksX4_init_0 1 rfl rfl)
theorem dX4_init_4 : decode cX4_init 4 = .ok (.aload_n 0, 1) := dk_42 (dk_at dksX4_init_0 4 rfl rfl)
theorem dX4_init_5 : decode cX4_init 5 = .ok (.bipush 10, 2) := dk_16 10 (dk_at dksX4_init_0 5 rfl rfl)
theorem dX4_init_7 : decode cX4_init 7 = .ok (.newarray .int, 2) := dk_188_10 (dk_at dksX4_init_0 7 rfl rfl)
theorem dX4_init_9 : decode cX4_init 9 = .ok (.putfield 9, 3) := dk_181 0 9 (dk_at dksX4_init_0 9 rfl rfl)
theorem dX4_init_12 : decode cX4_init 12 = .ok (.aload_n 0, 1) := dk_42 (dk_at dksX4_init_0 12 rfl rfl)
theorem dX4_init_13 : decode cX4_init 13 = .ok (.bipush 10, 2) := dk_16 10 (dk_at dksX4_init_0 13 rfl rfl)
theorem dX4_init_15 : decode cX4_init 15 = .ok (.newarray .int, 2) := dk_188_10 (dk_at dksX4_init_0 15 rfl rfl)
theorem dX4_init_17 : decode cX4_init 17 = .ok (.putfield 15, 3) := dk_181 0 15 (dk_at dksX4_init_0 17 rfl rfl)
theorem dX4_init_20 : decode cX4_init 20 = .ok (.aload_n 0, 1) := dk_42 (dk_at dksX4_init_0 20 rfl rfl)
theorem dX4_init_21 : decode cX4_init 21 = .ok (.bipush 10, 2) := dk_16 10 (dk_at dksX4_init_0 21 rfl rfl)
theorem dX4_init_23 : decode cX4_init 23 = .ok (.newarray .int, 2) := dk_188_10 (dk_at dksX4_init_1 0 rfl rfl)
theorem dX4_init_25 : decode cX4_init 25 = .ok (.putfield 18, 3) := dk_181 0 18 (dk_at dksX4_init_1 2 rfl rfl)
theorem dX4_init_28 : decode cX4_init 28 = .ok (.return_, 1) := dk_177 (dk_at dksX4_init_1 5 rfl rfl)
theorem dX6_domain_0 : decode cX6_domain 0 = .ok (.aload_n 0, 1) := by decide +kernel
theorem dX6_domain_1 : decode cX6_domain 1 = .ok (.getfield 13, 3) := by decide +kernel
theorem dX6_domain_4 : decode cX6_domain 4 = .ok (.ireturn, 1) := by decide +kernel
theorem dX6_low_0 : decode cX6_low 0 = .ok (.aload_n 0, 1) := by decide +kernel
theorem dX6_low_1 : decode cX6_low 1 = .ok (.getfield 16, 3) := by decide +kernel
theorem dX6_low_4 : decode cX6_low 4 = .ok (.ireturn, 1) := by decide +kernel
theorem dX6_high_0 : decode cX6_high 0 = .ok (.aload_n 0, 1) := by decide +kernel
theorem dX6_high_1 : decode cX6_high 1 = .ok (.getfield 19, 3) := by decide +kernel
theorem dX6_high_4 : decode cX6_high 4 = .ok (.ireturn, 1) := by decide +kernel
theorem dX6_kind_0 : decode cX6_kind 0 = .ok (.aload_n 0, 1) := by decide +kernel
theorem dX6_kind_1 : decode cX6_kind 1 = .ok (.getfield 7, 3) := by decide +kernel
theorem dX6_kind_4 : decode cX6_kind 4 = .ok (.ireturn, 1) := by decide +kernel
def dkwX6_init_1 : List UInt8 := [181, 0, 19, 177]
abbrev dktX6_init_1 : List UInt8 := dkwX6_init_1 ++ []
def dkwX6_init_0 : List UInt8 := [42, 183, 0, 1, 42, 27, 181, 0, 7, 42, 28, 181, 0, 13, 42, 29, 181, 0, 16, 42, 21, 4]
abbrev dktX6_init_0 : List UInt8 := dkwX6_init_0 ++ dktX6_init_1
theorem dksX6_init_0 : cX6_init.data.toList.drop 0 = dktX6_init_0 := by decide +kernel
theorem dksX6_init_1 : cX6_init.data.toList.drop 22 = dktX6_init_1 := dk_seg dksX6_init_0 22 rfl rfl
theorem dX6_init_0 : decode cX6_init 0 = .ok (.aload_n 0, 1) := dk_42 (dk_at dksX6_init_0 0 rfl rfl)
theorem dX6_init_1 : decode cX6_init 1 = .ok (.invokespecial 1, 3) := dk_183 0 1 (dk_at dksX6_init_0 1 rfl rfl)
theorem dX6_init_4 : decode cX6_init 4 = .ok (.aload_n 0, 1) := dk_42 (dk_at dksX6_init_0 4 rfl rfl)
theorem dX6_init_5 : decode cX6_init 5 = .ok (.iload_n 1, 1) := dk_27 (dk_at dksX6_init_0 5 rfl rfl)
theorem dX6_init_6 : decode cX6_init 6 = .ok (.putfield 7, 3) := dk_181 0 7 (dk_at dksX6_init_0 6 rfl rfl)
theorem dX6_init_9 : decode cX6_init 9 = .ok (.aload_n 0, 1) := dk_42 (dk_at dksX6_init_0 9 rfl rfl)
theorem dX6_init_10 : decode cX6_init 10 = .ok (.iload_n 2, 1) := dk_28 (dk_at dksX6_init_0 10 rfl rfl)
theorem dX6_init_11 : decode cX6_init 11 = .ok (.putfield 13, 3) := dk_181 0 13 (dk_at dksX6_init_0 11 rfl rfl)
theorem dX6_init_14 : decode cX6_init 14 = .ok (.aload_n 0, 1) := dk_42 (dk_at dksX6_init_0 14 rfl rfl)
theorem dX6_init_15 : decode cX6_init 15 = .ok (.iload_n 3, 1) := dk_29 (dk_at dksX6_init_0 15 rfl rfl)
theorem dX6_init_16 : decode cX6_init 16 = .ok (.putfield 16, 3) := dk_181 0 16 (dk_at dksX6_init_0 16 rfl rfl)
theorem dX6_init_19 : decode cX6_init 19 = .ok (.aload_n 0, 1) := dk_42 (dk_at dksX6_init_0 19 rfl rfl)
theorem dX6_init_20 : decode cX6_init 20 = .ok (.iload 4, 2) := dk_21 4 (dk_at dksX6_init_0 20 rfl rfl)
theorem dX6_init_22 : decode cX6_init 22 = .ok (.putfield 19, 3) := dk_181 0 19 (dk_at dksX6_init_1 0 rfl rfl)
theorem dX6_init_25 : decode cX6_init 25 = .ok (.return_, 1) := dk_177 (dk_at dksX6_init_1 3 rfl rfl)
def dkwX6_greatest_0 : List UInt8 := [178, 0, 22, 42, 180, 0, 7, 46, 172]
abbrev dktX6_greatest_0 : List UInt8 := dkwX6_greatest_0 ++ []
theorem dksX6_greatest_0 : cX6_greatest.data.toList.drop 0 = dktX6_greatest_0 := by decide +kernel
theorem dX6_greatest_0 : decode cX6_greatest 0 = .ok (.getstatic 22, 3) := dk_178 0 22 (dk_at dksX6_greatest_0 0 rfl rfl)
theorem dX6_greatest_3 : decode cX6_greatest 3 = .ok (.aload_n 0, 1) := dk_42 (dk_at dksX6_greatest_0 3 rfl rfl)
theorem dX6_greatest_4 : decode cX6_greatest 4 = .ok (.getfield 7, 3) := dk_180 0 7 (dk_at dksX6_greatest_0 4 rfl rfl)
theorem dX6_greatest_7 : decode cX6_greatest 7 = .ok (.iaload, 1) := dk_46 (dk_at dksX6_greatest_0 7 rfl rfl)
theorem dX6_greatest_8 : decode cX6_greatest 8 = .ok (.ireturn, 1) := dk_172 (dk_at dksX6_greatest_0 8 rfl rfl)
theorem dX7_state_0 : decode cX7_state 0 = .ok (.aload_n 0, 1) := by decide +kernel
theorem dX7_state_1 : decode cX7_state 1 = .ok (.getfield 7, 3) := by decide +kernel
theorem dX7_state_4 : decode cX7_state 4 = .ok (.ireturn, 1) := by decide +kernel
theorem dX7_value_0 : decode cX7_value 0 = .ok (.aload_n 0, 1) := by decide +kernel
theorem dX7_value_1 : decode cX7_value 1 = .ok (.getfield 13, 3) := by decide +kernel
theorem dX7_value_4 : decode cX7_value 4 = .ok (.ireturn, 1) := by decide +kernel
theorem dX7_next_0 : decode cX7_next 0 = .ok (.aload_n 0, 1) := by decide +kernel
theorem dX7_next_1 : decode cX7_next 1 = .ok (.getfield 16, 3) := by decide +kernel
theorem dX7_next_4 : decode cX7_next 4 = .ok (.ireturn, 1) := by decide +kernel
def dkwX7_init_0 : List UInt8 := [42, 183, 0, 1, 42, 27, 181, 0, 7, 42, 28, 181, 0, 13, 42, 29, 181, 0, 16, 177]
abbrev dktX7_init_0 : List UInt8 := dkwX7_init_0 ++ []
theorem dksX7_init_0 : cX7_init.data.toList.drop 0 = dktX7_init_0 := by decide +kernel
theorem dX7_init_0 : decode cX7_init 0 = .ok (.aload_n 0, 1) := dk_42 (dk_at dksX7_init_0 0 rfl rfl)
theorem dX7_init_1 : decode cX7_init 1 = .ok (.invokespecial 1, 3) := dk_183 0 1 (dk_at dksX7_init_0 1 rfl rfl)
theorem dX7_init_4 : decode cX7_init 4 = .ok (.aload_n 0, 1) := dk_42 (dk_at dksX7_init_0 4 rfl rfl)
theorem dX7_init_5 : decode cX7_init 5 = .ok (.iload_n 1, 1) := dk_27 (dk_at dksX7_init_0 5 rfl rfl)
theorem dX7_init_6 : decode cX7_init 6 = .ok (.putfield 7, 3) := dk_181 0 7 (dk_at dksX7_init_0 6 rfl rfl)
theorem dX7_init_9 : decode cX7_init 9 = .ok (.aload_n 0, 1) := dk_42 (dk_at dksX7_init_0 9 rfl rfl)
theorem dX7_init_10 : decode cX7_init 10 = .ok (.iload_n 2, 1) := dk_28 (dk_at dksX7_init_0 10 rfl rfl)
theorem dX7_init_11 : decode cX7_init 11 = .ok (.putfield 13, 3) := dk_181 0 13 (dk_at dksX7_init_0 11 rfl rfl)
theorem dX7_init_14 : decode cX7_init 14 = .ok (.aload_n 0, 1) := dk_42 (dk_at dksX7_init_0 14 rfl rfl)
theorem dX7_init_15 : decode cX7_init 15 = .ok (.iload_n 3, 1) := dk_29 (dk_at dksX7_init_0 15 rfl rfl)
theorem dX7_init_16 : decode cX7_init 16 = .ok (.putfield 16, 3) := dk_181 0 16 (dk_at dksX7_init_0 16 rfl rfl)
theorem dX7_init_19 : decode cX7_init 19 = .ok (.return_, 1) := dk_177 (dk_at dksX7_init_0 19 rfl rfl)
theorem dX8_value_0 : decode cX8_value 0 = .ok (.aload_n 0, 1) := by decide +kernel
theorem dX8_value_1 : decode cX8_value 1 = .ok (.getfield 13, 3) := by decide +kernel
theorem dX8_value_4 : decode cX8_value 4 = .ok (.ireturn, 1) := by decide +kernel
theorem dX8_has_0 : decode cX8_has 0 = .ok (.aload_n 0, 1) := by decide +kernel
theorem dX8_has_1 : decode cX8_has 1 = .ok (.getfield 16, 3) := by decide +kernel
theorem dX8_has_4 : decode cX8_has 4 = .ok (.ireturn, 1) := by decide +kernel
def dkwX8_init_0 : List UInt8 := [42, 183, 0, 1, 42, 27, 181, 0, 7, 42, 28, 181, 0, 13, 42, 29, 181, 0, 16, 177]
abbrev dktX8_init_0 : List UInt8 := dkwX8_init_0 ++ []
theorem dksX8_init_0 : cX8_init.data.toList.drop 0 = dktX8_init_0 := by decide +kernel
theorem dX8_init_0 : decode cX8_init 0 = .ok (.aload_n 0, 1) := dk_42 (dk_at dksX8_init_0 0 rfl rfl)
theorem dX8_init_1 : decode cX8_init 1 = .ok (.invokespecial 1, 3) := dk_183 0 1 (dk_at dksX8_init_0 1 rfl rfl)
theorem dX8_init_4 : decode cX8_init 4 = .ok (.aload_n 0, 1) := dk_42 (dk_at dksX8_init_0 4 rfl rfl)
theorem dX8_init_5 : decode cX8_init 5 = .ok (.iload_n 1, 1) := dk_27 (dk_at dksX8_init_0 5 rfl rfl)
theorem dX8_init_6 : decode cX8_init 6 = .ok (.putfield 7, 3) := dk_181 0 7 (dk_at dksX8_init_0 6 rfl rfl)
theorem dX8_init_9 : decode cX8_init 9 = .ok (.aload_n 0, 1) := dk_42 (dk_at dksX8_init_0 9 rfl rfl)
theorem dX8_init_10 : decode cX8_init 10 = .ok (.iload_n 2, 1) := dk_28 (dk_at dksX8_init_0 10 rfl rfl)
theorem dX8_init_11 : decode cX8_init 11 = .ok (.putfield 13, 3) := dk_181 0 13 (dk_at dksX8_init_0 11 rfl rfl)
theorem dX8_init_14 : decode cX8_init 14 = .ok (.aload_n 0, 1) := dk_42 (dk_at dksX8_init_0 14 rfl rfl)
theorem dX8_init_15 : decode cX8_init 15 = .ok (.iload_n 3, 1) := dk_29 (dk_at dksX8_init_0 15 rfl rfl)
theorem dX8_init_16 : decode cX8_init 16 = .ok (.putfield 16, 3) := dk_181 0 16 (dk_at dksX8_init_0 16 rfl rfl)
theorem dX8_init_19 : decode cX8_init 19 = .ok (.return_, 1) := dk_177 (dk_at dksX8_init_0 19 rfl rfl)
theorem dX8_variable_0 : decode cX8_variable 0 = .ok (.aload_n 0, 1) := by decide +kernel
theorem dX8_variable_1 : decode cX8_variable 1 = .ok (.getfield 7, 3) := by decide +kernel
theorem dX8_variable_4 : decode cX8_variable 4 = .ok (.ireturn, 1) := by decide +kernel
def dkwX9_size_0 : List UInt8 := [42, 180, 0, 13, 190, 172]
abbrev dktX9_size_0 : List UInt8 := dkwX9_size_0 ++ []
theorem dksX9_size_0 : cX9_size.data.toList.drop 0 = dktX9_size_0 := by decide +kernel
theorem dX9_size_0 : decode cX9_size 0 = .ok (.aload_n 0, 1) := dk_42 (dk_at dksX9_size_0 0 rfl rfl)
theorem dX9_size_1 : decode cX9_size 1 = .ok (.getfield 13, 3) := dk_180 0 13 (dk_at dksX9_size_0 1 rfl rfl)
theorem dX9_size_4 : decode cX9_size 4 = .ok (.arraylength, 1) := dk_190 (dk_at dksX9_size_0 4 rfl rfl)
theorem dX9_size_5 : decode cX9_size 5 = .ok (.ireturn, 1) := dk_172 (dk_at dksX9_size_0 5 rfl rfl)
def dkwX9_domain_0 : List UInt8 := [43, 180, 0, 37, 42, 180, 0, 13, 28, 46, 46, 172]
abbrev dktX9_domain_0 : List UInt8 := dkwX9_domain_0 ++ []
theorem dksX9_domain_0 : cX9_domain.data.toList.drop 0 = dktX9_domain_0 := by decide +kernel
theorem dX9_domain_0 : decode cX9_domain 0 = .ok (.aload_n 1, 1) := dk_43 (dk_at dksX9_domain_0 0 rfl rfl)
theorem dX9_domain_1 : decode cX9_domain 1 = .ok (.getfield 37, 3) := dk_180 0 37 (dk_at dksX9_domain_0 1 rfl rfl)
theorem dX9_domain_4 : decode cX9_domain 4 = .ok (.aload_n 0, 1) := dk_42 (dk_at dksX9_domain_0 4 rfl rfl)
theorem dX9_domain_5 : decode cX9_domain 5 = .ok (.getfield 13, 3) := dk_180 0 13 (dk_at dksX9_domain_0 5 rfl rfl)
theorem dX9_domain_8 : decode cX9_domain 8 = .ok (.iload_n 2, 1) := dk_28 (dk_at dksX9_domain_0 8 rfl rfl)
theorem dX9_domain_9 : decode cX9_domain 9 = .ok (.iaload, 1) := dk_46 (dk_at dksX9_domain_0 9 rfl rfl)
theorem dX9_domain_10 : decode cX9_domain 10 = .ok (.iaload, 1) := dk_46 (dk_at dksX9_domain_0 10 rfl rfl)
theorem dX9_domain_11 : decode cX9_domain 11 = .ok (.ireturn, 1) := dk_172 (dk_at dksX9_domain_0 11 rfl rfl)
def dkwX9_init_3 : List UInt8 := [185, 0, 28, 2, 0, 192, 0, 32, 182, 0, 34, 79, 132, 2, 1, 167, 255, 225, 177]
abbrev dktX9_init_3 : List UInt8 := dkwX9_init_3 ++ []
def dkwX9_init_2 : List UInt8 := [181, 0, 25, 3, 61, 28, 42, 180, 0, 13, 190, 162, 0, 28, 42, 180, 0, 13, 28, 43, 28]
abbrev dktX9_init_2 : List UInt8 := dkwX9_init_2 ++ dktX9_init_3
def dkwX9_init_1 : List UInt8 := [181, 0, 19, 42, 42, 180, 0, 13, 190, 188, 10, 181, 0, 22, 42, 42, 180, 0, 13, 190, 188, 10]
abbrev dktX9_init_1 : List UInt8 := dkwX9_init_1 ++ dktX9_init_2
def dkwX9_init_0 : List UInt8 := [42, 183, 0, 1, 42, 43, 185, 0, 7, 1, 0, 188, 10, 181, 0, 13, 42, 42, 180, 0, 13, 190, 188, 10]
abbrev dktX9_init_0 : List UInt8 := dkwX9_init_0 ++ dktX9_init_1
theorem dksX9_init_0 : cX9_init.data.toList.drop 0 = dktX9_init_0 := by decide +kernel
theorem dksX9_init_1 : cX9_init.data.toList.drop 24 = dktX9_init_1 := dk_seg dksX9_init_0 24 rfl rfl
theorem dksX9_init_2 : cX9_init.data.toList.drop 46 = dktX9_init_2 := dk_seg dksX9_init_1 22 rfl rfl
theorem dksX9_init_3 : cX9_init.data.toList.drop 67 = dktX9_init_3 := dk_seg dksX9_init_2 21 rfl rfl
theorem dX9_init_0 : decode cX9_init 0 = .ok (.aload_n 0, 1) := dk_42 (dk_at dksX9_init_0 0 rfl rfl)
theorem dX9_init_1 : decode cX9_init 1 = .ok (.invokespecial 1, 3) := dk_183 0 1 (dk_at dksX9_init_0 1 rfl rfl)
theorem dX9_init_4 : decode cX9_init 4 = .ok (.aload_n 0, 1) := dk_42 (dk_at dksX9_init_0 4 rfl rfl)
theorem dX9_init_5 : decode cX9_init 5 = .ok (.aload_n 1, 1) := dk_43 (dk_at dksX9_init_0 5 rfl rfl)
theorem dX9_init_6 : decode cX9_init 6 = .ok (.invokeinterface 7 1, 5) := by decide +kernel
theorem dX9_init_11 : decode cX9_init 11 = .ok (.newarray .int, 2) := dk_188_10 (dk_at dksX9_init_0 11 rfl rfl)
theorem dX9_init_13 : decode cX9_init 13 = .ok (.putfield 13, 3) := dk_181 0 13 (dk_at dksX9_init_0 13 rfl rfl)
theorem dX9_init_16 : decode cX9_init 16 = .ok (.aload_n 0, 1) := dk_42 (dk_at dksX9_init_0 16 rfl rfl)
theorem dX9_init_17 : decode cX9_init 17 = .ok (.aload_n 0, 1) := dk_42 (dk_at dksX9_init_0 17 rfl rfl)
theorem dX9_init_18 : decode cX9_init 18 = .ok (.getfield 13, 3) := dk_180 0 13 (dk_at dksX9_init_0 18 rfl rfl)
theorem dX9_init_21 : decode cX9_init 21 = .ok (.arraylength, 1) := dk_190 (dk_at dksX9_init_0 21 rfl rfl)
theorem dX9_init_22 : decode cX9_init 22 = .ok (.newarray .int, 2) := dk_188_10 (dk_at dksX9_init_0 22 rfl rfl)
theorem dX9_init_24 : decode cX9_init 24 = .ok (.putfield 19, 3) := dk_181 0 19 (dk_at dksX9_init_1 0 rfl rfl)
theorem dX9_init_27 : decode cX9_init 27 = .ok (.aload_n 0, 1) := dk_42 (dk_at dksX9_init_1 3 rfl rfl)
theorem dX9_init_28 : decode cX9_init 28 = .ok (.aload_n 0, 1) := dk_42 (dk_at dksX9_init_1 4 rfl rfl)
theorem dX9_init_29 : decode cX9_init 29 = .ok (.getfield 13, 3) := dk_180 0 13 (dk_at dksX9_init_1 5 rfl rfl)
theorem dX9_init_32 : decode cX9_init 32 = .ok (.arraylength, 1) := dk_190 (dk_at dksX9_init_1 8 rfl rfl)
theorem dX9_init_33 : decode cX9_init 33 = .ok (.newarray .int, 2) := dk_188_10 (dk_at dksX9_init_1 9 rfl rfl)
theorem dX9_init_35 : decode cX9_init 35 = .ok (.putfield 22, 3) := dk_181 0 22 (dk_at dksX9_init_1 11 rfl rfl)
theorem dX9_init_38 : decode cX9_init 38 = .ok (.aload_n 0, 1) := dk_42 (dk_at dksX9_init_1 14 rfl rfl)
theorem dX9_init_39 : decode cX9_init 39 = .ok (.aload_n 0, 1) := dk_42 (dk_at dksX9_init_1 15 rfl rfl)
theorem dX9_init_40 : decode cX9_init 40 = .ok (.getfield 13, 3) := dk_180 0 13 (dk_at dksX9_init_1 16 rfl rfl)
theorem dX9_init_43 : decode cX9_init 43 = .ok (.arraylength, 1) := dk_190 (dk_at dksX9_init_1 19 rfl rfl)
theorem dX9_init_44 : decode cX9_init 44 = .ok (.newarray .int, 2) := dk_188_10 (dk_at dksX9_init_1 20 rfl rfl)
theorem dX9_init_46 : decode cX9_init 46 = .ok (.putfield 25, 3) := dk_181 0 25 (dk_at dksX9_init_2 0 rfl rfl)
theorem dX9_init_49 : decode cX9_init 49 = .ok (.iconst 0, 1) := dk_3 (dk_at dksX9_init_2 3 rfl rfl)
theorem dX9_init_50 : decode cX9_init 50 = .ok (.istore_n 2, 1) := dk_61 (dk_at dksX9_init_2 4 rfl rfl)
theorem dX9_init_51 : decode cX9_init 51 = .ok (.iload_n 2, 1) := dk_28 (dk_at dksX9_init_2 5 rfl rfl)
theorem dX9_init_52 : decode cX9_init 52 = .ok (.aload_n 0, 1) := dk_42 (dk_at dksX9_init_2 6 rfl rfl)
theorem dX9_init_53 : decode cX9_init 53 = .ok (.getfield 13, 3) := dk_180 0 13 (dk_at dksX9_init_2 7 rfl rfl)
theorem dX9_init_56 : decode cX9_init 56 = .ok (.arraylength, 1) := dk_190 (dk_at dksX9_init_2 10 rfl rfl)
theorem dX9_init_57 : decode cX9_init 57 = .ok (.if_icmp .ge 28, 3) := dk_162 0 28 (dk_at dksX9_init_2 11 rfl rfl)
theorem dX9_init_60 : decode cX9_init 60 = .ok (.aload_n 0, 1) := dk_42 (dk_at dksX9_init_2 14 rfl rfl)
theorem dX9_init_61 : decode cX9_init 61 = .ok (.getfield 13, 3) := dk_180 0 13 (dk_at dksX9_init_2 15 rfl rfl)
theorem dX9_init_64 : decode cX9_init 64 = .ok (.iload_n 2, 1) := dk_28 (dk_at dksX9_init_2 18 rfl rfl)
theorem dX9_init_65 : decode cX9_init 65 = .ok (.aload_n 1, 1) := dk_43 (dk_at dksX9_init_2 19 rfl rfl)
theorem dX9_init_66 : decode cX9_init 66 = .ok (.iload_n 2, 1) := dk_28 (dk_at dksX9_init_2 20 rfl rfl)
theorem dX9_init_67 : decode cX9_init 67 = .ok (.invokeinterface 28 2, 5) := by decide +kernel
theorem dX9_init_72 : decode cX9_init 72 = .ok (.checkcast 32, 3) := dk_192 0 32 (dk_at dksX9_init_3 5 rfl rfl)
theorem dX9_init_75 : decode cX9_init 75 = .ok (.invokevirtual 34, 3) := dk_182 0 34 (dk_at dksX9_init_3 8 rfl rfl)
theorem dX9_init_78 : decode cX9_init 78 = .ok (.iastore, 1) := dk_79 (dk_at dksX9_init_3 11 rfl rfl)
theorem dX9_init_79 : decode cX9_init 79 = .ok (.iinc 2 1, 3) := dk_132 2 1 (dk_at dksX9_init_3 12 rfl rfl)
theorem dX9_init_82 : decode cX9_init 82 = .ok (.goto (-31), 3) := dk_167 255 225 (dk_at dksX9_init_3 15 rfl rfl)
theorem dX9_init_85 : decode cX9_init 85 = .ok (.return_, 1) := dk_177 (dk_at dksX9_init_3 18 rfl rfl)
