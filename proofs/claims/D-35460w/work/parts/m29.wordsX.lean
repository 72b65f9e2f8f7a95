/-! X and the JDK: words (printed by gen/gens.py) -/
set_option maxRecDepth 100000
theorem zcb_m128 : (Int8.ofInt (-128)).toInt32 = (-128 : Int32) := by decide
theorem zcb_m120 : (Int8.ofInt (-120)).toInt32 = (-120 : Int32) := by decide
theorem zcb_m9 : (Int8.ofInt (-9)).toInt32 = (-9 : Int32) := by decide
theorem zcb_6 : (Int8.ofInt 6).toInt32 = (6 : Int32) := by decide
theorem zcb_7 : (Int8.ofInt 7).toInt32 = (7 : Int32) := by decide
theorem zcb_8 : (Int8.ofInt 8).toInt32 = (8 : Int32) := by decide
theorem zcb_9 : (Int8.ofInt 9).toInt32 = (9 : Int32) := by decide
theorem zcb_10 : (Int8.ofInt 10).toInt32 = (10 : Int32) := by decide
theorem zcb_12 : (Int8.ofInt 12).toInt32 = (12 : Int32) := by decide
theorem zcb_16 : (Int8.ofInt 16).toInt32 = (16 : Int32) := by decide
theorem zcb_20 : (Int8.ofInt 20).toInt32 = (20 : Int32) := by decide
theorem zcb_24 : (Int8.ofInt 24).toInt32 = (24 : Int32) := by decide
theorem zcb_31 : (Int8.ofInt 31).toInt32 = (31 : Int32) := by decide
theorem zcb_32 : (Int8.ofInt 32).toInt32 = (32 : Int32) := by decide
theorem zcb_63 : (Int8.ofInt 63).toInt32 = (63 : Int32) := by decide
theorem zcb_100 : (Int8.ofInt 100).toInt32 = (100 : Int32) := by decide
theorem zcb_120 : (Int8.ofInt 120).toInt32 = (120 : Int32) := by decide
theorem zci_m16 : Int32.ofInt (-16) = (-16 : Int32) := by decide
theorem zci_m8 : Int32.ofInt (-8) = (-8 : Int32) := by decide
theorem zci_m4 : Int32.ofInt (-4) = (-4 : Int32) := by decide
theorem zci_m2 : Int32.ofInt (-2) = (-2 : Int32) := by decide
theorem zci_m1 : Int32.ofInt (-1) = (-1 : Int32) := by decide
theorem zci_0 : Int32.ofInt 0 = (0 : Int32) := by decide
theorem zci_1 : Int32.ofInt 1 = (1 : Int32) := by decide
theorem zci_2 : Int32.ofInt 2 = (2 : Int32) := by decide
theorem zci_3 : Int32.ofInt 3 = (3 : Int32) := by decide
theorem zci_4 : Int32.ofInt 4 = (4 : Int32) := by decide
theorem zci_5 : Int32.ofInt 5 = (5 : Int32) := by decide
theorem zci_8 : Int32.ofInt 8 = (8 : Int32) := by decide
theorem zci_16 : Int32.ofInt 16 = (16 : Int32) := by decide
theorem zcs_m2000 : (Int16.ofInt (-2000)).toInt32 = (-2000 : Int32) := by decide
theorem zcs_m1000 : (Int16.ofInt (-1000)).toInt32 = (-1000 : Int32) := by decide
theorem zcs_128 : (Int16.ofInt 128).toInt32 = (128 : Int32) := by decide
theorem zcs_256 : (Int16.ofInt 256).toInt32 = (256 : Int32) := by decide
theorem zcs_320 : (Int16.ofInt 320).toInt32 = (320 : Int32) := by decide
theorem zcs_400 : (Int16.ofInt 400).toInt32 = (400 : Int32) := by decide
theorem zcs_413 : (Int16.ofInt 413).toInt32 = (413 : Int32) := by decide
theorem zcs_1023 : (Int16.ofInt 1023).toInt32 = (1023 : Int32) := by decide
theorem zcs_2000 : (Int16.ofInt 2000).toInt32 = (2000 : Int32) := by decide
theorem zplJ0 : plainName RJ0 = true := by decide
theorem zplJ1 : plainName RJ1 = true := by decide
theorem zplJ11 : plainName RJ11 = true := by decide
theorem zplJ15 : plainName RJ15 = true := by decide
theorem zplJ16 : plainName RJ16 = true := by decide
theorem zplJ17 : plainName RJ17 = true := by decide
theorem zplJ18 : plainName RJ18 = true := by decide
theorem zplJ2 : plainName RJ2 = true := by decide
theorem zplJ7 : plainName RJ7 = true := by decide
theorem zplJ9 : plainName RJ9 = true := by decide
theorem zplX1 : plainName RX1 = true := by decide
theorem zplX10 : plainName RX10 = true := by decide
theorem zplX11 : plainName RX11 = true := by decide
theorem zplX12 : plainName RX12 = true := by decide
theorem zplX13 : plainName RX13 = true := by decide
theorem zplX14 : plainName RX14 = true := by decide
theorem zplX15 : plainName RX15 = true := by decide
theorem zplX16 : plainName RX16 = true := by decide
theorem zplX17 : plainName RX17 = true := by decide
theorem zplX18 : plainName RX18 = true := by decide
theorem zplX19 : plainName RX19 = true := by decide
theorem zplX2 : plainName RX2 = true := by decide
theorem zplX3 : plainName RX3 = true := by decide
theorem zplX4 : plainName RX4 = true := by decide
theorem zplX6 : plainName RX6 = true := by decide
theorem zplX7 : plainName RX7 = true := by decide
theorem zplX8 : plainName RX8 = true := by decide
theorem zplX9 : plainName RX9 = true := by decide
theorem zc0 : zCl 0 RX1 TX1 36 := ⟨rfl, in_X1, ⟨tyX1, tyX1_ok⟩, nmX1⟩
theorem zc1 : zCl 1 RX2 TX2 4 := ⟨rfl, in_X2, ⟨tyX2, tyX2_ok⟩, nmX2⟩
theorem zc2 : zCl 2 RX3 TX3 5 := ⟨rfl, in_X3, ⟨tyX3, tyX3_ok⟩, nmX3⟩
theorem zc3 : zCl 3 RX4 TX4 5 := ⟨rfl, in_X4, ⟨tyX4, tyX4_ok⟩, nmX4⟩
theorem zc4 : zCl 4 RX5 TX5 72 := ⟨rfl, in_X5, ⟨tyX5, tyX5_ok⟩, nmX5⟩
theorem zc5 : zCl 5 RX6 TX6 4 := ⟨rfl, in_X6, ⟨tyX6, tyX6_ok⟩, nmX6⟩
theorem zc6 : zCl 6 RX7 TX7 3 := ⟨rfl, in_X7, ⟨tyX7, tyX7_ok⟩, nmX7⟩
theorem zc7 : zCl 7 RX8 TX8 3 := ⟨rfl, in_X8, ⟨tyX8, tyX8_ok⟩, nmX8⟩
theorem zc8 : zCl 8 RX10 TX10 8 := ⟨rfl, in_X10, ⟨tyX10, tyX10_ok⟩, nmX10⟩
theorem zc9 : zCl 9 RX11 TX11 6 := ⟨rfl, in_X11, ⟨tyX11, tyX11_ok⟩, nmX11⟩
theorem zc10 : zCl 10 RX12 TX12 4 := ⟨rfl, in_X12, ⟨tyX12, tyX12_ok⟩, nmX12⟩
theorem zc11 : zCl 11 RX13 TX13 8 := ⟨rfl, in_X13, ⟨tyX13, tyX13_ok⟩, nmX13⟩
theorem zc12 : zCl 12 RX14 TX14 4 := ⟨rfl, in_X14, ⟨tyX14, tyX14_ok⟩, nmX14⟩
theorem zc13 : zCl 13 RX15 TX15 5 := ⟨rfl, in_X15, ⟨tyX15, tyX15_ok⟩, nmX15⟩
theorem zc14 : zCl 14 RX16 TX16 5 := ⟨rfl, in_X16, ⟨tyX16, tyX16_ok⟩, nmX16⟩
theorem zc15 : zCl 15 RX17 TX17 6 := ⟨rfl, in_X17, ⟨tyX17, tyX17_ok⟩, nmX17⟩
theorem zc16 : zCl 16 RX18 TX18 4 := ⟨rfl, in_X18, ⟨tyX18, tyX18_ok⟩, nmX18⟩
theorem zc17 : zCl 17 RX19 TX19 4 := ⟨rfl, in_X19, ⟨tyX19, tyX19_ok⟩, nmX19⟩
theorem zc18 : zCl 18 RJ2 TJ2 3 := ⟨rfl, in_J2, ⟨tyJ2, tyJ2_ok⟩, nmJ2⟩
theorem zc19 : zCl 19 RJ18 TJ18 1 := ⟨rfl, in_J18, ⟨tyJ18, tyJ18_ok⟩, nmJ18⟩
theorem zfs1 : ∀ j, j < 4 → defaultValue (tyX2 j) = vp_V zfd1 j := by decide
theorem zfs2 : ∀ j, j < 5 → defaultValue (tyX3 j) = vp_V zfd2 j := by decide
theorem zfs3 : ∀ j, j < 5 → defaultValue (tyX4 j) = vp_V zfd3 j := by decide
theorem zfs5 : ∀ j, j < 4 → defaultValue (tyX6 j) = vp_V zfd5 j := by decide
theorem zfs6 : ∀ j, j < 3 → defaultValue (tyX7 j) = vp_V zfd6 j := by decide
theorem zfs7 : ∀ j, j < 3 → defaultValue (tyX8 j) = vp_V zfd7 j := by decide
theorem zfs8 : ∀ j, j < 8 → defaultValue (tyX10 j) = vp_V zfd8 j := by decide
theorem zfs9 : ∀ j, j < 6 → defaultValue (tyX11 j) = vp_V zfd9 j := by decide
theorem zfs10 : ∀ j, j < 4 → defaultValue (tyX12 j) = vp_V zfd10 j := by decide
theorem zfs11 : ∀ j, j < 8 → defaultValue (tyX13 j) = vp_V zfd11 j := by decide
theorem zfs12 : ∀ j, j < 4 → defaultValue (tyX14 j) = vp_V zfd12 j := by decide
theorem zfs13 : ∀ j, j < 5 → defaultValue (tyX15 j) = vp_V zfd13 j := by decide
theorem zfs14 : ∀ j, j < 5 → defaultValue (tyX16 j) = vp_V zfd14 j := by decide
theorem zfs15 : ∀ j, j < 6 → defaultValue (tyX17 j) = vp_V zfd15 j := by decide
theorem zfs16 : ∀ j, j < 4 → defaultValue (tyX18 j) = vp_V zfd16 j := by decide
theorem zfs17 : ∀ j, j < 4 → defaultValue (tyX19 j) = vp_V zfd17 j := by decide
theorem zfs18 : ∀ j, j < 3 → defaultValue (tyJ2 j) = vp_V zfd18 j := by decide
theorem zaC_0 : zAll zcs 0 (TX10 0) := by
  intro c hc
  simp only [zcs, List.mem_cons, List.not_mem_nil, or_false] at hc
  rcases hc with rfl | rfl | rfl | rfl | rfl | rfl | rfl | rfl
  · exact ⟨_, _, _, zc8, by decide, rfl⟩
  · exact ⟨_, _, _, zc9, by decide, rfl⟩
  · exact ⟨_, _, _, zc10, by decide, rfl⟩
  · exact ⟨_, _, _, zc11, by decide, rfl⟩
  · exact ⟨_, _, _, zc12, by decide, rfl⟩
  · exact ⟨_, _, _, zc13, by decide, rfl⟩
  · exact ⟨_, _, _, zc14, by decide, rfl⟩
  · exact ⟨_, _, _, zc15, by decide, rfl⟩
theorem zaC_1 : zAll zcs 1 (TX10 1) := by
  intro c hc
  simp only [zcs, List.mem_cons, List.not_mem_nil, or_false] at hc
  rcases hc with rfl | rfl | rfl | rfl | rfl | rfl | rfl | rfl
  · exact ⟨_, _, _, zc8, by decide, rfl⟩
  · exact ⟨_, _, _, zc9, by decide, rfl⟩
  · exact ⟨_, _, _, zc10, by decide, rfl⟩
  · exact ⟨_, _, _, zc11, by decide, rfl⟩
  · exact ⟨_, _, _, zc12, by decide, rfl⟩
  · exact ⟨_, _, _, zc13, by decide, rfl⟩
  · exact ⟨_, _, _, zc14, by decide, rfl⟩
  · exact ⟨_, _, _, zc15, by decide, rfl⟩
theorem zaC_2 : zAll zcs 2 (TX10 2) := by
  intro c hc
  simp only [zcs, List.mem_cons, List.not_mem_nil, or_false] at hc
  rcases hc with rfl | rfl | rfl | rfl | rfl | rfl | rfl | rfl
  · exact ⟨_, _, _, zc8, by decide, rfl⟩
  · exact ⟨_, _, _, zc9, by decide, rfl⟩
  · exact ⟨_, _, _, zc10, by decide, rfl⟩
  · exact ⟨_, _, _, zc11, by decide, rfl⟩
  · exact ⟨_, _, _, zc12, by decide, rfl⟩
  · exact ⟨_, _, _, zc13, by decide, rfl⟩
  · exact ⟨_, _, _, zc14, by decide, rfl⟩
  · exact ⟨_, _, _, zc15, by decide, rfl⟩
theorem zaC_3 : zAll zcs 3 (TX10 3) := by
  intro c hc
  simp only [zcs, List.mem_cons, List.not_mem_nil, or_false] at hc
  rcases hc with rfl | rfl | rfl | rfl | rfl | rfl | rfl | rfl
  · exact ⟨_, _, _, zc8, by decide, rfl⟩
  · exact ⟨_, _, _, zc9, by decide, rfl⟩
  · exact ⟨_, _, _, zc10, by decide, rfl⟩
  · exact ⟨_, _, _, zc11, by decide, rfl⟩
  · exact ⟨_, _, _, zc12, by decide, rfl⟩
  · exact ⟨_, _, _, zc13, by decide, rfl⟩
  · exact ⟨_, _, _, zc14, by decide, rfl⟩
  · exact ⟨_, _, _, zc15, by decide, rfl⟩
theorem za0_0 : zAll [0] 0 (TX1 0) := zone zc0 0 rfl
theorem za0_1 : zAll [0] 1 (TX1 1) := zone zc0 1 rfl
theorem za0_10 : zAll [0] 10 (TX1 10) := zone zc0 10 rfl
theorem za0_11 : zAll [0] 11 (TX1 11) := zone zc0 11 rfl
theorem za0_12 : zAll [0] 12 (TX1 12) := zone zc0 12 rfl
theorem za0_13 : zAll [0] 13 (TX1 13) := zone zc0 13 rfl
theorem za0_14 : zAll [0] 14 (TX1 14) := zone zc0 14 rfl
theorem za0_15 : zAll [0] 15 (TX1 15) := zone zc0 15 rfl
theorem za0_16 : zAll [0] 16 (TX1 16) := zone zc0 16 rfl
theorem za0_17 : zAll [0] 17 (TX1 17) := zone zc0 17 rfl
theorem za0_18 : zAll [0] 18 (TX1 18) := zone zc0 18 rfl
theorem za0_19 : zAll [0] 19 (TX1 19) := zone zc0 19 rfl
theorem za0_2 : zAll [0] 2 (TX1 2) := zone zc0 2 rfl
theorem za0_20 : zAll [0] 20 (TX1 20) := zone zc0 20 rfl
theorem za0_21 : zAll [0] 21 (TX1 21) := zone zc0 21 rfl
theorem za0_22 : zAll [0] 22 (TX1 22) := zone zc0 22 rfl
theorem za0_23 : zAll [0] 23 (TX1 23) := zone zc0 23 rfl
theorem za0_24 : zAll [0] 24 (TX1 24) := zone zc0 24 rfl
theorem za0_25 : zAll [0] 25 (TX1 25) := zone zc0 25 rfl
theorem za0_26 : zAll [0] 26 (TX1 26) := zone zc0 26 rfl
theorem za0_27 : zAll [0] 27 (TX1 27) := zone zc0 27 rfl
theorem za0_28 : zAll [0] 28 (TX1 28) := zone zc0 28 rfl
theorem za0_29 : zAll [0] 29 (TX1 29) := zone zc0 29 rfl
theorem za0_3 : zAll [0] 3 (TX1 3) := zone zc0 3 rfl
theorem za0_30 : zAll [0] 30 (TX1 30) := zone zc0 30 rfl
theorem za0_31 : zAll [0] 31 (TX1 31) := zone zc0 31 rfl
theorem za0_32 : zAll [0] 32 (TX1 32) := zone zc0 32 rfl
theorem za0_33 : zAll [0] 33 (TX1 33) := zone zc0 33 rfl
theorem za0_34 : zAll [0] 34 (TX1 34) := zone zc0 34 rfl
theorem za0_35 : zAll [0] 35 (TX1 35) := zone zc0 35 rfl
theorem za0_4 : zAll [0] 4 (TX1 4) := zone zc0 4 rfl
theorem za0_5 : zAll [0] 5 (TX1 5) := zone zc0 5 rfl
theorem za0_6 : zAll [0] 6 (TX1 6) := zone zc0 6 rfl
theorem za0_7 : zAll [0] 7 (TX1 7) := zone zc0 7 rfl
theorem za0_8 : zAll [0] 8 (TX1 8) := zone zc0 8 rfl
theorem za0_9 : zAll [0] 9 (TX1 9) := zone zc0 9 rfl
theorem za10_1 : zAll [10] 1 (TX12 1) := zone zc10 1 rfl
theorem za11_1 : zAll [11] 1 (TX13 1) := zone zc11 1 rfl
theorem za11_4 : zAll [11] 4 (TX13 4) := zone zc11 4 rfl
theorem za11_5 : zAll [11] 5 (TX13 5) := zone zc11 5 rfl
theorem za11_6 : zAll [11] 6 (TX13 6) := zone zc11 6 rfl
theorem za11_7 : zAll [11] 7 (TX13 7) := zone zc11 7 rfl
theorem za12_1 : zAll [12] 1 (TX14 1) := zone zc12 1 rfl
theorem za13_1 : zAll [13] 1 (TX15 1) := zone zc13 1 rfl
theorem za13_4 : zAll [13] 4 (TX15 4) := zone zc13 4 rfl
theorem za14_1 : zAll [14] 1 (TX16 1) := zone zc14 1 rfl
theorem za14_4 : zAll [14] 4 (TX16 4) := zone zc14 4 rfl
theorem za15_1 : zAll [15] 1 (TX17 1) := zone zc15 1 rfl
theorem za15_4 : zAll [15] 4 (TX17 4) := zone zc15 4 rfl
theorem za15_5 : zAll [15] 5 (TX17 5) := zone zc15 5 rfl
theorem za16_0 : zAll [16] 0 (TX18 0) := zone zc16 0 rfl
theorem za16_1 : zAll [16] 1 (TX18 1) := zone zc16 1 rfl
theorem za16_2 : zAll [16] 2 (TX18 2) := zone zc16 2 rfl
theorem za16_3 : zAll [16] 3 (TX18 3) := zone zc16 3 rfl
theorem za17_0 : zAll [17] 0 (TX19 0) := zone zc17 0 rfl
theorem za17_1 : zAll [17] 1 (TX19 1) := zone zc17 1 rfl
theorem za17_2 : zAll [17] 2 (TX19 2) := zone zc17 2 rfl
theorem za17_3 : zAll [17] 3 (TX19 3) := zone zc17 3 rfl
theorem za18_0 : zAll [18] 0 (TJ2 0) := zone zc18 0 rfl
theorem za18_1 : zAll [18] 1 (TJ2 1) := zone zc18 1 rfl
theorem za18_2 : zAll [18] 2 (TJ2 2) := zone zc18 2 rfl
theorem za19_0 : zAll [19] 0 (TJ18 0) := zone zc19 0 rfl
theorem za1_0 : zAll [1] 0 (TX2 0) := zone zc1 0 rfl
theorem za1_1 : zAll [1] 1 (TX2 1) := zone zc1 1 rfl
theorem za1_2 : zAll [1] 2 (TX2 2) := zone zc1 2 rfl
theorem za1_3 : zAll [1] 3 (TX2 3) := zone zc1 3 rfl
theorem za2_0 : zAll [2] 0 (TX3 0) := zone zc2 0 rfl
theorem za2_1 : zAll [2] 1 (TX3 1) := zone zc2 1 rfl
theorem za2_2 : zAll [2] 2 (TX3 2) := zone zc2 2 rfl
theorem za2_3 : zAll [2] 3 (TX3 3) := zone zc2 3 rfl
theorem za2_4 : zAll [2] 4 (TX3 4) := zone zc2 4 rfl
theorem za3_0 : zAll [3] 0 (TX4 0) := zone zc3 0 rfl
theorem za3_1 : zAll [3] 1 (TX4 1) := zone zc3 1 rfl
theorem za3_2 : zAll [3] 2 (TX4 2) := zone zc3 2 rfl
theorem za3_3 : zAll [3] 3 (TX4 3) := zone zc3 3 rfl
theorem za3_4 : zAll [3] 4 (TX4 4) := zone zc3 4 rfl
theorem za5_0 : zAll [5] 0 (TX6 0) := zone zc5 0 rfl
theorem za5_1 : zAll [5] 1 (TX6 1) := zone zc5 1 rfl
theorem za5_2 : zAll [5] 2 (TX6 2) := zone zc5 2 rfl
theorem za5_3 : zAll [5] 3 (TX6 3) := zone zc5 3 rfl
theorem za6_0 : zAll [6] 0 (TX7 0) := zone zc6 0 rfl
theorem za6_1 : zAll [6] 1 (TX7 1) := zone zc6 1 rfl
theorem za6_2 : zAll [6] 2 (TX7 2) := zone zc6 2 rfl
theorem za7_0 : zAll [7] 0 (TX8 0) := zone zc7 0 rfl
theorem za7_1 : zAll [7] 1 (TX8 1) := zone zc7 1 rfl
theorem za7_2 : zAll [7] 2 (TX8 2) := zone zc7 2 rfl
theorem za8_0 : zAll [8] 0 (TX10 0) := zone zc8 0 rfl
theorem za8_1 : zAll [8] 1 (TX10 1) := zone zc8 1 rfl
theorem za8_2 : zAll [8] 2 (TX10 2) := zone zc8 2 rfl
theorem za8_3 : zAll [8] 3 (TX10 3) := zone zc8 3 rfl
theorem za8_4 : zAll [8] 4 (TX10 4) := zone zc8 4 rfl
theorem za8_5 : zAll [8] 5 (TX10 5) := zone zc8 5 rfl
theorem za8_6 : zAll [8] 6 (TX10 6) := zone zc8 6 rfl
theorem za8_7 : zAll [8] 7 (TX10 7) := zone zc8 7 rfl
theorem za9_1 : zAll [9] 1 (TX11 1) := zone zc9 1 rfl
theorem za9_4 : zAll [9] 4 (TX11 4) := zone zc9 4 rfl
theorem za9_5 : zAll [9] 5 (TX11 5) := zone zc9 5 rfl
