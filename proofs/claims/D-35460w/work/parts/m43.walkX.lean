/-! X: walks, group c (printed by gen/gens.py) -/
set_option maxRecDepth 100000
set_option maxHeartbeats 4000000 in
theorem mX1_init (l : Launch) (s0 : State) (D : zD) {n : Nat} {σ : zH} {sz : Nat} {th : Nat} {o : zH × Nat} (h : fX1_init n σ sz th = some o) : zM l s0 D yX1_init cX1_init 2 none 5 90 53 4374 [.ref th] σ sz o.1 o.2 none := by
  refine zenter (own := RX1) zplX1 rfl (Nat.le_of_ble_eq_true rfl) rfl (fun K hX hnm hret => ?_)
  unfold fX1_init at h
  have hret : ∀ a, o = a → zRet K cX1_init none a.1 a.2 53 4374 none := fun a e => by cases e; exact hret
  show VW K σ sz 0 0 0 [(0, .ref th)] []
  refine zr_aload_n (pc := 0) hX 0 rfl rfl dX1_init_0 ?_
  refine zr_objInit (pc := 1) hX q155 q156 q157 rfl dX1_init_1 ?_
  refine zr_aload_n (pc := 4) hX 0 rfl rfl dX1_init_4 ?_
  obtain ⟨σ1, gσ1, h⟩ := bnd h
  refine zr_new (pc := 5) (k' := 1) (n' := 3) (sz' := sz + 1) hX zc18 tyJ2_ok zfs18 q158 q159 q113 rfl rfl rfl (Option.some.inj gσ1) rfl dX1_init_5 ?_
  refine zr_dup (pc := 8) hX rfl dX1_init_8 ?_
  obtain ⟨t2, gt2, h⟩ := bnd h
  refine zr_callI (pc := 9) (rest := [.ref sz, .ref th]) (k' := 1) (n' := 3) hX (fun l s0 D => mJ2_init l s0 D gt2) zwJ2_init q160 q161 rfl rfl rfl rfl rfl rfl rfl rfl dX1_init_9 ?_
  obtain ⟨σ3, gσ3, h⟩ := bnd h
  refine zr_pvF (pc := 12) hX hnm rfl za0_0 gσ3 rfl q264 rfl rfl (tyX1_ok 0 (Nat.le_of_ble_eq_true rfl)) rfl rfl dX1_init_12 ?_
  refine zr_aload_n (pc := 15) hX 0 rfl rfl dX1_init_15 ?_
  obtain ⟨σ4, gσ4, h⟩ := bnd h
  refine zr_new (pc := 16) (k' := 2) (n' := 6) (sz' := sz + 2) hX zc18 tyJ2_ok zfs18 q158 q159 q113 rfl rfl rfl (Option.some.inj gσ4) rfl dX1_init_16 ?_
  refine zr_dup (pc := 19) hX rfl dX1_init_19 ?_
  obtain ⟨t5, gt5, h⟩ := bnd h
  refine zr_callI (pc := 20) (rest := [.ref (sz + 1), .ref th]) (k' := 2) (n' := 6) hX (fun l s0 D => mJ2_init l s0 D gt5) zwJ2_init q160 q161 rfl rfl rfl rfl rfl rfl rfl rfl dX1_init_20 ?_
  obtain ⟨σ6, gσ6, h⟩ := bnd h
  refine zr_pvF (pc := 23) hX hnm rfl za0_1 gσ6 rfl q265 rfl rfl (tyX1_ok 1 (Nat.le_of_ble_eq_true rfl)) rfl rfl dX1_init_23 ?_
  refine zr_aload_n (pc := 26) hX 0 rfl rfl dX1_init_26 ?_
  obtain ⟨σ7, gσ7, h⟩ := bnd h
  refine zr_new (pc := 27) (k' := 3) (n' := 9) (sz' := sz + 3) hX zc18 tyJ2_ok zfs18 q158 q159 q113 rfl rfl rfl (Option.some.inj gσ7) rfl dX1_init_27 ?_
  refine zr_dup (pc := 30) hX rfl dX1_init_30 ?_
  obtain ⟨t8, gt8, h⟩ := bnd h
  refine zr_callI (pc := 31) (rest := [.ref (sz + 2), .ref th]) (k' := 3) (n' := 9) hX (fun l s0 D => mJ2_init l s0 D gt8) zwJ2_init q160 q161 rfl rfl rfl rfl rfl rfl rfl rfl dX1_init_31 ?_
  obtain ⟨σ9, gσ9, h⟩ := bnd h
  refine zr_pv (pc := 34) hX za0_2 gσ9 rfl q266 (Or.inl rfl) rfl (tyX1_ok 2 (Nat.le_of_ble_eq_true rfl)) rfl rfl dX1_init_34 ?_
  refine zr_aload_n (pc := 37) hX 0 rfl rfl dX1_init_37 ?_
  obtain ⟨σ10, gσ10, h⟩ := bnd h
  refine zr_new (pc := 38) (k' := 4) (n' := 12) (sz' := sz + 4) hX zc18 tyJ2_ok zfs18 q158 q159 q113 rfl rfl rfl (Option.some.inj gσ10) rfl dX1_init_38 ?_
  refine zr_dup (pc := 41) hX rfl dX1_init_41 ?_
  obtain ⟨t11, gt11, h⟩ := bnd h
  refine zr_callI (pc := 42) (rest := [.ref (sz + 3), .ref th]) (k' := 4) (n' := 12) hX (fun l s0 D => mJ2_init l s0 D gt11) zwJ2_init q160 q161 rfl rfl rfl rfl rfl rfl rfl rfl dX1_init_42 ?_
  obtain ⟨σ12, gσ12, h⟩ := bnd h
  refine zr_pv (pc := 45) hX za0_3 gσ12 rfl q267 (Or.inl rfl) rfl (tyX1_ok 3 (Nat.le_of_ble_eq_true rfl)) rfl rfl dX1_init_45 ?_
  refine zr_aload_n (pc := 48) hX 0 rfl rfl dX1_init_48 ?_
  obtain ⟨σ13, gσ13, h⟩ := bnd h
  refine zr_new (pc := 49) (k' := 5) (n' := 15) (sz' := sz + 5) hX zc18 tyJ2_ok zfs18 q158 q159 q113 rfl rfl rfl (Option.some.inj gσ13) rfl dX1_init_49 ?_
  refine zr_dup (pc := 52) hX rfl dX1_init_52 ?_
  obtain ⟨t14, gt14, h⟩ := bnd h
  refine zr_callI (pc := 53) (rest := [.ref (sz + 4), .ref th]) (k' := 5) (n' := 15) hX (fun l s0 D => mJ2_init l s0 D gt14) zwJ2_init q160 q161 rfl rfl rfl rfl rfl rfl rfl rfl dX1_init_53 ?_
  obtain ⟨σ15, gσ15, h⟩ := bnd h
  refine zr_pv (pc := 56) hX za0_4 gσ15 rfl q268 (Or.inl rfl) rfl (tyX1_ok 4 (Nat.le_of_ble_eq_true rfl)) rfl rfl dX1_init_56 ?_
  refine zr_aload_n (pc := 59) hX 0 rfl rfl dX1_init_59 ?_
  obtain ⟨σ16, gσ16, h⟩ := bnd h
  refine zr_new (pc := 60) (k' := 6) (n' := 18) (sz' := sz + 6) hX zc18 tyJ2_ok zfs18 q158 q159 q113 rfl rfl rfl (Option.some.inj gσ16) rfl dX1_init_60 ?_
  refine zr_dup (pc := 63) hX rfl dX1_init_63 ?_
  obtain ⟨t17, gt17, h⟩ := bnd h
  refine zr_callI (pc := 64) (rest := [.ref (sz + 5), .ref th]) (k' := 6) (n' := 18) hX (fun l s0 D => mJ2_init l s0 D gt17) zwJ2_init q160 q161 rfl rfl rfl rfl rfl rfl rfl rfl dX1_init_64 ?_
  obtain ⟨σ18, gσ18, h⟩ := bnd h
  refine zr_pv (pc := 67) hX za0_5 gσ18 rfl q269 (Or.inl rfl) rfl (tyX1_ok 5 (Nat.le_of_ble_eq_true rfl)) rfl rfl dX1_init_67 ?_
  refine zr_aload_n (pc := 70) hX 0 rfl rfl dX1_init_70 ?_
  obtain ⟨σ19, gσ19, h⟩ := bnd h
  refine zr_new (pc := 71) (k' := 7) (n' := 22) (sz' := sz + 7) hX zc1 tyX2_ok zfs1 q184 q185 q114 rfl rfl rfl (Option.some.inj gσ19) rfl dX1_init_71 ?_
  refine zr_dup (pc := 74) hX rfl dX1_init_74 ?_
  obtain ⟨t20, gt20, h⟩ := bnd h
  refine zr_callIN (pc := 75) (rest := [.ref (sz + 6), .ref th]) (k' := 10) (n' := 1261) hX (fun l s0 D => mX2_init l s0 D gt20) zwX2_init q186 q187 rfl rfl rfl rfl rfl rfl rfl rfl dX1_init_75 ?_
  obtain ⟨σ21, gσ21, h⟩ := bnd h
  refine zr_pvF (pc := 78) hX hnm rfl za0_6 gσ21 rfl q270 rfl rfl (tyX1_ok 6 (Nat.le_of_ble_eq_true rfl)) rfl rfl dX1_init_78 ?_
  refine zr_aload_n (pc := 81) hX 0 rfl rfl dX1_init_81 ?_
  obtain ⟨σ22, gσ22, h⟩ := bnd h
  refine zr_new (pc := 82) (k' := 11) (n' := 1266) (sz' := t20.2 + 1) hX zc2 tyX3_ok zfs2 q209 q210 q115 rfl rfl rfl (Option.some.inj gσ22) rfl dX1_init_82 ?_
  refine zr_dup (pc := 85) hX rfl dX1_init_85 ?_
  obtain ⟨t23, gt23, h⟩ := bnd h
  refine zr_callIN (pc := 86) (rest := [.ref t20.2, .ref th]) (k' := 15) (n' := 1330) hX (fun l s0 D => mX3_init l s0 D gt23) zwX3_init q211 q212 rfl rfl rfl rfl rfl rfl rfl rfl dX1_init_86 ?_
  obtain ⟨σ24, gσ24, h⟩ := bnd h
  refine zr_pvF (pc := 89) hX hnm rfl za0_7 gσ24 rfl q271 rfl rfl (tyX1_ok 7 (Nat.le_of_ble_eq_true rfl)) rfl rfl dX1_init_89 ?_
  refine zr_aload_n (pc := 92) hX 0 rfl rfl dX1_init_92 ?_
  obtain ⟨σ25, gσ25, h⟩ := bnd h
  refine zr_new (pc := 93) (k' := 16) (n' := 1335) (sz' := t23.2 + 1) hX zc2 tyX3_ok zfs2 q209 q210 q115 rfl rfl rfl (Option.some.inj gσ25) rfl dX1_init_93 ?_
  refine zr_dup (pc := 96) hX rfl dX1_init_96 ?_
  obtain ⟨t26, gt26, h⟩ := bnd h
  refine zr_callIN (pc := 97) (rest := [.ref t23.2, .ref th]) (k' := 20) (n' := 1399) hX (fun l s0 D => mX3_init l s0 D gt26) zwX3_init q211 q212 rfl rfl rfl rfl rfl rfl rfl rfl dX1_init_97 ?_
  obtain ⟨σ27, gσ27, h⟩ := bnd h
  refine zr_pvF (pc := 100) hX hnm rfl za0_8 gσ27 rfl q272 rfl rfl (tyX1_ok 8 (Nat.le_of_ble_eq_true rfl)) rfl rfl dX1_init_100 ?_
  refine zr_aload_n (pc := 103) hX 0 rfl rfl dX1_init_103 ?_
  obtain ⟨σ28, gσ28, h⟩ := bnd h
  refine zr_new (pc := 104) (k' := 21) (n' := 1404) (sz' := t26.2 + 1) hX zc3 tyX4_ok zfs3 q232 q233 q116 rfl rfl rfl (Option.some.inj gσ28) rfl dX1_init_104 ?_
  refine zr_dup (pc := 107) hX rfl dX1_init_107 ?_
  obtain ⟨t29, gt29, h⟩ := bnd h
  refine zr_callIN (pc := 108) (rest := [.ref t26.2, .ref th]) (k' := 24) (n' := 1434) hX (fun l s0 D => mX4_init l s0 D gt29) zwX4_init q234 q235 rfl rfl rfl rfl rfl rfl rfl rfl dX1_init_108 ?_
  obtain ⟨σ30, gσ30, h⟩ := bnd h
  refine zr_pvF (pc := 111) hX hnm rfl za0_9 gσ30 rfl q273 rfl rfl (tyX1_ok 9 (Nat.le_of_ble_eq_true rfl)) rfl rfl dX1_init_111 ?_
  refine zr_aload_n (pc := 114) hX 0 rfl rfl dX1_init_114 ?_
  refine zr_sipush (pc := 115) hX zcs_320 dX1_init_115 ?_
  obtain ⟨σ31, gσ31, h⟩ := bnd h
  refine zr_newa (atype := .int) (pc := 118) (k' := 25) (n' := 1754) (sz' := t29.2 + 1) hX gσ31 q207 rfl (by decide) rfl rfl rfl rfl rfl dX1_init_118 ?_
  obtain ⟨σ32, gσ32, h⟩ := bnd h
  refine zr_pvF (pc := 120) hX hnm rfl za0_11 gσ32 rfl q275 rfl rfl (tyX1_ok 11 (Nat.le_of_ble_eq_true rfl)) rfl rfl dX1_init_120 ?_
  refine zr_aload_n (pc := 123) hX 0 rfl rfl dX1_init_123 ?_
  refine zr_sipush (pc := 124) hX zcs_320 dX1_init_124 ?_
  obtain ⟨σ33, gσ33, h⟩ := bnd h
  refine zr_newa (atype := .int) (pc := 127) (k' := 26) (n' := 2074) (sz' := t29.2 + 2) hX gσ33 q207 rfl (by decide) rfl rfl rfl rfl rfl dX1_init_127 ?_
  obtain ⟨σ34, gσ34, h⟩ := bnd h
  refine zr_pvF (pc := 129) hX hnm rfl za0_12 gσ34 rfl q276 rfl rfl (tyX1_ok 12 (Nat.le_of_ble_eq_true rfl)) rfl rfl dX1_init_129 ?_
  refine zr_aload_n (pc := 132) hX 0 rfl rfl dX1_init_132 ?_
  refine zr_sipush (pc := 133) hX zcs_320 dX1_init_133 ?_
  obtain ⟨σ35, gσ35, h⟩ := bnd h
  refine zr_newa (atype := .int) (pc := 136) (k' := 27) (n' := 2394) (sz' := t29.2 + 3) hX gσ35 q207 rfl (by decide) rfl rfl rfl rfl rfl dX1_init_136 ?_
  obtain ⟨σ36, gσ36, h⟩ := bnd h
  refine zr_pvF (pc := 138) hX hnm rfl za0_13 gσ36 rfl q277 rfl rfl (tyX1_ok 13 (Nat.le_of_ble_eq_true rfl)) rfl rfl dX1_init_138 ?_
  refine zr_aload_n (pc := 141) hX 0 rfl rfl dX1_init_141 ?_
  refine zr_sipush (pc := 142) hX zcs_320 dX1_init_142 ?_
  obtain ⟨σ37, gσ37, h⟩ := bnd h
  refine zr_newa (atype := .int) (pc := 145) (k' := 28) (n' := 2714) (sz' := t29.2 + 4) hX gσ37 q207 rfl (by decide) rfl rfl rfl rfl rfl dX1_init_145 ?_
  obtain ⟨σ38, gσ38, h⟩ := bnd h
  refine zr_pvF (pc := 147) hX hnm rfl za0_14 gσ38 rfl q278 rfl rfl (tyX1_ok 14 (Nat.le_of_ble_eq_true rfl)) rfl rfl dX1_init_147 ?_
  refine zr_aload_n (pc := 150) hX 0 rfl rfl dX1_init_150 ?_
  obtain ⟨σ39, gσ39, h⟩ := bnd h
  refine zr_new (pc := 151) (k' := 29) (n' := 2719) (sz' := t29.2 + 5) hX zc3 tyX4_ok zfs3 q232 q233 q116 rfl rfl rfl (Option.some.inj gσ39) rfl dX1_init_151 ?_
  refine zr_dup (pc := 154) hX rfl dX1_init_154 ?_
  obtain ⟨t40, gt40, h⟩ := bnd h
  refine zr_callIN (pc := 155) (rest := [.ref (t29.2 + 4), .ref th]) (k' := 32) (n' := 2749) hX (fun l s0 D => mX4_init l s0 D gt40) zwX4_init q234 q235 rfl rfl rfl rfl rfl rfl rfl rfl dX1_init_155 ?_
  obtain ⟨σ41, gσ41, h⟩ := bnd h
  refine zr_pvF (pc := 158) hX hnm rfl za0_16 gσ41 rfl q280 rfl rfl (tyX1_ok 16 (Nat.le_of_ble_eq_true rfl)) rfl rfl dX1_init_158 ?_
  refine zr_aload_n (pc := 161) hX 0 rfl rfl dX1_init_161 ?_
  refine zr_bipush (pc := 162) hX zcb_10 dX1_init_162 ?_
  obtain ⟨σ42, gσ42, h⟩ := bnd h
  refine zr_newa (atype := .int) (pc := 164) (k' := 33) (n' := 2759) (sz' := t40.2 + 1) hX gσ42 q207 rfl (by decide) rfl rfl rfl rfl rfl dX1_init_164 ?_
  obtain ⟨σ43, gσ43, h⟩ := bnd h
  refine zr_pvF (pc := 166) hX hnm rfl za0_17 gσ43 rfl q281 rfl rfl (tyX1_ok 17 (Nat.le_of_ble_eq_true rfl)) rfl rfl dX1_init_166 ?_
  refine zr_aload_n (pc := 169) hX 0 rfl rfl dX1_init_169 ?_
  refine zr_bipush (pc := 170) hX zcb_10 dX1_init_170 ?_
  obtain ⟨σ44, gσ44, h⟩ := bnd h
  refine zr_newa (atype := .int) (pc := 172) (k' := 34) (n' := 2769) (sz' := t40.2 + 2) hX gσ44 q207 rfl (by decide) rfl rfl rfl rfl rfl dX1_init_172 ?_
  obtain ⟨σ45, gσ45, h⟩ := bnd h
  refine zr_pvF (pc := 174) hX hnm rfl za0_18 gσ45 rfl q282 rfl rfl (tyX1_ok 18 (Nat.le_of_ble_eq_true rfl)) rfl rfl dX1_init_174 ?_
  refine zr_aload_n (pc := 177) hX 0 rfl rfl dX1_init_177 ?_
  refine zr_bipush (pc := 178) hX zcb_10 dX1_init_178 ?_
  obtain ⟨σ46, gσ46, h⟩ := bnd h
  refine zr_newa (atype := .int) (pc := 180) (k' := 35) (n' := 2779) (sz' := t40.2 + 3) hX gσ46 q207 rfl (by decide) rfl rfl rfl rfl rfl dX1_init_180 ?_
  obtain ⟨σ47, gσ47, h⟩ := bnd h
  refine zr_pvF (pc := 182) hX hnm rfl za0_19 gσ47 rfl q283 rfl rfl (tyX1_ok 19 (Nat.le_of_ble_eq_true rfl)) rfl rfl dX1_init_182 ?_
  refine zr_aload_n (pc := 185) hX 0 rfl rfl dX1_init_185 ?_
  refine zr_bipush (pc := 186) hX zcb_10 dX1_init_186 ?_
  refine zr_bipush (pc := 188) hX zcb_32 dX1_init_188 ?_
  obtain ⟨σ48, gσ48, h⟩ := bnd h
  refine zr_multi (pc := 190) (k' := 46) (n' := 3109) (sz' := t40.2 + 14) hX (Option.some.inj gσ48) q260 rfl rfl rfl rfl dX1_init_190 ?_
  obtain ⟨σ49, gσ49, h⟩ := bnd h
  refine zr_pvF (pc := 194) hX hnm rfl za0_20 gσ49 rfl q284 rfl rfl (tyX1_ok 20 (Nat.le_of_ble_eq_true rfl)) rfl rfl dX1_init_194 ?_
  refine zr_aload_n (pc := 197) hX 0 rfl rfl dX1_init_197 ?_
  obtain ⟨σ50, gσ50, h⟩ := bnd h
  refine zr_new (pc := 198) (k' := 47) (n' := 3113) (sz' := t40.2 + 15) hX zc1 tyX2_ok zfs1 q184 q185 q114 rfl rfl rfl (Option.some.inj gσ50) rfl dX1_init_198 ?_
  refine zr_dup (pc := 201) hX rfl dX1_init_201 ?_
  obtain ⟨t51, gt51, h⟩ := bnd h
  refine zr_callIN (pc := 202) (rest := [.ref (t40.2 + 14), .ref th]) (k' := 50) (n' := 4352) hX (fun l s0 D => mX2_init l s0 D gt51) zwX2_init q186 q187 rfl rfl rfl rfl rfl rfl rfl rfl dX1_init_202 ?_
  obtain ⟨σ52, gσ52, h⟩ := bnd h
  refine zr_pvF (pc := 205) hX hnm rfl za0_21 gσ52 rfl q285 rfl rfl (tyX1_ok 21 (Nat.le_of_ble_eq_true rfl)) rfl rfl dX1_init_205 ?_
  refine zr_aload_n (pc := 208) hX 0 rfl rfl dX1_init_208 ?_
  refine zr_bipush (pc := 209) hX zcb_10 dX1_init_209 ?_
  obtain ⟨σ53, gσ53, h⟩ := bnd h
  refine zr_newa (atype := .int) (pc := 211) (k' := 51) (n' := 4362) (sz' := t51.2 + 1) hX gσ53 q207 rfl (by decide) rfl rfl rfl rfl rfl dX1_init_211 ?_
  obtain ⟨σ54, gσ54, h⟩ := bnd h
  refine zr_pvF (pc := 213) hX hnm rfl za0_22 gσ54 rfl q286 rfl rfl (tyX1_ok 22 (Nat.le_of_ble_eq_true rfl)) rfl rfl dX1_init_213 ?_
  refine zr_aload_n (pc := 216) hX 0 rfl rfl dX1_init_216 ?_
  refine zr_bipush (pc := 217) hX zcb_10 dX1_init_217 ?_
  obtain ⟨σ55, gσ55, h⟩ := bnd h
  refine zr_newa (atype := .int) (pc := 219) (k' := 52) (n' := 4372) (sz' := t51.2 + 2) hX gσ55 q207 rfl (by decide) rfl rfl rfl rfl rfl dX1_init_219 ?_
  obtain ⟨σ56, gσ56, h⟩ := bnd h
  refine zr_pvF (pc := 221) hX hnm rfl za0_23 gσ56 rfl q287 rfl rfl (tyX1_ok 23 (Nat.le_of_ble_eq_true rfl)) rfl rfl dX1_init_221 ?_
  refine zr_aload_n (pc := 224) hX 0 rfl rfl dX1_init_224 ?_
  refine zr_iconst (pc := 225) hX zci_m1 dX1_init_225 ?_
  obtain ⟨σ57, gσ57, h⟩ := bnd h
  refine zr_pv (pc := 226) hX za0_24 gσ57 rfl q288 (Or.inl rfl) rfl (tyX1_ok 24 (Nat.le_of_ble_eq_true rfl)) rfl rfl dX1_init_226 ?_
  refine zr_aload_n (pc := 229) hX 0 rfl rfl dX1_init_229 ?_
  refine zr_iconst (pc := 230) hX zci_m1 dX1_init_230 ?_
  obtain ⟨σ58, gσ58, h⟩ := bnd h
  refine zr_pv (pc := 231) hX za0_33 gσ58 rfl q297 (Or.inl rfl) rfl (tyX1_ok 33 (Nat.le_of_ble_eq_true rfl)) rfl rfl dX1_init_231 ?_
  refine zr_aload_n (pc := 234) hX 0 rfl rfl dX1_init_234 ?_
  refine zr_iconst (pc := 235) hX zci_2 dX1_init_235 ?_
  obtain ⟨σ59, gσ59, h⟩ := bnd h
  refine zr_newq (pc := 236) (k' := 53) (n' := 4374) (sz' := t51.2 + 3) hX gσ59 q262 rfl (by decide) rfl rfl rfl rfl rfl dX1_init_236 ?_
  obtain ⟨σ60, gσ60, h⟩ := bnd h
  refine zr_pvF (pc := 239) hX hnm rfl za0_35 gσ60 rfl q299 rfl rfl (tyX1_ok 35 (Nat.le_of_ble_eq_true rfl)) rfl rfl dX1_init_239 ?_
  refine zr_iconst (pc := 242) hX zci_0 dX1_init_242 ?_
  refine zr_istore_n (pc := 243) hX rfl rfl (Nat.le_of_ble_eq_true rfl) rfl dX1_init_243 ?_
  refine VW.sub (lv' := [(0, .ref th), (1, .int (0 : Int32))]) ?_ [1, 0] rfl
  refine zloop_walk (V := (fun a => VW K a.1 (t51.2 + 3) 53 4374 244 [(0, .ref th), (1, .int a.2)] [])) (E := fun e => e = o) ?_ n (σ60, (0 : Int32)) _ h rfl
  intro a61 o62 h kco62 keo62
  unfold fX1_init_L244 at h
  refine zr_iload_n (pc := 244) hX 1 rfl rfl dX1_init_244 ?_
  refine zr_bipush (pc := 245) hX zcb_10 dX1_init_245 ?_
  refine zr_icmp_ge (pc := 247) hX 263 rfl dX1_init_247 (fun c247_65 => ?_) (fun c247_65 => ?_)
  · rw [if_pos c247_65] at h
    replace h := congrArg some (keo62 _ (Option.some.inj h).symm)
    exact hret _ (Option.some.inj h).symm _ _ dX1_init_263
  · rw [if_neg c247_65] at h
    refine zr_aload_n (pc := 250) hX 0 rfl rfl dX1_init_250 ?_
    obtain ⟨r63, gr63, h⟩ := bnd h
    refine zr_fv (pc := 251) hX za0_22 (zgR_spec gr63) q286 (Or.inl rfl) dX1_init_251 ?_
    refine zr_iload_n (pc := 254) hX 1 rfl rfl dX1_init_254 ?_
    refine zr_iconst (pc := 255) hX zci_m1 dX1_init_255 ?_
    obtain ⟨σ64, gσ64, h⟩ := bnd h
    refine zr_sI (pc := 256) hX gσ64 dX1_init_256 ?_
    obtain ⟨x65, gx65, h⟩ := bnd h
    refine zr_iinc (pc := 257) hX 1 rfl zci_1 (Option.some.inj gx65) (Nat.le_of_ble_eq_true rfl) rfl dX1_init_257 ?_
    refine zr_goto (pc := 260) hX 244 rfl dX1_init_260 ?_
    exact VW.sub (kco62 (σ64, x65) (Option.some.inj h).symm) [1, 0] rfl
set_option maxHeartbeats 4000000 in
theorem mX1_constraints (l : Launch) (s0 : State) (D : zD) {σ : zH} {sz : Nat} {th : Nat} {o : Int32} (h : fX1_constraints σ th = some o) : zM l s0 D yX1_constraints cX1_constraints 1 (some .int) 2 20 0 0 [.ref th] σ sz σ sz (some (.int o)) := by
  refine zenter (own := RX1) zplX1 rfl (Nat.le_of_ble_eq_true rfl) trivial (fun K hX hnm hret => ?_)
  unfold fX1_constraints at h
  have hret : ∀ a, o = a → zRet K cX1_constraints (some .int) σ sz 0 0 (some (.int a)) := fun a e => by cases e; exact hret
  show VW K σ sz 0 0 0 [(0, .ref th)] []
  refine zr_aload_n (pc := 0) hX 0 rfl rfl dX1_constraints_0 ?_
  obtain ⟨r1, gr1, h⟩ := bnd h
  refine zr_fv (pc := 1) hX za0_1 (zgR_spec gr1) q265 (Or.inl rfl) dX1_constraints_1 ?_
  obtain ⟨u2, gu2, h⟩ := bnd h
  obtain ⟨t3, gt3, h⟩ := bnd h
  refine zr_callF (pc := 4) (rest := []) (stk' := [.int t3]) (k' := 0) (n' := 0) hX (fun l s0 D => mJ2_size l s0 D gt3) gu2 zwJ2_size (by decide) q378 q384 q382 rfl rfl rfl rfl rfl rfl rfl rfl rfl dX1_constraints_4 ?_
  exact hret _ (Option.some.inj h).symm _ _ dX1_constraints_9 (Or.inl rfl)
set_option maxHeartbeats 4000000 in
theorem mX1_begin (l : Launch) (s0 : State) (D : zD) {n : Nat} {σ : zH} {sz : Nat} {th : Nat} {p0 : Nat} {p1 : Nat} {p2 : Int32} {o : zH} (h : fX1_begin n σ th p0 p1 p2 = some o) : zM l s0 D yX1_begin cX1_begin 7 none 4 64 0 0 [.ref th, .ref p0, .ref p1, .int p2] σ sz o sz none := by
  refine zenter (own := RX1) zplX1 rfl (Nat.le_of_ble_eq_true rfl) rfl (fun K hX hnm hret => ?_)
  unfold fX1_begin at h
  have hret : ∀ a, o = a → zRet K cX1_begin none a sz 0 0 none := fun a e => by cases e; exact hret
  show VW K σ sz 0 0 0 [(0, .ref th), (1, .ref p0), (2, .ref p1), (3, .int p2)] []
  refine zr_iconst (pc := 0) hX zci_0 dX1_begin_0 ?_
  refine zr_istore (pc := 1) hX rfl (Nat.le_of_ble_eq_true rfl) rfl dX1_begin_1 ?_
  obtain ⟨t3, gt3, h⟩ := bnd h
  have hJt3 : ∀ a, a = t3 → VW K a sz 0 0 75 [(1, .ref p0), (2, .ref p1), (3, .int p2)] [] := by
    intro a ea
    rw [ea]
    refine zr_iconst (pc := 75) hX zci_0 dX1_begin_75 ?_
    refine zr_istore (pc := 76) hX rfl (Nat.le_of_ble_eq_true rfl) rfl dX1_begin_76 ?_
    refine VW.sub (lv' := [(1, .ref p0), (2, .ref p1), (3, .int p2), (4, .int (0 : Int32))]) ?_ [1, 2, 3, 0] rfl
    refine zloop_walk (V := (fun a => VW K a.1 sz 0 0 78 [(1, .ref p0), (2, .ref p1), (3, .int p2), (4, .int a.2)] [])) (E := fun e => e = o) ?_ n (t3, (0 : Int32)) _ h rfl
    intro a4 o5 h kco5 keo5
    unfold fX1_begin_L78 at h
    refine zr_iload (pc := 78) hX 3 rfl dX1_begin_78 ?_
    refine zr_aload_n (pc := 80) hX 1 rfl rfl dX1_begin_80 ?_
    obtain ⟨x6, gx6, h⟩ := bnd h
    refine zr_fvN (pc := 81) hX za1_3 (zgI_spec gx6) q197 (Or.inl rfl) dX1_begin_81 ?_
    refine zr_icmp_ge (pc := 84) hX 160 rfl dX1_begin_84 (fun c84_25 => ?_) (fun c84_25 => ?_)
    · rw [if_pos c84_25] at h
      replace h := congrArg some (keo5 _ (Option.some.inj h).symm)
      exact hret _ (Option.some.inj h).symm _ _ dX1_begin_160
    · rw [if_neg c84_25] at h
      refine zr_aload_n (pc := 87) hX 1 rfl rfl dX1_begin_87 ?_
      obtain ⟨r7, gr7, h⟩ := bnd h
      refine zr_fvN (pc := 88) hX za1_0 (zgR_spec gr7) q191 (Or.inl rfl) dX1_begin_88 ?_
      refine zr_iload (pc := 91) hX 3 rfl dX1_begin_91 ?_
      obtain ⟨x8, gx8, h⟩ := bnd h
      refine zr_aI (pc := 93) hX gx8 dX1_begin_93 ?_
      refine zr_istore (pc := 94) hX rfl (Nat.le_of_ble_eq_true rfl) rfl dX1_begin_94 ?_
      refine zr_iload (pc := 96) hX 4 rfl dX1_begin_96 ?_
      refine zr_bipush (pc := 98) hX zcb_12 dX1_begin_98 ?_
      obtain ⟨t9, gt9, h⟩ := bnd h
      have hJt9 : ∀ a, t9 = a → VW K a4.1 sz 0 0 117 [(1, .ref p0), (2, .ref p1), (3, .int p2), (4, .int a4.2), (5, .int x8)] [.int a] := by
        intro a ea
        subst ea
        refine zr_istore (pc := 117) hX rfl (Nat.le_of_ble_eq_true rfl) rfl dX1_begin_117 ?_
        refine zr_aload_n (pc := 119) hX 1 rfl rfl dX1_begin_119 ?_
        obtain ⟨r10, gr10, h⟩ := bnd h
        refine zr_fvN (pc := 120) hX za3_0 (zgR_spec gr10) q240 (Or.inl rfl) dX1_begin_120 ?_
        refine zr_iload (pc := 123) hX 5 rfl dX1_begin_123 ?_
        refine zr_iload (pc := 125) hX 0 rfl dX1_begin_125 ?_
        obtain ⟨t11, gt11, h⟩ := bnd h
        have hJt11 : ∀ a, t11 = a → VW K a4.1 sz 0 0 153 [(1, .ref p0), (2, .ref p1), (3, .int p2), (4, .int a4.2)] [.int a, .int x8, .ref r10] := by
          intro a ea
          subst ea
          obtain ⟨σ12, gσ12, h⟩ := bnd h
          refine zr_sI (pc := 153) hX gσ12 dX1_begin_153 ?_
          obtain ⟨x13, gx13, h⟩ := bnd h
          refine zr_iinc (pc := 154) hX 3 rfl zci_1 (Option.some.inj gx13) (Nat.le_of_ble_eq_true rfl) rfl dX1_begin_154 ?_
          refine zr_goto (pc := 157) hX 78 rfl dX1_begin_157 ?_
          exact VW.sub (kco5 (σ12, x13) (Option.some.inj h).symm) [1, 2, 3, 0] rfl
        replace h := gt11
        refine zr_if_eq (pc := 127) hX 146 rfl dX1_begin_127 (fun c127_19 => ?_) (fun c127_19 => ?_)
        · rw [if_pos c127_19] at h
          refine zr_aload_n (pc := 146) hX 1 rfl rfl dX1_begin_146 ?_
          obtain ⟨r14, gr14, h⟩ := bnd h
          refine zr_fvN (pc := 147) hX za3_0 (zgR_spec gr14) q240 (Or.inl rfl) dX1_begin_147 ?_
          refine zr_iload (pc := 150) hX 5 rfl dX1_begin_150 ?_
          obtain ⟨x15, gx15, h⟩ := bnd h
          refine zr_aI (pc := 152) hX gx15 dX1_begin_152 ?_
          exact VW.sub (hJt11 x15 (Option.some.inj h).symm) [1, 2, 3, 4] rfl
        · rw [if_neg c127_19] at h
          refine zr_aload_n (pc := 130) hX 2 rfl rfl dX1_begin_130 ?_
          refine zr_iload (pc := 131) hX 4 rfl dX1_begin_131 ?_
          refine zr_aload_n (pc := 133) hX 1 rfl rfl dX1_begin_133 ?_
          obtain ⟨r16, gr16, h⟩ := bnd h
          refine zr_fvN (pc := 134) hX za3_0 (zgR_spec gr16) q240 (Or.inl rfl) dX1_begin_134 ?_
          refine zr_iload (pc := 137) hX 5 rfl dX1_begin_137 ?_
          obtain ⟨x17, gx17, h⟩ := bnd h
          refine zr_aI (pc := 139) hX gx17 dX1_begin_139 ?_
          obtain ⟨u18, gu18, h⟩ := bnd h
          obtain ⟨t19, gt19, h⟩ := bnd h
          refine zr_callVs (pc := 140) (rest := [.int x8, .ref r10]) (stk' := [.int t19, .int x8, .ref r10]) (k' := 0) (n' := 0) hX (fun l s0 D => mX2_left l s0 D gt19) gu18 zc1 zwX2_left q434 q435 q436 rfl rfl rfl rfl rfl rfl rfl rfl rfl dX1_begin_140 ?_
          refine zr_goto (pc := 143) hX 153 rfl dX1_begin_143 ?_
          exact VW.sub (hJt11 t19 (Option.some.inj h).symm) [1, 2, 3, 4] rfl
      replace h := gt9
      obtain ⟨u22, gu22, hAu22, hBu22⟩ := zesc_bnd h
      have hJt21 : ∀ a, u22 = .inl a → VW K a4.1 sz 0 0 112 [(1, .ref p0), (2, .ref p1), (3, .int p2), (4, .int a4.2), (5, .int x8)] [] := by
        intro t21 ea
        have h := hAu22 _ ea
        refine zr_iconst (pc := 112) hX zci_1 dX1_begin_112 ?_
        refine zr_goto (pc := 113) hX 117 rfl dX1_begin_113 ?_
        exact VW.sub (hJt9 (1 : Int32) (Option.some.inj h).symm) [0, 1, 2, 3, 4] rfl
      replace h := gu22
      refine zr_icmp_ge (pc := 100) hX 112 rfl dX1_begin_100 (fun c100_24 => ?_) (fun c100_24 => ?_)
      · rw [if_pos c100_24] at h
        exact VW.sub (hJt21 () (Option.some.inj h).symm) [1, 2, 3, 4, 0] rfl
      · rw [if_neg c100_24] at h
        refine zr_iload_n (pc := 103) hX 3 rfl rfl dX1_begin_103 ?_
        refine zr_iload (pc := 104) hX 4 rfl dX1_begin_104 ?_
        obtain ⟨t23, gt23, h⟩ := bnd h
        refine zr_callS (pc := 106) (rest := []) (stk' := [.int t23]) (k' := 0) (n' := 0) hX (fun l s0 D => mX1_has l s0 D gt23) zwX1_has q431 q432 rfl rfl rfl rfl rfl rfl rfl rfl dX1_begin_106 ?_
        refine zr_if_eq (pc := 109) hX 116 rfl dX1_begin_109 (fun c109_23 => ?_) (fun c109_23 => ?_)
        · rw [if_pos c109_23] at h
          refine zr_iconst (pc := 116) hX zci_0 dX1_begin_116 ?_
          replace h := congrArg some (hBu22 _ (Option.some.inj h).symm)
          exact VW.sub (hJt9 (0 : Int32) (Option.some.inj h).symm) [1, 2, 3, 4, 0] rfl
        · rw [if_neg c109_23] at h
          exact VW.sub (hJt21 () (Option.some.inj h).symm) [1, 2, 3, 4, 0] rfl
  refine VW.sub (lv' := [(0, .ref th), (1, .ref p0), (2, .ref p1), (3, .int p2), (4, .int (0 : Int32))]) ?_ [1, 2, 3, 4, 0] rfl
  refine zloop_walk (V := (fun a => VW K a.1 sz 0 0 3 [(0, .ref th), (1, .ref p0), (2, .ref p1), (3, .int p2), (4, .int a.2)] [])) (E := fun e => e = t3) ?_ n (σ, (0 : Int32)) _ gt3 rfl
  intro a1 o2 h kco2 keo2
  unfold fX1_begin_L3 at h
  refine zr_iload (pc := 3) hX 4 rfl dX1_begin_3 ?_
  refine zr_aload_n (pc := 5) hX 0 rfl rfl dX1_begin_5 ?_
  obtain ⟨r27, gr27, h⟩ := bnd h
  refine zr_fv (pc := 6) hX za0_0 (zgR_spec gr27) q264 (Or.inl rfl) dX1_begin_6 ?_
  obtain ⟨u28, gu28, h⟩ := bnd h
  obtain ⟨t29, gt29, h⟩ := bnd h
  refine zr_callF (pc := 9) (rest := [.int a1.2]) (stk' := [.int t29, .int a1.2]) (k' := 0) (n' := 0) hX (fun l s0 D => mJ2_size l s0 D gt29) gu28 zwJ2_size (by decide) q378 q384 q382 rfl rfl rfl rfl rfl rfl rfl rfl rfl dX1_begin_9 ?_
  refine zr_icmp_ge (pc := 14) hX 75 rfl dX1_begin_14 (fun c14_46 => ?_) (fun c14_46 => ?_)
  · rw [if_pos c14_46] at h
    exact VW.sub (hJt3 a1.1 (keo2 _ (Option.some.inj h).symm)) [1, 2, 3] rfl
  · rw [if_neg c14_46] at h
    refine zr_aload_n (pc := 17) hX 0 rfl rfl dX1_begin_17 ?_
    obtain ⟨r30, gr30, h⟩ := bnd h
    refine zr_fv (pc := 18) hX za0_0 (zgR_spec gr30) q264 (Or.inl rfl) dX1_begin_18 ?_
    refine zr_iload (pc := 21) hX 4 rfl dX1_begin_21 ?_
    obtain ⟨u31, gu31, h⟩ := bnd h
    obtain ⟨t32, gt32, h⟩ := bnd h
    refine zr_callF (pc := 23) (rest := []) (stk' := [.ref t32]) (k' := 0) (n' := 0) hX (fun l s0 D => mJ2_get l s0 D gt32) gu31 zwJ2_get (by decide) q400 q405 q403 rfl rfl rfl rfl rfl rfl rfl rfl rfl dX1_begin_23 ?_
    obtain ⟨u33, gu33, h⟩ := bnd h
    refine zr_cast (pc := 28) hX gu33 zc5 q418 (Or.inl rfl) dX1_begin_28 ?_
    refine zr_astore (pc := 31) hX rfl (Nat.le_of_ble_eq_true rfl) rfl dX1_begin_31 ?_
    refine zr_aload_n (pc := 33) hX 2 rfl rfl dX1_begin_33 ?_
    obtain ⟨r34, gr34, h⟩ := bnd h
    refine zr_fvN (pc := 34) hX za3_0 (zgR_spec gr34) q240 (Or.inl rfl) dX1_begin_34 ?_
    refine zr_iload (pc := 37) hX 5 rfl dX1_begin_37 ?_
    refine zr_aload (pc := 39) hX 0 rfl dX1_begin_39 ?_
    obtain ⟨u35, gu35, h⟩ := bnd h
    obtain ⟨t36, gt36, h⟩ := bnd h
    refine zr_callVs (pc := 41) (rest := [.int a1.2, .ref r34]) (stk' := [.int t36, .int a1.2, .ref r34]) (k' := 0) (n' := 0) hX (fun l s0 D => mX6_domain l s0 D gt36) gu35 zc5 zwX6_domain q419 q420 q421 rfl rfl rfl rfl rfl rfl rfl rfl rfl dX1_begin_41 ?_
    obtain ⟨σ37, gσ37, h⟩ := bnd h
    refine zr_sI (pc := 44) hX gσ37 dX1_begin_44 ?_
    refine zr_aload_n (pc := 45) hX 2 rfl rfl dX1_begin_45 ?_
    obtain ⟨r38, gr38, h⟩ := bnd h
    refine zr_fvN (pc := 46) hX za3_1 (zgR_spec gr38) q243 (Or.inl rfl) dX1_begin_46 ?_
    refine zr_iload (pc := 49) hX 5 rfl dX1_begin_49 ?_
    refine zr_aload (pc := 51) hX 0 rfl dX1_begin_51 ?_
    obtain ⟨u39, gu39, h⟩ := bnd h
    obtain ⟨t40, gt40, h⟩ := bnd h
    refine zr_callVs (pc := 53) (rest := [.int a1.2, .ref r38]) (stk' := [.int t40, .int a1.2, .ref r38]) (k' := 0) (n' := 0) hX (fun l s0 D => mX6_low l s0 D gt40) gu39 zc5 zwX6_low q423 q424 q425 rfl rfl rfl rfl rfl rfl rfl rfl rfl dX1_begin_53 ?_
    obtain ⟨σ41, gσ41, h⟩ := bnd h
    refine zr_sI (pc := 56) hX gσ41 dX1_begin_56 ?_
    refine zr_aload_n (pc := 57) hX 2 rfl rfl dX1_begin_57 ?_
    obtain ⟨r42, gr42, h⟩ := bnd h
    refine zr_fvN (pc := 58) hX za3_2 (zgR_spec gr42) q246 (Or.inl rfl) dX1_begin_58 ?_
    refine zr_iload (pc := 61) hX 5 rfl dX1_begin_61 ?_
    refine zr_aload (pc := 63) hX 0 rfl dX1_begin_63 ?_
    obtain ⟨u43, gu43, h⟩ := bnd h
    obtain ⟨t44, gt44, h⟩ := bnd h
    refine zr_callVs (pc := 65) (rest := [.int a1.2, .ref r42]) (stk' := [.int t44, .int a1.2, .ref r42]) (k' := 0) (n' := 0) hX (fun l s0 D => mX6_high l s0 D gt44) gu43 zc5 zwX6_high q427 q428 q429 rfl rfl rfl rfl rfl rfl rfl rfl rfl dX1_begin_65 ?_
    obtain ⟨σ45, gσ45, h⟩ := bnd h
    refine zr_sI (pc := 68) hX gσ45 dX1_begin_68 ?_
    obtain ⟨x46, gx46, h⟩ := bnd h
    refine zr_iinc (pc := 69) hX 5 rfl zci_1 (Option.some.inj gx46) (Nat.le_of_ble_eq_true rfl) rfl dX1_begin_69 ?_
    refine zr_goto (pc := 72) hX 3 rfl dX1_begin_72 ?_
    exact VW.sub (kco2 (σ45, x46) (Option.some.inj h).symm) [2, 3, 4, 5, 0] rfl
set_option maxHeartbeats 4000000 in
theorem mX1_isRatio (l : Launch) (s0 : State) (D : zD) {σ : zH} {sz : Nat} {th : Nat} {p0 : Int32} {o : Int32} (h : fX1_isRatio σ th p0 = some o) : zM l s0 D yX1_isRatio cX1_isRatio 2 (some .boolean) 4 64 0 0 [.ref th, .int p0] σ sz σ sz (some (.int o)) := by
  refine zenter (own := RX1) zplX1 rfl (Nat.le_of_ble_eq_true rfl) trivial (fun K hX hnm hret => ?_)
  unfold fX1_isRatio at h
  have hret : ∀ a, o = a → zRet K cX1_isRatio (some .boolean) σ sz 0 0 (some (.int a)) := fun a e => by cases e; exact hret
  show VW K σ sz 0 0 0 [(0, .ref th), (1, .int p0)] []
  refine zr_aload_n (pc := 0) hX 0 rfl rfl dX1_isRatio_0 ?_
  obtain ⟨r1, gr1, h⟩ := bnd h
  refine zr_fv (pc := 1) hX za0_0 (zgR_spec gr1) q264 (Or.inl rfl) dX1_isRatio_1 ?_
  refine zr_iload_n (pc := 4) hX 1 rfl rfl dX1_isRatio_4 ?_
  obtain ⟨u2, gu2, h⟩ := bnd h
  obtain ⟨t3, gt3, h⟩ := bnd h
  refine zr_callF (pc := 5) (rest := []) (stk' := [.ref t3]) (k' := 0) (n' := 0) hX (fun l s0 D => mJ2_get l s0 D gt3) gu2 zwJ2_get (by decide) q400 q405 q403 rfl rfl rfl rfl rfl rfl rfl rfl rfl dX1_isRatio_5 ?_
  obtain ⟨u4, gu4, h⟩ := bnd h
  refine zr_cast (pc := 10) hX gu4 zc5 q418 (Or.inl rfl) dX1_isRatio_10 ?_
  obtain ⟨u5, gu5, h⟩ := bnd h
  obtain ⟨t6, gt6, h⟩ := bnd h
  refine zr_callVs (pc := 13) (rest := []) (stk' := [.int t6]) (k' := 0) (n' := 0) hX (fun l s0 D => mX6_kind l s0 D gt6) gu5 zc5 zwX6_kind q454 q455 q456 rfl rfl rfl rfl rfl rfl rfl rfl rfl dX1_isRatio_13 ?_
  refine zr_iconst (pc := 16) hX zci_3 dX1_isRatio_16 ?_
  refine zr_icmp_ne (pc := 17) hX 24 rfl dX1_isRatio_17 (fun c17_6 => ?_) (fun c17_6 => ?_)
  · rw [if_neg c17_6] at h
    refine zr_iconst (pc := 24) hX zci_0 dX1_isRatio_24 ?_
    exact hret _ (Option.some.inj h).symm _ _ dX1_isRatio_25 (Or.inr ⟨rfl, Or.inl rfl⟩)
  · rw [if_pos c17_6] at h
    refine zr_iconst (pc := 20) hX zci_1 dX1_isRatio_20 ?_
    refine zr_goto (pc := 21) hX 25 rfl dX1_isRatio_21 ?_
    exact hret _ (Option.some.inj h).symm _ _ dX1_isRatio_25 (Or.inr ⟨rfl, Or.inr rfl⟩)
set_option maxHeartbeats 4000000 in
theorem mX1_isEmpty (l : Launch) (s0 : State) (D : zD) {σ : zH} {sz : Nat} {th : Nat} {p0 : Nat} {p1 : Int32} {o : Int32} (h : fX1_isEmpty σ th p0 p1 = some o) : zM l s0 D yX1_isEmpty cX1_isEmpty 3 (some .boolean) 5 85 0 0 [.ref th, .ref p0, .int p1] σ sz σ sz (some (.int o)) := by
  refine zenter (own := RX1) zplX1 rfl (Nat.le_of_ble_eq_true rfl) trivial (fun K hX hnm hret => ?_)
  unfold fX1_isEmpty at h
  have hret : ∀ a, o = a → zRet K cX1_isEmpty (some .boolean) σ sz 0 0 (some (.int a)) := fun a e => by cases e; exact hret
  show VW K σ sz 0 0 0 [(0, .ref th), (1, .ref p0), (2, .int p1)] []
  refine zr_aload_n (pc := 0) hX 0 rfl rfl dX1_isEmpty_0 ?_
  refine zr_iload_n (pc := 1) hX 2 rfl rfl dX1_isEmpty_1 ?_
  obtain ⟨u1, gu1, h⟩ := bnd h
  obtain ⟨t2, gt2, h⟩ := bnd h
  refine zr_callVs (pc := 2) (rest := []) (stk' := [.int t2]) (k' := 0) (n' := 0) hX (fun l s0 D => mX1_isRatio l s0 D gt2) gu1 zc0 zwX1_isRatio q450 q452 qs5 rfl rfl rfl rfl rfl rfl rfl rfl rfl dX1_isEmpty_2 ?_
  refine zr_if_eq (pc := 5) hX 31 rfl dX1_isEmpty_5 (fun c5_10 => ?_) (fun c5_10 => ?_)
  · rw [if_pos c5_10] at h
    refine zr_aload_n (pc := 31) hX 1 rfl rfl dX1_isEmpty_31 ?_
    obtain ⟨r3, gr3, h⟩ := bnd h
    refine zr_fvN (pc := 32) hX za3_0 (zgR_spec gr3) q240 (Or.inl rfl) dX1_isEmpty_32 ?_
    refine zr_iload_n (pc := 35) hX 2 rfl rfl dX1_isEmpty_35 ?_
    obtain ⟨x4, gx4, h⟩ := bnd h
    refine zr_aI (pc := 36) hX gx4 dX1_isEmpty_36 ?_
    refine zr_if_ne (pc := 37) hX 44 rfl dX1_isEmpty_37 (fun c37_4 => ?_) (fun c37_4 => ?_)
    · rw [if_neg c37_4] at h
      refine zr_iconst (pc := 44) hX zci_0 dX1_isEmpty_44 ?_
      exact hret _ (Option.some.inj h).symm _ _ dX1_isEmpty_45 (Or.inr ⟨rfl, Or.inl rfl⟩)
    · rw [if_pos c37_4] at h
      refine zr_iconst (pc := 40) hX zci_1 dX1_isEmpty_40 ?_
      refine zr_goto (pc := 41) hX 45 rfl dX1_isEmpty_41 ?_
      exact hret _ (Option.some.inj h).symm _ _ dX1_isEmpty_45 (Or.inr ⟨rfl, Or.inr rfl⟩)
  · rw [if_neg c5_10] at h
    refine zr_aload_n (pc := 8) hX 1 rfl rfl dX1_isEmpty_8 ?_
    obtain ⟨r6, gr6, h⟩ := bnd h
    refine zr_fvN (pc := 9) hX za3_1 (zgR_spec gr6) q243 (Or.inl rfl) dX1_isEmpty_9 ?_
    refine zr_iload_n (pc := 12) hX 2 rfl rfl dX1_isEmpty_12 ?_
    obtain ⟨x7, gx7, h⟩ := bnd h
    refine zr_aI (pc := 13) hX gx7 dX1_isEmpty_13 ?_
    refine zr_aload_n (pc := 14) hX 1 rfl rfl dX1_isEmpty_14 ?_
    obtain ⟨r8, gr8, h⟩ := bnd h
    refine zr_fvN (pc := 15) hX za3_2 (zgR_spec gr8) q246 (Or.inl rfl) dX1_isEmpty_15 ?_
    refine zr_iload_n (pc := 18) hX 2 rfl rfl dX1_isEmpty_18 ?_
    obtain ⟨x9, gx9, h⟩ := bnd h
    refine zr_aI (pc := 19) hX gx9 dX1_isEmpty_19 ?_
    refine zr_icmp_le (pc := 20) hX 27 rfl dX1_isEmpty_20 (fun c20_9 => ?_) (fun c20_9 => ?_)
    · rw [if_pos c20_9] at h
      refine zr_iconst (pc := 27) hX zci_0 dX1_isEmpty_27 ?_
      refine zr_goto (pc := 28) hX 45 rfl dX1_isEmpty_28 ?_
      exact hret _ (Option.some.inj h).symm _ _ dX1_isEmpty_45 (Or.inr ⟨rfl, Or.inl rfl⟩)
    · rw [if_neg c20_9] at h
      refine zr_iconst (pc := 23) hX zci_1 dX1_isEmpty_23 ?_
      refine zr_goto (pc := 24) hX 45 rfl dX1_isEmpty_24 ?_
      exact hret _ (Option.some.inj h).symm _ _ dX1_isEmpty_45 (Or.inr ⟨rfl, Or.inr rfl⟩)
set_option maxHeartbeats 4000000 in
theorem mX1_seesFailure (l : Launch) (s0 : State) (D : zD) {n : Nat} {σ : zH} {sz : Nat} {th : Nat} {p0 : Nat} {o : zH × Int32} (h : fX1_seesFailure n σ th p0 = some o) : zM l s0 D yX1_seesFailure cX1_seesFailure 3 (some .boolean) 6 107 0 0 [.ref th, .ref p0] σ sz o.1 sz (some (.int o.2)) := by
  refine zenter (own := RX1) zplX1 rfl (Nat.le_of_ble_eq_true rfl) trivial (fun K hX hnm hret => ?_)
  unfold fX1_seesFailure at h
  have hret : ∀ a, o = a → zRet K cX1_seesFailure (some .boolean) a.1 sz 0 0 (some (.int a.2)) := fun a e => by cases e; exact hret
  show VW K σ sz 0 0 0 [(0, .ref th), (1, .ref p0)] []
  refine zr_aload_n (pc := 0) hX 1 rfl rfl dX1_seesFailure_0 ?_
  refine zr_iconst (pc := 1) hX zci_0 dX1_seesFailure_1 ?_
  obtain ⟨σ1, gσ1, h⟩ := bnd h
  refine zr_pZN (pc := 2) hX za3_3 gσ1 rfl q247 (Or.inl rfl) rfl (tyX4_ok 3 (Nat.le_of_ble_eq_true rfl)) dX1_seesFailure_2 ?_
  refine zr_iconst (pc := 5) hX zci_0 dX1_seesFailure_5 ?_
  refine zr_istore_n (pc := 6) hX rfl rfl (Nat.le_of_ble_eq_true rfl) rfl dX1_seesFailure_6 ?_
  obtain ⟨t4, gt4, h⟩ := bnd h
  have hJt4 : ∀ a, a = t4 → VW K a sz 0 0 41 [(1, .ref p0)] [] := by
    intro a ea
    rw [ea]
    refine zr_aload_n (pc := 41) hX 0 rfl rfl dX1_seesFailure_41 ?_
    obtain ⟨x5, gx5, h⟩ := bnd h
    refine zr_fvN (pc := 42) hX za3_3 (zgI_spec gx5) q247 (Or.inl rfl) dX1_seesFailure_42 ?_
    obtain ⟨x6, gx6, h⟩ := bnd h
    rw [(zq_spec gx6).1] at h
    exact hret _ (Option.some.inj h).symm _ _ dX1_seesFailure_45 (Or.inr ⟨rfl, (zq_spec gx6).2⟩)
  refine VW.sub (lv' := [(0, .ref th), (1, .ref p0), (2, .int (0 : Int32))]) ?_ [1, 2, 0] rfl
  refine zloop_walk (V := (fun a => VW K a.1 sz 0 0 7 [(0, .ref th), (1, .ref p0), (2, .int a.2)] [])) (E := fun e => e = t4) ?_ n (σ1, (0 : Int32)) _ gt4 rfl
  intro a2 o3 h kco3 keo3
  unfold fX1_seesFailure_L7 at h
  refine zr_iload_n (pc := 7) hX 2 rfl rfl dX1_seesFailure_7 ?_
  refine zr_aload_n (pc := 8) hX 0 rfl rfl dX1_seesFailure_8 ?_
  obtain ⟨r7, gr7, h⟩ := bnd h
  refine zr_fv (pc := 9) hX za0_0 (zgR_spec gr7) q264 (Or.inl rfl) dX1_seesFailure_9 ?_
  obtain ⟨u8, gu8, h⟩ := bnd h
  obtain ⟨t9, gt9, h⟩ := bnd h
  refine zr_callF (pc := 12) (rest := [.int a2.2]) (stk' := [.int t9, .int a2.2]) (k' := 0) (n' := 0) hX (fun l s0 D => mJ2_size l s0 D gt9) gu8 zwJ2_size (by decide) q378 q384 q382 rfl rfl rfl rfl rfl rfl rfl rfl rfl dX1_seesFailure_12 ?_
  refine zr_icmp_ge (pc := 17) hX 41 rfl dX1_seesFailure_17 (fun c17_14 => ?_) (fun c17_14 => ?_)
  · rw [if_pos c17_14] at h
    exact VW.sub (hJt4 a2.1 (keo3 _ (Option.some.inj h).symm)) [1] rfl
  · rw [if_neg c17_14] at h
    refine zr_aload_n (pc := 20) hX 1 rfl rfl dX1_seesFailure_20 ?_
    refine zr_dup (pc := 21) hX rfl dX1_seesFailure_21 ?_
    obtain ⟨x10, gx10, h⟩ := bnd h
    refine zr_fvN (pc := 22) hX za3_3 (zgI_spec gx10) q247 (Or.inl rfl) dX1_seesFailure_22 ?_
    refine zr_aload_n (pc := 25) hX 0 rfl rfl dX1_seesFailure_25 ?_
    refine zr_aload_n (pc := 26) hX 1 rfl rfl dX1_seesFailure_26 ?_
    refine zr_iload_n (pc := 27) hX 2 rfl rfl dX1_seesFailure_27 ?_
    obtain ⟨u11, gu11, h⟩ := bnd h
    obtain ⟨t12, gt12, h⟩ := bnd h
    refine zr_callVs (pc := 28) (rest := [.int x10, .ref p0]) (stk' := [.int t12, .int x10, .ref p0]) (k' := 0) (n' := 0) hX (fun l s0 D => mX1_isEmpty l s0 D gt12) gu11 zc0 zwX1_isEmpty q446 q448 qs4 rfl rfl rfl rfl rfl rfl rfl rfl rfl dX1_seesFailure_28 ?_
    refine zr_ior (pc := 31) hX dX1_seesFailure_31 ?_
    obtain ⟨σ13, gσ13, h⟩ := bnd h
    refine zr_pZN (pc := 32) hX za3_3 gσ13 rfl q247 (Or.inl rfl) rfl (tyX4_ok 3 (Nat.le_of_ble_eq_true rfl)) dX1_seesFailure_32 ?_
    obtain ⟨x14, gx14, h⟩ := bnd h
    refine zr_iinc (pc := 35) hX 2 rfl zci_1 (Option.some.inj gx14) (Nat.le_of_ble_eq_true rfl) rfl dX1_seesFailure_35 ?_
    refine zr_goto (pc := 38) hX 7 rfl dX1_seesFailure_38 ?_
    exact VW.sub (kco3 (σ13, x14) (Option.some.inj h).symm) [1, 2, 0] rfl
set_option maxHeartbeats 4000000 in
theorem mX1_take (l : Launch) (s0 : State) (D : zD) {n : Nat} {σ : zH} {sz : Nat} {th : Nat} {p0 : Nat} {p1 : Int32} {p2 : Int32} {o : zH} (h : fX1_take n σ th p0 p1 p2 = some o) : zM l s0 D yX1_take cX1_take 7 none 5 85 0 0 [.ref th, .ref p0, .int p1, .int p2] σ sz o sz none := by
  refine zenter (own := RX1) zplX1 rfl (Nat.le_of_ble_eq_true rfl) rfl (fun K hX hnm hret => ?_)
  unfold fX1_take at h
  have hret : ∀ a, o = a → zRet K cX1_take none a sz 0 0 none := fun a e => by cases e; exact hret
  show VW K σ sz 0 0 0 [(0, .ref th), (1, .ref p0), (2, .int p1), (3, .int p2)] []
  refine zr_aload_n (pc := 0) hX 1 rfl rfl dX1_take_0 ?_
  obtain ⟨r1, gr1, h⟩ := bnd h
  refine zr_fv (pc := 1) hX zaC_0 (zgR_spec gr1) q1085 (Or.inl rfl) dX1_take_1 ?_
  refine zr_iload_n (pc := 4) hX 2 rfl rfl dX1_take_4 ?_
  obtain ⟨x2, gx2, h⟩ := bnd h
  refine zr_aI (pc := 5) hX gx2 dX1_take_5 ?_
  refine zr_istore (pc := 6) hX rfl (Nat.le_of_ble_eq_true rfl) rfl dX1_take_6 ?_
  refine zr_aload_n (pc := 8) hX 1 rfl rfl dX1_take_8 ?_
  refine zr_iload (pc := 9) hX 0 rfl dX1_take_9 ?_
  obtain ⟨u3, gu3, h⟩ := bnd h
  obtain ⟨t4, gt4, h⟩ := bnd h
  refine zr_callVs (pc := 11) (rest := []) (stk' := [.int t4]) (k' := 0) (n' := 0) hX (fun l s0 D => mX1_isRatio l s0 D gt4) gu3 zc0 zwX1_isRatio q450 q452 qs5 rfl rfl rfl rfl rfl rfl rfl rfl rfl dX1_take_11 ?_
  refine zr_if_eq (pc := 14) hX 64 rfl dX1_take_14 (fun c14_38 => ?_) (fun c14_38 => ?_)
  · rw [if_pos c14_38] at h
    refine zr_aload_n (pc := 64) hX 1 rfl rfl dX1_take_64 ?_
    obtain ⟨r5, gr5, h⟩ := bnd h
    refine zr_fv (pc := 65) hX za0_17 (zgR_spec gr5) q281 (Or.inl rfl) dX1_take_65 ?_
    refine zr_iload (pc := 68) hX 0 rfl dX1_take_68 ?_
    obtain ⟨x6, gx6, h⟩ := bnd h
    refine zr_aI (pc := 70) hX gx6 dX1_take_70 ?_
    refine zr_aload_n (pc := 71) hX 2 rfl rfl dX1_take_71 ?_
    obtain ⟨r7, gr7, h⟩ := bnd h
    refine zr_fv (pc := 72) hX zaC_1 (zgR_spec gr7) q1103 (Or.inl rfl) dX1_take_72 ?_
    refine zr_iload_n (pc := 75) hX 3 rfl rfl dX1_take_75 ?_
    obtain ⟨x8, gx8, h⟩ := bnd h
    refine zr_aI (pc := 76) hX gx8 dX1_take_76 ?_
    refine zr_iconst (pc := 77) hX zci_m1 dX1_take_77 ?_
    refine zr_ixor (pc := 78) hX dX1_take_78 ?_
    refine zr_iand (pc := 79) hX dX1_take_79 ?_
    obtain ⟨x9, gx9, h⟩ := bnd h
    refine zr_istore (pc := 80) hX (Option.some.inj gx9) (Nat.le_of_ble_eq_true rfl) rfl dX1_take_80 ?_
    refine zr_iconst (pc := 82) hX zci_0 dX1_take_82 ?_
    refine zr_istore (pc := 83) hX rfl (Nat.le_of_ble_eq_true rfl) rfl dX1_take_83 ?_
    obtain ⟨t12, gt12, h⟩ := bnd h
    have hJt12 : ∀ a, a = t12 → VW K a sz 0 0 127 [(0, .ref th), (1, .ref p0), (2, .int p1), (4, .int x2)] [] := by
      intro a ea
      rw [ea]
      refine zr_aload_n (pc := 127) hX 0 rfl rfl dX1_take_127 ?_
      obtain ⟨r13, gr13, h⟩ := bnd h
      refine zr_fv (pc := 128) hX za0_17 (zgR_spec gr13) q281 (Or.inl rfl) dX1_take_128 ?_
      refine zr_iload (pc := 131) hX 3 rfl dX1_take_131 ?_
      refine zr_dup2 (pc := 133) hX rfl rfl dX1_take_133 ?_
      obtain ⟨x14, gx14, h⟩ := bnd h
      refine zr_aI (pc := 134) hX gx14 dX1_take_134 ?_
      refine zr_aload_n (pc := 135) hX 1 rfl rfl dX1_take_135 ?_
      obtain ⟨r15, gr15, h⟩ := bnd h
      refine zr_fv (pc := 136) hX zaC_1 (zgR_spec gr15) q1103 (Or.inl rfl) dX1_take_136 ?_
      refine zr_iload_n (pc := 139) hX 2 rfl rfl dX1_take_139 ?_
      obtain ⟨x16, gx16, h⟩ := bnd h
      refine zr_aI (pc := 140) hX gx16 dX1_take_140 ?_
      refine zr_iand (pc := 141) hX dX1_take_141 ?_
      obtain ⟨σ17, gσ17, h⟩ := bnd h
      refine zr_sI (pc := 142) hX gσ17 dX1_take_142 ?_
      exact hret _ (Option.some.inj h).symm _ _ dX1_take_143
    refine VW.sub (lv' := [(0, .ref th), (1, .ref p0), (2, .int p1), (3, .int p2), (4, .int x2), (5, .int x9), (6, .int (0 : Int32))]) ?_ [3, 4, 5, 6, 2, 1, 0] rfl
    refine zloop_walk (V := (fun a => VW K a.1 sz 0 0 85 [(0, .ref th), (1, .ref p0), (2, .int p1), (3, .int p2), (4, .int x2), (5, .int x9), (6, .int a.2)] [])) (E := fun e => e = t12) ?_ n (σ, (0 : Int32)) _ gt12 rfl
    intro a10 o11 h kco11 keo11
    unfold fX1_take_L85 at h
    refine zr_iload (pc := 85) hX 5 rfl dX1_take_85 ?_
    refine zr_iload (pc := 87) hX 6 rfl dX1_take_87 ?_
    refine zr_iushr (pc := 89) hX dX1_take_89 ?_
    refine zr_if_eq (pc := 90) hX 127 rfl dX1_take_90 (fun c90_25 => ?_) (fun c90_25 => ?_)
    · rw [if_pos c90_25] at h
      exact VW.sub (hJt12 a10.1 (keo11 _ (Option.some.inj h).symm)) [0, 1, 2, 4] rfl
    · rw [if_neg c90_25] at h
      refine zr_iload (pc := 93) hX 6 rfl dX1_take_93 ?_
      refine zr_bipush (pc := 95) hX zcb_32 dX1_take_95 ?_
      refine zr_icmp_ge (pc := 97) hX 127 rfl dX1_take_97 (fun c97_24 => ?_) (fun c97_24 => ?_)
      · rw [if_pos c97_24] at h
        exact VW.sub (hJt12 a10.1 (keo11 _ (Option.some.inj h).symm)) [0, 1, 2, 4] rfl
      · rw [if_neg c97_24] at h
        refine zr_iload (pc := 100) hX 5 rfl dX1_take_100 ?_
        refine zr_iload (pc := 102) hX 6 rfl dX1_take_102 ?_
        obtain ⟨t18, gt18, h⟩ := bnd h
        refine zr_callS (pc := 104) (rest := []) (stk' := [.int t18]) (k' := 0) (n' := 0) hX (fun l s0 D => mX1_has l s0 D gt18) zwX1_has q431 q432 rfl rfl rfl rfl rfl rfl rfl rfl dX1_take_104 ?_
        obtain ⟨t19, gt19, h⟩ := bnd h
        have hJt19 : ∀ a, t19 = a → VW K a sz 0 0 121 [(0, .ref th), (1, .ref p0), (2, .int p1), (3, .int p2), (4, .int x2), (5, .int x9), (6, .int a10.2)] [] := by
          intro a ea
          subst ea
          obtain ⟨x20, gx20, h⟩ := bnd h
          refine zr_iinc (pc := 121) hX 6 rfl zci_1 (Option.some.inj gx20) (Nat.le_of_ble_eq_true rfl) rfl dX1_take_121 ?_
          refine zr_goto (pc := 124) hX 85 rfl dX1_take_124 ?_
          exact VW.sub (kco11 (t19, x20) (Option.some.inj h).symm) [1, 2, 3, 4, 5, 6, 0] rfl
        replace h := gt19
        refine zr_if_eq (pc := 107) hX 121 rfl dX1_take_107 (fun c107_23 => ?_) (fun c107_23 => ?_)
        · rw [if_pos c107_23] at h
          exact VW.sub (hJt19 a10.1 (Option.some.inj h).symm) [0, 1, 2, 3, 4, 5, 6] rfl
        · rw [if_neg c107_23] at h
          refine zr_aload_n (pc := 110) hX 0 rfl rfl dX1_take_110 ?_
          obtain ⟨r21, gr21, h⟩ := bnd h
          refine zr_fv (pc := 111) hX za0_20 (zgR_spec gr21) q284 (Or.inl rfl) dX1_take_111 ?_
          refine zr_iload (pc := 114) hX 4 rfl dX1_take_114 ?_
          obtain ⟨r22, gr22, h⟩ := bnd h
          refine zr_aR (pc := 116) hX gr22 dX1_take_116 ?_
          refine zr_iload (pc := 117) hX 6 rfl dX1_take_117 ?_
          refine zr_iload_n (pc := 119) hX 3 rfl rfl dX1_take_119 ?_
          obtain ⟨σ23, gσ23, h⟩ := bnd h
          refine zr_sI (pc := 120) hX gσ23 dX1_take_120 ?_
          exact VW.sub (hJt19 σ23 (Option.some.inj h).symm) [0, 1, 2, 3, 4, 5, 6] rfl
  · rw [if_neg c14_38] at h
    refine zr_aload_n (pc := 17) hX 1 rfl rfl dX1_take_17 ?_
    obtain ⟨r27, gr27, h⟩ := bnd h
    refine zr_fv (pc := 18) hX za0_18 (zgR_spec gr27) q282 (Or.inl rfl) dX1_take_18 ?_
    refine zr_iload (pc := 21) hX 0 rfl dX1_take_21 ?_
    refine zr_aload_n (pc := 23) hX 2 rfl rfl dX1_take_23 ?_
    obtain ⟨r28, gr28, h⟩ := bnd h
    refine zr_fv (pc := 24) hX zaC_2 (zgR_spec gr28) q1107 (Or.inl rfl) dX1_take_24 ?_
    refine zr_iload_n (pc := 27) hX 3 rfl rfl dX1_take_27 ?_
    obtain ⟨x29, gx29, h⟩ := bnd h
    refine zr_aI (pc := 28) hX gx29 dX1_take_28 ?_
    refine zr_aload_n (pc := 29) hX 1 rfl rfl dX1_take_29 ?_
    obtain ⟨r30, gr30, h⟩ := bnd h
    refine zr_fv (pc := 30) hX za0_18 (zgR_spec gr30) q282 (Or.inl rfl) dX1_take_30 ?_
    refine zr_iload (pc := 33) hX 0 rfl dX1_take_33 ?_
    obtain ⟨x31, gx31, h⟩ := bnd h
    refine zr_aI (pc := 35) hX gx31 dX1_take_35 ?_
    refine zr_max (pc := 36) hX q654 q655 q126 q656 rfl rfl dX1_take_36 ?_
    obtain ⟨σ32, gσ32, h⟩ := bnd h
    refine zr_sI (pc := 39) hX gσ32 dX1_take_39 ?_
    refine zr_aload_n (pc := 40) hX 1 rfl rfl dX1_take_40 ?_
    obtain ⟨r33, gr33, h⟩ := bnd h
    refine zr_fv (pc := 41) hX za0_19 (zgR_spec gr33) q283 (Or.inl rfl) dX1_take_41 ?_
    refine zr_iload (pc := 44) hX 0 rfl dX1_take_44 ?_
    refine zr_aload_n (pc := 46) hX 2 rfl rfl dX1_take_46 ?_
    obtain ⟨r34, gr34, h⟩ := bnd h
    refine zr_fv (pc := 47) hX zaC_3 (zgR_spec gr34) q1111 (Or.inl rfl) dX1_take_47 ?_
    refine zr_iload_n (pc := 50) hX 3 rfl rfl dX1_take_50 ?_
    obtain ⟨x35, gx35, h⟩ := bnd h
    refine zr_aI (pc := 51) hX gx35 dX1_take_51 ?_
    refine zr_aload_n (pc := 52) hX 1 rfl rfl dX1_take_52 ?_
    obtain ⟨r36, gr36, h⟩ := bnd h
    refine zr_fv (pc := 53) hX za0_19 (zgR_spec gr36) q283 (Or.inl rfl) dX1_take_53 ?_
    refine zr_iload (pc := 56) hX 0 rfl dX1_take_56 ?_
    obtain ⟨x37, gx37, h⟩ := bnd h
    refine zr_aI (pc := 58) hX gx37 dX1_take_58 ?_
    refine zr_min (pc := 59) hX q657 q658 q126 q659 rfl rfl dX1_take_59 ?_
    obtain ⟨σ38, gσ38, h⟩ := bnd h
    refine zr_sI (pc := 62) hX gσ38 dX1_take_62 ?_
    exact hret _ (Option.some.inj h).symm _ _ dX1_take_63
set_option maxHeartbeats 4000000 in
theorem mX1_trace (l : Launch) (s0 : State) (D : zD) {n : Nat} {σ : zH} {sz : Nat} {th : Nat} {p0 : Int32} {p1 : Int32} {p2 : Int32} {o : zH} (h : fX1_trace n σ th p0 p1 p2 = some o) : zM l s0 D yX1_trace cX1_trace 5 none 2 21 0 0 [.ref th, .int p0, .int p1, .int p2] σ sz o sz none := by
  refine zenter (own := RX1) zplX1 rfl (Nat.le_of_ble_eq_true rfl) rfl (fun K hX hnm hret => ?_)
  unfold fX1_trace at h
  have hret : ∀ a, o = a → zRet K cX1_trace none a sz 0 0 none := fun a e => by cases e; exact hret
  show VW K σ sz 0 0 0 [(0, .ref th), (1, .int p0), (2, .int p1), (3, .int p2)] []
  refine zr_iconst (pc := 0) hX zci_0 dX1_trace_0 ?_
  refine zr_istore (pc := 1) hX rfl (Nat.le_of_ble_eq_true rfl) rfl dX1_trace_1 ?_
  refine VW.sub (lv' := [(0, .ref th), (1, .int p0), (2, .int p1), (3, .int p2), (4, .int (0 : Int32))]) ?_ [1, 2, 3, 4, 0] rfl
  refine zloop_walk (V := (fun a => VW K a.1 sz 0 0 3 [(0, .ref th), (1, .int p0), (2, .int p1), (3, .int p2), (4, .int a.2)] [])) (E := fun e => e = o) ?_ n (σ, (0 : Int32)) _ h rfl
  intro a1 o2 h kco2 keo2
  unfold fX1_trace_L3 at h
  refine zr_iload (pc := 3) hX 4 rfl dX1_trace_3 ?_
  refine zr_bipush (pc := 5) hX zcb_32 dX1_trace_5 ?_
  refine zr_icmp_ge (pc := 7) hX 84 rfl dX1_trace_7 (fun c7_23 => ?_) (fun c7_23 => ?_)
  · rw [if_pos c7_23] at h
    replace h := congrArg some (keo2 _ (Option.some.inj h).symm)
    exact hret _ (Option.some.inj h).symm _ _ dX1_trace_84
  · rw [if_neg c7_23] at h
    refine zr_iload_n (pc := 10) hX 2 rfl rfl dX1_trace_10 ?_
    refine zr_iload (pc := 11) hX 4 rfl dX1_trace_11 ?_
    obtain ⟨t3, gt3, h⟩ := bnd h
    refine zr_callS (pc := 13) (rest := []) (stk' := [.int t3]) (k' := 0) (n' := 0) hX (fun l s0 D => mX1_has l s0 D gt3) zwX1_has q431 q432 rfl rfl rfl rfl rfl rfl rfl rfl dX1_trace_13 ?_
    obtain ⟨t4, gt4, h⟩ := bnd h
    have hJt4 : ∀ a, t4 = a → VW K a sz 0 0 78 [(0, .ref th), (1, .int p0), (2, .int p1), (3, .int p2), (4, .int a1.2)] [] := by
      intro a ea
      subst ea
      obtain ⟨x5, gx5, h⟩ := bnd h
      refine zr_iinc (pc := 78) hX 4 rfl zci_1 (Option.some.inj gx5) (Nat.le_of_ble_eq_true rfl) rfl dX1_trace_78 ?_
      refine zr_goto (pc := 81) hX 3 rfl dX1_trace_81 ?_
      exact VW.sub (kco2 (t4, x5) (Option.some.inj h).symm) [1, 2, 3, 4, 0] rfl
    replace h := gt4
    refine zr_if_eq (pc := 16) hX 78 rfl dX1_trace_16 (fun c16_22 => ?_) (fun c16_22 => ?_)
    · rw [if_pos c16_22] at h
      exact VW.sub (hJt4 a1.1 (Option.some.inj h).symm) [0, 1, 2, 3, 4] rfl
    · rw [if_neg c16_22] at h
      refine zr_aload_n (pc := 19) hX 0 rfl rfl dX1_trace_19 ?_
      obtain ⟨r6, gr6, h⟩ := bnd h
      refine zr_fv (pc := 20) hX za0_11 (zgR_spec gr6) q275 (Or.inl rfl) dX1_trace_20 ?_
      refine zr_aload_n (pc := 23) hX 0 rfl rfl dX1_trace_23 ?_
      obtain ⟨x7, gx7, h⟩ := bnd h
      refine zr_fv (pc := 24) hX za0_15 (zgI_spec gx7) q279 (Or.inl rfl) dX1_trace_24 ?_
      refine zr_iload_n (pc := 27) hX 3 rfl rfl dX1_trace_27 ?_
      obtain ⟨σ8, gσ8, h⟩ := bnd h
      refine zr_sI (pc := 28) hX gσ8 dX1_trace_28 ?_
      refine zr_aload_n (pc := 29) hX 0 rfl rfl dX1_trace_29 ?_
      obtain ⟨r9, gr9, h⟩ := bnd h
      refine zr_fv (pc := 30) hX za0_12 (zgR_spec gr9) q276 (Or.inl rfl) dX1_trace_30 ?_
      refine zr_aload_n (pc := 33) hX 0 rfl rfl dX1_trace_33 ?_
      obtain ⟨x10, gx10, h⟩ := bnd h
      refine zr_fv (pc := 34) hX za0_15 (zgI_spec gx10) q279 (Or.inl rfl) dX1_trace_34 ?_
      refine zr_iload_n (pc := 37) hX 1 rfl rfl dX1_trace_37 ?_
      obtain ⟨σ11, gσ11, h⟩ := bnd h
      refine zr_sI (pc := 38) hX gσ11 dX1_trace_38 ?_
      refine zr_aload_n (pc := 39) hX 0 rfl rfl dX1_trace_39 ?_
      obtain ⟨r12, gr12, h⟩ := bnd h
      refine zr_fv (pc := 40) hX za0_13 (zgR_spec gr12) q277 (Or.inl rfl) dX1_trace_40 ?_
      refine zr_aload_n (pc := 43) hX 0 rfl rfl dX1_trace_43 ?_
      obtain ⟨x13, gx13, h⟩ := bnd h
      refine zr_fv (pc := 44) hX za0_15 (zgI_spec gx13) q279 (Or.inl rfl) dX1_trace_44 ?_
      refine zr_iload (pc := 47) hX 4 rfl dX1_trace_47 ?_
      obtain ⟨σ14, gσ14, h⟩ := bnd h
      refine zr_sI (pc := 49) hX gσ14 dX1_trace_49 ?_
      refine zr_aload_n (pc := 50) hX 0 rfl rfl dX1_trace_50 ?_
      obtain ⟨r15, gr15, h⟩ := bnd h
      refine zr_fv (pc := 51) hX za0_14 (zgR_spec gr15) q278 (Or.inl rfl) dX1_trace_51 ?_
      refine zr_aload_n (pc := 54) hX 0 rfl rfl dX1_trace_54 ?_
      obtain ⟨x16, gx16, h⟩ := bnd h
      refine zr_fv (pc := 55) hX za0_15 (zgI_spec gx16) q279 (Or.inl rfl) dX1_trace_55 ?_
      refine zr_aload_n (pc := 58) hX 0 rfl rfl dX1_trace_58 ?_
      obtain ⟨r17, gr17, h⟩ := bnd h
      refine zr_fv (pc := 59) hX za0_20 (zgR_spec gr17) q284 (Or.inl rfl) dX1_trace_59 ?_
      refine zr_iload_n (pc := 62) hX 1 rfl rfl dX1_trace_62 ?_
      obtain ⟨r18, gr18, h⟩ := bnd h
      refine zr_aR (pc := 63) hX gr18 dX1_trace_63 ?_
      refine zr_iload (pc := 64) hX 4 rfl dX1_trace_64 ?_
      obtain ⟨x19, gx19, h⟩ := bnd h
      refine zr_aI (pc := 66) hX gx19 dX1_trace_66 ?_
      obtain ⟨σ20, gσ20, h⟩ := bnd h
      refine zr_sI (pc := 67) hX gσ20 dX1_trace_67 ?_
      refine zr_aload_n (pc := 68) hX 0 rfl rfl dX1_trace_68 ?_
      refine zr_dup (pc := 69) hX rfl dX1_trace_69 ?_
      obtain ⟨x21, gx21, h⟩ := bnd h
      refine zr_fv (pc := 70) hX za0_15 (zgI_spec gx21) q279 (Or.inl rfl) dX1_trace_70 ?_
      refine zr_iconst (pc := 73) hX zci_1 dX1_trace_73 ?_
      refine zr_iadd (pc := 74) hX dX1_trace_74 ?_
      obtain ⟨σ22, gσ22, h⟩ := bnd h
      refine zr_pv (pc := 75) hX za0_15 gσ22 rfl q279 (Or.inl rfl) rfl (tyX1_ok 15 (Nat.le_of_ble_eq_true rfl)) rfl rfl dX1_trace_75 ?_
      exact VW.sub (hJt4 σ22 (Option.some.inj h).symm) [0, 1, 2, 3, 4] rfl
set_option maxHeartbeats 4000000 in
theorem mX1_nodes (l : Launch) (s0 : State) (D : zD) {σ : zH} {sz : Nat} {th : Nat} {o : Int32} (h : fX1_nodes σ th = some o) : zM l s0 D yX1_nodes cX1_nodes 1 (some .int) 1 0 0 0 [.ref th] σ sz σ sz (some (.int o)) := by
  refine zenter (own := RX1) zplX1 rfl (Nat.le_of_ble_eq_true rfl) trivial (fun K hX hnm hret => ?_)
  unfold fX1_nodes at h
  have hret : ∀ a, o = a → zRet K cX1_nodes (some .int) σ sz 0 0 (some (.int a)) := fun a e => by cases e; exact hret
  show VW K σ sz 0 0 0 [(0, .ref th)] []
  refine zr_aload_n (pc := 0) hX 0 rfl rfl dX1_nodes_0 ?_
  obtain ⟨x1, gx1, h⟩ := bnd h
  refine zr_fv (pc := 1) hX za0_25 (zgI_spec gx1) q289 (Or.inl rfl) dX1_nodes_1 ?_
  exact hret _ (Option.some.inj h).symm _ _ dX1_nodes_4 (Or.inl rfl)
set_option maxHeartbeats 4000000 in
theorem mX1_failures (l : Launch) (s0 : State) (D : zD) {σ : zH} {sz : Nat} {th : Nat} {o : Int32} (h : fX1_failures σ th = some o) : zM l s0 D yX1_failures cX1_failures 1 (some .int) 1 0 0 0 [.ref th] σ sz σ sz (some (.int o)) := by
  refine zenter (own := RX1) zplX1 rfl (Nat.le_of_ble_eq_true rfl) trivial (fun K hX hnm hret => ?_)
  unfold fX1_failures at h
  have hret : ∀ a, o = a → zRet K cX1_failures (some .int) σ sz 0 0 (some (.int a)) := fun a e => by cases e; exact hret
  show VW K σ sz 0 0 0 [(0, .ref th)] []
  refine zr_aload_n (pc := 0) hX 0 rfl rfl dX1_failures_0 ?_
  obtain ⟨x1, gx1, h⟩ := bnd h
  refine zr_fv (pc := 1) hX za0_26 (zgI_spec gx1) q290 (Or.inl rfl) dX1_failures_1 ?_
  exact hret _ (Option.some.inj h).symm _ _ dX1_failures_4 (Or.inl rfl)
set_option maxHeartbeats 4000000 in
theorem mX1_best (l : Launch) (s0 : State) (D : zD) {σ : zH} {sz : Nat} {th : Nat} {o : Int32} (h : fX1_best σ th = some o) : zM l s0 D yX1_best cX1_best 1 (some .int) 1 0 0 0 [.ref th] σ sz σ sz (some (.int o)) := by
  refine zenter (own := RX1) zplX1 rfl (Nat.le_of_ble_eq_true rfl) trivial (fun K hX hnm hret => ?_)
  unfold fX1_best at h
  have hret : ∀ a, o = a → zRet K cX1_best (some .int) σ sz 0 0 (some (.int a)) := fun a e => by cases e; exact hret
  show VW K σ sz 0 0 0 [(0, .ref th)] []
  refine zr_aload_n (pc := 0) hX 0 rfl rfl dX1_best_0 ?_
  obtain ⟨x1, gx1, h⟩ := bnd h
  refine zr_fv (pc := 1) hX za0_33 (zgI_spec gx1) q297 (Or.inl rfl) dX1_best_1 ?_
  refine zr_iconst (pc := 4) hX zci_m1 dX1_best_4 ?_
  refine zr_icmp_ne (pc := 5) hX 12 rfl dX1_best_5 (fun c5_2 => ?_) (fun c5_2 => ?_)
  · rw [if_neg c5_2] at h
    refine zr_aload_n (pc := 12) hX 0 rfl rfl dX1_best_12 ?_
    obtain ⟨x2, gx2, h⟩ := bnd h
    refine zr_fv (pc := 13) hX za0_34 (zgI_spec gx2) q298 (Or.inl rfl) dX1_best_13 ?_
    exact hret _ (Option.some.inj h).symm _ _ dX1_best_16 (Or.inl rfl)
  · rw [if_pos c5_2] at h
    refine zr_iconst (pc := 8) hX zci_m1 dX1_best_8 ?_
    refine zr_goto (pc := 9) hX 16 rfl dX1_best_9 ?_
    exact hret _ (Option.some.inj h).symm _ _ dX1_best_16 (Or.inl rfl)
set_option maxHeartbeats 4000000 in
theorem wX1_check {K : zC} {σ : zH} {sz : Nat} {p0 : Int32} {p1 : Int32} {p2 : Int32} {o : (zX ⊕ Unit)} (hX : zOk K RX1 cX1_check none 3 6 100 1 6) (hnm : zNm K yX1_check) (h : fX1_check σ p0 p1 p2 = some o) (hret : ∀ a, o = .inr a → zRet K cX1_check none σ sz 1 6 none) (hexc : ∀ e, o = .inl e → zTr K ∧ zXok K e.1 e.2 1 6 ∧ (e.2 = σ → zTh K cX1_check e.1 σ sz)) : VW K σ sz 0 0 0 [(0, .int p0), (1, .int p1), (2, .int p2)] [] := by
  unfold fX1_check at h
  refine zr_iload_n (pc := 0) hX 0 rfl rfl dX1_check_0 ?_
  refine zr_iload_n (pc := 1) hX 1 rfl rfl dX1_check_1 ?_
  obtain ⟨u2, gu2, hAu2, hBu2⟩ := zesc_bnd h
  have hJt1 : ∀ a, u2 = .inl a → VW K σ sz 0 0 10 [] [] := by
    intro t1 ea
    have h := hAu2 _ ea
    exact (hexc _ (Option.some.inj h).symm).2.2 rfl _ _ _ _ _ rfl dX1_check_10 dX1_check_13 dX1_check_14 dX1_check_17 q696 q121 zxw1 zxg1
  replace h := gu2
  refine zr_icmp_lt (pc := 2) hX 10 rfl dX1_check_2 (fun c2_3 => ?_) (fun c2_3 => ?_)
  · rw [if_pos c2_3] at h
    exact VW.sub (hJt1 () (Option.some.inj h).symm) [] rfl
  · rw [if_neg c2_3] at h
    refine zr_iload_n (pc := 5) hX 0 rfl rfl dX1_check_5 ?_
    refine zr_iload_n (pc := 6) hX 2 rfl rfl dX1_check_6 ?_
    refine zr_icmp_le (pc := 7) hX 18 rfl dX1_check_7 (fun c7_2 => ?_) (fun c7_2 => ?_)
    · rw [if_pos c7_2] at h
      replace h := congrArg some (hBu2 _ (Option.some.inj h).symm)
      refine VW.widen 1 6 ?_ (Nat.le_of_ble_eq_true rfl) (Nat.le_of_ble_eq_true rfl)
      exact hret _ (Option.some.inj h).symm _ _ dX1_check_18
    · rw [if_neg c7_2] at h
      exact VW.sub (hJt1 () (Option.some.inj h).symm) [] rfl
theorem mX1_check (l : Launch) (s0 : State) (D : zD) {σ : zH} {sz : Nat} {p0 : Int32} {p1 : Int32} {p2 : Int32} {o : Unit} (h : fX1_check σ p0 p1 p2 = some (.inr o)) : zM l s0 D yX1_check cX1_check 3 none 6 100 1 6 [.int p0, .int p1, .int p2] σ sz σ sz none := by
  refine zenter (own := RX1) zplX1 rfl (Nat.le_of_ble_eq_true rfl) rfl (fun K hX hnm hret => ?_)
  exact wX1_check hX hnm h (fun a e => by cases e; exact hret) (fun e q => by cases q)
theorem xX1_check (l : Launch) (s0 : State) (D : zD) (hl : l.stackTraces = false) {σ : zH} {sz : Nat} {p0 : Int32} {p1 : Int32} {p2 : Int32} {e : zX} (h : fX1_check σ p0 p1 p2 = some (.inl e)) : zMX l s0 D yX1_check cX1_check 3 none 6 100 1 6 [.int p0, .int p1, .int p2] σ sz e.1 e.2 := by
  refine zenterX (own := RX1) hl zplX1 rfl (Nat.le_of_ble_eq_true rfl) (fun K hX hnm hT hx hth => ?_)
  exact wX1_check hX hnm h (fun a q => by cases q) (fun e' q => by cases q; exact ⟨hT, hx, (fun q => hth rfl (by decide) (by decide) (by decide) (by decide) q.symm)⟩)
set_option maxHeartbeats 4000000 in
theorem wX1_checkArgument {K : zC} {σ : zH} {sz : Nat} {p0 : Int32} {o : (zX ⊕ Unit)} (hX : zOk K RX1 cX1_checkArgument none 1 6 100 1 6) (hnm : zNm K yX1_checkArgument) (h : fX1_checkArgument σ p0 = some o) (hret : ∀ a, o = .inr a → zRet K cX1_checkArgument none σ sz 1 6 none) (hexc : ∀ e, o = .inl e → zTr K ∧ zXok K e.1 e.2 1 6 ∧ (e.2 = σ → zTh K cX1_checkArgument e.1 σ sz)) : VW K σ sz 0 0 0 [(0, .int p0)] [] := by
  unfold fX1_checkArgument at h
  refine zr_iload_n (pc := 0) hX 0 rfl rfl dX1_checkArgument_0 ?_
  refine zr_if_ne (pc := 1) hX 12 rfl dX1_checkArgument_1 (fun c1_0 => ?_) (fun c1_0 => ?_)
  · rw [if_neg c1_0] at h
    refine VW.widen 1 6 ?_ (Nat.le_of_ble_eq_true rfl) (Nat.le_of_ble_eq_true rfl)
    exact hret _ (Option.some.inj h).symm _ _ dX1_checkArgument_12
  · rw [if_pos c1_0] at h
    exact (hexc _ (Option.some.inj h).symm).2.2 rfl _ _ _ _ _ rfl dX1_checkArgument_4 dX1_checkArgument_7 dX1_checkArgument_8 dX1_checkArgument_11 q696 q121 zxw1 zxg1
theorem mX1_checkArgument (l : Launch) (s0 : State) (D : zD) {σ : zH} {sz : Nat} {p0 : Int32} {o : Unit} (h : fX1_checkArgument σ p0 = some (.inr o)) : zM l s0 D yX1_checkArgument cX1_checkArgument 1 none 6 100 1 6 [.int p0] σ sz σ sz none := by
  refine zenter (own := RX1) zplX1 rfl (Nat.le_of_ble_eq_true rfl) rfl (fun K hX hnm hret => ?_)
  exact wX1_checkArgument hX hnm h (fun a e => by cases e; exact hret) (fun e q => by cases q)
theorem xX1_checkArgument (l : Launch) (s0 : State) (D : zD) (hl : l.stackTraces = false) {σ : zH} {sz : Nat} {p0 : Int32} {e : zX} (h : fX1_checkArgument σ p0 = some (.inl e)) : zMX l s0 D yX1_checkArgument cX1_checkArgument 1 none 6 100 1 6 [.int p0] σ sz e.1 e.2 := by
  refine zenterX (own := RX1) hl zplX1 rfl (Nat.le_of_ble_eq_true rfl) (fun K hX hnm hT hx hth => ?_)
  exact wX1_checkArgument hX hnm h (fun a q => by cases q) (fun e' q => by cases q; exact ⟨hT, hx, (fun q => hth rfl (by decide) (by decide) (by decide) (by decide) q.symm)⟩)
set_option maxHeartbeats 4000000 in
theorem wX1_checkState {K : zC} {σ : zH} {sz : Nat} {p0 : Int32} {o : (zX ⊕ Unit)} (hX : zOk K RX1 cX1_checkState none 1 6 100 1 6) (hnm : zNm K yX1_checkState) (h : fX1_checkState σ p0 = some o) (hret : ∀ a, o = .inr a → zRet K cX1_checkState none σ sz 1 6 none) (hexc : ∀ e, o = .inl e → zTr K ∧ zXok K e.1 e.2 1 6 ∧ (e.2 = σ → zTh K cX1_checkState e.1 σ sz)) : VW K σ sz 0 0 0 [(0, .int p0)] [] := by
  unfold fX1_checkState at h
  refine zr_iload_n (pc := 0) hX 0 rfl rfl dX1_checkState_0 ?_
  refine zr_if_ne (pc := 1) hX 12 rfl dX1_checkState_1 (fun c1_0 => ?_) (fun c1_0 => ?_)
  · rw [if_neg c1_0] at h
    refine VW.widen 1 6 ?_ (Nat.le_of_ble_eq_true rfl) (Nat.le_of_ble_eq_true rfl)
    exact hret _ (Option.some.inj h).symm _ _ dX1_checkState_12
  · rw [if_pos c1_0] at h
    exact (hexc _ (Option.some.inj h).symm).2.2 rfl _ _ _ _ _ rfl dX1_checkState_4 dX1_checkState_7 dX1_checkState_8 dX1_checkState_11 q793 q124 zxw2 zxg2
theorem mX1_checkState (l : Launch) (s0 : State) (D : zD) {σ : zH} {sz : Nat} {p0 : Int32} {o : Unit} (h : fX1_checkState σ p0 = some (.inr o)) : zM l s0 D yX1_checkState cX1_checkState 1 none 6 100 1 6 [.int p0] σ sz σ sz none := by
  refine zenter (own := RX1) zplX1 rfl (Nat.le_of_ble_eq_true rfl) rfl (fun K hX hnm hret => ?_)
  exact wX1_checkState hX hnm h (fun a e => by cases e; exact hret) (fun e q => by cases q)
theorem xX1_checkState (l : Launch) (s0 : State) (D : zD) (hl : l.stackTraces = false) {σ : zH} {sz : Nat} {p0 : Int32} {e : zX} (h : fX1_checkState σ p0 = some (.inl e)) : zMX l s0 D yX1_checkState cX1_checkState 1 none 6 100 1 6 [.int p0] σ sz e.1 e.2 := by
  refine zenterX (own := RX1) hl zplX1 rfl (Nat.le_of_ble_eq_true rfl) (fun K hX hnm hT hx hth => ?_)
  exact wX1_checkState hX hnm h (fun a q => by cases q) (fun e' q => by cases q; exact ⟨hT, hx, (fun q => hth rfl (by decide) (by decide) (by decide) (by decide) q.symm)⟩)
set_option maxHeartbeats 4000000 in
theorem wX1_add {K : zC} {σ : zH} {sz : Nat} {th : Nat} {p0 : Nat} {o : (zX ⊕ (zH × Nat × Int32))} (hX : zOk K RX1 cX1_add (some .int) 2 9 191 3 378) (hnm : zNm K yX1_add) (h : fX1_add σ sz th p0 = some o) (hret : ∀ a, o = .inr a → zRet K cX1_add (some .int) a.1 a.2.1 3 378 (some (.int a.2.2))) (hexc : ∀ e, o = .inl e → zTr K ∧ zXok K e.1 e.2 3 378 ∧ (e.2 = σ → zTh K cX1_add e.1 σ sz)) : VW K σ sz 0 0 0 [(0, .ref th), (1, .ref p0)] [] := by
  unfold fX1_add at h
  refine zr_aload_n (pc := 0) hX 0 rfl rfl dX1_add_0 ?_
  obtain ⟨r1, gr1, h⟩ := bnd h
  refine zr_fv (pc := 1) hX za0_0 (zgR_spec gr1) q264 (Or.inl rfl) dX1_add_1 ?_
  obtain ⟨u2, gu2, h⟩ := bnd h
  obtain ⟨t3, gt3, h⟩ := bnd h
  refine zr_callF (pc := 4) (rest := []) (stk' := [.int t3]) (k' := 0) (n' := 0) hX (fun l s0 D => mJ2_size l s0 D gt3) gu2 zwJ2_size (by decide) q378 q384 q382 rfl rfl rfl rfl rfl rfl rfl rfl rfl dX1_add_4 ?_
  refine zr_bipush (pc := 9) hX zcb_10 dX1_add_9 ?_
  obtain ⟨t4, gt4, h⟩ := bnd h
  have hJt4 : ∀ a, t4 = a → VW K σ sz 0 0 19 [(0, .ref th), (1, .ref p0)] [.int a] := by
    intro a ea
    subst ea
    obtain ⟨u13, gu13, hxu13, hnu13⟩ := zthr_bnd h
    rcases u13 with e14 | t5
    · have h := hxu13 _ rfl
      have hxx := hexc _ (Option.some.inj h).symm
      exact zr_callSX (pc := 19) (rest := []) hX hxx.1 hxx.2.1 (fun l s0 D hl => xX1_checkState l s0 D hl gu13) zwX1_checkState q790 q791 rfl rfl rfl rfl rfl dX1_add_19
    · have h := hnu13 _ rfl
      refine zr_callS (pc := 19) (rest := []) (stk' := []) (k' := 1) (n' := 6) hX (fun l s0 D => mX1_checkState l s0 D gu13) zwX1_checkState q790 q791 rfl rfl rfl rfl rfl rfl rfl rfl dX1_add_19 ?_
      refine zr_aload_n (pc := 22) hX 0 rfl rfl dX1_add_22 ?_
      obtain ⟨r6, gr6, h⟩ := bnd h
      refine zr_fv (pc := 23) hX za0_0 (zgR_spec gr6) q264 (Or.inl rfl) dX1_add_23 ?_
      refine zr_aload_n (pc := 26) hX 1 rfl rfl dX1_add_26 ?_
      obtain ⟨u7, gu7, h⟩ := bnd h
      obtain ⟨t8, gt8, h⟩ := bnd h
      refine zr_callF (pc := 27) (rest := []) (stk' := [.int t8.2.2]) (k' := 2) (n' := 372) hX (fun l s0 D => mJ2_add l s0 D gt8) gu7 zwJ2_add (by decide) q809 q814 q812 rfl rfl rfl rfl rfl rfl rfl rfl rfl dX1_add_27 ?_
      refine zr_pop (pc := 32) hX rfl dX1_add_32 ?_
      refine zr_aload_n (pc := 33) hX 0 rfl rfl dX1_add_33 ?_
      refine zr_iconst (pc := 34) hX zci_0 dX1_add_34 ?_
      obtain ⟨σ9, gσ9, h⟩ := bnd h
      refine zr_pZ (pc := 35) hX za0_10 gσ9 rfl q274 (Or.inl rfl) rfl (tyX1_ok 10 (Nat.le_of_ble_eq_true rfl)) dX1_add_35 ?_
      refine zr_aload_n (pc := 38) hX 0 rfl rfl dX1_add_38 ?_
      obtain ⟨r10, gr10, h⟩ := bnd h
      refine zr_fv (pc := 39) hX za0_0 (zgR_spec gr10) q264 (Or.inl rfl) dX1_add_39 ?_
      obtain ⟨u11, gu11, h⟩ := bnd h
      obtain ⟨t12, gt12, h⟩ := bnd h
      refine zr_callF (pc := 42) (rest := []) (stk' := [.int t12]) (k' := 2) (n' := 372) hX (fun l s0 D => mJ2_size l s0 D gt12) gu11 zwJ2_size (by decide) q378 q384 q382 rfl rfl rfl rfl rfl rfl rfl rfl rfl dX1_add_42 ?_
      refine zr_iconst (pc := 47) hX zci_1 dX1_add_47 ?_
      refine zr_isub (pc := 48) hX dX1_add_48 ?_
      refine VW.widen 3 378 ?_ (Nat.le_of_ble_eq_true rfl) (Nat.le_of_ble_eq_true rfl)
      exact hret _ (Option.some.inj h).symm _ _ dX1_add_49 (Or.inl rfl)
  replace h := gt4
  refine zr_icmp_ge (pc := 11) hX 18 rfl dX1_add_11 (fun c11_14 => ?_) (fun c11_14 => ?_)
  · rw [if_pos c11_14] at h
    refine zr_iconst (pc := 18) hX zci_0 dX1_add_18 ?_
    exact VW.sub (hJt4 (0 : Int32) (Option.some.inj h).symm) [0, 1] rfl
  · rw [if_neg c11_14] at h
    refine zr_iconst (pc := 14) hX zci_1 dX1_add_14 ?_
    refine zr_goto (pc := 15) hX 19 rfl dX1_add_15 ?_
    exact VW.sub (hJt4 (1 : Int32) (Option.some.inj h).symm) [0, 1] rfl
theorem mX1_add (l : Launch) (s0 : State) (D : zD) {σ : zH} {sz : Nat} {th : Nat} {p0 : Nat} {o : zH × Nat × Int32} (h : fX1_add σ sz th p0 = some (.inr o)) : zM l s0 D yX1_add cX1_add 2 (some .int) 9 191 3 378 [.ref th, .ref p0] σ sz o.1 o.2.1 (some (.int o.2.2)) := by
  refine zenter (own := RX1) zplX1 rfl (Nat.le_of_ble_eq_true rfl) trivial (fun K hX hnm hret => ?_)
  exact wX1_add hX hnm h (fun a e => by cases e; exact hret) (fun e q => by cases q)
theorem xX1_add (l : Launch) (s0 : State) (D : zD) (hl : l.stackTraces = false) {σ : zH} {sz : Nat} {th : Nat} {p0 : Nat} {e : zX} (h : fX1_add σ sz th p0 = some (.inl e)) : zMX l s0 D yX1_add cX1_add 2 (some .int) 9 191 3 378 [.ref th, .ref p0] σ sz e.1 e.2 := by
  refine zenterX (own := RX1) hl zplX1 rfl (Nat.le_of_ble_eq_true rfl) (fun K hX hnm hT hx hth => ?_)
  exact wX1_add hX hnm h (fun a q => by cases q) (fun e' q => by cases q; exact ⟨hT, hx, (fun q => hth rfl (by decide) (by decide) (by decide) (by decide) q.symm)⟩)
set_option maxHeartbeats 4000000 in
theorem wX1_variable {K : zC} {σ : zH} {sz : Nat} {th : Nat} {p0 : Int32} {p1 : Int32} {o : (zX ⊕ (zH × Nat × Int32))} (hX : zOk K RX1 cX1_variable (some .int) 4 10 212 7 400) (hnm : zNm K yX1_variable) (h : fX1_variable σ sz th p0 p1 = some o) (hret : ∀ a, o = .inr a → zRet K cX1_variable (some .int) a.1 a.2.1 7 400 (some (.int a.2.2))) (hexc : ∀ e, o = .inl e → zTr K ∧ zXok K e.1 e.2 7 400 ∧ (e.2 = σ → zTh K cX1_variable e.1 σ sz)) : VW K σ sz 0 0 0 [(0, .ref th), (1, .int p0), (2, .int p1)] [] := by
  unfold fX1_variable at h
  refine zr_iload_n (pc := 0) hX 1 rfl rfl dX1_variable_0 ?_
  refine zr_iconst (pc := 1) hX zci_0 dX1_variable_1 ?_
  refine zr_iconst (pc := 2) hX zci_2 dX1_variable_2 ?_
  obtain ⟨u18, gu18, hxu18, hnu18⟩ := zthr_bnd h
  rcases u18 with e19 | t1
  · have h := hxu18 _ rfl
    have hxx := hexc _ (Option.some.inj h).symm
    exact zr_callSX (pc := 3) (rest := []) hX hxx.1 hxx.2.1 (fun l s0 D hl => xX1_check l s0 D hl gu18) zwX1_check q693 q694 rfl rfl rfl rfl rfl dX1_variable_3
  · have h := hnu18 _ rfl
    refine zr_callS (pc := 3) (rest := []) (stk' := []) (k' := 1) (n' := 6) hX (fun l s0 D => mX1_check l s0 D gu18) zwX1_check q693 q694 rfl rfl rfl rfl rfl rfl rfl rfl dX1_variable_3 ?_
    refine zr_iconst (pc := 6) hX zci_m1 dX1_variable_6 ?_
    refine zr_bipush (pc := 7) hX zcb_31 dX1_variable_7 ?_
    refine zr_gets (pc := 9) hX 0 rfl q761 dX1_variable_9 ?_
    refine zr_iload_n (pc := 12) hX 1 rfl rfl dX1_variable_12 ?_
    obtain ⟨x2, gx2, h⟩ := bnd h
    refine zr_aI (pc := 13) hX gx2 dX1_variable_13 ?_
    refine zr_isub (pc := 14) hX dX1_variable_14 ?_
    refine zr_iushr (pc := 15) hX dX1_variable_15 ?_
    obtain ⟨x3, gx3, h⟩ := bnd h
    refine zr_istore_n (pc := 16) hX (Option.some.inj gx3) rfl (Nat.le_of_ble_eq_true rfl) rfl dX1_variable_16 ?_
    refine zr_iload_n (pc := 17) hX 3 rfl rfl dX1_variable_17 ?_
    refine zr_iload_n (pc := 18) hX 0 rfl rfl dX1_variable_18 ?_
    refine zr_iconst (pc := 19) hX zci_m1 dX1_variable_19 ?_
    refine zr_ixor (pc := 20) hX dX1_variable_20 ?_
    refine zr_iand (pc := 21) hX dX1_variable_21 ?_
    obtain ⟨t4, gt4, h⟩ := bnd h
    have hJt4 : ∀ a, t4 = a → VW K σ sz 1 6 34 [(0, .ref th), (1, .int p0), (2, .int p1)] [.int a] := by
      intro a ea
      subst ea
      obtain ⟨u12, gu12, hxu12, hnu12⟩ := zthr_bnd h
      rcases u12 with e13 | t5
      · have h := hxu12 _ rfl
        have hxx := hexc _ (Option.some.inj h).symm
        exact zr_callSX (pc := 34) (rest := []) hX hxx.1 hxx.2.1 (fun l s0 D hl => xX1_checkArgument l s0 D hl gu12) zwX1_checkArgument q762 q763 rfl rfl rfl rfl rfl dX1_variable_34
      · have h := hnu12 _ rfl
        refine zr_callS (pc := 34) (rest := []) (stk' := []) (k' := 2) (n' := 12) hX (fun l s0 D => mX1_checkArgument l s0 D gu12) zwX1_checkArgument q762 q763 rfl rfl rfl rfl rfl rfl rfl rfl dX1_variable_34 ?_
        refine zr_aload_n (pc := 37) hX 0 rfl rfl dX1_variable_37 ?_
        obtain ⟨σ6, gσ6, h⟩ := bnd h
        refine zr_new (pc := 38) (k' := 3) (n' := 16) (sz' := sz + 1) hX zc5 tyX6_ok zfs5 q418 q765 q123 rfl rfl rfl (Option.some.inj gσ6) rfl dX1_variable_38 ?_
        refine zr_dup (pc := 41) hX rfl dX1_variable_41 ?_
        refine zr_iload_n (pc := 42) hX 1 rfl rfl dX1_variable_42 ?_
        refine zr_iload_n (pc := 43) hX 2 rfl rfl dX1_variable_43 ?_
        refine zr_iconst (pc := 44) hX zci_0 dX1_variable_44 ?_
        refine zr_iconst (pc := 45) hX zci_0 dX1_variable_45 ?_
        obtain ⟨t7, gt7, h⟩ := bnd h
        refine zr_callIN (pc := 46) (rest := [.ref sz, .ref th]) (k' := 3) (n' := 16) hX (fun l s0 D => mX6_init l s0 D gt7) zwX6_init q766 q767 rfl rfl rfl rfl rfl rfl rfl rfl dX1_variable_46 ?_
        obtain ⟨u8, gu8, h⟩ := bnd h
        obtain ⟨u10, gu10, hxu10, hnu10⟩ := zthr_bnd h
        rcases u10 with e11 | t9
        · have h := hxu10 _ rfl
          have hxx := hexc _ (Option.some.inj h).symm
          exact zr_callVX (pc := 49) (rest := []) hX hxx.1 hxx.2.1 (fun l s0 D hl => xX1_add l s0 D hl gu10) gu8 zc0 zwX1_add q786 q788 qs21 rfl rfl rfl rfl rfl rfl dX1_variable_49
        · have h := hnu10 _ rfl
          refine zr_callVs (pc := 49) (rest := []) (stk' := [.int t9.2.2]) (k' := 6) (n' := 394) hX (fun l s0 D => mX1_add l s0 D gu10) gu8 zc0 zwX1_add q786 q788 qs21 rfl rfl rfl rfl rfl rfl rfl rfl rfl dX1_variable_49 ?_
          refine VW.widen 7 400 ?_ (Nat.le_of_ble_eq_true rfl) (Nat.le_of_ble_eq_true rfl)
          exact hret _ (Option.some.inj h).symm _ _ dX1_variable_52 (Or.inl rfl)
    replace h := gt4
    obtain ⟨u15, gu15, hAu15, hBu15⟩ := zesc_bnd h
    have hJt14 : ∀ a, u15 = .inl a → VW K σ sz 1 6 33 [(0, .ref th), (1, .int p0), (2, .int p1)] [] := by
      intro t14 ea
      have h := hAu15 _ ea
      refine zr_iconst (pc := 33) hX zci_0 dX1_variable_33 ?_
      exact VW.sub (hJt4 (0 : Int32) (Option.some.inj h).symm) [0, 1, 2] rfl
    replace h := gu15
    refine zr_if_ne (pc := 22) hX 33 rfl dX1_variable_22 (fun c22_16 => ?_) (fun c22_16 => ?_)
    · rw [if_neg c22_16] at h
      exact VW.sub (hJt14 () (Option.some.inj h).symm) [1, 2, 3] rfl
    · rw [if_pos c22_16] at h
      refine zr_iload_n (pc := 25) hX 3 rfl rfl dX1_variable_25 ?_
      refine zr_if_eq (pc := 26) hX 33 rfl dX1_variable_26 (fun c26_15 => ?_) (fun c26_15 => ?_)
      · rw [if_pos c26_15] at h
        exact VW.sub (hJt14 () (Option.some.inj h).symm) [1, 2, 3] rfl
      · rw [if_neg c26_15] at h
        refine zr_iconst (pc := 29) hX zci_1 dX1_variable_29 ?_
        refine zr_goto (pc := 30) hX 34 rfl dX1_variable_30 ?_
        replace h := congrArg some (hBu15 _ (Option.some.inj h).symm)
        exact VW.sub (hJt4 (1 : Int32) (Option.some.inj h).symm) [1, 2, 3] rfl
theorem mX1_variable (l : Launch) (s0 : State) (D : zD) {σ : zH} {sz : Nat} {th : Nat} {p0 : Int32} {p1 : Int32} {o : zH × Nat × Int32} (h : fX1_variable σ sz th p0 p1 = some (.inr o)) : zM l s0 D yX1_variable cX1_variable 4 (some .int) 10 212 7 400 [.ref th, .int p0, .int p1] σ sz o.1 o.2.1 (some (.int o.2.2)) := by
  refine zenter (own := RX1) zplX1 rfl (Nat.le_of_ble_eq_true rfl) trivial (fun K hX hnm hret => ?_)
  exact wX1_variable hX hnm h (fun a e => by cases e; exact hret) (fun e q => by cases q)
theorem xX1_variable (l : Launch) (s0 : State) (D : zD) (hl : l.stackTraces = false) {σ : zH} {sz : Nat} {th : Nat} {p0 : Int32} {p1 : Int32} {e : zX} (h : fX1_variable σ sz th p0 p1 = some (.inl e)) : zMX l s0 D yX1_variable cX1_variable 4 (some .int) 10 212 7 400 [.ref th, .int p0, .int p1] σ sz e.1 e.2 := by
  refine zenterX (own := RX1) hl zplX1 rfl (Nat.le_of_ble_eq_true rfl) (fun K hX hnm hT hx hth => ?_)
  exact wX1_variable hX hnm h (fun a q => by cases q) (fun e' q => by cases q; exact ⟨hT, hx, (fun q => hth rfl (by decide) (by decide) (by decide) (by decide) q.symm)⟩)
set_option maxHeartbeats 4000000 in
theorem wX1_ratio {K : zC} {σ : zH} {sz : Nat} {th : Nat} {p0 : Int32} {p1 : Int32} {o : (zX ⊕ (zH × Nat × Int32))} (hX : zOk K RX1 cX1_ratio (some .int) 3 10 212 7 400) (hnm : zNm K yX1_ratio) (h : fX1_ratio σ sz th p0 p1 = some o) (hret : ∀ a, o = .inr a → zRet K cX1_ratio (some .int) a.1 a.2.1 7 400 (some (.int a.2.2))) (hexc : ∀ e, o = .inl e → zTr K ∧ zXok K e.1 e.2 7 400 ∧ (e.2 = σ → zTh K cX1_ratio e.1 σ sz)) : VW K σ sz 0 0 0 [(0, .ref th), (1, .int p0), (2, .int p1)] [] := by
  unfold fX1_ratio at h
  refine zr_iload_n (pc := 0) hX 1 rfl rfl dX1_ratio_0 ?_
  refine zr_bipush (pc := 1) hX zcb_m120 dX1_ratio_1 ?_
  refine zr_bipush (pc := 3) hX zcb_120 dX1_ratio_3 ?_
  obtain ⟨u11, gu11, hxu11, hnu11⟩ := zthr_bnd h
  rcases u11 with e12 | t1
  · have h := hxu11 _ rfl
    have hxx := hexc _ (Option.some.inj h).symm
    exact zr_callSX (pc := 5) (rest := []) hX hxx.1 hxx.2.1 (fun l s0 D hl => xX1_check l s0 D hl gu11) zwX1_check q693 q694 rfl rfl rfl rfl rfl dX1_ratio_5
  · have h := hnu11 _ rfl
    refine zr_callS (pc := 5) (rest := []) (stk' := []) (k' := 1) (n' := 6) hX (fun l s0 D => mX1_check l s0 D gu11) zwX1_check q693 q694 rfl rfl rfl rfl rfl rfl rfl rfl dX1_ratio_5 ?_
    refine zr_iload_n (pc := 8) hX 2 rfl rfl dX1_ratio_8 ?_
    refine zr_iload_n (pc := 9) hX 1 rfl rfl dX1_ratio_9 ?_
    refine zr_bipush (pc := 10) hX zcb_120 dX1_ratio_10 ?_
    obtain ⟨u9, gu9, hxu9, hnu9⟩ := zthr_bnd h
    rcases u9 with e10 | t2
    · have h := hxu9 _ rfl
      have hxx := hexc _ (Option.some.inj h).symm
      exact zr_callSX (pc := 12) (rest := []) hX hxx.1 hxx.2.1 (fun l s0 D hl => xX1_check l s0 D hl gu9) zwX1_check q693 q694 rfl rfl rfl rfl rfl dX1_ratio_12
    · have h := hnu9 _ rfl
      refine zr_callS (pc := 12) (rest := []) (stk' := []) (k' := 2) (n' := 12) hX (fun l s0 D => mX1_check l s0 D gu9) zwX1_check q693 q694 rfl rfl rfl rfl rfl rfl rfl rfl dX1_ratio_12 ?_
      refine zr_aload_n (pc := 15) hX 0 rfl rfl dX1_ratio_15 ?_
      obtain ⟨σ3, gσ3, h⟩ := bnd h
      refine zr_new (pc := 16) (k' := 3) (n' := 16) (sz' := sz + 1) hX zc5 tyX6_ok zfs5 q418 q765 q123 rfl rfl rfl (Option.some.inj gσ3) rfl dX1_ratio_16 ?_
      refine zr_dup (pc := 19) hX rfl dX1_ratio_19 ?_
      refine zr_iconst (pc := 20) hX zci_3 dX1_ratio_20 ?_
      refine zr_iconst (pc := 21) hX zci_0 dX1_ratio_21 ?_
      refine zr_iload_n (pc := 22) hX 1 rfl rfl dX1_ratio_22 ?_
      refine zr_iload_n (pc := 23) hX 2 rfl rfl dX1_ratio_23 ?_
      obtain ⟨t4, gt4, h⟩ := bnd h
      refine zr_callIN (pc := 24) (rest := [.ref sz, .ref th]) (k' := 3) (n' := 16) hX (fun l s0 D => mX6_init l s0 D gt4) zwX6_init q766 q767 rfl rfl rfl rfl rfl rfl rfl rfl dX1_ratio_24 ?_
      obtain ⟨u5, gu5, h⟩ := bnd h
      obtain ⟨u7, gu7, hxu7, hnu7⟩ := zthr_bnd h
      rcases u7 with e8 | t6
      · have h := hxu7 _ rfl
        have hxx := hexc _ (Option.some.inj h).symm
        exact zr_callVX (pc := 27) (rest := []) hX hxx.1 hxx.2.1 (fun l s0 D hl => xX1_add l s0 D hl gu7) gu5 zc0 zwX1_add q786 q788 qs21 rfl rfl rfl rfl rfl rfl dX1_ratio_27
      · have h := hnu7 _ rfl
        refine zr_callVs (pc := 27) (rest := []) (stk' := [.int t6.2.2]) (k' := 6) (n' := 394) hX (fun l s0 D => mX1_add l s0 D gu7) gu5 zc0 zwX1_add q786 q788 qs21 rfl rfl rfl rfl rfl rfl rfl rfl rfl dX1_ratio_27 ?_
        refine VW.widen 7 400 ?_ (Nat.le_of_ble_eq_true rfl) (Nat.le_of_ble_eq_true rfl)
        exact hret _ (Option.some.inj h).symm _ _ dX1_ratio_30 (Or.inl rfl)
theorem mX1_ratio (l : Launch) (s0 : State) (D : zD) {σ : zH} {sz : Nat} {th : Nat} {p0 : Int32} {p1 : Int32} {o : zH × Nat × Int32} (h : fX1_ratio σ sz th p0 p1 = some (.inr o)) : zM l s0 D yX1_ratio cX1_ratio 3 (some .int) 10 212 7 400 [.ref th, .int p0, .int p1] σ sz o.1 o.2.1 (some (.int o.2.2)) := by
  refine zenter (own := RX1) zplX1 rfl (Nat.le_of_ble_eq_true rfl) trivial (fun K hX hnm hret => ?_)
  exact wX1_ratio hX hnm h (fun a e => by cases e; exact hret) (fun e q => by cases q)
theorem xX1_ratio (l : Launch) (s0 : State) (D : zD) (hl : l.stackTraces = false) {σ : zH} {sz : Nat} {th : Nat} {p0 : Int32} {p1 : Int32} {e : zX} (h : fX1_ratio σ sz th p0 p1 = some (.inl e)) : zMX l s0 D yX1_ratio cX1_ratio 3 (some .int) 10 212 7 400 [.ref th, .int p0, .int p1] σ sz e.1 e.2 := by
  refine zenterX (own := RX1) hl zplX1 rfl (Nat.le_of_ble_eq_true rfl) (fun K hX hnm hT hx hth => ?_)
  exact wX1_ratio hX hnm h (fun a q => by cases q) (fun e' q => by cases q; exact ⟨hT, hx, (fun q => hth rfl (by decide) (by decide) (by decide) (by decide) q.symm)⟩)
set_option maxHeartbeats 4000000 in
theorem wX1_checkIndex {K : zC} {σ : zH} {sz : Nat} {p0 : Int32} {p1 : Int32} {o : (zX ⊕ Unit)} (hX : zOk K RX1 cX1_checkIndex none 2 6 100 1 6) (hnm : zNm K yX1_checkIndex) (h : fX1_checkIndex σ p0 p1 = some o) (hret : ∀ a, o = .inr a → zRet K cX1_checkIndex none σ sz 1 6 none) (hexc : ∀ e, o = .inl e → zTr K ∧ zXok K e.1 e.2 1 6 ∧ (e.2 = σ → zTh K cX1_checkIndex e.1 σ sz)) : VW K σ sz 0 0 0 [(0, .int p0), (1, .int p1)] [] := by
  unfold fX1_checkIndex at h
  refine zr_iload_n (pc := 0) hX 0 rfl rfl dX1_checkIndex_0 ?_
  obtain ⟨u2, gu2, hAu2, hBu2⟩ := zesc_bnd h
  have hJt1 : ∀ a, u2 = .inl a → VW K σ sz 0 0 9 [] [] := by
    intro t1 ea
    have h := hAu2 _ ea
    exact (hexc _ (Option.some.inj h).symm).2.2 rfl _ _ _ _ _ rfl dX1_checkIndex_9 dX1_checkIndex_12 dX1_checkIndex_13 dX1_checkIndex_16 q934 q129 zxw3 zxg3
  replace h := gu2
  refine zr_if_lt (pc := 1) hX 9 rfl dX1_checkIndex_1 (fun c1_3 => ?_) (fun c1_3 => ?_)
  · rw [if_pos c1_3] at h
    exact VW.sub (hJt1 () (Option.some.inj h).symm) [] rfl
  · rw [if_neg c1_3] at h
    refine zr_iload_n (pc := 4) hX 0 rfl rfl dX1_checkIndex_4 ?_
    refine zr_iload_n (pc := 5) hX 1 rfl rfl dX1_checkIndex_5 ?_
    refine zr_icmp_lt (pc := 6) hX 17 rfl dX1_checkIndex_6 (fun c6_2 => ?_) (fun c6_2 => ?_)
    · rw [if_pos c6_2] at h
      replace h := congrArg some (hBu2 _ (Option.some.inj h).symm)
      refine VW.widen 1 6 ?_ (Nat.le_of_ble_eq_true rfl) (Nat.le_of_ble_eq_true rfl)
      exact hret _ (Option.some.inj h).symm _ _ dX1_checkIndex_17
    · rw [if_neg c6_2] at h
      exact VW.sub (hJt1 () (Option.some.inj h).symm) [] rfl
theorem mX1_checkIndex (l : Launch) (s0 : State) (D : zD) {σ : zH} {sz : Nat} {p0 : Int32} {p1 : Int32} {o : Unit} (h : fX1_checkIndex σ p0 p1 = some (.inr o)) : zM l s0 D yX1_checkIndex cX1_checkIndex 2 none 6 100 1 6 [.int p0, .int p1] σ sz σ sz none := by
  refine zenter (own := RX1) zplX1 rfl (Nat.le_of_ble_eq_true rfl) rfl (fun K hX hnm hret => ?_)
  exact wX1_checkIndex hX hnm h (fun a e => by cases e; exact hret) (fun e q => by cases q)
theorem xX1_checkIndex (l : Launch) (s0 : State) (D : zD) (hl : l.stackTraces = false) {σ : zH} {sz : Nat} {p0 : Int32} {p1 : Int32} {e : zX} (h : fX1_checkIndex σ p0 p1 = some (.inl e)) : zMX l s0 D yX1_checkIndex cX1_checkIndex 2 none 6 100 1 6 [.int p0, .int p1] σ sz e.1 e.2 := by
  refine zenterX (own := RX1) hl zplX1 rfl (Nat.le_of_ble_eq_true rfl) (fun K hX hnm hT hx hth => ?_)
  exact wX1_checkIndex hX hnm h (fun a q => by cases q) (fun e' q => by cases q; exact ⟨hT, hx, (fun q => hth rfl (by decide) (by decide) (by decide) (by decide) q.symm)⟩)
set_option maxHeartbeats 4000000 in
theorem wX1_variable_2 {K : zC} {σ : zH} {sz : Nat} {th : Nat} {p0 : Int32} {o : (zX ⊕ Nat)} (hX : zOk K RX1 cX1_variable_2 (some (.object "DomainLinks$Variable")) 2 7 121 2 12) (hnm : zNm K yX1_variable_2) (h : fX1_variable_2 σ th p0 = some o) (hret : ∀ a, o = .inr a → zRet K cX1_variable_2 (some (.object "DomainLinks$Variable")) σ sz 2 12 (some (.ref a))) (hexc : ∀ e, o = .inl e → zTr K ∧ zXok K e.1 e.2 2 12 ∧ (e.2 = σ → zTh K cX1_variable_2 e.1 σ sz)) : VW K σ sz 0 0 0 [(0, .ref th), (1, .int p0)] [] := by
  unfold fX1_variable_2 at h
  refine zr_iload_n (pc := 0) hX 1 rfl rfl dX1_variable_2_0 ?_
  refine zr_aload_n (pc := 1) hX 0 rfl rfl dX1_variable_2_1 ?_
  obtain ⟨r1, gr1, h⟩ := bnd h
  refine zr_fv (pc := 2) hX za0_0 (zgR_spec gr1) q264 (Or.inl rfl) dX1_variable_2_2 ?_
  obtain ⟨u2, gu2, h⟩ := bnd h
  obtain ⟨t3, gt3, h⟩ := bnd h
  refine zr_callF (pc := 5) (rest := [.int p0]) (stk' := [.int t3, .int p0]) (k' := 0) (n' := 0) hX (fun l s0 D => mJ2_size l s0 D gt3) gu2 zwJ2_size (by decide) q378 q384 q382 rfl rfl rfl rfl rfl rfl rfl rfl rfl dX1_variable_2_5 ?_
  obtain ⟨u9, gu9, hxu9, hnu9⟩ := zthr_bnd h
  rcases u9 with e10 | t4
  · have h := hxu9 _ rfl
    have hxx := hexc _ (Option.some.inj h).symm
    exact zr_callSX (pc := 10) (rest := []) hX hxx.1 hxx.2.1 (fun l s0 D hl => xX1_checkIndex l s0 D hl gu9) zwX1_checkIndex q931 q932 rfl rfl rfl rfl rfl dX1_variable_2_10
  · have h := hnu9 _ rfl
    refine zr_callS (pc := 10) (rest := []) (stk' := []) (k' := 1) (n' := 6) hX (fun l s0 D => mX1_checkIndex l s0 D gu9) zwX1_checkIndex q931 q932 rfl rfl rfl rfl rfl rfl rfl rfl dX1_variable_2_10 ?_
    refine zr_aload_n (pc := 13) hX 0 rfl rfl dX1_variable_2_13 ?_
    obtain ⟨r5, gr5, h⟩ := bnd h
    refine zr_fv (pc := 14) hX za0_0 (zgR_spec gr5) q264 (Or.inl rfl) dX1_variable_2_14 ?_
    refine zr_iload_n (pc := 17) hX 1 rfl rfl dX1_variable_2_17 ?_
    obtain ⟨u6, gu6, h⟩ := bnd h
    obtain ⟨t7, gt7, h⟩ := bnd h
    refine zr_callF (pc := 18) (rest := []) (stk' := [.ref t7]) (k' := 1) (n' := 6) hX (fun l s0 D => mJ2_get l s0 D gt7) gu6 zwJ2_get (by decide) q400 q405 q403 rfl rfl rfl rfl rfl rfl rfl rfl rfl dX1_variable_2_18 ?_
    obtain ⟨u8, gu8, h⟩ := bnd h
    refine zr_cast (pc := 23) hX gu8 zc5 q418 (Or.inl rfl) dX1_variable_2_23 ?_
    refine VW.widen 2 12 ?_ (Nat.le_of_ble_eq_true rfl) (Nat.le_of_ble_eq_true rfl)
    exact hret _ (Option.some.inj h).symm _ _ dX1_variable_2_26
theorem mX1_variable_2 (l : Launch) (s0 : State) (D : zD) {σ : zH} {sz : Nat} {th : Nat} {p0 : Int32} {o : Nat} (h : fX1_variable_2 σ th p0 = some (.inr o)) : zM l s0 D yX1_variable_2 cX1_variable_2 2 (some (.object "DomainLinks$Variable")) 7 121 2 12 [.ref th, .int p0] σ sz σ sz (some (.ref o)) := by
  refine zenter (own := RX1) zplX1 rfl (Nat.le_of_ble_eq_true rfl) ⟨_, rfl, Or.inl ⟨_, rfl⟩⟩ (fun K hX hnm hret => ?_)
  exact wX1_variable_2 hX hnm h (fun a e => by cases e; exact hret) (fun e q => by cases q)
theorem xX1_variable_2 (l : Launch) (s0 : State) (D : zD) (hl : l.stackTraces = false) {σ : zH} {sz : Nat} {th : Nat} {p0 : Int32} {e : zX} (h : fX1_variable_2 σ th p0 = some (.inl e)) : zMX l s0 D yX1_variable_2 cX1_variable_2 2 (some (.object "DomainLinks$Variable")) 7 121 2 12 [.ref th, .int p0] σ sz e.1 e.2 := by
  refine zenterX (own := RX1) hl zplX1 rfl (Nat.le_of_ble_eq_true rfl) (fun K hX hnm hT hx hth => ?_)
  exact wX1_variable_2 hX hnm h (fun a q => by cases q) (fun e' q => by cases q; exact ⟨hT, hx, (fun q => hth rfl (by decide) (by decide) (by decide) (by decide) q.symm)⟩)
set_option maxHeartbeats 4000000 in
theorem wX1_name {K : zC} {σ : zH} {sz : Nat} {th : Nat} {p0 : Int32} {o : (zX ⊕ (zH × Nat × Int32))} (hX : zOk K RX1 cX1_name (some .int) 2 9 191 5 390) (hnm : zNm K yX1_name) (h : fX1_name σ sz th p0 = some o) (hret : ∀ a, o = .inr a → zRet K cX1_name (some .int) a.1 a.2.1 5 390 (some (.int a.2.2))) (hexc : ∀ e, o = .inl e → zTr K ∧ zXok K e.1 e.2 5 390 ∧ (e.2 = σ → zTh K cX1_name e.1 σ sz)) : VW K σ sz 0 0 0 [(0, .ref th), (1, .int p0)] [] := by
  unfold fX1_name at h
  refine zr_aload_n (pc := 0) hX 0 rfl rfl dX1_name_0 ?_
  refine zr_iload_n (pc := 1) hX 1 rfl rfl dX1_name_1 ?_
  obtain ⟨u1, gu1, h⟩ := bnd h
  obtain ⟨u18, gu18, hxu18, hnu18⟩ := zthr_bnd h
  rcases u18 with e19 | t2
  · have h := hxu18 _ rfl
    have hxx := hexc _ (Option.some.inj h).symm
    exact zr_callVX (pc := 2) (rest := []) hX hxx.1 hxx.2.1 (fun l s0 D hl => xX1_variable_2 l s0 D hl gu18) gu1 zc0 zwX1_variable_2 q927 q929 qs25 rfl rfl rfl rfl rfl rfl dX1_name_2
  · have h := hnu18 _ rfl
    refine zr_callVs (pc := 2) (rest := []) (stk' := [.ref t2]) (k' := 2) (n' := 12) hX (fun l s0 D => mX1_variable_2 l s0 D gu18) gu1 zc0 zwX1_variable_2 q927 q929 qs25 rfl rfl rfl rfl rfl rfl rfl rfl rfl dX1_name_2 ?_
    refine zr_pop (pc := 5) hX rfl dX1_name_5 ?_
    refine zr_aload_n (pc := 6) hX 0 rfl rfl dX1_name_6 ?_
    obtain ⟨r3, gr3, h⟩ := bnd h
    refine zr_fv (pc := 7) hX za0_2 (zgR_spec gr3) q266 (Or.inl rfl) dX1_name_7 ?_
    obtain ⟨u4, gu4, h⟩ := bnd h
    obtain ⟨t5, gt5, h⟩ := bnd h
    refine zr_callF (pc := 10) (rest := []) (stk' := [.int t5]) (k' := 2) (n' := 12) hX (fun l s0 D => mJ2_size l s0 D gt5) gu4 zwJ2_size (by decide) q378 q384 q382 rfl rfl rfl rfl rfl rfl rfl rfl rfl dX1_name_10 ?_
    refine zr_bipush (pc := 15) hX zcb_6 dX1_name_15 ?_
    obtain ⟨t6, gt6, h⟩ := bnd h
    have hJt6 : ∀ a, t6 = a → VW K σ sz 2 12 25 [(0, .ref th), (1, .int p0)] [.int a] := by
      intro a ea
      subst ea
      obtain ⟨u15, gu15, hxu15, hnu15⟩ := zthr_bnd h
      rcases u15 with e16 | t7
      · have h := hxu15 _ rfl
        have hxx := hexc _ (Option.some.inj h).symm
        exact zr_callSX (pc := 25) (rest := []) hX hxx.1 hxx.2.1 (fun l s0 D hl => xX1_checkState l s0 D hl gu15) zwX1_checkState q790 q791 rfl rfl rfl rfl rfl dX1_name_25
      · have h := hnu15 _ rfl
        refine zr_callS (pc := 25) (rest := []) (stk' := []) (k' := 3) (n' := 18) hX (fun l s0 D => mX1_checkState l s0 D gu15) zwX1_checkState q790 q791 rfl rfl rfl rfl rfl rfl rfl rfl dX1_name_25 ?_
        refine zr_aload_n (pc := 28) hX 0 rfl rfl dX1_name_28 ?_
        obtain ⟨r8, gr8, h⟩ := bnd h
        refine zr_fv (pc := 29) hX za0_2 (zgR_spec gr8) q266 (Or.inl rfl) dX1_name_29 ?_
        refine zr_iload_n (pc := 32) hX 1 rfl rfl dX1_name_32 ?_
        obtain ⟨t9, gt9, h⟩ := bnd h
        refine zr_callS (pc := 33) (rest := [.ref r8]) (stk' := [.ref t9, .ref r8]) (k' := 3) (n' := 18) hX (fun l s0 D => mJ18_valueOf l s0 D gt9) zwJ18_valueOf q949 q950 rfl rfl rfl rfl rfl rfl rfl rfl dX1_name_33 ?_
        obtain ⟨u10, gu10, h⟩ := bnd h
        obtain ⟨t11, gt11, h⟩ := bnd h
        refine zr_callF (pc := 36) (rest := []) (stk' := [.int t11.2.2]) (k' := 4) (n' := 384) hX (fun l s0 D => mJ2_add l s0 D gt11) gu10 zwJ2_add (by decide) q809 q814 q812 rfl rfl rfl rfl rfl rfl rfl rfl rfl dX1_name_36 ?_
        refine zr_pop (pc := 41) hX rfl dX1_name_41 ?_
        refine zr_aload_n (pc := 42) hX 0 rfl rfl dX1_name_42 ?_
        obtain ⟨r12, gr12, h⟩ := bnd h
        refine zr_fv (pc := 43) hX za0_2 (zgR_spec gr12) q266 (Or.inl rfl) dX1_name_43 ?_
        obtain ⟨u13, gu13, h⟩ := bnd h
        obtain ⟨t14, gt14, h⟩ := bnd h
        refine zr_callF (pc := 46) (rest := []) (stk' := [.int t14]) (k' := 4) (n' := 384) hX (fun l s0 D => mJ2_size l s0 D gt14) gu13 zwJ2_size (by decide) q378 q384 q382 rfl rfl rfl rfl rfl rfl rfl rfl rfl dX1_name_46 ?_
        refine VW.widen 5 390 ?_ (Nat.le_of_ble_eq_true rfl) (Nat.le_of_ble_eq_true rfl)
        exact hret _ (Option.some.inj h).symm _ _ dX1_name_51 (Or.inl rfl)
    replace h := gt6
    refine zr_icmp_ge (pc := 17) hX 24 rfl dX1_name_17 (fun c17_16 => ?_) (fun c17_16 => ?_)
    · rw [if_pos c17_16] at h
      refine zr_iconst (pc := 24) hX zci_0 dX1_name_24 ?_
      exact VW.sub (hJt6 (0 : Int32) (Option.some.inj h).symm) [0, 1] rfl
    · rw [if_neg c17_16] at h
      refine zr_iconst (pc := 20) hX zci_1 dX1_name_20 ?_
      refine zr_goto (pc := 21) hX 25 rfl dX1_name_21 ?_
      exact VW.sub (hJt6 (1 : Int32) (Option.some.inj h).symm) [0, 1] rfl
theorem mX1_name (l : Launch) (s0 : State) (D : zD) {σ : zH} {sz : Nat} {th : Nat} {p0 : Int32} {o : zH × Nat × Int32} (h : fX1_name σ sz th p0 = some (.inr o)) : zM l s0 D yX1_name cX1_name 2 (some .int) 9 191 5 390 [.ref th, .int p0] σ sz o.1 o.2.1 (some (.int o.2.2)) := by
  refine zenter (own := RX1) zplX1 rfl (Nat.le_of_ble_eq_true rfl) trivial (fun K hX hnm hret => ?_)
  exact wX1_name hX hnm h (fun a e => by cases e; exact hret) (fun e q => by cases q)
theorem xX1_name (l : Launch) (s0 : State) (D : zD) (hl : l.stackTraces = false) {σ : zH} {sz : Nat} {th : Nat} {p0 : Int32} {e : zX} (h : fX1_name σ sz th p0 = some (.inl e)) : zMX l s0 D yX1_name cX1_name 2 (some .int) 9 191 5 390 [.ref th, .int p0] σ sz e.1 e.2 := by
  refine zenterX (own := RX1) hl zplX1 rfl (Nat.le_of_ble_eq_true rfl) (fun K hX hnm hT hx hth => ?_)
  exact wX1_name hX hnm h (fun a q => by cases q) (fun e' q => by cases q; exact ⟨hT, hx, (fun q => hth rfl (by decide) (by decide) (by decide) (by decide) q.symm)⟩)
set_option maxHeartbeats 4000000 in
theorem wX1_number {K : zC} {σ : zH} {sz : Nat} {th : Nat} {p0 : Int32} {o : (zX ⊕ (zH × Nat × Int32))} (hX : zOk K RX1 cX1_number (some .int) 2 9 191 4 384) (hnm : zNm K yX1_number) (h : fX1_number σ sz th p0 = some o) (hret : ∀ a, o = .inr a → zRet K cX1_number (some .int) a.1 a.2.1 4 384 (some (.int a.2.2))) (hexc : ∀ e, o = .inl e → zTr K ∧ zXok K e.1 e.2 4 384 ∧ (e.2 = σ → zTh K cX1_number e.1 σ sz)) : VW K σ sz 0 0 0 [(0, .ref th), (1, .int p0)] [] := by
  unfold fX1_number at h
  refine zr_iload_n (pc := 0) hX 1 rfl rfl dX1_number_0 ?_
  refine zr_bipush (pc := 1) hX zcb_m9 dX1_number_1 ?_
  refine zr_bipush (pc := 3) hX zcb_9 dX1_number_3 ?_
  obtain ⟨u17, gu17, hxu17, hnu17⟩ := zthr_bnd h
  rcases u17 with e18 | t1
  · have h := hxu17 _ rfl
    have hxx := hexc _ (Option.some.inj h).symm
    exact zr_callSX (pc := 5) (rest := []) hX hxx.1 hxx.2.1 (fun l s0 D hl => xX1_check l s0 D hl gu17) zwX1_check q693 q694 rfl rfl rfl rfl rfl dX1_number_5
  · have h := hnu17 _ rfl
    refine zr_callS (pc := 5) (rest := []) (stk' := []) (k' := 1) (n' := 6) hX (fun l s0 D => mX1_check l s0 D gu17) zwX1_check q693 q694 rfl rfl rfl rfl rfl rfl rfl rfl dX1_number_5 ?_
    refine zr_aload_n (pc := 8) hX 0 rfl rfl dX1_number_8 ?_
    obtain ⟨r2, gr2, h⟩ := bnd h
    refine zr_fv (pc := 9) hX za0_3 (zgR_spec gr2) q267 (Or.inl rfl) dX1_number_9 ?_
    obtain ⟨u3, gu3, h⟩ := bnd h
    obtain ⟨t4, gt4, h⟩ := bnd h
    refine zr_callF (pc := 12) (rest := []) (stk' := [.int t4]) (k' := 1) (n' := 6) hX (fun l s0 D => mJ2_size l s0 D gt4) gu3 zwJ2_size (by decide) q378 q384 q382 rfl rfl rfl rfl rfl rfl rfl rfl rfl dX1_number_12 ?_
    refine zr_bipush (pc := 17) hX zcb_6 dX1_number_17 ?_
    obtain ⟨t5, gt5, h⟩ := bnd h
    have hJt5 : ∀ a, t5 = a → VW K σ sz 1 6 27 [(0, .ref th), (1, .int p0)] [.int a] := by
      intro a ea
      subst ea
      obtain ⟨u14, gu14, hxu14, hnu14⟩ := zthr_bnd h
      rcases u14 with e15 | t6
      · have h := hxu14 _ rfl
        have hxx := hexc _ (Option.some.inj h).symm
        exact zr_callSX (pc := 27) (rest := []) hX hxx.1 hxx.2.1 (fun l s0 D hl => xX1_checkState l s0 D hl gu14) zwX1_checkState q790 q791 rfl rfl rfl rfl rfl dX1_number_27
      · have h := hnu14 _ rfl
        refine zr_callS (pc := 27) (rest := []) (stk' := []) (k' := 2) (n' := 12) hX (fun l s0 D => mX1_checkState l s0 D gu14) zwX1_checkState q790 q791 rfl rfl rfl rfl rfl rfl rfl rfl dX1_number_27 ?_
        refine zr_aload_n (pc := 30) hX 0 rfl rfl dX1_number_30 ?_
        obtain ⟨r7, gr7, h⟩ := bnd h
        refine zr_fv (pc := 31) hX za0_3 (zgR_spec gr7) q267 (Or.inl rfl) dX1_number_31 ?_
        refine zr_iload_n (pc := 34) hX 1 rfl rfl dX1_number_34 ?_
        obtain ⟨t8, gt8, h⟩ := bnd h
        refine zr_callS (pc := 35) (rest := [.ref r7]) (stk' := [.ref t8, .ref r7]) (k' := 2) (n' := 12) hX (fun l s0 D => mJ18_valueOf l s0 D gt8) zwJ18_valueOf q949 q950 rfl rfl rfl rfl rfl rfl rfl rfl dX1_number_35 ?_
        obtain ⟨u9, gu9, h⟩ := bnd h
        obtain ⟨t10, gt10, h⟩ := bnd h
        refine zr_callF (pc := 38) (rest := []) (stk' := [.int t10.2.2]) (k' := 3) (n' := 378) hX (fun l s0 D => mJ2_add l s0 D gt10) gu9 zwJ2_add (by decide) q809 q814 q812 rfl rfl rfl rfl rfl rfl rfl rfl rfl dX1_number_38 ?_
        refine zr_pop (pc := 43) hX rfl dX1_number_43 ?_
        refine zr_aload_n (pc := 44) hX 0 rfl rfl dX1_number_44 ?_
        obtain ⟨r11, gr11, h⟩ := bnd h
        refine zr_fv (pc := 45) hX za0_3 (zgR_spec gr11) q267 (Or.inl rfl) dX1_number_45 ?_
        obtain ⟨u12, gu12, h⟩ := bnd h
        obtain ⟨t13, gt13, h⟩ := bnd h
        refine zr_callF (pc := 48) (rest := []) (stk' := [.int t13]) (k' := 3) (n' := 378) hX (fun l s0 D => mJ2_size l s0 D gt13) gu12 zwJ2_size (by decide) q378 q384 q382 rfl rfl rfl rfl rfl rfl rfl rfl rfl dX1_number_48 ?_
        refine VW.widen 4 384 ?_ (Nat.le_of_ble_eq_true rfl) (Nat.le_of_ble_eq_true rfl)
        exact hret _ (Option.some.inj h).symm _ _ dX1_number_53 (Or.inl rfl)
    replace h := gt5
    refine zr_icmp_ge (pc := 19) hX 26 rfl dX1_number_19 (fun c19_15 => ?_) (fun c19_15 => ?_)
    · rw [if_pos c19_15] at h
      refine zr_iconst (pc := 26) hX zci_0 dX1_number_26 ?_
      exact VW.sub (hJt5 (0 : Int32) (Option.some.inj h).symm) [0, 1] rfl
    · rw [if_neg c19_15] at h
      refine zr_iconst (pc := 22) hX zci_1 dX1_number_22 ?_
      refine zr_goto (pc := 23) hX 27 rfl dX1_number_23 ?_
      exact VW.sub (hJt5 (1 : Int32) (Option.some.inj h).symm) [0, 1] rfl
theorem mX1_number (l : Launch) (s0 : State) (D : zD) {σ : zH} {sz : Nat} {th : Nat} {p0 : Int32} {o : zH × Nat × Int32} (h : fX1_number σ sz th p0 = some (.inr o)) : zM l s0 D yX1_number cX1_number 2 (some .int) 9 191 4 384 [.ref th, .int p0] σ sz o.1 o.2.1 (some (.int o.2.2)) := by
  refine zenter (own := RX1) zplX1 rfl (Nat.le_of_ble_eq_true rfl) trivial (fun K hX hnm hret => ?_)
  exact wX1_number hX hnm h (fun a e => by cases e; exact hret) (fun e q => by cases q)
theorem xX1_number (l : Launch) (s0 : State) (D : zD) (hl : l.stackTraces = false) {σ : zH} {sz : Nat} {th : Nat} {p0 : Int32} {e : zX} (h : fX1_number σ sz th p0 = some (.inl e)) : zMX l s0 D yX1_number cX1_number 2 (some .int) 9 191 4 384 [.ref th, .int p0] σ sz e.1 e.2 := by
  refine zenterX (own := RX1) hl zplX1 rfl (Nat.le_of_ble_eq_true rfl) (fun K hX hnm hT hx hth => ?_)
  exact wX1_number hX hnm h (fun a q => by cases q) (fun e' q => by cases q; exact ⟨hT, hx, (fun q => hth rfl (by decide) (by decide) (by decide) (by decide) q.symm)⟩)
set_option maxHeartbeats 4000000 in
theorem wX1_move {K : zC} {σ : zH} {sz : Nat} {th : Nat} {p0 : Int32} {p1 : Int32} {p2 : Int32} {o : (zX ⊕ (zH × Nat × Int32))} (hX : zOk K RX1 cX1_move (some .int) 4 9 191 7 399) (hnm : zNm K yX1_move) (h : fX1_move σ sz th p0 p1 p2 = some o) (hret : ∀ a, o = .inr a → zRet K cX1_move (some .int) a.1 a.2.1 7 399 (some (.int a.2.2))) (hexc : ∀ e, o = .inl e → zTr K ∧ zXok K e.1 e.2 7 399 ∧ (e.2 = σ → zTh K cX1_move e.1 σ sz)) : VW K σ sz 0 0 0 [(0, .ref th), (1, .int p0), (2, .int p1), (3, .int p2)] [] := by
  unfold fX1_move at h
  refine zr_iload_n (pc := 0) hX 1 rfl rfl dX1_move_0 ?_
  refine zr_iconst (pc := 1) hX zci_0 dX1_move_1 ?_
  refine zr_iconst (pc := 2) hX zci_5 dX1_move_2 ?_
  obtain ⟨u25, gu25, hxu25, hnu25⟩ := zthr_bnd h
  rcases u25 with e26 | t1
  · have h := hxu25 _ rfl
    have hxx := hexc _ (Option.some.inj h).symm
    exact zr_callSX (pc := 3) (rest := []) hX hxx.1 hxx.2.1 (fun l s0 D hl => xX1_check l s0 D hl gu25) zwX1_check q693 q694 rfl rfl rfl rfl rfl dX1_move_3
  · have h := hnu25 _ rfl
    refine zr_callS (pc := 3) (rest := []) (stk' := []) (k' := 1) (n' := 6) hX (fun l s0 D => mX1_check l s0 D gu25) zwX1_check q693 q694 rfl rfl rfl rfl rfl rfl rfl rfl dX1_move_3 ?_
    refine zr_iload_n (pc := 6) hX 2 rfl rfl dX1_move_6 ?_
    refine zr_iconst (pc := 7) hX zci_0 dX1_move_7 ?_
    refine zr_gets (pc := 8) hX 0 rfl q761 dX1_move_8 ?_
    refine zr_iconst (pc := 11) hX zci_0 dX1_move_11 ?_
    obtain ⟨x2, gx2, h⟩ := bnd h
    refine zr_aI (pc := 12) hX gx2 dX1_move_12 ?_
    obtain ⟨u23, gu23, hxu23, hnu23⟩ := zthr_bnd h
    rcases u23 with e24 | t3
    · have h := hxu23 _ rfl
      have hxx := hexc _ (Option.some.inj h).symm
      exact zr_callSX (pc := 13) (rest := []) hX hxx.1 hxx.2.1 (fun l s0 D hl => xX1_check l s0 D hl gu23) zwX1_check q693 q694 rfl rfl rfl rfl rfl dX1_move_13
    · have h := hnu23 _ rfl
      refine zr_callS (pc := 13) (rest := []) (stk' := []) (k' := 2) (n' := 12) hX (fun l s0 D => mX1_check l s0 D gu23) zwX1_check q693 q694 rfl rfl rfl rfl rfl rfl rfl rfl dX1_move_13 ?_
      refine zr_iload_n (pc := 16) hX 3 rfl rfl dX1_move_16 ?_
      refine zr_iconst (pc := 17) hX zci_0 dX1_move_17 ?_
      refine zr_iconst (pc := 18) hX zci_5 dX1_move_18 ?_
      obtain ⟨u21, gu21, hxu21, hnu21⟩ := zthr_bnd h
      rcases u21 with e22 | t4
      · have h := hxu21 _ rfl
        have hxx := hexc _ (Option.some.inj h).symm
        exact zr_callSX (pc := 19) (rest := []) hX hxx.1 hxx.2.1 (fun l s0 D hl => xX1_check l s0 D hl gu21) zwX1_check q693 q694 rfl rfl rfl rfl rfl dX1_move_19
      · have h := hnu21 _ rfl
        refine zr_callS (pc := 19) (rest := []) (stk' := []) (k' := 3) (n' := 18) hX (fun l s0 D => mX1_check l s0 D gu21) zwX1_check q693 q694 rfl rfl rfl rfl rfl rfl rfl rfl dX1_move_19 ?_
        refine zr_aload_n (pc := 22) hX 0 rfl rfl dX1_move_22 ?_
        obtain ⟨r5, gr5, h⟩ := bnd h
        refine zr_fv (pc := 23) hX za0_4 (zgR_spec gr5) q268 (Or.inl rfl) dX1_move_23 ?_
        obtain ⟨u6, gu6, h⟩ := bnd h
        obtain ⟨t7, gt7, h⟩ := bnd h
        refine zr_callF (pc := 26) (rest := []) (stk' := [.int t7]) (k' := 3) (n' := 18) hX (fun l s0 D => mJ2_size l s0 D gt7) gu6 zwJ2_size (by decide) q378 q384 q382 rfl rfl rfl rfl rfl rfl rfl rfl rfl dX1_move_26 ?_
        refine zr_bipush (pc := 31) hX zcb_16 dX1_move_31 ?_
        obtain ⟨t8, gt8, h⟩ := bnd h
        have hJt8 : ∀ a, t8 = a → VW K σ sz 3 18 41 [(0, .ref th), (1, .int p0), (2, .int p1), (3, .int p2)] [.int a] := by
          intro a ea
          subst ea
          obtain ⟨u18, gu18, hxu18, hnu18⟩ := zthr_bnd h
          rcases u18 with e19 | t9
          · have h := hxu18 _ rfl
            have hxx := hexc _ (Option.some.inj h).symm
            exact zr_callSX (pc := 41) (rest := []) hX hxx.1 hxx.2.1 (fun l s0 D hl => xX1_checkState l s0 D hl gu18) zwX1_checkState q790 q791 rfl rfl rfl rfl rfl dX1_move_41
          · have h := hnu18 _ rfl
            refine zr_callS (pc := 41) (rest := []) (stk' := []) (k' := 4) (n' := 24) hX (fun l s0 D => mX1_checkState l s0 D gu18) zwX1_checkState q790 q791 rfl rfl rfl rfl rfl rfl rfl rfl dX1_move_41 ?_
            refine zr_aload_n (pc := 44) hX 0 rfl rfl dX1_move_44 ?_
            obtain ⟨r10, gr10, h⟩ := bnd h
            refine zr_fv (pc := 45) hX za0_4 (zgR_spec gr10) q268 (Or.inl rfl) dX1_move_45 ?_
            obtain ⟨σ11, gσ11, h⟩ := bnd h
            refine zr_new (pc := 48) (k' := 5) (n' := 27) (sz' := sz + 1) hX zc6 tyX7_ok zfs6 q983 q984 q137 rfl rfl rfl (Option.some.inj gσ11) rfl dX1_move_48 ?_
            refine zr_dup (pc := 51) hX rfl dX1_move_51 ?_
            refine zr_iload_n (pc := 52) hX 1 rfl rfl dX1_move_52 ?_
            refine zr_iload_n (pc := 53) hX 2 rfl rfl dX1_move_53 ?_
            refine zr_iload_n (pc := 54) hX 3 rfl rfl dX1_move_54 ?_
            obtain ⟨t12, gt12, h⟩ := bnd h
            refine zr_callIN (pc := 55) (rest := [.ref sz, .ref r10]) (k' := 5) (n' := 27) hX (fun l s0 D => mX7_init l s0 D gt12) zwX7_init q985 q986 rfl rfl rfl rfl rfl rfl rfl rfl dX1_move_55 ?_
            obtain ⟨u13, gu13, h⟩ := bnd h
            obtain ⟨t14, gt14, h⟩ := bnd h
            refine zr_callF (pc := 58) (rest := []) (stk' := [.int t14.2.2]) (k' := 6) (n' := 393) hX (fun l s0 D => mJ2_add l s0 D gt14) gu13 zwJ2_add (by decide) q809 q814 q812 rfl rfl rfl rfl rfl rfl rfl rfl rfl dX1_move_58 ?_
            refine zr_pop (pc := 63) hX rfl dX1_move_63 ?_
            refine zr_aload_n (pc := 64) hX 0 rfl rfl dX1_move_64 ?_
            obtain ⟨r15, gr15, h⟩ := bnd h
            refine zr_fv (pc := 65) hX za0_4 (zgR_spec gr15) q268 (Or.inl rfl) dX1_move_65 ?_
            obtain ⟨u16, gu16, h⟩ := bnd h
            obtain ⟨t17, gt17, h⟩ := bnd h
            refine zr_callF (pc := 68) (rest := []) (stk' := [.int t17]) (k' := 6) (n' := 393) hX (fun l s0 D => mJ2_size l s0 D gt17) gu16 zwJ2_size (by decide) q378 q384 q382 rfl rfl rfl rfl rfl rfl rfl rfl rfl dX1_move_68 ?_
            refine VW.widen 7 399 ?_ (Nat.le_of_ble_eq_true rfl) (Nat.le_of_ble_eq_true rfl)
            exact hret _ (Option.some.inj h).symm _ _ dX1_move_73 (Or.inl rfl)
        replace h := gt8
        refine zr_icmp_ge (pc := 33) hX 40 rfl dX1_move_33 (fun c33_19 => ?_) (fun c33_19 => ?_)
        · rw [if_pos c33_19] at h
          refine zr_iconst (pc := 40) hX zci_0 dX1_move_40 ?_
          exact VW.sub (hJt8 (0 : Int32) (Option.some.inj h).symm) [0, 1, 2, 3] rfl
        · rw [if_neg c33_19] at h
          refine zr_iconst (pc := 36) hX zci_1 dX1_move_36 ?_
          refine zr_goto (pc := 37) hX 41 rfl dX1_move_37 ?_
          exact VW.sub (hJt8 (1 : Int32) (Option.some.inj h).symm) [0, 1, 2, 3] rfl
theorem mX1_move (l : Launch) (s0 : State) (D : zD) {σ : zH} {sz : Nat} {th : Nat} {p0 : Int32} {p1 : Int32} {p2 : Int32} {o : zH × Nat × Int32} (h : fX1_move σ sz th p0 p1 p2 = some (.inr o)) : zM l s0 D yX1_move cX1_move 4 (some .int) 9 191 7 399 [.ref th, .int p0, .int p1, .int p2] σ sz o.1 o.2.1 (some (.int o.2.2)) := by
  refine zenter (own := RX1) zplX1 rfl (Nat.le_of_ble_eq_true rfl) trivial (fun K hX hnm hret => ?_)
  exact wX1_move hX hnm h (fun a e => by cases e; exact hret) (fun e q => by cases q)
theorem xX1_move (l : Launch) (s0 : State) (D : zD) (hl : l.stackTraces = false) {σ : zH} {sz : Nat} {th : Nat} {p0 : Int32} {p1 : Int32} {p2 : Int32} {e : zX} (h : fX1_move σ sz th p0 p1 p2 = some (.inl e)) : zMX l s0 D yX1_move cX1_move 4 (some .int) 9 191 7 399 [.ref th, .int p0, .int p1, .int p2] σ sz e.1 e.2 := by
  refine zenterX (own := RX1) hl zplX1 rfl (Nat.le_of_ble_eq_true rfl) (fun K hX hnm hT hx hth => ?_)
  exact wX1_move hX hnm h (fun a q => by cases q) (fun e' q => by cases q; exact ⟨hT, hx, (fun q => hth rfl (by decide) (by decide) (by decide) (by decide) q.symm)⟩)
set_option maxHeartbeats 4000000 in
theorem wX1_checkValue {K : zC} {σ : zH} {sz : Nat} {th : Nat} {p0 : Int32} {p1 : Int32} {o : (zX ⊕ Unit)} (hX : zOk K RX1 cX1_checkValue none 4 8 142 5 30) (hnm : zNm K yX1_checkValue) (h : fX1_checkValue σ th p0 p1 = some o) (hret : ∀ a, o = .inr a → zRet K cX1_checkValue none σ sz 5 30 none) (hexc : ∀ e, o = .inl e → zTr K ∧ zXok K e.1 e.2 5 30 ∧ (e.2 = σ → zTh K cX1_checkValue e.1 σ sz)) : VW K σ sz 0 0 0 [(0, .ref th), (1, .int p0), (2, .int p1)] [] := by
  unfold fX1_checkValue at h
  refine zr_aload_n (pc := 0) hX 0 rfl rfl dX1_checkValue_0 ?_
  refine zr_iload_n (pc := 1) hX 1 rfl rfl dX1_checkValue_1 ?_
  obtain ⟨u1, gu1, h⟩ := bnd h
  obtain ⟨u13, gu13, hxu13, hnu13⟩ := zthr_bnd h
  rcases u13 with e14 | t2
  · have h := hxu13 _ rfl
    have hxx := hexc _ (Option.some.inj h).symm
    exact zr_callVX (pc := 2) (rest := []) hX hxx.1 hxx.2.1 (fun l s0 D hl => xX1_variable_2 l s0 D hl gu13) gu1 zc0 zwX1_variable_2 q927 q929 qs25 rfl rfl rfl rfl rfl rfl dX1_checkValue_2
  · have h := hnu13 _ rfl
    refine zr_callVs (pc := 2) (rest := []) (stk' := [.ref t2]) (k' := 2) (n' := 12) hX (fun l s0 D => mX1_variable_2 l s0 D gu13) gu1 zc0 zwX1_variable_2 q927 q929 qs25 rfl rfl rfl rfl rfl rfl rfl rfl rfl dX1_checkValue_2 ?_
    refine zr_astore_n (pc := 5) hX rfl rfl (Nat.le_of_ble_eq_true rfl) rfl dX1_checkValue_5 ?_
    refine zr_aload_n (pc := 6) hX 0 rfl rfl dX1_checkValue_6 ?_
    obtain ⟨u3, gu3, h⟩ := bnd h
    obtain ⟨t4, gt4, h⟩ := bnd h
    refine zr_callVs (pc := 7) (rest := []) (stk' := [.int t4]) (k' := 2) (n' := 12) hX (fun l s0 D => mX6_kind l s0 D gt4) gu3 zc5 zwX6_kind q454 q455 q456 rfl rfl rfl rfl rfl rfl rfl rfl rfl dX1_checkValue_7 ?_
    refine zr_iconst (pc := 10) hX zci_0 dX1_checkValue_10 ?_
    refine zr_iconst (pc := 11) hX zci_2 dX1_checkValue_11 ?_
    obtain ⟨u11, gu11, hxu11, hnu11⟩ := zthr_bnd h
    rcases u11 with e12 | t5
    · have h := hxu11 _ rfl
      have hxx := hexc _ (Option.some.inj h).symm
      exact zr_callSX (pc := 12) (rest := []) hX hxx.1 hxx.2.1 (fun l s0 D hl => xX1_check l s0 D hl gu11) zwX1_check q693 q694 rfl rfl rfl rfl rfl dX1_checkValue_12
    · have h := hnu11 _ rfl
      refine zr_callS (pc := 12) (rest := []) (stk' := []) (k' := 3) (n' := 18) hX (fun l s0 D => mX1_check l s0 D gu11) zwX1_check q693 q694 rfl rfl rfl rfl rfl rfl rfl rfl dX1_checkValue_12 ?_
      refine zr_iload_n (pc := 15) hX 3 rfl rfl dX1_checkValue_15 ?_
      refine zr_iconst (pc := 16) hX zci_0 dX1_checkValue_16 ?_
      refine zr_aload_n (pc := 17) hX 0 rfl rfl dX1_checkValue_17 ?_
      obtain ⟨u6, gu6, h⟩ := bnd h
      obtain ⟨t7, gt7, h⟩ := bnd h
      refine zr_callVs (pc := 18) (rest := [.int (0 : Int32), .int p1]) (stk' := [.int t7, .int (0 : Int32), .int p1]) (k' := 3) (n' := 18) hX (fun l s0 D => mX6_greatest l s0 D gt7) gu6 zc5 zwX6_greatest q1010 q1011 q1012 rfl rfl rfl rfl rfl rfl rfl rfl rfl dX1_checkValue_18 ?_
      obtain ⟨u9, gu9, hxu9, hnu9⟩ := zthr_bnd h
      rcases u9 with e10 | t8
      · have h := hxu9 _ rfl
        have hxx := hexc _ (Option.some.inj h).symm
        exact zr_callSX (pc := 21) (rest := []) hX hxx.1 hxx.2.1 (fun l s0 D hl => xX1_check l s0 D hl gu9) zwX1_check q693 q694 rfl rfl rfl rfl rfl dX1_checkValue_21
      · have h := hnu9 _ rfl
        refine zr_callS (pc := 21) (rest := []) (stk' := []) (k' := 4) (n' := 24) hX (fun l s0 D => mX1_check l s0 D gu9) zwX1_check q693 q694 rfl rfl rfl rfl rfl rfl rfl rfl dX1_checkValue_21 ?_
        refine VW.widen 5 30 ?_ (Nat.le_of_ble_eq_true rfl) (Nat.le_of_ble_eq_true rfl)
        exact hret _ (Option.some.inj h).symm _ _ dX1_checkValue_24
theorem mX1_checkValue (l : Launch) (s0 : State) (D : zD) {σ : zH} {sz : Nat} {th : Nat} {p0 : Int32} {p1 : Int32} {o : Unit} (h : fX1_checkValue σ th p0 p1 = some (.inr o)) : zM l s0 D yX1_checkValue cX1_checkValue 4 none 8 142 5 30 [.ref th, .int p0, .int p1] σ sz σ sz none := by
  refine zenter (own := RX1) zplX1 rfl (Nat.le_of_ble_eq_true rfl) rfl (fun K hX hnm hret => ?_)
  exact wX1_checkValue hX hnm h (fun a e => by cases e; exact hret) (fun e q => by cases q)
theorem xX1_checkValue (l : Launch) (s0 : State) (D : zD) (hl : l.stackTraces = false) {σ : zH} {sz : Nat} {th : Nat} {p0 : Int32} {p1 : Int32} {e : zX} (h : fX1_checkValue σ th p0 p1 = some (.inl e)) : zMX l s0 D yX1_checkValue cX1_checkValue 4 none 8 142 5 30 [.ref th, .int p0, .int p1] σ sz e.1 e.2 := by
  refine zenterX (own := RX1) hl zplX1 rfl (Nat.le_of_ble_eq_true rfl) (fun K hX hnm hT hx hth => ?_)
  exact wX1_checkValue hX hnm h (fun a q => by cases q) (fun e' q => by cases q; exact ⟨hT, hx, (fun q => hth rfl (by decide) (by decide) (by decide) (by decide) q.symm)⟩)
set_option maxHeartbeats 4000000 in
theorem wX1_literal {K : zC} {σ : zH} {sz : Nat} {th : Nat} {p0 : Int32} {p1 : Int32} {p2 : Int32} {o : (zX ⊕ (zH × Nat × Int32))} (hX : zOk K RX1 cX1_literal (some .int) 4 9 191 9 411) (hnm : zNm K yX1_literal) (h : fX1_literal σ sz th p0 p1 p2 = some o) (hret : ∀ a, o = .inr a → zRet K cX1_literal (some .int) a.1 a.2.1 9 411 (some (.int a.2.2))) (hexc : ∀ e, o = .inl e → zTr K ∧ zXok K e.1 e.2 9 411 ∧ (e.2 = σ → zTh K cX1_literal e.1 σ sz)) : VW K σ sz 0 0 0 [(0, .ref th), (1, .int p0), (2, .int p1), (3, .int p2)] [] := by
  unfold fX1_literal at h
  refine zr_aload_n (pc := 0) hX 0 rfl rfl dX1_literal_0 ?_
  refine zr_iload_n (pc := 1) hX 1 rfl rfl dX1_literal_1 ?_
  refine zr_iload_n (pc := 2) hX 2 rfl rfl dX1_literal_2 ?_
  obtain ⟨u1, gu1, h⟩ := bnd h
  obtain ⟨u19, gu19, hxu19, hnu19⟩ := zthr_bnd h
  rcases u19 with e20 | t2
  · have h := hxu19 _ rfl
    have hxx := hexc _ (Option.some.inj h).symm
    exact zr_callVX (pc := 3) (rest := []) hX hxx.1 hxx.2.1 (fun l s0 D hl => xX1_checkValue l s0 D hl gu19) gu1 zc0 zwX1_checkValue q1006 q1008 qs26 rfl rfl rfl rfl rfl rfl dX1_literal_3
  · have h := hnu19 _ rfl
    refine zr_callVs (pc := 3) (rest := []) (stk' := []) (k' := 5) (n' := 30) hX (fun l s0 D => mX1_checkValue l s0 D gu19) gu1 zc0 zwX1_checkValue q1006 q1008 qs26 rfl rfl rfl rfl rfl rfl rfl rfl rfl dX1_literal_3 ?_
    refine zr_aload_n (pc := 6) hX 0 rfl rfl dX1_literal_6 ?_
    obtain ⟨r3, gr3, h⟩ := bnd h
    refine zr_fv (pc := 7) hX za0_5 (zgR_spec gr3) q269 (Or.inl rfl) dX1_literal_7 ?_
    obtain ⟨u4, gu4, h⟩ := bnd h
    obtain ⟨t5, gt5, h⟩ := bnd h
    refine zr_callF (pc := 10) (rest := []) (stk' := [.int t5]) (k' := 5) (n' := 30) hX (fun l s0 D => mJ2_size l s0 D gt5) gu4 zwJ2_size (by decide) q378 q384 q382 rfl rfl rfl rfl rfl rfl rfl rfl rfl dX1_literal_10 ?_
    refine zr_bipush (pc := 15) hX zcb_6 dX1_literal_15 ?_
    obtain ⟨t6, gt6, h⟩ := bnd h
    have hJt6 : ∀ a, t6 = a → VW K σ sz 5 30 25 [(0, .ref th), (1, .int p0), (2, .int p1), (3, .int p2)] [.int a] := by
      intro a ea
      subst ea
      obtain ⟨u16, gu16, hxu16, hnu16⟩ := zthr_bnd h
      rcases u16 with e17 | t7
      · have h := hxu16 _ rfl
        have hxx := hexc _ (Option.some.inj h).symm
        exact zr_callSX (pc := 25) (rest := []) hX hxx.1 hxx.2.1 (fun l s0 D hl => xX1_checkState l s0 D hl gu16) zwX1_checkState q790 q791 rfl rfl rfl rfl rfl dX1_literal_25
      · have h := hnu16 _ rfl
        refine zr_callS (pc := 25) (rest := []) (stk' := []) (k' := 6) (n' := 36) hX (fun l s0 D => mX1_checkState l s0 D gu16) zwX1_checkState q790 q791 rfl rfl rfl rfl rfl rfl rfl rfl dX1_literal_25 ?_
        refine zr_aload_n (pc := 28) hX 0 rfl rfl dX1_literal_28 ?_
        obtain ⟨r8, gr8, h⟩ := bnd h
        refine zr_fv (pc := 29) hX za0_5 (zgR_spec gr8) q269 (Or.inl rfl) dX1_literal_29 ?_
        obtain ⟨σ9, gσ9, h⟩ := bnd h
        refine zr_new (pc := 32) (k' := 7) (n' := 39) (sz' := sz + 1) hX zc7 tyX8_ok zfs7 q1015 q1016 q138 rfl rfl rfl (Option.some.inj gσ9) rfl dX1_literal_32 ?_
        refine zr_dup (pc := 35) hX rfl dX1_literal_35 ?_
        refine zr_iload_n (pc := 36) hX 1 rfl rfl dX1_literal_36 ?_
        refine zr_iload_n (pc := 37) hX 2 rfl rfl dX1_literal_37 ?_
        refine zr_iload_n (pc := 38) hX 3 rfl rfl dX1_literal_38 ?_
        obtain ⟨t10, gt10, h⟩ := bnd h
        refine zr_callIN (pc := 39) (rest := [.ref sz, .ref r8]) (k' := 7) (n' := 39) hX (fun l s0 D => mX8_init l s0 D gt10) zwX8_init q1017 q1018 rfl rfl rfl rfl rfl rfl rfl rfl dX1_literal_39 ?_
        obtain ⟨u11, gu11, h⟩ := bnd h
        obtain ⟨t12, gt12, h⟩ := bnd h
        refine zr_callF (pc := 42) (rest := []) (stk' := [.int t12.2.2]) (k' := 8) (n' := 405) hX (fun l s0 D => mJ2_add l s0 D gt12) gu11 zwJ2_add (by decide) q809 q814 q812 rfl rfl rfl rfl rfl rfl rfl rfl rfl dX1_literal_42 ?_
        refine zr_pop (pc := 47) hX rfl dX1_literal_47 ?_
        refine zr_aload_n (pc := 48) hX 0 rfl rfl dX1_literal_48 ?_
        obtain ⟨r13, gr13, h⟩ := bnd h
        refine zr_fv (pc := 49) hX za0_5 (zgR_spec gr13) q269 (Or.inl rfl) dX1_literal_49 ?_
        obtain ⟨u14, gu14, h⟩ := bnd h
        obtain ⟨t15, gt15, h⟩ := bnd h
        refine zr_callF (pc := 52) (rest := []) (stk' := [.int t15]) (k' := 8) (n' := 405) hX (fun l s0 D => mJ2_size l s0 D gt15) gu14 zwJ2_size (by decide) q378 q384 q382 rfl rfl rfl rfl rfl rfl rfl rfl rfl dX1_literal_52 ?_
        refine VW.widen 9 411 ?_ (Nat.le_of_ble_eq_true rfl) (Nat.le_of_ble_eq_true rfl)
        exact hret _ (Option.some.inj h).symm _ _ dX1_literal_57 (Or.inl rfl)
    replace h := gt6
    refine zr_icmp_ge (pc := 17) hX 24 rfl dX1_literal_17 (fun c17_17 => ?_) (fun c17_17 => ?_)
    · rw [if_pos c17_17] at h
      refine zr_iconst (pc := 24) hX zci_0 dX1_literal_24 ?_
      exact VW.sub (hJt6 (0 : Int32) (Option.some.inj h).symm) [0, 1, 2, 3] rfl
    · rw [if_neg c17_17] at h
      refine zr_iconst (pc := 20) hX zci_1 dX1_literal_20 ?_
      refine zr_goto (pc := 21) hX 25 rfl dX1_literal_21 ?_
      exact VW.sub (hJt6 (1 : Int32) (Option.some.inj h).symm) [0, 1, 2, 3] rfl
theorem mX1_literal (l : Launch) (s0 : State) (D : zD) {σ : zH} {sz : Nat} {th : Nat} {p0 : Int32} {p1 : Int32} {p2 : Int32} {o : zH × Nat × Int32} (h : fX1_literal σ sz th p0 p1 p2 = some (.inr o)) : zM l s0 D yX1_literal cX1_literal 4 (some .int) 9 191 9 411 [.ref th, .int p0, .int p1, .int p2] σ sz o.1 o.2.1 (some (.int o.2.2)) := by
  refine zenter (own := RX1) zplX1 rfl (Nat.le_of_ble_eq_true rfl) trivial (fun K hX hnm hret => ?_)
  exact wX1_literal hX hnm h (fun a e => by cases e; exact hret) (fun e q => by cases q)
theorem xX1_literal (l : Launch) (s0 : State) (D : zD) (hl : l.stackTraces = false) {σ : zH} {sz : Nat} {th : Nat} {p0 : Int32} {p1 : Int32} {p2 : Int32} {e : zX} (h : fX1_literal σ sz th p0 p1 p2 = some (.inl e)) : zMX l s0 D yX1_literal cX1_literal 4 (some .int) 9 191 9 411 [.ref th, .int p0, .int p1, .int p2] σ sz e.1 e.2 := by
  refine zenterX (own := RX1) hl zplX1 rfl (Nat.le_of_ble_eq_true rfl) (fun K hX hnm hT hx hth => ?_)
  exact wX1_literal hX hnm h (fun a q => by cases q) (fun e' q => by cases q; exact ⟨hT, hx, (fun q => hth rfl (by decide) (by decide) (by decide) (by decide) q.symm)⟩)
set_option maxHeartbeats 4000000 in
theorem mX1_takeNames (l : Launch) (s0 : State) (D : zD) {σ : zH} {sz : Nat} {th : Nat} {o : zH × Nat × Nat} (h : fX1_takeNames σ sz th = some o) : zM l s0 D yX1_takeNames cX1_takeNames 2 (some (.object "java/util/List")) 5 90 1 3 [.ref th] σ sz o.1 o.2.1 (some (.ref o.2.2)) := by
  refine zenter (own := RX1) zplX1 rfl (Nat.le_of_ble_eq_true rfl) ⟨_, rfl, Or.inl ⟨_, rfl⟩⟩ (fun K hX hnm hret => ?_)
  unfold fX1_takeNames at h
  have hret : ∀ a, o = a → zRet K cX1_takeNames (some (.object "java/util/List")) a.1 a.2.1 1 3 (some (.ref a.2.2)) := fun a e => by cases e; exact hret
  show VW K σ sz 0 0 0 [(0, .ref th)] []
  refine zr_aload_n (pc := 0) hX 0 rfl rfl dX1_takeNames_0 ?_
  obtain ⟨r1, gr1, h⟩ := bnd h
  refine zr_fv (pc := 1) hX za0_2 (zgR_spec gr1) q266 (Or.inl rfl) dX1_takeNames_1 ?_
  refine zr_astore_n (pc := 4) hX rfl rfl (Nat.le_of_ble_eq_true rfl) rfl dX1_takeNames_4 ?_
  refine zr_aload_n (pc := 5) hX 1 rfl rfl dX1_takeNames_5 ?_
  obtain ⟨σ2, gσ2, h⟩ := bnd h
  refine zr_new (pc := 6) (k' := 1) (n' := 3) (sz' := sz + 1) hX zc18 tyJ2_ok zfs18 q158 q159 q113 rfl rfl rfl (Option.some.inj gσ2) rfl dX1_takeNames_6 ?_
  refine zr_dup (pc := 9) hX rfl dX1_takeNames_9 ?_
  obtain ⟨t3, gt3, h⟩ := bnd h
  refine zr_callI (pc := 10) (rest := [.ref sz, .ref th]) (k' := 1) (n' := 3) hX (fun l s0 D => mJ2_init l s0 D gt3) zwJ2_init q160 q161 rfl rfl rfl rfl rfl rfl rfl rfl dX1_takeNames_10 ?_
  obtain ⟨σ4, gσ4, h⟩ := bnd h
  refine zr_pv (pc := 13) hX za0_2 gσ4 rfl q266 (Or.inl rfl) rfl (tyX1_ok 2 (Nat.le_of_ble_eq_true rfl)) rfl rfl dX1_takeNames_13 ?_
  refine zr_aload_n (pc := 16) hX 0 rfl rfl dX1_takeNames_16 ?_
  exact hret _ (Option.some.inj h).symm _ _ dX1_takeNames_17
set_option maxHeartbeats 4000000 in
theorem mX1_isOf (l : Launch) (s0 : State) (D : zD) {σ : zH} {sz : Nat} {th : Nat} {p0 : Int32} {p1 : Int32} {o : Int32} (h : fX1_isOf σ th p0 p1 = some o) : zM l s0 D yX1_isOf cX1_isOf 3 (some .boolean) 4 64 0 0 [.ref th, .int p0, .int p1] σ sz σ sz (some (.int o)) := by
  refine zenter (own := RX1) zplX1 rfl (Nat.le_of_ble_eq_true rfl) trivial (fun K hX hnm hret => ?_)
  unfold fX1_isOf at h
  have hret : ∀ a, o = a → zRet K cX1_isOf (some .boolean) σ sz 0 0 (some (.int a)) := fun a e => by cases e; exact hret
  show VW K σ sz 0 0 0 [(0, .ref th), (1, .int p0), (2, .int p1)] []
  refine zr_aload_n (pc := 0) hX 0 rfl rfl dX1_isOf_0 ?_
  obtain ⟨r1, gr1, h⟩ := bnd h
  refine zr_fv (pc := 1) hX za0_0 (zgR_spec gr1) q264 (Or.inl rfl) dX1_isOf_1 ?_
  refine zr_iload_n (pc := 4) hX 1 rfl rfl dX1_isOf_4 ?_
  obtain ⟨u2, gu2, h⟩ := bnd h
  obtain ⟨t3, gt3, h⟩ := bnd h
  refine zr_callF (pc := 5) (rest := []) (stk' := [.ref t3]) (k' := 0) (n' := 0) hX (fun l s0 D => mJ2_get l s0 D gt3) gu2 zwJ2_get (by decide) q400 q405 q403 rfl rfl rfl rfl rfl rfl rfl rfl rfl dX1_isOf_5 ?_
  obtain ⟨u4, gu4, h⟩ := bnd h
  refine zr_cast (pc := 10) hX gu4 zc5 q418 (Or.inl rfl) dX1_isOf_10 ?_
  obtain ⟨u5, gu5, h⟩ := bnd h
  obtain ⟨t6, gt6, h⟩ := bnd h
  refine zr_callVs (pc := 13) (rest := []) (stk' := [.int t6]) (k' := 0) (n' := 0) hX (fun l s0 D => mX6_kind l s0 D gt6) gu5 zc5 zwX6_kind q454 q455 q456 rfl rfl rfl rfl rfl rfl rfl rfl rfl dX1_isOf_13 ?_
  refine zr_iload_n (pc := 16) hX 2 rfl rfl dX1_isOf_16 ?_
  refine zr_icmp_ne (pc := 17) hX 24 rfl dX1_isOf_17 (fun c17_6 => ?_) (fun c17_6 => ?_)
  · rw [if_neg c17_6] at h
    refine zr_iconst (pc := 24) hX zci_0 dX1_isOf_24 ?_
    exact hret _ (Option.some.inj h).symm _ _ dX1_isOf_25 (Or.inr ⟨rfl, Or.inl rfl⟩)
  · rw [if_pos c17_6] at h
    refine zr_iconst (pc := 20) hX zci_1 dX1_isOf_20 ?_
    refine zr_goto (pc := 21) hX 25 rfl dX1_isOf_21 ?_
    exact hret _ (Option.some.inj h).symm _ _ dX1_isOf_25 (Or.inr ⟨rfl, Or.inr rfl⟩)
set_option maxHeartbeats 4000000 in
theorem mX1_hasRoom (l : Launch) (s0 : State) (D : zD) {σ : zH} {sz : Nat} {th : Nat} {o : Int32} (h : fX1_hasRoom σ th = some o) : zM l s0 D yX1_hasRoom cX1_hasRoom 1 (some .boolean) 2 20 0 0 [.ref th] σ sz σ sz (some (.int o)) := by
  refine zenter (own := RX1) zplX1 rfl (Nat.le_of_ble_eq_true rfl) trivial (fun K hX hnm hret => ?_)
  unfold fX1_hasRoom at h
  have hret : ∀ a, o = a → zRet K cX1_hasRoom (some .boolean) σ sz 0 0 (some (.int a)) := fun a e => by cases e; exact hret
  show VW K σ sz 0 0 0 [(0, .ref th)] []
  refine zr_aload_n (pc := 0) hX 0 rfl rfl dX1_hasRoom_0 ?_
  obtain ⟨r1, gr1, h⟩ := bnd h
  refine zr_fv (pc := 1) hX za0_1 (zgR_spec gr1) q265 (Or.inl rfl) dX1_hasRoom_1 ?_
  obtain ⟨u2, gu2, h⟩ := bnd h
  obtain ⟨t3, gt3, h⟩ := bnd h
  refine zr_callF (pc := 4) (rest := []) (stk' := [.int t3]) (k' := 0) (n' := 0) hX (fun l s0 D => mJ2_size l s0 D gt3) gu2 zwJ2_size (by decide) q378 q384 q382 rfl rfl rfl rfl rfl rfl rfl rfl rfl dX1_hasRoom_4 ?_
  refine zr_bipush (pc := 9) hX zcb_24 dX1_hasRoom_9 ?_
  refine zr_icmp_ge (pc := 11) hX 18 rfl dX1_hasRoom_11 (fun c11_3 => ?_) (fun c11_3 => ?_)
  · rw [if_pos c11_3] at h
    refine zr_iconst (pc := 18) hX zci_0 dX1_hasRoom_18 ?_
    exact hret _ (Option.some.inj h).symm _ _ dX1_hasRoom_19 (Or.inr ⟨rfl, Or.inl rfl⟩)
  · rw [if_neg c11_3] at h
    refine zr_iconst (pc := 14) hX zci_1 dX1_hasRoom_14 ?_
    refine zr_goto (pc := 15) hX 19 rfl dX1_hasRoom_15 ?_
    exact hret _ (Option.some.inj h).symm _ _ dX1_hasRoom_19 (Or.inr ⟨rfl, Or.inr rfl⟩)
set_option maxHeartbeats 4000000 in
theorem wX1_add_2 {K : zC} {σ : zH} {sz : Nat} {th : Nat} {p0 : Nat} {o : (zX ⊕ (zH × Nat × Int32))} (hX : zOk K RX1 cX1_add_2 (some .int) 2 9 191 3 378) (hnm : zNm K yX1_add_2) (h : fX1_add_2 σ sz th p0 = some o) (hret : ∀ a, o = .inr a → zRet K cX1_add_2 (some .int) a.1 a.2.1 3 378 (some (.int a.2.2))) (hexc : ∀ e, o = .inl e → zTr K ∧ zXok K e.1 e.2 3 378 ∧ (e.2 = σ → zTh K cX1_add_2 e.1 σ sz)) : VW K σ sz 0 0 0 [(0, .ref th), (1, .ref p0)] [] := by
  unfold fX1_add_2 at h
  refine zr_aload_n (pc := 0) hX 0 rfl rfl dX1_add_2_0 ?_
  obtain ⟨u1, gu1, h⟩ := bnd h
  obtain ⟨t2, gt2, h⟩ := bnd h
  refine zr_callVs (pc := 1) (rest := []) (stk' := [.int t2]) (k' := 0) (n' := 0) hX (fun l s0 D => mX1_hasRoom l s0 D gt2) gu1 zc0 zwX1_hasRoom q1133 q1135 qs30 rfl rfl rfl rfl rfl rfl rfl rfl rfl dX1_add_2_1 ?_
  obtain ⟨u11, gu11, hxu11, hnu11⟩ := zthr_bnd h
  rcases u11 with e12 | t3
  · have h := hxu11 _ rfl
    have hxx := hexc _ (Option.some.inj h).symm
    exact zr_callSX (pc := 4) (rest := []) hX hxx.1 hxx.2.1 (fun l s0 D hl => xX1_checkState l s0 D hl gu11) zwX1_checkState q790 q791 rfl rfl rfl rfl rfl dX1_add_2_4
  · have h := hnu11 _ rfl
    refine zr_callS (pc := 4) (rest := []) (stk' := []) (k' := 1) (n' := 6) hX (fun l s0 D => mX1_checkState l s0 D gu11) zwX1_checkState q790 q791 rfl rfl rfl rfl rfl rfl rfl rfl dX1_add_2_4 ?_
    refine zr_aload_n (pc := 7) hX 0 rfl rfl dX1_add_2_7 ?_
    obtain ⟨r4, gr4, h⟩ := bnd h
    refine zr_fv (pc := 8) hX za0_1 (zgR_spec gr4) q265 (Or.inl rfl) dX1_add_2_8 ?_
    refine zr_aload_n (pc := 11) hX 1 rfl rfl dX1_add_2_11 ?_
    obtain ⟨u5, gu5, h⟩ := bnd h
    obtain ⟨t6, gt6, h⟩ := bnd h
    refine zr_callF (pc := 12) (rest := []) (stk' := [.int t6.2.2]) (k' := 2) (n' := 372) hX (fun l s0 D => mJ2_add l s0 D gt6) gu5 zwJ2_add (by decide) q809 q814 q812 rfl rfl rfl rfl rfl rfl rfl rfl rfl dX1_add_2_12 ?_
    refine zr_pop (pc := 17) hX rfl dX1_add_2_17 ?_
    refine zr_aload_n (pc := 18) hX 0 rfl rfl dX1_add_2_18 ?_
    refine zr_iconst (pc := 19) hX zci_0 dX1_add_2_19 ?_
    obtain ⟨σ7, gσ7, h⟩ := bnd h
    refine zr_pZ (pc := 20) hX za0_10 gσ7 rfl q274 (Or.inl rfl) rfl (tyX1_ok 10 (Nat.le_of_ble_eq_true rfl)) dX1_add_2_20 ?_
    refine zr_aload_n (pc := 23) hX 0 rfl rfl dX1_add_2_23 ?_
    obtain ⟨r8, gr8, h⟩ := bnd h
    refine zr_fv (pc := 24) hX za0_1 (zgR_spec gr8) q265 (Or.inl rfl) dX1_add_2_24 ?_
    obtain ⟨u9, gu9, h⟩ := bnd h
    obtain ⟨t10, gt10, h⟩ := bnd h
    refine zr_callF (pc := 27) (rest := []) (stk' := [.int t10]) (k' := 2) (n' := 372) hX (fun l s0 D => mJ2_size l s0 D gt10) gu9 zwJ2_size (by decide) q378 q384 q382 rfl rfl rfl rfl rfl rfl rfl rfl rfl dX1_add_2_27 ?_
    refine zr_iconst (pc := 32) hX zci_1 dX1_add_2_32 ?_
    refine zr_isub (pc := 33) hX dX1_add_2_33 ?_
    refine VW.widen 3 378 ?_ (Nat.le_of_ble_eq_true rfl) (Nat.le_of_ble_eq_true rfl)
    exact hret _ (Option.some.inj h).symm _ _ dX1_add_2_34 (Or.inl rfl)
theorem mX1_add_2 (l : Launch) (s0 : State) (D : zD) {σ : zH} {sz : Nat} {th : Nat} {p0 : Nat} {o : zH × Nat × Int32} (h : fX1_add_2 σ sz th p0 = some (.inr o)) : zM l s0 D yX1_add_2 cX1_add_2 2 (some .int) 9 191 3 378 [.ref th, .ref p0] σ sz o.1 o.2.1 (some (.int o.2.2)) := by
  refine zenter (own := RX1) zplX1 rfl (Nat.le_of_ble_eq_true rfl) trivial (fun K hX hnm hret => ?_)
  exact wX1_add_2 hX hnm h (fun a e => by cases e; exact hret) (fun e q => by cases q)
theorem xX1_add_2 (l : Launch) (s0 : State) (D : zD) (hl : l.stackTraces = false) {σ : zH} {sz : Nat} {th : Nat} {p0 : Nat} {e : zX} (h : fX1_add_2 σ sz th p0 = some (.inl e)) : zMX l s0 D yX1_add_2 cX1_add_2 2 (some .int) 9 191 3 378 [.ref th, .ref p0] σ sz e.1 e.2 := by
  refine zenterX (own := RX1) hl zplX1 rfl (Nat.le_of_ble_eq_true rfl) (fun K hX hnm hT hx hth => ?_)
  exact wX1_add_2 hX hnm h (fun a q => by cases q) (fun e' q => by cases q; exact ⟨hT, hx, (fun q => hth rfl (by decide) (by decide) (by decide) (by decide) q.symm)⟩)
set_option maxHeartbeats 4000000 in
theorem wX1_linear {K : zC} {n : Nat} {σ : zH} {sz : Nat} {th : Nat} {p0 : Int32} {p1 : Int32} {o : (zX ⊕ (zH × Nat × Int32))} (hX : zOk K RX1 cX1_linear (some .int) 8 10 212 15 458) (hnm : zNm K yX1_linear) (h : fX1_linear n σ sz th p0 p1 = some o) (hret : ∀ a, o = .inr a → zRet K cX1_linear (some .int) a.1 a.2.1 15 458 (some (.int a.2.2))) (hexc : ∀ e, o = .inl e → zTr K ∧ zXok K e.1 e.2 15 458 ∧ (e.2 = σ → zTh K cX1_linear e.1 σ sz)) : VW K σ sz 0 0 0 [(0, .ref th), (1, .int p0), (2, .int p1)] [] := by
  unfold fX1_linear at h
  refine zr_iload_n (pc := 0) hX 2 rfl rfl dX1_linear_0 ?_
  refine zr_sipush (pc := 1) hX zcs_m2000 dX1_linear_1 ?_
  refine zr_sipush (pc := 4) hX zcs_2000 dX1_linear_4 ?_
  obtain ⟨u60, gu60, hxu60, hnu60⟩ := zthr_bnd h
  rcases u60 with e61 | t1
  · have h := hxu60 _ rfl
    have hxx := hexc _ (Option.some.inj h).symm
    exact zr_callSX (pc := 7) (rest := []) hX hxx.1 hxx.2.1 (fun l s0 D hl => xX1_check l s0 D hl gu60) zwX1_check q693 q694 rfl rfl rfl rfl rfl dX1_linear_7
  · have h := hnu60 _ rfl
    refine zr_callS (pc := 7) (rest := []) (stk' := []) (k' := 1) (n' := 6) hX (fun l s0 D => mX1_check l s0 D gu60) zwX1_check q693 q694 rfl rfl rfl rfl rfl rfl rfl rfl dX1_linear_7 ?_
    refine zr_aload_n (pc := 10) hX 0 rfl rfl dX1_linear_10 ?_
    obtain ⟨u2, gu2, h⟩ := bnd h
    obtain ⟨t3, gt3, h⟩ := bnd h
    refine zr_callVs (pc := 11) (rest := []) (stk' := [.ref t3.2.2]) (k' := 2) (n' := 9) hX (fun l s0 D => mX1_takeNames l s0 D gt3) gu2 zc0 zwX1_takeNames q1038 q1040 qs27 rfl rfl rfl rfl rfl rfl rfl rfl rfl dX1_linear_11 ?_
    refine zr_astore_n (pc := 14) hX rfl rfl (Nat.le_of_ble_eq_true rfl) rfl dX1_linear_14 ?_
    refine zr_aload_n (pc := 15) hX 1 rfl rfl dX1_linear_15 ?_
    obtain ⟨r4, gr4, h⟩ := bnd h
    refine zr_fv (pc := 16) hX za0_3 (zgR_spec gr4) q267 (Or.inl rfl) dX1_linear_16 ?_
    refine zr_astore (pc := 19) hX rfl (Nat.le_of_ble_eq_true rfl) rfl dX1_linear_19 ?_
    refine zr_aload_n (pc := 21) hX 2 rfl rfl dX1_linear_21 ?_
    obtain ⟨σ5, gσ5, h⟩ := bnd h
    refine zr_new (pc := 22) (k' := 3) (n' := 12) (sz' := t3.2.1 + 1) hX zc18 tyJ2_ok zfs18 q158 q159 q113 rfl rfl rfl (Option.some.inj gσ5) rfl dX1_linear_22 ?_
    refine zr_dup (pc := 25) hX rfl dX1_linear_25 ?_
    obtain ⟨t6, gt6, h⟩ := bnd h
    refine zr_callI (pc := 26) (rest := [.ref t3.2.1, .ref th]) (k' := 3) (n' := 12) hX (fun l s0 D => mJ2_init l s0 D gt6) zwJ2_init q160 q161 rfl rfl rfl rfl rfl rfl rfl rfl dX1_linear_26 ?_
    obtain ⟨σ7, gσ7, h⟩ := bnd h
    refine zr_pv (pc := 29) hX za0_3 gσ7 rfl q267 (Or.inl rfl) rfl (tyX1_ok 3 (Nat.le_of_ble_eq_true rfl)) rfl rfl dX1_linear_29 ?_
    refine zr_aload_n (pc := 32) hX 1 rfl rfl dX1_linear_32 ?_
    obtain ⟨u8, gu8, h⟩ := bnd h
    obtain ⟨t9, gt9, h⟩ := bnd h
    refine zr_callF (pc := 33) (rest := []) (stk' := [.int t9]) (k' := 3) (n' := 12) hX (fun l s0 D => mJ2_size l s0 D gt9) gu8 zwJ2_size (by decide) q378 q384 q382 rfl rfl rfl rfl rfl rfl rfl rfl rfl dX1_linear_33 ?_
    obtain ⟨σ10, gσ10, h⟩ := bnd h
    refine zr_newa (atype := .boolean) (pc := 38) (k' := 4) (n' := 20) (sz' := t3.2.1 + 2) hX gσ10 q208 rfl (by decide) rfl rfl rfl rfl rfl dX1_linear_38 ?_
    refine zr_astore (pc := 40) hX rfl (Nat.le_of_ble_eq_true rfl) rfl dX1_linear_40 ?_
    refine zr_aload_n (pc := 42) hX 2 rfl rfl dX1_linear_42 ?_
    obtain ⟨u11, gu11, h⟩ := bnd h
    obtain ⟨t12, gt12, h⟩ := bnd h
    refine zr_callF (pc := 43) (rest := []) (stk' := [.int t12]) (k' := 4) (n' := 20) hX (fun l s0 D => mJ2_isEmpty l s0 D gt12) gu11 zwJ2_isEmpty (by decide) q1043 q1048 q1046 rfl rfl rfl rfl rfl rfl rfl rfl rfl dX1_linear_43 ?_
    obtain ⟨t13, gt13, h⟩ := bnd h
    have hJt13 : ∀ a, t13 = a → VW K σ10 (t3.2.1 + 2) 4 20 72 [(0, .ref th), (1, .int p0), (2, .int p1), (3, .ref t3.2.2), (4, .ref r4), (5, .ref (t3.2.1 + 1))] [.int a] := by
      intro a ea
      subst ea
      refine zr_istore (pc := 72) hX rfl (Nat.le_of_ble_eq_true rfl) rfl dX1_linear_72 ?_
      refine zr_iconst (pc := 74) hX zci_0 dX1_linear_74 ?_
      refine zr_istore (pc := 75) hX rfl (Nat.le_of_ble_eq_true rfl) rfl dX1_linear_75 ?_
      obtain ⟨t16, gt16, h⟩ := bnd h
      have hJt16 : ∀ a, a = t16 → VW K a.1 (t3.2.1 + 2) 4 20 158 [(0, .ref th), (1, .int p0), (2, .int p1), (3, .ref t3.2.2), (4, .ref r4), (5, .ref (t3.2.1 + 1)), (6, .int a.2)] [] := by
        intro a ea
        rw [ea]
        refine zr_iload (pc := 158) hX 6 rfl dX1_linear_158 ?_
        obtain ⟨u24, gu24, hxu24, hnu24⟩ := zthr_bnd h
        rcases u24 with e25 | t17
        · have h := hxu24 _ rfl
          have hxx := hexc _ (Option.some.inj h).symm
          exact zr_callSX (pc := 160) (rest := []) hX hxx.1 hxx.2.1 (fun l s0 D hl => xX1_checkState l s0 D hl gu24) zwX1_checkState q790 q791 rfl rfl rfl rfl rfl dX1_linear_160
        · have h := hnu24 _ rfl
          refine zr_callS (pc := 160) (rest := []) (stk' := []) (k' := 5) (n' := 26) hX (fun l s0 D => mX1_checkState l s0 D gu24) zwX1_checkState q790 q791 rfl rfl rfl rfl rfl rfl rfl rfl dX1_linear_160 ?_
          refine zr_aload_n (pc := 163) hX 0 rfl rfl dX1_linear_163 ?_
          obtain ⟨σ18, gσ18, h⟩ := bnd h
          refine zr_new (pc := 164) (k' := 6) (n' := 34) (sz' := t3.2.1 + 3) hX zc8 tyX10_ok zfs8 q1060 q542 q140 rfl rfl rfl (Option.some.inj gσ18) rfl dX1_linear_164 ?_
          refine zr_dup (pc := 167) hX rfl dX1_linear_167 ?_
          refine zr_aload_n (pc := 168) hX 3 rfl rfl dX1_linear_168 ?_
          refine zr_aload (pc := 169) hX 4 rfl dX1_linear_169 ?_
          refine zr_aload (pc := 171) hX 5 rfl dX1_linear_171 ?_
          refine zr_iload_n (pc := 173) hX 1 rfl rfl dX1_linear_173 ?_
          refine zr_iload_n (pc := 174) hX 2 rfl rfl dX1_linear_174 ?_
          obtain ⟨t19, gt19, h⟩ := bnd h
          refine zr_callI (pc := 175) (rest := [.ref (t3.2.1 + 2), .ref th]) (k' := 11) (n' := 74) hX (fun l s0 D => mX10_init l s0 D gt19) zwX10_init q1061 q1062 rfl rfl rfl rfl rfl rfl rfl rfl dX1_linear_175 ?_
          obtain ⟨u20, gu20, h⟩ := bnd h
          obtain ⟨u22, gu22, hxu22, hnu22⟩ := zthr_bnd h
          rcases u22 with e23 | t21
          · have h := hxu22 _ rfl
            have hxx := hexc _ (Option.some.inj h).symm
            exact zr_callVX (pc := 178) (rest := []) hX hxx.1 hxx.2.1 (fun l s0 D hl => xX1_add_2 l s0 D hl gu22) gu20 zc0 zwX1_add_2 q1129 q1131 qs29 rfl rfl rfl rfl rfl rfl dX1_linear_178
          · have h := hnu22 _ rfl
            refine zr_callVs (pc := 178) (rest := []) (stk' := [.int t21.2.2]) (k' := 14) (n' := 452) hX (fun l s0 D => mX1_add_2 l s0 D gu22) gu20 zc0 zwX1_add_2 q1129 q1131 qs29 rfl rfl rfl rfl rfl rfl rfl rfl rfl dX1_linear_178 ?_
            refine VW.widen 15 458 ?_ (Nat.le_of_ble_eq_true rfl) (Nat.le_of_ble_eq_true rfl)
            exact hret _ (Option.some.inj h).symm _ _ dX1_linear_181 (Or.inl rfl)
      refine VW.sub (lv' := [(0, .ref th), (1, .int p0), (2, .int p1), (3, .ref t3.2.2), (4, .ref r4), (5, .ref (t3.2.1 + 1)), (6, .int t13), (7, .int (0 : Int32))]) ?_ [2, 3, 4, 5, 6, 7, 1, 0] rfl
      refine zloop_walk (V := (fun a => VW K a.1 (t3.2.1 + 2) 4 20 77 [(0, .ref th), (1, .int p0), (2, .int p1), (3, .ref t3.2.2), (4, .ref r4), (5, .ref (t3.2.1 + 1)), (6, .int a.2.1), (7, .int a.2.2)] [])) (E := fun e => e = t16) ?_ n (σ10, t13, (0 : Int32)) _ gt16 rfl
      intro a14 o15 h kco15 keo15
      unfold fX1_linear_L77 at h
      refine zr_iload (pc := 77) hX 7 rfl dX1_linear_77 ?_
      refine zr_aload_n (pc := 79) hX 3 rfl rfl dX1_linear_79 ?_
      obtain ⟨u26, gu26, h⟩ := bnd h
      obtain ⟨t27, gt27, h⟩ := bnd h
      refine zr_callF (pc := 80) (rest := [.int a14.2.2]) (stk' := [.int t27, .int a14.2.2]) (k' := 4) (n' := 20) hX (fun l s0 D => mJ2_size l s0 D gt27) gu26 zwJ2_size (by decide) q378 q384 q382 rfl rfl rfl rfl rfl rfl rfl rfl rfl dX1_linear_80 ?_
      refine zr_icmp_ge (pc := 85) hX 158 rfl dX1_linear_85 (fun c85_50 => ?_) (fun c85_50 => ?_)
      · rw [if_pos c85_50] at h
        exact VW.sub (hJt16 (a14.1, a14.2.1) (keo15 _ (Option.some.inj h).symm)) [0, 1, 2, 3, 4, 5, 6] rfl
      · rw [if_neg c85_50] at h
        refine zr_aload (pc := 88) hX 5 rfl dX1_linear_88 ?_
        refine zr_iload (pc := 90) hX 7 rfl dX1_linear_90 ?_
        refine zr_aload_n (pc := 92) hX 0 rfl rfl dX1_linear_92 ?_
        refine zr_aload_n (pc := 93) hX 3 rfl rfl dX1_linear_93 ?_
        refine zr_iload (pc := 94) hX 7 rfl dX1_linear_94 ?_
        obtain ⟨u28, gu28, h⟩ := bnd h
        obtain ⟨t29, gt29, h⟩ := bnd h
        refine zr_callF (pc := 96) (rest := [.ref th, .int a14.2.2, .ref (t3.2.1 + 1)]) (stk' := [.ref t29, .ref th, .int a14.2.2, .ref (t3.2.1 + 1)]) (k' := 4) (n' := 20) hX (fun l s0 D => mJ2_get l s0 D gt29) gu28 zwJ2_get (by decide) q400 q405 q403 rfl rfl rfl rfl rfl rfl rfl rfl rfl dX1_linear_96 ?_
        obtain ⟨u30, gu30, h⟩ := bnd h
        refine zr_cast (pc := 101) hX gu30 zc19 q1051 (Or.inl rfl) dX1_linear_101 ?_
        obtain ⟨u31, gu31, h⟩ := bnd h
        obtain ⟨t32, gt32, h⟩ := bnd h
        refine zr_callVs (pc := 104) (rest := [.ref th, .int a14.2.2, .ref (t3.2.1 + 1)]) (stk' := [.int t32, .ref th, .int a14.2.2, .ref (t3.2.1 + 1)]) (k' := 4) (n' := 20) hX (fun l s0 D => mJ18_intValue l s0 D gt32) gu31 zc19 zwJ18_intValue q1052 q1053 q1054 rfl rfl rfl rfl rfl rfl rfl rfl rfl dX1_linear_104 ?_
        refine zr_iconst (pc := 107) hX zci_3 dX1_linear_107 ?_
        obtain ⟨u33, gu33, h⟩ := bnd h
        obtain ⟨t34, gt34, h⟩ := bnd h
        refine zr_callVs (pc := 108) (rest := [.int a14.2.2, .ref (t3.2.1 + 1)]) (stk' := [.int t34, .int a14.2.2, .ref (t3.2.1 + 1)]) (k' := 4) (n' := 20) hX (fun l s0 D => mX1_isOf l s0 D gt34) gu33 zc0 zwX1_isOf q1056 q1058 qs28 rfl rfl rfl rfl rfl rfl rfl rfl rfl dX1_linear_108 ?_
        obtain ⟨σ35, gσ35, h⟩ := bnd h
        refine zr_sZ (pc := 111) hX gσ35 dX1_linear_111 ?_
        refine zr_iload (pc := 112) hX 6 rfl dX1_linear_112 ?_
        refine zr_aload (pc := 114) hX 5 rfl dX1_linear_114 ?_
        refine zr_iload (pc := 116) hX 7 rfl dX1_linear_116 ?_
        obtain ⟨x36, gx36, h⟩ := bnd h
        refine zr_aZ (pc := 118) hX gx36 dX1_linear_118 ?_
        obtain ⟨t37, gt37, h⟩ := bnd h
        have hJt37 : ∀ a, t37 = a → VW K σ35 (t3.2.1 + 2) 4 20 149 [(0, .ref th), (1, .int p0), (2, .int p1), (3, .ref t3.2.2), (4, .ref r4), (5, .ref (t3.2.1 + 1)), (7, .int a14.2.2)] [.int a, .int a14.2.1] := by
          intro a ea
          subst ea
          refine zr_iand (pc := 149) hX dX1_linear_149 ?_
          obtain ⟨x38, gx38, h⟩ := bnd h
          refine zr_istore (pc := 150) hX (Option.some.inj gx38) (Nat.le_of_ble_eq_true rfl) rfl dX1_linear_150 ?_
          obtain ⟨x39, gx39, h⟩ := bnd h
          refine zr_iinc (pc := 152) hX 7 rfl zci_1 (Option.some.inj gx39) (Nat.le_of_ble_eq_true rfl) rfl dX1_linear_152 ?_
          refine zr_goto (pc := 155) hX 77 rfl dX1_linear_155 ?_
          exact VW.sub (kco15 (σ35, x38, x39) (Option.some.inj h).symm) [2, 3, 4, 5, 6, 7, 1, 0] rfl
        replace h := gt37
        obtain ⟨u41, gu41, hAu41, hBu41⟩ := zesc_bnd h
        have hJt40 : ∀ a, u41 = .inl a → VW K σ35 (t3.2.1 + 2) 4 20 144 [(0, .ref th), (1, .int p0), (2, .int p1), (3, .ref t3.2.2), (4, .ref r4), (5, .ref (t3.2.1 + 1)), (7, .int a14.2.2)] [.int a14.2.1] := by
          intro t40 ea
          have h := hAu41 _ ea
          refine zr_iconst (pc := 144) hX zci_1 dX1_linear_144 ?_
          refine zr_goto (pc := 145) hX 149 rfl dX1_linear_145 ?_
          exact VW.sub (hJt37 (1 : Int32) (Option.some.inj h).symm) [0, 1, 2, 3, 4, 5, 6] rfl
        replace h := gu41
        refine zr_if_ne (pc := 119) hX 144 rfl dX1_linear_119 (fun c119_49 => ?_) (fun c119_49 => ?_)
        · rw [if_neg c119_49] at h
          exact VW.sub (hJt40 () (Option.some.inj h).symm) [0, 1, 2, 3, 4, 5, 7] rfl
        · rw [if_pos c119_49] at h
          refine zr_aload_n (pc := 122) hX 0 rfl rfl dX1_linear_122 ?_
          refine zr_aload_n (pc := 123) hX 3 rfl rfl dX1_linear_123 ?_
          refine zr_iload (pc := 124) hX 7 rfl dX1_linear_124 ?_
          obtain ⟨u42, gu42, h⟩ := bnd h
          obtain ⟨t43, gt43, h⟩ := bnd h
          refine zr_callF (pc := 126) (rest := [.ref th, .int a14.2.1]) (stk' := [.ref t43, .ref th, .int a14.2.1]) (k' := 4) (n' := 20) hX (fun l s0 D => mJ2_get l s0 D gt43) gu42 zwJ2_get (by decide) q400 q405 q403 rfl rfl rfl rfl rfl rfl rfl rfl rfl dX1_linear_126 ?_
          obtain ⟨u44, gu44, h⟩ := bnd h
          refine zr_cast (pc := 131) hX gu44 zc19 q1051 (Or.inl rfl) dX1_linear_131 ?_
          obtain ⟨u45, gu45, h⟩ := bnd h
          obtain ⟨t46, gt46, h⟩ := bnd h
          refine zr_callVs (pc := 134) (rest := [.ref th, .int a14.2.1]) (stk' := [.int t46, .ref th, .int a14.2.1]) (k' := 4) (n' := 20) hX (fun l s0 D => mJ18_intValue l s0 D gt46) gu45 zc19 zwJ18_intValue q1052 q1053 q1054 rfl rfl rfl rfl rfl rfl rfl rfl rfl dX1_linear_134 ?_
          refine zr_iconst (pc := 137) hX zci_0 dX1_linear_137 ?_
          obtain ⟨u47, gu47, h⟩ := bnd h
          obtain ⟨t48, gt48, h⟩ := bnd h
          refine zr_callVs (pc := 138) (rest := [.int a14.2.1]) (stk' := [.int t48, .int a14.2.1]) (k' := 4) (n' := 20) hX (fun l s0 D => mX1_isOf l s0 D gt48) gu47 zc0 zwX1_isOf q1056 q1058 qs28 rfl rfl rfl rfl rfl rfl rfl rfl rfl dX1_linear_138 ?_
          refine zr_if_eq (pc := 141) hX 148 rfl dX1_linear_141 (fun c141_48 => ?_) (fun c141_48 => ?_)
          · rw [if_pos c141_48] at h
            refine zr_iconst (pc := 148) hX zci_0 dX1_linear_148 ?_
            replace h := congrArg some (hBu41 _ (Option.some.inj h).symm)
            exact VW.sub (hJt37 (0 : Int32) (Option.some.inj h).symm) [0, 1, 2, 3, 4, 5, 7] rfl
          · rw [if_neg c141_48] at h
            exact VW.sub (hJt40 () (Option.some.inj h).symm) [0, 1, 2, 3, 4, 5, 7] rfl
    replace h := gt13
    obtain ⟨u53, gu53, hAu53, hBu53⟩ := zesc_bnd h
    have hJt52 : ∀ a, u53 = .inl a → VW K σ10 (t3.2.1 + 2) 4 20 71 [(0, .ref th), (1, .int p0), (2, .int p1), (3, .ref t3.2.2), (4, .ref r4), (5, .ref (t3.2.1 + 1))] [] := by
      intro t52 ea
      have h := hAu53 _ ea
      refine zr_iconst (pc := 71) hX zci_0 dX1_linear_71 ?_
      exact VW.sub (hJt13 (0 : Int32) (Option.some.inj h).symm) [0, 1, 2, 3, 4, 5] rfl
    replace h := gu53
    refine zr_if_ne (pc := 48) hX 71 rfl dX1_linear_48 (fun c48_58 => ?_) (fun c48_58 => ?_)
    · rw [if_neg c48_58] at h
      exact VW.sub (hJt52 () (Option.some.inj h).symm) [3, 4, 5, 2, 1, 0] rfl
    · rw [if_pos c48_58] at h
      refine zr_aload_n (pc := 51) hX 2 rfl rfl dX1_linear_51 ?_
      obtain ⟨u54, gu54, h⟩ := bnd h
      obtain ⟨t55, gt55, h⟩ := bnd h
      refine zr_callF (pc := 52) (rest := []) (stk' := [.int t55]) (k' := 4) (n' := 20) hX (fun l s0 D => mJ2_size l s0 D gt55) gu54 zwJ2_size (by decide) q378 q384 q382 rfl rfl rfl rfl rfl rfl rfl rfl rfl dX1_linear_52 ?_
      refine zr_aload (pc := 57) hX 1 rfl dX1_linear_57 ?_
      obtain ⟨u56, gu56, h⟩ := bnd h
      obtain ⟨t57, gt57, h⟩ := bnd h
      refine zr_callF (pc := 59) (rest := [.int t55]) (stk' := [.int t57, .int t55]) (k' := 4) (n' := 20) hX (fun l s0 D => mJ2_size l s0 D gt57) gu56 zwJ2_size (by decide) q378 q384 q382 rfl rfl rfl rfl rfl rfl rfl rfl rfl dX1_linear_59 ?_
      refine zr_icmp_ne (pc := 64) hX 71 rfl dX1_linear_64 (fun c64_57 => ?_) (fun c64_57 => ?_)
      · rw [if_neg c64_57] at h
        exact VW.sub (hJt52 () (Option.some.inj h).symm) [3, 4, 5, 2, 1, 0] rfl
      · rw [if_pos c64_57] at h
        refine zr_iconst (pc := 67) hX zci_1 dX1_linear_67 ?_
        refine zr_goto (pc := 68) hX 72 rfl dX1_linear_68 ?_
        replace h := congrArg some (hBu53 _ (Option.some.inj h).symm)
        exact VW.sub (hJt13 (1 : Int32) (Option.some.inj h).symm) [3, 4, 5, 2, 1, 0] rfl
theorem mX1_linear (l : Launch) (s0 : State) (D : zD) {n : Nat} {σ : zH} {sz : Nat} {th : Nat} {p0 : Int32} {p1 : Int32} {o : zH × Nat × Int32} (h : fX1_linear n σ sz th p0 p1 = some (.inr o)) : zM l s0 D yX1_linear cX1_linear 8 (some .int) 10 212 15 458 [.ref th, .int p0, .int p1] σ sz o.1 o.2.1 (some (.int o.2.2)) := by
  refine zenter (own := RX1) zplX1 rfl (Nat.le_of_ble_eq_true rfl) trivial (fun K hX hnm hret => ?_)
  exact wX1_linear hX hnm h (fun a e => by cases e; exact hret) (fun e q => by cases q)
theorem xX1_linear (l : Launch) (s0 : State) (D : zD) (hl : l.stackTraces = false) {n : Nat} {σ : zH} {sz : Nat} {th : Nat} {p0 : Int32} {p1 : Int32} {e : zX} (h : fX1_linear n σ sz th p0 p1 = some (.inl e)) : zMX l s0 D yX1_linear cX1_linear 8 (some .int) 10 212 15 458 [.ref th, .int p0, .int p1] σ sz e.1 e.2 := by
  refine zenterX (own := RX1) hl zplX1 rfl (Nat.le_of_ble_eq_true rfl) (fun K hX hnm hT hx hth => ?_)
  exact wX1_linear hX hnm h (fun a q => by cases q) (fun e' q => by cases q; exact ⟨hT, hx, (fun q => hth rfl (by decide) (by decide) (by decide) (by decide) q.symm)⟩)
set_option maxHeartbeats 4000000 in
theorem mX1_areInts (l : Launch) (s0 : State) (D : zD) {n : Nat} {σ : zH} {sz : Nat} {th : Nat} {p0 : Nat} {o : Int32} (h : fX1_areInts n σ th p0 = some o) : zM l s0 D yX1_areInts cX1_areInts 4 (some .boolean) 5 86 0 0 [.ref th, .ref p0] σ sz σ sz (some (.int o)) := by
  refine zenter (own := RX1) zplX1 rfl (Nat.le_of_ble_eq_true rfl) trivial (fun K hX hnm hret => ?_)
  unfold fX1_areInts at h
  have hret : ∀ a, o = a → zRet K cX1_areInts (some .boolean) σ sz 0 0 (some (.int a)) := fun a e => by cases e; exact hret
  show VW K σ sz 0 0 0 [(0, .ref th), (1, .ref p0)] []
  refine zr_aload_n (pc := 0) hX 1 rfl rfl dX1_areInts_0 ?_
  obtain ⟨u1, gu1, h⟩ := bnd h
  obtain ⟨t2, gt2, h⟩ := bnd h
  refine zr_callF (pc := 1) (rest := []) (stk' := [.int t2]) (k' := 0) (n' := 0) hX (fun l s0 D => mJ2_isEmpty l s0 D gt2) gu1 zwJ2_isEmpty (by decide) q1043 q1048 q1046 rfl rfl rfl rfl rfl rfl rfl rfl rfl dX1_areInts_1 ?_
  obtain ⟨t3, gt3, h⟩ := bnd h
  have hJt3 : ∀ a, t3 = a → VW K σ sz 0 0 14 [(0, .ref th), (1, .ref p0)] [.int a] := by
    intro a ea
    subst ea
    refine zr_istore_n (pc := 14) hX rfl rfl (Nat.le_of_ble_eq_true rfl) rfl dX1_areInts_14 ?_
    refine zr_iconst (pc := 15) hX zci_0 dX1_areInts_15 ?_
    refine zr_istore_n (pc := 16) hX rfl rfl (Nat.le_of_ble_eq_true rfl) rfl dX1_areInts_16 ?_
    refine VW.sub (lv' := [(0, .ref th), (1, .ref p0), (2, .int t3), (3, .int (0 : Int32))]) ?_ [2, 3, 1, 0] rfl
    refine zloop_walk (V := (fun a => VW K σ sz 0 0 17 [(0, .ref th), (1, .ref p0), (2, .int a.1), (3, .int a.2)] [])) (E := fun e => e = o) ?_ n (t3, (0 : Int32)) _ h rfl
    intro a4 o5 h kco5 keo5
    unfold fX1_areInts_L17 at h
    refine zr_iload_n (pc := 17) hX 3 rfl rfl dX1_areInts_17 ?_
    refine zr_aload_n (pc := 18) hX 1 rfl rfl dX1_areInts_18 ?_
    obtain ⟨u6, gu6, h⟩ := bnd h
    obtain ⟨t7, gt7, h⟩ := bnd h
    refine zr_callF (pc := 19) (rest := [.int a4.2]) (stk' := [.int t7, .int a4.2]) (k' := 0) (n' := 0) hX (fun l s0 D => mJ2_size l s0 D gt7) gu6 zwJ2_size (by decide) q378 q384 q382 rfl rfl rfl rfl rfl rfl rfl rfl rfl dX1_areInts_19 ?_
    refine zr_icmp_ge (pc := 24) hX 54 rfl dX1_areInts_24 (fun c24_17 => ?_) (fun c24_17 => ?_)
    · rw [if_pos c24_17] at h
      refine zr_iload_n (pc := 54) hX 2 rfl rfl dX1_areInts_54 ?_
      obtain ⟨x8, gx8, h⟩ := bnd h
      rw [(zq_spec gx8).1] at h
      replace h := congrArg some (keo5 _ (Option.some.inj h).symm)
      exact hret _ (Option.some.inj h).symm _ _ dX1_areInts_55 (Or.inr ⟨rfl, (zq_spec gx8).2⟩)
    · rw [if_neg c24_17] at h
      refine zr_iload_n (pc := 27) hX 2 rfl rfl dX1_areInts_27 ?_
      refine zr_aload_n (pc := 28) hX 0 rfl rfl dX1_areInts_28 ?_
      refine zr_aload_n (pc := 29) hX 1 rfl rfl dX1_areInts_29 ?_
      refine zr_iload_n (pc := 30) hX 3 rfl rfl dX1_areInts_30 ?_
      obtain ⟨u9, gu9, h⟩ := bnd h
      obtain ⟨t10, gt10, h⟩ := bnd h
      refine zr_callF (pc := 31) (rest := [.ref th, .int a4.1]) (stk' := [.ref t10, .ref th, .int a4.1]) (k' := 0) (n' := 0) hX (fun l s0 D => mJ2_get l s0 D gt10) gu9 zwJ2_get (by decide) q400 q405 q403 rfl rfl rfl rfl rfl rfl rfl rfl rfl dX1_areInts_31 ?_
      obtain ⟨u11, gu11, h⟩ := bnd h
      refine zr_cast (pc := 36) hX gu11 zc19 q1051 (Or.inl rfl) dX1_areInts_36 ?_
      obtain ⟨u12, gu12, h⟩ := bnd h
      obtain ⟨t13, gt13, h⟩ := bnd h
      refine zr_callVs (pc := 39) (rest := [.ref th, .int a4.1]) (stk' := [.int t13, .ref th, .int a4.1]) (k' := 0) (n' := 0) hX (fun l s0 D => mJ18_intValue l s0 D gt13) gu12 zc19 zwJ18_intValue q1052 q1053 q1054 rfl rfl rfl rfl rfl rfl rfl rfl rfl dX1_areInts_39 ?_
      refine zr_iconst (pc := 42) hX zci_0 dX1_areInts_42 ?_
      obtain ⟨u14, gu14, h⟩ := bnd h
      obtain ⟨t15, gt15, h⟩ := bnd h
      refine zr_callVs (pc := 43) (rest := [.int a4.1]) (stk' := [.int t15, .int a4.1]) (k' := 0) (n' := 0) hX (fun l s0 D => mX1_isOf l s0 D gt15) gu14 zc0 zwX1_isOf q1056 q1058 qs28 rfl rfl rfl rfl rfl rfl rfl rfl rfl dX1_areInts_43 ?_
      refine zr_iand (pc := 46) hX dX1_areInts_46 ?_
      obtain ⟨x16, gx16, h⟩ := bnd h
      refine zr_istore_n (pc := 47) hX (Option.some.inj gx16) rfl (Nat.le_of_ble_eq_true rfl) rfl dX1_areInts_47 ?_
      obtain ⟨x17, gx17, h⟩ := bnd h
      refine zr_iinc (pc := 48) hX 3 rfl zci_1 (Option.some.inj gx17) (Nat.le_of_ble_eq_true rfl) rfl dX1_areInts_48 ?_
      refine zr_goto (pc := 51) hX 17 rfl dX1_areInts_51 ?_
      exact VW.sub (kco5 (x16, x17) (Option.some.inj h).symm) [2, 3, 1, 0] rfl
  replace h := gt3
  refine zr_if_ne (pc := 6) hX 13 rfl dX1_areInts_6 (fun c6_18 => ?_) (fun c6_18 => ?_)
  · rw [if_neg c6_18] at h
    refine zr_iconst (pc := 13) hX zci_0 dX1_areInts_13 ?_
    exact VW.sub (hJt3 (0 : Int32) (Option.some.inj h).symm) [0, 1] rfl
  · rw [if_pos c6_18] at h
    refine zr_iconst (pc := 9) hX zci_1 dX1_areInts_9 ?_
    refine zr_goto (pc := 10) hX 14 rfl dX1_areInts_10 ?_
    exact VW.sub (hJt3 (1 : Int32) (Option.some.inj h).symm) [0, 1] rfl
set_option maxHeartbeats 4000000 in
theorem wX1_different {K : zC} {n : Nat} {σ : zH} {sz : Nat} {th : Nat} {o : (zX ⊕ (zH × Nat × Int32))} (hX : zOk K RX1 cX1_different (some .int) 2 10 212 12 463) (hnm : zNm K yX1_different) (h : fX1_different n σ sz th = some o) (hret : ∀ a, o = .inr a → zRet K cX1_different (some .int) a.1 a.2.1 12 463 (some (.int a.2.2))) (hexc : ∀ e, o = .inl e → zTr K ∧ zXok K e.1 e.2 12 463 ∧ (e.2 = σ → zTh K cX1_different e.1 σ sz)) : VW K σ sz 0 0 0 [(0, .ref th)] [] := by
  unfold fX1_different at h
  refine zr_aload_n (pc := 0) hX 0 rfl rfl dX1_different_0 ?_
  obtain ⟨u1, gu1, h⟩ := bnd h
  obtain ⟨t2, gt2, h⟩ := bnd h
  refine zr_callVs (pc := 1) (rest := []) (stk' := [.ref t2.2.2]) (k' := 1) (n' := 3) hX (fun l s0 D => mX1_takeNames l s0 D gt2) gu1 zc0 zwX1_takeNames q1038 q1040 qs27 rfl rfl rfl rfl rfl rfl rfl rfl rfl dX1_different_1 ?_
  refine zr_astore_n (pc := 4) hX rfl rfl (Nat.le_of_ble_eq_true rfl) rfl dX1_different_4 ?_
  refine zr_aload_n (pc := 5) hX 1 rfl rfl dX1_different_5 ?_
  refine zr_aload_n (pc := 6) hX 0 rfl rfl dX1_different_6 ?_
  obtain ⟨u3, gu3, h⟩ := bnd h
  obtain ⟨t4, gt4, h⟩ := bnd h
  refine zr_callVs (pc := 7) (rest := []) (stk' := [.int t4]) (k' := 1) (n' := 3) hX (fun l s0 D => mX1_areInts l s0 D gt4) gu3 zc0 zwX1_areInts q1144 q1146 qs31 rfl rfl rfl rfl rfl rfl rfl rfl rfl dX1_different_7 ?_
  obtain ⟨u12, gu12, hxu12, hnu12⟩ := zthr_bnd h
  rcases u12 with e13 | t5
  · have h := hxu12 _ rfl
    have hxx := hexc _ (Option.some.inj h).symm
    exact zr_callSX (pc := 10) (rest := []) hX hxx.1 hxx.2.1 (fun l s0 D hl => xX1_checkState l s0 D hl gu12) zwX1_checkState q790 q791 rfl rfl rfl rfl rfl dX1_different_10
  · have h := hnu12 _ rfl
    refine zr_callS (pc := 10) (rest := []) (stk' := []) (k' := 2) (n' := 9) hX (fun l s0 D => mX1_checkState l s0 D gu12) zwX1_checkState q790 q791 rfl rfl rfl rfl rfl rfl rfl rfl dX1_different_10 ?_
    refine zr_aload_n (pc := 13) hX 1 rfl rfl dX1_different_13 ?_
    obtain ⟨σ6, gσ6, h⟩ := bnd h
    refine zr_new (pc := 14) (k' := 3) (n' := 15) (sz' := t2.2.1 + 1) hX zc9 tyX11_ok zfs9 q1148 q512 q141 rfl rfl rfl (Option.some.inj gσ6) rfl dX1_different_14 ?_
    refine zr_dup (pc := 17) hX rfl dX1_different_17 ?_
    refine zr_aload_n (pc := 18) hX 0 rfl rfl dX1_different_18 ?_
    obtain ⟨t7, gt7, h⟩ := bnd h
    refine zr_callI (pc := 19) (rest := [.ref t2.2.1, .ref th]) (k' := 8) (n' := 79) hX (fun l s0 D => mX11_init l s0 D gt7) zwX11_init q1149 q1150 rfl rfl rfl rfl rfl rfl rfl rfl dX1_different_19 ?_
    obtain ⟨u8, gu8, h⟩ := bnd h
    obtain ⟨u10, gu10, hxu10, hnu10⟩ := zthr_bnd h
    rcases u10 with e11 | t9
    · have h := hxu10 _ rfl
      have hxx := hexc _ (Option.some.inj h).symm
      exact zr_callVX (pc := 22) (rest := []) hX hxx.1 hxx.2.1 (fun l s0 D hl => xX1_add_2 l s0 D hl gu10) gu8 zc0 zwX1_add_2 q1129 q1131 qs29 rfl rfl rfl rfl rfl rfl dX1_different_22
    · have h := hnu10 _ rfl
      refine zr_callVs (pc := 22) (rest := []) (stk' := [.int t9.2.2]) (k' := 11) (n' := 457) hX (fun l s0 D => mX1_add_2 l s0 D gu10) gu8 zc0 zwX1_add_2 q1129 q1131 qs29 rfl rfl rfl rfl rfl rfl rfl rfl rfl dX1_different_22 ?_
      refine VW.widen 12 463 ?_ (Nat.le_of_ble_eq_true rfl) (Nat.le_of_ble_eq_true rfl)
      exact hret _ (Option.some.inj h).symm _ _ dX1_different_25 (Or.inl rfl)
theorem mX1_different (l : Launch) (s0 : State) (D : zD) {n : Nat} {σ : zH} {sz : Nat} {th : Nat} {o : zH × Nat × Int32} (h : fX1_different n σ sz th = some (.inr o)) : zM l s0 D yX1_different cX1_different 2 (some .int) 10 212 12 463 [.ref th] σ sz o.1 o.2.1 (some (.int o.2.2)) := by
  refine zenter (own := RX1) zplX1 rfl (Nat.le_of_ble_eq_true rfl) trivial (fun K hX hnm hret => ?_)
  exact wX1_different hX hnm h (fun a e => by cases e; exact hret) (fun e q => by cases q)
theorem xX1_different (l : Launch) (s0 : State) (D : zD) (hl : l.stackTraces = false) {n : Nat} {σ : zH} {sz : Nat} {th : Nat} {e : zX} (h : fX1_different n σ sz th = some (.inl e)) : zMX l s0 D yX1_different cX1_different 2 (some .int) 10 212 12 463 [.ref th] σ sz e.1 e.2 := by
  refine zenterX (own := RX1) hl zplX1 rfl (Nat.le_of_ble_eq_true rfl) (fun K hX hnm hT hx hth => ?_)
  exact wX1_different hX hnm h (fun a q => by cases q) (fun e' q => by cases q; exact ⟨hT, hx, (fun q => hth rfl (by decide) (by decide) (by decide) (by decide) q.symm)⟩)
set_option maxHeartbeats 4000000 in
theorem wX1_order {K : zC} {n : Nat} {σ : zH} {sz : Nat} {th : Nat} {o : (zX ⊕ (zH × Nat × Int32))} (hX : zOk K RX1 cX1_order (some .int) 2 10 212 11 429) (hnm : zNm K yX1_order) (h : fX1_order n σ sz th = some o) (hret : ∀ a, o = .inr a → zRet K cX1_order (some .int) a.1 a.2.1 11 429 (some (.int a.2.2))) (hexc : ∀ e, o = .inl e → zTr K ∧ zXok K e.1 e.2 11 429 ∧ (e.2 = σ → zTh K cX1_order e.1 σ sz)) : VW K σ sz 0 0 0 [(0, .ref th)] [] := by
  unfold fX1_order at h
  refine zr_aload_n (pc := 0) hX 0 rfl rfl dX1_order_0 ?_
  obtain ⟨u1, gu1, h⟩ := bnd h
  obtain ⟨t2, gt2, h⟩ := bnd h
  refine zr_callVs (pc := 1) (rest := []) (stk' := [.ref t2.2.2]) (k' := 1) (n' := 3) hX (fun l s0 D => mX1_takeNames l s0 D gt2) gu1 zc0 zwX1_takeNames q1038 q1040 qs27 rfl rfl rfl rfl rfl rfl rfl rfl rfl dX1_order_1 ?_
  refine zr_astore_n (pc := 4) hX rfl rfl (Nat.le_of_ble_eq_true rfl) rfl dX1_order_4 ?_
  refine zr_aload_n (pc := 5) hX 1 rfl rfl dX1_order_5 ?_
  refine zr_aload_n (pc := 6) hX 0 rfl rfl dX1_order_6 ?_
  obtain ⟨u3, gu3, h⟩ := bnd h
  obtain ⟨t4, gt4, h⟩ := bnd h
  refine zr_callVs (pc := 7) (rest := []) (stk' := [.int t4]) (k' := 1) (n' := 3) hX (fun l s0 D => mX1_areInts l s0 D gt4) gu3 zc0 zwX1_areInts q1144 q1146 qs31 rfl rfl rfl rfl rfl rfl rfl rfl rfl dX1_order_7 ?_
  obtain ⟨u12, gu12, hxu12, hnu12⟩ := zthr_bnd h
  rcases u12 with e13 | t5
  · have h := hxu12 _ rfl
    have hxx := hexc _ (Option.some.inj h).symm
    exact zr_callSX (pc := 10) (rest := []) hX hxx.1 hxx.2.1 (fun l s0 D hl => xX1_checkState l s0 D hl gu12) zwX1_checkState q790 q791 rfl rfl rfl rfl rfl dX1_order_10
  · have h := hnu12 _ rfl
    refine zr_callS (pc := 10) (rest := []) (stk' := []) (k' := 2) (n' := 9) hX (fun l s0 D => mX1_checkState l s0 D gu12) zwX1_checkState q790 q791 rfl rfl rfl rfl rfl rfl rfl rfl dX1_order_10 ?_
    refine zr_aload_n (pc := 13) hX 1 rfl rfl dX1_order_13 ?_
    obtain ⟨σ6, gσ6, h⟩ := bnd h
    refine zr_new (pc := 14) (k' := 3) (n' := 13) (sz' := t2.2.1 + 1) hX zc10 tyX12_ok zfs10 q1171 q1172 q142 rfl rfl rfl (Option.some.inj gσ6) rfl dX1_order_14 ?_
    refine zr_dup (pc := 17) hX rfl dX1_order_17 ?_
    refine zr_aload_n (pc := 18) hX 0 rfl rfl dX1_order_18 ?_
    obtain ⟨t7, gt7, h⟩ := bnd h
    refine zr_callI (pc := 19) (rest := [.ref t2.2.1, .ref th]) (k' := 7) (n' := 45) hX (fun l s0 D => mX12_init l s0 D gt7) zwX12_init q1173 q1174 rfl rfl rfl rfl rfl rfl rfl rfl dX1_order_19 ?_
    obtain ⟨u8, gu8, h⟩ := bnd h
    obtain ⟨u10, gu10, hxu10, hnu10⟩ := zthr_bnd h
    rcases u10 with e11 | t9
    · have h := hxu10 _ rfl
      have hxx := hexc _ (Option.some.inj h).symm
      exact zr_callVX (pc := 22) (rest := []) hX hxx.1 hxx.2.1 (fun l s0 D hl => xX1_add_2 l s0 D hl gu10) gu8 zc0 zwX1_add_2 q1129 q1131 qs29 rfl rfl rfl rfl rfl rfl dX1_order_22
    · have h := hnu10 _ rfl
      refine zr_callVs (pc := 22) (rest := []) (stk' := [.int t9.2.2]) (k' := 10) (n' := 423) hX (fun l s0 D => mX1_add_2 l s0 D gu10) gu8 zc0 zwX1_add_2 q1129 q1131 qs29 rfl rfl rfl rfl rfl rfl rfl rfl rfl dX1_order_22 ?_
      refine VW.widen 11 429 ?_ (Nat.le_of_ble_eq_true rfl) (Nat.le_of_ble_eq_true rfl)
      exact hret _ (Option.some.inj h).symm _ _ dX1_order_25 (Or.inl rfl)
theorem mX1_order (l : Launch) (s0 : State) (D : zD) {n : Nat} {σ : zH} {sz : Nat} {th : Nat} {o : zH × Nat × Int32} (h : fX1_order n σ sz th = some (.inr o)) : zM l s0 D yX1_order cX1_order 2 (some .int) 10 212 11 429 [.ref th] σ sz o.1 o.2.1 (some (.int o.2.2)) := by
  refine zenter (own := RX1) zplX1 rfl (Nat.le_of_ble_eq_true rfl) trivial (fun K hX hnm hret => ?_)
  exact wX1_order hX hnm h (fun a e => by cases e; exact hret) (fun e q => by cases q)
theorem xX1_order (l : Launch) (s0 : State) (D : zD) (hl : l.stackTraces = false) {n : Nat} {σ : zH} {sz : Nat} {th : Nat} {e : zX} (h : fX1_order n σ sz th = some (.inl e)) : zMX l s0 D yX1_order cX1_order 2 (some .int) 10 212 11 429 [.ref th] σ sz e.1 e.2 := by
  refine zenterX (own := RX1) hl zplX1 rfl (Nat.le_of_ble_eq_true rfl) (fun K hX hnm hT hx hth => ?_)
  exact wX1_order hX hnm h (fun a q => by cases q) (fun e' q => by cases q; exact ⟨hT, hx, (fun q => hth rfl (by decide) (by decide) (by decide) (by decide) q.symm)⟩)
set_option maxHeartbeats 4000000 in
theorem wX1_regular {K : zC} {n : Nat} {σ : zH} {sz : Nat} {th : Nat} {p0 : Int32} {o : (zX ⊕ (zH × Nat × Int32))} (hX : zOk K RX1 cX1_regular (some .int) 4 10 212 15 456) (hnm : zNm K yX1_regular) (h : fX1_regular n σ sz th p0 = some o) (hret : ∀ a, o = .inr a → zRet K cX1_regular (some .int) a.1 a.2.1 15 456 (some (.int a.2.2))) (hexc : ∀ e, o = .inl e → zTr K ∧ zXok K e.1 e.2 15 456 ∧ (e.2 = σ → zTh K cX1_regular e.1 σ sz)) : VW K σ sz 0 0 0 [(0, .ref th), (1, .int p0)] [] := by
  unfold fX1_regular at h
  refine zr_iload_n (pc := 0) hX 1 rfl rfl dX1_regular_0 ?_
  refine zr_iconst (pc := 1) hX zci_0 dX1_regular_1 ?_
  refine zr_bipush (pc := 2) hX zcb_63 dX1_regular_2 ?_
  obtain ⟨u19, gu19, hxu19, hnu19⟩ := zthr_bnd h
  rcases u19 with e20 | t1
  · have h := hxu19 _ rfl
    have hxx := hexc _ (Option.some.inj h).symm
    exact zr_callSX (pc := 4) (rest := []) hX hxx.1 hxx.2.1 (fun l s0 D hl => xX1_check l s0 D hl gu19) zwX1_check q693 q694 rfl rfl rfl rfl rfl dX1_regular_4
  · have h := hnu19 _ rfl
    refine zr_callS (pc := 4) (rest := []) (stk' := []) (k' := 1) (n' := 6) hX (fun l s0 D => mX1_check l s0 D gu19) zwX1_check q693 q694 rfl rfl rfl rfl rfl rfl rfl rfl dX1_regular_4 ?_
    refine zr_aload_n (pc := 7) hX 0 rfl rfl dX1_regular_7 ?_
    obtain ⟨u2, gu2, h⟩ := bnd h
    obtain ⟨t3, gt3, h⟩ := bnd h
    refine zr_callVs (pc := 8) (rest := []) (stk' := [.ref t3.2.2]) (k' := 2) (n' := 9) hX (fun l s0 D => mX1_takeNames l s0 D gt3) gu2 zc0 zwX1_takeNames q1038 q1040 qs27 rfl rfl rfl rfl rfl rfl rfl rfl rfl dX1_regular_8 ?_
    refine zr_astore_n (pc := 11) hX rfl rfl (Nat.le_of_ble_eq_true rfl) rfl dX1_regular_11 ?_
    refine zr_aload_n (pc := 12) hX 1 rfl rfl dX1_regular_12 ?_
    obtain ⟨r4, gr4, h⟩ := bnd h
    refine zr_fv (pc := 13) hX za0_4 (zgR_spec gr4) q268 (Or.inl rfl) dX1_regular_13 ?_
    refine zr_astore_n (pc := 16) hX rfl rfl (Nat.le_of_ble_eq_true rfl) rfl dX1_regular_16 ?_
    refine zr_aload_n (pc := 17) hX 2 rfl rfl dX1_regular_17 ?_
    obtain ⟨σ5, gσ5, h⟩ := bnd h
    refine zr_new (pc := 18) (k' := 3) (n' := 12) (sz' := t3.2.1 + 1) hX zc18 tyJ2_ok zfs18 q158 q159 q113 rfl rfl rfl (Option.some.inj gσ5) rfl dX1_regular_18 ?_
    refine zr_dup (pc := 21) hX rfl dX1_regular_21 ?_
    obtain ⟨t6, gt6, h⟩ := bnd h
    refine zr_callI (pc := 22) (rest := [.ref t3.2.1, .ref th]) (k' := 3) (n' := 12) hX (fun l s0 D => mJ2_init l s0 D gt6) zwJ2_init q160 q161 rfl rfl rfl rfl rfl rfl rfl rfl dX1_regular_22 ?_
    obtain ⟨σ7, gσ7, h⟩ := bnd h
    refine zr_pv (pc := 25) hX za0_4 gσ7 rfl q268 (Or.inl rfl) rfl (tyX1_ok 4 (Nat.le_of_ble_eq_true rfl)) rfl rfl dX1_regular_25 ?_
    refine zr_aload_n (pc := 28) hX 2 rfl rfl dX1_regular_28 ?_
    refine zr_aload_n (pc := 29) hX 1 rfl rfl dX1_regular_29 ?_
    obtain ⟨u8, gu8, h⟩ := bnd h
    obtain ⟨t9, gt9, h⟩ := bnd h
    refine zr_callVs (pc := 30) (rest := []) (stk' := [.int t9]) (k' := 3) (n' := 12) hX (fun l s0 D => mX1_areInts l s0 D gt9) gu8 zc0 zwX1_areInts q1144 q1146 qs31 rfl rfl rfl rfl rfl rfl rfl rfl rfl dX1_regular_30 ?_
    obtain ⟨u17, gu17, hxu17, hnu17⟩ := zthr_bnd h
    rcases u17 with e18 | t10
    · have h := hxu17 _ rfl
      have hxx := hexc _ (Option.some.inj h).symm
      exact zr_callSX (pc := 33) (rest := []) hX hxx.1 hxx.2.1 (fun l s0 D hl => xX1_checkState l s0 D hl gu17) zwX1_checkState q790 q791 rfl rfl rfl rfl rfl dX1_regular_33
    · have h := hnu17 _ rfl
      refine zr_callS (pc := 33) (rest := []) (stk' := []) (k' := 4) (n' := 18) hX (fun l s0 D => mX1_checkState l s0 D gu17) zwX1_checkState q790 q791 rfl rfl rfl rfl rfl rfl rfl rfl dX1_regular_33 ?_
      refine zr_aload_n (pc := 36) hX 2 rfl rfl dX1_regular_36 ?_
      obtain ⟨σ11, gσ11, h⟩ := bnd h
      refine zr_new (pc := 37) (k' := 5) (n' := 26) (sz' := t3.2.1 + 2) hX zc11 tyX13_ok zfs11 q1189 q1190 q143 rfl rfl rfl (Option.some.inj gσ11) rfl dX1_regular_37 ?_
      refine zr_dup (pc := 40) hX rfl dX1_regular_40 ?_
      refine zr_aload_n (pc := 41) hX 1 rfl rfl dX1_regular_41 ?_
      refine zr_aload_n (pc := 42) hX 0 rfl rfl dX1_regular_42 ?_
      refine zr_iload_n (pc := 43) hX 3 rfl rfl dX1_regular_43 ?_
      obtain ⟨t12, gt12, h⟩ := bnd h
      refine zr_callI (pc := 44) (rest := [.ref (t3.2.1 + 1), .ref th]) (k' := 11) (n' := 72) hX (fun l s0 D => mX13_init l s0 D gt12) zwX13_init q1191 q1192 rfl rfl rfl rfl rfl rfl rfl rfl dX1_regular_44 ?_
      obtain ⟨u13, gu13, h⟩ := bnd h
      obtain ⟨u15, gu15, hxu15, hnu15⟩ := zthr_bnd h
      rcases u15 with e16 | t14
      · have h := hxu15 _ rfl
        have hxx := hexc _ (Option.some.inj h).symm
        exact zr_callVX (pc := 47) (rest := []) hX hxx.1 hxx.2.1 (fun l s0 D hl => xX1_add_2 l s0 D hl gu15) gu13 zc0 zwX1_add_2 q1129 q1131 qs29 rfl rfl rfl rfl rfl rfl dX1_regular_47
      · have h := hnu15 _ rfl
        refine zr_callVs (pc := 47) (rest := []) (stk' := [.int t14.2.2]) (k' := 14) (n' := 450) hX (fun l s0 D => mX1_add_2 l s0 D gu15) gu13 zc0 zwX1_add_2 q1129 q1131 qs29 rfl rfl rfl rfl rfl rfl rfl rfl rfl dX1_regular_47 ?_
        refine VW.widen 15 456 ?_ (Nat.le_of_ble_eq_true rfl) (Nat.le_of_ble_eq_true rfl)
        exact hret _ (Option.some.inj h).symm _ _ dX1_regular_50 (Or.inl rfl)
theorem mX1_regular (l : Launch) (s0 : State) (D : zD) {n : Nat} {σ : zH} {sz : Nat} {th : Nat} {p0 : Int32} {o : zH × Nat × Int32} (h : fX1_regular n σ sz th p0 = some (.inr o)) : zM l s0 D yX1_regular cX1_regular 4 (some .int) 10 212 15 456 [.ref th, .int p0] σ sz o.1 o.2.1 (some (.int o.2.2)) := by
  refine zenter (own := RX1) zplX1 rfl (Nat.le_of_ble_eq_true rfl) trivial (fun K hX hnm hret => ?_)
  exact wX1_regular hX hnm h (fun a e => by cases e; exact hret) (fun e q => by cases q)
theorem xX1_regular (l : Launch) (s0 : State) (D : zD) (hl : l.stackTraces = false) {n : Nat} {σ : zH} {sz : Nat} {th : Nat} {p0 : Int32} {e : zX} (h : fX1_regular n σ sz th p0 = some (.inl e)) : zMX l s0 D yX1_regular cX1_regular 4 (some .int) 10 212 15 456 [.ref th, .int p0] σ sz e.1 e.2 := by
  refine zenterX (own := RX1) hl zplX1 rfl (Nat.le_of_ble_eq_true rfl) (fun K hX hnm hT hx hth => ?_)
  exact wX1_regular hX hnm h (fun a q => by cases q) (fun e' q => by cases q; exact ⟨hT, hx, (fun q => hth rfl (by decide) (by decide) (by decide) (by decide) q.symm)⟩)
set_option maxHeartbeats 4000000 in
theorem wX1_checkKind {K : zC} {σ : zH} {sz : Nat} {th : Nat} {p0 : Int32} {p1 : Int32} {o : (zX ⊕ Unit)} (hX : zOk K RX1 cX1_checkKind none 3 7 120 2 12) (hnm : zNm K yX1_checkKind) (h : fX1_checkKind σ th p0 p1 = some o) (hret : ∀ a, o = .inr a → zRet K cX1_checkKind none σ sz 2 12 none) (hexc : ∀ e, o = .inl e → zTr K ∧ zXok K e.1 e.2 2 12 ∧ (e.2 = σ → zTh K cX1_checkKind e.1 σ sz)) : VW K σ sz 0 0 0 [(0, .ref th), (1, .int p0), (2, .int p1)] [] := by
  unfold fX1_checkKind at h
  refine zr_aload_n (pc := 0) hX 0 rfl rfl dX1_checkKind_0 ?_
  refine zr_iload_n (pc := 1) hX 1 rfl rfl dX1_checkKind_1 ?_
  refine zr_iload_n (pc := 2) hX 2 rfl rfl dX1_checkKind_2 ?_
  obtain ⟨u1, gu1, h⟩ := bnd h
  obtain ⟨t2, gt2, h⟩ := bnd h
  refine zr_callVs (pc := 3) (rest := []) (stk' := [.int t2]) (k' := 0) (n' := 0) hX (fun l s0 D => mX1_isOf l s0 D gt2) gu1 zc0 zwX1_isOf q1056 q1058 qs28 rfl rfl rfl rfl rfl rfl rfl rfl rfl dX1_checkKind_3 ?_
  obtain ⟨u4, gu4, hxu4, hnu4⟩ := zthr_bnd h
  rcases u4 with e5 | t3
  · have h := hxu4 _ rfl
    have hxx := hexc _ (Option.some.inj h).symm
    exact zr_callSX (pc := 6) (rest := []) hX hxx.1 hxx.2.1 (fun l s0 D hl => xX1_checkArgument l s0 D hl gu4) zwX1_checkArgument q762 q763 rfl rfl rfl rfl rfl dX1_checkKind_6
  · have h := hnu4 _ rfl
    refine zr_callS (pc := 6) (rest := []) (stk' := []) (k' := 1) (n' := 6) hX (fun l s0 D => mX1_checkArgument l s0 D gu4) zwX1_checkArgument q762 q763 rfl rfl rfl rfl rfl rfl rfl rfl dX1_checkKind_6 ?_
    refine VW.widen 2 12 ?_ (Nat.le_of_ble_eq_true rfl) (Nat.le_of_ble_eq_true rfl)
    exact hret _ (Option.some.inj h).symm _ _ dX1_checkKind_9
theorem mX1_checkKind (l : Launch) (s0 : State) (D : zD) {σ : zH} {sz : Nat} {th : Nat} {p0 : Int32} {p1 : Int32} {o : Unit} (h : fX1_checkKind σ th p0 p1 = some (.inr o)) : zM l s0 D yX1_checkKind cX1_checkKind 3 none 7 120 2 12 [.ref th, .int p0, .int p1] σ sz σ sz none := by
  refine zenter (own := RX1) zplX1 rfl (Nat.le_of_ble_eq_true rfl) rfl (fun K hX hnm hret => ?_)
  exact wX1_checkKind hX hnm h (fun a e => by cases e; exact hret) (fun e q => by cases q)
theorem xX1_checkKind (l : Launch) (s0 : State) (D : zD) (hl : l.stackTraces = false) {σ : zH} {sz : Nat} {th : Nat} {p0 : Int32} {p1 : Int32} {e : zX} (h : fX1_checkKind σ th p0 p1 = some (.inl e)) : zMX l s0 D yX1_checkKind cX1_checkKind 3 none 7 120 2 12 [.ref th, .int p0, .int p1] σ sz e.1 e.2 := by
  refine zenterX (own := RX1) hl zplX1 rfl (Nat.le_of_ble_eq_true rfl) (fun K hX hnm hT hx hth => ?_)
  exact wX1_checkKind hX hnm h (fun a q => by cases q) (fun e' q => by cases q; exact ⟨hT, hx, (fun q => hth rfl (by decide) (by decide) (by decide) (by decide) q.symm)⟩)
set_option maxHeartbeats 4000000 in
theorem wX1_element {K : zC} {n : Nat} {σ : zH} {sz : Nat} {th : Nat} {p0 : Int32} {p1 : Int32} {o : (zX ⊕ (zH × Nat × Int32))} (hX : zOk K RX1 cX1_element (some .int) 5 10 212 24 1944) (hnm : zNm K yX1_element) (h : fX1_element n σ sz th p0 p1 = some o) (hret : ∀ a, o = .inr a → zRet K cX1_element (some .int) a.1 a.2.1 24 1944 (some (.int a.2.2))) (hexc : ∀ e, o = .inl e → zTr K ∧ zXok K e.1 e.2 24 1944 ∧ (e.2 = σ → zTh K cX1_element e.1 σ sz)) : VW K σ sz 0 0 0 [(0, .ref th), (1, .int p0), (2, .int p1)] [] := by
  unfold fX1_element at h
  refine zr_aload_n (pc := 0) hX 0 rfl rfl dX1_element_0 ?_
  refine zr_iload_n (pc := 1) hX 1 rfl rfl dX1_element_1 ?_
  obtain ⟨u1, gu1, h⟩ := bnd h
  obtain ⟨u38, gu38, hxu38, hnu38⟩ := zthr_bnd h
  rcases u38 with e39 | t2
  · have h := hxu38 _ rfl
    have hxx := hexc _ (Option.some.inj h).symm
    exact zr_callVX (pc := 2) (rest := []) hX hxx.1 hxx.2.1 (fun l s0 D hl => xX1_variable_2 l s0 D hl gu38) gu1 zc0 zwX1_variable_2 q927 q929 qs25 rfl rfl rfl rfl rfl rfl dX1_element_2
  · have h := hnu38 _ rfl
    refine zr_callVs (pc := 2) (rest := []) (stk' := [.ref t2]) (k' := 2) (n' := 12) hX (fun l s0 D => mX1_variable_2 l s0 D gu38) gu1 zc0 zwX1_variable_2 q927 q929 qs25 rfl rfl rfl rfl rfl rfl rfl rfl rfl dX1_element_2 ?_
    refine zr_pop (pc := 5) hX rfl dX1_element_5 ?_
    refine zr_aload_n (pc := 6) hX 0 rfl rfl dX1_element_6 ?_
    refine zr_iload_n (pc := 7) hX 2 rfl rfl dX1_element_7 ?_
    obtain ⟨u3, gu3, h⟩ := bnd h
    obtain ⟨u36, gu36, hxu36, hnu36⟩ := zthr_bnd h
    rcases u36 with e37 | t4
    · have h := hxu36 _ rfl
      have hxx := hexc _ (Option.some.inj h).symm
      exact zr_callVX (pc := 8) (rest := []) hX hxx.1 hxx.2.1 (fun l s0 D hl => xX1_variable_2 l s0 D hl gu36) gu3 zc0 zwX1_variable_2 q927 q929 qs25 rfl rfl rfl rfl rfl rfl dX1_element_8
    · have h := hnu36 _ rfl
      refine zr_callVs (pc := 8) (rest := []) (stk' := [.ref t4]) (k' := 4) (n' := 24) hX (fun l s0 D => mX1_variable_2 l s0 D gu36) gu3 zc0 zwX1_variable_2 q927 q929 qs25 rfl rfl rfl rfl rfl rfl rfl rfl rfl dX1_element_8 ?_
      refine zr_pop (pc := 11) hX rfl dX1_element_11 ?_
      refine zr_aload_n (pc := 12) hX 0 rfl rfl dX1_element_12 ?_
      refine zr_iload_n (pc := 13) hX 1 rfl rfl dX1_element_13 ?_
      refine zr_iconst (pc := 14) hX zci_0 dX1_element_14 ?_
      obtain ⟨u5, gu5, h⟩ := bnd h
      obtain ⟨u34, gu34, hxu34, hnu34⟩ := zthr_bnd h
      rcases u34 with e35 | t6
      · have h := hxu34 _ rfl
        have hxx := hexc _ (Option.some.inj h).symm
        exact zr_callVX (pc := 15) (rest := []) hX hxx.1 hxx.2.1 (fun l s0 D hl => xX1_checkKind l s0 D hl gu34) gu5 zc0 zwX1_checkKind q1219 q1221 qs32 rfl rfl rfl rfl rfl rfl dX1_element_15
      · have h := hnu34 _ rfl
        refine zr_callVs (pc := 15) (rest := []) (stk' := []) (k' := 6) (n' := 36) hX (fun l s0 D => mX1_checkKind l s0 D gu34) gu5 zc0 zwX1_checkKind q1219 q1221 qs32 rfl rfl rfl rfl rfl rfl rfl rfl rfl dX1_element_15 ?_
        refine zr_aload_n (pc := 18) hX 0 rfl rfl dX1_element_18 ?_
        refine zr_iload_n (pc := 19) hX 2 rfl rfl dX1_element_19 ?_
        refine zr_iconst (pc := 20) hX zci_0 dX1_element_20 ?_
        obtain ⟨u7, gu7, h⟩ := bnd h
        obtain ⟨u32, gu32, hxu32, hnu32⟩ := zthr_bnd h
        rcases u32 with e33 | t8
        · have h := hxu32 _ rfl
          have hxx := hexc _ (Option.some.inj h).symm
          exact zr_callVX (pc := 21) (rest := []) hX hxx.1 hxx.2.1 (fun l s0 D hl => xX1_checkKind l s0 D hl gu32) gu7 zc0 zwX1_checkKind q1219 q1221 qs32 rfl rfl rfl rfl rfl rfl dX1_element_21
        · have h := hnu32 _ rfl
          refine zr_callVs (pc := 21) (rest := []) (stk' := []) (k' := 8) (n' := 48) hX (fun l s0 D => mX1_checkKind l s0 D gu32) gu7 zc0 zwX1_checkKind q1219 q1221 qs32 rfl rfl rfl rfl rfl rfl rfl rfl rfl dX1_element_21 ?_
          refine zr_aload_n (pc := 24) hX 0 rfl rfl dX1_element_24 ?_
          obtain ⟨u9, gu9, h⟩ := bnd h
          obtain ⟨t10, gt10, h⟩ := bnd h
          refine zr_callVs (pc := 25) (rest := []) (stk' := [.ref t10.2.2]) (k' := 9) (n' := 51) hX (fun l s0 D => mX1_takeNames l s0 D gt10) gu9 zc0 zwX1_takeNames q1038 q1040 qs27 rfl rfl rfl rfl rfl rfl rfl rfl rfl dX1_element_25 ?_
          refine zr_astore_n (pc := 28) hX rfl rfl (Nat.le_of_ble_eq_true rfl) rfl dX1_element_28 ?_
          refine zr_aload_n (pc := 29) hX 1 rfl rfl dX1_element_29 ?_
          refine zr_aload_n (pc := 30) hX 0 rfl rfl dX1_element_30 ?_
          obtain ⟨u11, gu11, h⟩ := bnd h
          obtain ⟨t12, gt12, h⟩ := bnd h
          refine zr_callVs (pc := 31) (rest := []) (stk' := [.int t12]) (k' := 9) (n' := 51) hX (fun l s0 D => mX1_areInts l s0 D gt12) gu11 zc0 zwX1_areInts q1144 q1146 qs31 rfl rfl rfl rfl rfl rfl rfl rfl rfl dX1_element_31 ?_
          obtain ⟨u30, gu30, hxu30, hnu30⟩ := zthr_bnd h
          rcases u30 with e31 | t13
          · have h := hxu30 _ rfl
            have hxx := hexc _ (Option.some.inj h).symm
            exact zr_callSX (pc := 34) (rest := []) hX hxx.1 hxx.2.1 (fun l s0 D hl => xX1_checkState l s0 D hl gu30) zwX1_checkState q790 q791 rfl rfl rfl rfl rfl dX1_element_34
          · have h := hnu30 _ rfl
            refine zr_callS (pc := 34) (rest := []) (stk' := []) (k' := 10) (n' := 57) hX (fun l s0 D => mX1_checkState l s0 D gu30) zwX1_checkState q790 q791 rfl rfl rfl rfl rfl rfl rfl rfl dX1_element_34 ?_
            obtain ⟨σ14, gσ14, h⟩ := bnd h
            refine zr_new (pc := 37) (k' := 11) (n' := 60) (sz' := t10.2.1 + 1) hX zc18 tyJ2_ok zfs18 q158 q159 q113 rfl rfl rfl (Option.some.inj gσ14) rfl dX1_element_37 ?_
            refine zr_dup (pc := 40) hX rfl dX1_element_40 ?_
            obtain ⟨t15, gt15, h⟩ := bnd h
            refine zr_callI (pc := 41) (rest := [.ref t10.2.1]) (k' := 11) (n' := 60) hX (fun l s0 D => mJ2_init l s0 D gt15) zwJ2_init q160 q161 rfl rfl rfl rfl rfl rfl rfl rfl dX1_element_41 ?_
            refine zr_astore (pc := 44) hX rfl (Nat.le_of_ble_eq_true rfl) rfl dX1_element_44 ?_
            refine zr_aload (pc := 46) hX 0 rfl dX1_element_46 ?_
            refine zr_iload_n (pc := 48) hX 3 rfl rfl dX1_element_48 ?_
            obtain ⟨t16, gt16, h⟩ := bnd h
            refine zr_callS (pc := 49) (rest := [.ref t10.2.1]) (stk' := [.ref t16, .ref t10.2.1]) (k' := 11) (n' := 60) hX (fun l s0 D => mJ18_valueOf l s0 D gt16) zwJ18_valueOf q949 q950 rfl rfl rfl rfl rfl rfl rfl rfl dX1_element_49 ?_
            obtain ⟨u17, gu17, h⟩ := bnd h
            obtain ⟨t18, gt18, h⟩ := bnd h
            refine zr_callF (pc := 52) (rest := []) (stk' := [.int t18.2.2]) (k' := 12) (n' := 426) hX (fun l s0 D => mJ2_add l s0 D gt18) gu17 zwJ2_add (by decide) q809 q814 q812 rfl rfl rfl rfl rfl rfl rfl rfl rfl dX1_element_52 ?_
            refine zr_pop (pc := 57) hX rfl dX1_element_57 ?_
            refine zr_aload (pc := 58) hX 0 rfl dX1_element_58 ?_
            refine zr_iload_n (pc := 60) hX 4 rfl rfl dX1_element_60 ?_
            obtain ⟨t19, gt19, h⟩ := bnd h
            refine zr_callS (pc := 61) (rest := [.ref t10.2.1]) (stk' := [.ref t19, .ref t10.2.1]) (k' := 12) (n' := 426) hX (fun l s0 D => mJ18_valueOf l s0 D gt19) zwJ18_valueOf q949 q950 rfl rfl rfl rfl rfl rfl rfl rfl dX1_element_61 ?_
            obtain ⟨u20, gu20, h⟩ := bnd h
            obtain ⟨t21, gt21, h⟩ := bnd h
            refine zr_callF (pc := 64) (rest := []) (stk' := [.int t21.2.2]) (k' := 13) (n' := 792) hX (fun l s0 D => mJ2_add l s0 D gt21) gu20 zwJ2_add (by decide) q809 q814 q812 rfl rfl rfl rfl rfl rfl rfl rfl rfl dX1_element_64 ?_
            refine zr_pop (pc := 69) hX rfl dX1_element_69 ?_
            refine zr_aload (pc := 70) hX 0 rfl dX1_element_70 ?_
            refine zr_aload_n (pc := 72) hX 1 rfl rfl dX1_element_72 ?_
            obtain ⟨u22, gu22, h⟩ := bnd h
            obtain ⟨t23, gt23, h⟩ := bnd h
            refine zr_callF (pc := 73) (rest := []) (stk' := [.int t23.2.2]) (k' := 15) (n' := 1524) hX (fun l s0 D => mJ2_addAll l s0 D gt23) gu22 zwJ2_addAll (by decide) q1224 q1229 q1227 rfl rfl rfl rfl rfl rfl rfl rfl rfl dX1_element_73 ?_
            refine zr_pop (pc := 78) hX rfl dX1_element_78 ?_
            refine zr_aload_n (pc := 79) hX 2 rfl rfl dX1_element_79 ?_
            obtain ⟨σ24, gσ24, h⟩ := bnd h
            refine zr_new (pc := 80) (k' := 16) (n' := 1528) (sz' := t23.2.1 + 1) hX zc12 tyX14_ok zfs12 q1243 q527 q144 rfl rfl rfl (Option.some.inj gσ24) rfl dX1_element_80 ?_
            refine zr_dup (pc := 83) hX rfl dX1_element_83 ?_
            refine zr_aload (pc := 84) hX 0 rfl dX1_element_84 ?_
            obtain ⟨t25, gt25, h⟩ := bnd h
            refine zr_callI (pc := 86) (rest := [.ref t23.2.1, .ref th]) (k' := 20) (n' := 1560) hX (fun l s0 D => mX14_init l s0 D gt25) zwX14_init q1244 q1245 rfl rfl rfl rfl rfl rfl rfl rfl dX1_element_86 ?_
            obtain ⟨u26, gu26, h⟩ := bnd h
            obtain ⟨u28, gu28, hxu28, hnu28⟩ := zthr_bnd h
            rcases u28 with e29 | t27
            · have h := hxu28 _ rfl
              have hxx := hexc _ (Option.some.inj h).symm
              exact zr_callVX (pc := 89) (rest := []) hX hxx.1 hxx.2.1 (fun l s0 D hl => xX1_add_2 l s0 D hl gu28) gu26 zc0 zwX1_add_2 q1129 q1131 qs29 rfl rfl rfl rfl rfl rfl dX1_element_89
            · have h := hnu28 _ rfl
              refine zr_callVs (pc := 89) (rest := []) (stk' := [.int t27.2.2]) (k' := 23) (n' := 1938) hX (fun l s0 D => mX1_add_2 l s0 D gu28) gu26 zc0 zwX1_add_2 q1129 q1131 qs29 rfl rfl rfl rfl rfl rfl rfl rfl rfl dX1_element_89 ?_
              refine VW.widen 24 1944 ?_ (Nat.le_of_ble_eq_true rfl) (Nat.le_of_ble_eq_true rfl)
              exact hret _ (Option.some.inj h).symm _ _ dX1_element_92 (Or.inl rfl)
theorem mX1_element (l : Launch) (s0 : State) (D : zD) {n : Nat} {σ : zH} {sz : Nat} {th : Nat} {p0 : Int32} {p1 : Int32} {o : zH × Nat × Int32} (h : fX1_element n σ sz th p0 p1 = some (.inr o)) : zM l s0 D yX1_element cX1_element 5 (some .int) 10 212 24 1944 [.ref th, .int p0, .int p1] σ sz o.1 o.2.1 (some (.int o.2.2)) := by
  refine zenter (own := RX1) zplX1 rfl (Nat.le_of_ble_eq_true rfl) trivial (fun K hX hnm hret => ?_)
  exact wX1_element hX hnm h (fun a e => by cases e; exact hret) (fun e q => by cases q)
theorem xX1_element (l : Launch) (s0 : State) (D : zD) (hl : l.stackTraces = false) {n : Nat} {σ : zH} {sz : Nat} {th : Nat} {p0 : Int32} {p1 : Int32} {e : zX} (h : fX1_element n σ sz th p0 p1 = some (.inl e)) : zMX l s0 D yX1_element cX1_element 5 (some .int) 10 212 24 1944 [.ref th, .int p0, .int p1] σ sz e.1 e.2 := by
  refine zenterX (own := RX1) hl zplX1 rfl (Nat.le_of_ble_eq_true rfl) (fun K hX hnm hT hx hth => ?_)
  exact wX1_element hX hnm h (fun a q => by cases q) (fun e' q => by cases q; exact ⟨hT, hx, (fun q => hth rfl (by decide) (by decide) (by decide) (by decide) q.symm)⟩)
set_option maxHeartbeats 4000000 in
theorem wX1_checkAll {K : zC} {n : Nat} {σ : zH} {sz : Nat} {th : Nat} {p0 : Nat} {p1 : Nat} {o : (zX ⊕ Unit)} (hX : zOk K RX1 cX1_checkAll none 7 8 142 19 114) (hnm : zNm K yX1_checkAll) (h : fX1_checkAll n σ th p0 p1 = some o) (hret : ∀ a, o = .inr a → zRet K cX1_checkAll none σ sz 19 114 none) (hexc : ∀ e, o = .inl e → zTr K ∧ zXok K e.1 e.2 19 114 ∧ (e.2 = σ → zTh K cX1_checkAll e.1 σ sz)) : VW K σ sz 0 0 0 [(0, .ref th), (1, .ref p0), (2, .ref p1)] [] := by
  unfold fX1_checkAll at h
  refine zr_aload_n (pc := 0) hX 1 rfl rfl dX1_checkAll_0 ?_
  refine zr_astore_n (pc := 1) hX rfl rfl (Nat.le_of_ble_eq_true rfl) rfl dX1_checkAll_1 ?_
  refine zr_aload_n (pc := 2) hX 0 rfl rfl dX1_checkAll_2 ?_
  obtain ⟨x1, gx1, h⟩ := bnd h
  refine zr_len (pc := 3) hX gx1 dX1_checkAll_3 ?_
  refine zr_istore (pc := 4) hX rfl (Nat.le_of_ble_eq_true rfl) rfl dX1_checkAll_4 ?_
  refine zr_iconst (pc := 6) hX zci_0 dX1_checkAll_6 ?_
  refine zr_istore (pc := 7) hX rfl (Nat.le_of_ble_eq_true rfl) rfl dX1_checkAll_7 ?_
  obtain ⟨u18, gu18, hAu18, hBu18⟩ := zesc_bnd h
  have hJt5 : ∀ a, .inl a = u18 → VW K σ sz 8 48 35 [(0, .ref th), (1, .ref p0), (2, .ref p1)] [] := by
    intro t5 ea
    have h := hAu18 _ ea.symm
    refine zr_iconst (pc := 35) hX zci_0 dX1_checkAll_35 ?_
    refine zr_istore_n (pc := 36) hX rfl rfl (Nat.le_of_ble_eq_true rfl) rfl dX1_checkAll_36 ?_
    refine VW.sub (lv' := [(0, .ref th), (1, .ref p0), (2, .ref p1), (3, .int (0 : Int32))]) ?_ [1, 2, 3, 0] rfl
    refine zloop_walkN (V := (fun j a => ∀ kv8 nv8 : Nat, kv8 + j * 2 ≤ 16 → nv8 + j * 12 ≤ 96 → VW K σ sz kv8 nv8 37 [(0, .ref th), (1, .ref p0), (2, .ref p1), (3, .int a)] [])) (E := fun e => e = o) ?_ 4 (0 : Int32) _ h rfl 8 48 (by omega) (by omega)
    intro j a6 o7 h kco7 keo7 kv8 nv8 hkvkv8 hnvnv8
    unfold fX1_checkAll_L37 at h
    refine zr_iload_n (pc := 37) hX 3 rfl rfl dX1_checkAll_37 ?_
    refine zr_aload_n (pc := 38) hX 1 rfl rfl dX1_checkAll_38 ?_
    obtain ⟨x9, gx9, h⟩ := bnd h
    refine zr_len (pc := 39) hX gx9 dX1_checkAll_39 ?_
    refine zr_icmp_ge (pc := 40) hX 59 rfl dX1_checkAll_40 (fun c40_16 => ?_) (fun c40_16 => ?_)
    · rw [if_pos c40_16] at h
      replace h := congrArg some (keo7 _ (Option.some.inj h).symm)
      refine VW.widen 19 114 ?_ (by omega) (by omega)
      exact hret _ (Option.some.inj h).symm _ _ dX1_checkAll_59
    · rw [if_neg c40_16] at h
      refine zr_aload_n (pc := 43) hX 0 rfl rfl dX1_checkAll_43 ?_
      refine zr_aload_n (pc := 44) hX 1 rfl rfl dX1_checkAll_44 ?_
      refine zr_iload_n (pc := 45) hX 3 rfl rfl dX1_checkAll_45 ?_
      obtain ⟨x10, gx10, h⟩ := bnd h
      refine zr_aI (pc := 46) hX gx10 dX1_checkAll_46 ?_
      refine zr_aload_n (pc := 47) hX 2 rfl rfl dX1_checkAll_47 ?_
      refine zr_iload_n (pc := 48) hX 3 rfl rfl dX1_checkAll_48 ?_
      obtain ⟨x11, gx11, h⟩ := bnd h
      refine zr_aI (pc := 49) hX gx11 dX1_checkAll_49 ?_
      obtain ⟨u12, gu12, h⟩ := bnd h
      obtain ⟨u15, gu15, hxu15, hnu15⟩ := zthr_bnd h
      rcases u15 with e16 | t13
      · have h := hxu15 _ rfl
        replace h := congrArg some (keo7 _ (Option.some.inj h).symm)
        have hxx := hexc _ (Option.some.inj h).symm
        exact zr_callVX (pc := 50) (rest := []) hX hxx.1 hxx.2.1 (fun l s0 D hl => xX1_checkKind l s0 D hl gu15) gu12 zc0 zwX1_checkKind q1219 q1221 qs32 rfl rfl (zble2 (by omega) (by omega)) rfl rfl rfl dX1_checkAll_50
      · have h := hnu15 _ rfl
        refine zr_callVs (pc := 50) (rest := []) (stk' := []) (k' := (kv8 + 2)) (n' := (nv8 + 12)) hX (fun l s0 D => mX1_checkKind l s0 D gu15) gu12 zc0 zwX1_checkKind q1219 q1221 qs32 rfl rfl (zble2 (by omega) (by omega)) rfl rfl rfl rfl rfl rfl dX1_checkAll_50 ?_
        obtain ⟨x14, gx14, h⟩ := bnd h
        refine zr_iinc (pc := 53) hX 3 rfl zci_1 (Option.some.inj gx14) (Nat.le_of_ble_eq_true rfl) rfl dX1_checkAll_53 ?_
        refine zr_goto (pc := 56) hX 37 rfl dX1_checkAll_56 ?_
        exact VW.sub (kco7 x14 (Option.some.inj h).symm _ _ (by omega) (by omega)) [1, 2, 3, 0] rfl
  refine VW.sub (lv' := [(0, .ref th), (1, .ref p0), (2, .ref p1), (3, .ref p0), (4, .int x1), (5, .int (0 : Int32))]) ?_ [3, 4, 5, 2, 1, 0] rfl
  refine zloop_walkN (V := (fun j a => ∀ kv4 nv4 : Nat, kv4 + j * 2 ≤ 8 → nv4 + j * 12 ≤ 48 → VW K σ sz kv4 nv4 9 [(0, .ref th), (1, .ref p0), (2, .ref p1), (3, .ref p0), (4, .int x1), (5, .int a)] [])) (E := fun e => e = u18) ?_ 4 (0 : Int32) _ gu18 rfl 0 0 (by omega) (by omega)
  intro j a2 o3 h kco3 keo3 kv4 nv4 hkvkv4 hnvnv4
  unfold fX1_checkAll_L9 at h
  refine zr_iload (pc := 9) hX 5 rfl dX1_checkAll_9 ?_
  refine zr_iload (pc := 11) hX 4 rfl dX1_checkAll_11 ?_
  refine zr_icmp_ge (pc := 13) hX 35 rfl dX1_checkAll_13 (fun c13_24 => ?_) (fun c13_24 => ?_)
  · rw [if_pos c13_24] at h
    refine VW.widen 8 48 ?_ (by omega) (by omega)
    exact VW.sub (hJt5 () (keo3 _ (Option.some.inj h).symm)) [0, 1, 2] rfl
  · rw [if_neg c13_24] at h
    refine zr_aload_n (pc := 16) hX 3 rfl rfl dX1_checkAll_16 ?_
    refine zr_iload (pc := 17) hX 5 rfl dX1_checkAll_17 ?_
    obtain ⟨x19, gx19, h⟩ := bnd h
    refine zr_aI (pc := 19) hX gx19 dX1_checkAll_19 ?_
    refine zr_istore (pc := 20) hX rfl (Nat.le_of_ble_eq_true rfl) rfl dX1_checkAll_20 ?_
    refine zr_aload_n (pc := 22) hX 1 rfl rfl dX1_checkAll_22 ?_
    refine zr_iload (pc := 23) hX 0 rfl dX1_checkAll_23 ?_
    obtain ⟨u20, gu20, h⟩ := bnd h
    obtain ⟨u23, gu23, hxu23, hnu23⟩ := zthr_bnd h
    rcases u23 with e24 | t21
    · have h := hxu23 _ rfl
      replace h := congrArg some (hBu18 _ (keo3 _ (Option.some.inj h).symm).symm)
      have hxx := hexc _ (Option.some.inj h).symm
      exact zr_callVX (pc := 25) (rest := []) hX hxx.1 hxx.2.1 (fun l s0 D hl => xX1_variable_2 l s0 D hl gu23) gu20 zc0 zwX1_variable_2 q927 q929 qs25 rfl rfl (zble2 (by omega) (by omega)) rfl rfl rfl dX1_checkAll_25
    · have h := hnu23 _ rfl
      refine zr_callVs (pc := 25) (rest := []) (stk' := [.ref t21]) (k' := (kv4 + 2)) (n' := (nv4 + 12)) hX (fun l s0 D => mX1_variable_2 l s0 D gu23) gu20 zc0 zwX1_variable_2 q927 q929 qs25 rfl rfl (zble2 (by omega) (by omega)) rfl rfl rfl rfl rfl rfl dX1_checkAll_25 ?_
      refine zr_pop (pc := 28) hX rfl dX1_checkAll_28 ?_
      obtain ⟨x22, gx22, h⟩ := bnd h
      refine zr_iinc (pc := 29) hX 6 rfl zci_1 (Option.some.inj gx22) (Nat.le_of_ble_eq_true rfl) rfl dX1_checkAll_29 ?_
      refine zr_goto (pc := 32) hX 9 rfl dX1_checkAll_32 ?_
      exact VW.sub (kco3 x22 (Option.some.inj h).symm _ _ (by omega) (by omega)) [2, 3, 4, 5, 6, 0] rfl
theorem mX1_checkAll (l : Launch) (s0 : State) (D : zD) {n : Nat} {σ : zH} {sz : Nat} {th : Nat} {p0 : Nat} {p1 : Nat} {o : Unit} (h : fX1_checkAll n σ th p0 p1 = some (.inr o)) : zM l s0 D yX1_checkAll cX1_checkAll 7 none 8 142 19 114 [.ref th, .ref p0, .ref p1] σ sz σ sz none := by
  refine zenter (own := RX1) zplX1 rfl (Nat.le_of_ble_eq_true rfl) rfl (fun K hX hnm hret => ?_)
  exact wX1_checkAll hX hnm h (fun a e => by cases e; exact hret) (fun e q => by cases q)
theorem xX1_checkAll (l : Launch) (s0 : State) (D : zD) (hl : l.stackTraces = false) {n : Nat} {σ : zH} {sz : Nat} {th : Nat} {p0 : Nat} {p1 : Nat} {e : zX} (h : fX1_checkAll n σ th p0 p1 = some (.inl e)) : zMX l s0 D yX1_checkAll cX1_checkAll 7 none 8 142 19 114 [.ref th, .ref p0, .ref p1] σ sz e.1 e.2 := by
  refine zenterX (own := RX1) hl zplX1 rfl (Nat.le_of_ble_eq_true rfl) (fun K hX hnm hT hx hth => ?_)
  exact wX1_checkAll hX hnm h (fun a q => by cases q) (fun e' q => by cases q; exact ⟨hT, hx, (fun q => hth rfl (by decide) (by decide) (by decide) (by decide) q.symm)⟩)
set_option maxHeartbeats 4000000 in
theorem wX1_addSmall {K : zC} {n : Nat} {σ : zH} {sz : Nat} {th : Nat} {p0 : Nat} {p1 : Nat} {o : (zX ⊕ (zH × Nat × Int32))} (hX : zOk K RX1 cX1_addSmall (some .int) 8 10 212 14 1888) (hnm : zNm K yX1_addSmall) (h : fX1_addSmall n σ sz th p0 p1 = some o) (hret : ∀ a, o = .inr a → zRet K cX1_addSmall (some .int) a.1 a.2.1 14 1888 (some (.int a.2.2))) (hexc : ∀ e, o = .inl e → zTr K ∧ zXok K e.1 e.2 14 1888 ∧ (e.2 = σ → zTh K cX1_addSmall e.1 σ sz)) : VW K σ sz 0 0 0 [(0, .ref th), (1, .ref p0), (2, .ref p1)] [] := by
  unfold fX1_addSmall at h
  obtain ⟨σ1, gσ1, h⟩ := bnd h
  refine zr_new (pc := 0) (k' := 1) (n' := 3) (sz' := sz + 1) hX zc18 tyJ2_ok zfs18 q158 q159 q113 rfl rfl rfl (Option.some.inj gσ1) rfl dX1_addSmall_0 ?_
  refine zr_dup (pc := 3) hX rfl dX1_addSmall_3 ?_
  obtain ⟨t2, gt2, h⟩ := bnd h
  refine zr_callI (pc := 4) (rest := [.ref sz]) (k' := 1) (n' := 3) hX (fun l s0 D => mJ2_init l s0 D gt2) zwJ2_init q160 q161 rfl rfl rfl rfl rfl rfl rfl rfl dX1_addSmall_4 ?_
  refine zr_astore_n (pc := 7) hX rfl rfl (Nat.le_of_ble_eq_true rfl) rfl dX1_addSmall_7 ?_
  refine zr_aload_n (pc := 8) hX 3 rfl rfl dX1_addSmall_8 ?_
  refine zr_astore (pc := 9) hX rfl (Nat.le_of_ble_eq_true rfl) rfl dX1_addSmall_9 ?_
  refine zr_aload (pc := 11) hX 0 rfl dX1_addSmall_11 ?_
  obtain ⟨x3, gx3, h⟩ := bnd h
  refine zr_len (pc := 13) hX gx3 dX1_addSmall_13 ?_
  refine zr_istore (pc := 14) hX rfl (Nat.le_of_ble_eq_true rfl) rfl dX1_addSmall_14 ?_
  refine zr_iconst (pc := 16) hX zci_0 dX1_addSmall_16 ?_
  refine zr_istore (pc := 17) hX rfl (Nat.le_of_ble_eq_true rfl) rfl dX1_addSmall_17 ?_
  obtain ⟨t7, gt7, h⟩ := bnd h
  have hJt7 : ∀ a, a = t7 → VW K a.1 a.2 5 1467 51 [(0, .ref th), (1, .ref p0), (3, .ref sz)] [] := by
    intro a ea
    rw [ea]
    refine zr_aload_n (pc := 51) hX 0 rfl rfl dX1_addSmall_51 ?_
    obtain ⟨σ8, gσ8, h⟩ := bnd h
    refine zr_new (pc := 52) (k' := 6) (n' := 1472) (sz' := t7.2 + 1) hX zc13 tyX15_ok zfs13 q1270 q632 q145 rfl rfl rfl (Option.some.inj gσ8) rfl dX1_addSmall_52 ?_
    refine zr_dup (pc := 55) hX rfl dX1_addSmall_55 ?_
    refine zr_aload_n (pc := 56) hX 2 rfl rfl dX1_addSmall_56 ?_
    refine zr_aload_n (pc := 57) hX 1 rfl rfl dX1_addSmall_57 ?_
    obtain ⟨t9, gt9, h⟩ := bnd h
    refine zr_callI (pc := 58) (rest := [.ref t7.2, .ref th]) (k' := 10) (n' := 1504) hX (fun l s0 D => mX15_init l s0 D gt9) zwX15_init q1271 q1272 rfl rfl rfl rfl rfl rfl rfl rfl dX1_addSmall_58 ?_
    obtain ⟨u10, gu10, h⟩ := bnd h
    obtain ⟨u12, gu12, hxu12, hnu12⟩ := zthr_bnd h
    rcases u12 with e13 | t11
    · have h := hxu12 _ rfl
      have hxx := hexc _ (Option.some.inj h).symm
      exact zr_callVX (pc := 61) (rest := []) hX hxx.1 hxx.2.1 (fun l s0 D hl => xX1_add_2 l s0 D hl gu12) gu10 zc0 zwX1_add_2 q1129 q1131 qs29 rfl rfl rfl rfl rfl rfl dX1_addSmall_61
    · have h := hnu12 _ rfl
      refine zr_callVs (pc := 61) (rest := []) (stk' := [.int t11.2.2]) (k' := 13) (n' := 1882) hX (fun l s0 D => mX1_add_2 l s0 D gu12) gu10 zc0 zwX1_add_2 q1129 q1131 qs29 rfl rfl rfl rfl rfl rfl rfl rfl rfl dX1_addSmall_61 ?_
      refine VW.widen 14 1888 ?_ (Nat.le_of_ble_eq_true rfl) (Nat.le_of_ble_eq_true rfl)
      exact hret _ (Option.some.inj h).symm _ _ dX1_addSmall_64 (Or.inl rfl)
  refine VW.sub (lv' := [(0, .ref th), (1, .ref p0), (3, .ref sz), (4, .ref p1), (5, .int x3), (6, .int (0 : Int32))]) ?_ [4, 5, 3, 2, 1, 0] rfl
  refine zloop_walkN (V := (fun j a => ∀ kv6 nv6 : Nat, kv6 + j * 1 ≤ 5 → nv6 + j * 366 ≤ 1467 → VW K a.1 a.2.1 kv6 nv6 19 [(0, .ref th), (1, .ref p0), (3, .ref sz), (4, .ref p1), (5, .int x3), (6, .int a.2.2)] [])) (E := fun e => e = t7) ?_ 4 (t2, sz + 1, (0 : Int32)) _ gt7 rfl 1 3 (by omega) (by omega)
  intro j a4 o5 h kco5 keo5 kv6 nv6 hkvkv6 hnvnv6
  unfold fX1_addSmall_L19 at h
  refine zr_iload (pc := 19) hX 5 rfl dX1_addSmall_19 ?_
  refine zr_iload (pc := 21) hX 4 rfl dX1_addSmall_21 ?_
  refine zr_icmp_ge (pc := 23) hX 51 rfl dX1_addSmall_23 (fun c23_18 => ?_) (fun c23_18 => ?_)
  · rw [if_pos c23_18] at h
    refine VW.widen 5 1467 ?_ (by omega) (by omega)
    exact VW.sub (hJt7 (a4.1, a4.2.1) (keo5 _ (Option.some.inj h).symm)) [0, 1, 2] rfl
  · rw [if_neg c23_18] at h
    refine zr_aload (pc := 26) hX 3 rfl dX1_addSmall_26 ?_
    refine zr_iload (pc := 28) hX 5 rfl dX1_addSmall_28 ?_
    obtain ⟨x14, gx14, h⟩ := bnd h
    refine zr_aI (pc := 30) hX gx14 dX1_addSmall_30 ?_
    refine zr_istore (pc := 31) hX rfl (Nat.le_of_ble_eq_true rfl) rfl dX1_addSmall_31 ?_
    refine zr_aload_n (pc := 33) hX 3 rfl rfl dX1_addSmall_33 ?_
    refine zr_iload (pc := 34) hX 0 rfl dX1_addSmall_34 ?_
    obtain ⟨t15, gt15, h⟩ := bnd h
    refine zr_callS (pc := 36) (rest := [.ref sz]) (stk' := [.ref t15, .ref sz]) (k' := kv6) (n' := nv6) hX (fun l s0 D => mJ18_valueOf l s0 D gt15) zwJ18_valueOf q949 q950 rfl (zble2 (by omega) (by omega)) rfl rfl rfl rfl rfl rfl dX1_addSmall_36 ?_
    obtain ⟨u16, gu16, h⟩ := bnd h
    obtain ⟨t17, gt17, h⟩ := bnd h
    refine zr_callF (pc := 39) (rest := []) (stk' := [.int t17.2.2]) (k' := (kv6 + 1)) (n' := (nv6 + 366)) hX (fun l s0 D => mJ2_add l s0 D gt17) gu16 zwJ2_add (by decide) q809 q814 q812 rfl rfl (zble2 (by omega) (by omega)) rfl rfl rfl rfl rfl rfl dX1_addSmall_39 ?_
    refine zr_pop (pc := 44) hX rfl dX1_addSmall_44 ?_
    obtain ⟨x18, gx18, h⟩ := bnd h
    refine zr_iinc (pc := 45) hX 6 rfl zci_1 (Option.some.inj gx18) (Nat.le_of_ble_eq_true rfl) rfl dX1_addSmall_45 ?_
    refine zr_goto (pc := 48) hX 19 rfl dX1_addSmall_48 ?_
    exact VW.sub (kco5 (t17.1, t17.2.1, x18) (Option.some.inj h).symm _ _ (by omega) (by omega)) [2, 3, 4, 5, 6, 0] rfl
theorem mX1_addSmall (l : Launch) (s0 : State) (D : zD) {n : Nat} {σ : zH} {sz : Nat} {th : Nat} {p0 : Nat} {p1 : Nat} {o : zH × Nat × Int32} (h : fX1_addSmall n σ sz th p0 p1 = some (.inr o)) : zM l s0 D yX1_addSmall cX1_addSmall 8 (some .int) 10 212 14 1888 [.ref th, .ref p0, .ref p1] σ sz o.1 o.2.1 (some (.int o.2.2)) := by
  refine zenter (own := RX1) zplX1 rfl (Nat.le_of_ble_eq_true rfl) trivial (fun K hX hnm hret => ?_)
  exact wX1_addSmall hX hnm h (fun a e => by cases e; exact hret) (fun e q => by cases q)
theorem xX1_addSmall (l : Launch) (s0 : State) (D : zD) (hl : l.stackTraces = false) {n : Nat} {σ : zH} {sz : Nat} {th : Nat} {p0 : Nat} {p1 : Nat} {e : zX} (h : fX1_addSmall n σ sz th p0 p1 = some (.inl e)) : zMX l s0 D yX1_addSmall cX1_addSmall 8 (some .int) 10 212 14 1888 [.ref th, .ref p0, .ref p1] σ sz e.1 e.2 := by
  refine zenterX (own := RX1) hl zplX1 rfl (Nat.le_of_ble_eq_true rfl) (fun K hX hnm hT hx hth => ?_)
  exact wX1_addSmall hX hnm h (fun a q => by cases q) (fun e' q => by cases q; exact ⟨hT, hx, (fun q => hth rfl (by decide) (by decide) (by decide) (by decide) q.symm)⟩)
set_option maxHeartbeats 4000000 in
theorem wX1_when {K : zC} {n : Nat} {σ : zH} {sz : Nat} {th : Nat} {p0 : Int32} {p1 : Int32} {p2 : Int32} {p3 : Int32} {o : (zX ⊕ (zH × Nat × Int32))} (hX : zOk K RX1 cX1_when (some .int) 5 11 3100 38 2018) (hnm : zNm K yX1_when) (h : fX1_when n σ sz th p0 p1 p2 p3 = some o) (hret : ∀ a, o = .inr a → zRet K cX1_when (some .int) a.1 a.2.1 38 2018 (some (.int a.2.2))) (hexc : ∀ e, o = .inl e → zTr K ∧ zXok K e.1 e.2 38 2018 ∧ (e.2 = σ → zTh K cX1_when e.1 σ sz)) : VW K σ sz 0 0 0 [(0, .ref th), (1, .int p0), (2, .int p1), (3, .int p2), (4, .int p3)] [] := by
  unfold fX1_when at h
  refine zr_aload_n (pc := 0) hX 0 rfl rfl dX1_when_0 ?_
  refine zr_iconst (pc := 1) hX zci_3 dX1_when_1 ?_
  obtain ⟨σ1, gσ1, h⟩ := bnd h
  refine zr_newa (atype := .int) (pc := 2) (k' := 1) (n' := 3) (sz' := sz + 1) hX gσ1 q207 rfl (by decide) rfl rfl rfl rfl rfl dX1_when_2 ?_
  refine zr_dup (pc := 4) hX rfl dX1_when_4 ?_
  refine zr_iconst (pc := 5) hX zci_0 dX1_when_5 ?_
  refine zr_iload_n (pc := 6) hX 1 rfl rfl dX1_when_6 ?_
  obtain ⟨σ2, gσ2, h⟩ := bnd h
  refine zr_sI (pc := 7) hX gσ2 dX1_when_7 ?_
  refine zr_dup (pc := 8) hX rfl dX1_when_8 ?_
  refine zr_iconst (pc := 9) hX zci_1 dX1_when_9 ?_
  refine zr_iload_n (pc := 10) hX 2 rfl rfl dX1_when_10 ?_
  obtain ⟨σ3, gσ3, h⟩ := bnd h
  refine zr_sI (pc := 11) hX gσ3 dX1_when_11 ?_
  refine zr_dup (pc := 12) hX rfl dX1_when_12 ?_
  refine zr_iconst (pc := 13) hX zci_2 dX1_when_13 ?_
  refine zr_iload_n (pc := 14) hX 3 rfl rfl dX1_when_14 ?_
  obtain ⟨σ4, gσ4, h⟩ := bnd h
  refine zr_sI (pc := 15) hX gσ4 dX1_when_15 ?_
  refine zr_iconst (pc := 16) hX zci_3 dX1_when_16 ?_
  obtain ⟨σ5, gσ5, h⟩ := bnd h
  refine zr_newa (atype := .int) (pc := 17) (k' := 2) (n' := 6) (sz' := sz + 2) hX gσ5 q207 rfl (by decide) rfl rfl rfl rfl rfl dX1_when_17 ?_
  refine zr_dup (pc := 19) hX rfl dX1_when_19 ?_
  refine zr_iconst (pc := 20) hX zci_0 dX1_when_20 ?_
  refine zr_iconst (pc := 21) hX zci_0 dX1_when_21 ?_
  obtain ⟨σ6, gσ6, h⟩ := bnd h
  refine zr_sI (pc := 22) hX gσ6 dX1_when_22 ?_
  refine zr_dup (pc := 23) hX rfl dX1_when_23 ?_
  refine zr_iconst (pc := 24) hX zci_1 dX1_when_24 ?_
  refine zr_iconst (pc := 25) hX zci_0 dX1_when_25 ?_
  obtain ⟨σ7, gσ7, h⟩ := bnd h
  refine zr_sI (pc := 26) hX gσ7 dX1_when_26 ?_
  refine zr_dup (pc := 27) hX rfl dX1_when_27 ?_
  refine zr_iconst (pc := 28) hX zci_2 dX1_when_28 ?_
  refine zr_iconst (pc := 29) hX zci_0 dX1_when_29 ?_
  obtain ⟨σ8, gσ8, h⟩ := bnd h
  refine zr_sI (pc := 30) hX gσ8 dX1_when_30 ?_
  obtain ⟨u9, gu9, h⟩ := bnd h
  obtain ⟨u20, gu20, hxu20, hnu20⟩ := zthr_bnd h
  rcases u20 with e21 | t10
  · have h := hxu20 _ rfl
    have hxx := hexc _ (Option.some.inj h).symm
    exact zr_callVX (pc := 31) (rest := []) hX hxx.1 hxx.2.1 (fun l s0 D hl => xX1_checkAll l s0 D hl gu20) gu9 zc0 zwX1_checkAll q1260 q1262 qs33 rfl rfl rfl rfl rfl rfl dX1_when_31
  · have h := hnu20 _ rfl
    refine zr_callVs (pc := 31) (rest := []) (stk' := []) (k' := 21) (n' := 120) hX (fun l s0 D => mX1_checkAll l s0 D gu20) gu9 zc0 zwX1_checkAll q1260 q1262 qs33 rfl rfl rfl rfl rfl rfl rfl rfl rfl dX1_when_31 ?_
    refine zr_aload_n (pc := 34) hX 0 rfl rfl dX1_when_34 ?_
    refine zr_iload (pc := 35) hX 4 rfl dX1_when_35 ?_
    obtain ⟨σ11, gσ11, h⟩ := bnd h
    refine zr_lamM (pc := 37) (k' := 22) (n' := 121) (sz' := sz + 3) hX hnm 0 rfl (by decide) (Option.some.inj gσ11) rfl rfl rfl rfl rfl dX1_when_37 ?_
    refine zr_iconst (pc := 42) hX zci_3 dX1_when_42 ?_
    obtain ⟨σ12, gσ12, h⟩ := bnd h
    refine zr_newa (atype := .int) (pc := 43) (k' := 23) (n' := 124) (sz' := sz + 4) hX gσ12 q207 rfl (by decide) rfl rfl rfl rfl rfl dX1_when_43 ?_
    refine zr_dup (pc := 45) hX rfl dX1_when_45 ?_
    refine zr_iconst (pc := 46) hX zci_0 dX1_when_46 ?_
    refine zr_iload_n (pc := 47) hX 1 rfl rfl dX1_when_47 ?_
    obtain ⟨σ13, gσ13, h⟩ := bnd h
    refine zr_sI (pc := 48) hX gσ13 dX1_when_48 ?_
    refine zr_dup (pc := 49) hX rfl dX1_when_49 ?_
    refine zr_iconst (pc := 50) hX zci_1 dX1_when_50 ?_
    refine zr_iload_n (pc := 51) hX 2 rfl rfl dX1_when_51 ?_
    obtain ⟨σ14, gσ14, h⟩ := bnd h
    refine zr_sI (pc := 52) hX gσ14 dX1_when_52 ?_
    refine zr_dup (pc := 53) hX rfl dX1_when_53 ?_
    refine zr_iconst (pc := 54) hX zci_2 dX1_when_54 ?_
    refine zr_iload_n (pc := 55) hX 3 rfl rfl dX1_when_55 ?_
    obtain ⟨σ15, gσ15, h⟩ := bnd h
    refine zr_sI (pc := 56) hX gσ15 dX1_when_56 ?_
    obtain ⟨u16, gu16, h⟩ := bnd h
    obtain ⟨u18, gu18, hxu18, hnu18⟩ := zthr_bnd h
    rcases u18 with e19 | t17
    · have h := hxu18 _ rfl
      have hxx := hexc _ (Option.some.inj h).symm
      exact zr_callVX (pc := 57) (rest := []) hX hxx.1 hxx.2.1 (fun l s0 D hl => xX1_addSmall l s0 D hl gu18) gu16 zc0 zwX1_addSmall q1266 q1268 qs34 rfl rfl rfl rfl rfl rfl dX1_when_57
    · have h := hnu18 _ rfl
      refine zr_callVs (pc := 57) (rest := []) (stk' := [.int t17.2.2]) (k' := 37) (n' := 2012) hX (fun l s0 D => mX1_addSmall l s0 D gu18) gu16 zc0 zwX1_addSmall q1266 q1268 qs34 rfl rfl rfl rfl rfl rfl rfl rfl rfl dX1_when_57 ?_
      refine VW.widen 38 2018 ?_ (Nat.le_of_ble_eq_true rfl) (Nat.le_of_ble_eq_true rfl)
      exact hret _ (Option.some.inj h).symm _ _ dX1_when_60 (Or.inl rfl)
theorem mX1_when (l : Launch) (s0 : State) (D : zD) {n : Nat} {σ : zH} {sz : Nat} {th : Nat} {p0 : Int32} {p1 : Int32} {p2 : Int32} {p3 : Int32} {o : zH × Nat × Int32} (h : fX1_when n σ sz th p0 p1 p2 p3 = some (.inr o)) : zM l s0 D yX1_when cX1_when 5 (some .int) 11 3100 38 2018 [.ref th, .int p0, .int p1, .int p2, .int p3] σ sz o.1 o.2.1 (some (.int o.2.2)) := by
  refine zenter (own := RX1) zplX1 rfl (Nat.le_of_ble_eq_true rfl) trivial (fun K hX hnm hret => ?_)
  exact wX1_when hX hnm h (fun a e => by cases e; exact hret) (fun e q => by cases q)
theorem xX1_when (l : Launch) (s0 : State) (D : zD) (hl : l.stackTraces = false) {n : Nat} {σ : zH} {sz : Nat} {th : Nat} {p0 : Int32} {p1 : Int32} {p2 : Int32} {p3 : Int32} {e : zX} (h : fX1_when n σ sz th p0 p1 p2 p3 = some (.inl e)) : zMX l s0 D yX1_when cX1_when 5 (some .int) 11 3100 38 2018 [.ref th, .int p0, .int p1, .int p2, .int p3] σ sz e.1 e.2 := by
  refine zenterX (own := RX1) hl zplX1 rfl (Nat.le_of_ble_eq_true rfl) (fun K hX hnm hT hx hth => ?_)
  exact wX1_when hX hnm h (fun a q => by cases q) (fun e' q => by cases q; exact ⟨hT, hx, (fun q => hth rfl (by decide) (by decide) (by decide) (by decide) q.symm)⟩)
set_option maxHeartbeats 4000000 in
theorem wX1_sets {K : zC} {n : Nat} {σ : zH} {sz : Nat} {th : Nat} {p0 : Int32} {p1 : Int32} {p2 : Int32} {p3 : Int32} {o : (zX ⊕ (zH × Nat × Int32))} (hX : zOk K RX1 cX1_sets (some .int) 5 11 3100 38 2018) (hnm : zNm K yX1_sets) (h : fX1_sets n σ sz th p0 p1 p2 p3 = some o) (hret : ∀ a, o = .inr a → zRet K cX1_sets (some .int) a.1 a.2.1 38 2018 (some (.int a.2.2))) (hexc : ∀ e, o = .inl e → zTr K ∧ zXok K e.1 e.2 38 2018 ∧ (e.2 = σ → zTh K cX1_sets e.1 σ sz)) : VW K σ sz 0 0 0 [(0, .ref th), (1, .int p0), (2, .int p1), (3, .int p2), (4, .int p3)] [] := by
  unfold fX1_sets at h
  refine zr_aload_n (pc := 0) hX 0 rfl rfl dX1_sets_0 ?_
  refine zr_iconst (pc := 1) hX zci_3 dX1_sets_1 ?_
  obtain ⟨σ1, gσ1, h⟩ := bnd h
  refine zr_newa (atype := .int) (pc := 2) (k' := 1) (n' := 3) (sz' := sz + 1) hX gσ1 q207 rfl (by decide) rfl rfl rfl rfl rfl dX1_sets_2 ?_
  refine zr_dup (pc := 4) hX rfl dX1_sets_4 ?_
  refine zr_iconst (pc := 5) hX zci_0 dX1_sets_5 ?_
  refine zr_iload_n (pc := 6) hX 2 rfl rfl dX1_sets_6 ?_
  obtain ⟨σ2, gσ2, h⟩ := bnd h
  refine zr_sI (pc := 7) hX gσ2 dX1_sets_7 ?_
  refine zr_dup (pc := 8) hX rfl dX1_sets_8 ?_
  refine zr_iconst (pc := 9) hX zci_1 dX1_sets_9 ?_
  refine zr_iload_n (pc := 10) hX 3 rfl rfl dX1_sets_10 ?_
  obtain ⟨σ3, gσ3, h⟩ := bnd h
  refine zr_sI (pc := 11) hX gσ3 dX1_sets_11 ?_
  refine zr_dup (pc := 12) hX rfl dX1_sets_12 ?_
  refine zr_iconst (pc := 13) hX zci_2 dX1_sets_13 ?_
  refine zr_iload (pc := 14) hX 4 rfl dX1_sets_14 ?_
  obtain ⟨σ4, gσ4, h⟩ := bnd h
  refine zr_sI (pc := 16) hX gσ4 dX1_sets_16 ?_
  refine zr_iconst (pc := 17) hX zci_3 dX1_sets_17 ?_
  obtain ⟨σ5, gσ5, h⟩ := bnd h
  refine zr_newa (atype := .int) (pc := 18) (k' := 2) (n' := 6) (sz' := sz + 2) hX gσ5 q207 rfl (by decide) rfl rfl rfl rfl rfl dX1_sets_18 ?_
  refine zr_dup (pc := 20) hX rfl dX1_sets_20 ?_
  refine zr_iconst (pc := 21) hX zci_0 dX1_sets_21 ?_
  refine zr_iconst (pc := 22) hX zci_1 dX1_sets_22 ?_
  obtain ⟨σ6, gσ6, h⟩ := bnd h
  refine zr_sI (pc := 23) hX gσ6 dX1_sets_23 ?_
  refine zr_dup (pc := 24) hX rfl dX1_sets_24 ?_
  refine zr_iconst (pc := 25) hX zci_1 dX1_sets_25 ?_
  refine zr_iconst (pc := 26) hX zci_1 dX1_sets_26 ?_
  obtain ⟨σ7, gσ7, h⟩ := bnd h
  refine zr_sI (pc := 27) hX gσ7 dX1_sets_27 ?_
  refine zr_dup (pc := 28) hX rfl dX1_sets_28 ?_
  refine zr_iconst (pc := 29) hX zci_2 dX1_sets_29 ?_
  refine zr_iconst (pc := 30) hX zci_1 dX1_sets_30 ?_
  obtain ⟨σ8, gσ8, h⟩ := bnd h
  refine zr_sI (pc := 31) hX gσ8 dX1_sets_31 ?_
  obtain ⟨u9, gu9, h⟩ := bnd h
  obtain ⟨u20, gu20, hxu20, hnu20⟩ := zthr_bnd h
  rcases u20 with e21 | t10
  · have h := hxu20 _ rfl
    have hxx := hexc _ (Option.some.inj h).symm
    exact zr_callVX (pc := 32) (rest := []) hX hxx.1 hxx.2.1 (fun l s0 D hl => xX1_checkAll l s0 D hl gu20) gu9 zc0 zwX1_checkAll q1260 q1262 qs33 rfl rfl rfl rfl rfl rfl dX1_sets_32
  · have h := hnu20 _ rfl
    refine zr_callVs (pc := 32) (rest := []) (stk' := []) (k' := 21) (n' := 120) hX (fun l s0 D => mX1_checkAll l s0 D gu20) gu9 zc0 zwX1_checkAll q1260 q1262 qs33 rfl rfl rfl rfl rfl rfl rfl rfl rfl dX1_sets_32 ?_
    refine zr_aload_n (pc := 35) hX 0 rfl rfl dX1_sets_35 ?_
    refine zr_iload_n (pc := 36) hX 1 rfl rfl dX1_sets_36 ?_
    obtain ⟨σ11, gσ11, h⟩ := bnd h
    refine zr_lamM (pc := 37) (k' := 22) (n' := 121) (sz' := sz + 3) hX hnm 1 rfl (by decide) (Option.some.inj gσ11) rfl rfl rfl rfl rfl dX1_sets_37 ?_
    refine zr_iconst (pc := 42) hX zci_3 dX1_sets_42 ?_
    obtain ⟨σ12, gσ12, h⟩ := bnd h
    refine zr_newa (atype := .int) (pc := 43) (k' := 23) (n' := 124) (sz' := sz + 4) hX gσ12 q207 rfl (by decide) rfl rfl rfl rfl rfl dX1_sets_43 ?_
    refine zr_dup (pc := 45) hX rfl dX1_sets_45 ?_
    refine zr_iconst (pc := 46) hX zci_0 dX1_sets_46 ?_
    refine zr_iload_n (pc := 47) hX 2 rfl rfl dX1_sets_47 ?_
    obtain ⟨σ13, gσ13, h⟩ := bnd h
    refine zr_sI (pc := 48) hX gσ13 dX1_sets_48 ?_
    refine zr_dup (pc := 49) hX rfl dX1_sets_49 ?_
    refine zr_iconst (pc := 50) hX zci_1 dX1_sets_50 ?_
    refine zr_iload_n (pc := 51) hX 3 rfl rfl dX1_sets_51 ?_
    obtain ⟨σ14, gσ14, h⟩ := bnd h
    refine zr_sI (pc := 52) hX gσ14 dX1_sets_52 ?_
    refine zr_dup (pc := 53) hX rfl dX1_sets_53 ?_
    refine zr_iconst (pc := 54) hX zci_2 dX1_sets_54 ?_
    refine zr_iload (pc := 55) hX 4 rfl dX1_sets_55 ?_
    obtain ⟨σ15, gσ15, h⟩ := bnd h
    refine zr_sI (pc := 57) hX gσ15 dX1_sets_57 ?_
    obtain ⟨u16, gu16, h⟩ := bnd h
    obtain ⟨u18, gu18, hxu18, hnu18⟩ := zthr_bnd h
    rcases u18 with e19 | t17
    · have h := hxu18 _ rfl
      have hxx := hexc _ (Option.some.inj h).symm
      exact zr_callVX (pc := 58) (rest := []) hX hxx.1 hxx.2.1 (fun l s0 D hl => xX1_addSmall l s0 D hl gu18) gu16 zc0 zwX1_addSmall q1266 q1268 qs34 rfl rfl rfl rfl rfl rfl dX1_sets_58
    · have h := hnu18 _ rfl
      refine zr_callVs (pc := 58) (rest := []) (stk' := [.int t17.2.2]) (k' := 37) (n' := 2012) hX (fun l s0 D => mX1_addSmall l s0 D gu18) gu16 zc0 zwX1_addSmall q1266 q1268 qs34 rfl rfl rfl rfl rfl rfl rfl rfl rfl dX1_sets_58 ?_
      refine VW.widen 38 2018 ?_ (Nat.le_of_ble_eq_true rfl) (Nat.le_of_ble_eq_true rfl)
      exact hret _ (Option.some.inj h).symm _ _ dX1_sets_61 (Or.inl rfl)
theorem mX1_sets (l : Launch) (s0 : State) (D : zD) {n : Nat} {σ : zH} {sz : Nat} {th : Nat} {p0 : Int32} {p1 : Int32} {p2 : Int32} {p3 : Int32} {o : zH × Nat × Int32} (h : fX1_sets n σ sz th p0 p1 p2 p3 = some (.inr o)) : zM l s0 D yX1_sets cX1_sets 5 (some .int) 11 3100 38 2018 [.ref th, .int p0, .int p1, .int p2, .int p3] σ sz o.1 o.2.1 (some (.int o.2.2)) := by
  refine zenter (own := RX1) zplX1 rfl (Nat.le_of_ble_eq_true rfl) trivial (fun K hX hnm hret => ?_)
  exact wX1_sets hX hnm h (fun a e => by cases e; exact hret) (fun e q => by cases q)
theorem xX1_sets (l : Launch) (s0 : State) (D : zD) (hl : l.stackTraces = false) {n : Nat} {σ : zH} {sz : Nat} {th : Nat} {p0 : Int32} {p1 : Int32} {p2 : Int32} {p3 : Int32} {e : zX} (h : fX1_sets n σ sz th p0 p1 p2 p3 = some (.inl e)) : zMX l s0 D yX1_sets cX1_sets 5 (some .int) 11 3100 38 2018 [.ref th, .int p0, .int p1, .int p2, .int p3] σ sz e.1 e.2 := by
  refine zenterX (own := RX1) hl zplX1 rfl (Nat.le_of_ble_eq_true rfl) (fun K hX hnm hT hx hth => ?_)
  exact wX1_sets hX hnm h (fun a q => by cases q) (fun e' q => by cases q; exact ⟨hT, hx, (fun q => hth rfl (by decide) (by decide) (by decide) (by decide) q.symm)⟩)
set_option maxHeartbeats 4000000 in
theorem wX1_within {K : zC} {n : Nat} {σ : zH} {sz : Nat} {th : Nat} {p0 : Int32} {p1 : Int32} {o : (zX ⊕ (zH × Nat × Int32))} (hX : zOk K RX1 cX1_within (some .int) 3 11 3100 38 2015) (hnm : zNm K yX1_within) (h : fX1_within n σ sz th p0 p1 = some o) (hret : ∀ a, o = .inr a → zRet K cX1_within (some .int) a.1 a.2.1 38 2015 (some (.int a.2.2))) (hexc : ∀ e, o = .inl e → zTr K ∧ zXok K e.1 e.2 38 2015 ∧ (e.2 = σ → zTh K cX1_within e.1 σ sz)) : VW K σ sz 0 0 0 [(0, .ref th), (1, .int p0), (2, .int p1)] [] := by
  unfold fX1_within at h
  refine zr_aload_n (pc := 0) hX 0 rfl rfl dX1_within_0 ?_
  refine zr_iconst (pc := 1) hX zci_2 dX1_within_1 ?_
  obtain ⟨σ1, gσ1, h⟩ := bnd h
  refine zr_newa (atype := .int) (pc := 2) (k' := 1) (n' := 2) (sz' := sz + 1) hX gσ1 q207 rfl (by decide) rfl rfl rfl rfl rfl dX1_within_2 ?_
  refine zr_dup (pc := 4) hX rfl dX1_within_4 ?_
  refine zr_iconst (pc := 5) hX zci_0 dX1_within_5 ?_
  refine zr_iload_n (pc := 6) hX 1 rfl rfl dX1_within_6 ?_
  obtain ⟨σ2, gσ2, h⟩ := bnd h
  refine zr_sI (pc := 7) hX gσ2 dX1_within_7 ?_
  refine zr_dup (pc := 8) hX rfl dX1_within_8 ?_
  refine zr_iconst (pc := 9) hX zci_1 dX1_within_9 ?_
  refine zr_iload_n (pc := 10) hX 2 rfl rfl dX1_within_10 ?_
  obtain ⟨σ3, gσ3, h⟩ := bnd h
  refine zr_sI (pc := 11) hX gσ3 dX1_within_11 ?_
  refine zr_iconst (pc := 12) hX zci_2 dX1_within_12 ?_
  obtain ⟨σ4, gσ4, h⟩ := bnd h
  refine zr_newa (atype := .int) (pc := 13) (k' := 2) (n' := 4) (sz' := sz + 2) hX gσ4 q207 rfl (by decide) rfl rfl rfl rfl rfl dX1_within_13 ?_
  refine zr_dup (pc := 15) hX rfl dX1_within_15 ?_
  refine zr_iconst (pc := 16) hX zci_0 dX1_within_16 ?_
  refine zr_iconst (pc := 17) hX zci_1 dX1_within_17 ?_
  obtain ⟨σ5, gσ5, h⟩ := bnd h
  refine zr_sI (pc := 18) hX gσ5 dX1_within_18 ?_
  refine zr_dup (pc := 19) hX rfl dX1_within_19 ?_
  refine zr_iconst (pc := 20) hX zci_1 dX1_within_20 ?_
  refine zr_iconst (pc := 21) hX zci_1 dX1_within_21 ?_
  obtain ⟨σ6, gσ6, h⟩ := bnd h
  refine zr_sI (pc := 22) hX gσ6 dX1_within_22 ?_
  obtain ⟨u7, gu7, h⟩ := bnd h
  obtain ⟨u16, gu16, hxu16, hnu16⟩ := zthr_bnd h
  rcases u16 with e17 | t8
  · have h := hxu16 _ rfl
    have hxx := hexc _ (Option.some.inj h).symm
    exact zr_callVX (pc := 23) (rest := []) hX hxx.1 hxx.2.1 (fun l s0 D hl => xX1_checkAll l s0 D hl gu16) gu7 zc0 zwX1_checkAll q1260 q1262 qs33 rfl rfl rfl rfl rfl rfl dX1_within_23
  · have h := hnu16 _ rfl
    refine zr_callVs (pc := 23) (rest := []) (stk' := []) (k' := 21) (n' := 118) hX (fun l s0 D => mX1_checkAll l s0 D gu16) gu7 zc0 zwX1_checkAll q1260 q1262 qs33 rfl rfl rfl rfl rfl rfl rfl rfl rfl dX1_within_23 ?_
    refine zr_aload_n (pc := 26) hX 0 rfl rfl dX1_within_26 ?_
    refine VW.widen 22 119 ?_ (by omega) (by omega)
    refine zr_lamC (pc := 27) hX hnm 2 rfl (by decide) rfl dX1_within_27 ?_
    refine zr_iconst (pc := 32) hX zci_2 dX1_within_32 ?_
    obtain ⟨σ9, gσ9, h⟩ := bnd h
    refine zr_newa (atype := .int) (pc := 33) (k' := 23) (n' := 121) (sz' := sz + 3) hX gσ9 q207 rfl (by decide) rfl rfl rfl rfl rfl dX1_within_33 ?_
    refine zr_dup (pc := 35) hX rfl dX1_within_35 ?_
    refine zr_iconst (pc := 36) hX zci_0 dX1_within_36 ?_
    refine zr_iload_n (pc := 37) hX 1 rfl rfl dX1_within_37 ?_
    obtain ⟨σ10, gσ10, h⟩ := bnd h
    refine zr_sI (pc := 38) hX gσ10 dX1_within_38 ?_
    refine zr_dup (pc := 39) hX rfl dX1_within_39 ?_
    refine zr_iconst (pc := 40) hX zci_1 dX1_within_40 ?_
    refine zr_iload_n (pc := 41) hX 2 rfl rfl dX1_within_41 ?_
    obtain ⟨σ11, gσ11, h⟩ := bnd h
    refine zr_sI (pc := 42) hX gσ11 dX1_within_42 ?_
    obtain ⟨u12, gu12, h⟩ := bnd h
    obtain ⟨u14, gu14, hxu14, hnu14⟩ := zthr_bnd h
    rcases u14 with e15 | t13
    · have h := hxu14 _ rfl
      have hxx := hexc _ (Option.some.inj h).symm
      exact zr_callVX (pc := 43) (rest := []) hX hxx.1 hxx.2.1 (fun l s0 D hl => xX1_addSmall l s0 D hl gu14) gu12 zc0 zwX1_addSmall q1266 q1268 qs34 rfl rfl rfl rfl rfl rfl dX1_within_43
    · have h := hnu14 _ rfl
      refine zr_callVs (pc := 43) (rest := []) (stk' := [.int t13.2.2]) (k' := 37) (n' := 2009) hX (fun l s0 D => mX1_addSmall l s0 D gu14) gu12 zc0 zwX1_addSmall q1266 q1268 qs34 rfl rfl rfl rfl rfl rfl rfl rfl rfl dX1_within_43 ?_
      refine VW.widen 38 2015 ?_ (Nat.le_of_ble_eq_true rfl) (Nat.le_of_ble_eq_true rfl)
      exact hret _ (Option.some.inj h).symm _ _ dX1_within_46 (Or.inl rfl)
theorem mX1_within (l : Launch) (s0 : State) (D : zD) {n : Nat} {σ : zH} {sz : Nat} {th : Nat} {p0 : Int32} {p1 : Int32} {o : zH × Nat × Int32} (h : fX1_within n σ sz th p0 p1 = some (.inr o)) : zM l s0 D yX1_within cX1_within 3 (some .int) 11 3100 38 2015 [.ref th, .int p0, .int p1] σ sz o.1 o.2.1 (some (.int o.2.2)) := by
  refine zenter (own := RX1) zplX1 rfl (Nat.le_of_ble_eq_true rfl) trivial (fun K hX hnm hret => ?_)
  exact wX1_within hX hnm h (fun a e => by cases e; exact hret) (fun e q => by cases q)
theorem xX1_within (l : Launch) (s0 : State) (D : zD) (hl : l.stackTraces = false) {n : Nat} {σ : zH} {sz : Nat} {th : Nat} {p0 : Int32} {p1 : Int32} {e : zX} (h : fX1_within n σ sz th p0 p1 = some (.inl e)) : zMX l s0 D yX1_within cX1_within 3 (some .int) 11 3100 38 2015 [.ref th, .int p0, .int p1] σ sz e.1 e.2 := by
  refine zenterX (own := RX1) hl zplX1 rfl (Nat.le_of_ble_eq_true rfl) (fun K hX hnm hT hx hth => ?_)
  exact wX1_within hX hnm h (fun a q => by cases q) (fun e' q => by cases q; exact ⟨hT, hx, (fun q => hth rfl (by decide) (by decide) (by decide) (by decide) q.symm)⟩)
set_option maxHeartbeats 4000000 in
theorem wX1_measure {K : zC} {n : Nat} {σ : zH} {sz : Nat} {th : Nat} {p0 : Int32} {p1 : Int32} {o : (zX ⊕ (zH × Nat × Int32))} (hX : zOk K RX1 cX1_measure (some .int) 4 11 3100 24 1939) (hnm : zNm K yX1_measure) (h : fX1_measure n σ sz th p0 p1 = some o) (hret : ∀ a, o = .inr a → zRet K cX1_measure (some .int) a.1 a.2.1 24 1939 (some (.int a.2.2))) (hexc : ∀ e, o = .inl e → zTr K ∧ zXok K e.1 e.2 24 1939 ∧ (e.2 = σ → zTh K cX1_measure e.1 σ sz)) : VW K σ sz 0 0 0 [(0, .ref th), (1, .int p0), (2, .int p1)] [] := by
  unfold fX1_measure at h
  refine zr_aload_n (pc := 0) hX 0 rfl rfl dX1_measure_0 ?_
  refine zr_iload_n (pc := 1) hX 1 rfl rfl dX1_measure_1 ?_
  obtain ⟨u1, gu1, h⟩ := bnd h
  obtain ⟨u31, gu31, hxu31, hnu31⟩ := zthr_bnd h
  rcases u31 with e32 | t2
  · have h := hxu31 _ rfl
    have hxx := hexc _ (Option.some.inj h).symm
    exact zr_callVX (pc := 2) (rest := []) hX hxx.1 hxx.2.1 (fun l s0 D hl => xX1_variable_2 l s0 D hl gu31) gu1 zc0 zwX1_variable_2 q927 q929 qs25 rfl rfl rfl rfl rfl rfl dX1_measure_2
  · have h := hnu31 _ rfl
    refine zr_callVs (pc := 2) (rest := []) (stk' := [.ref t2]) (k' := 2) (n' := 12) hX (fun l s0 D => mX1_variable_2 l s0 D gu31) gu1 zc0 zwX1_variable_2 q927 q929 qs25 rfl rfl rfl rfl rfl rfl rfl rfl rfl dX1_measure_2 ?_
    refine zr_pop (pc := 5) hX rfl dX1_measure_5 ?_
    refine zr_aload_n (pc := 6) hX 0 rfl rfl dX1_measure_6 ?_
    refine zr_iload_n (pc := 7) hX 2 rfl rfl dX1_measure_7 ?_
    obtain ⟨u3, gu3, h⟩ := bnd h
    obtain ⟨u29, gu29, hxu29, hnu29⟩ := zthr_bnd h
    rcases u29 with e30 | t4
    · have h := hxu29 _ rfl
      have hxx := hexc _ (Option.some.inj h).symm
      exact zr_callVX (pc := 8) (rest := []) hX hxx.1 hxx.2.1 (fun l s0 D hl => xX1_variable_2 l s0 D hl gu29) gu3 zc0 zwX1_variable_2 q927 q929 qs25 rfl rfl rfl rfl rfl rfl dX1_measure_8
    · have h := hnu29 _ rfl
      refine zr_callVs (pc := 8) (rest := []) (stk' := [.ref t4]) (k' := 4) (n' := 24) hX (fun l s0 D => mX1_variable_2 l s0 D gu29) gu3 zc0 zwX1_variable_2 q927 q929 qs25 rfl rfl rfl rfl rfl rfl rfl rfl rfl dX1_measure_8 ?_
      refine zr_pop (pc := 11) hX rfl dX1_measure_11 ?_
      refine zr_aload_n (pc := 12) hX 0 rfl rfl dX1_measure_12 ?_
      refine zr_iload_n (pc := 13) hX 1 rfl rfl dX1_measure_13 ?_
      refine zr_iconst (pc := 14) hX zci_1 dX1_measure_14 ?_
      obtain ⟨u5, gu5, h⟩ := bnd h
      obtain ⟨t6, gt6, h⟩ := bnd h
      refine zr_callVs (pc := 15) (rest := []) (stk' := [.int t6]) (k' := 4) (n' := 24) hX (fun l s0 D => mX1_isOf l s0 D gt6) gu5 zc0 zwX1_isOf q1056 q1058 qs28 rfl rfl rfl rfl rfl rfl rfl rfl rfl dX1_measure_15 ?_
      refine zr_istore_n (pc := 18) hX rfl rfl (Nat.le_of_ble_eq_true rfl) rfl dX1_measure_18 ?_
      refine zr_iload_n (pc := 19) hX 0 rfl rfl dX1_measure_19 ?_
      obtain ⟨t7, gt7, h⟩ := bnd h
      have hJt7 : ∀ a, t7 = a → VW K σ sz 4 24 37 [(0, .ref th), (1, .int p0), (2, .int p1), (3, .int t6)] [.int a] := by
        intro a ea
        subst ea
        obtain ⟨u21, gu21, hxu21, hnu21⟩ := zthr_bnd h
        rcases u21 with e22 | t8
        · have h := hxu21 _ rfl
          have hxx := hexc _ (Option.some.inj h).symm
          exact zr_callSX (pc := 37) (rest := []) hX hxx.1 hxx.2.1 (fun l s0 D hl => xX1_checkArgument l s0 D hl gu21) zwX1_checkArgument q762 q763 rfl rfl rfl rfl rfl dX1_measure_37
        · have h := hnu21 _ rfl
          refine zr_callS (pc := 37) (rest := []) (stk' := []) (k' := 5) (n' := 30) hX (fun l s0 D => mX1_checkArgument l s0 D gu21) zwX1_checkArgument q762 q763 rfl rfl rfl rfl rfl rfl rfl rfl dX1_measure_37 ?_
          refine zr_aload_n (pc := 40) hX 0 rfl rfl dX1_measure_40 ?_
          refine zr_iload_n (pc := 41) hX 2 rfl rfl dX1_measure_41 ?_
          refine zr_iconst (pc := 42) hX zci_0 dX1_measure_42 ?_
          obtain ⟨u9, gu9, h⟩ := bnd h
          obtain ⟨u19, gu19, hxu19, hnu19⟩ := zthr_bnd h
          rcases u19 with e20 | t10
          · have h := hxu19 _ rfl
            have hxx := hexc _ (Option.some.inj h).symm
            exact zr_callVX (pc := 43) (rest := []) hX hxx.1 hxx.2.1 (fun l s0 D hl => xX1_checkKind l s0 D hl gu19) gu9 zc0 zwX1_checkKind q1219 q1221 qs32 rfl rfl rfl rfl rfl rfl dX1_measure_43
          · have h := hnu19 _ rfl
            refine zr_callVs (pc := 43) (rest := []) (stk' := []) (k' := 7) (n' := 42) hX (fun l s0 D => mX1_checkKind l s0 D gu19) gu9 zc0 zwX1_checkKind q1219 q1221 qs32 rfl rfl rfl rfl rfl rfl rfl rfl rfl dX1_measure_43 ?_
            refine zr_aload_n (pc := 46) hX 0 rfl rfl dX1_measure_46 ?_
            refine zr_iload_n (pc := 47) hX 3 rfl rfl dX1_measure_47 ?_
            obtain ⟨σ11, gσ11, h⟩ := bnd h
            refine zr_lamM (pc := 48) (k' := 8) (n' := 43) (sz' := sz + 1) hX hnm 3 rfl (by decide) (Option.some.inj gσ11) rfl rfl rfl rfl rfl dX1_measure_48 ?_
            refine zr_iconst (pc := 53) hX zci_2 dX1_measure_53 ?_
            obtain ⟨σ12, gσ12, h⟩ := bnd h
            refine zr_newa (atype := .int) (pc := 54) (k' := 9) (n' := 45) (sz' := sz + 2) hX gσ12 q207 rfl (by decide) rfl rfl rfl rfl rfl dX1_measure_54 ?_
            refine zr_dup (pc := 56) hX rfl dX1_measure_56 ?_
            refine zr_iconst (pc := 57) hX zci_0 dX1_measure_57 ?_
            refine zr_iload_n (pc := 58) hX 1 rfl rfl dX1_measure_58 ?_
            obtain ⟨σ13, gσ13, h⟩ := bnd h
            refine zr_sI (pc := 59) hX gσ13 dX1_measure_59 ?_
            refine zr_dup (pc := 60) hX rfl dX1_measure_60 ?_
            refine zr_iconst (pc := 61) hX zci_1 dX1_measure_61 ?_
            refine zr_iload_n (pc := 62) hX 2 rfl rfl dX1_measure_62 ?_
            obtain ⟨σ14, gσ14, h⟩ := bnd h
            refine zr_sI (pc := 63) hX gσ14 dX1_measure_63 ?_
            obtain ⟨u15, gu15, h⟩ := bnd h
            obtain ⟨u17, gu17, hxu17, hnu17⟩ := zthr_bnd h
            rcases u17 with e18 | t16
            · have h := hxu17 _ rfl
              have hxx := hexc _ (Option.some.inj h).symm
              exact zr_callVX (pc := 64) (rest := []) hX hxx.1 hxx.2.1 (fun l s0 D hl => xX1_addSmall l s0 D hl gu17) gu15 zc0 zwX1_addSmall q1266 q1268 qs34 rfl rfl rfl rfl rfl rfl dX1_measure_64
            · have h := hnu17 _ rfl
              refine zr_callVs (pc := 64) (rest := []) (stk' := [.int t16.2.2]) (k' := 23) (n' := 1933) hX (fun l s0 D => mX1_addSmall l s0 D gu17) gu15 zc0 zwX1_addSmall q1266 q1268 qs34 rfl rfl rfl rfl rfl rfl rfl rfl rfl dX1_measure_64 ?_
              refine VW.widen 24 1939 ?_ (Nat.le_of_ble_eq_true rfl) (Nat.le_of_ble_eq_true rfl)
              exact hret _ (Option.some.inj h).symm _ _ dX1_measure_67 (Or.inl rfl)
      replace h := gt7
      obtain ⟨u24, gu24, hAu24, hBu24⟩ := zesc_bnd h
      have hJt23 : ∀ a, u24 = .inl a → VW K σ sz 4 24 32 [(0, .ref th), (1, .int p0), (2, .int p1), (3, .int t6)] [] := by
        intro t23 ea
        have h := hAu24 _ ea
        refine zr_iconst (pc := 32) hX zci_1 dX1_measure_32 ?_
        refine zr_goto (pc := 33) hX 37 rfl dX1_measure_33 ?_
        exact VW.sub (hJt7 (1 : Int32) (Option.some.inj h).symm) [0, 1, 2, 3] rfl
      replace h := gu24
      refine zr_if_ne (pc := 20) hX 32 rfl dX1_measure_20 (fun c20_27 => ?_) (fun c20_27 => ?_)
      · rw [if_neg c20_27] at h
        exact VW.sub (hJt23 () (Option.some.inj h).symm) [1, 2, 3, 0] rfl
      · rw [if_pos c20_27] at h
        refine zr_aload_n (pc := 23) hX 1 rfl rfl dX1_measure_23 ?_
        refine zr_iload_n (pc := 24) hX 2 rfl rfl dX1_measure_24 ?_
        refine zr_iconst (pc := 25) hX zci_2 dX1_measure_25 ?_
        obtain ⟨u25, gu25, h⟩ := bnd h
        obtain ⟨t26, gt26, h⟩ := bnd h
        refine zr_callVs (pc := 26) (rest := []) (stk' := [.int t26]) (k' := 4) (n' := 24) hX (fun l s0 D => mX1_isOf l s0 D gt26) gu25 zc0 zwX1_isOf q1056 q1058 qs28 rfl rfl rfl rfl rfl rfl rfl rfl rfl dX1_measure_26 ?_
        refine zr_if_eq (pc := 29) hX 36 rfl dX1_measure_29 (fun c29_26 => ?_) (fun c29_26 => ?_)
        · rw [if_pos c29_26] at h
          refine zr_iconst (pc := 36) hX zci_0 dX1_measure_36 ?_
          replace h := congrArg some (hBu24 _ (Option.some.inj h).symm)
          exact VW.sub (hJt7 (0 : Int32) (Option.some.inj h).symm) [1, 2, 3, 0] rfl
        · rw [if_neg c29_26] at h
          exact VW.sub (hJt23 () (Option.some.inj h).symm) [1, 2, 3, 0] rfl
theorem mX1_measure (l : Launch) (s0 : State) (D : zD) {n : Nat} {σ : zH} {sz : Nat} {th : Nat} {p0 : Int32} {p1 : Int32} {o : zH × Nat × Int32} (h : fX1_measure n σ sz th p0 p1 = some (.inr o)) : zM l s0 D yX1_measure cX1_measure 4 (some .int) 11 3100 24 1939 [.ref th, .int p0, .int p1] σ sz o.1 o.2.1 (some (.int o.2.2)) := by
  refine zenter (own := RX1) zplX1 rfl (Nat.le_of_ble_eq_true rfl) trivial (fun K hX hnm hret => ?_)
  exact wX1_measure hX hnm h (fun a e => by cases e; exact hret) (fun e q => by cases q)
theorem xX1_measure (l : Launch) (s0 : State) (D : zD) (hl : l.stackTraces = false) {n : Nat} {σ : zH} {sz : Nat} {th : Nat} {p0 : Int32} {p1 : Int32} {e : zX} (h : fX1_measure n σ sz th p0 p1 = some (.inl e)) : zMX l s0 D yX1_measure cX1_measure 4 (some .int) 11 3100 24 1939 [.ref th, .int p0, .int p1] σ sz e.1 e.2 := by
  refine zenterX (own := RX1) hl zplX1 rfl (Nat.le_of_ble_eq_true rfl) (fun K hX hnm hT hx hth => ?_)
  exact wX1_measure hX hnm h (fun a q => by cases q) (fun e' q => by cases q; exact ⟨hT, hx, (fun q => hth rfl (by decide) (by decide) (by decide) (by decide) q.symm)⟩)
set_option maxHeartbeats 4000000 in
theorem wX1_member {K : zC} {n : Nat} {σ : zH} {sz : Nat} {th : Nat} {p0 : Int32} {p1 : Int32} {p2 : Int32} {o : (zX ⊕ (zH × Nat × Int32))} (hX : zOk K RX1 cX1_member (some .int) 4 11 3100 38 2018) (hnm : zNm K yX1_member) (h : fX1_member n σ sz th p0 p1 p2 = some o) (hret : ∀ a, o = .inr a → zRet K cX1_member (some .int) a.1 a.2.1 38 2018 (some (.int a.2.2))) (hexc : ∀ e, o = .inl e → zTr K ∧ zXok K e.1 e.2 38 2018 ∧ (e.2 = σ → zTh K cX1_member e.1 σ sz)) : VW K σ sz 0 0 0 [(0, .ref th), (1, .int p0), (2, .int p1), (3, .int p2)] [] := by
  unfold fX1_member at h
  refine zr_aload_n (pc := 0) hX 0 rfl rfl dX1_member_0 ?_
  refine zr_iconst (pc := 1) hX zci_3 dX1_member_1 ?_
  obtain ⟨σ1, gσ1, h⟩ := bnd h
  refine zr_newa (atype := .int) (pc := 2) (k' := 1) (n' := 3) (sz' := sz + 1) hX gσ1 q207 rfl (by decide) rfl rfl rfl rfl rfl dX1_member_2 ?_
  refine zr_dup (pc := 4) hX rfl dX1_member_4 ?_
  refine zr_iconst (pc := 5) hX zci_0 dX1_member_5 ?_
  refine zr_iload_n (pc := 6) hX 1 rfl rfl dX1_member_6 ?_
  obtain ⟨σ2, gσ2, h⟩ := bnd h
  refine zr_sI (pc := 7) hX gσ2 dX1_member_7 ?_
  refine zr_dup (pc := 8) hX rfl dX1_member_8 ?_
  refine zr_iconst (pc := 9) hX zci_1 dX1_member_9 ?_
  refine zr_iload_n (pc := 10) hX 2 rfl rfl dX1_member_10 ?_
  obtain ⟨σ3, gσ3, h⟩ := bnd h
  refine zr_sI (pc := 11) hX gσ3 dX1_member_11 ?_
  refine zr_dup (pc := 12) hX rfl dX1_member_12 ?_
  refine zr_iconst (pc := 13) hX zci_2 dX1_member_13 ?_
  refine zr_iload_n (pc := 14) hX 3 rfl rfl dX1_member_14 ?_
  obtain ⟨σ4, gσ4, h⟩ := bnd h
  refine zr_sI (pc := 15) hX gσ4 dX1_member_15 ?_
  refine zr_iconst (pc := 16) hX zci_3 dX1_member_16 ?_
  obtain ⟨σ5, gσ5, h⟩ := bnd h
  refine zr_newa (atype := .int) (pc := 17) (k' := 2) (n' := 6) (sz' := sz + 2) hX gσ5 q207 rfl (by decide) rfl rfl rfl rfl rfl dX1_member_17 ?_
  refine zr_dup (pc := 19) hX rfl dX1_member_19 ?_
  refine zr_iconst (pc := 20) hX zci_0 dX1_member_20 ?_
  refine zr_iconst (pc := 21) hX zci_0 dX1_member_21 ?_
  obtain ⟨σ6, gσ6, h⟩ := bnd h
  refine zr_sI (pc := 22) hX gσ6 dX1_member_22 ?_
  refine zr_dup (pc := 23) hX rfl dX1_member_23 ?_
  refine zr_iconst (pc := 24) hX zci_1 dX1_member_24 ?_
  refine zr_iconst (pc := 25) hX zci_0 dX1_member_25 ?_
  obtain ⟨σ7, gσ7, h⟩ := bnd h
  refine zr_sI (pc := 26) hX gσ7 dX1_member_26 ?_
  refine zr_dup (pc := 27) hX rfl dX1_member_27 ?_
  refine zr_iconst (pc := 28) hX zci_2 dX1_member_28 ?_
  refine zr_iconst (pc := 29) hX zci_1 dX1_member_29 ?_
  obtain ⟨σ8, gσ8, h⟩ := bnd h
  refine zr_sI (pc := 30) hX gσ8 dX1_member_30 ?_
  obtain ⟨u9, gu9, h⟩ := bnd h
  obtain ⟨u19, gu19, hxu19, hnu19⟩ := zthr_bnd h
  rcases u19 with e20 | t10
  · have h := hxu19 _ rfl
    have hxx := hexc _ (Option.some.inj h).symm
    exact zr_callVX (pc := 31) (rest := []) hX hxx.1 hxx.2.1 (fun l s0 D hl => xX1_checkAll l s0 D hl gu19) gu9 zc0 zwX1_checkAll q1260 q1262 qs33 rfl rfl rfl rfl rfl rfl dX1_member_31
  · have h := hnu19 _ rfl
    refine zr_callVs (pc := 31) (rest := []) (stk' := []) (k' := 21) (n' := 120) hX (fun l s0 D => mX1_checkAll l s0 D gu19) gu9 zc0 zwX1_checkAll q1260 q1262 qs33 rfl rfl rfl rfl rfl rfl rfl rfl rfl dX1_member_31 ?_
    refine zr_aload_n (pc := 34) hX 0 rfl rfl dX1_member_34 ?_
    refine VW.widen 22 121 ?_ (by omega) (by omega)
    refine zr_lamC (pc := 35) hX hnm 4 rfl (by decide) rfl dX1_member_35 ?_
    refine zr_iconst (pc := 40) hX zci_3 dX1_member_40 ?_
    obtain ⟨σ11, gσ11, h⟩ := bnd h
    refine zr_newa (atype := .int) (pc := 41) (k' := 23) (n' := 124) (sz' := sz + 3) hX gσ11 q207 rfl (by decide) rfl rfl rfl rfl rfl dX1_member_41 ?_
    refine zr_dup (pc := 43) hX rfl dX1_member_43 ?_
    refine zr_iconst (pc := 44) hX zci_0 dX1_member_44 ?_
    refine zr_iload_n (pc := 45) hX 1 rfl rfl dX1_member_45 ?_
    obtain ⟨σ12, gσ12, h⟩ := bnd h
    refine zr_sI (pc := 46) hX gσ12 dX1_member_46 ?_
    refine zr_dup (pc := 47) hX rfl dX1_member_47 ?_
    refine zr_iconst (pc := 48) hX zci_1 dX1_member_48 ?_
    refine zr_iload_n (pc := 49) hX 2 rfl rfl dX1_member_49 ?_
    obtain ⟨σ13, gσ13, h⟩ := bnd h
    refine zr_sI (pc := 50) hX gσ13 dX1_member_50 ?_
    refine zr_dup (pc := 51) hX rfl dX1_member_51 ?_
    refine zr_iconst (pc := 52) hX zci_2 dX1_member_52 ?_
    refine zr_iload_n (pc := 53) hX 3 rfl rfl dX1_member_53 ?_
    obtain ⟨σ14, gσ14, h⟩ := bnd h
    refine zr_sI (pc := 54) hX gσ14 dX1_member_54 ?_
    obtain ⟨u15, gu15, h⟩ := bnd h
    obtain ⟨u17, gu17, hxu17, hnu17⟩ := zthr_bnd h
    rcases u17 with e18 | t16
    · have h := hxu17 _ rfl
      have hxx := hexc _ (Option.some.inj h).symm
      exact zr_callVX (pc := 55) (rest := []) hX hxx.1 hxx.2.1 (fun l s0 D hl => xX1_addSmall l s0 D hl gu17) gu15 zc0 zwX1_addSmall q1266 q1268 qs34 rfl rfl rfl rfl rfl rfl dX1_member_55
    · have h := hnu17 _ rfl
      refine zr_callVs (pc := 55) (rest := []) (stk' := [.int t16.2.2]) (k' := 37) (n' := 2012) hX (fun l s0 D => mX1_addSmall l s0 D gu17) gu15 zc0 zwX1_addSmall q1266 q1268 qs34 rfl rfl rfl rfl rfl rfl rfl rfl rfl dX1_member_55 ?_
      refine VW.widen 38 2018 ?_ (Nat.le_of_ble_eq_true rfl) (Nat.le_of_ble_eq_true rfl)
      exact hret _ (Option.some.inj h).symm _ _ dX1_member_58 (Or.inl rfl)
theorem mX1_member (l : Launch) (s0 : State) (D : zD) {n : Nat} {σ : zH} {sz : Nat} {th : Nat} {p0 : Int32} {p1 : Int32} {p2 : Int32} {o : zH × Nat × Int32} (h : fX1_member n σ sz th p0 p1 p2 = some (.inr o)) : zM l s0 D yX1_member cX1_member 4 (some .int) 11 3100 38 2018 [.ref th, .int p0, .int p1, .int p2] σ sz o.1 o.2.1 (some (.int o.2.2)) := by
  refine zenter (own := RX1) zplX1 rfl (Nat.le_of_ble_eq_true rfl) trivial (fun K hX hnm hret => ?_)
  exact wX1_member hX hnm h (fun a e => by cases e; exact hret) (fun e q => by cases q)
theorem xX1_member (l : Launch) (s0 : State) (D : zD) (hl : l.stackTraces = false) {n : Nat} {σ : zH} {sz : Nat} {th : Nat} {p0 : Int32} {p1 : Int32} {p2 : Int32} {e : zX} (h : fX1_member n σ sz th p0 p1 p2 = some (.inl e)) : zMX l s0 D yX1_member cX1_member 4 (some .int) 11 3100 38 2018 [.ref th, .int p0, .int p1, .int p2] σ sz e.1 e.2 := by
  refine zenterX (own := RX1) hl zplX1 rfl (Nat.le_of_ble_eq_true rfl) (fun K hX hnm hT hx hth => ?_)
  exact wX1_member hX hnm h (fun a q => by cases q) (fun e' q => by cases q; exact ⟨hT, hx, (fun q => hth rfl (by decide) (by decide) (by decide) (by decide) q.symm)⟩)
set_option maxHeartbeats 4000000 in
theorem wX1_joined {K : zC} {n : Nat} {σ : zH} {sz : Nat} {th : Nat} {p0 : Int32} {p1 : Int32} {p2 : Int32} {o : (zX ⊕ (zH × Nat × Int32))} (hX : zOk K RX1 cX1_joined (some .int) 4 11 3100 38 2018) (hnm : zNm K yX1_joined) (h : fX1_joined n σ sz th p0 p1 p2 = some o) (hret : ∀ a, o = .inr a → zRet K cX1_joined (some .int) a.1 a.2.1 38 2018 (some (.int a.2.2))) (hexc : ∀ e, o = .inl e → zTr K ∧ zXok K e.1 e.2 38 2018 ∧ (e.2 = σ → zTh K cX1_joined e.1 σ sz)) : VW K σ sz 0 0 0 [(0, .ref th), (1, .int p0), (2, .int p1), (3, .int p2)] [] := by
  unfold fX1_joined at h
  refine zr_aload_n (pc := 0) hX 0 rfl rfl dX1_joined_0 ?_
  refine zr_iconst (pc := 1) hX zci_3 dX1_joined_1 ?_
  obtain ⟨σ1, gσ1, h⟩ := bnd h
  refine zr_newa (atype := .int) (pc := 2) (k' := 1) (n' := 3) (sz' := sz + 1) hX gσ1 q207 rfl (by decide) rfl rfl rfl rfl rfl dX1_joined_2 ?_
  refine zr_dup (pc := 4) hX rfl dX1_joined_4 ?_
  refine zr_iconst (pc := 5) hX zci_0 dX1_joined_5 ?_
  refine zr_iload_n (pc := 6) hX 1 rfl rfl dX1_joined_6 ?_
  obtain ⟨σ2, gσ2, h⟩ := bnd h
  refine zr_sI (pc := 7) hX gσ2 dX1_joined_7 ?_
  refine zr_dup (pc := 8) hX rfl dX1_joined_8 ?_
  refine zr_iconst (pc := 9) hX zci_1 dX1_joined_9 ?_
  refine zr_iload_n (pc := 10) hX 2 rfl rfl dX1_joined_10 ?_
  obtain ⟨σ3, gσ3, h⟩ := bnd h
  refine zr_sI (pc := 11) hX gσ3 dX1_joined_11 ?_
  refine zr_dup (pc := 12) hX rfl dX1_joined_12 ?_
  refine zr_iconst (pc := 13) hX zci_2 dX1_joined_13 ?_
  refine zr_iload_n (pc := 14) hX 3 rfl rfl dX1_joined_14 ?_
  obtain ⟨σ4, gσ4, h⟩ := bnd h
  refine zr_sI (pc := 15) hX gσ4 dX1_joined_15 ?_
  refine zr_iconst (pc := 16) hX zci_3 dX1_joined_16 ?_
  obtain ⟨σ5, gσ5, h⟩ := bnd h
  refine zr_newa (atype := .int) (pc := 17) (k' := 2) (n' := 6) (sz' := sz + 2) hX gσ5 q207 rfl (by decide) rfl rfl rfl rfl rfl dX1_joined_17 ?_
  refine zr_dup (pc := 19) hX rfl dX1_joined_19 ?_
  refine zr_iconst (pc := 20) hX zci_0 dX1_joined_20 ?_
  refine zr_iconst (pc := 21) hX zci_2 dX1_joined_21 ?_
  obtain ⟨σ6, gσ6, h⟩ := bnd h
  refine zr_sI (pc := 22) hX gσ6 dX1_joined_22 ?_
  refine zr_dup (pc := 23) hX rfl dX1_joined_23 ?_
  refine zr_iconst (pc := 24) hX zci_1 dX1_joined_24 ?_
  refine zr_iconst (pc := 25) hX zci_2 dX1_joined_25 ?_
  obtain ⟨σ7, gσ7, h⟩ := bnd h
  refine zr_sI (pc := 26) hX gσ7 dX1_joined_26 ?_
  refine zr_dup (pc := 27) hX rfl dX1_joined_27 ?_
  refine zr_iconst (pc := 28) hX zci_2 dX1_joined_28 ?_
  refine zr_iconst (pc := 29) hX zci_2 dX1_joined_29 ?_
  obtain ⟨σ8, gσ8, h⟩ := bnd h
  refine zr_sI (pc := 30) hX gσ8 dX1_joined_30 ?_
  obtain ⟨u9, gu9, h⟩ := bnd h
  obtain ⟨u19, gu19, hxu19, hnu19⟩ := zthr_bnd h
  rcases u19 with e20 | t10
  · have h := hxu19 _ rfl
    have hxx := hexc _ (Option.some.inj h).symm
    exact zr_callVX (pc := 31) (rest := []) hX hxx.1 hxx.2.1 (fun l s0 D hl => xX1_checkAll l s0 D hl gu19) gu9 zc0 zwX1_checkAll q1260 q1262 qs33 rfl rfl rfl rfl rfl rfl dX1_joined_31
  · have h := hnu19 _ rfl
    refine zr_callVs (pc := 31) (rest := []) (stk' := []) (k' := 21) (n' := 120) hX (fun l s0 D => mX1_checkAll l s0 D gu19) gu9 zc0 zwX1_checkAll q1260 q1262 qs33 rfl rfl rfl rfl rfl rfl rfl rfl rfl dX1_joined_31 ?_
    refine zr_aload_n (pc := 34) hX 0 rfl rfl dX1_joined_34 ?_
    refine VW.widen 22 121 ?_ (by omega) (by omega)
    refine zr_lamC (pc := 35) hX hnm 5 rfl (by decide) rfl dX1_joined_35 ?_
    refine zr_iconst (pc := 40) hX zci_3 dX1_joined_40 ?_
    obtain ⟨σ11, gσ11, h⟩ := bnd h
    refine zr_newa (atype := .int) (pc := 41) (k' := 23) (n' := 124) (sz' := sz + 3) hX gσ11 q207 rfl (by decide) rfl rfl rfl rfl rfl dX1_joined_41 ?_
    refine zr_dup (pc := 43) hX rfl dX1_joined_43 ?_
    refine zr_iconst (pc := 44) hX zci_0 dX1_joined_44 ?_
    refine zr_iload_n (pc := 45) hX 1 rfl rfl dX1_joined_45 ?_
    obtain ⟨σ12, gσ12, h⟩ := bnd h
    refine zr_sI (pc := 46) hX gσ12 dX1_joined_46 ?_
    refine zr_dup (pc := 47) hX rfl dX1_joined_47 ?_
    refine zr_iconst (pc := 48) hX zci_1 dX1_joined_48 ?_
    refine zr_iload_n (pc := 49) hX 2 rfl rfl dX1_joined_49 ?_
    obtain ⟨σ13, gσ13, h⟩ := bnd h
    refine zr_sI (pc := 50) hX gσ13 dX1_joined_50 ?_
    refine zr_dup (pc := 51) hX rfl dX1_joined_51 ?_
    refine zr_iconst (pc := 52) hX zci_2 dX1_joined_52 ?_
    refine zr_iload_n (pc := 53) hX 3 rfl rfl dX1_joined_53 ?_
    obtain ⟨σ14, gσ14, h⟩ := bnd h
    refine zr_sI (pc := 54) hX gσ14 dX1_joined_54 ?_
    obtain ⟨u15, gu15, h⟩ := bnd h
    obtain ⟨u17, gu17, hxu17, hnu17⟩ := zthr_bnd h
    rcases u17 with e18 | t16
    · have h := hxu17 _ rfl
      have hxx := hexc _ (Option.some.inj h).symm
      exact zr_callVX (pc := 55) (rest := []) hX hxx.1 hxx.2.1 (fun l s0 D hl => xX1_addSmall l s0 D hl gu17) gu15 zc0 zwX1_addSmall q1266 q1268 qs34 rfl rfl rfl rfl rfl rfl dX1_joined_55
    · have h := hnu17 _ rfl
      refine zr_callVs (pc := 55) (rest := []) (stk' := [.int t16.2.2]) (k' := 37) (n' := 2012) hX (fun l s0 D => mX1_addSmall l s0 D gu17) gu15 zc0 zwX1_addSmall q1266 q1268 qs34 rfl rfl rfl rfl rfl rfl rfl rfl rfl dX1_joined_55 ?_
      refine VW.widen 38 2018 ?_ (Nat.le_of_ble_eq_true rfl) (Nat.le_of_ble_eq_true rfl)
      exact hret _ (Option.some.inj h).symm _ _ dX1_joined_58 (Or.inl rfl)
theorem mX1_joined (l : Launch) (s0 : State) (D : zD) {n : Nat} {σ : zH} {sz : Nat} {th : Nat} {p0 : Int32} {p1 : Int32} {p2 : Int32} {o : zH × Nat × Int32} (h : fX1_joined n σ sz th p0 p1 p2 = some (.inr o)) : zM l s0 D yX1_joined cX1_joined 4 (some .int) 11 3100 38 2018 [.ref th, .int p0, .int p1, .int p2] σ sz o.1 o.2.1 (some (.int o.2.2)) := by
  refine zenter (own := RX1) zplX1 rfl (Nat.le_of_ble_eq_true rfl) trivial (fun K hX hnm hret => ?_)
  exact wX1_joined hX hnm h (fun a e => by cases e; exact hret) (fun e q => by cases q)
theorem xX1_joined (l : Launch) (s0 : State) (D : zD) (hl : l.stackTraces = false) {n : Nat} {σ : zH} {sz : Nat} {th : Nat} {p0 : Int32} {p1 : Int32} {p2 : Int32} {e : zX} (h : fX1_joined n σ sz th p0 p1 p2 = some (.inl e)) : zMX l s0 D yX1_joined cX1_joined 4 (some .int) 11 3100 38 2018 [.ref th, .int p0, .int p1, .int p2] σ sz e.1 e.2 := by
  refine zenterX (own := RX1) hl zplX1 rfl (Nat.le_of_ble_eq_true rfl) (fun K hX hnm hT hx hth => ?_)
  exact wX1_joined hX hnm h (fun a q => by cases q) (fun e' q => by cases q; exact ⟨hT, hx, (fun q => hth rfl (by decide) (by decide) (by decide) (by decide) q.symm)⟩)
set_option maxHeartbeats 4000000 in
theorem wX1_prefix {K : zC} {n : Nat} {σ : zH} {sz : Nat} {th : Nat} {p0 : Int32} {p1 : Int32} {o : (zX ⊕ (zH × Nat × Int32))} (hX : zOk K RX1 cX1_prefix (some .int) 3 11 3100 38 2015) (hnm : zNm K yX1_prefix) (h : fX1_prefix n σ sz th p0 p1 = some o) (hret : ∀ a, o = .inr a → zRet K cX1_prefix (some .int) a.1 a.2.1 38 2015 (some (.int a.2.2))) (hexc : ∀ e, o = .inl e → zTr K ∧ zXok K e.1 e.2 38 2015 ∧ (e.2 = σ → zTh K cX1_prefix e.1 σ sz)) : VW K σ sz 0 0 0 [(0, .ref th), (1, .int p0), (2, .int p1)] [] := by
  unfold fX1_prefix at h
  refine zr_aload_n (pc := 0) hX 0 rfl rfl dX1_prefix_0 ?_
  refine zr_iconst (pc := 1) hX zci_2 dX1_prefix_1 ?_
  obtain ⟨σ1, gσ1, h⟩ := bnd h
  refine zr_newa (atype := .int) (pc := 2) (k' := 1) (n' := 2) (sz' := sz + 1) hX gσ1 q207 rfl (by decide) rfl rfl rfl rfl rfl dX1_prefix_2 ?_
  refine zr_dup (pc := 4) hX rfl dX1_prefix_4 ?_
  refine zr_iconst (pc := 5) hX zci_0 dX1_prefix_5 ?_
  refine zr_iload_n (pc := 6) hX 1 rfl rfl dX1_prefix_6 ?_
  obtain ⟨σ2, gσ2, h⟩ := bnd h
  refine zr_sI (pc := 7) hX gσ2 dX1_prefix_7 ?_
  refine zr_dup (pc := 8) hX rfl dX1_prefix_8 ?_
  refine zr_iconst (pc := 9) hX zci_1 dX1_prefix_9 ?_
  refine zr_iload_n (pc := 10) hX 2 rfl rfl dX1_prefix_10 ?_
  obtain ⟨σ3, gσ3, h⟩ := bnd h
  refine zr_sI (pc := 11) hX gσ3 dX1_prefix_11 ?_
  refine zr_iconst (pc := 12) hX zci_2 dX1_prefix_12 ?_
  obtain ⟨σ4, gσ4, h⟩ := bnd h
  refine zr_newa (atype := .int) (pc := 13) (k' := 2) (n' := 4) (sz' := sz + 2) hX gσ4 q207 rfl (by decide) rfl rfl rfl rfl rfl dX1_prefix_13 ?_
  refine zr_dup (pc := 15) hX rfl dX1_prefix_15 ?_
  refine zr_iconst (pc := 16) hX zci_0 dX1_prefix_16 ?_
  refine zr_iconst (pc := 17) hX zci_2 dX1_prefix_17 ?_
  obtain ⟨σ5, gσ5, h⟩ := bnd h
  refine zr_sI (pc := 18) hX gσ5 dX1_prefix_18 ?_
  refine zr_dup (pc := 19) hX rfl dX1_prefix_19 ?_
  refine zr_iconst (pc := 20) hX zci_1 dX1_prefix_20 ?_
  refine zr_iconst (pc := 21) hX zci_2 dX1_prefix_21 ?_
  obtain ⟨σ6, gσ6, h⟩ := bnd h
  refine zr_sI (pc := 22) hX gσ6 dX1_prefix_22 ?_
  obtain ⟨u7, gu7, h⟩ := bnd h
  obtain ⟨u16, gu16, hxu16, hnu16⟩ := zthr_bnd h
  rcases u16 with e17 | t8
  · have h := hxu16 _ rfl
    have hxx := hexc _ (Option.some.inj h).symm
    exact zr_callVX (pc := 23) (rest := []) hX hxx.1 hxx.2.1 (fun l s0 D hl => xX1_checkAll l s0 D hl gu16) gu7 zc0 zwX1_checkAll q1260 q1262 qs33 rfl rfl rfl rfl rfl rfl dX1_prefix_23
  · have h := hnu16 _ rfl
    refine zr_callVs (pc := 23) (rest := []) (stk' := []) (k' := 21) (n' := 118) hX (fun l s0 D => mX1_checkAll l s0 D gu16) gu7 zc0 zwX1_checkAll q1260 q1262 qs33 rfl rfl rfl rfl rfl rfl rfl rfl rfl dX1_prefix_23 ?_
    refine zr_aload_n (pc := 26) hX 0 rfl rfl dX1_prefix_26 ?_
    refine VW.widen 22 119 ?_ (by omega) (by omega)
    refine zr_lamC (pc := 27) hX hnm 6 rfl (by decide) rfl dX1_prefix_27 ?_
    refine zr_iconst (pc := 32) hX zci_2 dX1_prefix_32 ?_
    obtain ⟨σ9, gσ9, h⟩ := bnd h
    refine zr_newa (atype := .int) (pc := 33) (k' := 23) (n' := 121) (sz' := sz + 3) hX gσ9 q207 rfl (by decide) rfl rfl rfl rfl rfl dX1_prefix_33 ?_
    refine zr_dup (pc := 35) hX rfl dX1_prefix_35 ?_
    refine zr_iconst (pc := 36) hX zci_0 dX1_prefix_36 ?_
    refine zr_iload_n (pc := 37) hX 1 rfl rfl dX1_prefix_37 ?_
    obtain ⟨σ10, gσ10, h⟩ := bnd h
    refine zr_sI (pc := 38) hX gσ10 dX1_prefix_38 ?_
    refine zr_dup (pc := 39) hX rfl dX1_prefix_39 ?_
    refine zr_iconst (pc := 40) hX zci_1 dX1_prefix_40 ?_
    refine zr_iload_n (pc := 41) hX 2 rfl rfl dX1_prefix_41 ?_
    obtain ⟨σ11, gσ11, h⟩ := bnd h
    refine zr_sI (pc := 42) hX gσ11 dX1_prefix_42 ?_
    obtain ⟨u12, gu12, h⟩ := bnd h
    obtain ⟨u14, gu14, hxu14, hnu14⟩ := zthr_bnd h
    rcases u14 with e15 | t13
    · have h := hxu14 _ rfl
      have hxx := hexc _ (Option.some.inj h).symm
      exact zr_callVX (pc := 43) (rest := []) hX hxx.1 hxx.2.1 (fun l s0 D hl => xX1_addSmall l s0 D hl gu14) gu12 zc0 zwX1_addSmall q1266 q1268 qs34 rfl rfl rfl rfl rfl rfl dX1_prefix_43
    · have h := hnu14 _ rfl
      refine zr_callVs (pc := 43) (rest := []) (stk' := [.int t13.2.2]) (k' := 37) (n' := 2009) hX (fun l s0 D => mX1_addSmall l s0 D gu14) gu12 zc0 zwX1_addSmall q1266 q1268 qs34 rfl rfl rfl rfl rfl rfl rfl rfl rfl dX1_prefix_43 ?_
      refine VW.widen 38 2015 ?_ (Nat.le_of_ble_eq_true rfl) (Nat.le_of_ble_eq_true rfl)
      exact hret _ (Option.some.inj h).symm _ _ dX1_prefix_46 (Or.inl rfl)
theorem mX1_prefix (l : Launch) (s0 : State) (D : zD) {n : Nat} {σ : zH} {sz : Nat} {th : Nat} {p0 : Int32} {p1 : Int32} {o : zH × Nat × Int32} (h : fX1_prefix n σ sz th p0 p1 = some (.inr o)) : zM l s0 D yX1_prefix cX1_prefix 3 (some .int) 11 3100 38 2015 [.ref th, .int p0, .int p1] σ sz o.1 o.2.1 (some (.int o.2.2)) := by
  refine zenter (own := RX1) zplX1 rfl (Nat.le_of_ble_eq_true rfl) trivial (fun K hX hnm hret => ?_)
  exact wX1_prefix hX hnm h (fun a e => by cases e; exact hret) (fun e q => by cases q)
theorem xX1_prefix (l : Launch) (s0 : State) (D : zD) (hl : l.stackTraces = false) {n : Nat} {σ : zH} {sz : Nat} {th : Nat} {p0 : Int32} {p1 : Int32} {e : zX} (h : fX1_prefix n σ sz th p0 p1 = some (.inl e)) : zMX l s0 D yX1_prefix cX1_prefix 3 (some .int) 11 3100 38 2015 [.ref th, .int p0, .int p1] σ sz e.1 e.2 := by
  refine zenterX (own := RX1) hl zplX1 rfl (Nat.le_of_ble_eq_true rfl) (fun K hX hnm hT hx hth => ?_)
  exact wX1_prefix hX hnm h (fun a q => by cases q) (fun e' q => by cases q; exact ⟨hT, hx, (fun q => hth rfl (by decide) (by decide) (by decide) (by decide) q.symm)⟩)
set_option maxHeartbeats 4000000 in
theorem wX1_letter {K : zC} {n : Nat} {σ : zH} {sz : Nat} {th : Nat} {p0 : Int32} {p1 : Int32} {p2 : Int32} {o : (zX ⊕ (zH × Nat × Int32))} (hX : zOk K RX1 cX1_letter (some .int) 4 11 3100 38 2018) (hnm : zNm K yX1_letter) (h : fX1_letter n σ sz th p0 p1 p2 = some o) (hret : ∀ a, o = .inr a → zRet K cX1_letter (some .int) a.1 a.2.1 38 2018 (some (.int a.2.2))) (hexc : ∀ e, o = .inl e → zTr K ∧ zXok K e.1 e.2 38 2018 ∧ (e.2 = σ → zTh K cX1_letter e.1 σ sz)) : VW K σ sz 0 0 0 [(0, .ref th), (1, .int p0), (2, .int p1), (3, .int p2)] [] := by
  unfold fX1_letter at h
  refine zr_aload_n (pc := 0) hX 0 rfl rfl dX1_letter_0 ?_
  refine zr_iconst (pc := 1) hX zci_3 dX1_letter_1 ?_
  obtain ⟨σ1, gσ1, h⟩ := bnd h
  refine zr_newa (atype := .int) (pc := 2) (k' := 1) (n' := 3) (sz' := sz + 1) hX gσ1 q207 rfl (by decide) rfl rfl rfl rfl rfl dX1_letter_2 ?_
  refine zr_dup (pc := 4) hX rfl dX1_letter_4 ?_
  refine zr_iconst (pc := 5) hX zci_0 dX1_letter_5 ?_
  refine zr_iload_n (pc := 6) hX 1 rfl rfl dX1_letter_6 ?_
  obtain ⟨σ2, gσ2, h⟩ := bnd h
  refine zr_sI (pc := 7) hX gσ2 dX1_letter_7 ?_
  refine zr_dup (pc := 8) hX rfl dX1_letter_8 ?_
  refine zr_iconst (pc := 9) hX zci_1 dX1_letter_9 ?_
  refine zr_iload_n (pc := 10) hX 2 rfl rfl dX1_letter_10 ?_
  obtain ⟨σ3, gσ3, h⟩ := bnd h
  refine zr_sI (pc := 11) hX gσ3 dX1_letter_11 ?_
  refine zr_dup (pc := 12) hX rfl dX1_letter_12 ?_
  refine zr_iconst (pc := 13) hX zci_2 dX1_letter_13 ?_
  refine zr_iload_n (pc := 14) hX 3 rfl rfl dX1_letter_14 ?_
  obtain ⟨σ4, gσ4, h⟩ := bnd h
  refine zr_sI (pc := 15) hX gσ4 dX1_letter_15 ?_
  refine zr_iconst (pc := 16) hX zci_3 dX1_letter_16 ?_
  obtain ⟨σ5, gσ5, h⟩ := bnd h
  refine zr_newa (atype := .int) (pc := 17) (k' := 2) (n' := 6) (sz' := sz + 2) hX gσ5 q207 rfl (by decide) rfl rfl rfl rfl rfl dX1_letter_17 ?_
  refine zr_dup (pc := 19) hX rfl dX1_letter_19 ?_
  refine zr_iconst (pc := 20) hX zci_0 dX1_letter_20 ?_
  refine zr_iconst (pc := 21) hX zci_0 dX1_letter_21 ?_
  obtain ⟨σ6, gσ6, h⟩ := bnd h
  refine zr_sI (pc := 22) hX gσ6 dX1_letter_22 ?_
  refine zr_dup (pc := 23) hX rfl dX1_letter_23 ?_
  refine zr_iconst (pc := 24) hX zci_1 dX1_letter_24 ?_
  refine zr_iconst (pc := 25) hX zci_2 dX1_letter_25 ?_
  obtain ⟨σ7, gσ7, h⟩ := bnd h
  refine zr_sI (pc := 26) hX gσ7 dX1_letter_26 ?_
  refine zr_dup (pc := 27) hX rfl dX1_letter_27 ?_
  refine zr_iconst (pc := 28) hX zci_2 dX1_letter_28 ?_
  refine zr_iconst (pc := 29) hX zci_0 dX1_letter_29 ?_
  obtain ⟨σ8, gσ8, h⟩ := bnd h
  refine zr_sI (pc := 30) hX gσ8 dX1_letter_30 ?_
  obtain ⟨u9, gu9, h⟩ := bnd h
  obtain ⟨u19, gu19, hxu19, hnu19⟩ := zthr_bnd h
  rcases u19 with e20 | t10
  · have h := hxu19 _ rfl
    have hxx := hexc _ (Option.some.inj h).symm
    exact zr_callVX (pc := 31) (rest := []) hX hxx.1 hxx.2.1 (fun l s0 D hl => xX1_checkAll l s0 D hl gu19) gu9 zc0 zwX1_checkAll q1260 q1262 qs33 rfl rfl rfl rfl rfl rfl dX1_letter_31
  · have h := hnu19 _ rfl
    refine zr_callVs (pc := 31) (rest := []) (stk' := []) (k' := 21) (n' := 120) hX (fun l s0 D => mX1_checkAll l s0 D gu19) gu9 zc0 zwX1_checkAll q1260 q1262 qs33 rfl rfl rfl rfl rfl rfl rfl rfl rfl dX1_letter_31 ?_
    refine zr_aload_n (pc := 34) hX 0 rfl rfl dX1_letter_34 ?_
    refine VW.widen 22 121 ?_ (by omega) (by omega)
    refine zr_lamC (pc := 35) hX hnm 7 rfl (by decide) rfl dX1_letter_35 ?_
    refine zr_iconst (pc := 40) hX zci_3 dX1_letter_40 ?_
    obtain ⟨σ11, gσ11, h⟩ := bnd h
    refine zr_newa (atype := .int) (pc := 41) (k' := 23) (n' := 124) (sz' := sz + 3) hX gσ11 q207 rfl (by decide) rfl rfl rfl rfl rfl dX1_letter_41 ?_
    refine zr_dup (pc := 43) hX rfl dX1_letter_43 ?_
    refine zr_iconst (pc := 44) hX zci_0 dX1_letter_44 ?_
    refine zr_iload_n (pc := 45) hX 1 rfl rfl dX1_letter_45 ?_
    obtain ⟨σ12, gσ12, h⟩ := bnd h
    refine zr_sI (pc := 46) hX gσ12 dX1_letter_46 ?_
    refine zr_dup (pc := 47) hX rfl dX1_letter_47 ?_
    refine zr_iconst (pc := 48) hX zci_1 dX1_letter_48 ?_
    refine zr_iload_n (pc := 49) hX 2 rfl rfl dX1_letter_49 ?_
    obtain ⟨σ13, gσ13, h⟩ := bnd h
    refine zr_sI (pc := 50) hX gσ13 dX1_letter_50 ?_
    refine zr_dup (pc := 51) hX rfl dX1_letter_51 ?_
    refine zr_iconst (pc := 52) hX zci_2 dX1_letter_52 ?_
    refine zr_iload_n (pc := 53) hX 3 rfl rfl dX1_letter_53 ?_
    obtain ⟨σ14, gσ14, h⟩ := bnd h
    refine zr_sI (pc := 54) hX gσ14 dX1_letter_54 ?_
    obtain ⟨u15, gu15, h⟩ := bnd h
    obtain ⟨u17, gu17, hxu17, hnu17⟩ := zthr_bnd h
    rcases u17 with e18 | t16
    · have h := hxu17 _ rfl
      have hxx := hexc _ (Option.some.inj h).symm
      exact zr_callVX (pc := 55) (rest := []) hX hxx.1 hxx.2.1 (fun l s0 D hl => xX1_addSmall l s0 D hl gu17) gu15 zc0 zwX1_addSmall q1266 q1268 qs34 rfl rfl rfl rfl rfl rfl dX1_letter_55
    · have h := hnu17 _ rfl
      refine zr_callVs (pc := 55) (rest := []) (stk' := [.int t16.2.2]) (k' := 37) (n' := 2012) hX (fun l s0 D => mX1_addSmall l s0 D gu17) gu15 zc0 zwX1_addSmall q1266 q1268 qs34 rfl rfl rfl rfl rfl rfl rfl rfl rfl dX1_letter_55 ?_
      refine VW.widen 38 2018 ?_ (Nat.le_of_ble_eq_true rfl) (Nat.le_of_ble_eq_true rfl)
      exact hret _ (Option.some.inj h).symm _ _ dX1_letter_58 (Or.inl rfl)
theorem mX1_letter (l : Launch) (s0 : State) (D : zD) {n : Nat} {σ : zH} {sz : Nat} {th : Nat} {p0 : Int32} {p1 : Int32} {p2 : Int32} {o : zH × Nat × Int32} (h : fX1_letter n σ sz th p0 p1 p2 = some (.inr o)) : zM l s0 D yX1_letter cX1_letter 4 (some .int) 11 3100 38 2018 [.ref th, .int p0, .int p1, .int p2] σ sz o.1 o.2.1 (some (.int o.2.2)) := by
  refine zenter (own := RX1) zplX1 rfl (Nat.le_of_ble_eq_true rfl) trivial (fun K hX hnm hret => ?_)
  exact wX1_letter hX hnm h (fun a e => by cases e; exact hret) (fun e q => by cases q)
theorem xX1_letter (l : Launch) (s0 : State) (D : zD) (hl : l.stackTraces = false) {n : Nat} {σ : zH} {sz : Nat} {th : Nat} {p0 : Int32} {p1 : Int32} {p2 : Int32} {e : zX} (h : fX1_letter n σ sz th p0 p1 p2 = some (.inl e)) : zMX l s0 D yX1_letter cX1_letter 4 (some .int) 11 3100 38 2018 [.ref th, .int p0, .int p1, .int p2] σ sz e.1 e.2 := by
  refine zenterX (own := RX1) hl zplX1 rfl (Nat.le_of_ble_eq_true rfl) (fun K hX hnm hT hx hth => ?_)
  exact wX1_letter hX hnm h (fun a q => by cases q) (fun e' q => by cases q; exact ⟨hT, hx, (fun q => hth rfl (by decide) (by decide) (by decide) (by decide) q.symm)⟩)
set_option maxHeartbeats 4000000 in
theorem wX1_addClause {K : zC} {n : Nat} {σ : zH} {sz : Nat} {th : Nat} {p0 : Nat} {o : (zX ⊕ (zH × Nat × Int32))} (hX : zOk K RX1 cX1_addClause (some .int) 4 10 212 17 2986) (hnm : zNm K yX1_addClause) (h : fX1_addClause n σ sz th p0 = some o) (hret : ∀ a, o = .inr a → zRet K cX1_addClause (some .int) a.1 a.2.1 17 2986 (some (.int a.2.2))) (hexc : ∀ e, o = .inl e → zTr K ∧ zXok K e.1 e.2 17 2986 ∧ (e.2 = σ → zTh K cX1_addClause e.1 σ sz)) : VW K σ sz 0 0 0 [(0, .ref th), (1, .ref p0)] [] := by
  unfold fX1_addClause at h
  obtain ⟨σ1, gσ1, h⟩ := bnd h
  refine zr_new (pc := 0) (k' := 1) (n' := 3) (sz' := sz + 1) hX zc18 tyJ2_ok zfs18 q158 q159 q113 rfl rfl rfl (Option.some.inj gσ1) rfl dX1_addClause_0 ?_
  refine zr_dup (pc := 3) hX rfl dX1_addClause_3 ?_
  obtain ⟨t2, gt2, h⟩ := bnd h
  refine zr_callI (pc := 4) (rest := [.ref sz]) (k' := 1) (n' := 3) hX (fun l s0 D => mJ2_init l s0 D gt2) zwJ2_init q160 q161 rfl rfl rfl rfl rfl rfl rfl rfl dX1_addClause_4 ?_
  refine zr_astore_n (pc := 7) hX rfl rfl (Nat.le_of_ble_eq_true rfl) rfl dX1_addClause_7 ?_
  refine zr_iconst (pc := 8) hX zci_0 dX1_addClause_8 ?_
  refine zr_istore_n (pc := 9) hX rfl rfl (Nat.le_of_ble_eq_true rfl) rfl dX1_addClause_9 ?_
  obtain ⟨t6, gt6, h⟩ := bnd h
  have hJt6 : ∀ a, a = t6 → VW K a.1 a.2 8 2565 49 [(0, .ref th), (1, .ref p0), (2, .ref sz)] [] := by
    intro a ea
    rw [ea]
    refine zr_aload_n (pc := 49) hX 0 rfl rfl dX1_addClause_49 ?_
    obtain ⟨σ7, gσ7, h⟩ := bnd h
    refine zr_new (pc := 50) (k' := 9) (n' := 2570) (sz' := t6.2 + 1) hX zc14 tyX16_ok zfs14 q1376 q484 q146 rfl rfl rfl (Option.some.inj gσ7) rfl dX1_addClause_50 ?_
    refine zr_dup (pc := 53) hX rfl dX1_addClause_53 ?_
    refine zr_aload_n (pc := 54) hX 2 rfl rfl dX1_addClause_54 ?_
    refine zr_aload_n (pc := 55) hX 1 rfl rfl dX1_addClause_55 ?_
    obtain ⟨t8, gt8, h⟩ := bnd h
    refine zr_callI (pc := 56) (rest := [.ref t6.2, .ref th]) (k' := 13) (n' := 2602) hX (fun l s0 D => mX16_init l s0 D gt8) zwX16_init q1377 q1378 rfl rfl rfl rfl rfl rfl rfl rfl dX1_addClause_56 ?_
    obtain ⟨u9, gu9, h⟩ := bnd h
    obtain ⟨u11, gu11, hxu11, hnu11⟩ := zthr_bnd h
    rcases u11 with e12 | t10
    · have h := hxu11 _ rfl
      have hxx := hexc _ (Option.some.inj h).symm
      exact zr_callVX (pc := 59) (rest := []) hX hxx.1 hxx.2.1 (fun l s0 D hl => xX1_add_2 l s0 D hl gu11) gu9 zc0 zwX1_add_2 q1129 q1131 qs29 rfl rfl rfl rfl rfl rfl dX1_addClause_59
    · have h := hnu11 _ rfl
      refine zr_callVs (pc := 59) (rest := []) (stk' := [.int t10.2.2]) (k' := 16) (n' := 2980) hX (fun l s0 D => mX1_add_2 l s0 D gu11) gu9 zc0 zwX1_add_2 q1129 q1131 qs29 rfl rfl rfl rfl rfl rfl rfl rfl rfl dX1_addClause_59 ?_
      refine VW.widen 17 2986 ?_ (Nat.le_of_ble_eq_true rfl) (Nat.le_of_ble_eq_true rfl)
      exact hret _ (Option.some.inj h).symm _ _ dX1_addClause_62 (Or.inl rfl)
  refine VW.sub (lv' := [(0, .ref th), (1, .ref p0), (2, .ref sz), (3, .int (0 : Int32))]) ?_ [2, 3, 1, 0] rfl
  refine zloop_walkN (V := (fun j a => ∀ kv5 nv5 : Nat, kv5 + j * 1 ≤ 8 → nv5 + j * 366 ≤ 2565 → VW K a.1 a.2.1 kv5 nv5 10 [(0, .ref th), (1, .ref p0), (2, .ref sz), (3, .int a.2.2)] [])) (E := fun e => e = t6) ?_ 7 (t2, sz + 1, (0 : Int32)) _ gt6 rfl 1 3 (by omega) (by omega)
  intro j a3 o4 h kco4 keo4 kv5 nv5 hkvkv5 hnvnv5
  unfold fX1_addClause_L10 at h
  refine zr_iload_n (pc := 10) hX 3 rfl rfl dX1_addClause_10 ?_
  refine zr_aload_n (pc := 11) hX 1 rfl rfl dX1_addClause_11 ?_
  obtain ⟨u13, gu13, h⟩ := bnd h
  obtain ⟨t14, gt14, h⟩ := bnd h
  refine zr_callF (pc := 12) (rest := [.int a3.2.2]) (stk' := [.int t14, .int a3.2.2]) (k' := kv5) (n' := nv5) hX (fun l s0 D => mJ2_size l s0 D gt14) gu13 zwJ2_size (by decide) q378 q384 q382 rfl rfl (zble2 (by omega) (by omega)) rfl rfl rfl rfl rfl rfl dX1_addClause_12 ?_
  refine zr_icmp_ge (pc := 17) hX 49 rfl dX1_addClause_17 (fun c17_23 => ?_) (fun c17_23 => ?_)
  · rw [if_pos c17_23] at h
    refine VW.widen 8 2565 ?_ (by omega) (by omega)
    exact VW.sub (hJt6 (a3.1, a3.2.1) (keo4 _ (Option.some.inj h).symm)) [0, 1, 2] rfl
  · rw [if_neg c17_23] at h
    refine zr_aload_n (pc := 20) hX 2 rfl rfl dX1_addClause_20 ?_
    refine zr_aload_n (pc := 21) hX 1 rfl rfl dX1_addClause_21 ?_
    refine zr_iload_n (pc := 22) hX 3 rfl rfl dX1_addClause_22 ?_
    obtain ⟨u15, gu15, h⟩ := bnd h
    obtain ⟨t16, gt16, h⟩ := bnd h
    refine zr_callF (pc := 23) (rest := [.ref sz]) (stk' := [.ref t16, .ref sz]) (k' := kv5) (n' := nv5) hX (fun l s0 D => mJ2_get l s0 D gt16) gu15 zwJ2_get (by decide) q400 q405 q403 rfl rfl (zble2 (by omega) (by omega)) rfl rfl rfl rfl rfl rfl dX1_addClause_23 ?_
    obtain ⟨u17, gu17, h⟩ := bnd h
    refine zr_cast (pc := 28) hX gu17 zc7 q1015 (Or.inl rfl) dX1_addClause_28 ?_
    obtain ⟨u18, gu18, h⟩ := bnd h
    obtain ⟨t19, gt19, h⟩ := bnd h
    refine zr_callVs (pc := 31) (rest := [.ref sz]) (stk' := [.int t19, .ref sz]) (k' := kv5) (n' := nv5) hX (fun l s0 D => mX8_variable l s0 D gt19) gu18 zc7 zwX8_variable q1372 q1373 q1374 rfl rfl (zble2 (by omega) (by omega)) rfl rfl rfl rfl rfl rfl dX1_addClause_31 ?_
    obtain ⟨t20, gt20, h⟩ := bnd h
    refine zr_callS (pc := 34) (rest := [.ref sz]) (stk' := [.ref t20, .ref sz]) (k' := kv5) (n' := nv5) hX (fun l s0 D => mJ18_valueOf l s0 D gt20) zwJ18_valueOf q949 q950 rfl (zble2 (by omega) (by omega)) rfl rfl rfl rfl rfl rfl dX1_addClause_34 ?_
    obtain ⟨u21, gu21, h⟩ := bnd h
    obtain ⟨t22, gt22, h⟩ := bnd h
    refine zr_callF (pc := 37) (rest := []) (stk' := [.int t22.2.2]) (k' := (kv5 + 1)) (n' := (nv5 + 366)) hX (fun l s0 D => mJ2_add l s0 D gt22) gu21 zwJ2_add (by decide) q809 q814 q812 rfl rfl (zble2 (by omega) (by omega)) rfl rfl rfl rfl rfl rfl dX1_addClause_37 ?_
    refine zr_pop (pc := 42) hX rfl dX1_addClause_42 ?_
    obtain ⟨x23, gx23, h⟩ := bnd h
    refine zr_iinc (pc := 43) hX 3 rfl zci_1 (Option.some.inj gx23) (Nat.le_of_ble_eq_true rfl) rfl dX1_addClause_43 ?_
    refine zr_goto (pc := 46) hX 10 rfl dX1_addClause_46 ?_
    exact VW.sub (kco4 (t22.1, t22.2.1, x23) (Option.some.inj h).symm _ _ (by omega) (by omega)) [1, 2, 3, 0] rfl
theorem mX1_addClause (l : Launch) (s0 : State) (D : zD) {n : Nat} {σ : zH} {sz : Nat} {th : Nat} {p0 : Nat} {o : zH × Nat × Int32} (h : fX1_addClause n σ sz th p0 = some (.inr o)) : zM l s0 D yX1_addClause cX1_addClause 4 (some .int) 10 212 17 2986 [.ref th, .ref p0] σ sz o.1 o.2.1 (some (.int o.2.2)) := by
  refine zenter (own := RX1) zplX1 rfl (Nat.le_of_ble_eq_true rfl) trivial (fun K hX hnm hret => ?_)
  exact wX1_addClause hX hnm h (fun a e => by cases e; exact hret) (fun e q => by cases q)
theorem xX1_addClause (l : Launch) (s0 : State) (D : zD) (hl : l.stackTraces = false) {n : Nat} {σ : zH} {sz : Nat} {th : Nat} {p0 : Nat} {e : zX} (h : fX1_addClause n σ sz th p0 = some (.inl e)) : zMX l s0 D yX1_addClause cX1_addClause 4 (some .int) 10 212 17 2986 [.ref th, .ref p0] σ sz e.1 e.2 := by
  refine zenterX (own := RX1) hl zplX1 rfl (Nat.le_of_ble_eq_true rfl) (fun K hX hnm hT hx hth => ?_)
  exact wX1_addClause hX hnm h (fun a q => by cases q) (fun e' q => by cases q; exact ⟨hT, hx, (fun q => hth rfl (by decide) (by decide) (by decide) (by decide) q.symm)⟩)
set_option maxHeartbeats 4000000 in
theorem wX1_clause {K : zC} {n : Nat} {σ : zH} {sz : Nat} {th : Nat} {o : (zX ⊕ (zH × Nat × Int32))} (hX : zOk K RX1 cX1_clause (some .int) 2 11 235 20 3001) (hnm : zNm K yX1_clause) (h : fX1_clause n σ sz th = some o) (hret : ∀ a, o = .inr a → zRet K cX1_clause (some .int) a.1 a.2.1 20 3001 (some (.int a.2.2))) (hexc : ∀ e, o = .inl e → zTr K ∧ zXok K e.1 e.2 20 3001 ∧ (e.2 = σ → zTh K cX1_clause e.1 σ sz)) : VW K σ sz 0 0 0 [(0, .ref th)] [] := by
  unfold fX1_clause at h
  refine zr_aload_n (pc := 0) hX 0 rfl rfl dX1_clause_0 ?_
  obtain ⟨r1, gr1, h⟩ := bnd h
  refine zr_fv (pc := 1) hX za0_5 (zgR_spec gr1) q269 (Or.inl rfl) dX1_clause_1 ?_
  refine zr_astore_n (pc := 4) hX rfl rfl (Nat.le_of_ble_eq_true rfl) rfl dX1_clause_4 ?_
  refine zr_aload_n (pc := 5) hX 1 rfl rfl dX1_clause_5 ?_
  obtain ⟨σ2, gσ2, h⟩ := bnd h
  refine zr_new (pc := 6) (k' := 1) (n' := 3) (sz' := sz + 1) hX zc18 tyJ2_ok zfs18 q158 q159 q113 rfl rfl rfl (Option.some.inj gσ2) rfl dX1_clause_6 ?_
  refine zr_dup (pc := 9) hX rfl dX1_clause_9 ?_
  obtain ⟨t3, gt3, h⟩ := bnd h
  refine zr_callI (pc := 10) (rest := [.ref sz, .ref th]) (k' := 1) (n' := 3) hX (fun l s0 D => mJ2_init l s0 D gt3) zwJ2_init q160 q161 rfl rfl rfl rfl rfl rfl rfl rfl dX1_clause_10 ?_
  obtain ⟨σ4, gσ4, h⟩ := bnd h
  refine zr_pv (pc := 13) hX za0_5 gσ4 rfl q269 (Or.inl rfl) rfl (tyX1_ok 5 (Nat.le_of_ble_eq_true rfl)) rfl rfl dX1_clause_13 ?_
  refine zr_aload_n (pc := 16) hX 0 rfl rfl dX1_clause_16 ?_
  obtain ⟨u5, gu5, h⟩ := bnd h
  obtain ⟨t6, gt6, h⟩ := bnd h
  refine zr_callF (pc := 17) (rest := []) (stk' := [.int t6]) (k' := 1) (n' := 3) hX (fun l s0 D => mJ2_isEmpty l s0 D gt6) gu5 zwJ2_isEmpty (by decide) q1043 q1048 q1046 rfl rfl rfl rfl rfl rfl rfl rfl rfl dX1_clause_17 ?_
  obtain ⟨t7, gt7, h⟩ := bnd h
  have hJt7 : ∀ a, t7 = a → VW K σ4 (sz + 1) 1 3 30 [(0, .ref th), (1, .ref r1)] [.int a] := by
    intro a ea
    subst ea
    obtain ⟨u13, gu13, hxu13, hnu13⟩ := zthr_bnd h
    rcases u13 with e14 | t8
    · have h := hxu13 _ rfl
      have hxx := hexc _ (Option.some.inj h).symm
      exact zr_callSX (pc := 30) (rest := []) hX hxx.1 hxx.2.1 (fun l s0 D hl => xX1_checkState l s0 D hl gu13) zwX1_checkState q790 q791 rfl rfl rfl rfl rfl dX1_clause_30
    · have h := hnu13 _ rfl
      refine zr_callS (pc := 30) (rest := []) (stk' := []) (k' := 2) (n' := 9) hX (fun l s0 D => mX1_checkState l s0 D gu13) zwX1_checkState q790 q791 rfl rfl rfl rfl rfl rfl rfl rfl dX1_clause_30 ?_
      refine zr_aload_n (pc := 33) hX 0 rfl rfl dX1_clause_33 ?_
      refine zr_aload_n (pc := 34) hX 1 rfl rfl dX1_clause_34 ?_
      obtain ⟨u9, gu9, h⟩ := bnd h
      obtain ⟨u11, gu11, hxu11, hnu11⟩ := zthr_bnd h
      rcases u11 with e12 | t10
      · have h := hxu11 _ rfl
        have hxx := hexc _ (Option.some.inj h).symm
        exact zr_callVX (pc := 35) (rest := []) hX hxx.1 hxx.2.1 (fun l s0 D hl => xX1_addClause l s0 D hl gu11) gu9 zc0 zwX1_addClause q1368 q1370 qs35 rfl rfl rfl rfl rfl rfl dX1_clause_35
      · have h := hnu11 _ rfl
        refine zr_callVs (pc := 35) (rest := []) (stk' := [.int t10.2.2]) (k' := 19) (n' := 2995) hX (fun l s0 D => mX1_addClause l s0 D gu11) gu9 zc0 zwX1_addClause q1368 q1370 qs35 rfl rfl rfl rfl rfl rfl rfl rfl rfl dX1_clause_35 ?_
        refine VW.widen 20 3001 ?_ (Nat.le_of_ble_eq_true rfl) (Nat.le_of_ble_eq_true rfl)
        exact hret _ (Option.some.inj h).symm _ _ dX1_clause_38 (Or.inl rfl)
  replace h := gt7
  refine zr_if_ne (pc := 22) hX 29 rfl dX1_clause_22 (fun c22_14 => ?_) (fun c22_14 => ?_)
  · rw [if_neg c22_14] at h
    refine zr_iconst (pc := 29) hX zci_0 dX1_clause_29 ?_
    exact VW.sub (hJt7 (0 : Int32) (Option.some.inj h).symm) [1, 0] rfl
  · rw [if_pos c22_14] at h
    refine zr_iconst (pc := 25) hX zci_1 dX1_clause_25 ?_
    refine zr_goto (pc := 26) hX 30 rfl dX1_clause_26 ?_
    exact VW.sub (hJt7 (1 : Int32) (Option.some.inj h).symm) [1, 0] rfl
theorem mX1_clause (l : Launch) (s0 : State) (D : zD) {n : Nat} {σ : zH} {sz : Nat} {th : Nat} {o : zH × Nat × Int32} (h : fX1_clause n σ sz th = some (.inr o)) : zM l s0 D yX1_clause cX1_clause 2 (some .int) 11 235 20 3001 [.ref th] σ sz o.1 o.2.1 (some (.int o.2.2)) := by
  refine zenter (own := RX1) zplX1 rfl (Nat.le_of_ble_eq_true rfl) trivial (fun K hX hnm hret => ?_)
  exact wX1_clause hX hnm h (fun a e => by cases e; exact hret) (fun e q => by cases q)
theorem xX1_clause (l : Launch) (s0 : State) (D : zD) (hl : l.stackTraces = false) {n : Nat} {σ : zH} {sz : Nat} {th : Nat} {e : zX} (h : fX1_clause n σ sz th = some (.inl e)) : zMX l s0 D yX1_clause cX1_clause 2 (some .int) 11 235 20 3001 [.ref th] σ sz e.1 e.2 := by
  refine zenterX (own := RX1) hl zplX1 rfl (Nat.le_of_ble_eq_true rfl) (fun K hX hnm hT hx hth => ?_)
  exact wX1_clause hX hnm h (fun a q => by cases q) (fun e' q => by cases q; exact ⟨hT, hx, (fun q => hth rfl (by decide) (by decide) (by decide) (by decide) q.symm)⟩)
set_option maxHeartbeats 4000000 in
theorem wX1_symbol {K : zC} {n : Nat} {σ : zH} {sz : Nat} {th : Nat} {p0 : Int32} {p1 : Int32} {o : (zX ⊕ (zH × Nat × Int32))} (hX : zOk K RX1 cX1_symbol (some .int) 4 10 212 16 821) (hnm : zNm K yX1_symbol) (h : fX1_symbol n σ sz th p0 p1 = some o) (hret : ∀ a, o = .inr a → zRet K cX1_symbol (some .int) a.1 a.2.1 16 821 (some (.int a.2.2))) (hexc : ∀ e, o = .inl e → zTr K ∧ zXok K e.1 e.2 16 821 ∧ (e.2 = σ → zTh K cX1_symbol e.1 σ sz)) : VW K σ sz 0 0 0 [(0, .ref th), (1, .int p0), (2, .int p1)] [] := by
  unfold fX1_symbol at h
  refine zr_iload_n (pc := 0) hX 1 rfl rfl dX1_symbol_0 ?_
  refine zr_aload_n (pc := 1) hX 0 rfl rfl dX1_symbol_1 ?_
  obtain ⟨r1, gr1, h⟩ := bnd h
  refine zr_fv (pc := 2) hX za0_7 (zgR_spec gr1) q271 (Or.inl rfl) dX1_symbol_2 ?_
  obtain ⟨x2, gx2, h⟩ := bnd h
  refine zr_fvN (pc := 5) hX za2_4 (zgI_spec gx2) q220 (Or.inl rfl) dX1_symbol_5 ?_
  obtain ⟨u24, gu24, hxu24, hnu24⟩ := zthr_bnd h
  rcases u24 with e25 | t3
  · have h := hxu24 _ rfl
    have hxx := hexc _ (Option.some.inj h).symm
    exact zr_callSX (pc := 8) (rest := []) hX hxx.1 hxx.2.1 (fun l s0 D hl => xX1_checkIndex l s0 D hl gu24) zwX1_checkIndex q931 q932 rfl rfl rfl rfl rfl dX1_symbol_8
  · have h := hnu24 _ rfl
    refine zr_callS (pc := 8) (rest := []) (stk' := []) (k' := 1) (n' := 6) hX (fun l s0 D => mX1_checkIndex l s0 D gu24) zwX1_checkIndex q931 q932 rfl rfl rfl rfl rfl rfl rfl rfl dX1_symbol_8 ?_
    refine zr_aload_n (pc := 11) hX 0 rfl rfl dX1_symbol_11 ?_
    refine zr_iload_n (pc := 12) hX 2 rfl rfl dX1_symbol_12 ?_
    obtain ⟨u4, gu4, h⟩ := bnd h
    obtain ⟨u22, gu22, hxu22, hnu22⟩ := zthr_bnd h
    rcases u22 with e23 | t5
    · have h := hxu22 _ rfl
      have hxx := hexc _ (Option.some.inj h).symm
      exact zr_callVX (pc := 13) (rest := []) hX hxx.1 hxx.2.1 (fun l s0 D hl => xX1_variable_2 l s0 D hl gu22) gu4 zc0 zwX1_variable_2 q927 q929 qs25 rfl rfl rfl rfl rfl rfl dX1_symbol_13
    · have h := hnu22 _ rfl
      refine zr_callVs (pc := 13) (rest := []) (stk' := [.ref t5]) (k' := 3) (n' := 18) hX (fun l s0 D => mX1_variable_2 l s0 D gu22) gu4 zc0 zwX1_variable_2 q927 q929 qs25 rfl rfl rfl rfl rfl rfl rfl rfl rfl dX1_symbol_13 ?_
      refine zr_pop (pc := 16) hX rfl dX1_symbol_16 ?_
      refine zr_aload_n (pc := 17) hX 0 rfl rfl dX1_symbol_17 ?_
      refine zr_iload_n (pc := 18) hX 2 rfl rfl dX1_symbol_18 ?_
      refine zr_iconst (pc := 19) hX zci_0 dX1_symbol_19 ?_
      obtain ⟨u6, gu6, h⟩ := bnd h
      obtain ⟨u20, gu20, hxu20, hnu20⟩ := zthr_bnd h
      rcases u20 with e21 | t7
      · have h := hxu20 _ rfl
        have hxx := hexc _ (Option.some.inj h).symm
        exact zr_callVX (pc := 20) (rest := []) hX hxx.1 hxx.2.1 (fun l s0 D hl => xX1_checkKind l s0 D hl gu20) gu6 zc0 zwX1_checkKind q1219 q1221 qs32 rfl rfl rfl rfl rfl rfl dX1_symbol_20
      · have h := hnu20 _ rfl
        refine zr_callVs (pc := 20) (rest := []) (stk' := []) (k' := 5) (n' := 30) hX (fun l s0 D => mX1_checkKind l s0 D gu20) gu6 zc0 zwX1_checkKind q1219 q1221 qs32 rfl rfl rfl rfl rfl rfl rfl rfl rfl dX1_symbol_20 ?_
        obtain ⟨σ8, gσ8, h⟩ := bnd h
        refine zr_new (pc := 23) (k' := 6) (n' := 33) (sz' := sz + 1) hX zc18 tyJ2_ok zfs18 q158 q159 q113 rfl rfl rfl (Option.some.inj gσ8) rfl dX1_symbol_23 ?_
        refine zr_dup (pc := 26) hX rfl dX1_symbol_26 ?_
        obtain ⟨t9, gt9, h⟩ := bnd h
        refine zr_callI (pc := 27) (rest := [.ref sz]) (k' := 6) (n' := 33) hX (fun l s0 D => mJ2_init l s0 D gt9) zwJ2_init q160 q161 rfl rfl rfl rfl rfl rfl rfl rfl dX1_symbol_27 ?_
        refine zr_astore_n (pc := 30) hX rfl rfl (Nat.le_of_ble_eq_true rfl) rfl dX1_symbol_30 ?_
        refine zr_aload_n (pc := 31) hX 0 rfl rfl dX1_symbol_31 ?_
        refine zr_iload_n (pc := 32) hX 3 rfl rfl dX1_symbol_32 ?_
        obtain ⟨t10, gt10, h⟩ := bnd h
        refine zr_callS (pc := 33) (rest := [.ref sz]) (stk' := [.ref t10, .ref sz]) (k' := 6) (n' := 33) hX (fun l s0 D => mJ18_valueOf l s0 D gt10) zwJ18_valueOf q949 q950 rfl rfl rfl rfl rfl rfl rfl rfl dX1_symbol_33 ?_
        obtain ⟨u11, gu11, h⟩ := bnd h
        obtain ⟨t12, gt12, h⟩ := bnd h
        refine zr_callF (pc := 36) (rest := []) (stk' := [.int t12.2.2]) (k' := 7) (n' := 399) hX (fun l s0 D => mJ2_add l s0 D gt12) gu11 zwJ2_add (by decide) q809 q814 q812 rfl rfl rfl rfl rfl rfl rfl rfl rfl dX1_symbol_36 ?_
        refine zr_pop (pc := 41) hX rfl dX1_symbol_41 ?_
        refine zr_aload_n (pc := 42) hX 1 rfl rfl dX1_symbol_42 ?_
        obtain ⟨σ13, gσ13, h⟩ := bnd h
        refine zr_new (pc := 43) (k' := 8) (n' := 405) (sz' := t12.2.1 + 1) hX zc15 tyX17_ok zfs15 q1396 q1397 q147 rfl rfl rfl (Option.some.inj gσ13) rfl dX1_symbol_43 ?_
        refine zr_dup (pc := 46) hX rfl dX1_symbol_46 ?_
        refine zr_aload_n (pc := 47) hX 0 rfl rfl dX1_symbol_47 ?_
        refine zr_aload_n (pc := 48) hX 1 rfl rfl dX1_symbol_48 ?_
        obtain ⟨r14, gr14, h⟩ := bnd h
        refine zr_fv (pc := 49) hX za0_7 (zgR_spec gr14) q271 (Or.inl rfl) dX1_symbol_49 ?_
        refine zr_iload_n (pc := 52) hX 2 rfl rfl dX1_symbol_52 ?_
        obtain ⟨t15, gt15, h⟩ := bnd h
        refine zr_callI (pc := 53) (rest := [.ref t12.2.1, .ref th]) (k' := 12) (n' := 437) hX (fun l s0 D => mX17_init l s0 D gt15) zwX17_init q1398 q1399 rfl rfl rfl rfl rfl rfl rfl rfl dX1_symbol_53 ?_
        obtain ⟨u16, gu16, h⟩ := bnd h
        obtain ⟨u18, gu18, hxu18, hnu18⟩ := zthr_bnd h
        rcases u18 with e19 | t17
        · have h := hxu18 _ rfl
          have hxx := hexc _ (Option.some.inj h).symm
          exact zr_callVX (pc := 56) (rest := []) hX hxx.1 hxx.2.1 (fun l s0 D hl => xX1_add_2 l s0 D hl gu18) gu16 zc0 zwX1_add_2 q1129 q1131 qs29 rfl rfl rfl rfl rfl rfl dX1_symbol_56
        · have h := hnu18 _ rfl
          refine zr_callVs (pc := 56) (rest := []) (stk' := [.int t17.2.2]) (k' := 15) (n' := 815) hX (fun l s0 D => mX1_add_2 l s0 D gu18) gu16 zc0 zwX1_add_2 q1129 q1131 qs29 rfl rfl rfl rfl rfl rfl rfl rfl rfl dX1_symbol_56 ?_
          refine VW.widen 16 821 ?_ (Nat.le_of_ble_eq_true rfl) (Nat.le_of_ble_eq_true rfl)
          exact hret _ (Option.some.inj h).symm _ _ dX1_symbol_59 (Or.inl rfl)
theorem mX1_symbol (l : Launch) (s0 : State) (D : zD) {n : Nat} {σ : zH} {sz : Nat} {th : Nat} {p0 : Int32} {p1 : Int32} {o : zH × Nat × Int32} (h : fX1_symbol n σ sz th p0 p1 = some (.inr o)) : zM l s0 D yX1_symbol cX1_symbol 4 (some .int) 10 212 16 821 [.ref th, .int p0, .int p1] σ sz o.1 o.2.1 (some (.int o.2.2)) := by
  refine zenter (own := RX1) zplX1 rfl (Nat.le_of_ble_eq_true rfl) trivial (fun K hX hnm hret => ?_)
  exact wX1_symbol hX hnm h (fun a e => by cases e; exact hret) (fun e q => by cases q)
theorem xX1_symbol (l : Launch) (s0 : State) (D : zD) (hl : l.stackTraces = false) {n : Nat} {σ : zH} {sz : Nat} {th : Nat} {p0 : Int32} {p1 : Int32} {e : zX} (h : fX1_symbol n σ sz th p0 p1 = some (.inl e)) : zMX l s0 D yX1_symbol cX1_symbol 4 (some .int) 10 212 16 821 [.ref th, .int p0, .int p1] σ sz e.1 e.2 := by
  refine zenterX (own := RX1) hl zplX1 rfl (Nat.le_of_ble_eq_true rfl) (fun K hX hnm hT hx hth => ?_)
  exact wX1_symbol hX hnm h (fun a q => by cases q) (fun e' q => by cases q; exact ⟨hT, hx, (fun q => hth rfl (by decide) (by decide) (by decide) (by decide) q.symm)⟩)
set_option maxHeartbeats 4000000 in
theorem wX1_decide {K : zC} {σ : zH} {sz : Nat} {th : Nat} {p0 : Int32} {p1 : Int32} {p2 : Int32} {o : (zX ⊕ (zH × Int32))} (hX : zOk K RX1 cX1_decide (some .int) 4 9 165 7 42) (hnm : zNm K yX1_decide) (h : fX1_decide σ th p0 p1 p2 = some o) (hret : ∀ a, o = .inr a → zRet K cX1_decide (some .int) a.1 sz 7 42 (some (.int a.2))) (hexc : ∀ e, o = .inl e → zTr K ∧ zXok K e.1 e.2 7 42 ∧ (e.2 = σ → zTh K cX1_decide e.1 σ sz)) : VW K σ sz 0 0 0 [(0, .ref th), (1, .int p0), (2, .int p1), (3, .int p2)] [] := by
  unfold fX1_decide at h
  refine zr_aload_n (pc := 0) hX 0 rfl rfl dX1_decide_0 ?_
  refine zr_iload_n (pc := 1) hX 1 rfl rfl dX1_decide_1 ?_
  refine zr_iload_n (pc := 2) hX 2 rfl rfl dX1_decide_2 ?_
  obtain ⟨u1, gu1, h⟩ := bnd h
  obtain ⟨u16, gu16, hxu16, hnu16⟩ := zthr_bnd h
  rcases u16 with e17 | t2
  · have h := hxu16 _ rfl
    have hxx := hexc _ (Option.some.inj h).symm
    exact zr_callVX (pc := 3) (rest := []) hX hxx.1 hxx.2.1 (fun l s0 D hl => xX1_checkValue l s0 D hl gu16) gu1 zc0 zwX1_checkValue q1006 q1008 qs26 rfl rfl rfl rfl rfl rfl dX1_decide_3
  · have h := hnu16 _ rfl
    refine zr_callVs (pc := 3) (rest := []) (stk' := []) (k' := 5) (n' := 30) hX (fun l s0 D => mX1_checkValue l s0 D gu16) gu1 zc0 zwX1_checkValue q1006 q1008 qs26 rfl rfl rfl rfl rfl rfl rfl rfl rfl dX1_decide_3 ?_
    refine zr_aload_n (pc := 6) hX 0 rfl rfl dX1_decide_6 ?_
    obtain ⟨r3, gr3, h⟩ := bnd h
    refine zr_fv (pc := 7) hX za0_6 (zgR_spec gr3) q270 (Or.inl rfl) dX1_decide_7 ?_
    obtain ⟨x4, gx4, h⟩ := bnd h
    refine zr_fvN (pc := 10) hX za1_3 (zgI_spec gx4) q197 (Or.inl rfl) dX1_decide_10 ?_
    refine zr_bipush (pc := 13) hX zcb_12 dX1_decide_13 ?_
    obtain ⟨t5, gt5, h⟩ := bnd h
    have hJt5 : ∀ a, t5 = a → VW K σ sz 5 30 23 [(0, .ref th), (1, .int p0), (2, .int p1), (3, .int p2)] [.int a] := by
      intro a ea
      subst ea
      obtain ⟨u13, gu13, hxu13, hnu13⟩ := zthr_bnd h
      rcases u13 with e14 | t6
      · have h := hxu13 _ rfl
        have hxx := hexc _ (Option.some.inj h).symm
        exact zr_callSX (pc := 23) (rest := []) hX hxx.1 hxx.2.1 (fun l s0 D hl => xX1_checkState l s0 D hl gu13) zwX1_checkState q790 q791 rfl rfl rfl rfl rfl dX1_decide_23
      · have h := hnu13 _ rfl
        refine zr_callS (pc := 23) (rest := []) (stk' := []) (k' := 6) (n' := 36) hX (fun l s0 D => mX1_checkState l s0 D gu13) zwX1_checkState q790 q791 rfl rfl rfl rfl rfl rfl rfl rfl dX1_decide_23 ?_
        refine zr_aload_n (pc := 26) hX 0 rfl rfl dX1_decide_26 ?_
        obtain ⟨r7, gr7, h⟩ := bnd h
        refine zr_fv (pc := 27) hX za0_6 (zgR_spec gr7) q270 (Or.inl rfl) dX1_decide_27 ?_
        refine zr_iload_n (pc := 30) hX 1 rfl rfl dX1_decide_30 ?_
        refine zr_iload_n (pc := 31) hX 2 rfl rfl dX1_decide_31 ?_
        refine zr_iload_n (pc := 32) hX 3 rfl rfl dX1_decide_32 ?_
        obtain ⟨u8, gu8, h⟩ := bnd h
        obtain ⟨t9, gt9, h⟩ := bnd h
        refine zr_callVs (pc := 33) (rest := []) (stk' := []) (k' := 6) (n' := 36) hX (fun l s0 D => mX2_add l s0 D gt9) gu8 zc1 zwX2_add q1420 q1421 q1422 rfl rfl rfl rfl rfl rfl rfl rfl rfl dX1_decide_33 ?_
        refine zr_aload_n (pc := 36) hX 0 rfl rfl dX1_decide_36 ?_
        refine zr_iconst (pc := 37) hX zci_0 dX1_decide_37 ?_
        obtain ⟨σ10, gσ10, h⟩ := bnd h
        refine zr_pZ (pc := 38) hX za0_10 gσ10 rfl q274 (Or.inl rfl) rfl (tyX1_ok 10 (Nat.le_of_ble_eq_true rfl)) dX1_decide_38 ?_
        refine zr_aload_n (pc := 41) hX 0 rfl rfl dX1_decide_41 ?_
        obtain ⟨r11, gr11, h⟩ := bnd h
        refine zr_fv (pc := 42) hX za0_6 (zgR_spec gr11) q270 (Or.inl rfl) dX1_decide_42 ?_
        obtain ⟨x12, gx12, h⟩ := bnd h
        refine zr_fvN (pc := 45) hX za1_3 (zgI_spec gx12) q197 (Or.inl rfl) dX1_decide_45 ?_
        refine zr_iconst (pc := 48) hX zci_1 dX1_decide_48 ?_
        refine zr_isub (pc := 49) hX dX1_decide_49 ?_
        refine VW.widen 7 42 ?_ (Nat.le_of_ble_eq_true rfl) (Nat.le_of_ble_eq_true rfl)
        exact hret _ (Option.some.inj h).symm _ _ dX1_decide_50 (Or.inl rfl)
    replace h := gt5
    refine zr_icmp_ge (pc := 15) hX 22 rfl dX1_decide_15 (fun c15_14 => ?_) (fun c15_14 => ?_)
    · rw [if_pos c15_14] at h
      refine zr_iconst (pc := 22) hX zci_0 dX1_decide_22 ?_
      exact VW.sub (hJt5 (0 : Int32) (Option.some.inj h).symm) [0, 1, 2, 3] rfl
    · rw [if_neg c15_14] at h
      refine zr_iconst (pc := 18) hX zci_1 dX1_decide_18 ?_
      refine zr_goto (pc := 19) hX 23 rfl dX1_decide_19 ?_
      exact VW.sub (hJt5 (1 : Int32) (Option.some.inj h).symm) [0, 1, 2, 3] rfl
theorem mX1_decide (l : Launch) (s0 : State) (D : zD) {σ : zH} {sz : Nat} {th : Nat} {p0 : Int32} {p1 : Int32} {p2 : Int32} {o : zH × Int32} (h : fX1_decide σ th p0 p1 p2 = some (.inr o)) : zM l s0 D yX1_decide cX1_decide 4 (some .int) 9 165 7 42 [.ref th, .int p0, .int p1, .int p2] σ sz o.1 sz (some (.int o.2)) := by
  refine zenter (own := RX1) zplX1 rfl (Nat.le_of_ble_eq_true rfl) trivial (fun K hX hnm hret => ?_)
  exact wX1_decide hX hnm h (fun a e => by cases e; exact hret) (fun e q => by cases q)
theorem xX1_decide (l : Launch) (s0 : State) (D : zD) (hl : l.stackTraces = false) {σ : zH} {sz : Nat} {th : Nat} {p0 : Int32} {p1 : Int32} {p2 : Int32} {e : zX} (h : fX1_decide σ th p0 p1 p2 = some (.inl e)) : zMX l s0 D yX1_decide cX1_decide 4 (some .int) 9 165 7 42 [.ref th, .int p0, .int p1, .int p2] σ sz e.1 e.2 := by
  refine zenterX (own := RX1) hl zplX1 rfl (Nat.le_of_ble_eq_true rfl) (fun K hX hnm hT hx hth => ?_)
  exact wX1_decide hX hnm h (fun a q => by cases q) (fun e' q => by cases q; exact ⟨hT, hx, (fun q => hth rfl (by decide) (by decide) (by decide) (by decide) q.symm)⟩)
set_option maxHeartbeats 4000000 in
theorem wX1_back {K : zC} {σ : zH} {sz : Nat} {th : Nat} {p0 : Int32} {o : (zX ⊕ (zH × Int32))} (hX : zOk K RX1 cX1_back (some .int) 2 7 122 2 12) (hnm : zNm K yX1_back) (h : fX1_back σ th p0 = some o) (hret : ∀ a, o = .inr a → zRet K cX1_back (some .int) a.1 sz 2 12 (some (.int a.2))) (hexc : ∀ e, o = .inl e → zTr K ∧ zXok K e.1 e.2 2 12 ∧ (e.2 = σ → zTh K cX1_back e.1 σ sz)) : VW K σ sz 0 0 0 [(0, .ref th), (1, .int p0)] [] := by
  unfold fX1_back at h
  refine zr_iload_n (pc := 0) hX 1 rfl rfl dX1_back_0 ?_
  refine zr_iconst (pc := 1) hX zci_0 dX1_back_1 ?_
  refine zr_aload_n (pc := 2) hX 0 rfl rfl dX1_back_2 ?_
  obtain ⟨r1, gr1, h⟩ := bnd h
  refine zr_fv (pc := 3) hX za0_6 (zgR_spec gr1) q270 (Or.inl rfl) dX1_back_3 ?_
  obtain ⟨x2, gx2, h⟩ := bnd h
  refine zr_fvN (pc := 6) hX za1_3 (zgI_spec gx2) q197 (Or.inl rfl) dX1_back_6 ?_
  obtain ⟨u10, gu10, hxu10, hnu10⟩ := zthr_bnd h
  rcases u10 with e11 | t3
  · have h := hxu10 _ rfl
    have hxx := hexc _ (Option.some.inj h).symm
    exact zr_callSX (pc := 9) (rest := []) hX hxx.1 hxx.2.1 (fun l s0 D hl => xX1_check l s0 D hl gu10) zwX1_check q693 q694 rfl rfl rfl rfl rfl dX1_back_9
  · have h := hnu10 _ rfl
    refine zr_callS (pc := 9) (rest := []) (stk' := []) (k' := 1) (n' := 6) hX (fun l s0 D => mX1_check l s0 D gu10) zwX1_check q693 q694 rfl rfl rfl rfl rfl rfl rfl rfl dX1_back_9 ?_
    refine zr_aload_n (pc := 12) hX 0 rfl rfl dX1_back_12 ?_
    obtain ⟨r4, gr4, h⟩ := bnd h
    refine zr_fv (pc := 13) hX za0_6 (zgR_spec gr4) q270 (Or.inl rfl) dX1_back_13 ?_
    refine zr_dup (pc := 16) hX rfl dX1_back_16 ?_
    obtain ⟨x5, gx5, h⟩ := bnd h
    refine zr_fvN (pc := 17) hX za1_3 (zgI_spec gx5) q197 (Or.inl rfl) dX1_back_17 ?_
    refine zr_iload_n (pc := 20) hX 1 rfl rfl dX1_back_20 ?_
    refine zr_isub (pc := 21) hX dX1_back_21 ?_
    obtain ⟨σ6, gσ6, h⟩ := bnd h
    refine zr_pvN (pc := 22) hX za1_3 gσ6 rfl q197 (Or.inl rfl) rfl (tyX2_ok 3 (Nat.le_of_ble_eq_true rfl)) rfl rfl dX1_back_22 ?_
    refine zr_aload_n (pc := 25) hX 0 rfl rfl dX1_back_25 ?_
    refine zr_iconst (pc := 26) hX zci_0 dX1_back_26 ?_
    obtain ⟨σ7, gσ7, h⟩ := bnd h
    refine zr_pZ (pc := 27) hX za0_10 gσ7 rfl q274 (Or.inl rfl) rfl (tyX1_ok 10 (Nat.le_of_ble_eq_true rfl)) dX1_back_27 ?_
    refine zr_aload_n (pc := 30) hX 0 rfl rfl dX1_back_30 ?_
    obtain ⟨r8, gr8, h⟩ := bnd h
    refine zr_fv (pc := 31) hX za0_6 (zgR_spec gr8) q270 (Or.inl rfl) dX1_back_31 ?_
    obtain ⟨x9, gx9, h⟩ := bnd h
    refine zr_fvN (pc := 34) hX za1_3 (zgI_spec gx9) q197 (Or.inl rfl) dX1_back_34 ?_
    refine VW.widen 2 12 ?_ (Nat.le_of_ble_eq_true rfl) (Nat.le_of_ble_eq_true rfl)
    exact hret _ (Option.some.inj h).symm _ _ dX1_back_37 (Or.inl rfl)
theorem mX1_back (l : Launch) (s0 : State) (D : zD) {σ : zH} {sz : Nat} {th : Nat} {p0 : Int32} {o : zH × Int32} (h : fX1_back σ th p0 = some (.inr o)) : zM l s0 D yX1_back cX1_back 2 (some .int) 7 122 2 12 [.ref th, .int p0] σ sz o.1 sz (some (.int o.2)) := by
  refine zenter (own := RX1) zplX1 rfl (Nat.le_of_ble_eq_true rfl) trivial (fun K hX hnm hret => ?_)
  exact wX1_back hX hnm h (fun a e => by cases e; exact hret) (fun e q => by cases q)
theorem xX1_back (l : Launch) (s0 : State) (D : zD) (hl : l.stackTraces = false) {σ : zH} {sz : Nat} {th : Nat} {p0 : Int32} {e : zX} (h : fX1_back σ th p0 = some (.inl e)) : zMX l s0 D yX1_back cX1_back 2 (some .int) 7 122 2 12 [.ref th, .int p0] σ sz e.1 e.2 := by
  refine zenterX (own := RX1) hl zplX1 rfl (Nat.le_of_ble_eq_true rfl) (fun K hX hnm hT hx hth => ?_)
  exact wX1_back hX hnm h (fun a q => by cases q) (fun e' q => by cases q; exact ⟨hT, hx, (fun q => hth rfl (by decide) (by decide) (by decide) (by decide) q.symm)⟩)
set_option maxHeartbeats 4000000 in
theorem mX1_beginPath (l : Launch) (s0 : State) (D : zD) {n : Nat} {σ : zH} {sz : Nat} {th : Nat} {o : zH} (h : fX1_beginPath n σ th = some o) : zM l s0 D yX1_beginPath cX1_beginPath 2 none 2 23 0 0 [.ref th] σ sz o sz none := by
  refine zenter (own := RX1) zplX1 rfl (Nat.le_of_ble_eq_true rfl) rfl (fun K hX hnm hret => ?_)
  unfold fX1_beginPath at h
  have hret : ∀ a, o = a → zRet K cX1_beginPath none a sz 0 0 none := fun a e => by cases e; exact hret
  show VW K σ sz 0 0 0 [(0, .ref th)] []
  refine zr_aload_n (pc := 0) hX 0 rfl rfl dX1_beginPath_0 ?_
  obtain ⟨r1, gr1, h⟩ := bnd h
  refine zr_fv (pc := 1) hX za0_21 (zgR_spec gr1) q285 (Or.inl rfl) dX1_beginPath_1 ?_
  refine zr_iconst (pc := 4) hX zci_0 dX1_beginPath_4 ?_
  obtain ⟨σ2, gσ2, h⟩ := bnd h
  refine zr_pvN (pc := 5) hX za1_3 gσ2 rfl q197 (Or.inl rfl) rfl (tyX2_ok 3 (Nat.le_of_ble_eq_true rfl)) rfl rfl dX1_beginPath_5 ?_
  refine zr_iconst (pc := 8) hX zci_0 dX1_beginPath_8 ?_
  refine zr_istore_n (pc := 9) hX rfl rfl (Nat.le_of_ble_eq_true rfl) rfl dX1_beginPath_9 ?_
  refine VW.sub (lv' := [(0, .ref th), (1, .int (0 : Int32))]) ?_ [1, 0] rfl
  refine zloop_walk (V := (fun a => VW K a.1 sz 0 0 10 [(0, .ref th), (1, .int a.2)] [])) (E := fun e => e = o) ?_ n (σ2, (0 : Int32)) _ h rfl
  intro a3 o4 h kco4 keo4
  unfold fX1_beginPath_L10 at h
  refine zr_iload_n (pc := 10) hX 1 rfl rfl dX1_beginPath_10 ?_
  refine zr_aload_n (pc := 11) hX 0 rfl rfl dX1_beginPath_11 ?_
  obtain ⟨r5, gr5, h⟩ := bnd h
  refine zr_fv (pc := 12) hX za0_6 (zgR_spec gr5) q270 (Or.inl rfl) dX1_beginPath_12 ?_
  obtain ⟨x6, gx6, h⟩ := bnd h
  refine zr_fvN (pc := 15) hX za1_3 (zgI_spec gx6) q197 (Or.inl rfl) dX1_beginPath_15 ?_
  refine zr_icmp_ge (pc := 18) hX 61 rfl dX1_beginPath_18 (fun c18_19 => ?_) (fun c18_19 => ?_)
  · rw [if_pos c18_19] at h
    replace h := congrArg some (keo4 _ (Option.some.inj h).symm)
    exact hret _ (Option.some.inj h).symm _ _ dX1_beginPath_61
  · rw [if_neg c18_19] at h
    refine zr_aload_n (pc := 21) hX 0 rfl rfl dX1_beginPath_21 ?_
    obtain ⟨r7, gr7, h⟩ := bnd h
    refine zr_fv (pc := 22) hX za0_21 (zgR_spec gr7) q285 (Or.inl rfl) dX1_beginPath_22 ?_
    refine zr_aload_n (pc := 25) hX 0 rfl rfl dX1_beginPath_25 ?_
    obtain ⟨r8, gr8, h⟩ := bnd h
    refine zr_fv (pc := 26) hX za0_6 (zgR_spec gr8) q270 (Or.inl rfl) dX1_beginPath_26 ?_
    obtain ⟨r9, gr9, h⟩ := bnd h
    refine zr_fvN (pc := 29) hX za1_0 (zgR_spec gr9) q191 (Or.inl rfl) dX1_beginPath_29 ?_
    refine zr_iload_n (pc := 32) hX 1 rfl rfl dX1_beginPath_32 ?_
    obtain ⟨x10, gx10, h⟩ := bnd h
    refine zr_aI (pc := 33) hX gx10 dX1_beginPath_33 ?_
    refine zr_aload_n (pc := 34) hX 0 rfl rfl dX1_beginPath_34 ?_
    obtain ⟨r11, gr11, h⟩ := bnd h
    refine zr_fv (pc := 35) hX za0_6 (zgR_spec gr11) q270 (Or.inl rfl) dX1_beginPath_35 ?_
    obtain ⟨r12, gr12, h⟩ := bnd h
    refine zr_fvN (pc := 38) hX za1_1 (zgR_spec gr12) q193 (Or.inl rfl) dX1_beginPath_38 ?_
    refine zr_iload_n (pc := 41) hX 1 rfl rfl dX1_beginPath_41 ?_
    obtain ⟨x13, gx13, h⟩ := bnd h
    refine zr_aI (pc := 42) hX gx13 dX1_beginPath_42 ?_
    refine zr_aload_n (pc := 43) hX 0 rfl rfl dX1_beginPath_43 ?_
    obtain ⟨r14, gr14, h⟩ := bnd h
    refine zr_fv (pc := 44) hX za0_6 (zgR_spec gr14) q270 (Or.inl rfl) dX1_beginPath_44 ?_
    obtain ⟨r15, gr15, h⟩ := bnd h
    refine zr_fvN (pc := 47) hX za1_2 (zgR_spec gr15) q195 (Or.inl rfl) dX1_beginPath_47 ?_
    refine zr_iload_n (pc := 50) hX 1 rfl rfl dX1_beginPath_50 ?_
    obtain ⟨x16, gx16, h⟩ := bnd h
    refine zr_aZ (pc := 51) hX gx16 dX1_beginPath_51 ?_
    obtain ⟨u17, gu17, h⟩ := bnd h
    obtain ⟨t18, gt18, h⟩ := bnd h
    refine zr_callVs (pc := 52) (rest := []) (stk' := []) (k' := 0) (n' := 0) hX (fun l s0 D => mX2_add l s0 D gt18) gu17 zc1 zwX2_add q1420 q1421 q1422 rfl rfl rfl rfl rfl rfl rfl rfl rfl dX1_beginPath_52 ?_
    obtain ⟨x19, gx19, h⟩ := bnd h
    refine zr_iinc (pc := 55) hX 1 rfl zci_1 (Option.some.inj gx19) (Nat.le_of_ble_eq_true rfl) rfl dX1_beginPath_55 ?_
    refine zr_goto (pc := 58) hX 10 rfl dX1_beginPath_58 ?_
    exact VW.sub (kco4 (t18, x19) (Option.some.inj h).symm) [1, 0] rfl
set_option maxHeartbeats 4000000 in
theorem mX1_chosen (l : Launch) (s0 : State) (D : zD) {n : Nat} {σ : zH} {sz : Nat} {th : Nat} {p0 : Nat} {p1 : Int32} {p2 : Int32} {o : Int32} (h : fX1_chosen n σ th p0 p1 p2 = some o) : zM l s0 D yX1_chosen cX1_chosen 10 (some .int) 5 85 0 0 [.ref th, .ref p0, .int p1, .int p2] σ sz σ sz (some (.int o)) := by
  refine zenter (own := RX1) zplX1 rfl (Nat.le_of_ble_eq_true rfl) trivial (fun K hX hnm hret => ?_)
  unfold fX1_chosen at h
  have hret : ∀ a, o = a → zRet K cX1_chosen (some .int) σ sz 0 0 (some (.int a)) := fun a e => by cases e; exact hret
  show VW K σ sz 0 0 0 [(0, .ref th), (1, .ref p0), (2, .int p1), (3, .int p2)] []
  refine zr_iconst (pc := 0) hX zci_m1 dX1_chosen_0 ?_
  refine zr_istore (pc := 1) hX rfl (Nat.le_of_ble_eq_true rfl) rfl dX1_chosen_1 ?_
  refine zr_iconst (pc := 3) hX zci_0 dX1_chosen_3 ?_
  refine zr_istore (pc := 4) hX rfl (Nat.le_of_ble_eq_true rfl) rfl dX1_chosen_4 ?_
  refine zr_iconst (pc := 6) hX zci_0 dX1_chosen_6 ?_
  refine zr_istore (pc := 7) hX rfl (Nat.le_of_ble_eq_true rfl) rfl dX1_chosen_7 ?_
  refine VW.sub (lv' := [(0, .ref th), (1, .ref p0), (2, .int p1), (3, .int p2), (4, .int (-1 : Int32)), (5, .int (0 : Int32)), (6, .int (0 : Int32))]) ?_ [3, 4, 5, 6, 2, 1, 0] rfl
  refine zloop_walk (V := (fun a => VW K σ sz 0 0 9 [(0, .ref th), (1, .ref p0), (2, .int p1), (3, .int p2), (4, .int a.1), (5, .int a.2.1), (6, .int a.2.2)] [])) (E := fun e => e = o) ?_ n ((-1 : Int32), (0 : Int32), (0 : Int32)) _ h rfl
  intro a1 o2 h kco2 keo2
  unfold fX1_chosen_L9 at h
  refine zr_iload (pc := 9) hX 6 rfl dX1_chosen_9 ?_
  refine zr_aload_n (pc := 11) hX 0 rfl rfl dX1_chosen_11 ?_
  obtain ⟨r3, gr3, h⟩ := bnd h
  refine zr_fv (pc := 12) hX za0_0 (zgR_spec gr3) q264 (Or.inl rfl) dX1_chosen_12 ?_
  obtain ⟨u4, gu4, h⟩ := bnd h
  obtain ⟨t5, gt5, h⟩ := bnd h
  refine zr_callF (pc := 15) (rest := [.int a1.2.2]) (stk' := [.int t5, .int a1.2.2]) (k' := 0) (n' := 0) hX (fun l s0 D => mJ2_size l s0 D gt5) gu4 zwJ2_size (by decide) q378 q384 q382 rfl rfl rfl rfl rfl rfl rfl rfl rfl dX1_chosen_15 ?_
  refine zr_icmp_ge (pc := 20) hX 137 rfl dX1_chosen_20 (fun c20_34 => ?_) (fun c20_34 => ?_)
  · rw [if_pos c20_34] at h
    refine zr_iload (pc := 137) hX 4 rfl dX1_chosen_137 ?_
    replace h := congrArg some (keo2 _ (Option.some.inj h).symm)
    exact hret _ (Option.some.inj h).symm _ _ dX1_chosen_139 (Or.inl rfl)
  · rw [if_neg c20_34] at h
    refine zr_aload_n (pc := 23) hX 0 rfl rfl dX1_chosen_23 ?_
    refine zr_iload (pc := 24) hX 6 rfl dX1_chosen_24 ?_
    obtain ⟨u6, gu6, h⟩ := bnd h
    obtain ⟨t7, gt7, h⟩ := bnd h
    refine zr_callVs (pc := 26) (rest := []) (stk' := [.int t7]) (k' := 0) (n' := 0) hX (fun l s0 D => mX1_isRatio l s0 D gt7) gu6 zc0 zwX1_isRatio q450 q452 qs5 rfl rfl rfl rfl rfl rfl rfl rfl rfl dX1_chosen_26 ?_
    obtain ⟨t8, gt8, h⟩ := bnd h
    have hJt8 : ∀ a, t8 = a → VW K σ sz 0 0 131 [(0, .ref th), (1, .ref p0), (2, .int p1), (3, .int p2), (4, .int a.1), (5, .int a.2), (6, .int a1.2.2)] [] := by
      intro a ea
      subst ea
      obtain ⟨x9, gx9, h⟩ := bnd h
      refine zr_iinc (pc := 131) hX 6 rfl zci_1 (Option.some.inj gx9) (Nat.le_of_ble_eq_true rfl) rfl dX1_chosen_131 ?_
      refine zr_goto (pc := 134) hX 9 rfl dX1_chosen_134 ?_
      exact VW.sub (kco2 (t8.1, t8.2, x9) (Option.some.inj h).symm) [1, 2, 3, 4, 5, 6, 0] rfl
    replace h := gt8
    refine zr_if_ne (pc := 29) hX 131 rfl dX1_chosen_29 (fun c29_33 => ?_) (fun c29_33 => ?_)
    · rw [if_neg c29_33] at h
      exact VW.sub (hJt8 (a1.1, a1.2.1) (Option.some.inj h).symm) [0, 1, 2, 3, 4, 5, 6] rfl
    · rw [if_pos c29_33] at h
      refine zr_aload_n (pc := 32) hX 1 rfl rfl dX1_chosen_32 ?_
      obtain ⟨r10, gr10, h⟩ := bnd h
      refine zr_fvN (pc := 33) hX za3_0 (zgR_spec gr10) q240 (Or.inl rfl) dX1_chosen_33 ?_
      refine zr_iload (pc := 36) hX 6 rfl dX1_chosen_36 ?_
      obtain ⟨x11, gx11, h⟩ := bnd h
      refine zr_aI (pc := 38) hX gx11 dX1_chosen_38 ?_
      obtain ⟨t12, gt12, h⟩ := bnd h
      refine zr_callS (pc := 39) (rest := []) (stk' := [.int t12]) (k' := 0) (n' := 0) hX (fun l s0 D => mX1_isFixed l s0 D gt12) zwX1_isFixed q1512 q1513 rfl rfl rfl rfl rfl rfl rfl rfl dX1_chosen_39 ?_
      refine zr_if_ne (pc := 42) hX 131 rfl dX1_chosen_42 (fun c42_32 => ?_) (fun c42_32 => ?_)
      · rw [if_neg c42_32] at h
        exact VW.sub (hJt8 (a1.1, a1.2.1) (Option.some.inj h).symm) [0, 1, 2, 3, 4, 5, 6] rfl
      · rw [if_pos c42_32] at h
        refine zr_iload_n (pc := 45) hX 2 rfl rfl dX1_chosen_45 ?_
        refine zr_iload (pc := 46) hX 6 rfl dX1_chosen_46 ?_
        obtain ⟨t13, gt13, h⟩ := bnd h
        refine zr_callS (pc := 48) (rest := []) (stk' := [.int t13]) (k' := 0) (n' := 0) hX (fun l s0 D => mX1_has l s0 D gt13) zwX1_has q431 q432 rfl rfl rfl rfl rfl rfl rfl rfl dX1_chosen_48 ?_
        refine zr_istore (pc := 51) hX rfl (Nat.le_of_ble_eq_true rfl) rfl dX1_chosen_51 ?_
        refine zr_iload (pc := 53) hX 5 rfl dX1_chosen_53 ?_
        refine zr_iconst (pc := 55) hX zci_m1 dX1_chosen_55 ?_
        obtain ⟨t14, gt14, h⟩ := bnd h
        have hJt14 : ∀ a, t14 = a → VW K σ sz 0 0 92 [(0, .ref th), (1, .ref p0), (2, .int p1), (3, .int p2), (4, .int a1.1), (5, .int a1.2.1), (6, .int a1.2.2), (7, .int t13)] [.int a] := by
          intro a ea
          subst ea
          refine zr_istore (pc := 92) hX rfl (Nat.le_of_ble_eq_true rfl) rfl dX1_chosen_92 ?_
          refine zr_iload (pc := 94) hX 8 rfl dX1_chosen_94 ?_
          refine zr_iload (pc := 96) hX 6 rfl dX1_chosen_96 ?_
          obtain ⟨t15, gt15, h⟩ := bnd h
          have hJt15 : ∀ a, t15 = a → VW K σ sz 0 0 108 [(0, .ref th), (1, .ref p0), (2, .int p1), (3, .int p2), (4, .int a1.1), (5, .int a1.2.1), (6, .int a1.2.2), (7, .int t13)] [.int a] := by
            intro a ea
            subst ea
            refine zr_istore (pc := 108) hX rfl (Nat.le_of_ble_eq_true rfl) rfl dX1_chosen_108 ?_
            refine zr_iload (pc := 110) hX 0 rfl dX1_chosen_110 ?_
            obtain ⟨t16, gt16, h⟩ := bnd h
            have hJt16 : ∀ a, t16 = a → VW K σ sz 0 0 122 [(0, .ref th), (1, .ref p0), (2, .int p1), (3, .int p2), (5, .int a1.2.1), (6, .int a1.2.2), (7, .int t13)] [.int a] := by
              intro a ea
              subst ea
              refine zr_istore (pc := 122) hX rfl (Nat.le_of_ble_eq_true rfl) rfl dX1_chosen_122 ?_
              refine zr_iload (pc := 124) hX 5 rfl dX1_chosen_124 ?_
              refine zr_iload (pc := 126) hX 7 rfl dX1_chosen_126 ?_
              refine zr_ior (pc := 128) hX dX1_chosen_128 ?_
              obtain ⟨x17, gx17, h⟩ := bnd h
              refine zr_istore (pc := 129) hX (Option.some.inj gx17) (Nat.le_of_ble_eq_true rfl) rfl dX1_chosen_129 ?_
              exact VW.sub (hJt8 (t16, x17) (Option.some.inj h).symm) [2, 3, 4, 5, 1, 0, 6] rfl
            replace h := gt16
            refine zr_if_eq (pc := 112) hX 120 rfl dX1_chosen_112 (fun c112_17 => ?_) (fun c112_17 => ?_)
            · rw [if_pos c112_17] at h
              refine zr_iload (pc := 120) hX 5 rfl dX1_chosen_120 ?_
              exact VW.sub (hJt16 a1.1 (Option.some.inj h).symm) [1, 2, 3, 4, 6, 7, 8] rfl
            · rw [if_neg c112_17] at h
              refine zr_iload (pc := 115) hX 7 rfl dX1_chosen_115 ?_
              refine zr_goto (pc := 117) hX 122 rfl dX1_chosen_117 ?_
              exact VW.sub (hJt16 a1.2.2 (Option.some.inj h).symm) [1, 2, 3, 4, 6, 7, 8] rfl
          replace h := gt15
          refine zr_icmp_ne (pc := 98) hX 106 rfl dX1_chosen_98 (fun c98_18 => ?_) (fun c98_18 => ?_)
          · rw [if_neg c98_18] at h
            refine zr_iload (pc := 106) hX 8 rfl dX1_chosen_106 ?_
            exact VW.sub (hJt15 t13 (Option.some.inj h).symm) [1, 2, 3, 4, 5, 6, 7, 8] rfl
          · rw [if_pos c98_18] at h
            refine zr_iload (pc := 101) hX 0 rfl dX1_chosen_101 ?_
            refine zr_goto (pc := 103) hX 108 rfl dX1_chosen_103 ?_
            exact VW.sub (hJt15 t14 (Option.some.inj h).symm) [1, 2, 3, 4, 5, 6, 7, 8] rfl
        replace h := gt14
        obtain ⟨u21, gu21, hAu21, hBu21⟩ := zesc_bnd h
        have hJt20 : ∀ a, u21 = .inl a → VW K σ sz 0 0 87 [(0, .ref th), (1, .ref p0), (2, .int p1), (3, .int p2), (4, .int a1.1), (5, .int a1.2.1), (6, .int a1.2.2), (7, .int t13)] [] := by
          intro t20 ea
          have h := hAu21 _ ea
          refine zr_iconst (pc := 87) hX zci_1 dX1_chosen_87 ?_
          refine zr_goto (pc := 88) hX 92 rfl dX1_chosen_88 ?_
          exact VW.sub (hJt14 (1 : Int32) (Option.some.inj h).symm) [0, 1, 2, 3, 4, 5, 6, 7] rfl
        replace h := gu21
        refine zr_icmp_eq (pc := 56) hX 87 rfl dX1_chosen_56 (fun c56_31 => ?_) (fun c56_31 => ?_)
        · rw [if_pos c56_31] at h
          exact VW.sub (hJt20 () (Option.some.inj h).symm) [1, 2, 3, 4, 5, 6, 7, 0] rfl
        · rw [if_neg c56_31] at h
          refine zr_iload_n (pc := 59) hX 4 rfl rfl dX1_chosen_59 ?_
          refine zr_iconst (pc := 60) hX zci_1 dX1_chosen_60 ?_
          obtain ⟨u23, gu23, hAu23, hBu23⟩ := zesc_bnd h
          have hJt22 : ∀ a, u23 = .inl a → VW K σ sz 0 0 91 [(0, .ref th), (1, .ref p0), (2, .int p1), (3, .int p2), (4, .int a1.1), (5, .int a1.2.1), (6, .int a1.2.2), (7, .int t13)] [] := by
            intro t22 ea
            have h := hAu23 _ ea
            refine zr_iconst (pc := 91) hX zci_0 dX1_chosen_91 ?_
            replace h := congrArg some (hBu21 _ (Option.some.inj h).symm)
            exact VW.sub (hJt14 (0 : Int32) (Option.some.inj h).symm) [0, 1, 2, 3, 4, 5, 6, 7] rfl
          replace h := gu23
          refine zr_icmp_ne (pc := 61) hX 91 rfl dX1_chosen_61 (fun c61_30 => ?_) (fun c61_30 => ?_)
          · rw [if_neg c61_30] at h
            exact VW.sub (hJt22 () (Option.some.inj h).symm) [1, 2, 3, 4, 5, 6, 7, 0] rfl
          · rw [if_pos c61_30] at h
            refine zr_aload_n (pc := 64) hX 2 rfl rfl dX1_chosen_64 ?_
            obtain ⟨r24, gr24, h⟩ := bnd h
            refine zr_fvN (pc := 65) hX za3_0 (zgR_spec gr24) q240 (Or.inl rfl) dX1_chosen_65 ?_
            refine zr_iload (pc := 68) hX 7 rfl dX1_chosen_68 ?_
            obtain ⟨x25, gx25, h⟩ := bnd h
            refine zr_aI (pc := 70) hX gx25 dX1_chosen_70 ?_
            obtain ⟨t26, gt26, h⟩ := bnd h
            refine zr_callS (pc := 71) (rest := []) (stk' := [.int t26]) (k' := 0) (n' := 0) hX (fun l s0 D => mJ18_bitCount l s0 D gt26) zwJ18_bitCount q1310 q1311 rfl rfl rfl rfl rfl rfl rfl rfl dX1_chosen_71 ?_
            refine zr_aload_n (pc := 74) hX 2 rfl rfl dX1_chosen_74 ?_
            obtain ⟨r27, gr27, h⟩ := bnd h
            refine zr_fvN (pc := 75) hX za3_0 (zgR_spec gr27) q240 (Or.inl rfl) dX1_chosen_75 ?_
            refine zr_iload (pc := 78) hX 5 rfl dX1_chosen_78 ?_
            obtain ⟨x28, gx28, h⟩ := bnd h
            refine zr_aI (pc := 80) hX gx28 dX1_chosen_80 ?_
            obtain ⟨t29, gt29, h⟩ := bnd h
            refine zr_callS (pc := 81) (rest := [.int t26]) (stk' := [.int t29, .int t26]) (k' := 0) (n' := 0) hX (fun l s0 D => mJ18_bitCount l s0 D gt29) zwJ18_bitCount q1310 q1311 rfl rfl rfl rfl rfl rfl rfl rfl dX1_chosen_81 ?_
            refine zr_icmp_ge (pc := 84) hX 91 rfl dX1_chosen_84 (fun c84_29 => ?_) (fun c84_29 => ?_)
            · rw [if_pos c84_29] at h
              exact VW.sub (hJt22 () (Option.some.inj h).symm) [1, 2, 3, 4, 5, 6, 7, 0] rfl
            · rw [if_neg c84_29] at h
              replace h := congrArg some (hBu23 _ (Option.some.inj h).symm)
              exact VW.sub (hJt20 () (Option.some.inj h).symm) [1, 2, 3, 4, 5, 6, 7, 0] rfl
set_option maxHeartbeats 4000000 in
theorem mX1_keepSolution (l : Launch) (s0 : State) (D : zD) {n : Nat} {σ : zH} {sz : Nat} {th : Nat} {o : zH} (h : fX1_keepSolution n σ th = some o) : zM l s0 D yX1_keepSolution cX1_keepSolution 2 none 5 85 0 0 [.ref th] σ sz o sz none := by
  refine zenter (own := RX1) zplX1 rfl (Nat.le_of_ble_eq_true rfl) rfl (fun K hX hnm hret => ?_)
  unfold fX1_keepSolution at h
  have hret : ∀ a, o = a → zRet K cX1_keepSolution none a sz 0 0 none := fun a e => by cases e; exact hret
  show VW K σ sz 0 0 0 [(0, .ref th)] []
  refine zr_aload_n (pc := 0) hX 0 rfl rfl dX1_keepSolution_0 ?_
  refine zr_aload_n (pc := 1) hX 0 rfl rfl dX1_keepSolution_1 ?_
  obtain ⟨r1, gr1, h⟩ := bnd h
  refine zr_fv (pc := 2) hX za0_0 (zgR_spec gr1) q264 (Or.inl rfl) dX1_keepSolution_2 ?_
  obtain ⟨u2, gu2, h⟩ := bnd h
  obtain ⟨t3, gt3, h⟩ := bnd h
  refine zr_callF (pc := 5) (rest := [.ref th]) (stk' := [.int t3, .ref th]) (k' := 0) (n' := 0) hX (fun l s0 D => mJ2_size l s0 D gt3) gu2 zwJ2_size (by decide) q378 q384 q382 rfl rfl rfl rfl rfl rfl rfl rfl rfl dX1_keepSolution_5 ?_
  obtain ⟨σ4, gσ4, h⟩ := bnd h
  refine zr_pv (pc := 10) hX za0_24 gσ4 rfl q288 (Or.inl rfl) rfl (tyX1_ok 24 (Nat.le_of_ble_eq_true rfl)) rfl rfl dX1_keepSolution_10 ?_
  refine zr_iconst (pc := 13) hX zci_0 dX1_keepSolution_13 ?_
  refine zr_istore_n (pc := 14) hX rfl rfl (Nat.le_of_ble_eq_true rfl) rfl dX1_keepSolution_14 ?_
  refine VW.sub (lv' := [(0, .ref th), (1, .int (0 : Int32))]) ?_ [1, 0] rfl
  refine zloop_walk (V := (fun a => VW K a.1 sz 0 0 15 [(0, .ref th), (1, .int a.2)] [])) (E := fun e => e = o) ?_ n (σ4, (0 : Int32)) _ h rfl
  intro a5 o6 h kco6 keo6
  unfold fX1_keepSolution_L15 at h
  refine zr_iload_n (pc := 15) hX 1 rfl rfl dX1_keepSolution_15 ?_
  refine zr_aload_n (pc := 16) hX 0 rfl rfl dX1_keepSolution_16 ?_
  obtain ⟨x7, gx7, h⟩ := bnd h
  refine zr_fv (pc := 17) hX za0_24 (zgI_spec gx7) q288 (Or.inl rfl) dX1_keepSolution_17 ?_
  refine zr_icmp_ge (pc := 20) hX 67 rfl dX1_keepSolution_20 (fun c20_21 => ?_) (fun c20_21 => ?_)
  · rw [if_pos c20_21] at h
    replace h := congrArg some (keo6 _ (Option.some.inj h).symm)
    exact hret _ (Option.some.inj h).symm _ _ dX1_keepSolution_67
  · rw [if_neg c20_21] at h
    refine zr_aload_n (pc := 23) hX 0 rfl rfl dX1_keepSolution_23 ?_
    obtain ⟨r8, gr8, h⟩ := bnd h
    refine zr_fv (pc := 24) hX za0_23 (zgR_spec gr8) q287 (Or.inl rfl) dX1_keepSolution_24 ?_
    refine zr_iload_n (pc := 27) hX 1 rfl rfl dX1_keepSolution_27 ?_
    refine zr_aload_n (pc := 28) hX 0 rfl rfl dX1_keepSolution_28 ?_
    refine zr_iload_n (pc := 29) hX 1 rfl rfl dX1_keepSolution_29 ?_
    obtain ⟨u9, gu9, h⟩ := bnd h
    obtain ⟨t10, gt10, h⟩ := bnd h
    refine zr_callVs (pc := 30) (rest := [.int a5.2, .ref r8]) (stk' := [.int t10, .int a5.2, .ref r8]) (k' := 0) (n' := 0) hX (fun l s0 D => mX1_isRatio l s0 D gt10) gu9 zc0 zwX1_isRatio q450 q452 qs5 rfl rfl rfl rfl rfl rfl rfl rfl rfl dX1_keepSolution_30 ?_
    obtain ⟨t11, gt11, h⟩ := bnd h
    have hJt11 : ∀ a, t11 = a → VW K a5.1 sz 0 0 60 [(0, .ref th), (1, .int a5.2)] [.int a, .int a5.2, .ref r8] := by
      intro a ea
      subst ea
      obtain ⟨σ12, gσ12, h⟩ := bnd h
      refine zr_sI (pc := 60) hX gσ12 dX1_keepSolution_60 ?_
      obtain ⟨x13, gx13, h⟩ := bnd h
      refine zr_iinc (pc := 61) hX 1 rfl zci_1 (Option.some.inj gx13) (Nat.le_of_ble_eq_true rfl) rfl dX1_keepSolution_61 ?_
      refine zr_goto (pc := 64) hX 15 rfl dX1_keepSolution_64 ?_
      exact VW.sub (kco6 (σ12, x13) (Option.some.inj h).symm) [1, 0] rfl
    replace h := gt11
    refine zr_if_eq (pc := 33) hX 48 rfl dX1_keepSolution_33 (fun c33_20 => ?_) (fun c33_20 => ?_)
    · rw [if_pos c33_20] at h
      refine zr_aload_n (pc := 48) hX 0 rfl rfl dX1_keepSolution_48 ?_
      obtain ⟨r14, gr14, h⟩ := bnd h
      refine zr_fv (pc := 49) hX za0_16 (zgR_spec gr14) q280 (Or.inl rfl) dX1_keepSolution_49 ?_
      obtain ⟨r15, gr15, h⟩ := bnd h
      refine zr_fvN (pc := 52) hX za3_0 (zgR_spec gr15) q240 (Or.inl rfl) dX1_keepSolution_52 ?_
      refine zr_iload_n (pc := 55) hX 1 rfl rfl dX1_keepSolution_55 ?_
      obtain ⟨x16, gx16, h⟩ := bnd h
      refine zr_aI (pc := 56) hX gx16 dX1_keepSolution_56 ?_
      obtain ⟨t17, gt17, h⟩ := bnd h
      refine zr_callS (pc := 57) (rest := [.int a5.2, .ref r8]) (stk' := [.int t17, .int a5.2, .ref r8]) (k' := 0) (n' := 0) hX (fun l s0 D => mX1_least l s0 D gt17) zwX1_least q1446 q552 rfl rfl rfl rfl rfl rfl rfl rfl dX1_keepSolution_57 ?_
      exact VW.sub (hJt11 t17 (Option.some.inj h).symm) [0, 1] rfl
    · rw [if_neg c33_20] at h
      refine zr_aload_n (pc := 36) hX 0 rfl rfl dX1_keepSolution_36 ?_
      obtain ⟨r18, gr18, h⟩ := bnd h
      refine zr_fv (pc := 37) hX za0_16 (zgR_spec gr18) q280 (Or.inl rfl) dX1_keepSolution_37 ?_
      obtain ⟨r19, gr19, h⟩ := bnd h
      refine zr_fvN (pc := 40) hX za3_1 (zgR_spec gr19) q243 (Or.inl rfl) dX1_keepSolution_40 ?_
      refine zr_iload_n (pc := 43) hX 1 rfl rfl dX1_keepSolution_43 ?_
      obtain ⟨x20, gx20, h⟩ := bnd h
      refine zr_aI (pc := 44) hX gx20 dX1_keepSolution_44 ?_
      refine zr_goto (pc := 45) hX 60 rfl dX1_keepSolution_45 ?_
      exact VW.sub (hJt11 x20 (Option.some.inj h).symm) [0, 1] rfl
set_option maxHeartbeats 4000000 in
theorem mX1_valueOf (l : Launch) (s0 : State) (D : zD) {σ : zH} {sz : Nat} {th : Nat} {p0 : Int32} {p1 : Int32} {p2 : Int32} {o : Int32} (h : fX1_valueOf σ th p0 p1 p2 = some o) : zM l s0 D yX1_valueOf cX1_valueOf 4 (some .int) 3 41 0 0 [.ref th, .int p0, .int p1, .int p2] σ sz σ sz (some (.int o)) := by
  refine zenter (own := RX1) zplX1 rfl (Nat.le_of_ble_eq_true rfl) trivial (fun K hX hnm hret => ?_)
  unfold fX1_valueOf at h
  have hret : ∀ a, o = a → zRet K cX1_valueOf (some .int) σ sz 0 0 (some (.int a)) := fun a e => by cases e; exact hret
  show VW K σ sz 0 0 0 [(0, .ref th), (1, .int p0), (2, .int p1), (3, .int p2)] []
  refine zr_iload_n (pc := 0) hX 3 rfl rfl dX1_valueOf_0 ?_
  refine zr_iconst (pc := 1) hX zci_2 dX1_valueOf_1 ?_
  obtain ⟨u5, gu5, hAu5, hBu5⟩ := zesc_bnd h
  have hJt1 : ∀ a, u5 = .inl a → VW K σ sz 0 0 35 [(2, .int p1), (3, .int p2)] [] := by
    intro t1 ea
    have h := hAu5 _ ea
    refine zr_iload_n (pc := 35) hX 1 rfl rfl dX1_valueOf_35 ?_
    refine zr_iconst (pc := 36) hX zci_1 dX1_valueOf_36 ?_
    refine zr_icmp_ne (pc := 37) hX 47 rfl dX1_valueOf_37 (fun c37_3 => ?_) (fun c37_3 => ?_)
    · rw [if_neg c37_3] at h
      refine zr_iload_n (pc := 47) hX 0 rfl rfl dX1_valueOf_47 ?_
      obtain ⟨t2, gt2, h⟩ := bnd h
      refine zr_callS (pc := 48) (rest := []) (stk' := [.int t2]) (k' := 0) (n' := 0) hX (fun l s0 D => mX1_least l s0 D gt2) zwX1_least q1446 q552 rfl rfl rfl rfl rfl rfl rfl rfl dX1_valueOf_48 ?_
      exact hret _ (Option.some.inj h).symm _ _ dX1_valueOf_51 (Or.inl rfl)
    · rw [if_pos c37_3] at h
      refine zr_iload_n (pc := 40) hX 0 rfl rfl dX1_valueOf_40 ?_
      obtain ⟨t3, gt3, h⟩ := bnd h
      refine zr_callS (pc := 41) (rest := []) (stk' := [.int t3]) (k' := 0) (n' := 0) hX (fun l s0 D => mX1_greatest l s0 D gt3) zwX1_greatest q1445 q563 rfl rfl rfl rfl rfl rfl rfl rfl dX1_valueOf_41 ?_
      refine zr_goto (pc := 44) hX 51 rfl dX1_valueOf_44 ?_
      exact hret _ (Option.some.inj h).symm _ _ dX1_valueOf_51 (Or.inl rfl)
  replace h := gu5
  refine zr_icmp_ne (pc := 2) hX 35 rfl dX1_valueOf_2 (fun c2_14 => ?_) (fun c2_14 => ?_)
  · rw [if_neg c2_14] at h
    exact VW.sub (hJt1 () (Option.some.inj h).symm) [2, 3] rfl
  · rw [if_pos c2_14] at h
    refine zr_aload_n (pc := 5) hX 0 rfl rfl dX1_valueOf_5 ?_
    obtain ⟨r6, gr6, h⟩ := bnd h
    refine zr_fv (pc := 6) hX za0_22 (zgR_spec gr6) q286 (Or.inl rfl) dX1_valueOf_6 ?_
    refine zr_iload_n (pc := 9) hX 1 rfl rfl dX1_valueOf_9 ?_
    obtain ⟨x7, gx7, h⟩ := bnd h
    refine zr_aI (pc := 10) hX gx7 dX1_valueOf_10 ?_
    refine zr_iconst (pc := 11) hX zci_m1 dX1_valueOf_11 ?_
    refine zr_icmp_eq (pc := 12) hX 35 rfl dX1_valueOf_12 (fun c12_13 => ?_) (fun c12_13 => ?_)
    · rw [if_pos c12_13] at h
      exact VW.sub (hJt1 () (Option.some.inj h).symm) [2, 3] rfl
    · rw [if_neg c12_13] at h
      refine zr_iload_n (pc := 15) hX 2 rfl rfl dX1_valueOf_15 ?_
      refine zr_aload_n (pc := 16) hX 0 rfl rfl dX1_valueOf_16 ?_
      obtain ⟨r8, gr8, h⟩ := bnd h
      refine zr_fv (pc := 17) hX za0_22 (zgR_spec gr8) q286 (Or.inl rfl) dX1_valueOf_17 ?_
      refine zr_iload_n (pc := 20) hX 1 rfl rfl dX1_valueOf_20 ?_
      obtain ⟨x9, gx9, h⟩ := bnd h
      refine zr_aI (pc := 21) hX gx9 dX1_valueOf_21 ?_
      obtain ⟨t10, gt10, h⟩ := bnd h
      refine zr_callS (pc := 22) (rest := []) (stk' := [.int t10]) (k' := 0) (n' := 0) hX (fun l s0 D => mX1_has l s0 D gt10) zwX1_has q431 q432 rfl rfl rfl rfl rfl rfl rfl rfl dX1_valueOf_22 ?_
      refine zr_if_eq (pc := 25) hX 35 rfl dX1_valueOf_25 (fun c25_12 => ?_) (fun c25_12 => ?_)
      · rw [if_pos c25_12] at h
        exact VW.sub (hJt1 () (Option.some.inj h).symm) [2, 3] rfl
      · rw [if_neg c25_12] at h
        refine zr_aload_n (pc := 28) hX 0 rfl rfl dX1_valueOf_28 ?_
        obtain ⟨r11, gr11, h⟩ := bnd h
        refine zr_fv (pc := 29) hX za0_22 (zgR_spec gr11) q286 (Or.inl rfl) dX1_valueOf_29 ?_
        refine zr_iload_n (pc := 32) hX 1 rfl rfl dX1_valueOf_32 ?_
        obtain ⟨x12, gx12, h⟩ := bnd h
        refine zr_aI (pc := 33) hX gx12 dX1_valueOf_33 ?_
        replace h := congrArg some (hBu5 _ (Option.some.inj h).symm)
        exact hret _ (Option.some.inj h).symm _ _ dX1_valueOf_34 (Or.inl rfl)
set_option maxHeartbeats 4000000 in
theorem mX1_isCut (l : Launch) (s0 : State) (D : zD) {σ : zH} {sz : Nat} {th : Nat} {o : Int32} (h : fX1_isCut σ th = some o) : zM l s0 D yX1_isCut cX1_isCut 1 (some .boolean) 1 0 0 0 [.ref th] σ sz σ sz (some (.int o)) := by
  refine zenter (own := RX1) zplX1 rfl (Nat.le_of_ble_eq_true rfl) trivial (fun K hX hnm hret => ?_)
  unfold fX1_isCut at h
  have hret : ∀ a, o = a → zRet K cX1_isCut (some .boolean) σ sz 0 0 (some (.int a)) := fun a e => by cases e; exact hret
  show VW K σ sz 0 0 0 [(0, .ref th)] []
  refine zr_aload_n (pc := 0) hX 0 rfl rfl dX1_isCut_0 ?_
  obtain ⟨x1, gx1, h⟩ := bnd h
  refine zr_fv (pc := 1) hX za0_29 (zgI_spec gx1) q293 (Or.inl rfl) dX1_isCut_1 ?_
  refine zr_if_le (pc := 4) hX 22 rfl dX1_isCut_4 (fun c4_4 => ?_) (fun c4_4 => ?_)
  · rw [if_pos c4_4] at h
    refine zr_iconst (pc := 22) hX zci_0 dX1_isCut_22 ?_
    exact hret _ (Option.some.inj h).symm _ _ dX1_isCut_23 (Or.inr ⟨rfl, Or.inl rfl⟩)
  · rw [if_neg c4_4] at h
    refine zr_aload_n (pc := 7) hX 0 rfl rfl dX1_isCut_7 ?_
    obtain ⟨x2, gx2, h⟩ := bnd h
    refine zr_fv (pc := 8) hX za0_28 (zgI_spec gx2) q292 (Or.inl rfl) dX1_isCut_8 ?_
    refine zr_aload_n (pc := 11) hX 0 rfl rfl dX1_isCut_11 ?_
    obtain ⟨x3, gx3, h⟩ := bnd h
    refine zr_fv (pc := 12) hX za0_27 (zgI_spec gx3) q291 (Or.inl rfl) dX1_isCut_12 ?_
    refine zr_icmp_lt (pc := 15) hX 22 rfl dX1_isCut_15 (fun c15_3 => ?_) (fun c15_3 => ?_)
    · rw [if_pos c15_3] at h
      refine zr_iconst (pc := 22) hX zci_0 dX1_isCut_22 ?_
      exact hret _ (Option.some.inj h).symm _ _ dX1_isCut_23 (Or.inr ⟨rfl, Or.inl rfl⟩)
    · rw [if_neg c15_3] at h
      refine zr_iconst (pc := 18) hX zci_1 dX1_isCut_18 ?_
      refine zr_goto (pc := 19) hX 23 rfl dX1_isCut_19 ?_
      exact hret _ (Option.some.inj h).symm _ _ dX1_isCut_23 (Or.inr ⟨rfl, Or.inr rfl⟩)
set_option maxHeartbeats 4000000 in
theorem wX1_solution {K : zC} {σ : zH} {sz : Nat} {th : Nat} {p0 : Int32} {o : (zX ⊕ Int32)} (hX : zOk K RX1 cX1_solution (some .int) 2 8 142 4 24) (hnm : zNm K yX1_solution) (h : fX1_solution σ th p0 = some o) (hret : ∀ a, o = .inr a → zRet K cX1_solution (some .int) σ sz 4 24 (some (.int a))) (hexc : ∀ e, o = .inl e → zTr K ∧ zXok K e.1 e.2 4 24 ∧ (e.2 = σ → zTh K cX1_solution e.1 σ sz)) : VW K σ sz 0 0 0 [(0, .ref th), (1, .int p0)] [] := by
  unfold fX1_solution at h
  refine zr_aload_n (pc := 0) hX 0 rfl rfl dX1_solution_0 ?_
  refine zr_iload_n (pc := 1) hX 1 rfl rfl dX1_solution_1 ?_
  obtain ⟨u1, gu1, h⟩ := bnd h
  obtain ⟨u11, gu11, hxu11, hnu11⟩ := zthr_bnd h
  rcases u11 with e12 | t2
  · have h := hxu11 _ rfl
    have hxx := hexc _ (Option.some.inj h).symm
    exact zr_callVX (pc := 2) (rest := []) hX hxx.1 hxx.2.1 (fun l s0 D hl => xX1_variable_2 l s0 D hl gu11) gu1 zc0 zwX1_variable_2 q927 q929 qs25 rfl rfl rfl rfl rfl rfl dX1_solution_2
  · have h := hnu11 _ rfl
    refine zr_callVs (pc := 2) (rest := []) (stk' := [.ref t2]) (k' := 2) (n' := 12) hX (fun l s0 D => mX1_variable_2 l s0 D gu11) gu1 zc0 zwX1_variable_2 q927 q929 qs25 rfl rfl rfl rfl rfl rfl rfl rfl rfl dX1_solution_2 ?_
    refine zr_pop (pc := 5) hX rfl dX1_solution_5 ?_
    refine zr_iload_n (pc := 6) hX 1 rfl rfl dX1_solution_6 ?_
    refine zr_aload_n (pc := 7) hX 0 rfl rfl dX1_solution_7 ?_
    obtain ⟨x3, gx3, h⟩ := bnd h
    refine zr_fv (pc := 8) hX za0_24 (zgI_spec gx3) q288 (Or.inl rfl) dX1_solution_8 ?_
    obtain ⟨t4, gt4, h⟩ := bnd h
    have hJt4 : ∀ a, t4 = a → VW K σ sz 2 12 19 [(0, .ref th), (1, .int p0)] [.int a] := by
      intro a ea
      subst ea
      obtain ⟨u8, gu8, hxu8, hnu8⟩ := zthr_bnd h
      rcases u8 with e9 | t5
      · have h := hxu8 _ rfl
        have hxx := hexc _ (Option.some.inj h).symm
        exact zr_callSX (pc := 19) (rest := []) hX hxx.1 hxx.2.1 (fun l s0 D hl => xX1_checkState l s0 D hl gu8) zwX1_checkState q790 q791 rfl rfl rfl rfl rfl dX1_solution_19
      · have h := hnu8 _ rfl
        refine zr_callS (pc := 19) (rest := []) (stk' := []) (k' := 3) (n' := 18) hX (fun l s0 D => mX1_checkState l s0 D gu8) zwX1_checkState q790 q791 rfl rfl rfl rfl rfl rfl rfl rfl dX1_solution_19 ?_
        refine zr_aload_n (pc := 22) hX 0 rfl rfl dX1_solution_22 ?_
        obtain ⟨r6, gr6, h⟩ := bnd h
        refine zr_fv (pc := 23) hX za0_23 (zgR_spec gr6) q287 (Or.inl rfl) dX1_solution_23 ?_
        refine zr_iload_n (pc := 26) hX 1 rfl rfl dX1_solution_26 ?_
        obtain ⟨x7, gx7, h⟩ := bnd h
        refine zr_aI (pc := 27) hX gx7 dX1_solution_27 ?_
        refine VW.widen 4 24 ?_ (Nat.le_of_ble_eq_true rfl) (Nat.le_of_ble_eq_true rfl)
        exact hret _ (Option.some.inj h).symm _ _ dX1_solution_28 (Or.inl rfl)
    replace h := gt4
    refine zr_icmp_ge (pc := 11) hX 18 rfl dX1_solution_11 (fun c11_9 => ?_) (fun c11_9 => ?_)
    · rw [if_pos c11_9] at h
      refine zr_iconst (pc := 18) hX zci_0 dX1_solution_18 ?_
      exact VW.sub (hJt4 (0 : Int32) (Option.some.inj h).symm) [0, 1] rfl
    · rw [if_neg c11_9] at h
      refine zr_iconst (pc := 14) hX zci_1 dX1_solution_14 ?_
      refine zr_goto (pc := 15) hX 19 rfl dX1_solution_15 ?_
      exact VW.sub (hJt4 (1 : Int32) (Option.some.inj h).symm) [0, 1] rfl
theorem mX1_solution (l : Launch) (s0 : State) (D : zD) {σ : zH} {sz : Nat} {th : Nat} {p0 : Int32} {o : Int32} (h : fX1_solution σ th p0 = some (.inr o)) : zM l s0 D yX1_solution cX1_solution 2 (some .int) 8 142 4 24 [.ref th, .int p0] σ sz σ sz (some (.int o)) := by
  refine zenter (own := RX1) zplX1 rfl (Nat.le_of_ble_eq_true rfl) trivial (fun K hX hnm hret => ?_)
  exact wX1_solution hX hnm h (fun a e => by cases e; exact hret) (fun e q => by cases q)
theorem xX1_solution (l : Launch) (s0 : State) (D : zD) (hl : l.stackTraces = false) {σ : zH} {sz : Nat} {th : Nat} {p0 : Int32} {e : zX} (h : fX1_solution σ th p0 = some (.inl e)) : zMX l s0 D yX1_solution cX1_solution 2 (some .int) 8 142 4 24 [.ref th, .int p0] σ sz e.1 e.2 := by
  refine zenterX (own := RX1) hl zplX1 rfl (Nat.le_of_ble_eq_true rfl) (fun K hX hnm hT hx hth => ?_)
  exact wX1_solution hX hnm h (fun a q => by cases q) (fun e' q => by cases q; exact ⟨hT, hx, (fun q => hth rfl (by decide) (by decide) (by decide) (by decide) q.symm)⟩)
set_option maxHeartbeats 4000000 in
theorem mX1_choices (l : Launch) (s0 : State) (D : zD) {n : Nat} {σ : zH} {sz : Nat} {th : Nat} {o : Int64} (h : fX1_choices n σ th = some o) : zM l s0 D yX1_choices cX1_choices 4 (some .long) 5 85 0 0 [.ref th] σ sz σ sz (some (.long o)) := by
  refine zenter (own := RX1) zplX1 rfl (Nat.le_of_ble_eq_true rfl) rfl (fun K hX hnm hret => ?_)
  unfold fX1_choices at h
  have hret : ∀ a, o = a → zRet K cX1_choices (some .long) σ sz 0 0 (some (.long a)) := fun a e => by cases e; exact hret
  show VW K σ sz 0 0 0 [(0, .ref th)] []
  refine zr_lconst (pc := 0) hX (v := 1) rfl dX1_choices_0 ?_
  refine zr_lstore_n (pc := 1) hX rfl rfl (Nat.le_of_ble_eq_true rfl) rfl dX1_choices_1 ?_
  refine zr_iconst (pc := 2) hX zci_0 dX1_choices_2 ?_
  refine zr_istore_n (pc := 3) hX rfl rfl (Nat.le_of_ble_eq_true rfl) rfl dX1_choices_3 ?_
  obtain ⟨t3, gt3, h⟩ := bnd h
  have hJt3 : ∀ a, a = t3 → VW K σ sz 0 0 58 [(1, .long a)] [] := by
    intro a ea
    rw [ea]
    refine zr_lload_n (pc := 58) hX 0 rfl rfl dX1_choices_58 ?_
    exact hret _ (Option.some.inj h).symm _ _ dX1_choices_59
  refine VW.sub (lv' := [(0, .ref th), (1, .long (1 : Int64)), (3, .int (0 : Int32))]) ?_ [2, 1, 0] rfl
  refine zloop_walk (V := (fun a => VW K σ sz 0 0 4 [(0, .ref th), (1, .long a.1), (3, .int a.2)] [])) (E := fun e => e = t3) ?_ n ((1 : Int64), (0 : Int32)) _ gt3 rfl
  intro a1 o2 h kco2 keo2
  unfold fX1_choices_L4 at h
  refine zr_iload_n (pc := 4) hX 2 rfl rfl dX1_choices_4 ?_
  refine zr_aload_n (pc := 5) hX 0 rfl rfl dX1_choices_5 ?_
  obtain ⟨r4, gr4, h⟩ := bnd h
  refine zr_fv (pc := 6) hX za0_0 (zgR_spec gr4) q264 (Or.inl rfl) dX1_choices_6 ?_
  obtain ⟨u5, gu5, h⟩ := bnd h
  obtain ⟨t6, gt6, h⟩ := bnd h
  refine zr_callF (pc := 9) (rest := [.int a1.2]) (stk' := [.int t6, .int a1.2]) (k' := 0) (n' := 0) hX (fun l s0 D => mJ2_size l s0 D gt6) gu5 zwJ2_size (by decide) q378 q384 q382 rfl rfl rfl rfl rfl rfl rfl rfl rfl dX1_choices_9 ?_
  refine zr_icmp_ge (pc := 14) hX 58 rfl dX1_choices_14 (fun c14_19 => ?_) (fun c14_19 => ?_)
  · rw [if_pos c14_19] at h
    exact VW.sub (hJt3 a1.1 (keo2 _ (Option.some.inj h).symm)) [1] rfl
  · rw [if_neg c14_19] at h
    refine zr_lload_n (pc := 17) hX 1 rfl rfl dX1_choices_17 ?_
    refine zr_aload_n (pc := 18) hX 0 rfl rfl dX1_choices_18 ?_
    refine zr_iload_n (pc := 19) hX 2 rfl rfl dX1_choices_19 ?_
    obtain ⟨u7, gu7, h⟩ := bnd h
    obtain ⟨t8, gt8, h⟩ := bnd h
    refine zr_callVs (pc := 20) (rest := [.long a1.1]) (stk' := [.int t8, .long a1.1]) (k' := 0) (n' := 0) hX (fun l s0 D => mX1_isRatio l s0 D gt8) gu7 zc0 zwX1_isRatio q450 q452 qs5 rfl rfl rfl rfl rfl rfl rfl rfl rfl dX1_choices_20 ?_
    obtain ⟨t9, gt9, h⟩ := bnd h
    have hJt9 : ∀ a, t9 = a → VW K σ sz 0 0 50 [(0, .ref th), (3, .int a1.2)] [.long a, .long a1.1] := by
      intro a ea
      subst ea
      refine zr_lmul (pc := 50) hX dX1_choices_50 ?_
      obtain ⟨w10, gw10, h⟩ := bnd h
      refine zr_lstore_n (pc := 51) hX (Option.some.inj gw10) rfl (Nat.le_of_ble_eq_true rfl) rfl dX1_choices_51 ?_
      obtain ⟨x11, gx11, h⟩ := bnd h
      refine zr_iinc (pc := 52) hX 2 rfl zci_1 (Option.some.inj gx11) (Nat.le_of_ble_eq_true rfl) rfl dX1_choices_52 ?_
      refine zr_goto (pc := 55) hX 4 rfl dX1_choices_55 ?_
      exact VW.sub (kco2 (w10, x11) (Option.some.inj h).symm) [2, 1, 0] rfl
    replace h := gt9
    refine zr_if_eq (pc := 23) hX 30 rfl dX1_choices_23 (fun c23_18 => ?_) (fun c23_18 => ?_)
    · rw [if_pos c23_18] at h
      refine zr_aload_n (pc := 30) hX 0 rfl rfl dX1_choices_30 ?_
      obtain ⟨r12, gr12, h⟩ := bnd h
      refine zr_fv (pc := 31) hX za0_0 (zgR_spec gr12) q264 (Or.inl rfl) dX1_choices_31 ?_
      refine zr_iload_n (pc := 34) hX 2 rfl rfl dX1_choices_34 ?_
      obtain ⟨u13, gu13, h⟩ := bnd h
      obtain ⟨t14, gt14, h⟩ := bnd h
      refine zr_callF (pc := 35) (rest := [.long a1.1]) (stk' := [.ref t14, .long a1.1]) (k' := 0) (n' := 0) hX (fun l s0 D => mJ2_get l s0 D gt14) gu13 zwJ2_get (by decide) q400 q405 q403 rfl rfl rfl rfl rfl rfl rfl rfl rfl dX1_choices_35 ?_
      obtain ⟨u15, gu15, h⟩ := bnd h
      refine zr_cast (pc := 40) hX gu15 zc5 q418 (Or.inl rfl) dX1_choices_40 ?_
      obtain ⟨u16, gu16, h⟩ := bnd h
      obtain ⟨t17, gt17, h⟩ := bnd h
      refine zr_callVs (pc := 43) (rest := [.long a1.1]) (stk' := [.int t17, .long a1.1]) (k' := 0) (n' := 0) hX (fun l s0 D => mX6_domain l s0 D gt17) gu16 zc5 zwX6_domain q419 q420 q421 rfl rfl rfl rfl rfl rfl rfl rfl rfl dX1_choices_43 ?_
      obtain ⟨t18, gt18, h⟩ := bnd h
      refine zr_callS (pc := 46) (rest := [.long a1.1]) (stk' := [.int t18, .long a1.1]) (k' := 0) (n' := 0) hX (fun l s0 D => mJ18_bitCount l s0 D gt18) zwJ18_bitCount q1310 q1311 rfl rfl rfl rfl rfl rfl rfl rfl dX1_choices_46 ?_
      refine zr_i2l (pc := 49) hX dX1_choices_49 ?_
      exact VW.sub (hJt9 t18.toInt64 (Option.some.inj h).symm) [0, 2] rfl
    · rw [if_neg c23_18] at h
      refine zr_lconst (pc := 26) hX (v := 1) rfl dX1_choices_26 ?_
      refine zr_goto (pc := 27) hX 50 rfl dX1_choices_27 ?_
      exact VW.sub (hJt9 (1 : Int64) (Option.some.inj h).symm) [0, 2] rfl
set_option maxHeartbeats 4000000 in
theorem wX1_minimise {K : zC} {σ : zH} {sz : Nat} {th : Nat} {p0 : Int32} {p1 : Int32} {p2 : Int32} {p3 : Int32} {p4 : Int32} {o : (zX ⊕ (zH × Nat))} (hX : zOk K RX1 cX1_minimise none 6 10 213 25 3294) (hnm : zNm K yX1_minimise) (h : fX1_minimise σ sz th p0 p1 p2 p3 p4 = some o) (hret : ∀ a, o = .inr a → zRet K cX1_minimise none a.1 a.2 25 3294 none) (hexc : ∀ e, o = .inl e → zTr K ∧ zXok K e.1 e.2 25 3294 ∧ (e.2 = σ → zTh K cX1_minimise e.1 σ sz)) : VW K σ sz 0 0 0 [(0, .ref th), (1, .int p0), (2, .int p1), (3, .int p2), (4, .int p3), (5, .int p4)] [] := by
  unfold fX1_minimise at h
  refine zr_aload_n (pc := 0) hX 0 rfl rfl dX1_minimise_0 ?_
  refine zr_iload_n (pc := 1) hX 1 rfl rfl dX1_minimise_1 ?_
  obtain ⟨u1, gu1, h⟩ := bnd h
  obtain ⟨u29, gu29, hxu29, hnu29⟩ := zthr_bnd h
  rcases u29 with e30 | t2
  · have h := hxu29 _ rfl
    have hxx := hexc _ (Option.some.inj h).symm
    exact zr_callVX (pc := 2) (rest := []) hX hxx.1 hxx.2.1 (fun l s0 D hl => xX1_variable_2 l s0 D hl gu29) gu1 zc0 zwX1_variable_2 q927 q929 qs25 rfl rfl rfl rfl rfl rfl dX1_minimise_2
  · have h := hnu29 _ rfl
    refine zr_callVs (pc := 2) (rest := []) (stk' := [.ref t2]) (k' := 2) (n' := 12) hX (fun l s0 D => mX1_variable_2 l s0 D gu29) gu1 zc0 zwX1_variable_2 q927 q929 qs25 rfl rfl rfl rfl rfl rfl rfl rfl rfl dX1_minimise_2 ?_
    refine zr_pop (pc := 5) hX rfl dX1_minimise_5 ?_
    refine zr_aload_n (pc := 6) hX 0 rfl rfl dX1_minimise_6 ?_
    refine zr_iload_n (pc := 7) hX 1 rfl rfl dX1_minimise_7 ?_
    refine zr_iconst (pc := 8) hX zci_0 dX1_minimise_8 ?_
    obtain ⟨u3, gu3, h⟩ := bnd h
    obtain ⟨u27, gu27, hxu27, hnu27⟩ := zthr_bnd h
    rcases u27 with e28 | t4
    · have h := hxu27 _ rfl
      have hxx := hexc _ (Option.some.inj h).symm
      exact zr_callVX (pc := 9) (rest := []) hX hxx.1 hxx.2.1 (fun l s0 D hl => xX1_checkKind l s0 D hl gu27) gu3 zc0 zwX1_checkKind q1219 q1221 qs32 rfl rfl rfl rfl rfl rfl dX1_minimise_9
    · have h := hnu27 _ rfl
      refine zr_callVs (pc := 9) (rest := []) (stk' := []) (k' := 4) (n' := 24) hX (fun l s0 D => mX1_checkKind l s0 D gu27) gu3 zc0 zwX1_checkKind q1219 q1221 qs32 rfl rfl rfl rfl rfl rfl rfl rfl rfl dX1_minimise_9 ?_
      refine zr_iload_n (pc := 12) hX 2 rfl rfl dX1_minimise_12 ?_
      refine zr_iconst (pc := 13) hX zci_0 dX1_minimise_13 ?_
      refine zr_iconst (pc := 14) hX zci_1 dX1_minimise_14 ?_
      obtain ⟨u25, gu25, hxu25, hnu25⟩ := zthr_bnd h
      rcases u25 with e26 | t5
      · have h := hxu25 _ rfl
        have hxx := hexc _ (Option.some.inj h).symm
        exact zr_callSX (pc := 15) (rest := []) hX hxx.1 hxx.2.1 (fun l s0 D hl => xX1_check l s0 D hl gu25) zwX1_check q693 q694 rfl rfl rfl rfl rfl dX1_minimise_15
      · have h := hnu25 _ rfl
        refine zr_callS (pc := 15) (rest := []) (stk' := []) (k' := 5) (n' := 30) hX (fun l s0 D => mX1_check l s0 D gu25) zwX1_check q693 q694 rfl rfl rfl rfl rfl rfl rfl rfl dX1_minimise_15 ?_
        refine zr_iload_n (pc := 18) hX 3 rfl rfl dX1_minimise_18 ?_
        refine zr_iconst (pc := 19) hX zci_0 dX1_minimise_19 ?_
        refine zr_iconst (pc := 20) hX zci_2 dX1_minimise_20 ?_
        obtain ⟨u23, gu23, hxu23, hnu23⟩ := zthr_bnd h
        rcases u23 with e24 | t6
        · have h := hxu23 _ rfl
          have hxx := hexc _ (Option.some.inj h).symm
          exact zr_callSX (pc := 21) (rest := []) hX hxx.1 hxx.2.1 (fun l s0 D hl => xX1_check l s0 D hl gu23) zwX1_check q693 q694 rfl rfl rfl rfl rfl dX1_minimise_21
        · have h := hnu23 _ rfl
          refine zr_callS (pc := 21) (rest := []) (stk' := []) (k' := 6) (n' := 36) hX (fun l s0 D => mX1_check l s0 D gu23) zwX1_check q693 q694 rfl rfl rfl rfl rfl rfl rfl rfl dX1_minimise_21 ?_
          refine zr_iload (pc := 24) hX 4 rfl dX1_minimise_24 ?_
          refine zr_iconst (pc := 26) hX zci_0 dX1_minimise_26 ?_
          refine zr_iconst (pc := 27) hX zci_1 dX1_minimise_27 ?_
          obtain ⟨u21, gu21, hxu21, hnu21⟩ := zthr_bnd h
          rcases u21 with e22 | t7
          · have h := hxu21 _ rfl
            have hxx := hexc _ (Option.some.inj h).symm
            exact zr_callSX (pc := 28) (rest := []) hX hxx.1 hxx.2.1 (fun l s0 D hl => xX1_check l s0 D hl gu21) zwX1_check q693 q694 rfl rfl rfl rfl rfl dX1_minimise_28
          · have h := hnu21 _ rfl
            refine zr_callS (pc := 28) (rest := []) (stk' := []) (k' := 7) (n' := 42) hX (fun l s0 D => mX1_check l s0 D gu21) zwX1_check q693 q694 rfl rfl rfl rfl rfl rfl rfl rfl dX1_minimise_28 ?_
            refine zr_iload (pc := 31) hX 5 rfl dX1_minimise_31 ?_
            refine zr_iconst (pc := 33) hX zci_0 dX1_minimise_33 ?_
            refine zr_iconst (pc := 34) hX zci_2 dX1_minimise_34 ?_
            obtain ⟨u19, gu19, hxu19, hnu19⟩ := zthr_bnd h
            rcases u19 with e20 | t8
            · have h := hxu19 _ rfl
              have hxx := hexc _ (Option.some.inj h).symm
              exact zr_callSX (pc := 35) (rest := []) hX hxx.1 hxx.2.1 (fun l s0 D hl => xX1_check l s0 D hl gu19) zwX1_check q693 q694 rfl rfl rfl rfl rfl dX1_minimise_35
            · have h := hnu19 _ rfl
              refine zr_callS (pc := 35) (rest := []) (stk' := []) (k' := 8) (n' := 48) hX (fun l s0 D => mX1_check l s0 D gu19) zwX1_check q693 q694 rfl rfl rfl rfl rfl rfl rfl rfl dX1_minimise_35 ?_
              refine zr_aload_n (pc := 38) hX 0 rfl rfl dX1_minimise_38 ?_
              refine zr_iload_n (pc := 39) hX 1 rfl rfl dX1_minimise_39 ?_
              obtain ⟨σ9, gσ9, h⟩ := bnd h
              refine zr_pv (pc := 40) hX za0_33 gσ9 rfl q297 (Or.inl rfl) rfl (tyX1_ok 33 (Nat.le_of_ble_eq_true rfl)) rfl rfl dX1_minimise_40 ?_
              refine zr_aload_n (pc := 43) hX 0 rfl rfl dX1_minimise_43 ?_
              refine zr_bipush (pc := 44) hX zcb_16 dX1_minimise_44 ?_
              obtain ⟨σ10, gσ10, h⟩ := bnd h
              refine zr_pv (pc := 46) hX za0_34 gσ10 rfl q298 (Or.inl rfl) rfl (tyX1_ok 34 (Nat.le_of_ble_eq_true rfl)) rfl rfl dX1_minimise_46 ?_
              refine zr_aload_n (pc := 49) hX 0 rfl rfl dX1_minimise_49 ?_
              obtain ⟨r11, gr11, h⟩ := bnd h
              refine zr_fv (pc := 50) hX za0_35 (zgR_spec gr11) q299 (Or.inl rfl) dX1_minimise_50 ?_
              refine zr_iconst (pc := 53) hX zci_0 dX1_minimise_53 ?_
              obtain ⟨σ12, gσ12, h⟩ := bnd h
              refine zr_new (pc := 54) (k' := 9) (n' := 52) (sz' := sz + 1) hX zc16 tyX18_ok zfs16 q262 q1568 q148 rfl rfl rfl (Option.some.inj gσ12) rfl dX1_minimise_54 ?_
              refine zr_dup (pc := 57) hX rfl dX1_minimise_57 ?_
              refine zr_iload_n (pc := 58) hX 2 rfl rfl dX1_minimise_58 ?_
              refine zr_iload_n (pc := 59) hX 3 rfl rfl dX1_minimise_59 ?_
              obtain ⟨t13, gt13, h⟩ := bnd h
              refine zr_callI (pc := 60) (rest := [.ref sz, .int (0 : Int32), .ref r11]) (k' := 16) (n' := 1668) hX (fun l s0 D => mX18_init l s0 D gt13) zwX18_init q1569 q1570 rfl rfl rfl rfl rfl rfl rfl rfl dX1_minimise_60 ?_
              obtain ⟨σ14, gσ14, h⟩ := bnd h
              refine zr_sR (pc := 63) hX gσ14 dX1_minimise_63 ?_
              refine zr_aload_n (pc := 64) hX 0 rfl rfl dX1_minimise_64 ?_
              obtain ⟨r15, gr15, h⟩ := bnd h
              refine zr_fv (pc := 65) hX za0_35 (zgR_spec gr15) q299 (Or.inl rfl) dX1_minimise_65 ?_
              refine zr_iconst (pc := 68) hX zci_1 dX1_minimise_68 ?_
              obtain ⟨σ16, gσ16, h⟩ := bnd h
              refine zr_new (pc := 69) (k' := 17) (n' := 1672) (sz' := t13.2 + 1) hX zc16 tyX18_ok zfs16 q262 q1568 q148 rfl rfl rfl (Option.some.inj gσ16) rfl dX1_minimise_69 ?_
              refine zr_dup (pc := 72) hX rfl dX1_minimise_72 ?_
              refine zr_iload (pc := 73) hX 4 rfl dX1_minimise_73 ?_
              refine zr_iload (pc := 75) hX 5 rfl dX1_minimise_75 ?_
              obtain ⟨t17, gt17, h⟩ := bnd h
              refine zr_callI (pc := 77) (rest := [.ref t13.2, .int (1 : Int32), .ref r15]) (k' := 24) (n' := 3288) hX (fun l s0 D => mX18_init l s0 D gt17) zwX18_init q1569 q1570 rfl rfl rfl rfl rfl rfl rfl rfl dX1_minimise_77 ?_
              obtain ⟨σ18, gσ18, h⟩ := bnd h
              refine zr_sR (pc := 80) hX gσ18 dX1_minimise_80 ?_
              refine VW.widen 25 3294 ?_ (Nat.le_of_ble_eq_true rfl) (Nat.le_of_ble_eq_true rfl)
              exact hret _ (Option.some.inj h).symm _ _ dX1_minimise_81
theorem mX1_minimise (l : Launch) (s0 : State) (D : zD) {σ : zH} {sz : Nat} {th : Nat} {p0 : Int32} {p1 : Int32} {p2 : Int32} {p3 : Int32} {p4 : Int32} {o : zH × Nat} (h : fX1_minimise σ sz th p0 p1 p2 p3 p4 = some (.inr o)) : zM l s0 D yX1_minimise cX1_minimise 6 none 10 213 25 3294 [.ref th, .int p0, .int p1, .int p2, .int p3, .int p4] σ sz o.1 o.2 none := by
  refine zenter (own := RX1) zplX1 rfl (Nat.le_of_ble_eq_true rfl) rfl (fun K hX hnm hret => ?_)
  exact wX1_minimise hX hnm h (fun a e => by cases e; exact hret) (fun e q => by cases q)
theorem xX1_minimise (l : Launch) (s0 : State) (D : zD) (hl : l.stackTraces = false) {σ : zH} {sz : Nat} {th : Nat} {p0 : Int32} {p1 : Int32} {p2 : Int32} {p3 : Int32} {p4 : Int32} {e : zX} (h : fX1_minimise σ sz th p0 p1 p2 p3 p4 = some (.inl e)) : zMX l s0 D yX1_minimise cX1_minimise 6 none 10 213 25 3294 [.ref th, .int p0, .int p1, .int p2, .int p3, .int p4] σ sz e.1 e.2 := by
  refine zenterX (own := RX1) hl zplX1 rfl (Nat.le_of_ble_eq_true rfl) (fun K hX hnm hT hx hth => ?_)
  exact wX1_minimise hX hnm h (fun a q => by cases q) (fun e' q => by cases q; exact ⟨hT, hx, (fun q => hth rfl (by decide) (by decide) (by decide) (by decide) q.symm)⟩)
set_option maxHeartbeats 4000000 in
theorem wX1_tree {K : zC} {σ : zH} {sz : Nat} {th : Nat} {o : (zX ⊕ (zH × Int32))} (hX : zOk K RX1 cX1_tree (some .int) 1 7 120 2 12) (hnm : zNm K yX1_tree) (h : fX1_tree σ th = some o) (hret : ∀ a, o = .inr a → zRet K cX1_tree (some .int) a.1 sz 2 12 (some (.int a.2))) (hexc : ∀ e, o = .inl e → zTr K ∧ zXok K e.1 e.2 2 12 ∧ (e.2 = σ → zTh K cX1_tree e.1 σ sz)) : VW K σ sz 0 0 0 [(0, .ref th)] [] := by
  unfold fX1_tree at h
  refine zr_aload_n (pc := 0) hX 0 rfl rfl dX1_tree_0 ?_
  obtain ⟨r1, gr1, h⟩ := bnd h
  refine zr_fv (pc := 1) hX za0_7 (zgR_spec gr1) q271 (Or.inl rfl) dX1_tree_1 ?_
  obtain ⟨x2, gx2, h⟩ := bnd h
  refine zr_fvN (pc := 4) hX za2_4 (zgI_spec gx2) q220 (Or.inl rfl) dX1_tree_4 ?_
  refine zr_bipush (pc := 7) hX zcb_16 dX1_tree_7 ?_
  obtain ⟨t3, gt3, h⟩ := bnd h
  have hJt3 : ∀ a, t3 = a → VW K σ sz 0 0 17 [(0, .ref th)] [.int a] := by
    intro a ea
    subst ea
    obtain ⟨u10, gu10, hxu10, hnu10⟩ := zthr_bnd h
    rcases u10 with e11 | t4
    · have h := hxu10 _ rfl
      have hxx := hexc _ (Option.some.inj h).symm
      exact zr_callSX (pc := 17) (rest := []) hX hxx.1 hxx.2.1 (fun l s0 D hl => xX1_checkState l s0 D hl gu10) zwX1_checkState q790 q791 rfl rfl rfl rfl rfl dX1_tree_17
    · have h := hnu10 _ rfl
      refine zr_callS (pc := 17) (rest := []) (stk' := []) (k' := 1) (n' := 6) hX (fun l s0 D => mX1_checkState l s0 D gu10) zwX1_checkState q790 q791 rfl rfl rfl rfl rfl rfl rfl rfl dX1_tree_17 ?_
      refine zr_aload_n (pc := 20) hX 0 rfl rfl dX1_tree_20 ?_
      obtain ⟨r5, gr5, h⟩ := bnd h
      refine zr_fv (pc := 21) hX za0_7 (zgR_spec gr5) q271 (Or.inl rfl) dX1_tree_21 ?_
      refine zr_iconst (pc := 24) hX zci_m1 dX1_tree_24 ?_
      refine zr_iconst (pc := 25) hX zci_m1 dX1_tree_25 ?_
      refine zr_iconst (pc := 26) hX zci_m1 dX1_tree_26 ?_
      obtain ⟨u6, gu6, h⟩ := bnd h
      obtain ⟨t7, gt7, h⟩ := bnd h
      refine zr_callVs (pc := 27) (rest := []) (stk' := []) (k' := 1) (n' := 6) hX (fun l s0 D => mX3_add l s0 D gt7) gu6 zc2 zwX3_add q1664 q1665 q1666 rfl rfl rfl rfl rfl rfl rfl rfl rfl dX1_tree_27 ?_
      refine zr_aload_n (pc := 30) hX 0 rfl rfl dX1_tree_30 ?_
      obtain ⟨r8, gr8, h⟩ := bnd h
      refine zr_fv (pc := 31) hX za0_7 (zgR_spec gr8) q271 (Or.inl rfl) dX1_tree_31 ?_
      obtain ⟨x9, gx9, h⟩ := bnd h
      refine zr_fvN (pc := 34) hX za2_4 (zgI_spec gx9) q220 (Or.inl rfl) dX1_tree_34 ?_
      refine zr_iconst (pc := 37) hX zci_1 dX1_tree_37 ?_
      refine zr_isub (pc := 38) hX dX1_tree_38 ?_
      refine VW.widen 2 12 ?_ (Nat.le_of_ble_eq_true rfl) (Nat.le_of_ble_eq_true rfl)
      exact hret _ (Option.some.inj h).symm _ _ dX1_tree_39 (Or.inl rfl)
  replace h := gt3
  refine zr_icmp_ge (pc := 9) hX 16 rfl dX1_tree_9 (fun c9_11 => ?_) (fun c9_11 => ?_)
  · rw [if_pos c9_11] at h
    refine zr_iconst (pc := 16) hX zci_0 dX1_tree_16 ?_
    exact VW.sub (hJt3 (0 : Int32) (Option.some.inj h).symm) [0] rfl
  · rw [if_neg c9_11] at h
    refine zr_iconst (pc := 12) hX zci_1 dX1_tree_12 ?_
    refine zr_goto (pc := 13) hX 17 rfl dX1_tree_13 ?_
    exact VW.sub (hJt3 (1 : Int32) (Option.some.inj h).symm) [0] rfl
theorem mX1_tree (l : Launch) (s0 : State) (D : zD) {σ : zH} {sz : Nat} {th : Nat} {o : zH × Int32} (h : fX1_tree σ th = some (.inr o)) : zM l s0 D yX1_tree cX1_tree 1 (some .int) 7 120 2 12 [.ref th] σ sz o.1 sz (some (.int o.2)) := by
  refine zenter (own := RX1) zplX1 rfl (Nat.le_of_ble_eq_true rfl) trivial (fun K hX hnm hret => ?_)
  exact wX1_tree hX hnm h (fun a e => by cases e; exact hret) (fun e q => by cases q)
theorem xX1_tree (l : Launch) (s0 : State) (D : zD) (hl : l.stackTraces = false) {σ : zH} {sz : Nat} {th : Nat} {e : zX} (h : fX1_tree σ th = some (.inl e)) : zMX l s0 D yX1_tree cX1_tree 1 (some .int) 7 120 2 12 [.ref th] σ sz e.1 e.2 := by
  refine zenterX (own := RX1) hl zplX1 rfl (Nat.le_of_ble_eq_true rfl) (fun K hX hnm hT hx hth => ?_)
  exact wX1_tree hX hnm h (fun a q => by cases q) (fun e' q => by cases q; exact ⟨hT, hx, (fun q => hth rfl (by decide) (by decide) (by decide) (by decide) q.symm)⟩)
set_option maxHeartbeats 4000000 in
theorem wX1_checkChild {K : zC} {σ : zH} {sz : Nat} {th : Nat} {p0 : Int32} {p1 : Int32} {o : (zX ⊕ Unit)} (hX : zOk K RX1 cX1_checkChild none 3 7 121 2 12) (hnm : zNm K yX1_checkChild) (h : fX1_checkChild σ th p0 p1 = some o) (hret : ∀ a, o = .inr a → zRet K cX1_checkChild none σ sz 2 12 none) (hexc : ∀ e, o = .inl e → zTr K ∧ zXok K e.1 e.2 2 12 ∧ (e.2 = σ → zTh K cX1_checkChild e.1 σ sz)) : VW K σ sz 0 0 0 [(0, .ref th), (1, .int p0), (2, .int p1)] [] := by
  unfold fX1_checkChild at h
  refine zr_iload_n (pc := 0) hX 2 rfl rfl dX1_checkChild_0 ?_
  refine zr_if_eq (pc := 1) hX 15 rfl dX1_checkChild_1 (fun c1_5 => ?_) (fun c1_5 => ?_)
  · rw [if_pos c1_5] at h
    refine VW.widen 2 12 ?_ (Nat.le_of_ble_eq_true rfl) (Nat.le_of_ble_eq_true rfl)
    exact hret _ (Option.some.inj h).symm _ _ dX1_checkChild_15
  · rw [if_neg c1_5] at h
    refine zr_iload_n (pc := 4) hX 1 rfl rfl dX1_checkChild_4 ?_
    refine zr_aload_n (pc := 5) hX 0 rfl rfl dX1_checkChild_5 ?_
    obtain ⟨r1, gr1, h⟩ := bnd h
    refine zr_fv (pc := 6) hX za0_7 (zgR_spec gr1) q271 (Or.inl rfl) dX1_checkChild_6 ?_
    obtain ⟨x2, gx2, h⟩ := bnd h
    refine zr_fvN (pc := 9) hX za2_4 (zgI_spec gx2) q220 (Or.inl rfl) dX1_checkChild_9 ?_
    obtain ⟨u4, gu4, hxu4, hnu4⟩ := zthr_bnd h
    rcases u4 with e5 | t3
    · have h := hxu4 _ rfl
      have hxx := hexc _ (Option.some.inj h).symm
      exact zr_callSX (pc := 12) (rest := []) hX hxx.1 hxx.2.1 (fun l s0 D hl => xX1_checkIndex l s0 D hl gu4) zwX1_checkIndex q931 q932 rfl rfl rfl rfl rfl dX1_checkChild_12
    · have h := hnu4 _ rfl
      refine zr_callS (pc := 12) (rest := []) (stk' := []) (k' := 1) (n' := 6) hX (fun l s0 D => mX1_checkIndex l s0 D gu4) zwX1_checkIndex q931 q932 rfl rfl rfl rfl rfl rfl rfl rfl dX1_checkChild_12 ?_
      refine VW.widen 2 12 ?_ (Nat.le_of_ble_eq_true rfl) (Nat.le_of_ble_eq_true rfl)
      exact hret _ (Option.some.inj h).symm _ _ dX1_checkChild_15
theorem mX1_checkChild (l : Launch) (s0 : State) (D : zD) {σ : zH} {sz : Nat} {th : Nat} {p0 : Int32} {p1 : Int32} {o : Unit} (h : fX1_checkChild σ th p0 p1 = some (.inr o)) : zM l s0 D yX1_checkChild cX1_checkChild 3 none 7 121 2 12 [.ref th, .int p0, .int p1] σ sz σ sz none := by
  refine zenter (own := RX1) zplX1 rfl (Nat.le_of_ble_eq_true rfl) rfl (fun K hX hnm hret => ?_)
  exact wX1_checkChild hX hnm h (fun a e => by cases e; exact hret) (fun e q => by cases q)
theorem xX1_checkChild (l : Launch) (s0 : State) (D : zD) (hl : l.stackTraces = false) {σ : zH} {sz : Nat} {th : Nat} {p0 : Int32} {p1 : Int32} {e : zX} (h : fX1_checkChild σ th p0 p1 = some (.inl e)) : zMX l s0 D yX1_checkChild cX1_checkChild 3 none 7 121 2 12 [.ref th, .int p0, .int p1] σ sz e.1 e.2 := by
  refine zenterX (own := RX1) hl zplX1 rfl (Nat.le_of_ble_eq_true rfl) (fun K hX hnm hT hx hth => ?_)
  exact wX1_checkChild hX hnm h (fun a q => by cases q) (fun e' q => by cases q; exact ⟨hT, hx, (fun q => hth rfl (by decide) (by decide) (by decide) (by decide) q.symm)⟩)
set_option maxHeartbeats 4000000 in
theorem wX1_term {K : zC} {σ : zH} {sz : Nat} {th : Nat} {p0 : Int32} {p1 : Int32} {p2 : Int32} {o : (zX ⊕ (zH × Int32))} (hX : zOk K RX1 cX1_term (some .int) 4 8 143 8 48) (hnm : zNm K yX1_term) (h : fX1_term σ th p0 p1 p2 = some o) (hret : ∀ a, o = .inr a → zRet K cX1_term (some .int) a.1 sz 8 48 (some (.int a.2))) (hexc : ∀ e, o = .inl e → zTr K ∧ zXok K e.1 e.2 8 48 ∧ (e.2 = σ → zTh K cX1_term e.1 σ sz)) : VW K σ sz 0 0 0 [(0, .ref th), (1, .int p0), (2, .int p1), (3, .int p2)] [] := by
  unfold fX1_term at h
  refine zr_iload_n (pc := 0) hX 1 rfl rfl dX1_term_0 ?_
  refine zr_iconst (pc := 1) hX zci_0 dX1_term_1 ?_
  refine zr_iconst (pc := 2) hX zci_5 dX1_term_2 ?_
  obtain ⟨u40, gu40, hxu40, hnu40⟩ := zthr_bnd h
  rcases u40 with e41 | t1
  · have h := hxu40 _ rfl
    have hxx := hexc _ (Option.some.inj h).symm
    exact zr_callSX (pc := 3) (rest := []) hX hxx.1 hxx.2.1 (fun l s0 D hl => xX1_check l s0 D hl gu40) zwX1_check q693 q694 rfl rfl rfl rfl rfl dX1_term_3
  · have h := hnu40 _ rfl
    refine zr_callS (pc := 3) (rest := []) (stk' := []) (k' := 1) (n' := 6) hX (fun l s0 D => mX1_check l s0 D gu40) zwX1_check q693 q694 rfl rfl rfl rfl rfl rfl rfl rfl dX1_term_3 ?_
    refine zr_aload_n (pc := 6) hX 0 rfl rfl dX1_term_6 ?_
    refine zr_iload_n (pc := 7) hX 2 rfl rfl dX1_term_7 ?_
    refine zr_iload_n (pc := 8) hX 1 rfl rfl dX1_term_8 ?_
    refine zr_iconst (pc := 9) hX zci_2 dX1_term_9 ?_
    obtain ⟨t2, gt2, h⟩ := bnd h
    have hJt2 : ∀ a, t2 = a → VW K σ sz 1 6 18 [(0, .ref th), (1, .int p0), (2, .int p1), (3, .int p2)] [.int a, .int p1, .ref th] := by
      intro a ea
      subst ea
      obtain ⟨u3, gu3, h⟩ := bnd h
      obtain ⟨u37, gu37, hxu37, hnu37⟩ := zthr_bnd h
      rcases u37 with e38 | t4
      · have h := hxu37 _ rfl
        have hxx := hexc _ (Option.some.inj h).symm
        exact zr_callVX (pc := 18) (rest := []) hX hxx.1 hxx.2.1 (fun l s0 D hl => xX1_checkChild l s0 D hl gu37) gu3 zc0 zwX1_checkChild q1675 q1677 qs50 rfl rfl rfl rfl rfl rfl dX1_term_18
      · have h := hnu37 _ rfl
        refine zr_callVs (pc := 18) (rest := []) (stk' := []) (k' := 3) (n' := 18) hX (fun l s0 D => mX1_checkChild l s0 D gu37) gu3 zc0 zwX1_checkChild q1675 q1677 qs50 rfl rfl rfl rfl rfl rfl rfl rfl rfl dX1_term_18 ?_
        refine zr_aload_n (pc := 21) hX 0 rfl rfl dX1_term_21 ?_
        refine zr_iload_n (pc := 22) hX 3 rfl rfl dX1_term_22 ?_
        refine zr_iload_n (pc := 23) hX 1 rfl rfl dX1_term_23 ?_
        refine zr_iconst (pc := 24) hX zci_4 dX1_term_24 ?_
        obtain ⟨t5, gt5, h⟩ := bnd h
        have hJt5 : ∀ a, t5 = a → VW K σ sz 3 18 33 [(0, .ref th), (1, .int p0), (2, .int p1), (3, .int p2)] [.int a, .int p2, .ref th] := by
          intro a ea
          subst ea
          obtain ⟨u6, gu6, h⟩ := bnd h
          obtain ⟨u34, gu34, hxu34, hnu34⟩ := zthr_bnd h
          rcases u34 with e35 | t7
          · have h := hxu34 _ rfl
            have hxx := hexc _ (Option.some.inj h).symm
            exact zr_callVX (pc := 33) (rest := []) hX hxx.1 hxx.2.1 (fun l s0 D hl => xX1_checkChild l s0 D hl gu34) gu6 zc0 zwX1_checkChild q1675 q1677 qs50 rfl rfl rfl rfl rfl rfl dX1_term_33
          · have h := hnu34 _ rfl
            refine zr_callVs (pc := 33) (rest := []) (stk' := []) (k' := 5) (n' := 30) hX (fun l s0 D => mX1_checkChild l s0 D gu34) gu6 zc0 zwX1_checkChild q1675 q1677 qs50 rfl rfl rfl rfl rfl rfl rfl rfl rfl dX1_term_33 ?_
            refine zr_iload_n (pc := 36) hX 1 rfl rfl dX1_term_36 ?_
            refine zr_iconst (pc := 37) hX zci_2 dX1_term_37 ?_
            obtain ⟨t8, gt8, h⟩ := bnd h
            have hJt8 : ∀ a, t8 = a → VW K σ sz 5 30 61 [(0, .ref th), (1, .int p0), (2, .int p1), (3, .int p2)] [.int a] := by
              intro a ea
              subst ea
              obtain ⟨u22, gu22, hxu22, hnu22⟩ := zthr_bnd h
              rcases u22 with e23 | t9
              · have h := hxu22 _ rfl
                have hxx := hexc _ (Option.some.inj h).symm
                exact zr_callSX (pc := 61) (rest := []) hX hxx.1 hxx.2.1 (fun l s0 D hl => xX1_checkArgument l s0 D hl gu22) zwX1_checkArgument q762 q763 rfl rfl rfl rfl rfl dX1_term_61
              · have h := hnu22 _ rfl
                refine zr_callS (pc := 61) (rest := []) (stk' := []) (k' := 6) (n' := 36) hX (fun l s0 D => mX1_checkArgument l s0 D gu22) zwX1_checkArgument q762 q763 rfl rfl rfl rfl rfl rfl rfl rfl dX1_term_61 ?_
                refine zr_aload_n (pc := 64) hX 0 rfl rfl dX1_term_64 ?_
                obtain ⟨r10, gr10, h⟩ := bnd h
                refine zr_fv (pc := 65) hX za0_7 (zgR_spec gr10) q271 (Or.inl rfl) dX1_term_65 ?_
                obtain ⟨x11, gx11, h⟩ := bnd h
                refine zr_fvN (pc := 68) hX za2_4 (zgI_spec gx11) q220 (Or.inl rfl) dX1_term_68 ?_
                refine zr_bipush (pc := 71) hX zcb_16 dX1_term_71 ?_
                obtain ⟨t12, gt12, h⟩ := bnd h
                have hJt12 : ∀ a, t12 = a → VW K σ sz 6 36 81 [(0, .ref th), (1, .int p0), (2, .int p1), (3, .int p2)] [.int a] := by
                  intro a ea
                  subst ea
                  obtain ⟨u19, gu19, hxu19, hnu19⟩ := zthr_bnd h
                  rcases u19 with e20 | t13
                  · have h := hxu19 _ rfl
                    have hxx := hexc _ (Option.some.inj h).symm
                    exact zr_callSX (pc := 81) (rest := []) hX hxx.1 hxx.2.1 (fun l s0 D hl => xX1_checkState l s0 D hl gu19) zwX1_checkState q790 q791 rfl rfl rfl rfl rfl dX1_term_81
                  · have h := hnu19 _ rfl
                    refine zr_callS (pc := 81) (rest := []) (stk' := []) (k' := 7) (n' := 42) hX (fun l s0 D => mX1_checkState l s0 D gu19) zwX1_checkState q790 q791 rfl rfl rfl rfl rfl rfl rfl rfl dX1_term_81 ?_
                    refine zr_aload_n (pc := 84) hX 0 rfl rfl dX1_term_84 ?_
                    obtain ⟨r14, gr14, h⟩ := bnd h
                    refine zr_fv (pc := 85) hX za0_7 (zgR_spec gr14) q271 (Or.inl rfl) dX1_term_85 ?_
                    refine zr_iload_n (pc := 88) hX 1 rfl rfl dX1_term_88 ?_
                    refine zr_iload_n (pc := 89) hX 2 rfl rfl dX1_term_89 ?_
                    refine zr_iload_n (pc := 90) hX 3 rfl rfl dX1_term_90 ?_
                    obtain ⟨u15, gu15, h⟩ := bnd h
                    obtain ⟨t16, gt16, h⟩ := bnd h
                    refine zr_callVs (pc := 91) (rest := []) (stk' := []) (k' := 7) (n' := 42) hX (fun l s0 D => mX3_add l s0 D gt16) gu15 zc2 zwX3_add q1664 q1665 q1666 rfl rfl rfl rfl rfl rfl rfl rfl rfl dX1_term_91 ?_
                    refine zr_aload_n (pc := 94) hX 0 rfl rfl dX1_term_94 ?_
                    obtain ⟨r17, gr17, h⟩ := bnd h
                    refine zr_fv (pc := 95) hX za0_7 (zgR_spec gr17) q271 (Or.inl rfl) dX1_term_95 ?_
                    obtain ⟨x18, gx18, h⟩ := bnd h
                    refine zr_fvN (pc := 98) hX za2_4 (zgI_spec gx18) q220 (Or.inl rfl) dX1_term_98 ?_
                    refine zr_iconst (pc := 101) hX zci_1 dX1_term_101 ?_
                    refine zr_isub (pc := 102) hX dX1_term_102 ?_
                    refine VW.widen 8 48 ?_ (Nat.le_of_ble_eq_true rfl) (Nat.le_of_ble_eq_true rfl)
                    exact hret _ (Option.some.inj h).symm _ _ dX1_term_103 (Or.inl rfl)
                replace h := gt12
                refine zr_icmp_ge (pc := 73) hX 80 rfl dX1_term_73 (fun c73_20 => ?_) (fun c73_20 => ?_)
                · rw [if_pos c73_20] at h
                  refine zr_iconst (pc := 80) hX zci_0 dX1_term_80 ?_
                  exact VW.sub (hJt12 (0 : Int32) (Option.some.inj h).symm) [0, 1, 2, 3] rfl
                · rw [if_neg c73_20] at h
                  refine zr_iconst (pc := 76) hX zci_1 dX1_term_76 ?_
                  refine zr_goto (pc := 77) hX 81 rfl dX1_term_77 ?_
                  exact VW.sub (hJt12 (1 : Int32) (Option.some.inj h).symm) [0, 1, 2, 3] rfl
            replace h := gt8
            obtain ⟨u25, gu25, hAu25, hBu25⟩ := zesc_bnd h
            have hJt24 : ∀ a, u25 = .inl a → VW K σ sz 5 30 60 [(0, .ref th), (1, .int p0), (2, .int p1), (3, .int p2)] [] := by
              intro t24 ea
              have h := hAu25 _ ea
              refine zr_iconst (pc := 60) hX zci_0 dX1_term_60 ?_
              exact VW.sub (hJt8 (0 : Int32) (Option.some.inj h).symm) [0, 1, 2, 3] rfl
            replace h := gu25
            obtain ⟨u31, gu31, hAu31, hBu31⟩ := zesc_bnd h
            have hJt26 : ∀ a, u31 = .inl a → VW K σ sz 5 30 46 [(0, .ref th), (1, .int p0), (2, .int p1), (3, .int p2)] [] := by
              intro t26 ea
              have h := hAu31 _ ea
              refine zr_iload_n (pc := 46) hX 1 rfl rfl dX1_term_46 ?_
              refine zr_iconst (pc := 47) hX zci_4 dX1_term_47 ?_
              obtain ⟨u28, gu28, hAu28, hBu28⟩ := zesc_bnd h
              have hJt27 : ∀ a, u28 = .inl a → VW K σ sz 5 30 56 [(0, .ref th), (1, .int p0), (2, .int p1), (3, .int p2)] [] := by
                intro t27 ea
                have h := hAu28 _ ea
                refine zr_iconst (pc := 56) hX zci_1 dX1_term_56 ?_
                refine zr_goto (pc := 57) hX 61 rfl dX1_term_57 ?_
                replace h := congrArg some (hBu25 _ (Option.some.inj h).symm)
                exact VW.sub (hJt8 (1 : Int32) (Option.some.inj h).symm) [0, 1, 2, 3] rfl
              replace h := gu28
              refine zr_icmp_ge (pc := 48) hX 56 rfl dX1_term_48 (fun c48_29 => ?_) (fun c48_29 => ?_)
              · rw [if_pos c48_29] at h
                exact VW.sub (hJt27 () (Option.some.inj h).symm) [0, 1, 2, 3] rfl
              · rw [if_neg c48_29] at h
                refine zr_iload_n (pc := 51) hX 3 rfl rfl dX1_term_51 ?_
                refine zr_iconst (pc := 52) hX zci_m1 dX1_term_52 ?_
                refine zr_icmp_ne (pc := 53) hX 60 rfl dX1_term_53 (fun c53_28 => ?_) (fun c53_28 => ?_)
                · rw [if_neg c53_28] at h
                  replace h := congrArg some (hBu28 _ (Option.some.inj h).symm)
                  exact VW.sub (hJt24 () (Option.some.inj h).symm) [0, 1, 2, 3] rfl
                · rw [if_pos c53_28] at h
                  exact VW.sub (hJt27 () (Option.some.inj h).symm) [0, 1, 2, 3] rfl
            replace h := gu31
            refine zr_icmp_ge (pc := 38) hX 46 rfl dX1_term_38 (fun c38_32 => ?_) (fun c38_32 => ?_)
            · rw [if_pos c38_32] at h
              exact VW.sub (hJt26 () (Option.some.inj h).symm) [0, 1, 2, 3] rfl
            · rw [if_neg c38_32] at h
              refine zr_iload_n (pc := 41) hX 2 rfl rfl dX1_term_41 ?_
              refine zr_iconst (pc := 42) hX zci_m1 dX1_term_42 ?_
              refine zr_icmp_ne (pc := 43) hX 60 rfl dX1_term_43 (fun c43_31 => ?_) (fun c43_31 => ?_)
              · rw [if_neg c43_31] at h
                replace h := congrArg some (hBu31 _ (Option.some.inj h).symm)
                exact VW.sub (hJt24 () (Option.some.inj h).symm) [0, 1, 2, 3] rfl
              · rw [if_pos c43_31] at h
                exact VW.sub (hJt26 () (Option.some.inj h).symm) [0, 1, 2, 3] rfl
        replace h := gt5
        refine zr_icmp_lt (pc := 25) hX 32 rfl dX1_term_25 (fun c25_35 => ?_) (fun c25_35 => ?_)
        · rw [if_pos c25_35] at h
          refine zr_iconst (pc := 32) hX zci_0 dX1_term_32 ?_
          exact VW.sub (hJt5 (0 : Int32) (Option.some.inj h).symm) [0, 1, 2, 3] rfl
        · rw [if_neg c25_35] at h
          refine zr_iconst (pc := 28) hX zci_1 dX1_term_28 ?_
          refine zr_goto (pc := 29) hX 33 rfl dX1_term_29 ?_
          exact VW.sub (hJt5 (1 : Int32) (Option.some.inj h).symm) [0, 1, 2, 3] rfl
    replace h := gt2
    refine zr_icmp_lt (pc := 10) hX 17 rfl dX1_term_10 (fun c10_38 => ?_) (fun c10_38 => ?_)
    · rw [if_pos c10_38] at h
      refine zr_iconst (pc := 17) hX zci_0 dX1_term_17 ?_
      exact VW.sub (hJt2 (0 : Int32) (Option.some.inj h).symm) [0, 1, 2, 3] rfl
    · rw [if_neg c10_38] at h
      refine zr_iconst (pc := 13) hX zci_1 dX1_term_13 ?_
      refine zr_goto (pc := 14) hX 18 rfl dX1_term_14 ?_
      exact VW.sub (hJt2 (1 : Int32) (Option.some.inj h).symm) [0, 1, 2, 3] rfl
theorem mX1_term (l : Launch) (s0 : State) (D : zD) {σ : zH} {sz : Nat} {th : Nat} {p0 : Int32} {p1 : Int32} {p2 : Int32} {o : zH × Int32} (h : fX1_term σ th p0 p1 p2 = some (.inr o)) : zM l s0 D yX1_term cX1_term 4 (some .int) 8 143 8 48 [.ref th, .int p0, .int p1, .int p2] σ sz o.1 sz (some (.int o.2)) := by
  refine zenter (own := RX1) zplX1 rfl (Nat.le_of_ble_eq_true rfl) trivial (fun K hX hnm hret => ?_)
  exact wX1_term hX hnm h (fun a e => by cases e; exact hret) (fun e q => by cases q)
theorem xX1_term (l : Launch) (s0 : State) (D : zD) (hl : l.stackTraces = false) {σ : zH} {sz : Nat} {th : Nat} {p0 : Int32} {p1 : Int32} {p2 : Int32} {e : zX} (h : fX1_term σ th p0 p1 p2 = some (.inl e)) : zMX l s0 D yX1_term cX1_term 4 (some .int) 8 143 8 48 [.ref th, .int p0, .int p1, .int p2] σ sz e.1 e.2 := by
  refine zenterX (own := RX1) hl zplX1 rfl (Nat.le_of_ble_eq_true rfl) (fun K hX hnm hT hx hth => ?_)
  exact wX1_term hX hnm h (fun a q => by cases q) (fun e' q => by cases q; exact ⟨hT, hx, (fun q => hth rfl (by decide) (by decide) (by decide) (by decide) q.symm)⟩)
set_option maxHeartbeats 4000000 in
theorem wX1_unify {K : zC} {n : Nat} {σ : zH} {sz : Nat} {th : Nat} {p0 : Int32} {p1 : Int32} {o : (zX ⊕ (zH × Int32))} (hX : zOk K RX1 cX1_unify (some .int) 5 37 1020 4 24) (hnm : zNm K yX1_unify) (h : fX1_unify n σ th p0 p1 = some o) (hret : ∀ a, o = .inr a → zRet K cX1_unify (some .int) a.1 sz 4 24 (some (.int a.2))) (hexc : ∀ e, o = .inl e → zTr K ∧ zXok K e.1 e.2 4 24 ∧ (e.2 = σ → zTh K cX1_unify e.1 σ sz)) : VW K σ sz 0 0 0 [(0, .ref th), (1, .int p0), (2, .int p1)] [] := by
  unfold fX1_unify at h
  refine zr_iload_n (pc := 0) hX 1 rfl rfl dX1_unify_0 ?_
  refine zr_aload_n (pc := 1) hX 0 rfl rfl dX1_unify_1 ?_
  obtain ⟨r1, gr1, h⟩ := bnd h
  refine zr_fv (pc := 2) hX za0_7 (zgR_spec gr1) q271 (Or.inl rfl) dX1_unify_2 ?_
  obtain ⟨x2, gx2, h⟩ := bnd h
  refine zr_fvN (pc := 5) hX za2_4 (zgI_spec gx2) q220 (Or.inl rfl) dX1_unify_5 ?_
  obtain ⟨u36, gu36, hxu36, hnu36⟩ := zthr_bnd h
  rcases u36 with e37 | t3
  · have h := hxu36 _ rfl
    have hxx := hexc _ (Option.some.inj h).symm
    exact zr_callSX (pc := 8) (rest := []) hX hxx.1 hxx.2.1 (fun l s0 D hl => xX1_checkIndex l s0 D hl gu36) zwX1_checkIndex q931 q932 rfl rfl rfl rfl rfl dX1_unify_8
  · have h := hnu36 _ rfl
    refine zr_callS (pc := 8) (rest := []) (stk' := []) (k' := 1) (n' := 6) hX (fun l s0 D => mX1_checkIndex l s0 D gu36) zwX1_checkIndex q931 q932 rfl rfl rfl rfl rfl rfl rfl rfl dX1_unify_8 ?_
    refine zr_iload_n (pc := 11) hX 2 rfl rfl dX1_unify_11 ?_
    refine zr_aload_n (pc := 12) hX 0 rfl rfl dX1_unify_12 ?_
    obtain ⟨r4, gr4, h⟩ := bnd h
    refine zr_fv (pc := 13) hX za0_7 (zgR_spec gr4) q271 (Or.inl rfl) dX1_unify_13 ?_
    obtain ⟨x5, gx5, h⟩ := bnd h
    refine zr_fvN (pc := 16) hX za2_4 (zgI_spec gx5) q220 (Or.inl rfl) dX1_unify_16 ?_
    obtain ⟨u34, gu34, hxu34, hnu34⟩ := zthr_bnd h
    rcases u34 with e35 | t6
    · have h := hxu34 _ rfl
      have hxx := hexc _ (Option.some.inj h).symm
      exact zr_callSX (pc := 19) (rest := []) hX hxx.1 hxx.2.1 (fun l s0 D hl => xX1_checkIndex l s0 D hl gu34) zwX1_checkIndex q931 q932 rfl rfl rfl rfl rfl dX1_unify_19
    · have h := hnu34 _ rfl
      refine zr_callS (pc := 19) (rest := []) (stk' := []) (k' := 2) (n' := 12) hX (fun l s0 D => mX1_checkIndex l s0 D gu34) zwX1_checkIndex q931 q932 rfl rfl rfl rfl rfl rfl rfl rfl dX1_unify_19 ?_
      refine zr_aload_n (pc := 22) hX 0 rfl rfl dX1_unify_22 ?_
      obtain ⟨r7, gr7, h⟩ := bnd h
      refine zr_fv (pc := 23) hX za0_8 (zgR_spec gr7) q272 (Or.inl rfl) dX1_unify_23 ?_
      refine zr_aload_n (pc := 26) hX 0 rfl rfl dX1_unify_26 ?_
      obtain ⟨r8, gr8, h⟩ := bnd h
      refine zr_fv (pc := 27) hX za0_7 (zgR_spec gr8) q271 (Or.inl rfl) dX1_unify_27 ?_
      obtain ⟨u9, gu9, h⟩ := bnd h
      obtain ⟨t10, gt10, h⟩ := bnd h
      refine zr_callVs (pc := 30) (rest := []) (stk' := []) (k' := 2) (n' := 12) hX (fun l s0 D => mX3_copy l s0 D gt10) gu9 zc2 zwX3_copy q1686 q1687 q1688 rfl rfl rfl rfl rfl rfl rfl rfl rfl dX1_unify_30 ?_
      refine zr_aload_n (pc := 33) hX 0 rfl rfl dX1_unify_33 ?_
      obtain ⟨r11, gr11, h⟩ := bnd h
      refine zr_fv (pc := 34) hX za0_8 (zgR_spec gr11) q272 (Or.inl rfl) dX1_unify_34 ?_
      refine zr_iload_n (pc := 37) hX 1 rfl rfl dX1_unify_37 ?_
      refine zr_iload_n (pc := 38) hX 2 rfl rfl dX1_unify_38 ?_
      obtain ⟨u12, gu12, h⟩ := bnd h
      obtain ⟨t13, gt13, h⟩ := bnd h
      refine zr_callVs (pc := 39) (rest := []) (stk' := [.int t13.2]) (k' := 2) (n' := 12) hX (fun l s0 D => mX3_unify l s0 D gt13) gu12 zc2 zwX3_unify q1690 q1691 q1692 rfl rfl rfl rfl rfl rfl rfl rfl rfl dX1_unify_39 ?_
      obtain ⟨u32, gu32, hxu32, hnu32⟩ := zthr_bnd h
      rcases u32 with e33 | t14
      · have h := hxu32 _ rfl
        have hxx := hexc _ (Option.some.inj h).symm
        exact zr_callSX (pc := 42) (rest := []) hX hxx.1 hxx.2.1 (fun l s0 D hl => xX1_checkState l s0 D hl gu32) zwX1_checkState q790 q791 rfl rfl rfl rfl rfl dX1_unify_42
      · have h := hnu32 _ rfl
        refine zr_callS (pc := 42) (rest := []) (stk' := []) (k' := 3) (n' := 18) hX (fun l s0 D => mX1_checkState l s0 D gu32) zwX1_checkState q790 q791 rfl rfl rfl rfl rfl rfl rfl rfl dX1_unify_42 ?_
        refine zr_aload_n (pc := 45) hX 0 rfl rfl dX1_unify_45 ?_
        obtain ⟨r15, gr15, h⟩ := bnd h
        refine zr_fv (pc := 46) hX za0_7 (zgR_spec gr15) q271 (Or.inl rfl) dX1_unify_46 ?_
        refine zr_aload_n (pc := 49) hX 0 rfl rfl dX1_unify_49 ?_
        obtain ⟨r16, gr16, h⟩ := bnd h
        refine zr_fv (pc := 50) hX za0_8 (zgR_spec gr16) q272 (Or.inl rfl) dX1_unify_50 ?_
        obtain ⟨u17, gu17, h⟩ := bnd h
        obtain ⟨t18, gt18, h⟩ := bnd h
        refine zr_callVs (pc := 53) (rest := []) (stk' := []) (k' := 3) (n' := 18) hX (fun l s0 D => mX3_copy l s0 D gt18) gu17 zc2 zwX3_copy q1686 q1687 q1688 rfl rfl rfl rfl rfl rfl rfl rfl rfl dX1_unify_53 ?_
        refine zr_aload_n (pc := 56) hX 0 rfl rfl dX1_unify_56 ?_
        refine zr_iconst (pc := 57) hX zci_0 dX1_unify_57 ?_
        obtain ⟨σ19, gσ19, h⟩ := bnd h
        refine zr_pZ (pc := 58) hX za0_10 gσ19 rfl q274 (Or.inl rfl) rfl (tyX1_ok 10 (Nat.le_of_ble_eq_true rfl)) dX1_unify_58 ?_
        refine zr_iconst (pc := 61) hX zci_0 dX1_unify_61 ?_
        refine zr_istore_n (pc := 62) hX rfl rfl (Nat.le_of_ble_eq_true rfl) rfl dX1_unify_62 ?_
        refine zr_iconst (pc := 63) hX zci_0 dX1_unify_63 ?_
        refine zr_istore (pc := 64) hX rfl (Nat.le_of_ble_eq_true rfl) rfl dX1_unify_64 ?_
        refine VW.sub (lv' := [(0, .ref th), (3, .int (0 : Int32)), (4, .int (0 : Int32))]) ?_ [2, 1, 0] rfl
        refine zloop_walk (V := (fun a => VW K σ19 sz 3 18 66 [(0, .ref th), (3, .int a.1), (4, .int a.2)] [])) (E := fun e => e = o) ?_ n ((0 : Int32), (0 : Int32)) _ h rfl
        intro a20 o21 h kco21 keo21
        unfold fX1_unify_L66 at h
        refine zr_iload (pc := 66) hX 2 rfl dX1_unify_66 ?_
        refine zr_aload_n (pc := 68) hX 0 rfl rfl dX1_unify_68 ?_
        obtain ⟨r22, gr22, h⟩ := bnd h
        refine zr_fv (pc := 69) hX za0_7 (zgR_spec gr22) q271 (Or.inl rfl) dX1_unify_69 ?_
        obtain ⟨x23, gx23, h⟩ := bnd h
        refine zr_fvN (pc := 72) hX za2_4 (zgI_spec gx23) q220 (Or.inl rfl) dX1_unify_72 ?_
        refine zr_icmp_ge (pc := 75) hX 106 rfl dX1_unify_75 (fun c75_30 => ?_) (fun c75_30 => ?_)
        · rw [if_pos c75_30] at h
          refine zr_iload_n (pc := 106) hX 1 rfl rfl dX1_unify_106 ?_
          replace h := congrArg some (keo21 _ (Option.some.inj h).symm)
          refine VW.widen 4 24 ?_ (Nat.le_of_ble_eq_true rfl) (Nat.le_of_ble_eq_true rfl)
          exact hret _ (Option.some.inj h).symm _ _ dX1_unify_107 (Or.inl rfl)
        · rw [if_neg c75_30] at h
          refine zr_iload_n (pc := 78) hX 1 rfl rfl dX1_unify_78 ?_
          refine zr_aload_n (pc := 79) hX 0 rfl rfl dX1_unify_79 ?_
          obtain ⟨r24, gr24, h⟩ := bnd h
          refine zr_fv (pc := 80) hX za0_7 (zgR_spec gr24) q271 (Or.inl rfl) dX1_unify_80 ?_
          refine zr_iload (pc := 83) hX 2 rfl dX1_unify_83 ?_
          obtain ⟨u25, gu25, h⟩ := bnd h
          obtain ⟨t26, gt26, h⟩ := bnd h
          refine zr_callVs (pc := 85) (rest := [.int a20.1]) (stk' := [.int t26, .int a20.1]) (k' := 3) (n' := 18) hX (fun l s0 D => mX3_one l s0 D gt26) gu25 zc2 zwX3_one q1697 q646 q647 rfl rfl rfl rfl rfl rfl rfl rfl rfl dX1_unify_85 ?_
          refine zr_iload (pc := 88) hX 2 rfl dX1_unify_88 ?_
          obtain ⟨t27, gt27, h⟩ := bnd h
          have hJt27 : ∀ a, t27 = a → VW K σ19 sz 3 18 98 [(0, .ref th), (4, .int a20.2)] [.int a, .int a20.1] := by
            intro a ea
            subst ea
            refine zr_iadd (pc := 98) hX dX1_unify_98 ?_
            obtain ⟨x28, gx28, h⟩ := bnd h
            refine zr_istore_n (pc := 99) hX (Option.some.inj gx28) rfl (Nat.le_of_ble_eq_true rfl) rfl dX1_unify_99 ?_
            obtain ⟨x29, gx29, h⟩ := bnd h
            refine zr_iinc (pc := 100) hX 2 rfl zci_1 (Option.some.inj gx29) (Nat.le_of_ble_eq_true rfl) rfl dX1_unify_100 ?_
            refine zr_goto (pc := 103) hX 66 rfl dX1_unify_103 ?_
            exact VW.sub (kco21 (x28, x29) (Option.some.inj h).symm) [2, 1, 0] rfl
          replace h := gt27
          refine zr_icmp_ne (pc := 90) hX 97 rfl dX1_unify_90 (fun c90_29 => ?_) (fun c90_29 => ?_)
          · rw [if_neg c90_29] at h
            refine zr_iconst (pc := 97) hX zci_0 dX1_unify_97 ?_
            exact VW.sub (hJt27 (0 : Int32) (Option.some.inj h).symm) [0, 2] rfl
          · rw [if_pos c90_29] at h
            refine zr_iconst (pc := 93) hX zci_1 dX1_unify_93 ?_
            refine zr_goto (pc := 94) hX 98 rfl dX1_unify_94 ?_
            exact VW.sub (hJt27 (1 : Int32) (Option.some.inj h).symm) [0, 2] rfl
theorem mX1_unify (l : Launch) (s0 : State) (D : zD) {n : Nat} {σ : zH} {sz : Nat} {th : Nat} {p0 : Int32} {p1 : Int32} {o : zH × Int32} (h : fX1_unify n σ th p0 p1 = some (.inr o)) : zM l s0 D yX1_unify cX1_unify 5 (some .int) 37 1020 4 24 [.ref th, .int p0, .int p1] σ sz o.1 sz (some (.int o.2)) := by
  refine zenter (own := RX1) zplX1 rfl (Nat.le_of_ble_eq_true rfl) trivial (fun K hX hnm hret => ?_)
  exact wX1_unify hX hnm h (fun a e => by cases e; exact hret) (fun e q => by cases q)
theorem xX1_unify (l : Launch) (s0 : State) (D : zD) (hl : l.stackTraces = false) {n : Nat} {σ : zH} {sz : Nat} {th : Nat} {p0 : Int32} {p1 : Int32} {e : zX} (h : fX1_unify n σ th p0 p1 = some (.inl e)) : zMX l s0 D yX1_unify cX1_unify 5 (some .int) 37 1020 4 24 [.ref th, .int p0, .int p1] σ sz e.1 e.2 := by
  refine zenterX (own := RX1) hl zplX1 rfl (Nat.le_of_ble_eq_true rfl) (fun K hX hnm hT hx hth => ?_)
  exact wX1_unify hX hnm h (fun a q => by cases q) (fun e' q => by cases q; exact ⟨hT, hx, (fun q => hth rfl (by decide) (by decide) (by decide) (by decide) q.symm)⟩)
set_option maxHeartbeats 4000000 in
theorem mX1_areAlike_2_d : ∀ (d : Nat) (l : Launch) (s0 : State) (D : zD) {n : Nat} {σ : zH} {sz : Nat} {th : Nat} {p0 : Int32} {p1 : Int32} {p2 : Nat} {o : zH × Int32} (h : fX1_areAlike_2 d n σ th p0 p1 p2 = some o), zM l s0 D yX1_areAlike_2 cX1_areAlike_2 8 (some .boolean) (3 + d) (46 + d * 27) 0 0 [.ref th, .int p0, .int p1, .ref p2] σ sz o.1 sz (some (.int o.2)) := by
  intro d
  induction d with
  | zero => intro l s0 D; intros; rename_i h; cases h
  | succ d ih =>
    intro l s0 D n σ sz th p0 p1 p2 o h
    replace h : fX1_areAlike_2_B (fX1_areAlike_2 d) n σ th p0 p1 p2 = some o := h
    refine zenter (own := RX1) zplX1 rfl (Nat.le_of_ble_eq_true rfl) trivial (fun K hX hnm hret => ?_)
    unfold fX1_areAlike_2_B at h
    have hret : ∀ a, o = a → zRet K cX1_areAlike_2 (some .boolean) a.1 sz 0 0 (some (.int a.2)) := fun a e => by cases e; exact hret
    show VW K σ sz 0 0 0 [(0, .ref th), (1, .int p0), (2, .int p1), (3, .ref p2)] []
    refine zr_aload_n (pc := 0) hX 0 rfl rfl dX1_areAlike_2_0 ?_
    obtain ⟨r1, gr1, h⟩ := bnd h
    refine zr_fv (pc := 1) hX za0_7 (zgR_spec gr1) q271 (Or.inl rfl) dX1_areAlike_2_1 ?_
    refine zr_iload_n (pc := 4) hX 1 rfl rfl dX1_areAlike_2_4 ?_
    obtain ⟨u2, gu2, h⟩ := bnd h
    obtain ⟨t3, gt3, h⟩ := bnd h
    refine zr_callVs (pc := 5) (rest := []) (stk' := [.int t3]) (k' := 0) (n' := 0) hX (fun l s0 D => mX3_one l s0 D gt3) gu2 zc2 zwX3_one q1697 q646 q647 rfl (zble2 (by omega) (by omega)) rfl rfl rfl rfl rfl rfl rfl dX1_areAlike_2_5 ?_
    refine zr_istore (pc := 8) hX rfl (Nat.le_of_ble_eq_true rfl) rfl dX1_areAlike_2_8 ?_
    refine zr_aload_n (pc := 10) hX 1 rfl rfl dX1_areAlike_2_10 ?_
    obtain ⟨r4, gr4, h⟩ := bnd h
    refine zr_fv (pc := 11) hX za0_7 (zgR_spec gr4) q271 (Or.inl rfl) dX1_areAlike_2_11 ?_
    refine zr_iload_n (pc := 14) hX 3 rfl rfl dX1_areAlike_2_14 ?_
    obtain ⟨u5, gu5, h⟩ := bnd h
    obtain ⟨t6, gt6, h⟩ := bnd h
    refine zr_callVs (pc := 15) (rest := []) (stk' := [.int t6]) (k' := 0) (n' := 0) hX (fun l s0 D => mX3_one l s0 D gt6) gu5 zc2 zwX3_one q1697 q646 q647 rfl (zble2 (by omega) (by omega)) rfl rfl rfl rfl rfl rfl rfl dX1_areAlike_2_15 ?_
    refine zr_istore (pc := 18) hX rfl (Nat.le_of_ble_eq_true rfl) rfl dX1_areAlike_2_18 ?_
    refine zr_iload (pc := 20) hX 1 rfl dX1_areAlike_2_20 ?_
    refine zr_iload (pc := 22) hX 0 rfl dX1_areAlike_2_22 ?_
    refine zr_icmp_eq (pc := 24) hX 39 rfl dX1_areAlike_2_24 (fun c24_51 => ?_) (fun c24_51 => ?_)
    · rw [if_pos c24_51] at h
      refine zr_iconst (pc := 39) hX zci_1 dX1_areAlike_2_39 ?_
      exact hret _ (Option.some.inj h).symm _ _ dX1_areAlike_2_40 (Or.inr ⟨rfl, Or.inr rfl⟩)
    · rw [if_neg c24_51] at h
      refine zr_aload_n (pc := 27) hX 5 rfl rfl dX1_areAlike_2_27 ?_
      refine zr_iload (pc := 28) hX 1 rfl dX1_areAlike_2_28 ?_
      obtain ⟨x7, gx7, h⟩ := bnd h
      refine zr_aI (pc := 30) hX gx7 dX1_areAlike_2_30 ?_
      refine zr_iload (pc := 31) hX 0 rfl dX1_areAlike_2_31 ?_
      obtain ⟨t8, gt8, h⟩ := bnd h
      refine zr_callS (pc := 33) (rest := []) (stk' := [.int t8]) (k' := 0) (n' := 0) hX (fun l s0 D => mX1_has l s0 D gt8) zwX1_has q431 q432 (zble2 (by omega) (by omega)) rfl rfl rfl rfl rfl rfl rfl dX1_areAlike_2_33 ?_
      refine zr_if_eq (pc := 36) hX 41 rfl dX1_areAlike_2_36 (fun c36_50 => ?_) (fun c36_50 => ?_)
      · rw [if_pos c36_50] at h
        refine zr_aload_n (pc := 41) hX 5 rfl rfl dX1_areAlike_2_41 ?_
        refine zr_iload (pc := 42) hX 1 rfl dX1_areAlike_2_42 ?_
        refine zr_dup2 (pc := 44) hX rfl rfl dX1_areAlike_2_44 ?_
        obtain ⟨x9, gx9, h⟩ := bnd h
        refine zr_aI (pc := 45) hX gx9 dX1_areAlike_2_45 ?_
        refine zr_iconst (pc := 46) hX zci_1 dX1_areAlike_2_46 ?_
        refine zr_iload (pc := 47) hX 0 rfl dX1_areAlike_2_47 ?_
        refine zr_ishl (pc := 49) hX dX1_areAlike_2_49 ?_
        refine zr_ior (pc := 50) hX dX1_areAlike_2_50 ?_
        obtain ⟨σ10, gσ10, h⟩ := bnd h
        refine zr_sI (pc := 51) hX gσ10 dX1_areAlike_2_51 ?_
        refine zr_aload_n (pc := 52) hX 2 rfl rfl dX1_areAlike_2_52 ?_
        obtain ⟨r11, gr11, h⟩ := bnd h
        refine zr_fv (pc := 53) hX za0_7 (zgR_spec gr11) q271 (Or.inl rfl) dX1_areAlike_2_53 ?_
        refine zr_iload (pc := 56) hX 1 rfl dX1_areAlike_2_56 ?_
        obtain ⟨u12, gu12, h⟩ := bnd h
        obtain ⟨t13, gt13, h⟩ := bnd h
        refine zr_callVs (pc := 58) (rest := []) (stk' := [.int t13]) (k' := 0) (n' := 0) hX (fun l s0 D => mX3_symbol l s0 D gt13) gu12 zc2 zwX3_symbol q1709 q642 q643 rfl (zble2 (by omega) (by omega)) rfl rfl rfl rfl rfl rfl rfl dX1_areAlike_2_58 ?_
        refine zr_istore (pc := 61) hX rfl (Nat.le_of_ble_eq_true rfl) rfl dX1_areAlike_2_61 ?_
        refine zr_iload (pc := 63) hX 0 rfl dX1_areAlike_2_63 ?_
        refine zr_iconst (pc := 65) hX zci_m1 dX1_areAlike_2_65 ?_
        obtain ⟨t14, gt14, h⟩ := bnd h
        have hJt14 : ∀ a, t14 = a → VW K σ10 sz 0 0 88 [(0, .ref th), (3, .ref p2), (4, .int t3), (5, .int t6), (6, .int t13)] [.int a] := by
          intro a ea
          subst ea
          refine zr_istore (pc := 88) hX rfl (Nat.le_of_ble_eq_true rfl) rfl dX1_areAlike_2_88 ?_
          refine zr_iload (pc := 90) hX 0 rfl dX1_areAlike_2_90 ?_
          obtain ⟨t15, gt15, h⟩ := bnd h
          have hJt15 : ∀ a, t15 = a → VW K a.1 sz 0 0 134 [(0, .ref th), (3, .ref p2), (4, .int t3), (5, .int t6), (6, .int t13)] [.int a.2] := by
            intro a ea
            subst ea
            refine zr_istore (pc := 134) hX rfl (Nat.le_of_ble_eq_true rfl) rfl dX1_areAlike_2_134 ?_
            refine zr_iload (pc := 136) hX 0 rfl dX1_areAlike_2_136 ?_
            refine zr_if_eq (pc := 138) hX 179 rfl dX1_areAlike_2_138 (fun c138_27 => ?_) (fun c138_27 => ?_)
            · rw [if_pos c138_27] at h
              refine zr_iconst (pc := 179) hX zci_0 dX1_areAlike_2_179 ?_
              exact hret _ (Option.some.inj h).symm _ _ dX1_areAlike_2_180 (Or.inr ⟨rfl, Or.inl rfl⟩)
            · rw [if_neg c138_27] at h
              refine zr_iload (pc := 141) hX 5 rfl dX1_areAlike_2_141 ?_
              refine zr_iconst (pc := 143) hX zci_4 dX1_areAlike_2_143 ?_
              obtain ⟨u17, gu17, hAu17, hBu17⟩ := zesc_bnd h
              have hJt16 : ∀ a, u17 = .inl a → VW K a sz 0 0 175 [] [] := by
                intro t16 ea
                have h := hAu17 _ ea
                refine zr_iconst (pc := 175) hX zci_1 dX1_areAlike_2_175 ?_
                refine zr_goto (pc := 176) hX 180 rfl dX1_areAlike_2_176 ?_
                exact hret _ (Option.some.inj h).symm _ _ dX1_areAlike_2_180 (Or.inr ⟨rfl, Or.inr rfl⟩)
              replace h := gu17
              refine zr_icmp_lt (pc := 144) hX 175 rfl dX1_areAlike_2_144 (fun c144_26 => ?_) (fun c144_26 => ?_)
              · rw [if_pos c144_26] at h
                exact VW.sub (hJt16 t15.1 (Option.some.inj h).symm) [] rfl
              · rw [if_neg c144_26] at h
                refine zr_aload_n (pc := 147) hX 1 rfl rfl dX1_areAlike_2_147 ?_
                refine zr_aload_n (pc := 148) hX 1 rfl rfl dX1_areAlike_2_148 ?_
                obtain ⟨r18, gr18, h⟩ := bnd h
                refine zr_fv (pc := 149) hX za0_7 (zgR_spec gr18) q271 (Or.inl rfl) dX1_areAlike_2_149 ?_
                refine zr_iload (pc := 152) hX 3 rfl dX1_areAlike_2_152 ?_
                refine zr_iconst (pc := 154) hX zci_1 dX1_areAlike_2_154 ?_
                obtain ⟨u19, gu19, h⟩ := bnd h
                obtain ⟨t20, gt20, h⟩ := bnd h
                refine zr_callVs (pc := 155) (rest := [.ref th]) (stk' := [.int t20, .ref th]) (k' := 0) (n' := 0) hX (fun l s0 D => mX3_child l s0 D gt20) gu19 zc2 zwX3_child q1710 q1711 q1712 rfl (zble2 (by omega) (by omega)) rfl rfl rfl rfl rfl rfl rfl dX1_areAlike_2_155 ?_
                refine zr_aload_n (pc := 158) hX 1 rfl rfl dX1_areAlike_2_158 ?_
                obtain ⟨r21, gr21, h⟩ := bnd h
                refine zr_fv (pc := 159) hX za0_7 (zgR_spec gr21) q271 (Or.inl rfl) dX1_areAlike_2_159 ?_
                refine zr_iload (pc := 162) hX 4 rfl dX1_areAlike_2_162 ?_
                refine zr_iconst (pc := 164) hX zci_1 dX1_areAlike_2_164 ?_
                obtain ⟨u22, gu22, h⟩ := bnd h
                obtain ⟨t23, gt23, h⟩ := bnd h
                refine zr_callVs (pc := 165) (rest := [.int t20, .ref th]) (stk' := [.int t23, .int t20, .ref th]) (k' := 0) (n' := 0) hX (fun l s0 D => mX3_child l s0 D gt23) gu22 zc2 zwX3_child q1710 q1711 q1712 rfl (zble2 (by omega) (by omega)) rfl rfl rfl rfl rfl rfl rfl dX1_areAlike_2_165 ?_
                refine zr_aload_n (pc := 168) hX 2 rfl rfl dX1_areAlike_2_168 ?_
                obtain ⟨u24, gu24, h⟩ := bnd h
                obtain ⟨t25, gt25, h⟩ := bnd h
                refine zr_callVs (pc := 169) (rest := []) (stk' := [.int t25.2]) (k' := 0) (n' := 0) hX (fun l s0 D => ih l s0 D gt25) gu24 zc0 zwX1_areAlike_2 q1705 q1707 qs51 rfl (zble2 (by omega) (by omega)) rfl rfl rfl rfl rfl rfl rfl dX1_areAlike_2_169 ?_
                refine zr_if_eq (pc := 172) hX 179 rfl dX1_areAlike_2_172 (fun c172_25 => ?_) (fun c172_25 => ?_)
                · rw [if_pos c172_25] at h
                  refine zr_iconst (pc := 179) hX zci_0 dX1_areAlike_2_179 ?_
                  replace h := congrArg some (hBu17 _ (Option.some.inj h).symm)
                  exact hret _ (Option.some.inj h).symm _ _ dX1_areAlike_2_180 (Or.inr ⟨rfl, Or.inl rfl⟩)
                · rw [if_neg c172_25] at h
                  exact VW.sub (hJt16 t25.1 (Option.some.inj h).symm) [] rfl
          replace h := gt15
          obtain ⟨u30, gu30, hAu30, hBu30⟩ := zesc_bnd h
          have hJt29 : ∀ a, u30 = .inl a → VW K a sz 0 0 133 [(0, .ref th), (3, .ref p2), (4, .int t3), (5, .int t6), (6, .int t13)] [] := by
            intro t29 ea
            have h := hAu30 _ ea
            refine zr_iconst (pc := 133) hX zci_0 dX1_areAlike_2_133 ?_
            exact VW.sub (hJt15 (t29, (0 : Int32)) (Option.some.inj h).symm) [0, 1, 2, 3, 4] rfl
          replace h := gu30
          refine zr_if_eq (pc := 92) hX 133 rfl dX1_areAlike_2_92 (fun c92_42 => ?_) (fun c92_42 => ?_)
          · rw [if_pos c92_42] at h
            exact VW.sub (hJt29 σ10 (Option.some.inj h).symm) [1, 2, 3, 4, 5] rfl
          · rw [if_neg c92_42] at h
            refine zr_iload (pc := 95) hX 5 rfl dX1_areAlike_2_95 ?_
            refine zr_iconst (pc := 97) hX zci_2 dX1_areAlike_2_97 ?_
            obtain ⟨u32, gu32, hAu32, hBu32⟩ := zesc_bnd h
            have hJt31 : ∀ a, u32 = .inl a → VW K a sz 0 0 129 [(0, .ref th), (3, .ref p2), (4, .int t3), (5, .int t6), (6, .int t13)] [] := by
              intro t31 ea
              have h := hAu32 _ ea
              refine zr_iconst (pc := 129) hX zci_1 dX1_areAlike_2_129 ?_
              refine zr_goto (pc := 130) hX 134 rfl dX1_areAlike_2_130 ?_
              replace h := congrArg some (hBu30 _ (Option.some.inj h).symm)
              exact VW.sub (hJt15 (t31, (1 : Int32)) (Option.some.inj h).symm) [0, 1, 2, 3, 4] rfl
            replace h := gu32
            refine zr_icmp_lt (pc := 98) hX 129 rfl dX1_areAlike_2_98 (fun c98_41 => ?_) (fun c98_41 => ?_)
            · rw [if_pos c98_41] at h
              exact VW.sub (hJt31 σ10 (Option.some.inj h).symm) [1, 2, 3, 4, 5] rfl
            · rw [if_neg c98_41] at h
              refine zr_aload_n (pc := 101) hX 1 rfl rfl dX1_areAlike_2_101 ?_
              refine zr_aload_n (pc := 102) hX 1 rfl rfl dX1_areAlike_2_102 ?_
              obtain ⟨r33, gr33, h⟩ := bnd h
              refine zr_fv (pc := 103) hX za0_7 (zgR_spec gr33) q271 (Or.inl rfl) dX1_areAlike_2_103 ?_
              refine zr_iload (pc := 106) hX 3 rfl dX1_areAlike_2_106 ?_
              refine zr_iconst (pc := 108) hX zci_0 dX1_areAlike_2_108 ?_
              obtain ⟨u34, gu34, h⟩ := bnd h
              obtain ⟨t35, gt35, h⟩ := bnd h
              refine zr_callVs (pc := 109) (rest := [.ref th]) (stk' := [.int t35, .ref th]) (k' := 0) (n' := 0) hX (fun l s0 D => mX3_child l s0 D gt35) gu34 zc2 zwX3_child q1710 q1711 q1712 rfl (zble2 (by omega) (by omega)) rfl rfl rfl rfl rfl rfl rfl dX1_areAlike_2_109 ?_
              refine zr_aload_n (pc := 112) hX 1 rfl rfl dX1_areAlike_2_112 ?_
              obtain ⟨r36, gr36, h⟩ := bnd h
              refine zr_fv (pc := 113) hX za0_7 (zgR_spec gr36) q271 (Or.inl rfl) dX1_areAlike_2_113 ?_
              refine zr_iload (pc := 116) hX 4 rfl dX1_areAlike_2_116 ?_
              refine zr_iconst (pc := 118) hX zci_0 dX1_areAlike_2_118 ?_
              obtain ⟨u37, gu37, h⟩ := bnd h
              obtain ⟨t38, gt38, h⟩ := bnd h
              refine zr_callVs (pc := 119) (rest := [.int t35, .ref th]) (stk' := [.int t38, .int t35, .ref th]) (k' := 0) (n' := 0) hX (fun l s0 D => mX3_child l s0 D gt38) gu37 zc2 zwX3_child q1710 q1711 q1712 rfl (zble2 (by omega) (by omega)) rfl rfl rfl rfl rfl rfl rfl dX1_areAlike_2_119 ?_
              refine zr_aload_n (pc := 122) hX 2 rfl rfl dX1_areAlike_2_122 ?_
              obtain ⟨u39, gu39, h⟩ := bnd h
              obtain ⟨t40, gt40, h⟩ := bnd h
              refine zr_callVs (pc := 123) (rest := []) (stk' := [.int t40.2]) (k' := 0) (n' := 0) hX (fun l s0 D => ih l s0 D gt40) gu39 zc0 zwX1_areAlike_2 q1705 q1707 qs51 rfl (zble2 (by omega) (by omega)) rfl rfl rfl rfl rfl rfl rfl dX1_areAlike_2_123 ?_
              refine zr_if_eq (pc := 126) hX 133 rfl dX1_areAlike_2_126 (fun c126_40 => ?_) (fun c126_40 => ?_)
              · rw [if_pos c126_40] at h
                replace h := congrArg some (hBu32 _ (Option.some.inj h).symm)
                exact VW.sub (hJt29 t40.1 (Option.some.inj h).symm) [1, 2, 3, 4, 5] rfl
              · rw [if_neg c126_40] at h
                exact VW.sub (hJt31 t40.1 (Option.some.inj h).symm) [1, 2, 3, 4, 5] rfl
        replace h := gt14
        obtain ⟨u45, gu45, hAu45, hBu45⟩ := zesc_bnd h
        have hJt44 : ∀ a, u45 = .inl a → VW K σ10 sz 0 0 87 [(0, .ref th), (3, .ref p2), (4, .int t3), (5, .int t6), (6, .int t13)] [] := by
          intro t44 ea
          have h := hAu45 _ ea
          refine zr_iconst (pc := 87) hX zci_0 dX1_areAlike_2_87 ?_
          exact VW.sub (hJt14 (0 : Int32) (Option.some.inj h).symm) [0, 1, 2, 3, 4] rfl
        replace h := gu45
        refine zr_icmp_eq (pc := 66) hX 87 rfl dX1_areAlike_2_66 (fun c66_49 => ?_) (fun c66_49 => ?_)
        · rw [if_pos c66_49] at h
          exact VW.sub (hJt44 () (Option.some.inj h).symm) [3, 6, 2, 1, 0] rfl
        · rw [if_neg c66_49] at h
          refine zr_iload (pc := 69) hX 0 rfl dX1_areAlike_2_69 ?_
          refine zr_aload_n (pc := 71) hX 3 rfl rfl dX1_areAlike_2_71 ?_
          obtain ⟨r46, gr46, h⟩ := bnd h
          refine zr_fv (pc := 72) hX za0_7 (zgR_spec gr46) q271 (Or.inl rfl) dX1_areAlike_2_72 ?_
          refine zr_iload (pc := 75) hX 1 rfl dX1_areAlike_2_75 ?_
          obtain ⟨u47, gu47, h⟩ := bnd h
          obtain ⟨t48, gt48, h⟩ := bnd h
          refine zr_callVs (pc := 77) (rest := [.int t13]) (stk' := [.int t48, .int t13]) (k' := 0) (n' := 0) hX (fun l s0 D => mX3_symbol l s0 D gt48) gu47 zc2 zwX3_symbol q1709 q642 q643 rfl (zble2 (by omega) (by omega)) rfl rfl rfl rfl rfl rfl rfl dX1_areAlike_2_77 ?_
          refine zr_icmp_ne (pc := 80) hX 87 rfl dX1_areAlike_2_80 (fun c80_48 => ?_) (fun c80_48 => ?_)
          · rw [if_neg c80_48] at h
            exact VW.sub (hJt44 () (Option.some.inj h).symm) [3, 6, 2, 1, 0] rfl
          · rw [if_pos c80_48] at h
            refine zr_iconst (pc := 83) hX zci_1 dX1_areAlike_2_83 ?_
            refine zr_goto (pc := 84) hX 88 rfl dX1_areAlike_2_84 ?_
            replace h := congrArg some (hBu45 _ (Option.some.inj h).symm)
            exact VW.sub (hJt14 (1 : Int32) (Option.some.inj h).symm) [3, 6, 2, 1, 0] rfl
      · rw [if_neg c36_50] at h
        refine zr_iconst (pc := 39) hX zci_1 dX1_areAlike_2_39 ?_
        exact hret _ (Option.some.inj h).symm _ _ dX1_areAlike_2_40 (Or.inr ⟨rfl, Or.inr rfl⟩)
theorem mX1_areAlike_2 (l : Launch) (s0 : State) (D : zD) {n : Nat} {σ : zH} {sz : Nat} {th : Nat} {p0 : Int32} {p1 : Int32} {p2 : Nat} {o : zH × Int32} (h : fX1_areAlike_2 260 n σ th p0 p1 p2 = some o) : zM l s0 D yX1_areAlike_2 cX1_areAlike_2 8 (some .boolean) 263 7066 0 0 [.ref th, .int p0, .int p1, .ref p2] σ sz o.1 sz (some (.int o.2)) := mX1_areAlike_2_d 260 l s0 D h
set_option maxHeartbeats 4000000 in
theorem wX1_areAlike {K : zC} {n : Nat} {σ : zH} {sz : Nat} {th : Nat} {p0 : Int32} {p1 : Int32} {o : (zX ⊕ (zH × Nat × Int32))} (hX : zOk K RX1 cX1_areAlike (some .boolean) 3 264 7093 4 34) (hnm : zNm K yX1_areAlike) (h : fX1_areAlike n σ sz th p0 p1 = some o) (hret : ∀ a, o = .inr a → zRet K cX1_areAlike (some .boolean) a.1 a.2.1 4 34 (some (.int a.2.2))) (hexc : ∀ e, o = .inl e → zTr K ∧ zXok K e.1 e.2 4 34 ∧ (e.2 = σ → zTh K cX1_areAlike e.1 σ sz)) : VW K σ sz 0 0 0 [(0, .ref th), (1, .int p0), (2, .int p1)] [] := by
  unfold fX1_areAlike at h
  refine zr_iload_n (pc := 0) hX 1 rfl rfl dX1_areAlike_0 ?_
  refine zr_aload_n (pc := 1) hX 0 rfl rfl dX1_areAlike_1 ?_
  obtain ⟨r1, gr1, h⟩ := bnd h
  refine zr_fv (pc := 2) hX za0_7 (zgR_spec gr1) q271 (Or.inl rfl) dX1_areAlike_2 ?_
  obtain ⟨x2, gx2, h⟩ := bnd h
  refine zr_fvN (pc := 5) hX za2_4 (zgI_spec gx2) q220 (Or.inl rfl) dX1_areAlike_5 ?_
  obtain ⟨u13, gu13, hxu13, hnu13⟩ := zthr_bnd h
  rcases u13 with e14 | t3
  · have h := hxu13 _ rfl
    have hxx := hexc _ (Option.some.inj h).symm
    exact zr_callSX (pc := 8) (rest := []) hX hxx.1 hxx.2.1 (fun l s0 D hl => xX1_checkIndex l s0 D hl gu13) zwX1_checkIndex q931 q932 rfl rfl rfl rfl rfl dX1_areAlike_8
  · have h := hnu13 _ rfl
    refine zr_callS (pc := 8) (rest := []) (stk' := []) (k' := 1) (n' := 6) hX (fun l s0 D => mX1_checkIndex l s0 D gu13) zwX1_checkIndex q931 q932 rfl rfl rfl rfl rfl rfl rfl rfl dX1_areAlike_8 ?_
    refine zr_iload_n (pc := 11) hX 2 rfl rfl dX1_areAlike_11 ?_
    refine zr_aload_n (pc := 12) hX 0 rfl rfl dX1_areAlike_12 ?_
    obtain ⟨r4, gr4, h⟩ := bnd h
    refine zr_fv (pc := 13) hX za0_7 (zgR_spec gr4) q271 (Or.inl rfl) dX1_areAlike_13 ?_
    obtain ⟨x5, gx5, h⟩ := bnd h
    refine zr_fvN (pc := 16) hX za2_4 (zgI_spec gx5) q220 (Or.inl rfl) dX1_areAlike_16 ?_
    obtain ⟨u11, gu11, hxu11, hnu11⟩ := zthr_bnd h
    rcases u11 with e12 | t6
    · have h := hxu11 _ rfl
      have hxx := hexc _ (Option.some.inj h).symm
      exact zr_callSX (pc := 19) (rest := []) hX hxx.1 hxx.2.1 (fun l s0 D hl => xX1_checkIndex l s0 D hl gu11) zwX1_checkIndex q931 q932 rfl rfl rfl rfl rfl dX1_areAlike_19
    · have h := hnu11 _ rfl
      refine zr_callS (pc := 19) (rest := []) (stk' := []) (k' := 2) (n' := 12) hX (fun l s0 D => mX1_checkIndex l s0 D gu11) zwX1_checkIndex q931 q932 rfl rfl rfl rfl rfl rfl rfl rfl dX1_areAlike_19 ?_
      refine zr_aload_n (pc := 22) hX 0 rfl rfl dX1_areAlike_22 ?_
      refine zr_iload_n (pc := 23) hX 1 rfl rfl dX1_areAlike_23 ?_
      refine zr_iload_n (pc := 24) hX 2 rfl rfl dX1_areAlike_24 ?_
      refine zr_bipush (pc := 25) hX zcb_16 dX1_areAlike_25 ?_
      obtain ⟨σ7, gσ7, h⟩ := bnd h
      refine zr_newa (atype := .int) (pc := 27) (k' := 3) (n' := 28) (sz' := sz + 1) hX gσ7 q207 rfl (by decide) rfl rfl rfl rfl rfl dX1_areAlike_27 ?_
      obtain ⟨u8, gu8, h⟩ := bnd h
      obtain ⟨t9, gt9, h⟩ := bnd h
      refine zr_callVs (pc := 29) (rest := []) (stk' := [.int t9.2]) (k' := 3) (n' := 28) hX (fun l s0 D => mX1_areAlike_2 l s0 D gt9) gu8 zc0 zwX1_areAlike_2 q1705 q1707 qs51 rfl rfl rfl rfl rfl rfl rfl rfl rfl dX1_areAlike_29 ?_
      obtain ⟨x10, gx10, h⟩ := bnd h
      rw [(zq_spec gx10).1] at h
      refine VW.widen 4 34 ?_ (Nat.le_of_ble_eq_true rfl) (Nat.le_of_ble_eq_true rfl)
      exact hret _ (Option.some.inj h).symm _ _ dX1_areAlike_32 (Or.inr ⟨rfl, (zq_spec gx10).2⟩)
theorem mX1_areAlike (l : Launch) (s0 : State) (D : zD) {n : Nat} {σ : zH} {sz : Nat} {th : Nat} {p0 : Int32} {p1 : Int32} {o : zH × Nat × Int32} (h : fX1_areAlike n σ sz th p0 p1 = some (.inr o)) : zM l s0 D yX1_areAlike cX1_areAlike 3 (some .boolean) 264 7093 4 34 [.ref th, .int p0, .int p1] σ sz o.1 o.2.1 (some (.int o.2.2)) := by
  refine zenter (own := RX1) zplX1 rfl (Nat.le_of_ble_eq_true rfl) trivial (fun K hX hnm hret => ?_)
  exact wX1_areAlike hX hnm h (fun a e => by cases e; exact hret) (fun e q => by cases q)
theorem xX1_areAlike (l : Launch) (s0 : State) (D : zD) (hl : l.stackTraces = false) {n : Nat} {σ : zH} {sz : Nat} {th : Nat} {p0 : Int32} {p1 : Int32} {e : zX} (h : fX1_areAlike n σ sz th p0 p1 = some (.inl e)) : zMX l s0 D yX1_areAlike cX1_areAlike 3 (some .boolean) 264 7093 4 34 [.ref th, .int p0, .int p1] σ sz e.1 e.2 := by
  refine zenterX (own := RX1) hl zplX1 rfl (Nat.le_of_ble_eq_true rfl) (fun K hX hnm hT hx hth => ?_)
  exact wX1_areAlike hX hnm h (fun a q => by cases q) (fun e' q => by cases q; exact ⟨hT, hx, (fun q => hth rfl (by decide) (by decide) (by decide) (by decide) q.symm)⟩)
set_option maxHeartbeats 4000000 in
theorem wX1_symbolAt {K : zC} {n : Nat} {σ : zH} {sz : Nat} {th : Nat} {p0 : Int32} {p1 : Int32} {p2 : Int32} {o : (zX ⊕ Int32)} (hX : zOk K RX1 cX1_symbolAt (some .int) 6 7 122 4 24) (hnm : zNm K yX1_symbolAt) (h : fX1_symbolAt n σ th p0 p1 p2 = some o) (hret : ∀ a, o = .inr a → zRet K cX1_symbolAt (some .int) σ sz 4 24 (some (.int a))) (hexc : ∀ e, o = .inl e → zTr K ∧ zXok K e.1 e.2 4 24 ∧ (e.2 = σ → zTh K cX1_symbolAt e.1 σ sz)) : VW K σ sz 0 0 0 [(0, .ref th), (1, .int p0), (2, .int p1), (3, .int p2)] [] := by
  unfold fX1_symbolAt at h
  refine zr_iload_n (pc := 0) hX 1 rfl rfl dX1_symbolAt_0 ?_
  refine zr_aload_n (pc := 1) hX 0 rfl rfl dX1_symbolAt_1 ?_
  obtain ⟨r1, gr1, h⟩ := bnd h
  refine zr_fv (pc := 2) hX za0_7 (zgR_spec gr1) q271 (Or.inl rfl) dX1_symbolAt_2 ?_
  obtain ⟨x2, gx2, h⟩ := bnd h
  refine zr_fvN (pc := 5) hX za2_4 (zgI_spec gx2) q220 (Or.inl rfl) dX1_symbolAt_5 ?_
  obtain ⟨u27, gu27, hxu27, hnu27⟩ := zthr_bnd h
  rcases u27 with e28 | t3
  · have h := hxu27 _ rfl
    have hxx := hexc _ (Option.some.inj h).symm
    exact zr_callSX (pc := 8) (rest := []) hX hxx.1 hxx.2.1 (fun l s0 D hl => xX1_checkIndex l s0 D hl gu27) zwX1_checkIndex q931 q932 rfl rfl rfl rfl rfl dX1_symbolAt_8
  · have h := hnu27 _ rfl
    refine zr_callS (pc := 8) (rest := []) (stk' := []) (k' := 1) (n' := 6) hX (fun l s0 D => mX1_checkIndex l s0 D gu27) zwX1_checkIndex q931 q932 rfl rfl rfl rfl rfl rfl rfl rfl dX1_symbolAt_8 ?_
    refine zr_iload_n (pc := 11) hX 3 rfl rfl dX1_symbolAt_11 ?_
    refine zr_iconst (pc := 12) hX zci_0 dX1_symbolAt_12 ?_
    refine zr_bipush (pc := 13) hX zcb_20 dX1_symbolAt_13 ?_
    obtain ⟨u25, gu25, hxu25, hnu25⟩ := zthr_bnd h
    rcases u25 with e26 | t4
    · have h := hxu25 _ rfl
      have hxx := hexc _ (Option.some.inj h).symm
      exact zr_callSX (pc := 15) (rest := []) hX hxx.1 hxx.2.1 (fun l s0 D hl => xX1_check l s0 D hl gu25) zwX1_check q693 q694 rfl rfl rfl rfl rfl dX1_symbolAt_15
    · have h := hnu25 _ rfl
      refine zr_callS (pc := 15) (rest := []) (stk' := []) (k' := 2) (n' := 12) hX (fun l s0 D => mX1_check l s0 D gu25) zwX1_check q693 q694 rfl rfl rfl rfl rfl rfl rfl rfl dX1_symbolAt_15 ?_
      refine zr_iload_n (pc := 18) hX 2 rfl rfl dX1_symbolAt_18 ?_
      refine zr_iconst (pc := 19) hX zci_0 dX1_symbolAt_19 ?_
      refine zr_iconst (pc := 20) hX zci_1 dX1_symbolAt_20 ?_
      refine zr_iload_n (pc := 21) hX 3 rfl rfl dX1_symbolAt_21 ?_
      refine zr_ishl (pc := 22) hX dX1_symbolAt_22 ?_
      refine zr_iconst (pc := 23) hX zci_1 dX1_symbolAt_23 ?_
      refine zr_isub (pc := 24) hX dX1_symbolAt_24 ?_
      obtain ⟨u23, gu23, hxu23, hnu23⟩ := zthr_bnd h
      rcases u23 with e24 | t5
      · have h := hxu23 _ rfl
        have hxx := hexc _ (Option.some.inj h).symm
        exact zr_callSX (pc := 25) (rest := []) hX hxx.1 hxx.2.1 (fun l s0 D hl => xX1_check l s0 D hl gu23) zwX1_check q693 q694 rfl rfl rfl rfl rfl dX1_symbolAt_25
      · have h := hnu23 _ rfl
        refine zr_callS (pc := 25) (rest := []) (stk' := []) (k' := 3) (n' := 18) hX (fun l s0 D => mX1_check l s0 D gu23) zwX1_check q693 q694 rfl rfl rfl rfl rfl rfl rfl rfl dX1_symbolAt_25 ?_
        refine zr_aload_n (pc := 28) hX 0 rfl rfl dX1_symbolAt_28 ?_
        obtain ⟨r6, gr6, h⟩ := bnd h
        refine zr_fv (pc := 29) hX za0_7 (zgR_spec gr6) q271 (Or.inl rfl) dX1_symbolAt_29 ?_
        refine zr_iload_n (pc := 32) hX 1 rfl rfl dX1_symbolAt_32 ?_
        obtain ⟨u7, gu7, h⟩ := bnd h
        obtain ⟨t8, gt8, h⟩ := bnd h
        refine zr_callVs (pc := 33) (rest := []) (stk' := [.int t8]) (k' := 3) (n' := 18) hX (fun l s0 D => mX3_one l s0 D gt8) gu7 zc2 zwX3_one q1697 q646 q647 rfl rfl rfl rfl rfl rfl rfl rfl rfl dX1_symbolAt_33 ?_
        refine zr_istore (pc := 36) hX rfl (Nat.le_of_ble_eq_true rfl) rfl dX1_symbolAt_36 ?_
        refine zr_iconst (pc := 38) hX zci_0 dX1_symbolAt_38 ?_
        refine zr_istore (pc := 39) hX rfl (Nat.le_of_ble_eq_true rfl) rfl dX1_symbolAt_39 ?_
        obtain ⟨t11, gt11, h⟩ := bnd h
        have hJt11 : ∀ a, a = t11 → VW K σ sz 3 18 76 [(0, .ref th), (4, .int a)] [] := by
          intro a ea
          rw [ea]
          refine zr_iload (pc := 76) hX 1 rfl dX1_symbolAt_76 ?_
          refine zr_iconst (pc := 78) hX zci_m1 dX1_symbolAt_78 ?_
          refine zr_icmp_ne (pc := 79) hX 86 rfl dX1_symbolAt_79 (fun c79_14 => ?_) (fun c79_14 => ?_)
          · rw [if_neg c79_14] at h
            refine zr_aload_n (pc := 86) hX 0 rfl rfl dX1_symbolAt_86 ?_
            obtain ⟨r12, gr12, h⟩ := bnd h
            refine zr_fv (pc := 87) hX za0_7 (zgR_spec gr12) q271 (Or.inl rfl) dX1_symbolAt_87 ?_
            refine zr_iload (pc := 90) hX 1 rfl dX1_symbolAt_90 ?_
            obtain ⟨u13, gu13, h⟩ := bnd h
            obtain ⟨t14, gt14, h⟩ := bnd h
            refine zr_callVs (pc := 92) (rest := []) (stk' := [.int t14]) (k' := 3) (n' := 18) hX (fun l s0 D => mX3_symbol l s0 D gt14) gu13 zc2 zwX3_symbol q1709 q642 q643 rfl rfl rfl rfl rfl rfl rfl rfl rfl dX1_symbolAt_92 ?_
            refine VW.widen 4 24 ?_ (Nat.le_of_ble_eq_true rfl) (Nat.le_of_ble_eq_true rfl)
            exact hret _ (Option.some.inj h).symm _ _ dX1_symbolAt_95 (Or.inl rfl)
          · rw [if_pos c79_14] at h
            refine zr_iconst (pc := 82) hX zci_m1 dX1_symbolAt_82 ?_
            refine zr_goto (pc := 83) hX 95 rfl dX1_symbolAt_83 ?_
            refine VW.widen 4 24 ?_ (Nat.le_of_ble_eq_true rfl) (Nat.le_of_ble_eq_true rfl)
            exact hret _ (Option.some.inj h).symm _ _ dX1_symbolAt_95 (Or.inl rfl)
        refine VW.sub (lv' := [(0, .ref th), (2, .int p1), (3, .int p2), (4, .int t8), (5, .int (0 : Int32))]) ?_ [2, 4, 5, 1, 0] rfl
        refine zloop_walk (V := (fun a => VW K σ sz 3 18 41 [(0, .ref th), (2, .int p1), (3, .int p2), (4, .int a.1), (5, .int a.2)] [])) (E := fun e => e = t11) ?_ n (t8, (0 : Int32)) _ gt11 rfl
        intro a9 o10 h kco10 keo10
        unfold fX1_symbolAt_L41 at h
        refine zr_iload (pc := 41) hX 4 rfl dX1_symbolAt_41 ?_
        refine zr_iload_n (pc := 43) hX 2 rfl rfl dX1_symbolAt_43 ?_
        refine zr_icmp_ge (pc := 44) hX 76 rfl dX1_symbolAt_44 (fun c44_21 => ?_) (fun c44_21 => ?_)
        · rw [if_pos c44_21] at h
          exact VW.sub (hJt11 a9.1 (keo10 _ (Option.some.inj h).symm)) [0, 3] rfl
        · rw [if_neg c44_21] at h
          refine zr_iload (pc := 47) hX 3 rfl dX1_symbolAt_47 ?_
          refine zr_iconst (pc := 49) hX zci_m1 dX1_symbolAt_49 ?_
          refine zr_icmp_eq (pc := 50) hX 76 rfl dX1_symbolAt_50 (fun c50_20 => ?_) (fun c50_20 => ?_)
          · rw [if_pos c50_20] at h
            exact VW.sub (hJt11 a9.1 (keo10 _ (Option.some.inj h).symm)) [0, 3] rfl
          · rw [if_neg c50_20] at h
            refine zr_aload_n (pc := 53) hX 0 rfl rfl dX1_symbolAt_53 ?_
            obtain ⟨r16, gr16, h⟩ := bnd h
            refine zr_fv (pc := 54) hX za0_7 (zgR_spec gr16) q271 (Or.inl rfl) dX1_symbolAt_54 ?_
            refine zr_iload (pc := 57) hX 3 rfl dX1_symbolAt_57 ?_
            refine zr_iload_n (pc := 59) hX 1 rfl rfl dX1_symbolAt_59 ?_
            refine zr_iload (pc := 60) hX 4 rfl dX1_symbolAt_60 ?_
            obtain ⟨t17, gt17, h⟩ := bnd h
            refine zr_callS (pc := 62) (rest := [.int a9.1, .ref r16]) (stk' := [.int t17, .int a9.1, .ref r16]) (k' := 3) (n' := 18) hX (fun l s0 D => mX1_has l s0 D gt17) zwX1_has q431 q432 rfl rfl rfl rfl rfl rfl rfl rfl dX1_symbolAt_62 ?_
            obtain ⟨u18, gu18, h⟩ := bnd h
            obtain ⟨t19, gt19, h⟩ := bnd h
            refine zr_callVs (pc := 65) (rest := []) (stk' := [.int t19]) (k' := 3) (n' := 18) hX (fun l s0 D => mX3_child l s0 D gt19) gu18 zc2 zwX3_child q1710 q1711 q1712 rfl rfl rfl rfl rfl rfl rfl rfl rfl dX1_symbolAt_65 ?_
            refine zr_istore (pc := 68) hX rfl (Nat.le_of_ble_eq_true rfl) rfl dX1_symbolAt_68 ?_
            obtain ⟨x20, gx20, h⟩ := bnd h
            refine zr_iinc (pc := 70) hX 4 rfl zci_1 (Option.some.inj gx20) (Nat.le_of_ble_eq_true rfl) rfl dX1_symbolAt_70 ?_
            refine zr_goto (pc := 73) hX 41 rfl dX1_symbolAt_73 ?_
            exact VW.sub (kco10 (t19, x20) (Option.some.inj h).symm) [2, 3, 4, 1, 0] rfl
theorem mX1_symbolAt (l : Launch) (s0 : State) (D : zD) {n : Nat} {σ : zH} {sz : Nat} {th : Nat} {p0 : Int32} {p1 : Int32} {p2 : Int32} {o : Int32} (h : fX1_symbolAt n σ th p0 p1 p2 = some (.inr o)) : zM l s0 D yX1_symbolAt cX1_symbolAt 6 (some .int) 7 122 4 24 [.ref th, .int p0, .int p1, .int p2] σ sz σ sz (some (.int o)) := by
  refine zenter (own := RX1) zplX1 rfl (Nat.le_of_ble_eq_true rfl) trivial (fun K hX hnm hret => ?_)
  exact wX1_symbolAt hX hnm h (fun a e => by cases e; exact hret) (fun e q => by cases q)
theorem xX1_symbolAt (l : Launch) (s0 : State) (D : zD) (hl : l.stackTraces = false) {n : Nat} {σ : zH} {sz : Nat} {th : Nat} {p0 : Int32} {p1 : Int32} {p2 : Int32} {e : zX} (h : fX1_symbolAt n σ th p0 p1 p2 = some (.inl e)) : zMX l s0 D yX1_symbolAt cX1_symbolAt 6 (some .int) 7 122 4 24 [.ref th, .int p0, .int p1, .int p2] σ sz e.1 e.2 := by
  refine zenterX (own := RX1) hl zplX1 rfl (Nat.le_of_ble_eq_true rfl) (fun K hX hnm hT hx hth => ?_)
  exact wX1_symbolAt hX hnm h (fun a q => by cases q) (fun e' q => by cases q; exact ⟨hT, hx, (fun q => hth rfl (by decide) (by decide) (by decide) (by decide) q.symm)⟩)
set_option maxHeartbeats 4000000 in
theorem mX1_isEndless_2_d : ∀ (d : Nat) (l : Launch) (s0 : State) (D : zD) {n : Nat} {σ : zH} {sz : Nat} {th : Nat} {p0 : Int32} {p1 : Int32} {o : Int32} (h : fX1_isEndless_2 d n σ th p0 p1 = some o), zM l s0 D yX1_isEndless_2 cX1_isEndless_2 6 (some .boolean) (3 + d) (46 + d * 25) 0 0 [.ref th, .int p0, .int p1] σ sz σ sz (some (.int o)) := by
  intro d
  induction d with
  | zero => intro l s0 D; intros; rename_i h; cases h
  | succ d ih =>
    intro l s0 D n σ sz th p0 p1 o h
    replace h : fX1_isEndless_2_B (fX1_isEndless_2 d) n σ th p0 p1 = some o := h
    refine zenter (own := RX1) zplX1 rfl (Nat.le_of_ble_eq_true rfl) trivial (fun K hX hnm hret => ?_)
    unfold fX1_isEndless_2_B at h
    have hret : ∀ a, o = a → zRet K cX1_isEndless_2 (some .boolean) σ sz 0 0 (some (.int a)) := fun a e => by cases e; exact hret
    show VW K σ sz 0 0 0 [(0, .ref th), (1, .int p0), (2, .int p1)] []
    refine zr_aload_n (pc := 0) hX 0 rfl rfl dX1_isEndless_2_0 ?_
    obtain ⟨r1, gr1, h⟩ := bnd h
    refine zr_fv (pc := 1) hX za0_7 (zgR_spec gr1) q271 (Or.inl rfl) dX1_isEndless_2_1 ?_
    refine zr_iload_n (pc := 4) hX 1 rfl rfl dX1_isEndless_2_4 ?_
    obtain ⟨u2, gu2, h⟩ := bnd h
    obtain ⟨t3, gt3, h⟩ := bnd h
    refine zr_callVs (pc := 5) (rest := []) (stk' := [.int t3]) (k' := 0) (n' := 0) hX (fun l s0 D => mX3_one l s0 D gt3) gu2 zc2 zwX3_one q1697 q646 q647 rfl (zble2 (by omega) (by omega)) rfl rfl rfl rfl rfl rfl rfl dX1_isEndless_2_5 ?_
    refine zr_istore_n (pc := 8) hX rfl rfl (Nat.le_of_ble_eq_true rfl) rfl dX1_isEndless_2_8 ?_
    refine zr_iload_n (pc := 9) hX 3 rfl rfl dX1_isEndless_2_9 ?_
    refine zr_iload_n (pc := 10) hX 0 rfl rfl dX1_isEndless_2_10 ?_
    obtain ⟨t4, gt4, h⟩ := bnd h
    refine zr_callS (pc := 11) (rest := []) (stk' := [.int t4]) (k' := 0) (n' := 0) hX (fun l s0 D => mX1_has l s0 D gt4) zwX1_has q431 q432 (zble2 (by omega) (by omega)) rfl rfl rfl rfl rfl rfl rfl dX1_isEndless_2_11 ?_
    refine zr_if_eq (pc := 14) hX 19 rfl dX1_isEndless_2_14 (fun c14_22 => ?_) (fun c14_22 => ?_)
    · rw [if_pos c14_22] at h
      refine zr_aload_n (pc := 19) hX 1 rfl rfl dX1_isEndless_2_19 ?_
      obtain ⟨r5, gr5, h⟩ := bnd h
      refine zr_fv (pc := 20) hX za0_7 (zgR_spec gr5) q271 (Or.inl rfl) dX1_isEndless_2_20 ?_
      refine zr_iload_n (pc := 23) hX 0 rfl rfl dX1_isEndless_2_23 ?_
      refine zr_iconst (pc := 24) hX zci_0 dX1_isEndless_2_24 ?_
      obtain ⟨u6, gu6, h⟩ := bnd h
      obtain ⟨t7, gt7, h⟩ := bnd h
      refine zr_callVs (pc := 25) (rest := []) (stk' := [.int t7]) (k' := 0) (n' := 0) hX (fun l s0 D => mX3_child l s0 D gt7) gu6 zc2 zwX3_child q1710 q1711 q1712 rfl (zble2 (by omega) (by omega)) rfl rfl rfl rfl rfl rfl rfl dX1_isEndless_2_25 ?_
      refine zr_istore (pc := 28) hX rfl (Nat.le_of_ble_eq_true rfl) rfl dX1_isEndless_2_28 ?_
      refine zr_aload_n (pc := 30) hX 2 rfl rfl dX1_isEndless_2_30 ?_
      obtain ⟨r8, gr8, h⟩ := bnd h
      refine zr_fv (pc := 31) hX za0_7 (zgR_spec gr8) q271 (Or.inl rfl) dX1_isEndless_2_31 ?_
      refine zr_iload_n (pc := 34) hX 1 rfl rfl dX1_isEndless_2_34 ?_
      refine zr_iconst (pc := 35) hX zci_1 dX1_isEndless_2_35 ?_
      obtain ⟨u9, gu9, h⟩ := bnd h
      obtain ⟨t10, gt10, h⟩ := bnd h
      refine zr_callVs (pc := 36) (rest := []) (stk' := [.int t10]) (k' := 0) (n' := 0) hX (fun l s0 D => mX3_child l s0 D gt10) gu9 zc2 zwX3_child q1710 q1711 q1712 rfl (zble2 (by omega) (by omega)) rfl rfl rfl rfl rfl rfl rfl dX1_isEndless_2_36 ?_
      refine zr_istore (pc := 39) hX rfl (Nat.le_of_ble_eq_true rfl) rfl dX1_isEndless_2_39 ?_
      refine zr_iload (pc := 41) hX 1 rfl dX1_isEndless_2_41 ?_
      refine zr_iconst (pc := 43) hX zci_m1 dX1_isEndless_2_43 ?_
      obtain ⟨u12, gu12, hAu12, hBu12⟩ := zesc_bnd h
      have hJt11 : ∀ a, u12 = .inl a → VW K σ sz 0 0 81 [] [] := by
        intro t11 ea
        have h := hAu12 _ ea
        refine zr_iconst (pc := 81) hX zci_1 dX1_isEndless_2_81 ?_
        refine zr_goto (pc := 82) hX 86 rfl dX1_isEndless_2_82 ?_
        exact hret _ (Option.some.inj h).symm _ _ dX1_isEndless_2_86 (Or.inr ⟨rfl, Or.inr rfl⟩)
      replace h := gu12
      obtain ⟨u18, gu18, hAu18, hBu18⟩ := zesc_bnd h
      have hJt13 : ∀ a, u18 = .inl a → VW K σ sz 0 0 61 [(0, .ref th), (2, .int p1), (3, .int t3), (5, .int t10)] [] := by
        intro t13 ea
        have h := hAu18 _ ea
        refine zr_iload (pc := 61) hX 3 rfl dX1_isEndless_2_61 ?_
        refine zr_iconst (pc := 63) hX zci_m1 dX1_isEndless_2_63 ?_
        refine zr_icmp_eq (pc := 64) hX 85 rfl dX1_isEndless_2_64 (fun c64_16 => ?_) (fun c64_16 => ?_)
        · rw [if_pos c64_16] at h
          refine zr_iconst (pc := 85) hX zci_0 dX1_isEndless_2_85 ?_
          replace h := congrArg some (hBu12 _ (Option.some.inj h).symm)
          exact hret _ (Option.some.inj h).symm _ _ dX1_isEndless_2_86 (Or.inr ⟨rfl, Or.inl rfl⟩)
        · rw [if_neg c64_16] at h
          refine zr_aload_n (pc := 67) hX 0 rfl rfl dX1_isEndless_2_67 ?_
          refine zr_iload (pc := 68) hX 3 rfl dX1_isEndless_2_68 ?_
          refine zr_iload_n (pc := 70) hX 1 rfl rfl dX1_isEndless_2_70 ?_
          refine zr_iconst (pc := 71) hX zci_1 dX1_isEndless_2_71 ?_
          refine zr_iload_n (pc := 72) hX 2 rfl rfl dX1_isEndless_2_72 ?_
          refine zr_ishl (pc := 73) hX dX1_isEndless_2_73 ?_
          refine zr_ior (pc := 74) hX dX1_isEndless_2_74 ?_
          obtain ⟨u14, gu14, h⟩ := bnd h
          obtain ⟨t15, gt15, h⟩ := bnd h
          refine zr_callVs (pc := 75) (rest := []) (stk' := [.int t15]) (k' := 0) (n' := 0) hX (fun l s0 D => ih l s0 D gt15) gu14 zc0 zwX1_isEndless_2 q1728 q1730 qs52 rfl (zble2 (by omega) (by omega)) rfl rfl rfl rfl rfl rfl rfl dX1_isEndless_2_75 ?_
          refine zr_if_eq (pc := 78) hX 85 rfl dX1_isEndless_2_78 (fun c78_15 => ?_) (fun c78_15 => ?_)
          · rw [if_pos c78_15] at h
            refine zr_iconst (pc := 85) hX zci_0 dX1_isEndless_2_85 ?_
            replace h := congrArg some (hBu12 _ (Option.some.inj h).symm)
            exact hret _ (Option.some.inj h).symm _ _ dX1_isEndless_2_86 (Or.inr ⟨rfl, Or.inl rfl⟩)
          · rw [if_neg c78_15] at h
            exact VW.sub (hJt11 () (Option.some.inj h).symm) [] rfl
      replace h := gu18
      refine zr_icmp_eq (pc := 44) hX 61 rfl dX1_isEndless_2_44 (fun c44_21 => ?_) (fun c44_21 => ?_)
      · rw [if_pos c44_21] at h
        exact VW.sub (hJt13 () (Option.some.inj h).symm) [3, 5, 2, 0] rfl
      · rw [if_neg c44_21] at h
        refine zr_aload_n (pc := 47) hX 3 rfl rfl dX1_isEndless_2_47 ?_
        refine zr_iload (pc := 48) hX 1 rfl dX1_isEndless_2_48 ?_
        refine zr_iload_n (pc := 50) hX 5 rfl rfl dX1_isEndless_2_50 ?_
        refine zr_iconst (pc := 51) hX zci_1 dX1_isEndless_2_51 ?_
        refine zr_iload_n (pc := 52) hX 2 rfl rfl dX1_isEndless_2_52 ?_
        refine zr_ishl (pc := 53) hX dX1_isEndless_2_53 ?_
        refine zr_ior (pc := 54) hX dX1_isEndless_2_54 ?_
        obtain ⟨u19, gu19, h⟩ := bnd h
        obtain ⟨t20, gt20, h⟩ := bnd h
        refine zr_callVs (pc := 55) (rest := []) (stk' := [.int t20]) (k' := 0) (n' := 0) hX (fun l s0 D => ih l s0 D gt20) gu19 zc0 zwX1_isEndless_2 q1728 q1730 qs52 rfl (zble2 (by omega) (by omega)) rfl rfl rfl rfl rfl rfl rfl dX1_isEndless_2_55 ?_
        refine zr_if_ne (pc := 58) hX 81 rfl dX1_isEndless_2_58 (fun c58_20 => ?_) (fun c58_20 => ?_)
        · rw [if_neg c58_20] at h
          replace h := congrArg some (hBu18 _ (Option.some.inj h).symm)
          exact VW.sub (hJt11 () (Option.some.inj h).symm) [] rfl
        · rw [if_pos c58_20] at h
          exact VW.sub (hJt13 () (Option.some.inj h).symm) [3, 5, 2, 0] rfl
    · rw [if_neg c14_22] at h
      refine zr_iconst (pc := 17) hX zci_1 dX1_isEndless_2_17 ?_
      exact hret _ (Option.some.inj h).symm _ _ dX1_isEndless_2_18 (Or.inr ⟨rfl, Or.inr rfl⟩)
theorem mX1_isEndless_2 (l : Launch) (s0 : State) (D : zD) {n : Nat} {σ : zH} {sz : Nat} {th : Nat} {p0 : Int32} {p1 : Int32} {o : Int32} (h : fX1_isEndless_2 18 n σ th p0 p1 = some o) : zM l s0 D yX1_isEndless_2 cX1_isEndless_2 6 (some .boolean) 21 496 0 0 [.ref th, .int p0, .int p1] σ sz σ sz (some (.int o)) := mX1_isEndless_2_d 18 l s0 D h
set_option maxHeartbeats 4000000 in
theorem wX1_isEndless {K : zC} {n : Nat} {σ : zH} {sz : Nat} {th : Nat} {p0 : Int32} {o : (zX ⊕ Int32)} (hX : zOk K RX1 cX1_isEndless (some .boolean) 2 22 521 2 12) (hnm : zNm K yX1_isEndless) (h : fX1_isEndless n σ th p0 = some o) (hret : ∀ a, o = .inr a → zRet K cX1_isEndless (some .boolean) σ sz 2 12 (some (.int a))) (hexc : ∀ e, o = .inl e → zTr K ∧ zXok K e.1 e.2 2 12 ∧ (e.2 = σ → zTh K cX1_isEndless e.1 σ sz)) : VW K σ sz 0 0 0 [(0, .ref th), (1, .int p0)] [] := by
  unfold fX1_isEndless at h
  refine zr_iload_n (pc := 0) hX 1 rfl rfl dX1_isEndless_0 ?_
  refine zr_aload_n (pc := 1) hX 0 rfl rfl dX1_isEndless_1 ?_
  obtain ⟨r1, gr1, h⟩ := bnd h
  refine zr_fv (pc := 2) hX za0_7 (zgR_spec gr1) q271 (Or.inl rfl) dX1_isEndless_2 ?_
  obtain ⟨x2, gx2, h⟩ := bnd h
  refine zr_fvN (pc := 5) hX za2_4 (zgI_spec gx2) q220 (Or.inl rfl) dX1_isEndless_5 ?_
  obtain ⟨u7, gu7, hxu7, hnu7⟩ := zthr_bnd h
  rcases u7 with e8 | t3
  · have h := hxu7 _ rfl
    have hxx := hexc _ (Option.some.inj h).symm
    exact zr_callSX (pc := 8) (rest := []) hX hxx.1 hxx.2.1 (fun l s0 D hl => xX1_checkIndex l s0 D hl gu7) zwX1_checkIndex q931 q932 rfl rfl rfl rfl rfl dX1_isEndless_8
  · have h := hnu7 _ rfl
    refine zr_callS (pc := 8) (rest := []) (stk' := []) (k' := 1) (n' := 6) hX (fun l s0 D => mX1_checkIndex l s0 D gu7) zwX1_checkIndex q931 q932 rfl rfl rfl rfl rfl rfl rfl rfl dX1_isEndless_8 ?_
    refine zr_aload_n (pc := 11) hX 0 rfl rfl dX1_isEndless_11 ?_
    refine zr_iload_n (pc := 12) hX 1 rfl rfl dX1_isEndless_12 ?_
    refine zr_iconst (pc := 13) hX zci_0 dX1_isEndless_13 ?_
    obtain ⟨u4, gu4, h⟩ := bnd h
    obtain ⟨t5, gt5, h⟩ := bnd h
    refine zr_callVs (pc := 14) (rest := []) (stk' := [.int t5]) (k' := 1) (n' := 6) hX (fun l s0 D => mX1_isEndless_2 l s0 D gt5) gu4 zc0 zwX1_isEndless_2 q1728 q1730 qs52 rfl rfl rfl rfl rfl rfl rfl rfl rfl dX1_isEndless_14 ?_
    obtain ⟨x6, gx6, h⟩ := bnd h
    rw [(zq_spec gx6).1] at h
    refine VW.widen 2 12 ?_ (Nat.le_of_ble_eq_true rfl) (Nat.le_of_ble_eq_true rfl)
    exact hret _ (Option.some.inj h).symm _ _ dX1_isEndless_17 (Or.inr ⟨rfl, (zq_spec gx6).2⟩)
theorem mX1_isEndless (l : Launch) (s0 : State) (D : zD) {n : Nat} {σ : zH} {sz : Nat} {th : Nat} {p0 : Int32} {o : Int32} (h : fX1_isEndless n σ th p0 = some (.inr o)) : zM l s0 D yX1_isEndless cX1_isEndless 2 (some .boolean) 22 521 2 12 [.ref th, .int p0] σ sz σ sz (some (.int o)) := by
  refine zenter (own := RX1) zplX1 rfl (Nat.le_of_ble_eq_true rfl) trivial (fun K hX hnm hret => ?_)
  exact wX1_isEndless hX hnm h (fun a e => by cases e; exact hret) (fun e q => by cases q)
theorem xX1_isEndless (l : Launch) (s0 : State) (D : zD) (hl : l.stackTraces = false) {n : Nat} {σ : zH} {sz : Nat} {th : Nat} {p0 : Int32} {e : zX} (h : fX1_isEndless n σ th p0 = some (.inl e)) : zMX l s0 D yX1_isEndless cX1_isEndless 2 (some .boolean) 22 521 2 12 [.ref th, .int p0] σ sz e.1 e.2 := by
  refine zenterX (own := RX1) hl zplX1 rfl (Nat.le_of_ble_eq_true rfl) (fun K hX hnm hT hx hth => ?_)
  exact wX1_isEndless hX hnm h (fun a q => by cases q) (fun e' q => by cases q; exact ⟨hT, hx, (fun q => hth rfl (by decide) (by decide) (by decide) (by decide) q.symm)⟩)
