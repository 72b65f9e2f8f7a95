/-! M: the walks (printed by gen/genm.py) -/
set_option maxRecDepth 100000
set_option maxHeartbeats 4000000 in
theorem mX5_byClause (l : Launch) (s0 : State) (D : zD) {n : Nat} {am : Nat} {st : zMS} {b : zH} {sz : Nat} {p0 : Int32} {o : zMS} (h : fX5_byClause n st p0 = some o) : zM l s0 D yX5_byClause cX5_byClause 5 none 3 46 0 0 [.ref am, .int p0] (zMw am st b) sz (zMw am o b) sz none := by
  refine zenter (own := RX5) zplX5 rfl (Nat.le_of_ble_eq_true rfl) rfl (fun K hX hnm hret => ?_)
  unfold fX5_byClause at h
  show VW K (zMw am st b) sz 0 0 0 [(0, .ref am), (1, .int p0)] []
  refine zr_iconst (pc := 0) hX zci_0 dX5_byClause_0 ?_
  refine zr_istore_n (pc := 1) hX rfl rfl (Nat.le_of_ble_eq_true rfl) rfl dX5_byClause_1 ?_
  refine VW.sub (lv' := [(0, .ref am), (1, .int p0), (2, .int (0 : Int32))]) ?_ [1, 2, 0] rfl
  refine zloop_walk (V := (fun a => VW K (zMw am a.1 b) sz 0 0 2 [(0, .ref am), (1, .int p0), (2, .int a.2)] [])) (E := fun e => e = o) ?_ n (st, (0 : Int32)) _ h rfl
  intro a1 o2 h kco2 keo2
  unfold fX5_byClause_L2 at h
  refine zr_iload_n (pc := 2) hX 2 rfl rfl dX5_byClause_2 ?_
  refine zr_aload_n (pc := 3) hX 0 rfl rfl dX5_byClause_3 ?_
  refine zr_mgetA (pc := 4) hX 17 rfl rfl q1755 dX5_byClause_4 ?_
  refine zr_iload_n (pc := 7) hX 1 rfl rfl dX5_byClause_7 ?_
  obtain ⟨x3, gx3, h⟩ := bnd h
  refine zr_mald (pc := 8) hX 17 rfl rfl rfl gx3 dX5_byClause_8 ?_
  refine zr_icmp_ge (pc := 9) hX 128 rfl dX5_byClause_9 (fun c9_25 => ?_) (fun c9_25 => ?_)
  · rw [if_pos c9_25] at h
    replace h := congrArg some (keo2 _ (Option.some.inj h).symm)
    obtain rfl := Option.some.inj h
    exact hret _ _ dX5_byClause_128
  · rw [if_neg c9_25] at h
    refine zr_iconst (pc := 12) hX zci_0 dX5_byClause_12 ?_
    refine zr_istore_n (pc := 13) hX rfl rfl (Nat.le_of_ble_eq_true rfl) rfl dX5_byClause_13 ?_
    refine zr_iconst (pc := 14) hX zci_0 dX5_byClause_14 ?_
    refine zr_istore (pc := 15) hX rfl (Nat.le_of_ble_eq_true rfl) rfl dX5_byClause_15 ?_
    obtain ⟨t6, gt6, h⟩ := bnd h
    have hJt6 : ∀ a, a = t6 → VW K (zMw am a1.1 b) sz 0 0 58 [(0, .ref am), (1, .int p0), (2, .int a1.2), (3, .int a)] [] := by
      intro a ea
      rw [ea]
      refine zr_iconst (pc := 58) hX zci_1 dX5_byClause_58 ?_
      refine zr_aload_n (pc := 59) hX 0 rfl rfl dX5_byClause_59 ?_
      refine zr_mgetA (pc := 60) hX 19 rfl rfl q1757 dX5_byClause_60 ?_
      refine zr_bipush (pc := 63) hX zcb_6 dX5_byClause_63 ?_
      refine zr_iload_n (pc := 65) hX 1 rfl rfl dX5_byClause_65 ?_
      refine zr_imul (pc := 66) hX dX5_byClause_66 ?_
      refine zr_iload_n (pc := 67) hX 2 rfl rfl dX5_byClause_67 ?_
      refine zr_iadd (pc := 68) hX dX5_byClause_68 ?_
      obtain ⟨x7, gx7, h⟩ := bnd h
      refine zr_mald (pc := 69) hX 19 rfl rfl rfl gx7 dX5_byClause_69 ?_
      refine zr_ishl (pc := 70) hX dX5_byClause_70 ?_
      obtain ⟨x8, gx8, h⟩ := bnd h
      refine zr_istore (pc := 71) hX (Option.some.inj gx8) (Nat.le_of_ble_eq_true rfl) rfl dX5_byClause_71 ?_
      refine zr_aload_n (pc := 73) hX 1 rfl rfl dX5_byClause_73 ?_
      refine zr_mgetA (pc := 74) hX 41 rfl rfl q1779 dX5_byClause_74 ?_
      refine zr_bipush (pc := 77) hX zcb_8 dX5_byClause_77 ?_
      refine zr_iload_n (pc := 79) hX 2 rfl rfl dX5_byClause_79 ?_
      refine zr_imul (pc := 80) hX dX5_byClause_80 ?_
      refine zr_iload_n (pc := 81) hX 3 rfl rfl dX5_byClause_81 ?_
      refine zr_iadd (pc := 82) hX dX5_byClause_82 ?_
      refine zr_aload_n (pc := 83) hX 1 rfl rfl dX5_byClause_83 ?_
      refine zr_iload_n (pc := 84) hX 2 rfl rfl dX5_byClause_84 ?_
      refine zr_iload_n (pc := 85) hX 3 rfl rfl dX5_byClause_85 ?_
      obtain ⟨t9, gt9, h⟩ := bnd h
      refine zr_callV (pc := 86) (stk' := [.int t9, .int (((8 : Int32) * p0) + a1.2), .ref (am + zMo 41)]) (k' := 0) (n' := 0) hX (fun l s0 D => mX5_domainAt l s0 D gt9) (zMw_obj _ _ _) (ci := 4) rfl zwX5_domainAt q2189 q2191 qs80 rfl rfl rfl rfl rfl rfl rfl rfl rfl dX5_byClause_86 ?_
      refine zr_iload_n (pc := 89) hX 4 rfl rfl dX5_byClause_89 ?_
      obtain ⟨t10, gt10, h⟩ := bnd h
      have hJt10 : ∀ a, t10 = a → VW K (zMw am a1.1 b) sz 0 0 120 [(0, .ref am), (1, .int p0), (2, .int a1.2)] [.int a, .int t9, .int (((8 : Int32) * p0) + a1.2), .ref (am + zMo 41)] := by
        intro a ea
        subst ea
        refine zr_iand (pc := 120) hX dX5_byClause_120 ?_
        obtain ⟨st11, gst11, h⟩ := bnd h
        refine zr_mast (pc := 121) hX 41 rfl rfl rfl gst11 dX5_byClause_121 ?_
        obtain ⟨x12, gx12, h⟩ := bnd h
        refine zr_iinc (pc := 122) hX 2 rfl zci_1 (Option.some.inj gx12) (Nat.le_of_ble_eq_true rfl) rfl dX5_byClause_122 ?_
        refine zr_goto (pc := 125) hX 2 rfl dX5_byClause_125 ?_
        exact (kco2 (st11, x12) (Option.some.inj h).symm).sub [1, 2, 0] rfl
      replace h := gt10
      refine zr_if_eq (pc := 90) hX 97 rfl dX5_byClause_90 (fun c90_14 => ?_) (fun c90_14 => ?_)
      · rw [if_pos c90_14] at h
        refine zr_aload_n (pc := 97) hX 1 rfl rfl dX5_byClause_97 ?_
        refine zr_mgetA (pc := 98) hX 23 rfl rfl q1761 dX5_byClause_98 ?_
        refine zr_bipush (pc := 101) hX zcb_6 dX5_byClause_101 ?_
        refine zr_iload_n (pc := 103) hX 2 rfl rfl dX5_byClause_103 ?_
        refine zr_imul (pc := 104) hX dX5_byClause_104 ?_
        refine zr_iload_n (pc := 105) hX 3 rfl rfl dX5_byClause_105 ?_
        refine zr_iadd (pc := 106) hX dX5_byClause_106 ?_
        obtain ⟨x13, gx13, h⟩ := bnd h
        refine zr_maldZ (pc := 107) hX 23 rfl rfl rfl gx13 dX5_byClause_107 ?_
        refine zr_if_eq (pc := 108) hX 116 rfl dX5_byClause_108 (fun c108_13 => ?_) (fun c108_13 => ?_)
        · rw [if_pos c108_13] at h
          refine zr_iload (pc := 116) hX 0 rfl dX5_byClause_116 ?_
          refine zr_iconst (pc := 118) hX zci_m1 dX5_byClause_118 ?_
          refine zr_ixor (pc := 119) hX dX5_byClause_119 ?_
          exact (hJt10 (x8 ^^^ (-1 : Int32)) (Option.some.inj h).symm).sub [1, 2, 3] rfl
        · rw [if_neg c108_13] at h
          refine zr_iload (pc := 111) hX 0 rfl dX5_byClause_111 ?_
          refine zr_goto (pc := 113) hX 120 rfl dX5_byClause_113 ?_
          exact (hJt10 x8 (Option.some.inj h).symm).sub [1, 2, 3] rfl
      · rw [if_neg c90_14] at h
        refine zr_iconst (pc := 93) hX zci_m1 dX5_byClause_93 ?_
        refine zr_goto (pc := 94) hX 120 rfl dX5_byClause_94 ?_
        exact (hJt10 (-1 : Int32) (Option.some.inj h).symm).sub [1, 2, 3] rfl
    refine VW.sub (lv' := [(0, .ref am), (1, .int p0), (2, .int a1.2), (3, .int (0 : Int32)), (4, .int (0 : Int32))]) ?_ [2, 3, 4, 1, 0] rfl
    refine zloop_walk (V := (fun a => VW K (zMw am a1.1 b) sz 0 0 17 [(0, .ref am), (1, .int p0), (2, .int a1.2), (3, .int a.1), (4, .int a.2)] [])) (E := fun e => e = t6) ?_ n ((0 : Int32), (0 : Int32)) _ gt6 rfl
    intro a4 o5 h kco5 keo5
    unfold fX5_byClause_L17 at h
    refine zr_iload (pc := 17) hX 4 rfl dX5_byClause_17 ?_
    refine zr_aload_n (pc := 19) hX 0 rfl rfl dX5_byClause_19 ?_
    refine zr_mgetA (pc := 20) hX 17 rfl rfl q1755 dX5_byClause_20 ?_
    refine zr_iload_n (pc := 23) hX 1 rfl rfl dX5_byClause_23 ?_
    obtain ⟨x16, gx16, h⟩ := bnd h
    refine zr_mald (pc := 24) hX 17 rfl rfl rfl gx16 dX5_byClause_24 ?_
    refine zr_icmp_ge (pc := 25) hX 58 rfl dX5_byClause_25 (fun c25_24 => ?_) (fun c25_24 => ?_)
    · rw [if_pos c25_24] at h
      exact (hJt6 a4.1 (keo5 _ (Option.some.inj h).symm)).sub [0, 1, 2, 3] rfl
    · rw [if_neg c25_24] at h
      refine zr_iload_n (pc := 28) hX 3 rfl rfl dX5_byClause_28 ?_
      refine zr_iload (pc := 29) hX 4 rfl dX5_byClause_29 ?_
      refine zr_iload_n (pc := 31) hX 2 rfl rfl dX5_byClause_31 ?_
      obtain ⟨t17, gt17, h⟩ := bnd h
      have hJt17 : ∀ a, t17 = a → VW K (zMw am a1.1 b) sz 0 0 50 [(0, .ref am), (1, .int p0), (2, .int a1.2), (4, .int a4.2)] [.int a, .int a4.1] := by
        intro a ea
        subst ea
        refine zr_ior (pc := 50) hX dX5_byClause_50 ?_
        obtain ⟨x18, gx18, h⟩ := bnd h
        refine zr_istore_n (pc := 51) hX (Option.some.inj gx18) rfl (Nat.le_of_ble_eq_true rfl) rfl dX5_byClause_51 ?_
        obtain ⟨x19, gx19, h⟩ := bnd h
        refine zr_iinc (pc := 52) hX 4 rfl zci_1 (Option.some.inj gx19) (Nat.le_of_ble_eq_true rfl) rfl dX5_byClause_52 ?_
        refine zr_goto (pc := 55) hX 17 rfl dX5_byClause_55 ?_
        exact (kco5 (x18, x19) (Option.some.inj h).symm).sub [2, 3, 4, 1, 0] rfl
      replace h := gt17
      obtain ⟨u21, gu21, hAu21, hBu21⟩ := zesc_bnd h
      have hJt20 : ∀ a, u21 = .inl a → VW K (zMw am a1.1 b) sz 0 0 49 [(0, .ref am), (1, .int p0), (2, .int a1.2), (4, .int a4.2)] [.int a4.1] := by
        intro t20 ea
        have h := hAu21 _ ea
        refine zr_iconst (pc := 49) hX zci_0 dX5_byClause_49 ?_
        exact (hJt17 (0 : Int32) (Option.some.inj h).symm).sub [0, 1, 2, 3] rfl
      replace h := gu21
      refine zr_icmp_eq (pc := 32) hX 49 rfl dX5_byClause_32 (fun c32_23 => ?_) (fun c32_23 => ?_)
      · rw [if_pos c32_23] at h
        exact (hJt20 () (Option.some.inj h).symm).sub [0, 1, 2, 4] rfl
      · rw [if_neg c32_23] at h
        refine zr_aload_n (pc := 35) hX 0 rfl rfl dX5_byClause_35 ?_
        refine zr_iload_n (pc := 36) hX 1 rfl rfl dX5_byClause_36 ?_
        refine zr_iload (pc := 37) hX 4 rfl dX5_byClause_37 ?_
        obtain ⟨t22, gt22, h⟩ := bnd h
        refine zr_callV (pc := 39) (stk' := [.int t22, .int a4.1]) (k' := 0) (n' := 0) hX (fun l s0 D => mX5_canHold l s0 D gt22) (zMw_obj _ _ _) (ci := 4) rfl zwX5_canHold q2226 q2228 qs87 rfl rfl rfl rfl rfl rfl rfl rfl rfl dX5_byClause_39 ?_
        refine zr_if_eq (pc := 42) hX 49 rfl dX5_byClause_42 (fun c42_22 => ?_) (fun c42_22 => ?_)
        · rw [if_pos c42_22] at h
          exact (hJt20 () (Option.some.inj h).symm).sub [0, 1, 2, 4] rfl
        · rw [if_neg c42_22] at h
          refine zr_iconst (pc := 45) hX zci_1 dX5_byClause_45 ?_
          refine zr_goto (pc := 46) hX 50 rfl dX5_byClause_46 ?_
          replace h := congrArg some (hBu21 _ (Option.some.inj h).symm)
          exact (hJt17 (1 : Int32) (Option.some.inj h).symm).sub [0, 1, 2, 4] rfl
set_option maxHeartbeats 4000000 in
theorem mX5_find (l : Launch) (s0 : State) (D : zD) {n : Nat} {am : Nat} {st : zMS} {b : zH} {sz : Nat} {p0 : Int32} {o : Int32} (h : fX5_find n st p0 = some o) : zM l s0 D yX5_find cX5_find 3 (some .int) 1 0 0 0 [.ref am, .int p0] (zMw am st b) sz (zMw am st b) sz (some (.int o)) := by
  refine zenter (own := RX5) zplX5 rfl (Nat.le_of_ble_eq_true rfl) trivial (fun K hX hnm hret => ?_)
  unfold fX5_find at h
  show VW K (zMw am st b) sz 0 0 0 [(0, .ref am), (1, .int p0)] []
  refine zr_iload_n (pc := 0) hX 1 rfl rfl dX5_find_0 ?_
  refine zr_istore_n (pc := 1) hX rfl rfl (Nat.le_of_ble_eq_true rfl) rfl dX5_find_1 ?_
  refine VW.sub (lv' := [(0, .ref am), (2, .int p0)]) ?_ [1, 0] rfl
  refine zloop_walk (V := (fun a => VW K (zMw am st b) sz 0 0 2 [(0, .ref am), (2, .int a)] [])) (E := fun e => e = o) ?_ n p0 _ h rfl
  intro a1 o2 h kco2 keo2
  unfold fX5_find_L2 at h
  refine zr_aload_n (pc := 2) hX 0 rfl rfl dX5_find_2 ?_
  refine zr_mgetA (pc := 3) hX 65 rfl rfl q1803 dX5_find_3 ?_
  refine zr_iload_n (pc := 6) hX 1 rfl rfl dX5_find_6 ?_
  obtain ⟨x3, gx3, h⟩ := bnd h
  refine zr_mald (pc := 7) hX 65 rfl rfl rfl gx3 dX5_find_7 ?_
  refine zr_iload_n (pc := 8) hX 1 rfl rfl dX5_find_8 ?_
  refine zr_icmp_eq (pc := 9) hX 22 rfl dX5_find_9 (fun c9_4 => ?_) (fun c9_4 => ?_)
  · rw [if_pos c9_4] at h
    refine zr_iload_n (pc := 22) hX 1 rfl rfl dX5_find_22 ?_
    replace h := congrArg some (keo2 _ (Option.some.inj h).symm)
    obtain rfl := Option.some.inj h
    exact hret _ _ dX5_find_23 (Or.inl rfl)
  · rw [if_neg c9_4] at h
    refine zr_aload_n (pc := 12) hX 0 rfl rfl dX5_find_12 ?_
    refine zr_mgetA (pc := 13) hX 65 rfl rfl q1803 dX5_find_13 ?_
    refine zr_iload_n (pc := 16) hX 1 rfl rfl dX5_find_16 ?_
    obtain ⟨x4, gx4, h⟩ := bnd h
    refine zr_mald (pc := 17) hX 65 rfl rfl rfl gx4 dX5_find_17 ?_
    refine zr_istore_n (pc := 18) hX rfl rfl (Nat.le_of_ble_eq_true rfl) rfl dX5_find_18 ?_
    refine zr_goto (pc := 19) hX 2 rfl dX5_find_19 ?_
    exact (kco2 x4 (Option.some.inj h).symm).sub [1, 0] rfl
set_option maxHeartbeats 4000000 in
theorem mX5_lengthOf (l : Launch) (s0 : State) (D : zD) {σ : zH} {sz : Nat} {p0 : Int32} {o : Int32} (h : fX5_lengthOf p0 = some o) : zM l s0 D yX5_lengthOf cX5_lengthOf 1 (some .int) 1 0 0 0 [.int p0] σ sz σ sz (some (.int o)) := by
  refine zenter (own := RX5) zplX5 rfl (Nat.le_of_ble_eq_true rfl) trivial (fun K hX hnm hret => ?_)
  unfold fX5_lengthOf at h
  show VW K σ sz 0 0 0 [(0, .int p0)] []
  refine zr_iload_n (pc := 0) hX 0 rfl rfl dX5_lengthOf_0 ?_
  refine zr_if_ne (pc := 1) hX 8 rfl dX5_lengthOf_1 (fun c1_2 => ?_) (fun c1_2 => ?_)
  · rw [if_neg c1_2] at h
    refine zr_iload_n (pc := 8) hX 0 rfl rfl dX5_lengthOf_8 ?_
    refine zr_iconst (pc := 9) hX zci_3 dX5_lengthOf_9 ?_
    refine zr_icmp_ge (pc := 10) hX 17 rfl dX5_lengthOf_10 (fun c10_1 => ?_) (fun c10_1 => ?_)
    · rw [if_pos c10_1] at h
      refine zr_iload_n (pc := 17) hX 0 rfl rfl dX5_lengthOf_17 ?_
      refine zr_bipush (pc := 18) hX zcb_7 dX5_lengthOf_18 ?_
      refine zr_icmp_ge (pc := 20) hX 27 rfl dX5_lengthOf_20 (fun c20_0 => ?_) (fun c20_0 => ?_)
      · rw [if_pos c20_0] at h
        refine zr_iconst (pc := 27) hX zci_3 dX5_lengthOf_27 ?_
        obtain rfl := Option.some.inj h
        exact hret _ _ dX5_lengthOf_28 (Or.inl rfl)
      · rw [if_neg c20_0] at h
        refine zr_iconst (pc := 23) hX zci_2 dX5_lengthOf_23 ?_
        refine zr_goto (pc := 24) hX 28 rfl dX5_lengthOf_24 ?_
        obtain rfl := Option.some.inj h
        exact hret _ _ dX5_lengthOf_28 (Or.inl rfl)
    · rw [if_neg c10_1] at h
      refine zr_iconst (pc := 13) hX zci_1 dX5_lengthOf_13 ?_
      refine zr_goto (pc := 14) hX 28 rfl dX5_lengthOf_14 ?_
      obtain rfl := Option.some.inj h
      exact hret _ _ dX5_lengthOf_28 (Or.inl rfl)
  · rw [if_pos c1_2] at h
    refine zr_iconst (pc := 4) hX zci_0 dX5_lengthOf_4 ?_
    refine zr_goto (pc := 5) hX 28 rfl dX5_lengthOf_5 ?_
    obtain rfl := Option.some.inj h
    exact hret _ _ dX5_lengthOf_28 (Or.inl rfl)
set_option maxHeartbeats 4000000 in
theorem mX5_bitsOf (l : Launch) (s0 : State) (D : zD) {σ : zH} {sz : Nat} {p0 : Int32} {o : Int32} (h : fX5_bitsOf p0 = some o) : zM l s0 D yX5_bitsOf cX5_bitsOf 1 (some .int) 2 20 0 0 [.int p0] σ sz σ sz (some (.int o)) := by
  refine zenter (own := RX5) zplX5 rfl (Nat.le_of_ble_eq_true rfl) trivial (fun K hX hnm hret => ?_)
  unfold fX5_bitsOf at h
  show VW K σ sz 0 0 0 [(0, .int p0)] []
  refine zr_iload_n (pc := 0) hX 0 rfl rfl dX5_bitsOf_0 ?_
  refine zr_iconst (pc := 1) hX zci_1 dX5_bitsOf_1 ?_
  refine zr_iadd (pc := 2) hX dX5_bitsOf_2 ?_
  refine zr_iconst (pc := 3) hX zci_1 dX5_bitsOf_3 ?_
  refine zr_iload_n (pc := 4) hX 0 rfl rfl dX5_bitsOf_4 ?_
  obtain ⟨t1, gt1, h⟩ := bnd h
  refine zr_callS (pc := 5) (stk' := [.int t1, .int (1 : Int32), .int (p0 + (1 : Int32))]) (k' := 0) (n' := 0) hX (fun l s0 D => mX5_lengthOf l s0 D gt1) zwX5_lengthOf q2241 q2242 rfl rfl rfl rfl rfl rfl rfl rfl dX5_bitsOf_5 ?_
  refine zr_ishl (pc := 8) hX dX5_bitsOf_8 ?_
  refine zr_isub (pc := 9) hX dX5_bitsOf_9 ?_
  obtain rfl := Option.some.inj h
  exact hret _ _ dX5_bitsOf_10 (Or.inl rfl)
set_option maxHeartbeats 4000000 in
theorem mX5_begins (l : Launch) (s0 : State) (D : zD) {σ : zH} {sz : Nat} {p0 : Int32} {p1 : Int32} {o : Int32} (h : fX5_begins p0 p1 = some o) : zM l s0 D yX5_begins cX5_begins 3 (some .boolean) 3 40 0 0 [.int p0, .int p1] σ sz σ sz (some (.int o)) := by
  refine zenter (own := RX5) zplX5 rfl (Nat.le_of_ble_eq_true rfl) trivial (fun K hX hnm hret => ?_)
  unfold fX5_begins at h
  show VW K σ sz 0 0 0 [(0, .int p0), (1, .int p1)] []
  refine zr_iload_n (pc := 0) hX 1 rfl rfl dX5_begins_0 ?_
  obtain ⟨t1, gt1, h⟩ := bnd h
  refine zr_callS (pc := 1) (stk' := [.int t1]) (k' := 0) (n' := 0) hX (fun l s0 D => mX5_lengthOf l s0 D gt1) zwX5_lengthOf q2241 q2242 rfl rfl rfl rfl rfl rfl rfl rfl dX5_begins_1 ?_
  refine zr_iload_n (pc := 4) hX 0 rfl rfl dX5_begins_4 ?_
  obtain ⟨t2, gt2, h⟩ := bnd h
  refine zr_callS (pc := 5) (stk' := [.int t2, .int t1]) (k' := 0) (n' := 0) hX (fun l s0 D => mX5_lengthOf l s0 D gt2) zwX5_lengthOf q2241 q2242 rfl rfl rfl rfl rfl rfl rfl rfl dX5_begins_5 ?_
  refine zr_isub (pc := 8) hX dX5_begins_8 ?_
  obtain ⟨x3, gx3, h⟩ := bnd h
  refine zr_istore_n (pc := 9) hX (Option.some.inj gx3) rfl (Nat.le_of_ble_eq_true rfl) rfl dX5_begins_9 ?_
  refine zr_iload_n (pc := 10) hX 0 rfl rfl dX5_begins_10 ?_
  refine zr_if_lt (pc := 11) hX 31 rfl dX5_begins_11 (fun c11_6 => ?_) (fun c11_6 => ?_)
  · rw [if_pos c11_6] at h
    refine zr_iconst (pc := 31) hX zci_0 dX5_begins_31 ?_
    obtain rfl := Option.some.inj h
    exact hret _ _ dX5_begins_32 (Or.inr ⟨rfl, Or.inl rfl⟩)
  · rw [if_neg c11_6] at h
    refine zr_iload_n (pc := 14) hX 2 rfl rfl dX5_begins_14 ?_
    obtain ⟨t4, gt4, h⟩ := bnd h
    refine zr_callS (pc := 15) (stk' := [.int t4]) (k' := 0) (n' := 0) hX (fun l s0 D => mX5_bitsOf l s0 D gt4) zwX5_bitsOf q2244 q2245 rfl rfl rfl rfl rfl rfl rfl rfl dX5_begins_15 ?_
    refine zr_iload_n (pc := 18) hX 0 rfl rfl dX5_begins_18 ?_
    refine zr_ishr (pc := 19) hX dX5_begins_19 ?_
    refine zr_iload_n (pc := 20) hX 1 rfl rfl dX5_begins_20 ?_
    obtain ⟨t5, gt5, h⟩ := bnd h
    refine zr_callS (pc := 21) (stk' := [.int t5, .int (t4 >>> (x3 &&& 31))]) (k' := 0) (n' := 0) hX (fun l s0 D => mX5_bitsOf l s0 D gt5) zwX5_bitsOf q2244 q2245 rfl rfl rfl rfl rfl rfl rfl rfl dX5_begins_21 ?_
    refine zr_icmp_ne (pc := 24) hX 31 rfl dX5_begins_24 (fun c24_5 => ?_) (fun c24_5 => ?_)
    · rw [if_neg c24_5] at h
      refine zr_iconst (pc := 31) hX zci_0 dX5_begins_31 ?_
      obtain rfl := Option.some.inj h
      exact hret _ _ dX5_begins_32 (Or.inr ⟨rfl, Or.inl rfl⟩)
    · rw [if_pos c24_5] at h
      refine zr_iconst (pc := 27) hX zci_1 dX5_begins_27 ?_
      refine zr_goto (pc := 28) hX 32 rfl dX5_begins_28 ?_
      obtain rfl := Option.some.inj h
      exact hret _ _ dX5_begins_32 (Or.inr ⟨rfl, Or.inr rfl⟩)
set_option maxHeartbeats 4000000 in
theorem mX5_paired (l : Launch) (s0 : State) (D : zD) {n : Nat} {am : Nat} {st : zMS} {b : zH} {sz : Nat} {p0 : Int32} {o : zMS} (h : fX5_paired n st p0 = some o) : zM l s0 D yX5_paired cX5_paired 5 none 4 62 0 0 [.ref am, .int p0] (zMw am st b) sz (zMw am o b) sz none := by
  refine zenter (own := RX5) zplX5 rfl (Nat.le_of_ble_eq_true rfl) rfl (fun K hX hnm hret => ?_)
  unfold fX5_paired at h
  show VW K (zMw am st b) sz 0 0 0 [(0, .ref am), (1, .int p0)] []
  refine zr_iconst (pc := 0) hX zci_0 dX5_paired_0 ?_
  refine zr_istore_n (pc := 1) hX rfl rfl (Nat.le_of_ble_eq_true rfl) rfl dX5_paired_1 ?_
  refine VW.sub (lv' := [(0, .ref am), (1, .int p0), (2, .int (0 : Int32))]) ?_ [1, 2, 0] rfl
  refine zloop_walk (V := (fun a => VW K (zMw am a.1 b) sz 0 0 2 [(0, .ref am), (1, .int p0), (2, .int a.2)] [])) (E := fun e => e = o) ?_ n (st, (0 : Int32)) _ h rfl
  intro a1 o2 h kco2 keo2
  unfold fX5_paired_L2 at h
  refine zr_iload_n (pc := 2) hX 2 rfl rfl dX5_paired_2 ?_
  refine zr_bipush (pc := 3) hX zcb_32 dX5_paired_3 ?_
  refine zr_icmp_ge (pc := 5) hX 110 rfl dX5_paired_5 (fun c5_28 => ?_) (fun c5_28 => ?_)
  · rw [if_pos c5_28] at h
    replace h := congrArg some (keo2 _ (Option.some.inj h).symm)
    obtain rfl := Option.some.inj h
    exact hret _ _ dX5_paired_110
  · rw [if_neg c5_28] at h
    refine zr_iconst (pc := 8) hX zci_0 dX5_paired_8 ?_
    refine zr_istore_n (pc := 9) hX rfl rfl (Nat.le_of_ble_eq_true rfl) rfl dX5_paired_9 ?_
    obtain ⟨t5, gt5, h⟩ := bnd h
    have hJt5 : ∀ a, a = t5 → VW K (zMw am a b) sz 0 0 104 [(0, .ref am), (1, .int p0), (2, .int a1.2)] [] := by
      intro a ea
      rw [ea]
      obtain ⟨x6, gx6, h⟩ := bnd h
      refine zr_iinc (pc := 104) hX 2 rfl zci_1 (Option.some.inj gx6) (Nat.le_of_ble_eq_true rfl) rfl dX5_paired_104 ?_
      refine zr_goto (pc := 107) hX 2 rfl dX5_paired_107 ?_
      exact (kco2 (t5, x6) (Option.some.inj h).symm).sub [1, 2, 0] rfl
    refine VW.sub (lv' := [(0, .ref am), (1, .int p0), (2, .int a1.2), (3, .int (0 : Int32))]) ?_ [1, 2, 3, 0] rfl
    refine zloop_walk (V := (fun a => VW K (zMw am a.1 b) sz 0 0 10 [(0, .ref am), (1, .int p0), (2, .int a1.2), (3, .int a.2)] [])) (E := fun e => e = t5) ?_ n (a1.1, (0 : Int32)) _ gt5 rfl
    intro a3 o4 h kco4 keo4
    unfold fX5_paired_L10 at h
    refine zr_iload_n (pc := 10) hX 3 rfl rfl dX5_paired_10 ?_
    refine zr_bipush (pc := 11) hX zcb_32 dX5_paired_11 ?_
    refine zr_icmp_ge (pc := 13) hX 104 rfl dX5_paired_13 (fun c13_27 => ?_) (fun c13_27 => ?_)
    · rw [if_pos c13_27] at h
      exact (hJt5 a3.1 (keo4 _ (Option.some.inj h).symm)).sub [0, 1, 2] rfl
    · rw [if_neg c13_27] at h
      refine zr_aload_n (pc := 16) hX 0 rfl rfl dX5_paired_16 ?_
      refine zr_iload_n (pc := 17) hX 1 rfl rfl dX5_paired_17 ?_
      refine zr_iconst (pc := 18) hX zci_0 dX5_paired_18 ?_
      obtain ⟨t7, gt7, h⟩ := bnd h
      refine zr_callV (pc := 19) (stk' := [.int t7]) (k' := 0) (n' := 0) hX (fun l s0 D => mX5_domainAt l s0 D gt7) (zMw_obj _ _ _) (ci := 4) rfl zwX5_domainAt q2189 q2191 qs80 rfl rfl rfl rfl rfl rfl rfl rfl rfl dX5_paired_19 ?_
      refine zr_iload_n (pc := 22) hX 2 rfl rfl dX5_paired_22 ?_
      obtain ⟨t8, gt8, h⟩ := bnd h
      refine zr_callS (pc := 23) (stk' := [.int t8]) (k' := 0) (n' := 0) hX (fun l s0 D => mX5_hasBit l s0 D gt8) zwX5_hasBit q2156 q2157 rfl rfl rfl rfl rfl rfl rfl rfl dX5_paired_23 ?_
      refine zr_if_eq (pc := 26) hX 104 rfl dX5_paired_26 (fun c26_26 => ?_) (fun c26_26 => ?_)
      · rw [if_pos c26_26] at h
        exact (hJt5 a3.1 (keo4 _ (Option.some.inj h).symm)).sub [0, 1, 2] rfl
      · rw [if_neg c26_26] at h
        refine zr_aload_n (pc := 29) hX 0 rfl rfl dX5_paired_29 ?_
        refine zr_iload_n (pc := 30) hX 1 rfl rfl dX5_paired_30 ?_
        refine zr_iconst (pc := 31) hX zci_1 dX5_paired_31 ?_
        obtain ⟨t9, gt9, h⟩ := bnd h
        refine zr_callV (pc := 32) (stk' := [.int t9]) (k' := 0) (n' := 0) hX (fun l s0 D => mX5_domainAt l s0 D gt9) (zMw_obj _ _ _) (ci := 4) rfl zwX5_domainAt q2189 q2191 qs80 rfl rfl rfl rfl rfl rfl rfl rfl rfl dX5_paired_32 ?_
        refine zr_iload_n (pc := 35) hX 3 rfl rfl dX5_paired_35 ?_
        obtain ⟨t10, gt10, h⟩ := bnd h
        refine zr_callS (pc := 36) (stk' := [.int t10]) (k' := 0) (n' := 0) hX (fun l s0 D => mX5_hasBit l s0 D gt10) zwX5_hasBit q2156 q2157 rfl rfl rfl rfl rfl rfl rfl rfl dX5_paired_36 ?_
        obtain ⟨t11, gt11, h⟩ := bnd h
        have hJt11 : ∀ a, t11 = a → VW K (zMw am a3.1 b) sz 0 0 77 [(0, .ref am), (1, .int p0), (2, .int a1.2), (3, .int a3.2)] [.int a] := by
          intro a ea
          subst ea
          refine zr_istore (pc := 77) hX rfl (Nat.le_of_ble_eq_true rfl) rfl dX5_paired_77 ?_
          refine zr_iload (pc := 79) hX 0 rfl dX5_paired_79 ?_
          obtain ⟨t12, gt12, h⟩ := bnd h
          have hJt12 : ∀ a, t12 = a → VW K (zMw am a b) sz 0 0 98 [(0, .ref am), (1, .int p0), (2, .int a1.2), (3, .int a3.2)] [] := by
            intro a ea
            subst ea
            obtain ⟨x13, gx13, h⟩ := bnd h
            refine zr_iinc (pc := 98) hX 3 rfl zci_1 (Option.some.inj gx13) (Nat.le_of_ble_eq_true rfl) rfl dX5_paired_98 ?_
            refine zr_goto (pc := 101) hX 10 rfl dX5_paired_101 ?_
            exact (kco4 (t12, x13) (Option.some.inj h).symm).sub [1, 2, 3, 0] rfl
          replace h := gt12
          refine zr_if_eq (pc := 81) hX 98 rfl dX5_paired_81 (fun c81_15 => ?_) (fun c81_15 => ?_)
          · rw [if_pos c81_15] at h
            exact (hJt12 a3.1 (Option.some.inj h).symm).sub [1, 2, 3, 4] rfl
          · rw [if_neg c81_15] at h
            refine zr_aload_n (pc := 84) hX 1 rfl rfl dX5_paired_84 ?_
            refine zr_iload_n (pc := 85) hX 2 rfl rfl dX5_paired_85 ?_
            refine zr_iconst (pc := 86) hX zci_0 dX5_paired_86 ?_
            refine zr_iload_n (pc := 87) hX 3 rfl rfl dX5_paired_87 ?_
            obtain ⟨t14, gt14, h⟩ := bnd h
            refine zr_callV (pc := 88) (stk' := []) (k' := 0) (n' := 0) hX (fun l s0 D => mX5_supports l s0 D gt14) (zMw_obj _ _ _) (ci := 4) rfl zwX5_supports q2181 q2183 qs78 rfl rfl rfl rfl rfl rfl rfl rfl rfl dX5_paired_88 ?_
            refine zr_aload_n (pc := 91) hX 1 rfl rfl dX5_paired_91 ?_
            refine zr_iload_n (pc := 92) hX 2 rfl rfl dX5_paired_92 ?_
            refine zr_iconst (pc := 93) hX zci_1 dX5_paired_93 ?_
            refine zr_iload_n (pc := 94) hX 4 rfl rfl dX5_paired_94 ?_
            obtain ⟨t15, gt15, h⟩ := bnd h
            refine zr_callV (pc := 95) (stk' := []) (k' := 0) (n' := 0) hX (fun l s0 D => mX5_supports l s0 D gt15) (zMw_obj _ _ _) (ci := 4) rfl zwX5_supports q2181 q2183 qs78 rfl rfl rfl rfl rfl rfl rfl rfl rfl dX5_paired_95 ?_
            exact (hJt12 t15 (Option.some.inj h).symm).sub [1, 2, 3, 4] rfl
        replace h := gt11
        obtain ⟨u18, gu18, hAu18, hBu18⟩ := zesc_bnd h
        have hJt17 : ∀ a, u18 = .inl a → VW K (zMw am a3.1 b) sz 0 0 76 [(0, .ref am), (1, .int p0), (2, .int a1.2), (3, .int a3.2)] [] := by
          intro t17 ea
          have h := hAu18 _ ea
          refine zr_iconst (pc := 76) hX zci_0 dX5_paired_76 ?_
          exact (hJt11 (0 : Int32) (Option.some.inj h).symm).sub [0, 1, 2, 3] rfl
        replace h := gu18
        refine zr_if_eq (pc := 39) hX 76 rfl dX5_paired_39 (fun c39_25 => ?_) (fun c39_25 => ?_)
        · rw [if_pos c39_25] at h
          exact (hJt17 () (Option.some.inj h).symm).sub [0, 1, 2, 3] rfl
        · rw [if_neg c39_25] at h
          refine zr_aload_n (pc := 42) hX 0 rfl rfl dX5_paired_42 ?_
          refine zr_mgetA (pc := 43) hX 16 rfl rfl q1754 dX5_paired_43 ?_
          refine zr_iload_n (pc := 46) hX 1 rfl rfl dX5_paired_46 ?_
          obtain ⟨x19, gx19, h⟩ := bnd h
          refine zr_mald (pc := 47) hX 16 rfl rfl rfl gx19 dX5_paired_47 ?_
          refine zr_bipush (pc := 48) hX zcb_11 dX5_paired_48 ?_
          obtain ⟨u21, gu21, hAu21, hBu21⟩ := zesc_bnd h
          have hJt20 : ∀ a, u21 = .inl a → VW K (zMw am a3.1 b) sz 0 0 72 [(0, .ref am), (1, .int p0), (2, .int a1.2), (3, .int a3.2)] [] := by
            intro t20 ea
            have h := hAu21 _ ea
            refine zr_iconst (pc := 72) hX zci_1 dX5_paired_72 ?_
            refine zr_goto (pc := 73) hX 77 rfl dX5_paired_73 ?_
            replace h := congrArg some (hBu18 _ (Option.some.inj h).symm)
            exact (hJt11 (1 : Int32) (Option.some.inj h).symm).sub [0, 1, 2, 3] rfl
          replace h := gu21
          refine zr_icmp_ne (pc := 50) hX 64 rfl dX5_paired_50 (fun c50_24 => ?_) (fun c50_24 => ?_)
          · rw [if_neg c50_24] at h
            refine zr_iload_n (pc := 64) hX 2 rfl rfl dX5_paired_64 ?_
            refine zr_iload_n (pc := 65) hX 3 rfl rfl dX5_paired_65 ?_
            obtain ⟨t22, gt22, h⟩ := bnd h
            refine zr_callS (pc := 66) (stk' := [.int t22]) (k' := 0) (n' := 0) hX (fun l s0 D => mX5_begins l s0 D gt22) zwX5_begins q2238 q2239 rfl rfl rfl rfl rfl rfl rfl rfl dX5_paired_66 ?_
            refine zr_if_eq (pc := 69) hX 76 rfl dX5_paired_69 (fun c69_22 => ?_) (fun c69_22 => ?_)
            · rw [if_pos c69_22] at h
              replace h := congrArg some (hBu21 _ (Option.some.inj h).symm)
              exact (hJt17 () (Option.some.inj h).symm).sub [0, 1, 2, 3] rfl
            · rw [if_neg c69_22] at h
              exact (hJt20 () (Option.some.inj h).symm).sub [0, 1, 2, 3] rfl
          · rw [if_pos c50_24] at h
            refine zr_iload_n (pc := 53) hX 2 rfl rfl dX5_paired_53 ?_
            refine zr_iload_n (pc := 54) hX 3 rfl rfl dX5_paired_54 ?_
            refine zr_iconst (pc := 55) hX zci_m1 dX5_paired_55 ?_
            refine zr_ixor (pc := 56) hX dX5_paired_56 ?_
            refine zr_iand (pc := 57) hX dX5_paired_57 ?_
            refine zr_if_ne (pc := 58) hX 76 rfl dX5_paired_58 (fun c58_23 => ?_) (fun c58_23 => ?_)
            · rw [if_neg c58_23] at h
              replace h := congrArg some (hBu21 _ (Option.some.inj h).symm)
              exact (hJt17 () (Option.some.inj h).symm).sub [0, 1, 2, 3] rfl
            · rw [if_pos c58_23] at h
              refine zr_goto (pc := 61) hX 72 rfl dX5_paired_61 ?_
              exact (hJt20 () (Option.some.inj h).symm).sub [0, 1, 2, 3] rfl
set_option maxHeartbeats 4000000 in
theorem mX5_wordOf (l : Launch) (s0 : State) (D : zD) {σ : zH} {sz : Nat} {p0 : Int32} {p1 : Int32} {o : Int32} (h : fX5_wordOf p0 p1 = some o) : zM l s0 D yX5_wordOf cX5_wordOf 2 (some .int) 1 0 0 0 [.int p0, .int p1] σ sz σ sz (some (.int o)) := by
  refine zenter (own := RX5) zplX5 rfl (Nat.le_of_ble_eq_true rfl) trivial (fun K hX hnm hret => ?_)
  unfold fX5_wordOf at h
  show VW K σ sz 0 0 0 [(0, .int p0), (1, .int p1)] []
  refine zr_iload_n (pc := 0) hX 0 rfl rfl dX5_wordOf_0 ?_
  refine zr_iconst (pc := 1) hX zci_3 dX5_wordOf_1 ?_
  refine zr_icmp_le (pc := 2) hX 9 rfl dX5_wordOf_2 (fun c2_0 => ?_) (fun c2_0 => ?_)
  · rw [if_pos c2_0] at h
    refine zr_iload_n (pc := 9) hX 1 rfl rfl dX5_wordOf_9 ?_
    refine zr_iconst (pc := 10) hX zci_1 dX5_wordOf_10 ?_
    refine zr_iload_n (pc := 11) hX 0 rfl rfl dX5_wordOf_11 ?_
    refine zr_ishl (pc := 12) hX dX5_wordOf_12 ?_
    refine zr_iadd (pc := 13) hX dX5_wordOf_13 ?_
    refine zr_iconst (pc := 14) hX zci_1 dX5_wordOf_14 ?_
    refine zr_isub (pc := 15) hX dX5_wordOf_15 ?_
    obtain rfl := Option.some.inj h
    exact hret _ _ dX5_wordOf_16 (Or.inl rfl)
  · rw [if_neg c2_0] at h
    refine zr_iconst (pc := 5) hX zci_m1 dX5_wordOf_5 ?_
    refine zr_goto (pc := 6) hX 16 rfl dX5_wordOf_6 ?_
    obtain rfl := Option.some.inj h
    exact hret _ _ dX5_wordOf_16 (Or.inl rfl)
set_option maxHeartbeats 4000000 in
theorem mX5_joinedWord (l : Launch) (s0 : State) (D : zD) {σ : zH} {sz : Nat} {p0 : Int32} {p1 : Int32} {o : Int32} (h : fX5_joinedWord p0 p1 = some o) : zM l s0 D yX5_joinedWord cX5_joinedWord 3 (some .int) 3 40 0 0 [.int p0, .int p1] σ sz σ sz (some (.int o)) := by
  refine zenter (own := RX5) zplX5 rfl (Nat.le_of_ble_eq_true rfl) trivial (fun K hX hnm hret => ?_)
  unfold fX5_joinedWord at h
  show VW K σ sz 0 0 0 [(0, .int p0), (1, .int p1)] []
  refine zr_iload_n (pc := 0) hX 0 rfl rfl dX5_joinedWord_0 ?_
  obtain ⟨t1, gt1, h⟩ := bnd h
  refine zr_callS (pc := 1) (stk' := [.int t1]) (k' := 0) (n' := 0) hX (fun l s0 D => mX5_lengthOf l s0 D gt1) zwX5_lengthOf q2241 q2242 rfl rfl rfl rfl rfl rfl rfl rfl dX5_joinedWord_1 ?_
  refine zr_iload_n (pc := 4) hX 1 rfl rfl dX5_joinedWord_4 ?_
  obtain ⟨t2, gt2, h⟩ := bnd h
  refine zr_callS (pc := 5) (stk' := [.int t2, .int t1]) (k' := 0) (n' := 0) hX (fun l s0 D => mX5_lengthOf l s0 D gt2) zwX5_lengthOf q2241 q2242 rfl rfl rfl rfl rfl rfl rfl rfl dX5_joinedWord_5 ?_
  refine zr_iadd (pc := 8) hX dX5_joinedWord_8 ?_
  obtain ⟨x3, gx3, h⟩ := bnd h
  refine zr_istore_n (pc := 9) hX (Option.some.inj gx3) rfl (Nat.le_of_ble_eq_true rfl) rfl dX5_joinedWord_9 ?_
  refine zr_iload_n (pc := 10) hX 0 rfl rfl dX5_joinedWord_10 ?_
  refine zr_iload_n (pc := 11) hX 1 rfl rfl dX5_joinedWord_11 ?_
  obtain ⟨t4, gt4, h⟩ := bnd h
  refine zr_callS (pc := 12) (stk' := [.int t4, .int x3]) (k' := 0) (n' := 0) hX (fun l s0 D => mX5_bitsOf l s0 D gt4) zwX5_bitsOf q2244 q2245 rfl rfl rfl rfl rfl rfl rfl rfl dX5_joinedWord_12 ?_
  refine zr_iload_n (pc := 15) hX 2 rfl rfl dX5_joinedWord_15 ?_
  obtain ⟨t5, gt5, h⟩ := bnd h
  refine zr_callS (pc := 16) (stk' := [.int t5, .int t4, .int x3]) (k' := 0) (n' := 0) hX (fun l s0 D => mX5_lengthOf l s0 D gt5) zwX5_lengthOf q2241 q2242 rfl rfl rfl rfl rfl rfl rfl rfl dX5_joinedWord_16 ?_
  refine zr_ishl (pc := 19) hX dX5_joinedWord_19 ?_
  refine zr_iload_n (pc := 20) hX 2 rfl rfl dX5_joinedWord_20 ?_
  obtain ⟨t6, gt6, h⟩ := bnd h
  refine zr_callS (pc := 21) (stk' := [.int t6, .int (t4 <<< (t5 &&& 31)), .int x3]) (k' := 0) (n' := 0) hX (fun l s0 D => mX5_bitsOf l s0 D gt6) zwX5_bitsOf q2244 q2245 rfl rfl rfl rfl rfl rfl rfl rfl dX5_joinedWord_21 ?_
  refine zr_ior (pc := 24) hX dX5_joinedWord_24 ?_
  obtain ⟨t7, gt7, h⟩ := bnd h
  refine zr_callS (pc := 25) (stk' := [.int t7]) (k' := 0) (n' := 0) hX (fun l s0 D => mX5_wordOf l s0 D gt7) zwX5_wordOf q2258 q2259 rfl rfl rfl rfl rfl rfl rfl rfl dX5_joinedWord_25 ?_
  obtain rfl := Option.some.inj h
  exact hret _ _ dX5_joinedWord_28 (Or.inl rfl)
set_option maxHeartbeats 4000000 in
theorem mX5_letterOf (l : Launch) (s0 : State) (D : zD) {σ : zH} {sz : Nat} {p0 : Int32} {p1 : Int32} {o : Int32} (h : fX5_letterOf p0 p1 = some o) : zM l s0 D yX5_letterOf cX5_letterOf 2 (some .int) 3 40 0 0 [.int p0, .int p1] σ sz σ sz (some (.int o)) := by
  refine zenter (own := RX5) zplX5 rfl (Nat.le_of_ble_eq_true rfl) trivial (fun K hX hnm hret => ?_)
  unfold fX5_letterOf at h
  show VW K σ sz 0 0 0 [(0, .int p0), (1, .int p1)] []
  refine zr_iload_n (pc := 0) hX 1 rfl rfl dX5_letterOf_0 ?_
  refine zr_iload_n (pc := 1) hX 0 rfl rfl dX5_letterOf_1 ?_
  obtain ⟨t1, gt1, h⟩ := bnd h
  refine zr_callS (pc := 2) (stk' := [.int t1, .int p1]) (k' := 0) (n' := 0) hX (fun l s0 D => mX5_lengthOf l s0 D gt1) zwX5_lengthOf q2241 q2242 rfl rfl rfl rfl rfl rfl rfl rfl dX5_letterOf_2 ?_
  refine zr_icmp_ge (pc := 5) hX 26 rfl dX5_letterOf_5 (fun c5_3 => ?_) (fun c5_3 => ?_)
  · rw [if_pos c5_3] at h
    refine zr_iconst (pc := 26) hX zci_m1 dX5_letterOf_26 ?_
    obtain rfl := Option.some.inj h
    exact hret _ _ dX5_letterOf_27 (Or.inl rfl)
  · rw [if_neg c5_3] at h
    refine zr_iload_n (pc := 8) hX 0 rfl rfl dX5_letterOf_8 ?_
    obtain ⟨t2, gt2, h⟩ := bnd h
    refine zr_callS (pc := 9) (stk' := [.int t2]) (k' := 0) (n' := 0) hX (fun l s0 D => mX5_bitsOf l s0 D gt2) zwX5_bitsOf q2244 q2245 rfl rfl rfl rfl rfl rfl rfl rfl dX5_letterOf_9 ?_
    refine zr_iload_n (pc := 12) hX 0 rfl rfl dX5_letterOf_12 ?_
    obtain ⟨t3, gt3, h⟩ := bnd h
    refine zr_callS (pc := 13) (stk' := [.int t3, .int t2]) (k' := 0) (n' := 0) hX (fun l s0 D => mX5_lengthOf l s0 D gt3) zwX5_lengthOf q2241 q2242 rfl rfl rfl rfl rfl rfl rfl rfl dX5_letterOf_13 ?_
    refine zr_iconst (pc := 16) hX zci_1 dX5_letterOf_16 ?_
    refine zr_isub (pc := 17) hX dX5_letterOf_17 ?_
    refine zr_iload_n (pc := 18) hX 1 rfl rfl dX5_letterOf_18 ?_
    refine zr_isub (pc := 19) hX dX5_letterOf_19 ?_
    refine zr_ishr (pc := 20) hX dX5_letterOf_20 ?_
    refine zr_iconst (pc := 21) hX zci_1 dX5_letterOf_21 ?_
    refine zr_iand (pc := 22) hX dX5_letterOf_22 ?_
    refine zr_goto (pc := 23) hX 27 rfl dX5_letterOf_23 ?_
    obtain rfl := Option.some.inj h
    exact hret _ _ dX5_letterOf_27 (Or.inl rfl)
set_option maxHeartbeats 4000000 in
theorem mX5_first (l : Launch) (s0 : State) (D : zD) {n : Nat} {am : Nat} {st : zMS} {b : zH} {sz : Nat} {p0 : Int32} {p1 : Int32} {p2 : Int32} {o : Int32} (h : fX5_first n p0 p1 p2 = some o) : zM l s0 D yX5_first cX5_first 4 (some .int) 4 62 0 0 [.ref am, .int p0, .int p1, .int p2] (zMw am st b) sz (zMw am st b) sz (some (.int o)) := by
  refine zenter (own := RX5) zplX5 rfl (Nat.le_of_ble_eq_true rfl) trivial (fun K hX hnm hret => ?_)
  unfold fX5_first at h
  show VW K (zMw am st b) sz 0 0 0 [(0, .ref am), (1, .int p0), (2, .int p1), (3, .int p2)] []
  refine zr_iload_n (pc := 0) hX 1 rfl rfl dX5_first_0 ?_
  by_cases c1_0_7 : p0 = (7 : Int32)
  · rw [if_pos c1_0_7] at h
    refine zr_tableIn (pc := 1) hX 52 (by rw [c1_0_7]; decide) (by rw [c1_0_7]; decide) (by rw [c1_0_7]; rfl) rfl dX5_first_1 ?_
    refine zr_iload_n (pc := 52) hX 2 rfl rfl dX5_first_52 ?_
    refine zr_iload_n (pc := 53) hX 3 rfl rfl dX5_first_53 ?_
    refine zr_icmp_ge (pc := 54) hX 61 rfl dX5_first_54 (fun c54_1 => ?_) (fun c54_1 => ?_)
    · rw [if_pos c54_1] at h
      refine zr_iconst (pc := 61) hX zci_0 dX5_first_61 ?_
      obtain rfl := Option.some.inj h
      exact hret _ _ dX5_first_62 (Or.inl rfl)
    · rw [if_neg c54_1] at h
      refine zr_iconst (pc := 57) hX zci_1 dX5_first_57 ?_
      refine zr_goto (pc := 58) hX 62 rfl dX5_first_58 ?_
      obtain rfl := Option.some.inj h
      exact hret _ _ dX5_first_62 (Or.inl rfl)
  rw [if_neg c1_0_7] at h
  by_cases c1_0_8 : p0 = (8 : Int32)
  · rw [if_pos c1_0_8] at h
    refine zr_tableIn (pc := 1) hX 63 (by rw [c1_0_8]; decide) (by rw [c1_0_8]; decide) (by rw [c1_0_8]; rfl) rfl dX5_first_1 ?_
    refine zr_iload_n (pc := 63) hX 2 rfl rfl dX5_first_63 ?_
    refine zr_iload_n (pc := 64) hX 3 rfl rfl dX5_first_64 ?_
    refine zr_icmp_ne (pc := 65) hX 72 rfl dX5_first_65 (fun c65_2 => ?_) (fun c65_2 => ?_)
    · rw [if_neg c65_2] at h
      refine zr_iconst (pc := 72) hX zci_0 dX5_first_72 ?_
      obtain rfl := Option.some.inj h
      exact hret _ _ dX5_first_73 (Or.inl rfl)
    · rw [if_pos c65_2] at h
      refine zr_iconst (pc := 68) hX zci_1 dX5_first_68 ?_
      refine zr_goto (pc := 69) hX 73 rfl dX5_first_69 ?_
      obtain rfl := Option.some.inj h
      exact hret _ _ dX5_first_73 (Or.inl rfl)
  rw [if_neg c1_0_8] at h
  by_cases c1_0_9 : p0 = (9 : Int32)
  · rw [if_pos c1_0_9] at h
    refine zr_tableIn (pc := 1) hX 74 (by rw [c1_0_9]; decide) (by rw [c1_0_9]; decide) (by rw [c1_0_9]; rfl) rfl dX5_first_1 ?_
    refine zr_iload_n (pc := 74) hX 2 rfl rfl dX5_first_74 ?_
    refine zr_iload_n (pc := 75) hX 3 rfl rfl dX5_first_75 ?_
    refine zr_ior (pc := 76) hX dX5_first_76 ?_
    obtain rfl := Option.some.inj h
    exact hret _ _ dX5_first_77 (Or.inl rfl)
  rw [if_neg c1_0_9] at h
  by_cases c1_0_10 : p0 = (10 : Int32)
  · rw [if_pos c1_0_10] at h
    refine zr_tableIn (pc := 1) hX 78 (by rw [c1_0_10]; decide) (by rw [c1_0_10]; decide) (by rw [c1_0_10]; rfl) rfl dX5_first_1 ?_
    refine zr_iload_n (pc := 78) hX 2 rfl rfl dX5_first_78 ?_
    refine zr_iload_n (pc := 79) hX 3 rfl rfl dX5_first_79 ?_
    refine zr_iand (pc := 80) hX dX5_first_80 ?_
    obtain rfl := Option.some.inj h
    exact hret _ _ dX5_first_81 (Or.inl rfl)
  rw [if_neg c1_0_10] at h
  by_cases c1_0_12 : p0 = (12 : Int32)
  · rw [if_pos c1_0_12] at h
    refine zr_tableIn (pc := 1) hX 82 (by rw [c1_0_12]; decide) (by rw [c1_0_12]; decide) (by rw [c1_0_12]; rfl) rfl dX5_first_1 ?_
    refine zr_iload_n (pc := 82) hX 2 rfl rfl dX5_first_82 ?_
    obtain ⟨t4, gt4, h⟩ := bnd h
    refine zr_callS (pc := 83) (stk' := [.int t4]) (k' := 0) (n' := 0) hX (fun l s0 D => mX5_count l s0 D gt4) zwX5_count q2197 q2198 rfl rfl rfl rfl rfl rfl rfl rfl dX5_first_83 ?_
    obtain rfl := Option.some.inj h
    exact hret _ _ dX5_first_86 (Or.inl rfl)
  rw [if_neg c1_0_12] at h
  by_cases c1_0_13 : p0 = (13 : Int32)
  · rw [if_pos c1_0_13] at h
    refine zr_tableIn (pc := 1) hX 87 (by rw [c1_0_13]; decide) (by rw [c1_0_13]; decide) (by rw [c1_0_13]; rfl) rfl dX5_first_1 ?_
    refine zr_iload_n (pc := 87) hX 2 rfl rfl dX5_first_87 ?_
    obtain ⟨t5, gt5, h⟩ := bnd h
    refine zr_callS (pc := 88) (stk' := [.int t5]) (k' := 0) (n' := 0) hX (fun l s0 D => mX5_lengthOf l s0 D gt5) zwX5_lengthOf q2241 q2242 rfl rfl rfl rfl rfl rfl rfl rfl dX5_first_88 ?_
    obtain rfl := Option.some.inj h
    exact hret _ _ dX5_first_91 (Or.inl rfl)
  rw [if_neg c1_0_13] at h
  by_cases c1_0_14 : p0 = (14 : Int32)
  · rw [if_pos c1_0_14] at h
    refine zr_tableIn (pc := 1) hX 92 (by rw [c1_0_14]; decide) (by rw [c1_0_14]; decide) (by rw [c1_0_14]; rfl) rfl dX5_first_1 ?_
    refine zr_iload_n (pc := 92) hX 3 rfl rfl dX5_first_92 ?_
    refine zr_iload_n (pc := 93) hX 2 rfl rfl dX5_first_93 ?_
    obtain ⟨t6, gt6, h⟩ := bnd h
    refine zr_callS (pc := 94) (stk' := [.int t6]) (k' := 0) (n' := 0) hX (fun l s0 D => mX5_hasBit l s0 D gt6) zwX5_hasBit q2156 q2157 rfl rfl rfl rfl rfl rfl rfl rfl dX5_first_94 ?_
    refine zr_if_eq (pc := 97) hX 104 rfl dX5_first_97 (fun c97_6 => ?_) (fun c97_6 => ?_)
    · rw [if_pos c97_6] at h
      refine zr_iconst (pc := 104) hX zci_0 dX5_first_104 ?_
      obtain rfl := Option.some.inj h
      exact hret _ _ dX5_first_105 (Or.inl rfl)
    · rw [if_neg c97_6] at h
      refine zr_iconst (pc := 100) hX zci_1 dX5_first_100 ?_
      refine zr_goto (pc := 101) hX 105 rfl dX5_first_101 ?_
      obtain rfl := Option.some.inj h
      exact hret _ _ dX5_first_105 (Or.inl rfl)
  rw [if_neg c1_0_14] at h
  by_cases c1_0_15 : p0 = (15 : Int32)
  · rw [if_pos c1_0_15] at h
    refine zr_tableIn (pc := 1) hX 106 (by rw [c1_0_15]; decide) (by rw [c1_0_15]; decide) (by rw [c1_0_15]; rfl) rfl dX5_first_1 ?_
    refine zr_iload_n (pc := 106) hX 2 rfl rfl dX5_first_106 ?_
    refine zr_iload_n (pc := 107) hX 3 rfl rfl dX5_first_107 ?_
    obtain ⟨t8, gt8, h⟩ := bnd h
    refine zr_callS (pc := 108) (stk' := [.int t8]) (k' := 0) (n' := 0) hX (fun l s0 D => mX5_joinedWord l s0 D gt8) zwX5_joinedWord q2255 q2256 rfl rfl rfl rfl rfl rfl rfl rfl dX5_first_108 ?_
    obtain rfl := Option.some.inj h
    exact hret _ _ dX5_first_111 (Or.inl rfl)
  rw [if_neg c1_0_15] at h
  have hd0 : VW K (zMw am st b) sz 0 0 112 [(0, .ref am), (1, .int p0), (2, .int p1), (3, .int p2)] [] := by
    refine zr_iload_n (pc := 112) hX 2 rfl rfl dX5_first_112 ?_
    refine zr_iload_n (pc := 113) hX 3 rfl rfl dX5_first_113 ?_
    obtain ⟨t9, gt9, h⟩ := bnd h
    refine zr_callS (pc := 114) (stk' := [.int t9]) (k' := 0) (n' := 0) hX (fun l s0 D => mX5_letterOf l s0 D gt9) zwX5_letterOf q2261 q2262 rfl rfl rfl rfl rfl rfl rfl rfl dX5_first_114 ?_
    obtain rfl := Option.some.inj h
    exact hret _ _ dX5_first_117 (Or.inl rfl)
  by_cases c1_0_11 : p0 = (11 : Int32)
  · exact zr_tableIn hX 112 (by rw [c1_0_11]; decide) (by rw [c1_0_11]; decide) (by rw [c1_0_11]; rfl) rfl dX5_first_1 hd0
  have ic1_0_7 := zne_int c1_0_7 (show ((7 : Int32)).toInt = 7 from by decide)
  have ic1_0_8 := zne_int c1_0_8 (show ((8 : Int32)).toInt = 8 from by decide)
  have ic1_0_9 := zne_int c1_0_9 (show ((9 : Int32)).toInt = 9 from by decide)
  have ic1_0_10 := zne_int c1_0_10 (show ((10 : Int32)).toInt = 10 from by decide)
  have ic1_0_11 := zne_int c1_0_11 (show ((11 : Int32)).toInt = 11 from by decide)
  have ic1_0_12 := zne_int c1_0_12 (show ((12 : Int32)).toInt = 12 from by decide)
  have ic1_0_13 := zne_int c1_0_13 (show ((13 : Int32)).toInt = 13 from by decide)
  have ic1_0_14 := zne_int c1_0_14 (show ((14 : Int32)).toInt = 14 from by decide)
  have ic1_0_15 := zne_int c1_0_15 (show ((15 : Int32)).toInt = 15 from by decide)
  exact zr_tableOut hX 112 (by omega) rfl dX5_first_1 hd0
set_option maxHeartbeats 4000000 in
theorem mX5_functional (l : Launch) (s0 : State) (D : zD) {n : Nat} {am : Nat} {st : zMS} {b : zH} {sz : Nat} {p0 : Int32} {o : zMS} (h : fX5_functional n st p0 = some o) : zM l s0 D yX5_functional cX5_functional 6 none 5 85 0 0 [.ref am, .int p0] (zMw am st b) sz (zMw am o b) sz none := by
  refine zenter (own := RX5) zplX5 rfl (Nat.le_of_ble_eq_true rfl) rfl (fun K hX hnm hret => ?_)
  unfold fX5_functional at h
  show VW K (zMw am st b) sz 0 0 0 [(0, .ref am), (1, .int p0)] []
  refine zr_aload_n (pc := 0) hX 0 rfl rfl dX5_functional_0 ?_
  refine zr_mgetA (pc := 1) hX 17 rfl rfl q1755 dX5_functional_1 ?_
  refine zr_iload_n (pc := 4) hX 1 rfl rfl dX5_functional_4 ?_
  obtain ⟨x1, gx1, h⟩ := bnd h
  refine zr_mald (pc := 5) hX 17 rfl rfl rfl gx1 dX5_functional_5 ?_
  refine zr_iconst (pc := 6) hX zci_3 dX5_functional_6 ?_
  obtain ⟨t2, gt2, h⟩ := bnd h
  have hJt2 : ∀ a, t2 = a → VW K (zMw am st b) sz 0 0 15 [(0, .ref am), (1, .int p0)] [.int a] := by
    intro a ea
    subst ea
    refine zr_istore_n (pc := 15) hX rfl rfl (Nat.le_of_ble_eq_true rfl) rfl dX5_functional_15 ?_
    refine zr_iconst (pc := 16) hX zci_0 dX5_functional_16 ?_
    refine zr_istore_n (pc := 17) hX rfl rfl (Nat.le_of_ble_eq_true rfl) rfl dX5_functional_17 ?_
    refine VW.sub (lv' := [(0, .ref am), (1, .int p0), (2, .int t2), (3, .int (0 : Int32))]) ?_ [2, 3, 1, 0] rfl
    refine zloop_walk (V := (fun a => VW K (zMw am a.1 b) sz 0 0 18 [(0, .ref am), (1, .int p0), (2, .int t2), (3, .int a.2)] [])) (E := fun e => e = o) ?_ n (st, (0 : Int32)) _ h rfl
    intro a3 o4 h kco4 keo4
    unfold fX5_functional_L18 at h
    refine zr_iload_n (pc := 18) hX 3 rfl rfl dX5_functional_18 ?_
    refine zr_bipush (pc := 19) hX zcb_32 dX5_functional_19 ?_
    refine zr_icmp_ge (pc := 21) hX 155 rfl dX5_functional_21 (fun c21_33 => ?_) (fun c21_33 => ?_)
    · rw [if_pos c21_33] at h
      replace h := congrArg some (keo4 _ (Option.some.inj h).symm)
      obtain rfl := Option.some.inj h
      exact hret _ _ dX5_functional_155
    · rw [if_neg c21_33] at h
      refine zr_iconst (pc := 24) hX zci_0 dX5_functional_24 ?_
      refine zr_istore (pc := 25) hX rfl (Nat.le_of_ble_eq_true rfl) rfl dX5_functional_25 ?_
      obtain ⟨t7, gt7, h⟩ := bnd h
      have hJt7 : ∀ a, a = t7 → VW K (zMw am a b) sz 0 0 149 [(0, .ref am), (1, .int p0), (2, .int t2), (3, .int a3.2)] [] := by
        intro a ea
        rw [ea]
        obtain ⟨x8, gx8, h⟩ := bnd h
        refine zr_iinc (pc := 149) hX 3 rfl zci_1 (Option.some.inj gx8) (Nat.le_of_ble_eq_true rfl) rfl dX5_functional_149 ?_
        refine zr_goto (pc := 152) hX 18 rfl dX5_functional_152 ?_
        exact (kco4 (t7, x8) (Option.some.inj h).symm).sub [1, 2, 3, 0] rfl
      refine VW.sub (lv' := [(0, .ref am), (1, .int p0), (2, .int t2), (3, .int a3.2), (4, .int (0 : Int32))]) ?_ [1, 2, 3, 4, 0] rfl
      refine zloop_walk (V := (fun a => VW K (zMw am a.1 b) sz 0 0 27 [(0, .ref am), (1, .int p0), (2, .int t2), (3, .int a3.2), (4, .int a.2)] [])) (E := fun e => e = t7) ?_ n (a3.1, (0 : Int32)) _ gt7 rfl
      intro a5 o6 h kco6 keo6
      unfold fX5_functional_L27 at h
      refine zr_iload (pc := 27) hX 4 rfl dX5_functional_27 ?_
      refine zr_iload_n (pc := 29) hX 2 rfl rfl dX5_functional_29 ?_
      obtain ⟨t9, gt9, h⟩ := bnd h
      have hJt9 : ∀ a, t9 = a → VW K (zMw am a5.1 b) sz 0 0 39 [(0, .ref am), (1, .int p0), (2, .int t2), (3, .int a3.2), (4, .int a5.2)] [.int a, .int a5.2] := by
        intro a ea
        subst ea
        refine zr_icmp_ge (pc := 39) hX 149 rfl dX5_functional_39 (fun c39_31 => ?_) (fun c39_31 => ?_)
        · rw [if_pos c39_31] at h
          exact (hJt7 a5.1 (keo6 _ (Option.some.inj h).symm)).sub [0, 1, 2, 3] rfl
        · rw [if_neg c39_31] at h
          refine zr_aload_n (pc := 42) hX 0 rfl rfl dX5_functional_42 ?_
          refine zr_iload_n (pc := 43) hX 1 rfl rfl dX5_functional_43 ?_
          refine zr_iconst (pc := 44) hX zci_1 dX5_functional_44 ?_
          obtain ⟨t10, gt10, h⟩ := bnd h
          refine zr_callV (pc := 45) (stk' := [.int t10]) (k' := 0) (n' := 0) hX (fun l s0 D => mX5_domainAt l s0 D gt10) (zMw_obj _ _ _) (ci := 4) rfl zwX5_domainAt q2189 q2191 qs80 rfl rfl rfl rfl rfl rfl rfl rfl rfl dX5_functional_45 ?_
          refine zr_iload_n (pc := 48) hX 3 rfl rfl dX5_functional_48 ?_
          obtain ⟨t11, gt11, h⟩ := bnd h
          refine zr_callS (pc := 49) (stk' := [.int t11]) (k' := 0) (n' := 0) hX (fun l s0 D => mX5_hasBit l s0 D gt11) zwX5_hasBit q2156 q2157 rfl rfl rfl rfl rfl rfl rfl rfl dX5_functional_49 ?_
          refine zr_if_eq (pc := 52) hX 149 rfl dX5_functional_52 (fun c52_30 => ?_) (fun c52_30 => ?_)
          · rw [if_pos c52_30] at h
            exact (hJt7 a5.1 (keo6 _ (Option.some.inj h).symm)).sub [0, 1, 2, 3] rfl
          · rw [if_neg c52_30] at h
            refine zr_iload_n (pc := 55) hX 2 rfl rfl dX5_functional_55 ?_
            obtain ⟨t12, gt12, h⟩ := bnd h
            have hJt12 : ∀ a, t12 = a → VW K (zMw am a b) sz 0 0 143 [(0, .ref am), (1, .int p0), (2, .int t2), (3, .int a3.2), (4, .int a5.2)] [] := by
              intro a ea
              subst ea
              obtain ⟨x13, gx13, h⟩ := bnd h
              refine zr_iinc (pc := 143) hX 4 rfl zci_1 (Option.some.inj gx13) (Nat.le_of_ble_eq_true rfl) rfl dX5_functional_143 ?_
              refine zr_goto (pc := 146) hX 27 rfl dX5_functional_146 ?_
              exact (kco6 (t12, x13) (Option.some.inj h).symm).sub [1, 2, 3, 4, 0] rfl
            replace h := gt12
            obtain ⟨u26, gu26, hAu26, hBu26⟩ := zesc_bnd h
            have hJt14 : ∀ a, u26 = .inl a → VW K (zMw am a5.1 b) sz 0 0 73 [(0, .ref am), (1, .int p0), (2, .int t2), (3, .int a3.2), (4, .int a5.2)] [] := by
              intro t14 ea
              have h := hAu26 _ ea
              refine zr_aload_n (pc := 73) hX 0 rfl rfl dX5_functional_73 ?_
              refine zr_aload_n (pc := 74) hX 0 rfl rfl dX5_functional_74 ?_
              refine zr_mgetA (pc := 75) hX 16 rfl rfl q1754 dX5_functional_75 ?_
              refine zr_iload_n (pc := 78) hX 1 rfl rfl dX5_functional_78 ?_
              obtain ⟨x15, gx15, h⟩ := bnd h
              refine zr_mald (pc := 79) hX 16 rfl rfl rfl gx15 dX5_functional_79 ?_
              refine zr_iload_n (pc := 80) hX 3 rfl rfl dX5_functional_80 ?_
              refine zr_iload (pc := 81) hX 4 rfl dX5_functional_81 ?_
              obtain ⟨t16, gt16, h⟩ := bnd h
              refine zr_callV (pc := 83) (stk' := [.int t16]) (k' := 0) (n' := 0) hX (fun l s0 D => mX5_first l s0 D gt16) (zMw_obj _ _ _) (ci := 4) rfl zwX5_first q2251 q2253 qs91 rfl rfl rfl rfl rfl rfl rfl rfl rfl dX5_functional_83 ?_
              refine zr_istore (pc := 86) hX rfl (Nat.le_of_ble_eq_true rfl) rfl dX5_functional_86 ?_
              refine zr_aload_n (pc := 88) hX 1 rfl rfl dX5_functional_88 ?_
              refine zr_iload_n (pc := 89) hX 2 rfl rfl dX5_functional_89 ?_
              refine zr_iconst (pc := 90) hX zci_0 dX5_functional_90 ?_
              obtain ⟨t17, gt17, h⟩ := bnd h
              refine zr_callV (pc := 91) (stk' := [.int t17]) (k' := 0) (n' := 0) hX (fun l s0 D => mX5_domainAt l s0 D gt17) (zMw_obj _ _ _) (ci := 4) rfl zwX5_domainAt q2189 q2191 qs80 rfl rfl rfl rfl rfl rfl rfl rfl rfl dX5_functional_91 ?_
              refine zr_iload (pc := 94) hX 0 rfl dX5_functional_94 ?_
              obtain ⟨t18, gt18, h⟩ := bnd h
              refine zr_callS (pc := 96) (stk' := [.int t18]) (k' := 0) (n' := 0) hX (fun l s0 D => mX5_hasBit l s0 D gt18) zwX5_hasBit q2156 q2157 rfl rfl rfl rfl rfl rfl rfl rfl dX5_functional_96 ?_
              refine zr_if_eq (pc := 99) hX 143 rfl dX5_functional_99 (fun c99_24 => ?_) (fun c99_24 => ?_)
              · rw [if_pos c99_24] at h
                exact (hJt12 a5.1 (Option.some.inj h).symm).sub [1, 2, 3, 4, 5] rfl
              · rw [if_neg c99_24] at h
                refine zr_aload_n (pc := 102) hX 1 rfl rfl dX5_functional_102 ?_
                refine zr_iload_n (pc := 103) hX 2 rfl rfl dX5_functional_103 ?_
                refine zr_iconst (pc := 104) hX zci_0 dX5_functional_104 ?_
                refine zr_iload (pc := 105) hX 0 rfl dX5_functional_105 ?_
                obtain ⟨t19, gt19, h⟩ := bnd h
                refine zr_callV (pc := 107) (stk' := []) (k' := 0) (n' := 0) hX (fun l s0 D => mX5_supports l s0 D gt19) (zMw_obj _ _ _) (ci := 4) rfl zwX5_supports q2181 q2183 qs78 rfl rfl rfl rfl rfl rfl rfl rfl rfl dX5_functional_107 ?_
                refine zr_aload_n (pc := 110) hX 1 rfl rfl dX5_functional_110 ?_
                refine zr_iload_n (pc := 111) hX 2 rfl rfl dX5_functional_111 ?_
                refine zr_iconst (pc := 112) hX zci_1 dX5_functional_112 ?_
                refine zr_iload_n (pc := 113) hX 4 rfl rfl dX5_functional_113 ?_
                obtain ⟨t20, gt20, h⟩ := bnd h
                refine zr_callV (pc := 114) (stk' := []) (k' := 0) (n' := 0) hX (fun l s0 D => mX5_supports l s0 D gt20) (zMw_obj _ _ _) (ci := 4) rfl zwX5_supports q2181 q2183 qs78 rfl rfl rfl rfl rfl rfl rfl rfl rfl dX5_functional_114 ?_
                refine zr_aload_n (pc := 117) hX 1 rfl rfl dX5_functional_117 ?_
                refine zr_mgetA (pc := 118) hX 41 rfl rfl q1779 dX5_functional_118 ?_
                refine zr_bipush (pc := 121) hX zcb_8 dX5_functional_121 ?_
                refine zr_iload_n (pc := 123) hX 2 rfl rfl dX5_functional_123 ?_
                refine zr_imul (pc := 124) hX dX5_functional_124 ?_
                refine zr_iconst (pc := 125) hX zci_2 dX5_functional_125 ?_
                refine zr_iadd (pc := 126) hX dX5_functional_126 ?_
                refine zr_dup2 (pc := 127) hX rfl rfl dX5_functional_127 ?_
                obtain ⟨x21, gx21, h⟩ := bnd h
                refine zr_mald (pc := 128) hX 41 rfl rfl rfl gx21 dX5_functional_128 ?_
                refine zr_iload_n (pc := 129) hX 3 rfl rfl dX5_functional_129 ?_
                obtain ⟨t22, gt22, h⟩ := bnd h
                have hJt22 : ∀ a, t22 = a → VW K (zMw am t20 b) sz 0 0 141 [(0, .ref am), (1, .int p0), (2, .int t2), (3, .int a3.2), (4, .int a5.2)] [.int a, .int x21, .int (((8 : Int32) * p0) + (2 : Int32)), .ref (am + zMo 41)] := by
                  intro a ea
                  subst ea
                  refine zr_ior (pc := 141) hX dX5_functional_141 ?_
                  obtain ⟨st23, gst23, h⟩ := bnd h
                  refine zr_mast (pc := 142) hX 41 rfl rfl rfl gst23 dX5_functional_142 ?_
                  exact (hJt12 st23 (Option.some.inj h).symm).sub [0, 1, 2, 3, 4] rfl
                replace h := gt22
                refine zr_if_eq (pc := 130) hX 140 rfl dX5_functional_130 (fun c130_23 => ?_) (fun c130_23 => ?_)
                · rw [if_pos c130_23] at h
                  refine zr_iconst (pc := 140) hX zci_0 dX5_functional_140 ?_
                  exact (hJt22 (0 : Int32) (Option.some.inj h).symm).sub [1, 2, 3, 4, 5] rfl
                · rw [if_neg c130_23] at h
                  refine zr_iconst (pc := 133) hX zci_1 dX5_functional_133 ?_
                  refine zr_iload (pc := 134) hX 5 rfl dX5_functional_134 ?_
                  refine zr_ishl (pc := 136) hX dX5_functional_136 ?_
                  refine zr_goto (pc := 137) hX 141 rfl dX5_functional_137 ?_
                  exact (hJt22 ((1 : Int32) <<< (a5.2 &&& 31)) (Option.some.inj h).symm).sub [1, 2, 3, 4, 5] rfl
            replace h := gu26
            refine zr_if_eq (pc := 56) hX 73 rfl dX5_functional_56 (fun c56_29 => ?_) (fun c56_29 => ?_)
            · rw [if_pos c56_29] at h
              exact (hJt14 () (Option.some.inj h).symm).sub [0, 1, 2, 3, 4] rfl
            · rw [if_neg c56_29] at h
              refine zr_aload_n (pc := 59) hX 0 rfl rfl dX5_functional_59 ?_
              refine zr_iload_n (pc := 60) hX 1 rfl rfl dX5_functional_60 ?_
              refine zr_iconst (pc := 61) hX zci_2 dX5_functional_61 ?_
              obtain ⟨t27, gt27, h⟩ := bnd h
              refine zr_callV (pc := 62) (stk' := [.int t27]) (k' := 0) (n' := 0) hX (fun l s0 D => mX5_domainAt l s0 D gt27) (zMw_obj _ _ _) (ci := 4) rfl zwX5_domainAt q2189 q2191 qs80 rfl rfl rfl rfl rfl rfl rfl rfl rfl dX5_functional_62 ?_
              refine zr_iload (pc := 65) hX 4 rfl dX5_functional_65 ?_
              obtain ⟨t28, gt28, h⟩ := bnd h
              refine zr_callS (pc := 67) (stk' := [.int t28]) (k' := 0) (n' := 0) hX (fun l s0 D => mX5_hasBit l s0 D gt28) zwX5_hasBit q2156 q2157 rfl rfl rfl rfl rfl rfl rfl rfl dX5_functional_67 ?_
              refine zr_if_eq (pc := 70) hX 143 rfl dX5_functional_70 (fun c70_28 => ?_) (fun c70_28 => ?_)
              · rw [if_pos c70_28] at h
                replace h := congrArg some (hBu26 _ (Option.some.inj h).symm)
                exact (hJt12 a5.1 (Option.some.inj h).symm).sub [0, 1, 2, 3, 4] rfl
              · rw [if_neg c70_28] at h
                exact (hJt14 () (Option.some.inj h).symm).sub [0, 1, 2, 3, 4] rfl
      replace h := gt9
      refine zr_if_eq (pc := 30) hX 38 rfl dX5_functional_30 (fun c30_32 => ?_) (fun c30_32 => ?_)
      · rw [if_pos c30_32] at h
        refine zr_iconst (pc := 38) hX zci_1 dX5_functional_38 ?_
        exact (hJt9 (1 : Int32) (Option.some.inj h).symm).sub [0, 1, 2, 3, 4] rfl
      · rw [if_neg c30_32] at h
        refine zr_bipush (pc := 33) hX zcb_32 dX5_functional_33 ?_
        refine zr_goto (pc := 35) hX 39 rfl dX5_functional_35 ?_
        exact (hJt9 (32 : Int32) (Option.some.inj h).symm).sub [0, 1, 2, 3, 4] rfl
  replace h := gt2
  refine zr_icmp_ne (pc := 7) hX 14 rfl dX5_functional_7 (fun c7_34 => ?_) (fun c7_34 => ?_)
  · rw [if_neg c7_34] at h
    refine zr_iconst (pc := 14) hX zci_0 dX5_functional_14 ?_
    exact (hJt2 (0 : Int32) (Option.some.inj h).symm).sub [0, 1] rfl
  · rw [if_pos c7_34] at h
    refine zr_iconst (pc := 10) hX zci_1 dX5_functional_10 ?_
    refine zr_goto (pc := 11) hX 15 rfl dX5_functional_11 ?_
    exact (hJt2 (1 : Int32) (Option.some.inj h).symm).sub [0, 1] rfl
set_option maxHeartbeats 4000000 in
theorem mX5_supportsAll (l : Launch) (s0 : State) (D : zD) {n : Nat} {am : Nat} {st : zMS} {b : zH} {sz : Nat} {p0 : Int32} {o : zMS} (h : fX5_supportsAll n st p0 = some o) : zM l s0 D yX5_supportsAll cX5_supportsAll 3 none 6 119 0 0 [.ref am, .int p0] (zMw am st b) sz (zMw am o b) sz none := by
  refine zenter (own := RX5) zplX5 rfl (Nat.le_of_ble_eq_true rfl) rfl (fun K hX hnm hret => ?_)
  unfold fX5_supportsAll at h
  show VW K (zMw am st b) sz 0 0 0 [(0, .ref am), (1, .int p0)] []
  refine zr_iconst (pc := 0) hX zci_0 dX5_supportsAll_0 ?_
  refine zr_istore_n (pc := 1) hX rfl rfl (Nat.le_of_ble_eq_true rfl) rfl dX5_supportsAll_1 ?_
  obtain ⟨t3, gt3, h⟩ := bnd h
  have hJt3 : ∀ a, a = t3 → VW K (zMw am a b) sz 0 0 26 [(0, .ref am), (1, .int p0)] [] := by
    intro a ea
    rw [ea]
    refine zr_aload_n (pc := 26) hX 0 rfl rfl dX5_supportsAll_26 ?_
    refine zr_mgetA (pc := 27) hX 16 rfl rfl q1754 dX5_supportsAll_27 ?_
    refine zr_iload_n (pc := 30) hX 1 rfl rfl dX5_supportsAll_30 ?_
    obtain ⟨x4, gx4, h⟩ := bnd h
    refine zr_mald (pc := 31) hX 16 rfl rfl rfl gx4 dX5_supportsAll_31 ?_
    by_cases c32_4_0 : x4 = (0 : Int32)
    · rw [if_pos c32_4_0] at h
      refine zr_tableIn (pc := 32) hX 116 (by rw [c32_4_0]; decide) (by rw [c32_4_0]; decide) (by rw [c32_4_0]; rfl) rfl dX5_supportsAll_32 ?_
      refine zr_aload_n (pc := 116) hX 0 rfl rfl dX5_supportsAll_116 ?_
      refine zr_iload_n (pc := 117) hX 1 rfl rfl dX5_supportsAll_117 ?_
      obtain ⟨t6, gt6, h⟩ := bnd h
      refine zr_callV (pc := 118) (stk' := []) (k' := 0) (n' := 0) hX (fun l s0 D => mX5_byLinear l s0 D gt6) (zMw_obj _ _ _) (ci := 4) rfl zwX5_byLinear q2152 q2154 qs73 rfl rfl rfl rfl rfl rfl rfl rfl rfl dX5_supportsAll_118 ?_
      refine zr_goto (pc := 121) hX 223 rfl dX5_supportsAll_121 ?_
      obtain rfl := Option.some.inj h
      exact hret _ _ dX5_supportsAll_223
    rw [if_neg c32_4_0] at h
    by_cases c32_4_1 : x4 = (1 : Int32)
    · rw [if_pos c32_4_1] at h
      refine zr_tableIn (pc := 32) hX 124 (by rw [c32_4_1]; decide) (by rw [c32_4_1]; decide) (by rw [c32_4_1]; rfl) rfl dX5_supportsAll_32 ?_
      refine zr_aload_n (pc := 124) hX 0 rfl rfl dX5_supportsAll_124 ?_
      refine zr_iload_n (pc := 125) hX 1 rfl rfl dX5_supportsAll_125 ?_
      obtain ⟨t7, gt7, h⟩ := bnd h
      refine zr_callV (pc := 126) (stk' := []) (k' := 0) (n' := 0) hX (fun l s0 D => mX5_byDifferent l s0 D gt7) (zMw_obj _ _ _) (ci := 4) rfl zwX5_byDifferent q2185 q2187 qs79 rfl rfl rfl rfl rfl rfl rfl rfl rfl dX5_supportsAll_126 ?_
      refine zr_goto (pc := 129) hX 223 rfl dX5_supportsAll_129 ?_
      obtain rfl := Option.some.inj h
      exact hret _ _ dX5_supportsAll_223
    rw [if_neg c32_4_1] at h
    by_cases c32_4_2 : x4 = (2 : Int32)
    · rw [if_pos c32_4_2] at h
      refine zr_tableIn (pc := 32) hX 132 (by rw [c32_4_2]; decide) (by rw [c32_4_2]; decide) (by rw [c32_4_2]; rfl) rfl dX5_supportsAll_32 ?_
      refine zr_aload_n (pc := 132) hX 0 rfl rfl dX5_supportsAll_132 ?_
      refine zr_iload_n (pc := 133) hX 1 rfl rfl dX5_supportsAll_133 ?_
      obtain ⟨t8, gt8, h⟩ := bnd h
      refine zr_callV (pc := 134) (stk' := []) (k' := 0) (n' := 0) hX (fun l s0 D => mX5_ordered l s0 D gt8) (zMw_obj _ _ _) (ci := 4) rfl zwX5_ordered q2200 q2202 qs82 rfl rfl rfl rfl rfl rfl rfl rfl rfl dX5_supportsAll_134 ?_
      refine zr_goto (pc := 137) hX 223 rfl dX5_supportsAll_137 ?_
      obtain rfl := Option.some.inj h
      exact hret _ _ dX5_supportsAll_223
    rw [if_neg c32_4_2] at h
    by_cases c32_4_3 : x4 = (3 : Int32)
    · rw [if_pos c32_4_3] at h
      refine zr_tableIn (pc := 32) hX 140 (by rw [c32_4_3]; decide) (by rw [c32_4_3]; decide) (by rw [c32_4_3]; rfl) rfl dX5_supportsAll_32 ?_
      refine zr_aload_n (pc := 140) hX 0 rfl rfl dX5_supportsAll_140 ?_
      refine zr_iload_n (pc := 141) hX 1 rfl rfl dX5_supportsAll_141 ?_
      obtain ⟨t9, gt9, h⟩ := bnd h
      refine zr_callV (pc := 142) (stk' := []) (k' := 0) (n' := 0) hX (fun l s0 D => mX5_byRegular l s0 D gt9) (zMw_obj _ _ _) (ci := 4) rfl zwX5_byRegular q2210 q2212 qs83 rfl rfl rfl rfl rfl rfl rfl rfl rfl dX5_supportsAll_142 ?_
      refine zr_goto (pc := 145) hX 223 rfl dX5_supportsAll_145 ?_
      obtain rfl := Option.some.inj h
      exact hret _ _ dX5_supportsAll_223
    rw [if_neg c32_4_3] at h
    by_cases c32_4_4 : x4 = (4 : Int32)
    · rw [if_pos c32_4_4] at h
      refine zr_tableIn (pc := 32) hX 148 (by rw [c32_4_4]; decide) (by rw [c32_4_4]; decide) (by rw [c32_4_4]; rfl) rfl dX5_supportsAll_32 ?_
      refine zr_aload_n (pc := 148) hX 0 rfl rfl dX5_supportsAll_148 ?_
      refine zr_iload_n (pc := 149) hX 1 rfl rfl dX5_supportsAll_149 ?_
      obtain ⟨t10, gt10, h⟩ := bnd h
      refine zr_callV (pc := 150) (stk' := []) (k' := 0) (n' := 0) hX (fun l s0 D => mX5_byElement l s0 D gt10) (zMw_obj _ _ _) (ci := 4) rfl zwX5_byElement q2218 q2220 qs85 rfl rfl rfl rfl rfl rfl rfl rfl rfl dX5_supportsAll_150 ?_
      refine zr_goto (pc := 153) hX 223 rfl dX5_supportsAll_153 ?_
      obtain rfl := Option.some.inj h
      exact hret _ _ dX5_supportsAll_223
    rw [if_neg c32_4_4] at h
    by_cases c32_4_5 : x4 = (5 : Int32)
    · rw [if_pos c32_4_5] at h
      refine zr_tableIn (pc := 32) hX 156 (by rw [c32_4_5]; decide) (by rw [c32_4_5]; decide) (by rw [c32_4_5]; rfl) rfl dX5_supportsAll_32 ?_
      refine zr_aload_n (pc := 156) hX 0 rfl rfl dX5_supportsAll_156 ?_
      refine zr_iload_n (pc := 157) hX 1 rfl rfl dX5_supportsAll_157 ?_
      obtain ⟨t11, gt11, h⟩ := bnd h
      refine zr_callV (pc := 158) (stk' := []) (k' := 0) (n' := 0) hX (fun l s0 D => mX5_byClause l s0 D gt11) (zMw_obj _ _ _) (ci := 4) rfl zwX5_byClause q2222 q2224 qs86 rfl rfl rfl rfl rfl rfl rfl rfl rfl dX5_supportsAll_158 ?_
      refine zr_goto (pc := 161) hX 223 rfl dX5_supportsAll_161 ?_
      obtain rfl := Option.some.inj h
      exact hret _ _ dX5_supportsAll_223
    rw [if_neg c32_4_5] at h
    by_cases c32_4_6 : x4 = (6 : Int32)
    · rw [if_pos c32_4_6] at h
      refine zr_tableIn (pc := 32) hX 164 (by rw [c32_4_6]; decide) (by rw [c32_4_6]; decide) (by rw [c32_4_6]; rfl) rfl dX5_supportsAll_32 ?_
      refine zr_aload_n (pc := 164) hX 0 rfl rfl dX5_supportsAll_164 ?_
      refine zr_aload_n (pc := 165) hX 0 rfl rfl dX5_supportsAll_165 ?_
      refine zr_mgetA (pc := 166) hX 20 rfl rfl q1758 dX5_supportsAll_166 ?_
      refine zr_iload_n (pc := 169) hX 1 rfl rfl dX5_supportsAll_169 ?_
      obtain ⟨x12, gx12, h⟩ := bnd h
      refine zr_mald (pc := 170) hX 20 rfl rfl rfl gx12 dX5_supportsAll_170 ?_
      obtain ⟨t13, gt13, h⟩ := bnd h
      refine zr_callV (pc := 171) (stk' := [.int t13]) (k' := 0) (n' := 0) hX (fun l s0 D => mX5_find l s0 D gt13) (zMw_obj _ _ _) (ci := 4) rfl zwX5_find q2230 q2232 qs88 rfl rfl rfl rfl rfl rfl rfl rfl rfl dX5_supportsAll_171 ?_
      refine zr_istore_n (pc := 174) hX rfl rfl (Nat.le_of_ble_eq_true rfl) rfl dX5_supportsAll_174 ?_
      refine zr_aload_n (pc := 175) hX 1 rfl rfl dX5_supportsAll_175 ?_
      refine zr_mgetA (pc := 176) hX 41 rfl rfl q1779 dX5_supportsAll_176 ?_
      refine zr_bipush (pc := 179) hX zcb_8 dX5_supportsAll_179 ?_
      refine zr_iload_n (pc := 181) hX 2 rfl rfl dX5_supportsAll_181 ?_
      refine zr_imul (pc := 182) hX dX5_supportsAll_182 ?_
      refine zr_aload_n (pc := 183) hX 1 rfl rfl dX5_supportsAll_183 ?_
      refine zr_mgetA (pc := 184) hX 66 rfl rfl q1804 dX5_supportsAll_184 ?_
      refine zr_iload_n (pc := 187) hX 0 rfl rfl dX5_supportsAll_187 ?_
      obtain ⟨x14, gx14, h⟩ := bnd h
      refine zr_mald (pc := 188) hX 66 rfl rfl rfl gx14 dX5_supportsAll_188 ?_
      obtain ⟨t15, gt15, h⟩ := bnd h
      have hJt15 : ∀ a, t15 = a → VW K (zMw am t3 b) sz 0 0 206 [] [.int a, .int ((8 : Int32) * p0), .ref (am + zMo 41)] := by
        intro a ea
        subst ea
        obtain ⟨st16, gst16, h⟩ := bnd h
        refine zr_mast (pc := 206) hX 41 rfl rfl rfl gst16 dX5_supportsAll_206 ?_
        refine zr_goto (pc := 207) hX 223 rfl dX5_supportsAll_207 ?_
        obtain rfl := Option.some.inj h
        exact hret _ _ dX5_supportsAll_223
      replace h := gt15
      refine zr_if_ne (pc := 189) hX 196 rfl dX5_supportsAll_189 (fun c189_17 => ?_) (fun c189_17 => ?_)
      · rw [if_neg c189_17] at h
        refine zr_iconst (pc := 196) hX zci_1 dX5_supportsAll_196 ?_
        refine zr_aload_n (pc := 197) hX 1 rfl rfl dX5_supportsAll_197 ?_
        refine zr_mgetA (pc := 198) hX 66 rfl rfl q1804 dX5_supportsAll_198 ?_
        refine zr_iload_n (pc := 201) hX 0 rfl rfl dX5_supportsAll_201 ?_
        obtain ⟨x17, gx17, h⟩ := bnd h
        refine zr_mald (pc := 202) hX 66 rfl rfl rfl gx17 dX5_supportsAll_202 ?_
        refine zr_iconst (pc := 203) hX zci_1 dX5_supportsAll_203 ?_
        refine zr_isub (pc := 204) hX dX5_supportsAll_204 ?_
        refine zr_ishl (pc := 205) hX dX5_supportsAll_205 ?_
        exact (hJt15 ((1 : Int32) <<< ((x17 - (1 : Int32)) &&& 31)) (Option.some.inj h).symm).sub [] rfl
      · rw [if_pos c189_17] at h
        refine zr_iconst (pc := 192) hX zci_m1 dX5_supportsAll_192 ?_
        refine zr_goto (pc := 193) hX 206 rfl dX5_supportsAll_193 ?_
        exact (hJt15 (-1 : Int32) (Option.some.inj h).symm).sub [] rfl
    rw [if_neg c32_4_6] at h
    by_cases c32_4_11 : x4 = (11 : Int32)
    · rw [if_pos c32_4_11] at h
      refine zr_tableIn (pc := 32) hX 210 (by rw [c32_4_11]; decide) (by rw [c32_4_11]; decide) (by rw [c32_4_11]; rfl) rfl dX5_supportsAll_32 ?_
      refine zr_aload_n (pc := 210) hX 0 rfl rfl dX5_supportsAll_210 ?_
      refine zr_iload_n (pc := 211) hX 1 rfl rfl dX5_supportsAll_211 ?_
      obtain ⟨t19, gt19, h⟩ := bnd h
      refine zr_callV (pc := 212) (stk' := []) (k' := 0) (n' := 0) hX (fun l s0 D => mX5_paired l s0 D gt19) (zMw_obj _ _ _) (ci := 4) rfl zwX5_paired q2234 q2236 qs89 rfl rfl rfl rfl rfl rfl rfl rfl rfl dX5_supportsAll_212 ?_
      refine zr_goto (pc := 215) hX 223 rfl dX5_supportsAll_215 ?_
      obtain rfl := Option.some.inj h
      exact hret _ _ dX5_supportsAll_223
    rw [if_neg c32_4_11] at h
    by_cases c32_4_16 : x4 = (16 : Int32)
    · rw [if_pos c32_4_16] at h
      refine zr_tableIn (pc := 32) hX 210 (by rw [c32_4_16]; decide) (by rw [c32_4_16]; decide) (by rw [c32_4_16]; rfl) rfl dX5_supportsAll_32 ?_
      refine zr_aload_n (pc := 210) hX 0 rfl rfl dX5_supportsAll_210 ?_
      refine zr_iload_n (pc := 211) hX 1 rfl rfl dX5_supportsAll_211 ?_
      obtain ⟨t20, gt20, h⟩ := bnd h
      refine zr_callV (pc := 212) (stk' := []) (k' := 0) (n' := 0) hX (fun l s0 D => mX5_paired l s0 D gt20) (zMw_obj _ _ _) (ci := 4) rfl zwX5_paired q2234 q2236 qs89 rfl rfl rfl rfl rfl rfl rfl rfl rfl dX5_supportsAll_212 ?_
      refine zr_goto (pc := 215) hX 223 rfl dX5_supportsAll_215 ?_
      obtain rfl := Option.some.inj h
      exact hret _ _ dX5_supportsAll_223
    rw [if_neg c32_4_16] at h
    have hd4 : VW K (zMw am t3 b) sz 0 0 218 [(0, .ref am), (1, .int p0)] [] := by
      refine zr_aload_n (pc := 218) hX 0 rfl rfl dX5_supportsAll_218 ?_
      refine zr_iload_n (pc := 219) hX 1 rfl rfl dX5_supportsAll_219 ?_
      obtain ⟨t21, gt21, h⟩ := bnd h
      refine zr_callV (pc := 220) (stk' := []) (k' := 0) (n' := 0) hX (fun l s0 D => mX5_functional l s0 D gt21) (zMw_obj _ _ _) (ci := 4) rfl zwX5_functional q2247 q2249 qs90 rfl rfl rfl rfl rfl rfl rfl rfl rfl dX5_supportsAll_220 ?_
      obtain rfl := Option.some.inj h
      exact hret _ _ dX5_supportsAll_223
    by_cases c32_4_7 : x4 = (7 : Int32)
    · exact zr_tableIn hX 218 (by rw [c32_4_7]; decide) (by rw [c32_4_7]; decide) (by rw [c32_4_7]; rfl) rfl dX5_supportsAll_32 hd4
    by_cases c32_4_8 : x4 = (8 : Int32)
    · exact zr_tableIn hX 218 (by rw [c32_4_8]; decide) (by rw [c32_4_8]; decide) (by rw [c32_4_8]; rfl) rfl dX5_supportsAll_32 hd4
    by_cases c32_4_9 : x4 = (9 : Int32)
    · exact zr_tableIn hX 218 (by rw [c32_4_9]; decide) (by rw [c32_4_9]; decide) (by rw [c32_4_9]; rfl) rfl dX5_supportsAll_32 hd4
    by_cases c32_4_10 : x4 = (10 : Int32)
    · exact zr_tableIn hX 218 (by rw [c32_4_10]; decide) (by rw [c32_4_10]; decide) (by rw [c32_4_10]; rfl) rfl dX5_supportsAll_32 hd4
    by_cases c32_4_12 : x4 = (12 : Int32)
    · exact zr_tableIn hX 218 (by rw [c32_4_12]; decide) (by rw [c32_4_12]; decide) (by rw [c32_4_12]; rfl) rfl dX5_supportsAll_32 hd4
    by_cases c32_4_13 : x4 = (13 : Int32)
    · exact zr_tableIn hX 218 (by rw [c32_4_13]; decide) (by rw [c32_4_13]; decide) (by rw [c32_4_13]; rfl) rfl dX5_supportsAll_32 hd4
    by_cases c32_4_14 : x4 = (14 : Int32)
    · exact zr_tableIn hX 218 (by rw [c32_4_14]; decide) (by rw [c32_4_14]; decide) (by rw [c32_4_14]; rfl) rfl dX5_supportsAll_32 hd4
    by_cases c32_4_15 : x4 = (15 : Int32)
    · exact zr_tableIn hX 218 (by rw [c32_4_15]; decide) (by rw [c32_4_15]; decide) (by rw [c32_4_15]; rfl) rfl dX5_supportsAll_32 hd4
    have ic32_4_0 := zne_int c32_4_0 (show ((0 : Int32)).toInt = 0 from by decide)
    have ic32_4_1 := zne_int c32_4_1 (show ((1 : Int32)).toInt = 1 from by decide)
    have ic32_4_2 := zne_int c32_4_2 (show ((2 : Int32)).toInt = 2 from by decide)
    have ic32_4_3 := zne_int c32_4_3 (show ((3 : Int32)).toInt = 3 from by decide)
    have ic32_4_4 := zne_int c32_4_4 (show ((4 : Int32)).toInt = 4 from by decide)
    have ic32_4_5 := zne_int c32_4_5 (show ((5 : Int32)).toInt = 5 from by decide)
    have ic32_4_6 := zne_int c32_4_6 (show ((6 : Int32)).toInt = 6 from by decide)
    have ic32_4_7 := zne_int c32_4_7 (show ((7 : Int32)).toInt = 7 from by decide)
    have ic32_4_8 := zne_int c32_4_8 (show ((8 : Int32)).toInt = 8 from by decide)
    have ic32_4_9 := zne_int c32_4_9 (show ((9 : Int32)).toInt = 9 from by decide)
    have ic32_4_10 := zne_int c32_4_10 (show ((10 : Int32)).toInt = 10 from by decide)
    have ic32_4_11 := zne_int c32_4_11 (show ((11 : Int32)).toInt = 11 from by decide)
    have ic32_4_12 := zne_int c32_4_12 (show ((12 : Int32)).toInt = 12 from by decide)
    have ic32_4_13 := zne_int c32_4_13 (show ((13 : Int32)).toInt = 13 from by decide)
    have ic32_4_14 := zne_int c32_4_14 (show ((14 : Int32)).toInt = 14 from by decide)
    have ic32_4_15 := zne_int c32_4_15 (show ((15 : Int32)).toInt = 15 from by decide)
    have ic32_4_16 := zne_int c32_4_16 (show ((16 : Int32)).toInt = 16 from by decide)
    exact zr_tableOut hX 218 (by omega) rfl dX5_supportsAll_32 hd4
  refine VW.sub (lv' := [(0, .ref am), (1, .int p0), (2, .int (0 : Int32))]) ?_ [1, 2, 0] rfl
  refine zloop_walk (V := (fun a => VW K (zMw am a.1 b) sz 0 0 2 [(0, .ref am), (1, .int p0), (2, .int a.2)] [])) (E := fun e => e = t3) ?_ n (st, (0 : Int32)) _ gt3 rfl
  intro a1 o2 h kco2 keo2
  unfold fX5_supportsAll_L2 at h
  refine zr_iload_n (pc := 2) hX 2 rfl rfl dX5_supportsAll_2 ?_
  refine zr_bipush (pc := 3) hX zcb_8 dX5_supportsAll_3 ?_
  refine zr_icmp_ge (pc := 5) hX 26 rfl dX5_supportsAll_5 (fun c5_23 => ?_) (fun c5_23 => ?_)
  · rw [if_pos c5_23] at h
    exact (hJt3 a1.1 (keo2 _ (Option.some.inj h).symm)).sub [0, 1] rfl
  · rw [if_neg c5_23] at h
    refine zr_aload_n (pc := 8) hX 0 rfl rfl dX5_supportsAll_8 ?_
    refine zr_mgetA (pc := 9) hX 41 rfl rfl q1779 dX5_supportsAll_9 ?_
    refine zr_bipush (pc := 12) hX zcb_8 dX5_supportsAll_12 ?_
    refine zr_iload_n (pc := 14) hX 1 rfl rfl dX5_supportsAll_14 ?_
    refine zr_imul (pc := 15) hX dX5_supportsAll_15 ?_
    refine zr_iload_n (pc := 16) hX 2 rfl rfl dX5_supportsAll_16 ?_
    refine zr_iadd (pc := 17) hX dX5_supportsAll_17 ?_
    refine zr_iconst (pc := 18) hX zci_0 dX5_supportsAll_18 ?_
    obtain ⟨st22, gst22, h⟩ := bnd h
    refine zr_mast (pc := 19) hX 41 rfl rfl rfl gst22 dX5_supportsAll_19 ?_
    obtain ⟨x23, gx23, h⟩ := bnd h
    refine zr_iinc (pc := 20) hX 2 rfl zci_1 (Option.some.inj gx23) (Nat.le_of_ble_eq_true rfl) rfl dX5_supportsAll_20 ?_
    refine zr_goto (pc := 23) hX 2 rfl dX5_supportsAll_23 ?_
    exact (kco2 (st22, x23) (Option.some.inj h).symm).sub [1, 2, 0] rfl
set_option maxHeartbeats 4000000 in
theorem mX5_against (l : Launch) (s0 : State) (D : zD) {n : Nat} {am : Nat} {st : zMS} {b : zH} {sz : Nat} {p0 : Int32} {p1 : Int32} {o : Int32} (h : fX5_against n st p0 p1 = some o) : zM l s0 D yX5_against cX5_against 5 (some .int) 1 0 0 0 [.ref am, .int p0, .int p1] (zMw am st b) sz (zMw am st b) sz (some (.int o)) := by
  refine zenter (own := RX5) zplX5 rfl (Nat.le_of_ble_eq_true rfl) trivial (fun K hX hnm hret => ?_)
  unfold fX5_against at h
  show VW K (zMw am st b) sz 0 0 0 [(0, .ref am), (1, .int p0), (2, .int p1)] []
  refine zr_iconst (pc := 0) hX zci_0 dX5_against_0 ?_
  refine zr_istore_n (pc := 1) hX rfl rfl (Nat.le_of_ble_eq_true rfl) rfl dX5_against_1 ?_
  refine VW.sub (lv' := [(0, .ref am), (1, .int p0), (2, .int p1), (3, .int (0 : Int32))]) ?_ [1, 2, 3, 0] rfl
  refine zloop_walk (V := (fun a => VW K (zMw am st b) sz 0 0 2 [(0, .ref am), (1, .int p0), (2, .int p1), (3, .int a)] [])) (E := fun e => e = o) ?_ n (0 : Int32) _ h rfl
  intro a1 o2 h kco2 keo2
  unfold fX5_against_L2 at h
  refine zr_iload_n (pc := 2) hX 3 rfl rfl dX5_against_2 ?_
  refine zr_aload_n (pc := 3) hX 0 rfl rfl dX5_against_3 ?_
  refine zr_mget (pc := 4) hX 15 rfl rfl q1753 dX5_against_4 ?_
  refine zr_icmp_ge (pc := 7) hX 73 rfl dX5_against_7 (fun c7_16 => ?_) (fun c7_16 => ?_)
  · rw [if_pos c7_16] at h
    refine zr_iconst (pc := 73) hX zci_m1 dX5_against_73 ?_
    replace h := congrArg some (keo2 _ (Option.some.inj h).symm)
    obtain rfl := Option.some.inj h
    exact hret _ _ dX5_against_74 (Or.inl rfl)
  · rw [if_neg c7_16] at h
    refine zr_iconst (pc := 10) hX zci_0 dX5_against_10 ?_
    refine zr_istore (pc := 11) hX rfl (Nat.le_of_ble_eq_true rfl) rfl dX5_against_11 ?_
    obtain ⟨u7, gu7, hAu7, hBu7⟩ := zesc_bnd h
    have hJt5 : ∀ a, .inl a = u7 → VW K (zMw am st b) sz 0 0 67 [(0, .ref am), (1, .int p0), (2, .int p1), (3, .int a1)] [] := by
      intro t5 ea
      have h := hAu7 _ ea.symm
      obtain ⟨x6, gx6, h⟩ := bnd h
      refine zr_iinc (pc := 67) hX 3 rfl zci_1 (Option.some.inj gx6) (Nat.le_of_ble_eq_true rfl) rfl dX5_against_67 ?_
      refine zr_goto (pc := 70) hX 2 rfl dX5_against_70 ?_
      exact (kco2 x6 (Option.some.inj h).symm).sub [1, 2, 3, 0] rfl
    refine VW.sub (lv' := [(0, .ref am), (1, .int p0), (2, .int p1), (3, .int a1), (4, .int (0 : Int32))]) ?_ [1, 2, 3, 4, 0] rfl
    refine zloop_walk (V := (fun a => VW K (zMw am st b) sz 0 0 13 [(0, .ref am), (1, .int p0), (2, .int p1), (3, .int a1), (4, .int a)] [])) (E := fun e => e = u7) ?_ n (0 : Int32) _ gu7 rfl
    intro a3 o4 h kco4 keo4
    unfold fX5_against_L13 at h
    refine zr_iload (pc := 13) hX 4 rfl dX5_against_13 ?_
    refine zr_aload_n (pc := 15) hX 0 rfl rfl dX5_against_15 ?_
    refine zr_mgetA (pc := 16) hX 17 rfl rfl q1755 dX5_against_16 ?_
    refine zr_iload_n (pc := 19) hX 3 rfl rfl dX5_against_19 ?_
    obtain ⟨x8, gx8, h⟩ := bnd h
    refine zr_mald (pc := 20) hX 17 rfl rfl rfl gx8 dX5_against_20 ?_
    refine zr_icmp_ge (pc := 21) hX 67 rfl dX5_against_21 (fun c21_15 => ?_) (fun c21_15 => ?_)
    · rw [if_pos c21_15] at h
      exact (hJt5 () (keo4 _ (Option.some.inj h).symm)).sub [0, 1, 2, 3] rfl
    · rw [if_neg c21_15] at h
      refine zr_aload_n (pc := 24) hX 0 rfl rfl dX5_against_24 ?_
      refine zr_mgetA (pc := 25) hX 18 rfl rfl q1756 dX5_against_25 ?_
      refine zr_bipush (pc := 28) hX zcb_8 dX5_against_28 ?_
      refine zr_iload_n (pc := 30) hX 3 rfl rfl dX5_against_30 ?_
      refine zr_imul (pc := 31) hX dX5_against_31 ?_
      refine zr_iload (pc := 32) hX 4 rfl dX5_against_32 ?_
      refine zr_iadd (pc := 34) hX dX5_against_34 ?_
      obtain ⟨x9, gx9, h⟩ := bnd h
      refine zr_mald (pc := 35) hX 18 rfl rfl rfl gx9 dX5_against_35 ?_
      refine zr_iload_n (pc := 36) hX 1 rfl rfl dX5_against_36 ?_
      obtain ⟨u12, gu12, hAu12, hBu12⟩ := zesc_bnd h
      have hJt10 : ∀ a, u12 = .inl a → VW K (zMw am st b) sz 0 0 61 [(0, .ref am), (1, .int p0), (2, .int p1), (3, .int a1), (4, .int a3)] [] := by
        intro t10 ea
        have h := hAu12 _ ea
        obtain ⟨x11, gx11, h⟩ := bnd h
        refine zr_iinc (pc := 61) hX 4 rfl zci_1 (Option.some.inj gx11) (Nat.le_of_ble_eq_true rfl) rfl dX5_against_61 ?_
        refine zr_goto (pc := 64) hX 13 rfl dX5_against_64 ?_
        exact (kco4 x11 (Option.some.inj h).symm).sub [1, 2, 3, 4, 0] rfl
      replace h := gu12
      refine zr_icmp_ne (pc := 37) hX 61 rfl dX5_against_37 (fun c37_14 => ?_) (fun c37_14 => ?_)
      · rw [if_neg c37_14] at h
        exact (hJt10 () (Option.some.inj h).symm).sub [0, 1, 2, 3, 4] rfl
      · rw [if_pos c37_14] at h
        refine zr_aload_n (pc := 40) hX 0 rfl rfl dX5_against_40 ?_
        refine zr_mgetA (pc := 41) hX 41 rfl rfl q1779 dX5_against_41 ?_
        refine zr_bipush (pc := 44) hX zcb_8 dX5_against_44 ?_
        refine zr_iload_n (pc := 46) hX 3 rfl rfl dX5_against_46 ?_
        refine zr_imul (pc := 47) hX dX5_against_47 ?_
        refine zr_iload (pc := 48) hX 4 rfl dX5_against_48 ?_
        refine zr_iadd (pc := 50) hX dX5_against_50 ?_
        obtain ⟨x13, gx13, h⟩ := bnd h
        refine zr_mald (pc := 51) hX 41 rfl rfl rfl gx13 dX5_against_51 ?_
        refine zr_iload_n (pc := 52) hX 2 rfl rfl dX5_against_52 ?_
        refine zr_iushr (pc := 53) hX dX5_against_53 ?_
        refine zr_iconst (pc := 54) hX zci_1 dX5_against_54 ?_
        refine zr_iand (pc := 55) hX dX5_against_55 ?_
        refine zr_if_ne (pc := 56) hX 61 rfl dX5_against_56 (fun c56_13 => ?_) (fun c56_13 => ?_)
        · rw [if_neg c56_13] at h
          exact (hJt10 () (Option.some.inj h).symm).sub [0, 1, 2, 3, 4] rfl
        · rw [if_pos c56_13] at h
          refine zr_iload_n (pc := 59) hX 3 rfl rfl dX5_against_59 ?_
          replace h := congrArg some (hBu12 _ (Option.some.inj h).symm)
          replace h := congrArg some (hBu7 _ (keo4 _ (Option.some.inj h).symm).symm)
          replace h := congrArg some (keo2 _ (Option.some.inj h).symm)
          obtain rfl := Option.some.inj h
          exact hret _ _ dX5_against_60 (Or.inl rfl)
set_option maxHeartbeats 4000000 in
theorem mX5_removes (l : Launch) (s0 : State) (D : zD) {am : Nat} {st : zMS} {b : zH} {sz : Nat} {p0 : Int32} {p1 : Int32} {p2 : Int32} {o : zMS} (h : fX5_removes st p0 p1 p2 = some o) : zM l s0 D yX5_removes cX5_removes 4 none 1 0 0 0 [.ref am, .int p0, .int p1, .int p2] (zMw am st b) sz (zMw am o b) sz none := by
  refine zenter (own := RX5) zplX5 rfl (Nat.le_of_ble_eq_true rfl) rfl (fun K hX hnm hret => ?_)
  unfold fX5_removes at h
  show VW K (zMw am st b) sz 0 0 0 [(0, .ref am), (1, .int p0), (2, .int p1), (3, .int p2)] []
  refine zr_aload_n (pc := 0) hX 0 rfl rfl dX5_removes_0 ?_
  refine zr_mgetA (pc := 1) hX 42 rfl rfl q1780 dX5_removes_1 ?_
  refine zr_iload_n (pc := 4) hX 1 rfl rfl dX5_removes_4 ?_
  refine zr_dup2 (pc := 5) hX rfl rfl dX5_removes_5 ?_
  obtain ⟨x1, gx1, h⟩ := bnd h
  refine zr_mald (pc := 6) hX 42 rfl rfl rfl gx1 dX5_removes_6 ?_
  refine zr_iconst (pc := 7) hX zci_1 dX5_removes_7 ?_
  refine zr_iload_n (pc := 8) hX 2 rfl rfl dX5_removes_8 ?_
  refine zr_ishl (pc := 9) hX dX5_removes_9 ?_
  refine zr_iconst (pc := 10) hX zci_m1 dX5_removes_10 ?_
  refine zr_ixor (pc := 11) hX dX5_removes_11 ?_
  refine zr_iand (pc := 12) hX dX5_removes_12 ?_
  obtain ⟨st2, gst2, h⟩ := bnd h
  refine zr_mast (pc := 13) hX 42 rfl rfl rfl gst2 dX5_removes_13 ?_
  refine zr_aload_n (pc := 14) hX 0 rfl rfl dX5_removes_14 ?_
  refine zr_mgetA (pc := 15) hX 40 rfl rfl q1778 dX5_removes_15 ?_
  refine zr_iconst (pc := 18) hX zci_4 dX5_removes_18 ?_
  refine zr_aload_n (pc := 19) hX 0 rfl rfl dX5_removes_19 ?_
  refine zr_mget (pc := 20) hX 39 rfl rfl q1777 dX5_removes_20 ?_
  refine zr_imul (pc := 23) hX dX5_removes_23 ?_
  refine zr_aload_n (pc := 24) hX 0 rfl rfl dX5_removes_24 ?_
  refine zr_mget (pc := 25) hX 38 rfl rfl q1776 dX5_removes_25 ?_
  refine zr_iconst (pc := 28) hX zci_1 dX5_removes_28 ?_
  refine zr_iadd (pc := 29) hX dX5_removes_29 ?_
  obtain ⟨st3, gst3, h⟩ := bnd h
  refine zr_mast (pc := 30) hX 40 rfl rfl rfl gst3 dX5_removes_30 ?_
  refine zr_aload_n (pc := 31) hX 0 rfl rfl dX5_removes_31 ?_
  refine zr_mgetA (pc := 32) hX 40 rfl rfl q1778 dX5_removes_32 ?_
  refine zr_iconst (pc := 35) hX zci_4 dX5_removes_35 ?_
  refine zr_aload_n (pc := 36) hX 0 rfl rfl dX5_removes_36 ?_
  refine zr_mget (pc := 37) hX 39 rfl rfl q1777 dX5_removes_37 ?_
  refine zr_imul (pc := 40) hX dX5_removes_40 ?_
  refine zr_iconst (pc := 41) hX zci_1 dX5_removes_41 ?_
  refine zr_iadd (pc := 42) hX dX5_removes_42 ?_
  refine zr_iload_n (pc := 43) hX 1 rfl rfl dX5_removes_43 ?_
  obtain ⟨st4, gst4, h⟩ := bnd h
  refine zr_mast (pc := 44) hX 40 rfl rfl rfl gst4 dX5_removes_44 ?_
  refine zr_aload_n (pc := 45) hX 0 rfl rfl dX5_removes_45 ?_
  refine zr_mgetA (pc := 46) hX 40 rfl rfl q1778 dX5_removes_46 ?_
  refine zr_iconst (pc := 49) hX zci_4 dX5_removes_49 ?_
  refine zr_aload_n (pc := 50) hX 0 rfl rfl dX5_removes_50 ?_
  refine zr_mget (pc := 51) hX 39 rfl rfl q1777 dX5_removes_51 ?_
  refine zr_imul (pc := 54) hX dX5_removes_54 ?_
  refine zr_iconst (pc := 55) hX zci_2 dX5_removes_55 ?_
  refine zr_iadd (pc := 56) hX dX5_removes_56 ?_
  refine zr_iload_n (pc := 57) hX 2 rfl rfl dX5_removes_57 ?_
  obtain ⟨st5, gst5, h⟩ := bnd h
  refine zr_mast (pc := 58) hX 40 rfl rfl rfl gst5 dX5_removes_58 ?_
  refine zr_aload_n (pc := 59) hX 0 rfl rfl dX5_removes_59 ?_
  refine zr_mgetA (pc := 60) hX 40 rfl rfl q1778 dX5_removes_60 ?_
  refine zr_iconst (pc := 63) hX zci_4 dX5_removes_63 ?_
  refine zr_aload_n (pc := 64) hX 0 rfl rfl dX5_removes_64 ?_
  refine zr_mget (pc := 65) hX 39 rfl rfl q1777 dX5_removes_65 ?_
  refine zr_imul (pc := 68) hX dX5_removes_68 ?_
  refine zr_iconst (pc := 69) hX zci_3 dX5_removes_69 ?_
  refine zr_iadd (pc := 70) hX dX5_removes_70 ?_
  refine zr_iload_n (pc := 71) hX 3 rfl rfl dX5_removes_71 ?_
  obtain ⟨st6, gst6, h⟩ := bnd h
  refine zr_mast (pc := 72) hX 40 rfl rfl rfl gst6 dX5_removes_72 ?_
  refine zr_aload_n (pc := 73) hX 0 rfl rfl dX5_removes_73 ?_
  refine zr_dup (pc := 74) hX rfl dX5_removes_74 ?_
  refine zr_mget (pc := 75) hX 39 rfl rfl q1777 dX5_removes_75 ?_
  refine zr_iconst (pc := 78) hX zci_1 dX5_removes_78 ?_
  refine zr_iadd (pc := 79) hX dX5_removes_79 ?_
  obtain ⟨st7, gst7, h⟩ := bnd h
  refine zr_mput (pc := 80) hX 39 (Option.some.inj gst7) rfl rfl rfl rfl q1777 dX5_removes_80 ?_
  obtain rfl := Option.some.inj h
  exact hret _ _ dX5_removes_83
set_option maxHeartbeats 4000000 in
theorem mX5_ratioAgrees (l : Launch) (s0 : State) (D : zD) {n : Nat} {am : Nat} {st : zMS} {b : zH} {sz : Nat} {p0 : Int32} {p1 : Int32} {o : Int32} (h : fX5_ratioAgrees n st p0 p1 = some o) : zM l s0 D yX5_ratioAgrees cX5_ratioAgrees 6 (some .boolean) 5 95 0 0 [.ref am, .int p0, .int p1] (zMw am st b) sz (zMw am st b) sz (some (.int o)) := by
  refine zenter (own := RX5) zplX5 rfl (Nat.le_of_ble_eq_true rfl) trivial (fun K hX hnm hret => ?_)
  unfold fX5_ratioAgrees at h
  show VW K (zMw am st b) sz 0 0 0 [(0, .ref am), (1, .int p0), (2, .int p1)] []
  refine zr_iconst (pc := 0) hX zci_1 dX5_ratioAgrees_0 ?_
  refine zr_istore_n (pc := 1) hX rfl rfl (Nat.le_of_ble_eq_true rfl) rfl dX5_ratioAgrees_1 ?_
  refine zr_iconst (pc := 2) hX zci_0 dX5_ratioAgrees_2 ?_
  refine zr_istore (pc := 3) hX rfl (Nat.le_of_ble_eq_true rfl) rfl dX5_ratioAgrees_3 ?_
  refine VW.sub (lv' := [(0, .ref am), (1, .int p0), (2, .int p1), (3, .int (1 : Int32)), (4, .int (0 : Int32))]) ?_ [2, 3, 4, 1, 0] rfl
  refine zloop_walk (V := (fun a => VW K (zMw am st b) sz 0 0 5 [(0, .ref am), (1, .int p0), (2, .int p1), (3, .int a.1), (4, .int a.2)] [])) (E := fun e => e = o) ?_ n ((1 : Int32), (0 : Int32)) _ h rfl
  intro a1 o2 h kco2 keo2
  unfold fX5_ratioAgrees_L5 at h
  refine zr_iload (pc := 5) hX 4 rfl dX5_ratioAgrees_5 ?_
  refine zr_aload_n (pc := 7) hX 0 rfl rfl dX5_ratioAgrees_7 ?_
  refine zr_mget (pc := 8) hX 15 rfl rfl q1753 dX5_ratioAgrees_8 ?_
  refine zr_icmp_ge (pc := 11) hX 88 rfl dX5_ratioAgrees_11 (fun c11_20 => ?_) (fun c11_20 => ?_)
  · rw [if_pos c11_20] at h
    refine zr_iload_n (pc := 88) hX 3 rfl rfl dX5_ratioAgrees_88 ?_
    obtain ⟨x3, gx3, h⟩ := bnd h
    rw [(zq_spec gx3).1] at h
    replace h := congrArg some (keo2 _ (Option.some.inj h).symm)
    obtain rfl := Option.some.inj h
    exact hret _ _ dX5_ratioAgrees_89 (Or.inr ⟨rfl, (zq_spec gx3).2⟩)
  · rw [if_neg c11_20] at h
    refine zr_iconst (pc := 14) hX zci_0 dX5_ratioAgrees_14 ?_
    refine zr_istore (pc := 15) hX rfl (Nat.le_of_ble_eq_true rfl) rfl dX5_ratioAgrees_15 ?_
    obtain ⟨t6, gt6, h⟩ := bnd h
    have hJt6 : ∀ a, a = t6 → VW K (zMw am st b) sz 0 0 82 [(0, .ref am), (1, .int p0), (2, .int p1), (3, .int a), (4, .int a1.2)] [] := by
      intro a ea
      rw [ea]
      obtain ⟨x7, gx7, h⟩ := bnd h
      refine zr_iinc (pc := 82) hX 4 rfl zci_1 (Option.some.inj gx7) (Nat.le_of_ble_eq_true rfl) rfl dX5_ratioAgrees_82 ?_
      refine zr_goto (pc := 85) hX 5 rfl dX5_ratioAgrees_85 ?_
      exact (kco2 (t6, x7) (Option.some.inj h).symm).sub [1, 2, 3, 4, 0] rfl
    refine VW.sub (lv' := [(0, .ref am), (1, .int p0), (2, .int p1), (3, .int a1.1), (4, .int a1.2), (5, .int (0 : Int32))]) ?_ [1, 2, 3, 4, 5, 0] rfl
    refine zloop_walk (V := (fun a => VW K (zMw am st b) sz 0 0 17 [(0, .ref am), (1, .int p0), (2, .int p1), (3, .int a.1), (4, .int a1.2), (5, .int a.2)] [])) (E := fun e => e = t6) ?_ n (a1.1, (0 : Int32)) _ gt6 rfl
    intro a4 o5 h kco5 keo5
    unfold fX5_ratioAgrees_L17 at h
    refine zr_iload (pc := 17) hX 5 rfl dX5_ratioAgrees_17 ?_
    refine zr_aload_n (pc := 19) hX 0 rfl rfl dX5_ratioAgrees_19 ?_
    refine zr_mgetA (pc := 20) hX 17 rfl rfl q1755 dX5_ratioAgrees_20 ?_
    refine zr_iload (pc := 23) hX 4 rfl dX5_ratioAgrees_23 ?_
    obtain ⟨x8, gx8, h⟩ := bnd h
    refine zr_mald (pc := 25) hX 17 rfl rfl rfl gx8 dX5_ratioAgrees_25 ?_
    refine zr_icmp_ge (pc := 26) hX 82 rfl dX5_ratioAgrees_26 (fun c26_19 => ?_) (fun c26_19 => ?_)
    · rw [if_pos c26_19] at h
      exact (hJt6 a4.1 (keo5 _ (Option.some.inj h).symm)).sub [0, 1, 2, 3, 4] rfl
    · rw [if_neg c26_19] at h
      refine zr_iload_n (pc := 29) hX 3 rfl rfl dX5_ratioAgrees_29 ?_
      refine zr_aload_n (pc := 30) hX 0 rfl rfl dX5_ratioAgrees_30 ?_
      refine zr_mgetA (pc := 31) hX 16 rfl rfl q1754 dX5_ratioAgrees_31 ?_
      refine zr_iload (pc := 34) hX 4 rfl dX5_ratioAgrees_34 ?_
      obtain ⟨x9, gx9, h⟩ := bnd h
      refine zr_mald (pc := 36) hX 16 rfl rfl rfl gx9 dX5_ratioAgrees_36 ?_
      obtain ⟨t10, gt10, h⟩ := bnd h
      have hJt10 : ∀ a, t10 = a → VW K (zMw am st b) sz 0 0 74 [(0, .ref am), (1, .int p0), (2, .int p1), (4, .int a1.2), (5, .int a4.2)] [.int a, .int a4.1] := by
        intro a ea
        subst ea
        refine zr_iand (pc := 74) hX dX5_ratioAgrees_74 ?_
        obtain ⟨x11, gx11, h⟩ := bnd h
        refine zr_istore_n (pc := 75) hX (Option.some.inj gx11) rfl (Nat.le_of_ble_eq_true rfl) rfl dX5_ratioAgrees_75 ?_
        obtain ⟨x12, gx12, h⟩ := bnd h
        refine zr_iinc (pc := 76) hX 5 rfl zci_1 (Option.some.inj gx12) (Nat.le_of_ble_eq_true rfl) rfl dX5_ratioAgrees_76 ?_
        refine zr_goto (pc := 79) hX 17 rfl dX5_ratioAgrees_79 ?_
        exact (kco5 (x11, x12) (Option.some.inj h).symm).sub [2, 3, 4, 1, 5, 0] rfl
      replace h := gt10
      obtain ⟨u14, gu14, hAu14, hBu14⟩ := zesc_bnd h
      have hJt13 : ∀ a, u14 = .inl a → VW K (zMw am st b) sz 0 0 69 [(0, .ref am), (1, .int p0), (2, .int p1), (4, .int a1.2), (5, .int a4.2)] [.int a4.1] := by
        intro t13 ea
        have h := hAu14 _ ea
        refine zr_iconst (pc := 69) hX zci_1 dX5_ratioAgrees_69 ?_
        refine zr_goto (pc := 70) hX 74 rfl dX5_ratioAgrees_70 ?_
        exact (hJt10 (1 : Int32) (Option.some.inj h).symm).sub [0, 1, 2, 3, 4] rfl
      replace h := gu14
      refine zr_if_ne (pc := 37) hX 69 rfl dX5_ratioAgrees_37 (fun c37_18 => ?_) (fun c37_18 => ?_)
      · rw [if_neg c37_18] at h
        exact (hJt13 () (Option.some.inj h).symm).sub [0, 1, 2, 4, 5] rfl
      · rw [if_pos c37_18] at h
        refine zr_aload_n (pc := 40) hX 0 rfl rfl dX5_ratioAgrees_40 ?_
        refine zr_mgetA (pc := 41) hX 18 rfl rfl q1756 dX5_ratioAgrees_41 ?_
        refine zr_bipush (pc := 44) hX zcb_8 dX5_ratioAgrees_44 ?_
        refine zr_iload (pc := 46) hX 4 rfl dX5_ratioAgrees_46 ?_
        refine zr_imul (pc := 48) hX dX5_ratioAgrees_48 ?_
        refine zr_iload (pc := 49) hX 5 rfl dX5_ratioAgrees_49 ?_
        refine zr_iadd (pc := 51) hX dX5_ratioAgrees_51 ?_
        obtain ⟨x15, gx15, h⟩ := bnd h
        refine zr_mald (pc := 52) hX 18 rfl rfl rfl gx15 dX5_ratioAgrees_52 ?_
        refine zr_iload_n (pc := 53) hX 1 rfl rfl dX5_ratioAgrees_53 ?_
        refine zr_icmp_ne (pc := 54) hX 69 rfl dX5_ratioAgrees_54 (fun c54_17 => ?_) (fun c54_17 => ?_)
        · rw [if_neg c54_17] at h
          exact (hJt13 () (Option.some.inj h).symm).sub [0, 1, 2, 4, 5] rfl
        · rw [if_pos c54_17] at h
          refine zr_aload_n (pc := 57) hX 0 rfl rfl dX5_ratioAgrees_57 ?_
          refine zr_iload (pc := 58) hX 4 rfl dX5_ratioAgrees_58 ?_
          refine zr_iload (pc := 60) hX 5 rfl dX5_ratioAgrees_60 ?_
          refine zr_iload_n (pc := 62) hX 2 rfl rfl dX5_ratioAgrees_62 ?_
          obtain ⟨t16, gt16, h⟩ := bnd h
          refine zr_callV (pc := 63) (stk' := [.int t16, .int a4.1]) (k' := 0) (n' := 0) hX (fun l s0 D => mX5_linearAgrees l s0 D gt16) (zMw_obj _ _ _) (ci := 4) rfl zwX5_linearAgrees q2159 q2161 qs74 rfl rfl rfl rfl rfl rfl rfl rfl rfl dX5_ratioAgrees_63 ?_
          refine zr_if_eq (pc := 66) hX 73 rfl dX5_ratioAgrees_66 (fun c66_16 => ?_) (fun c66_16 => ?_)
          · rw [if_pos c66_16] at h
            refine zr_iconst (pc := 73) hX zci_0 dX5_ratioAgrees_73 ?_
            replace h := congrArg some (hBu14 _ (Option.some.inj h).symm)
            exact (hJt10 (0 : Int32) (Option.some.inj h).symm).sub [0, 1, 2, 4, 5] rfl
          · rw [if_neg c66_16] at h
            exact (hJt13 () (Option.some.inj h).symm).sub [0, 1, 2, 4, 5] rfl
set_option maxHeartbeats 4000000 in
theorem mX5_round (l : Launch) (s0 : State) (D : zD) {n : Nat} {am : Nat} {st : zMS} {b : zH} {sz : Nat} {o : zMS × Int32} (h : fX5_round n st = some o) : zM l s0 D yX5_round cX5_round 5 (some .boolean) 7 141 0 0 [.ref am] (zMw am st b) sz (zMw am o.1 b) sz (some (.int o.2)) := by
  refine zenter (own := RX5) zplX5 rfl (Nat.le_of_ble_eq_true rfl) trivial (fun K hX hnm hret => ?_)
  unfold fX5_round at h
  show VW K (zMw am st b) sz 0 0 0 [(0, .ref am)] []
  refine zr_iconst (pc := 0) hX zci_0 dX5_round_0 ?_
  refine zr_istore_n (pc := 1) hX rfl rfl (Nat.le_of_ble_eq_true rfl) rfl dX5_round_1 ?_
  refine zr_iconst (pc := 2) hX zci_0 dX5_round_2 ?_
  refine zr_istore_n (pc := 3) hX rfl rfl (Nat.le_of_ble_eq_true rfl) rfl dX5_round_3 ?_
  obtain ⟨t3, gt3, h⟩ := bnd h
  have hJt3 : ∀ a, a = t3 → VW K (zMw am a b) sz 0 0 23 [(0, .ref am), (1, .int (0 : Int32))] [] := by
    intro a ea
    rw [ea]
    refine zr_iconst (pc := 23) hX zci_0 dX5_round_23 ?_
    refine zr_istore_n (pc := 24) hX rfl rfl (Nat.le_of_ble_eq_true rfl) rfl dX5_round_24 ?_
    obtain ⟨t6, gt6, h⟩ := bnd h
    have hJt6 : ∀ a, a = t6 → VW K (zMw am a b) sz 0 0 241 [(0, .ref am), (1, .int (0 : Int32))] [] := by
      intro a ea
      rw [ea]
      refine zr_iconst (pc := 241) hX zci_0 dX5_round_241 ?_
      refine zr_istore_n (pc := 242) hX rfl rfl (Nat.le_of_ble_eq_true rfl) rfl dX5_round_242 ?_
      refine VW.sub (lv' := [(0, .ref am), (1, .int (0 : Int32)), (2, .int (0 : Int32))]) ?_ [1, 2, 0] rfl
      refine zloop_walk (V := (fun a => VW K (zMw am a.1 b) sz 0 0 243 [(0, .ref am), (1, .int a.2.1), (2, .int a.2.2)] [])) (E := fun e => e = o) ?_ n (t6, (0 : Int32), (0 : Int32)) _ h rfl
      intro a7 o8 h kco8 keo8
      unfold fX5_round_L243 at h
      refine zr_iload_n (pc := 243) hX 2 rfl rfl dX5_round_243 ?_
      refine zr_aload_n (pc := 244) hX 0 rfl rfl dX5_round_244 ?_
      refine zr_mget (pc := 245) hX 0 rfl rfl q1738 dX5_round_245 ?_
      refine zr_icmp_ge (pc := 248) hX 346 rfl dX5_round_248 (fun c248_29 => ?_) (fun c248_29 => ?_)
      · rw [if_pos c248_29] at h
        refine zr_iload_n (pc := 346) hX 1 rfl rfl dX5_round_346 ?_
        obtain ⟨x9, gx9, h⟩ := bnd h
        rw [(zq_spec gx9).1] at h
        replace h := congrArg some (keo8 _ (Option.some.inj h).symm)
        obtain rfl := Option.some.inj h
        exact hret _ _ dX5_round_347 (Or.inr ⟨rfl, (zq_spec gx9).2⟩)
      · rw [if_neg c248_29] at h
        refine zr_iload_n (pc := 251) hX 1 rfl rfl dX5_round_251 ?_
        refine zr_aload_n (pc := 252) hX 0 rfl rfl dX5_round_252 ?_
        refine zr_mgetA (pc := 253) hX 42 rfl rfl q1780 dX5_round_253 ?_
        refine zr_iload_n (pc := 256) hX 2 rfl rfl dX5_round_256 ?_
        obtain ⟨x10, gx10, h⟩ := bnd h
        refine zr_mald (pc := 257) hX 42 rfl rfl rfl gx10 dX5_round_257 ?_
        refine zr_aload_n (pc := 258) hX 0 rfl rfl dX5_round_258 ?_
        refine zr_mgetA (pc := 259) hX 34 rfl rfl q1772 dX5_round_259 ?_
        refine zr_iload_n (pc := 262) hX 2 rfl rfl dX5_round_262 ?_
        obtain ⟨x11, gx11, h⟩ := bnd h
        refine zr_mald (pc := 263) hX 34 rfl rfl rfl gx11 dX5_round_263 ?_
        obtain ⟨t12, gt12, h⟩ := bnd h
        have hJt12 : ∀ a, t12 = a → VW K (zMw am a7.1 b) sz 0 0 302 [(0, .ref am), (2, .int a7.2.2)] [.int a, .int a7.2.1] := by
          intro a ea
          subst ea
          refine zr_ior (pc := 302) hX dX5_round_302 ?_
          obtain ⟨x13, gx13, h⟩ := bnd h
          refine zr_istore_n (pc := 303) hX (Option.some.inj gx13) rfl (Nat.le_of_ble_eq_true rfl) rfl dX5_round_303 ?_
          refine zr_aload_n (pc := 304) hX 1 rfl rfl dX5_round_304 ?_
          refine zr_mgetA (pc := 305) hX 34 rfl rfl q1772 dX5_round_305 ?_
          refine zr_iload_n (pc := 308) hX 2 rfl rfl dX5_round_308 ?_
          refine zr_aload_n (pc := 309) hX 1 rfl rfl dX5_round_309 ?_
          refine zr_mgetA (pc := 310) hX 42 rfl rfl q1780 dX5_round_310 ?_
          refine zr_iload_n (pc := 313) hX 2 rfl rfl dX5_round_313 ?_
          obtain ⟨x14, gx14, h⟩ := bnd h
          refine zr_mald (pc := 314) hX 42 rfl rfl rfl gx14 dX5_round_314 ?_
          obtain ⟨st15, gst15, h⟩ := bnd h
          refine zr_mast (pc := 315) hX 34 rfl rfl rfl gst15 dX5_round_315 ?_
          refine zr_aload_n (pc := 316) hX 1 rfl rfl dX5_round_316 ?_
          refine zr_mgetA (pc := 317) hX 35 rfl rfl q1773 dX5_round_317 ?_
          refine zr_iload_n (pc := 320) hX 2 rfl rfl dX5_round_320 ?_
          refine zr_aload_n (pc := 321) hX 1 rfl rfl dX5_round_321 ?_
          refine zr_mgetA (pc := 322) hX 43 rfl rfl q1781 dX5_round_322 ?_
          refine zr_iload_n (pc := 325) hX 2 rfl rfl dX5_round_325 ?_
          obtain ⟨x16, gx16, h⟩ := bnd h
          refine zr_mald (pc := 326) hX 43 rfl rfl rfl gx16 dX5_round_326 ?_
          obtain ⟨st17, gst17, h⟩ := bnd h
          refine zr_mast (pc := 327) hX 35 rfl rfl rfl gst17 dX5_round_327 ?_
          refine zr_aload_n (pc := 328) hX 1 rfl rfl dX5_round_328 ?_
          refine zr_mgetA (pc := 329) hX 36 rfl rfl q1774 dX5_round_329 ?_
          refine zr_iload_n (pc := 332) hX 2 rfl rfl dX5_round_332 ?_
          refine zr_aload_n (pc := 333) hX 1 rfl rfl dX5_round_333 ?_
          refine zr_mgetA (pc := 334) hX 44 rfl rfl q1782 dX5_round_334 ?_
          refine zr_iload_n (pc := 337) hX 2 rfl rfl dX5_round_337 ?_
          obtain ⟨x18, gx18, h⟩ := bnd h
          refine zr_mald (pc := 338) hX 44 rfl rfl rfl gx18 dX5_round_338 ?_
          obtain ⟨st19, gst19, h⟩ := bnd h
          refine zr_mast (pc := 339) hX 36 rfl rfl rfl gst19 dX5_round_339 ?_
          obtain ⟨x20, gx20, h⟩ := bnd h
          refine zr_iinc (pc := 340) hX 2 rfl zci_1 (Option.some.inj gx20) (Nat.le_of_ble_eq_true rfl) rfl dX5_round_340 ?_
          refine zr_goto (pc := 343) hX 243 rfl dX5_round_343 ?_
          exact (kco8 (st19, x13, x20) (Option.some.inj h).symm).sub [2, 1, 0] rfl
        replace h := gt12
        obtain ⟨u22, gu22, hAu22, hBu22⟩ := zesc_bnd h
        have hJt21 : ∀ a, u22 = .inl a → VW K (zMw am a7.1 b) sz 0 0 297 [(0, .ref am), (2, .int a7.2.2)] [.int a7.2.1] := by
          intro t21 ea
          have h := hAu22 _ ea
          refine zr_iconst (pc := 297) hX zci_1 dX5_round_297 ?_
          refine zr_goto (pc := 298) hX 302 rfl dX5_round_298 ?_
          exact (hJt12 (1 : Int32) (Option.some.inj h).symm).sub [0, 1] rfl
        replace h := gu22
        refine zr_icmp_ne (pc := 264) hX 297 rfl dX5_round_264 (fun c264_28 => ?_) (fun c264_28 => ?_)
        · rw [if_neg c264_28] at h
          exact (hJt21 () (Option.some.inj h).symm).sub [0, 2] rfl
        · rw [if_pos c264_28] at h
          refine zr_aload_n (pc := 267) hX 0 rfl rfl dX5_round_267 ?_
          refine zr_mgetA (pc := 268) hX 43 rfl rfl q1781 dX5_round_268 ?_
          refine zr_iload_n (pc := 271) hX 2 rfl rfl dX5_round_271 ?_
          obtain ⟨x23, gx23, h⟩ := bnd h
          refine zr_mald (pc := 272) hX 43 rfl rfl rfl gx23 dX5_round_272 ?_
          refine zr_aload_n (pc := 273) hX 0 rfl rfl dX5_round_273 ?_
          refine zr_mgetA (pc := 274) hX 35 rfl rfl q1773 dX5_round_274 ?_
          refine zr_iload_n (pc := 277) hX 2 rfl rfl dX5_round_277 ?_
          obtain ⟨x24, gx24, h⟩ := bnd h
          refine zr_mald (pc := 278) hX 35 rfl rfl rfl gx24 dX5_round_278 ?_
          refine zr_icmp_ne (pc := 279) hX 297 rfl dX5_round_279 (fun c279_27 => ?_) (fun c279_27 => ?_)
          · rw [if_neg c279_27] at h
            exact (hJt21 () (Option.some.inj h).symm).sub [0, 2] rfl
          · rw [if_pos c279_27] at h
            refine zr_aload_n (pc := 282) hX 0 rfl rfl dX5_round_282 ?_
            refine zr_mgetA (pc := 283) hX 44 rfl rfl q1782 dX5_round_283 ?_
            refine zr_iload_n (pc := 286) hX 2 rfl rfl dX5_round_286 ?_
            obtain ⟨x25, gx25, h⟩ := bnd h
            refine zr_mald (pc := 287) hX 44 rfl rfl rfl gx25 dX5_round_287 ?_
            refine zr_aload_n (pc := 288) hX 0 rfl rfl dX5_round_288 ?_
            refine zr_mgetA (pc := 289) hX 36 rfl rfl q1774 dX5_round_289 ?_
            refine zr_iload_n (pc := 292) hX 2 rfl rfl dX5_round_292 ?_
            obtain ⟨x26, gx26, h⟩ := bnd h
            refine zr_mald (pc := 293) hX 36 rfl rfl rfl gx26 dX5_round_293 ?_
            refine zr_icmp_eq (pc := 294) hX 301 rfl dX5_round_294 (fun c294_26 => ?_) (fun c294_26 => ?_)
            · rw [if_pos c294_26] at h
              refine zr_iconst (pc := 301) hX zci_0 dX5_round_301 ?_
              replace h := congrArg some (hBu22 _ (Option.some.inj h).symm)
              exact (hJt12 (0 : Int32) (Option.some.inj h).symm).sub [0, 2] rfl
            · rw [if_neg c294_26] at h
              exact (hJt21 () (Option.some.inj h).symm).sub [0, 2] rfl
    refine VW.sub (lv' := [(0, .ref am), (1, .int (0 : Int32)), (2, .int (0 : Int32))]) ?_ [1, 2, 0] rfl
    refine zloop_walk (V := (fun a => VW K (zMw am a.1 b) sz 0 0 25 [(0, .ref am), (1, .int (0 : Int32)), (2, .int a.2)] [])) (E := fun e => e = t6) ?_ n (t3, (0 : Int32)) _ gt6 rfl
    intro a4 o5 h kco5 keo5
    unfold fX5_round_L25 at h
    refine zr_iload_n (pc := 25) hX 2 rfl rfl dX5_round_25 ?_
    refine zr_aload_n (pc := 26) hX 0 rfl rfl dX5_round_26 ?_
    refine zr_mget (pc := 27) hX 0 rfl rfl q1738 dX5_round_27 ?_
    refine zr_icmp_ge (pc := 30) hX 241 rfl dX5_round_30 (fun c30_78 => ?_) (fun c30_78 => ?_)
    · rw [if_pos c30_78] at h
      exact (hJt6 a4.1 (keo5 _ (Option.some.inj h).symm)).sub [0, 1] rfl
    · rw [if_neg c30_78] at h
      refine zr_aload_n (pc := 33) hX 0 rfl rfl dX5_round_33 ?_
      refine zr_mgetA (pc := 34) hX 42 rfl rfl q1780 dX5_round_34 ?_
      refine zr_iload_n (pc := 37) hX 2 rfl rfl dX5_round_37 ?_
      refine zr_aload_n (pc := 38) hX 0 rfl rfl dX5_round_38 ?_
      refine zr_mgetA (pc := 39) hX 34 rfl rfl q1772 dX5_round_39 ?_
      refine zr_iload_n (pc := 42) hX 2 rfl rfl dX5_round_42 ?_
      obtain ⟨x31, gx31, h⟩ := bnd h
      refine zr_mald (pc := 43) hX 34 rfl rfl rfl gx31 dX5_round_43 ?_
      obtain ⟨st32, gst32, h⟩ := bnd h
      refine zr_mast (pc := 44) hX 42 rfl rfl rfl gst32 dX5_round_44 ?_
      refine zr_aload_n (pc := 45) hX 0 rfl rfl dX5_round_45 ?_
      refine zr_mgetA (pc := 46) hX 43 rfl rfl q1781 dX5_round_46 ?_
      refine zr_iload_n (pc := 49) hX 2 rfl rfl dX5_round_49 ?_
      refine zr_aload_n (pc := 50) hX 0 rfl rfl dX5_round_50 ?_
      refine zr_mgetA (pc := 51) hX 35 rfl rfl q1773 dX5_round_51 ?_
      refine zr_iload_n (pc := 54) hX 2 rfl rfl dX5_round_54 ?_
      obtain ⟨x33, gx33, h⟩ := bnd h
      refine zr_mald (pc := 55) hX 35 rfl rfl rfl gx33 dX5_round_55 ?_
      obtain ⟨st34, gst34, h⟩ := bnd h
      refine zr_mast (pc := 56) hX 43 rfl rfl rfl gst34 dX5_round_56 ?_
      refine zr_aload_n (pc := 57) hX 0 rfl rfl dX5_round_57 ?_
      refine zr_mgetA (pc := 58) hX 44 rfl rfl q1782 dX5_round_58 ?_
      refine zr_iload_n (pc := 61) hX 2 rfl rfl dX5_round_61 ?_
      refine zr_aload_n (pc := 62) hX 0 rfl rfl dX5_round_62 ?_
      refine zr_mgetA (pc := 63) hX 36 rfl rfl q1774 dX5_round_63 ?_
      refine zr_iload_n (pc := 66) hX 2 rfl rfl dX5_round_66 ?_
      obtain ⟨x35, gx35, h⟩ := bnd h
      refine zr_mald (pc := 67) hX 36 rfl rfl rfl gx35 dX5_round_67 ?_
      obtain ⟨st36, gst36, h⟩ := bnd h
      refine zr_mast (pc := 68) hX 44 rfl rfl rfl gst36 dX5_round_68 ?_
      refine zr_iconst (pc := 69) hX zci_0 dX5_round_69 ?_
      refine zr_istore_n (pc := 70) hX rfl rfl (Nat.le_of_ble_eq_true rfl) rfl dX5_round_70 ?_
      obtain ⟨t39, gt39, h⟩ := bnd h
      have hJt39 : ∀ a, a = t39 → VW K (zMw am a b) sz 0 0 131 [(0, .ref am), (1, .int (0 : Int32)), (2, .int a4.2)] [] := by
        intro a ea
        rw [ea]
        obtain ⟨t42, gt42, h⟩ := bnd h
        have hJt42 : ∀ a, a = t42 → VW K (zMw am a b) sz 0 0 183 [(0, .ref am), (1, .int (0 : Int32)), (2, .int a4.2)] [] := by
          intro a ea
          rw [ea]
          obtain ⟨t45, gt45, h⟩ := bnd h
          have hJt45 : ∀ a, a = t45 → VW K (zMw am a b) sz 0 0 235 [(0, .ref am), (1, .int (0 : Int32)), (2, .int a4.2)] [] := by
            intro a ea
            rw [ea]
            obtain ⟨x46, gx46, h⟩ := bnd h
            refine zr_iinc (pc := 235) hX 2 rfl zci_1 (Option.some.inj gx46) (Nat.le_of_ble_eq_true rfl) rfl dX5_round_235 ?_
            refine zr_goto (pc := 238) hX 25 rfl dX5_round_238 ?_
            exact (kco5 (t45, x46) (Option.some.inj h).symm).sub [1, 2, 0] rfl
          refine VW.sub (lv' := [(0, .ref am), (1, .int (0 : Int32)), (2, .int a4.2)]) ?_ [0, 1, 2] rfl
          refine zloop_walk (V := (fun a => VW K (zMw am a b) sz 0 0 183 [(0, .ref am), (1, .int (0 : Int32)), (2, .int a4.2)] [])) (E := fun e => e = t45) ?_ n t42 _ gt45 rfl
          intro a43 o44 h kco44 keo44
          unfold fX5_round_L183 at h
          refine zr_aload_n (pc := 183) hX 0 rfl rfl dX5_round_183 ?_
          refine zr_mgetA (pc := 184) hX 1 rfl rfl q1739 dX5_round_184 ?_
          refine zr_iload_n (pc := 187) hX 2 rfl rfl dX5_round_187 ?_
          obtain ⟨x47, gx47, h⟩ := bnd h
          refine zr_mald (pc := 188) hX 1 rfl rfl rfl gx47 dX5_round_188 ?_
          refine zr_iconst (pc := 189) hX zci_3 dX5_round_189 ?_
          refine zr_icmp_ne (pc := 190) hX 235 rfl dX5_round_190 (fun c190_55 => ?_) (fun c190_55 => ?_)
          · rw [if_neg c190_55] at h
            exact (hJt45 a43 (keo44 _ (Option.some.inj h).symm)).sub [0, 1, 2] rfl
          · rw [if_pos c190_55] at h
            refine zr_aload_n (pc := 193) hX 0 rfl rfl dX5_round_193 ?_
            refine zr_mgetA (pc := 194) hX 43 rfl rfl q1781 dX5_round_194 ?_
            refine zr_iload_n (pc := 197) hX 2 rfl rfl dX5_round_197 ?_
            obtain ⟨x48, gx48, h⟩ := bnd h
            refine zr_mald (pc := 198) hX 43 rfl rfl rfl gx48 dX5_round_198 ?_
            refine zr_aload_n (pc := 199) hX 0 rfl rfl dX5_round_199 ?_
            refine zr_mgetA (pc := 200) hX 44 rfl rfl q1782 dX5_round_200 ?_
            refine zr_iload_n (pc := 203) hX 2 rfl rfl dX5_round_203 ?_
            obtain ⟨x49, gx49, h⟩ := bnd h
            refine zr_mald (pc := 204) hX 44 rfl rfl rfl gx49 dX5_round_204 ?_
            refine zr_icmp_gt (pc := 205) hX 235 rfl dX5_round_205 (fun c205_54 => ?_) (fun c205_54 => ?_)
            · rw [if_pos c205_54] at h
              exact (hJt45 a43 (keo44 _ (Option.some.inj h).symm)).sub [0, 1, 2] rfl
            · rw [if_neg c205_54] at h
              refine zr_aload_n (pc := 208) hX 0 rfl rfl dX5_round_208 ?_
              refine zr_iload_n (pc := 209) hX 2 rfl rfl dX5_round_209 ?_
              refine zr_aload_n (pc := 210) hX 0 rfl rfl dX5_round_210 ?_
              refine zr_mgetA (pc := 211) hX 44 rfl rfl q1782 dX5_round_211 ?_
              refine zr_iload_n (pc := 214) hX 2 rfl rfl dX5_round_214 ?_
              obtain ⟨x50, gx50, h⟩ := bnd h
              refine zr_mald (pc := 215) hX 44 rfl rfl rfl gx50 dX5_round_215 ?_
              obtain ⟨t51, gt51, h⟩ := bnd h
              refine zr_callV (pc := 216) (stk' := [.int t51]) (k' := 0) (n' := 0) hX (fun l s0 D => mX5_ratioAgrees l s0 D gt51) (zMw_obj _ _ _) (ci := 4) rfl zwX5_ratioAgrees q2272 q2274 qs94 rfl rfl rfl rfl rfl rfl rfl rfl rfl dX5_round_216 ?_
              refine zr_if_ne (pc := 219) hX 235 rfl dX5_round_219 (fun c219_53 => ?_) (fun c219_53 => ?_)
              · rw [if_neg c219_53] at h
                exact (hJt45 a43 (keo44 _ (Option.some.inj h).symm)).sub [0, 1, 2] rfl
              · rw [if_pos c219_53] at h
                refine zr_aload_n (pc := 222) hX 0 rfl rfl dX5_round_222 ?_
                refine zr_mgetA (pc := 223) hX 44 rfl rfl q1782 dX5_round_223 ?_
                refine zr_iload_n (pc := 226) hX 2 rfl rfl dX5_round_226 ?_
                refine zr_dup2 (pc := 227) hX rfl rfl dX5_round_227 ?_
                obtain ⟨x52, gx52, h⟩ := bnd h
                refine zr_mald (pc := 228) hX 44 rfl rfl rfl gx52 dX5_round_228 ?_
                refine zr_iconst (pc := 229) hX zci_1 dX5_round_229 ?_
                refine zr_isub (pc := 230) hX dX5_round_230 ?_
                obtain ⟨st53, gst53, h⟩ := bnd h
                refine zr_mast (pc := 231) hX 44 rfl rfl rfl gst53 dX5_round_231 ?_
                refine zr_goto (pc := 232) hX 183 rfl dX5_round_232 ?_
                exact (kco44 st53 (Option.some.inj h).symm).sub [0, 1, 2] rfl
        refine VW.sub (lv' := [(0, .ref am), (1, .int (0 : Int32)), (2, .int a4.2)]) ?_ [0, 1, 2] rfl
        refine zloop_walk (V := (fun a => VW K (zMw am a b) sz 0 0 131 [(0, .ref am), (1, .int (0 : Int32)), (2, .int a4.2)] [])) (E := fun e => e = t42) ?_ n t39 _ gt42 rfl
        intro a40 o41 h kco41 keo41
        unfold fX5_round_L131 at h
        refine zr_aload_n (pc := 131) hX 0 rfl rfl dX5_round_131 ?_
        refine zr_mgetA (pc := 132) hX 1 rfl rfl q1739 dX5_round_132 ?_
        refine zr_iload_n (pc := 135) hX 2 rfl rfl dX5_round_135 ?_
        obtain ⟨x57, gx57, h⟩ := bnd h
        refine zr_mald (pc := 136) hX 1 rfl rfl rfl gx57 dX5_round_136 ?_
        refine zr_iconst (pc := 137) hX zci_3 dX5_round_137 ?_
        refine zr_icmp_ne (pc := 138) hX 183 rfl dX5_round_138 (fun c138_65 => ?_) (fun c138_65 => ?_)
        · rw [if_neg c138_65] at h
          exact (hJt42 a40 (keo41 _ (Option.some.inj h).symm)).sub [0, 1, 2] rfl
        · rw [if_pos c138_65] at h
          refine zr_aload_n (pc := 141) hX 0 rfl rfl dX5_round_141 ?_
          refine zr_mgetA (pc := 142) hX 43 rfl rfl q1781 dX5_round_142 ?_
          refine zr_iload_n (pc := 145) hX 2 rfl rfl dX5_round_145 ?_
          obtain ⟨x58, gx58, h⟩ := bnd h
          refine zr_mald (pc := 146) hX 43 rfl rfl rfl gx58 dX5_round_146 ?_
          refine zr_aload_n (pc := 147) hX 0 rfl rfl dX5_round_147 ?_
          refine zr_mgetA (pc := 148) hX 44 rfl rfl q1782 dX5_round_148 ?_
          refine zr_iload_n (pc := 151) hX 2 rfl rfl dX5_round_151 ?_
          obtain ⟨x59, gx59, h⟩ := bnd h
          refine zr_mald (pc := 152) hX 44 rfl rfl rfl gx59 dX5_round_152 ?_
          refine zr_icmp_gt (pc := 153) hX 183 rfl dX5_round_153 (fun c153_64 => ?_) (fun c153_64 => ?_)
          · rw [if_pos c153_64] at h
            exact (hJt42 a40 (keo41 _ (Option.some.inj h).symm)).sub [0, 1, 2] rfl
          · rw [if_neg c153_64] at h
            refine zr_aload_n (pc := 156) hX 0 rfl rfl dX5_round_156 ?_
            refine zr_iload_n (pc := 157) hX 2 rfl rfl dX5_round_157 ?_
            refine zr_aload_n (pc := 158) hX 0 rfl rfl dX5_round_158 ?_
            refine zr_mgetA (pc := 159) hX 43 rfl rfl q1781 dX5_round_159 ?_
            refine zr_iload_n (pc := 162) hX 2 rfl rfl dX5_round_162 ?_
            obtain ⟨x60, gx60, h⟩ := bnd h
            refine zr_mald (pc := 163) hX 43 rfl rfl rfl gx60 dX5_round_163 ?_
            obtain ⟨t61, gt61, h⟩ := bnd h
            refine zr_callV (pc := 164) (stk' := [.int t61]) (k' := 0) (n' := 0) hX (fun l s0 D => mX5_ratioAgrees l s0 D gt61) (zMw_obj _ _ _) (ci := 4) rfl zwX5_ratioAgrees q2272 q2274 qs94 rfl rfl rfl rfl rfl rfl rfl rfl rfl dX5_round_164 ?_
            refine zr_if_ne (pc := 167) hX 183 rfl dX5_round_167 (fun c167_63 => ?_) (fun c167_63 => ?_)
            · rw [if_neg c167_63] at h
              exact (hJt42 a40 (keo41 _ (Option.some.inj h).symm)).sub [0, 1, 2] rfl
            · rw [if_pos c167_63] at h
              refine zr_aload_n (pc := 170) hX 0 rfl rfl dX5_round_170 ?_
              refine zr_mgetA (pc := 171) hX 43 rfl rfl q1781 dX5_round_171 ?_
              refine zr_iload_n (pc := 174) hX 2 rfl rfl dX5_round_174 ?_
              refine zr_dup2 (pc := 175) hX rfl rfl dX5_round_175 ?_
              obtain ⟨x62, gx62, h⟩ := bnd h
              refine zr_mald (pc := 176) hX 43 rfl rfl rfl gx62 dX5_round_176 ?_
              refine zr_iconst (pc := 177) hX zci_1 dX5_round_177 ?_
              refine zr_iadd (pc := 178) hX dX5_round_178 ?_
              obtain ⟨st63, gst63, h⟩ := bnd h
              refine zr_mast (pc := 179) hX 43 rfl rfl rfl gst63 dX5_round_179 ?_
              refine zr_goto (pc := 180) hX 131 rfl dX5_round_180 ?_
              exact (kco41 st63 (Option.some.inj h).symm).sub [0, 1, 2] rfl
      refine VW.sub (lv' := [(0, .ref am), (1, .int (0 : Int32)), (2, .int a4.2), (3, .int (0 : Int32))]) ?_ [1, 2, 3, 0] rfl
      refine zloop_walk (V := (fun a => VW K (zMw am a.1 b) sz 0 0 71 [(0, .ref am), (1, .int (0 : Int32)), (2, .int a4.2), (3, .int a.2)] [])) (E := fun e => e = t39) ?_ n (st36, (0 : Int32)) _ gt39 rfl
      intro a37 o38 h kco38 keo38
      unfold fX5_round_L71 at h
      refine zr_iload_n (pc := 71) hX 3 rfl rfl dX5_round_71 ?_
      refine zr_bipush (pc := 72) hX zcb_32 dX5_round_72 ?_
      refine zr_icmp_ge (pc := 74) hX 131 rfl dX5_round_74 (fun c74_77 => ?_) (fun c74_77 => ?_)
      · rw [if_pos c74_77] at h
        exact (hJt39 a37.1 (keo38 _ (Option.some.inj h).symm)).sub [0, 1, 2] rfl
      · rw [if_neg c74_77] at h
        refine zr_aload_n (pc := 77) hX 0 rfl rfl dX5_round_77 ?_
        refine zr_mgetA (pc := 78) hX 1 rfl rfl q1739 dX5_round_78 ?_
        refine zr_iload_n (pc := 81) hX 2 rfl rfl dX5_round_81 ?_
        obtain ⟨x67, gx67, h⟩ := bnd h
        refine zr_mald (pc := 82) hX 1 rfl rfl rfl gx67 dX5_round_82 ?_
        refine zr_iconst (pc := 83) hX zci_3 dX5_round_83 ?_
        refine zr_icmp_eq (pc := 84) hX 131 rfl dX5_round_84 (fun c84_76 => ?_) (fun c84_76 => ?_)
        · rw [if_pos c84_76] at h
          exact (hJt39 a37.1 (keo38 _ (Option.some.inj h).symm)).sub [0, 1, 2] rfl
        · rw [if_neg c84_76] at h
          refine zr_aload_n (pc := 87) hX 0 rfl rfl dX5_round_87 ?_
          refine zr_mgetA (pc := 88) hX 34 rfl rfl q1772 dX5_round_88 ?_
          refine zr_iload_n (pc := 91) hX 2 rfl rfl dX5_round_91 ?_
          obtain ⟨x68, gx68, h⟩ := bnd h
          refine zr_mald (pc := 92) hX 34 rfl rfl rfl gx68 dX5_round_92 ?_
          refine zr_iload_n (pc := 93) hX 3 rfl rfl dX5_round_93 ?_
          obtain ⟨t69, gt69, h⟩ := bnd h
          refine zr_callS (pc := 94) (stk' := [.int t69]) (k' := 0) (n' := 0) hX (fun l s0 D => mX5_hasBit l s0 D gt69) zwX5_hasBit q2156 q2157 rfl rfl rfl rfl rfl rfl rfl rfl dX5_round_94 ?_
          obtain ⟨t70, gt70, h⟩ := bnd h
          have hJt70 : ∀ a, t70 = a → VW K (zMw am a37.1 b) sz 0 0 110 [(0, .ref am), (1, .int (0 : Int32)), (2, .int a4.2), (3, .int a37.2)] [.int a] := by
            intro a ea
            subst ea
            refine zr_istore (pc := 110) hX rfl (Nat.le_of_ble_eq_true rfl) rfl dX5_round_110 ?_
            refine zr_iload (pc := 112) hX 0 rfl dX5_round_112 ?_
            obtain ⟨t71, gt71, h⟩ := bnd h
            have hJt71 : ∀ a, t71 = a → VW K (zMw am a b) sz 0 0 125 [(0, .ref am), (1, .int (0 : Int32)), (2, .int a4.2), (3, .int a37.2)] [] := by
              intro a ea
              subst ea
              obtain ⟨x72, gx72, h⟩ := bnd h
              refine zr_iinc (pc := 125) hX 3 rfl zci_1 (Option.some.inj gx72) (Nat.le_of_ble_eq_true rfl) rfl dX5_round_125 ?_
              refine zr_goto (pc := 128) hX 71 rfl dX5_round_128 ?_
              exact (kco38 (t71, x72) (Option.some.inj h).symm).sub [1, 2, 3, 0] rfl
            replace h := gt71
            refine zr_if_lt (pc := 114) hX 125 rfl dX5_round_114 (fun c114_73 => ?_) (fun c114_73 => ?_)
            · rw [if_pos c114_73] at h
              exact (hJt71 a37.1 (Option.some.inj h).symm).sub [1, 2, 3, 4] rfl
            · rw [if_neg c114_73] at h
              refine zr_aload_n (pc := 117) hX 1 rfl rfl dX5_round_117 ?_
              refine zr_iload_n (pc := 118) hX 3 rfl rfl dX5_round_118 ?_
              refine zr_iload_n (pc := 119) hX 4 rfl rfl dX5_round_119 ?_
              refine zr_iload (pc := 120) hX 0 rfl dX5_round_120 ?_
              obtain ⟨t73, gt73, h⟩ := bnd h
              refine zr_callV (pc := 122) (stk' := []) (k' := 0) (n' := 0) hX (fun l s0 D => mX5_removes l s0 D gt73) (zMw_obj _ _ _) (ci := 4) rfl zwX5_removes q2268 q2270 qs93 rfl rfl rfl rfl rfl rfl rfl rfl rfl dX5_round_122 ?_
              exact (hJt71 t73 (Option.some.inj h).symm).sub [1, 2, 3, 4] rfl
          replace h := gt70
          refine zr_if_eq (pc := 97) hX 109 rfl dX5_round_97 (fun c97_75 => ?_) (fun c97_75 => ?_)
          · rw [if_pos c97_75] at h
            refine zr_iconst (pc := 109) hX zci_m1 dX5_round_109 ?_
            exact (hJt70 (-1 : Int32) (Option.some.inj h).symm).sub [0, 1, 2, 3] rfl
          · rw [if_neg c97_75] at h
            refine zr_aload_n (pc := 100) hX 0 rfl rfl dX5_round_100 ?_
            refine zr_iload_n (pc := 101) hX 2 rfl rfl dX5_round_101 ?_
            refine zr_iload_n (pc := 102) hX 3 rfl rfl dX5_round_102 ?_
            obtain ⟨t75, gt75, h⟩ := bnd h
            refine zr_callV (pc := 103) (stk' := [.int t75]) (k' := 0) (n' := 0) hX (fun l s0 D => mX5_against l s0 D gt75) (zMw_obj _ _ _) (ci := 4) rfl zwX5_against q2264 q2266 qs92 rfl rfl rfl rfl rfl rfl rfl rfl rfl dX5_round_103 ?_
            refine zr_goto (pc := 106) hX 110 rfl dX5_round_106 ?_
            exact (hJt70 t75 (Option.some.inj h).symm).sub [0, 1, 2, 3] rfl
  refine VW.sub (lv' := [(0, .ref am), (1, .int (0 : Int32)), (2, .int (0 : Int32))]) ?_ [2, 1, 0] rfl
  refine zloop_walk (V := (fun a => VW K (zMw am a.1 b) sz 0 0 4 [(0, .ref am), (1, .int (0 : Int32)), (2, .int a.2)] [])) (E := fun e => e = t3) ?_ n (st, (0 : Int32)) _ gt3 rfl
  intro a1 o2 h kco2 keo2
  unfold fX5_round_L4 at h
  refine zr_iload_n (pc := 4) hX 2 rfl rfl dX5_round_4 ?_
  refine zr_aload_n (pc := 5) hX 0 rfl rfl dX5_round_5 ?_
  refine zr_mget (pc := 6) hX 15 rfl rfl q1753 dX5_round_6 ?_
  refine zr_icmp_ge (pc := 9) hX 23 rfl dX5_round_9 (fun c9_81 => ?_) (fun c9_81 => ?_)
  · rw [if_pos c9_81] at h
    exact (hJt3 a1.1 (keo2 _ (Option.some.inj h).symm)).sub [0, 1] rfl
  · rw [if_neg c9_81] at h
    refine zr_aload_n (pc := 12) hX 0 rfl rfl dX5_round_12 ?_
    refine zr_iload_n (pc := 13) hX 2 rfl rfl dX5_round_13 ?_
    obtain ⟨t80, gt80, h⟩ := bnd h
    refine zr_callV (pc := 14) (stk' := []) (k' := 0) (n' := 0) hX (fun l s0 D => mX5_supportsAll l s0 D gt80) (zMw_obj _ _ _) (ci := 4) rfl zwX5_supportsAll q2148 q2150 qs72 rfl rfl rfl rfl rfl rfl rfl rfl rfl dX5_round_14 ?_
    obtain ⟨x81, gx81, h⟩ := bnd h
    refine zr_iinc (pc := 17) hX 2 rfl zci_1 (Option.some.inj gx81) (Nat.le_of_ble_eq_true rfl) rfl dX5_round_17 ?_
    refine zr_goto (pc := 20) hX 4 rfl dX5_round_20 ?_
    exact (kco2 (t80, x81) (Option.some.inj h).symm).sub [1, 2, 0] rfl
set_option maxHeartbeats 4000000 in
theorem mX5_finds (l : Launch) (s0 : State) (D : zD) {n : Nat} {am : Nat} {st : zMS} {b : zH} {sz : Nat} {o : zMS} (h : fX5_finds n st = some o) : zM l s0 D yX5_finds cX5_finds 3 none 8 165 0 0 [.ref am] (zMw am st b) sz (zMw am o b) sz none := by
  refine zenter (own := RX5) zplX5 rfl (Nat.le_of_ble_eq_true rfl) rfl (fun K hX hnm hret => ?_)
  unfold fX5_finds at h
  show VW K (zMw am st b) sz 0 0 0 [(0, .ref am)] []
  refine zr_iconst (pc := 0) hX zci_0 dX5_finds_0 ?_
  refine zr_istore_n (pc := 1) hX rfl rfl (Nat.le_of_ble_eq_true rfl) rfl dX5_finds_1 ?_
  obtain ⟨t3, gt3, h⟩ := bnd h
  have hJt3 : ∀ a, a = t3 → VW K (zMw am a b) sz 0 0 52 [(0, .ref am)] [] := by
    intro a ea
    rw [ea]
    refine zr_iconst (pc := 52) hX zci_0 dX5_finds_52 ?_
    refine zr_istore_n (pc := 53) hX rfl rfl (Nat.le_of_ble_eq_true rfl) rfl dX5_finds_53 ?_
    obtain ⟨t6, gt6, h⟩ := bnd h
    have hJt6 : ∀ a, a = t6 → VW K (zMw am a b) sz 0 0 107 [(0, .ref am)] [] := by
      intro a ea
      rw [ea]
      refine zr_aload_n (pc := 107) hX 0 rfl rfl dX5_finds_107 ?_
      refine zr_mget (pc := 108) hX 32 rfl rfl q1770 dX5_finds_108 ?_
      obtain ⟨t7, gt7, h⟩ := bnd h
      have hJt7 : ∀ a, t7 = a → VW K (zMw am a b) sz 0 0 134 [(0, .ref am)] [] := by
        intro a ea
        subst ea
        refine zr_aload_n (pc := 134) hX 0 rfl rfl dX5_finds_134 ?_
        refine zr_iconst (pc := 135) hX zci_0 dX5_finds_135 ?_
        obtain ⟨st8, gst8, h⟩ := bnd h
        refine zr_mput (pc := 136) hX 38 (Option.some.inj gst8) rfl rfl rfl rfl q1776 dX5_finds_136 ?_
        refine zr_aload_n (pc := 139) hX 0 rfl rfl dX5_finds_139 ?_
        refine zr_iconst (pc := 140) hX zci_0 dX5_finds_140 ?_
        obtain ⟨st9, gst9, h⟩ := bnd h
        refine zr_mput (pc := 141) hX 39 (Option.some.inj gst9) rfl rfl rfl rfl q1777 dX5_finds_141 ?_
        refine zr_aload_n (pc := 144) hX 0 rfl rfl dX5_finds_144 ?_
        refine zr_iconst (pc := 145) hX zci_0 dX5_finds_145 ?_
        obtain ⟨st10, gst10, h⟩ := bnd h
        refine zr_mputZ (pc := 146) hX 37 gst10 rfl rfl rfl rfl q1775 dX5_finds_146 ?_
        refine zr_aload_n (pc := 149) hX 0 rfl rfl dX5_finds_149 ?_
        obtain ⟨t11, gt11, h⟩ := bnd h
        refine zr_callV (pc := 150) (stk' := []) (k' := 0) (n' := 0) hX (fun l s0 D => mX5_looksForFailure l s0 D gt11) (zMw_obj _ _ _) (ci := 4) rfl zwX5_looksForFailure q2136 q2138 qs69 rfl rfl rfl rfl rfl rfl rfl rfl rfl dX5_finds_150 ?_
        refine zr_aload_n (pc := 153) hX 0 rfl rfl dX5_finds_153 ?_
        refine zr_mget (pc := 154) hX 37 rfl rfl q1775 dX5_finds_154 ?_
        obtain ⟨t12, gt12, h⟩ := bnd h
        have hJt12 : ∀ a, t12 = a → VW K (zMw am t11 b) sz 0 0 165 [(0, .ref am)] [.int a] := by
          intro a ea
          subst ea
          refine zr_istore_n (pc := 165) hX rfl rfl (Nat.le_of_ble_eq_true rfl) rfl dX5_finds_165 ?_
          refine VW.sub (lv' := [(0, .ref am), (1, .int t12)]) ?_ [1, 0] rfl
          refine zloop_walk (V := (fun a => VW K (zMw am a.1 b) sz 0 0 166 [(0, .ref am), (1, .int a.2)] [])) (E := fun e => e = o) ?_ n (t11, t12) _ h rfl
          intro a13 o14 h kco14 keo14
          unfold fX5_finds_L166 at h
          refine zr_iload_n (pc := 166) hX 1 rfl rfl dX5_finds_166 ?_
          refine zr_if_eq (pc := 167) hX 215 rfl dX5_finds_167 (fun c167_22 => ?_) (fun c167_22 => ?_)
          · rw [if_pos c167_22] at h
            replace h := congrArg some (keo14 _ (Option.some.inj h).symm)
            obtain rfl := Option.some.inj h
            exact hret _ _ dX5_finds_215
          · rw [if_neg c167_22] at h
            refine zr_aload_n (pc := 170) hX 0 rfl rfl dX5_finds_170 ?_
            obtain ⟨t15, gt15, h⟩ := bnd h
            refine zr_callV (pc := 171) (stk' := [.int t15.2]) (k' := 0) (n' := 0) hX (fun l s0 D => mX5_round l s0 D gt15) (zMw_obj _ _ _) (ci := 4) rfl zwX5_round q2144 q2146 qs71 rfl rfl rfl rfl rfl rfl rfl rfl rfl dX5_finds_171 ?_
            refine zr_istore_n (pc := 174) hX rfl rfl (Nat.le_of_ble_eq_true rfl) rfl dX5_finds_174 ?_
            refine zr_aload_n (pc := 175) hX 1 rfl rfl dX5_finds_175 ?_
            refine zr_dup (pc := 176) hX rfl dX5_finds_176 ?_
            refine zr_mget (pc := 177) hX 38 rfl rfl q1776 dX5_finds_177 ?_
            refine zr_iload_n (pc := 180) hX 0 rfl rfl dX5_finds_180 ?_
            obtain ⟨t16, gt16, h⟩ := bnd h
            have hJt16 : ∀ a, t16 = a → VW K (zMw am t15.1 b) sz 0 0 189 [(0, .ref am), (1, .int t15.2)] [.int a, .int (t15.1.1 38), .ref am] := by
              intro a ea
              subst ea
              refine zr_iadd (pc := 189) hX dX5_finds_189 ?_
              obtain ⟨st17, gst17, h⟩ := bnd h
              refine zr_mput (pc := 190) hX 38 (Option.some.inj gst17) rfl rfl rfl rfl q1776 dX5_finds_190 ?_
              refine zr_aload_n (pc := 193) hX 0 rfl rfl dX5_finds_193 ?_
              obtain ⟨t18, gt18, h⟩ := bnd h
              refine zr_callV (pc := 194) (stk' := []) (k' := 0) (n' := 0) hX (fun l s0 D => mX5_looksForFailure l s0 D gt18) (zMw_obj _ _ _) (ci := 4) rfl zwX5_looksForFailure q2136 q2138 qs69 rfl rfl rfl rfl rfl rfl rfl rfl rfl dX5_finds_194 ?_
              refine zr_iload_n (pc := 197) hX 1 rfl rfl dX5_finds_197 ?_
              refine zr_aload_n (pc := 198) hX 0 rfl rfl dX5_finds_198 ?_
              refine zr_mget (pc := 199) hX 37 rfl rfl q1775 dX5_finds_199 ?_
              obtain ⟨t19, gt19, h⟩ := bnd h
              have hJt19 : ∀ a, t19 = a → VW K (zMw am t18 b) sz 0 0 210 [(0, .ref am)] [.int a, .int t15.2] := by
                intro a ea
                subst ea
                refine zr_iand (pc := 210) hX dX5_finds_210 ?_
                obtain ⟨x20, gx20, h⟩ := bnd h
                refine zr_istore_n (pc := 211) hX (Option.some.inj gx20) rfl (Nat.le_of_ble_eq_true rfl) rfl dX5_finds_211 ?_
                refine zr_goto (pc := 212) hX 166 rfl dX5_finds_212 ?_
                exact (kco14 (t18, x20) (Option.some.inj h).symm).sub [1, 0] rfl
              replace h := gt19
              refine zr_if_ne (pc := 202) hX 209 rfl dX5_finds_202 (fun c202_20 => ?_) (fun c202_20 => ?_)
              · rw [if_neg c202_20] at h
                refine zr_iconst (pc := 209) hX zci_0 dX5_finds_209 ?_
                exact (hJt19 (0 : Int32) (Option.some.inj h).symm).sub [0] rfl
              · rw [if_pos c202_20] at h
                refine zr_iconst (pc := 205) hX zci_1 dX5_finds_205 ?_
                refine zr_goto (pc := 206) hX 210 rfl dX5_finds_206 ?_
                exact (hJt19 (1 : Int32) (Option.some.inj h).symm).sub [0] rfl
            replace h := gt16
            refine zr_if_eq (pc := 181) hX 188 rfl dX5_finds_181 (fun c181_21 => ?_) (fun c181_21 => ?_)
            · rw [if_pos c181_21] at h
              refine zr_iconst (pc := 188) hX zci_0 dX5_finds_188 ?_
              exact (hJt16 (0 : Int32) (Option.some.inj h).symm).sub [1, 0] rfl
            · rw [if_neg c181_21] at h
              refine zr_iconst (pc := 184) hX zci_1 dX5_finds_184 ?_
              refine zr_goto (pc := 185) hX 189 rfl dX5_finds_185 ?_
              exact (hJt16 (1 : Int32) (Option.some.inj h).symm).sub [1, 0] rfl
        replace h := gt12
        refine zr_if_ne (pc := 157) hX 164 rfl dX5_finds_157 (fun c157_23 => ?_) (fun c157_23 => ?_)
        · rw [if_neg c157_23] at h
          refine zr_iconst (pc := 164) hX zci_0 dX5_finds_164 ?_
          exact (hJt12 (0 : Int32) (Option.some.inj h).symm).sub [0] rfl
        · rw [if_pos c157_23] at h
          refine zr_iconst (pc := 160) hX zci_1 dX5_finds_160 ?_
          refine zr_goto (pc := 161) hX 165 rfl dX5_finds_161 ?_
          exact (hJt12 (1 : Int32) (Option.some.inj h).symm).sub [0] rfl
      replace h := gt7
      refine zr_if_lt (pc := 111) hX 134 rfl dX5_finds_111 (fun c111_26 => ?_) (fun c111_26 => ?_)
      · rw [if_pos c111_26] at h
        exact (hJt7 t6 (Option.some.inj h).symm).sub [0] rfl
      · rw [if_neg c111_26] at h
        refine zr_aload_n (pc := 114) hX 0 rfl rfl dX5_finds_114 ?_
        refine zr_mgetA (pc := 115) hX 34 rfl rfl q1772 dX5_finds_115 ?_
        refine zr_aload_n (pc := 118) hX 0 rfl rfl dX5_finds_118 ?_
        refine zr_mget (pc := 119) hX 32 rfl rfl q1770 dX5_finds_119 ?_
        refine zr_dup2 (pc := 122) hX rfl rfl dX5_finds_122 ?_
        obtain ⟨x25, gx25, h⟩ := bnd h
        refine zr_mald (pc := 123) hX 34 rfl rfl rfl gx25 dX5_finds_123 ?_
        refine zr_iconst (pc := 124) hX zci_1 dX5_finds_124 ?_
        refine zr_aload_n (pc := 125) hX 0 rfl rfl dX5_finds_125 ?_
        refine zr_mget (pc := 126) hX 33 rfl rfl q1771 dX5_finds_126 ?_
        refine zr_ishl (pc := 129) hX dX5_finds_129 ?_
        refine zr_iconst (pc := 130) hX zci_1 dX5_finds_130 ?_
        refine zr_isub (pc := 131) hX dX5_finds_131 ?_
        refine zr_iand (pc := 132) hX dX5_finds_132 ?_
        obtain ⟨st26, gst26, h⟩ := bnd h
        refine zr_mast (pc := 133) hX 34 rfl rfl rfl gst26 dX5_finds_133 ?_
        exact (hJt7 st26 (Option.some.inj h).symm).sub [0] rfl
    refine VW.sub (lv' := [(0, .ref am), (1, .int (0 : Int32))]) ?_ [1, 0] rfl
    refine zloop_walk (V := (fun a => VW K (zMw am a.1 b) sz 0 0 54 [(0, .ref am), (1, .int a.2)] [])) (E := fun e => e = t6) ?_ n (t3, (0 : Int32)) _ gt6 rfl
    intro a4 o5 h kco5 keo5
    unfold fX5_finds_L54 at h
    refine zr_iload_n (pc := 54) hX 1 rfl rfl dX5_finds_54 ?_
    refine zr_aload_n (pc := 55) hX 0 rfl rfl dX5_finds_55 ?_
    refine zr_mget (pc := 56) hX 28 rfl rfl q1766 dX5_finds_56 ?_
    refine zr_icmp_ge (pc := 59) hX 107 rfl dX5_finds_59 (fun c59_36 => ?_) (fun c59_36 => ?_)
    · rw [if_pos c59_36] at h
      exact (hJt6 a4.1 (keo5 _ (Option.some.inj h).symm)).sub [0] rfl
    · rw [if_neg c59_36] at h
      refine zr_iconst (pc := 62) hX zci_1 dX5_finds_62 ?_
      refine zr_aload_n (pc := 63) hX 0 rfl rfl dX5_finds_63 ?_
      refine zr_mgetA (pc := 64) hX 30 rfl rfl q1768 dX5_finds_64 ?_
      refine zr_iload_n (pc := 67) hX 1 rfl rfl dX5_finds_67 ?_
      obtain ⟨x28, gx28, h⟩ := bnd h
      refine zr_mald (pc := 68) hX 30 rfl rfl rfl gx28 dX5_finds_68 ?_
      refine zr_ishl (pc := 69) hX dX5_finds_69 ?_
      obtain ⟨x29, gx29, h⟩ := bnd h
      refine zr_istore_n (pc := 70) hX (Option.some.inj gx29) rfl (Nat.le_of_ble_eq_true rfl) rfl dX5_finds_70 ?_
      refine zr_aload_n (pc := 71) hX 1 rfl rfl dX5_finds_71 ?_
      refine zr_mgetA (pc := 72) hX 34 rfl rfl q1772 dX5_finds_72 ?_
      refine zr_aload_n (pc := 75) hX 1 rfl rfl dX5_finds_75 ?_
      refine zr_mgetA (pc := 76) hX 29 rfl rfl q1767 dX5_finds_76 ?_
      refine zr_iload_n (pc := 79) hX 2 rfl rfl dX5_finds_79 ?_
      obtain ⟨x30, gx30, h⟩ := bnd h
      refine zr_mald (pc := 80) hX 29 rfl rfl rfl gx30 dX5_finds_80 ?_
      refine zr_dup2 (pc := 81) hX rfl rfl dX5_finds_81 ?_
      obtain ⟨x31, gx31, h⟩ := bnd h
      refine zr_mald (pc := 82) hX 34 rfl rfl rfl gx31 dX5_finds_82 ?_
      refine zr_aload_n (pc := 83) hX 1 rfl rfl dX5_finds_83 ?_
      refine zr_mgetA (pc := 84) hX 31 rfl rfl q1769 dX5_finds_84 ?_
      refine zr_iload_n (pc := 87) hX 2 rfl rfl dX5_finds_87 ?_
      obtain ⟨x32, gx32, h⟩ := bnd h
      refine zr_maldZ (pc := 88) hX 31 rfl rfl rfl gx32 dX5_finds_88 ?_
      obtain ⟨t33, gt33, h⟩ := bnd h
      have hJt33 : ∀ a, t33 = a → VW K (zMw am a4.1 b) sz 0 0 99 [(0, .ref am), (1, .int a4.2)] [.int a, .int x31, .int x30, .ref (am + zMo 34)] := by
        intro a ea
        subst ea
        refine zr_iand (pc := 99) hX dX5_finds_99 ?_
        obtain ⟨st34, gst34, h⟩ := bnd h
        refine zr_mast (pc := 100) hX 34 rfl rfl rfl gst34 dX5_finds_100 ?_
        obtain ⟨x35, gx35, h⟩ := bnd h
        refine zr_iinc (pc := 101) hX 1 rfl zci_1 (Option.some.inj gx35) (Nat.le_of_ble_eq_true rfl) rfl dX5_finds_101 ?_
        refine zr_goto (pc := 104) hX 54 rfl dX5_finds_104 ?_
        exact (kco5 (st34, x35) (Option.some.inj h).symm).sub [1, 0] rfl
      replace h := gt33
      refine zr_if_eq (pc := 89) hX 96 rfl dX5_finds_89 (fun c89_35 => ?_) (fun c89_35 => ?_)
      · rw [if_pos c89_35] at h
        refine zr_iload_n (pc := 96) hX 0 rfl rfl dX5_finds_96 ?_
        refine zr_iconst (pc := 97) hX zci_m1 dX5_finds_97 ?_
        refine zr_ixor (pc := 98) hX dX5_finds_98 ?_
        exact (hJt33 (x29 ^^^ (-1 : Int32)) (Option.some.inj h).symm).sub [1, 2] rfl
      · rw [if_neg c89_35] at h
        refine zr_iload_n (pc := 92) hX 0 rfl rfl dX5_finds_92 ?_
        refine zr_goto (pc := 93) hX 99 rfl dX5_finds_93 ?_
        exact (hJt33 x29 (Option.some.inj h).symm).sub [1, 2] rfl
  refine VW.sub (lv' := [(0, .ref am), (1, .int (0 : Int32))]) ?_ [1, 0] rfl
  refine zloop_walk (V := (fun a => VW K (zMw am a.1 b) sz 0 0 2 [(0, .ref am), (1, .int a.2)] [])) (E := fun e => e = t3) ?_ n (st, (0 : Int32)) _ gt3 rfl
  intro a1 o2 h kco2 keo2
  unfold fX5_finds_L2 at h
  refine zr_iload_n (pc := 2) hX 1 rfl rfl dX5_finds_2 ?_
  refine zr_aload_n (pc := 3) hX 0 rfl rfl dX5_finds_3 ?_
  refine zr_mget (pc := 4) hX 0 rfl rfl q1738 dX5_finds_4 ?_
  refine zr_icmp_ge (pc := 7) hX 52 rfl dX5_finds_7 (fun c7_44 => ?_) (fun c7_44 => ?_)
  · rw [if_pos c7_44] at h
    exact (hJt3 a1.1 (keo2 _ (Option.some.inj h).symm)).sub [0] rfl
  · rw [if_neg c7_44] at h
    refine zr_aload_n (pc := 10) hX 0 rfl rfl dX5_finds_10 ?_
    refine zr_mgetA (pc := 11) hX 34 rfl rfl q1772 dX5_finds_11 ?_
    refine zr_iload_n (pc := 14) hX 1 rfl rfl dX5_finds_14 ?_
    refine zr_aload_n (pc := 15) hX 0 rfl rfl dX5_finds_15 ?_
    refine zr_mgetA (pc := 16) hX 2 rfl rfl q1740 dX5_finds_16 ?_
    refine zr_iload_n (pc := 19) hX 1 rfl rfl dX5_finds_19 ?_
    obtain ⟨x38, gx38, h⟩ := bnd h
    refine zr_mald (pc := 20) hX 2 rfl rfl rfl gx38 dX5_finds_20 ?_
    obtain ⟨st39, gst39, h⟩ := bnd h
    refine zr_mast (pc := 21) hX 34 rfl rfl rfl gst39 dX5_finds_21 ?_
    refine zr_aload_n (pc := 22) hX 0 rfl rfl dX5_finds_22 ?_
    refine zr_mgetA (pc := 23) hX 35 rfl rfl q1773 dX5_finds_23 ?_
    refine zr_iload_n (pc := 26) hX 1 rfl rfl dX5_finds_26 ?_
    refine zr_aload_n (pc := 27) hX 0 rfl rfl dX5_finds_27 ?_
    refine zr_mgetA (pc := 28) hX 3 rfl rfl q1741 dX5_finds_28 ?_
    refine zr_iload_n (pc := 31) hX 1 rfl rfl dX5_finds_31 ?_
    obtain ⟨x40, gx40, h⟩ := bnd h
    refine zr_mald (pc := 32) hX 3 rfl rfl rfl gx40 dX5_finds_32 ?_
    obtain ⟨st41, gst41, h⟩ := bnd h
    refine zr_mast (pc := 33) hX 35 rfl rfl rfl gst41 dX5_finds_33 ?_
    refine zr_aload_n (pc := 34) hX 0 rfl rfl dX5_finds_34 ?_
    refine zr_mgetA (pc := 35) hX 36 rfl rfl q1774 dX5_finds_35 ?_
    refine zr_iload_n (pc := 38) hX 1 rfl rfl dX5_finds_38 ?_
    refine zr_aload_n (pc := 39) hX 0 rfl rfl dX5_finds_39 ?_
    refine zr_mgetA (pc := 40) hX 4 rfl rfl q1742 dX5_finds_40 ?_
    refine zr_iload_n (pc := 43) hX 1 rfl rfl dX5_finds_43 ?_
    obtain ⟨x42, gx42, h⟩ := bnd h
    refine zr_mald (pc := 44) hX 4 rfl rfl rfl gx42 dX5_finds_44 ?_
    obtain ⟨st43, gst43, h⟩ := bnd h
    refine zr_mast (pc := 45) hX 36 rfl rfl rfl gst43 dX5_finds_45 ?_
    obtain ⟨x44, gx44, h⟩ := bnd h
    refine zr_iinc (pc := 46) hX 1 rfl zci_1 (Option.some.inj gx44) (Nat.le_of_ble_eq_true rfl) rfl dX5_finds_46 ?_
    refine zr_goto (pc := 49) hX 2 rfl dX5_finds_49 ?_
    exact (kco2 (st43, x44) (Option.some.inj h).symm).sub [1, 0] rfl
set_option maxHeartbeats 4000000 in
theorem mX5_now (l : Launch) (s0 : State) (D : zD) {n : Nat} {am : Nat} {st : zMS} {b : zH} {sz : Nat} {o : zMS} (h : fX5_now n st = some o) : zM l s0 D yX5_now cX5_now 1 none 9 187 0 0 [.ref am] (zMw am st b) sz (zMw am o b) sz none := by
  refine zenter (own := RX5) zplX5 rfl (Nat.le_of_ble_eq_true rfl) rfl (fun K hX hnm hret => ?_)
  unfold fX5_now at h
  show VW K (zMw am st b) sz 0 0 0 [(0, .ref am)] []
  refine zr_aload_n (pc := 0) hX 0 rfl rfl dX5_now_0 ?_
  refine zr_iconst (pc := 1) hX zci_m1 dX5_now_1 ?_
  obtain ⟨st1, gst1, h⟩ := bnd h
  refine zr_mput (pc := 2) hX 32 (Option.some.inj gst1) rfl rfl rfl rfl q1770 dX5_now_2 ?_
  refine zr_aload_n (pc := 5) hX 0 rfl rfl dX5_now_5 ?_
  refine zr_sipush (pc := 6) hX zcs_4095 dX5_now_6 ?_
  obtain ⟨t2, gt2, h⟩ := bnd h
  refine zr_callV (pc := 9) (stk' := []) (k' := 0) (n' := 0) hX (fun l s0 D => mX5_takesDecisions l s0 D gt2) (zMw_obj _ _ _) (ci := 4) rfl zwX5_takesDecisions q2124 q2126 qs66 rfl rfl rfl rfl rfl rfl rfl rfl rfl dX5_now_9 ?_
  refine zr_aload_n (pc := 12) hX 0 rfl rfl dX5_now_12 ?_
  obtain ⟨t3, gt3, h⟩ := bnd h
  refine zr_callV (pc := 13) (stk' := []) (k' := 0) (n' := 0) hX (fun l s0 D => mX5_finds l s0 D gt3) (zMw_obj _ _ _) (ci := 4) rfl zwX5_finds q2132 q2134 qs68 rfl rfl rfl rfl rfl rfl rfl rfl rfl dX5_now_13 ?_
  obtain rfl := Option.some.inj h
  exact hret _ _ dX5_now_16
set_option maxHeartbeats 4000000 in
theorem mX5_isFailed (l : Launch) (s0 : State) (D : zD) {n : Nat} {am : Nat} {st : zMS} {b : zH} {sz : Nat} {o : zMS × Int32} (h : fX5_isFailed n st = some o) : zM l s0 D yX5_isFailed cX5_isFailed 1 (some .boolean) 10 207 0 0 [.ref am] (zMw am st b) sz (zMw am o.1 b) sz (some (.int o.2)) := by
  refine zenter (own := RX5) zplX5 rfl (Nat.le_of_ble_eq_true rfl) trivial (fun K hX hnm hret => ?_)
  unfold fX5_isFailed at h
  show VW K (zMw am st b) sz 0 0 0 [(0, .ref am)] []
  refine zr_aload_n (pc := 0) hX 0 rfl rfl dX5_isFailed_0 ?_
  refine zr_iconst (pc := 1) hX zci_0 dX5_isFailed_1 ?_
  obtain ⟨st1, gst1, h⟩ := bnd h
  refine zr_mput (pc := 2) hX 68 (Option.some.inj gst1) rfl rfl rfl rfl q1806 dX5_isFailed_2 ?_
  refine zr_aload_n (pc := 5) hX 0 rfl rfl dX5_isFailed_5 ?_
  obtain ⟨t2, gt2, h⟩ := bnd h
  refine zr_callV (pc := 6) (stk' := []) (k' := 0) (n' := 0) hX (fun l s0 D => mX5_now l s0 D gt2) (zMw_obj _ _ _) (ci := 4) rfl zwX5_now q2120 q2122 qs65 rfl rfl rfl rfl rfl rfl rfl rfl rfl dX5_isFailed_6 ?_
  refine zr_aload_n (pc := 9) hX 0 rfl rfl dX5_isFailed_9 ?_
  refine zr_mget (pc := 10) hX 37 rfl rfl q1775 dX5_isFailed_10 ?_
  obtain ⟨x3, gx3, h⟩ := bnd h
  rw [(zq_spec gx3).1] at h
  obtain rfl := Option.some.inj h
  exact hret _ _ dX5_isFailed_13 (Or.inr ⟨rfl, (zq_spec gx3).2⟩)
set_option maxHeartbeats 4000000 in
theorem mX5_asks (l : Launch) (s0 : State) (D : zD) {n : Nat} {am : Nat} {st : zMS} {b : zH} {sz : Nat} {p0 : Int32} {o : zMS × Int32} (h : fX5_asks n st p0 = some o) : zM l s0 D yX5_asks cX5_asks 2 (some .boolean) 10 207 0 0 [.ref am, .int p0] (zMw am st b) sz (zMw am o.1 b) sz (some (.int o.2)) := by
  refine zenter (own := RX5) zplX5 rfl (Nat.le_of_ble_eq_true rfl) trivial (fun K hX hnm hret => ?_)
  unfold fX5_asks at h
  show VW K (zMw am st b) sz 0 0 0 [(0, .ref am), (1, .int p0)] []
  refine zr_aload_n (pc := 0) hX 0 rfl rfl dX5_asks_0 ?_
  refine zr_aload_n (pc := 1) hX 0 rfl rfl dX5_asks_1 ?_
  refine zr_iload_n (pc := 2) hX 1 rfl rfl dX5_asks_2 ?_
  obtain ⟨t1, gt1, h⟩ := bnd h
  refine zr_callV (pc := 3) (stk' := [.int t1, .ref am]) (k' := 0) (n' := 0) hX (fun l s0 D => mX5_isVariable l s0 D gt1) (zMw_obj _ _ _) (ci := 4) rfl zwX5_isVariable q1982 q1984 qs54 rfl rfl rfl rfl rfl rfl rfl rfl rfl dX5_asks_3 ?_
  obtain ⟨t2, gt2, h⟩ := bnd h
  have hJt2 : ∀ a, t2 = a → VW K (zMw am st b) sz 0 0 14 [(0, .ref am)] [.int a, .ref am] := by
    intro a ea
    subst ea
    obtain ⟨st3, gst3, h⟩ := bnd h
    refine zr_mput (pc := 14) hX 68 (Option.some.inj gst3) rfl rfl rfl rfl q1806 dX5_asks_14 ?_
    refine zr_aload_n (pc := 17) hX 0 rfl rfl dX5_asks_17 ?_
    refine zr_mget (pc := 18) hX 68 rfl rfl q1806 dX5_asks_18 ?_
    obtain ⟨t4, gt4, h⟩ := bnd h
    have hJt4 : ∀ a, t4 = a → VW K (zMw am a b) sz 0 0 28 [(0, .ref am)] [] := by
      intro a ea
      subst ea
      refine zr_aload_n (pc := 28) hX 0 rfl rfl dX5_asks_28 ?_
      refine zr_mget (pc := 29) hX 68 rfl rfl q1806 dX5_asks_29 ?_
      refine zr_if_ne (pc := 32) hX 39 rfl dX5_asks_32 (fun c32_4 => ?_) (fun c32_4 => ?_)
      · rw [if_neg c32_4] at h
        refine zr_iconst (pc := 39) hX zci_0 dX5_asks_39 ?_
        obtain rfl := Option.some.inj h
        exact hret _ _ dX5_asks_40 (Or.inr ⟨rfl, Or.inl rfl⟩)
      · rw [if_pos c32_4] at h
        refine zr_iconst (pc := 35) hX zci_1 dX5_asks_35 ?_
        refine zr_goto (pc := 36) hX 40 rfl dX5_asks_36 ?_
        obtain rfl := Option.some.inj h
        exact hret _ _ dX5_asks_40 (Or.inr ⟨rfl, Or.inr rfl⟩)
    replace h := gt4
    refine zr_if_ne (pc := 21) hX 28 rfl dX5_asks_21 (fun c21_6 => ?_) (fun c21_6 => ?_)
    · rw [if_neg c21_6] at h
      exact (hJt4 st3 (Option.some.inj h).symm).sub [0] rfl
    · rw [if_pos c21_6] at h
      refine zr_aload_n (pc := 24) hX 0 rfl rfl dX5_asks_24 ?_
      obtain ⟨t6, gt6, h⟩ := bnd h
      refine zr_callV (pc := 25) (stk' := []) (k' := 0) (n' := 0) hX (fun l s0 D => mX5_now l s0 D gt6) (zMw_obj _ _ _) (ci := 4) rfl zwX5_now q2120 q2122 qs65 rfl rfl rfl rfl rfl rfl rfl rfl rfl dX5_asks_25 ?_
      exact (hJt4 t6 (Option.some.inj h).symm).sub [0] rfl
  replace h := gt2
  refine zr_if_eq (pc := 6) hX 13 rfl dX5_asks_6 (fun c6_7 => ?_) (fun c6_7 => ?_)
  · rw [if_pos c6_7] at h
    refine zr_iconst (pc := 13) hX zci_1 dX5_asks_13 ?_
    exact (hJt2 (1 : Int32) (Option.some.inj h).symm).sub [0] rfl
  · rw [if_neg c6_7] at h
    refine zr_iconst (pc := 9) hX zci_0 dX5_asks_9 ?_
    refine zr_goto (pc := 10) hX 14 rfl dX5_asks_10 ?_
    exact (hJt2 (0 : Int32) (Option.some.inj h).symm).sub [0] rfl
set_option maxHeartbeats 4000000 in
theorem mX5_domain (l : Launch) (s0 : State) (D : zD) {n : Nat} {am : Nat} {st : zMS} {b : zH} {sz : Nat} {p0 : Int32} {o : zMS × Int32} (h : fX5_domain n st p0 = some o) : zM l s0 D yX5_domain cX5_domain 2 (some .int) 11 228 0 0 [.ref am, .int p0] (zMw am st b) sz (zMw am o.1 b) sz (some (.int o.2)) := by
  refine zenter (own := RX5) zplX5 rfl (Nat.le_of_ble_eq_true rfl) trivial (fun K hX hnm hret => ?_)
  unfold fX5_domain at h
  show VW K (zMw am st b) sz 0 0 0 [(0, .ref am), (1, .int p0)] []
  refine zr_aload_n (pc := 0) hX 0 rfl rfl dX5_domain_0 ?_
  refine zr_iload_n (pc := 1) hX 1 rfl rfl dX5_domain_1 ?_
  obtain ⟨t1, gt1, h⟩ := bnd h
  refine zr_callV (pc := 2) (stk' := [.int t1.2]) (k' := 0) (n' := 0) hX (fun l s0 D => mX5_asks l s0 D gt1) (zMw_obj _ _ _) (ci := 4) rfl zwX5_asks q2280 q2282 qs95 rfl rfl rfl rfl rfl rfl rfl rfl rfl dX5_domain_2 ?_
  refine zr_if_ne (pc := 5) hX 10 rfl dX5_domain_5 (fun c5_8 => ?_) (fun c5_8 => ?_)
  · rw [if_neg c5_8] at h
    refine zr_aload_n (pc := 10) hX 0 rfl rfl dX5_domain_10 ?_
    refine zr_mgetA (pc := 11) hX 1 rfl rfl q1739 dX5_domain_11 ?_
    refine zr_iload_n (pc := 14) hX 1 rfl rfl dX5_domain_14 ?_
    obtain ⟨x2, gx2, h⟩ := bnd h
    refine zr_mald (pc := 15) hX 1 rfl rfl rfl gx2 dX5_domain_15 ?_
    refine zr_iconst (pc := 16) hX zci_3 dX5_domain_16 ?_
    refine zr_icmp_ne (pc := 17) hX 50 rfl dX5_domain_17 (fun c17_7 => ?_) (fun c17_7 => ?_)
    · rw [if_neg c17_7] at h
      refine zr_aload_n (pc := 50) hX 0 rfl rfl dX5_domain_50 ?_
      refine zr_mgetA (pc := 51) hX 34 rfl rfl q1772 dX5_domain_51 ?_
      refine zr_iload_n (pc := 54) hX 1 rfl rfl dX5_domain_54 ?_
      obtain ⟨x3, gx3, h⟩ := bnd h
      refine zr_mald (pc := 55) hX 34 rfl rfl rfl gx3 dX5_domain_55 ?_
      obtain rfl := Option.some.inj h
      exact hret _ _ dX5_domain_56 (Or.inl rfl)
    · rw [if_pos c17_7] at h
      refine zr_aload_n (pc := 20) hX 0 rfl rfl dX5_domain_20 ?_
      refine zr_iload_n (pc := 21) hX 1 rfl rfl dX5_domain_21 ?_
      obtain ⟨t4, gt4, h⟩ := bnd h
      refine zr_callV (pc := 22) (stk' := [.int t4]) (k' := 0) (n' := 0) hX (fun l s0 D => mX5_isEmpty l s0 D gt4) (zMw_obj _ _ _) (ci := 4) rfl zwX5_isEmpty q2140 q2142 qs70 rfl rfl rfl rfl rfl rfl rfl rfl rfl dX5_domain_22 ?_
      refine zr_if_eq (pc := 25) hX 32 rfl dX5_domain_25 (fun c25_6 => ?_) (fun c25_6 => ?_)
      · rw [if_pos c25_6] at h
        refine zr_aload_n (pc := 32) hX 0 rfl rfl dX5_domain_32 ?_
        refine zr_mgetA (pc := 33) hX 36 rfl rfl q1774 dX5_domain_33 ?_
        refine zr_iload_n (pc := 36) hX 1 rfl rfl dX5_domain_36 ?_
        obtain ⟨x5, gx5, h⟩ := bnd h
        refine zr_mald (pc := 37) hX 36 rfl rfl rfl gx5 dX5_domain_37 ?_
        refine zr_aload_n (pc := 38) hX 0 rfl rfl dX5_domain_38 ?_
        refine zr_mgetA (pc := 39) hX 35 rfl rfl q1773 dX5_domain_39 ?_
        refine zr_iload_n (pc := 42) hX 1 rfl rfl dX5_domain_42 ?_
        obtain ⟨x6, gx6, h⟩ := bnd h
        refine zr_mald (pc := 43) hX 35 rfl rfl rfl gx6 dX5_domain_43 ?_
        refine zr_isub (pc := 44) hX dX5_domain_44 ?_
        refine zr_iconst (pc := 45) hX zci_1 dX5_domain_45 ?_
        refine zr_iadd (pc := 46) hX dX5_domain_46 ?_
        refine zr_goto (pc := 47) hX 56 rfl dX5_domain_47 ?_
        obtain rfl := Option.some.inj h
        exact hret _ _ dX5_domain_56 (Or.inl rfl)
      · rw [if_neg c25_6] at h
        refine zr_iconst (pc := 28) hX zci_0 dX5_domain_28 ?_
        refine zr_goto (pc := 29) hX 56 rfl dX5_domain_29 ?_
        obtain rfl := Option.some.inj h
        exact hret _ _ dX5_domain_56 (Or.inl rfl)
  · rw [if_pos c5_8] at h
    refine zr_iconst (pc := 8) hX zci_0 dX5_domain_8 ?_
    obtain rfl := Option.some.inj h
    exact hret _ _ dX5_domain_9 (Or.inl rfl)
set_option maxHeartbeats 4000000 in
theorem mX5_bound (l : Launch) (s0 : State) (D : zD) {n : Nat} {am : Nat} {st : zMS} {b : zH} {sz : Nat} {p0 : Int32} {p1 : Int32} {o : zMS × Int32} (h : fX5_bound n st p0 p1 = some o) : zM l s0 D yX5_bound cX5_bound 3 (some .int) 11 228 0 0 [.ref am, .int p0, .int p1] (zMw am st b) sz (zMw am o.1 b) sz (some (.int o.2)) := by
  refine zenter (own := RX5) zplX5 rfl (Nat.le_of_ble_eq_true rfl) trivial (fun K hX hnm hret => ?_)
  unfold fX5_bound at h
  show VW K (zMw am st b) sz 0 0 0 [(0, .ref am), (1, .int p0), (2, .int p1)] []
  refine zr_aload_n (pc := 0) hX 0 rfl rfl dX5_bound_0 ?_
  refine zr_iload_n (pc := 1) hX 1 rfl rfl dX5_bound_1 ?_
  obtain ⟨t1, gt1, h⟩ := bnd h
  refine zr_callV (pc := 2) (stk' := [.int t1.2]) (k' := 0) (n' := 0) hX (fun l s0 D => mX5_asks l s0 D gt1) (zMw_obj _ _ _) (ci := 4) rfl zwX5_asks q2280 q2282 qs95 rfl rfl rfl rfl rfl rfl rfl rfl rfl dX5_bound_2 ?_
  refine zr_if_ne (pc := 5) hX 10 rfl dX5_bound_5 (fun c5_4 => ?_) (fun c5_4 => ?_)
  · rw [if_neg c5_4] at h
    refine zr_aload_n (pc := 10) hX 0 rfl rfl dX5_bound_10 ?_
    refine zr_iload_n (pc := 11) hX 1 rfl rfl dX5_bound_11 ?_
    obtain ⟨t2, gt2, h⟩ := bnd h
    refine zr_callV (pc := 12) (stk' := [.int t2]) (k' := 0) (n' := 0) hX (fun l s0 D => mX5_isEmpty l s0 D gt2) (zMw_obj _ _ _) (ci := 4) rfl zwX5_isEmpty q2140 q2142 qs70 rfl rfl rfl rfl rfl rfl rfl rfl rfl dX5_bound_12 ?_
    refine zr_if_eq (pc := 15) hX 24 rfl dX5_bound_15 (fun c15_3 => ?_) (fun c15_3 => ?_)
    · rw [if_pos c15_3] at h
      refine zr_aload_n (pc := 24) hX 0 rfl rfl dX5_bound_24 ?_
      refine zr_iload_n (pc := 25) hX 1 rfl rfl dX5_bound_25 ?_
      refine zr_iload_n (pc := 26) hX 2 rfl rfl dX5_bound_26 ?_
      obtain ⟨t3, gt3, h⟩ := bnd h
      refine zr_callV (pc := 27) (stk' := [.int t3]) (k' := 0) (n' := 0) hX (fun l s0 D => mX5_end l s0 D gt3) (zMw_obj _ _ _) (ci := 4) rfl zwX5_end q2171 q2173 qs77 rfl rfl rfl rfl rfl rfl rfl rfl rfl dX5_bound_27 ?_
      obtain rfl := Option.some.inj h
      exact hret _ _ dX5_bound_30 (Or.inl rfl)
    · rw [if_neg c15_3] at h
      refine zr_sipush (pc := 18) hX zcs_m1000 dX5_bound_18 ?_
      refine zr_goto (pc := 21) hX 30 rfl dX5_bound_21 ?_
      obtain rfl := Option.some.inj h
      exact hret _ _ dX5_bound_30 (Or.inl rfl)
  · rw [if_pos c5_4] at h
    refine zr_iconst (pc := 8) hX zci_0 dX5_bound_8 ?_
    obtain rfl := Option.some.inj h
    exact hret _ _ dX5_bound_9 (Or.inl rfl)
set_option maxHeartbeats 4000000 in
theorem mX5_rounds (l : Launch) (s0 : State) (D : zD) {n : Nat} {am : Nat} {st : zMS} {b : zH} {sz : Nat} {o : zMS × Int32} (h : fX5_rounds n st = some o) : zM l s0 D yX5_rounds cX5_rounds 1 (some .int) 10 207 0 0 [.ref am] (zMw am st b) sz (zMw am o.1 b) sz (some (.int o.2)) := by
  refine zenter (own := RX5) zplX5 rfl (Nat.le_of_ble_eq_true rfl) trivial (fun K hX hnm hret => ?_)
  unfold fX5_rounds at h
  show VW K (zMw am st b) sz 0 0 0 [(0, .ref am)] []
  refine zr_aload_n (pc := 0) hX 0 rfl rfl dX5_rounds_0 ?_
  refine zr_iconst (pc := 1) hX zci_0 dX5_rounds_1 ?_
  obtain ⟨st1, gst1, h⟩ := bnd h
  refine zr_mput (pc := 2) hX 68 (Option.some.inj gst1) rfl rfl rfl rfl q1806 dX5_rounds_2 ?_
  refine zr_aload_n (pc := 5) hX 0 rfl rfl dX5_rounds_5 ?_
  obtain ⟨t2, gt2, h⟩ := bnd h
  refine zr_callV (pc := 6) (stk' := []) (k' := 0) (n' := 0) hX (fun l s0 D => mX5_now l s0 D gt2) (zMw_obj _ _ _) (ci := 4) rfl zwX5_now q2120 q2122 qs65 rfl rfl rfl rfl rfl rfl rfl rfl rfl dX5_rounds_6 ?_
  refine zr_aload_n (pc := 9) hX 0 rfl rfl dX5_rounds_9 ?_
  refine zr_mget (pc := 10) hX 38 rfl rfl q1776 dX5_rounds_10 ?_
  obtain rfl := Option.some.inj h
  exact hret _ _ dX5_rounds_13 (Or.inl rfl)
set_option maxHeartbeats 4000000 in
theorem mX5_removals (l : Launch) (s0 : State) (D : zD) {n : Nat} {am : Nat} {st : zMS} {b : zH} {sz : Nat} {o : zMS × Int32} (h : fX5_removals n st = some o) : zM l s0 D yX5_removals cX5_removals 1 (some .int) 10 207 0 0 [.ref am] (zMw am st b) sz (zMw am o.1 b) sz (some (.int o.2)) := by
  refine zenter (own := RX5) zplX5 rfl (Nat.le_of_ble_eq_true rfl) trivial (fun K hX hnm hret => ?_)
  unfold fX5_removals at h
  show VW K (zMw am st b) sz 0 0 0 [(0, .ref am)] []
  refine zr_aload_n (pc := 0) hX 0 rfl rfl dX5_removals_0 ?_
  refine zr_iconst (pc := 1) hX zci_0 dX5_removals_1 ?_
  obtain ⟨st1, gst1, h⟩ := bnd h
  refine zr_mput (pc := 2) hX 68 (Option.some.inj gst1) rfl rfl rfl rfl q1806 dX5_removals_2 ?_
  refine zr_aload_n (pc := 5) hX 0 rfl rfl dX5_removals_5 ?_
  obtain ⟨t2, gt2, h⟩ := bnd h
  refine zr_callV (pc := 6) (stk' := []) (k' := 0) (n' := 0) hX (fun l s0 D => mX5_now l s0 D gt2) (zMw_obj _ _ _) (ci := 4) rfl zwX5_now q2120 q2122 qs65 rfl rfl rfl rfl rfl rfl rfl rfl rfl dX5_removals_6 ?_
  refine zr_aload_n (pc := 9) hX 0 rfl rfl dX5_removals_9 ?_
  refine zr_mget (pc := 10) hX 39 rfl rfl q1777 dX5_removals_10 ?_
  obtain rfl := Option.some.inj h
  exact hret _ _ dX5_removals_13 (Or.inl rfl)
set_option maxHeartbeats 4000000 in
theorem mX5_removal (l : Launch) (s0 : State) (D : zD) {n : Nat} {am : Nat} {st : zMS} {b : zH} {sz : Nat} {p0 : Int32} {p1 : Int32} {o : zMS × Int32} (h : fX5_removal n st p0 p1 = some o) : zM l s0 D yX5_removal cX5_removal 3 (some .int) 10 207 0 0 [.ref am, .int p0, .int p1] (zMw am st b) sz (zMw am o.1 b) sz (some (.int o.2)) := by
  refine zenter (own := RX5) zplX5 rfl (Nat.le_of_ble_eq_true rfl) trivial (fun K hX hnm hret => ?_)
  unfold fX5_removal at h
  show VW K (zMw am st b) sz 0 0 0 [(0, .ref am), (1, .int p0), (2, .int p1)] []
  refine zr_aload_n (pc := 0) hX 0 rfl rfl dX5_removal_0 ?_
  obtain ⟨t1, gt1, h⟩ := bnd h
  refine zr_callV (pc := 1) (stk' := []) (k' := 0) (n' := 0) hX (fun l s0 D => mX5_now l s0 D gt1) (zMw_obj _ _ _) (ci := 4) rfl zwX5_now q2120 q2122 qs65 rfl rfl rfl rfl rfl rfl rfl rfl rfl dX5_removal_1 ?_
  refine zr_aload_n (pc := 4) hX 0 rfl rfl dX5_removal_4 ?_
  refine zr_iload_n (pc := 5) hX 1 rfl rfl dX5_removal_5 ?_
  refine zr_iconst (pc := 6) hX zci_0 dX5_removal_6 ?_
  refine zr_aload_n (pc := 7) hX 0 rfl rfl dX5_removal_7 ?_
  refine zr_mget (pc := 8) hX 39 rfl rfl q1777 dX5_removal_8 ?_
  refine zr_iconst (pc := 11) hX zci_1 dX5_removal_11 ?_
  refine zr_isub (pc := 12) hX dX5_removal_12 ?_
  obtain ⟨t2, gt2, h⟩ := bnd h
  refine zr_callS (pc := 13) (stk' := [.int t2, .ref am]) (k' := 0) (n' := 0) hX (fun l s0 D => mX5_isIn l s0 D gt2) zwX5_isIn q1963 q1964 rfl rfl rfl rfl rfl rfl rfl rfl dX5_removal_13 ?_
  obtain ⟨t3, gt3, h⟩ := bnd h
  have hJt3 : ∀ a, t3 = a → VW K (zMw am t1 b) sz 0 0 37 [(0, .ref am), (1, .int p0), (2, .int p1)] [.int a, .ref am] := by
    intro a ea
    subst ea
    obtain ⟨st4, gst4, h⟩ := bnd h
    refine zr_mput (pc := 37) hX 68 (Option.some.inj gst4) rfl rfl rfl rfl q1806 dX5_removal_37 ?_
    refine zr_aload_n (pc := 40) hX 0 rfl rfl dX5_removal_40 ?_
    refine zr_mget (pc := 41) hX 68 rfl rfl q1806 dX5_removal_41 ?_
    refine zr_if_le (pc := 44) hX 51 rfl dX5_removal_44 (fun c44_5 => ?_) (fun c44_5 => ?_)
    · rw [if_pos c44_5] at h
      refine zr_aload_n (pc := 51) hX 0 rfl rfl dX5_removal_51 ?_
      refine zr_mgetA (pc := 52) hX 40 rfl rfl q1778 dX5_removal_52 ?_
      refine zr_iconst (pc := 55) hX zci_4 dX5_removal_55 ?_
      refine zr_iload_n (pc := 56) hX 1 rfl rfl dX5_removal_56 ?_
      refine zr_imul (pc := 57) hX dX5_removal_57 ?_
      refine zr_iload_n (pc := 58) hX 2 rfl rfl dX5_removal_58 ?_
      refine zr_iadd (pc := 59) hX dX5_removal_59 ?_
      obtain ⟨x5, gx5, h⟩ := bnd h
      refine zr_mald (pc := 60) hX 40 rfl rfl rfl gx5 dX5_removal_60 ?_
      obtain rfl := Option.some.inj h
      exact hret _ _ dX5_removal_61 (Or.inl rfl)
    · rw [if_neg c44_5] at h
      refine zr_iconst (pc := 47) hX zci_0 dX5_removal_47 ?_
      refine zr_goto (pc := 48) hX 61 rfl dX5_removal_48 ?_
      obtain rfl := Option.some.inj h
      exact hret _ _ dX5_removal_61 (Or.inl rfl)
  replace h := gt3
  refine zr_if_ne (pc := 16) hX 23 rfl dX5_removal_16 (fun c16_8 => ?_) (fun c16_8 => ?_)
  · rw [if_neg c16_8] at h
    refine zr_iload_n (pc := 23) hX 2 rfl rfl dX5_removal_23 ?_
    refine zr_iconst (pc := 24) hX zci_0 dX5_removal_24 ?_
    refine zr_iconst (pc := 25) hX zci_3 dX5_removal_25 ?_
    obtain ⟨t7, gt7, h⟩ := bnd h
    refine zr_callS (pc := 26) (stk' := [.int t7, .ref am]) (k' := 0) (n' := 0) hX (fun l s0 D => mX5_isIn l s0 D gt7) zwX5_isIn q1963 q1964 rfl rfl rfl rfl rfl rfl rfl rfl dX5_removal_26 ?_
    refine zr_if_eq (pc := 29) hX 36 rfl dX5_removal_29 (fun c29_7 => ?_) (fun c29_7 => ?_)
    · rw [if_pos c29_7] at h
      refine zr_iconst (pc := 36) hX zci_2 dX5_removal_36 ?_
      exact (hJt3 (2 : Int32) (Option.some.inj h).symm).sub [0, 1, 2] rfl
    · rw [if_neg c29_7] at h
      refine zr_iconst (pc := 32) hX zci_0 dX5_removal_32 ?_
      refine zr_goto (pc := 33) hX 37 rfl dX5_removal_33 ?_
      exact (hJt3 (0 : Int32) (Option.some.inj h).symm).sub [0, 1, 2] rfl
  · rw [if_pos c16_8] at h
    refine zr_iconst (pc := 19) hX zci_1 dX5_removal_19 ?_
    refine zr_goto (pc := 20) hX 37 rfl dX5_removal_20 ?_
    exact (hJt3 (1 : Int32) (Option.some.inj h).symm).sub [0, 1, 2] rfl
set_option maxHeartbeats 4000000 in
theorem mX5_reasonOf (l : Launch) (s0 : State) (D : zD) {n : Nat} {am : Nat} {st : zMS} {b : zH} {sz : Nat} {p0 : Int32} {p1 : Int32} {o : zMS × Int32} (h : fX5_reasonOf n st p0 p1 = some o) : zM l s0 D yX5_reasonOf cX5_reasonOf 6 (some .int) 9 187 0 0 [.ref am, .int p0, .int p1] (zMw am st b) sz (zMw am o.1 b) sz (some (.int o.2)) := by
  refine zenter (own := RX5) zplX5 rfl (Nat.le_of_ble_eq_true rfl) trivial (fun K hX hnm hret => ?_)
  unfold fX5_reasonOf at h
  show VW K (zMw am st b) sz 0 0 0 [(0, .ref am), (1, .int p0), (2, .int p1)] []
  refine zr_iconst (pc := 0) hX zci_1 dX5_reasonOf_0 ?_
  refine zr_aload_n (pc := 1) hX 0 rfl rfl dX5_reasonOf_1 ?_
  refine zr_mget (pc := 2) hX 24 rfl rfl q1762 dX5_reasonOf_2 ?_
  refine zr_ishl (pc := 5) hX dX5_reasonOf_5 ?_
  refine zr_iconst (pc := 6) hX zci_1 dX5_reasonOf_6 ?_
  refine zr_isub (pc := 7) hX dX5_reasonOf_7 ?_
  obtain ⟨x1, gx1, h⟩ := bnd h
  refine zr_istore_n (pc := 8) hX (Option.some.inj gx1) rfl (Nat.le_of_ble_eq_true rfl) rfl dX5_reasonOf_8 ?_
  refine zr_aload_n (pc := 9) hX 1 rfl rfl dX5_reasonOf_9 ?_
  refine zr_mget (pc := 10) hX 24 rfl rfl q1762 dX5_reasonOf_10 ?_
  refine zr_iconst (pc := 13) hX zci_1 dX5_reasonOf_13 ?_
  refine zr_isub (pc := 14) hX dX5_reasonOf_14 ?_
  obtain ⟨x2, gx2, h⟩ := bnd h
  refine zr_istore (pc := 15) hX (Option.some.inj gx2) (Nat.le_of_ble_eq_true rfl) rfl dX5_reasonOf_15 ?_
  refine VW.sub (lv' := [(0, .ref am), (1, .int p0), (2, .int p1), (3, .int x1), (4, .int x2)]) ?_ [2, 3, 4, 1, 0] rfl
  refine zloop_walk (V := (fun a => VW K (zMw am a.1 b) sz 0 0 17 [(0, .ref am), (1, .int p0), (2, .int p1), (3, .int a.2.1), (4, .int a.2.2)] [])) (E := fun e => e = o) ?_ n (st, x1, x2) _ h rfl
  intro a3 o4 h kco4 keo4
  unfold fX5_reasonOf_L17 at h
  refine zr_iload (pc := 17) hX 4 rfl dX5_reasonOf_17 ?_
  refine zr_if_lt (pc := 19) hX 93 rfl dX5_reasonOf_19 (fun c19_20 => ?_) (fun c19_20 => ?_)
  · rw [if_pos c19_20] at h
    refine zr_iload_n (pc := 93) hX 3 rfl rfl dX5_reasonOf_93 ?_
    replace h := congrArg some (keo4 _ (Option.some.inj h).symm)
    obtain rfl := Option.some.inj h
    exact hret _ _ dX5_reasonOf_94 (Or.inl rfl)
  · rw [if_neg c19_20] at h
    refine zr_aload_n (pc := 22) hX 0 rfl rfl dX5_reasonOf_22 ?_
    refine zr_iload_n (pc := 23) hX 3 rfl rfl dX5_reasonOf_23 ?_
    refine zr_iconst (pc := 24) hX zci_1 dX5_reasonOf_24 ?_
    refine zr_iload (pc := 25) hX 4 rfl dX5_reasonOf_25 ?_
    refine zr_ishl (pc := 27) hX dX5_reasonOf_27 ?_
    refine zr_iconst (pc := 28) hX zci_m1 dX5_reasonOf_28 ?_
    refine zr_ixor (pc := 29) hX dX5_reasonOf_29 ?_
    refine zr_iand (pc := 30) hX dX5_reasonOf_30 ?_
    obtain ⟨t5, gt5, h⟩ := bnd h
    refine zr_callV (pc := 31) (stk' := []) (k' := 0) (n' := 0) hX (fun l s0 D => mX5_takesDecisions l s0 D gt5) (zMw_obj _ _ _) (ci := 4) rfl zwX5_takesDecisions q2124 q2126 qs66 rfl rfl rfl rfl rfl rfl rfl rfl rfl dX5_reasonOf_31 ?_
    refine zr_aload_n (pc := 34) hX 0 rfl rfl dX5_reasonOf_34 ?_
    obtain ⟨t6, gt6, h⟩ := bnd h
    refine zr_callV (pc := 35) (stk' := []) (k' := 0) (n' := 0) hX (fun l s0 D => mX5_finds l s0 D gt6) (zMw_obj _ _ _) (ci := 4) rfl zwX5_finds q2132 q2134 qs68 rfl rfl rfl rfl rfl rfl rfl rfl rfl dX5_reasonOf_35 ?_
    refine zr_aload_n (pc := 38) hX 0 rfl rfl dX5_reasonOf_38 ?_
    refine zr_mget (pc := 39) hX 37 rfl rfl q1775 dX5_reasonOf_39 ?_
    obtain ⟨t7, gt7, h⟩ := bnd h
    have hJt7 : ∀ a, t7 = a → VW K (zMw am t6 b) sz 0 0 67 [(0, .ref am), (1, .int p0), (2, .int p1), (3, .int a3.2.1), (4, .int a3.2.2)] [.int a] := by
      intro a ea
      subst ea
      refine zr_istore (pc := 67) hX rfl (Nat.le_of_ble_eq_true rfl) rfl dX5_reasonOf_67 ?_
      refine zr_iload_n (pc := 69) hX 4 rfl rfl dX5_reasonOf_69 ?_
      refine zr_iload (pc := 70) hX 0 rfl dX5_reasonOf_70 ?_
      obtain ⟨t8, gt8, h⟩ := bnd h
      have hJt8 : ∀ a, t8 = a → VW K (zMw am t6 b) sz 0 0 85 [(0, .ref am), (1, .int p0), (2, .int p1), (4, .int a3.2.2)] [.int a, .int a3.2.1] := by
        intro a ea
        subst ea
        refine zr_iand (pc := 85) hX dX5_reasonOf_85 ?_
        obtain ⟨x9, gx9, h⟩ := bnd h
        refine zr_istore_n (pc := 86) hX (Option.some.inj gx9) rfl (Nat.le_of_ble_eq_true rfl) rfl dX5_reasonOf_86 ?_
        obtain ⟨x10, gx10, h⟩ := bnd h
        refine zr_iinc (pc := 87) hX 4 rfl zci_m1 (Option.some.inj gx10) (Nat.le_of_ble_eq_true rfl) rfl dX5_reasonOf_87 ?_
        refine zr_goto (pc := 90) hX 17 rfl dX5_reasonOf_90 ?_
        exact (kco4 (t6, x9, x10) (Option.some.inj h).symm).sub [2, 3, 4, 1, 0] rfl
      replace h := gt8
      refine zr_if_eq (pc := 72) hX 84 rfl dX5_reasonOf_72 (fun c72_10 => ?_) (fun c72_10 => ?_)
      · rw [if_pos c72_10] at h
        refine zr_iconst (pc := 84) hX zci_m1 dX5_reasonOf_84 ?_
        exact (hJt8 (-1 : Int32) (Option.some.inj h).symm).sub [1, 2, 3, 5] rfl
      · rw [if_neg c72_10] at h
        refine zr_iconst (pc := 75) hX zci_1 dX5_reasonOf_75 ?_
        refine zr_iload (pc := 76) hX 5 rfl dX5_reasonOf_76 ?_
        refine zr_ishl (pc := 78) hX dX5_reasonOf_78 ?_
        refine zr_iconst (pc := 79) hX zci_m1 dX5_reasonOf_79 ?_
        refine zr_ixor (pc := 80) hX dX5_reasonOf_80 ?_
        refine zr_goto (pc := 81) hX 85 rfl dX5_reasonOf_81 ?_
        exact (hJt8 (((1 : Int32) <<< (a3.2.2 &&& 31)) ^^^ (-1 : Int32)) (Option.some.inj h).symm).sub [1, 2, 3, 5] rfl
    replace h := gt7
    obtain ⟨u13, gu13, hAu13, hBu13⟩ := zesc_bnd h
    have hJt12 : ∀ a, u13 = .inl a → VW K (zMw am t6 b) sz 0 0 62 [(0, .ref am), (1, .int p0), (2, .int p1), (3, .int a3.2.1), (4, .int a3.2.2)] [] := by
      intro t12 ea
      have h := hAu13 _ ea
      refine zr_iconst (pc := 62) hX zci_1 dX5_reasonOf_62 ?_
      refine zr_goto (pc := 63) hX 67 rfl dX5_reasonOf_63 ?_
      exact (hJt7 (1 : Int32) (Option.some.inj h).symm).sub [0, 1, 2, 3, 4] rfl
    replace h := gu13
    refine zr_if_ne (pc := 42) hX 62 rfl dX5_reasonOf_42 (fun c42_19 => ?_) (fun c42_19 => ?_)
    · rw [if_neg c42_19] at h
      exact (hJt12 () (Option.some.inj h).symm).sub [0, 1, 2, 3, 4] rfl
    · rw [if_pos c42_19] at h
      refine zr_iload_n (pc := 45) hX 2 rfl rfl dX5_reasonOf_45 ?_
      obtain ⟨u15, gu15, hAu15, hBu15⟩ := zesc_bnd h
      have hJt14 : ∀ a, u15 = .inl a → VW K (zMw am t6 b) sz 0 0 66 [(0, .ref am), (1, .int p0), (2, .int p1), (3, .int a3.2.1), (4, .int a3.2.2)] [] := by
        intro t14 ea
        have h := hAu15 _ ea
        refine zr_iconst (pc := 66) hX zci_0 dX5_reasonOf_66 ?_
        replace h := congrArg some (hBu13 _ (Option.some.inj h).symm)
        exact (hJt7 (0 : Int32) (Option.some.inj h).symm).sub [0, 1, 2, 3, 4] rfl
      replace h := gu15
      refine zr_if_lt (pc := 46) hX 66 rfl dX5_reasonOf_46 (fun c46_18 => ?_) (fun c46_18 => ?_)
      · rw [if_pos c46_18] at h
        exact (hJt14 () (Option.some.inj h).symm).sub [0, 1, 2, 3, 4] rfl
      · rw [if_neg c46_18] at h
        refine zr_aload_n (pc := 49) hX 0 rfl rfl dX5_reasonOf_49 ?_
        refine zr_mgetA (pc := 50) hX 34 rfl rfl q1772 dX5_reasonOf_50 ?_
        refine zr_iload_n (pc := 53) hX 1 rfl rfl dX5_reasonOf_53 ?_
        obtain ⟨x16, gx16, h⟩ := bnd h
        refine zr_mald (pc := 54) hX 34 rfl rfl rfl gx16 dX5_reasonOf_54 ?_
        refine zr_iload_n (pc := 55) hX 2 rfl rfl dX5_reasonOf_55 ?_
        obtain ⟨t17, gt17, h⟩ := bnd h
        refine zr_callS (pc := 56) (stk' := [.int t17]) (k' := 0) (n' := 0) hX (fun l s0 D => mX5_hasBit l s0 D gt17) zwX5_hasBit q2156 q2157 rfl rfl rfl rfl rfl rfl rfl rfl dX5_reasonOf_56 ?_
        refine zr_if_ne (pc := 59) hX 66 rfl dX5_reasonOf_59 (fun c59_17 => ?_) (fun c59_17 => ?_)
        · rw [if_neg c59_17] at h
          exact (hJt14 () (Option.some.inj h).symm).sub [0, 1, 2, 3, 4] rfl
        · rw [if_pos c59_17] at h
          replace h := congrArg some (hBu15 _ (Option.some.inj h).symm)
          exact (hJt12 () (Option.some.inj h).symm).sub [0, 1, 2, 3, 4] rfl
set_option maxHeartbeats 4000000 in
theorem mX5_reason (l : Launch) (s0 : State) (D : zD) {n : Nat} {am : Nat} {st : zMS} {b : zH} {sz : Nat} {p0 : Int32} {p1 : Int32} {o : zMS × Int32} (h : fX5_reason n st p0 p1 = some o) : zM l s0 D yX5_reason cX5_reason 3 (some .int) 10 212 0 0 [.ref am, .int p0, .int p1] (zMw am st b) sz (zMw am o.1 b) sz (some (.int o.2)) := by
  refine zenter (own := RX5) zplX5 rfl (Nat.le_of_ble_eq_true rfl) trivial (fun K hX hnm hret => ?_)
  unfold fX5_reason at h
  show VW K (zMw am st b) sz 0 0 0 [(0, .ref am), (1, .int p0), (2, .int p1)] []
  refine zr_aload_n (pc := 0) hX 0 rfl rfl dX5_reason_0 ?_
  refine zr_aload_n (pc := 1) hX 0 rfl rfl dX5_reason_1 ?_
  refine zr_iload_n (pc := 2) hX 1 rfl rfl dX5_reason_2 ?_
  obtain ⟨t1, gt1, h⟩ := bnd h
  refine zr_callV (pc := 3) (stk' := [.int t1, .ref am]) (k' := 0) (n' := 0) hX (fun l s0 D => mX5_isVariable l s0 D gt1) (zMw_obj _ _ _) (ci := 4) rfl zwX5_isVariable q1982 q1984 qs54 rfl rfl rfl rfl rfl rfl rfl rfl rfl dX5_reason_3 ?_
  obtain ⟨t2, gt2, h⟩ := bnd h
  have hJt2 : ∀ a, t2 = a → VW K (zMw am st b) sz 0 0 27 [(0, .ref am), (1, .int p0), (2, .int p1)] [.int a, .ref am] := by
    intro a ea
    subst ea
    obtain ⟨st3, gst3, h⟩ := bnd h
    refine zr_mput (pc := 27) hX 68 (Option.some.inj gst3) rfl rfl rfl rfl q1806 dX5_reason_27 ?_
    refine zr_aload_n (pc := 30) hX 0 rfl rfl dX5_reason_30 ?_
    refine zr_mget (pc := 31) hX 68 rfl rfl q1806 dX5_reason_31 ?_
    refine zr_if_le (pc := 34) hX 39 rfl dX5_reason_34 (fun c34_11 => ?_) (fun c34_11 => ?_)
    · rw [if_pos c34_11] at h
      refine zr_aload_n (pc := 39) hX 0 rfl rfl dX5_reason_39 ?_
      obtain ⟨t4, gt4, h⟩ := bnd h
      refine zr_callV (pc := 40) (stk' := []) (k' := 0) (n' := 0) hX (fun l s0 D => mX5_now l s0 D gt4) (zMw_obj _ _ _) (ci := 4) rfl zwX5_now q2120 q2122 qs65 rfl rfl rfl rfl rfl rfl rfl rfl rfl dX5_reason_40 ?_
      refine zr_aload_n (pc := 43) hX 0 rfl rfl dX5_reason_43 ?_
      refine zr_aload_n (pc := 44) hX 0 rfl rfl dX5_reason_44 ?_
      refine zr_mgetA (pc := 45) hX 34 rfl rfl q1772 dX5_reason_45 ?_
      refine zr_iload_n (pc := 48) hX 1 rfl rfl dX5_reason_48 ?_
      obtain ⟨x5, gx5, h⟩ := bnd h
      refine zr_mald (pc := 49) hX 34 rfl rfl rfl gx5 dX5_reason_49 ?_
      refine zr_iload_n (pc := 50) hX 2 rfl rfl dX5_reason_50 ?_
      obtain ⟨t6, gt6, h⟩ := bnd h
      refine zr_callS (pc := 51) (stk' := [.int t6, .ref am]) (k' := 0) (n' := 0) hX (fun l s0 D => mX5_hasBit l s0 D gt6) zwX5_hasBit q2156 q2157 rfl rfl rfl rfl rfl rfl rfl rfl dX5_reason_51 ?_
      obtain ⟨t7, gt7, h⟩ := bnd h
      have hJt7 : ∀ a, t7 = a → VW K (zMw am t4 b) sz 0 0 62 [(0, .ref am), (1, .int p0), (2, .int p1)] [.int a, .ref am] := by
        intro a ea
        subst ea
        obtain ⟨st8, gst8, h⟩ := bnd h
        refine zr_mput (pc := 62) hX 68 (Option.some.inj gst8) rfl rfl rfl rfl q1806 dX5_reason_62 ?_
        refine zr_aload_n (pc := 65) hX 0 rfl rfl dX5_reason_65 ?_
        refine zr_mget (pc := 66) hX 68 rfl rfl q1806 dX5_reason_66 ?_
        refine zr_if_le (pc := 69) hX 76 rfl dX5_reason_69 (fun c69_9 => ?_) (fun c69_9 => ?_)
        · rw [if_pos c69_9] at h
          refine zr_aload_n (pc := 76) hX 0 rfl rfl dX5_reason_76 ?_
          refine zr_iload_n (pc := 77) hX 1 rfl rfl dX5_reason_77 ?_
          refine zr_iload_n (pc := 78) hX 2 rfl rfl dX5_reason_78 ?_
          obtain ⟨t9, gt9, h⟩ := bnd h
          refine zr_callV (pc := 79) (stk' := [.int t9.2]) (k' := 0) (n' := 0) hX (fun l s0 D => mX5_reasonOf l s0 D gt9) (zMw_obj _ _ _) (ci := 4) rfl zwX5_reasonOf q2304 q2306 qs96 rfl rfl rfl rfl rfl rfl rfl rfl rfl dX5_reason_79 ?_
          obtain rfl := Option.some.inj h
          exact hret _ _ dX5_reason_82 (Or.inl rfl)
        · rw [if_neg c69_9] at h
          refine zr_iconst (pc := 72) hX zci_0 dX5_reason_72 ?_
          refine zr_goto (pc := 73) hX 82 rfl dX5_reason_73 ?_
          obtain rfl := Option.some.inj h
          exact hret _ _ dX5_reason_82 (Or.inl rfl)
      replace h := gt7
      refine zr_if_eq (pc := 54) hX 61 rfl dX5_reason_54 (fun c54_10 => ?_) (fun c54_10 => ?_)
      · rw [if_pos c54_10] at h
        refine zr_iconst (pc := 61) hX zci_0 dX5_reason_61 ?_
        exact (hJt7 (0 : Int32) (Option.some.inj h).symm).sub [0, 1, 2] rfl
      · rw [if_neg c54_10] at h
        refine zr_iconst (pc := 57) hX zci_3 dX5_reason_57 ?_
        refine zr_goto (pc := 58) hX 62 rfl dX5_reason_58 ?_
        exact (hJt7 (3 : Int32) (Option.some.inj h).symm).sub [0, 1, 2] rfl
    · rw [if_neg c34_11] at h
      refine zr_iconst (pc := 37) hX zci_0 dX5_reason_37 ?_
      obtain rfl := Option.some.inj h
      exact hret _ _ dX5_reason_38 (Or.inl rfl)
  replace h := gt2
  refine zr_if_ne (pc := 6) hX 13 rfl dX5_reason_6 (fun c6_14 => ?_) (fun c6_14 => ?_)
  · rw [if_neg c6_14] at h
    refine zr_aload_n (pc := 13) hX 0 rfl rfl dX5_reason_13 ?_
    refine zr_iload_n (pc := 14) hX 1 rfl rfl dX5_reason_14 ?_
    refine zr_iload_n (pc := 15) hX 2 rfl rfl dX5_reason_15 ?_
    obtain ⟨t13, gt13, h⟩ := bnd h
    refine zr_callV (pc := 16) (stk' := [.int t13, .ref am]) (k' := 0) (n' := 0) hX (fun l s0 D => mX5_isValue l s0 D gt13) (zMw_obj _ _ _) (ci := 4) rfl zwX5_isValue q1998 q2000 qs55 rfl rfl rfl rfl rfl rfl rfl rfl rfl dX5_reason_16 ?_
    refine zr_if_eq (pc := 19) hX 26 rfl dX5_reason_19 (fun c19_13 => ?_) (fun c19_13 => ?_)
    · rw [if_pos c19_13] at h
      refine zr_iconst (pc := 26) hX zci_2 dX5_reason_26 ?_
      exact (hJt2 (2 : Int32) (Option.some.inj h).symm).sub [0, 1, 2] rfl
    · rw [if_neg c19_13] at h
      refine zr_iconst (pc := 22) hX zci_0 dX5_reason_22 ?_
      refine zr_goto (pc := 23) hX 27 rfl dX5_reason_23 ?_
      exact (hJt2 (0 : Int32) (Option.some.inj h).symm).sub [0, 1, 2] rfl
  · rw [if_pos c6_14] at h
    refine zr_iconst (pc := 9) hX zci_1 dX5_reason_9 ?_
    refine zr_goto (pc := 10) hX 27 rfl dX5_reason_10 ?_
    exact (hJt2 (1 : Int32) (Option.some.inj h).symm).sub [0, 1, 2] rfl
set_option maxHeartbeats 4000000 in
theorem mX5_failure (l : Launch) (s0 : State) (D : zD) {n : Nat} {am : Nat} {st : zMS} {b : zH} {sz : Nat} {o : zMS × Int32} (h : fX5_failure n st = some o) : zM l s0 D yX5_failure cX5_failure 1 (some .int) 10 212 0 0 [.ref am] (zMw am st b) sz (zMw am o.1 b) sz (some (.int o.2)) := by
  refine zenter (own := RX5) zplX5 rfl (Nat.le_of_ble_eq_true rfl) trivial (fun K hX hnm hret => ?_)
  unfold fX5_failure at h
  show VW K (zMw am st b) sz 0 0 0 [(0, .ref am)] []
  refine zr_aload_n (pc := 0) hX 0 rfl rfl dX5_failure_0 ?_
  obtain ⟨t1, gt1, h⟩ := bnd h
  refine zr_callV (pc := 1) (stk' := []) (k' := 0) (n' := 0) hX (fun l s0 D => mX5_now l s0 D gt1) (zMw_obj _ _ _) (ci := 4) rfl zwX5_now q2120 q2122 qs65 rfl rfl rfl rfl rfl rfl rfl rfl rfl dX5_failure_1 ?_
  refine zr_aload_n (pc := 4) hX 0 rfl rfl dX5_failure_4 ?_
  refine zr_aload_n (pc := 5) hX 0 rfl rfl dX5_failure_5 ?_
  refine zr_mget (pc := 6) hX 37 rfl rfl q1775 dX5_failure_6 ?_
  obtain ⟨t2, gt2, h⟩ := bnd h
  have hJt2 : ∀ a, t2 = a → VW K (zMw am t1 b) sz 0 0 17 [(0, .ref am)] [.int a, .ref am] := by
    intro a ea
    subst ea
    obtain ⟨st3, gst3, h⟩ := bnd h
    refine zr_mput (pc := 17) hX 68 (Option.some.inj gst3) rfl rfl rfl rfl q1806 dX5_failure_17 ?_
    refine zr_aload_n (pc := 20) hX 0 rfl rfl dX5_failure_20 ?_
    refine zr_mget (pc := 21) hX 68 rfl rfl q1806 dX5_failure_21 ?_
    refine zr_if_le (pc := 24) hX 31 rfl dX5_failure_24 (fun c24_4 => ?_) (fun c24_4 => ?_)
    · rw [if_pos c24_4] at h
      refine zr_aload_n (pc := 31) hX 0 rfl rfl dX5_failure_31 ?_
      refine zr_iconst (pc := 32) hX zci_0 dX5_failure_32 ?_
      refine zr_iconst (pc := 33) hX zci_m1 dX5_failure_33 ?_
      obtain ⟨t4, gt4, h⟩ := bnd h
      refine zr_callV (pc := 34) (stk' := [.int t4.2]) (k' := 0) (n' := 0) hX (fun l s0 D => mX5_reasonOf l s0 D gt4) (zMw_obj _ _ _) (ci := 4) rfl zwX5_reasonOf q2304 q2306 qs96 rfl rfl rfl rfl rfl rfl rfl rfl rfl dX5_failure_34 ?_
      obtain rfl := Option.some.inj h
      exact hret _ _ dX5_failure_37 (Or.inl rfl)
    · rw [if_neg c24_4] at h
      refine zr_iconst (pc := 27) hX zci_0 dX5_failure_27 ?_
      refine zr_goto (pc := 28) hX 37 rfl dX5_failure_28 ?_
      obtain rfl := Option.some.inj h
      exact hret _ _ dX5_failure_37 (Or.inl rfl)
  replace h := gt2
  refine zr_if_eq (pc := 9) hX 16 rfl dX5_failure_9 (fun c9_5 => ?_) (fun c9_5 => ?_)
  · rw [if_pos c9_5] at h
    refine zr_iconst (pc := 16) hX zci_1 dX5_failure_16 ?_
    exact (hJt2 (1 : Int32) (Option.some.inj h).symm).sub [0] rfl
  · rw [if_neg c9_5] at h
    refine zr_iconst (pc := 12) hX zci_0 dX5_failure_12 ?_
    refine zr_goto (pc := 13) hX 17 rfl dX5_failure_13 ?_
    exact (hJt2 (0 : Int32) (Option.some.inj h).symm).sub [0] rfl
set_option maxHeartbeats 4000000 in
theorem mX5_learn (l : Launch) (s0 : State) (D : zD) {n : Nat} {am : Nat} {st : zMS} {b : zH} {sz : Nat} {o : zMS × Int32} (h : fX5_learn n st = some o) : zM l s0 D yX5_learn cX5_learn 4 (some .int) 10 212 0 0 [.ref am] (zMw am st b) sz (zMw am o.1 b) sz (some (.int o.2)) := by
  refine zenter (own := RX5) zplX5 rfl (Nat.le_of_ble_eq_true rfl) trivial (fun K hX hnm hret => ?_)
  unfold fX5_learn at h
  show VW K (zMw am st b) sz 0 0 0 [(0, .ref am)] []
  refine zr_aload_n (pc := 0) hX 0 rfl rfl dX5_learn_0 ?_
  obtain ⟨t1, gt1, h⟩ := bnd h
  refine zr_callV (pc := 1) (stk' := []) (k' := 0) (n' := 0) hX (fun l s0 D => mX5_now l s0 D gt1) (zMw_obj _ _ _) (ci := 4) rfl zwX5_now q2120 q2122 qs65 rfl rfl rfl rfl rfl rfl rfl rfl rfl dX5_learn_1 ?_
  refine zr_aload_n (pc := 4) hX 0 rfl rfl dX5_learn_4 ?_
  refine zr_mget (pc := 5) hX 37 rfl rfl q1775 dX5_learn_5 ?_
  obtain ⟨t2, gt2, h⟩ := bnd h
  have hJt2 : ∀ a, t2 = a → VW K (zMw am a.1 b) sz 0 0 21 [(0, .ref am)] [.int a.2] := by
    intro a ea
    subst ea
    refine zr_istore_n (pc := 21) hX rfl rfl (Nat.le_of_ble_eq_true rfl) rfl dX5_learn_21 ?_
    refine zr_aload_n (pc := 22) hX 1 rfl rfl dX5_learn_22 ?_
    refine zr_iload_n (pc := 23) hX 0 rfl rfl dX5_learn_23 ?_
    obtain ⟨t3, gt3, h⟩ := bnd h
    refine zr_callS (pc := 24) (stk' := [.int t3, .ref am]) (k' := 0) (n' := 0) hX (fun l s0 D => mX5_count l s0 D gt3) zwX5_count q2197 q2198 rfl rfl rfl rfl rfl rfl rfl rfl dX5_learn_24 ?_
    refine zr_iconst (pc := 27) hX zci_1 dX5_learn_27 ?_
    refine zr_bipush (pc := 28) hX zcb_6 dX5_learn_28 ?_
    obtain ⟨t4, gt4, h⟩ := bnd h
    refine zr_callS (pc := 30) (stk' := [.int t4, .ref am]) (k' := 0) (n' := 0) hX (fun l s0 D => mX5_isIn l s0 D gt4) zwX5_isIn q1963 q1964 rfl rfl rfl rfl rfl rfl rfl rfl dX5_learn_30 ?_
    obtain ⟨t5, gt5, h⟩ := bnd h
    have hJt5 : ∀ a, t5 = a → VW K (zMw am t2.1 b) sz 0 0 48 [(0, .ref am), (1, .int t2.2)] [.int a, .ref am] := by
      intro a ea
      subst ea
      obtain ⟨st6, gst6, h⟩ := bnd h
      refine zr_mput (pc := 48) hX 68 (Option.some.inj gst6) rfl rfl rfl rfl q1806 dX5_learn_48 ?_
      refine zr_aload_n (pc := 51) hX 0 rfl rfl dX5_learn_51 ?_
      refine zr_mget (pc := 52) hX 68 rfl rfl q1806 dX5_learn_52 ?_
      refine zr_if_le (pc := 55) hX 60 rfl dX5_learn_55 (fun c55_32 => ?_) (fun c55_32 => ?_)
      · rw [if_pos c55_32] at h
        refine zr_iconst (pc := 60) hX zci_0 dX5_learn_60 ?_
        refine zr_istore_n (pc := 61) hX rfl rfl (Nat.le_of_ble_eq_true rfl) rfl dX5_learn_61 ?_
        refine zr_iconst (pc := 62) hX zci_0 dX5_learn_62 ?_
        refine zr_istore_n (pc := 63) hX rfl rfl (Nat.le_of_ble_eq_true rfl) rfl dX5_learn_63 ?_
        obtain ⟨t9, gt9, h⟩ := bnd h
        have hJt9 : ∀ a, a = t9 → VW K (zMw am a.1 b) sz 0 0 149 [(0, .ref am), (1, .int t2.2), (2, .int a.2)] [] := by
          intro a ea
          rw [ea]
          refine zr_aload_n (pc := 149) hX 0 rfl rfl dX5_learn_149 ?_
          refine zr_iconst (pc := 150) hX zci_5 dX5_learn_150 ?_
          refine zr_iload_n (pc := 151) hX 2 rfl rfl dX5_learn_151 ?_
          obtain ⟨t10, gt10, h⟩ := bnd h
          refine zr_callV (pc := 152) (stk' := [.int t10.2]) (k' := 0) (n' := 0) hX (fun l s0 D => mX5_adds l s0 D gt10) (zMw_obj _ _ _) (ci := 4) rfl zwX5_adds q2025 q2027 qs60 rfl rfl rfl rfl rfl rfl rfl rfl rfl dX5_learn_152 ?_
          refine zr_pop (pc := 155) hX rfl dX5_learn_155 ?_
          refine zr_aload_n (pc := 156) hX 0 rfl rfl dX5_learn_156 ?_
          refine zr_iload_n (pc := 157) hX 1 rfl rfl dX5_learn_157 ?_
          obtain ⟨t11, gt11, h⟩ := bnd h
          refine zr_callS (pc := 158) (stk' := [.int t11, .ref am]) (k' := 0) (n' := 0) hX (fun l s0 D => mX5_highest l s0 D gt11) zwX5_highest q2175 q2176 rfl rfl rfl rfl rfl rfl rfl rfl dX5_learn_158 ?_
          obtain ⟨st12, gst12, h⟩ := bnd h
          refine zr_mput (pc := 161) hX 24 (Option.some.inj gst12) rfl rfl rfl rfl q1762 dX5_learn_161 ?_
          refine zr_iload_n (pc := 164) hX 1 rfl rfl dX5_learn_164 ?_
          refine zr_iconst (pc := 165) hX zci_1 dX5_learn_165 ?_
          refine zr_aload_n (pc := 166) hX 0 rfl rfl dX5_learn_166 ?_
          refine zr_mget (pc := 167) hX 24 rfl rfl q1762 dX5_learn_167 ?_
          refine zr_ishl (pc := 170) hX dX5_learn_170 ?_
          refine zr_iconst (pc := 171) hX zci_m1 dX5_learn_171 ?_
          refine zr_ixor (pc := 172) hX dX5_learn_172 ?_
          refine zr_iand (pc := 173) hX dX5_learn_173 ?_
          obtain ⟨x13, gx13, h⟩ := bnd h
          refine zr_istore_n (pc := 174) hX (Option.some.inj gx13) rfl (Nat.le_of_ble_eq_true rfl) rfl dX5_learn_174 ?_
          obtain ⟨t16, gt16, h⟩ := bnd h
          have hJt16 : ∀ a, a = t16 → VW K (zMw am a b) sz 0 0 208 [(0, .ref am)] [] := by
            intro a ea
            rw [ea]
            refine zr_aload_n (pc := 208) hX 0 rfl rfl dX5_learn_208 ?_
            refine zr_mget (pc := 209) hX 24 rfl rfl q1762 dX5_learn_209 ?_
            obtain rfl := Option.some.inj h
            exact hret _ _ dX5_learn_212 (Or.inl rfl)
          refine VW.sub (lv' := [(0, .ref am), (3, .int x13)]) ?_ [1, 0] rfl
          refine zloop_walk (V := (fun a => VW K (zMw am a b) sz 0 0 175 [(0, .ref am), (3, .int x13)] [])) (E := fun e => e = t16) ?_ n st12 _ gt16 rfl
          intro a14 o15 h kco15 keo15
          unfold fX5_learn_L175 at h
          refine zr_aload_n (pc := 175) hX 0 rfl rfl dX5_learn_175 ?_
          refine zr_mget (pc := 176) hX 24 rfl rfl q1762 dX5_learn_176 ?_
          refine zr_if_le (pc := 179) hX 208 rfl dX5_learn_179 (fun c179_18 => ?_) (fun c179_18 => ?_)
          · rw [if_pos c179_18] at h
            exact (hJt16 a14 (keo15 _ (Option.some.inj h).symm)).sub [0] rfl
          · rw [if_neg c179_18] at h
            refine zr_iload_n (pc := 182) hX 1 rfl rfl dX5_learn_182 ?_
            refine zr_aload_n (pc := 183) hX 0 rfl rfl dX5_learn_183 ?_
            refine zr_mget (pc := 184) hX 24 rfl rfl q1762 dX5_learn_184 ?_
            refine zr_iconst (pc := 187) hX zci_1 dX5_learn_187 ?_
            refine zr_isub (pc := 188) hX dX5_learn_188 ?_
            refine zr_ishr (pc := 189) hX dX5_learn_189 ?_
            refine zr_iconst (pc := 190) hX zci_1 dX5_learn_190 ?_
            refine zr_iand (pc := 191) hX dX5_learn_191 ?_
            refine zr_if_ne (pc := 192) hX 208 rfl dX5_learn_192 (fun c192_17 => ?_) (fun c192_17 => ?_)
            · rw [if_neg c192_17] at h
              exact (hJt16 a14 (keo15 _ (Option.some.inj h).symm)).sub [0] rfl
            · rw [if_pos c192_17] at h
              refine zr_aload_n (pc := 195) hX 0 rfl rfl dX5_learn_195 ?_
              refine zr_dup (pc := 196) hX rfl dX5_learn_196 ?_
              refine zr_mget (pc := 197) hX 24 rfl rfl q1762 dX5_learn_197 ?_
              refine zr_iconst (pc := 200) hX zci_1 dX5_learn_200 ?_
              refine zr_isub (pc := 201) hX dX5_learn_201 ?_
              obtain ⟨st17, gst17, h⟩ := bnd h
              refine zr_mput (pc := 202) hX 24 (Option.some.inj gst17) rfl rfl rfl rfl q1762 dX5_learn_202 ?_
              refine zr_goto (pc := 205) hX 175 rfl dX5_learn_205 ?_
              exact (kco15 st17 (Option.some.inj h).symm).sub [0, 1] rfl
        refine VW.sub (lv' := [(0, .ref am), (1, .int t2.2), (2, .int (0 : Int32)), (3, .int (0 : Int32))]) ?_ [2, 3, 1, 0] rfl
        refine zloop_walk (V := (fun a => VW K (zMw am a.1 b) sz 0 0 64 [(0, .ref am), (1, .int t2.2), (2, .int a.2.1), (3, .int a.2.2)] [])) (E := fun e => e = t9) ?_ n (st6, (0 : Int32), (0 : Int32)) _ gt9 rfl
        intro a7 o8 h kco8 keo8
        unfold fX5_learn_L64 at h
        refine zr_iload_n (pc := 64) hX 3 rfl rfl dX5_learn_64 ?_
        refine zr_aload_n (pc := 65) hX 0 rfl rfl dX5_learn_65 ?_
        refine zr_mget (pc := 66) hX 24 rfl rfl q1762 dX5_learn_66 ?_
        refine zr_icmp_ge (pc := 69) hX 149 rfl dX5_learn_69 (fun c69_31 => ?_) (fun c69_31 => ?_)
        · rw [if_pos c69_31] at h
          exact (hJt9 (a7.1, a7.2.1) (keo8 _ (Option.some.inj h).symm)).sub [0, 1, 2] rfl
        · rw [if_neg c69_31] at h
          refine zr_iload_n (pc := 72) hX 1 rfl rfl dX5_learn_72 ?_
          refine zr_iload_n (pc := 73) hX 3 rfl rfl dX5_learn_73 ?_
          refine zr_ishr (pc := 74) hX dX5_learn_74 ?_
          refine zr_iconst (pc := 75) hX zci_1 dX5_learn_75 ?_
          refine zr_iand (pc := 76) hX dX5_learn_76 ?_
          refine zr_iconst (pc := 77) hX zci_1 dX5_learn_77 ?_
          obtain ⟨t20, gt20, h⟩ := bnd h
          have hJt20 : ∀ a, t20 = a → VW K (zMw am a.1 b) sz 0 0 143 [(0, .ref am), (1, .int t2.2), (2, .int a.2), (3, .int a7.2.2)] [] := by
            intro a ea
            subst ea
            obtain ⟨x21, gx21, h⟩ := bnd h
            refine zr_iinc (pc := 143) hX 3 rfl zci_1 (Option.some.inj gx21) (Nat.le_of_ble_eq_true rfl) rfl dX5_learn_143 ?_
            refine zr_goto (pc := 146) hX 64 rfl dX5_learn_146 ?_
            exact (kco8 (t20.1, t20.2, x21) (Option.some.inj h).symm).sub [1, 2, 3, 0] rfl
          replace h := gt20
          refine zr_icmp_ne (pc := 78) hX 143 rfl dX5_learn_78 (fun c78_30 => ?_) (fun c78_30 => ?_)
          · rw [if_neg c78_30] at h
            exact (hJt20 (a7.1, a7.2.1) (Option.some.inj h).symm).sub [0, 1, 2, 3] rfl
          · rw [if_pos c78_30] at h
            refine zr_aload_n (pc := 81) hX 0 rfl rfl dX5_learn_81 ?_
            refine zr_iload_n (pc := 82) hX 2 rfl rfl dX5_learn_82 ?_
            refine zr_aload_n (pc := 83) hX 0 rfl rfl dX5_learn_83 ?_
            refine zr_mgetA (pc := 84) hX 25 rfl rfl q1763 dX5_learn_84 ?_
            refine zr_iload_n (pc := 87) hX 3 rfl rfl dX5_learn_87 ?_
            obtain ⟨x22, gx22, h⟩ := bnd h
            refine zr_mald (pc := 88) hX 25 rfl rfl rfl gx22 dX5_learn_88 ?_
            obtain ⟨t23, gt23, h⟩ := bnd h
            refine zr_callV (pc := 89) (stk' := []) (k' := 0) (n' := 0) hX (fun l s0 D => mX5_places l s0 D gt23) (zMw_obj _ _ _) (ci := 4) rfl zwX5_places q2021 q2023 qs59 rfl rfl rfl rfl rfl rfl rfl rfl rfl dX5_learn_89 ?_
            refine zr_aload_n (pc := 92) hX 0 rfl rfl dX5_learn_92 ?_
            refine zr_mgetA (pc := 93) hX 19 rfl rfl q1757 dX5_learn_93 ?_
            refine zr_bipush (pc := 96) hX zcb_6 dX5_learn_96 ?_
            refine zr_aload_n (pc := 98) hX 0 rfl rfl dX5_learn_98 ?_
            refine zr_mget (pc := 99) hX 15 rfl rfl q1753 dX5_learn_99 ?_
            refine zr_imul (pc := 102) hX dX5_learn_102 ?_
            refine zr_iload_n (pc := 103) hX 2 rfl rfl dX5_learn_103 ?_
            refine zr_iadd (pc := 104) hX dX5_learn_104 ?_
            refine zr_aload_n (pc := 105) hX 0 rfl rfl dX5_learn_105 ?_
            refine zr_mgetA (pc := 106) hX 26 rfl rfl q1764 dX5_learn_106 ?_
            refine zr_iload_n (pc := 109) hX 3 rfl rfl dX5_learn_109 ?_
            obtain ⟨x24, gx24, h⟩ := bnd h
            refine zr_mald (pc := 110) hX 26 rfl rfl rfl gx24 dX5_learn_110 ?_
            obtain ⟨st25, gst25, h⟩ := bnd h
            refine zr_mast (pc := 111) hX 19 rfl rfl rfl gst25 dX5_learn_111 ?_
            refine zr_aload_n (pc := 112) hX 0 rfl rfl dX5_learn_112 ?_
            refine zr_mgetA (pc := 113) hX 23 rfl rfl q1761 dX5_learn_113 ?_
            refine zr_bipush (pc := 116) hX zcb_6 dX5_learn_116 ?_
            refine zr_aload_n (pc := 118) hX 0 rfl rfl dX5_learn_118 ?_
            refine zr_mget (pc := 119) hX 15 rfl rfl q1753 dX5_learn_119 ?_
            refine zr_imul (pc := 122) hX dX5_learn_122 ?_
            refine zr_iload_n (pc := 123) hX 2 rfl rfl dX5_learn_123 ?_
            refine zr_iadd (pc := 124) hX dX5_learn_124 ?_
            refine zr_aload_n (pc := 125) hX 0 rfl rfl dX5_learn_125 ?_
            refine zr_mgetA (pc := 126) hX 27 rfl rfl q1765 dX5_learn_126 ?_
            refine zr_iload_n (pc := 129) hX 3 rfl rfl dX5_learn_129 ?_
            obtain ⟨x26, gx26, h⟩ := bnd h
            refine zr_maldZ (pc := 130) hX 27 rfl rfl rfl gx26 dX5_learn_130 ?_
            obtain ⟨t27, gt27, h⟩ := bnd h
            have hJt27 : ∀ a, t27 = a → VW K (zMw am st25 b) sz 0 0 139 [(0, .ref am), (1, .int t2.2), (2, .int a7.2.1), (3, .int a7.2.2)] [.int a, .int (((6 : Int32) * (st25.1 15)) + a7.2.1), .ref (am + zMo 23)] := by
              intro a ea
              subst ea
              obtain ⟨st28, gst28, h⟩ := bnd h
              refine zr_mastZ (pc := 139) hX 23 rfl rfl rfl gst28 dX5_learn_139 ?_
              obtain ⟨x29, gx29, h⟩ := bnd h
              refine zr_iinc (pc := 140) hX 2 rfl zci_1 (Option.some.inj gx29) (Nat.le_of_ble_eq_true rfl) rfl dX5_learn_140 ?_
              exact (hJt20 (st28, x29) (Option.some.inj h).symm).sub [1, 2, 0, 3] rfl
            replace h := gt27
            refine zr_if_ne (pc := 131) hX 138 rfl dX5_learn_131 (fun c131_29 => ?_) (fun c131_29 => ?_)
            · rw [if_neg c131_29] at h
              refine zr_iconst (pc := 138) hX zci_0 dX5_learn_138 ?_
              exact (hJt27 (0 : Int32) (Option.some.inj h).symm).sub [0, 1, 2, 3] rfl
            · rw [if_pos c131_29] at h
              refine zr_iconst (pc := 134) hX zci_1 dX5_learn_134 ?_
              refine zr_goto (pc := 135) hX 139 rfl dX5_learn_135 ?_
              exact (hJt27 (1 : Int32) (Option.some.inj h).symm).sub [0, 1, 2, 3] rfl
      · rw [if_neg c55_32] at h
        refine zr_iconst (pc := 58) hX zci_0 dX5_learn_58 ?_
        obtain rfl := Option.some.inj h
        exact hret _ _ dX5_learn_59 (Or.inl rfl)
    replace h := gt5
    obtain ⟨u35, gu35, hAu35, hBu35⟩ := zesc_bnd h
    have hJt34 : ∀ a, u35 = .inl a → VW K (zMw am t2.1 b) sz 0 0 47 [(0, .ref am), (1, .int t2.2)] [.ref am] := by
      intro t34 ea
      have h := hAu35 _ ea
      refine zr_iconst (pc := 47) hX zci_1 dX5_learn_47 ?_
      exact (hJt5 (1 : Int32) (Option.some.inj h).symm).sub [0, 1] rfl
    replace h := gu35
    refine zr_if_eq (pc := 33) hX 47 rfl dX5_learn_33 (fun c33_37 => ?_) (fun c33_37 => ?_)
    · rw [if_pos c33_37] at h
      exact (hJt34 () (Option.some.inj h).symm).sub [1, 0] rfl
    · rw [if_neg c33_37] at h
      refine zr_aload_n (pc := 36) hX 1 rfl rfl dX5_learn_36 ?_
      obtain ⟨t36, gt36, h⟩ := bnd h
      refine zr_callV (pc := 37) (stk' := [.int t36, .ref am]) (k' := 0) (n' := 0) hX (fun l s0 D => mX5_hasRoom l s0 D gt36) (zMw_obj _ _ _) (ci := 4) rfl zwX5_hasRoom q2013 q2015 qs57 rfl rfl rfl rfl rfl rfl rfl rfl rfl dX5_learn_37 ?_
      refine zr_if_eq (pc := 40) hX 47 rfl dX5_learn_40 (fun c40_36 => ?_) (fun c40_36 => ?_)
      · rw [if_pos c40_36] at h
        exact (hJt34 () (Option.some.inj h).symm).sub [1, 0] rfl
      · rw [if_neg c40_36] at h
        refine zr_iconst (pc := 43) hX zci_0 dX5_learn_43 ?_
        refine zr_goto (pc := 44) hX 48 rfl dX5_learn_44 ?_
        replace h := congrArg some (hBu35 _ (Option.some.inj h).symm)
        exact (hJt5 (0 : Int32) (Option.some.inj h).symm).sub [1, 0] rfl
  replace h := gt2
  refine zr_if_eq (pc := 8) hX 20 rfl dX5_learn_8 (fun c8_39 => ?_) (fun c8_39 => ?_)
  · rw [if_pos c8_39] at h
    refine zr_iconst (pc := 20) hX zci_0 dX5_learn_20 ?_
    exact (hJt2 (t1, (0 : Int32)) (Option.some.inj h).symm).sub [0] rfl
  · rw [if_neg c8_39] at h
    refine zr_aload_n (pc := 11) hX 0 rfl rfl dX5_learn_11 ?_
    refine zr_iconst (pc := 12) hX zci_0 dX5_learn_12 ?_
    refine zr_iconst (pc := 13) hX zci_m1 dX5_learn_13 ?_
    obtain ⟨t39, gt39, h⟩ := bnd h
    refine zr_callV (pc := 14) (stk' := [.int t39.2]) (k' := 0) (n' := 0) hX (fun l s0 D => mX5_reasonOf l s0 D gt39) (zMw_obj _ _ _) (ci := 4) rfl zwX5_reasonOf q2304 q2306 qs96 rfl rfl rfl rfl rfl rfl rfl rfl rfl dX5_learn_14 ?_
    refine zr_goto (pc := 17) hX 21 rfl dX5_learn_17 ?_
    exact (hJt2 (t39.1, t39.2) (Option.some.inj h).symm).sub [0] rfl
set_option maxHeartbeats 4000000 in
theorem mX5_findsNode (l : Launch) (s0 : State) (D : zD) {n : Nat} {am : Nat} {st : zMS} {b : zH} {sz : Nat} {o : zMS} (h : fX5_findsNode n st = some o) : zM l s0 D yX5_findsNode cX5_findsNode 2 none 9 187 0 0 [.ref am] (zMw am st b) sz (zMw am o b) sz none := by
  refine zenter (own := RX5) zplX5 rfl (Nat.le_of_ble_eq_true rfl) rfl (fun K hX hnm hret => ?_)
  unfold fX5_findsNode at h
  show VW K (zMw am st b) sz 0 0 0 [(0, .ref am)] []
  refine zr_aload_n (pc := 0) hX 0 rfl rfl dX5_findsNode_0 ?_
  refine zr_iconst (pc := 1) hX zci_m1 dX5_findsNode_1 ?_
  obtain ⟨st1, gst1, h⟩ := bnd h
  refine zr_mput (pc := 2) hX 32 (Option.some.inj gst1) rfl rfl rfl rfl q1770 dX5_findsNode_2 ?_
  refine zr_aload_n (pc := 5) hX 0 rfl rfl dX5_findsNode_5 ?_
  refine zr_sipush (pc := 6) hX zcs_4095 dX5_findsNode_6 ?_
  obtain ⟨t2, gt2, h⟩ := bnd h
  refine zr_callV (pc := 9) (stk' := []) (k' := 0) (n' := 0) hX (fun l s0 D => mX5_takesDecisions l s0 D gt2) (zMw_obj _ _ _) (ci := 4) rfl zwX5_takesDecisions q2124 q2126 qs66 rfl rfl rfl rfl rfl rfl rfl rfl rfl dX5_findsNode_9 ?_
  refine zr_iconst (pc := 12) hX zci_0 dX5_findsNode_12 ?_
  refine zr_istore_n (pc := 13) hX rfl rfl (Nat.le_of_ble_eq_true rfl) rfl dX5_findsNode_13 ?_
  obtain ⟨t5, gt5, h⟩ := bnd h
  have hJt5 : ∀ a, a = t5 → VW K (zMw am a b) sz 0 0 50 [(0, .ref am)] [] := by
    intro a ea
    rw [ea]
    refine zr_aload_n (pc := 50) hX 0 rfl rfl dX5_findsNode_50 ?_
    obtain ⟨t6, gt6, h⟩ := bnd h
    refine zr_callV (pc := 51) (stk' := []) (k' := 0) (n' := 0) hX (fun l s0 D => mX5_finds l s0 D gt6) (zMw_obj _ _ _) (ci := 4) rfl zwX5_finds q2132 q2134 qs68 rfl rfl rfl rfl rfl rfl rfl rfl rfl dX5_findsNode_51 ?_
    obtain rfl := Option.some.inj h
    exact hret _ _ dX5_findsNode_54
  refine VW.sub (lv' := [(0, .ref am), (1, .int (0 : Int32))]) ?_ [1, 0] rfl
  refine zloop_walk (V := (fun a => VW K (zMw am a.1 b) sz 0 0 14 [(0, .ref am), (1, .int a.2)] [])) (E := fun e => e = t5) ?_ n (t2, (0 : Int32)) _ gt5 rfl
  intro a3 o4 h kco4 keo4
  unfold fX5_findsNode_L14 at h
  refine zr_iload_n (pc := 14) hX 1 rfl rfl dX5_findsNode_14 ?_
  refine zr_aload_n (pc := 15) hX 0 rfl rfl dX5_findsNode_15 ?_
  refine zr_mget (pc := 16) hX 51 rfl rfl q1789 dX5_findsNode_16 ?_
  refine zr_icmp_ge (pc := 19) hX 50 rfl dX5_findsNode_19 (fun c19_11 => ?_) (fun c19_11 => ?_)
  · rw [if_pos c19_11] at h
    exact (hJt5 a3.1 (keo4 _ (Option.some.inj h).symm)).sub [0] rfl
  · rw [if_neg c19_11] at h
    refine zr_aload_n (pc := 22) hX 0 rfl rfl dX5_findsNode_22 ?_
    refine zr_aload_n (pc := 23) hX 0 rfl rfl dX5_findsNode_23 ?_
    refine zr_mgetA (pc := 24) hX 52 rfl rfl q1790 dX5_findsNode_24 ?_
    refine zr_iload_n (pc := 27) hX 1 rfl rfl dX5_findsNode_27 ?_
    obtain ⟨x7, gx7, h⟩ := bnd h
    refine zr_mald (pc := 28) hX 52 rfl rfl rfl gx7 dX5_findsNode_28 ?_
    refine zr_aload_n (pc := 29) hX 0 rfl rfl dX5_findsNode_29 ?_
    refine zr_mgetA (pc := 30) hX 53 rfl rfl q1791 dX5_findsNode_30 ?_
    refine zr_iload_n (pc := 33) hX 1 rfl rfl dX5_findsNode_33 ?_
    obtain ⟨x8, gx8, h⟩ := bnd h
    refine zr_mald (pc := 34) hX 53 rfl rfl rfl gx8 dX5_findsNode_34 ?_
    refine zr_aload_n (pc := 35) hX 0 rfl rfl dX5_findsNode_35 ?_
    refine zr_mgetA (pc := 36) hX 54 rfl rfl q1792 dX5_findsNode_36 ?_
    refine zr_iload_n (pc := 39) hX 1 rfl rfl dX5_findsNode_39 ?_
    obtain ⟨x9, gx9, h⟩ := bnd h
    refine zr_maldZ (pc := 40) hX 54 rfl rfl rfl gx9 dX5_findsNode_40 ?_
    obtain ⟨t10, gt10, h⟩ := bnd h
    refine zr_callV (pc := 41) (stk' := []) (k' := 0) (n' := 0) hX (fun l s0 D => mX5_takesOne l s0 D gt10) (zMw_obj _ _ _) (ci := 4) rfl zwX5_takesOne q2128 q2130 qs67 rfl rfl rfl rfl rfl rfl rfl rfl rfl dX5_findsNode_41 ?_
    obtain ⟨x11, gx11, h⟩ := bnd h
    refine zr_iinc (pc := 44) hX 1 rfl zci_1 (Option.some.inj gx11) (Nat.le_of_ble_eq_true rfl) rfl dX5_findsNode_44 ?_
    refine zr_goto (pc := 47) hX 14 rfl dX5_findsNode_47 ?_
    exact (kco4 (t10, x11) (Option.some.inj h).symm).sub [1, 0] rfl
set_option maxHeartbeats 4000000 in
theorem mX5_goesBack (l : Launch) (s0 : State) (D : zD) {n : Nat} {am : Nat} {st : zMS} {b : zH} {sz : Nat} {o : zMS × Int32} (h : fX5_goesBack n st = some o) : zM l s0 D yX5_goesBack cX5_goesBack 1 (some .boolean) 1 0 0 0 [.ref am] (zMw am st b) sz (zMw am o.1 b) sz (some (.int o.2)) := by
  refine zenter (own := RX5) zplX5 rfl (Nat.le_of_ble_eq_true rfl) trivial (fun K hX hnm hret => ?_)
  unfold fX5_goesBack at h
  show VW K (zMw am st b) sz 0 0 0 [(0, .ref am)] []
  obtain ⟨t3, gt3, h⟩ := bnd h
  have hJt3 : ∀ a, a = t3 → VW K (zMw am a b) sz 0 0 34 [(0, .ref am)] [] := by
    intro a ea
    rw [ea]
    refine zr_aload_n (pc := 34) hX 0 rfl rfl dX5_goesBack_34 ?_
    refine zr_mget (pc := 35) hX 51 rfl rfl q1789 dX5_goesBack_35 ?_
    obtain ⟨t4, gt4, h⟩ := bnd h
    have hJt4 : ∀ a, t4 = a → VW K (zMw am a b) sz 0 0 53 [(0, .ref am)] [] := by
      intro a ea
      subst ea
      refine zr_aload_n (pc := 53) hX 0 rfl rfl dX5_goesBack_53 ?_
      refine zr_mget (pc := 54) hX 51 rfl rfl q1789 dX5_goesBack_54 ?_
      refine zr_if_le (pc := 57) hX 64 rfl dX5_goesBack_57 (fun c57_4 => ?_) (fun c57_4 => ?_)
      · rw [if_pos c57_4] at h
        refine zr_iconst (pc := 64) hX zci_0 dX5_goesBack_64 ?_
        obtain rfl := Option.some.inj h
        exact hret _ _ dX5_goesBack_65 (Or.inr ⟨rfl, Or.inl rfl⟩)
      · rw [if_neg c57_4] at h
        refine zr_iconst (pc := 60) hX zci_1 dX5_goesBack_60 ?_
        refine zr_goto (pc := 61) hX 65 rfl dX5_goesBack_61 ?_
        obtain rfl := Option.some.inj h
        exact hret _ _ dX5_goesBack_65 (Or.inr ⟨rfl, Or.inr rfl⟩)
    replace h := gt4
    refine zr_if_le (pc := 38) hX 53 rfl dX5_goesBack_38 (fun c38_6 => ?_) (fun c38_6 => ?_)
    · rw [if_pos c38_6] at h
      exact (hJt4 t3 (Option.some.inj h).symm).sub [0] rfl
    · rw [if_neg c38_6] at h
      refine zr_aload_n (pc := 41) hX 0 rfl rfl dX5_goesBack_41 ?_
      refine zr_mgetA (pc := 42) hX 54 rfl rfl q1792 dX5_goesBack_42 ?_
      refine zr_aload_n (pc := 45) hX 0 rfl rfl dX5_goesBack_45 ?_
      refine zr_mget (pc := 46) hX 51 rfl rfl q1789 dX5_goesBack_46 ?_
      refine zr_iconst (pc := 49) hX zci_1 dX5_goesBack_49 ?_
      refine zr_isub (pc := 50) hX dX5_goesBack_50 ?_
      refine zr_iconst (pc := 51) hX zci_0 dX5_goesBack_51 ?_
      obtain ⟨st6, gst6, h⟩ := bnd h
      refine zr_mastZ (pc := 52) hX 54 rfl rfl rfl gst6 dX5_goesBack_52 ?_
      exact (hJt4 st6 (Option.some.inj h).symm).sub [0] rfl
  refine VW.sub (lv' := [(0, .ref am)]) ?_ [0] rfl
  refine zloop_walk (V := (fun a => VW K (zMw am a b) sz 0 0 0 [(0, .ref am)] [])) (E := fun e => e = t3) ?_ n st _ gt3 rfl
  intro a1 o2 h kco2 keo2
  unfold fX5_goesBack_L0 at h
  refine zr_aload_n (pc := 0) hX 0 rfl rfl dX5_goesBack_0 ?_
  refine zr_mget (pc := 1) hX 51 rfl rfl q1789 dX5_goesBack_1 ?_
  refine zr_if_le (pc := 4) hX 34 rfl dX5_goesBack_4 (fun c4_10 => ?_) (fun c4_10 => ?_)
  · rw [if_pos c4_10] at h
    exact (hJt3 a1 (keo2 _ (Option.some.inj h).symm)).sub [0] rfl
  · rw [if_neg c4_10] at h
    refine zr_aload_n (pc := 7) hX 0 rfl rfl dX5_goesBack_7 ?_
    refine zr_mgetA (pc := 8) hX 54 rfl rfl q1792 dX5_goesBack_8 ?_
    refine zr_aload_n (pc := 11) hX 0 rfl rfl dX5_goesBack_11 ?_
    refine zr_mget (pc := 12) hX 51 rfl rfl q1789 dX5_goesBack_12 ?_
    refine zr_iconst (pc := 15) hX zci_1 dX5_goesBack_15 ?_
    refine zr_isub (pc := 16) hX dX5_goesBack_16 ?_
    obtain ⟨x8, gx8, h⟩ := bnd h
    refine zr_maldZ (pc := 17) hX 54 rfl rfl rfl gx8 dX5_goesBack_17 ?_
    refine zr_if_ne (pc := 18) hX 34 rfl dX5_goesBack_18 (fun c18_9 => ?_) (fun c18_9 => ?_)
    · rw [if_neg c18_9] at h
      exact (hJt3 a1 (keo2 _ (Option.some.inj h).symm)).sub [0] rfl
    · rw [if_pos c18_9] at h
      refine zr_aload_n (pc := 21) hX 0 rfl rfl dX5_goesBack_21 ?_
      refine zr_dup (pc := 22) hX rfl dX5_goesBack_22 ?_
      refine zr_mget (pc := 23) hX 51 rfl rfl q1789 dX5_goesBack_23 ?_
      refine zr_iconst (pc := 26) hX zci_1 dX5_goesBack_26 ?_
      refine zr_isub (pc := 27) hX dX5_goesBack_27 ?_
      obtain ⟨st9, gst9, h⟩ := bnd h
      refine zr_mput (pc := 28) hX 51 (Option.some.inj gst9) rfl rfl rfl rfl q1789 dX5_goesBack_28 ?_
      refine zr_goto (pc := 31) hX 0 rfl dX5_goesBack_31 ?_
      exact (kco2 st9 (Option.some.inj h).symm).sub [0] rfl
set_option maxHeartbeats 4000000 in
theorem mX5_isFixed (l : Launch) (s0 : State) (D : zD) {n : Nat} {am : Nat} {st : zMS} {b : zH} {sz : Nat} {p0 : Int32} {o : Int32} (h : fX5_isFixed n st p0 = some o) : zM l s0 D yX5_isFixed cX5_isFixed 2 (some .boolean) 2 22 0 0 [.ref am, .int p0] (zMw am st b) sz (zMw am st b) sz (some (.int o)) := by
  refine zenter (own := RX5) zplX5 rfl (Nat.le_of_ble_eq_true rfl) trivial (fun K hX hnm hret => ?_)
  unfold fX5_isFixed at h
  show VW K (zMw am st b) sz 0 0 0 [(0, .ref am), (1, .int p0)] []
  refine zr_aload_n (pc := 0) hX 0 rfl rfl dX5_isFixed_0 ?_
  refine zr_mgetA (pc := 1) hX 34 rfl rfl q1772 dX5_isFixed_1 ?_
  refine zr_iload_n (pc := 4) hX 1 rfl rfl dX5_isFixed_4 ?_
  obtain ⟨x1, gx1, h⟩ := bnd h
  refine zr_mald (pc := 5) hX 34 rfl rfl rfl gx1 dX5_isFixed_5 ?_
  obtain ⟨t2, gt2, h⟩ := bnd h
  refine zr_callS (pc := 6) (stk' := [.int t2]) (k' := 0) (n' := 0) hX (fun l s0 D => mX5_count l s0 D gt2) zwX5_count q2197 q2198 rfl rfl rfl rfl rfl rfl rfl rfl dX5_isFixed_6 ?_
  refine zr_iconst (pc := 9) hX zci_1 dX5_isFixed_9 ?_
  refine zr_icmp_ne (pc := 10) hX 17 rfl dX5_isFixed_10 (fun c10_2 => ?_) (fun c10_2 => ?_)
  · rw [if_neg c10_2] at h
    refine zr_iconst (pc := 17) hX zci_0 dX5_isFixed_17 ?_
    obtain rfl := Option.some.inj h
    exact hret _ _ dX5_isFixed_18 (Or.inr ⟨rfl, Or.inl rfl⟩)
  · rw [if_pos c10_2] at h
    refine zr_iconst (pc := 13) hX zci_1 dX5_isFixed_13 ?_
    refine zr_goto (pc := 14) hX 18 rfl dX5_isFixed_14 ?_
    obtain rfl := Option.some.inj h
    exact hret _ _ dX5_isFixed_18 (Or.inr ⟨rfl, Or.inr rfl⟩)
set_option maxHeartbeats 4000000 in
theorem mX5_isSolution (l : Launch) (s0 : State) (D : zD) {n : Nat} {am : Nat} {st : zMS} {b : zH} {sz : Nat} {o : Int32} (h : fX5_isSolution n st = some o) : zM l s0 D yX5_isSolution cX5_isSolution 3 (some .boolean) 3 43 0 0 [.ref am] (zMw am st b) sz (zMw am st b) sz (some (.int o)) := by
  refine zenter (own := RX5) zplX5 rfl (Nat.le_of_ble_eq_true rfl) trivial (fun K hX hnm hret => ?_)
  unfold fX5_isSolution at h
  show VW K (zMw am st b) sz 0 0 0 [(0, .ref am)] []
  refine zr_aload_n (pc := 0) hX 0 rfl rfl dX5_isSolution_0 ?_
  refine zr_mget (pc := 1) hX 37 rfl rfl q1775 dX5_isSolution_1 ?_
  obtain ⟨t1, gt1, h⟩ := bnd h
  have hJt1 : ∀ a, t1 = a → VW K (zMw am st b) sz 0 0 12 [(0, .ref am)] [.int a] := by
    intro a ea
    subst ea
    refine zr_istore_n (pc := 12) hX rfl rfl (Nat.le_of_ble_eq_true rfl) rfl dX5_isSolution_12 ?_
    refine zr_iconst (pc := 13) hX zci_0 dX5_isSolution_13 ?_
    refine zr_istore_n (pc := 14) hX rfl rfl (Nat.le_of_ble_eq_true rfl) rfl dX5_isSolution_14 ?_
    refine VW.sub (lv' := [(0, .ref am), (1, .int t1), (2, .int (0 : Int32))]) ?_ [2, 1, 0] rfl
    refine zloop_walk (V := (fun a => VW K (zMw am st b) sz 0 0 15 [(0, .ref am), (1, .int a.1), (2, .int a.2)] [])) (E := fun e => e = o) ?_ n (t1, (0 : Int32)) _ h rfl
    intro a2 o3 h kco3 keo3
    unfold fX5_isSolution_L15 at h
    refine zr_iload_n (pc := 15) hX 2 rfl rfl dX5_isSolution_15 ?_
    refine zr_aload_n (pc := 16) hX 0 rfl rfl dX5_isSolution_16 ?_
    refine zr_mget (pc := 17) hX 0 rfl rfl q1738 dX5_isSolution_17 ?_
    refine zr_icmp_ge (pc := 20) hX 55 rfl dX5_isSolution_20 (fun c20_13 => ?_) (fun c20_13 => ?_)
    · rw [if_pos c20_13] at h
      refine zr_iload_n (pc := 55) hX 1 rfl rfl dX5_isSolution_55 ?_
      obtain ⟨x4, gx4, h⟩ := bnd h
      rw [(zq_spec gx4).1] at h
      replace h := congrArg some (keo3 _ (Option.some.inj h).symm)
      obtain rfl := Option.some.inj h
      exact hret _ _ dX5_isSolution_56 (Or.inr ⟨rfl, (zq_spec gx4).2⟩)
    · rw [if_neg c20_13] at h
      refine zr_iload_n (pc := 23) hX 1 rfl rfl dX5_isSolution_23 ?_
      refine zr_aload_n (pc := 24) hX 0 rfl rfl dX5_isSolution_24 ?_
      refine zr_mgetA (pc := 25) hX 1 rfl rfl q1739 dX5_isSolution_25 ?_
      refine zr_iload_n (pc := 28) hX 2 rfl rfl dX5_isSolution_28 ?_
      obtain ⟨x5, gx5, h⟩ := bnd h
      refine zr_mald (pc := 29) hX 1 rfl rfl rfl gx5 dX5_isSolution_29 ?_
      refine zr_iconst (pc := 30) hX zci_3 dX5_isSolution_30 ?_
      obtain ⟨t6, gt6, h⟩ := bnd h
      have hJt6 : ∀ a, t6 = a → VW K (zMw am st b) sz 0 0 47 [(0, .ref am), (2, .int a2.2)] [.int a, .int a2.1] := by
        intro a ea
        subst ea
        refine zr_iand (pc := 47) hX dX5_isSolution_47 ?_
        obtain ⟨x7, gx7, h⟩ := bnd h
        refine zr_istore_n (pc := 48) hX (Option.some.inj gx7) rfl (Nat.le_of_ble_eq_true rfl) rfl dX5_isSolution_48 ?_
        obtain ⟨x8, gx8, h⟩ := bnd h
        refine zr_iinc (pc := 49) hX 2 rfl zci_1 (Option.some.inj gx8) (Nat.le_of_ble_eq_true rfl) rfl dX5_isSolution_49 ?_
        refine zr_goto (pc := 52) hX 15 rfl dX5_isSolution_52 ?_
        exact (kco3 (x7, x8) (Option.some.inj h).symm).sub [2, 1, 0] rfl
      replace h := gt6
      obtain ⟨u10, gu10, hAu10, hBu10⟩ := zesc_bnd h
      have hJt9 : ∀ a, u10 = .inl a → VW K (zMw am st b) sz 0 0 42 [(0, .ref am), (2, .int a2.2)] [.int a2.1] := by
        intro t9 ea
        have h := hAu10 _ ea
        refine zr_iconst (pc := 42) hX zci_1 dX5_isSolution_42 ?_
        refine zr_goto (pc := 43) hX 47 rfl dX5_isSolution_43 ?_
        exact (hJt6 (1 : Int32) (Option.some.inj h).symm).sub [0, 1] rfl
      replace h := gu10
      refine zr_icmp_eq (pc := 31) hX 42 rfl dX5_isSolution_31 (fun c31_12 => ?_) (fun c31_12 => ?_)
      · rw [if_pos c31_12] at h
        exact (hJt9 () (Option.some.inj h).symm).sub [0, 2] rfl
      · rw [if_neg c31_12] at h
        refine zr_aload_n (pc := 34) hX 0 rfl rfl dX5_isSolution_34 ?_
        refine zr_iload_n (pc := 35) hX 2 rfl rfl dX5_isSolution_35 ?_
        obtain ⟨t11, gt11, h⟩ := bnd h
        refine zr_callV (pc := 36) (stk' := [.int t11, .int a2.1]) (k' := 0) (n' := 0) hX (fun l s0 D => mX5_isFixed l s0 D gt11) (zMw_obj _ _ _) (ci := 4) rfl zwX5_isFixed q2332 q2334 qs100 rfl rfl rfl rfl rfl rfl rfl rfl rfl dX5_isSolution_36 ?_
        refine zr_if_eq (pc := 39) hX 46 rfl dX5_isSolution_39 (fun c39_11 => ?_) (fun c39_11 => ?_)
        · rw [if_pos c39_11] at h
          refine zr_iconst (pc := 46) hX zci_0 dX5_isSolution_46 ?_
          replace h := congrArg some (hBu10 _ (Option.some.inj h).symm)
          exact (hJt6 (0 : Int32) (Option.some.inj h).symm).sub [0, 2] rfl
        · rw [if_neg c39_11] at h
          exact (hJt9 () (Option.some.inj h).symm).sub [0, 2] rfl
  replace h := gt1
  refine zr_if_ne (pc := 4) hX 11 rfl dX5_isSolution_4 (fun c4_14 => ?_) (fun c4_14 => ?_)
  · rw [if_neg c4_14] at h
    refine zr_iconst (pc := 11) hX zci_0 dX5_isSolution_11 ?_
    exact (hJt1 (0 : Int32) (Option.some.inj h).symm).sub [0] rfl
  · rw [if_pos c4_14] at h
    refine zr_iconst (pc := 7) hX zci_1 dX5_isSolution_7 ?_
    refine zr_goto (pc := 8) hX 12 rfl dX5_isSolution_8 ?_
    exact (hJt1 (1 : Int32) (Option.some.inj h).symm).sub [0] rfl
set_option maxHeartbeats 4000000 in
theorem mX5_keepsSolution (l : Launch) (s0 : State) (D : zD) {n : Nat} {am : Nat} {st : zMS} {b : zH} {sz : Nat} {o : zMS} (h : fX5_keepsSolution n st = some o) : zM l s0 D yX5_keepsSolution cX5_keepsSolution 2 none 3 43 0 0 [.ref am] (zMw am st b) sz (zMw am o b) sz none := by
  refine zenter (own := RX5) zplX5 rfl (Nat.le_of_ble_eq_true rfl) rfl (fun K hX hnm hret => ?_)
  unfold fX5_keepsSolution at h
  show VW K (zMw am st b) sz 0 0 0 [(0, .ref am)] []
  refine zr_aload_n (pc := 0) hX 0 rfl rfl dX5_keepsSolution_0 ?_
  refine zr_aload_n (pc := 1) hX 0 rfl rfl dX5_keepsSolution_1 ?_
  refine zr_mget (pc := 2) hX 0 rfl rfl q1738 dX5_keepsSolution_2 ?_
  obtain ⟨st1, gst1, h⟩ := bnd h
  refine zr_mput (pc := 5) hX 49 (Option.some.inj gst1) rfl rfl rfl rfl q1787 dX5_keepsSolution_5 ?_
  refine zr_iconst (pc := 8) hX zci_0 dX5_keepsSolution_8 ?_
  refine zr_istore_n (pc := 9) hX rfl rfl (Nat.le_of_ble_eq_true rfl) rfl dX5_keepsSolution_9 ?_
  refine VW.sub (lv' := [(0, .ref am), (1, .int (0 : Int32))]) ?_ [1, 0] rfl
  refine zloop_walk (V := (fun a => VW K (zMw am a.1 b) sz 0 0 10 [(0, .ref am), (1, .int a.2)] [])) (E := fun e => e = o) ?_ n (st1, (0 : Int32)) _ h rfl
  intro a2 o3 h kco3 keo3
  unfold fX5_keepsSolution_L10 at h
  refine zr_iload_n (pc := 10) hX 1 rfl rfl dX5_keepsSolution_10 ?_
  refine zr_aload_n (pc := 11) hX 0 rfl rfl dX5_keepsSolution_11 ?_
  refine zr_mget (pc := 12) hX 0 rfl rfl q1738 dX5_keepsSolution_12 ?_
  refine zr_icmp_ge (pc := 15) hX 36 rfl dX5_keepsSolution_15 (fun c15_6 => ?_) (fun c15_6 => ?_)
  · rw [if_pos c15_6] at h
    replace h := congrArg some (keo3 _ (Option.some.inj h).symm)
    obtain rfl := Option.some.inj h
    exact hret _ _ dX5_keepsSolution_36
  · rw [if_neg c15_6] at h
    refine zr_aload_n (pc := 18) hX 0 rfl rfl dX5_keepsSolution_18 ?_
    refine zr_mgetA (pc := 19) hX 50 rfl rfl q1788 dX5_keepsSolution_19 ?_
    refine zr_iload_n (pc := 22) hX 1 rfl rfl dX5_keepsSolution_22 ?_
    refine zr_aload_n (pc := 23) hX 0 rfl rfl dX5_keepsSolution_23 ?_
    refine zr_iload_n (pc := 24) hX 1 rfl rfl dX5_keepsSolution_24 ?_
    refine zr_iconst (pc := 25) hX zci_0 dX5_keepsSolution_25 ?_
    obtain ⟨t4, gt4, h⟩ := bnd h
    refine zr_callV (pc := 26) (stk' := [.int t4, .int a2.2, .ref (am + zMo 50)]) (k' := 0) (n' := 0) hX (fun l s0 D => mX5_end l s0 D gt4) (zMw_obj _ _ _) (ci := 4) rfl zwX5_end q2171 q2173 qs77 rfl rfl rfl rfl rfl rfl rfl rfl rfl dX5_keepsSolution_26 ?_
    obtain ⟨st5, gst5, h⟩ := bnd h
    refine zr_mast (pc := 29) hX 50 rfl rfl rfl gst5 dX5_keepsSolution_29 ?_
    obtain ⟨x6, gx6, h⟩ := bnd h
    refine zr_iinc (pc := 30) hX 1 rfl zci_1 (Option.some.inj gx6) (Nat.le_of_ble_eq_true rfl) rfl dX5_keepsSolution_30 ?_
    refine zr_goto (pc := 33) hX 10 rfl dX5_keepsSolution_33 ?_
    exact (kco3 (st5, x6) (Option.some.inj h).symm).sub [1, 0] rfl
set_option maxHeartbeats 4000000 in
theorem mX5_chosen (l : Launch) (s0 : State) (D : zD) {n : Nat} {am : Nat} {st : zMS} {b : zH} {sz : Nat} {p0 : Int32} {p1 : Int32} {o : Int32} (h : fX5_chosen n st p0 p1 = some o) : zM l s0 D yX5_chosen cX5_chosen 7 (some .int) 3 43 0 0 [.ref am, .int p0, .int p1] (zMw am st b) sz (zMw am st b) sz (some (.int o)) := by
  refine zenter (own := RX5) zplX5 rfl (Nat.le_of_ble_eq_true rfl) trivial (fun K hX hnm hret => ?_)
  unfold fX5_chosen at h
  show VW K (zMw am st b) sz 0 0 0 [(0, .ref am), (1, .int p0), (2, .int p1)] []
  refine zr_iconst (pc := 0) hX zci_0 dX5_chosen_0 ?_
  refine zr_istore_n (pc := 1) hX rfl rfl (Nat.le_of_ble_eq_true rfl) rfl dX5_chosen_1 ?_
  refine zr_iconst (pc := 2) hX zci_0 dX5_chosen_2 ?_
  refine zr_istore (pc := 3) hX rfl (Nat.le_of_ble_eq_true rfl) rfl dX5_chosen_3 ?_
  obtain ⟨t3, gt3, h⟩ := bnd h
  have hJt3 : ∀ a, a = t3 → VW K (zMw am st b) sz 0 0 51 [(0, .ref am), (1, .int p0), (2, .int p1), (3, .int a)] [] := by
    intro a ea
    rw [ea]
    refine zr_iload_n (pc := 51) hX 3 rfl rfl dX5_chosen_51 ?_
    refine zr_iload_n (pc := 52) hX 1 rfl rfl dX5_chosen_52 ?_
    refine zr_iand (pc := 53) hX dX5_chosen_53 ?_
    obtain ⟨t4, gt4, h⟩ := bnd h
    have hJt4 : ∀ a, t4 = a → VW K (zMw am st b) sz 0 0 64 [(0, .ref am), (2, .int p1)] [.int a] := by
      intro a ea
      subst ea
      refine zr_istore_n (pc := 64) hX rfl rfl (Nat.le_of_ble_eq_true rfl) rfl dX5_chosen_64 ?_
      refine zr_iconst (pc := 65) hX zci_m1 dX5_chosen_65 ?_
      refine zr_istore (pc := 66) hX rfl (Nat.le_of_ble_eq_true rfl) rfl dX5_chosen_66 ?_
      refine zr_iconst (pc := 68) hX zci_0 dX5_chosen_68 ?_
      refine zr_istore (pc := 69) hX rfl (Nat.le_of_ble_eq_true rfl) rfl dX5_chosen_69 ?_
      refine VW.sub (lv' := [(0, .ref am), (2, .int p1), (3, .int t4), (4, .int (-1 : Int32)), (5, .int (0 : Int32))]) ?_ [3, 4, 2, 1, 0] rfl
      refine zloop_walk (V := (fun a => VW K (zMw am st b) sz 0 0 71 [(0, .ref am), (2, .int p1), (3, .int t4), (4, .int a.1), (5, .int a.2)] [])) (E := fun e => e = o) ?_ n ((-1 : Int32), (0 : Int32)) _ h rfl
      intro a5 o6 h kco6 keo6
      unfold fX5_chosen_L71 at h
      refine zr_iload (pc := 71) hX 4 rfl dX5_chosen_71 ?_
      refine zr_aload_n (pc := 73) hX 0 rfl rfl dX5_chosen_73 ?_
      refine zr_mget (pc := 74) hX 0 rfl rfl q1738 dX5_chosen_74 ?_
      refine zr_icmp_ge (pc := 77) hX 149 rfl dX5_chosen_77 (fun c77_25 => ?_) (fun c77_25 => ?_)
      · rw [if_pos c77_25] at h
        refine zr_iload (pc := 149) hX 3 rfl dX5_chosen_149 ?_
        replace h := congrArg some (keo6 _ (Option.some.inj h).symm)
        obtain rfl := Option.some.inj h
        exact hret _ _ dX5_chosen_151 (Or.inl rfl)
      · rw [if_neg c77_25] at h
        refine zr_iload (pc := 80) hX 3 rfl dX5_chosen_80 ?_
        obtain ⟨t7, gt7, h⟩ := bnd h
        have hJt7 : ∀ a, t7 = a → VW K (zMw am st b) sz 0 0 118 [(0, .ref am), (2, .int p1), (3, .int t4), (4, .int a5.1), (5, .int a5.2)] [.int a] := by
          intro a ea
          subst ea
          refine zr_istore (pc := 118) hX rfl (Nat.le_of_ble_eq_true rfl) rfl dX5_chosen_118 ?_
          refine zr_iload_n (pc := 120) hX 3 rfl rfl dX5_chosen_120 ?_
          refine zr_iload (pc := 121) hX 5 rfl dX5_chosen_121 ?_
          obtain ⟨t8, gt8, h⟩ := bnd h
          refine zr_callS (pc := 123) (stk' := [.int t8]) (k' := 0) (n' := 0) hX (fun l s0 D => mX5_hasBit l s0 D gt8) zwX5_hasBit q2156 q2157 rfl rfl rfl rfl rfl rfl rfl rfl dX5_chosen_123 ?_
          obtain ⟨t9, gt9, h⟩ := bnd h
          have hJt9 : ∀ a, t9 = a → VW K (zMw am st b) sz 0 0 141 [(0, .ref am), (2, .int p1), (3, .int t4), (5, .int a5.2)] [.int a] := by
            intro a ea
            subst ea
            refine zr_istore (pc := 141) hX rfl (Nat.le_of_ble_eq_true rfl) rfl dX5_chosen_141 ?_
            obtain ⟨x10, gx10, h⟩ := bnd h
            refine zr_iinc (pc := 143) hX 4 rfl zci_1 (Option.some.inj gx10) (Nat.le_of_ble_eq_true rfl) rfl dX5_chosen_143 ?_
            refine zr_goto (pc := 146) hX 71 rfl dX5_chosen_146 ?_
            exact (kco6 (t9, x10) (Option.some.inj h).symm).sub [2, 3, 4, 1, 0] rfl
          replace h := gt9
          obtain ⟨u12, gu12, hAu12, hBu12⟩ := zesc_bnd h
          have hJt11 : ∀ a, u12 = .inl a → VW K (zMw am st b) sz 0 0 139 [(0, .ref am), (2, .int p1), (3, .int t4), (4, .int a5.1), (5, .int a5.2)] [] := by
            intro t11 ea
            have h := hAu12 _ ea
            refine zr_iload (pc := 139) hX 3 rfl dX5_chosen_139 ?_
            exact (hJt9 a5.1 (Option.some.inj h).symm).sub [0, 1, 2, 4] rfl
          replace h := gu12
          refine zr_if_eq (pc := 126) hX 139 rfl dX5_chosen_126 (fun c126_13 => ?_) (fun c126_13 => ?_)
          · rw [if_pos c126_13] at h
            exact (hJt11 () (Option.some.inj h).symm).sub [1, 2, 3, 4, 5] rfl
          · rw [if_neg c126_13] at h
            refine zr_iload (pc := 129) hX 0 rfl dX5_chosen_129 ?_
            refine zr_if_eq (pc := 131) hX 139 rfl dX5_chosen_131 (fun c131_12 => ?_) (fun c131_12 => ?_)
            · rw [if_pos c131_12] at h
              exact (hJt11 () (Option.some.inj h).symm).sub [1, 2, 3, 4, 5] rfl
            · rw [if_neg c131_12] at h
              refine zr_iload (pc := 134) hX 5 rfl dX5_chosen_134 ?_
              refine zr_goto (pc := 136) hX 141 rfl dX5_chosen_136 ?_
              replace h := congrArg some (hBu12 _ (Option.some.inj h).symm)
              exact (hJt9 a5.2 (Option.some.inj h).symm).sub [1, 2, 3, 5] rfl
        replace h := gt7
        obtain ⟨u16, gu16, hAu16, hBu16⟩ := zesc_bnd h
        have hJt15 : ∀ a, u16 = .inl a → VW K (zMw am st b) sz 0 0 113 [(0, .ref am), (2, .int p1), (3, .int t4), (4, .int a5.1), (5, .int a5.2)] [] := by
          intro t15 ea
          have h := hAu16 _ ea
          refine zr_iconst (pc := 113) hX zci_1 dX5_chosen_113 ?_
          refine zr_goto (pc := 114) hX 118 rfl dX5_chosen_114 ?_
          exact (hJt7 (1 : Int32) (Option.some.inj h).symm).sub [0, 1, 2, 3, 4] rfl
        replace h := gu16
        refine zr_if_lt (pc := 82) hX 113 rfl dX5_chosen_82 (fun c82_24 => ?_) (fun c82_24 => ?_)
        · rw [if_pos c82_24] at h
          exact (hJt15 () (Option.some.inj h).symm).sub [0, 1, 2, 3, 4] rfl
        · rw [if_neg c82_24] at h
          refine zr_iload_n (pc := 85) hX 1 rfl rfl dX5_chosen_85 ?_
          refine zr_iconst (pc := 86) hX zci_1 dX5_chosen_86 ?_
          obtain ⟨u18, gu18, hAu18, hBu18⟩ := zesc_bnd h
          have hJt17 : ∀ a, u18 = .inl a → VW K (zMw am st b) sz 0 0 117 [(0, .ref am), (2, .int p1), (3, .int t4), (4, .int a5.1), (5, .int a5.2)] [] := by
            intro t17 ea
            have h := hAu18 _ ea
            refine zr_iconst (pc := 117) hX zci_0 dX5_chosen_117 ?_
            replace h := congrArg some (hBu16 _ (Option.some.inj h).symm)
            exact (hJt7 (0 : Int32) (Option.some.inj h).symm).sub [0, 1, 2, 3, 4] rfl
          replace h := gu18
          refine zr_icmp_ne (pc := 87) hX 117 rfl dX5_chosen_87 (fun c87_23 => ?_) (fun c87_23 => ?_)
          · rw [if_neg c87_23] at h
            exact (hJt17 () (Option.some.inj h).symm).sub [0, 1, 2, 3, 4] rfl
          · rw [if_pos c87_23] at h
            refine zr_aload_n (pc := 90) hX 0 rfl rfl dX5_chosen_90 ?_
            refine zr_mgetA (pc := 91) hX 34 rfl rfl q1772 dX5_chosen_91 ?_
            refine zr_iload (pc := 94) hX 4 rfl dX5_chosen_94 ?_
            obtain ⟨x19, gx19, h⟩ := bnd h
            refine zr_mald (pc := 96) hX 34 rfl rfl rfl gx19 dX5_chosen_96 ?_
            obtain ⟨t20, gt20, h⟩ := bnd h
            refine zr_callS (pc := 97) (stk' := [.int t20]) (k' := 0) (n' := 0) hX (fun l s0 D => mX5_count l s0 D gt20) zwX5_count q2197 q2198 rfl rfl rfl rfl rfl rfl rfl rfl dX5_chosen_97 ?_
            refine zr_aload_n (pc := 100) hX 0 rfl rfl dX5_chosen_100 ?_
            refine zr_mgetA (pc := 101) hX 34 rfl rfl q1772 dX5_chosen_101 ?_
            refine zr_iload (pc := 104) hX 3 rfl dX5_chosen_104 ?_
            obtain ⟨x21, gx21, h⟩ := bnd h
            refine zr_mald (pc := 106) hX 34 rfl rfl rfl gx21 dX5_chosen_106 ?_
            obtain ⟨t22, gt22, h⟩ := bnd h
            refine zr_callS (pc := 107) (stk' := [.int t22, .int t20]) (k' := 0) (n' := 0) hX (fun l s0 D => mX5_count l s0 D gt22) zwX5_count q2197 q2198 rfl rfl rfl rfl rfl rfl rfl rfl dX5_chosen_107 ?_
            refine zr_icmp_ge (pc := 110) hX 117 rfl dX5_chosen_110 (fun c110_22 => ?_) (fun c110_22 => ?_)
            · rw [if_pos c110_22] at h
              exact (hJt17 () (Option.some.inj h).symm).sub [0, 1, 2, 3, 4] rfl
            · rw [if_neg c110_22] at h
              replace h := congrArg some (hBu18 _ (Option.some.inj h).symm)
              exact (hJt15 () (Option.some.inj h).symm).sub [0, 1, 2, 3, 4] rfl
    replace h := gt4
    refine zr_if_eq (pc := 54) hX 63 rfl dX5_chosen_54 (fun c54_26 => ?_) (fun c54_26 => ?_)
    · rw [if_pos c54_26] at h
      refine zr_iload_n (pc := 63) hX 3 rfl rfl dX5_chosen_63 ?_
      exact (hJt4 t3 (Option.some.inj h).symm).sub [0, 2] rfl
    · rw [if_neg c54_26] at h
      refine zr_iload_n (pc := 57) hX 3 rfl rfl dX5_chosen_57 ?_
      refine zr_iload_n (pc := 58) hX 1 rfl rfl dX5_chosen_58 ?_
      refine zr_iand (pc := 59) hX dX5_chosen_59 ?_
      refine zr_goto (pc := 60) hX 64 rfl dX5_chosen_60 ?_
      exact (hJt4 (t3 &&& p0) (Option.some.inj h).symm).sub [0, 2] rfl
  refine VW.sub (lv' := [(0, .ref am), (1, .int p0), (2, .int p1), (3, .int (0 : Int32)), (4, .int (0 : Int32))]) ?_ [2, 3, 4, 1, 0] rfl
  refine zloop_walk (V := (fun a => VW K (zMw am st b) sz 0 0 5 [(0, .ref am), (1, .int p0), (2, .int p1), (3, .int a.1), (4, .int a.2)] [])) (E := fun e => e = t3) ?_ n ((0 : Int32), (0 : Int32)) _ gt3 rfl
  intro a1 o2 h kco2 keo2
  unfold fX5_chosen_L5 at h
  refine zr_iload (pc := 5) hX 4 rfl dX5_chosen_5 ?_
  refine zr_aload_n (pc := 7) hX 0 rfl rfl dX5_chosen_7 ?_
  refine zr_mget (pc := 8) hX 0 rfl rfl q1738 dX5_chosen_8 ?_
  refine zr_icmp_ge (pc := 11) hX 51 rfl dX5_chosen_11 (fun c11_36 => ?_) (fun c11_36 => ?_)
  · rw [if_pos c11_36] at h
    exact (hJt3 a1.1 (keo2 _ (Option.some.inj h).symm)).sub [0, 1, 2, 3] rfl
  · rw [if_neg c11_36] at h
    refine zr_iload_n (pc := 14) hX 3 rfl rfl dX5_chosen_14 ?_
    refine zr_aload_n (pc := 15) hX 0 rfl rfl dX5_chosen_15 ?_
    refine zr_mgetA (pc := 16) hX 1 rfl rfl q1739 dX5_chosen_16 ?_
    refine zr_iload (pc := 19) hX 4 rfl dX5_chosen_19 ?_
    obtain ⟨x28, gx28, h⟩ := bnd h
    refine zr_mald (pc := 21) hX 1 rfl rfl rfl gx28 dX5_chosen_21 ?_
    refine zr_iconst (pc := 22) hX zci_3 dX5_chosen_22 ?_
    obtain ⟨t29, gt29, h⟩ := bnd h
    have hJt29 : ∀ a, t29 = a → VW K (zMw am st b) sz 0 0 43 [(0, .ref am), (1, .int p0), (2, .int p1), (4, .int a1.2)] [.int a, .int a1.1] := by
      intro a ea
      subst ea
      refine zr_ior (pc := 43) hX dX5_chosen_43 ?_
      obtain ⟨x30, gx30, h⟩ := bnd h
      refine zr_istore_n (pc := 44) hX (Option.some.inj gx30) rfl (Nat.le_of_ble_eq_true rfl) rfl dX5_chosen_44 ?_
      obtain ⟨x31, gx31, h⟩ := bnd h
      refine zr_iinc (pc := 45) hX 4 rfl zci_1 (Option.some.inj gx31) (Nat.le_of_ble_eq_true rfl) rfl dX5_chosen_45 ?_
      refine zr_goto (pc := 48) hX 5 rfl dX5_chosen_48 ?_
      exact (kco2 (x30, x31) (Option.some.inj h).symm).sub [2, 3, 4, 1, 0] rfl
    replace h := gt29
    obtain ⟨u33, gu33, hAu33, hBu33⟩ := zesc_bnd h
    have hJt32 : ∀ a, u33 = .inl a → VW K (zMw am st b) sz 0 0 42 [(0, .ref am), (1, .int p0), (2, .int p1), (4, .int a1.2)] [.int a1.1] := by
      intro t32 ea
      have h := hAu33 _ ea
      refine zr_iconst (pc := 42) hX zci_0 dX5_chosen_42 ?_
      exact (hJt29 (0 : Int32) (Option.some.inj h).symm).sub [0, 1, 2, 3] rfl
    replace h := gu33
    refine zr_icmp_eq (pc := 23) hX 42 rfl dX5_chosen_23 (fun c23_35 => ?_) (fun c23_35 => ?_)
    · rw [if_pos c23_35] at h
      exact (hJt32 () (Option.some.inj h).symm).sub [0, 1, 2, 4] rfl
    · rw [if_neg c23_35] at h
      refine zr_aload_n (pc := 26) hX 0 rfl rfl dX5_chosen_26 ?_
      refine zr_iload (pc := 27) hX 4 rfl dX5_chosen_27 ?_
      obtain ⟨t34, gt34, h⟩ := bnd h
      refine zr_callV (pc := 29) (stk' := [.int t34, .int a1.1]) (k' := 0) (n' := 0) hX (fun l s0 D => mX5_isFixed l s0 D gt34) (zMw_obj _ _ _) (ci := 4) rfl zwX5_isFixed q2332 q2334 qs100 rfl rfl rfl rfl rfl rfl rfl rfl rfl dX5_chosen_29 ?_
      refine zr_if_ne (pc := 32) hX 42 rfl dX5_chosen_32 (fun c32_34 => ?_) (fun c32_34 => ?_)
      · rw [if_neg c32_34] at h
        exact (hJt32 () (Option.some.inj h).symm).sub [0, 1, 2, 4] rfl
      · rw [if_pos c32_34] at h
        refine zr_iconst (pc := 35) hX zci_1 dX5_chosen_35 ?_
        refine zr_iload (pc := 36) hX 4 rfl dX5_chosen_36 ?_
        refine zr_ishl (pc := 38) hX dX5_chosen_38 ?_
        refine zr_goto (pc := 39) hX 43 rfl dX5_chosen_39 ?_
        replace h := congrArg some (hBu33 _ (Option.some.inj h).symm)
        exact (hJt29 ((1 : Int32) <<< (a1.2 &&& 31)) (Option.some.inj h).symm).sub [0, 1, 2, 4] rfl
set_option maxHeartbeats 4000000 in
theorem mX5_valueBy (l : Launch) (s0 : State) (D : zD) {n : Nat} {am : Nat} {st : zMS} {b : zH} {sz : Nat} {p0 : Int32} {p1 : Int32} {o : Int32} (h : fX5_valueBy n st p0 p1 = some o) : zM l s0 D yX5_valueBy cX5_valueBy 3 (some .int) 2 21 0 0 [.ref am, .int p0, .int p1] (zMw am st b) sz (zMw am st b) sz (some (.int o)) := by
  refine zenter (own := RX5) zplX5 rfl (Nat.le_of_ble_eq_true rfl) trivial (fun K hX hnm hret => ?_)
  unfold fX5_valueBy at h
  show VW K (zMw am st b) sz 0 0 0 [(0, .ref am), (1, .int p0), (2, .int p1)] []
  refine zr_iload_n (pc := 0) hX 2 rfl rfl dX5_valueBy_0 ?_
  refine zr_iconst (pc := 1) hX zci_2 dX5_valueBy_1 ?_
  obtain ⟨u7, gu7, hAu7, hBu7⟩ := zesc_bnd h
  have hJt1 : ∀ a, u7 = .inl a → VW K (zMw am st b) sz 0 0 43 [(0, .ref am), (1, .int p0), (2, .int p1)] [] := by
    intro t1 ea
    have h := hAu7 _ ea
    refine zr_iload_n (pc := 43) hX 2 rfl rfl dX5_valueBy_43 ?_
    refine zr_iconst (pc := 44) hX zci_1 dX5_valueBy_44 ?_
    refine zr_icmp_ne (pc := 45) hX 60 rfl dX5_valueBy_45 (fun c45_5 => ?_) (fun c45_5 => ?_)
    · rw [if_neg c45_5] at h
      refine zr_aload_n (pc := 60) hX 0 rfl rfl dX5_valueBy_60 ?_
      refine zr_mgetA (pc := 61) hX 34 rfl rfl q1772 dX5_valueBy_61 ?_
      refine zr_iload_n (pc := 64) hX 1 rfl rfl dX5_valueBy_64 ?_
      obtain ⟨x2, gx2, h⟩ := bnd h
      refine zr_mald (pc := 65) hX 34 rfl rfl rfl gx2 dX5_valueBy_65 ?_
      obtain ⟨t3, gt3, h⟩ := bnd h
      refine zr_callS (pc := 66) (stk' := [.int t3]) (k' := 0) (n' := 0) hX (fun l s0 D => mX5_lowest l s0 D gt3) zwX5_lowest q2178 q2179 rfl rfl rfl rfl rfl rfl rfl rfl dX5_valueBy_66 ?_
      obtain rfl := Option.some.inj h
      exact hret _ _ dX5_valueBy_69 (Or.inl rfl)
    · rw [if_pos c45_5] at h
      refine zr_aload_n (pc := 48) hX 0 rfl rfl dX5_valueBy_48 ?_
      refine zr_mgetA (pc := 49) hX 34 rfl rfl q1772 dX5_valueBy_49 ?_
      refine zr_iload_n (pc := 52) hX 1 rfl rfl dX5_valueBy_52 ?_
      obtain ⟨x4, gx4, h⟩ := bnd h
      refine zr_mald (pc := 53) hX 34 rfl rfl rfl gx4 dX5_valueBy_53 ?_
      obtain ⟨t5, gt5, h⟩ := bnd h
      refine zr_callS (pc := 54) (stk' := [.int t5]) (k' := 0) (n' := 0) hX (fun l s0 D => mX5_highest l s0 D gt5) zwX5_highest q2175 q2176 rfl rfl rfl rfl rfl rfl rfl rfl dX5_valueBy_54 ?_
      refine zr_goto (pc := 57) hX 69 rfl dX5_valueBy_57 ?_
      obtain rfl := Option.some.inj h
      exact hret _ _ dX5_valueBy_69 (Or.inl rfl)
  replace h := gu7
  refine zr_icmp_ne (pc := 2) hX 43 rfl dX5_valueBy_2 (fun c2_14 => ?_) (fun c2_14 => ?_)
  · rw [if_neg c2_14] at h
    exact (hJt1 () (Option.some.inj h).symm).sub [0, 1, 2] rfl
  · rw [if_pos c2_14] at h
    refine zr_aload_n (pc := 5) hX 0 rfl rfl dX5_valueBy_5 ?_
    refine zr_mgetA (pc := 6) hX 45 rfl rfl q1783 dX5_valueBy_6 ?_
    refine zr_iload_n (pc := 9) hX 1 rfl rfl dX5_valueBy_9 ?_
    obtain ⟨x8, gx8, h⟩ := bnd h
    refine zr_mald (pc := 10) hX 45 rfl rfl rfl gx8 dX5_valueBy_10 ?_
    refine zr_if_le (pc := 11) hX 43 rfl dX5_valueBy_11 (fun c11_13 => ?_) (fun c11_13 => ?_)
    · rw [if_pos c11_13] at h
      exact (hJt1 () (Option.some.inj h).symm).sub [0, 1, 2] rfl
    · rw [if_neg c11_13] at h
      refine zr_aload_n (pc := 14) hX 0 rfl rfl dX5_valueBy_14 ?_
      refine zr_mgetA (pc := 15) hX 34 rfl rfl q1772 dX5_valueBy_15 ?_
      refine zr_iload_n (pc := 18) hX 1 rfl rfl dX5_valueBy_18 ?_
      obtain ⟨x9, gx9, h⟩ := bnd h
      refine zr_mald (pc := 19) hX 34 rfl rfl rfl gx9 dX5_valueBy_19 ?_
      refine zr_aload_n (pc := 20) hX 0 rfl rfl dX5_valueBy_20 ?_
      refine zr_mgetA (pc := 21) hX 45 rfl rfl q1783 dX5_valueBy_21 ?_
      refine zr_iload_n (pc := 24) hX 1 rfl rfl dX5_valueBy_24 ?_
      obtain ⟨x10, gx10, h⟩ := bnd h
      refine zr_mald (pc := 25) hX 45 rfl rfl rfl gx10 dX5_valueBy_25 ?_
      refine zr_iconst (pc := 26) hX zci_1 dX5_valueBy_26 ?_
      refine zr_isub (pc := 27) hX dX5_valueBy_27 ?_
      obtain ⟨t11, gt11, h⟩ := bnd h
      refine zr_callS (pc := 28) (stk' := [.int t11]) (k' := 0) (n' := 0) hX (fun l s0 D => mX5_hasBit l s0 D gt11) zwX5_hasBit q2156 q2157 rfl rfl rfl rfl rfl rfl rfl rfl dX5_valueBy_28 ?_
      refine zr_if_eq (pc := 31) hX 43 rfl dX5_valueBy_31 (fun c31_12 => ?_) (fun c31_12 => ?_)
      · rw [if_pos c31_12] at h
        exact (hJt1 () (Option.some.inj h).symm).sub [0, 1, 2] rfl
      · rw [if_neg c31_12] at h
        refine zr_aload_n (pc := 34) hX 0 rfl rfl dX5_valueBy_34 ?_
        refine zr_mgetA (pc := 35) hX 45 rfl rfl q1783 dX5_valueBy_35 ?_
        refine zr_iload_n (pc := 38) hX 1 rfl rfl dX5_valueBy_38 ?_
        obtain ⟨x12, gx12, h⟩ := bnd h
        refine zr_mald (pc := 39) hX 45 rfl rfl rfl gx12 dX5_valueBy_39 ?_
        refine zr_iconst (pc := 40) hX zci_1 dX5_valueBy_40 ?_
        refine zr_isub (pc := 41) hX dX5_valueBy_41 ?_
        replace h := congrArg some (hBu7 _ (Option.some.inj h).symm)
        obtain rfl := Option.some.inj h
        exact hret _ _ dX5_valueBy_42 (Or.inl rfl)
set_option maxHeartbeats 4000000 in
theorem mX5_goesDown (l : Launch) (s0 : State) (D : zD) {am : Nat} {st : zMS} {b : zH} {sz : Nat} {p0 : Int32} {p1 : Int32} {o : zMS} (h : fX5_goesDown st p0 p1 = some o) : zM l s0 D yX5_goesDown cX5_goesDown 3 none 1 0 0 0 [.ref am, .int p0, .int p1] (zMw am st b) sz (zMw am o b) sz none := by
  refine zenter (own := RX5) zplX5 rfl (Nat.le_of_ble_eq_true rfl) rfl (fun K hX hnm hret => ?_)
  unfold fX5_goesDown at h
  show VW K (zMw am st b) sz 0 0 0 [(0, .ref am), (1, .int p0), (2, .int p1)] []
  refine zr_aload_n (pc := 0) hX 0 rfl rfl dX5_goesDown_0 ?_
  refine zr_mgetA (pc := 1) hX 52 rfl rfl q1790 dX5_goesDown_1 ?_
  refine zr_aload_n (pc := 4) hX 0 rfl rfl dX5_goesDown_4 ?_
  refine zr_mget (pc := 5) hX 51 rfl rfl q1789 dX5_goesDown_5 ?_
  refine zr_iload_n (pc := 8) hX 1 rfl rfl dX5_goesDown_8 ?_
  obtain ⟨st1, gst1, h⟩ := bnd h
  refine zr_mast (pc := 9) hX 52 rfl rfl rfl gst1 dX5_goesDown_9 ?_
  refine zr_aload_n (pc := 10) hX 0 rfl rfl dX5_goesDown_10 ?_
  refine zr_mgetA (pc := 11) hX 53 rfl rfl q1791 dX5_goesDown_11 ?_
  refine zr_aload_n (pc := 14) hX 0 rfl rfl dX5_goesDown_14 ?_
  refine zr_mget (pc := 15) hX 51 rfl rfl q1789 dX5_goesDown_15 ?_
  refine zr_iload_n (pc := 18) hX 2 rfl rfl dX5_goesDown_18 ?_
  obtain ⟨st2, gst2, h⟩ := bnd h
  refine zr_mast (pc := 19) hX 53 rfl rfl rfl gst2 dX5_goesDown_19 ?_
  refine zr_aload_n (pc := 20) hX 0 rfl rfl dX5_goesDown_20 ?_
  refine zr_mgetA (pc := 21) hX 54 rfl rfl q1792 dX5_goesDown_21 ?_
  refine zr_aload_n (pc := 24) hX 0 rfl rfl dX5_goesDown_24 ?_
  refine zr_mget (pc := 25) hX 51 rfl rfl q1789 dX5_goesDown_25 ?_
  refine zr_iconst (pc := 28) hX zci_1 dX5_goesDown_28 ?_
  obtain ⟨st3, gst3, h⟩ := bnd h
  refine zr_mastZ (pc := 29) hX 54 rfl rfl rfl gst3 dX5_goesDown_29 ?_
  refine zr_aload_n (pc := 30) hX 0 rfl rfl dX5_goesDown_30 ?_
  refine zr_dup (pc := 31) hX rfl dX5_goesDown_31 ?_
  refine zr_mget (pc := 32) hX 51 rfl rfl q1789 dX5_goesDown_32 ?_
  refine zr_iconst (pc := 35) hX zci_1 dX5_goesDown_35 ?_
  refine zr_iadd (pc := 36) hX dX5_goesDown_36 ?_
  obtain ⟨st4, gst4, h⟩ := bnd h
  refine zr_mput (pc := 37) hX 51 (Option.some.inj gst4) rfl rfl rfl rfl q1789 dX5_goesDown_37 ?_
  obtain rfl := Option.some.inj h
  exact hret _ _ dX5_goesDown_40
set_option maxHeartbeats 4000000 in
theorem mX5_search (l : Launch) (s0 : State) (D : zD) {n : Nat} {am : Nat} {st : zMS} {b : zH} {sz : Nat} {p0 : Int32} {p1 : Int32} {p2 : Int32} {p3 : Int32} {p4 : Int32} {o : zMS × Int32} (h : fX5_search n st p0 p1 p2 p3 p4 = some o) : zM l s0 D yX5_search cX5_search 12 (some .int) 10 208 0 0 [.ref am, .int p0, .int p1, .int p2, .int p3, .int p4] (zMw am st b) sz (zMw am o.1 b) sz (some (.int o.2)) := by
  refine zenter (own := RX5) zplX5 rfl (Nat.le_of_ble_eq_true rfl) trivial (fun K hX hnm hret => ?_)
  unfold fX5_search at h
  show VW K (zMw am st b) sz 0 0 0 [(0, .ref am), (1, .int p0), (2, .int p1), (3, .int p2), (4, .int p3), (5, .int p4)] []
  refine zr_iload_n (pc := 0) hX 1 rfl rfl dX5_search_0 ?_
  refine zr_iconst (pc := 1) hX zci_0 dX5_search_1 ?_
  refine zr_sipush (pc := 2) hX zcs_1023 dX5_search_2 ?_
  obtain ⟨t1, gt1, h⟩ := bnd h
  refine zr_callS (pc := 5) (stk' := [.int t1]) (k' := 0) (n' := 0) hX (fun l s0 D => mX5_isIn l s0 D gt1) zwX5_isIn q1963 q1964 rfl rfl rfl rfl rfl rfl rfl rfl dX5_search_5 ?_
  obtain ⟨t2, gt2, h⟩ := bnd h
  have hJt2 : ∀ a, t2 = a → VW K (zMw am st b) sz 0 0 55 [(0, .ref am), (1, .int p0), (2, .int p1), (3, .int p2), (4, .int p3), (5, .int p4)] [.int a] := by
    intro a ea
    subst ea
    refine zr_istore (pc := 55) hX rfl (Nat.le_of_ble_eq_true rfl) rfl dX5_search_55 ?_
    refine zr_aload_n (pc := 57) hX 1 rfl rfl dX5_search_57 ?_
    refine zr_iload (pc := 58) hX 0 rfl dX5_search_58 ?_
    obtain ⟨t3, gt3, h⟩ := bnd h
    have hJt3 : ∀ a, t3 = a → VW K (zMw am st b) sz 0 0 68 [(0, .ref am), (1, .int p0), (2, .int p1), (3, .int p2), (4, .int p3), (5, .int p4)] [.int a, .ref am] := by
      intro a ea
      subst ea
      obtain ⟨st4, gst4, h⟩ := bnd h
      refine zr_mput (pc := 68) hX 68 (Option.some.inj gst4) rfl rfl rfl rfl q1806 dX5_search_68 ?_
      refine zr_aload_n (pc := 71) hX 0 rfl rfl dX5_search_71 ?_
      refine zr_mget (pc := 72) hX 68 rfl rfl q1806 dX5_search_72 ?_
      refine zr_if_le (pc := 75) hX 80 rfl dX5_search_75 (fun c75_37 => ?_) (fun c75_37 => ?_)
      · rw [if_pos c75_37] at h
        refine zr_aload_n (pc := 80) hX 0 rfl rfl dX5_search_80 ?_
        refine zr_iconst (pc := 81) hX zci_0 dX5_search_81 ?_
        obtain ⟨st5, gst5, h⟩ := bnd h
        refine zr_mput (pc := 82) hX 46 (Option.some.inj gst5) rfl rfl rfl rfl q1784 dX5_search_82 ?_
        refine zr_aload_n (pc := 85) hX 0 rfl rfl dX5_search_85 ?_
        refine zr_iconst (pc := 86) hX zci_0 dX5_search_86 ?_
        obtain ⟨st6, gst6, h⟩ := bnd h
        refine zr_mput (pc := 87) hX 47 (Option.some.inj gst6) rfl rfl rfl rfl q1785 dX5_search_87 ?_
        refine zr_aload_n (pc := 90) hX 0 rfl rfl dX5_search_90 ?_
        refine zr_iconst (pc := 91) hX zci_0 dX5_search_91 ?_
        obtain ⟨st7, gst7, h⟩ := bnd h
        refine zr_mput (pc := 92) hX 51 (Option.some.inj gst7) rfl rfl rfl rfl q1789 dX5_search_92 ?_
        refine zr_aload_n (pc := 95) hX 0 rfl rfl dX5_search_95 ?_
        refine zr_iconst (pc := 96) hX zci_m1 dX5_search_96 ?_
        obtain ⟨st8, gst8, h⟩ := bnd h
        refine zr_mput (pc := 97) hX 48 (Option.some.inj gst8) rfl rfl rfl rfl q1786 dX5_search_97 ?_
        refine zr_iconst (pc := 100) hX zci_0 dX5_search_100 ?_
        refine zr_istore (pc := 101) hX rfl (Nat.le_of_ble_eq_true rfl) rfl dX5_search_101 ?_
        refine zr_iload (pc := 103) hX 5 rfl dX5_search_103 ?_
        refine zr_istore (pc := 105) hX rfl (Nat.le_of_ble_eq_true rfl) rfl dX5_search_105 ?_
        refine zr_iload (pc := 107) hX 7 rfl dX5_search_107 ?_
        refine zr_istore (pc := 109) hX rfl (Nat.le_of_ble_eq_true rfl) rfl dX5_search_109 ?_
        obtain ⟨t11, gt11, h⟩ := bnd h
        have hJt11 : ∀ a, a = t11 → VW K (zMw am a b) sz 0 0 275 [(0, .ref am)] [] := by
          intro a ea
          rw [ea]
          refine zr_aload_n (pc := 275) hX 0 rfl rfl dX5_search_275 ?_
          refine zr_mget (pc := 276) hX 48 rfl rfl q1786 dX5_search_276 ?_
          obtain rfl := Option.some.inj h
          exact hret _ _ dX5_search_279 (Or.inl rfl)
        refine VW.sub (lv' := [(0, .ref am), (1, .int p0), (2, .int p1), (3, .int p2), (7, .int (0 : Int32)), (8, .int p3), (9, .int p4)]) ?_ [3, 4, 5, 6, 2, 1, 0] rfl
        refine zloop_walk (V := (fun a => VW K (zMw am a.1 b) sz 0 0 111 [(0, .ref am), (1, .int p0), (2, .int p1), (3, .int p2), (7, .int a.2.1), (8, .int a.2.2.1), (9, .int a.2.2.2)] [])) (E := fun e => e = t11) ?_ n (st8, (0 : Int32), p3, p4) _ gt11 rfl
        intro a9 o10 h kco10 keo10
        unfold fX5_search_L111 at h
        refine zr_aload_n (pc := 111) hX 0 rfl rfl dX5_search_111 ?_
        refine zr_mget (pc := 112) hX 48 rfl rfl q1786 dX5_search_112 ?_
        refine zr_if_ge (pc := 115) hX 275 rfl dX5_search_115 (fun c115_36 => ?_) (fun c115_36 => ?_)
        · rw [if_pos c115_36] at h
          exact (hJt11 a9.1 (keo10 _ (Option.some.inj h).symm)).sub [0] rfl
        · rw [if_neg c115_36] at h
          refine zr_aload_n (pc := 118) hX 0 rfl rfl dX5_search_118 ?_
          refine zr_mget (pc := 119) hX 46 rfl rfl q1784 dX5_search_119 ?_
          refine zr_sipush (pc := 122) hX zcs_400 dX5_search_122 ?_
          refine zr_icmp_ne (pc := 125) hX 136 rfl dX5_search_125 (fun c125_35 => ?_) (fun c125_35 => ?_)
          · rw [if_neg c125_35] at h
            refine zr_aload_n (pc := 136) hX 0 rfl rfl dX5_search_136 ?_
            refine zr_dup (pc := 137) hX rfl dX5_search_137 ?_
            refine zr_mget (pc := 138) hX 46 rfl rfl q1784 dX5_search_138 ?_
            refine zr_iconst (pc := 141) hX zci_1 dX5_search_141 ?_
            refine zr_iadd (pc := 142) hX dX5_search_142 ?_
            obtain ⟨st12, gst12, h⟩ := bnd h
            refine zr_mput (pc := 143) hX 46 (Option.some.inj gst12) rfl rfl rfl rfl q1784 dX5_search_143 ?_
            refine zr_aload_n (pc := 146) hX 0 rfl rfl dX5_search_146 ?_
            obtain ⟨t13, gt13, h⟩ := bnd h
            refine zr_callV (pc := 147) (stk' := []) (k' := 0) (n' := 0) hX (fun l s0 D => mX5_findsNode l s0 D gt13) (zMw_obj _ _ _) (ci := 4) rfl zwX5_findsNode q2320 q2322 qs97 rfl rfl rfl rfl rfl rfl rfl rfl rfl dX5_search_147 ?_
            refine zr_aload_n (pc := 150) hX 0 rfl rfl dX5_search_150 ?_
            refine zr_mget (pc := 151) hX 37 rfl rfl q1775 dX5_search_151 ?_
            refine zr_if_eq (pc := 154) hX 217 rfl dX5_search_154 (fun c154_33 => ?_) (fun c154_33 => ?_)
            · rw [if_pos c154_33] at h
              refine zr_aload_n (pc := 217) hX 0 rfl rfl dX5_search_217 ?_
              obtain ⟨t14, gt14, h⟩ := bnd h
              refine zr_callV (pc := 218) (stk' := [.int t14]) (k' := 0) (n' := 0) hX (fun l s0 D => mX5_isSolution l s0 D gt14) (zMw_obj _ _ _) (ci := 4) rfl zwX5_isSolution q2328 q2330 qs99 rfl rfl rfl rfl rfl rfl rfl rfl rfl dX5_search_218 ?_
              refine zr_if_eq (pc := 221) hX 236 rfl dX5_search_221 (fun c221_20 => ?_) (fun c221_20 => ?_)
              · rw [if_pos c221_20] at h
                refine zr_aload_n (pc := 236) hX 0 rfl rfl dX5_search_236 ?_
                refine zr_iload_n (pc := 237) hX 1 rfl rfl dX5_search_237 ?_
                refine zr_iload_n (pc := 238) hX 2 rfl rfl dX5_search_238 ?_
                obtain ⟨t15, gt15, h⟩ := bnd h
                refine zr_callV (pc := 239) (stk' := [.int t15]) (k' := 0) (n' := 0) hX (fun l s0 D => mX5_chosen l s0 D gt15) (zMw_obj _ _ _) (ci := 4) rfl zwX5_chosen q2340 q2342 qs102 rfl rfl rfl rfl rfl rfl rfl rfl rfl dX5_search_239 ?_
                refine zr_istore (pc := 242) hX rfl (Nat.le_of_ble_eq_true rfl) rfl dX5_search_242 ?_
                refine zr_aload_n (pc := 244) hX 1 rfl rfl dX5_search_244 ?_
                refine zr_iload (pc := 245) hX 0 rfl dX5_search_245 ?_
                refine zr_iload_n (pc := 247) hX 4 rfl rfl dX5_search_247 ?_
                obtain ⟨t16, gt16, h⟩ := bnd h
                refine zr_callV (pc := 248) (stk' := [.int t16]) (k' := 0) (n' := 0) hX (fun l s0 D => mX5_valueBy l s0 D gt16) (zMw_obj _ _ _) (ci := 4) rfl zwX5_valueBy q2344 q2346 qs103 rfl rfl rfl rfl rfl rfl rfl rfl rfl dX5_search_248 ?_
                refine zr_istore (pc := 251) hX rfl (Nat.le_of_ble_eq_true rfl) rfl dX5_search_251 ?_
                refine zr_aload_n (pc := 253) hX 2 rfl rfl dX5_search_253 ?_
                refine zr_mgetA (pc := 254) hX 45 rfl rfl q1783 dX5_search_254 ?_
                refine zr_iload (pc := 257) hX 1 rfl dX5_search_257 ?_
                refine zr_iload (pc := 259) hX 0 rfl dX5_search_259 ?_
                refine zr_iconst (pc := 261) hX zci_1 dX5_search_261 ?_
                refine zr_iadd (pc := 262) hX dX5_search_262 ?_
                obtain ⟨st17, gst17, h⟩ := bnd h
                refine zr_mast (pc := 263) hX 45 rfl rfl rfl gst17 dX5_search_263 ?_
                refine zr_aload_n (pc := 264) hX 2 rfl rfl dX5_search_264 ?_
                refine zr_iload (pc := 265) hX 1 rfl dX5_search_265 ?_
                refine zr_iload (pc := 267) hX 0 rfl dX5_search_267 ?_
                obtain ⟨t18, gt18, h⟩ := bnd h
                refine zr_callV (pc := 269) (stk' := []) (k' := 0) (n' := 0) hX (fun l s0 D => mX5_goesDown l s0 D gt18) (zMw_obj _ _ _) (ci := 4) rfl zwX5_goesDown q2348 q2350 qs104 rfl rfl rfl rfl rfl rfl rfl rfl rfl dX5_search_269 ?_
                refine zr_goto (pc := 272) hX 111 rfl dX5_search_272 ?_
                exact (kco10 (t18, a9.2.1, a9.2.2.1, a9.2.2.2) (Option.some.inj h).symm).sub [2, 3, 4, 5, 6, 7, 8] rfl
              · rw [if_neg c221_20] at h
                refine zr_aload_n (pc := 224) hX 0 rfl rfl dX5_search_224 ?_
                refine zr_iconst (pc := 225) hX zci_0 dX5_search_225 ?_
                obtain ⟨st19, gst19, h⟩ := bnd h
                refine zr_mput (pc := 226) hX 48 (Option.some.inj gst19) rfl rfl rfl rfl q1786 dX5_search_226 ?_
                refine zr_aload_n (pc := 229) hX 0 rfl rfl dX5_search_229 ?_
                obtain ⟨t20, gt20, h⟩ := bnd h
                refine zr_callV (pc := 230) (stk' := []) (k' := 0) (n' := 0) hX (fun l s0 D => mX5_keepsSolution l s0 D gt20) (zMw_obj _ _ _) (ci := 4) rfl zwX5_keepsSolution q2336 q2338 qs101 rfl rfl rfl rfl rfl rfl rfl rfl rfl dX5_search_230 ?_
                refine zr_goto (pc := 233) hX 111 rfl dX5_search_233 ?_
                exact (kco10 (t20, a9.2.1, a9.2.2.1, a9.2.2.2) (Option.some.inj h).symm).sub [0, 1, 2, 3, 4, 5, 6] rfl
            · rw [if_neg c154_33] at h
              refine zr_aload_n (pc := 157) hX 0 rfl rfl dX5_search_157 ?_
              refine zr_dup (pc := 158) hX rfl dX5_search_158 ?_
              refine zr_mget (pc := 159) hX 47 rfl rfl q1785 dX5_search_159 ?_
              refine zr_iconst (pc := 162) hX zci_1 dX5_search_162 ?_
              refine zr_iadd (pc := 163) hX dX5_search_163 ?_
              obtain ⟨st22, gst22, h⟩ := bnd h
              refine zr_mput (pc := 164) hX 47 (Option.some.inj gst22) rfl rfl rfl rfl q1785 dX5_search_164 ?_
              obtain ⟨x23, gx23, h⟩ := bnd h
              refine zr_iinc (pc := 167) hX 4 rfl zci_1 (Option.some.inj gx23) (Nat.le_of_ble_eq_true rfl) rfl dX5_search_167 ?_
              refine zr_iload (pc := 170) hX 0 rfl dX5_search_170 ?_
              refine zr_iload (pc := 172) hX 5 rfl dX5_search_172 ?_
              obtain ⟨u28, gu28, hAu28, hBu28⟩ := zesc_bnd h
              have hJt24 : ∀ a, u28 = .inl a → VW K (zMw am a.1 b) sz 0 0 202 [(0, .ref am), (1, .int p0), (2, .int p1), (3, .int p2), (7, .int a.2.1), (8, .int a.2.2.1), (9, .int a.2.2.2)] [] := by
                intro t24 ea
                have h := hAu28 _ ea
                refine zr_aload_n (pc := 202) hX 0 rfl rfl dX5_search_202 ?_
                obtain ⟨t25, gt25, h⟩ := bnd h
                refine zr_callV (pc := 203) (stk' := [.int t25.2]) (k' := 0) (n' := 0) hX (fun l s0 D => mX5_goesBack l s0 D gt25) (zMw_obj _ _ _) (ci := 4) rfl zwX5_goesBack q2324 q2326 qs98 rfl rfl rfl rfl rfl rfl rfl rfl rfl dX5_search_203 ?_
                refine zr_if_ne (pc := 206) hX 111 rfl dX5_search_206 (fun c206_26 => ?_) (fun c206_26 => ?_)
                · rw [if_neg c206_26] at h
                  exact (kco10 (t25.1, t24.2.1, t24.2.2.1, t24.2.2.2) (Option.some.inj h).symm).sub [0, 1, 2, 3, 4, 5, 6] rfl
                · rw [if_pos c206_26] at h
                  refine zr_aload_n (pc := 209) hX 0 rfl rfl dX5_search_209 ?_
                  refine zr_iconst (pc := 210) hX zci_1 dX5_search_210 ?_
                  obtain ⟨st26, gst26, h⟩ := bnd h
                  refine zr_mput (pc := 211) hX 48 (Option.some.inj gst26) rfl rfl rfl rfl q1786 dX5_search_211 ?_
                  refine zr_goto (pc := 214) hX 111 rfl dX5_search_214 ?_
                  exact (kco10 (st26, t24.2.1, t24.2.2.1, t24.2.2.2) (Option.some.inj h).symm).sub [0, 1, 2, 3, 4, 5, 6] rfl
              replace h := gu28
              refine zr_icmp_ne (pc := 174) hX 202 rfl dX5_search_174 (fun c174_32 => ?_) (fun c174_32 => ?_)
              · rw [if_neg c174_32] at h
                exact (hJt24 (st22, x23, a9.2.2.1, a9.2.2.2) (Option.some.inj h).symm).sub [1, 2, 3, 4, 0, 5, 6] rfl
              · rw [if_pos c174_32] at h
                refine zr_iload (pc := 177) hX 6 rfl dX5_search_177 ?_
                refine zr_if_le (pc := 179) hX 202 rfl dX5_search_179 (fun c179_31 => ?_) (fun c179_31 => ?_)
                · rw [if_pos c179_31] at h
                  exact (hJt24 (st22, x23, a9.2.2.1, a9.2.2.2) (Option.some.inj h).symm).sub [1, 2, 3, 4, 0, 5, 6] rfl
                · rw [if_neg c179_31] at h
                  obtain ⟨x29, gx29, h⟩ := bnd h
                  refine zr_iinc (pc := 182) hX 6 rfl zci_m1 (Option.some.inj gx29) (Nat.le_of_ble_eq_true rfl) rfl dX5_search_182 ?_
                  refine zr_iload (pc := 185) hX 6 rfl dX5_search_185 ?_
                  refine zr_iconst (pc := 187) hX zci_2 dX5_search_187 ?_
                  refine zr_imul (pc := 188) hX dX5_search_188 ?_
                  obtain ⟨x30, gx30, h⟩ := bnd h
                  refine zr_istore (pc := 189) hX (Option.some.inj gx30) (Nat.le_of_ble_eq_true rfl) rfl dX5_search_189 ?_
                  refine zr_iconst (pc := 191) hX zci_0 dX5_search_191 ?_
                  refine zr_istore (pc := 192) hX rfl (Nat.le_of_ble_eq_true rfl) rfl dX5_search_192 ?_
                  refine zr_aload_n (pc := 194) hX 3 rfl rfl dX5_search_194 ?_
                  refine zr_iconst (pc := 195) hX zci_0 dX5_search_195 ?_
                  obtain ⟨st31, gst31, h⟩ := bnd h
                  refine zr_mput (pc := 196) hX 51 (Option.some.inj gst31) rfl rfl rfl rfl q1789 dX5_search_196 ?_
                  refine zr_goto (pc := 199) hX 111 rfl dX5_search_199 ?_
                  replace h := congrArg some (hBu28 _ (Option.some.inj h).symm)
                  exact (kco10 (st31, (0 : Int32), x30, x29) (Option.some.inj h).symm).sub [3, 4, 5, 6, 0, 1, 2] rfl
          · rw [if_pos c125_35] at h
            refine zr_aload_n (pc := 128) hX 0 rfl rfl dX5_search_128 ?_
            refine zr_iconst (pc := 129) hX zci_2 dX5_search_129 ?_
            obtain ⟨st35, gst35, h⟩ := bnd h
            refine zr_mput (pc := 130) hX 48 (Option.some.inj gst35) rfl rfl rfl rfl q1786 dX5_search_130 ?_
            refine zr_goto (pc := 133) hX 111 rfl dX5_search_133 ?_
            exact (kco10 (st35, a9.2.1, a9.2.2.1, a9.2.2.2) (Option.some.inj h).symm).sub [0, 1, 2, 3, 4, 5, 6] rfl
      · rw [if_neg c75_37] at h
        refine zr_iconst (pc := 78) hX zci_0 dX5_search_78 ?_
        obtain rfl := Option.some.inj h
        exact hret _ _ dX5_search_79 (Or.inl rfl)
    replace h := gt3
    refine zr_if_eq (pc := 60) hX 67 rfl dX5_search_60 (fun c60_38 => ?_) (fun c60_38 => ?_)
    · rw [if_pos c60_38] at h
      refine zr_iconst (pc := 67) hX zci_1 dX5_search_67 ?_
      exact (hJt3 (1 : Int32) (Option.some.inj h).symm).sub [1, 2, 3, 4, 5, 6] rfl
    · rw [if_neg c60_38] at h
      refine zr_iconst (pc := 63) hX zci_0 dX5_search_63 ?_
      refine zr_goto (pc := 64) hX 68 rfl dX5_search_64 ?_
      exact (hJt3 (0 : Int32) (Option.some.inj h).symm).sub [1, 2, 3, 4, 5, 6] rfl
  replace h := gt2
  obtain ⟨u41, gu41, hAu41, hBu41⟩ := zesc_bnd h
  have hJt40 : ∀ a, u41 = .inl a → VW K (zMw am st b) sz 0 0 54 [(0, .ref am), (1, .int p0), (2, .int p1), (3, .int p2), (4, .int p3), (5, .int p4)] [] := by
    intro t40 ea
    have h := hAu41 _ ea
    refine zr_iconst (pc := 54) hX zci_0 dX5_search_54 ?_
    exact (hJt2 (0 : Int32) (Option.some.inj h).symm).sub [0, 1, 2, 3, 4, 5] rfl
  replace h := gu41
  refine zr_if_eq (pc := 8) hX 54 rfl dX5_search_8 (fun c8_49 => ?_) (fun c8_49 => ?_)
  · rw [if_pos c8_49] at h
    exact (hJt40 () (Option.some.inj h).symm).sub [0, 1, 2, 3, 4, 5] rfl
  · rw [if_neg c8_49] at h
    refine zr_iload_n (pc := 11) hX 2 rfl rfl dX5_search_11 ?_
    refine zr_iconst (pc := 12) hX zci_0 dX5_search_12 ?_
    refine zr_iconst (pc := 13) hX zci_1 dX5_search_13 ?_
    obtain ⟨t42, gt42, h⟩ := bnd h
    refine zr_callS (pc := 14) (stk' := [.int t42]) (k' := 0) (n' := 0) hX (fun l s0 D => mX5_isIn l s0 D gt42) zwX5_isIn q1963 q1964 rfl rfl rfl rfl rfl rfl rfl rfl dX5_search_14 ?_
    refine zr_if_eq (pc := 17) hX 54 rfl dX5_search_17 (fun c17_48 => ?_) (fun c17_48 => ?_)
    · rw [if_pos c17_48] at h
      exact (hJt40 () (Option.some.inj h).symm).sub [0, 1, 2, 3, 4, 5] rfl
    · rw [if_neg c17_48] at h
      refine zr_iload_n (pc := 20) hX 3 rfl rfl dX5_search_20 ?_
      refine zr_iconst (pc := 21) hX zci_0 dX5_search_21 ?_
      refine zr_iconst (pc := 22) hX zci_2 dX5_search_22 ?_
      obtain ⟨t43, gt43, h⟩ := bnd h
      refine zr_callS (pc := 23) (stk' := [.int t43]) (k' := 0) (n' := 0) hX (fun l s0 D => mX5_isIn l s0 D gt43) zwX5_isIn q1963 q1964 rfl rfl rfl rfl rfl rfl rfl rfl dX5_search_23 ?_
      refine zr_if_eq (pc := 26) hX 54 rfl dX5_search_26 (fun c26_47 => ?_) (fun c26_47 => ?_)
      · rw [if_pos c26_47] at h
        exact (hJt40 () (Option.some.inj h).symm).sub [0, 1, 2, 3, 4, 5] rfl
      · rw [if_neg c26_47] at h
        refine zr_iload (pc := 29) hX 4 rfl dX5_search_29 ?_
        refine zr_iconst (pc := 31) hX zci_1 dX5_search_31 ?_
        refine zr_bipush (pc := 32) hX zcb_100 dX5_search_32 ?_
        obtain ⟨t44, gt44, h⟩ := bnd h
        refine zr_callS (pc := 34) (stk' := [.int t44]) (k' := 0) (n' := 0) hX (fun l s0 D => mX5_isIn l s0 D gt44) zwX5_isIn q1963 q1964 rfl rfl rfl rfl rfl rfl rfl rfl dX5_search_34 ?_
        refine zr_if_eq (pc := 37) hX 54 rfl dX5_search_37 (fun c37_46 => ?_) (fun c37_46 => ?_)
        · rw [if_pos c37_46] at h
          exact (hJt40 () (Option.some.inj h).symm).sub [0, 1, 2, 3, 4, 5] rfl
        · rw [if_neg c37_46] at h
          refine zr_iload (pc := 40) hX 5 rfl dX5_search_40 ?_
          refine zr_iconst (pc := 42) hX zci_0 dX5_search_42 ?_
          refine zr_iconst (pc := 43) hX zci_5 dX5_search_43 ?_
          obtain ⟨t45, gt45, h⟩ := bnd h
          refine zr_callS (pc := 44) (stk' := [.int t45]) (k' := 0) (n' := 0) hX (fun l s0 D => mX5_isIn l s0 D gt45) zwX5_isIn q1963 q1964 rfl rfl rfl rfl rfl rfl rfl rfl dX5_search_44 ?_
          refine zr_if_eq (pc := 47) hX 54 rfl dX5_search_47 (fun c47_45 => ?_) (fun c47_45 => ?_)
          · rw [if_pos c47_45] at h
            exact (hJt40 () (Option.some.inj h).symm).sub [0, 1, 2, 3, 4, 5] rfl
          · rw [if_neg c47_45] at h
            refine zr_iconst (pc := 50) hX zci_1 dX5_search_50 ?_
            refine zr_goto (pc := 51) hX 55 rfl dX5_search_51 ?_
            replace h := congrArg some (hBu41 _ (Option.some.inj h).symm)
            exact (hJt2 (1 : Int32) (Option.some.inj h).symm).sub [0, 1, 2, 3, 4, 5] rfl
set_option maxHeartbeats 4000000 in
theorem mX5_nodes (l : Launch) (s0 : State) (D : zD) {am : Nat} {st : zMS} {b : zH} {sz : Nat} {o : zMS × Int32} (h : fX5_nodes st = some o) : zM l s0 D yX5_nodes cX5_nodes 1 (some .int) 1 0 0 0 [.ref am] (zMw am st b) sz (zMw am o.1 b) sz (some (.int o.2)) := by
  refine zenter (own := RX5) zplX5 rfl (Nat.le_of_ble_eq_true rfl) trivial (fun K hX hnm hret => ?_)
  unfold fX5_nodes at h
  show VW K (zMw am st b) sz 0 0 0 [(0, .ref am)] []
  refine zr_aload_n (pc := 0) hX 0 rfl rfl dX5_nodes_0 ?_
  refine zr_iconst (pc := 1) hX zci_0 dX5_nodes_1 ?_
  obtain ⟨st1, gst1, h⟩ := bnd h
  refine zr_mput (pc := 2) hX 68 (Option.some.inj gst1) rfl rfl rfl rfl q1806 dX5_nodes_2 ?_
  refine zr_aload_n (pc := 5) hX 0 rfl rfl dX5_nodes_5 ?_
  refine zr_mget (pc := 6) hX 46 rfl rfl q1784 dX5_nodes_6 ?_
  obtain rfl := Option.some.inj h
  exact hret _ _ dX5_nodes_9 (Or.inl rfl)
set_option maxHeartbeats 4000000 in
theorem mX5_failures (l : Launch) (s0 : State) (D : zD) {am : Nat} {st : zMS} {b : zH} {sz : Nat} {o : zMS × Int32} (h : fX5_failures st = some o) : zM l s0 D yX5_failures cX5_failures 1 (some .int) 1 0 0 0 [.ref am] (zMw am st b) sz (zMw am o.1 b) sz (some (.int o.2)) := by
  refine zenter (own := RX5) zplX5 rfl (Nat.le_of_ble_eq_true rfl) trivial (fun K hX hnm hret => ?_)
  unfold fX5_failures at h
  show VW K (zMw am st b) sz 0 0 0 [(0, .ref am)] []
  refine zr_aload_n (pc := 0) hX 0 rfl rfl dX5_failures_0 ?_
  refine zr_iconst (pc := 1) hX zci_0 dX5_failures_1 ?_
  obtain ⟨st1, gst1, h⟩ := bnd h
  refine zr_mput (pc := 2) hX 68 (Option.some.inj gst1) rfl rfl rfl rfl q1806 dX5_failures_2 ?_
  refine zr_aload_n (pc := 5) hX 0 rfl rfl dX5_failures_5 ?_
  refine zr_mget (pc := 6) hX 47 rfl rfl q1785 dX5_failures_6 ?_
  obtain rfl := Option.some.inj h
  exact hret _ _ dX5_failures_9 (Or.inl rfl)
set_option maxHeartbeats 4000000 in
theorem mX5_solution (l : Launch) (s0 : State) (D : zD) {am : Nat} {st : zMS} {b : zH} {sz : Nat} {p0 : Int32} {o : zMS × Int32} (h : fX5_solution st p0 = some o) : zM l s0 D yX5_solution cX5_solution 2 (some .int) 3 43 0 0 [.ref am, .int p0] (zMw am st b) sz (zMw am o.1 b) sz (some (.int o.2)) := by
  refine zenter (own := RX5) zplX5 rfl (Nat.le_of_ble_eq_true rfl) trivial (fun K hX hnm hret => ?_)
  unfold fX5_solution at h
  show VW K (zMw am st b) sz 0 0 0 [(0, .ref am), (1, .int p0)] []
  refine zr_aload_n (pc := 0) hX 0 rfl rfl dX5_solution_0 ?_
  refine zr_aload_n (pc := 1) hX 0 rfl rfl dX5_solution_1 ?_
  refine zr_iload_n (pc := 2) hX 1 rfl rfl dX5_solution_2 ?_
  obtain ⟨t1, gt1, h⟩ := bnd h
  refine zr_callV (pc := 3) (stk' := [.int t1, .ref am]) (k' := 0) (n' := 0) hX (fun l s0 D => mX5_isVariable l s0 D gt1) (zMw_obj _ _ _) (ci := 4) rfl zwX5_isVariable q1982 q1984 qs54 rfl rfl rfl rfl rfl rfl rfl rfl rfl dX5_solution_3 ?_
  obtain ⟨t2, gt2, h⟩ := bnd h
  have hJt2 : ∀ a, t2 = a → VW K (zMw am st b) sz 0 0 33 [(0, .ref am), (1, .int p0)] [.int a, .ref am] := by
    intro a ea
    subst ea
    obtain ⟨st3, gst3, h⟩ := bnd h
    refine zr_mput (pc := 33) hX 68 (Option.some.inj gst3) rfl rfl rfl rfl q1806 dX5_solution_33 ?_
    refine zr_aload_n (pc := 36) hX 0 rfl rfl dX5_solution_36 ?_
    refine zr_mget (pc := 37) hX 68 rfl rfl q1806 dX5_solution_37 ?_
    refine zr_if_le (pc := 40) hX 47 rfl dX5_solution_40 (fun c40_4 => ?_) (fun c40_4 => ?_)
    · rw [if_pos c40_4] at h
      refine zr_aload_n (pc := 47) hX 0 rfl rfl dX5_solution_47 ?_
      refine zr_mgetA (pc := 48) hX 50 rfl rfl q1788 dX5_solution_48 ?_
      refine zr_iload_n (pc := 51) hX 1 rfl rfl dX5_solution_51 ?_
      obtain ⟨x4, gx4, h⟩ := bnd h
      refine zr_mald (pc := 52) hX 50 rfl rfl rfl gx4 dX5_solution_52 ?_
      obtain rfl := Option.some.inj h
      exact hret _ _ dX5_solution_53 (Or.inl rfl)
    · rw [if_neg c40_4] at h
      refine zr_iconst (pc := 43) hX zci_0 dX5_solution_43 ?_
      refine zr_goto (pc := 44) hX 53 rfl dX5_solution_44 ?_
      obtain rfl := Option.some.inj h
      exact hret _ _ dX5_solution_53 (Or.inl rfl)
  replace h := gt2
  refine zr_if_ne (pc := 6) hX 13 rfl dX5_solution_6 (fun c6_9 => ?_) (fun c6_9 => ?_)
  · rw [if_neg c6_9] at h
    refine zr_aload_n (pc := 13) hX 0 rfl rfl dX5_solution_13 ?_
    refine zr_mget (pc := 14) hX 48 rfl rfl q1786 dX5_solution_14 ?_
    obtain ⟨u7, gu7, hAu7, hBu7⟩ := zesc_bnd h
    have hJt6 : ∀ a, u7 = .inl a → VW K (zMw am st b) sz 0 0 28 [(0, .ref am), (1, .int p0)] [.ref am] := by
      intro t6 ea
      have h := hAu7 _ ea
      refine zr_iconst (pc := 28) hX zci_2 dX5_solution_28 ?_
      refine zr_goto (pc := 29) hX 33 rfl dX5_solution_29 ?_
      exact (hJt2 (2 : Int32) (Option.some.inj h).symm).sub [0, 1] rfl
    replace h := gu7
    refine zr_if_ne (pc := 17) hX 28 rfl dX5_solution_17 (fun c17_8 => ?_) (fun c17_8 => ?_)
    · rw [if_neg c17_8] at h
      exact (hJt6 () (Option.some.inj h).symm).sub [0, 1] rfl
    · rw [if_pos c17_8] at h
      refine zr_iload_n (pc := 20) hX 1 rfl rfl dX5_solution_20 ?_
      refine zr_aload_n (pc := 21) hX 0 rfl rfl dX5_solution_21 ?_
      refine zr_mget (pc := 22) hX 49 rfl rfl q1787 dX5_solution_22 ?_
      refine zr_icmp_lt (pc := 25) hX 32 rfl dX5_solution_25 (fun c25_7 => ?_) (fun c25_7 => ?_)
      · rw [if_pos c25_7] at h
        refine zr_iconst (pc := 32) hX zci_0 dX5_solution_32 ?_
        replace h := congrArg some (hBu7 _ (Option.some.inj h).symm)
        exact (hJt2 (0 : Int32) (Option.some.inj h).symm).sub [0, 1] rfl
      · rw [if_neg c25_7] at h
        exact (hJt6 () (Option.some.inj h).symm).sub [0, 1] rfl
  · rw [if_pos c6_9] at h
    refine zr_iconst (pc := 9) hX zci_1 dX5_solution_9 ?_
    refine zr_goto (pc := 10) hX 33 rfl dX5_solution_10 ?_
    exact (hJt2 (1 : Int32) (Option.some.inj h).symm).sub [0, 1] rfl
set_option maxHeartbeats 4000000 in
theorem mX5_solutions (l : Launch) (s0 : State) (D : zD) {n : Nat} {am : Nat} {st : zMS} {b : zH} {sz : Nat} {o : zMS × Int32} (h : fX5_solutions n st = some o) : zM l s0 D yX5_solutions cX5_solutions 5 (some .int) 10 208 0 0 [.ref am] (zMw am st b) sz (zMw am o.1 b) sz (some (.int o.2)) := by
  refine zenter (own := RX5) zplX5 rfl (Nat.le_of_ble_eq_true rfl) trivial (fun K hX hnm hret => ?_)
  unfold fX5_solutions at h
  show VW K (zMw am st b) sz 0 0 0 [(0, .ref am)] []
  refine zr_iconst (pc := 0) hX zci_0 dX5_solutions_0 ?_
  refine zr_istore_n (pc := 1) hX rfl rfl (Nat.le_of_ble_eq_true rfl) rfl dX5_solutions_1 ?_
  refine zr_iconst (pc := 2) hX zci_0 dX5_solutions_2 ?_
  refine zr_istore_n (pc := 3) hX rfl rfl (Nat.le_of_ble_eq_true rfl) rfl dX5_solutions_3 ?_
  refine zr_iconst (pc := 4) hX zci_1 dX5_solutions_4 ?_
  refine zr_istore_n (pc := 5) hX rfl rfl (Nat.le_of_ble_eq_true rfl) rfl dX5_solutions_5 ?_
  refine zr_aload_n (pc := 6) hX 3 rfl rfl dX5_solutions_6 ?_
  refine zr_iconst (pc := 7) hX zci_0 dX5_solutions_7 ?_
  obtain ⟨st1, gst1, h⟩ := bnd h
  refine zr_mput (pc := 8) hX 51 (Option.some.inj gst1) rfl rfl rfl rfl q1789 dX5_solutions_8 ?_
  obtain ⟨t4, gt4, h⟩ := bnd h
  have hJt4 : ∀ a, a = t4 → VW K (zMw am a.1 b) sz 0 0 100 [(0, .ref am), (1, .int a.2.1), (2, .int a.2.2)] [] := by
    intro a ea
    rw [ea]
    refine zr_aload_n (pc := 100) hX 0 rfl rfl dX5_solutions_100 ?_
    refine zr_iload_n (pc := 101) hX 2 rfl rfl dX5_solutions_101 ?_
    refine zr_sipush (pc := 102) hX zcs_400 dX5_solutions_102 ?_
    obtain ⟨t5, gt5, h⟩ := bnd h
    have hJt5 : ∀ a, t5 = a → VW K (zMw am t4.1 b) sz 0 0 113 [(0, .ref am), (1, .int t4.2.1)] [.int a, .ref am] := by
      intro a ea
      subst ea
      obtain ⟨st6, gst6, h⟩ := bnd h
      refine zr_mput (pc := 113) hX 68 (Option.some.inj gst6) rfl rfl rfl rfl q1806 dX5_solutions_113 ?_
      refine zr_aload_n (pc := 116) hX 0 rfl rfl dX5_solutions_116 ?_
      refine zr_mget (pc := 117) hX 68 rfl rfl q1806 dX5_solutions_117 ?_
      refine zr_if_le (pc := 120) hX 127 rfl dX5_solutions_120 (fun c120_6 => ?_) (fun c120_6 => ?_)
      · rw [if_pos c120_6] at h
        refine zr_iload_n (pc := 127) hX 1 rfl rfl dX5_solutions_127 ?_
        obtain rfl := Option.some.inj h
        exact hret _ _ dX5_solutions_128 (Or.inl rfl)
      · rw [if_neg c120_6] at h
        refine zr_iconst (pc := 123) hX zci_0 dX5_solutions_123 ?_
        refine zr_goto (pc := 124) hX 128 rfl dX5_solutions_124 ?_
        obtain rfl := Option.some.inj h
        exact hret _ _ dX5_solutions_128 (Or.inl rfl)
    replace h := gt5
    refine zr_icmp_le (pc := 105) hX 112 rfl dX5_solutions_105 (fun c105_7 => ?_) (fun c105_7 => ?_)
    · rw [if_pos c105_7] at h
      refine zr_iconst (pc := 112) hX zci_0 dX5_solutions_112 ?_
      exact (hJt5 (0 : Int32) (Option.some.inj h).symm).sub [0, 1] rfl
    · rw [if_neg c105_7] at h
      refine zr_iconst (pc := 108) hX zci_1 dX5_solutions_108 ?_
      refine zr_goto (pc := 109) hX 113 rfl dX5_solutions_109 ?_
      exact (hJt5 (1 : Int32) (Option.some.inj h).symm).sub [0, 1] rfl
  refine VW.sub (lv' := [(0, .ref am), (1, .int (0 : Int32)), (2, .int (0 : Int32)), (3, .int (1 : Int32))]) ?_ [3, 2, 1, 0] rfl
  refine zloop_walk (V := (fun a => VW K (zMw am a.1 b) sz 0 0 11 [(0, .ref am), (1, .int a.2.1), (2, .int a.2.2.1), (3, .int a.2.2.2)] [])) (E := fun e => e = t4) ?_ n (st1, (0 : Int32), (0 : Int32), (1 : Int32)) _ gt4 rfl
  intro a2 o3 h kco3 keo3
  unfold fX5_solutions_L11 at h
  refine zr_iload_n (pc := 11) hX 3 rfl rfl dX5_solutions_11 ?_
  refine zr_if_eq (pc := 12) hX 100 rfl dX5_solutions_12 (fun c12_25 => ?_) (fun c12_25 => ?_)
  · rw [if_pos c12_25] at h
    exact (hJt4 (a2.1, a2.2.1, a2.2.2.1) (keo3 _ (Option.some.inj h).symm)).sub [0, 1, 2] rfl
  · rw [if_neg c12_25] at h
    refine zr_iload_n (pc := 15) hX 2 rfl rfl dX5_solutions_15 ?_
    refine zr_sipush (pc := 16) hX zcs_400 dX5_solutions_16 ?_
    refine zr_icmp_gt (pc := 19) hX 100 rfl dX5_solutions_19 (fun c19_24 => ?_) (fun c19_24 => ?_)
    · rw [if_pos c19_24] at h
      exact (hJt4 (a2.1, a2.2.1, a2.2.2.1) (keo3 _ (Option.some.inj h).symm)).sub [0, 1, 2] rfl
    · rw [if_neg c19_24] at h
      obtain ⟨x9, gx9, h⟩ := bnd h
      refine zr_iinc (pc := 22) hX 2 rfl zci_1 (Option.some.inj gx9) (Nat.le_of_ble_eq_true rfl) rfl dX5_solutions_22 ?_
      refine zr_iload_n (pc := 25) hX 0 rfl rfl dX5_solutions_25 ?_
      refine zr_sipush (pc := 26) hX zcs_400 dX5_solutions_26 ?_
      refine zr_icmp_gt (pc := 29) hX 11 rfl dX5_solutions_29 (fun c29_23 => ?_) (fun c29_23 => ?_)
      · rw [if_pos c29_23] at h
        exact (kco3 (a2.1, a2.2.1, x9, a2.2.2.2) (Option.some.inj h).symm).sub [1, 2, 0, 3] rfl
      · rw [if_neg c29_23] at h
        refine zr_aload_n (pc := 32) hX 1 rfl rfl dX5_solutions_32 ?_
        obtain ⟨t10, gt10, h⟩ := bnd h
        refine zr_callV (pc := 33) (stk' := []) (k' := 0) (n' := 0) hX (fun l s0 D => mX5_findsNode l s0 D gt10) (zMw_obj _ _ _) (ci := 4) rfl zwX5_findsNode q2320 q2322 qs97 rfl rfl rfl rfl rfl rfl rfl rfl rfl dX5_solutions_33 ?_
        refine zr_aload_n (pc := 36) hX 1 rfl rfl dX5_solutions_36 ?_
        refine zr_mget (pc := 37) hX 37 rfl rfl q1775 dX5_solutions_37 ?_
        obtain ⟨u16, gu16, hAu16, hBu16⟩ := zesc_bnd h
        have hJt11 : ∀ a, u16 = .inl a → VW K (zMw am a b) sz 0 0 50 [(0, .ref am), (1, .int a2.2.1), (2, .int x9)] [] := by
          intro t11 ea
          have h := hAu16 _ ea
          refine zr_iload_n (pc := 50) hX 1 rfl rfl dX5_solutions_50 ?_
          refine zr_aload_n (pc := 51) hX 0 rfl rfl dX5_solutions_51 ?_
          refine zr_mget (pc := 52) hX 37 rfl rfl q1775 dX5_solutions_52 ?_
          obtain ⟨t12, gt12, h⟩ := bnd h
          have hJt12 : ∀ a, t12 = a → VW K (zMw am t11 b) sz 0 0 63 [(0, .ref am), (2, .int x9)] [.int a, .int a2.2.1] := by
            intro a ea
            subst ea
            refine zr_iadd (pc := 63) hX dX5_solutions_63 ?_
            obtain ⟨x13, gx13, h⟩ := bnd h
            refine zr_istore_n (pc := 64) hX (Option.some.inj gx13) rfl (Nat.le_of_ble_eq_true rfl) rfl dX5_solutions_64 ?_
            refine zr_aload_n (pc := 65) hX 1 rfl rfl dX5_solutions_65 ?_
            obtain ⟨t14, gt14, h⟩ := bnd h
            refine zr_callV (pc := 66) (stk' := [.int t14.2]) (k' := 0) (n' := 0) hX (fun l s0 D => mX5_goesBack l s0 D gt14) (zMw_obj _ _ _) (ci := 4) rfl zwX5_goesBack q2324 q2326 qs98 rfl rfl rfl rfl rfl rfl rfl rfl rfl dX5_solutions_66 ?_
            refine zr_istore_n (pc := 69) hX rfl rfl (Nat.le_of_ble_eq_true rfl) rfl dX5_solutions_69 ?_
            refine zr_goto (pc := 70) hX 11 rfl dX5_solutions_70 ?_
            exact (kco3 (t14.1, x13, x9, t14.2) (Option.some.inj h).symm).sub [2, 1, 3, 0] rfl
          replace h := gt12
          refine zr_if_eq (pc := 55) hX 62 rfl dX5_solutions_55 (fun c55_14 => ?_) (fun c55_14 => ?_)
          · rw [if_pos c55_14] at h
            refine zr_iconst (pc := 62) hX zci_1 dX5_solutions_62 ?_
            exact (hJt12 (1 : Int32) (Option.some.inj h).symm).sub [0, 2] rfl
          · rw [if_neg c55_14] at h
            refine zr_iconst (pc := 58) hX zci_0 dX5_solutions_58 ?_
            refine zr_goto (pc := 59) hX 63 rfl dX5_solutions_59 ?_
            exact (hJt12 (0 : Int32) (Option.some.inj h).symm).sub [0, 2] rfl
        replace h := gu16
        refine zr_if_ne (pc := 40) hX 50 rfl dX5_solutions_40 (fun c40_22 => ?_) (fun c40_22 => ?_)
        · rw [if_neg c40_22] at h
          exact (hJt11 t10 (Option.some.inj h).symm).sub [1, 2, 0] rfl
        · rw [if_pos c40_22] at h
          refine zr_aload_n (pc := 43) hX 1 rfl rfl dX5_solutions_43 ?_
          obtain ⟨t17, gt17, h⟩ := bnd h
          refine zr_callV (pc := 44) (stk' := [.int t17]) (k' := 0) (n' := 0) hX (fun l s0 D => mX5_isSolution l s0 D gt17) (zMw_obj _ _ _) (ci := 4) rfl zwX5_isSolution q2328 q2330 qs99 rfl rfl rfl rfl rfl rfl rfl rfl rfl dX5_solutions_44 ?_
          refine zr_if_eq (pc := 47) hX 73 rfl dX5_solutions_47 (fun c47_21 => ?_) (fun c47_21 => ?_)
          · rw [if_pos c47_21] at h
            refine zr_aload_n (pc := 73) hX 1 rfl rfl dX5_solutions_73 ?_
            refine zr_iconst (pc := 74) hX zci_0 dX5_solutions_74 ?_
            refine zr_iconst (pc := 75) hX zci_0 dX5_solutions_75 ?_
            obtain ⟨t18, gt18, h⟩ := bnd h
            refine zr_callV (pc := 76) (stk' := [.int t18]) (k' := 0) (n' := 0) hX (fun l s0 D => mX5_chosen l s0 D gt18) (zMw_obj _ _ _) (ci := 4) rfl zwX5_chosen q2340 q2342 qs102 rfl rfl rfl rfl rfl rfl rfl rfl rfl dX5_solutions_76 ?_
            refine zr_istore (pc := 79) hX rfl (Nat.le_of_ble_eq_true rfl) rfl dX5_solutions_79 ?_
            refine zr_aload_n (pc := 81) hX 2 rfl rfl dX5_solutions_81 ?_
            refine zr_iload (pc := 82) hX 0 rfl dX5_solutions_82 ?_
            refine zr_aload_n (pc := 84) hX 2 rfl rfl dX5_solutions_84 ?_
            refine zr_mgetA (pc := 85) hX 34 rfl rfl q1772 dX5_solutions_85 ?_
            refine zr_iload (pc := 88) hX 0 rfl dX5_solutions_88 ?_
            obtain ⟨x19, gx19, h⟩ := bnd h
            refine zr_mald (pc := 90) hX 34 rfl rfl rfl gx19 dX5_solutions_90 ?_
            obtain ⟨t20, gt20, h⟩ := bnd h
            refine zr_callS (pc := 91) (stk' := [.int t20, .int t18, .ref am]) (k' := 0) (n' := 0) hX (fun l s0 D => mX5_lowest l s0 D gt20) zwX5_lowest q2178 q2179 rfl rfl rfl rfl rfl rfl rfl rfl dX5_solutions_91 ?_
            obtain ⟨t21, gt21, h⟩ := bnd h
            refine zr_callV (pc := 94) (stk' := []) (k' := 0) (n' := 0) hX (fun l s0 D => mX5_goesDown l s0 D gt21) (zMw_obj _ _ _) (ci := 4) rfl zwX5_goesDown q2348 q2350 qs104 rfl rfl rfl rfl rfl rfl rfl rfl rfl dX5_solutions_94 ?_
            refine zr_goto (pc := 97) hX 11 rfl dX5_solutions_97 ?_
            replace h := congrArg some (hBu16 _ (Option.some.inj h).symm)
            exact (kco3 (t21, a2.2.1, x9, a2.2.2.2) (Option.some.inj h).symm).sub [2, 3, 1, 4] rfl
          · rw [if_neg c47_21] at h
            exact (hJt11 t10 (Option.some.inj h).symm).sub [1, 2, 0] rfl
set_option maxHeartbeats 4000000 in
theorem mX5_nth (l : Launch) (s0 : State) (D : zD) {n : Nat} {σ : zH} {sz : Nat} {p0 : Int32} {p1 : Int32} {o : Int32} (h : fX5_nth n p0 p1 = some o) : zM l s0 D yX5_nth cX5_nth 4 (some .int) 2 21 0 0 [.int p0, .int p1] σ sz σ sz (some (.int o)) := by
  refine zenter (own := RX5) zplX5 rfl (Nat.le_of_ble_eq_true rfl) trivial (fun K hX hnm hret => ?_)
  unfold fX5_nth at h
  show VW K σ sz 0 0 0 [(0, .int p0), (1, .int p1)] []
  refine zr_iload_n (pc := 0) hX 0 rfl rfl dX5_nth_0 ?_
  refine zr_istore_n (pc := 1) hX rfl rfl (Nat.le_of_ble_eq_true rfl) rfl dX5_nth_1 ?_
  refine zr_iconst (pc := 2) hX zci_0 dX5_nth_2 ?_
  refine zr_istore_n (pc := 3) hX rfl rfl (Nat.le_of_ble_eq_true rfl) rfl dX5_nth_3 ?_
  obtain ⟨t3, gt3, h⟩ := bnd h
  have hJt3 : ∀ a, a = t3 → VW K σ sz 0 0 21 [(2, .int a)] [] := by
    intro a ea
    rw [ea]
    refine zr_iload_n (pc := 21) hX 0 rfl rfl dX5_nth_21 ?_
    obtain ⟨t4, gt4, h⟩ := bnd h
    refine zr_callS (pc := 22) (stk' := [.int t4]) (k' := 0) (n' := 0) hX (fun l s0 D => mX5_lowest l s0 D gt4) zwX5_lowest q2178 q2179 rfl rfl rfl rfl rfl rfl rfl rfl dX5_nth_22 ?_
    obtain rfl := Option.some.inj h
    exact hret _ _ dX5_nth_25 (Or.inl rfl)
  refine VW.sub (lv' := [(1, .int p1), (2, .int p0), (3, .int (0 : Int32))]) ?_ [3, 1, 0] rfl
  refine zloop_walk (V := (fun a => VW K σ sz 0 0 4 [(1, .int p1), (2, .int a.1), (3, .int a.2)] [])) (E := fun e => e = t3) ?_ n (p0, (0 : Int32)) _ gt3 rfl
  intro a1 o2 h kco2 keo2
  unfold fX5_nth_L4 at h
  refine zr_iload_n (pc := 4) hX 2 rfl rfl dX5_nth_4 ?_
  refine zr_iload_n (pc := 5) hX 0 rfl rfl dX5_nth_5 ?_
  refine zr_icmp_ge (pc := 6) hX 21 rfl dX5_nth_6 (fun c6_6 => ?_) (fun c6_6 => ?_)
  · rw [if_pos c6_6] at h
    exact (hJt3 a1.1 (keo2 _ (Option.some.inj h).symm)).sub [1] rfl
  · rw [if_neg c6_6] at h
    refine zr_iload_n (pc := 9) hX 1 rfl rfl dX5_nth_9 ?_
    refine zr_iload_n (pc := 10) hX 1 rfl rfl dX5_nth_10 ?_
    refine zr_iconst (pc := 11) hX zci_1 dX5_nth_11 ?_
    refine zr_isub (pc := 12) hX dX5_nth_12 ?_
    refine zr_iand (pc := 13) hX dX5_nth_13 ?_
    obtain ⟨x5, gx5, h⟩ := bnd h
    refine zr_istore_n (pc := 14) hX (Option.some.inj gx5) rfl (Nat.le_of_ble_eq_true rfl) rfl dX5_nth_14 ?_
    obtain ⟨x6, gx6, h⟩ := bnd h
    refine zr_iinc (pc := 15) hX 2 rfl zci_1 (Option.some.inj gx6) (Nat.le_of_ble_eq_true rfl) rfl dX5_nth_15 ?_
    refine zr_goto (pc := 18) hX 4 rfl dX5_nth_18 ?_
    exact (kco2 (x5, x6) (Option.some.inj h).symm).sub [2, 1, 0] rfl
set_option maxHeartbeats 4000000 in
theorem mX5_solutionsByAll (l : Launch) (s0 : State) (D : zD) {n : Nat} {am : Nat} {st : zMS} {b : zH} {sz : Nat} {o : zMS × Int32} (h : fX5_solutionsByAll n st = some o) : zM l s0 D yX5_solutionsByAll cX5_solutionsByAll 8 (some .int) 9 187 0 0 [.ref am] (zMw am st b) sz (zMw am o.1 b) sz (some (.int o.2)) := by
  refine zenter (own := RX5) zplX5 rfl (Nat.le_of_ble_eq_true rfl) trivial (fun K hX hnm hret => ?_)
  unfold fX5_solutionsByAll at h
  show VW K (zMw am st b) sz 0 0 0 [(0, .ref am)] []
  refine zr_lconst (pc := 0) hX (v := 1) rfl dX5_solutionsByAll_0 ?_
  refine zr_lstore_n (pc := 1) hX rfl rfl (Nat.le_of_ble_eq_true rfl) rfl dX5_solutionsByAll_1 ?_
  refine zr_iconst (pc := 2) hX zci_0 dX5_solutionsByAll_2 ?_
  refine zr_istore_n (pc := 3) hX rfl rfl (Nat.le_of_ble_eq_true rfl) rfl dX5_solutionsByAll_3 ?_
  obtain ⟨t3, gt3, h⟩ := bnd h
  have hJt3 : ∀ a, a = t3 → VW K (zMw am st b) sz 0 0 53 [(0, .ref am), (1, .long a)] [] := by
    intro a ea
    rw [ea]
    refine zr_aload_n (pc := 53) hX 0 rfl rfl dX5_solutionsByAll_53 ?_
    refine zr_lload_n (pc := 54) hX 1 rfl rfl dX5_solutionsByAll_54 ?_
    refine zr_ldc2 (pc := 55) hX q2372 dX5_solutionsByAll_55 ?_
    refine zr_lcmp (pc := 58) hX dX5_solutionsByAll_58 ?_
    obtain ⟨t4, gt4, h⟩ := bnd h
    have hJt4 : ∀ a, t4 = a → VW K (zMw am st b) sz 0 0 67 [(0, .ref am), (1, .long t3)] [.int a, .ref am] := by
      intro a ea
      subst ea
      obtain ⟨st5, gst5, h⟩ := bnd h
      refine zr_mput (pc := 67) hX 68 (Option.some.inj gst5) rfl rfl rfl rfl q1806 dX5_solutionsByAll_67 ?_
      refine zr_iconst (pc := 70) hX zci_0 dX5_solutionsByAll_70 ?_
      refine zr_istore_n (pc := 71) hX rfl rfl (Nat.le_of_ble_eq_true rfl) rfl dX5_solutionsByAll_71 ?_
      refine zr_iconst (pc := 72) hX zci_0 dX5_solutionsByAll_72 ?_
      refine zr_istore (pc := 73) hX rfl (Nat.le_of_ble_eq_true rfl) rfl dX5_solutionsByAll_73 ?_
      refine VW.sub (lv' := [(0, .ref am), (1, .long t3), (3, .int (0 : Int32)), (4, .int (0 : Int32))]) ?_ [2, 3, 1, 0] rfl
      refine zloop_walk (V := (fun a => VW K (zMw am a.1 b) sz 0 0 75 [(0, .ref am), (1, .long t3), (3, .int a.2.1), (4, .int a.2.2)] [])) (E := fun e => e = o) ?_ n (st5, (0 : Int32), (0 : Int32)) _ h rfl
      intro a6 o7 h kco7 keo7
      unfold fX5_solutionsByAll_L75 at h
      refine zr_iload (pc := 75) hX 3 rfl dX5_solutionsByAll_75 ?_
      refine zr_i2l (pc := 77) hX dX5_solutionsByAll_77 ?_
      refine zr_lload_n (pc := 78) hX 1 rfl rfl dX5_solutionsByAll_78 ?_
      refine zr_lcmp (pc := 79) hX dX5_solutionsByAll_79 ?_
      refine zr_if_ge (pc := 80) hX 201 rfl dX5_solutionsByAll_80 (fun c80_30 => ?_) (fun c80_30 => ?_)
      · rw [if_pos c80_30] at h
        refine zr_iload_n (pc := 201) hX 2 rfl rfl dX5_solutionsByAll_201 ?_
        replace h := congrArg some (keo7 _ (Option.some.inj h).symm)
        obtain rfl := Option.some.inj h
        exact hret _ _ dX5_solutionsByAll_202 (Or.inl rfl)
      · rw [if_neg c80_30] at h
        refine zr_aload_n (pc := 83) hX 0 rfl rfl dX5_solutionsByAll_83 ?_
        refine zr_mget (pc := 84) hX 68 rfl rfl q1806 dX5_solutionsByAll_84 ?_
        refine zr_if_ne (pc := 87) hX 201 rfl dX5_solutionsByAll_87 (fun c87_29 => ?_) (fun c87_29 => ?_)
        · rw [if_neg c87_29] at h
          refine zr_iload_n (pc := 201) hX 2 rfl rfl dX5_solutionsByAll_201 ?_
          replace h := congrArg some (keo7 _ (Option.some.inj h).symm)
          obtain rfl := Option.some.inj h
          exact hret _ _ dX5_solutionsByAll_202 (Or.inl rfl)
        · rw [if_pos c87_29] at h
          refine zr_iload (pc := 90) hX 3 rfl dX5_solutionsByAll_90 ?_
          refine zr_istore (pc := 92) hX rfl (Nat.le_of_ble_eq_true rfl) rfl dX5_solutionsByAll_92 ?_
          refine zr_aload_n (pc := 94) hX 1 rfl rfl dX5_solutionsByAll_94 ?_
          refine zr_iconst (pc := 95) hX zci_m1 dX5_solutionsByAll_95 ?_
          obtain ⟨st8, gst8, h⟩ := bnd h
          refine zr_mput (pc := 96) hX 32 (Option.some.inj gst8) rfl rfl rfl rfl q1770 dX5_solutionsByAll_96 ?_
          refine zr_aload_n (pc := 99) hX 1 rfl rfl dX5_solutionsByAll_99 ?_
          refine zr_sipush (pc := 100) hX zcs_4095 dX5_solutionsByAll_100 ?_
          obtain ⟨t9, gt9, h⟩ := bnd h
          refine zr_callV (pc := 103) (stk' := []) (k' := 0) (n' := 0) hX (fun l s0 D => mX5_takesDecisions l s0 D gt9) (zMw_obj _ _ _) (ci := 4) rfl zwX5_takesDecisions q2124 q2126 qs66 rfl rfl rfl rfl rfl rfl rfl rfl rfl dX5_solutionsByAll_103 ?_
          refine zr_iconst (pc := 106) hX zci_0 dX5_solutionsByAll_106 ?_
          refine zr_istore (pc := 107) hX rfl (Nat.le_of_ble_eq_true rfl) rfl dX5_solutionsByAll_107 ?_
          obtain ⟨t12, gt12, h⟩ := bnd h
          have hJt12 : ∀ a, a = t12 → VW K (zMw am a b) sz 0 0 176 [(0, .ref am), (1, .long t3), (3, .int a6.2.1), (4, .int a6.2.2)] [] := by
            intro a ea
            rw [ea]
            refine zr_aload_n (pc := 176) hX 0 rfl rfl dX5_solutionsByAll_176 ?_
            obtain ⟨t13, gt13, h⟩ := bnd h
            refine zr_callV (pc := 177) (stk' := []) (k' := 0) (n' := 0) hX (fun l s0 D => mX5_finds l s0 D gt13) (zMw_obj _ _ _) (ci := 4) rfl zwX5_finds q2132 q2134 qs68 rfl rfl rfl rfl rfl rfl rfl rfl rfl dX5_solutionsByAll_177 ?_
            refine zr_iload_n (pc := 180) hX 2 rfl rfl dX5_solutionsByAll_180 ?_
            refine zr_aload_n (pc := 181) hX 0 rfl rfl dX5_solutionsByAll_181 ?_
            refine zr_mget (pc := 182) hX 37 rfl rfl q1775 dX5_solutionsByAll_182 ?_
            obtain ⟨t14, gt14, h⟩ := bnd h
            have hJt14 : ∀ a, t14 = a → VW K (zMw am t13 b) sz 0 0 193 [(0, .ref am), (1, .long t3), (4, .int a6.2.2)] [.int a, .int a6.2.1] := by
              intro a ea
              subst ea
              refine zr_iadd (pc := 193) hX dX5_solutionsByAll_193 ?_
              obtain ⟨x15, gx15, h⟩ := bnd h
              refine zr_istore_n (pc := 194) hX (Option.some.inj gx15) rfl (Nat.le_of_ble_eq_true rfl) rfl dX5_solutionsByAll_194 ?_
              obtain ⟨x16, gx16, h⟩ := bnd h
              refine zr_iinc (pc := 195) hX 3 rfl zci_1 (Option.some.inj gx16) (Nat.le_of_ble_eq_true rfl) rfl dX5_solutionsByAll_195 ?_
              refine zr_goto (pc := 198) hX 75 rfl dX5_solutionsByAll_198 ?_
              exact (kco7 (t13, x15, x16) (Option.some.inj h).symm).sub [2, 3, 1, 0] rfl
            replace h := gt14
            refine zr_if_eq (pc := 185) hX 192 rfl dX5_solutionsByAll_185 (fun c185_16 => ?_) (fun c185_16 => ?_)
            · rw [if_pos c185_16] at h
              refine zr_iconst (pc := 192) hX zci_1 dX5_solutionsByAll_192 ?_
              exact (hJt14 (1 : Int32) (Option.some.inj h).symm).sub [0, 1, 3] rfl
            · rw [if_neg c185_16] at h
              refine zr_iconst (pc := 188) hX zci_0 dX5_solutionsByAll_188 ?_
              refine zr_goto (pc := 189) hX 193 rfl dX5_solutionsByAll_189 ?_
              exact (hJt14 (0 : Int32) (Option.some.inj h).symm).sub [0, 1, 3] rfl
          refine VW.sub (lv' := [(0, .ref am), (1, .long t3), (3, .int a6.2.1), (4, .int a6.2.2), (5, .int a6.2.2), (6, .int (0 : Int32))]) ?_ [2, 3, 4, 5, 1, 0] rfl
          refine zloop_walk (V := (fun a => VW K (zMw am a.1 b) sz 0 0 109 [(0, .ref am), (1, .long t3), (3, .int a6.2.1), (4, .int a6.2.2), (5, .int a.2.1), (6, .int a.2.2)] [])) (E := fun e => e = t12) ?_ n (t9, a6.2.2, (0 : Int32)) _ gt12 rfl
          intro a10 o11 h kco11 keo11
          unfold fX5_solutionsByAll_L109 at h
          refine zr_iload (pc := 109) hX 5 rfl dX5_solutionsByAll_109 ?_
          refine zr_aload_n (pc := 111) hX 0 rfl rfl dX5_solutionsByAll_111 ?_
          refine zr_mget (pc := 112) hX 0 rfl rfl q1738 dX5_solutionsByAll_112 ?_
          refine zr_icmp_ge (pc := 115) hX 176 rfl dX5_solutionsByAll_115 (fun c115_28 => ?_) (fun c115_28 => ?_)
          · rw [if_pos c115_28] at h
            exact (hJt12 a10.1 (keo11 _ (Option.some.inj h).symm)).sub [0, 1, 2, 3] rfl
          · rw [if_neg c115_28] at h
            refine zr_aload_n (pc := 118) hX 0 rfl rfl dX5_solutionsByAll_118 ?_
            refine zr_mgetA (pc := 119) hX 1 rfl rfl q1739 dX5_solutionsByAll_119 ?_
            refine zr_iload (pc := 122) hX 5 rfl dX5_solutionsByAll_122 ?_
            obtain ⟨x18, gx18, h⟩ := bnd h
            refine zr_mald (pc := 124) hX 1 rfl rfl rfl gx18 dX5_solutionsByAll_124 ?_
            refine zr_iconst (pc := 125) hX zci_3 dX5_solutionsByAll_125 ?_
            obtain ⟨t19, gt19, h⟩ := bnd h
            have hJt19 : ∀ a, t19 = a → VW K (zMw am a.1 b) sz 0 0 170 [(0, .ref am), (1, .long t3), (3, .int a6.2.1), (4, .int a6.2.2), (5, .int a.2), (6, .int a10.2.2)] [] := by
              intro a ea
              subst ea
              obtain ⟨x20, gx20, h⟩ := bnd h
              refine zr_iinc (pc := 170) hX 5 rfl zci_1 (Option.some.inj gx20) (Nat.le_of_ble_eq_true rfl) rfl dX5_solutionsByAll_170 ?_
              refine zr_goto (pc := 173) hX 109 rfl dX5_solutionsByAll_173 ?_
              exact (kco11 (t19.1, t19.2, x20) (Option.some.inj h).symm).sub [1, 2, 3, 4, 5, 0] rfl
            replace h := gt19
            refine zr_icmp_eq (pc := 126) hX 170 rfl dX5_solutionsByAll_126 (fun c126_27 => ?_) (fun c126_27 => ?_)
            · rw [if_pos c126_27] at h
              exact (hJt19 (a10.1, a10.2.1) (Option.some.inj h).symm).sub [0, 1, 2, 3, 4, 5] rfl
            · rw [if_neg c126_27] at h
              refine zr_aload_n (pc := 129) hX 0 rfl rfl dX5_solutionsByAll_129 ?_
              refine zr_mgetA (pc := 130) hX 2 rfl rfl q1740 dX5_solutionsByAll_130 ?_
              refine zr_iload (pc := 133) hX 5 rfl dX5_solutionsByAll_133 ?_
              obtain ⟨x21, gx21, h⟩ := bnd h
              refine zr_mald (pc := 135) hX 2 rfl rfl rfl gx21 dX5_solutionsByAll_135 ?_
              obtain ⟨t22, gt22, h⟩ := bnd h
              refine zr_callS (pc := 136) (stk' := [.int t22]) (k' := 0) (n' := 0) hX (fun l s0 D => mX5_count l s0 D gt22) zwX5_count q2197 q2198 rfl rfl rfl rfl rfl rfl rfl rfl dX5_solutionsByAll_136 ?_
              refine zr_istore (pc := 139) hX rfl (Nat.le_of_ble_eq_true rfl) rfl dX5_solutionsByAll_139 ?_
              refine zr_aload_n (pc := 141) hX 1 rfl rfl dX5_solutionsByAll_141 ?_
              refine zr_iload (pc := 142) hX 6 rfl dX5_solutionsByAll_142 ?_
              refine zr_aload_n (pc := 144) hX 1 rfl rfl dX5_solutionsByAll_144 ?_
              refine zr_mgetA (pc := 145) hX 2 rfl rfl q1740 dX5_solutionsByAll_145 ?_
              refine zr_iload (pc := 148) hX 6 rfl dX5_solutionsByAll_148 ?_
              obtain ⟨x23, gx23, h⟩ := bnd h
              refine zr_mald (pc := 150) hX 2 rfl rfl rfl gx23 dX5_solutionsByAll_150 ?_
              refine zr_iload (pc := 151) hX 5 rfl dX5_solutionsByAll_151 ?_
              refine zr_iload (pc := 153) hX 0 rfl dX5_solutionsByAll_153 ?_
              obtain ⟨x24, gx24, h⟩ := bnd h
              obtain ⟨nx24, ex24⟩ := zrem_spec gx24
              refine zr_iremE (pc := 155) hX nx24 ex24 dX5_solutionsByAll_155 ?_
              obtain ⟨t25, gt25, h⟩ := bnd h
              refine zr_callS (pc := 156) (stk' := [.int t25, .int a10.2.2, .ref am]) (k' := 0) (n' := 0) hX (fun l s0 D => mX5_nth l s0 D gt25) zwX5_nth q2373 q2374 rfl rfl rfl rfl rfl rfl rfl rfl dX5_solutionsByAll_156 ?_
              refine zr_iconst (pc := 159) hX zci_1 dX5_solutionsByAll_159 ?_
              obtain ⟨t26, gt26, h⟩ := bnd h
              refine zr_callV (pc := 160) (stk' := []) (k' := 0) (n' := 0) hX (fun l s0 D => mX5_takesOne l s0 D gt26) (zMw_obj _ _ _) (ci := 4) rfl zwX5_takesOne q2128 q2130 qs67 rfl rfl rfl rfl rfl rfl rfl rfl rfl dX5_solutionsByAll_160 ?_
              refine zr_iload (pc := 163) hX 5 rfl dX5_solutionsByAll_163 ?_
              refine zr_iload (pc := 165) hX 0 rfl dX5_solutionsByAll_165 ?_
              obtain ⟨x27, gx27, h⟩ := bnd h
              obtain ⟨nx27, ex27⟩ := zdiv_spec gx27
              refine zr_idivE (pc := 167) hX nx27 ex27 dX5_solutionsByAll_167 ?_
              refine zr_istore (pc := 168) hX rfl (Nat.le_of_ble_eq_true rfl) rfl dX5_solutionsByAll_168 ?_
              exact (hJt19 (t26, x27) (Option.some.inj h).symm).sub [2, 3, 4, 5, 0, 6] rfl
    replace h := gt4
    refine zr_if_le (pc := 59) hX 66 rfl dX5_solutionsByAll_59 (fun c59_31 => ?_) (fun c59_31 => ?_)
    · rw [if_pos c59_31] at h
      refine zr_iconst (pc := 66) hX zci_0 dX5_solutionsByAll_66 ?_
      exact (hJt4 (0 : Int32) (Option.some.inj h).symm).sub [0, 1] rfl
    · rw [if_neg c59_31] at h
      refine zr_iconst (pc := 62) hX zci_1 dX5_solutionsByAll_62 ?_
      refine zr_goto (pc := 63) hX 67 rfl dX5_solutionsByAll_63 ?_
      exact (hJt4 (1 : Int32) (Option.some.inj h).symm).sub [0, 1] rfl
  refine VW.sub (lv' := [(0, .ref am), (1, .long (1 : Int64)), (3, .int (0 : Int32))]) ?_ [2, 1, 0] rfl
  refine zloop_walk (V := (fun a => VW K (zMw am st b) sz 0 0 4 [(0, .ref am), (1, .long a.1), (3, .int a.2)] [])) (E := fun e => e = t3) ?_ n ((1 : Int64), (0 : Int32)) _ gt3 rfl
  intro a1 o2 h kco2 keo2
  unfold fX5_solutionsByAll_L4 at h
  refine zr_iload_n (pc := 4) hX 2 rfl rfl dX5_solutionsByAll_4 ?_
  refine zr_aload_n (pc := 5) hX 0 rfl rfl dX5_solutionsByAll_5 ?_
  refine zr_mget (pc := 6) hX 0 rfl rfl q1738 dX5_solutionsByAll_6 ?_
  refine zr_icmp_ge (pc := 9) hX 53 rfl dX5_solutionsByAll_9 (fun c9_40 => ?_) (fun c9_40 => ?_)
  · rw [if_pos c9_40] at h
    exact (hJt3 a1.1 (keo2 _ (Option.some.inj h).symm)).sub [0, 1] rfl
  · rw [if_neg c9_40] at h
    refine zr_lload_n (pc := 12) hX 1 rfl rfl dX5_solutionsByAll_12 ?_
    refine zr_ldc2 (pc := 13) hX q2372 dX5_solutionsByAll_13 ?_
    refine zr_lcmp (pc := 16) hX dX5_solutionsByAll_16 ?_
    refine zr_if_gt (pc := 17) hX 53 rfl dX5_solutionsByAll_17 (fun c17_39 => ?_) (fun c17_39 => ?_)
    · rw [if_pos c17_39] at h
      exact (hJt3 a1.1 (keo2 _ (Option.some.inj h).symm)).sub [0, 1] rfl
    · rw [if_neg c17_39] at h
      refine zr_lload_n (pc := 20) hX 1 rfl rfl dX5_solutionsByAll_20 ?_
      refine zr_aload_n (pc := 21) hX 0 rfl rfl dX5_solutionsByAll_21 ?_
      refine zr_mgetA (pc := 22) hX 1 rfl rfl q1739 dX5_solutionsByAll_22 ?_
      refine zr_iload_n (pc := 25) hX 2 rfl rfl dX5_solutionsByAll_25 ?_
      obtain ⟨x33, gx33, h⟩ := bnd h
      refine zr_mald (pc := 26) hX 1 rfl rfl rfl gx33 dX5_solutionsByAll_26 ?_
      refine zr_iconst (pc := 27) hX zci_3 dX5_solutionsByAll_27 ?_
      obtain ⟨t34, gt34, h⟩ := bnd h
      have hJt34 : ∀ a, t34 = a → VW K (zMw am st b) sz 0 0 45 [(0, .ref am), (3, .int a1.2)] [.long a, .long a1.1] := by
        intro a ea
        subst ea
        refine zr_lmul (pc := 45) hX dX5_solutionsByAll_45 ?_
        obtain ⟨w35, gw35, h⟩ := bnd h
        refine zr_lstore_n (pc := 46) hX (Option.some.inj gw35) rfl (Nat.le_of_ble_eq_true rfl) rfl dX5_solutionsByAll_46 ?_
        obtain ⟨x36, gx36, h⟩ := bnd h
        refine zr_iinc (pc := 47) hX 2 rfl zci_1 (Option.some.inj gx36) (Nat.le_of_ble_eq_true rfl) rfl dX5_solutionsByAll_47 ?_
        refine zr_goto (pc := 50) hX 4 rfl dX5_solutionsByAll_50 ?_
        exact (kco2 (w35, x36) (Option.some.inj h).symm).sub [2, 1, 0] rfl
      replace h := gt34
      refine zr_icmp_ne (pc := 28) hX 35 rfl dX5_solutionsByAll_28 (fun c28_38 => ?_) (fun c28_38 => ?_)
      · rw [if_neg c28_38] at h
        refine zr_aload_n (pc := 35) hX 0 rfl rfl dX5_solutionsByAll_35 ?_
        refine zr_mgetA (pc := 36) hX 2 rfl rfl q1740 dX5_solutionsByAll_36 ?_
        refine zr_iload_n (pc := 39) hX 2 rfl rfl dX5_solutionsByAll_39 ?_
        obtain ⟨x37, gx37, h⟩ := bnd h
        refine zr_mald (pc := 40) hX 2 rfl rfl rfl gx37 dX5_solutionsByAll_40 ?_
        obtain ⟨t38, gt38, h⟩ := bnd h
        refine zr_callS (pc := 41) (stk' := [.int t38, .long a1.1]) (k' := 0) (n' := 0) hX (fun l s0 D => mX5_count l s0 D gt38) zwX5_count q2197 q2198 rfl rfl rfl rfl rfl rfl rfl rfl dX5_solutionsByAll_41 ?_
        refine zr_i2l (pc := 44) hX dX5_solutionsByAll_44 ?_
        exact (hJt34 t38.toInt64 (Option.some.inj h).symm).sub [0, 2] rfl
      · rw [if_pos c28_38] at h
        refine zr_lconst (pc := 31) hX (v := 1) rfl dX5_solutionsByAll_31 ?_
        refine zr_goto (pc := 32) hX 45 rfl dX5_solutionsByAll_32 ?_
        exact (hJt34 (1 : Int64) (Option.some.inj h).symm).sub [0, 2] rfl
set_option maxHeartbeats 4000000 in
theorem mX5_minimise (l : Launch) (s0 : State) (D : zD) {n : Nat} {am : Nat} {st : zMS} {b : zH} {sz : Nat} {p0 : Int32} {p1 : Int32} {p2 : Int32} {p3 : Int32} {p4 : Int32} {o : zMS} (h : fX5_minimise n st p0 p1 p2 p3 p4 = some o) : zM l s0 D yX5_minimise cX5_minimise 8 none 3 43 0 0 [.ref am, .int p0, .int p1, .int p2, .int p3, .int p4] (zMw am st b) sz (zMw am o b) sz none := by
  refine zenter (own := RX5) zplX5 rfl (Nat.le_of_ble_eq_true rfl) rfl (fun K hX hnm hret => ?_)
  unfold fX5_minimise at h
  show VW K (zMw am st b) sz 0 0 0 [(0, .ref am), (1, .int p0), (2, .int p1), (3, .int p2), (4, .int p3), (5, .int p4)] []
  refine zr_iload_n (pc := 0) hX 2 rfl rfl dX5_minimise_0 ?_
  refine zr_iconst (pc := 1) hX zci_0 dX5_minimise_1 ?_
  refine zr_iconst (pc := 2) hX zci_1 dX5_minimise_2 ?_
  obtain ⟨t1, gt1, h⟩ := bnd h
  refine zr_callS (pc := 3) (stk' := [.int t1]) (k' := 0) (n' := 0) hX (fun l s0 D => mX5_isIn l s0 D gt1) zwX5_isIn q1963 q1964 rfl rfl rfl rfl rfl rfl rfl rfl dX5_minimise_3 ?_
  obtain ⟨t2, gt2, h⟩ := bnd h
  have hJt2 : ∀ a, t2 = a → VW K (zMw am st b) sz 0 0 43 [(0, .ref am), (1, .int p0), (2, .int p1), (3, .int p2), (4, .int p3), (5, .int p4)] [.int a] := by
    intro a ea
    subst ea
    refine zr_istore (pc := 43) hX rfl (Nat.le_of_ble_eq_true rfl) rfl dX5_minimise_43 ?_
    refine zr_aload_n (pc := 45) hX 1 rfl rfl dX5_minimise_45 ?_
    refine zr_aload_n (pc := 46) hX 1 rfl rfl dX5_minimise_46 ?_
    refine zr_iload_n (pc := 47) hX 2 rfl rfl dX5_minimise_47 ?_
    obtain ⟨t3, gt3, h⟩ := bnd h
    refine zr_callV (pc := 48) (stk' := [.int t3, .ref am]) (k' := 0) (n' := 0) hX (fun l s0 D => mX5_isVariable l s0 D gt3) (zMw_obj _ _ _) (ci := 4) rfl zwX5_isVariable q1982 q1984 qs54 rfl rfl rfl rfl rfl rfl rfl rfl rfl dX5_minimise_48 ?_
    obtain ⟨t4, gt4, h⟩ := bnd h
    have hJt4 : ∀ a, t4 = a → VW K (zMw am st b) sz 0 0 77 [(0, .ref am), (1, .int p0), (2, .int p1), (3, .int p2), (4, .int p3), (5, .int p4)] [.int a, .ref am] := by
      intro a ea
      subst ea
      obtain ⟨st5, gst5, h⟩ := bnd h
      refine zr_mput (pc := 77) hX 68 (Option.some.inj gst5) rfl rfl rfl rfl q1806 dX5_minimise_77 ?_
      refine zr_aload_n (pc := 80) hX 0 rfl rfl dX5_minimise_80 ?_
      refine zr_mget (pc := 81) hX 68 rfl rfl q1806 dX5_minimise_81 ?_
      refine zr_if_le (pc := 84) hX 88 rfl dX5_minimise_84 (fun c84_17 => ?_) (fun c84_17 => ?_)
      · rw [if_pos c84_17] at h
        refine zr_aload_n (pc := 88) hX 0 rfl rfl dX5_minimise_88 ?_
        refine zr_iload_n (pc := 89) hX 1 rfl rfl dX5_minimise_89 ?_
        obtain ⟨st6, gst6, h⟩ := bnd h
        refine zr_mput (pc := 90) hX 55 (Option.some.inj gst6) rfl rfl rfl rfl q1793 dX5_minimise_90 ?_
        refine zr_aload_n (pc := 93) hX 0 rfl rfl dX5_minimise_93 ?_
        refine zr_bipush (pc := 94) hX zcb_16 dX5_minimise_94 ?_
        obtain ⟨st7, gst7, h⟩ := bnd h
        refine zr_mput (pc := 96) hX 56 (Option.some.inj gst7) rfl rfl rfl rfl q1794 dX5_minimise_96 ?_
        refine zr_aload_n (pc := 99) hX 0 rfl rfl dX5_minimise_99 ?_
        refine zr_mgetA (pc := 100) hX 57 rfl rfl q1795 dX5_minimise_100 ?_
        refine zr_iconst (pc := 103) hX zci_0 dX5_minimise_103 ?_
        refine zr_iload_n (pc := 104) hX 2 rfl rfl dX5_minimise_104 ?_
        obtain ⟨st8, gst8, h⟩ := bnd h
        refine zr_mast (pc := 105) hX 57 rfl rfl rfl gst8 dX5_minimise_105 ?_
        refine zr_aload_n (pc := 106) hX 0 rfl rfl dX5_minimise_106 ?_
        refine zr_mgetA (pc := 107) hX 57 rfl rfl q1795 dX5_minimise_107 ?_
        refine zr_iconst (pc := 110) hX zci_1 dX5_minimise_110 ?_
        refine zr_iload (pc := 111) hX 4 rfl dX5_minimise_111 ?_
        obtain ⟨st9, gst9, h⟩ := bnd h
        refine zr_mast (pc := 113) hX 57 rfl rfl rfl gst9 dX5_minimise_113 ?_
        refine zr_aload_n (pc := 114) hX 0 rfl rfl dX5_minimise_114 ?_
        refine zr_mgetA (pc := 115) hX 58 rfl rfl q1796 dX5_minimise_115 ?_
        refine zr_iconst (pc := 118) hX zci_0 dX5_minimise_118 ?_
        refine zr_iload_n (pc := 119) hX 3 rfl rfl dX5_minimise_119 ?_
        obtain ⟨st10, gst10, h⟩ := bnd h
        refine zr_mast (pc := 120) hX 58 rfl rfl rfl gst10 dX5_minimise_120 ?_
        refine zr_aload_n (pc := 121) hX 0 rfl rfl dX5_minimise_121 ?_
        refine zr_mgetA (pc := 122) hX 58 rfl rfl q1796 dX5_minimise_122 ?_
        refine zr_iconst (pc := 125) hX zci_1 dX5_minimise_125 ?_
        refine zr_iload (pc := 126) hX 5 rfl dX5_minimise_126 ?_
        obtain ⟨st11, gst11, h⟩ := bnd h
        refine zr_mast (pc := 128) hX 58 rfl rfl rfl gst11 dX5_minimise_128 ?_
        refine zr_iconst (pc := 129) hX zci_0 dX5_minimise_129 ?_
        refine zr_istore (pc := 130) hX rfl (Nat.le_of_ble_eq_true rfl) rfl dX5_minimise_130 ?_
        refine VW.sub (lv' := [(0, .ref am), (7, .int (0 : Int32))]) ?_ [1, 0] rfl
        refine zloop_walk (V := (fun a => VW K (zMw am a.1 b) sz 0 0 132 [(0, .ref am), (7, .int a.2)] [])) (E := fun e => e = o) ?_ n (st11, (0 : Int32)) _ h rfl
        intro a12 o13 h kco13 keo13
        unfold fX5_minimise_L132 at h
        refine zr_iload (pc := 132) hX 1 rfl dX5_minimise_132 ?_
        refine zr_iconst (pc := 134) hX zci_2 dX5_minimise_134 ?_
        refine zr_icmp_ge (pc := 135) hX 160 rfl dX5_minimise_135 (fun c135_16 => ?_) (fun c135_16 => ?_)
        · rw [if_pos c135_16] at h
          replace h := congrArg some (keo13 _ (Option.some.inj h).symm)
          obtain rfl := Option.some.inj h
          exact hret _ _ dX5_minimise_160
        · rw [if_neg c135_16] at h
          refine zr_aload_n (pc := 138) hX 0 rfl rfl dX5_minimise_138 ?_
          refine zr_mgetA (pc := 139) hX 59 rfl rfl q1797 dX5_minimise_139 ?_
          refine zr_iload (pc := 142) hX 1 rfl dX5_minimise_142 ?_
          refine zr_iconst (pc := 144) hX zci_0 dX5_minimise_144 ?_
          obtain ⟨st14, gst14, h⟩ := bnd h
          refine zr_mastZ (pc := 145) hX 59 rfl rfl rfl gst14 dX5_minimise_145 ?_
          refine zr_aload_n (pc := 146) hX 0 rfl rfl dX5_minimise_146 ?_
          refine zr_mgetA (pc := 147) hX 60 rfl rfl q1798 dX5_minimise_147 ?_
          refine zr_iload (pc := 150) hX 1 rfl dX5_minimise_150 ?_
          refine zr_iconst (pc := 152) hX zci_0 dX5_minimise_152 ?_
          obtain ⟨st15, gst15, h⟩ := bnd h
          refine zr_mast (pc := 153) hX 60 rfl rfl rfl gst15 dX5_minimise_153 ?_
          obtain ⟨x16, gx16, h⟩ := bnd h
          refine zr_iinc (pc := 154) hX 1 rfl zci_1 (Option.some.inj gx16) (Nat.le_of_ble_eq_true rfl) rfl dX5_minimise_154 ?_
          refine zr_goto (pc := 157) hX 132 rfl dX5_minimise_157 ?_
          exact (kco13 (st15, x16) (Option.some.inj h).symm).sub [1, 0] rfl
      · rw [if_neg c84_17] at h
        obtain rfl := Option.some.inj h
        exact hret _ _ dX5_minimise_87
    replace h := gt4
    refine zr_if_ne (pc := 51) hX 58 rfl dX5_minimise_51 (fun c51_23 => ?_) (fun c51_23 => ?_)
    · rw [if_neg c51_23] at h
      refine zr_aload_n (pc := 58) hX 1 rfl rfl dX5_minimise_58 ?_
      refine zr_mgetA (pc := 59) hX 1 rfl rfl q1739 dX5_minimise_59 ?_
      refine zr_iload_n (pc := 62) hX 2 rfl rfl dX5_minimise_62 ?_
      obtain ⟨x19, gx19, h⟩ := bnd h
      refine zr_mald (pc := 63) hX 1 rfl rfl rfl gx19 dX5_minimise_63 ?_
      obtain ⟨u21, gu21, hAu21, hBu21⟩ := zesc_bnd h
      have hJt20 : ∀ a, u21 = .inl a → VW K (zMw am st b) sz 0 0 72 [(0, .ref am), (1, .int p0), (2, .int p1), (3, .int p2), (4, .int p3), (5, .int p4)] [.ref am] := by
        intro t20 ea
        have h := hAu21 _ ea
        refine zr_iconst (pc := 72) hX zci_2 dX5_minimise_72 ?_
        refine zr_goto (pc := 73) hX 77 rfl dX5_minimise_73 ?_
        exact (hJt4 (2 : Int32) (Option.some.inj h).symm).sub [0, 1, 2, 3, 4, 5] rfl
      replace h := gu21
      refine zr_if_ne (pc := 64) hX 72 rfl dX5_minimise_64 (fun c64_22 => ?_) (fun c64_22 => ?_)
      · rw [if_neg c64_22] at h
        exact (hJt20 () (Option.some.inj h).symm).sub [1, 2, 3, 4, 5, 6] rfl
      · rw [if_pos c64_22] at h
        refine zr_iload (pc := 67) hX 0 rfl dX5_minimise_67 ?_
        refine zr_if_ne (pc := 69) hX 76 rfl dX5_minimise_69 (fun c69_21 => ?_) (fun c69_21 => ?_)
        · rw [if_neg c69_21] at h
          refine zr_iconst (pc := 76) hX zci_0 dX5_minimise_76 ?_
          replace h := congrArg some (hBu21 _ (Option.some.inj h).symm)
          exact (hJt4 (0 : Int32) (Option.some.inj h).symm).sub [1, 2, 3, 4, 5, 6] rfl
        · rw [if_pos c69_21] at h
          exact (hJt20 () (Option.some.inj h).symm).sub [1, 2, 3, 4, 5, 6] rfl
    · rw [if_pos c51_23] at h
      refine zr_iconst (pc := 54) hX zci_1 dX5_minimise_54 ?_
      refine zr_goto (pc := 55) hX 77 rfl dX5_minimise_55 ?_
      exact (hJt4 (1 : Int32) (Option.some.inj h).symm).sub [1, 2, 3, 4, 5, 6] rfl
  replace h := gt2
  obtain ⟨u26, gu26, hAu26, hBu26⟩ := zesc_bnd h
  have hJt25 : ∀ a, u26 = .inl a → VW K (zMw am st b) sz 0 0 42 [(0, .ref am), (1, .int p0), (2, .int p1), (3, .int p2), (4, .int p3), (5, .int p4)] [] := by
    intro t25 ea
    have h := hAu26 _ ea
    refine zr_iconst (pc := 42) hX zci_0 dX5_minimise_42 ?_
    exact (hJt2 (0 : Int32) (Option.some.inj h).symm).sub [0, 1, 2, 3, 4, 5] rfl
  replace h := gu26
  refine zr_if_eq (pc := 6) hX 42 rfl dX5_minimise_6 (fun c6_32 => ?_) (fun c6_32 => ?_)
  · rw [if_pos c6_32] at h
    exact (hJt25 () (Option.some.inj h).symm).sub [0, 1, 2, 3, 4, 5] rfl
  · rw [if_neg c6_32] at h
    refine zr_iload_n (pc := 9) hX 3 rfl rfl dX5_minimise_9 ?_
    refine zr_iconst (pc := 10) hX zci_0 dX5_minimise_10 ?_
    refine zr_iconst (pc := 11) hX zci_2 dX5_minimise_11 ?_
    obtain ⟨t27, gt27, h⟩ := bnd h
    refine zr_callS (pc := 12) (stk' := [.int t27]) (k' := 0) (n' := 0) hX (fun l s0 D => mX5_isIn l s0 D gt27) zwX5_isIn q1963 q1964 rfl rfl rfl rfl rfl rfl rfl rfl dX5_minimise_12 ?_
    refine zr_if_eq (pc := 15) hX 42 rfl dX5_minimise_15 (fun c15_31 => ?_) (fun c15_31 => ?_)
    · rw [if_pos c15_31] at h
      exact (hJt25 () (Option.some.inj h).symm).sub [0, 1, 2, 3, 4, 5] rfl
    · rw [if_neg c15_31] at h
      refine zr_iload (pc := 18) hX 4 rfl dX5_minimise_18 ?_
      refine zr_iconst (pc := 20) hX zci_0 dX5_minimise_20 ?_
      refine zr_iconst (pc := 21) hX zci_1 dX5_minimise_21 ?_
      obtain ⟨t28, gt28, h⟩ := bnd h
      refine zr_callS (pc := 22) (stk' := [.int t28]) (k' := 0) (n' := 0) hX (fun l s0 D => mX5_isIn l s0 D gt28) zwX5_isIn q1963 q1964 rfl rfl rfl rfl rfl rfl rfl rfl dX5_minimise_22 ?_
      refine zr_if_eq (pc := 25) hX 42 rfl dX5_minimise_25 (fun c25_30 => ?_) (fun c25_30 => ?_)
      · rw [if_pos c25_30] at h
        exact (hJt25 () (Option.some.inj h).symm).sub [0, 1, 2, 3, 4, 5] rfl
      · rw [if_neg c25_30] at h
        refine zr_iload (pc := 28) hX 5 rfl dX5_minimise_28 ?_
        refine zr_iconst (pc := 30) hX zci_0 dX5_minimise_30 ?_
        refine zr_iconst (pc := 31) hX zci_2 dX5_minimise_31 ?_
        obtain ⟨t29, gt29, h⟩ := bnd h
        refine zr_callS (pc := 32) (stk' := [.int t29]) (k' := 0) (n' := 0) hX (fun l s0 D => mX5_isIn l s0 D gt29) zwX5_isIn q1963 q1964 rfl rfl rfl rfl rfl rfl rfl rfl dX5_minimise_32 ?_
        refine zr_if_eq (pc := 35) hX 42 rfl dX5_minimise_35 (fun c35_29 => ?_) (fun c35_29 => ?_)
        · rw [if_pos c35_29] at h
          exact (hJt25 () (Option.some.inj h).symm).sub [0, 1, 2, 3, 4, 5] rfl
        · rw [if_neg c35_29] at h
          refine zr_iconst (pc := 38) hX zci_1 dX5_minimise_38 ?_
          refine zr_goto (pc := 39) hX 43 rfl dX5_minimise_39 ?_
          replace h := congrArg some (hBu26 _ (Option.some.inj h).symm)
          exact (hJt2 (1 : Int32) (Option.some.inj h).symm).sub [0, 1, 2, 3, 4, 5] rfl
