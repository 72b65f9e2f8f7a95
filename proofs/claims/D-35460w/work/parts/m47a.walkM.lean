/-! M: the walks (printed by gen/genm.py) -/
set_option maxRecDepth 100000
set_option maxHeartbeats 4000000 in
theorem mX5_thrown (l : Launch) (s0 : State) (D : zD) {am : Nat} {st : zMS} {b : zH} {sz : Nat} {o : Int32} (h : fX5_thrown st = some o) : zM l s0 D yX5_thrown cX5_thrown 1 (some .int) 1 0 0 0 [.ref am] (zMw am st b) sz (zMw am st b) sz (some (.int o)) := by
  refine zenter (own := RX5) zplX5 rfl (Nat.le_of_ble_eq_true rfl) trivial (fun K hX hnm hret => ?_)
  unfold fX5_thrown at h
  show VW K (zMw am st b) sz 0 0 0 [(0, .ref am)] []
  refine zr_aload_n (pc := 0) hX 0 rfl rfl dX5_thrown_0 ?_
  refine zr_mget (pc := 1) hX 68 rfl rfl q1806 dX5_thrown_1 ?_
  obtain rfl := Option.some.inj h
  exact hret _ _ dX5_thrown_4 (Or.inl rfl)
set_option maxHeartbeats 4000000 in
theorem mX5_isIn (l : Launch) (s0 : State) (D : zD) {σ : zH} {sz : Nat} {p0 : Int32} {p1 : Int32} {p2 : Int32} {o : Int32} (h : fX5_isIn p0 p1 p2 = some o) : zM l s0 D yX5_isIn cX5_isIn 3 (some .boolean) 1 0 0 0 [.int p0, .int p1, .int p2] σ sz σ sz (some (.int o)) := by
  refine zenter (own := RX5) zplX5 rfl (Nat.le_of_ble_eq_true rfl) trivial (fun K hX hnm hret => ?_)
  unfold fX5_isIn at h
  show VW K σ sz 0 0 0 [(0, .int p0), (1, .int p1), (2, .int p2)] []
  refine zr_iload_n (pc := 0) hX 0 rfl rfl dX5_isIn_0 ?_
  refine zr_iload_n (pc := 1) hX 1 rfl rfl dX5_isIn_1 ?_
  refine zr_icmp_lt (pc := 2) hX 14 rfl dX5_isIn_2 (fun c2_1 => ?_) (fun c2_1 => ?_)
  · rw [if_pos c2_1] at h
    refine zr_iconst (pc := 14) hX zci_0 dX5_isIn_14 ?_
    obtain rfl := Option.some.inj h
    exact hret _ _ dX5_isIn_15 (Or.inr ⟨rfl, Or.inl rfl⟩)
  · rw [if_neg c2_1] at h
    refine zr_iload_n (pc := 5) hX 0 rfl rfl dX5_isIn_5 ?_
    refine zr_iload_n (pc := 6) hX 2 rfl rfl dX5_isIn_6 ?_
    refine zr_icmp_gt (pc := 7) hX 14 rfl dX5_isIn_7 (fun c7_0 => ?_) (fun c7_0 => ?_)
    · rw [if_pos c7_0] at h
      refine zr_iconst (pc := 14) hX zci_0 dX5_isIn_14 ?_
      obtain rfl := Option.some.inj h
      exact hret _ _ dX5_isIn_15 (Or.inr ⟨rfl, Or.inl rfl⟩)
    · rw [if_neg c7_0] at h
      refine zr_iconst (pc := 10) hX zci_1 dX5_isIn_10 ?_
      refine zr_goto (pc := 11) hX 15 rfl dX5_isIn_11 ?_
      obtain rfl := Option.some.inj h
      exact hret _ _ dX5_isIn_15 (Or.inr ⟨rfl, Or.inr rfl⟩)
set_option maxHeartbeats 4000000 in
theorem mX5_all (l : Launch) (s0 : State) (D : zD) {σ : zH} {sz : Nat} {p0 : Int32} {o : Int32} (h : fX5_all p0 = some o) : zM l s0 D yX5_all cX5_all 1 (some .int) 1 0 0 0 [.int p0] σ sz σ sz (some (.int o)) := by
  refine zenter (own := RX5) zplX5 rfl (Nat.le_of_ble_eq_true rfl) trivial (fun K hX hnm hret => ?_)
  unfold fX5_all at h
  show VW K σ sz 0 0 0 [(0, .int p0)] []
  refine zr_iload_n (pc := 0) hX 0 rfl rfl dX5_all_0 ?_
  refine zr_if_ne (pc := 1) hX 9 rfl dX5_all_1 (fun c1_1 => ?_) (fun c1_1 => ?_)
  · rw [if_neg c1_1] at h
    refine zr_iload_n (pc := 9) hX 0 rfl rfl dX5_all_9 ?_
    refine zr_iconst (pc := 10) hX zci_1 dX5_all_10 ?_
    refine zr_icmp_ne (pc := 11) hX 18 rfl dX5_all_11 (fun c11_0 => ?_) (fun c11_0 => ?_)
    · rw [if_neg c11_0] at h
      refine zr_sipush (pc := 18) hX zcs_32767 dX5_all_18 ?_
      obtain rfl := Option.some.inj h
      exact hret _ _ dX5_all_21 (Or.inl rfl)
    · rw [if_pos c11_0] at h
      refine zr_iconst (pc := 14) hX zci_m1 dX5_all_14 ?_
      refine zr_goto (pc := 15) hX 21 rfl dX5_all_15 ?_
      obtain rfl := Option.some.inj h
      exact hret _ _ dX5_all_21 (Or.inl rfl)
  · rw [if_pos c1_1] at h
    refine zr_ldc (pc := 4) hX q1969 dX5_all_4 ?_
    refine zr_goto (pc := 6) hX 21 rfl dX5_all_6 ?_
    obtain rfl := Option.some.inj h
    exact hret _ _ dX5_all_21 (Or.inl rfl)
set_option maxHeartbeats 4000000 in
theorem mX5_addsVariable (l : Launch) (s0 : State) (D : zD) {am : Nat} {st : zMS} {b : zH} {sz : Nat} {p0 : Int32} {p1 : Int32} {p2 : Int32} {p3 : Int32} {o : zMS × Int32} (h : fX5_addsVariable st p0 p1 p2 p3 = some o) : zM l s0 D yX5_addsVariable cX5_addsVariable 5 (some .int) 1 0 0 0 [.ref am, .int p0, .int p1, .int p2, .int p3] (zMw am st b) sz (zMw am o.1 b) sz (some (.int o.2)) := by
  refine zenter (own := RX5) zplX5 rfl (Nat.le_of_ble_eq_true rfl) trivial (fun K hX hnm hret => ?_)
  unfold fX5_addsVariable at h
  show VW K (zMw am st b) sz 0 0 0 [(0, .ref am), (1, .int p0), (2, .int p1), (3, .int p2), (4, .int p3)] []
  refine zr_aload_n (pc := 0) hX 0 rfl rfl dX5_addsVariable_0 ?_
  refine zr_mgetA (pc := 1) hX 1 rfl rfl q1739 dX5_addsVariable_1 ?_
  refine zr_aload_n (pc := 4) hX 0 rfl rfl dX5_addsVariable_4 ?_
  refine zr_mget (pc := 5) hX 0 rfl rfl q1738 dX5_addsVariable_5 ?_
  refine zr_iload_n (pc := 8) hX 1 rfl rfl dX5_addsVariable_8 ?_
  obtain ⟨st1, gst1, h⟩ := bnd h
  refine zr_mast (pc := 9) hX 1 rfl rfl rfl gst1 dX5_addsVariable_9 ?_
  refine zr_aload_n (pc := 10) hX 0 rfl rfl dX5_addsVariable_10 ?_
  refine zr_mgetA (pc := 11) hX 2 rfl rfl q1740 dX5_addsVariable_11 ?_
  refine zr_aload_n (pc := 14) hX 0 rfl rfl dX5_addsVariable_14 ?_
  refine zr_mget (pc := 15) hX 0 rfl rfl q1738 dX5_addsVariable_15 ?_
  refine zr_iload_n (pc := 18) hX 2 rfl rfl dX5_addsVariable_18 ?_
  obtain ⟨st2, gst2, h⟩ := bnd h
  refine zr_mast (pc := 19) hX 2 rfl rfl rfl gst2 dX5_addsVariable_19 ?_
  refine zr_aload_n (pc := 20) hX 0 rfl rfl dX5_addsVariable_20 ?_
  refine zr_mgetA (pc := 21) hX 3 rfl rfl q1741 dX5_addsVariable_21 ?_
  refine zr_aload_n (pc := 24) hX 0 rfl rfl dX5_addsVariable_24 ?_
  refine zr_mget (pc := 25) hX 0 rfl rfl q1738 dX5_addsVariable_25 ?_
  refine zr_iload_n (pc := 28) hX 3 rfl rfl dX5_addsVariable_28 ?_
  obtain ⟨st3, gst3, h⟩ := bnd h
  refine zr_mast (pc := 29) hX 3 rfl rfl rfl gst3 dX5_addsVariable_29 ?_
  refine zr_aload_n (pc := 30) hX 0 rfl rfl dX5_addsVariable_30 ?_
  refine zr_mgetA (pc := 31) hX 4 rfl rfl q1742 dX5_addsVariable_31 ?_
  refine zr_aload_n (pc := 34) hX 0 rfl rfl dX5_addsVariable_34 ?_
  refine zr_mget (pc := 35) hX 0 rfl rfl q1738 dX5_addsVariable_35 ?_
  refine zr_iload (pc := 38) hX 4 rfl dX5_addsVariable_38 ?_
  obtain ⟨st4, gst4, h⟩ := bnd h
  refine zr_mast (pc := 40) hX 4 rfl rfl rfl gst4 dX5_addsVariable_40 ?_
  refine zr_aload_n (pc := 41) hX 0 rfl rfl dX5_addsVariable_41 ?_
  refine zr_mgetA (pc := 42) hX 45 rfl rfl q1783 dX5_addsVariable_42 ?_
  refine zr_aload_n (pc := 45) hX 0 rfl rfl dX5_addsVariable_45 ?_
  refine zr_mget (pc := 46) hX 0 rfl rfl q1738 dX5_addsVariable_46 ?_
  refine zr_iconst (pc := 49) hX zci_0 dX5_addsVariable_49 ?_
  obtain ⟨st5, gst5, h⟩ := bnd h
  refine zr_mast (pc := 50) hX 45 rfl rfl rfl gst5 dX5_addsVariable_50 ?_
  refine zr_aload_n (pc := 51) hX 0 rfl rfl dX5_addsVariable_51 ?_
  refine zr_dup (pc := 52) hX rfl dX5_addsVariable_52 ?_
  refine zr_mget (pc := 53) hX 0 rfl rfl q1738 dX5_addsVariable_53 ?_
  refine zr_iconst (pc := 56) hX zci_1 dX5_addsVariable_56 ?_
  refine zr_iadd (pc := 57) hX dX5_addsVariable_57 ?_
  obtain ⟨st6, gst6, h⟩ := bnd h
  refine zr_mput (pc := 58) hX 0 (Option.some.inj gst6) rfl rfl rfl rfl q1738 dX5_addsVariable_58 ?_
  refine zr_aload_n (pc := 61) hX 0 rfl rfl dX5_addsVariable_61 ?_
  refine zr_mget (pc := 62) hX 0 rfl rfl q1738 dX5_addsVariable_62 ?_
  refine zr_iconst (pc := 65) hX zci_1 dX5_addsVariable_65 ?_
  refine zr_isub (pc := 66) hX dX5_addsVariable_66 ?_
  obtain rfl := Option.some.inj h
  exact hret _ _ dX5_addsVariable_67 (Or.inl rfl)
set_option maxHeartbeats 4000000 in
theorem mX5_variable (l : Launch) (s0 : State) (D : zD) {am : Nat} {st : zMS} {b : zH} {sz : Nat} {p0 : Int32} {p1 : Int32} {o : zMS × Int32} (h : fX5_variable st p0 p1 = some o) : zM l s0 D yX5_variable cX5_variable 4 (some .int) 2 24 0 0 [.ref am, .int p0, .int p1] (zMw am st b) sz (zMw am o.1 b) sz (some (.int o.2)) := by
  refine zenter (own := RX5) zplX5 rfl (Nat.le_of_ble_eq_true rfl) trivial (fun K hX hnm hret => ?_)
  unfold fX5_variable at h
  show VW K (zMw am st b) sz 0 0 0 [(0, .ref am), (1, .int p0), (2, .int p1)] []
  refine zr_iload_n (pc := 0) hX 1 rfl rfl dX5_variable_0 ?_
  refine zr_iconst (pc := 1) hX zci_0 dX5_variable_1 ?_
  refine zr_iconst (pc := 2) hX zci_2 dX5_variable_2 ?_
  obtain ⟨t1, gt1, h⟩ := bnd h
  refine zr_callS (pc := 3) (stk' := [.int t1]) (k' := 0) (n' := 0) hX (fun l s0 D => mX5_isIn l s0 D gt1) zwX5_isIn q1963 q1964 rfl rfl rfl rfl rfl rfl rfl rfl dX5_variable_3 ?_
  obtain ⟨t2, gt2, h⟩ := bnd h
  have hJt2 : ∀ a, t2 = a → VW K (zMw am st b) sz 0 0 29 [(0, .ref am), (1, .int p0), (2, .int p1)] [.int a] := by
    intro a ea
    subst ea
    refine zr_istore_n (pc := 29) hX rfl rfl (Nat.le_of_ble_eq_true rfl) rfl dX5_variable_29 ?_
    refine zr_aload_n (pc := 30) hX 1 rfl rfl dX5_variable_30 ?_
    refine zr_iload_n (pc := 31) hX 0 rfl rfl dX5_variable_31 ?_
    obtain ⟨t3, gt3, h⟩ := bnd h
    have hJt3 : ∀ a, t3 = a → VW K (zMw am st b) sz 0 0 53 [(0, .ref am), (1, .int p0), (2, .int p1)] [.int a, .ref am] := by
      intro a ea
      subst ea
      obtain ⟨st4, gst4, h⟩ := bnd h
      refine zr_mput (pc := 53) hX 68 (Option.some.inj gst4) rfl rfl rfl rfl q1806 dX5_variable_53 ?_
      refine zr_aload_n (pc := 56) hX 0 rfl rfl dX5_variable_56 ?_
      refine zr_mget (pc := 57) hX 68 rfl rfl q1806 dX5_variable_57 ?_
      refine zr_if_le (pc := 60) hX 67 rfl dX5_variable_60 (fun c60_5 => ?_) (fun c60_5 => ?_)
      · rw [if_pos c60_5] at h
        refine zr_aload_n (pc := 67) hX 0 rfl rfl dX5_variable_67 ?_
        refine zr_iload_n (pc := 68) hX 1 rfl rfl dX5_variable_68 ?_
        refine zr_iload_n (pc := 69) hX 2 rfl rfl dX5_variable_69 ?_
        refine zr_iconst (pc := 70) hX zci_0 dX5_variable_70 ?_
        refine zr_iconst (pc := 71) hX zci_0 dX5_variable_71 ?_
        obtain ⟨t5, gt5, h⟩ := bnd h
        refine zr_callV (pc := 72) (stk' := [.int t5.2]) (k' := 0) (n' := 0) hX (fun l s0 D => mX5_addsVariable l s0 D gt5) (zMw_obj _ _ _) (ci := 4) rfl zwX5_addsVariable q1970 q1972 qs53 rfl rfl rfl rfl rfl rfl rfl rfl rfl dX5_variable_72 ?_
        obtain rfl := Option.some.inj h
        exact hret _ _ dX5_variable_75 (Or.inl rfl)
      · rw [if_neg c60_5] at h
        refine zr_iconst (pc := 63) hX zci_0 dX5_variable_63 ?_
        refine zr_goto (pc := 64) hX 75 rfl dX5_variable_64 ?_
        obtain rfl := Option.some.inj h
        exact hret _ _ dX5_variable_75 (Or.inl rfl)
    replace h := gt3
    refine zr_if_ne (pc := 32) hX 39 rfl dX5_variable_32 (fun c32_7 => ?_) (fun c32_7 => ?_)
    · rw [if_neg c32_7] at h
      refine zr_aload_n (pc := 39) hX 1 rfl rfl dX5_variable_39 ?_
      refine zr_mget (pc := 40) hX 0 rfl rfl q1738 dX5_variable_40 ?_
      refine zr_bipush (pc := 43) hX zcb_10 dX5_variable_43 ?_
      refine zr_icmp_ne (pc := 45) hX 52 rfl dX5_variable_45 (fun c45_6 => ?_) (fun c45_6 => ?_)
      · rw [if_neg c45_6] at h
        refine zr_iconst (pc := 52) hX zci_0 dX5_variable_52 ?_
        exact (hJt3 (0 : Int32) (Option.some.inj h).symm).sub [1, 2, 3] rfl
      · rw [if_pos c45_6] at h
        refine zr_iconst (pc := 48) hX zci_2 dX5_variable_48 ?_
        refine zr_goto (pc := 49) hX 53 rfl dX5_variable_49 ?_
        exact (hJt3 (2 : Int32) (Option.some.inj h).symm).sub [1, 2, 3] rfl
    · rw [if_pos c32_7] at h
      refine zr_iconst (pc := 35) hX zci_1 dX5_variable_35 ?_
      refine zr_goto (pc := 36) hX 53 rfl dX5_variable_36 ?_
      exact (hJt3 (1 : Int32) (Option.some.inj h).symm).sub [1, 2, 3] rfl
  replace h := gt2
  obtain ⟨u10, gu10, hAu10, hBu10⟩ := zesc_bnd h
  have hJt9 : ∀ a, u10 = .inl a → VW K (zMw am st b) sz 0 0 28 [(0, .ref am), (1, .int p0), (2, .int p1)] [] := by
    intro t9 ea
    have h := hAu10 _ ea
    refine zr_iconst (pc := 28) hX zci_0 dX5_variable_28 ?_
    exact (hJt2 (0 : Int32) (Option.some.inj h).symm).sub [0, 1, 2] rfl
  replace h := gu10
  refine zr_if_eq (pc := 6) hX 28 rfl dX5_variable_6 (fun c6_13 => ?_) (fun c6_13 => ?_)
  · rw [if_pos c6_13] at h
    exact (hJt9 () (Option.some.inj h).symm).sub [0, 1, 2] rfl
  · rw [if_neg c6_13] at h
    refine zr_iload_n (pc := 9) hX 2 rfl rfl dX5_variable_9 ?_
    refine zr_if_eq (pc := 10) hX 28 rfl dX5_variable_10 (fun c10_12 => ?_) (fun c10_12 => ?_)
    · rw [if_pos c10_12] at h
      exact (hJt9 () (Option.some.inj h).symm).sub [0, 1, 2] rfl
    · rw [if_neg c10_12] at h
      refine zr_iload_n (pc := 13) hX 2 rfl rfl dX5_variable_13 ?_
      refine zr_iload_n (pc := 14) hX 1 rfl rfl dX5_variable_14 ?_
      obtain ⟨t11, gt11, h⟩ := bnd h
      refine zr_callS (pc := 15) (stk' := [.int t11, .int p1]) (k' := 0) (n' := 0) hX (fun l s0 D => mX5_all l s0 D gt11) zwX5_all q1966 q1967 rfl rfl rfl rfl rfl rfl rfl rfl dX5_variable_15 ?_
      refine zr_iconst (pc := 18) hX zci_m1 dX5_variable_18 ?_
      refine zr_ixor (pc := 19) hX dX5_variable_19 ?_
      refine zr_iand (pc := 20) hX dX5_variable_20 ?_
      refine zr_if_ne (pc := 21) hX 28 rfl dX5_variable_21 (fun c21_11 => ?_) (fun c21_11 => ?_)
      · rw [if_neg c21_11] at h
        exact (hJt9 () (Option.some.inj h).symm).sub [0, 1, 2] rfl
      · rw [if_pos c21_11] at h
        refine zr_iconst (pc := 24) hX zci_1 dX5_variable_24 ?_
        refine zr_goto (pc := 25) hX 29 rfl dX5_variable_25 ?_
        replace h := congrArg some (hBu10 _ (Option.some.inj h).symm)
        exact (hJt2 (1 : Int32) (Option.some.inj h).symm).sub [0, 1, 2] rfl
set_option maxHeartbeats 4000000 in
theorem mX5_ratio (l : Launch) (s0 : State) (D : zD) {am : Nat} {st : zMS} {b : zH} {sz : Nat} {p0 : Int32} {p1 : Int32} {o : zMS × Int32} (h : fX5_ratio st p0 p1 = some o) : zM l s0 D yX5_ratio cX5_ratio 3 (some .int) 2 24 0 0 [.ref am, .int p0, .int p1] (zMw am st b) sz (zMw am o.1 b) sz (some (.int o.2)) := by
  refine zenter (own := RX5) zplX5 rfl (Nat.le_of_ble_eq_true rfl) trivial (fun K hX hnm hret => ?_)
  unfold fX5_ratio at h
  show VW K (zMw am st b) sz 0 0 0 [(0, .ref am), (1, .int p0), (2, .int p1)] []
  refine zr_aload_n (pc := 0) hX 0 rfl rfl dX5_ratio_0 ?_
  refine zr_iload_n (pc := 1) hX 1 rfl rfl dX5_ratio_1 ?_
  refine zr_bipush (pc := 2) hX zcb_m120 dX5_ratio_2 ?_
  refine zr_bipush (pc := 4) hX zcb_120 dX5_ratio_4 ?_
  obtain ⟨t1, gt1, h⟩ := bnd h
  refine zr_callS (pc := 6) (stk' := [.int t1, .ref am]) (k' := 0) (n' := 0) hX (fun l s0 D => mX5_isIn l s0 D gt1) zwX5_isIn q1963 q1964 rfl rfl rfl rfl rfl rfl rfl rfl dX5_ratio_6 ?_
  obtain ⟨t2, gt2, h⟩ := bnd h
  have hJt2 : ∀ a, t2 = a → VW K (zMw am st b) sz 0 0 40 [(0, .ref am), (1, .int p0), (2, .int p1)] [.int a, .ref am] := by
    intro a ea
    subst ea
    obtain ⟨st3, gst3, h⟩ := bnd h
    refine zr_mput (pc := 40) hX 68 (Option.some.inj gst3) rfl rfl rfl rfl q1806 dX5_ratio_40 ?_
    refine zr_aload_n (pc := 43) hX 0 rfl rfl dX5_ratio_43 ?_
    refine zr_mget (pc := 44) hX 68 rfl rfl q1806 dX5_ratio_44 ?_
    refine zr_if_le (pc := 47) hX 54 rfl dX5_ratio_47 (fun c47_4 => ?_) (fun c47_4 => ?_)
    · rw [if_pos c47_4] at h
      refine zr_aload_n (pc := 54) hX 0 rfl rfl dX5_ratio_54 ?_
      refine zr_iconst (pc := 55) hX zci_3 dX5_ratio_55 ?_
      refine zr_iconst (pc := 56) hX zci_m1 dX5_ratio_56 ?_
      refine zr_iload_n (pc := 57) hX 1 rfl rfl dX5_ratio_57 ?_
      refine zr_iload_n (pc := 58) hX 2 rfl rfl dX5_ratio_58 ?_
      obtain ⟨t4, gt4, h⟩ := bnd h
      refine zr_callV (pc := 59) (stk' := [.int t4.2]) (k' := 0) (n' := 0) hX (fun l s0 D => mX5_addsVariable l s0 D gt4) (zMw_obj _ _ _) (ci := 4) rfl zwX5_addsVariable q1970 q1972 qs53 rfl rfl rfl rfl rfl rfl rfl rfl rfl dX5_ratio_59 ?_
      obtain rfl := Option.some.inj h
      exact hret _ _ dX5_ratio_62 (Or.inl rfl)
    · rw [if_neg c47_4] at h
      refine zr_iconst (pc := 50) hX zci_0 dX5_ratio_50 ?_
      refine zr_goto (pc := 51) hX 62 rfl dX5_ratio_51 ?_
      obtain rfl := Option.some.inj h
      exact hret _ _ dX5_ratio_62 (Or.inl rfl)
  replace h := gt2
  obtain ⟨u7, gu7, hAu7, hBu7⟩ := zesc_bnd h
  have hJt6 : ∀ a, u7 = .inl a → VW K (zMw am st b) sz 0 0 22 [(0, .ref am), (1, .int p0), (2, .int p1)] [.ref am] := by
    intro t6 ea
    have h := hAu7 _ ea
    refine zr_iconst (pc := 22) hX zci_1 dX5_ratio_22 ?_
    refine zr_goto (pc := 23) hX 40 rfl dX5_ratio_23 ?_
    exact (hJt2 (1 : Int32) (Option.some.inj h).symm).sub [0, 1, 2] rfl
  replace h := gu7
  refine zr_if_eq (pc := 9) hX 22 rfl dX5_ratio_9 (fun c9_10 => ?_) (fun c9_10 => ?_)
  · rw [if_pos c9_10] at h
    exact (hJt6 () (Option.some.inj h).symm).sub [0, 1, 2] rfl
  · rw [if_neg c9_10] at h
    refine zr_iload_n (pc := 12) hX 2 rfl rfl dX5_ratio_12 ?_
    refine zr_iload_n (pc := 13) hX 1 rfl rfl dX5_ratio_13 ?_
    refine zr_bipush (pc := 14) hX zcb_120 dX5_ratio_14 ?_
    obtain ⟨t8, gt8, h⟩ := bnd h
    refine zr_callS (pc := 16) (stk' := [.int t8, .ref am]) (k' := 0) (n' := 0) hX (fun l s0 D => mX5_isIn l s0 D gt8) zwX5_isIn q1963 q1964 rfl rfl rfl rfl rfl rfl rfl rfl dX5_ratio_16 ?_
    refine zr_if_ne (pc := 19) hX 26 rfl dX5_ratio_19 (fun c19_9 => ?_) (fun c19_9 => ?_)
    · rw [if_neg c19_9] at h
      refine zr_aload_n (pc := 26) hX 0 rfl rfl dX5_ratio_26 ?_
      refine zr_mget (pc := 27) hX 0 rfl rfl q1738 dX5_ratio_27 ?_
      refine zr_bipush (pc := 30) hX zcb_10 dX5_ratio_30 ?_
      refine zr_icmp_ne (pc := 32) hX 39 rfl dX5_ratio_32 (fun c32_8 => ?_) (fun c32_8 => ?_)
      · rw [if_neg c32_8] at h
        refine zr_iconst (pc := 39) hX zci_0 dX5_ratio_39 ?_
        replace h := congrArg some (hBu7 _ (Option.some.inj h).symm)
        exact (hJt2 (0 : Int32) (Option.some.inj h).symm).sub [0, 1, 2] rfl
      · rw [if_pos c32_8] at h
        refine zr_iconst (pc := 35) hX zci_2 dX5_ratio_35 ?_
        refine zr_goto (pc := 36) hX 40 rfl dX5_ratio_36 ?_
        replace h := congrArg some (hBu7 _ (Option.some.inj h).symm)
        exact (hJt2 (2 : Int32) (Option.some.inj h).symm).sub [0, 1, 2] rfl
    · rw [if_pos c19_9] at h
      exact (hJt6 () (Option.some.inj h).symm).sub [0, 1, 2] rfl
set_option maxHeartbeats 4000000 in
theorem mX5_isVariable (l : Launch) (s0 : State) (D : zD) {am : Nat} {st : zMS} {b : zH} {sz : Nat} {p0 : Int32} {o : Int32} (h : fX5_isVariable st p0 = some o) : zM l s0 D yX5_isVariable cX5_isVariable 2 (some .boolean) 2 22 0 0 [.ref am, .int p0] (zMw am st b) sz (zMw am st b) sz (some (.int o)) := by
  refine zenter (own := RX5) zplX5 rfl (Nat.le_of_ble_eq_true rfl) trivial (fun K hX hnm hret => ?_)
  unfold fX5_isVariable at h
  show VW K (zMw am st b) sz 0 0 0 [(0, .ref am), (1, .int p0)] []
  refine zr_iload_n (pc := 0) hX 1 rfl rfl dX5_isVariable_0 ?_
  refine zr_iconst (pc := 1) hX zci_0 dX5_isVariable_1 ?_
  refine zr_aload_n (pc := 2) hX 0 rfl rfl dX5_isVariable_2 ?_
  refine zr_mget (pc := 3) hX 0 rfl rfl q1738 dX5_isVariable_3 ?_
  refine zr_iconst (pc := 6) hX zci_1 dX5_isVariable_6 ?_
  refine zr_isub (pc := 7) hX dX5_isVariable_7 ?_
  obtain ⟨t1, gt1, h⟩ := bnd h
  refine zr_callS (pc := 8) (stk' := [.int t1]) (k' := 0) (n' := 0) hX (fun l s0 D => mX5_isIn l s0 D gt1) zwX5_isIn q1963 q1964 rfl rfl rfl rfl rfl rfl rfl rfl dX5_isVariable_8 ?_
  obtain ⟨x2, gx2, h⟩ := bnd h
  rw [(zq_spec gx2).1] at h
  obtain rfl := Option.some.inj h
  exact hret _ _ dX5_isVariable_11 (Or.inr ⟨rfl, (zq_spec gx2).2⟩)
set_option maxHeartbeats 4000000 in
theorem mX5_name (l : Launch) (s0 : State) (D : zD) {am : Nat} {st : zMS} {b : zH} {sz : Nat} {p0 : Int32} {o : zMS × Int32} (h : fX5_name st p0 = some o) : zM l s0 D yX5_name cX5_name 2 (some .int) 3 43 0 0 [.ref am, .int p0] (zMw am st b) sz (zMw am o.1 b) sz (some (.int o.2)) := by
  refine zenter (own := RX5) zplX5 rfl (Nat.le_of_ble_eq_true rfl) trivial (fun K hX hnm hret => ?_)
  unfold fX5_name at h
  show VW K (zMw am st b) sz 0 0 0 [(0, .ref am), (1, .int p0)] []
  refine zr_aload_n (pc := 0) hX 0 rfl rfl dX5_name_0 ?_
  refine zr_aload_n (pc := 1) hX 0 rfl rfl dX5_name_1 ?_
  refine zr_iload_n (pc := 2) hX 1 rfl rfl dX5_name_2 ?_
  obtain ⟨t1, gt1, h⟩ := bnd h
  refine zr_callV (pc := 3) (stk' := [.int t1, .ref am]) (k' := 0) (n' := 0) hX (fun l s0 D => mX5_isVariable l s0 D gt1) (zMw_obj _ _ _) (ci := 4) rfl zwX5_isVariable q1982 q1984 qs54 rfl rfl rfl rfl rfl rfl rfl rfl rfl dX5_name_3 ?_
  obtain ⟨t2, gt2, h⟩ := bnd h
  have hJt2 : ∀ a, t2 = a → VW K (zMw am st b) sz 0 0 27 [(0, .ref am), (1, .int p0)] [.int a, .ref am] := by
    intro a ea
    subst ea
    obtain ⟨st3, gst3, h⟩ := bnd h
    refine zr_mput (pc := 27) hX 68 (Option.some.inj gst3) rfl rfl rfl rfl q1806 dX5_name_27 ?_
    refine zr_aload_n (pc := 30) hX 0 rfl rfl dX5_name_30 ?_
    refine zr_mget (pc := 31) hX 68 rfl rfl q1806 dX5_name_31 ?_
    refine zr_if_le (pc := 34) hX 39 rfl dX5_name_34 (fun c34_5 => ?_) (fun c34_5 => ?_)
    · rw [if_pos c34_5] at h
      refine zr_aload_n (pc := 39) hX 0 rfl rfl dX5_name_39 ?_
      refine zr_mgetA (pc := 40) hX 6 rfl rfl q1744 dX5_name_40 ?_
      refine zr_aload_n (pc := 43) hX 0 rfl rfl dX5_name_43 ?_
      refine zr_mget (pc := 44) hX 5 rfl rfl q1743 dX5_name_44 ?_
      refine zr_iload_n (pc := 47) hX 1 rfl rfl dX5_name_47 ?_
      obtain ⟨st4, gst4, h⟩ := bnd h
      refine zr_mast (pc := 48) hX 6 rfl rfl rfl gst4 dX5_name_48 ?_
      refine zr_aload_n (pc := 49) hX 0 rfl rfl dX5_name_49 ?_
      refine zr_dup (pc := 50) hX rfl dX5_name_50 ?_
      refine zr_mget (pc := 51) hX 5 rfl rfl q1743 dX5_name_51 ?_
      refine zr_iconst (pc := 54) hX zci_1 dX5_name_54 ?_
      refine zr_iadd (pc := 55) hX dX5_name_55 ?_
      obtain ⟨st5, gst5, h⟩ := bnd h
      refine zr_mput (pc := 56) hX 5 (Option.some.inj gst5) rfl rfl rfl rfl q1743 dX5_name_56 ?_
      refine zr_aload_n (pc := 59) hX 0 rfl rfl dX5_name_59 ?_
      refine zr_mget (pc := 60) hX 5 rfl rfl q1743 dX5_name_60 ?_
      obtain rfl := Option.some.inj h
      exact hret _ _ dX5_name_63 (Or.inl rfl)
    · rw [if_neg c34_5] at h
      refine zr_iconst (pc := 37) hX zci_0 dX5_name_37 ?_
      obtain rfl := Option.some.inj h
      exact hret _ _ dX5_name_38 (Or.inl rfl)
  replace h := gt2
  refine zr_if_ne (pc := 6) hX 13 rfl dX5_name_6 (fun c6_7 => ?_) (fun c6_7 => ?_)
  · rw [if_neg c6_7] at h
    refine zr_aload_n (pc := 13) hX 0 rfl rfl dX5_name_13 ?_
    refine zr_mget (pc := 14) hX 5 rfl rfl q1743 dX5_name_14 ?_
    refine zr_bipush (pc := 17) hX zcb_6 dX5_name_17 ?_
    refine zr_icmp_ne (pc := 19) hX 26 rfl dX5_name_19 (fun c19_6 => ?_) (fun c19_6 => ?_)
    · rw [if_neg c19_6] at h
      refine zr_iconst (pc := 26) hX zci_0 dX5_name_26 ?_
      exact (hJt2 (0 : Int32) (Option.some.inj h).symm).sub [0, 1] rfl
    · rw [if_pos c19_6] at h
      refine zr_iconst (pc := 22) hX zci_2 dX5_name_22 ?_
      refine zr_goto (pc := 23) hX 27 rfl dX5_name_23 ?_
      exact (hJt2 (2 : Int32) (Option.some.inj h).symm).sub [0, 1] rfl
  · rw [if_pos c6_7] at h
    refine zr_iconst (pc := 9) hX zci_1 dX5_name_9 ?_
    refine zr_goto (pc := 10) hX 27 rfl dX5_name_10 ?_
    exact (hJt2 (1 : Int32) (Option.some.inj h).symm).sub [0, 1] rfl
set_option maxHeartbeats 4000000 in
theorem mX5_number (l : Launch) (s0 : State) (D : zD) {am : Nat} {st : zMS} {b : zH} {sz : Nat} {p0 : Int32} {o : zMS × Int32} (h : fX5_number st p0 = some o) : zM l s0 D yX5_number cX5_number 2 (some .int) 2 22 0 0 [.ref am, .int p0] (zMw am st b) sz (zMw am o.1 b) sz (some (.int o.2)) := by
  refine zenter (own := RX5) zplX5 rfl (Nat.le_of_ble_eq_true rfl) trivial (fun K hX hnm hret => ?_)
  unfold fX5_number at h
  show VW K (zMw am st b) sz 0 0 0 [(0, .ref am), (1, .int p0)] []
  refine zr_aload_n (pc := 0) hX 0 rfl rfl dX5_number_0 ?_
  refine zr_iload_n (pc := 1) hX 1 rfl rfl dX5_number_1 ?_
  refine zr_bipush (pc := 2) hX zcb_m9 dX5_number_2 ?_
  refine zr_bipush (pc := 4) hX zcb_9 dX5_number_4 ?_
  obtain ⟨t1, gt1, h⟩ := bnd h
  refine zr_callS (pc := 6) (stk' := [.int t1, .ref am]) (k' := 0) (n' := 0) hX (fun l s0 D => mX5_isIn l s0 D gt1) zwX5_isIn q1963 q1964 rfl rfl rfl rfl rfl rfl rfl rfl dX5_number_6 ?_
  obtain ⟨t2, gt2, h⟩ := bnd h
  have hJt2 : ∀ a, t2 = a → VW K (zMw am st b) sz 0 0 30 [(0, .ref am), (1, .int p0)] [.int a, .ref am] := by
    intro a ea
    subst ea
    obtain ⟨st3, gst3, h⟩ := bnd h
    refine zr_mput (pc := 30) hX 68 (Option.some.inj gst3) rfl rfl rfl rfl q1806 dX5_number_30 ?_
    refine zr_aload_n (pc := 33) hX 0 rfl rfl dX5_number_33 ?_
    refine zr_mget (pc := 34) hX 68 rfl rfl q1806 dX5_number_34 ?_
    refine zr_if_le (pc := 37) hX 42 rfl dX5_number_37 (fun c37_5 => ?_) (fun c37_5 => ?_)
    · rw [if_pos c37_5] at h
      refine zr_aload_n (pc := 42) hX 0 rfl rfl dX5_number_42 ?_
      refine zr_mgetA (pc := 43) hX 8 rfl rfl q1746 dX5_number_43 ?_
      refine zr_aload_n (pc := 46) hX 0 rfl rfl dX5_number_46 ?_
      refine zr_mget (pc := 47) hX 7 rfl rfl q1745 dX5_number_47 ?_
      refine zr_iload_n (pc := 50) hX 1 rfl rfl dX5_number_50 ?_
      obtain ⟨st4, gst4, h⟩ := bnd h
      refine zr_mast (pc := 51) hX 8 rfl rfl rfl gst4 dX5_number_51 ?_
      refine zr_aload_n (pc := 52) hX 0 rfl rfl dX5_number_52 ?_
      refine zr_dup (pc := 53) hX rfl dX5_number_53 ?_
      refine zr_mget (pc := 54) hX 7 rfl rfl q1745 dX5_number_54 ?_
      refine zr_iconst (pc := 57) hX zci_1 dX5_number_57 ?_
      refine zr_iadd (pc := 58) hX dX5_number_58 ?_
      obtain ⟨st5, gst5, h⟩ := bnd h
      refine zr_mput (pc := 59) hX 7 (Option.some.inj gst5) rfl rfl rfl rfl q1745 dX5_number_59 ?_
      refine zr_aload_n (pc := 62) hX 0 rfl rfl dX5_number_62 ?_
      refine zr_mget (pc := 63) hX 7 rfl rfl q1745 dX5_number_63 ?_
      obtain rfl := Option.some.inj h
      exact hret _ _ dX5_number_66 (Or.inl rfl)
    · rw [if_neg c37_5] at h
      refine zr_iconst (pc := 40) hX zci_0 dX5_number_40 ?_
      obtain rfl := Option.some.inj h
      exact hret _ _ dX5_number_41 (Or.inl rfl)
  replace h := gt2
  refine zr_if_ne (pc := 9) hX 16 rfl dX5_number_9 (fun c9_7 => ?_) (fun c9_7 => ?_)
  · rw [if_neg c9_7] at h
    refine zr_aload_n (pc := 16) hX 0 rfl rfl dX5_number_16 ?_
    refine zr_mget (pc := 17) hX 7 rfl rfl q1745 dX5_number_17 ?_
    refine zr_bipush (pc := 20) hX zcb_6 dX5_number_20 ?_
    refine zr_icmp_ne (pc := 22) hX 29 rfl dX5_number_22 (fun c22_6 => ?_) (fun c22_6 => ?_)
    · rw [if_neg c22_6] at h
      refine zr_iconst (pc := 29) hX zci_0 dX5_number_29 ?_
      exact (hJt2 (0 : Int32) (Option.some.inj h).symm).sub [0, 1] rfl
    · rw [if_pos c22_6] at h
      refine zr_iconst (pc := 25) hX zci_2 dX5_number_25 ?_
      refine zr_goto (pc := 26) hX 30 rfl dX5_number_26 ?_
      exact (hJt2 (2 : Int32) (Option.some.inj h).symm).sub [0, 1] rfl
  · rw [if_pos c9_7] at h
    refine zr_iconst (pc := 12) hX zci_1 dX5_number_12 ?_
    refine zr_goto (pc := 13) hX 30 rfl dX5_number_13 ?_
    exact (hJt2 (1 : Int32) (Option.some.inj h).symm).sub [0, 1] rfl
set_option maxHeartbeats 4000000 in
theorem mX5_move (l : Launch) (s0 : State) (D : zD) {am : Nat} {st : zMS} {b : zH} {sz : Nat} {p0 : Int32} {p1 : Int32} {p2 : Int32} {o : zMS × Int32} (h : fX5_move st p0 p1 p2 = some o) : zM l s0 D yX5_move cX5_move 4 (some .int) 2 22 0 0 [.ref am, .int p0, .int p1, .int p2] (zMw am st b) sz (zMw am o.1 b) sz (some (.int o.2)) := by
  refine zenter (own := RX5) zplX5 rfl (Nat.le_of_ble_eq_true rfl) trivial (fun K hX hnm hret => ?_)
  unfold fX5_move at h
  show VW K (zMw am st b) sz 0 0 0 [(0, .ref am), (1, .int p0), (2, .int p1), (3, .int p2)] []
  refine zr_aload_n (pc := 0) hX 0 rfl rfl dX5_move_0 ?_
  refine zr_iload_n (pc := 1) hX 1 rfl rfl dX5_move_1 ?_
  refine zr_iconst (pc := 2) hX zci_0 dX5_move_2 ?_
  refine zr_iconst (pc := 3) hX zci_5 dX5_move_3 ?_
  obtain ⟨t1, gt1, h⟩ := bnd h
  refine zr_callS (pc := 4) (stk' := [.int t1, .ref am]) (k' := 0) (n' := 0) hX (fun l s0 D => mX5_isIn l s0 D gt1) zwX5_isIn q1963 q1964 rfl rfl rfl rfl rfl rfl rfl rfl dX5_move_4 ?_
  obtain ⟨t2, gt2, h⟩ := bnd h
  have hJt2 : ∀ a, t2 = a → VW K (zMw am st b) sz 0 0 47 [(0, .ref am), (1, .int p0), (2, .int p1), (3, .int p2)] [.int a, .ref am] := by
    intro a ea
    subst ea
    obtain ⟨st3, gst3, h⟩ := bnd h
    refine zr_mput (pc := 47) hX 68 (Option.some.inj gst3) rfl rfl rfl rfl q1806 dX5_move_47 ?_
    refine zr_aload_n (pc := 50) hX 0 rfl rfl dX5_move_50 ?_
    refine zr_mget (pc := 51) hX 68 rfl rfl q1806 dX5_move_51 ?_
    refine zr_if_le (pc := 54) hX 59 rfl dX5_move_54 (fun c54_7 => ?_) (fun c54_7 => ?_)
    · rw [if_pos c54_7] at h
      refine zr_aload_n (pc := 59) hX 0 rfl rfl dX5_move_59 ?_
      refine zr_mgetA (pc := 60) hX 10 rfl rfl q1748 dX5_move_60 ?_
      refine zr_iconst (pc := 63) hX zci_3 dX5_move_63 ?_
      refine zr_aload_n (pc := 64) hX 0 rfl rfl dX5_move_64 ?_
      refine zr_mget (pc := 65) hX 9 rfl rfl q1747 dX5_move_65 ?_
      refine zr_imul (pc := 68) hX dX5_move_68 ?_
      refine zr_iload_n (pc := 69) hX 1 rfl rfl dX5_move_69 ?_
      obtain ⟨st4, gst4, h⟩ := bnd h
      refine zr_mast (pc := 70) hX 10 rfl rfl rfl gst4 dX5_move_70 ?_
      refine zr_aload_n (pc := 71) hX 0 rfl rfl dX5_move_71 ?_
      refine zr_mgetA (pc := 72) hX 10 rfl rfl q1748 dX5_move_72 ?_
      refine zr_iconst (pc := 75) hX zci_3 dX5_move_75 ?_
      refine zr_aload_n (pc := 76) hX 0 rfl rfl dX5_move_76 ?_
      refine zr_mget (pc := 77) hX 9 rfl rfl q1747 dX5_move_77 ?_
      refine zr_imul (pc := 80) hX dX5_move_80 ?_
      refine zr_iconst (pc := 81) hX zci_1 dX5_move_81 ?_
      refine zr_iadd (pc := 82) hX dX5_move_82 ?_
      refine zr_iload_n (pc := 83) hX 2 rfl rfl dX5_move_83 ?_
      obtain ⟨st5, gst5, h⟩ := bnd h
      refine zr_mast (pc := 84) hX 10 rfl rfl rfl gst5 dX5_move_84 ?_
      refine zr_aload_n (pc := 85) hX 0 rfl rfl dX5_move_85 ?_
      refine zr_mgetA (pc := 86) hX 10 rfl rfl q1748 dX5_move_86 ?_
      refine zr_iconst (pc := 89) hX zci_3 dX5_move_89 ?_
      refine zr_aload_n (pc := 90) hX 0 rfl rfl dX5_move_90 ?_
      refine zr_mget (pc := 91) hX 9 rfl rfl q1747 dX5_move_91 ?_
      refine zr_imul (pc := 94) hX dX5_move_94 ?_
      refine zr_iconst (pc := 95) hX zci_2 dX5_move_95 ?_
      refine zr_iadd (pc := 96) hX dX5_move_96 ?_
      refine zr_iload_n (pc := 97) hX 3 rfl rfl dX5_move_97 ?_
      obtain ⟨st6, gst6, h⟩ := bnd h
      refine zr_mast (pc := 98) hX 10 rfl rfl rfl gst6 dX5_move_98 ?_
      refine zr_aload_n (pc := 99) hX 0 rfl rfl dX5_move_99 ?_
      refine zr_dup (pc := 100) hX rfl dX5_move_100 ?_
      refine zr_mget (pc := 101) hX 9 rfl rfl q1747 dX5_move_101 ?_
      refine zr_iconst (pc := 104) hX zci_1 dX5_move_104 ?_
      refine zr_iadd (pc := 105) hX dX5_move_105 ?_
      obtain ⟨st7, gst7, h⟩ := bnd h
      refine zr_mput (pc := 106) hX 9 (Option.some.inj gst7) rfl rfl rfl rfl q1747 dX5_move_106 ?_
      refine zr_aload_n (pc := 109) hX 0 rfl rfl dX5_move_109 ?_
      refine zr_mget (pc := 110) hX 9 rfl rfl q1747 dX5_move_110 ?_
      obtain rfl := Option.some.inj h
      exact hret _ _ dX5_move_113 (Or.inl rfl)
    · rw [if_neg c54_7] at h
      refine zr_iconst (pc := 57) hX zci_0 dX5_move_57 ?_
      obtain rfl := Option.some.inj h
      exact hret _ _ dX5_move_58 (Or.inl rfl)
  replace h := gt2
  obtain ⟨u10, gu10, hAu10, hBu10⟩ := zesc_bnd h
  have hJt9 : ∀ a, u10 = .inl a → VW K (zMw am st b) sz 0 0 29 [(0, .ref am), (1, .int p0), (2, .int p1), (3, .int p2)] [.ref am] := by
    intro t9 ea
    have h := hAu10 _ ea
    refine zr_iconst (pc := 29) hX zci_1 dX5_move_29 ?_
    refine zr_goto (pc := 30) hX 47 rfl dX5_move_30 ?_
    exact (hJt2 (1 : Int32) (Option.some.inj h).symm).sub [0, 1, 2, 3] rfl
  replace h := gu10
  refine zr_if_eq (pc := 7) hX 29 rfl dX5_move_7 (fun c7_15 => ?_) (fun c7_15 => ?_)
  · rw [if_pos c7_15] at h
    exact (hJt9 () (Option.some.inj h).symm).sub [0, 1, 2, 3] rfl
  · rw [if_neg c7_15] at h
    refine zr_iload_n (pc := 10) hX 2 rfl rfl dX5_move_10 ?_
    refine zr_iconst (pc := 11) hX zci_0 dX5_move_11 ?_
    refine zr_bipush (pc := 12) hX zcb_15 dX5_move_12 ?_
    obtain ⟨t11, gt11, h⟩ := bnd h
    refine zr_callS (pc := 14) (stk' := [.int t11, .ref am]) (k' := 0) (n' := 0) hX (fun l s0 D => mX5_isIn l s0 D gt11) zwX5_isIn q1963 q1964 rfl rfl rfl rfl rfl rfl rfl rfl dX5_move_14 ?_
    refine zr_if_eq (pc := 17) hX 29 rfl dX5_move_17 (fun c17_14 => ?_) (fun c17_14 => ?_)
    · rw [if_pos c17_14] at h
      exact (hJt9 () (Option.some.inj h).symm).sub [0, 1, 2, 3] rfl
    · rw [if_neg c17_14] at h
      refine zr_iload_n (pc := 20) hX 3 rfl rfl dX5_move_20 ?_
      refine zr_iconst (pc := 21) hX zci_0 dX5_move_21 ?_
      refine zr_iconst (pc := 22) hX zci_5 dX5_move_22 ?_
      obtain ⟨t12, gt12, h⟩ := bnd h
      refine zr_callS (pc := 23) (stk' := [.int t12, .ref am]) (k' := 0) (n' := 0) hX (fun l s0 D => mX5_isIn l s0 D gt12) zwX5_isIn q1963 q1964 rfl rfl rfl rfl rfl rfl rfl rfl dX5_move_23 ?_
      refine zr_if_ne (pc := 26) hX 33 rfl dX5_move_26 (fun c26_13 => ?_) (fun c26_13 => ?_)
      · rw [if_neg c26_13] at h
        refine zr_aload_n (pc := 33) hX 0 rfl rfl dX5_move_33 ?_
        refine zr_mget (pc := 34) hX 9 rfl rfl q1747 dX5_move_34 ?_
        refine zr_bipush (pc := 37) hX zcb_16 dX5_move_37 ?_
        refine zr_icmp_ne (pc := 39) hX 46 rfl dX5_move_39 (fun c39_12 => ?_) (fun c39_12 => ?_)
        · rw [if_neg c39_12] at h
          refine zr_iconst (pc := 46) hX zci_0 dX5_move_46 ?_
          replace h := congrArg some (hBu10 _ (Option.some.inj h).symm)
          exact (hJt2 (0 : Int32) (Option.some.inj h).symm).sub [0, 1, 2, 3] rfl
        · rw [if_pos c39_12] at h
          refine zr_iconst (pc := 42) hX zci_2 dX5_move_42 ?_
          refine zr_goto (pc := 43) hX 47 rfl dX5_move_43 ?_
          replace h := congrArg some (hBu10 _ (Option.some.inj h).symm)
          exact (hJt2 (2 : Int32) (Option.some.inj h).symm).sub [0, 1, 2, 3] rfl
      · rw [if_pos c26_13] at h
        exact (hJt9 () (Option.some.inj h).symm).sub [0, 1, 2, 3] rfl
set_option maxHeartbeats 4000000 in
theorem mX5_values (l : Launch) (s0 : State) (D : zD) {σ : zH} {sz : Nat} {p0 : Int32} {o : Int32} (h : fX5_values p0 = some o) : zM l s0 D yX5_values cX5_values 1 (some .int) 1 0 0 0 [.int p0] σ sz σ sz (some (.int o)) := by
  refine zenter (own := RX5) zplX5 rfl (Nat.le_of_ble_eq_true rfl) trivial (fun K hX hnm hret => ?_)
  unfold fX5_values at h
  show VW K σ sz 0 0 0 [(0, .int p0)] []
  refine zr_iload_n (pc := 0) hX 0 rfl rfl dX5_values_0 ?_
  refine zr_if_ne (pc := 1) hX 9 rfl dX5_values_1 (fun c1_1 => ?_) (fun c1_1 => ?_)
  · rw [if_neg c1_1] at h
    refine zr_iload_n (pc := 9) hX 0 rfl rfl dX5_values_9 ?_
    refine zr_iconst (pc := 10) hX zci_1 dX5_values_10 ?_
    refine zr_icmp_ne (pc := 11) hX 19 rfl dX5_values_11 (fun c11_0 => ?_) (fun c11_0 => ?_)
    · rw [if_neg c11_0] at h
      refine zr_bipush (pc := 19) hX zcb_15 dX5_values_19 ?_
      obtain rfl := Option.some.inj h
      exact hret _ _ dX5_values_21 (Or.inl rfl)
    · rw [if_pos c11_0] at h
      refine zr_bipush (pc := 14) hX zcb_32 dX5_values_14 ?_
      refine zr_goto (pc := 16) hX 21 rfl dX5_values_16 ?_
      obtain rfl := Option.some.inj h
      exact hret _ _ dX5_values_21 (Or.inl rfl)
  · rw [if_pos c1_1] at h
    refine zr_bipush (pc := 4) hX zcb_16 dX5_values_4 ?_
    refine zr_goto (pc := 6) hX 21 rfl dX5_values_6 ?_
    obtain rfl := Option.some.inj h
    exact hret _ _ dX5_values_21 (Or.inl rfl)
set_option maxHeartbeats 4000000 in
theorem mX5_isValue (l : Launch) (s0 : State) (D : zD) {am : Nat} {st : zMS} {b : zH} {sz : Nat} {p0 : Int32} {p1 : Int32} {o : Int32} (h : fX5_isValue st p0 p1 = some o) : zM l s0 D yX5_isValue cX5_isValue 3 (some .boolean) 2 22 0 0 [.ref am, .int p0, .int p1] (zMw am st b) sz (zMw am st b) sz (some (.int o)) := by
  refine zenter (own := RX5) zplX5 rfl (Nat.le_of_ble_eq_true rfl) trivial (fun K hX hnm hret => ?_)
  unfold fX5_isValue at h
  show VW K (zMw am st b) sz 0 0 0 [(0, .ref am), (1, .int p0), (2, .int p1)] []
  refine zr_aload_n (pc := 0) hX 0 rfl rfl dX5_isValue_0 ?_
  refine zr_mgetA (pc := 1) hX 1 rfl rfl q1739 dX5_isValue_1 ?_
  refine zr_iload_n (pc := 4) hX 1 rfl rfl dX5_isValue_4 ?_
  obtain ⟨x1, gx1, h⟩ := bnd h
  refine zr_mald (pc := 5) hX 1 rfl rfl rfl gx1 dX5_isValue_5 ?_
  refine zr_iconst (pc := 6) hX zci_3 dX5_isValue_6 ?_
  refine zr_icmp_ge (pc := 7) hX 33 rfl dX5_isValue_7 (fun c7_5 => ?_) (fun c7_5 => ?_)
  · rw [if_pos c7_5] at h
    refine zr_iconst (pc := 33) hX zci_0 dX5_isValue_33 ?_
    obtain rfl := Option.some.inj h
    exact hret _ _ dX5_isValue_34 (Or.inr ⟨rfl, Or.inl rfl⟩)
  · rw [if_neg c7_5] at h
    refine zr_iload_n (pc := 10) hX 2 rfl rfl dX5_isValue_10 ?_
    refine zr_iconst (pc := 11) hX zci_0 dX5_isValue_11 ?_
    refine zr_aload_n (pc := 12) hX 0 rfl rfl dX5_isValue_12 ?_
    refine zr_mgetA (pc := 13) hX 1 rfl rfl q1739 dX5_isValue_13 ?_
    refine zr_iload_n (pc := 16) hX 1 rfl rfl dX5_isValue_16 ?_
    obtain ⟨x2, gx2, h⟩ := bnd h
    refine zr_mald (pc := 17) hX 1 rfl rfl rfl gx2 dX5_isValue_17 ?_
    obtain ⟨t3, gt3, h⟩ := bnd h
    refine zr_callS (pc := 18) (stk' := [.int t3, .int (0 : Int32), .int p1]) (k' := 0) (n' := 0) hX (fun l s0 D => mX5_values l s0 D gt3) zwX5_values q2002 q2003 rfl rfl rfl rfl rfl rfl rfl rfl dX5_isValue_18 ?_
    refine zr_iconst (pc := 21) hX zci_1 dX5_isValue_21 ?_
    refine zr_isub (pc := 22) hX dX5_isValue_22 ?_
    obtain ⟨t4, gt4, h⟩ := bnd h
    refine zr_callS (pc := 23) (stk' := [.int t4]) (k' := 0) (n' := 0) hX (fun l s0 D => mX5_isIn l s0 D gt4) zwX5_isIn q1963 q1964 rfl rfl rfl rfl rfl rfl rfl rfl dX5_isValue_23 ?_
    refine zr_if_eq (pc := 26) hX 33 rfl dX5_isValue_26 (fun c26_4 => ?_) (fun c26_4 => ?_)
    · rw [if_pos c26_4] at h
      refine zr_iconst (pc := 33) hX zci_0 dX5_isValue_33 ?_
      obtain rfl := Option.some.inj h
      exact hret _ _ dX5_isValue_34 (Or.inr ⟨rfl, Or.inl rfl⟩)
    · rw [if_neg c26_4] at h
      refine zr_iconst (pc := 29) hX zci_1 dX5_isValue_29 ?_
      refine zr_goto (pc := 30) hX 34 rfl dX5_isValue_30 ?_
      obtain rfl := Option.some.inj h
      exact hret _ _ dX5_isValue_34 (Or.inr ⟨rfl, Or.inr rfl⟩)
set_option maxHeartbeats 4000000 in
theorem mX5_literal (l : Launch) (s0 : State) (D : zD) {am : Nat} {st : zMS} {b : zH} {sz : Nat} {p0 : Int32} {p1 : Int32} {p2 : Int32} {o : zMS × Int32} (h : fX5_literal st p0 p1 p2 = some o) : zM l s0 D yX5_literal cX5_literal 4 (some .int) 3 44 0 0 [.ref am, .int p0, .int p1, .int p2] (zMw am st b) sz (zMw am o.1 b) sz (some (.int o.2)) := by
  refine zenter (own := RX5) zplX5 rfl (Nat.le_of_ble_eq_true rfl) trivial (fun K hX hnm hret => ?_)
  unfold fX5_literal at h
  show VW K (zMw am st b) sz 0 0 0 [(0, .ref am), (1, .int p0), (2, .int p1), (3, .int p2)] []
  refine zr_aload_n (pc := 0) hX 0 rfl rfl dX5_literal_0 ?_
  refine zr_aload_n (pc := 1) hX 0 rfl rfl dX5_literal_1 ?_
  refine zr_iload_n (pc := 2) hX 1 rfl rfl dX5_literal_2 ?_
  obtain ⟨t1, gt1, h⟩ := bnd h
  refine zr_callV (pc := 3) (stk' := [.int t1, .ref am]) (k' := 0) (n' := 0) hX (fun l s0 D => mX5_isVariable l s0 D gt1) (zMw_obj _ _ _) (ci := 4) rfl zwX5_isVariable q1982 q1984 qs54 rfl rfl rfl rfl rfl rfl rfl rfl rfl dX5_literal_3 ?_
  obtain ⟨t2, gt2, h⟩ := bnd h
  have hJt2 : ∀ a, t2 = a → VW K (zMw am st b) sz 0 0 40 [(0, .ref am), (1, .int p0), (2, .int p1), (3, .int p2)] [.int a, .ref am] := by
    intro a ea
    subst ea
    obtain ⟨st3, gst3, h⟩ := bnd h
    refine zr_mput (pc := 40) hX 68 (Option.some.inj gst3) rfl rfl rfl rfl q1806 dX5_literal_40 ?_
    refine zr_aload_n (pc := 43) hX 0 rfl rfl dX5_literal_43 ?_
    refine zr_mget (pc := 44) hX 68 rfl rfl q1806 dX5_literal_44 ?_
    refine zr_if_le (pc := 47) hX 52 rfl dX5_literal_47 (fun c47_7 => ?_) (fun c47_7 => ?_)
    · rw [if_pos c47_7] at h
      refine zr_aload_n (pc := 52) hX 0 rfl rfl dX5_literal_52 ?_
      refine zr_mgetA (pc := 53) hX 12 rfl rfl q1750 dX5_literal_53 ?_
      refine zr_aload_n (pc := 56) hX 0 rfl rfl dX5_literal_56 ?_
      refine zr_mget (pc := 57) hX 11 rfl rfl q1749 dX5_literal_57 ?_
      refine zr_iload_n (pc := 60) hX 1 rfl rfl dX5_literal_60 ?_
      obtain ⟨st4, gst4, h⟩ := bnd h
      refine zr_mast (pc := 61) hX 12 rfl rfl rfl gst4 dX5_literal_61 ?_
      refine zr_aload_n (pc := 62) hX 0 rfl rfl dX5_literal_62 ?_
      refine zr_mgetA (pc := 63) hX 13 rfl rfl q1751 dX5_literal_63 ?_
      refine zr_aload_n (pc := 66) hX 0 rfl rfl dX5_literal_66 ?_
      refine zr_mget (pc := 67) hX 11 rfl rfl q1749 dX5_literal_67 ?_
      refine zr_iload_n (pc := 70) hX 2 rfl rfl dX5_literal_70 ?_
      obtain ⟨st5, gst5, h⟩ := bnd h
      refine zr_mast (pc := 71) hX 13 rfl rfl rfl gst5 dX5_literal_71 ?_
      refine zr_aload_n (pc := 72) hX 0 rfl rfl dX5_literal_72 ?_
      refine zr_mgetA (pc := 73) hX 14 rfl rfl q1752 dX5_literal_73 ?_
      refine zr_aload_n (pc := 76) hX 0 rfl rfl dX5_literal_76 ?_
      refine zr_mget (pc := 77) hX 11 rfl rfl q1749 dX5_literal_77 ?_
      refine zr_iload_n (pc := 80) hX 3 rfl rfl dX5_literal_80 ?_
      obtain ⟨st6, gst6, h⟩ := bnd h
      refine zr_mastZ (pc := 81) hX 14 rfl rfl rfl gst6 dX5_literal_81 ?_
      refine zr_aload_n (pc := 82) hX 0 rfl rfl dX5_literal_82 ?_
      refine zr_dup (pc := 83) hX rfl dX5_literal_83 ?_
      refine zr_mget (pc := 84) hX 11 rfl rfl q1749 dX5_literal_84 ?_
      refine zr_iconst (pc := 87) hX zci_1 dX5_literal_87 ?_
      refine zr_iadd (pc := 88) hX dX5_literal_88 ?_
      obtain ⟨st7, gst7, h⟩ := bnd h
      refine zr_mput (pc := 89) hX 11 (Option.some.inj gst7) rfl rfl rfl rfl q1749 dX5_literal_89 ?_
      refine zr_aload_n (pc := 92) hX 0 rfl rfl dX5_literal_92 ?_
      refine zr_mget (pc := 93) hX 11 rfl rfl q1749 dX5_literal_93 ?_
      obtain rfl := Option.some.inj h
      exact hret _ _ dX5_literal_96 (Or.inl rfl)
    · rw [if_neg c47_7] at h
      refine zr_iconst (pc := 50) hX zci_0 dX5_literal_50 ?_
      obtain rfl := Option.some.inj h
      exact hret _ _ dX5_literal_51 (Or.inl rfl)
  replace h := gt2
  refine zr_if_ne (pc := 6) hX 13 rfl dX5_literal_6 (fun c6_11 => ?_) (fun c6_11 => ?_)
  · rw [if_neg c6_11] at h
    refine zr_aload_n (pc := 13) hX 0 rfl rfl dX5_literal_13 ?_
    refine zr_iload_n (pc := 14) hX 1 rfl rfl dX5_literal_14 ?_
    refine zr_iload_n (pc := 15) hX 2 rfl rfl dX5_literal_15 ?_
    obtain ⟨t9, gt9, h⟩ := bnd h
    refine zr_callV (pc := 16) (stk' := [.int t9, .ref am]) (k' := 0) (n' := 0) hX (fun l s0 D => mX5_isValue l s0 D gt9) (zMw_obj _ _ _) (ci := 4) rfl zwX5_isValue q1998 q2000 qs55 rfl rfl rfl rfl rfl rfl rfl rfl rfl dX5_literal_16 ?_
    refine zr_if_ne (pc := 19) hX 26 rfl dX5_literal_19 (fun c19_10 => ?_) (fun c19_10 => ?_)
    · rw [if_neg c19_10] at h
      refine zr_aload_n (pc := 26) hX 0 rfl rfl dX5_literal_26 ?_
      refine zr_mget (pc := 27) hX 11 rfl rfl q1749 dX5_literal_27 ?_
      refine zr_bipush (pc := 30) hX zcb_6 dX5_literal_30 ?_
      refine zr_icmp_ne (pc := 32) hX 39 rfl dX5_literal_32 (fun c32_9 => ?_) (fun c32_9 => ?_)
      · rw [if_neg c32_9] at h
        refine zr_iconst (pc := 39) hX zci_0 dX5_literal_39 ?_
        exact (hJt2 (0 : Int32) (Option.some.inj h).symm).sub [0, 1, 2, 3] rfl
      · rw [if_pos c32_9] at h
        refine zr_iconst (pc := 35) hX zci_3 dX5_literal_35 ?_
        refine zr_goto (pc := 36) hX 40 rfl dX5_literal_36 ?_
        exact (hJt2 (3 : Int32) (Option.some.inj h).symm).sub [0, 1, 2, 3] rfl
    · rw [if_pos c19_10] at h
      refine zr_iconst (pc := 22) hX zci_2 dX5_literal_22 ?_
      refine zr_goto (pc := 23) hX 40 rfl dX5_literal_23 ?_
      exact (hJt2 (2 : Int32) (Option.some.inj h).symm).sub [0, 1, 2, 3] rfl
  · rw [if_pos c6_11] at h
    refine zr_iconst (pc := 9) hX zci_1 dX5_literal_9 ?_
    refine zr_goto (pc := 10) hX 40 rfl dX5_literal_10 ?_
    exact (hJt2 (1 : Int32) (Option.some.inj h).symm).sub [0, 1, 2, 3] rfl
set_option maxHeartbeats 4000000 in
theorem mX5_isRow (l : Launch) (s0 : State) (D : zD) {n : Nat} {am : Nat} {st : zMS} {b : zH} {sz : Nat} {p0 : Int32} {o : Int32} (h : fX5_isRow n st p0 = some o) : zM l s0 D yX5_isRow cX5_isRow 4 (some .boolean) 1 0 0 0 [.ref am, .int p0] (zMw am st b) sz (zMw am st b) sz (some (.int o)) := by
  refine zenter (own := RX5) zplX5 rfl (Nat.le_of_ble_eq_true rfl) trivial (fun K hX hnm hret => ?_)
  unfold fX5_isRow at h
  show VW K (zMw am st b) sz 0 0 0 [(0, .ref am), (1, .int p0)] []
  refine zr_aload_n (pc := 0) hX 0 rfl rfl dX5_isRow_0 ?_
  refine zr_mget (pc := 1) hX 5 rfl rfl q1743 dX5_isRow_1 ?_
  obtain ⟨t1, gt1, h⟩ := bnd h
  have hJt1 : ∀ a, t1 = a → VW K (zMw am st b) sz 0 0 12 [(0, .ref am), (1, .int p0)] [.int a] := by
    intro a ea
    subst ea
    refine zr_istore_n (pc := 12) hX rfl rfl (Nat.le_of_ble_eq_true rfl) rfl dX5_isRow_12 ?_
    refine zr_iconst (pc := 13) hX zci_0 dX5_isRow_13 ?_
    refine zr_istore_n (pc := 14) hX rfl rfl (Nat.le_of_ble_eq_true rfl) rfl dX5_isRow_14 ?_
    refine VW.sub (lv' := [(0, .ref am), (1, .int p0), (2, .int t1), (3, .int (0 : Int32))]) ?_ [2, 3, 1, 0] rfl
    refine zloop_walk (V := (fun a => VW K (zMw am st b) sz 0 0 15 [(0, .ref am), (1, .int p0), (2, .int a.1), (3, .int a.2)] [])) (E := fun e => e = o) ?_ n (t1, (0 : Int32)) _ h rfl
    intro a2 o3 h kco3 keo3
    unfold fX5_isRow_L15 at h
    refine zr_iload_n (pc := 15) hX 3 rfl rfl dX5_isRow_15 ?_
    refine zr_aload_n (pc := 16) hX 0 rfl rfl dX5_isRow_16 ?_
    refine zr_mget (pc := 17) hX 5 rfl rfl q1743 dX5_isRow_17 ?_
    refine zr_icmp_ge (pc := 20) hX 70 rfl dX5_isRow_20 (fun c20_18 => ?_) (fun c20_18 => ?_)
    · rw [if_pos c20_18] at h
      refine zr_iload_n (pc := 70) hX 2 rfl rfl dX5_isRow_70 ?_
      obtain ⟨x4, gx4, h⟩ := bnd h
      rw [(zq_spec gx4).1] at h
      replace h := congrArg some (keo3 _ (Option.some.inj h).symm)
      obtain rfl := Option.some.inj h
      exact hret _ _ dX5_isRow_71 (Or.inr ⟨rfl, (zq_spec gx4).2⟩)
    · rw [if_neg c20_18] at h
      refine zr_iload_n (pc := 23) hX 2 rfl rfl dX5_isRow_23 ?_
      refine zr_aload_n (pc := 24) hX 0 rfl rfl dX5_isRow_24 ?_
      refine zr_mgetA (pc := 25) hX 1 rfl rfl q1739 dX5_isRow_25 ?_
      refine zr_aload_n (pc := 28) hX 0 rfl rfl dX5_isRow_28 ?_
      refine zr_mgetA (pc := 29) hX 6 rfl rfl q1744 dX5_isRow_29 ?_
      refine zr_iload_n (pc := 32) hX 3 rfl rfl dX5_isRow_32 ?_
      obtain ⟨x5, gx5, h⟩ := bnd h
      refine zr_mald (pc := 33) hX 6 rfl rfl rfl gx5 dX5_isRow_33 ?_
      obtain ⟨x6, gx6, h⟩ := bnd h
      refine zr_mald (pc := 34) hX 1 rfl rfl rfl gx6 dX5_isRow_34 ?_
      obtain ⟨t7, gt7, h⟩ := bnd h
      have hJt7 : ∀ a, t7 = a → VW K (zMw am st b) sz 0 0 62 [(0, .ref am), (1, .int p0), (3, .int a2.2)] [.int a, .int a2.1] := by
        intro a ea
        subst ea
        refine zr_iand (pc := 62) hX dX5_isRow_62 ?_
        obtain ⟨x8, gx8, h⟩ := bnd h
        refine zr_istore_n (pc := 63) hX (Option.some.inj gx8) rfl (Nat.le_of_ble_eq_true rfl) rfl dX5_isRow_63 ?_
        obtain ⟨x9, gx9, h⟩ := bnd h
        refine zr_iinc (pc := 64) hX 3 rfl zci_1 (Option.some.inj gx9) (Nat.le_of_ble_eq_true rfl) rfl dX5_isRow_64 ?_
        refine zr_goto (pc := 67) hX 15 rfl dX5_isRow_67 ?_
        exact (kco3 (x8, x9) (Option.some.inj h).symm).sub [2, 3, 1, 0] rfl
      replace h := gt7
      obtain ⟨u11, gu11, hAu11, hBu11⟩ := zesc_bnd h
      have hJt10 : ∀ a, u11 = .inl a → VW K (zMw am st b) sz 0 0 57 [(0, .ref am), (1, .int p0), (3, .int a2.2)] [.int a2.1] := by
        intro t10 ea
        have h := hAu11 _ ea
        refine zr_iconst (pc := 57) hX zci_1 dX5_isRow_57 ?_
        refine zr_goto (pc := 58) hX 62 rfl dX5_isRow_58 ?_
        exact (hJt7 (1 : Int32) (Option.some.inj h).symm).sub [0, 1, 2] rfl
      replace h := gu11
      refine zr_if_eq (pc := 35) hX 57 rfl dX5_isRow_35 (fun c35_17 => ?_) (fun c35_17 => ?_)
      · rw [if_pos c35_17] at h
        exact (hJt10 () (Option.some.inj h).symm).sub [0, 1, 3] rfl
      · rw [if_neg c35_17] at h
        refine zr_iload_n (pc := 38) hX 1 rfl rfl dX5_isRow_38 ?_
        obtain ⟨u13, gu13, hAu13, hBu13⟩ := zesc_bnd h
        have hJt12 : ∀ a, u13 = .inl a → VW K (zMw am st b) sz 0 0 61 [(0, .ref am), (1, .int p0), (3, .int a2.2)] [.int a2.1] := by
          intro t12 ea
          have h := hAu13 _ ea
          refine zr_iconst (pc := 61) hX zci_0 dX5_isRow_61 ?_
          replace h := congrArg some (hBu11 _ (Option.some.inj h).symm)
          exact (hJt7 (0 : Int32) (Option.some.inj h).symm).sub [0, 1, 2] rfl
        replace h := gu13
        refine zr_if_eq (pc := 39) hX 61 rfl dX5_isRow_39 (fun c39_16 => ?_) (fun c39_16 => ?_)
        · rw [if_pos c39_16] at h
          exact (hJt12 () (Option.some.inj h).symm).sub [0, 1, 3] rfl
        · rw [if_neg c39_16] at h
          refine zr_aload_n (pc := 42) hX 0 rfl rfl dX5_isRow_42 ?_
          refine zr_mgetA (pc := 43) hX 1 rfl rfl q1739 dX5_isRow_43 ?_
          refine zr_aload_n (pc := 46) hX 0 rfl rfl dX5_isRow_46 ?_
          refine zr_mgetA (pc := 47) hX 6 rfl rfl q1744 dX5_isRow_47 ?_
          refine zr_iload_n (pc := 50) hX 3 rfl rfl dX5_isRow_50 ?_
          obtain ⟨x14, gx14, h⟩ := bnd h
          refine zr_mald (pc := 51) hX 6 rfl rfl rfl gx14 dX5_isRow_51 ?_
          obtain ⟨x15, gx15, h⟩ := bnd h
          refine zr_mald (pc := 52) hX 1 rfl rfl rfl gx15 dX5_isRow_52 ?_
          refine zr_iconst (pc := 53) hX zci_3 dX5_isRow_53 ?_
          refine zr_icmp_ne (pc := 54) hX 61 rfl dX5_isRow_54 (fun c54_15 => ?_) (fun c54_15 => ?_)
          · rw [if_neg c54_15] at h
            exact (hJt12 () (Option.some.inj h).symm).sub [0, 1, 3] rfl
          · rw [if_pos c54_15] at h
            replace h := congrArg some (hBu13 _ (Option.some.inj h).symm)
            exact (hJt10 () (Option.some.inj h).symm).sub [0, 1, 3] rfl
  replace h := gt1
  refine zr_if_le (pc := 4) hX 11 rfl dX5_isRow_4 (fun c4_19 => ?_) (fun c4_19 => ?_)
  · rw [if_pos c4_19] at h
    refine zr_iconst (pc := 11) hX zci_0 dX5_isRow_11 ?_
    exact (hJt1 (0 : Int32) (Option.some.inj h).symm).sub [0, 1] rfl
  · rw [if_neg c4_19] at h
    refine zr_iconst (pc := 7) hX zci_1 dX5_isRow_7 ?_
    refine zr_goto (pc := 8) hX 12 rfl dX5_isRow_8 ?_
    exact (hJt1 (1 : Int32) (Option.some.inj h).symm).sub [0, 1] rfl
set_option maxHeartbeats 4000000 in
theorem mX5_hasRoom (l : Launch) (s0 : State) (D : zD) {am : Nat} {st : zMS} {b : zH} {sz : Nat} {o : Int32} (h : fX5_hasRoom st = some o) : zM l s0 D yX5_hasRoom cX5_hasRoom 1 (some .boolean) 1 0 0 0 [.ref am] (zMw am st b) sz (zMw am st b) sz (some (.int o)) := by
  refine zenter (own := RX5) zplX5 rfl (Nat.le_of_ble_eq_true rfl) trivial (fun K hX hnm hret => ?_)
  unfold fX5_hasRoom at h
  show VW K (zMw am st b) sz 0 0 0 [(0, .ref am)] []
  refine zr_aload_n (pc := 0) hX 0 rfl rfl dX5_hasRoom_0 ?_
  refine zr_mget (pc := 1) hX 15 rfl rfl q1753 dX5_hasRoom_1 ?_
  refine zr_bipush (pc := 4) hX zcb_24 dX5_hasRoom_4 ?_
  refine zr_icmp_ge (pc := 6) hX 13 rfl dX5_hasRoom_6 (fun c6_0 => ?_) (fun c6_0 => ?_)
  · rw [if_pos c6_0] at h
    refine zr_iconst (pc := 13) hX zci_0 dX5_hasRoom_13 ?_
    obtain rfl := Option.some.inj h
    exact hret _ _ dX5_hasRoom_14 (Or.inr ⟨rfl, Or.inl rfl⟩)
  · rw [if_neg c6_0] at h
    refine zr_iconst (pc := 9) hX zci_1 dX5_hasRoom_9 ?_
    refine zr_goto (pc := 10) hX 14 rfl dX5_hasRoom_10 ?_
    obtain rfl := Option.some.inj h
    exact hret _ _ dX5_hasRoom_14 (Or.inr ⟨rfl, Or.inr rfl⟩)
set_option maxHeartbeats 4000000 in
theorem mX5_places (l : Launch) (s0 : State) (D : zD) {am : Nat} {st : zMS} {b : zH} {sz : Nat} {p0 : Int32} {p1 : Int32} {o : zMS} (h : fX5_places st p0 p1 = some o) : zM l s0 D yX5_places cX5_places 3 none 1 0 0 0 [.ref am, .int p0, .int p1] (zMw am st b) sz (zMw am o b) sz none := by
  refine zenter (own := RX5) zplX5 rfl (Nat.le_of_ble_eq_true rfl) rfl (fun K hX hnm hret => ?_)
  unfold fX5_places at h
  show VW K (zMw am st b) sz 0 0 0 [(0, .ref am), (1, .int p0), (2, .int p1)] []
  refine zr_aload_n (pc := 0) hX 0 rfl rfl dX5_places_0 ?_
  refine zr_mgetA (pc := 1) hX 18 rfl rfl q1756 dX5_places_1 ?_
  refine zr_bipush (pc := 4) hX zcb_8 dX5_places_4 ?_
  refine zr_aload_n (pc := 6) hX 0 rfl rfl dX5_places_6 ?_
  refine zr_mget (pc := 7) hX 15 rfl rfl q1753 dX5_places_7 ?_
  refine zr_imul (pc := 10) hX dX5_places_10 ?_
  refine zr_iload_n (pc := 11) hX 1 rfl rfl dX5_places_11 ?_
  refine zr_iadd (pc := 12) hX dX5_places_12 ?_
  refine zr_iload_n (pc := 13) hX 2 rfl rfl dX5_places_13 ?_
  obtain ⟨st1, gst1, h⟩ := bnd h
  refine zr_mast (pc := 14) hX 18 rfl rfl rfl gst1 dX5_places_14 ?_
  obtain rfl := Option.some.inj h
  exact hret _ _ dX5_places_15
set_option maxHeartbeats 4000000 in
theorem mX5_takesRow (l : Launch) (s0 : State) (D : zD) {n : Nat} {am : Nat} {st : zMS} {b : zH} {sz : Nat} {p0 : Int32} {o : zMS} (h : fX5_takesRow n st p0 = some o) : zM l s0 D yX5_takesRow cX5_takesRow 3 none 2 22 0 0 [.ref am, .int p0] (zMw am st b) sz (zMw am o b) sz none := by
  refine zenter (own := RX5) zplX5 rfl (Nat.le_of_ble_eq_true rfl) rfl (fun K hX hnm hret => ?_)
  unfold fX5_takesRow at h
  show VW K (zMw am st b) sz 0 0 0 [(0, .ref am), (1, .int p0)] []
  refine zr_iconst (pc := 0) hX zci_0 dX5_takesRow_0 ?_
  refine zr_istore_n (pc := 1) hX rfl rfl (Nat.le_of_ble_eq_true rfl) rfl dX5_takesRow_1 ?_
  refine VW.sub (lv' := [(0, .ref am), (1, .int p0), (2, .int (0 : Int32))]) ?_ [1, 2, 0] rfl
  refine zloop_walk (V := (fun a => VW K (zMw am a.1 b) sz 0 0 2 [(0, .ref am), (1, .int p0), (2, .int a.2)] [])) (E := fun e => e = o) ?_ n (st, (0 : Int32)) _ h rfl
  intro a1 o2 h kco2 keo2
  unfold fX5_takesRow_L2 at h
  refine zr_iload_n (pc := 2) hX 2 rfl rfl dX5_takesRow_2 ?_
  refine zr_aload_n (pc := 3) hX 0 rfl rfl dX5_takesRow_3 ?_
  refine zr_mget (pc := 4) hX 5 rfl rfl q1743 dX5_takesRow_4 ?_
  refine zr_icmp_ge (pc := 7) hX 29 rfl dX5_takesRow_7 (fun c7_5 => ?_) (fun c7_5 => ?_)
  · rw [if_pos c7_5] at h
    replace h := congrArg some (keo2 _ (Option.some.inj h).symm)
    obtain rfl := Option.some.inj h
    exact hret _ _ dX5_takesRow_29
  · rw [if_neg c7_5] at h
    refine zr_aload_n (pc := 10) hX 0 rfl rfl dX5_takesRow_10 ?_
    refine zr_iload_n (pc := 11) hX 1 rfl rfl dX5_takesRow_11 ?_
    refine zr_iload_n (pc := 12) hX 2 rfl rfl dX5_takesRow_12 ?_
    refine zr_iadd (pc := 13) hX dX5_takesRow_13 ?_
    refine zr_aload_n (pc := 14) hX 0 rfl rfl dX5_takesRow_14 ?_
    refine zr_mgetA (pc := 15) hX 6 rfl rfl q1744 dX5_takesRow_15 ?_
    refine zr_iload_n (pc := 18) hX 2 rfl rfl dX5_takesRow_18 ?_
    obtain ⟨x3, gx3, h⟩ := bnd h
    refine zr_mald (pc := 19) hX 6 rfl rfl rfl gx3 dX5_takesRow_19 ?_
    obtain ⟨t4, gt4, h⟩ := bnd h
    refine zr_callV (pc := 20) (stk' := []) (k' := 0) (n' := 0) hX (fun l s0 D => mX5_places l s0 D gt4) (zMw_obj _ _ _) (ci := 4) rfl zwX5_places q2021 q2023 qs59 rfl rfl rfl rfl rfl rfl rfl rfl rfl dX5_takesRow_20 ?_
    obtain ⟨x5, gx5, h⟩ := bnd h
    refine zr_iinc (pc := 23) hX 2 rfl zci_1 (Option.some.inj gx5) (Nat.le_of_ble_eq_true rfl) rfl dX5_takesRow_23 ?_
    refine zr_goto (pc := 26) hX 2 rfl dX5_takesRow_26 ?_
    exact (kco2 (t4, x5) (Option.some.inj h).symm).sub [1, 2, 0] rfl
set_option maxHeartbeats 4000000 in
theorem mX5_adds (l : Launch) (s0 : State) (D : zD) {am : Nat} {st : zMS} {b : zH} {sz : Nat} {p0 : Int32} {p1 : Int32} {o : zMS × Int32} (h : fX5_adds st p0 p1 = some o) : zM l s0 D yX5_adds cX5_adds 3 (some .int) 1 0 0 0 [.ref am, .int p0, .int p1] (zMw am st b) sz (zMw am o.1 b) sz (some (.int o.2)) := by
  refine zenter (own := RX5) zplX5 rfl (Nat.le_of_ble_eq_true rfl) trivial (fun K hX hnm hret => ?_)
  unfold fX5_adds at h
  show VW K (zMw am st b) sz 0 0 0 [(0, .ref am), (1, .int p0), (2, .int p1)] []
  refine zr_aload_n (pc := 0) hX 0 rfl rfl dX5_adds_0 ?_
  refine zr_mgetA (pc := 1) hX 16 rfl rfl q1754 dX5_adds_1 ?_
  refine zr_aload_n (pc := 4) hX 0 rfl rfl dX5_adds_4 ?_
  refine zr_mget (pc := 5) hX 15 rfl rfl q1753 dX5_adds_5 ?_
  refine zr_iload_n (pc := 8) hX 1 rfl rfl dX5_adds_8 ?_
  obtain ⟨st1, gst1, h⟩ := bnd h
  refine zr_mast (pc := 9) hX 16 rfl rfl rfl gst1 dX5_adds_9 ?_
  refine zr_aload_n (pc := 10) hX 0 rfl rfl dX5_adds_10 ?_
  refine zr_mgetA (pc := 11) hX 17 rfl rfl q1755 dX5_adds_11 ?_
  refine zr_aload_n (pc := 14) hX 0 rfl rfl dX5_adds_14 ?_
  refine zr_mget (pc := 15) hX 15 rfl rfl q1753 dX5_adds_15 ?_
  refine zr_iload_n (pc := 18) hX 2 rfl rfl dX5_adds_18 ?_
  obtain ⟨st2, gst2, h⟩ := bnd h
  refine zr_mast (pc := 19) hX 17 rfl rfl rfl gst2 dX5_adds_19 ?_
  refine zr_aload_n (pc := 20) hX 0 rfl rfl dX5_adds_20 ?_
  refine zr_dup (pc := 21) hX rfl dX5_adds_21 ?_
  refine zr_mget (pc := 22) hX 15 rfl rfl q1753 dX5_adds_22 ?_
  refine zr_iconst (pc := 25) hX zci_1 dX5_adds_25 ?_
  refine zr_iadd (pc := 26) hX dX5_adds_26 ?_
  obtain ⟨st3, gst3, h⟩ := bnd h
  refine zr_mput (pc := 27) hX 15 (Option.some.inj gst3) rfl rfl rfl rfl q1753 dX5_adds_27 ?_
  refine zr_aload_n (pc := 30) hX 0 rfl rfl dX5_adds_30 ?_
  refine zr_mget (pc := 31) hX 15 rfl rfl q1753 dX5_adds_31 ?_
  refine zr_iconst (pc := 34) hX zci_1 dX5_adds_34 ?_
  refine zr_isub (pc := 35) hX dX5_adds_35 ?_
  obtain rfl := Option.some.inj h
  exact hret _ _ dX5_adds_36 (Or.inl rfl)
set_option maxHeartbeats 4000000 in
theorem mX5_linear (l : Launch) (s0 : State) (D : zD) {n : Nat} {am : Nat} {st : zMS} {b : zH} {sz : Nat} {p0 : Int32} {p1 : Int32} {o : zMS × Int32} (h : fX5_linear n st p0 p1 = some o) : zM l s0 D yX5_linear cX5_linear 5 (some .int) 3 44 0 0 [.ref am, .int p0, .int p1] (zMw am st b) sz (zMw am o.1 b) sz (some (.int o.2)) := by
  refine zenter (own := RX5) zplX5 rfl (Nat.le_of_ble_eq_true rfl) trivial (fun K hX hnm hret => ?_)
  unfold fX5_linear at h
  show VW K (zMw am st b) sz 0 0 0 [(0, .ref am), (1, .int p0), (2, .int p1)] []
  refine zr_aload_n (pc := 0) hX 0 rfl rfl dX5_linear_0 ?_
  refine zr_iload_n (pc := 1) hX 2 rfl rfl dX5_linear_1 ?_
  refine zr_sipush (pc := 2) hX zcs_m2000 dX5_linear_2 ?_
  refine zr_sipush (pc := 5) hX zcs_2000 dX5_linear_5 ?_
  obtain ⟨t1, gt1, h⟩ := bnd h
  refine zr_callS (pc := 8) (stk' := [.int t1, .ref am]) (k' := 0) (n' := 0) hX (fun l s0 D => mX5_isIn l s0 D gt1) zwX5_isIn q1963 q1964 rfl rfl rfl rfl rfl rfl rfl rfl dX5_linear_8 ?_
  obtain ⟨t2, gt2, h⟩ := bnd h
  have hJt2 : ∀ a, t2 = a → VW K (zMw am st b) sz 0 0 19 [(0, .ref am), (1, .int p0), (2, .int p1)] [.int a, .ref am] := by
    intro a ea
    subst ea
    obtain ⟨st3, gst3, h⟩ := bnd h
    refine zr_mput (pc := 19) hX 68 (Option.some.inj gst3) rfl rfl rfl rfl q1806 dX5_linear_19 ?_
    refine zr_aload_n (pc := 22) hX 0 rfl rfl dX5_linear_22 ?_
    refine zr_mget (pc := 23) hX 68 rfl rfl q1806 dX5_linear_23 ?_
    refine zr_if_le (pc := 26) hX 31 rfl dX5_linear_26 (fun c26_29 => ?_) (fun c26_29 => ?_)
    · rw [if_pos c26_29] at h
      refine zr_aload_n (pc := 31) hX 0 rfl rfl dX5_linear_31 ?_
      refine zr_aload_n (pc := 32) hX 0 rfl rfl dX5_linear_32 ?_
      refine zr_iconst (pc := 33) hX zci_1 dX5_linear_33 ?_
      obtain ⟨t4, gt4, h⟩ := bnd h
      refine zr_callV (pc := 34) (stk' := [.int t4, .ref am]) (k' := 0) (n' := 0) hX (fun l s0 D => mX5_isRow l s0 D gt4) (zMw_obj _ _ _) (ci := 4) rfl zwX5_isRow q2009 q2011 qs56 rfl rfl rfl rfl rfl rfl rfl rfl rfl dX5_linear_34 ?_
      obtain ⟨t5, gt5, h⟩ := bnd h
      have hJt5 : ∀ a, t5 = a → VW K (zMw am st3 b) sz 0 0 63 [(0, .ref am), (1, .int p0), (2, .int p1)] [.int a, .ref am] := by
        intro a ea
        subst ea
        obtain ⟨st6, gst6, h⟩ := bnd h
        refine zr_mput (pc := 63) hX 68 (Option.some.inj gst6) rfl rfl rfl rfl q1806 dX5_linear_63 ?_
        refine zr_aload_n (pc := 66) hX 0 rfl rfl dX5_linear_66 ?_
        refine zr_mget (pc := 67) hX 5 rfl rfl q1743 dX5_linear_67 ?_
        obtain ⟨x7, gx7, h⟩ := bnd h
        refine zr_istore_n (pc := 70) hX (Option.some.inj gx7) rfl (Nat.le_of_ble_eq_true rfl) rfl dX5_linear_70 ?_
        refine zr_aload_n (pc := 71) hX 1 rfl rfl dX5_linear_71 ?_
        refine zr_mget (pc := 72) hX 68 rfl rfl q1806 dX5_linear_72 ?_
        obtain ⟨t8, gt8, h⟩ := bnd h
        have hJt8 : ∀ a, t8 = a → VW K (zMw am a b) sz 0 0 143 [(0, .ref am), (3, .int x7)] [] := by
          intro a ea
          subst ea
          refine zr_aload_n (pc := 143) hX 0 rfl rfl dX5_linear_143 ?_
          refine zr_iconst (pc := 144) hX zci_0 dX5_linear_144 ?_
          obtain ⟨st9, gst9, h⟩ := bnd h
          refine zr_mput (pc := 145) hX 5 (Option.some.inj gst9) rfl rfl rfl rfl q1743 dX5_linear_145 ?_
          refine zr_aload_n (pc := 148) hX 0 rfl rfl dX5_linear_148 ?_
          refine zr_iconst (pc := 149) hX zci_0 dX5_linear_149 ?_
          obtain ⟨st10, gst10, h⟩ := bnd h
          refine zr_mput (pc := 150) hX 7 (Option.some.inj gst10) rfl rfl rfl rfl q1745 dX5_linear_150 ?_
          refine zr_aload_n (pc := 153) hX 0 rfl rfl dX5_linear_153 ?_
          refine zr_mget (pc := 154) hX 68 rfl rfl q1806 dX5_linear_154 ?_
          refine zr_if_le (pc := 157) hX 164 rfl dX5_linear_157 (fun c157_11 => ?_) (fun c157_11 => ?_)
          · rw [if_pos c157_11] at h
            refine zr_aload_n (pc := 164) hX 0 rfl rfl dX5_linear_164 ?_
            refine zr_iconst (pc := 165) hX zci_0 dX5_linear_165 ?_
            refine zr_iload_n (pc := 166) hX 1 rfl rfl dX5_linear_166 ?_
            obtain ⟨t11, gt11, h⟩ := bnd h
            refine zr_callV (pc := 167) (stk' := [.int t11.2]) (k' := 0) (n' := 0) hX (fun l s0 D => mX5_adds l s0 D gt11) (zMw_obj _ _ _) (ci := 4) rfl zwX5_adds q2025 q2027 qs60 rfl rfl rfl rfl rfl rfl rfl rfl rfl dX5_linear_167 ?_
            obtain rfl := Option.some.inj h
            exact hret _ _ dX5_linear_170 (Or.inl rfl)
          · rw [if_neg c157_11] at h
            refine zr_iconst (pc := 160) hX zci_0 dX5_linear_160 ?_
            refine zr_goto (pc := 161) hX 170 rfl dX5_linear_161 ?_
            obtain rfl := Option.some.inj h
            exact hret _ _ dX5_linear_170 (Or.inl rfl)
        replace h := gt8
        refine zr_if_ne (pc := 75) hX 143 rfl dX5_linear_75 (fun c75_22 => ?_) (fun c75_22 => ?_)
        · rw [if_neg c75_22] at h
          exact (hJt8 st6 (Option.some.inj h).symm).sub [1, 0] rfl
        · rw [if_pos c75_22] at h
          refine zr_aload_n (pc := 78) hX 1 rfl rfl dX5_linear_78 ?_
          refine zr_iconst (pc := 79) hX zci_0 dX5_linear_79 ?_
          obtain ⟨t13, gt13, h⟩ := bnd h
          refine zr_callV (pc := 80) (stk' := []) (k' := 0) (n' := 0) hX (fun l s0 D => mX5_takesRow l s0 D gt13) (zMw_obj _ _ _) (ci := 4) rfl zwX5_takesRow q2017 q2019 qs58 rfl rfl rfl rfl rfl rfl rfl rfl rfl dX5_linear_80 ?_
          refine zr_iconst (pc := 83) hX zci_0 dX5_linear_83 ?_
          refine zr_istore (pc := 84) hX rfl (Nat.le_of_ble_eq_true rfl) rfl dX5_linear_84 ?_
          obtain ⟨t16, gt16, h⟩ := bnd h
          have hJt16 : ∀ a, a = t16 → VW K (zMw am a b) sz 0 0 120 [(0, .ref am), (1, .int p0), (2, .int p1), (3, .int x7)] [] := by
            intro a ea
            rw [ea]
            refine zr_aload_n (pc := 120) hX 0 rfl rfl dX5_linear_120 ?_
            refine zr_mgetA (pc := 121) hX 23 rfl rfl q1761 dX5_linear_121 ?_
            refine zr_bipush (pc := 124) hX zcb_6 dX5_linear_124 ?_
            refine zr_aload_n (pc := 126) hX 0 rfl rfl dX5_linear_126 ?_
            refine zr_mget (pc := 127) hX 15 rfl rfl q1753 dX5_linear_127 ?_
            refine zr_imul (pc := 130) hX dX5_linear_130 ?_
            refine zr_iload_n (pc := 131) hX 1 rfl rfl dX5_linear_131 ?_
            obtain ⟨st17, gst17, h⟩ := bnd h
            refine zr_mastZ (pc := 132) hX 23 rfl rfl rfl gst17 dX5_linear_132 ?_
            refine zr_aload_n (pc := 133) hX 0 rfl rfl dX5_linear_133 ?_
            refine zr_mgetA (pc := 134) hX 20 rfl rfl q1758 dX5_linear_134 ?_
            refine zr_aload_n (pc := 137) hX 0 rfl rfl dX5_linear_137 ?_
            refine zr_mget (pc := 138) hX 15 rfl rfl q1753 dX5_linear_138 ?_
            refine zr_iload_n (pc := 141) hX 2 rfl rfl dX5_linear_141 ?_
            obtain ⟨st18, gst18, h⟩ := bnd h
            refine zr_mast (pc := 142) hX 20 rfl rfl rfl gst18 dX5_linear_142 ?_
            exact (hJt8 st18 (Option.some.inj h).symm).sub [0, 3] rfl
          refine VW.sub (lv' := [(0, .ref am), (1, .int p0), (2, .int p1), (3, .int x7), (4, .int (0 : Int32))]) ?_ [2, 3, 4, 1, 0] rfl
          refine zloop_walk (V := (fun a => VW K (zMw am a.1 b) sz 0 0 86 [(0, .ref am), (1, .int p0), (2, .int p1), (3, .int x7), (4, .int a.2)] [])) (E := fun e => e = t16) ?_ n (t13, (0 : Int32)) _ gt16 rfl
          intro a14 o15 h kco15 keo15
          unfold fX5_linear_L86 at h
          refine zr_iload (pc := 86) hX 4 rfl dX5_linear_86 ?_
          refine zr_iload_n (pc := 88) hX 3 rfl rfl dX5_linear_88 ?_
          refine zr_icmp_ge (pc := 89) hX 120 rfl dX5_linear_89 (fun c89_21 => ?_) (fun c89_21 => ?_)
          · rw [if_pos c89_21] at h
            exact (hJt16 a14.1 (keo15 _ (Option.some.inj h).symm)).sub [0, 1, 2, 3] rfl
          · rw [if_neg c89_21] at h
            refine zr_aload_n (pc := 92) hX 0 rfl rfl dX5_linear_92 ?_
            refine zr_mgetA (pc := 93) hX 19 rfl rfl q1757 dX5_linear_93 ?_
            refine zr_bipush (pc := 96) hX zcb_6 dX5_linear_96 ?_
            refine zr_aload_n (pc := 98) hX 0 rfl rfl dX5_linear_98 ?_
            refine zr_mget (pc := 99) hX 15 rfl rfl q1753 dX5_linear_99 ?_
            refine zr_imul (pc := 102) hX dX5_linear_102 ?_
            refine zr_iload (pc := 103) hX 4 rfl dX5_linear_103 ?_
            refine zr_iadd (pc := 105) hX dX5_linear_105 ?_
            refine zr_aload_n (pc := 106) hX 0 rfl rfl dX5_linear_106 ?_
            refine zr_mgetA (pc := 107) hX 8 rfl rfl q1746 dX5_linear_107 ?_
            refine zr_iload (pc := 110) hX 4 rfl dX5_linear_110 ?_
            obtain ⟨x19, gx19, h⟩ := bnd h
            refine zr_mald (pc := 112) hX 8 rfl rfl rfl gx19 dX5_linear_112 ?_
            obtain ⟨st20, gst20, h⟩ := bnd h
            refine zr_mast (pc := 113) hX 19 rfl rfl rfl gst20 dX5_linear_113 ?_
            obtain ⟨x21, gx21, h⟩ := bnd h
            refine zr_iinc (pc := 114) hX 4 rfl zci_1 (Option.some.inj gx21) (Nat.le_of_ble_eq_true rfl) rfl dX5_linear_114 ?_
            refine zr_goto (pc := 117) hX 86 rfl dX5_linear_117 ?_
            exact (kco15 (st20, x21) (Option.some.inj h).symm).sub [1, 2, 3, 4, 0] rfl
      replace h := gt5
      obtain ⟨u25, gu25, hAu25, hBu25⟩ := zesc_bnd h
      have hJt24 : ∀ a, u25 = .inl a → VW K (zMw am st3 b) sz 0 0 62 [(0, .ref am), (1, .int p0), (2, .int p1)] [.ref am] := by
        intro t24 ea
        have h := hAu25 _ ea
        refine zr_iconst (pc := 62) hX zci_2 dX5_linear_62 ?_
        exact (hJt5 (2 : Int32) (Option.some.inj h).symm).sub [0, 1, 2] rfl
      replace h := gu25
      refine zr_if_eq (pc := 37) hX 62 rfl dX5_linear_37 (fun c37_28 => ?_) (fun c37_28 => ?_)
      · rw [if_pos c37_28] at h
        exact (hJt24 () (Option.some.inj h).symm).sub [0, 1, 2] rfl
      · rw [if_neg c37_28] at h
        refine zr_aload_n (pc := 40) hX 0 rfl rfl dX5_linear_40 ?_
        refine zr_mget (pc := 41) hX 5 rfl rfl q1743 dX5_linear_41 ?_
        refine zr_aload_n (pc := 44) hX 0 rfl rfl dX5_linear_44 ?_
        refine zr_mget (pc := 45) hX 7 rfl rfl q1745 dX5_linear_45 ?_
        refine zr_icmp_ne (pc := 48) hX 62 rfl dX5_linear_48 (fun c48_27 => ?_) (fun c48_27 => ?_)
        · rw [if_neg c48_27] at h
          exact (hJt24 () (Option.some.inj h).symm).sub [0, 1, 2] rfl
        · rw [if_pos c48_27] at h
          refine zr_aload_n (pc := 51) hX 0 rfl rfl dX5_linear_51 ?_
          obtain ⟨t26, gt26, h⟩ := bnd h
          refine zr_callV (pc := 52) (stk' := [.int t26, .ref am]) (k' := 0) (n' := 0) hX (fun l s0 D => mX5_hasRoom l s0 D gt26) (zMw_obj _ _ _) (ci := 4) rfl zwX5_hasRoom q2013 q2015 qs57 rfl rfl rfl rfl rfl rfl rfl rfl rfl dX5_linear_52 ?_
          refine zr_if_eq (pc := 55) hX 62 rfl dX5_linear_55 (fun c55_26 => ?_) (fun c55_26 => ?_)
          · rw [if_pos c55_26] at h
            exact (hJt24 () (Option.some.inj h).symm).sub [0, 1, 2] rfl
          · rw [if_neg c55_26] at h
            refine zr_iconst (pc := 58) hX zci_0 dX5_linear_58 ?_
            refine zr_goto (pc := 59) hX 63 rfl dX5_linear_59 ?_
            replace h := congrArg some (hBu25 _ (Option.some.inj h).symm)
            exact (hJt5 (0 : Int32) (Option.some.inj h).symm).sub [0, 1, 2] rfl
    · rw [if_neg c26_29] at h
      refine zr_iconst (pc := 29) hX zci_0 dX5_linear_29 ?_
      obtain rfl := Option.some.inj h
      exact hret _ _ dX5_linear_30 (Or.inl rfl)
  replace h := gt2
  refine zr_if_eq (pc := 11) hX 18 rfl dX5_linear_11 (fun c11_30 => ?_) (fun c11_30 => ?_)
  · rw [if_pos c11_30] at h
    refine zr_iconst (pc := 18) hX zci_1 dX5_linear_18 ?_
    exact (hJt2 (1 : Int32) (Option.some.inj h).symm).sub [0, 1, 2] rfl
  · rw [if_neg c11_30] at h
    refine zr_iconst (pc := 14) hX zci_0 dX5_linear_14 ?_
    refine zr_goto (pc := 15) hX 19 rfl dX5_linear_15 ?_
    exact (hJt2 (0 : Int32) (Option.some.inj h).symm).sub [0, 1, 2] rfl
set_option maxHeartbeats 4000000 in
theorem mX5_rowOf (l : Launch) (s0 : State) (D : zD) {n : Nat} {am : Nat} {st : zMS} {b : zH} {sz : Nat} {p0 : Int32} {o : zMS × Int32} (h : fX5_rowOf n st p0 = some o) : zM l s0 D yX5_rowOf cX5_rowOf 3 (some .int) 3 44 0 0 [.ref am, .int p0] (zMw am st b) sz (zMw am o.1 b) sz (some (.int o.2)) := by
  refine zenter (own := RX5) zplX5 rfl (Nat.le_of_ble_eq_true rfl) trivial (fun K hX hnm hret => ?_)
  unfold fX5_rowOf at h
  show VW K (zMw am st b) sz 0 0 0 [(0, .ref am), (1, .int p0)] []
  refine zr_aload_n (pc := 0) hX 0 rfl rfl dX5_rowOf_0 ?_
  refine zr_aload_n (pc := 1) hX 0 rfl rfl dX5_rowOf_1 ?_
  refine zr_iconst (pc := 2) hX zci_0 dX5_rowOf_2 ?_
  obtain ⟨t1, gt1, h⟩ := bnd h
  refine zr_callV (pc := 3) (stk' := [.int t1, .ref am]) (k' := 0) (n' := 0) hX (fun l s0 D => mX5_isRow l s0 D gt1) (zMw_obj _ _ _) (ci := 4) rfl zwX5_isRow q2009 q2011 qs56 rfl rfl rfl rfl rfl rfl rfl rfl rfl dX5_rowOf_3 ?_
  obtain ⟨t2, gt2, h⟩ := bnd h
  have hJt2 : ∀ a, t2 = a → VW K (zMw am st b) sz 0 0 21 [(0, .ref am), (1, .int p0)] [.int a, .ref am] := by
    intro a ea
    subst ea
    obtain ⟨st3, gst3, h⟩ := bnd h
    refine zr_mput (pc := 21) hX 68 (Option.some.inj gst3) rfl rfl rfl rfl q1806 dX5_rowOf_21 ?_
    refine zr_aload_n (pc := 24) hX 0 rfl rfl dX5_rowOf_24 ?_
    refine zr_mget (pc := 25) hX 5 rfl rfl q1743 dX5_rowOf_25 ?_
    obtain ⟨x4, gx4, h⟩ := bnd h
    refine zr_istore_n (pc := 28) hX (Option.some.inj gx4) rfl (Nat.le_of_ble_eq_true rfl) rfl dX5_rowOf_28 ?_
    refine zr_aload_n (pc := 29) hX 1 rfl rfl dX5_rowOf_29 ?_
    refine zr_mget (pc := 30) hX 68 rfl rfl q1806 dX5_rowOf_30 ?_
    obtain ⟨t5, gt5, h⟩ := bnd h
    have hJt5 : ∀ a, t5 = a → VW K (zMw am a b) sz 0 0 41 [(0, .ref am), (1, .int p0), (2, .int x4)] [] := by
      intro a ea
      subst ea
      refine zr_aload_n (pc := 41) hX 0 rfl rfl dX5_rowOf_41 ?_
      refine zr_iconst (pc := 42) hX zci_0 dX5_rowOf_42 ?_
      obtain ⟨st6, gst6, h⟩ := bnd h
      refine zr_mput (pc := 43) hX 5 (Option.some.inj gst6) rfl rfl rfl rfl q1743 dX5_rowOf_43 ?_
      refine zr_aload_n (pc := 46) hX 0 rfl rfl dX5_rowOf_46 ?_
      refine zr_mget (pc := 47) hX 68 rfl rfl q1806 dX5_rowOf_47 ?_
      refine zr_if_le (pc := 50) hX 57 rfl dX5_rowOf_50 (fun c50_7 => ?_) (fun c50_7 => ?_)
      · rw [if_pos c50_7] at h
        refine zr_aload_n (pc := 57) hX 0 rfl rfl dX5_rowOf_57 ?_
        refine zr_iload_n (pc := 58) hX 1 rfl rfl dX5_rowOf_58 ?_
        refine zr_iload_n (pc := 59) hX 2 rfl rfl dX5_rowOf_59 ?_
        obtain ⟨t7, gt7, h⟩ := bnd h
        refine zr_callV (pc := 60) (stk' := [.int t7.2]) (k' := 0) (n' := 0) hX (fun l s0 D => mX5_adds l s0 D gt7) (zMw_obj _ _ _) (ci := 4) rfl zwX5_adds q2025 q2027 qs60 rfl rfl rfl rfl rfl rfl rfl rfl rfl dX5_rowOf_60 ?_
        obtain rfl := Option.some.inj h
        exact hret _ _ dX5_rowOf_63 (Or.inl rfl)
      · rw [if_neg c50_7] at h
        refine zr_iconst (pc := 53) hX zci_0 dX5_rowOf_53 ?_
        refine zr_goto (pc := 54) hX 63 rfl dX5_rowOf_54 ?_
        obtain rfl := Option.some.inj h
        exact hret _ _ dX5_rowOf_63 (Or.inl rfl)
    replace h := gt5
    refine zr_if_ne (pc := 33) hX 41 rfl dX5_rowOf_33 (fun c33_9 => ?_) (fun c33_9 => ?_)
    · rw [if_neg c33_9] at h
      exact (hJt5 st3 (Option.some.inj h).symm).sub [1, 2, 0] rfl
    · rw [if_pos c33_9] at h
      refine zr_aload_n (pc := 36) hX 1 rfl rfl dX5_rowOf_36 ?_
      refine zr_iconst (pc := 37) hX zci_0 dX5_rowOf_37 ?_
      obtain ⟨t9, gt9, h⟩ := bnd h
      refine zr_callV (pc := 38) (stk' := []) (k' := 0) (n' := 0) hX (fun l s0 D => mX5_takesRow l s0 D gt9) (zMw_obj _ _ _) (ci := 4) rfl zwX5_takesRow q2017 q2019 qs58 rfl rfl rfl rfl rfl rfl rfl rfl rfl dX5_rowOf_38 ?_
      exact (hJt5 t9 (Option.some.inj h).symm).sub [1, 2, 0] rfl
  replace h := gt2
  obtain ⟨u12, gu12, hAu12, hBu12⟩ := zesc_bnd h
  have hJt11 : ∀ a, u12 = .inl a → VW K (zMw am st b) sz 0 0 20 [(0, .ref am), (1, .int p0)] [.ref am] := by
    intro t11 ea
    have h := hAu12 _ ea
    refine zr_iconst (pc := 20) hX zci_1 dX5_rowOf_20 ?_
    exact (hJt2 (1 : Int32) (Option.some.inj h).symm).sub [0, 1] rfl
  replace h := gu12
  refine zr_if_eq (pc := 6) hX 20 rfl dX5_rowOf_6 (fun c6_14 => ?_) (fun c6_14 => ?_)
  · rw [if_pos c6_14] at h
    exact (hJt11 () (Option.some.inj h).symm).sub [0, 1] rfl
  · rw [if_neg c6_14] at h
    refine zr_aload_n (pc := 9) hX 0 rfl rfl dX5_rowOf_9 ?_
    obtain ⟨t13, gt13, h⟩ := bnd h
    refine zr_callV (pc := 10) (stk' := [.int t13, .ref am]) (k' := 0) (n' := 0) hX (fun l s0 D => mX5_hasRoom l s0 D gt13) (zMw_obj _ _ _) (ci := 4) rfl zwX5_hasRoom q2013 q2015 qs57 rfl rfl rfl rfl rfl rfl rfl rfl rfl dX5_rowOf_10 ?_
    refine zr_if_eq (pc := 13) hX 20 rfl dX5_rowOf_13 (fun c13_13 => ?_) (fun c13_13 => ?_)
    · rw [if_pos c13_13] at h
      exact (hJt11 () (Option.some.inj h).symm).sub [0, 1] rfl
    · rw [if_neg c13_13] at h
      refine zr_iconst (pc := 16) hX zci_0 dX5_rowOf_16 ?_
      refine zr_goto (pc := 17) hX 21 rfl dX5_rowOf_17 ?_
      replace h := congrArg some (hBu12 _ (Option.some.inj h).symm)
      exact (hJt2 (0 : Int32) (Option.some.inj h).symm).sub [0, 1] rfl
set_option maxHeartbeats 4000000 in
theorem mX5_different (l : Launch) (s0 : State) (D : zD) {n : Nat} {am : Nat} {st : zMS} {b : zH} {sz : Nat} {o : zMS × Int32} (h : fX5_different n st = some o) : zM l s0 D yX5_different cX5_different 1 (some .int) 4 66 0 0 [.ref am] (zMw am st b) sz (zMw am o.1 b) sz (some (.int o.2)) := by
  refine zenter (own := RX5) zplX5 rfl (Nat.le_of_ble_eq_true rfl) trivial (fun K hX hnm hret => ?_)
  unfold fX5_different at h
  show VW K (zMw am st b) sz 0 0 0 [(0, .ref am)] []
  refine zr_aload_n (pc := 0) hX 0 rfl rfl dX5_different_0 ?_
  refine zr_iconst (pc := 1) hX zci_1 dX5_different_1 ?_
  obtain ⟨t1, gt1, h⟩ := bnd h
  refine zr_callV (pc := 2) (stk' := [.int t1.2]) (k' := 0) (n' := 0) hX (fun l s0 D => mX5_rowOf l s0 D gt1) (zMw_obj _ _ _) (ci := 4) rfl zwX5_rowOf q2033 q2035 qs61 rfl rfl rfl rfl rfl rfl rfl rfl rfl dX5_different_2 ?_
  obtain rfl := Option.some.inj h
  exact hret _ _ dX5_different_5 (Or.inl rfl)
set_option maxHeartbeats 4000000 in
theorem mX5_order (l : Launch) (s0 : State) (D : zD) {n : Nat} {am : Nat} {st : zMS} {b : zH} {sz : Nat} {o : zMS × Int32} (h : fX5_order n st = some o) : zM l s0 D yX5_order cX5_order 1 (some .int) 4 66 0 0 [.ref am] (zMw am st b) sz (zMw am o.1 b) sz (some (.int o.2)) := by
  refine zenter (own := RX5) zplX5 rfl (Nat.le_of_ble_eq_true rfl) trivial (fun K hX hnm hret => ?_)
  unfold fX5_order at h
  show VW K (zMw am st b) sz 0 0 0 [(0, .ref am)] []
  refine zr_aload_n (pc := 0) hX 0 rfl rfl dX5_order_0 ?_
  refine zr_iconst (pc := 1) hX zci_2 dX5_order_1 ?_
  obtain ⟨t1, gt1, h⟩ := bnd h
  refine zr_callV (pc := 2) (stk' := [.int t1.2]) (k' := 0) (n' := 0) hX (fun l s0 D => mX5_rowOf l s0 D gt1) (zMw_obj _ _ _) (ci := 4) rfl zwX5_rowOf q2033 q2035 qs61 rfl rfl rfl rfl rfl rfl rfl rfl rfl dX5_order_2 ?_
  obtain rfl := Option.some.inj h
  exact hret _ _ dX5_order_5 (Or.inl rfl)
set_option maxHeartbeats 4000000 in
theorem mX5_regular (l : Launch) (s0 : State) (D : zD) {n : Nat} {am : Nat} {st : zMS} {b : zH} {sz : Nat} {p0 : Int32} {o : zMS × Int32} (h : fX5_regular n st p0 = some o) : zM l s0 D yX5_regular cX5_regular 4 (some .int) 3 44 0 0 [.ref am, .int p0] (zMw am st b) sz (zMw am o.1 b) sz (some (.int o.2)) := by
  refine zenter (own := RX5) zplX5 rfl (Nat.le_of_ble_eq_true rfl) trivial (fun K hX hnm hret => ?_)
  unfold fX5_regular at h
  show VW K (zMw am st b) sz 0 0 0 [(0, .ref am), (1, .int p0)] []
  refine zr_aload_n (pc := 0) hX 0 rfl rfl dX5_regular_0 ?_
  refine zr_iload_n (pc := 1) hX 1 rfl rfl dX5_regular_1 ?_
  refine zr_iconst (pc := 2) hX zci_0 dX5_regular_2 ?_
  refine zr_bipush (pc := 3) hX zcb_63 dX5_regular_3 ?_
  obtain ⟨t1, gt1, h⟩ := bnd h
  refine zr_callS (pc := 5) (stk' := [.int t1, .ref am]) (k' := 0) (n' := 0) hX (fun l s0 D => mX5_isIn l s0 D gt1) zwX5_isIn q1963 q1964 rfl rfl rfl rfl rfl rfl rfl rfl dX5_regular_5 ?_
  obtain ⟨t2, gt2, h⟩ := bnd h
  have hJt2 : ∀ a, t2 = a → VW K (zMw am st b) sz 0 0 16 [(0, .ref am), (1, .int p0)] [.int a, .ref am] := by
    intro a ea
    subst ea
    obtain ⟨st3, gst3, h⟩ := bnd h
    refine zr_mput (pc := 16) hX 68 (Option.some.inj gst3) rfl rfl rfl rfl q1806 dX5_regular_16 ?_
    refine zr_aload_n (pc := 19) hX 0 rfl rfl dX5_regular_19 ?_
    refine zr_mget (pc := 20) hX 68 rfl rfl q1806 dX5_regular_20 ?_
    refine zr_if_le (pc := 23) hX 28 rfl dX5_regular_23 (fun c23_27 => ?_) (fun c23_27 => ?_)
    · rw [if_pos c23_27] at h
      refine zr_aload_n (pc := 28) hX 0 rfl rfl dX5_regular_28 ?_
      refine zr_aload_n (pc := 29) hX 0 rfl rfl dX5_regular_29 ?_
      refine zr_iconst (pc := 30) hX zci_0 dX5_regular_30 ?_
      obtain ⟨t4, gt4, h⟩ := bnd h
      refine zr_callV (pc := 31) (stk' := [.int t4, .ref am]) (k' := 0) (n' := 0) hX (fun l s0 D => mX5_isRow l s0 D gt4) (zMw_obj _ _ _) (ci := 4) rfl zwX5_isRow q2009 q2011 qs56 rfl rfl rfl rfl rfl rfl rfl rfl rfl dX5_regular_31 ?_
      obtain ⟨t5, gt5, h⟩ := bnd h
      have hJt5 : ∀ a, t5 = a → VW K (zMw am st3 b) sz 0 0 49 [(0, .ref am), (1, .int p0)] [.int a, .ref am] := by
        intro a ea
        subst ea
        obtain ⟨st6, gst6, h⟩ := bnd h
        refine zr_mput (pc := 49) hX 68 (Option.some.inj gst6) rfl rfl rfl rfl q1806 dX5_regular_49 ?_
        refine zr_aload_n (pc := 52) hX 0 rfl rfl dX5_regular_52 ?_
        refine zr_mget (pc := 53) hX 5 rfl rfl q1743 dX5_regular_53 ?_
        obtain ⟨x7, gx7, h⟩ := bnd h
        refine zr_istore_n (pc := 56) hX (Option.some.inj gx7) rfl (Nat.le_of_ble_eq_true rfl) rfl dX5_regular_56 ?_
        refine zr_aload_n (pc := 57) hX 1 rfl rfl dX5_regular_57 ?_
        refine zr_mget (pc := 58) hX 68 rfl rfl q1806 dX5_regular_58 ?_
        obtain ⟨t8, gt8, h⟩ := bnd h
        have hJt8 : ∀ a, t8 = a → VW K (zMw am a b) sz 0 0 130 [(0, .ref am), (2, .int x7)] [] := by
          intro a ea
          subst ea
          refine zr_aload_n (pc := 130) hX 0 rfl rfl dX5_regular_130 ?_
          refine zr_iconst (pc := 131) hX zci_0 dX5_regular_131 ?_
          obtain ⟨st9, gst9, h⟩ := bnd h
          refine zr_mput (pc := 132) hX 5 (Option.some.inj gst9) rfl rfl rfl rfl q1743 dX5_regular_132 ?_
          refine zr_aload_n (pc := 135) hX 0 rfl rfl dX5_regular_135 ?_
          refine zr_iconst (pc := 136) hX zci_0 dX5_regular_136 ?_
          obtain ⟨st10, gst10, h⟩ := bnd h
          refine zr_mput (pc := 137) hX 9 (Option.some.inj gst10) rfl rfl rfl rfl q1747 dX5_regular_137 ?_
          refine zr_aload_n (pc := 140) hX 0 rfl rfl dX5_regular_140 ?_
          refine zr_mget (pc := 141) hX 68 rfl rfl q1806 dX5_regular_141 ?_
          refine zr_if_le (pc := 144) hX 151 rfl dX5_regular_144 (fun c144_11 => ?_) (fun c144_11 => ?_)
          · rw [if_pos c144_11] at h
            refine zr_aload_n (pc := 151) hX 0 rfl rfl dX5_regular_151 ?_
            refine zr_iconst (pc := 152) hX zci_3 dX5_regular_152 ?_
            refine zr_iload_n (pc := 153) hX 1 rfl rfl dX5_regular_153 ?_
            obtain ⟨t11, gt11, h⟩ := bnd h
            refine zr_callV (pc := 154) (stk' := [.int t11.2]) (k' := 0) (n' := 0) hX (fun l s0 D => mX5_adds l s0 D gt11) (zMw_obj _ _ _) (ci := 4) rfl zwX5_adds q2025 q2027 qs60 rfl rfl rfl rfl rfl rfl rfl rfl rfl dX5_regular_154 ?_
            obtain rfl := Option.some.inj h
            exact hret _ _ dX5_regular_157 (Or.inl rfl)
          · rw [if_neg c144_11] at h
            refine zr_iconst (pc := 147) hX zci_0 dX5_regular_147 ?_
            refine zr_goto (pc := 148) hX 157 rfl dX5_regular_148 ?_
            obtain rfl := Option.some.inj h
            exact hret _ _ dX5_regular_157 (Or.inl rfl)
        replace h := gt8
        refine zr_if_ne (pc := 61) hX 130 rfl dX5_regular_61 (fun c61_21 => ?_) (fun c61_21 => ?_)
        · rw [if_neg c61_21] at h
          exact (hJt8 st6 (Option.some.inj h).symm).sub [1, 0] rfl
        · rw [if_pos c61_21] at h
          refine zr_aload_n (pc := 64) hX 1 rfl rfl dX5_regular_64 ?_
          refine zr_iconst (pc := 65) hX zci_0 dX5_regular_65 ?_
          obtain ⟨t13, gt13, h⟩ := bnd h
          refine zr_callV (pc := 66) (stk' := []) (k' := 0) (n' := 0) hX (fun l s0 D => mX5_takesRow l s0 D gt13) (zMw_obj _ _ _) (ci := 4) rfl zwX5_takesRow q2017 q2019 qs58 rfl rfl rfl rfl rfl rfl rfl rfl rfl dX5_regular_66 ?_
          refine zr_aload_n (pc := 69) hX 1 rfl rfl dX5_regular_69 ?_
          refine zr_mgetA (pc := 70) hX 20 rfl rfl q1758 dX5_regular_70 ?_
          refine zr_aload_n (pc := 73) hX 1 rfl rfl dX5_regular_73 ?_
          refine zr_mget (pc := 74) hX 15 rfl rfl q1753 dX5_regular_74 ?_
          refine zr_iload_n (pc := 77) hX 2 rfl rfl dX5_regular_77 ?_
          obtain ⟨st14, gst14, h⟩ := bnd h
          refine zr_mast (pc := 78) hX 20 rfl rfl rfl gst14 dX5_regular_78 ?_
          refine zr_aload_n (pc := 79) hX 1 rfl rfl dX5_regular_79 ?_
          refine zr_mgetA (pc := 80) hX 21 rfl rfl q1759 dX5_regular_80 ?_
          refine zr_aload_n (pc := 83) hX 1 rfl rfl dX5_regular_83 ?_
          refine zr_mget (pc := 84) hX 15 rfl rfl q1753 dX5_regular_84 ?_
          refine zr_aload_n (pc := 87) hX 1 rfl rfl dX5_regular_87 ?_
          refine zr_mget (pc := 88) hX 9 rfl rfl q1747 dX5_regular_88 ?_
          obtain ⟨st15, gst15, h⟩ := bnd h
          refine zr_mast (pc := 91) hX 21 rfl rfl rfl gst15 dX5_regular_91 ?_
          refine zr_iconst (pc := 92) hX zci_0 dX5_regular_92 ?_
          refine zr_istore_n (pc := 93) hX rfl rfl (Nat.le_of_ble_eq_true rfl) rfl dX5_regular_93 ?_
          refine VW.sub (lv' := [(0, .ref am), (2, .int x7), (3, .int (0 : Int32))]) ?_ [2, 1, 0] rfl
          refine zloop_walk (V := (fun a => VW K (zMw am a.1 b) sz 0 0 94 [(0, .ref am), (2, .int x7), (3, .int a.2)] [])) (E := fun e => e = t8) ?_ n (st15, (0 : Int32)) _ h rfl
          intro a16 o17 h kco17 keo17
          unfold fX5_regular_L94 at h
          refine zr_iload_n (pc := 94) hX 2 rfl rfl dX5_regular_94 ?_
          refine zr_iconst (pc := 95) hX zci_3 dX5_regular_95 ?_
          refine zr_aload_n (pc := 96) hX 0 rfl rfl dX5_regular_96 ?_
          refine zr_mget (pc := 97) hX 9 rfl rfl q1747 dX5_regular_97 ?_
          refine zr_imul (pc := 100) hX dX5_regular_100 ?_
          refine zr_icmp_ge (pc := 101) hX 130 rfl dX5_regular_101 (fun c101_20 => ?_) (fun c101_20 => ?_)
          · rw [if_pos c101_20] at h
            replace h := congrArg some (keo17 _ (Option.some.inj h).symm)
            exact (hJt8 a16.1 (Option.some.inj h).symm).sub [0, 1] rfl
          · rw [if_neg c101_20] at h
            refine zr_aload_n (pc := 104) hX 0 rfl rfl dX5_regular_104 ?_
            refine zr_mgetA (pc := 105) hX 22 rfl rfl q1760 dX5_regular_105 ?_
            refine zr_bipush (pc := 108) hX zcb_48 dX5_regular_108 ?_
            refine zr_aload_n (pc := 110) hX 0 rfl rfl dX5_regular_110 ?_
            refine zr_mget (pc := 111) hX 15 rfl rfl q1753 dX5_regular_111 ?_
            refine zr_imul (pc := 114) hX dX5_regular_114 ?_
            refine zr_iload_n (pc := 115) hX 2 rfl rfl dX5_regular_115 ?_
            refine zr_iadd (pc := 116) hX dX5_regular_116 ?_
            refine zr_aload_n (pc := 117) hX 0 rfl rfl dX5_regular_117 ?_
            refine zr_mgetA (pc := 118) hX 10 rfl rfl q1748 dX5_regular_118 ?_
            refine zr_iload_n (pc := 121) hX 2 rfl rfl dX5_regular_121 ?_
            obtain ⟨x18, gx18, h⟩ := bnd h
            refine zr_mald (pc := 122) hX 10 rfl rfl rfl gx18 dX5_regular_122 ?_
            obtain ⟨st19, gst19, h⟩ := bnd h
            refine zr_mast (pc := 123) hX 22 rfl rfl rfl gst19 dX5_regular_123 ?_
            obtain ⟨x20, gx20, h⟩ := bnd h
            refine zr_iinc (pc := 124) hX 2 rfl zci_1 (Option.some.inj gx20) (Nat.le_of_ble_eq_true rfl) rfl dX5_regular_124 ?_
            refine zr_goto (pc := 127) hX 94 rfl dX5_regular_127 ?_
            exact (kco17 (st19, x20) (Option.some.inj h).symm).sub [1, 2, 0] rfl
      replace h := gt5
      obtain ⟨u24, gu24, hAu24, hBu24⟩ := zesc_bnd h
      have hJt23 : ∀ a, u24 = .inl a → VW K (zMw am st3 b) sz 0 0 48 [(0, .ref am), (1, .int p0)] [.ref am] := by
        intro t23 ea
        have h := hAu24 _ ea
        refine zr_iconst (pc := 48) hX zci_2 dX5_regular_48 ?_
        exact (hJt5 (2 : Int32) (Option.some.inj h).symm).sub [0, 1] rfl
      replace h := gu24
      refine zr_if_eq (pc := 34) hX 48 rfl dX5_regular_34 (fun c34_26 => ?_) (fun c34_26 => ?_)
      · rw [if_pos c34_26] at h
        exact (hJt23 () (Option.some.inj h).symm).sub [0, 1] rfl
      · rw [if_neg c34_26] at h
        refine zr_aload_n (pc := 37) hX 0 rfl rfl dX5_regular_37 ?_
        obtain ⟨t25, gt25, h⟩ := bnd h
        refine zr_callV (pc := 38) (stk' := [.int t25, .ref am]) (k' := 0) (n' := 0) hX (fun l s0 D => mX5_hasRoom l s0 D gt25) (zMw_obj _ _ _) (ci := 4) rfl zwX5_hasRoom q2013 q2015 qs57 rfl rfl rfl rfl rfl rfl rfl rfl rfl dX5_regular_38 ?_
        refine zr_if_eq (pc := 41) hX 48 rfl dX5_regular_41 (fun c41_25 => ?_) (fun c41_25 => ?_)
        · rw [if_pos c41_25] at h
          exact (hJt23 () (Option.some.inj h).symm).sub [0, 1] rfl
        · rw [if_neg c41_25] at h
          refine zr_iconst (pc := 44) hX zci_0 dX5_regular_44 ?_
          refine zr_goto (pc := 45) hX 49 rfl dX5_regular_45 ?_
          replace h := congrArg some (hBu24 _ (Option.some.inj h).symm)
          exact (hJt5 (0 : Int32) (Option.some.inj h).symm).sub [0, 1] rfl
    · rw [if_neg c23_27] at h
      refine zr_iconst (pc := 26) hX zci_0 dX5_regular_26 ?_
      obtain rfl := Option.some.inj h
      exact hret _ _ dX5_regular_27 (Or.inl rfl)
  replace h := gt2
  refine zr_if_eq (pc := 8) hX 15 rfl dX5_regular_8 (fun c8_28 => ?_) (fun c8_28 => ?_)
  · rw [if_pos c8_28] at h
    refine zr_iconst (pc := 15) hX zci_1 dX5_regular_15 ?_
    exact (hJt2 (1 : Int32) (Option.some.inj h).symm).sub [0, 1] rfl
  · rw [if_neg c8_28] at h
    refine zr_iconst (pc := 11) hX zci_0 dX5_regular_11 ?_
    refine zr_goto (pc := 12) hX 16 rfl dX5_regular_12 ?_
    exact (hJt2 (0 : Int32) (Option.some.inj h).symm).sub [0, 1] rfl
set_option maxHeartbeats 4000000 in
theorem mX5_element (l : Launch) (s0 : State) (D : zD) {n : Nat} {am : Nat} {st : zMS} {b : zH} {sz : Nat} {p0 : Int32} {p1 : Int32} {o : zMS × Int32} (h : fX5_element n st p0 p1 = some o) : zM l s0 D yX5_element cX5_element 4 (some .int) 3 44 0 0 [.ref am, .int p0, .int p1] (zMw am st b) sz (zMw am o.1 b) sz (some (.int o.2)) := by
  refine zenter (own := RX5) zplX5 rfl (Nat.le_of_ble_eq_true rfl) trivial (fun K hX hnm hret => ?_)
  unfold fX5_element at h
  show VW K (zMw am st b) sz 0 0 0 [(0, .ref am), (1, .int p0), (2, .int p1)] []
  refine zr_aload_n (pc := 0) hX 0 rfl rfl dX5_element_0 ?_
  refine zr_aload_n (pc := 1) hX 0 rfl rfl dX5_element_1 ?_
  refine zr_iload_n (pc := 2) hX 1 rfl rfl dX5_element_2 ?_
  obtain ⟨t1, gt1, h⟩ := bnd h
  refine zr_callV (pc := 3) (stk' := [.int t1, .ref am]) (k' := 0) (n' := 0) hX (fun l s0 D => mX5_isVariable l s0 D gt1) (zMw_obj _ _ _) (ci := 4) rfl zwX5_isVariable q1982 q1984 qs54 rfl rfl rfl rfl rfl rfl rfl rfl rfl dX5_element_3 ?_
  obtain ⟨t2, gt2, h⟩ := bnd h
  have hJt2 : ∀ a, t2 = a → VW K (zMw am st b) sz 0 0 44 [(0, .ref am), (1, .int p0), (2, .int p1)] [.int a, .ref am] := by
    intro a ea
    subst ea
    obtain ⟨st3, gst3, h⟩ := bnd h
    refine zr_mput (pc := 44) hX 68 (Option.some.inj gst3) rfl rfl rfl rfl q1806 dX5_element_44 ?_
    refine zr_aload_n (pc := 47) hX 0 rfl rfl dX5_element_47 ?_
    refine zr_mget (pc := 48) hX 68 rfl rfl q1806 dX5_element_48 ?_
    refine zr_if_le (pc := 51) hX 56 rfl dX5_element_51 (fun c51_20 => ?_) (fun c51_20 => ?_)
    · rw [if_pos c51_20] at h
      refine zr_aload_n (pc := 56) hX 0 rfl rfl dX5_element_56 ?_
      refine zr_aload_n (pc := 57) hX 0 rfl rfl dX5_element_57 ?_
      refine zr_iconst (pc := 58) hX zci_0 dX5_element_58 ?_
      obtain ⟨t4, gt4, h⟩ := bnd h
      refine zr_callV (pc := 59) (stk' := [.int t4, .ref am]) (k' := 0) (n' := 0) hX (fun l s0 D => mX5_isRow l s0 D gt4) (zMw_obj _ _ _) (ci := 4) rfl zwX5_isRow q2009 q2011 qs56 rfl rfl rfl rfl rfl rfl rfl rfl rfl dX5_element_59 ?_
      obtain ⟨t5, gt5, h⟩ := bnd h
      have hJt5 : ∀ a, t5 = a → VW K (zMw am st3 b) sz 0 0 77 [(0, .ref am), (1, .int p0), (2, .int p1)] [.int a, .ref am] := by
        intro a ea
        subst ea
        obtain ⟨st6, gst6, h⟩ := bnd h
        refine zr_mput (pc := 77) hX 68 (Option.some.inj gst6) rfl rfl rfl rfl q1806 dX5_element_77 ?_
        refine zr_aload_n (pc := 80) hX 0 rfl rfl dX5_element_80 ?_
        refine zr_mget (pc := 81) hX 5 rfl rfl q1743 dX5_element_81 ?_
        obtain ⟨x7, gx7, h⟩ := bnd h
        refine zr_istore_n (pc := 84) hX (Option.some.inj gx7) rfl (Nat.le_of_ble_eq_true rfl) rfl dX5_element_84 ?_
        refine zr_aload_n (pc := 85) hX 1 rfl rfl dX5_element_85 ?_
        refine zr_mget (pc := 86) hX 68 rfl rfl q1806 dX5_element_86 ?_
        obtain ⟨t8, gt8, h⟩ := bnd h
        have hJt8 : ∀ a, t8 = a → VW K (zMw am a b) sz 0 0 109 [(0, .ref am), (3, .int x7)] [] := by
          intro a ea
          subst ea
          refine zr_aload_n (pc := 109) hX 0 rfl rfl dX5_element_109 ?_
          refine zr_iconst (pc := 110) hX zci_0 dX5_element_110 ?_
          obtain ⟨st9, gst9, h⟩ := bnd h
          refine zr_mput (pc := 111) hX 5 (Option.some.inj gst9) rfl rfl rfl rfl q1743 dX5_element_111 ?_
          refine zr_aload_n (pc := 114) hX 0 rfl rfl dX5_element_114 ?_
          refine zr_mget (pc := 115) hX 68 rfl rfl q1806 dX5_element_115 ?_
          refine zr_if_le (pc := 118) hX 125 rfl dX5_element_118 (fun c118_10 => ?_) (fun c118_10 => ?_)
          · rw [if_pos c118_10] at h
            refine zr_aload_n (pc := 125) hX 0 rfl rfl dX5_element_125 ?_
            refine zr_iconst (pc := 126) hX zci_4 dX5_element_126 ?_
            refine zr_iload_n (pc := 127) hX 1 rfl rfl dX5_element_127 ?_
            refine zr_iconst (pc := 128) hX zci_2 dX5_element_128 ?_
            refine zr_iadd (pc := 129) hX dX5_element_129 ?_
            obtain ⟨t10, gt10, h⟩ := bnd h
            refine zr_callV (pc := 130) (stk' := [.int t10.2]) (k' := 0) (n' := 0) hX (fun l s0 D => mX5_adds l s0 D gt10) (zMw_obj _ _ _) (ci := 4) rfl zwX5_adds q2025 q2027 qs60 rfl rfl rfl rfl rfl rfl rfl rfl rfl dX5_element_130 ?_
            obtain rfl := Option.some.inj h
            exact hret _ _ dX5_element_133 (Or.inl rfl)
          · rw [if_neg c118_10] at h
            refine zr_iconst (pc := 121) hX zci_0 dX5_element_121 ?_
            refine zr_goto (pc := 122) hX 133 rfl dX5_element_122 ?_
            obtain rfl := Option.some.inj h
            exact hret _ _ dX5_element_133 (Or.inl rfl)
        replace h := gt8
        refine zr_if_ne (pc := 89) hX 109 rfl dX5_element_89 (fun c89_14 => ?_) (fun c89_14 => ?_)
        · rw [if_neg c89_14] at h
          exact (hJt8 st6 (Option.some.inj h).symm).sub [1, 0] rfl
        · rw [if_pos c89_14] at h
          refine zr_aload_n (pc := 92) hX 1 rfl rfl dX5_element_92 ?_
          refine zr_iconst (pc := 93) hX zci_0 dX5_element_93 ?_
          refine zr_iload_n (pc := 94) hX 2 rfl rfl dX5_element_94 ?_
          obtain ⟨t12, gt12, h⟩ := bnd h
          refine zr_callV (pc := 95) (stk' := []) (k' := 0) (n' := 0) hX (fun l s0 D => mX5_places l s0 D gt12) (zMw_obj _ _ _) (ci := 4) rfl zwX5_places q2021 q2023 qs59 rfl rfl rfl rfl rfl rfl rfl rfl rfl dX5_element_95 ?_
          refine zr_aload_n (pc := 98) hX 1 rfl rfl dX5_element_98 ?_
          refine zr_iconst (pc := 99) hX zci_1 dX5_element_99 ?_
          refine zr_iload_n (pc := 100) hX 3 rfl rfl dX5_element_100 ?_
          obtain ⟨t13, gt13, h⟩ := bnd h
          refine zr_callV (pc := 101) (stk' := []) (k' := 0) (n' := 0) hX (fun l s0 D => mX5_places l s0 D gt13) (zMw_obj _ _ _) (ci := 4) rfl zwX5_places q2021 q2023 qs59 rfl rfl rfl rfl rfl rfl rfl rfl rfl dX5_element_101 ?_
          refine zr_aload_n (pc := 104) hX 1 rfl rfl dX5_element_104 ?_
          refine zr_iconst (pc := 105) hX zci_2 dX5_element_105 ?_
          obtain ⟨t14, gt14, h⟩ := bnd h
          refine zr_callV (pc := 106) (stk' := []) (k' := 0) (n' := 0) hX (fun l s0 D => mX5_takesRow l s0 D gt14) (zMw_obj _ _ _) (ci := 4) rfl zwX5_takesRow q2017 q2019 qs58 rfl rfl rfl rfl rfl rfl rfl rfl rfl dX5_element_106 ?_
          exact (hJt8 t14 (Option.some.inj h).symm).sub [1, 0] rfl
      replace h := gt5
      obtain ⟨u17, gu17, hAu17, hBu17⟩ := zesc_bnd h
      have hJt16 : ∀ a, u17 = .inl a → VW K (zMw am st3 b) sz 0 0 76 [(0, .ref am), (1, .int p0), (2, .int p1)] [.ref am] := by
        intro t16 ea
        have h := hAu17 _ ea
        refine zr_iconst (pc := 76) hX zci_3 dX5_element_76 ?_
        exact (hJt5 (3 : Int32) (Option.some.inj h).symm).sub [0, 1, 2] rfl
      replace h := gu17
      refine zr_if_eq (pc := 62) hX 76 rfl dX5_element_62 (fun c62_19 => ?_) (fun c62_19 => ?_)
      · rw [if_pos c62_19] at h
        exact (hJt16 () (Option.some.inj h).symm).sub [0, 1, 2] rfl
      · rw [if_neg c62_19] at h
        refine zr_aload_n (pc := 65) hX 0 rfl rfl dX5_element_65 ?_
        obtain ⟨t18, gt18, h⟩ := bnd h
        refine zr_callV (pc := 66) (stk' := [.int t18, .ref am]) (k' := 0) (n' := 0) hX (fun l s0 D => mX5_hasRoom l s0 D gt18) (zMw_obj _ _ _) (ci := 4) rfl zwX5_hasRoom q2013 q2015 qs57 rfl rfl rfl rfl rfl rfl rfl rfl rfl dX5_element_66 ?_
        refine zr_if_eq (pc := 69) hX 76 rfl dX5_element_69 (fun c69_18 => ?_) (fun c69_18 => ?_)
        · rw [if_pos c69_18] at h
          exact (hJt16 () (Option.some.inj h).symm).sub [0, 1, 2] rfl
        · rw [if_neg c69_18] at h
          refine zr_iconst (pc := 72) hX zci_0 dX5_element_72 ?_
          refine zr_goto (pc := 73) hX 77 rfl dX5_element_73 ?_
          replace h := congrArg some (hBu17 _ (Option.some.inj h).symm)
          exact (hJt5 (0 : Int32) (Option.some.inj h).symm).sub [0, 1, 2] rfl
    · rw [if_neg c51_20] at h
      refine zr_iconst (pc := 54) hX zci_0 dX5_element_54 ?_
      obtain rfl := Option.some.inj h
      exact hret _ _ dX5_element_55 (Or.inl rfl)
  replace h := gt2
  obtain ⟨u23, gu23, hAu23, hBu23⟩ := zesc_bnd h
  have hJt22 : ∀ a, u23 = .inl a → VW K (zMw am st b) sz 0 0 17 [(0, .ref am), (1, .int p0), (2, .int p1)] [.ref am] := by
    intro t22 ea
    have h := hAu23 _ ea
    refine zr_iconst (pc := 17) hX zci_1 dX5_element_17 ?_
    refine zr_goto (pc := 18) hX 44 rfl dX5_element_18 ?_
    exact (hJt2 (1 : Int32) (Option.some.inj h).symm).sub [0, 1, 2] rfl
  replace h := gu23
  refine zr_if_eq (pc := 6) hX 17 rfl dX5_element_6 (fun c6_31 => ?_) (fun c6_31 => ?_)
  · rw [if_pos c6_31] at h
    exact (hJt22 () (Option.some.inj h).symm).sub [0, 1, 2] rfl
  · rw [if_neg c6_31] at h
    refine zr_aload_n (pc := 9) hX 0 rfl rfl dX5_element_9 ?_
    refine zr_iload_n (pc := 10) hX 2 rfl rfl dX5_element_10 ?_
    obtain ⟨t24, gt24, h⟩ := bnd h
    refine zr_callV (pc := 11) (stk' := [.int t24, .ref am]) (k' := 0) (n' := 0) hX (fun l s0 D => mX5_isVariable l s0 D gt24) (zMw_obj _ _ _) (ci := 4) rfl zwX5_isVariable q1982 q1984 qs54 rfl rfl rfl rfl rfl rfl rfl rfl rfl dX5_element_11 ?_
    refine zr_if_ne (pc := 14) hX 21 rfl dX5_element_14 (fun c14_30 => ?_) (fun c14_30 => ?_)
    · rw [if_neg c14_30] at h
      refine zr_aload_n (pc := 21) hX 0 rfl rfl dX5_element_21 ?_
      refine zr_mgetA (pc := 22) hX 1 rfl rfl q1739 dX5_element_22 ?_
      refine zr_iload_n (pc := 25) hX 1 rfl rfl dX5_element_25 ?_
      obtain ⟨x25, gx25, h⟩ := bnd h
      refine zr_mald (pc := 26) hX 1 rfl rfl rfl gx25 dX5_element_26 ?_
      obtain ⟨u27, gu27, hAu27, hBu27⟩ := zesc_bnd h
      have hJt26 : ∀ a, u27 = .inl a → VW K (zMw am st b) sz 0 0 39 [(0, .ref am), (1, .int p0), (2, .int p1)] [.ref am] := by
        intro t26 ea
        have h := hAu27 _ ea
        refine zr_iconst (pc := 39) hX zci_2 dX5_element_39 ?_
        refine zr_goto (pc := 40) hX 44 rfl dX5_element_40 ?_
        replace h := congrArg some (hBu23 _ (Option.some.inj h).symm)
        exact (hJt2 (2 : Int32) (Option.some.inj h).symm).sub [0, 1, 2] rfl
      replace h := gu27
      refine zr_if_ne (pc := 27) hX 39 rfl dX5_element_27 (fun c27_29 => ?_) (fun c27_29 => ?_)
      · rw [if_neg c27_29] at h
        exact (hJt26 () (Option.some.inj h).symm).sub [0, 1, 2] rfl
      · rw [if_pos c27_29] at h
        refine zr_aload_n (pc := 30) hX 0 rfl rfl dX5_element_30 ?_
        refine zr_mgetA (pc := 31) hX 1 rfl rfl q1739 dX5_element_31 ?_
        refine zr_iload_n (pc := 34) hX 2 rfl rfl dX5_element_34 ?_
        obtain ⟨x28, gx28, h⟩ := bnd h
        refine zr_mald (pc := 35) hX 1 rfl rfl rfl gx28 dX5_element_35 ?_
        refine zr_if_eq (pc := 36) hX 43 rfl dX5_element_36 (fun c36_28 => ?_) (fun c36_28 => ?_)
        · rw [if_pos c36_28] at h
          refine zr_iconst (pc := 43) hX zci_0 dX5_element_43 ?_
          replace h := congrArg some (hBu27 _ (Option.some.inj h).symm)
          replace h := congrArg some (hBu23 _ (Option.some.inj h).symm)
          exact (hJt2 (0 : Int32) (Option.some.inj h).symm).sub [0, 1, 2] rfl
        · rw [if_neg c36_28] at h
          exact (hJt26 () (Option.some.inj h).symm).sub [0, 1, 2] rfl
    · rw [if_pos c14_30] at h
      exact (hJt22 () (Option.some.inj h).symm).sub [0, 1, 2] rfl
set_option maxHeartbeats 4000000 in
theorem mX5_third (l : Launch) (s0 : State) (D : zD) {σ : zH} {sz : Nat} {p0 : Int32} {o : Int32} (h : fX5_third p0 = some o) : zM l s0 D yX5_third cX5_third 1 (some .int) 1 0 0 0 [.int p0] σ sz σ sz (some (.int o)) := by
  refine zenter (own := RX5) zplX5 rfl (Nat.le_of_ble_eq_true rfl) trivial (fun K hX hnm hret => ?_)
  unfold fX5_third at h
  show VW K σ sz 0 0 0 [(0, .int p0)] []
  refine zr_iload_n (pc := 0) hX 0 rfl rfl dX5_third_0 ?_
  refine zr_bipush (pc := 1) hX zcb_m2 dX5_third_1 ?_
  refine zr_icmp_ne (pc := 3) hX 10 rfl dX5_third_3 (fun c3_0 => ?_) (fun c3_0 => ?_)
  · rw [if_neg c3_0] at h
    refine zr_iload_n (pc := 10) hX 0 rfl rfl dX5_third_10 ?_
    obtain rfl := Option.some.inj h
    exact hret _ _ dX5_third_11 (Or.inl rfl)
  · rw [if_pos c3_0] at h
    refine zr_iconst (pc := 6) hX zci_m1 dX5_third_6 ?_
    refine zr_goto (pc := 7) hX 11 rfl dX5_third_7 ?_
    obtain rfl := Option.some.inj h
    exact hret _ _ dX5_third_11 (Or.inl rfl)
set_option maxHeartbeats 4000000 in
theorem mX5_of (l : Launch) (s0 : State) (D : zD) {am : Nat} {st : zMS} {b : zH} {sz : Nat} {p0 : Int32} {p1 : Int32} {p2 : Int32} {p3 : Int32} {p4 : Int32} {p5 : Int32} {p6 : Int32} {o : zMS × Int32} (h : fX5_of st p0 p1 p2 p3 p4 p5 p6 = some o) : zM l s0 D yX5_of cX5_of 10 (some .int) 3 43 0 0 [.ref am, .int p0, .int p1, .int p2, .int p3, .int p4, .int p5, .int p6] (zMw am st b) sz (zMw am o.1 b) sz (some (.int o.2)) := by
  refine zenter (own := RX5) zplX5 rfl (Nat.le_of_ble_eq_true rfl) trivial (fun K hX hnm hret => ?_)
  unfold fX5_of at h
  show VW K (zMw am st b) sz 0 0 0 [(0, .ref am), (1, .int p0), (2, .int p1), (3, .int p2), (4, .int p3), (5, .int p4), (6, .int p5), (7, .int p6)] []
  refine zr_iload (pc := 0) hX 4 rfl dX5_of_0 ?_
  refine zr_bipush (pc := 2) hX zcb_m2 dX5_of_2 ?_
  obtain ⟨t1, gt1, h⟩ := bnd h
  have hJt1 : ∀ a, t1 = a → VW K (zMw am st b) sz 0 0 12 [(0, .ref am), (1, .int p0), (2, .int p1), (3, .int p2), (4, .int p3), (5, .int p4), (6, .int p5), (7, .int p6)] [.int a] := by
    intro a ea
    subst ea
    refine zr_istore (pc := 12) hX rfl (Nat.le_of_ble_eq_true rfl) rfl dX5_of_12 ?_
    refine zr_aload_n (pc := 14) hX 1 rfl rfl dX5_of_14 ?_
    refine zr_aload_n (pc := 15) hX 1 rfl rfl dX5_of_15 ?_
    refine zr_iload_n (pc := 16) hX 3 rfl rfl dX5_of_16 ?_
    obtain ⟨t2, gt2, h⟩ := bnd h
    refine zr_callV (pc := 17) (stk' := [.int t2, .ref am]) (k' := 0) (n' := 0) hX (fun l s0 D => mX5_isVariable l s0 D gt2) (zMw_obj _ _ _) (ci := 4) rfl zwX5_isVariable q1982 q1984 qs54 rfl rfl rfl rfl rfl rfl rfl rfl rfl dX5_of_17 ?_
    obtain ⟨t3, gt3, h⟩ := bnd h
    have hJt3 : ∀ a, t3 = a → VW K (zMw am st b) sz 0 0 50 [(0, .ref am), (1, .int p0), (2, .int p1), (3, .int p2), (4, .int p3), (5, .int p4), (6, .int p5), (7, .int p6), (8, .int t1)] [.int a, .ref am] := by
      intro a ea
      subst ea
      obtain ⟨st4, gst4, h⟩ := bnd h
      refine zr_mput (pc := 50) hX 68 (Option.some.inj gst4) rfl rfl rfl rfl q1806 dX5_of_50 ?_
      refine zr_aload_n (pc := 53) hX 0 rfl rfl dX5_of_53 ?_
      refine zr_mget (pc := 54) hX 68 rfl rfl q1806 dX5_of_54 ?_
      refine zr_if_le (pc := 57) hX 62 rfl dX5_of_57 (fun c57_28 => ?_) (fun c57_28 => ?_)
      · rw [if_pos c57_28] at h
        refine zr_aload_n (pc := 62) hX 0 rfl rfl dX5_of_62 ?_
        refine zr_mgetA (pc := 63) hX 1 rfl rfl q1739 dX5_of_63 ?_
        refine zr_iload_n (pc := 66) hX 2 rfl rfl dX5_of_66 ?_
        obtain ⟨x5, gx5, h⟩ := bnd h
        refine zr_mald (pc := 67) hX 1 rfl rfl rfl gx5 dX5_of_67 ?_
        refine zr_iload (pc := 68) hX 5 rfl dX5_of_68 ?_
        obtain ⟨t6, gt6, h⟩ := bnd h
        have hJt6 : ∀ a, t6 = a → VW K (zMw am st4 b) sz 0 0 106 [(0, .ref am), (1, .int p0), (2, .int p1), (3, .int p2), (4, .int p3), (8, .int t1)] [.int a] := by
          intro a ea
          subst ea
          refine zr_istore (pc := 106) hX rfl (Nat.le_of_ble_eq_true rfl) rfl dX5_of_106 ?_
          refine zr_aload_n (pc := 108) hX 1 rfl rfl dX5_of_108 ?_
          refine zr_iload (pc := 109) hX 0 rfl dX5_of_109 ?_
          obtain ⟨t7, gt7, h⟩ := bnd h
          have hJt7 : ∀ a, t7 = a → VW K (zMw am st4 b) sz 0 0 130 [(0, .ref am), (1, .int p0), (2, .int p1), (3, .int p2), (4, .int p3), (8, .int t1)] [.int a, .ref am] := by
            intro a ea
            subst ea
            obtain ⟨st8, gst8, h⟩ := bnd h
            refine zr_mput (pc := 130) hX 68 (Option.some.inj gst8) rfl rfl rfl rfl q1806 dX5_of_130 ?_
            refine zr_aload_n (pc := 133) hX 0 rfl rfl dX5_of_133 ?_
            refine zr_mget (pc := 134) hX 68 rfl rfl q1806 dX5_of_134 ?_
            refine zr_if_le (pc := 137) hX 142 rfl dX5_of_137 (fun c137_14 => ?_) (fun c137_14 => ?_)
            · rw [if_pos c137_14] at h
              refine zr_aload_n (pc := 142) hX 0 rfl rfl dX5_of_142 ?_
              refine zr_iconst (pc := 143) hX zci_0 dX5_of_143 ?_
              refine zr_iload_n (pc := 144) hX 2 rfl rfl dX5_of_144 ?_
              obtain ⟨t9, gt9, h⟩ := bnd h
              refine zr_callV (pc := 145) (stk' := []) (k' := 0) (n' := 0) hX (fun l s0 D => mX5_places l s0 D gt9) (zMw_obj _ _ _) (ci := 4) rfl zwX5_places q2021 q2023 qs59 rfl rfl rfl rfl rfl rfl rfl rfl rfl dX5_of_145 ?_
              refine zr_aload_n (pc := 148) hX 0 rfl rfl dX5_of_148 ?_
              refine zr_iconst (pc := 149) hX zci_1 dX5_of_149 ?_
              refine zr_iload_n (pc := 150) hX 3 rfl rfl dX5_of_150 ?_
              obtain ⟨t10, gt10, h⟩ := bnd h
              refine zr_callV (pc := 151) (stk' := []) (k' := 0) (n' := 0) hX (fun l s0 D => mX5_places l s0 D gt10) (zMw_obj _ _ _) (ci := 4) rfl zwX5_places q2021 q2023 qs59 rfl rfl rfl rfl rfl rfl rfl rfl rfl dX5_of_151 ?_
              refine zr_aload_n (pc := 154) hX 0 rfl rfl dX5_of_154 ?_
              refine zr_iconst (pc := 155) hX zci_2 dX5_of_155 ?_
              refine zr_iload (pc := 156) hX 4 rfl dX5_of_156 ?_
              obtain ⟨t11, gt11, h⟩ := bnd h
              refine zr_callV (pc := 158) (stk' := []) (k' := 0) (n' := 0) hX (fun l s0 D => mX5_places l s0 D gt11) (zMw_obj _ _ _) (ci := 4) rfl zwX5_places q2021 q2023 qs59 rfl rfl rfl rfl rfl rfl rfl rfl rfl dX5_of_158 ?_
              refine zr_aload_n (pc := 161) hX 0 rfl rfl dX5_of_161 ?_
              refine zr_iload_n (pc := 162) hX 1 rfl rfl dX5_of_162 ?_
              refine zr_iload (pc := 163) hX 5 rfl dX5_of_163 ?_
              obtain ⟨t12, gt12, h⟩ := bnd h
              have hJt12 : ∀ a, t12 = a → VW K (zMw am t11 b) sz 0 0 173 [] [.int a, .int p0, .ref am] := by
                intro a ea
                subst ea
                obtain ⟨t13, gt13, h⟩ := bnd h
                refine zr_callV (pc := 173) (stk' := [.int t13.2]) (k' := 0) (n' := 0) hX (fun l s0 D => mX5_adds l s0 D gt13) (zMw_obj _ _ _) (ci := 4) rfl zwX5_adds q2025 q2027 qs60 rfl rfl rfl rfl rfl rfl rfl rfl rfl dX5_of_173 ?_
                obtain rfl := Option.some.inj h
                exact hret _ _ dX5_of_176 (Or.inl rfl)
              replace h := gt12
              refine zr_if_eq (pc := 165) hX 172 rfl dX5_of_165 (fun c165_13 => ?_) (fun c165_13 => ?_)
              · rw [if_pos c165_13] at h
                refine zr_iconst (pc := 172) hX zci_3 dX5_of_172 ?_
                exact (hJt12 (3 : Int32) (Option.some.inj h).symm).sub [] rfl
              · rw [if_neg c165_13] at h
                refine zr_iconst (pc := 168) hX zci_2 dX5_of_168 ?_
                refine zr_goto (pc := 169) hX 173 rfl dX5_of_169 ?_
                exact (hJt12 (2 : Int32) (Option.some.inj h).symm).sub [] rfl
            · rw [if_neg c137_14] at h
              refine zr_iconst (pc := 140) hX zci_0 dX5_of_140 ?_
              obtain rfl := Option.some.inj h
              exact hret _ _ dX5_of_141 (Or.inl rfl)
          replace h := gt7
          refine zr_if_ne (pc := 111) hX 118 rfl dX5_of_111 (fun c111_17 => ?_) (fun c111_17 => ?_)
          · rw [if_neg c111_17] at h
            refine zr_aload_n (pc := 118) hX 1 rfl rfl dX5_of_118 ?_
            obtain ⟨t16, gt16, h⟩ := bnd h
            refine zr_callV (pc := 119) (stk' := [.int t16, .ref am]) (k' := 0) (n' := 0) hX (fun l s0 D => mX5_hasRoom l s0 D gt16) (zMw_obj _ _ _) (ci := 4) rfl zwX5_hasRoom q2013 q2015 qs57 rfl rfl rfl rfl rfl rfl rfl rfl rfl dX5_of_119 ?_
            refine zr_if_eq (pc := 122) hX 129 rfl dX5_of_122 (fun c122_16 => ?_) (fun c122_16 => ?_)
            · rw [if_pos c122_16] at h
              refine zr_iconst (pc := 129) hX zci_3 dX5_of_129 ?_
              exact (hJt7 (3 : Int32) (Option.some.inj h).symm).sub [1, 2, 3, 4, 5, 6] rfl
            · rw [if_neg c122_16] at h
              refine zr_iconst (pc := 125) hX zci_0 dX5_of_125 ?_
              refine zr_goto (pc := 126) hX 130 rfl dX5_of_126 ?_
              exact (hJt7 (0 : Int32) (Option.some.inj h).symm).sub [1, 2, 3, 4, 5, 6] rfl
          · rw [if_pos c111_17] at h
            refine zr_iconst (pc := 114) hX zci_2 dX5_of_114 ?_
            refine zr_goto (pc := 115) hX 130 rfl dX5_of_115 ?_
            exact (hJt7 (2 : Int32) (Option.some.inj h).symm).sub [1, 2, 3, 4, 5, 6] rfl
        replace h := gt6
        obtain ⟨u20, gu20, hAu20, hBu20⟩ := zesc_bnd h
        have hJt19 : ∀ a, u20 = .inl a → VW K (zMw am st4 b) sz 0 0 105 [(0, .ref am), (1, .int p0), (2, .int p1), (3, .int p2), (4, .int p3), (8, .int t1)] [] := by
          intro t19 ea
          have h := hAu20 _ ea
          refine zr_iconst (pc := 105) hX zci_0 dX5_of_105 ?_
          exact (hJt6 (0 : Int32) (Option.some.inj h).symm).sub [0, 1, 2, 3, 4, 5] rfl
        replace h := gu20
        refine zr_icmp_ne (pc := 70) hX 105 rfl dX5_of_70 (fun c70_27 => ?_) (fun c70_27 => ?_)
        · rw [if_neg c70_27] at h
          exact (hJt19 () (Option.some.inj h).symm).sub [0, 1, 2, 3, 4, 8] rfl
        · rw [if_pos c70_27] at h
          refine zr_aload_n (pc := 73) hX 0 rfl rfl dX5_of_73 ?_
          refine zr_mgetA (pc := 74) hX 1 rfl rfl q1739 dX5_of_74 ?_
          refine zr_iload_n (pc := 77) hX 3 rfl rfl dX5_of_77 ?_
          obtain ⟨x21, gx21, h⟩ := bnd h
          refine zr_mald (pc := 78) hX 1 rfl rfl rfl gx21 dX5_of_78 ?_
          refine zr_iload (pc := 79) hX 6 rfl dX5_of_79 ?_
          refine zr_icmp_ne (pc := 81) hX 105 rfl dX5_of_81 (fun c81_26 => ?_) (fun c81_26 => ?_)
          · rw [if_neg c81_26] at h
            exact (hJt19 () (Option.some.inj h).symm).sub [0, 1, 2, 3, 4, 8] rfl
          · rw [if_pos c81_26] at h
            refine zr_iload (pc := 84) hX 8 rfl dX5_of_84 ?_
            obtain ⟨u23, gu23, hAu23, hBu23⟩ := zesc_bnd h
            have hJt22 : ∀ a, u23 = .inl a → VW K (zMw am st4 b) sz 0 0 101 [(0, .ref am), (1, .int p0), (2, .int p1), (3, .int p2), (4, .int p3), (8, .int t1)] [] := by
              intro t22 ea
              have h := hAu23 _ ea
              refine zr_iconst (pc := 101) hX zci_1 dX5_of_101 ?_
              refine zr_goto (pc := 102) hX 106 rfl dX5_of_102 ?_
              replace h := congrArg some (hBu20 _ (Option.some.inj h).symm)
              exact (hJt6 (1 : Int32) (Option.some.inj h).symm).sub [0, 1, 2, 3, 4, 5] rfl
            replace h := gu23
            refine zr_if_ne (pc := 86) hX 101 rfl dX5_of_86 (fun c86_25 => ?_) (fun c86_25 => ?_)
            · rw [if_neg c86_25] at h
              exact (hJt22 () (Option.some.inj h).symm).sub [0, 1, 2, 3, 4, 8] rfl
            · rw [if_pos c86_25] at h
              refine zr_aload_n (pc := 89) hX 0 rfl rfl dX5_of_89 ?_
              refine zr_mgetA (pc := 90) hX 1 rfl rfl q1739 dX5_of_90 ?_
              refine zr_iload (pc := 93) hX 4 rfl dX5_of_93 ?_
              obtain ⟨x24, gx24, h⟩ := bnd h
              refine zr_mald (pc := 95) hX 1 rfl rfl rfl gx24 dX5_of_95 ?_
              refine zr_iload (pc := 96) hX 7 rfl dX5_of_96 ?_
              refine zr_icmp_ne (pc := 98) hX 105 rfl dX5_of_98 (fun c98_24 => ?_) (fun c98_24 => ?_)
              · rw [if_neg c98_24] at h
                replace h := congrArg some (hBu23 _ (Option.some.inj h).symm)
                exact (hJt19 () (Option.some.inj h).symm).sub [0, 1, 2, 3, 4, 8] rfl
              · rw [if_pos c98_24] at h
                exact (hJt22 () (Option.some.inj h).symm).sub [0, 1, 2, 3, 4, 8] rfl
      · rw [if_neg c57_28] at h
        refine zr_iconst (pc := 60) hX zci_0 dX5_of_60 ?_
        obtain rfl := Option.some.inj h
        exact hret _ _ dX5_of_61 (Or.inl rfl)
    replace h := gt3
    obtain ⟨u31, gu31, hAu31, hBu31⟩ := zesc_bnd h
    have hJt30 : ∀ a, u31 = .inl a → VW K (zMw am st b) sz 0 0 49 [(0, .ref am), (1, .int p0), (2, .int p1), (3, .int p2), (4, .int p3), (5, .int p4), (6, .int p5), (7, .int p6), (8, .int t1)] [.ref am] := by
      intro t30 ea
      have h := hAu31 _ ea
      refine zr_iconst (pc := 49) hX zci_1 dX5_of_49 ?_
      exact (hJt3 (1 : Int32) (Option.some.inj h).symm).sub [0, 1, 2, 3, 4, 5, 6, 7, 8] rfl
    replace h := gu31
    refine zr_if_eq (pc := 20) hX 49 rfl dX5_of_20 (fun c20_38 => ?_) (fun c20_38 => ?_)
    · rw [if_pos c20_38] at h
      exact (hJt30 () (Option.some.inj h).symm).sub [1, 2, 3, 4, 5, 6, 7, 8, 0] rfl
    · rw [if_neg c20_38] at h
      refine zr_aload_n (pc := 23) hX 1 rfl rfl dX5_of_23 ?_
      refine zr_iload_n (pc := 24) hX 4 rfl rfl dX5_of_24 ?_
      obtain ⟨t32, gt32, h⟩ := bnd h
      refine zr_callV (pc := 25) (stk' := [.int t32, .ref am]) (k' := 0) (n' := 0) hX (fun l s0 D => mX5_isVariable l s0 D gt32) (zMw_obj _ _ _) (ci := 4) rfl zwX5_isVariable q1982 q1984 qs54 rfl rfl rfl rfl rfl rfl rfl rfl rfl dX5_of_25 ?_
      refine zr_if_eq (pc := 28) hX 49 rfl dX5_of_28 (fun c28_37 => ?_) (fun c28_37 => ?_)
      · rw [if_pos c28_37] at h
        exact (hJt30 () (Option.some.inj h).symm).sub [1, 2, 3, 4, 5, 6, 7, 8, 0] rfl
      · rw [if_neg c28_37] at h
        refine zr_iload (pc := 31) hX 0 rfl dX5_of_31 ?_
        obtain ⟨u34, gu34, hAu34, hBu34⟩ := zesc_bnd h
        have hJt33 : ∀ a, u34 = .inl a → VW K (zMw am st b) sz 0 0 45 [(0, .ref am), (1, .int p0), (2, .int p1), (3, .int p2), (4, .int p3), (5, .int p4), (6, .int p5), (7, .int p6), (8, .int t1)] [.ref am] := by
          intro t33 ea
          have h := hAu34 _ ea
          refine zr_iconst (pc := 45) hX zci_0 dX5_of_45 ?_
          refine zr_goto (pc := 46) hX 50 rfl dX5_of_46 ?_
          replace h := congrArg some (hBu31 _ (Option.some.inj h).symm)
          exact (hJt3 (0 : Int32) (Option.some.inj h).symm).sub [0, 1, 2, 3, 4, 5, 6, 7, 8] rfl
        replace h := gu34
        refine zr_if_ne (pc := 33) hX 45 rfl dX5_of_33 (fun c33_36 => ?_) (fun c33_36 => ?_)
        · rw [if_neg c33_36] at h
          exact (hJt33 () (Option.some.inj h).symm).sub [1, 2, 3, 4, 5, 6, 7, 8, 0] rfl
        · rw [if_pos c33_36] at h
          refine zr_aload_n (pc := 36) hX 1 rfl rfl dX5_of_36 ?_
          refine zr_iload (pc := 37) hX 5 rfl dX5_of_37 ?_
          obtain ⟨t35, gt35, h⟩ := bnd h
          refine zr_callV (pc := 39) (stk' := [.int t35, .ref am]) (k' := 0) (n' := 0) hX (fun l s0 D => mX5_isVariable l s0 D gt35) (zMw_obj _ _ _) (ci := 4) rfl zwX5_isVariable q1982 q1984 qs54 rfl rfl rfl rfl rfl rfl rfl rfl rfl dX5_of_39 ?_
          refine zr_if_eq (pc := 42) hX 49 rfl dX5_of_42 (fun c42_35 => ?_) (fun c42_35 => ?_)
          · rw [if_pos c42_35] at h
            replace h := congrArg some (hBu34 _ (Option.some.inj h).symm)
            exact (hJt30 () (Option.some.inj h).symm).sub [1, 2, 3, 4, 5, 6, 7, 8, 0] rfl
          · rw [if_neg c42_35] at h
            exact (hJt33 () (Option.some.inj h).symm).sub [1, 2, 3, 4, 5, 6, 7, 8, 0] rfl
  replace h := gt1
  refine zr_icmp_ne (pc := 4) hX 11 rfl dX5_of_4 (fun c4_39 => ?_) (fun c4_39 => ?_)
  · rw [if_neg c4_39] at h
    refine zr_iconst (pc := 11) hX zci_0 dX5_of_11 ?_
    exact (hJt1 (0 : Int32) (Option.some.inj h).symm).sub [0, 1, 2, 3, 4, 5, 6, 7] rfl
  · rw [if_pos c4_39] at h
    refine zr_iconst (pc := 7) hX zci_1 dX5_of_7 ?_
    refine zr_goto (pc := 8) hX 12 rfl dX5_of_8 ?_
    exact (hJt1 (1 : Int32) (Option.some.inj h).symm).sub [0, 1, 2, 3, 4, 5, 6, 7] rfl
set_option maxHeartbeats 4000000 in
theorem mX5_when (l : Launch) (s0 : State) (D : zD) {am : Nat} {st : zMS} {b : zH} {sz : Nat} {p0 : Int32} {p1 : Int32} {p2 : Int32} {p3 : Int32} {o : zMS × Int32} (h : fX5_when st p0 p1 p2 p3 = some o) : zM l s0 D yX5_when cX5_when 5 (some .int) 4 72 0 0 [.ref am, .int p0, .int p1, .int p2, .int p3] (zMw am st b) sz (zMw am o.1 b) sz (some (.int o.2)) := by
  refine zenter (own := RX5) zplX5 rfl (Nat.le_of_ble_eq_true rfl) trivial (fun K hX hnm hret => ?_)
  unfold fX5_when at h
  show VW K (zMw am st b) sz 0 0 0 [(0, .ref am), (1, .int p0), (2, .int p1), (3, .int p2), (4, .int p3)] []
  refine zr_aload_n (pc := 0) hX 0 rfl rfl dX5_when_0 ?_
  refine zr_iload (pc := 1) hX 4 rfl dX5_when_1 ?_
  obtain ⟨t1, gt1, h⟩ := bnd h
  have hJt1 : ∀ a, t1 = a → VW K (zMw am st b) sz 0 0 13 [(1, .int p0), (2, .int p1), (3, .int p2)] [.int a, .ref am] := by
    intro a ea
    subst ea
    refine zr_iload_n (pc := 13) hX 0 rfl rfl dX5_when_13 ?_
    refine zr_iload_n (pc := 14) hX 1 rfl rfl dX5_when_14 ?_
    refine zr_iload_n (pc := 15) hX 2 rfl rfl dX5_when_15 ?_
    obtain ⟨t2, gt2, h⟩ := bnd h
    refine zr_callS (pc := 16) (stk' := [.int t2, .int p1, .int p0, .int t1, .ref am]) (k' := 0) (n' := 0) hX (fun l s0 D => mX5_third l s0 D gt2) zwX5_third q2053 q2054 rfl rfl rfl rfl rfl rfl rfl rfl dX5_when_16 ?_
    refine zr_iconst (pc := 19) hX zci_0 dX5_when_19 ?_
    refine zr_iconst (pc := 20) hX zci_0 dX5_when_20 ?_
    refine zr_iconst (pc := 21) hX zci_0 dX5_when_21 ?_
    obtain ⟨t3, gt3, h⟩ := bnd h
    refine zr_callV (pc := 22) (stk' := [.int t3.2]) (k' := 0) (n' := 0) hX (fun l s0 D => mX5_of l s0 D gt3) (zMw_obj _ _ _) (ci := 4) rfl zwX5_of q2056 q2058 qs62 rfl rfl rfl rfl rfl rfl rfl rfl rfl dX5_when_22 ?_
    obtain rfl := Option.some.inj h
    exact hret _ _ dX5_when_25 (Or.inl rfl)
  replace h := gt1
  refine zr_if_eq (pc := 3) hX 11 rfl dX5_when_3 (fun c3_3 => ?_) (fun c3_3 => ?_)
  · rw [if_pos c3_3] at h
    refine zr_bipush (pc := 11) hX zcb_8 dX5_when_11 ?_
    exact (hJt1 (8 : Int32) (Option.some.inj h).symm).sub [1, 2, 3] rfl
  · rw [if_neg c3_3] at h
    refine zr_bipush (pc := 6) hX zcb_7 dX5_when_6 ?_
    refine zr_goto (pc := 8) hX 13 rfl dX5_when_8 ?_
    exact (hJt1 (7 : Int32) (Option.some.inj h).symm).sub [1, 2, 3] rfl
set_option maxHeartbeats 4000000 in
theorem mX5_sets (l : Launch) (s0 : State) (D : zD) {am : Nat} {st : zMS} {b : zH} {sz : Nat} {p0 : Int32} {p1 : Int32} {p2 : Int32} {p3 : Int32} {o : zMS × Int32} (h : fX5_sets st p0 p1 p2 p3 = some o) : zM l s0 D yX5_sets cX5_sets 5 (some .int) 4 72 0 0 [.ref am, .int p0, .int p1, .int p2, .int p3] (zMw am st b) sz (zMw am o.1 b) sz (some (.int o.2)) := by
  refine zenter (own := RX5) zplX5 rfl (Nat.le_of_ble_eq_true rfl) trivial (fun K hX hnm hret => ?_)
  unfold fX5_sets at h
  show VW K (zMw am st b) sz 0 0 0 [(0, .ref am), (1, .int p0), (2, .int p1), (3, .int p2), (4, .int p3)] []
  refine zr_aload_n (pc := 0) hX 0 rfl rfl dX5_sets_0 ?_
  refine zr_iload_n (pc := 1) hX 1 rfl rfl dX5_sets_1 ?_
  obtain ⟨t1, gt1, h⟩ := bnd h
  have hJt1 : ∀ a, t1 = a → VW K (zMw am st b) sz 0 0 12 [(2, .int p1), (3, .int p2), (4, .int p3)] [.int a, .ref am] := by
    intro a ea
    subst ea
    refine zr_iload_n (pc := 12) hX 0 rfl rfl dX5_sets_12 ?_
    refine zr_iload_n (pc := 13) hX 1 rfl rfl dX5_sets_13 ?_
    refine zr_iload (pc := 14) hX 2 rfl dX5_sets_14 ?_
    obtain ⟨t2, gt2, h⟩ := bnd h
    refine zr_callS (pc := 16) (stk' := [.int t2, .int p2, .int p1, .int t1, .ref am]) (k' := 0) (n' := 0) hX (fun l s0 D => mX5_third l s0 D gt2) zwX5_third q2053 q2054 rfl rfl rfl rfl rfl rfl rfl rfl dX5_sets_16 ?_
    refine zr_iconst (pc := 19) hX zci_1 dX5_sets_19 ?_
    refine zr_iconst (pc := 20) hX zci_1 dX5_sets_20 ?_
    refine zr_iconst (pc := 21) hX zci_1 dX5_sets_21 ?_
    obtain ⟨t3, gt3, h⟩ := bnd h
    refine zr_callV (pc := 22) (stk' := [.int t3.2]) (k' := 0) (n' := 0) hX (fun l s0 D => mX5_of l s0 D gt3) (zMw_obj _ _ _) (ci := 4) rfl zwX5_of q2056 q2058 qs62 rfl rfl rfl rfl rfl rfl rfl rfl rfl dX5_sets_22 ?_
    obtain rfl := Option.some.inj h
    exact hret _ _ dX5_sets_25 (Or.inl rfl)
  replace h := gt1
  refine zr_if_eq (pc := 2) hX 10 rfl dX5_sets_2 (fun c2_3 => ?_) (fun c2_3 => ?_)
  · rw [if_pos c2_3] at h
    refine zr_bipush (pc := 10) hX zcb_10 dX5_sets_10 ?_
    exact (hJt1 (10 : Int32) (Option.some.inj h).symm).sub [2, 3, 4] rfl
  · rw [if_neg c2_3] at h
    refine zr_bipush (pc := 5) hX zcb_9 dX5_sets_5 ?_
    refine zr_goto (pc := 7) hX 12 rfl dX5_sets_7 ?_
    exact (hJt1 (9 : Int32) (Option.some.inj h).symm).sub [2, 3, 4] rfl
set_option maxHeartbeats 4000000 in
theorem mX5_within (l : Launch) (s0 : State) (D : zD) {am : Nat} {st : zMS} {b : zH} {sz : Nat} {p0 : Int32} {p1 : Int32} {o : zMS × Int32} (h : fX5_within st p0 p1 = some o) : zM l s0 D yX5_within cX5_within 3 (some .int) 4 72 0 0 [.ref am, .int p0, .int p1] (zMw am st b) sz (zMw am o.1 b) sz (some (.int o.2)) := by
  refine zenter (own := RX5) zplX5 rfl (Nat.le_of_ble_eq_true rfl) trivial (fun K hX hnm hret => ?_)
  unfold fX5_within at h
  show VW K (zMw am st b) sz 0 0 0 [(0, .ref am), (1, .int p0), (2, .int p1)] []
  refine zr_aload_n (pc := 0) hX 0 rfl rfl dX5_within_0 ?_
  refine zr_bipush (pc := 1) hX zcb_11 dX5_within_1 ?_
  refine zr_iload_n (pc := 3) hX 1 rfl rfl dX5_within_3 ?_
  refine zr_iload_n (pc := 4) hX 2 rfl rfl dX5_within_4 ?_
  refine zr_bipush (pc := 5) hX zcb_m2 dX5_within_5 ?_
  refine zr_iconst (pc := 7) hX zci_1 dX5_within_7 ?_
  refine zr_iconst (pc := 8) hX zci_1 dX5_within_8 ?_
  refine zr_iconst (pc := 9) hX zci_0 dX5_within_9 ?_
  obtain ⟨t1, gt1, h⟩ := bnd h
  refine zr_callV (pc := 10) (stk' := [.int t1.2]) (k' := 0) (n' := 0) hX (fun l s0 D => mX5_of l s0 D gt1) (zMw_obj _ _ _) (ci := 4) rfl zwX5_of q2056 q2058 qs62 rfl rfl rfl rfl rfl rfl rfl rfl rfl dX5_within_10 ?_
  obtain rfl := Option.some.inj h
  exact hret _ _ dX5_within_13 (Or.inl rfl)
set_option maxHeartbeats 4000000 in
theorem mX5_measure (l : Launch) (s0 : State) (D : zD) {am : Nat} {st : zMS} {b : zH} {sz : Nat} {p0 : Int32} {p1 : Int32} {o : zMS × Int32} (h : fX5_measure st p0 p1 = some o) : zM l s0 D yX5_measure cX5_measure 4 (some .int) 4 72 0 0 [.ref am, .int p0, .int p1] (zMw am st b) sz (zMw am o.1 b) sz (some (.int o.2)) := by
  refine zenter (own := RX5) zplX5 rfl (Nat.le_of_ble_eq_true rfl) trivial (fun K hX hnm hret => ?_)
  unfold fX5_measure at h
  show VW K (zMw am st b) sz 0 0 0 [(0, .ref am), (1, .int p0), (2, .int p1)] []
  refine zr_aload_n (pc := 0) hX 0 rfl rfl dX5_measure_0 ?_
  refine zr_iload_n (pc := 1) hX 1 rfl rfl dX5_measure_1 ?_
  obtain ⟨t1, gt1, h⟩ := bnd h
  refine zr_callV (pc := 2) (stk' := [.int t1]) (k' := 0) (n' := 0) hX (fun l s0 D => mX5_isVariable l s0 D gt1) (zMw_obj _ _ _) (ci := 4) rfl zwX5_isVariable q1982 q1984 qs54 rfl rfl rfl rfl rfl rfl rfl rfl rfl dX5_measure_2 ?_
  obtain ⟨t2, gt2, h⟩ := bnd h
  have hJt2 : ∀ a, t2 = a → VW K (zMw am st b) sz 0 0 23 [(0, .ref am), (1, .int p0), (2, .int p1)] [.int a] := by
    intro a ea
    subst ea
    refine zr_istore_n (pc := 23) hX rfl rfl (Nat.le_of_ble_eq_true rfl) rfl dX5_measure_23 ?_
    refine zr_aload_n (pc := 24) hX 1 rfl rfl dX5_measure_24 ?_
    refine zr_iload_n (pc := 25) hX 0 rfl rfl dX5_measure_25 ?_
    obtain ⟨t3, gt3, h⟩ := bnd h
    have hJt3 : ∀ a, t3 = a → VW K (zMw am st b) sz 0 0 36 [(1, .int p0), (2, .int p1), (3, .int t2)] [.int a, .ref am] := by
      intro a ea
      subst ea
      refine zr_iload_n (pc := 36) hX 1 rfl rfl dX5_measure_36 ?_
      refine zr_iload_n (pc := 37) hX 0 rfl rfl dX5_measure_37 ?_
      refine zr_bipush (pc := 38) hX zcb_m2 dX5_measure_38 ?_
      refine zr_iconst (pc := 40) hX zci_0 dX5_measure_40 ?_
      refine zr_iload_n (pc := 41) hX 2 rfl rfl dX5_measure_41 ?_
      obtain ⟨t4, gt4, h⟩ := bnd h
      have hJt4 : ∀ a, t4 = a → VW K (zMw am st b) sz 0 0 50 [] [.int a, .int (0 : Int32), .int (-2 : Int32), .int p0, .int p1, .int t3, .ref am] := by
        intro a ea
        subst ea
        refine zr_iconst (pc := 50) hX zci_0 dX5_measure_50 ?_
        obtain ⟨t5, gt5, h⟩ := bnd h
        refine zr_callV (pc := 51) (stk' := [.int t5.2]) (k' := 0) (n' := 0) hX (fun l s0 D => mX5_of l s0 D gt5) (zMw_obj _ _ _) (ci := 4) rfl zwX5_of q2056 q2058 qs62 rfl rfl rfl rfl rfl rfl rfl rfl rfl dX5_measure_51 ?_
        obtain rfl := Option.some.inj h
        exact hret _ _ dX5_measure_54 (Or.inl rfl)
      replace h := gt4
      refine zr_if_eq (pc := 42) hX 49 rfl dX5_measure_42 (fun c42_5 => ?_) (fun c42_5 => ?_)
      · rw [if_pos c42_5] at h
        refine zr_iconst (pc := 49) hX zci_1 dX5_measure_49 ?_
        exact (hJt4 (1 : Int32) (Option.some.inj h).symm).sub [] rfl
      · rw [if_neg c42_5] at h
        refine zr_iconst (pc := 45) hX zci_2 dX5_measure_45 ?_
        refine zr_goto (pc := 46) hX 50 rfl dX5_measure_46 ?_
        exact (hJt4 (2 : Int32) (Option.some.inj h).symm).sub [] rfl
    replace h := gt3
    refine zr_if_eq (pc := 26) hX 34 rfl dX5_measure_26 (fun c26_6 => ?_) (fun c26_6 => ?_)
    · rw [if_pos c26_6] at h
      refine zr_bipush (pc := 34) hX zcb_12 dX5_measure_34 ?_
      exact (hJt3 (12 : Int32) (Option.some.inj h).symm).sub [2, 3, 0] rfl
    · rw [if_neg c26_6] at h
      refine zr_bipush (pc := 29) hX zcb_13 dX5_measure_29 ?_
      refine zr_goto (pc := 31) hX 36 rfl dX5_measure_31 ?_
      exact (hJt3 (13 : Int32) (Option.some.inj h).symm).sub [2, 3, 0] rfl
  replace h := gt2
  obtain ⟨u9, gu9, hAu9, hBu9⟩ := zesc_bnd h
  have hJt8 : ∀ a, u9 = .inl a → VW K (zMw am st b) sz 0 0 22 [(0, .ref am), (1, .int p0), (2, .int p1)] [] := by
    intro t8 ea
    have h := hAu9 _ ea
    refine zr_iconst (pc := 22) hX zci_0 dX5_measure_22 ?_
    exact (hJt2 (0 : Int32) (Option.some.inj h).symm).sub [0, 1, 2] rfl
  replace h := gu9
  refine zr_if_eq (pc := 5) hX 22 rfl dX5_measure_5 (fun c5_11 => ?_) (fun c5_11 => ?_)
  · rw [if_pos c5_11] at h
    exact (hJt8 () (Option.some.inj h).symm).sub [0, 1, 2] rfl
  · rw [if_neg c5_11] at h
    refine zr_aload_n (pc := 8) hX 0 rfl rfl dX5_measure_8 ?_
    refine zr_mgetA (pc := 9) hX 1 rfl rfl q1739 dX5_measure_9 ?_
    refine zr_iload_n (pc := 12) hX 1 rfl rfl dX5_measure_12 ?_
    obtain ⟨x10, gx10, h⟩ := bnd h
    refine zr_mald (pc := 13) hX 1 rfl rfl rfl gx10 dX5_measure_13 ?_
    refine zr_iconst (pc := 14) hX zci_2 dX5_measure_14 ?_
    refine zr_icmp_ne (pc := 15) hX 22 rfl dX5_measure_15 (fun c15_10 => ?_) (fun c15_10 => ?_)
    · rw [if_neg c15_10] at h
      exact (hJt8 () (Option.some.inj h).symm).sub [0, 1, 2] rfl
    · rw [if_pos c15_10] at h
      refine zr_iconst (pc := 18) hX zci_1 dX5_measure_18 ?_
      refine zr_goto (pc := 19) hX 23 rfl dX5_measure_19 ?_
      replace h := congrArg some (hBu9 _ (Option.some.inj h).symm)
      exact (hJt2 (1 : Int32) (Option.some.inj h).symm).sub [0, 1, 2] rfl
set_option maxHeartbeats 4000000 in
theorem mX5_member (l : Launch) (s0 : State) (D : zD) {am : Nat} {st : zMS} {b : zH} {sz : Nat} {p0 : Int32} {p1 : Int32} {p2 : Int32} {o : zMS × Int32} (h : fX5_member st p0 p1 p2 = some o) : zM l s0 D yX5_member cX5_member 4 (some .int) 4 72 0 0 [.ref am, .int p0, .int p1, .int p2] (zMw am st b) sz (zMw am o.1 b) sz (some (.int o.2)) := by
  refine zenter (own := RX5) zplX5 rfl (Nat.le_of_ble_eq_true rfl) trivial (fun K hX hnm hret => ?_)
  unfold fX5_member at h
  show VW K (zMw am st b) sz 0 0 0 [(0, .ref am), (1, .int p0), (2, .int p1), (3, .int p2)] []
  refine zr_aload_n (pc := 0) hX 0 rfl rfl dX5_member_0 ?_
  refine zr_bipush (pc := 1) hX zcb_14 dX5_member_1 ?_
  refine zr_iload_n (pc := 3) hX 1 rfl rfl dX5_member_3 ?_
  refine zr_iload_n (pc := 4) hX 2 rfl rfl dX5_member_4 ?_
  refine zr_iload_n (pc := 5) hX 3 rfl rfl dX5_member_5 ?_
  obtain ⟨t1, gt1, h⟩ := bnd h
  refine zr_callS (pc := 6) (stk' := [.int t1, .int p1, .int p0, .int (14 : Int32), .ref am]) (k' := 0) (n' := 0) hX (fun l s0 D => mX5_third l s0 D gt1) zwX5_third q2053 q2054 rfl rfl rfl rfl rfl rfl rfl rfl dX5_member_6 ?_
  refine zr_iconst (pc := 9) hX zci_0 dX5_member_9 ?_
  refine zr_iconst (pc := 10) hX zci_0 dX5_member_10 ?_
  refine zr_iconst (pc := 11) hX zci_1 dX5_member_11 ?_
  obtain ⟨t2, gt2, h⟩ := bnd h
  refine zr_callV (pc := 12) (stk' := [.int t2.2]) (k' := 0) (n' := 0) hX (fun l s0 D => mX5_of l s0 D gt2) (zMw_obj _ _ _) (ci := 4) rfl zwX5_of q2056 q2058 qs62 rfl rfl rfl rfl rfl rfl rfl rfl rfl dX5_member_12 ?_
  obtain rfl := Option.some.inj h
  exact hret _ _ dX5_member_15 (Or.inl rfl)
set_option maxHeartbeats 4000000 in
theorem mX5_joined (l : Launch) (s0 : State) (D : zD) {am : Nat} {st : zMS} {b : zH} {sz : Nat} {p0 : Int32} {p1 : Int32} {p2 : Int32} {o : zMS × Int32} (h : fX5_joined st p0 p1 p2 = some o) : zM l s0 D yX5_joined cX5_joined 4 (some .int) 4 72 0 0 [.ref am, .int p0, .int p1, .int p2] (zMw am st b) sz (zMw am o.1 b) sz (some (.int o.2)) := by
  refine zenter (own := RX5) zplX5 rfl (Nat.le_of_ble_eq_true rfl) trivial (fun K hX hnm hret => ?_)
  unfold fX5_joined at h
  show VW K (zMw am st b) sz 0 0 0 [(0, .ref am), (1, .int p0), (2, .int p1), (3, .int p2)] []
  refine zr_aload_n (pc := 0) hX 0 rfl rfl dX5_joined_0 ?_
  refine zr_bipush (pc := 1) hX zcb_15 dX5_joined_1 ?_
  refine zr_iload_n (pc := 3) hX 1 rfl rfl dX5_joined_3 ?_
  refine zr_iload_n (pc := 4) hX 2 rfl rfl dX5_joined_4 ?_
  refine zr_iload_n (pc := 5) hX 3 rfl rfl dX5_joined_5 ?_
  obtain ⟨t1, gt1, h⟩ := bnd h
  refine zr_callS (pc := 6) (stk' := [.int t1, .int p1, .int p0, .int (15 : Int32), .ref am]) (k' := 0) (n' := 0) hX (fun l s0 D => mX5_third l s0 D gt1) zwX5_third q2053 q2054 rfl rfl rfl rfl rfl rfl rfl rfl dX5_joined_6 ?_
  refine zr_iconst (pc := 9) hX zci_2 dX5_joined_9 ?_
  refine zr_iconst (pc := 10) hX zci_2 dX5_joined_10 ?_
  refine zr_iconst (pc := 11) hX zci_2 dX5_joined_11 ?_
  obtain ⟨t2, gt2, h⟩ := bnd h
  refine zr_callV (pc := 12) (stk' := [.int t2.2]) (k' := 0) (n' := 0) hX (fun l s0 D => mX5_of l s0 D gt2) (zMw_obj _ _ _) (ci := 4) rfl zwX5_of q2056 q2058 qs62 rfl rfl rfl rfl rfl rfl rfl rfl rfl dX5_joined_12 ?_
  obtain rfl := Option.some.inj h
  exact hret _ _ dX5_joined_15 (Or.inl rfl)
set_option maxHeartbeats 4000000 in
theorem mX5_prefix (l : Launch) (s0 : State) (D : zD) {am : Nat} {st : zMS} {b : zH} {sz : Nat} {p0 : Int32} {p1 : Int32} {o : zMS × Int32} (h : fX5_prefix st p0 p1 = some o) : zM l s0 D yX5_prefix cX5_prefix 3 (some .int) 4 72 0 0 [.ref am, .int p0, .int p1] (zMw am st b) sz (zMw am o.1 b) sz (some (.int o.2)) := by
  refine zenter (own := RX5) zplX5 rfl (Nat.le_of_ble_eq_true rfl) trivial (fun K hX hnm hret => ?_)
  unfold fX5_prefix at h
  show VW K (zMw am st b) sz 0 0 0 [(0, .ref am), (1, .int p0), (2, .int p1)] []
  refine zr_aload_n (pc := 0) hX 0 rfl rfl dX5_prefix_0 ?_
  refine zr_bipush (pc := 1) hX zcb_16 dX5_prefix_1 ?_
  refine zr_iload_n (pc := 3) hX 1 rfl rfl dX5_prefix_3 ?_
  refine zr_iload_n (pc := 4) hX 2 rfl rfl dX5_prefix_4 ?_
  refine zr_bipush (pc := 5) hX zcb_m2 dX5_prefix_5 ?_
  refine zr_iconst (pc := 7) hX zci_2 dX5_prefix_7 ?_
  refine zr_iconst (pc := 8) hX zci_2 dX5_prefix_8 ?_
  refine zr_iconst (pc := 9) hX zci_0 dX5_prefix_9 ?_
  obtain ⟨t1, gt1, h⟩ := bnd h
  refine zr_callV (pc := 10) (stk' := [.int t1.2]) (k' := 0) (n' := 0) hX (fun l s0 D => mX5_of l s0 D gt1) (zMw_obj _ _ _) (ci := 4) rfl zwX5_of q2056 q2058 qs62 rfl rfl rfl rfl rfl rfl rfl rfl rfl dX5_prefix_10 ?_
  obtain rfl := Option.some.inj h
  exact hret _ _ dX5_prefix_13 (Or.inl rfl)
set_option maxHeartbeats 4000000 in
theorem mX5_letter (l : Launch) (s0 : State) (D : zD) {am : Nat} {st : zMS} {b : zH} {sz : Nat} {p0 : Int32} {p1 : Int32} {p2 : Int32} {o : zMS × Int32} (h : fX5_letter st p0 p1 p2 = some o) : zM l s0 D yX5_letter cX5_letter 4 (some .int) 4 72 0 0 [.ref am, .int p0, .int p1, .int p2] (zMw am st b) sz (zMw am o.1 b) sz (some (.int o.2)) := by
  refine zenter (own := RX5) zplX5 rfl (Nat.le_of_ble_eq_true rfl) trivial (fun K hX hnm hret => ?_)
  unfold fX5_letter at h
  show VW K (zMw am st b) sz 0 0 0 [(0, .ref am), (1, .int p0), (2, .int p1), (3, .int p2)] []
  refine zr_aload_n (pc := 0) hX 0 rfl rfl dX5_letter_0 ?_
  refine zr_bipush (pc := 1) hX zcb_17 dX5_letter_1 ?_
  refine zr_iload_n (pc := 3) hX 1 rfl rfl dX5_letter_3 ?_
  refine zr_iload_n (pc := 4) hX 2 rfl rfl dX5_letter_4 ?_
  refine zr_iload_n (pc := 5) hX 3 rfl rfl dX5_letter_5 ?_
  obtain ⟨t1, gt1, h⟩ := bnd h
  refine zr_callS (pc := 6) (stk' := [.int t1, .int p1, .int p0, .int (17 : Int32), .ref am]) (k' := 0) (n' := 0) hX (fun l s0 D => mX5_third l s0 D gt1) zwX5_third q2053 q2054 rfl rfl rfl rfl rfl rfl rfl rfl dX5_letter_6 ?_
  refine zr_iconst (pc := 9) hX zci_0 dX5_letter_9 ?_
  refine zr_iconst (pc := 10) hX zci_2 dX5_letter_10 ?_
  refine zr_iconst (pc := 11) hX zci_0 dX5_letter_11 ?_
  obtain ⟨t2, gt2, h⟩ := bnd h
  refine zr_callV (pc := 12) (stk' := [.int t2.2]) (k' := 0) (n' := 0) hX (fun l s0 D => mX5_of l s0 D gt2) (zMw_obj _ _ _) (ci := 4) rfl zwX5_of q2056 q2058 qs62 rfl rfl rfl rfl rfl rfl rfl rfl rfl dX5_letter_12 ?_
  obtain rfl := Option.some.inj h
  exact hret _ _ dX5_letter_15 (Or.inl rfl)
set_option maxHeartbeats 4000000 in
theorem mX5_takesLiterals (l : Launch) (s0 : State) (D : zD) {n : Nat} {am : Nat} {st : zMS} {b : zH} {sz : Nat} {p0 : Int32} {o : zMS} (h : fX5_takesLiterals n st p0 = some o) : zM l s0 D yX5_takesLiterals cX5_takesLiterals 3 none 2 22 0 0 [.ref am, .int p0] (zMw am st b) sz (zMw am o b) sz none := by
  refine zenter (own := RX5) zplX5 rfl (Nat.le_of_ble_eq_true rfl) rfl (fun K hX hnm hret => ?_)
  unfold fX5_takesLiterals at h
  show VW K (zMw am st b) sz 0 0 0 [(0, .ref am), (1, .int p0)] []
  refine zr_iconst (pc := 0) hX zci_0 dX5_takesLiterals_0 ?_
  refine zr_istore_n (pc := 1) hX rfl rfl (Nat.le_of_ble_eq_true rfl) rfl dX5_takesLiterals_1 ?_
  refine VW.sub (lv' := [(0, .ref am), (1, .int p0), (2, .int (0 : Int32))]) ?_ [1, 2, 0] rfl
  refine zloop_walk (V := (fun a => VW K (zMw am a.1 b) sz 0 0 2 [(0, .ref am), (1, .int p0), (2, .int a.2)] [])) (E := fun e => e = o) ?_ n (st, (0 : Int32)) _ h rfl
  intro a1 o2 h kco2 keo2
  unfold fX5_takesLiterals_L2 at h
  refine zr_iload_n (pc := 2) hX 2 rfl rfl dX5_takesLiterals_2 ?_
  refine zr_iload_n (pc := 3) hX 1 rfl rfl dX5_takesLiterals_3 ?_
  refine zr_icmp_ge (pc := 4) hX 64 rfl dX5_takesLiterals_4 (fun c4_9 => ?_) (fun c4_9 => ?_)
  · rw [if_pos c4_9] at h
    replace h := congrArg some (keo2 _ (Option.some.inj h).symm)
    obtain rfl := Option.some.inj h
    exact hret _ _ dX5_takesLiterals_64
  · rw [if_neg c4_9] at h
    refine zr_aload_n (pc := 7) hX 0 rfl rfl dX5_takesLiterals_7 ?_
    refine zr_iload_n (pc := 8) hX 2 rfl rfl dX5_takesLiterals_8 ?_
    refine zr_aload_n (pc := 9) hX 0 rfl rfl dX5_takesLiterals_9 ?_
    refine zr_mgetA (pc := 10) hX 12 rfl rfl q1750 dX5_takesLiterals_10 ?_
    refine zr_iload_n (pc := 13) hX 2 rfl rfl dX5_takesLiterals_13 ?_
    obtain ⟨x3, gx3, h⟩ := bnd h
    refine zr_mald (pc := 14) hX 12 rfl rfl rfl gx3 dX5_takesLiterals_14 ?_
    obtain ⟨t4, gt4, h⟩ := bnd h
    refine zr_callV (pc := 15) (stk' := []) (k' := 0) (n' := 0) hX (fun l s0 D => mX5_places l s0 D gt4) (zMw_obj _ _ _) (ci := 4) rfl zwX5_places q2021 q2023 qs59 rfl rfl rfl rfl rfl rfl rfl rfl rfl dX5_takesLiterals_15 ?_
    refine zr_aload_n (pc := 18) hX 0 rfl rfl dX5_takesLiterals_18 ?_
    refine zr_mgetA (pc := 19) hX 19 rfl rfl q1757 dX5_takesLiterals_19 ?_
    refine zr_bipush (pc := 22) hX zcb_6 dX5_takesLiterals_22 ?_
    refine zr_aload_n (pc := 24) hX 0 rfl rfl dX5_takesLiterals_24 ?_
    refine zr_mget (pc := 25) hX 15 rfl rfl q1753 dX5_takesLiterals_25 ?_
    refine zr_imul (pc := 28) hX dX5_takesLiterals_28 ?_
    refine zr_iload_n (pc := 29) hX 2 rfl rfl dX5_takesLiterals_29 ?_
    refine zr_iadd (pc := 30) hX dX5_takesLiterals_30 ?_
    refine zr_aload_n (pc := 31) hX 0 rfl rfl dX5_takesLiterals_31 ?_
    refine zr_mgetA (pc := 32) hX 13 rfl rfl q1751 dX5_takesLiterals_32 ?_
    refine zr_iload_n (pc := 35) hX 2 rfl rfl dX5_takesLiterals_35 ?_
    obtain ⟨x5, gx5, h⟩ := bnd h
    refine zr_mald (pc := 36) hX 13 rfl rfl rfl gx5 dX5_takesLiterals_36 ?_
    obtain ⟨st6, gst6, h⟩ := bnd h
    refine zr_mast (pc := 37) hX 19 rfl rfl rfl gst6 dX5_takesLiterals_37 ?_
    refine zr_aload_n (pc := 38) hX 0 rfl rfl dX5_takesLiterals_38 ?_
    refine zr_mgetA (pc := 39) hX 23 rfl rfl q1761 dX5_takesLiterals_39 ?_
    refine zr_bipush (pc := 42) hX zcb_6 dX5_takesLiterals_42 ?_
    refine zr_aload_n (pc := 44) hX 0 rfl rfl dX5_takesLiterals_44 ?_
    refine zr_mget (pc := 45) hX 15 rfl rfl q1753 dX5_takesLiterals_45 ?_
    refine zr_imul (pc := 48) hX dX5_takesLiterals_48 ?_
    refine zr_iload_n (pc := 49) hX 2 rfl rfl dX5_takesLiterals_49 ?_
    refine zr_iadd (pc := 50) hX dX5_takesLiterals_50 ?_
    refine zr_aload_n (pc := 51) hX 0 rfl rfl dX5_takesLiterals_51 ?_
    refine zr_mgetA (pc := 52) hX 14 rfl rfl q1752 dX5_takesLiterals_52 ?_
    refine zr_iload_n (pc := 55) hX 2 rfl rfl dX5_takesLiterals_55 ?_
    obtain ⟨x7, gx7, h⟩ := bnd h
    refine zr_maldZ (pc := 56) hX 14 rfl rfl rfl gx7 dX5_takesLiterals_56 ?_
    obtain ⟨st8, gst8, h⟩ := bnd h
    refine zr_mastZ (pc := 57) hX 23 rfl rfl rfl gst8 dX5_takesLiterals_57 ?_
    obtain ⟨x9, gx9, h⟩ := bnd h
    refine zr_iinc (pc := 58) hX 2 rfl zci_1 (Option.some.inj gx9) (Nat.le_of_ble_eq_true rfl) rfl dX5_takesLiterals_58 ?_
    refine zr_goto (pc := 61) hX 2 rfl dX5_takesLiterals_61 ?_
    exact (kco2 (st8, x9) (Option.some.inj h).symm).sub [1, 2, 0] rfl
set_option maxHeartbeats 4000000 in
theorem mX5_clause (l : Launch) (s0 : State) (D : zD) {n : Nat} {am : Nat} {st : zMS} {b : zH} {sz : Nat} {o : zMS × Int32} (h : fX5_clause n st = some o) : zM l s0 D yX5_clause cX5_clause 2 (some .int) 3 44 0 0 [.ref am] (zMw am st b) sz (zMw am o.1 b) sz (some (.int o.2)) := by
  refine zenter (own := RX5) zplX5 rfl (Nat.le_of_ble_eq_true rfl) trivial (fun K hX hnm hret => ?_)
  unfold fX5_clause at h
  show VW K (zMw am st b) sz 0 0 0 [(0, .ref am)] []
  refine zr_aload_n (pc := 0) hX 0 rfl rfl dX5_clause_0 ?_
  refine zr_aload_n (pc := 1) hX 0 rfl rfl dX5_clause_1 ?_
  refine zr_mget (pc := 2) hX 11 rfl rfl q1749 dX5_clause_2 ?_
  obtain ⟨t1, gt1, h⟩ := bnd h
  have hJt1 : ∀ a, t1 = a → VW K (zMw am st b) sz 0 0 20 [(0, .ref am)] [.int a, .ref am] := by
    intro a ea
    subst ea
    obtain ⟨st2, gst2, h⟩ := bnd h
    refine zr_mput (pc := 20) hX 68 (Option.some.inj gst2) rfl rfl rfl rfl q1806 dX5_clause_20 ?_
    refine zr_aload_n (pc := 23) hX 0 rfl rfl dX5_clause_23 ?_
    refine zr_mget (pc := 24) hX 11 rfl rfl q1749 dX5_clause_24 ?_
    obtain ⟨x3, gx3, h⟩ := bnd h
    refine zr_istore_n (pc := 27) hX (Option.some.inj gx3) rfl (Nat.le_of_ble_eq_true rfl) rfl dX5_clause_27 ?_
    refine zr_aload_n (pc := 28) hX 1 rfl rfl dX5_clause_28 ?_
    refine zr_iconst (pc := 29) hX zci_0 dX5_clause_29 ?_
    obtain ⟨st4, gst4, h⟩ := bnd h
    refine zr_mput (pc := 30) hX 11 (Option.some.inj gst4) rfl rfl rfl rfl q1749 dX5_clause_30 ?_
    refine zr_aload_n (pc := 33) hX 1 rfl rfl dX5_clause_33 ?_
    refine zr_mget (pc := 34) hX 68 rfl rfl q1806 dX5_clause_34 ?_
    refine zr_if_le (pc := 37) hX 42 rfl dX5_clause_37 (fun c37_6 => ?_) (fun c37_6 => ?_)
    · rw [if_pos c37_6] at h
      refine zr_aload_n (pc := 42) hX 1 rfl rfl dX5_clause_42 ?_
      refine zr_iload_n (pc := 43) hX 0 rfl rfl dX5_clause_43 ?_
      obtain ⟨t5, gt5, h⟩ := bnd h
      refine zr_callV (pc := 44) (stk' := []) (k' := 0) (n' := 0) hX (fun l s0 D => mX5_takesLiterals l s0 D gt5) (zMw_obj _ _ _) (ci := 4) rfl zwX5_takesLiterals q2092 q2094 qs63 rfl rfl rfl rfl rfl rfl rfl rfl rfl dX5_clause_44 ?_
      refine zr_aload_n (pc := 47) hX 1 rfl rfl dX5_clause_47 ?_
      refine zr_iconst (pc := 48) hX zci_5 dX5_clause_48 ?_
      refine zr_iload_n (pc := 49) hX 0 rfl rfl dX5_clause_49 ?_
      obtain ⟨t6, gt6, h⟩ := bnd h
      refine zr_callV (pc := 50) (stk' := [.int t6.2]) (k' := 0) (n' := 0) hX (fun l s0 D => mX5_adds l s0 D gt6) (zMw_obj _ _ _) (ci := 4) rfl zwX5_adds q2025 q2027 qs60 rfl rfl rfl rfl rfl rfl rfl rfl rfl dX5_clause_50 ?_
      obtain rfl := Option.some.inj h
      exact hret _ _ dX5_clause_53 (Or.inl rfl)
    · rw [if_neg c37_6] at h
      refine zr_iconst (pc := 40) hX zci_0 dX5_clause_40 ?_
      obtain rfl := Option.some.inj h
      exact hret _ _ dX5_clause_41 (Or.inl rfl)
  replace h := gt1
  obtain ⟨u9, gu9, hAu9, hBu9⟩ := zesc_bnd h
  have hJt8 : ∀ a, u9 = .inl a → VW K (zMw am st b) sz 0 0 19 [(0, .ref am)] [.ref am] := by
    intro t8 ea
    have h := hAu9 _ ea
    refine zr_iconst (pc := 19) hX zci_1 dX5_clause_19 ?_
    exact (hJt1 (1 : Int32) (Option.some.inj h).symm).sub [0] rfl
  replace h := gu9
  refine zr_if_le (pc := 5) hX 19 rfl dX5_clause_5 (fun c5_11 => ?_) (fun c5_11 => ?_)
  · rw [if_pos c5_11] at h
    exact (hJt8 () (Option.some.inj h).symm).sub [0] rfl
  · rw [if_neg c5_11] at h
    refine zr_aload_n (pc := 8) hX 0 rfl rfl dX5_clause_8 ?_
    obtain ⟨t10, gt10, h⟩ := bnd h
    refine zr_callV (pc := 9) (stk' := [.int t10, .ref am]) (k' := 0) (n' := 0) hX (fun l s0 D => mX5_hasRoom l s0 D gt10) (zMw_obj _ _ _) (ci := 4) rfl zwX5_hasRoom q2013 q2015 qs57 rfl rfl rfl rfl rfl rfl rfl rfl rfl dX5_clause_9 ?_
    refine zr_if_eq (pc := 12) hX 19 rfl dX5_clause_12 (fun c12_10 => ?_) (fun c12_10 => ?_)
    · rw [if_pos c12_10] at h
      exact (hJt8 () (Option.some.inj h).symm).sub [0] rfl
    · rw [if_neg c12_10] at h
      refine zr_iconst (pc := 15) hX zci_0 dX5_clause_15 ?_
      refine zr_goto (pc := 16) hX 20 rfl dX5_clause_16 ?_
      replace h := congrArg some (hBu9 _ (Option.some.inj h).symm)
      exact (hJt1 (0 : Int32) (Option.some.inj h).symm).sub [0] rfl
set_option maxHeartbeats 4000000 in
theorem mX5_isTree (l : Launch) (s0 : State) (D : zD) {am : Nat} {st : zMS} {b : zH} {sz : Nat} {p0 : Int32} {o : Int32} (h : fX5_isTree st p0 = some o) : zM l s0 D yX5_isTree cX5_isTree 2 (some .boolean) 2 22 0 0 [.ref am, .int p0] (zMw am st b) sz (zMw am st b) sz (some (.int o)) := by
  refine zenter (own := RX5) zplX5 rfl (Nat.le_of_ble_eq_true rfl) trivial (fun K hX hnm hret => ?_)
  unfold fX5_isTree at h
  show VW K (zMw am st b) sz 0 0 0 [(0, .ref am), (1, .int p0)] []
  refine zr_iload_n (pc := 0) hX 1 rfl rfl dX5_isTree_0 ?_
  refine zr_iconst (pc := 1) hX zci_0 dX5_isTree_1 ?_
  refine zr_aload_n (pc := 2) hX 0 rfl rfl dX5_isTree_2 ?_
  refine zr_mget (pc := 3) hX 64 rfl rfl q1802 dX5_isTree_3 ?_
  refine zr_iconst (pc := 6) hX zci_1 dX5_isTree_6 ?_
  refine zr_isub (pc := 7) hX dX5_isTree_7 ?_
  obtain ⟨t1, gt1, h⟩ := bnd h
  refine zr_callS (pc := 8) (stk' := [.int t1]) (k' := 0) (n' := 0) hX (fun l s0 D => mX5_isIn l s0 D gt1) zwX5_isIn q1963 q1964 rfl rfl rfl rfl rfl rfl rfl rfl dX5_isTree_8 ?_
  obtain ⟨x2, gx2, h⟩ := bnd h
  rw [(zq_spec gx2).1] at h
  obtain rfl := Option.some.inj h
  exact hret _ _ dX5_isTree_11 (Or.inr ⟨rfl, (zq_spec gx2).2⟩)
set_option maxHeartbeats 4000000 in
theorem mX5_symbol (l : Launch) (s0 : State) (D : zD) {am : Nat} {st : zMS} {b : zH} {sz : Nat} {p0 : Int32} {p1 : Int32} {o : zMS × Int32} (h : fX5_symbol st p0 p1 = some o) : zM l s0 D yX5_symbol cX5_symbol 3 (some .int) 3 43 0 0 [.ref am, .int p0, .int p1] (zMw am st b) sz (zMw am o.1 b) sz (some (.int o.2)) := by
  refine zenter (own := RX5) zplX5 rfl (Nat.le_of_ble_eq_true rfl) trivial (fun K hX hnm hret => ?_)
  unfold fX5_symbol at h
  show VW K (zMw am st b) sz 0 0 0 [(0, .ref am), (1, .int p0), (2, .int p1)] []
  refine zr_aload_n (pc := 0) hX 0 rfl rfl dX5_symbol_0 ?_
  refine zr_aload_n (pc := 1) hX 0 rfl rfl dX5_symbol_1 ?_
  refine zr_iload_n (pc := 2) hX 1 rfl rfl dX5_symbol_2 ?_
  obtain ⟨t1, gt1, h⟩ := bnd h
  refine zr_callV (pc := 3) (stk' := [.int t1, .ref am]) (k' := 0) (n' := 0) hX (fun l s0 D => mX5_isTree l s0 D gt1) (zMw_obj _ _ _) (ci := 4) rfl zwX5_isTree q2100 q2102 qs64 rfl rfl rfl rfl rfl rfl rfl rfl rfl dX5_symbol_3 ?_
  obtain ⟨t2, gt2, h⟩ := bnd h
  have hJt2 : ∀ a, t2 = a → VW K (zMw am st b) sz 0 0 46 [(0, .ref am), (1, .int p0), (2, .int p1)] [.int a, .ref am] := by
    intro a ea
    subst ea
    obtain ⟨st3, gst3, h⟩ := bnd h
    refine zr_mput (pc := 46) hX 68 (Option.some.inj gst3) rfl rfl rfl rfl q1806 dX5_symbol_46 ?_
    refine zr_aload_n (pc := 49) hX 0 rfl rfl dX5_symbol_49 ?_
    refine zr_mget (pc := 50) hX 68 rfl rfl q1806 dX5_symbol_50 ?_
    refine zr_if_le (pc := 53) hX 58 rfl dX5_symbol_53 (fun c53_6 => ?_) (fun c53_6 => ?_)
    · rw [if_pos c53_6] at h
      refine zr_aload_n (pc := 58) hX 0 rfl rfl dX5_symbol_58 ?_
      refine zr_iconst (pc := 59) hX zci_0 dX5_symbol_59 ?_
      refine zr_iload_n (pc := 60) hX 2 rfl rfl dX5_symbol_60 ?_
      obtain ⟨t4, gt4, h⟩ := bnd h
      refine zr_callV (pc := 61) (stk' := []) (k' := 0) (n' := 0) hX (fun l s0 D => mX5_places l s0 D gt4) (zMw_obj _ _ _) (ci := 4) rfl zwX5_places q2021 q2023 qs59 rfl rfl rfl rfl rfl rfl rfl rfl rfl dX5_symbol_61 ?_
      refine zr_aload_n (pc := 64) hX 0 rfl rfl dX5_symbol_64 ?_
      refine zr_mgetA (pc := 65) hX 20 rfl rfl q1758 dX5_symbol_65 ?_
      refine zr_aload_n (pc := 68) hX 0 rfl rfl dX5_symbol_68 ?_
      refine zr_mget (pc := 69) hX 15 rfl rfl q1753 dX5_symbol_69 ?_
      refine zr_iload_n (pc := 72) hX 1 rfl rfl dX5_symbol_72 ?_
      obtain ⟨st5, gst5, h⟩ := bnd h
      refine zr_mast (pc := 73) hX 20 rfl rfl rfl gst5 dX5_symbol_73 ?_
      refine zr_aload_n (pc := 74) hX 0 rfl rfl dX5_symbol_74 ?_
      refine zr_bipush (pc := 75) hX zcb_6 dX5_symbol_75 ?_
      refine zr_iconst (pc := 77) hX zci_1 dX5_symbol_77 ?_
      obtain ⟨t6, gt6, h⟩ := bnd h
      refine zr_callV (pc := 78) (stk' := [.int t6.2]) (k' := 0) (n' := 0) hX (fun l s0 D => mX5_adds l s0 D gt6) (zMw_obj _ _ _) (ci := 4) rfl zwX5_adds q2025 q2027 qs60 rfl rfl rfl rfl rfl rfl rfl rfl rfl dX5_symbol_78 ?_
      obtain rfl := Option.some.inj h
      exact hret _ _ dX5_symbol_81 (Or.inl rfl)
    · rw [if_neg c53_6] at h
      refine zr_iconst (pc := 56) hX zci_0 dX5_symbol_56 ?_
      obtain rfl := Option.some.inj h
      exact hret _ _ dX5_symbol_57 (Or.inl rfl)
  replace h := gt2
  obtain ⟨u9, gu9, hAu9, hBu9⟩ := zesc_bnd h
  have hJt8 : ∀ a, u9 = .inl a → VW K (zMw am st b) sz 0 0 17 [(0, .ref am), (1, .int p0), (2, .int p1)] [.ref am] := by
    intro t8 ea
    have h := hAu9 _ ea
    refine zr_iconst (pc := 17) hX zci_1 dX5_symbol_17 ?_
    refine zr_goto (pc := 18) hX 46 rfl dX5_symbol_18 ?_
    exact (hJt2 (1 : Int32) (Option.some.inj h).symm).sub [0, 1, 2] rfl
  replace h := gu9
  refine zr_if_eq (pc := 6) hX 17 rfl dX5_symbol_6 (fun c6_15 => ?_) (fun c6_15 => ?_)
  · rw [if_pos c6_15] at h
    exact (hJt8 () (Option.some.inj h).symm).sub [0, 1, 2] rfl
  · rw [if_neg c6_15] at h
    refine zr_aload_n (pc := 9) hX 0 rfl rfl dX5_symbol_9 ?_
    refine zr_iload_n (pc := 10) hX 2 rfl rfl dX5_symbol_10 ?_
    obtain ⟨t10, gt10, h⟩ := bnd h
    refine zr_callV (pc := 11) (stk' := [.int t10, .ref am]) (k' := 0) (n' := 0) hX (fun l s0 D => mX5_isVariable l s0 D gt10) (zMw_obj _ _ _) (ci := 4) rfl zwX5_isVariable q1982 q1984 qs54 rfl rfl rfl rfl rfl rfl rfl rfl rfl dX5_symbol_11 ?_
    refine zr_if_ne (pc := 14) hX 21 rfl dX5_symbol_14 (fun c14_14 => ?_) (fun c14_14 => ?_)
    · rw [if_neg c14_14] at h
      refine zr_aload_n (pc := 21) hX 0 rfl rfl dX5_symbol_21 ?_
      refine zr_mgetA (pc := 22) hX 1 rfl rfl q1739 dX5_symbol_22 ?_
      refine zr_iload_n (pc := 25) hX 2 rfl rfl dX5_symbol_25 ?_
      obtain ⟨x11, gx11, h⟩ := bnd h
      refine zr_mald (pc := 26) hX 1 rfl rfl rfl gx11 dX5_symbol_26 ?_
      refine zr_if_eq (pc := 27) hX 34 rfl dX5_symbol_27 (fun c27_13 => ?_) (fun c27_13 => ?_)
      · rw [if_pos c27_13] at h
        refine zr_aload_n (pc := 34) hX 0 rfl rfl dX5_symbol_34 ?_
        obtain ⟨t12, gt12, h⟩ := bnd h
        refine zr_callV (pc := 35) (stk' := [.int t12, .ref am]) (k' := 0) (n' := 0) hX (fun l s0 D => mX5_hasRoom l s0 D gt12) (zMw_obj _ _ _) (ci := 4) rfl zwX5_hasRoom q2013 q2015 qs57 rfl rfl rfl rfl rfl rfl rfl rfl rfl dX5_symbol_35 ?_
        refine zr_if_eq (pc := 38) hX 45 rfl dX5_symbol_38 (fun c38_12 => ?_) (fun c38_12 => ?_)
        · rw [if_pos c38_12] at h
          refine zr_iconst (pc := 45) hX zci_3 dX5_symbol_45 ?_
          replace h := congrArg some (hBu9 _ (Option.some.inj h).symm)
          exact (hJt2 (3 : Int32) (Option.some.inj h).symm).sub [0, 1, 2] rfl
        · rw [if_neg c38_12] at h
          refine zr_iconst (pc := 41) hX zci_0 dX5_symbol_41 ?_
          refine zr_goto (pc := 42) hX 46 rfl dX5_symbol_42 ?_
          replace h := congrArg some (hBu9 _ (Option.some.inj h).symm)
          exact (hJt2 (0 : Int32) (Option.some.inj h).symm).sub [0, 1, 2] rfl
      · rw [if_neg c27_13] at h
        refine zr_iconst (pc := 30) hX zci_2 dX5_symbol_30 ?_
        refine zr_goto (pc := 31) hX 46 rfl dX5_symbol_31 ?_
        replace h := congrArg some (hBu9 _ (Option.some.inj h).symm)
        exact (hJt2 (2 : Int32) (Option.some.inj h).symm).sub [0, 1, 2] rfl
    · rw [if_pos c14_14] at h
      exact (hJt8 () (Option.some.inj h).symm).sub [0, 1, 2] rfl
set_option maxHeartbeats 4000000 in
theorem mX5_constraints (l : Launch) (s0 : State) (D : zD) {am : Nat} {st : zMS} {b : zH} {sz : Nat} {o : zMS × Int32} (h : fX5_constraints st = some o) : zM l s0 D yX5_constraints cX5_constraints 1 (some .int) 1 0 0 0 [.ref am] (zMw am st b) sz (zMw am o.1 b) sz (some (.int o.2)) := by
  refine zenter (own := RX5) zplX5 rfl (Nat.le_of_ble_eq_true rfl) trivial (fun K hX hnm hret => ?_)
  unfold fX5_constraints at h
  show VW K (zMw am st b) sz 0 0 0 [(0, .ref am)] []
  refine zr_aload_n (pc := 0) hX 0 rfl rfl dX5_constraints_0 ?_
  refine zr_iconst (pc := 1) hX zci_0 dX5_constraints_1 ?_
  obtain ⟨st1, gst1, h⟩ := bnd h
  refine zr_mput (pc := 2) hX 68 (Option.some.inj gst1) rfl rfl rfl rfl q1806 dX5_constraints_2 ?_
  refine zr_aload_n (pc := 5) hX 0 rfl rfl dX5_constraints_5 ?_
  refine zr_mget (pc := 6) hX 15 rfl rfl q1753 dX5_constraints_6 ?_
  obtain rfl := Option.some.inj h
  exact hret _ _ dX5_constraints_9 (Or.inl rfl)
set_option maxHeartbeats 4000000 in
theorem mX5_decide (l : Launch) (s0 : State) (D : zD) {am : Nat} {st : zMS} {b : zH} {sz : Nat} {p0 : Int32} {p1 : Int32} {p2 : Int32} {o : zMS × Int32} (h : fX5_decide st p0 p1 p2 = some o) : zM l s0 D yX5_decide cX5_decide 4 (some .int) 3 44 0 0 [.ref am, .int p0, .int p1, .int p2] (zMw am st b) sz (zMw am o.1 b) sz (some (.int o.2)) := by
  refine zenter (own := RX5) zplX5 rfl (Nat.le_of_ble_eq_true rfl) trivial (fun K hX hnm hret => ?_)
  unfold fX5_decide at h
  show VW K (zMw am st b) sz 0 0 0 [(0, .ref am), (1, .int p0), (2, .int p1), (3, .int p2)] []
  refine zr_aload_n (pc := 0) hX 0 rfl rfl dX5_decide_0 ?_
  refine zr_aload_n (pc := 1) hX 0 rfl rfl dX5_decide_1 ?_
  refine zr_iload_n (pc := 2) hX 1 rfl rfl dX5_decide_2 ?_
  obtain ⟨t1, gt1, h⟩ := bnd h
  refine zr_callV (pc := 3) (stk' := [.int t1, .ref am]) (k' := 0) (n' := 0) hX (fun l s0 D => mX5_isVariable l s0 D gt1) (zMw_obj _ _ _) (ci := 4) rfl zwX5_isVariable q1982 q1984 qs54 rfl rfl rfl rfl rfl rfl rfl rfl rfl dX5_decide_3 ?_
  obtain ⟨t2, gt2, h⟩ := bnd h
  have hJt2 : ∀ a, t2 = a → VW K (zMw am st b) sz 0 0 40 [(0, .ref am), (1, .int p0), (2, .int p1), (3, .int p2)] [.int a, .ref am] := by
    intro a ea
    subst ea
    obtain ⟨st3, gst3, h⟩ := bnd h
    refine zr_mput (pc := 40) hX 68 (Option.some.inj gst3) rfl rfl rfl rfl q1806 dX5_decide_40 ?_
    refine zr_aload_n (pc := 43) hX 0 rfl rfl dX5_decide_43 ?_
    refine zr_mget (pc := 44) hX 68 rfl rfl q1806 dX5_decide_44 ?_
    refine zr_if_le (pc := 47) hX 52 rfl dX5_decide_47 (fun c47_7 => ?_) (fun c47_7 => ?_)
    · rw [if_pos c47_7] at h
      refine zr_aload_n (pc := 52) hX 0 rfl rfl dX5_decide_52 ?_
      refine zr_mgetA (pc := 53) hX 25 rfl rfl q1763 dX5_decide_53 ?_
      refine zr_aload_n (pc := 56) hX 0 rfl rfl dX5_decide_56 ?_
      refine zr_mget (pc := 57) hX 24 rfl rfl q1762 dX5_decide_57 ?_
      refine zr_iload_n (pc := 60) hX 1 rfl rfl dX5_decide_60 ?_
      obtain ⟨st4, gst4, h⟩ := bnd h
      refine zr_mast (pc := 61) hX 25 rfl rfl rfl gst4 dX5_decide_61 ?_
      refine zr_aload_n (pc := 62) hX 0 rfl rfl dX5_decide_62 ?_
      refine zr_mgetA (pc := 63) hX 26 rfl rfl q1764 dX5_decide_63 ?_
      refine zr_aload_n (pc := 66) hX 0 rfl rfl dX5_decide_66 ?_
      refine zr_mget (pc := 67) hX 24 rfl rfl q1762 dX5_decide_67 ?_
      refine zr_iload_n (pc := 70) hX 2 rfl rfl dX5_decide_70 ?_
      obtain ⟨st5, gst5, h⟩ := bnd h
      refine zr_mast (pc := 71) hX 26 rfl rfl rfl gst5 dX5_decide_71 ?_
      refine zr_aload_n (pc := 72) hX 0 rfl rfl dX5_decide_72 ?_
      refine zr_mgetA (pc := 73) hX 27 rfl rfl q1765 dX5_decide_73 ?_
      refine zr_aload_n (pc := 76) hX 0 rfl rfl dX5_decide_76 ?_
      refine zr_mget (pc := 77) hX 24 rfl rfl q1762 dX5_decide_77 ?_
      refine zr_iload_n (pc := 80) hX 3 rfl rfl dX5_decide_80 ?_
      obtain ⟨st6, gst6, h⟩ := bnd h
      refine zr_mastZ (pc := 81) hX 27 rfl rfl rfl gst6 dX5_decide_81 ?_
      refine zr_aload_n (pc := 82) hX 0 rfl rfl dX5_decide_82 ?_
      refine zr_dup (pc := 83) hX rfl dX5_decide_83 ?_
      refine zr_mget (pc := 84) hX 24 rfl rfl q1762 dX5_decide_84 ?_
      refine zr_iconst (pc := 87) hX zci_1 dX5_decide_87 ?_
      refine zr_iadd (pc := 88) hX dX5_decide_88 ?_
      obtain ⟨st7, gst7, h⟩ := bnd h
      refine zr_mput (pc := 89) hX 24 (Option.some.inj gst7) rfl rfl rfl rfl q1762 dX5_decide_89 ?_
      refine zr_aload_n (pc := 92) hX 0 rfl rfl dX5_decide_92 ?_
      refine zr_mget (pc := 93) hX 24 rfl rfl q1762 dX5_decide_93 ?_
      refine zr_iconst (pc := 96) hX zci_1 dX5_decide_96 ?_
      refine zr_isub (pc := 97) hX dX5_decide_97 ?_
      obtain rfl := Option.some.inj h
      exact hret _ _ dX5_decide_98 (Or.inl rfl)
    · rw [if_neg c47_7] at h
      refine zr_iconst (pc := 50) hX zci_0 dX5_decide_50 ?_
      obtain rfl := Option.some.inj h
      exact hret _ _ dX5_decide_51 (Or.inl rfl)
  replace h := gt2
  refine zr_if_ne (pc := 6) hX 13 rfl dX5_decide_6 (fun c6_11 => ?_) (fun c6_11 => ?_)
  · rw [if_neg c6_11] at h
    refine zr_aload_n (pc := 13) hX 0 rfl rfl dX5_decide_13 ?_
    refine zr_iload_n (pc := 14) hX 1 rfl rfl dX5_decide_14 ?_
    refine zr_iload_n (pc := 15) hX 2 rfl rfl dX5_decide_15 ?_
    obtain ⟨t9, gt9, h⟩ := bnd h
    refine zr_callV (pc := 16) (stk' := [.int t9, .ref am]) (k' := 0) (n' := 0) hX (fun l s0 D => mX5_isValue l s0 D gt9) (zMw_obj _ _ _) (ci := 4) rfl zwX5_isValue q1998 q2000 qs55 rfl rfl rfl rfl rfl rfl rfl rfl rfl dX5_decide_16 ?_
    refine zr_if_ne (pc := 19) hX 26 rfl dX5_decide_19 (fun c19_10 => ?_) (fun c19_10 => ?_)
    · rw [if_neg c19_10] at h
      refine zr_aload_n (pc := 26) hX 0 rfl rfl dX5_decide_26 ?_
      refine zr_mget (pc := 27) hX 24 rfl rfl q1762 dX5_decide_27 ?_
      refine zr_bipush (pc := 30) hX zcb_12 dX5_decide_30 ?_
      refine zr_icmp_ne (pc := 32) hX 39 rfl dX5_decide_32 (fun c32_9 => ?_) (fun c32_9 => ?_)
      · rw [if_neg c32_9] at h
        refine zr_iconst (pc := 39) hX zci_0 dX5_decide_39 ?_
        exact (hJt2 (0 : Int32) (Option.some.inj h).symm).sub [0, 1, 2, 3] rfl
      · rw [if_pos c32_9] at h
        refine zr_iconst (pc := 35) hX zci_3 dX5_decide_35 ?_
        refine zr_goto (pc := 36) hX 40 rfl dX5_decide_36 ?_
        exact (hJt2 (3 : Int32) (Option.some.inj h).symm).sub [0, 1, 2, 3] rfl
    · rw [if_pos c19_10] at h
      refine zr_iconst (pc := 22) hX zci_2 dX5_decide_22 ?_
      refine zr_goto (pc := 23) hX 40 rfl dX5_decide_23 ?_
      exact (hJt2 (2 : Int32) (Option.some.inj h).symm).sub [0, 1, 2, 3] rfl
  · rw [if_pos c6_11] at h
    refine zr_iconst (pc := 9) hX zci_1 dX5_decide_9 ?_
    refine zr_goto (pc := 10) hX 40 rfl dX5_decide_10 ?_
    exact (hJt2 (1 : Int32) (Option.some.inj h).symm).sub [0, 1, 2, 3] rfl
set_option maxHeartbeats 4000000 in
theorem mX5_back (l : Launch) (s0 : State) (D : zD) {am : Nat} {st : zMS} {b : zH} {sz : Nat} {p0 : Int32} {o : zMS × Int32} (h : fX5_back st p0 = some o) : zM l s0 D yX5_back cX5_back 2 (some .int) 2 22 0 0 [.ref am, .int p0] (zMw am st b) sz (zMw am o.1 b) sz (some (.int o.2)) := by
  refine zenter (own := RX5) zplX5 rfl (Nat.le_of_ble_eq_true rfl) trivial (fun K hX hnm hret => ?_)
  unfold fX5_back at h
  show VW K (zMw am st b) sz 0 0 0 [(0, .ref am), (1, .int p0)] []
  refine zr_aload_n (pc := 0) hX 0 rfl rfl dX5_back_0 ?_
  refine zr_iload_n (pc := 1) hX 1 rfl rfl dX5_back_1 ?_
  refine zr_iconst (pc := 2) hX zci_0 dX5_back_2 ?_
  refine zr_aload_n (pc := 3) hX 0 rfl rfl dX5_back_3 ?_
  refine zr_mget (pc := 4) hX 24 rfl rfl q1762 dX5_back_4 ?_
  obtain ⟨t1, gt1, h⟩ := bnd h
  refine zr_callS (pc := 7) (stk' := [.int t1, .ref am]) (k' := 0) (n' := 0) hX (fun l s0 D => mX5_isIn l s0 D gt1) zwX5_isIn q1963 q1964 rfl rfl rfl rfl rfl rfl rfl rfl dX5_back_7 ?_
  obtain ⟨t2, gt2, h⟩ := bnd h
  have hJt2 : ∀ a, t2 = a → VW K (zMw am st b) sz 0 0 18 [(0, .ref am), (1, .int p0)] [.int a, .ref am] := by
    intro a ea
    subst ea
    obtain ⟨st3, gst3, h⟩ := bnd h
    refine zr_mput (pc := 18) hX 68 (Option.some.inj gst3) rfl rfl rfl rfl q1806 dX5_back_18 ?_
    refine zr_aload_n (pc := 21) hX 0 rfl rfl dX5_back_21 ?_
    refine zr_mget (pc := 22) hX 68 rfl rfl q1806 dX5_back_22 ?_
    refine zr_if_le (pc := 25) hX 30 rfl dX5_back_25 (fun c25_4 => ?_) (fun c25_4 => ?_)
    · rw [if_pos c25_4] at h
      refine zr_aload_n (pc := 30) hX 0 rfl rfl dX5_back_30 ?_
      refine zr_dup (pc := 31) hX rfl dX5_back_31 ?_
      refine zr_mget (pc := 32) hX 24 rfl rfl q1762 dX5_back_32 ?_
      refine zr_iload_n (pc := 35) hX 1 rfl rfl dX5_back_35 ?_
      refine zr_isub (pc := 36) hX dX5_back_36 ?_
      obtain ⟨st4, gst4, h⟩ := bnd h
      refine zr_mput (pc := 37) hX 24 (Option.some.inj gst4) rfl rfl rfl rfl q1762 dX5_back_37 ?_
      refine zr_aload_n (pc := 40) hX 0 rfl rfl dX5_back_40 ?_
      refine zr_mget (pc := 41) hX 24 rfl rfl q1762 dX5_back_41 ?_
      obtain rfl := Option.some.inj h
      exact hret _ _ dX5_back_44 (Or.inl rfl)
    · rw [if_neg c25_4] at h
      refine zr_iconst (pc := 28) hX zci_0 dX5_back_28 ?_
      obtain rfl := Option.some.inj h
      exact hret _ _ dX5_back_29 (Or.inl rfl)
  replace h := gt2
  refine zr_if_eq (pc := 10) hX 17 rfl dX5_back_10 (fun c10_5 => ?_) (fun c10_5 => ?_)
  · rw [if_pos c10_5] at h
    refine zr_iconst (pc := 17) hX zci_1 dX5_back_17 ?_
    exact (hJt2 (1 : Int32) (Option.some.inj h).symm).sub [0, 1] rfl
  · rw [if_neg c10_5] at h
    refine zr_iconst (pc := 13) hX zci_0 dX5_back_13 ?_
    refine zr_goto (pc := 14) hX 18 rfl dX5_back_14 ?_
    exact (hJt2 (0 : Int32) (Option.some.inj h).symm).sub [0, 1] rfl
set_option maxHeartbeats 4000000 in
theorem mX5_takesOne (l : Launch) (s0 : State) (D : zD) {am : Nat} {st : zMS} {b : zH} {sz : Nat} {p0 : Int32} {p1 : Int32} {p2 : Int32} {o : zMS} (h : fX5_takesOne st p0 p1 p2 = some o) : zM l s0 D yX5_takesOne cX5_takesOne 4 none 1 0 0 0 [.ref am, .int p0, .int p1, .int p2] (zMw am st b) sz (zMw am o b) sz none := by
  refine zenter (own := RX5) zplX5 rfl (Nat.le_of_ble_eq_true rfl) rfl (fun K hX hnm hret => ?_)
  unfold fX5_takesOne at h
  show VW K (zMw am st b) sz 0 0 0 [(0, .ref am), (1, .int p0), (2, .int p1), (3, .int p2)] []
  refine zr_aload_n (pc := 0) hX 0 rfl rfl dX5_takesOne_0 ?_
  refine zr_mgetA (pc := 1) hX 29 rfl rfl q1767 dX5_takesOne_1 ?_
  refine zr_aload_n (pc := 4) hX 0 rfl rfl dX5_takesOne_4 ?_
  refine zr_mget (pc := 5) hX 28 rfl rfl q1766 dX5_takesOne_5 ?_
  refine zr_iload_n (pc := 8) hX 1 rfl rfl dX5_takesOne_8 ?_
  obtain ⟨st1, gst1, h⟩ := bnd h
  refine zr_mast (pc := 9) hX 29 rfl rfl rfl gst1 dX5_takesOne_9 ?_
  refine zr_aload_n (pc := 10) hX 0 rfl rfl dX5_takesOne_10 ?_
  refine zr_mgetA (pc := 11) hX 30 rfl rfl q1768 dX5_takesOne_11 ?_
  refine zr_aload_n (pc := 14) hX 0 rfl rfl dX5_takesOne_14 ?_
  refine zr_mget (pc := 15) hX 28 rfl rfl q1766 dX5_takesOne_15 ?_
  refine zr_iload_n (pc := 18) hX 2 rfl rfl dX5_takesOne_18 ?_
  obtain ⟨st2, gst2, h⟩ := bnd h
  refine zr_mast (pc := 19) hX 30 rfl rfl rfl gst2 dX5_takesOne_19 ?_
  refine zr_aload_n (pc := 20) hX 0 rfl rfl dX5_takesOne_20 ?_
  refine zr_mgetA (pc := 21) hX 31 rfl rfl q1769 dX5_takesOne_21 ?_
  refine zr_aload_n (pc := 24) hX 0 rfl rfl dX5_takesOne_24 ?_
  refine zr_mget (pc := 25) hX 28 rfl rfl q1766 dX5_takesOne_25 ?_
  refine zr_iload_n (pc := 28) hX 3 rfl rfl dX5_takesOne_28 ?_
  obtain ⟨st3, gst3, h⟩ := bnd h
  refine zr_mastZ (pc := 29) hX 31 rfl rfl rfl gst3 dX5_takesOne_29 ?_
  refine zr_aload_n (pc := 30) hX 0 rfl rfl dX5_takesOne_30 ?_
  refine zr_dup (pc := 31) hX rfl dX5_takesOne_31 ?_
  refine zr_mget (pc := 32) hX 28 rfl rfl q1766 dX5_takesOne_32 ?_
  refine zr_iconst (pc := 35) hX zci_1 dX5_takesOne_35 ?_
  refine zr_iadd (pc := 36) hX dX5_takesOne_36 ?_
  obtain ⟨st4, gst4, h⟩ := bnd h
  refine zr_mput (pc := 37) hX 28 (Option.some.inj gst4) rfl rfl rfl rfl q1766 dX5_takesOne_37 ?_
  obtain rfl := Option.some.inj h
  exact hret _ _ dX5_takesOne_40
set_option maxHeartbeats 4000000 in
theorem mX5_takesDecisions (l : Launch) (s0 : State) (D : zD) {n : Nat} {am : Nat} {st : zMS} {b : zH} {sz : Nat} {p0 : Int32} {o : zMS} (h : fX5_takesDecisions n st p0 = some o) : zM l s0 D yX5_takesDecisions cX5_takesDecisions 3 none 2 23 0 0 [.ref am, .int p0] (zMw am st b) sz (zMw am o b) sz none := by
  refine zenter (own := RX5) zplX5 rfl (Nat.le_of_ble_eq_true rfl) rfl (fun K hX hnm hret => ?_)
  unfold fX5_takesDecisions at h
  show VW K (zMw am st b) sz 0 0 0 [(0, .ref am), (1, .int p0)] []
  refine zr_aload_n (pc := 0) hX 0 rfl rfl dX5_takesDecisions_0 ?_
  refine zr_iconst (pc := 1) hX zci_0 dX5_takesDecisions_1 ?_
  obtain ⟨st1, gst1, h⟩ := bnd h
  refine zr_mput (pc := 2) hX 28 (Option.some.inj gst1) rfl rfl rfl rfl q1766 dX5_takesDecisions_2 ?_
  refine zr_iconst (pc := 5) hX zci_0 dX5_takesDecisions_5 ?_
  refine zr_istore_n (pc := 6) hX rfl rfl (Nat.le_of_ble_eq_true rfl) rfl dX5_takesDecisions_6 ?_
  refine VW.sub (lv' := [(0, .ref am), (1, .int p0), (2, .int (0 : Int32))]) ?_ [1, 2, 0] rfl
  refine zloop_walk (V := (fun a => VW K (zMw am a.1 b) sz 0 0 7 [(0, .ref am), (1, .int p0), (2, .int a.2)] [])) (E := fun e => e = o) ?_ n (st1, (0 : Int32)) _ h rfl
  intro a2 o3 h kco3 keo3
  unfold fX5_takesDecisions_L7 at h
  refine zr_iload_n (pc := 7) hX 2 rfl rfl dX5_takesDecisions_7 ?_
  refine zr_aload_n (pc := 8) hX 0 rfl rfl dX5_takesDecisions_8 ?_
  refine zr_mget (pc := 9) hX 24 rfl rfl q1762 dX5_takesDecisions_9 ?_
  refine zr_icmp_ge (pc := 12) hX 52 rfl dX5_takesDecisions_12 (fun c12_10 => ?_) (fun c12_10 => ?_)
  · rw [if_pos c12_10] at h
    replace h := congrArg some (keo3 _ (Option.some.inj h).symm)
    obtain rfl := Option.some.inj h
    exact hret _ _ dX5_takesDecisions_52
  · rw [if_neg c12_10] at h
    refine zr_iload_n (pc := 15) hX 1 rfl rfl dX5_takesDecisions_15 ?_
    refine zr_iload_n (pc := 16) hX 2 rfl rfl dX5_takesDecisions_16 ?_
    refine zr_ishr (pc := 17) hX dX5_takesDecisions_17 ?_
    refine zr_iconst (pc := 18) hX zci_1 dX5_takesDecisions_18 ?_
    refine zr_iand (pc := 19) hX dX5_takesDecisions_19 ?_
    refine zr_iconst (pc := 20) hX zci_1 dX5_takesDecisions_20 ?_
    obtain ⟨t4, gt4, h⟩ := bnd h
    have hJt4 : ∀ a, t4 = a → VW K (zMw am a b) sz 0 0 46 [(0, .ref am), (1, .int p0), (2, .int a2.2)] [] := by
      intro a ea
      subst ea
      obtain ⟨x5, gx5, h⟩ := bnd h
      refine zr_iinc (pc := 46) hX 2 rfl zci_1 (Option.some.inj gx5) (Nat.le_of_ble_eq_true rfl) rfl dX5_takesDecisions_46 ?_
      refine zr_goto (pc := 49) hX 7 rfl dX5_takesDecisions_49 ?_
      exact (kco3 (t4, x5) (Option.some.inj h).symm).sub [1, 2, 0] rfl
    replace h := gt4
    refine zr_icmp_ne (pc := 21) hX 46 rfl dX5_takesDecisions_21 (fun c21_9 => ?_) (fun c21_9 => ?_)
    · rw [if_neg c21_9] at h
      exact (hJt4 a2.1 (Option.some.inj h).symm).sub [0, 1, 2] rfl
    · rw [if_pos c21_9] at h
      refine zr_aload_n (pc := 24) hX 0 rfl rfl dX5_takesDecisions_24 ?_
      refine zr_aload_n (pc := 25) hX 0 rfl rfl dX5_takesDecisions_25 ?_
      refine zr_mgetA (pc := 26) hX 25 rfl rfl q1763 dX5_takesDecisions_26 ?_
      refine zr_iload_n (pc := 29) hX 2 rfl rfl dX5_takesDecisions_29 ?_
      obtain ⟨x6, gx6, h⟩ := bnd h
      refine zr_mald (pc := 30) hX 25 rfl rfl rfl gx6 dX5_takesDecisions_30 ?_
      refine zr_aload_n (pc := 31) hX 0 rfl rfl dX5_takesDecisions_31 ?_
      refine zr_mgetA (pc := 32) hX 26 rfl rfl q1764 dX5_takesDecisions_32 ?_
      refine zr_iload_n (pc := 35) hX 2 rfl rfl dX5_takesDecisions_35 ?_
      obtain ⟨x7, gx7, h⟩ := bnd h
      refine zr_mald (pc := 36) hX 26 rfl rfl rfl gx7 dX5_takesDecisions_36 ?_
      refine zr_aload_n (pc := 37) hX 0 rfl rfl dX5_takesDecisions_37 ?_
      refine zr_mgetA (pc := 38) hX 27 rfl rfl q1765 dX5_takesDecisions_38 ?_
      refine zr_iload_n (pc := 41) hX 2 rfl rfl dX5_takesDecisions_41 ?_
      obtain ⟨x8, gx8, h⟩ := bnd h
      refine zr_maldZ (pc := 42) hX 27 rfl rfl rfl gx8 dX5_takesDecisions_42 ?_
      obtain ⟨t9, gt9, h⟩ := bnd h
      refine zr_callV (pc := 43) (stk' := []) (k' := 0) (n' := 0) hX (fun l s0 D => mX5_takesOne l s0 D gt9) (zMw_obj _ _ _) (ci := 4) rfl zwX5_takesOne q2128 q2130 qs67 rfl rfl rfl rfl rfl rfl rfl rfl rfl dX5_takesDecisions_43 ?_
      exact (hJt4 t9 (Option.some.inj h).symm).sub [0, 1, 2] rfl
set_option maxHeartbeats 4000000 in
theorem mX5_isEmpty (l : Launch) (s0 : State) (D : zD) {am : Nat} {st : zMS} {b : zH} {sz : Nat} {p0 : Int32} {o : Int32} (h : fX5_isEmpty st p0 = some o) : zM l s0 D yX5_isEmpty cX5_isEmpty 2 (some .boolean) 1 0 0 0 [.ref am, .int p0] (zMw am st b) sz (zMw am st b) sz (some (.int o)) := by
  refine zenter (own := RX5) zplX5 rfl (Nat.le_of_ble_eq_true rfl) trivial (fun K hX hnm hret => ?_)
  unfold fX5_isEmpty at h
  show VW K (zMw am st b) sz 0 0 0 [(0, .ref am), (1, .int p0)] []
  refine zr_aload_n (pc := 0) hX 0 rfl rfl dX5_isEmpty_0 ?_
  refine zr_mgetA (pc := 1) hX 1 rfl rfl q1739 dX5_isEmpty_1 ?_
  refine zr_iload_n (pc := 4) hX 1 rfl rfl dX5_isEmpty_4 ?_
  obtain ⟨x1, gx1, h⟩ := bnd h
  refine zr_mald (pc := 5) hX 1 rfl rfl rfl gx1 dX5_isEmpty_5 ?_
  refine zr_iconst (pc := 6) hX zci_3 dX5_isEmpty_6 ?_
  refine zr_icmp_ne (pc := 7) hX 33 rfl dX5_isEmpty_7 (fun c7_6 => ?_) (fun c7_6 => ?_)
  · rw [if_neg c7_6] at h
    refine zr_aload_n (pc := 33) hX 0 rfl rfl dX5_isEmpty_33 ?_
    refine zr_mgetA (pc := 34) hX 34 rfl rfl q1772 dX5_isEmpty_34 ?_
    refine zr_iload_n (pc := 37) hX 1 rfl rfl dX5_isEmpty_37 ?_
    obtain ⟨x2, gx2, h⟩ := bnd h
    refine zr_mald (pc := 38) hX 34 rfl rfl rfl gx2 dX5_isEmpty_38 ?_
    refine zr_if_ne (pc := 39) hX 46 rfl dX5_isEmpty_39 (fun c39_2 => ?_) (fun c39_2 => ?_)
    · rw [if_neg c39_2] at h
      refine zr_iconst (pc := 46) hX zci_0 dX5_isEmpty_46 ?_
      obtain rfl := Option.some.inj h
      exact hret _ _ dX5_isEmpty_47 (Or.inr ⟨rfl, Or.inl rfl⟩)
    · rw [if_pos c39_2] at h
      refine zr_iconst (pc := 42) hX zci_1 dX5_isEmpty_42 ?_
      refine zr_goto (pc := 43) hX 47 rfl dX5_isEmpty_43 ?_
      obtain rfl := Option.some.inj h
      exact hret _ _ dX5_isEmpty_47 (Or.inr ⟨rfl, Or.inr rfl⟩)
  · rw [if_pos c7_6] at h
    refine zr_aload_n (pc := 10) hX 0 rfl rfl dX5_isEmpty_10 ?_
    refine zr_mgetA (pc := 11) hX 35 rfl rfl q1773 dX5_isEmpty_11 ?_
    refine zr_iload_n (pc := 14) hX 1 rfl rfl dX5_isEmpty_14 ?_
    obtain ⟨x4, gx4, h⟩ := bnd h
    refine zr_mald (pc := 15) hX 35 rfl rfl rfl gx4 dX5_isEmpty_15 ?_
    refine zr_aload_n (pc := 16) hX 0 rfl rfl dX5_isEmpty_16 ?_
    refine zr_mgetA (pc := 17) hX 36 rfl rfl q1774 dX5_isEmpty_17 ?_
    refine zr_iload_n (pc := 20) hX 1 rfl rfl dX5_isEmpty_20 ?_
    obtain ⟨x5, gx5, h⟩ := bnd h
    refine zr_mald (pc := 21) hX 36 rfl rfl rfl gx5 dX5_isEmpty_21 ?_
    refine zr_icmp_le (pc := 22) hX 29 rfl dX5_isEmpty_22 (fun c22_5 => ?_) (fun c22_5 => ?_)
    · rw [if_pos c22_5] at h
      refine zr_iconst (pc := 29) hX zci_0 dX5_isEmpty_29 ?_
      refine zr_goto (pc := 30) hX 47 rfl dX5_isEmpty_30 ?_
      obtain rfl := Option.some.inj h
      exact hret _ _ dX5_isEmpty_47 (Or.inr ⟨rfl, Or.inl rfl⟩)
    · rw [if_neg c22_5] at h
      refine zr_iconst (pc := 25) hX zci_1 dX5_isEmpty_25 ?_
      refine zr_goto (pc := 26) hX 47 rfl dX5_isEmpty_26 ?_
      obtain rfl := Option.some.inj h
      exact hret _ _ dX5_isEmpty_47 (Or.inr ⟨rfl, Or.inr rfl⟩)
set_option maxHeartbeats 4000000 in
theorem mX5_looksForFailure (l : Launch) (s0 : State) (D : zD) {n : Nat} {am : Nat} {st : zMS} {b : zH} {sz : Nat} {o : zMS} (h : fX5_looksForFailure n st = some o) : zM l s0 D yX5_looksForFailure cX5_looksForFailure 2 none 2 21 0 0 [.ref am] (zMw am st b) sz (zMw am o b) sz none := by
  refine zenter (own := RX5) zplX5 rfl (Nat.le_of_ble_eq_true rfl) rfl (fun K hX hnm hret => ?_)
  unfold fX5_looksForFailure at h
  show VW K (zMw am st b) sz 0 0 0 [(0, .ref am)] []
  refine zr_iconst (pc := 0) hX zci_0 dX5_looksForFailure_0 ?_
  refine zr_istore_n (pc := 1) hX rfl rfl (Nat.le_of_ble_eq_true rfl) rfl dX5_looksForFailure_1 ?_
  refine VW.sub (lv' := [(0, .ref am), (1, .int (0 : Int32))]) ?_ [1, 0] rfl
  refine zloop_walk (V := (fun a => VW K (zMw am a.1 b) sz 0 0 2 [(0, .ref am), (1, .int a.2)] [])) (E := fun e => e = o) ?_ n (st, (0 : Int32)) _ h rfl
  intro a1 o2 h kco2 keo2
  unfold fX5_looksForFailure_L2 at h
  refine zr_iload_n (pc := 2) hX 1 rfl rfl dX5_looksForFailure_2 ?_
  refine zr_aload_n (pc := 3) hX 0 rfl rfl dX5_looksForFailure_3 ?_
  refine zr_mget (pc := 4) hX 0 rfl rfl q1738 dX5_looksForFailure_4 ?_
  refine zr_icmp_ge (pc := 7) hX 30 rfl dX5_looksForFailure_7 (fun c7_5 => ?_) (fun c7_5 => ?_)
  · rw [if_pos c7_5] at h
    replace h := congrArg some (keo2 _ (Option.some.inj h).symm)
    obtain rfl := Option.some.inj h
    exact hret _ _ dX5_looksForFailure_30
  · rw [if_neg c7_5] at h
    refine zr_aload_n (pc := 10) hX 0 rfl rfl dX5_looksForFailure_10 ?_
    refine zr_dup (pc := 11) hX rfl dX5_looksForFailure_11 ?_
    refine zr_mget (pc := 12) hX 37 rfl rfl q1775 dX5_looksForFailure_12 ?_
    refine zr_aload_n (pc := 15) hX 0 rfl rfl dX5_looksForFailure_15 ?_
    refine zr_iload_n (pc := 16) hX 1 rfl rfl dX5_looksForFailure_16 ?_
    obtain ⟨t3, gt3, h⟩ := bnd h
    refine zr_callV (pc := 17) (stk' := [.int t3, .int (a1.1.1 37), .ref am]) (k' := 0) (n' := 0) hX (fun l s0 D => mX5_isEmpty l s0 D gt3) (zMw_obj _ _ _) (ci := 4) rfl zwX5_isEmpty q2140 q2142 qs70 rfl rfl rfl rfl rfl rfl rfl rfl rfl dX5_looksForFailure_17 ?_
    refine zr_ior (pc := 20) hX dX5_looksForFailure_20 ?_
    obtain ⟨st4, gst4, h⟩ := bnd h
    refine zr_mputZ (pc := 21) hX 37 gst4 rfl rfl rfl rfl q1775 dX5_looksForFailure_21 ?_
    obtain ⟨x5, gx5, h⟩ := bnd h
    refine zr_iinc (pc := 24) hX 1 rfl zci_1 (Option.some.inj gx5) (Nat.le_of_ble_eq_true rfl) rfl dX5_looksForFailure_24 ?_
    refine zr_goto (pc := 27) hX 2 rfl dX5_looksForFailure_27 ?_
    exact (kco2 (st4, x5) (Option.some.inj h).symm).sub [1, 0] rfl
set_option maxHeartbeats 4000000 in
theorem mX5_hasBit (l : Launch) (s0 : State) (D : zD) {σ : zH} {sz : Nat} {p0 : Int32} {p1 : Int32} {o : Int32} (h : fX5_hasBit p0 p1 = some o) : zM l s0 D yX5_hasBit cX5_hasBit 2 (some .boolean) 1 0 0 0 [.int p0, .int p1] σ sz σ sz (some (.int o)) := by
  refine zenter (own := RX5) zplX5 rfl (Nat.le_of_ble_eq_true rfl) trivial (fun K hX hnm hret => ?_)
  unfold fX5_hasBit at h
  show VW K σ sz 0 0 0 [(0, .int p0), (1, .int p1)] []
  refine zr_iload_n (pc := 0) hX 1 rfl rfl dX5_hasBit_0 ?_
  refine zr_if_lt (pc := 1) hX 23 rfl dX5_hasBit_1 (fun c1_2 => ?_) (fun c1_2 => ?_)
  · rw [if_pos c1_2] at h
    refine zr_iconst (pc := 23) hX zci_0 dX5_hasBit_23 ?_
    obtain rfl := Option.some.inj h
    exact hret _ _ dX5_hasBit_24 (Or.inr ⟨rfl, Or.inl rfl⟩)
  · rw [if_neg c1_2] at h
    refine zr_iload_n (pc := 4) hX 1 rfl rfl dX5_hasBit_4 ?_
    refine zr_bipush (pc := 5) hX zcb_32 dX5_hasBit_5 ?_
    refine zr_icmp_ge (pc := 7) hX 23 rfl dX5_hasBit_7 (fun c7_1 => ?_) (fun c7_1 => ?_)
    · rw [if_pos c7_1] at h
      refine zr_iconst (pc := 23) hX zci_0 dX5_hasBit_23 ?_
      obtain rfl := Option.some.inj h
      exact hret _ _ dX5_hasBit_24 (Or.inr ⟨rfl, Or.inl rfl⟩)
    · rw [if_neg c7_1] at h
      refine zr_iload_n (pc := 10) hX 0 rfl rfl dX5_hasBit_10 ?_
      refine zr_iload_n (pc := 11) hX 1 rfl rfl dX5_hasBit_11 ?_
      refine zr_iushr (pc := 12) hX dX5_hasBit_12 ?_
      refine zr_iconst (pc := 13) hX zci_1 dX5_hasBit_13 ?_
      refine zr_iand (pc := 14) hX dX5_hasBit_14 ?_
      refine zr_iconst (pc := 15) hX zci_1 dX5_hasBit_15 ?_
      refine zr_icmp_ne (pc := 16) hX 23 rfl dX5_hasBit_16 (fun c16_0 => ?_) (fun c16_0 => ?_)
      · rw [if_neg c16_0] at h
        refine zr_iconst (pc := 23) hX zci_0 dX5_hasBit_23 ?_
        obtain rfl := Option.some.inj h
        exact hret _ _ dX5_hasBit_24 (Or.inr ⟨rfl, Or.inl rfl⟩)
      · rw [if_pos c16_0] at h
        refine zr_iconst (pc := 19) hX zci_1 dX5_hasBit_19 ?_
        refine zr_goto (pc := 20) hX 24 rfl dX5_hasBit_20 ?_
        obtain rfl := Option.some.inj h
        exact hret _ _ dX5_hasBit_24 (Or.inr ⟨rfl, Or.inr rfl⟩)
set_option maxHeartbeats 4000000 in
theorem mX5_unit (l : Launch) (s0 : State) (D : zD) {am : Nat} {st : zMS} {b : zH} {sz : Nat} {p0 : Int32} {o : Int32} (h : fX5_unit st p0 = some o) : zM l s0 D yX5_unit cX5_unit 2 (some .int) 1 0 0 0 [.ref am, .int p0] (zMw am st b) sz (zMw am st b) sz (some (.int o)) := by
  refine zenter (own := RX5) zplX5 rfl (Nat.le_of_ble_eq_true rfl) trivial (fun K hX hnm hret => ?_)
  unfold fX5_unit at h
  show VW K (zMw am st b) sz 0 0 0 [(0, .ref am), (1, .int p0)] []
  refine zr_aload_n (pc := 0) hX 0 rfl rfl dX5_unit_0 ?_
  refine zr_mgetA (pc := 1) hX 1 rfl rfl q1739 dX5_unit_1 ?_
  refine zr_iload_n (pc := 4) hX 1 rfl rfl dX5_unit_4 ?_
  obtain ⟨x1, gx1, h⟩ := bnd h
  refine zr_mald (pc := 5) hX 1 rfl rfl rfl gx1 dX5_unit_5 ?_
  refine zr_iconst (pc := 6) hX zci_3 dX5_unit_6 ?_
  refine zr_icmp_ne (pc := 7) hX 14 rfl dX5_unit_7 (fun c7_1 => ?_) (fun c7_1 => ?_)
  · rw [if_neg c7_1] at h
    refine zr_bipush (pc := 14) hX zcb_12 dX5_unit_14 ?_
    obtain rfl := Option.some.inj h
    exact hret _ _ dX5_unit_16 (Or.inl rfl)
  · rw [if_pos c7_1] at h
    refine zr_iconst (pc := 10) hX zci_1 dX5_unit_10 ?_
    refine zr_goto (pc := 11) hX 16 rfl dX5_unit_11 ?_
    obtain rfl := Option.some.inj h
    exact hret _ _ dX5_unit_16 (Or.inl rfl)
set_option maxHeartbeats 4000000 in
theorem mX5_highest (l : Launch) (s0 : State) (D : zD) {n : Nat} {σ : zH} {sz : Nat} {p0 : Int32} {o : Int32} (h : fX5_highest n p0 = some o) : zM l s0 D yX5_highest cX5_highest 2 (some .int) 1 0 0 0 [.int p0] σ sz σ sz (some (.int o)) := by
  refine zenter (own := RX5) zplX5 rfl (Nat.le_of_ble_eq_true rfl) trivial (fun K hX hnm hret => ?_)
  unfold fX5_highest at h
  show VW K σ sz 0 0 0 [(0, .int p0)] []
  refine zr_bipush (pc := 0) hX zcb_31 dX5_highest_0 ?_
  refine zr_istore_n (pc := 2) hX rfl rfl (Nat.le_of_ble_eq_true rfl) rfl dX5_highest_2 ?_
  refine VW.sub (lv' := [(0, .int p0), (1, .int (31 : Int32))]) ?_ [1, 0] rfl
  refine zloop_walk (V := (fun a => VW K σ sz 0 0 3 [(0, .int p0), (1, .int a)] [])) (E := fun e => e = o) ?_ n (31 : Int32) _ h rfl
  intro a1 o2 h kco2 keo2
  unfold fX5_highest_L3 at h
  refine zr_iload_n (pc := 3) hX 1 rfl rfl dX5_highest_3 ?_
  refine zr_if_lt (pc := 4) hX 21 rfl dX5_highest_4 (fun c4_4 => ?_) (fun c4_4 => ?_)
  · rw [if_pos c4_4] at h
    refine zr_iload_n (pc := 21) hX 1 rfl rfl dX5_highest_21 ?_
    replace h := congrArg some (keo2 _ (Option.some.inj h).symm)
    obtain rfl := Option.some.inj h
    exact hret _ _ dX5_highest_22 (Or.inl rfl)
  · rw [if_neg c4_4] at h
    refine zr_iload_n (pc := 7) hX 0 rfl rfl dX5_highest_7 ?_
    refine zr_iload_n (pc := 8) hX 1 rfl rfl dX5_highest_8 ?_
    refine zr_iushr (pc := 9) hX dX5_highest_9 ?_
    refine zr_iconst (pc := 10) hX zci_1 dX5_highest_10 ?_
    refine zr_iand (pc := 11) hX dX5_highest_11 ?_
    refine zr_if_ne (pc := 12) hX 21 rfl dX5_highest_12 (fun c12_3 => ?_) (fun c12_3 => ?_)
    · rw [if_neg c12_3] at h
      refine zr_iload_n (pc := 21) hX 1 rfl rfl dX5_highest_21 ?_
      replace h := congrArg some (keo2 _ (Option.some.inj h).symm)
      obtain rfl := Option.some.inj h
      exact hret _ _ dX5_highest_22 (Or.inl rfl)
    · rw [if_pos c12_3] at h
      obtain ⟨x3, gx3, h⟩ := bnd h
      refine zr_iinc (pc := 15) hX 1 rfl zci_m1 (Option.some.inj gx3) (Nat.le_of_ble_eq_true rfl) rfl dX5_highest_15 ?_
      refine zr_goto (pc := 18) hX 3 rfl dX5_highest_18 ?_
      exact (kco2 x3 (Option.some.inj h).symm).sub [1, 0] rfl
set_option maxHeartbeats 4000000 in
theorem mX5_lowest (l : Launch) (s0 : State) (D : zD) {n : Nat} {σ : zH} {sz : Nat} {p0 : Int32} {o : Int32} (h : fX5_lowest n p0 = some o) : zM l s0 D yX5_lowest cX5_lowest 2 (some .int) 1 0 0 0 [.int p0] σ sz σ sz (some (.int o)) := by
  refine zenter (own := RX5) zplX5 rfl (Nat.le_of_ble_eq_true rfl) trivial (fun K hX hnm hret => ?_)
  unfold fX5_lowest at h
  show VW K σ sz 0 0 0 [(0, .int p0)] []
  refine zr_iconst (pc := 0) hX zci_0 dX5_lowest_0 ?_
  refine zr_istore_n (pc := 1) hX rfl rfl (Nat.le_of_ble_eq_true rfl) rfl dX5_lowest_1 ?_
  refine VW.sub (lv' := [(0, .int p0), (1, .int (0 : Int32))]) ?_ [1, 0] rfl
  refine zloop_walk (V := (fun a => VW K σ sz 0 0 2 [(0, .int p0), (1, .int a)] [])) (E := fun e => e = o) ?_ n (0 : Int32) _ h rfl
  intro a1 o2 h kco2 keo2
  unfold fX5_lowest_L2 at h
  refine zr_iload_n (pc := 2) hX 1 rfl rfl dX5_lowest_2 ?_
  refine zr_bipush (pc := 3) hX zcb_32 dX5_lowest_3 ?_
  refine zr_icmp_ge (pc := 5) hX 22 rfl dX5_lowest_5 (fun c5_4 => ?_) (fun c5_4 => ?_)
  · rw [if_pos c5_4] at h
    refine zr_iload_n (pc := 22) hX 1 rfl rfl dX5_lowest_22 ?_
    replace h := congrArg some (keo2 _ (Option.some.inj h).symm)
    obtain rfl := Option.some.inj h
    exact hret _ _ dX5_lowest_23 (Or.inl rfl)
  · rw [if_neg c5_4] at h
    refine zr_iload_n (pc := 8) hX 0 rfl rfl dX5_lowest_8 ?_
    refine zr_iload_n (pc := 9) hX 1 rfl rfl dX5_lowest_9 ?_
    refine zr_iushr (pc := 10) hX dX5_lowest_10 ?_
    refine zr_iconst (pc := 11) hX zci_1 dX5_lowest_11 ?_
    refine zr_iand (pc := 12) hX dX5_lowest_12 ?_
    refine zr_if_ne (pc := 13) hX 22 rfl dX5_lowest_13 (fun c13_3 => ?_) (fun c13_3 => ?_)
    · rw [if_neg c13_3] at h
      refine zr_iload_n (pc := 22) hX 1 rfl rfl dX5_lowest_22 ?_
      replace h := congrArg some (keo2 _ (Option.some.inj h).symm)
      obtain rfl := Option.some.inj h
      exact hret _ _ dX5_lowest_23 (Or.inl rfl)
    · rw [if_pos c13_3] at h
      obtain ⟨x3, gx3, h⟩ := bnd h
      refine zr_iinc (pc := 16) hX 1 rfl zci_1 (Option.some.inj gx3) (Nat.le_of_ble_eq_true rfl) rfl dX5_lowest_16 ?_
      refine zr_goto (pc := 19) hX 2 rfl dX5_lowest_19 ?_
      exact (kco2 x3 (Option.some.inj h).symm).sub [1, 0] rfl
set_option maxHeartbeats 4000000 in
theorem mX5_end (l : Launch) (s0 : State) (D : zD) {n : Nat} {am : Nat} {st : zMS} {b : zH} {sz : Nat} {p0 : Int32} {p1 : Int32} {o : Int32} (h : fX5_end n st p0 p1 = some o) : zM l s0 D yX5_end cX5_end 3 (some .int) 2 21 0 0 [.ref am, .int p0, .int p1] (zMw am st b) sz (zMw am st b) sz (some (.int o)) := by
  refine zenter (own := RX5) zplX5 rfl (Nat.le_of_ble_eq_true rfl) trivial (fun K hX hnm hret => ?_)
  unfold fX5_end at h
  show VW K (zMw am st b) sz 0 0 0 [(0, .ref am), (1, .int p0), (2, .int p1)] []
  refine zr_aload_n (pc := 0) hX 0 rfl rfl dX5_end_0 ?_
  refine zr_mgetA (pc := 1) hX 1 rfl rfl q1739 dX5_end_1 ?_
  refine zr_iload_n (pc := 4) hX 1 rfl rfl dX5_end_4 ?_
  obtain ⟨x1, gx1, h⟩ := bnd h
  refine zr_mald (pc := 5) hX 1 rfl rfl rfl gx1 dX5_end_5 ?_
  refine zr_iconst (pc := 6) hX zci_3 dX5_end_6 ?_
  refine zr_icmp_ne (pc := 7) hX 32 rfl dX5_end_7 (fun c7_9 => ?_) (fun c7_9 => ?_)
  · rw [if_neg c7_9] at h
    refine zr_iload_n (pc := 32) hX 2 rfl rfl dX5_end_32 ?_
    refine zr_if_eq (pc := 33) hX 48 rfl dX5_end_33 (fun c33_5 => ?_) (fun c33_5 => ?_)
    · rw [if_pos c33_5] at h
      refine zr_aload_n (pc := 48) hX 0 rfl rfl dX5_end_48 ?_
      refine zr_mgetA (pc := 49) hX 34 rfl rfl q1772 dX5_end_49 ?_
      refine zr_iload_n (pc := 52) hX 1 rfl rfl dX5_end_52 ?_
      obtain ⟨x2, gx2, h⟩ := bnd h
      refine zr_mald (pc := 53) hX 34 rfl rfl rfl gx2 dX5_end_53 ?_
      obtain ⟨t3, gt3, h⟩ := bnd h
      refine zr_callS (pc := 54) (stk' := [.int t3]) (k' := 0) (n' := 0) hX (fun l s0 D => mX5_lowest l s0 D gt3) zwX5_lowest q2178 q2179 rfl rfl rfl rfl rfl rfl rfl rfl dX5_end_54 ?_
      obtain rfl := Option.some.inj h
      exact hret _ _ dX5_end_57 (Or.inl rfl)
    · rw [if_neg c33_5] at h
      refine zr_aload_n (pc := 36) hX 0 rfl rfl dX5_end_36 ?_
      refine zr_mgetA (pc := 37) hX 34 rfl rfl q1772 dX5_end_37 ?_
      refine zr_iload_n (pc := 40) hX 1 rfl rfl dX5_end_40 ?_
      obtain ⟨x4, gx4, h⟩ := bnd h
      refine zr_mald (pc := 41) hX 34 rfl rfl rfl gx4 dX5_end_41 ?_
      obtain ⟨t5, gt5, h⟩ := bnd h
      refine zr_callS (pc := 42) (stk' := [.int t5]) (k' := 0) (n' := 0) hX (fun l s0 D => mX5_highest l s0 D gt5) zwX5_highest q2175 q2176 rfl rfl rfl rfl rfl rfl rfl rfl dX5_end_42 ?_
      refine zr_goto (pc := 45) hX 57 rfl dX5_end_45 ?_
      obtain rfl := Option.some.inj h
      exact hret _ _ dX5_end_57 (Or.inl rfl)
  · rw [if_pos c7_9] at h
    refine zr_iload_n (pc := 10) hX 2 rfl rfl dX5_end_10 ?_
    refine zr_if_eq (pc := 11) hX 23 rfl dX5_end_11 (fun c11_8 => ?_) (fun c11_8 => ?_)
    · rw [if_pos c11_8] at h
      refine zr_aload_n (pc := 23) hX 0 rfl rfl dX5_end_23 ?_
      refine zr_mgetA (pc := 24) hX 35 rfl rfl q1773 dX5_end_24 ?_
      refine zr_iload_n (pc := 27) hX 1 rfl rfl dX5_end_27 ?_
      obtain ⟨x7, gx7, h⟩ := bnd h
      refine zr_mald (pc := 28) hX 35 rfl rfl rfl gx7 dX5_end_28 ?_
      refine zr_goto (pc := 29) hX 57 rfl dX5_end_29 ?_
      obtain rfl := Option.some.inj h
      exact hret _ _ dX5_end_57 (Or.inl rfl)
    · rw [if_neg c11_8] at h
      refine zr_aload_n (pc := 14) hX 0 rfl rfl dX5_end_14 ?_
      refine zr_mgetA (pc := 15) hX 36 rfl rfl q1774 dX5_end_15 ?_
      refine zr_iload_n (pc := 18) hX 1 rfl rfl dX5_end_18 ?_
      obtain ⟨x8, gx8, h⟩ := bnd h
      refine zr_mald (pc := 19) hX 36 rfl rfl rfl gx8 dX5_end_19 ?_
      refine zr_goto (pc := 20) hX 57 rfl dX5_end_20 ?_
      obtain rfl := Option.some.inj h
      exact hret _ _ dX5_end_57 (Or.inl rfl)
set_option maxHeartbeats 4000000 in
theorem mX5_most (l : Launch) (s0 : State) (D : zD) {n : Nat} {am : Nat} {st : zMS} {b : zH} {sz : Nat} {p0 : Int32} {p1 : Int32} {p2 : Int32} {o : Int32} (h : fX5_most n st p0 p1 p2 = some o) : zM l s0 D yX5_most cX5_most 6 (some .int) 3 43 0 0 [.ref am, .int p0, .int p1, .int p2] (zMw am st b) sz (zMw am st b) sz (some (.int o)) := by
  refine zenter (own := RX5) zplX5 rfl (Nat.le_of_ble_eq_true rfl) trivial (fun K hX hnm hret => ?_)
  unfold fX5_most at h
  show VW K (zMw am st b) sz 0 0 0 [(0, .ref am), (1, .int p0), (2, .int p1), (3, .int p2)] []
  refine zr_aload_n (pc := 0) hX 0 rfl rfl dX5_most_0 ?_
  refine zr_mgetA (pc := 1) hX 18 rfl rfl q1756 dX5_most_1 ?_
  refine zr_bipush (pc := 4) hX zcb_8 dX5_most_4 ?_
  refine zr_iload_n (pc := 6) hX 1 rfl rfl dX5_most_6 ?_
  refine zr_imul (pc := 7) hX dX5_most_7 ?_
  refine zr_iload_n (pc := 8) hX 2 rfl rfl dX5_most_8 ?_
  refine zr_iadd (pc := 9) hX dX5_most_9 ?_
  obtain ⟨x1, gx1, h⟩ := bnd h
  refine zr_mald (pc := 10) hX 18 rfl rfl rfl gx1 dX5_most_10 ?_
  refine zr_istore (pc := 11) hX rfl (Nat.le_of_ble_eq_true rfl) rfl dX5_most_11 ?_
  refine zr_aload_n (pc := 13) hX 1 rfl rfl dX5_most_13 ?_
  refine zr_mgetA (pc := 14) hX 19 rfl rfl q1757 dX5_most_14 ?_
  refine zr_bipush (pc := 17) hX zcb_6 dX5_most_17 ?_
  refine zr_iload_n (pc := 19) hX 2 rfl rfl dX5_most_19 ?_
  refine zr_imul (pc := 20) hX dX5_most_20 ?_
  refine zr_iload_n (pc := 21) hX 3 rfl rfl dX5_most_21 ?_
  refine zr_iadd (pc := 22) hX dX5_most_22 ?_
  obtain ⟨x2, gx2, h⟩ := bnd h
  refine zr_mald (pc := 23) hX 19 rfl rfl rfl gx2 dX5_most_23 ?_
  refine zr_aload_n (pc := 24) hX 1 rfl rfl dX5_most_24 ?_
  refine zr_iload (pc := 25) hX 0 rfl dX5_most_25 ?_
  obtain ⟨t3, gt3, h⟩ := bnd h
  refine zr_callV (pc := 27) (stk' := [.int t3, .int x2]) (k' := 0) (n' := 0) hX (fun l s0 D => mX5_unit l s0 D gt3) (zMw_obj _ _ _) (ci := 4) rfl zwX5_unit q2163 q2165 qs75 rfl rfl rfl rfl rfl rfl rfl rfl rfl dX5_most_27 ?_
  refine zr_imul (pc := 30) hX dX5_most_30 ?_
  obtain ⟨x4, gx4, h⟩ := bnd h
  refine zr_istore (pc := 31) hX (Option.some.inj gx4) (Nat.le_of_ble_eq_true rfl) rfl dX5_most_31 ?_
  refine zr_iload (pc := 33) hX 0 rfl dX5_most_33 ?_
  refine zr_aload_n (pc := 35) hX 2 rfl rfl dX5_most_35 ?_
  refine zr_iload (pc := 36) hX 1 rfl dX5_most_36 ?_
  refine zr_iload (pc := 38) hX 0 rfl dX5_most_38 ?_
  obtain ⟨t5, gt5, h⟩ := bnd h
  have hJt5 : ∀ a, t5 = a → VW K (zMw am st b) sz 0 0 48 [(3, .int p2)] [.int a, .int x1, .ref am, .int x4] := by
    intro a ea
    subst ea
    refine zr_iload_n (pc := 48) hX 0 rfl rfl dX5_most_48 ?_
    obtain ⟨t6, gt6, h⟩ := bnd h
    have hJt6 : ∀ a, t6 = a → VW K (zMw am st b) sz 0 0 57 [] [.int a, .int x1, .ref am, .int x4] := by
      intro a ea
      subst ea
      obtain ⟨t7, gt7, h⟩ := bnd h
      refine zr_callV (pc := 57) (stk' := [.int t7, .int x4]) (k' := 0) (n' := 0) hX (fun l s0 D => mX5_end l s0 D gt7) (zMw_obj _ _ _) (ci := 4) rfl zwX5_end q2171 q2173 qs77 rfl rfl rfl rfl rfl rfl rfl rfl rfl dX5_most_57 ?_
      refine zr_imul (pc := 60) hX dX5_most_60 ?_
      obtain rfl := Option.some.inj h
      exact hret _ _ dX5_most_61 (Or.inl rfl)
    replace h := gt6
    refine zr_icmp_ne (pc := 49) hX 56 rfl dX5_most_49 (fun c49_7 => ?_) (fun c49_7 => ?_)
    · rw [if_neg c49_7] at h
      refine zr_iconst (pc := 56) hX zci_0 dX5_most_56 ?_
      exact (hJt6 (0 : Int32) (Option.some.inj h).symm).sub [] rfl
    · rw [if_pos c49_7] at h
      refine zr_iconst (pc := 52) hX zci_1 dX5_most_52 ?_
      refine zr_goto (pc := 53) hX 57 rfl dX5_most_53 ?_
      exact (hJt6 (1 : Int32) (Option.some.inj h).symm).sub [] rfl
  replace h := gt5
  refine zr_if_le (pc := 40) hX 47 rfl dX5_most_40 (fun c40_8 => ?_) (fun c40_8 => ?_)
  · rw [if_pos c40_8] at h
    refine zr_iconst (pc := 47) hX zci_0 dX5_most_47 ?_
    exact (hJt5 (0 : Int32) (Option.some.inj h).symm).sub [5] rfl
  · rw [if_neg c40_8] at h
    refine zr_iconst (pc := 43) hX zci_1 dX5_most_43 ?_
    refine zr_goto (pc := 44) hX 48 rfl dX5_most_44 ?_
    exact (hJt5 (1 : Int32) (Option.some.inj h).symm).sub [5] rfl
set_option maxHeartbeats 4000000 in
theorem mX5_linearAgrees (l : Launch) (s0 : State) (D : zD) {n : Nat} {am : Nat} {st : zMS} {b : zH} {sz : Nat} {p0 : Int32} {p1 : Int32} {p2 : Int32} {o : Int32} (h : fX5_linearAgrees n st p0 p1 p2 = some o) : zM l s0 D yX5_linearAgrees cX5_linearAgrees 8 (some .boolean) 4 68 0 0 [.ref am, .int p0, .int p1, .int p2] (zMw am st b) sz (zMw am st b) sz (some (.int o)) := by
  refine zenter (own := RX5) zplX5 rfl (Nat.le_of_ble_eq_true rfl) trivial (fun K hX hnm hret => ?_)
  unfold fX5_linearAgrees at h
  show VW K (zMw am st b) sz 0 0 0 [(0, .ref am), (1, .int p0), (2, .int p1), (3, .int p2)] []
  refine zr_aload_n (pc := 0) hX 0 rfl rfl dX5_linearAgrees_0 ?_
  refine zr_mgetA (pc := 1) hX 19 rfl rfl q1757 dX5_linearAgrees_1 ?_
  refine zr_bipush (pc := 4) hX zcb_6 dX5_linearAgrees_4 ?_
  refine zr_iload_n (pc := 6) hX 1 rfl rfl dX5_linearAgrees_6 ?_
  refine zr_imul (pc := 7) hX dX5_linearAgrees_7 ?_
  refine zr_iload_n (pc := 8) hX 2 rfl rfl dX5_linearAgrees_8 ?_
  refine zr_iadd (pc := 9) hX dX5_linearAgrees_9 ?_
  obtain ⟨x1, gx1, h⟩ := bnd h
  refine zr_mald (pc := 10) hX 19 rfl rfl rfl gx1 dX5_linearAgrees_10 ?_
  refine zr_aload_n (pc := 11) hX 0 rfl rfl dX5_linearAgrees_11 ?_
  refine zr_aload_n (pc := 12) hX 0 rfl rfl dX5_linearAgrees_12 ?_
  refine zr_mgetA (pc := 13) hX 18 rfl rfl q1756 dX5_linearAgrees_13 ?_
  refine zr_bipush (pc := 16) hX zcb_8 dX5_linearAgrees_16 ?_
  refine zr_iload_n (pc := 18) hX 1 rfl rfl dX5_linearAgrees_18 ?_
  refine zr_imul (pc := 19) hX dX5_linearAgrees_19 ?_
  refine zr_iload_n (pc := 20) hX 2 rfl rfl dX5_linearAgrees_20 ?_
  refine zr_iadd (pc := 21) hX dX5_linearAgrees_21 ?_
  obtain ⟨x2, gx2, h⟩ := bnd h
  refine zr_mald (pc := 22) hX 18 rfl rfl rfl gx2 dX5_linearAgrees_22 ?_
  obtain ⟨t3, gt3, h⟩ := bnd h
  refine zr_callV (pc := 23) (stk' := [.int t3, .int x1]) (k' := 0) (n' := 0) hX (fun l s0 D => mX5_unit l s0 D gt3) (zMw_obj _ _ _) (ci := 4) rfl zwX5_unit q2163 q2165 qs75 rfl rfl rfl rfl rfl rfl rfl rfl rfl dX5_linearAgrees_23 ?_
  refine zr_imul (pc := 26) hX dX5_linearAgrees_26 ?_
  refine zr_iload_n (pc := 27) hX 3 rfl rfl dX5_linearAgrees_27 ?_
  refine zr_imul (pc := 28) hX dX5_linearAgrees_28 ?_
  obtain ⟨x4, gx4, h⟩ := bnd h
  refine zr_istore (pc := 29) hX (Option.some.inj gx4) (Nat.le_of_ble_eq_true rfl) rfl dX5_linearAgrees_29 ?_
  refine zr_iload (pc := 31) hX 0 rfl dX5_linearAgrees_31 ?_
  refine zr_istore (pc := 33) hX rfl (Nat.le_of_ble_eq_true rfl) rfl dX5_linearAgrees_33 ?_
  refine zr_iload (pc := 35) hX 1 rfl dX5_linearAgrees_35 ?_
  refine zr_istore (pc := 37) hX rfl (Nat.le_of_ble_eq_true rfl) rfl dX5_linearAgrees_37 ?_
  refine zr_iconst (pc := 39) hX zci_0 dX5_linearAgrees_39 ?_
  refine zr_istore (pc := 40) hX rfl (Nat.le_of_ble_eq_true rfl) rfl dX5_linearAgrees_40 ?_
  obtain ⟨t7, gt7, h⟩ := bnd h
  have hJt7 : ∀ a, a = t7 → VW K (zMw am st b) sz 0 0 105 [(0, .ref am), (1, .int p0), (5, .int a.1), (6, .int a.2)] [] := by
    intro a ea
    rw [ea]
    refine zr_iload (pc := 105) hX 2 rfl dX5_linearAgrees_105 ?_
    refine zr_aload_n (pc := 107) hX 0 rfl rfl dX5_linearAgrees_107 ?_
    refine zr_mgetA (pc := 108) hX 20 rfl rfl q1758 dX5_linearAgrees_108 ?_
    refine zr_iload_n (pc := 111) hX 1 rfl rfl dX5_linearAgrees_111 ?_
    obtain ⟨x8, gx8, h⟩ := bnd h
    refine zr_mald (pc := 112) hX 20 rfl rfl rfl gx8 dX5_linearAgrees_112 ?_
    refine zr_icmp_gt (pc := 113) hX 143 rfl dX5_linearAgrees_113 (fun c113_14 => ?_) (fun c113_14 => ?_)
    · rw [if_pos c113_14] at h
      refine zr_iconst (pc := 143) hX zci_0 dX5_linearAgrees_143 ?_
      obtain rfl := Option.some.inj h
      exact hret _ _ dX5_linearAgrees_144 (Or.inr ⟨rfl, Or.inl rfl⟩)
    · rw [if_neg c113_14] at h
      refine zr_aload_n (pc := 116) hX 0 rfl rfl dX5_linearAgrees_116 ?_
      refine zr_mgetA (pc := 117) hX 23 rfl rfl q1761 dX5_linearAgrees_117 ?_
      refine zr_bipush (pc := 120) hX zcb_6 dX5_linearAgrees_120 ?_
      refine zr_iload_n (pc := 122) hX 1 rfl rfl dX5_linearAgrees_122 ?_
      refine zr_imul (pc := 123) hX dX5_linearAgrees_123 ?_
      obtain ⟨x9, gx9, h⟩ := bnd h
      refine zr_maldZ (pc := 124) hX 23 rfl rfl rfl gx9 dX5_linearAgrees_124 ?_
      obtain ⟨u11, gu11, hAu11, hBu11⟩ := zesc_bnd h
      have hJt10 : ∀ a, u11 = .inl a → VW K (zMw am st b) sz 0 0 139 [] [] := by
        intro t10 ea
        have h := hAu11 _ ea
        refine zr_iconst (pc := 139) hX zci_1 dX5_linearAgrees_139 ?_
        refine zr_goto (pc := 140) hX 144 rfl dX5_linearAgrees_140 ?_
        obtain rfl := Option.some.inj h
        exact hret _ _ dX5_linearAgrees_144 (Or.inr ⟨rfl, Or.inr rfl⟩)
      replace h := gu11
      refine zr_if_eq (pc := 125) hX 139 rfl dX5_linearAgrees_125 (fun c125_13 => ?_) (fun c125_13 => ?_)
      · rw [if_pos c125_13] at h
        exact (hJt10 () (Option.some.inj h).symm).sub [] rfl
      · rw [if_neg c125_13] at h
        refine zr_aload_n (pc := 128) hX 0 rfl rfl dX5_linearAgrees_128 ?_
        refine zr_mgetA (pc := 129) hX 20 rfl rfl q1758 dX5_linearAgrees_129 ?_
        refine zr_iload_n (pc := 132) hX 1 rfl rfl dX5_linearAgrees_132 ?_
        obtain ⟨x12, gx12, h⟩ := bnd h
        refine zr_mald (pc := 133) hX 20 rfl rfl rfl gx12 dX5_linearAgrees_133 ?_
        refine zr_iload (pc := 134) hX 3 rfl dX5_linearAgrees_134 ?_
        refine zr_icmp_gt (pc := 136) hX 143 rfl dX5_linearAgrees_136 (fun c136_12 => ?_) (fun c136_12 => ?_)
        · rw [if_pos c136_12] at h
          refine zr_iconst (pc := 143) hX zci_0 dX5_linearAgrees_143 ?_
          replace h := congrArg some (hBu11 _ (Option.some.inj h).symm)
          obtain rfl := Option.some.inj h
          exact hret _ _ dX5_linearAgrees_144 (Or.inr ⟨rfl, Or.inl rfl⟩)
        · rw [if_neg c136_12] at h
          exact (hJt10 () (Option.some.inj h).symm).sub [] rfl
  refine VW.sub (lv' := [(0, .ref am), (1, .int p0), (2, .int p1), (5, .int x4), (6, .int x4), (7, .int (0 : Int32))]) ?_ [4, 5, 6, 2, 1, 0] rfl
  refine zloop_walk (V := (fun a => VW K (zMw am st b) sz 0 0 42 [(0, .ref am), (1, .int p0), (2, .int p1), (5, .int a.1), (6, .int a.2.1), (7, .int a.2.2)] [])) (E := fun e => e = t7) ?_ n (x4, x4, (0 : Int32)) _ gt7 rfl
  intro a5 o6 h kco6 keo6
  unfold fX5_linearAgrees_L42 at h
  refine zr_iload (pc := 42) hX 5 rfl dX5_linearAgrees_42 ?_
  refine zr_aload_n (pc := 44) hX 0 rfl rfl dX5_linearAgrees_44 ?_
  refine zr_mgetA (pc := 45) hX 17 rfl rfl q1755 dX5_linearAgrees_45 ?_
  refine zr_iload_n (pc := 48) hX 1 rfl rfl dX5_linearAgrees_48 ?_
  obtain ⟨x16, gx16, h⟩ := bnd h
  refine zr_mald (pc := 49) hX 17 rfl rfl rfl gx16 dX5_linearAgrees_49 ?_
  refine zr_icmp_ge (pc := 50) hX 105 rfl dX5_linearAgrees_50 (fun c50_25 => ?_) (fun c50_25 => ?_)
  · rw [if_pos c50_25] at h
    exact (hJt7 (a5.1, a5.2.1) (keo6 _ (Option.some.inj h).symm)).sub [0, 1, 3, 4] rfl
  · rw [if_neg c50_25] at h
    refine zr_iload (pc := 53) hX 3 rfl dX5_linearAgrees_53 ?_
    refine zr_iload (pc := 55) hX 5 rfl dX5_linearAgrees_55 ?_
    refine zr_iload_n (pc := 57) hX 2 rfl rfl dX5_linearAgrees_57 ?_
    obtain ⟨t17, gt17, h⟩ := bnd h
    have hJt17 : ∀ a, t17 = a → VW K (zMw am st b) sz 0 0 73 [(0, .ref am), (1, .int p0), (2, .int p1), (6, .int a5.2.1), (7, .int a5.2.2)] [.int a, .int a5.1] := by
      intro a ea
      subst ea
      refine zr_iadd (pc := 73) hX dX5_linearAgrees_73 ?_
      obtain ⟨x18, gx18, h⟩ := bnd h
      refine zr_istore (pc := 74) hX (Option.some.inj gx18) (Nat.le_of_ble_eq_true rfl) rfl dX5_linearAgrees_74 ?_
      refine zr_iload (pc := 76) hX 4 rfl dX5_linearAgrees_76 ?_
      refine zr_iload (pc := 78) hX 5 rfl dX5_linearAgrees_78 ?_
      refine zr_iload_n (pc := 80) hX 3 rfl rfl dX5_linearAgrees_80 ?_
      obtain ⟨t19, gt19, h⟩ := bnd h
      have hJt19 : ∀ a, t19 = a → VW K (zMw am st b) sz 0 0 96 [(0, .ref am), (1, .int p0), (2, .int p1), (5, .int x18), (7, .int a5.2.2)] [.int a, .int a5.2.1] := by
        intro a ea
        subst ea
        refine zr_iadd (pc := 96) hX dX5_linearAgrees_96 ?_
        obtain ⟨x20, gx20, h⟩ := bnd h
        refine zr_istore (pc := 97) hX (Option.some.inj gx20) (Nat.le_of_ble_eq_true rfl) rfl dX5_linearAgrees_97 ?_
        obtain ⟨x21, gx21, h⟩ := bnd h
        refine zr_iinc (pc := 99) hX 5 rfl zci_1 (Option.some.inj gx21) (Nat.le_of_ble_eq_true rfl) rfl dX5_linearAgrees_99 ?_
        refine zr_goto (pc := 102) hX 42 rfl dX5_linearAgrees_102 ?_
        exact (kco6 (x18, x20, x21) (Option.some.inj h).symm).sub [2, 3, 4, 5, 1, 0] rfl
      replace h := gt19
      refine zr_icmp_ne (pc := 81) hX 88 rfl dX5_linearAgrees_81 (fun c81_22 => ?_) (fun c81_22 => ?_)
      · rw [if_neg c81_22] at h
        refine zr_aload_n (pc := 88) hX 1 rfl rfl dX5_linearAgrees_88 ?_
        refine zr_iload_n (pc := 89) hX 2 rfl rfl dX5_linearAgrees_89 ?_
        refine zr_iload (pc := 90) hX 5 rfl dX5_linearAgrees_90 ?_
        refine zr_iconst (pc := 92) hX zci_1 dX5_linearAgrees_92 ?_
        obtain ⟨t22, gt22, h⟩ := bnd h
        refine zr_callV (pc := 93) (stk' := [.int t22, .int a5.2.1]) (k' := 0) (n' := 0) hX (fun l s0 D => mX5_most l s0 D gt22) (zMw_obj _ _ _) (ci := 4) rfl zwX5_most q2167 q2169 qs76 rfl rfl rfl rfl rfl rfl rfl rfl rfl dX5_linearAgrees_93 ?_
        exact (hJt19 t22 (Option.some.inj h).symm).sub [1, 2, 3, 0, 5] rfl
      · rw [if_pos c81_22] at h
        refine zr_iconst (pc := 84) hX zci_0 dX5_linearAgrees_84 ?_
        refine zr_goto (pc := 85) hX 96 rfl dX5_linearAgrees_85 ?_
        exact (hJt19 (0 : Int32) (Option.some.inj h).symm).sub [1, 2, 3, 0, 5] rfl
    replace h := gt17
    refine zr_icmp_ne (pc := 58) hX 65 rfl dX5_linearAgrees_58 (fun c58_24 => ?_) (fun c58_24 => ?_)
    · rw [if_neg c58_24] at h
      refine zr_aload_n (pc := 65) hX 0 rfl rfl dX5_linearAgrees_65 ?_
      refine zr_iload_n (pc := 66) hX 1 rfl rfl dX5_linearAgrees_66 ?_
      refine zr_iload (pc := 67) hX 5 rfl dX5_linearAgrees_67 ?_
      refine zr_iconst (pc := 69) hX zci_0 dX5_linearAgrees_69 ?_
      obtain ⟨t24, gt24, h⟩ := bnd h
      refine zr_callV (pc := 70) (stk' := [.int t24, .int a5.1]) (k' := 0) (n' := 0) hX (fun l s0 D => mX5_most l s0 D gt24) (zMw_obj _ _ _) (ci := 4) rfl zwX5_most q2167 q2169 qs76 rfl rfl rfl rfl rfl rfl rfl rfl rfl dX5_linearAgrees_70 ?_
      exact (hJt17 t24 (Option.some.inj h).symm).sub [0, 1, 2, 4, 5] rfl
    · rw [if_pos c58_24] at h
      refine zr_iconst (pc := 61) hX zci_0 dX5_linearAgrees_61 ?_
      refine zr_goto (pc := 62) hX 73 rfl dX5_linearAgrees_62 ?_
      exact (hJt17 (0 : Int32) (Option.some.inj h).symm).sub [0, 1, 2, 4, 5] rfl
set_option maxHeartbeats 4000000 in
theorem mX5_supports (l : Launch) (s0 : State) (D : zD) {am : Nat} {st : zMS} {b : zH} {sz : Nat} {p0 : Int32} {p1 : Int32} {p2 : Int32} {o : zMS} (h : fX5_supports st p0 p1 p2 = some o) : zM l s0 D yX5_supports cX5_supports 4 none 1 0 0 0 [.ref am, .int p0, .int p1, .int p2] (zMw am st b) sz (zMw am o b) sz none := by
  refine zenter (own := RX5) zplX5 rfl (Nat.le_of_ble_eq_true rfl) rfl (fun K hX hnm hret => ?_)
  unfold fX5_supports at h
  show VW K (zMw am st b) sz 0 0 0 [(0, .ref am), (1, .int p0), (2, .int p1), (3, .int p2)] []
  refine zr_aload_n (pc := 0) hX 0 rfl rfl dX5_supports_0 ?_
  refine zr_mgetA (pc := 1) hX 41 rfl rfl q1779 dX5_supports_1 ?_
  refine zr_bipush (pc := 4) hX zcb_8 dX5_supports_4 ?_
  refine zr_iload_n (pc := 6) hX 1 rfl rfl dX5_supports_6 ?_
  refine zr_imul (pc := 7) hX dX5_supports_7 ?_
  refine zr_iload_n (pc := 8) hX 2 rfl rfl dX5_supports_8 ?_
  refine zr_iadd (pc := 9) hX dX5_supports_9 ?_
  refine zr_dup2 (pc := 10) hX rfl rfl dX5_supports_10 ?_
  obtain ⟨x1, gx1, h⟩ := bnd h
  refine zr_mald (pc := 11) hX 41 rfl rfl rfl gx1 dX5_supports_11 ?_
  refine zr_iconst (pc := 12) hX zci_1 dX5_supports_12 ?_
  refine zr_iload_n (pc := 13) hX 3 rfl rfl dX5_supports_13 ?_
  refine zr_ishl (pc := 14) hX dX5_supports_14 ?_
  refine zr_ior (pc := 15) hX dX5_supports_15 ?_
  obtain ⟨st2, gst2, h⟩ := bnd h
  refine zr_mast (pc := 16) hX 41 rfl rfl rfl gst2 dX5_supports_16 ?_
  obtain rfl := Option.some.inj h
  exact hret _ _ dX5_supports_17
set_option maxHeartbeats 4000000 in
theorem mX5_byLinear (l : Launch) (s0 : State) (D : zD) {n : Nat} {am : Nat} {st : zMS} {b : zH} {sz : Nat} {p0 : Int32} {o : zMS} (h : fX5_byLinear n st p0 = some o) : zM l s0 D yX5_byLinear cX5_byLinear 5 none 5 95 0 0 [.ref am, .int p0] (zMw am st b) sz (zMw am o b) sz none := by
  refine zenter (own := RX5) zplX5 rfl (Nat.le_of_ble_eq_true rfl) rfl (fun K hX hnm hret => ?_)
  unfold fX5_byLinear at h
  show VW K (zMw am st b) sz 0 0 0 [(0, .ref am), (1, .int p0)] []
  refine zr_iconst (pc := 0) hX zci_0 dX5_byLinear_0 ?_
  refine zr_istore_n (pc := 1) hX rfl rfl (Nat.le_of_ble_eq_true rfl) rfl dX5_byLinear_1 ?_
  refine VW.sub (lv' := [(0, .ref am), (1, .int p0), (2, .int (0 : Int32))]) ?_ [1, 2, 0] rfl
  refine zloop_walk (V := (fun a => VW K (zMw am a.1 b) sz 0 0 2 [(0, .ref am), (1, .int p0), (2, .int a.2)] [])) (E := fun e => e = o) ?_ n (st, (0 : Int32)) _ h rfl
  intro a1 o2 h kco2 keo2
  unfold fX5_byLinear_L2 at h
  refine zr_iload_n (pc := 2) hX 2 rfl rfl dX5_byLinear_2 ?_
  refine zr_aload_n (pc := 3) hX 0 rfl rfl dX5_byLinear_3 ?_
  refine zr_mgetA (pc := 4) hX 17 rfl rfl q1755 dX5_byLinear_4 ?_
  refine zr_iload_n (pc := 7) hX 1 rfl rfl dX5_byLinear_7 ?_
  obtain ⟨x3, gx3, h⟩ := bnd h
  refine zr_mald (pc := 8) hX 17 rfl rfl rfl gx3 dX5_byLinear_8 ?_
  refine zr_icmp_ge (pc := 9) hX 88 rfl dX5_byLinear_9 (fun c9_19 => ?_) (fun c9_19 => ?_)
  · rw [if_pos c9_19] at h
    replace h := congrArg some (keo2 _ (Option.some.inj h).symm)
    obtain rfl := Option.some.inj h
    exact hret _ _ dX5_byLinear_88
  · rw [if_neg c9_19] at h
    refine zr_aload_n (pc := 12) hX 0 rfl rfl dX5_byLinear_12 ?_
    refine zr_mgetA (pc := 13) hX 18 rfl rfl q1756 dX5_byLinear_13 ?_
    refine zr_bipush (pc := 16) hX zcb_8 dX5_byLinear_16 ?_
    refine zr_iload_n (pc := 18) hX 1 rfl rfl dX5_byLinear_18 ?_
    refine zr_imul (pc := 19) hX dX5_byLinear_19 ?_
    refine zr_iload_n (pc := 20) hX 2 rfl rfl dX5_byLinear_20 ?_
    refine zr_iadd (pc := 21) hX dX5_byLinear_21 ?_
    obtain ⟨x4, gx4, h⟩ := bnd h
    refine zr_mald (pc := 22) hX 18 rfl rfl rfl gx4 dX5_byLinear_22 ?_
    refine zr_istore_n (pc := 23) hX rfl rfl (Nat.le_of_ble_eq_true rfl) rfl dX5_byLinear_23 ?_
    refine zr_iconst (pc := 24) hX zci_0 dX5_byLinear_24 ?_
    refine zr_istore (pc := 25) hX rfl (Nat.le_of_ble_eq_true rfl) rfl dX5_byLinear_25 ?_
    obtain ⟨t7, gt7, h⟩ := bnd h
    have hJt7 : ∀ a, a = t7 → VW K (zMw am a b) sz 0 0 82 [(0, .ref am), (1, .int p0), (2, .int a1.2)] [] := by
      intro a ea
      rw [ea]
      obtain ⟨x8, gx8, h⟩ := bnd h
      refine zr_iinc (pc := 82) hX 2 rfl zci_1 (Option.some.inj gx8) (Nat.le_of_ble_eq_true rfl) rfl dX5_byLinear_82 ?_
      refine zr_goto (pc := 85) hX 2 rfl dX5_byLinear_85 ?_
      exact (kco2 (t7, x8) (Option.some.inj h).symm).sub [1, 2, 0] rfl
    refine VW.sub (lv' := [(0, .ref am), (1, .int p0), (2, .int a1.2), (3, .int x4), (4, .int (0 : Int32))]) ?_ [2, 3, 4, 1, 0] rfl
    refine zloop_walk (V := (fun a => VW K (zMw am a.1 b) sz 0 0 27 [(0, .ref am), (1, .int p0), (2, .int a1.2), (3, .int x4), (4, .int a.2)] [])) (E := fun e => e = t7) ?_ n (a1.1, (0 : Int32)) _ gt7 rfl
    intro a5 o6 h kco6 keo6
    unfold fX5_byLinear_L27 at h
    refine zr_iload (pc := 27) hX 4 rfl dX5_byLinear_27 ?_
    refine zr_bipush (pc := 29) hX zcb_16 dX5_byLinear_29 ?_
    refine zr_icmp_ge (pc := 31) hX 82 rfl dX5_byLinear_31 (fun c31_18 => ?_) (fun c31_18 => ?_)
    · rw [if_pos c31_18] at h
      exact (hJt7 a5.1 (keo6 _ (Option.some.inj h).symm)).sub [0, 1, 2] rfl
    · rw [if_neg c31_18] at h
      refine zr_aload_n (pc := 34) hX 0 rfl rfl dX5_byLinear_34 ?_
      refine zr_mgetA (pc := 35) hX 1 rfl rfl q1739 dX5_byLinear_35 ?_
      refine zr_iload_n (pc := 38) hX 3 rfl rfl dX5_byLinear_38 ?_
      obtain ⟨x9, gx9, h⟩ := bnd h
      refine zr_mald (pc := 39) hX 1 rfl rfl rfl gx9 dX5_byLinear_39 ?_
      refine zr_if_ne (pc := 40) hX 82 rfl dX5_byLinear_40 (fun c40_17 => ?_) (fun c40_17 => ?_)
      · rw [if_neg c40_17] at h
        exact (hJt7 a5.1 (keo6 _ (Option.some.inj h).symm)).sub [0, 1, 2] rfl
      · rw [if_pos c40_17] at h
        refine zr_aload_n (pc := 43) hX 0 rfl rfl dX5_byLinear_43 ?_
        refine zr_mgetA (pc := 44) hX 34 rfl rfl q1772 dX5_byLinear_44 ?_
        refine zr_iload_n (pc := 47) hX 3 rfl rfl dX5_byLinear_47 ?_
        obtain ⟨x10, gx10, h⟩ := bnd h
        refine zr_mald (pc := 48) hX 34 rfl rfl rfl gx10 dX5_byLinear_48 ?_
        refine zr_iload (pc := 49) hX 4 rfl dX5_byLinear_49 ?_
        obtain ⟨t11, gt11, h⟩ := bnd h
        refine zr_callS (pc := 51) (stk' := [.int t11]) (k' := 0) (n' := 0) hX (fun l s0 D => mX5_hasBit l s0 D gt11) zwX5_hasBit q2156 q2157 rfl rfl rfl rfl rfl rfl rfl rfl dX5_byLinear_51 ?_
        obtain ⟨t12, gt12, h⟩ := bnd h
        have hJt12 : ∀ a, t12 = a → VW K (zMw am a b) sz 0 0 76 [(0, .ref am), (1, .int p0), (2, .int a1.2), (3, .int x4), (4, .int a5.2)] [] := by
          intro a ea
          subst ea
          obtain ⟨x13, gx13, h⟩ := bnd h
          refine zr_iinc (pc := 76) hX 4 rfl zci_1 (Option.some.inj gx13) (Nat.le_of_ble_eq_true rfl) rfl dX5_byLinear_76 ?_
          refine zr_goto (pc := 79) hX 27 rfl dX5_byLinear_79 ?_
          exact (kco6 (t12, x13) (Option.some.inj h).symm).sub [1, 2, 3, 4, 0] rfl
        replace h := gt12
        refine zr_if_eq (pc := 54) hX 76 rfl dX5_byLinear_54 (fun c54_16 => ?_) (fun c54_16 => ?_)
        · rw [if_pos c54_16] at h
          exact (hJt12 a5.1 (Option.some.inj h).symm).sub [0, 1, 2, 3, 4] rfl
        · rw [if_neg c54_16] at h
          refine zr_aload_n (pc := 57) hX 0 rfl rfl dX5_byLinear_57 ?_
          refine zr_iload_n (pc := 58) hX 1 rfl rfl dX5_byLinear_58 ?_
          refine zr_iload_n (pc := 59) hX 2 rfl rfl dX5_byLinear_59 ?_
          refine zr_iload (pc := 60) hX 4 rfl dX5_byLinear_60 ?_
          obtain ⟨t14, gt14, h⟩ := bnd h
          refine zr_callV (pc := 62) (stk' := [.int t14]) (k' := 0) (n' := 0) hX (fun l s0 D => mX5_linearAgrees l s0 D gt14) (zMw_obj _ _ _) (ci := 4) rfl zwX5_linearAgrees q2159 q2161 qs74 rfl rfl rfl rfl rfl rfl rfl rfl rfl dX5_byLinear_62 ?_
          refine zr_if_eq (pc := 65) hX 76 rfl dX5_byLinear_65 (fun c65_15 => ?_) (fun c65_15 => ?_)
          · rw [if_pos c65_15] at h
            exact (hJt12 a5.1 (Option.some.inj h).symm).sub [0, 1, 2, 3, 4] rfl
          · rw [if_neg c65_15] at h
            refine zr_aload_n (pc := 68) hX 0 rfl rfl dX5_byLinear_68 ?_
            refine zr_iload_n (pc := 69) hX 1 rfl rfl dX5_byLinear_69 ?_
            refine zr_iload_n (pc := 70) hX 2 rfl rfl dX5_byLinear_70 ?_
            refine zr_iload (pc := 71) hX 4 rfl dX5_byLinear_71 ?_
            obtain ⟨t15, gt15, h⟩ := bnd h
            refine zr_callV (pc := 73) (stk' := []) (k' := 0) (n' := 0) hX (fun l s0 D => mX5_supports l s0 D gt15) (zMw_obj _ _ _) (ci := 4) rfl zwX5_supports q2181 q2183 qs78 rfl rfl rfl rfl rfl rfl rfl rfl rfl dX5_byLinear_73 ?_
            exact (hJt12 t15 (Option.some.inj h).symm).sub [0, 1, 2, 3, 4] rfl
set_option maxHeartbeats 4000000 in
theorem mX5_domainAt (l : Launch) (s0 : State) (D : zD) {am : Nat} {st : zMS} {b : zH} {sz : Nat} {p0 : Int32} {p1 : Int32} {o : Int32} (h : fX5_domainAt st p0 p1 = some o) : zM l s0 D yX5_domainAt cX5_domainAt 3 (some .int) 1 0 0 0 [.ref am, .int p0, .int p1] (zMw am st b) sz (zMw am st b) sz (some (.int o)) := by
  refine zenter (own := RX5) zplX5 rfl (Nat.le_of_ble_eq_true rfl) trivial (fun K hX hnm hret => ?_)
  unfold fX5_domainAt at h
  show VW K (zMw am st b) sz 0 0 0 [(0, .ref am), (1, .int p0), (2, .int p1)] []
  refine zr_aload_n (pc := 0) hX 0 rfl rfl dX5_domainAt_0 ?_
  refine zr_mgetA (pc := 1) hX 34 rfl rfl q1772 dX5_domainAt_1 ?_
  refine zr_aload_n (pc := 4) hX 0 rfl rfl dX5_domainAt_4 ?_
  refine zr_mgetA (pc := 5) hX 18 rfl rfl q1756 dX5_domainAt_5 ?_
  refine zr_bipush (pc := 8) hX zcb_8 dX5_domainAt_8 ?_
  refine zr_iload_n (pc := 10) hX 1 rfl rfl dX5_domainAt_10 ?_
  refine zr_imul (pc := 11) hX dX5_domainAt_11 ?_
  refine zr_iload_n (pc := 12) hX 2 rfl rfl dX5_domainAt_12 ?_
  refine zr_iadd (pc := 13) hX dX5_domainAt_13 ?_
  obtain ⟨x1, gx1, h⟩ := bnd h
  refine zr_mald (pc := 14) hX 18 rfl rfl rfl gx1 dX5_domainAt_14 ?_
  obtain ⟨x2, gx2, h⟩ := bnd h
  refine zr_mald (pc := 15) hX 34 rfl rfl rfl gx2 dX5_domainAt_15 ?_
  obtain rfl := Option.some.inj h
  exact hret _ _ dX5_domainAt_16 (Or.inl rfl)
set_option maxHeartbeats 4000000 in
theorem mX5_count (l : Launch) (s0 : State) (D : zD) {n : Nat} {σ : zH} {sz : Nat} {p0 : Int32} {o : Int32} (h : fX5_count n p0 = some o) : zM l s0 D yX5_count cX5_count 3 (some .int) 1 0 0 0 [.int p0] σ sz σ sz (some (.int o)) := by
  refine zenter (own := RX5) zplX5 rfl (Nat.le_of_ble_eq_true rfl) trivial (fun K hX hnm hret => ?_)
  unfold fX5_count at h
  show VW K σ sz 0 0 0 [(0, .int p0)] []
  refine zr_iconst (pc := 0) hX zci_0 dX5_count_0 ?_
  refine zr_istore_n (pc := 1) hX rfl rfl (Nat.le_of_ble_eq_true rfl) rfl dX5_count_1 ?_
  refine zr_iconst (pc := 2) hX zci_0 dX5_count_2 ?_
  refine zr_istore_n (pc := 3) hX rfl rfl (Nat.le_of_ble_eq_true rfl) rfl dX5_count_3 ?_
  refine VW.sub (lv' := [(0, .int p0), (1, .int (0 : Int32)), (2, .int (0 : Int32))]) ?_ [2, 1, 0] rfl
  refine zloop_walk (V := (fun a => VW K σ sz 0 0 4 [(0, .int p0), (1, .int a.1), (2, .int a.2)] [])) (E := fun e => e = o) ?_ n ((0 : Int32), (0 : Int32)) _ h rfl
  intro a1 o2 h kco2 keo2
  unfold fX5_count_L4 at h
  refine zr_iload_n (pc := 4) hX 2 rfl rfl dX5_count_4 ?_
  refine zr_bipush (pc := 5) hX zcb_32 dX5_count_5 ?_
  refine zr_icmp_ge (pc := 7) hX 24 rfl dX5_count_7 (fun c7_4 => ?_) (fun c7_4 => ?_)
  · rw [if_pos c7_4] at h
    refine zr_iload_n (pc := 24) hX 1 rfl rfl dX5_count_24 ?_
    replace h := congrArg some (keo2 _ (Option.some.inj h).symm)
    obtain rfl := Option.some.inj h
    exact hret _ _ dX5_count_25 (Or.inl rfl)
  · rw [if_neg c7_4] at h
    refine zr_iload_n (pc := 10) hX 1 rfl rfl dX5_count_10 ?_
    refine zr_iload_n (pc := 11) hX 0 rfl rfl dX5_count_11 ?_
    refine zr_iload_n (pc := 12) hX 2 rfl rfl dX5_count_12 ?_
    refine zr_iushr (pc := 13) hX dX5_count_13 ?_
    refine zr_iconst (pc := 14) hX zci_1 dX5_count_14 ?_
    refine zr_iand (pc := 15) hX dX5_count_15 ?_
    refine zr_iadd (pc := 16) hX dX5_count_16 ?_
    obtain ⟨x3, gx3, h⟩ := bnd h
    refine zr_istore_n (pc := 17) hX (Option.some.inj gx3) rfl (Nat.le_of_ble_eq_true rfl) rfl dX5_count_17 ?_
    obtain ⟨x4, gx4, h⟩ := bnd h
    refine zr_iinc (pc := 18) hX 2 rfl zci_1 (Option.some.inj gx4) (Nat.le_of_ble_eq_true rfl) rfl dX5_count_18 ?_
    refine zr_goto (pc := 21) hX 4 rfl dX5_count_21 ?_
    exact (kco2 (x3, x4) (Option.some.inj h).symm).sub [2, 1, 0] rfl
set_option maxHeartbeats 4000000 in
theorem mX5_canDiffer (l : Launch) (s0 : State) (D : zD) {n : Nat} {am : Nat} {st : zMS} {b : zH} {sz : Nat} {p0 : Int32} {p1 : Int32} {p2 : Int32} {o : Int32} (h : fX5_canDiffer n st p0 p1 p2 = some o) : zM l s0 D yX5_canDiffer cX5_canDiffer 8 (some .boolean) 2 22 0 0 [.ref am, .int p0, .int p1, .int p2] (zMw am st b) sz (zMw am st b) sz (some (.int o)) := by
  refine zenter (own := RX5) zplX5 rfl (Nat.le_of_ble_eq_true rfl) trivial (fun K hX hnm hret => ?_)
  unfold fX5_canDiffer at h
  show VW K (zMw am st b) sz 0 0 0 [(0, .ref am), (1, .int p0), (2, .int p1), (3, .int p2)] []
  refine zr_iconst (pc := 0) hX zci_1 dX5_canDiffer_0 ?_
  refine zr_istore (pc := 1) hX rfl (Nat.le_of_ble_eq_true rfl) rfl dX5_canDiffer_1 ?_
  refine zr_iload_n (pc := 3) hX 3 rfl rfl dX5_canDiffer_3 ?_
  refine zr_istore (pc := 4) hX rfl (Nat.le_of_ble_eq_true rfl) rfl dX5_canDiffer_4 ?_
  refine VW.sub (lv' := [(0, .ref am), (1, .int p0), (2, .int p1), (3, .int p2), (4, .int (1 : Int32)), (5, .int p1)]) ?_ [2, 3, 4, 5, 1, 0] rfl
  refine zloop_walk (V := (fun a => VW K (zMw am st b) sz 0 0 6 [(0, .ref am), (1, .int p0), (2, .int p1), (3, .int p2), (4, .int a.1), (5, .int a.2)] [])) (E := fun e => e = o) ?_ n ((1 : Int32), p1) _ h rfl
  intro a1 o2 h kco2 keo2
  unfold fX5_canDiffer_L6 at h
  refine zr_iload (pc := 6) hX 5 rfl dX5_canDiffer_6 ?_
  refine zr_if_le (pc := 8) hX 103 rfl dX5_canDiffer_8 (fun c8_20 => ?_) (fun c8_20 => ?_)
  · rw [if_pos c8_20] at h
    refine zr_iload (pc := 103) hX 4 rfl dX5_canDiffer_103 ?_
    obtain ⟨x3, gx3, h⟩ := bnd h
    rw [(zq_spec gx3).1] at h
    replace h := congrArg some (keo2 _ (Option.some.inj h).symm)
    obtain rfl := Option.some.inj h
    exact hret _ _ dX5_canDiffer_105 (Or.inr ⟨rfl, (zq_spec gx3).2⟩)
  · rw [if_neg c8_20] at h
    refine zr_iload (pc := 11) hX 4 rfl dX5_canDiffer_11 ?_
    refine zr_if_eq (pc := 13) hX 103 rfl dX5_canDiffer_13 (fun c13_19 => ?_) (fun c13_19 => ?_)
    · rw [if_pos c13_19] at h
      refine zr_iload (pc := 103) hX 4 rfl dX5_canDiffer_103 ?_
      obtain ⟨x4, gx4, h⟩ := bnd h
      rw [(zq_spec gx4).1] at h
      replace h := congrArg some (keo2 _ (Option.some.inj h).symm)
      obtain rfl := Option.some.inj h
      exact hret _ _ dX5_canDiffer_105 (Or.inr ⟨rfl, (zq_spec gx4).2⟩)
    · rw [if_neg c13_19] at h
      refine zr_iconst (pc := 16) hX zci_0 dX5_canDiffer_16 ?_
      refine zr_istore (pc := 17) hX rfl (Nat.le_of_ble_eq_true rfl) rfl dX5_canDiffer_17 ?_
      refine zr_iconst (pc := 19) hX zci_0 dX5_canDiffer_19 ?_
      refine zr_istore (pc := 20) hX rfl (Nat.le_of_ble_eq_true rfl) rfl dX5_canDiffer_20 ?_
      obtain ⟨t7, gt7, h⟩ := bnd h
      have hJt7 : ∀ a, a = t7 → VW K (zMw am st b) sz 0 0 66 [(0, .ref am), (1, .int p0), (2, .int p1), (3, .int p2), (5, .int a1.2), (6, .int a)] [] := by
        intro a ea
        rw [ea]
        refine zr_iload (pc := 66) hX 5 rfl dX5_canDiffer_66 ?_
        refine zr_iconst (pc := 68) hX zci_1 dX5_canDiffer_68 ?_
        refine zr_iload_n (pc := 69) hX 3 rfl rfl dX5_canDiffer_69 ?_
        refine zr_ishl (pc := 70) hX dX5_canDiffer_70 ?_
        refine zr_iconst (pc := 71) hX zci_m1 dX5_canDiffer_71 ?_
        refine zr_ixor (pc := 72) hX dX5_canDiffer_72 ?_
        refine zr_iand (pc := 73) hX dX5_canDiffer_73 ?_
        obtain ⟨t8, gt8, h⟩ := bnd h
        refine zr_callS (pc := 74) (stk' := [.int t8]) (k' := 0) (n' := 0) hX (fun l s0 D => mX5_count l s0 D gt8) zwX5_count q2197 q2198 rfl rfl rfl rfl rfl rfl rfl rfl dX5_canDiffer_74 ?_
        refine zr_iload (pc := 77) hX 4 rfl dX5_canDiffer_77 ?_
        obtain ⟨t9, gt9, h⟩ := bnd h
        refine zr_callS (pc := 79) (stk' := [.int t9, .int t8]) (k' := 0) (n' := 0) hX (fun l s0 D => mX5_count l s0 D gt9) zwX5_count q2197 q2198 rfl rfl rfl rfl rfl rfl rfl rfl dX5_canDiffer_79 ?_
        obtain ⟨t10, gt10, h⟩ := bnd h
        have hJt10 : ∀ a, t10 = a → VW K (zMw am st b) sz 0 0 90 [(0, .ref am), (1, .int p0), (2, .int p1), (3, .int p2), (5, .int a1.2)] [.int a] := by
          intro a ea
          subst ea
          refine zr_istore (pc := 90) hX rfl (Nat.le_of_ble_eq_true rfl) rfl dX5_canDiffer_90 ?_
          refine zr_iload (pc := 92) hX 5 rfl dX5_canDiffer_92 ?_
          refine zr_iconst (pc := 94) hX zci_1 dX5_canDiffer_94 ?_
          refine zr_isub (pc := 95) hX dX5_canDiffer_95 ?_
          refine zr_iload_n (pc := 96) hX 3 rfl rfl dX5_canDiffer_96 ?_
          refine zr_iand (pc := 97) hX dX5_canDiffer_97 ?_
          obtain ⟨x11, gx11, h⟩ := bnd h
          refine zr_istore (pc := 98) hX (Option.some.inj gx11) (Nat.le_of_ble_eq_true rfl) rfl dX5_canDiffer_98 ?_
          refine zr_goto (pc := 100) hX 6 rfl dX5_canDiffer_100 ?_
          exact (kco2 (t10, x11) (Option.some.inj h).symm).sub [2, 3, 4, 5, 1, 0] rfl
        replace h := gt10
        refine zr_icmp_lt (pc := 82) hX 89 rfl dX5_canDiffer_82 (fun c82_11 => ?_) (fun c82_11 => ?_)
        · rw [if_pos c82_11] at h
          refine zr_iconst (pc := 89) hX zci_0 dX5_canDiffer_89 ?_
          exact (hJt10 (0 : Int32) (Option.some.inj h).symm).sub [0, 1, 2, 3, 4] rfl
        · rw [if_neg c82_11] at h
          refine zr_iconst (pc := 85) hX zci_1 dX5_canDiffer_85 ?_
          refine zr_goto (pc := 86) hX 90 rfl dX5_canDiffer_86 ?_
          exact (hJt10 (1 : Int32) (Option.some.inj h).symm).sub [0, 1, 2, 3, 4] rfl
      refine VW.sub (lv' := [(0, .ref am), (1, .int p0), (2, .int p1), (3, .int p2), (5, .int a1.2), (6, .int (0 : Int32)), (7, .int (0 : Int32))]) ?_ [2, 3, 4, 5, 7, 1, 0] rfl
      refine zloop_walk (V := (fun a => VW K (zMw am st b) sz 0 0 22 [(0, .ref am), (1, .int p0), (2, .int p1), (3, .int p2), (5, .int a1.2), (6, .int a.1), (7, .int a.2)] [])) (E := fun e => e = t7) ?_ n ((0 : Int32), (0 : Int32)) _ gt7 rfl
      intro a5 o6 h kco6 keo6
      unfold fX5_canDiffer_L22 at h
      refine zr_iload (pc := 22) hX 6 rfl dX5_canDiffer_22 ?_
      refine zr_aload_n (pc := 24) hX 0 rfl rfl dX5_canDiffer_24 ?_
      refine zr_mgetA (pc := 25) hX 17 rfl rfl q1755 dX5_canDiffer_25 ?_
      refine zr_iload_n (pc := 28) hX 1 rfl rfl dX5_canDiffer_28 ?_
      obtain ⟨x13, gx13, h⟩ := bnd h
      refine zr_mald (pc := 29) hX 17 rfl rfl rfl gx13 dX5_canDiffer_29 ?_
      refine zr_icmp_ge (pc := 30) hX 66 rfl dX5_canDiffer_30 (fun c30_18 => ?_) (fun c30_18 => ?_)
      · rw [if_pos c30_18] at h
        exact (hJt7 a5.1 (keo6 _ (Option.some.inj h).symm)).sub [0, 1, 2, 3, 4, 5] rfl
      · rw [if_neg c30_18] at h
        refine zr_iload (pc := 33) hX 5 rfl dX5_canDiffer_33 ?_
        refine zr_iload (pc := 35) hX 4 rfl dX5_canDiffer_35 ?_
        refine zr_iload (pc := 37) hX 6 rfl dX5_canDiffer_37 ?_
        refine zr_ishr (pc := 39) hX dX5_canDiffer_39 ?_
        refine zr_iconst (pc := 40) hX zci_1 dX5_canDiffer_40 ?_
        refine zr_iand (pc := 41) hX dX5_canDiffer_41 ?_
        refine zr_iconst (pc := 42) hX zci_1 dX5_canDiffer_42 ?_
        obtain ⟨t14, gt14, h⟩ := bnd h
        have hJt14 : ∀ a, t14 = a → VW K (zMw am st b) sz 0 0 57 [(0, .ref am), (1, .int p0), (2, .int p1), (3, .int p2), (5, .int a1.2), (7, .int a5.2)] [.int a, .int a5.1] := by
          intro a ea
          subst ea
          refine zr_ior (pc := 57) hX dX5_canDiffer_57 ?_
          obtain ⟨x15, gx15, h⟩ := bnd h
          refine zr_istore (pc := 58) hX (Option.some.inj gx15) (Nat.le_of_ble_eq_true rfl) rfl dX5_canDiffer_58 ?_
          obtain ⟨x16, gx16, h⟩ := bnd h
          refine zr_iinc (pc := 60) hX 6 rfl zci_1 (Option.some.inj gx16) (Nat.le_of_ble_eq_true rfl) rfl dX5_canDiffer_60 ?_
          refine zr_goto (pc := 63) hX 22 rfl dX5_canDiffer_63 ?_
          exact (kco6 (x15, x16) (Option.some.inj h).symm).sub [2, 3, 4, 5, 6, 1, 0] rfl
        replace h := gt14
        refine zr_icmp_ne (pc := 43) hX 56 rfl dX5_canDiffer_43 (fun c43_17 => ?_) (fun c43_17 => ?_)
        · rw [if_neg c43_17] at h
          refine zr_iconst (pc := 56) hX zci_0 dX5_canDiffer_56 ?_
          exact (hJt14 (0 : Int32) (Option.some.inj h).symm).sub [0, 1, 2, 3, 4, 6] rfl
        · rw [if_pos c43_17] at h
          refine zr_aload_n (pc := 46) hX 0 rfl rfl dX5_canDiffer_46 ?_
          refine zr_iload_n (pc := 47) hX 1 rfl rfl dX5_canDiffer_47 ?_
          refine zr_iload (pc := 48) hX 6 rfl dX5_canDiffer_48 ?_
          obtain ⟨t17, gt17, h⟩ := bnd h
          refine zr_callV (pc := 50) (stk' := [.int t17, .int a5.1]) (k' := 0) (n' := 0) hX (fun l s0 D => mX5_domainAt l s0 D gt17) (zMw_obj _ _ _) (ci := 4) rfl zwX5_domainAt q2189 q2191 qs80 rfl rfl rfl rfl rfl rfl rfl rfl rfl dX5_canDiffer_50 ?_
          refine zr_goto (pc := 53) hX 57 rfl dX5_canDiffer_53 ?_
          exact (hJt14 t17 (Option.some.inj h).symm).sub [0, 1, 2, 3, 4, 6] rfl
set_option maxHeartbeats 4000000 in
theorem mX5_byDifferent (l : Launch) (s0 : State) (D : zD) {n : Nat} {am : Nat} {st : zMS} {b : zH} {sz : Nat} {p0 : Int32} {o : zMS} (h : fX5_byDifferent n st p0 = some o) : zM l s0 D yX5_byDifferent cX5_byDifferent 4 none 3 49 0 0 [.ref am, .int p0] (zMw am st b) sz (zMw am o b) sz none := by
  refine zenter (own := RX5) zplX5 rfl (Nat.le_of_ble_eq_true rfl) rfl (fun K hX hnm hret => ?_)
  unfold fX5_byDifferent at h
  show VW K (zMw am st b) sz 0 0 0 [(0, .ref am), (1, .int p0)] []
  refine zr_iconst (pc := 0) hX zci_0 dX5_byDifferent_0 ?_
  refine zr_istore_n (pc := 1) hX rfl rfl (Nat.le_of_ble_eq_true rfl) rfl dX5_byDifferent_1 ?_
  refine VW.sub (lv' := [(0, .ref am), (1, .int p0), (2, .int (0 : Int32))]) ?_ [1, 2, 0] rfl
  refine zloop_walk (V := (fun a => VW K (zMw am a.1 b) sz 0 0 2 [(0, .ref am), (1, .int p0), (2, .int a.2)] [])) (E := fun e => e = o) ?_ n (st, (0 : Int32)) _ h rfl
  intro a1 o2 h kco2 keo2
  unfold fX5_byDifferent_L2 at h
  refine zr_iload_n (pc := 2) hX 2 rfl rfl dX5_byDifferent_2 ?_
  refine zr_aload_n (pc := 3) hX 0 rfl rfl dX5_byDifferent_3 ?_
  refine zr_mgetA (pc := 4) hX 17 rfl rfl q1755 dX5_byDifferent_4 ?_
  refine zr_iload_n (pc := 7) hX 1 rfl rfl dX5_byDifferent_7 ?_
  obtain ⟨x3, gx3, h⟩ := bnd h
  refine zr_mald (pc := 8) hX 17 rfl rfl rfl gx3 dX5_byDifferent_8 ?_
  refine zr_icmp_ge (pc := 9) hX 77 rfl dX5_byDifferent_9 (fun c9_17 => ?_) (fun c9_17 => ?_)
  · rw [if_pos c9_17] at h
    replace h := congrArg some (keo2 _ (Option.some.inj h).symm)
    obtain rfl := Option.some.inj h
    exact hret _ _ dX5_byDifferent_77
  · rw [if_neg c9_17] at h
    refine zr_iconst (pc := 12) hX zci_0 dX5_byDifferent_12 ?_
    refine zr_istore_n (pc := 13) hX rfl rfl (Nat.le_of_ble_eq_true rfl) rfl dX5_byDifferent_13 ?_
    obtain ⟨t6, gt6, h⟩ := bnd h
    have hJt6 : ∀ a, a = t6 → VW K (zMw am a b) sz 0 0 71 [(0, .ref am), (1, .int p0), (2, .int a1.2)] [] := by
      intro a ea
      rw [ea]
      obtain ⟨x7, gx7, h⟩ := bnd h
      refine zr_iinc (pc := 71) hX 2 rfl zci_1 (Option.some.inj gx7) (Nat.le_of_ble_eq_true rfl) rfl dX5_byDifferent_71 ?_
      refine zr_goto (pc := 74) hX 2 rfl dX5_byDifferent_74 ?_
      exact (kco2 (t6, x7) (Option.some.inj h).symm).sub [1, 2, 0] rfl
    refine VW.sub (lv' := [(0, .ref am), (1, .int p0), (2, .int a1.2), (3, .int (0 : Int32))]) ?_ [1, 2, 3, 0] rfl
    refine zloop_walk (V := (fun a => VW K (zMw am a.1 b) sz 0 0 14 [(0, .ref am), (1, .int p0), (2, .int a1.2), (3, .int a.2)] [])) (E := fun e => e = t6) ?_ n (a1.1, (0 : Int32)) _ gt6 rfl
    intro a4 o5 h kco5 keo5
    unfold fX5_byDifferent_L14 at h
    refine zr_iload_n (pc := 14) hX 3 rfl rfl dX5_byDifferent_14 ?_
    refine zr_bipush (pc := 15) hX zcb_16 dX5_byDifferent_15 ?_
    refine zr_icmp_ge (pc := 17) hX 71 rfl dX5_byDifferent_17 (fun c17_16 => ?_) (fun c17_16 => ?_)
    · rw [if_pos c17_16] at h
      exact (hJt6 a4.1 (keo5 _ (Option.some.inj h).symm)).sub [0, 1, 2] rfl
    · rw [if_neg c17_16] at h
      refine zr_aload_n (pc := 20) hX 0 rfl rfl dX5_byDifferent_20 ?_
      refine zr_iload_n (pc := 21) hX 1 rfl rfl dX5_byDifferent_21 ?_
      refine zr_iload_n (pc := 22) hX 2 rfl rfl dX5_byDifferent_22 ?_
      obtain ⟨t8, gt8, h⟩ := bnd h
      refine zr_callV (pc := 23) (stk' := [.int t8]) (k' := 0) (n' := 0) hX (fun l s0 D => mX5_domainAt l s0 D gt8) (zMw_obj _ _ _) (ci := 4) rfl zwX5_domainAt q2189 q2191 qs80 rfl rfl rfl rfl rfl rfl rfl rfl rfl dX5_byDifferent_23 ?_
      refine zr_iload_n (pc := 26) hX 3 rfl rfl dX5_byDifferent_26 ?_
      obtain ⟨t9, gt9, h⟩ := bnd h
      refine zr_callS (pc := 27) (stk' := [.int t9]) (k' := 0) (n' := 0) hX (fun l s0 D => mX5_hasBit l s0 D gt9) zwX5_hasBit q2156 q2157 rfl rfl rfl rfl rfl rfl rfl rfl dX5_byDifferent_27 ?_
      obtain ⟨t10, gt10, h⟩ := bnd h
      have hJt10 : ∀ a, t10 = a → VW K (zMw am a b) sz 0 0 65 [(0, .ref am), (1, .int p0), (2, .int a1.2), (3, .int a4.2)] [] := by
        intro a ea
        subst ea
        obtain ⟨x11, gx11, h⟩ := bnd h
        refine zr_iinc (pc := 65) hX 3 rfl zci_1 (Option.some.inj gx11) (Nat.le_of_ble_eq_true rfl) rfl dX5_byDifferent_65 ?_
        refine zr_goto (pc := 68) hX 14 rfl dX5_byDifferent_68 ?_
        exact (kco5 (t10, x11) (Option.some.inj h).symm).sub [1, 2, 3, 0] rfl
      replace h := gt10
      refine zr_if_eq (pc := 30) hX 65 rfl dX5_byDifferent_30 (fun c30_15 => ?_) (fun c30_15 => ?_)
      · rw [if_pos c30_15] at h
        exact (hJt10 a4.1 (Option.some.inj h).symm).sub [0, 1, 2, 3] rfl
      · rw [if_neg c30_15] at h
        refine zr_aload_n (pc := 33) hX 0 rfl rfl dX5_byDifferent_33 ?_
        refine zr_iload_n (pc := 34) hX 1 rfl rfl dX5_byDifferent_34 ?_
        refine zr_iconst (pc := 35) hX zci_1 dX5_byDifferent_35 ?_
        refine zr_aload_n (pc := 36) hX 0 rfl rfl dX5_byDifferent_36 ?_
        refine zr_mgetA (pc := 37) hX 17 rfl rfl q1755 dX5_byDifferent_37 ?_
        refine zr_iload_n (pc := 40) hX 1 rfl rfl dX5_byDifferent_40 ?_
        obtain ⟨x12, gx12, h⟩ := bnd h
        refine zr_mald (pc := 41) hX 17 rfl rfl rfl gx12 dX5_byDifferent_41 ?_
        refine zr_ishl (pc := 42) hX dX5_byDifferent_42 ?_
        refine zr_iconst (pc := 43) hX zci_1 dX5_byDifferent_43 ?_
        refine zr_isub (pc := 44) hX dX5_byDifferent_44 ?_
        refine zr_iconst (pc := 45) hX zci_1 dX5_byDifferent_45 ?_
        refine zr_iload_n (pc := 46) hX 2 rfl rfl dX5_byDifferent_46 ?_
        refine zr_ishl (pc := 47) hX dX5_byDifferent_47 ?_
        refine zr_iconst (pc := 48) hX zci_m1 dX5_byDifferent_48 ?_
        refine zr_ixor (pc := 49) hX dX5_byDifferent_49 ?_
        refine zr_iand (pc := 50) hX dX5_byDifferent_50 ?_
        refine zr_iload_n (pc := 51) hX 3 rfl rfl dX5_byDifferent_51 ?_
        obtain ⟨t13, gt13, h⟩ := bnd h
        refine zr_callV (pc := 52) (stk' := [.int t13]) (k' := 0) (n' := 0) hX (fun l s0 D => mX5_canDiffer l s0 D gt13) (zMw_obj _ _ _) (ci := 4) rfl zwX5_canDiffer q2193 q2195 qs81 rfl rfl rfl rfl rfl rfl rfl rfl rfl dX5_byDifferent_52 ?_
        refine zr_if_eq (pc := 55) hX 65 rfl dX5_byDifferent_55 (fun c55_14 => ?_) (fun c55_14 => ?_)
        · rw [if_pos c55_14] at h
          exact (hJt10 a4.1 (Option.some.inj h).symm).sub [0, 1, 2, 3] rfl
        · rw [if_neg c55_14] at h
          refine zr_aload_n (pc := 58) hX 0 rfl rfl dX5_byDifferent_58 ?_
          refine zr_iload_n (pc := 59) hX 1 rfl rfl dX5_byDifferent_59 ?_
          refine zr_iload_n (pc := 60) hX 2 rfl rfl dX5_byDifferent_60 ?_
          refine zr_iload_n (pc := 61) hX 3 rfl rfl dX5_byDifferent_61 ?_
          obtain ⟨t14, gt14, h⟩ := bnd h
          refine zr_callV (pc := 62) (stk' := []) (k' := 0) (n' := 0) hX (fun l s0 D => mX5_supports l s0 D gt14) (zMw_obj _ _ _) (ci := 4) rfl zwX5_supports q2181 q2183 qs78 rfl rfl rfl rfl rfl rfl rfl rfl rfl dX5_byDifferent_62 ?_
          exact (hJt10 t14 (Option.some.inj h).symm).sub [0, 1, 2, 3] rfl
set_option maxHeartbeats 4000000 in
theorem mX5_atLeast (l : Launch) (s0 : State) (D : zD) {σ : zH} {sz : Nat} {p0 : Int32} {p1 : Int32} {o : Int32} (h : fX5_atLeast p0 p1 = some o) : zM l s0 D yX5_atLeast cX5_atLeast 2 (some .int) 1 0 0 0 [.int p0, .int p1] σ sz σ sz (some (.int o)) := by
  refine zenter (own := RX5) zplX5 rfl (Nat.le_of_ble_eq_true rfl) trivial (fun K hX hnm hret => ?_)
  unfold fX5_atLeast at h
  show VW K σ sz 0 0 0 [(0, .int p0), (1, .int p1)] []
  refine zr_iload_n (pc := 0) hX 1 rfl rfl dX5_atLeast_0 ?_
  refine zr_bipush (pc := 1) hX zcb_31 dX5_atLeast_1 ?_
  refine zr_icmp_le (pc := 3) hX 10 rfl dX5_atLeast_3 (fun c3_1 => ?_) (fun c3_1 => ?_)
  · rw [if_pos c3_1] at h
    refine zr_iload_n (pc := 10) hX 1 rfl rfl dX5_atLeast_10 ?_
    refine zr_if_ge (pc := 11) hX 18 rfl dX5_atLeast_11 (fun c11_0 => ?_) (fun c11_0 => ?_)
    · rw [if_pos c11_0] at h
      refine zr_iload_n (pc := 18) hX 0 rfl rfl dX5_atLeast_18 ?_
      refine zr_iconst (pc := 19) hX zci_m1 dX5_atLeast_19 ?_
      refine zr_iload_n (pc := 20) hX 1 rfl rfl dX5_atLeast_20 ?_
      refine zr_ishl (pc := 21) hX dX5_atLeast_21 ?_
      refine zr_iand (pc := 22) hX dX5_atLeast_22 ?_
      obtain rfl := Option.some.inj h
      exact hret _ _ dX5_atLeast_23 (Or.inl rfl)
    · rw [if_neg c11_0] at h
      refine zr_iload_n (pc := 14) hX 0 rfl rfl dX5_atLeast_14 ?_
      refine zr_goto (pc := 15) hX 23 rfl dX5_atLeast_15 ?_
      obtain rfl := Option.some.inj h
      exact hret _ _ dX5_atLeast_23 (Or.inl rfl)
  · rw [if_neg c3_1] at h
    refine zr_iconst (pc := 6) hX zci_0 dX5_atLeast_6 ?_
    refine zr_goto (pc := 7) hX 23 rfl dX5_atLeast_7 ?_
    obtain rfl := Option.some.inj h
    exact hret _ _ dX5_atLeast_23 (Or.inl rfl)
set_option maxHeartbeats 4000000 in
theorem mX5_atMost (l : Launch) (s0 : State) (D : zD) {σ : zH} {sz : Nat} {p0 : Int32} {p1 : Int32} {o : Int32} (h : fX5_atMost p0 p1 = some o) : zM l s0 D yX5_atMost cX5_atMost 2 (some .int) 1 0 0 0 [.int p0, .int p1] σ sz σ sz (some (.int o)) := by
  refine zenter (own := RX5) zplX5 rfl (Nat.le_of_ble_eq_true rfl) trivial (fun K hX hnm hret => ?_)
  unfold fX5_atMost at h
  show VW K σ sz 0 0 0 [(0, .int p0), (1, .int p1)] []
  refine zr_iload_n (pc := 0) hX 1 rfl rfl dX5_atMost_0 ?_
  refine zr_if_ge (pc := 1) hX 8 rfl dX5_atMost_1 (fun c1_1 => ?_) (fun c1_1 => ?_)
  · rw [if_pos c1_1] at h
    refine zr_iload_n (pc := 8) hX 1 rfl rfl dX5_atMost_8 ?_
    refine zr_bipush (pc := 9) hX zcb_30 dX5_atMost_9 ?_
    refine zr_icmp_le (pc := 11) hX 18 rfl dX5_atMost_11 (fun c11_0 => ?_) (fun c11_0 => ?_)
    · rw [if_pos c11_0] at h
      refine zr_iload_n (pc := 18) hX 0 rfl rfl dX5_atMost_18 ?_
      refine zr_iconst (pc := 19) hX zci_1 dX5_atMost_19 ?_
      refine zr_iload_n (pc := 20) hX 1 rfl rfl dX5_atMost_20 ?_
      refine zr_iconst (pc := 21) hX zci_1 dX5_atMost_21 ?_
      refine zr_iadd (pc := 22) hX dX5_atMost_22 ?_
      refine zr_ishl (pc := 23) hX dX5_atMost_23 ?_
      refine zr_iconst (pc := 24) hX zci_1 dX5_atMost_24 ?_
      refine zr_isub (pc := 25) hX dX5_atMost_25 ?_
      refine zr_iand (pc := 26) hX dX5_atMost_26 ?_
      obtain rfl := Option.some.inj h
      exact hret _ _ dX5_atMost_27 (Or.inl rfl)
    · rw [if_neg c11_0] at h
      refine zr_iload_n (pc := 14) hX 0 rfl rfl dX5_atMost_14 ?_
      refine zr_goto (pc := 15) hX 27 rfl dX5_atMost_15 ?_
      obtain rfl := Option.some.inj h
      exact hret _ _ dX5_atMost_27 (Or.inl rfl)
  · rw [if_neg c1_1] at h
    refine zr_iconst (pc := 4) hX zci_0 dX5_atMost_4 ?_
    refine zr_goto (pc := 5) hX 27 rfl dX5_atMost_5 ?_
    obtain rfl := Option.some.inj h
    exact hret _ _ dX5_atMost_27 (Or.inl rfl)
set_option maxHeartbeats 4000000 in
theorem mX5_ordered (l : Launch) (s0 : State) (D : zD) {n : Nat} {am : Nat} {st : zMS} {b : zH} {sz : Nat} {p0 : Int32} {o : zMS} (h : fX5_ordered n st p0 = some o) : zM l s0 D yX5_ordered cX5_ordered 7 none 2 22 0 0 [.ref am, .int p0] (zMw am st b) sz (zMw am o b) sz none := by
  refine zenter (own := RX5) zplX5 rfl (Nat.le_of_ble_eq_true rfl) rfl (fun K hX hnm hret => ?_)
  unfold fX5_ordered at h
  show VW K (zMw am st b) sz 0 0 0 [(0, .ref am), (1, .int p0)] []
  refine zr_aload_n (pc := 0) hX 0 rfl rfl dX5_ordered_0 ?_
  refine zr_mgetA (pc := 1) hX 17 rfl rfl q1755 dX5_ordered_1 ?_
  refine zr_iload_n (pc := 4) hX 1 rfl rfl dX5_ordered_4 ?_
  obtain ⟨x1, gx1, h⟩ := bnd h
  refine zr_mald (pc := 5) hX 17 rfl rfl rfl gx1 dX5_ordered_5 ?_
  refine zr_istore_n (pc := 6) hX rfl rfl (Nat.le_of_ble_eq_true rfl) rfl dX5_ordered_6 ?_
  refine zr_iconst (pc := 7) hX zci_0 dX5_ordered_7 ?_
  refine zr_istore_n (pc := 8) hX rfl rfl (Nat.le_of_ble_eq_true rfl) rfl dX5_ordered_8 ?_
  refine VW.sub (lv' := [(0, .ref am), (1, .int p0), (2, .int x1), (3, .int (0 : Int32))]) ?_ [2, 3, 1, 0] rfl
  refine zloop_walk (V := (fun a => VW K (zMw am a.1 b) sz 0 0 9 [(0, .ref am), (1, .int p0), (2, .int x1), (3, .int a.2)] [])) (E := fun e => e = o) ?_ n (st, (0 : Int32)) _ h rfl
  intro a2 o3 h kco3 keo3
  unfold fX5_ordered_L9 at h
  refine zr_iload_n (pc := 9) hX 3 rfl rfl dX5_ordered_9 ?_
  refine zr_iload_n (pc := 10) hX 2 rfl rfl dX5_ordered_10 ?_
  refine zr_icmp_ge (pc := 11) hX 120 rfl dX5_ordered_11 (fun c11_25 => ?_) (fun c11_25 => ?_)
  · rw [if_pos c11_25] at h
    replace h := congrArg some (keo3 _ (Option.some.inj h).symm)
    obtain rfl := Option.some.inj h
    exact hret _ _ dX5_ordered_120
  · rw [if_neg c11_25] at h
    refine zr_iconst (pc := 14) hX zci_0 dX5_ordered_14 ?_
    refine zr_istore (pc := 15) hX rfl (Nat.le_of_ble_eq_true rfl) rfl dX5_ordered_15 ?_
    refine zr_iconst (pc := 17) hX zci_0 dX5_ordered_17 ?_
    refine zr_istore (pc := 18) hX rfl (Nat.le_of_ble_eq_true rfl) rfl dX5_ordered_18 ?_
    obtain ⟨t6, gt6, h⟩ := bnd h
    have hJt6 : ∀ a, a = t6 → VW K (zMw am a2.1 b) sz 0 0 49 [(0, .ref am), (1, .int p0), (2, .int x1), (3, .int a2.2), (4, .int a)] [] := by
      intro a ea
      rw [ea]
      refine zr_bipush (pc := 49) hX zcb_15 dX5_ordered_49 ?_
      refine zr_istore (pc := 51) hX rfl (Nat.le_of_ble_eq_true rfl) rfl dX5_ordered_51 ?_
      refine zr_iload_n (pc := 53) hX 3 rfl rfl dX5_ordered_53 ?_
      refine zr_iconst (pc := 54) hX zci_1 dX5_ordered_54 ?_
      refine zr_isub (pc := 55) hX dX5_ordered_55 ?_
      obtain ⟨x7, gx7, h⟩ := bnd h
      refine zr_istore (pc := 56) hX (Option.some.inj gx7) (Nat.le_of_ble_eq_true rfl) rfl dX5_ordered_56 ?_
      obtain ⟨t10, gt10, h⟩ := bnd h
      have hJt10 : ∀ a, a = t10 → VW K (zMw am a2.1 b) sz 0 0 87 [(0, .ref am), (1, .int p0), (2, .int x1), (3, .int a2.2), (4, .int t6), (5, .int a)] [] := by
        intro a ea
        rw [ea]
        refine zr_aload_n (pc := 87) hX 0 rfl rfl dX5_ordered_87 ?_
        refine zr_mgetA (pc := 88) hX 41 rfl rfl q1779 dX5_ordered_88 ?_
        refine zr_bipush (pc := 91) hX zcb_8 dX5_ordered_91 ?_
        refine zr_iload_n (pc := 93) hX 1 rfl rfl dX5_ordered_93 ?_
        refine zr_imul (pc := 94) hX dX5_ordered_94 ?_
        refine zr_iload_n (pc := 95) hX 3 rfl rfl dX5_ordered_95 ?_
        refine zr_iadd (pc := 96) hX dX5_ordered_96 ?_
        refine zr_aload_n (pc := 97) hX 0 rfl rfl dX5_ordered_97 ?_
        refine zr_iload_n (pc := 98) hX 1 rfl rfl dX5_ordered_98 ?_
        refine zr_iload_n (pc := 99) hX 3 rfl rfl dX5_ordered_99 ?_
        obtain ⟨t11, gt11, h⟩ := bnd h
        refine zr_callV (pc := 100) (stk' := [.int t11, .int (((8 : Int32) * p0) + a2.2), .ref (am + zMo 41)]) (k' := 0) (n' := 0) hX (fun l s0 D => mX5_domainAt l s0 D gt11) (zMw_obj _ _ _) (ci := 4) rfl zwX5_domainAt q2189 q2191 qs80 rfl rfl rfl rfl rfl rfl rfl rfl rfl dX5_ordered_100 ?_
        refine zr_iload (pc := 103) hX 4 rfl dX5_ordered_103 ?_
        obtain ⟨t12, gt12, h⟩ := bnd h
        refine zr_callS (pc := 105) (stk' := [.int t12, .int (((8 : Int32) * p0) + a2.2), .ref (am + zMo 41)]) (k' := 0) (n' := 0) hX (fun l s0 D => mX5_atLeast l s0 D gt12) zwX5_atLeast q2204 q2205 rfl rfl rfl rfl rfl rfl rfl rfl dX5_ordered_105 ?_
        refine zr_iload (pc := 108) hX 5 rfl dX5_ordered_108 ?_
        obtain ⟨t13, gt13, h⟩ := bnd h
        refine zr_callS (pc := 110) (stk' := [.int t13, .int (((8 : Int32) * p0) + a2.2), .ref (am + zMo 41)]) (k' := 0) (n' := 0) hX (fun l s0 D => mX5_atMost l s0 D gt13) zwX5_atMost q2207 q2208 rfl rfl rfl rfl rfl rfl rfl rfl dX5_ordered_110 ?_
        obtain ⟨st14, gst14, h⟩ := bnd h
        refine zr_mast (pc := 113) hX 41 rfl rfl rfl gst14 dX5_ordered_113 ?_
        obtain ⟨x15, gx15, h⟩ := bnd h
        refine zr_iinc (pc := 114) hX 3 rfl zci_1 (Option.some.inj gx15) (Nat.le_of_ble_eq_true rfl) rfl dX5_ordered_114 ?_
        refine zr_goto (pc := 117) hX 9 rfl dX5_ordered_117 ?_
        exact (kco3 (st14, x15) (Option.some.inj h).symm).sub [1, 2, 3, 0] rfl
      refine VW.sub (lv' := [(0, .ref am), (1, .int p0), (2, .int x1), (3, .int a2.2), (4, .int t6), (5, .int (15 : Int32)), (6, .int x7)]) ?_ [2, 3, 4, 5, 6, 1, 0] rfl
      refine zloop_walk (V := (fun a => VW K (zMw am a2.1 b) sz 0 0 58 [(0, .ref am), (1, .int p0), (2, .int x1), (3, .int a2.2), (4, .int t6), (5, .int a.1), (6, .int a.2)] [])) (E := fun e => e = t10) ?_ n ((15 : Int32), x7) _ gt10 rfl
      intro a8 o9 h kco9 keo9
      unfold fX5_ordered_L58 at h
      refine zr_iload (pc := 58) hX 6 rfl dX5_ordered_58 ?_
      refine zr_iload_n (pc := 60) hX 3 rfl rfl dX5_ordered_60 ?_
      refine zr_icmp_le (pc := 61) hX 87 rfl dX5_ordered_61 (fun c61_19 => ?_) (fun c61_19 => ?_)
      · rw [if_pos c61_19] at h
        exact (hJt10 a8.1 (keo9 _ (Option.some.inj h).symm)).sub [0, 1, 2, 3, 4, 5] rfl
      · rw [if_neg c61_19] at h
        refine zr_aload_n (pc := 64) hX 0 rfl rfl dX5_ordered_64 ?_
        refine zr_iload_n (pc := 65) hX 1 rfl rfl dX5_ordered_65 ?_
        refine zr_iload (pc := 66) hX 6 rfl dX5_ordered_66 ?_
        obtain ⟨t16, gt16, h⟩ := bnd h
        refine zr_callV (pc := 68) (stk' := [.int t16]) (k' := 0) (n' := 0) hX (fun l s0 D => mX5_domainAt l s0 D gt16) (zMw_obj _ _ _) (ci := 4) rfl zwX5_domainAt q2189 q2191 qs80 rfl rfl rfl rfl rfl rfl rfl rfl rfl dX5_ordered_68 ?_
        refine zr_iload (pc := 71) hX 5 rfl dX5_ordered_71 ?_
        obtain ⟨t17, gt17, h⟩ := bnd h
        refine zr_callS (pc := 73) (stk' := [.int t17]) (k' := 0) (n' := 0) hX (fun l s0 D => mX5_atMost l s0 D gt17) zwX5_atMost q2207 q2208 rfl rfl rfl rfl rfl rfl rfl rfl dX5_ordered_73 ?_
        obtain ⟨t18, gt18, h⟩ := bnd h
        refine zr_callS (pc := 76) (stk' := [.int t18]) (k' := 0) (n' := 0) hX (fun l s0 D => mX5_highest l s0 D gt18) zwX5_highest q2175 q2176 rfl rfl rfl rfl rfl rfl rfl rfl dX5_ordered_76 ?_
        refine zr_istore (pc := 79) hX rfl (Nat.le_of_ble_eq_true rfl) rfl dX5_ordered_79 ?_
        obtain ⟨x19, gx19, h⟩ := bnd h
        refine zr_iinc (pc := 81) hX 6 rfl zci_m1 (Option.some.inj gx19) (Nat.le_of_ble_eq_true rfl) rfl dX5_ordered_81 ?_
        refine zr_goto (pc := 84) hX 58 rfl dX5_ordered_84 ?_
        exact (kco9 (t18, x19) (Option.some.inj h).symm).sub [2, 3, 4, 5, 6, 1, 0] rfl
    refine VW.sub (lv' := [(0, .ref am), (1, .int p0), (2, .int x1), (3, .int a2.2), (4, .int (0 : Int32)), (5, .int (0 : Int32))]) ?_ [2, 3, 4, 5, 1, 0] rfl
    refine zloop_walk (V := (fun a => VW K (zMw am a2.1 b) sz 0 0 20 [(0, .ref am), (1, .int p0), (2, .int x1), (3, .int a2.2), (4, .int a.1), (5, .int a.2)] [])) (E := fun e => e = t6) ?_ n ((0 : Int32), (0 : Int32)) _ gt6 rfl
    intro a4 o5 h kco5 keo5
    unfold fX5_ordered_L20 at h
    refine zr_iload (pc := 20) hX 5 rfl dX5_ordered_20 ?_
    refine zr_iload_n (pc := 22) hX 3 rfl rfl dX5_ordered_22 ?_
    refine zr_icmp_ge (pc := 23) hX 49 rfl dX5_ordered_23 (fun c23_24 => ?_) (fun c23_24 => ?_)
    · rw [if_pos c23_24] at h
      exact (hJt6 a4.1 (keo5 _ (Option.some.inj h).symm)).sub [0, 1, 2, 3, 4] rfl
    · rw [if_neg c23_24] at h
      refine zr_aload_n (pc := 26) hX 0 rfl rfl dX5_ordered_26 ?_
      refine zr_iload_n (pc := 27) hX 1 rfl rfl dX5_ordered_27 ?_
      refine zr_iload (pc := 28) hX 5 rfl dX5_ordered_28 ?_
      obtain ⟨t21, gt21, h⟩ := bnd h
      refine zr_callV (pc := 30) (stk' := [.int t21]) (k' := 0) (n' := 0) hX (fun l s0 D => mX5_domainAt l s0 D gt21) (zMw_obj _ _ _) (ci := 4) rfl zwX5_domainAt q2189 q2191 qs80 rfl rfl rfl rfl rfl rfl rfl rfl rfl dX5_ordered_30 ?_
      refine zr_iload (pc := 33) hX 4 rfl dX5_ordered_33 ?_
      obtain ⟨t22, gt22, h⟩ := bnd h
      refine zr_callS (pc := 35) (stk' := [.int t22]) (k' := 0) (n' := 0) hX (fun l s0 D => mX5_atLeast l s0 D gt22) zwX5_atLeast q2204 q2205 rfl rfl rfl rfl rfl rfl rfl rfl dX5_ordered_35 ?_
      obtain ⟨t23, gt23, h⟩ := bnd h
      refine zr_callS (pc := 38) (stk' := [.int t23]) (k' := 0) (n' := 0) hX (fun l s0 D => mX5_lowest l s0 D gt23) zwX5_lowest q2178 q2179 rfl rfl rfl rfl rfl rfl rfl rfl dX5_ordered_38 ?_
      refine zr_istore (pc := 41) hX rfl (Nat.le_of_ble_eq_true rfl) rfl dX5_ordered_41 ?_
      obtain ⟨x24, gx24, h⟩ := bnd h
      refine zr_iinc (pc := 43) hX 5 rfl zci_1 (Option.some.inj gx24) (Nat.le_of_ble_eq_true rfl) rfl dX5_ordered_43 ?_
      refine zr_goto (pc := 46) hX 20 rfl dX5_ordered_46 ?_
      exact (kco5 (t23, x24) (Option.some.inj h).symm).sub [2, 3, 4, 5, 1, 0] rfl
set_option maxHeartbeats 4000000 in
theorem mX5_stepped (l : Launch) (s0 : State) (D : zD) {n : Nat} {am : Nat} {st : zMS} {b : zH} {sz : Nat} {p0 : Int32} {p1 : Int32} {p2 : Int32} {p3 : Int32} {o : Int32} (h : fX5_stepped n st p0 p1 p2 p3 = some o) : zM l s0 D yX5_stepped cX5_stepped 9 (some .int) 2 21 0 0 [.ref am, .int p0, .int p1, .int p2, .int p3] (zMw am st b) sz (zMw am st b) sz (some (.int o)) := by
  refine zenter (own := RX5) zplX5 rfl (Nat.le_of_ble_eq_true rfl) trivial (fun K hX hnm hret => ?_)
  unfold fX5_stepped at h
  show VW K (zMw am st b) sz 0 0 0 [(0, .ref am), (1, .int p0), (2, .int p1), (3, .int p2), (4, .int p3)] []
  refine zr_iconst (pc := 0) hX zci_0 dX5_stepped_0 ?_
  refine zr_istore (pc := 1) hX rfl (Nat.le_of_ble_eq_true rfl) rfl dX5_stepped_1 ?_
  refine zr_bipush (pc := 3) hX zcb_48 dX5_stepped_3 ?_
  refine zr_iload_n (pc := 5) hX 2 rfl rfl dX5_stepped_5 ?_
  refine zr_imul (pc := 6) hX dX5_stepped_6 ?_
  obtain ⟨x1, gx1, h⟩ := bnd h
  refine zr_istore (pc := 7) hX (Option.some.inj gx1) (Nat.le_of_ble_eq_true rfl) rfl dX5_stepped_7 ?_
  refine VW.sub (lv' := [(0, .ref am), (1, .int p0), (2, .int p1), (3, .int p2), (4, .int p3), (5, .int (0 : Int32)), (6, .int x1)]) ?_ [2, 3, 4, 5, 6, 1, 0] rfl
  refine zloop_walk (V := (fun a => VW K (zMw am st b) sz 0 0 9 [(0, .ref am), (1, .int p0), (2, .int p1), (3, .int p2), (4, .int p3), (5, .int a.1), (6, .int a.2)] [])) (E := fun e => e = o) ?_ n ((0 : Int32), x1) _ h rfl
  intro a2 o3 h kco3 keo3
  unfold fX5_stepped_L9 at h
  refine zr_iload (pc := 9) hX 6 rfl dX5_stepped_9 ?_
  refine zr_bipush (pc := 11) hX zcb_48 dX5_stepped_11 ?_
  refine zr_iload_n (pc := 13) hX 1 rfl rfl dX5_stepped_13 ?_
  refine zr_imul (pc := 14) hX dX5_stepped_14 ?_
  refine zr_iconst (pc := 15) hX zci_3 dX5_stepped_15 ?_
  refine zr_aload_n (pc := 16) hX 0 rfl rfl dX5_stepped_16 ?_
  refine zr_mgetA (pc := 17) hX 21 rfl rfl q1759 dX5_stepped_17 ?_
  refine zr_iload_n (pc := 20) hX 1 rfl rfl dX5_stepped_20 ?_
  obtain ⟨x4, gx4, h⟩ := bnd h
  refine zr_mald (pc := 21) hX 21 rfl rfl rfl gx4 dX5_stepped_21 ?_
  refine zr_imul (pc := 22) hX dX5_stepped_22 ?_
  refine zr_iadd (pc := 23) hX dX5_stepped_23 ?_
  refine zr_icmp_ge (pc := 24) hX 113 rfl dX5_stepped_24 (fun c24_20 => ?_) (fun c24_20 => ?_)
  · rw [if_pos c24_20] at h
    refine zr_iload (pc := 113) hX 5 rfl dX5_stepped_113 ?_
    replace h := congrArg some (keo3 _ (Option.some.inj h).symm)
    obtain rfl := Option.some.inj h
    exact hret _ _ dX5_stepped_115 (Or.inl rfl)
  · rw [if_neg c24_20] at h
    refine zr_aload_n (pc := 27) hX 0 rfl rfl dX5_stepped_27 ?_
    refine zr_mgetA (pc := 28) hX 22 rfl rfl q1760 dX5_stepped_28 ?_
    refine zr_iload (pc := 31) hX 4 rfl dX5_stepped_31 ?_
    obtain ⟨t5, gt5, h⟩ := bnd h
    have hJt5 : ∀ a, t5 = a → VW K (zMw am st b) sz 0 0 45 [(0, .ref am), (1, .int p0), (2, .int p1), (3, .int p2), (4, .int p3), (5, .int a2.1), (6, .int a2.2)] [.int a, .ref (am + zMo 22)] := by
      intro a ea
      subst ea
      obtain ⟨x6, gx6, h⟩ := bnd h
      refine zr_mald (pc := 45) hX 22 rfl rfl rfl gx6 dX5_stepped_45 ?_
      refine zr_istore (pc := 46) hX rfl (Nat.le_of_ble_eq_true rfl) rfl dX5_stepped_46 ?_
      refine zr_aload_n (pc := 48) hX 1 rfl rfl dX5_stepped_48 ?_
      refine zr_mgetA (pc := 49) hX 22 rfl rfl q1760 dX5_stepped_49 ?_
      refine zr_iload (pc := 52) hX 5 rfl dX5_stepped_52 ?_
      obtain ⟨t7, gt7, h⟩ := bnd h
      have hJt7 : ∀ a, t7 = a → VW K (zMw am st b) sz 0 0 66 [(0, .ref am), (1, .int p0), (2, .int p1), (3, .int p2), (4, .int p3), (5, .int a2.1), (6, .int a2.2), (7, .int x6)] [.int a, .ref (am + zMo 22)] := by
        intro a ea
        subst ea
        obtain ⟨x8, gx8, h⟩ := bnd h
        refine zr_mald (pc := 66) hX 22 rfl rfl rfl gx8 dX5_stepped_66 ?_
        refine zr_istore (pc := 67) hX rfl (Nat.le_of_ble_eq_true rfl) rfl dX5_stepped_67 ?_
        refine zr_iload (pc := 69) hX 6 rfl dX5_stepped_69 ?_
        refine zr_iload_n (pc := 71) hX 3 rfl rfl dX5_stepped_71 ?_
        refine zr_iload (pc := 72) hX 8 rfl dX5_stepped_72 ?_
        obtain ⟨t9, gt9, h⟩ := bnd h
        refine zr_callS (pc := 74) (stk' := [.int t9, .int a2.1]) (k' := 0) (n' := 0) hX (fun l s0 D => mX5_hasBit l s0 D gt9) zwX5_hasBit q2156 q2157 rfl rfl rfl rfl rfl rfl rfl rfl dX5_stepped_74 ?_
        obtain ⟨t10, gt10, h⟩ := bnd h
        have hJt10 : ∀ a, t10 = a → VW K (zMw am st b) sz 0 0 104 [(0, .ref am), (1, .int p0), (2, .int p1), (3, .int p2), (4, .int p3), (6, .int a2.2)] [.int a, .int a2.1] := by
          intro a ea
          subst ea
          refine zr_ior (pc := 104) hX dX5_stepped_104 ?_
          obtain ⟨x11, gx11, h⟩ := bnd h
          refine zr_istore (pc := 105) hX (Option.some.inj gx11) (Nat.le_of_ble_eq_true rfl) rfl dX5_stepped_105 ?_
          obtain ⟨x12, gx12, h⟩ := bnd h
          refine zr_iinc (pc := 107) hX 6 rfl zci_3 (Option.some.inj gx12) (Nat.le_of_ble_eq_true rfl) rfl dX5_stepped_107 ?_
          refine zr_goto (pc := 110) hX 9 rfl dX5_stepped_110 ?_
          exact (kco3 (x11, x12) (Option.some.inj h).symm).sub [2, 3, 4, 5, 6, 1, 0] rfl
        replace h := gt10
        obtain ⟨u14, gu14, hAu14, hBu14⟩ := zesc_bnd h
        have hJt13 : ∀ a, u14 = .inl a → VW K (zMw am st b) sz 0 0 103 [(0, .ref am), (1, .int p0), (2, .int p1), (3, .int p2), (4, .int p3), (6, .int a2.2)] [.int a2.1] := by
          intro t13 ea
          have h := hAu14 _ ea
          refine zr_iconst (pc := 103) hX zci_0 dX5_stepped_103 ?_
          exact (hJt10 (0 : Int32) (Option.some.inj h).symm).sub [0, 1, 2, 3, 4, 5] rfl
        replace h := gu14
        refine zr_if_eq (pc := 77) hX 103 rfl dX5_stepped_77 (fun c77_17 => ?_) (fun c77_17 => ?_)
        · rw [if_pos c77_17] at h
          exact (hJt13 () (Option.some.inj h).symm).sub [1, 2, 3, 4, 5, 7] rfl
        · rw [if_neg c77_17] at h
          refine zr_iload_n (pc := 80) hX 4 rfl rfl dX5_stepped_80 ?_
          refine zr_aload_n (pc := 81) hX 1 rfl rfl dX5_stepped_81 ?_
          refine zr_mgetA (pc := 82) hX 22 rfl rfl q1760 dX5_stepped_82 ?_
          refine zr_iload (pc := 85) hX 7 rfl dX5_stepped_85 ?_
          refine zr_iconst (pc := 87) hX zci_1 dX5_stepped_87 ?_
          refine zr_iadd (pc := 88) hX dX5_stepped_88 ?_
          obtain ⟨x15, gx15, h⟩ := bnd h
          refine zr_mald (pc := 89) hX 22 rfl rfl rfl gx15 dX5_stepped_89 ?_
          obtain ⟨t16, gt16, h⟩ := bnd h
          refine zr_callS (pc := 90) (stk' := [.int t16, .int a2.1]) (k' := 0) (n' := 0) hX (fun l s0 D => mX5_hasBit l s0 D gt16) zwX5_hasBit q2156 q2157 rfl rfl rfl rfl rfl rfl rfl rfl dX5_stepped_90 ?_
          refine zr_if_eq (pc := 93) hX 103 rfl dX5_stepped_93 (fun c93_16 => ?_) (fun c93_16 => ?_)
          · rw [if_pos c93_16] at h
            exact (hJt13 () (Option.some.inj h).symm).sub [1, 2, 3, 4, 5, 7] rfl
          · rw [if_neg c93_16] at h
            refine zr_iconst (pc := 96) hX zci_1 dX5_stepped_96 ?_
            refine zr_iload (pc := 97) hX 0 rfl dX5_stepped_97 ?_
            refine zr_ishl (pc := 99) hX dX5_stepped_99 ?_
            refine zr_goto (pc := 100) hX 104 rfl dX5_stepped_100 ?_
            replace h := congrArg some (hBu14 _ (Option.some.inj h).symm)
            exact (hJt10 ((1 : Int32) <<< (x8 &&& 31)) (Option.some.inj h).symm).sub [1, 2, 3, 4, 5, 7] rfl
      replace h := gt7
      refine zr_if_eq (pc := 54) hX 64 rfl dX5_stepped_54 (fun c54_18 => ?_) (fun c54_18 => ?_)
      · rw [if_pos c54_18] at h
        refine zr_iload (pc := 64) hX 7 rfl dX5_stepped_64 ?_
        exact (hJt7 a2.2 (Option.some.inj h).symm).sub [1, 2, 3, 4, 5, 6, 7, 0] rfl
      · rw [if_neg c54_18] at h
        refine zr_iload (pc := 57) hX 7 rfl dX5_stepped_57 ?_
        refine zr_iconst (pc := 59) hX zci_2 dX5_stepped_59 ?_
        refine zr_iadd (pc := 60) hX dX5_stepped_60 ?_
        refine zr_goto (pc := 61) hX 66 rfl dX5_stepped_61 ?_
        exact (hJt7 (a2.2 + (2 : Int32)) (Option.some.inj h).symm).sub [1, 2, 3, 4, 5, 6, 7, 0] rfl
    replace h := gt5
    refine zr_if_eq (pc := 33) hX 41 rfl dX5_stepped_33 (fun c33_19 => ?_) (fun c33_19 => ?_)
    · rw [if_pos c33_19] at h
      refine zr_iload (pc := 41) hX 6 rfl dX5_stepped_41 ?_
      refine zr_iconst (pc := 43) hX zci_2 dX5_stepped_43 ?_
      refine zr_iadd (pc := 44) hX dX5_stepped_44 ?_
      exact (hJt5 (a2.2 + (2 : Int32)) (Option.some.inj h).symm).sub [0, 1, 2, 3, 4, 5, 6] rfl
    · rw [if_neg c33_19] at h
      refine zr_iload (pc := 36) hX 6 rfl dX5_stepped_36 ?_
      refine zr_goto (pc := 38) hX 45 rfl dX5_stepped_38 ?_
      exact (hJt5 a2.2 (Option.some.inj h).symm).sub [0, 1, 2, 3, 4, 5, 6] rfl
set_option maxHeartbeats 4000000 in
theorem mX5_byRegular (l : Launch) (s0 : State) (D : zD) {n : Nat} {am : Nat} {st : zMS} {b : zH} {sz : Nat} {p0 : Int32} {o : zMS} (h : fX5_byRegular n st p0 = some o) : zM l s0 D yX5_byRegular cX5_byRegular 7 none 3 49 0 0 [.ref am, .int p0] (zMw am st b) sz (zMw am o b) sz none := by
  refine zenter (own := RX5) zplX5 rfl (Nat.le_of_ble_eq_true rfl) rfl (fun K hX hnm hret => ?_)
  unfold fX5_byRegular at h
  show VW K (zMw am st b) sz 0 0 0 [(0, .ref am), (1, .int p0)] []
  refine zr_aload_n (pc := 0) hX 0 rfl rfl dX5_byRegular_0 ?_
  refine zr_mgetA (pc := 1) hX 17 rfl rfl q1755 dX5_byRegular_1 ?_
  refine zr_iload_n (pc := 4) hX 1 rfl rfl dX5_byRegular_4 ?_
  obtain ⟨x1, gx1, h⟩ := bnd h
  refine zr_mald (pc := 5) hX 17 rfl rfl rfl gx1 dX5_byRegular_5 ?_
  refine zr_istore_n (pc := 6) hX rfl rfl (Nat.le_of_ble_eq_true rfl) rfl dX5_byRegular_6 ?_
  refine zr_iconst (pc := 7) hX zci_0 dX5_byRegular_7 ?_
  refine zr_istore_n (pc := 8) hX rfl rfl (Nat.le_of_ble_eq_true rfl) rfl dX5_byRegular_8 ?_
  refine VW.sub (lv' := [(0, .ref am), (1, .int p0), (2, .int x1), (3, .int (0 : Int32))]) ?_ [2, 3, 1, 0] rfl
  refine zloop_walk (V := (fun a => VW K (zMw am a.1 b) sz 0 0 9 [(0, .ref am), (1, .int p0), (2, .int x1), (3, .int a.2)] [])) (E := fun e => e = o) ?_ n (st, (0 : Int32)) _ h rfl
  intro a2 o3 h kco3 keo3
  unfold fX5_byRegular_L9 at h
  refine zr_iload_n (pc := 9) hX 3 rfl rfl dX5_byRegular_9 ?_
  refine zr_iload_n (pc := 10) hX 2 rfl rfl dX5_byRegular_10 ?_
  refine zr_icmp_ge (pc := 11) hX 195 rfl dX5_byRegular_11 (fun c11_40 => ?_) (fun c11_40 => ?_)
  · rw [if_pos c11_40] at h
    replace h := congrArg some (keo3 _ (Option.some.inj h).symm)
    obtain rfl := Option.some.inj h
    exact hret _ _ dX5_byRegular_195
  · rw [if_neg c11_40] at h
    refine zr_iconst (pc := 14) hX zci_1 dX5_byRegular_14 ?_
    refine zr_istore (pc := 15) hX rfl (Nat.le_of_ble_eq_true rfl) rfl dX5_byRegular_15 ?_
    refine zr_iconst (pc := 17) hX zci_0 dX5_byRegular_17 ?_
    refine zr_istore (pc := 18) hX rfl (Nat.le_of_ble_eq_true rfl) rfl dX5_byRegular_18 ?_
    obtain ⟨t6, gt6, h⟩ := bnd h
    have hJt6 : ∀ a, a = t6 → VW K (zMw am a2.1 b) sz 0 0 49 [(0, .ref am), (1, .int p0), (2, .int x1), (3, .int a2.2), (4, .int a)] [] := by
      intro a ea
      rw [ea]
      refine zr_aload_n (pc := 49) hX 0 rfl rfl dX5_byRegular_49 ?_
      refine zr_mgetA (pc := 50) hX 20 rfl rfl q1758 dX5_byRegular_50 ?_
      refine zr_iload_n (pc := 53) hX 1 rfl rfl dX5_byRegular_53 ?_
      obtain ⟨x7, gx7, h⟩ := bnd h
      refine zr_mald (pc := 54) hX 20 rfl rfl rfl gx7 dX5_byRegular_54 ?_
      refine zr_istore (pc := 55) hX rfl (Nat.le_of_ble_eq_true rfl) rfl dX5_byRegular_55 ?_
      refine zr_iload_n (pc := 57) hX 3 rfl rfl dX5_byRegular_57 ?_
      refine zr_iconst (pc := 58) hX zci_1 dX5_byRegular_58 ?_
      refine zr_isub (pc := 59) hX dX5_byRegular_59 ?_
      obtain ⟨x8, gx8, h⟩ := bnd h
      refine zr_istore (pc := 60) hX (Option.some.inj gx8) (Nat.le_of_ble_eq_true rfl) rfl dX5_byRegular_60 ?_
      obtain ⟨t11, gt11, h⟩ := bnd h
      have hJt11 : ∀ a, a = t11 → VW K (zMw am a2.1 b) sz 0 0 91 [(0, .ref am), (1, .int p0), (2, .int x1), (3, .int a2.2), (4, .int t6), (5, .int a)] [] := by
        intro a ea
        rw [ea]
        refine zr_bipush (pc := 91) hX zcb_48 dX5_byRegular_91 ?_
        refine zr_iload_n (pc := 93) hX 1 rfl rfl dX5_byRegular_93 ?_
        refine zr_imul (pc := 94) hX dX5_byRegular_94 ?_
        obtain ⟨x12, gx12, h⟩ := bnd h
        refine zr_istore (pc := 95) hX (Option.some.inj gx12) (Nat.le_of_ble_eq_true rfl) rfl dX5_byRegular_95 ?_
        obtain ⟨t15, gt15, h⟩ := bnd h
        have hJt15 : ∀ a, a = t15 → VW K (zMw am a b) sz 0 0 189 [(0, .ref am), (1, .int p0), (2, .int x1), (3, .int a2.2)] [] := by
          intro a ea
          rw [ea]
          obtain ⟨x16, gx16, h⟩ := bnd h
          refine zr_iinc (pc := 189) hX 3 rfl zci_1 (Option.some.inj gx16) (Nat.le_of_ble_eq_true rfl) rfl dX5_byRegular_189 ?_
          refine zr_goto (pc := 192) hX 9 rfl dX5_byRegular_192 ?_
          exact (kco3 (t15, x16) (Option.some.inj h).symm).sub [1, 2, 3, 0] rfl
        refine VW.sub (lv' := [(0, .ref am), (1, .int p0), (2, .int x1), (3, .int a2.2), (4, .int t6), (5, .int t11), (6, .int x12)]) ?_ [1, 2, 3, 4, 5, 6, 0] rfl
        refine zloop_walk (V := (fun a => VW K (zMw am a.1 b) sz 0 0 97 [(0, .ref am), (1, .int p0), (2, .int x1), (3, .int a2.2), (4, .int t6), (5, .int t11), (6, .int a.2)] [])) (E := fun e => e = t15) ?_ n (a2.1, x12) _ gt15 rfl
        intro a13 o14 h kco14 keo14
        unfold fX5_byRegular_L97 at h
        refine zr_iload (pc := 97) hX 6 rfl dX5_byRegular_97 ?_
        refine zr_bipush (pc := 99) hX zcb_48 dX5_byRegular_99 ?_
        refine zr_iload_n (pc := 101) hX 1 rfl rfl dX5_byRegular_101 ?_
        refine zr_imul (pc := 102) hX dX5_byRegular_102 ?_
        refine zr_iconst (pc := 103) hX zci_3 dX5_byRegular_103 ?_
        refine zr_aload_n (pc := 104) hX 0 rfl rfl dX5_byRegular_104 ?_
        refine zr_mgetA (pc := 105) hX 21 rfl rfl q1759 dX5_byRegular_105 ?_
        refine zr_iload_n (pc := 108) hX 1 rfl rfl dX5_byRegular_108 ?_
        obtain ⟨x17, gx17, h⟩ := bnd h
        refine zr_mald (pc := 109) hX 21 rfl rfl rfl gx17 dX5_byRegular_109 ?_
        refine zr_imul (pc := 110) hX dX5_byRegular_110 ?_
        refine zr_iadd (pc := 111) hX dX5_byRegular_111 ?_
        refine zr_icmp_ge (pc := 112) hX 189 rfl dX5_byRegular_112 (fun c112_31 => ?_) (fun c112_31 => ?_)
        · rw [if_pos c112_31] at h
          exact (hJt15 a13.1 (keo14 _ (Option.some.inj h).symm)).sub [0, 1, 2, 3] rfl
        · rw [if_neg c112_31] at h
          refine zr_iload (pc := 115) hX 4 rfl dX5_byRegular_115 ?_
          refine zr_aload_n (pc := 117) hX 0 rfl rfl dX5_byRegular_117 ?_
          refine zr_mgetA (pc := 118) hX 22 rfl rfl q1760 dX5_byRegular_118 ?_
          refine zr_iload (pc := 121) hX 6 rfl dX5_byRegular_121 ?_
          obtain ⟨x18, gx18, h⟩ := bnd h
          refine zr_mald (pc := 123) hX 22 rfl rfl rfl gx18 dX5_byRegular_123 ?_
          obtain ⟨t19, gt19, h⟩ := bnd h
          refine zr_callS (pc := 124) (stk' := [.int t19]) (k' := 0) (n' := 0) hX (fun l s0 D => mX5_hasBit l s0 D gt19) zwX5_hasBit q2156 q2157 rfl rfl rfl rfl rfl rfl rfl rfl dX5_byRegular_124 ?_
          obtain ⟨t20, gt20, h⟩ := bnd h
          have hJt20 : ∀ a, t20 = a → VW K (zMw am a b) sz 0 0 183 [(0, .ref am), (1, .int p0), (2, .int x1), (3, .int a2.2), (4, .int t6), (5, .int t11), (6, .int a13.2)] [] := by
            intro a ea
            subst ea
            obtain ⟨x21, gx21, h⟩ := bnd h
            refine zr_iinc (pc := 183) hX 6 rfl zci_3 (Option.some.inj gx21) (Nat.le_of_ble_eq_true rfl) rfl dX5_byRegular_183 ?_
            refine zr_goto (pc := 186) hX 97 rfl dX5_byRegular_186 ?_
            exact (kco14 (t20, x21) (Option.some.inj h).symm).sub [1, 2, 3, 4, 5, 6, 0] rfl
          replace h := gt20
          refine zr_if_eq (pc := 127) hX 183 rfl dX5_byRegular_127 (fun c127_30 => ?_) (fun c127_30 => ?_)
          · rw [if_pos c127_30] at h
            exact (hJt20 a13.1 (Option.some.inj h).symm).sub [0, 1, 2, 3, 4, 5, 6] rfl
          · rw [if_neg c127_30] at h
            refine zr_iload (pc := 130) hX 5 rfl dX5_byRegular_130 ?_
            refine zr_aload_n (pc := 132) hX 0 rfl rfl dX5_byRegular_132 ?_
            refine zr_mgetA (pc := 133) hX 22 rfl rfl q1760 dX5_byRegular_133 ?_
            refine zr_iload (pc := 136) hX 6 rfl dX5_byRegular_136 ?_
            refine zr_iconst (pc := 138) hX zci_2 dX5_byRegular_138 ?_
            refine zr_iadd (pc := 139) hX dX5_byRegular_139 ?_
            obtain ⟨x22, gx22, h⟩ := bnd h
            refine zr_mald (pc := 140) hX 22 rfl rfl rfl gx22 dX5_byRegular_140 ?_
            obtain ⟨t23, gt23, h⟩ := bnd h
            refine zr_callS (pc := 141) (stk' := [.int t23]) (k' := 0) (n' := 0) hX (fun l s0 D => mX5_hasBit l s0 D gt23) zwX5_hasBit q2156 q2157 rfl rfl rfl rfl rfl rfl rfl rfl dX5_byRegular_141 ?_
            refine zr_if_eq (pc := 144) hX 183 rfl dX5_byRegular_144 (fun c144_29 => ?_) (fun c144_29 => ?_)
            · rw [if_pos c144_29] at h
              exact (hJt20 a13.1 (Option.some.inj h).symm).sub [0, 1, 2, 3, 4, 5, 6] rfl
            · rw [if_neg c144_29] at h
              refine zr_aload_n (pc := 147) hX 0 rfl rfl dX5_byRegular_147 ?_
              refine zr_iload_n (pc := 148) hX 1 rfl rfl dX5_byRegular_148 ?_
              refine zr_iload_n (pc := 149) hX 3 rfl rfl dX5_byRegular_149 ?_
              obtain ⟨t24, gt24, h⟩ := bnd h
              refine zr_callV (pc := 150) (stk' := [.int t24]) (k' := 0) (n' := 0) hX (fun l s0 D => mX5_domainAt l s0 D gt24) (zMw_obj _ _ _) (ci := 4) rfl zwX5_domainAt q2189 q2191 qs80 rfl rfl rfl rfl rfl rfl rfl rfl rfl dX5_byRegular_150 ?_
              refine zr_aload_n (pc := 153) hX 0 rfl rfl dX5_byRegular_153 ?_
              refine zr_mgetA (pc := 154) hX 22 rfl rfl q1760 dX5_byRegular_154 ?_
              refine zr_iload (pc := 157) hX 6 rfl dX5_byRegular_157 ?_
              refine zr_iconst (pc := 159) hX zci_1 dX5_byRegular_159 ?_
              refine zr_iadd (pc := 160) hX dX5_byRegular_160 ?_
              obtain ⟨x25, gx25, h⟩ := bnd h
              refine zr_mald (pc := 161) hX 22 rfl rfl rfl gx25 dX5_byRegular_161 ?_
              obtain ⟨t26, gt26, h⟩ := bnd h
              refine zr_callS (pc := 162) (stk' := [.int t26]) (k' := 0) (n' := 0) hX (fun l s0 D => mX5_hasBit l s0 D gt26) zwX5_hasBit q2156 q2157 rfl rfl rfl rfl rfl rfl rfl rfl dX5_byRegular_162 ?_
              refine zr_if_eq (pc := 165) hX 183 rfl dX5_byRegular_165 (fun c165_28 => ?_) (fun c165_28 => ?_)
              · rw [if_pos c165_28] at h
                exact (hJt20 a13.1 (Option.some.inj h).symm).sub [0, 1, 2, 3, 4, 5, 6] rfl
              · rw [if_neg c165_28] at h
                refine zr_aload_n (pc := 168) hX 0 rfl rfl dX5_byRegular_168 ?_
                refine zr_iload_n (pc := 169) hX 1 rfl rfl dX5_byRegular_169 ?_
                refine zr_iload_n (pc := 170) hX 3 rfl rfl dX5_byRegular_170 ?_
                refine zr_aload_n (pc := 171) hX 0 rfl rfl dX5_byRegular_171 ?_
                refine zr_mgetA (pc := 172) hX 22 rfl rfl q1760 dX5_byRegular_172 ?_
                refine zr_iload (pc := 175) hX 6 rfl dX5_byRegular_175 ?_
                refine zr_iconst (pc := 177) hX zci_1 dX5_byRegular_177 ?_
                refine zr_iadd (pc := 178) hX dX5_byRegular_178 ?_
                obtain ⟨x27, gx27, h⟩ := bnd h
                refine zr_mald (pc := 179) hX 22 rfl rfl rfl gx27 dX5_byRegular_179 ?_
                obtain ⟨t28, gt28, h⟩ := bnd h
                refine zr_callV (pc := 180) (stk' := []) (k' := 0) (n' := 0) hX (fun l s0 D => mX5_supports l s0 D gt28) (zMw_obj _ _ _) (ci := 4) rfl zwX5_supports q2181 q2183 qs78 rfl rfl rfl rfl rfl rfl rfl rfl rfl dX5_byRegular_180 ?_
                exact (hJt20 t28 (Option.some.inj h).symm).sub [0, 1, 2, 3, 4, 5, 6] rfl
      refine VW.sub (lv' := [(0, .ref am), (1, .int p0), (2, .int x1), (3, .int a2.2), (4, .int t6), (5, .int x7), (6, .int x8)]) ?_ [2, 3, 4, 5, 6, 1, 0] rfl
      refine zloop_walk (V := (fun a => VW K (zMw am a2.1 b) sz 0 0 62 [(0, .ref am), (1, .int p0), (2, .int x1), (3, .int a2.2), (4, .int t6), (5, .int a.1), (6, .int a.2)] [])) (E := fun e => e = t11) ?_ n (x7, x8) _ gt11 rfl
      intro a9 o10 h kco10 keo10
      unfold fX5_byRegular_L62 at h
      refine zr_iload (pc := 62) hX 6 rfl dX5_byRegular_62 ?_
      refine zr_iload_n (pc := 64) hX 3 rfl rfl dX5_byRegular_64 ?_
      refine zr_icmp_le (pc := 65) hX 91 rfl dX5_byRegular_65 (fun c65_35 => ?_) (fun c65_35 => ?_)
      · rw [if_pos c65_35] at h
        exact (hJt11 a9.1 (keo10 _ (Option.some.inj h).symm)).sub [0, 1, 2, 3, 4, 5] rfl
      · rw [if_neg c65_35] at h
        refine zr_aload_n (pc := 68) hX 0 rfl rfl dX5_byRegular_68 ?_
        refine zr_iload_n (pc := 69) hX 1 rfl rfl dX5_byRegular_69 ?_
        refine zr_iload (pc := 70) hX 5 rfl dX5_byRegular_70 ?_
        refine zr_aload_n (pc := 72) hX 0 rfl rfl dX5_byRegular_72 ?_
        refine zr_iload_n (pc := 73) hX 1 rfl rfl dX5_byRegular_73 ?_
        refine zr_iload (pc := 74) hX 6 rfl dX5_byRegular_74 ?_
        obtain ⟨t33, gt33, h⟩ := bnd h
        refine zr_callV (pc := 76) (stk' := [.int t33, .int a9.1, .int p0, .ref am]) (k' := 0) (n' := 0) hX (fun l s0 D => mX5_domainAt l s0 D gt33) (zMw_obj _ _ _) (ci := 4) rfl zwX5_domainAt q2189 q2191 qs80 rfl rfl rfl rfl rfl rfl rfl rfl rfl dX5_byRegular_76 ?_
        refine zr_iconst (pc := 79) hX zci_0 dX5_byRegular_79 ?_
        obtain ⟨t34, gt34, h⟩ := bnd h
        refine zr_callV (pc := 80) (stk' := [.int t34]) (k' := 0) (n' := 0) hX (fun l s0 D => mX5_stepped l s0 D gt34) (zMw_obj _ _ _) (ci := 4) rfl zwX5_stepped q2214 q2216 qs84 rfl rfl rfl rfl rfl rfl rfl rfl rfl dX5_byRegular_80 ?_
        refine zr_istore (pc := 83) hX rfl (Nat.le_of_ble_eq_true rfl) rfl dX5_byRegular_83 ?_
        obtain ⟨x35, gx35, h⟩ := bnd h
        refine zr_iinc (pc := 85) hX 6 rfl zci_m1 (Option.some.inj gx35) (Nat.le_of_ble_eq_true rfl) rfl dX5_byRegular_85 ?_
        refine zr_goto (pc := 88) hX 62 rfl dX5_byRegular_88 ?_
        exact (kco10 (t34, x35) (Option.some.inj h).symm).sub [2, 3, 4, 5, 6, 1, 0] rfl
    refine VW.sub (lv' := [(0, .ref am), (1, .int p0), (2, .int x1), (3, .int a2.2), (4, .int (1 : Int32)), (5, .int (0 : Int32))]) ?_ [2, 3, 4, 5, 1, 0] rfl
    refine zloop_walk (V := (fun a => VW K (zMw am a2.1 b) sz 0 0 20 [(0, .ref am), (1, .int p0), (2, .int x1), (3, .int a2.2), (4, .int a.1), (5, .int a.2)] [])) (E := fun e => e = t6) ?_ n ((1 : Int32), (0 : Int32)) _ gt6 rfl
    intro a4 o5 h kco5 keo5
    unfold fX5_byRegular_L20 at h
    refine zr_iload (pc := 20) hX 5 rfl dX5_byRegular_20 ?_
    refine zr_iload_n (pc := 22) hX 3 rfl rfl dX5_byRegular_22 ?_
    refine zr_icmp_ge (pc := 23) hX 49 rfl dX5_byRegular_23 (fun c23_39 => ?_) (fun c23_39 => ?_)
    · rw [if_pos c23_39] at h
      exact (hJt6 a4.1 (keo5 _ (Option.some.inj h).symm)).sub [0, 1, 2, 3, 4] rfl
    · rw [if_neg c23_39] at h
      refine zr_aload_n (pc := 26) hX 0 rfl rfl dX5_byRegular_26 ?_
      refine zr_iload_n (pc := 27) hX 1 rfl rfl dX5_byRegular_27 ?_
      refine zr_iload (pc := 28) hX 4 rfl dX5_byRegular_28 ?_
      refine zr_aload_n (pc := 30) hX 0 rfl rfl dX5_byRegular_30 ?_
      refine zr_iload_n (pc := 31) hX 1 rfl rfl dX5_byRegular_31 ?_
      refine zr_iload (pc := 32) hX 5 rfl dX5_byRegular_32 ?_
      obtain ⟨t37, gt37, h⟩ := bnd h
      refine zr_callV (pc := 34) (stk' := [.int t37, .int a4.1, .int p0, .ref am]) (k' := 0) (n' := 0) hX (fun l s0 D => mX5_domainAt l s0 D gt37) (zMw_obj _ _ _) (ci := 4) rfl zwX5_domainAt q2189 q2191 qs80 rfl rfl rfl rfl rfl rfl rfl rfl rfl dX5_byRegular_34 ?_
      refine zr_iconst (pc := 37) hX zci_1 dX5_byRegular_37 ?_
      obtain ⟨t38, gt38, h⟩ := bnd h
      refine zr_callV (pc := 38) (stk' := [.int t38]) (k' := 0) (n' := 0) hX (fun l s0 D => mX5_stepped l s0 D gt38) (zMw_obj _ _ _) (ci := 4) rfl zwX5_stepped q2214 q2216 qs84 rfl rfl rfl rfl rfl rfl rfl rfl rfl dX5_byRegular_38 ?_
      refine zr_istore (pc := 41) hX rfl (Nat.le_of_ble_eq_true rfl) rfl dX5_byRegular_41 ?_
      obtain ⟨x39, gx39, h⟩ := bnd h
      refine zr_iinc (pc := 43) hX 5 rfl zci_1 (Option.some.inj gx39) (Nat.le_of_ble_eq_true rfl) rfl dX5_byRegular_43 ?_
      refine zr_goto (pc := 46) hX 20 rfl dX5_byRegular_46 ?_
      exact (kco5 (t38, x39) (Option.some.inj h).symm).sub [2, 3, 4, 5, 1, 0] rfl
set_option maxHeartbeats 4000000 in
theorem mX5_byElement (l : Launch) (s0 : State) (D : zD) {n : Nat} {am : Nat} {st : zMS} {b : zH} {sz : Nat} {p0 : Int32} {o : zMS} (h : fX5_byElement n st p0 = some o) : zM l s0 D yX5_byElement cX5_byElement 9 none 2 22 0 0 [.ref am, .int p0] (zMw am st b) sz (zMw am o b) sz none := by
  refine zenter (own := RX5) zplX5 rfl (Nat.le_of_ble_eq_true rfl) rfl (fun K hX hnm hret => ?_)
  unfold fX5_byElement at h
  show VW K (zMw am st b) sz 0 0 0 [(0, .ref am), (1, .int p0)] []
  refine zr_aload_n (pc := 0) hX 0 rfl rfl dX5_byElement_0 ?_
  refine zr_mgetA (pc := 1) hX 17 rfl rfl q1755 dX5_byElement_1 ?_
  refine zr_iload_n (pc := 4) hX 1 rfl rfl dX5_byElement_4 ?_
  obtain ⟨x1, gx1, h⟩ := bnd h
  refine zr_mald (pc := 5) hX 17 rfl rfl rfl gx1 dX5_byElement_5 ?_
  refine zr_iconst (pc := 6) hX zci_2 dX5_byElement_6 ?_
  refine zr_isub (pc := 7) hX dX5_byElement_7 ?_
  obtain ⟨x2, gx2, h⟩ := bnd h
  refine zr_istore_n (pc := 8) hX (Option.some.inj gx2) rfl (Nat.le_of_ble_eq_true rfl) rfl dX5_byElement_8 ?_
  refine zr_aload_n (pc := 9) hX 1 rfl rfl dX5_byElement_9 ?_
  refine zr_iload_n (pc := 10) hX 2 rfl rfl dX5_byElement_10 ?_
  refine zr_iconst (pc := 11) hX zci_0 dX5_byElement_11 ?_
  obtain ⟨t3, gt3, h⟩ := bnd h
  refine zr_callV (pc := 12) (stk' := [.int t3]) (k' := 0) (n' := 0) hX (fun l s0 D => mX5_domainAt l s0 D gt3) (zMw_obj _ _ _) (ci := 4) rfl zwX5_domainAt q2189 q2191 qs80 rfl rfl rfl rfl rfl rfl rfl rfl rfl dX5_byElement_12 ?_
  refine zr_istore_n (pc := 15) hX rfl rfl (Nat.le_of_ble_eq_true rfl) rfl dX5_byElement_15 ?_
  refine zr_aload_n (pc := 16) hX 2 rfl rfl dX5_byElement_16 ?_
  refine zr_iload_n (pc := 17) hX 3 rfl rfl dX5_byElement_17 ?_
  refine zr_iconst (pc := 18) hX zci_1 dX5_byElement_18 ?_
  obtain ⟨t4, gt4, h⟩ := bnd h
  refine zr_callV (pc := 19) (stk' := [.int t4]) (k' := 0) (n' := 0) hX (fun l s0 D => mX5_domainAt l s0 D gt4) (zMw_obj _ _ _) (ci := 4) rfl zwX5_domainAt q2189 q2191 qs80 rfl rfl rfl rfl rfl rfl rfl rfl rfl dX5_byElement_19 ?_
  refine zr_istore (pc := 22) hX rfl (Nat.le_of_ble_eq_true rfl) rfl dX5_byElement_22 ?_
  refine zr_iconst (pc := 24) hX zci_0 dX5_byElement_24 ?_
  refine zr_istore (pc := 25) hX rfl (Nat.le_of_ble_eq_true rfl) rfl dX5_byElement_25 ?_
  refine zr_iconst (pc := 27) hX zci_0 dX5_byElement_27 ?_
  refine zr_istore (pc := 28) hX rfl (Nat.le_of_ble_eq_true rfl) rfl dX5_byElement_28 ?_
  obtain ⟨t7, gt7, h⟩ := bnd h
  have hJt7 : ∀ a, a = t7 → VW K (zMw am a.1 b) sz 0 0 123 [(0, .ref am), (1, .int p0), (2, .int x2), (3, .int t3), (4, .int t4), (5, .int a.2)] [] := by
    intro a ea
    rw [ea]
    refine zr_aload_n (pc := 123) hX 0 rfl rfl dX5_byElement_123 ?_
    refine zr_mgetA (pc := 124) hX 41 rfl rfl q1779 dX5_byElement_124 ?_
    refine zr_bipush (pc := 127) hX zcb_8 dX5_byElement_127 ?_
    refine zr_iload_n (pc := 129) hX 1 rfl rfl dX5_byElement_129 ?_
    refine zr_imul (pc := 130) hX dX5_byElement_130 ?_
    refine zr_iconst (pc := 131) hX zci_1 dX5_byElement_131 ?_
    refine zr_iadd (pc := 132) hX dX5_byElement_132 ?_
    refine zr_iload (pc := 133) hX 5 rfl dX5_byElement_133 ?_
    obtain ⟨st8, gst8, h⟩ := bnd h
    refine zr_mast (pc := 135) hX 41 rfl rfl rfl gst8 dX5_byElement_135 ?_
    refine zr_iconst (pc := 136) hX zci_0 dX5_byElement_136 ?_
    refine zr_istore (pc := 137) hX rfl (Nat.le_of_ble_eq_true rfl) rfl dX5_byElement_137 ?_
    refine VW.sub (lv' := [(0, .ref am), (1, .int p0), (2, .int x2), (3, .int t3), (4, .int t4), (5, .int t7.2), (6, .int (0 : Int32))]) ?_ [1, 2, 3, 4, 5, 6, 0] rfl
    refine zloop_walk (V := (fun a => VW K (zMw am a.1 b) sz 0 0 139 [(0, .ref am), (1, .int p0), (2, .int x2), (3, .int t3), (4, .int t4), (5, .int t7.2), (6, .int a.2)] [])) (E := fun e => e = o) ?_ n (st8, (0 : Int32)) _ h rfl
    intro a9 o10 h kco10 keo10
    unfold fX5_byElement_L139 at h
    refine zr_iload (pc := 139) hX 6 rfl dX5_byElement_139 ?_
    refine zr_iload_n (pc := 141) hX 2 rfl rfl dX5_byElement_141 ?_
    refine zr_icmp_ge (pc := 142) hX 223 rfl dX5_byElement_142 (fun c142_19 => ?_) (fun c142_19 => ?_)
    · rw [if_pos c142_19] at h
      replace h := congrArg some (keo10 _ (Option.some.inj h).symm)
      obtain rfl := Option.some.inj h
      exact hret _ _ dX5_byElement_223
    · rw [if_neg c142_19] at h
      refine zr_iload (pc := 145) hX 5 rfl dX5_byElement_145 ?_
      refine zr_iconst (pc := 147) hX zci_1 dX5_byElement_147 ?_
      refine zr_iload (pc := 148) hX 6 rfl dX5_byElement_148 ?_
      refine zr_ishl (pc := 150) hX dX5_byElement_150 ?_
      refine zr_iconst (pc := 151) hX zci_m1 dX5_byElement_151 ?_
      refine zr_ixor (pc := 152) hX dX5_byElement_152 ?_
      refine zr_iand (pc := 153) hX dX5_byElement_153 ?_
      obtain ⟨t11, gt11, h⟩ := bnd h
      have hJt11 : ∀ a, t11 = a → VW K (zMw am a9.1 b) sz 0 0 162 [(0, .ref am), (1, .int p0), (2, .int x2), (3, .int t3), (4, .int t4), (5, .int t7.2), (6, .int a9.2)] [.int a] := by
        intro a ea
        subst ea
        refine zr_istore (pc := 162) hX rfl (Nat.le_of_ble_eq_true rfl) rfl dX5_byElement_162 ?_
        refine zr_aload_n (pc := 164) hX 1 rfl rfl dX5_byElement_164 ?_
        refine zr_iload_n (pc := 165) hX 2 rfl rfl dX5_byElement_165 ?_
        refine zr_iload (pc := 166) hX 7 rfl dX5_byElement_166 ?_
        refine zr_iconst (pc := 168) hX zci_2 dX5_byElement_168 ?_
        refine zr_iadd (pc := 169) hX dX5_byElement_169 ?_
        obtain ⟨t12, gt12, h⟩ := bnd h
        refine zr_callV (pc := 170) (stk' := [.int t12]) (k' := 0) (n' := 0) hX (fun l s0 D => mX5_domainAt l s0 D gt12) (zMw_obj _ _ _) (ci := 4) rfl zwX5_domainAt q2189 q2191 qs80 rfl rfl rfl rfl rfl rfl rfl rfl rfl dX5_byElement_170 ?_
        refine zr_istore (pc := 173) hX rfl (Nat.le_of_ble_eq_true rfl) rfl dX5_byElement_173 ?_
        refine zr_aload_n (pc := 175) hX 2 rfl rfl dX5_byElement_175 ?_
        refine zr_mgetA (pc := 176) hX 41 rfl rfl q1779 dX5_byElement_176 ?_
        refine zr_bipush (pc := 179) hX zcb_8 dX5_byElement_179 ?_
        refine zr_iload_n (pc := 181) hX 3 rfl rfl dX5_byElement_181 ?_
        refine zr_imul (pc := 182) hX dX5_byElement_182 ?_
        refine zr_iload (pc := 183) hX 8 rfl dX5_byElement_183 ?_
        refine zr_iadd (pc := 185) hX dX5_byElement_185 ?_
        refine zr_iconst (pc := 186) hX zci_2 dX5_byElement_186 ?_
        refine zr_iadd (pc := 187) hX dX5_byElement_187 ?_
        refine zr_iload (pc := 188) hX 1 rfl dX5_byElement_188 ?_
        obtain ⟨t13, gt13, h⟩ := bnd h
        have hJt13 : ∀ a, t13 = a → VW K (zMw am a9.1 b) sz 0 0 216 [(0, .ref am), (1, .int p0), (2, .int x2), (3, .int t3), (4, .int t4), (5, .int t7.2), (6, .int a9.2)] [.int a, .int ((((8 : Int32) * p0) + a9.2) + (2 : Int32)), .ref (am + zMo 41)] := by
          intro a ea
          subst ea
          obtain ⟨st14, gst14, h⟩ := bnd h
          refine zr_mast (pc := 216) hX 41 rfl rfl rfl gst14 dX5_byElement_216 ?_
          obtain ⟨x15, gx15, h⟩ := bnd h
          refine zr_iinc (pc := 217) hX 6 rfl zci_1 (Option.some.inj gx15) (Nat.le_of_ble_eq_true rfl) rfl dX5_byElement_217 ?_
          refine zr_goto (pc := 220) hX 139 rfl dX5_byElement_220 ?_
          exact (kco10 (st14, x15) (Option.some.inj h).symm).sub [1, 2, 3, 4, 5, 6, 0] rfl
        replace h := gt13
        refine zr_if_eq (pc := 190) hX 198 rfl dX5_byElement_190 (fun c190_17 => ?_) (fun c190_17 => ?_)
        · rw [if_pos c190_17] at h
          refine zr_iload (pc := 198) hX 6 rfl dX5_byElement_198 ?_
          refine zr_iload (pc := 200) hX 8 rfl dX5_byElement_200 ?_
          obtain ⟨t16, gt16, h⟩ := bnd h
          refine zr_callS (pc := 202) (stk' := [.int t16, .int ((((8 : Int32) * p0) + a9.2) + (2 : Int32)), .ref (am + zMo 41)]) (k' := 0) (n' := 0) hX (fun l s0 D => mX5_hasBit l s0 D gt16) zwX5_hasBit q2156 q2157 rfl rfl rfl rfl rfl rfl rfl rfl dX5_byElement_202 ?_
          refine zr_if_eq (pc := 205) hX 215 rfl dX5_byElement_205 (fun c205_16 => ?_) (fun c205_16 => ?_)
          · rw [if_pos c205_16] at h
            refine zr_iconst (pc := 215) hX zci_0 dX5_byElement_215 ?_
            exact (hJt13 (0 : Int32) (Option.some.inj h).symm).sub [2, 3, 4, 5, 6, 7, 8] rfl
          · rw [if_neg c205_16] at h
            refine zr_iload (pc := 208) hX 0 rfl dX5_byElement_208 ?_
            refine zr_iload_n (pc := 210) hX 5 rfl rfl dX5_byElement_210 ?_
            refine zr_iand (pc := 211) hX dX5_byElement_211 ?_
            refine zr_goto (pc := 212) hX 216 rfl dX5_byElement_212 ?_
            exact (hJt13 (t12 &&& t3) (Option.some.inj h).symm).sub [2, 3, 4, 5, 6, 7, 8] rfl
        · rw [if_neg c190_17] at h
          refine zr_iload (pc := 193) hX 0 rfl dX5_byElement_193 ?_
          refine zr_goto (pc := 195) hX 216 rfl dX5_byElement_195 ?_
          exact (hJt13 t12 (Option.some.inj h).symm).sub [2, 3, 4, 5, 6, 7, 8] rfl
      replace h := gt11
      refine zr_if_eq (pc := 154) hX 161 rfl dX5_byElement_154 (fun c154_18 => ?_) (fun c154_18 => ?_)
      · rw [if_pos c154_18] at h
        refine zr_iconst (pc := 161) hX zci_0 dX5_byElement_161 ?_
        exact (hJt11 (0 : Int32) (Option.some.inj h).symm).sub [0, 1, 2, 3, 4, 5, 6] rfl
      · rw [if_neg c154_18] at h
        refine zr_iconst (pc := 157) hX zci_1 dX5_byElement_157 ?_
        refine zr_goto (pc := 158) hX 162 rfl dX5_byElement_158 ?_
        exact (hJt11 (1 : Int32) (Option.some.inj h).symm).sub [0, 1, 2, 3, 4, 5, 6] rfl
  refine VW.sub (lv' := [(0, .ref am), (1, .int p0), (2, .int x2), (3, .int t3), (4, .int t4), (5, .int (0 : Int32)), (6, .int (0 : Int32))]) ?_ [5, 6, 4, 3, 2, 1, 0] rfl
  refine zloop_walk (V := (fun a => VW K (zMw am a.1 b) sz 0 0 30 [(0, .ref am), (1, .int p0), (2, .int x2), (3, .int t3), (4, .int t4), (5, .int a.2.1), (6, .int a.2.2)] [])) (E := fun e => e = t7) ?_ n (st, (0 : Int32), (0 : Int32)) _ gt7 rfl
  intro a5 o6 h kco6 keo6
  unfold fX5_byElement_L30 at h
  refine zr_iload (pc := 30) hX 6 rfl dX5_byElement_30 ?_
  refine zr_iload_n (pc := 32) hX 2 rfl rfl dX5_byElement_32 ?_
  refine zr_icmp_ge (pc := 33) hX 123 rfl dX5_byElement_33 (fun c33_36 => ?_) (fun c33_36 => ?_)
  · rw [if_pos c33_36] at h
    exact (hJt7 (a5.1, a5.2.1) (keo6 _ (Option.some.inj h).symm)).sub [0, 1, 2, 3, 4, 5] rfl
  · rw [if_neg c33_36] at h
    refine zr_iload (pc := 36) hX 4 rfl dX5_byElement_36 ?_
    refine zr_iload (pc := 38) hX 6 rfl dX5_byElement_38 ?_
    obtain ⟨t21, gt21, h⟩ := bnd h
    refine zr_callS (pc := 40) (stk' := [.int t21]) (k' := 0) (n' := 0) hX (fun l s0 D => mX5_hasBit l s0 D gt21) zwX5_hasBit q2156 q2157 rfl rfl rfl rfl rfl rfl rfl rfl dX5_byElement_40 ?_
    obtain ⟨t22, gt22, h⟩ := bnd h
    have hJt22 : ∀ a, t22 = a → VW K (zMw am a5.1 b) sz 0 0 65 [(0, .ref am), (1, .int p0), (2, .int x2), (3, .int t3), (4, .int t4), (5, .int a5.2.1), (6, .int a5.2.2)] [.int a] := by
      intro a ea
      subst ea
      refine zr_istore (pc := 65) hX rfl (Nat.le_of_ble_eq_true rfl) rfl dX5_byElement_65 ?_
      refine zr_iload (pc := 67) hX 6 rfl dX5_byElement_67 ?_
      refine zr_iload (pc := 69) hX 0 rfl dX5_byElement_69 ?_
      obtain ⟨t23, gt23, h⟩ := bnd h
      have hJt23 : ∀ a, t23 = a → VW K (zMw am a5.1 b) sz 0 0 82 [(0, .ref am), (1, .int p0), (2, .int x2), (3, .int t3), (4, .int t4), (6, .int a5.2.2), (7, .int t22)] [.int a, .int a5.2.1] := by
        intro a ea
        subst ea
        refine zr_ior (pc := 82) hX dX5_byElement_82 ?_
        obtain ⟨x24, gx24, h⟩ := bnd h
        refine zr_istore (pc := 83) hX (Option.some.inj gx24) (Nat.le_of_ble_eq_true rfl) rfl dX5_byElement_83 ?_
        refine zr_aload_n (pc := 85) hX 1 rfl rfl dX5_byElement_85 ?_
        refine zr_mgetA (pc := 86) hX 41 rfl rfl q1779 dX5_byElement_86 ?_
        refine zr_bipush (pc := 89) hX zcb_8 dX5_byElement_89 ?_
        refine zr_iload_n (pc := 91) hX 2 rfl rfl dX5_byElement_91 ?_
        refine zr_imul (pc := 92) hX dX5_byElement_92 ?_
        refine zr_dup2 (pc := 93) hX rfl rfl dX5_byElement_93 ?_
        obtain ⟨x25, gx25, h⟩ := bnd h
        refine zr_mald (pc := 94) hX 41 rfl rfl rfl gx25 dX5_byElement_94 ?_
        refine zr_iload (pc := 95) hX 7 rfl dX5_byElement_95 ?_
        obtain ⟨t26, gt26, h⟩ := bnd h
        have hJt26 : ∀ a, t26 = a → VW K (zMw am a5.1 b) sz 0 0 115 [(0, .ref am), (1, .int p0), (2, .int x2), (3, .int t3), (4, .int t4), (5, .int x24), (6, .int a5.2.2)] [.int a, .int x25, .int ((8 : Int32) * p0), .ref (am + zMo 41)] := by
          intro a ea
          subst ea
          refine zr_ior (pc := 115) hX dX5_byElement_115 ?_
          obtain ⟨st27, gst27, h⟩ := bnd h
          refine zr_mast (pc := 116) hX 41 rfl rfl rfl gst27 dX5_byElement_116 ?_
          obtain ⟨x28, gx28, h⟩ := bnd h
          refine zr_iinc (pc := 117) hX 6 rfl zci_1 (Option.some.inj gx28) (Nat.le_of_ble_eq_true rfl) rfl dX5_byElement_117 ?_
          refine zr_goto (pc := 120) hX 30 rfl dX5_byElement_120 ?_
          exact (kco6 (st27, x24, x28) (Option.some.inj h).symm).sub [1, 2, 3, 4, 5, 6, 0] rfl
        replace h := gt26
        refine zr_if_eq (pc := 97) hX 114 rfl dX5_byElement_97 (fun c97_29 => ?_) (fun c97_29 => ?_)
        · rw [if_pos c97_29] at h
          refine zr_iconst (pc := 114) hX zci_0 dX5_byElement_114 ?_
          exact (hJt26 (0 : Int32) (Option.some.inj h).symm).sub [1, 2, 3, 4, 5, 0, 6] rfl
        · rw [if_neg c97_29] at h
          refine zr_iload_n (pc := 100) hX 4 rfl rfl dX5_byElement_100 ?_
          refine zr_aload_n (pc := 101) hX 1 rfl rfl dX5_byElement_101 ?_
          refine zr_iload_n (pc := 102) hX 2 rfl rfl dX5_byElement_102 ?_
          refine zr_iload (pc := 103) hX 6 rfl dX5_byElement_103 ?_
          refine zr_iconst (pc := 105) hX zci_2 dX5_byElement_105 ?_
          refine zr_iadd (pc := 106) hX dX5_byElement_106 ?_
          obtain ⟨t29, gt29, h⟩ := bnd h
          refine zr_callV (pc := 107) (stk' := [.int t29, .int t3, .int x25, .int ((8 : Int32) * p0), .ref (am + zMo 41)]) (k' := 0) (n' := 0) hX (fun l s0 D => mX5_domainAt l s0 D gt29) (zMw_obj _ _ _) (ci := 4) rfl zwX5_domainAt q2189 q2191 qs80 rfl rfl rfl rfl rfl rfl rfl rfl rfl dX5_byElement_107 ?_
          refine zr_iand (pc := 110) hX dX5_byElement_110 ?_
          refine zr_goto (pc := 111) hX 115 rfl dX5_byElement_111 ?_
          exact (hJt26 (t3 &&& t29) (Option.some.inj h).symm).sub [1, 2, 3, 4, 5, 0, 6] rfl
      replace h := gt23
      refine zr_if_eq (pc := 71) hX 81 rfl dX5_byElement_71 (fun c71_30 => ?_) (fun c71_30 => ?_)
      · rw [if_pos c71_30] at h
        refine zr_iconst (pc := 81) hX zci_0 dX5_byElement_81 ?_
        exact (hJt23 (0 : Int32) (Option.some.inj h).symm).sub [1, 2, 3, 4, 5, 7, 0] rfl
      · rw [if_neg c71_30] at h
        refine zr_iconst (pc := 74) hX zci_1 dX5_byElement_74 ?_
        refine zr_iload (pc := 75) hX 7 rfl dX5_byElement_75 ?_
        refine zr_ishl (pc := 77) hX dX5_byElement_77 ?_
        refine zr_goto (pc := 78) hX 82 rfl dX5_byElement_78 ?_
        exact (hJt23 ((1 : Int32) <<< (a5.2.2 &&& 31)) (Option.some.inj h).symm).sub [1, 2, 3, 4, 5, 7, 0] rfl
    replace h := gt22
    obtain ⟨u33, gu33, hAu33, hBu33⟩ := zesc_bnd h
    have hJt32 : ∀ a, u33 = .inl a → VW K (zMw am a5.1 b) sz 0 0 64 [(0, .ref am), (1, .int p0), (2, .int x2), (3, .int t3), (4, .int t4), (5, .int a5.2.1), (6, .int a5.2.2)] [] := by
      intro t32 ea
      have h := hAu33 _ ea
      refine zr_iconst (pc := 64) hX zci_0 dX5_byElement_64 ?_
      exact (hJt22 (0 : Int32) (Option.some.inj h).symm).sub [0, 1, 2, 3, 4, 5, 6] rfl
    replace h := gu33
    refine zr_if_eq (pc := 43) hX 64 rfl dX5_byElement_43 (fun c43_35 => ?_) (fun c43_35 => ?_)
    · rw [if_pos c43_35] at h
      exact (hJt32 () (Option.some.inj h).symm).sub [0, 1, 2, 3, 4, 5, 6] rfl
    · rw [if_neg c43_35] at h
      refine zr_iload_n (pc := 46) hX 3 rfl rfl dX5_byElement_46 ?_
      refine zr_aload_n (pc := 47) hX 0 rfl rfl dX5_byElement_47 ?_
      refine zr_iload_n (pc := 48) hX 1 rfl rfl dX5_byElement_48 ?_
      refine zr_iload (pc := 49) hX 6 rfl dX5_byElement_49 ?_
      refine zr_iconst (pc := 51) hX zci_2 dX5_byElement_51 ?_
      refine zr_iadd (pc := 52) hX dX5_byElement_52 ?_
      obtain ⟨t34, gt34, h⟩ := bnd h
      refine zr_callV (pc := 53) (stk' := [.int t34, .int t3]) (k' := 0) (n' := 0) hX (fun l s0 D => mX5_domainAt l s0 D gt34) (zMw_obj _ _ _) (ci := 4) rfl zwX5_domainAt q2189 q2191 qs80 rfl rfl rfl rfl rfl rfl rfl rfl rfl dX5_byElement_53 ?_
      refine zr_iand (pc := 56) hX dX5_byElement_56 ?_
      refine zr_if_eq (pc := 57) hX 64 rfl dX5_byElement_57 (fun c57_34 => ?_) (fun c57_34 => ?_)
      · rw [if_pos c57_34] at h
        exact (hJt32 () (Option.some.inj h).symm).sub [0, 1, 2, 3, 4, 5, 6] rfl
      · rw [if_neg c57_34] at h
        refine zr_iconst (pc := 60) hX zci_1 dX5_byElement_60 ?_
        refine zr_goto (pc := 61) hX 65 rfl dX5_byElement_61 ?_
        replace h := congrArg some (hBu33 _ (Option.some.inj h).symm)
        exact (hJt22 (1 : Int32) (Option.some.inj h).symm).sub [0, 1, 2, 3, 4, 5, 6] rfl
set_option maxHeartbeats 4000000 in
theorem mX5_canHold (l : Launch) (s0 : State) (D : zD) {am : Nat} {st : zMS} {b : zH} {sz : Nat} {p0 : Int32} {p1 : Int32} {o : Int32} (h : fX5_canHold st p0 p1 = some o) : zM l s0 D yX5_canHold cX5_canHold 5 (some .boolean) 2 22 0 0 [.ref am, .int p0, .int p1] (zMw am st b) sz (zMw am st b) sz (some (.int o)) := by
  refine zenter (own := RX5) zplX5 rfl (Nat.le_of_ble_eq_true rfl) trivial (fun K hX hnm hret => ?_)
  unfold fX5_canHold at h
  show VW K (zMw am st b) sz 0 0 0 [(0, .ref am), (1, .int p0), (2, .int p1)] []
  refine zr_aload_n (pc := 0) hX 0 rfl rfl dX5_canHold_0 ?_
  refine zr_iload_n (pc := 1) hX 1 rfl rfl dX5_canHold_1 ?_
  refine zr_iload_n (pc := 2) hX 2 rfl rfl dX5_canHold_2 ?_
  obtain ⟨t1, gt1, h⟩ := bnd h
  refine zr_callV (pc := 3) (stk' := [.int t1]) (k' := 0) (n' := 0) hX (fun l s0 D => mX5_domainAt l s0 D gt1) (zMw_obj _ _ _) (ci := 4) rfl zwX5_domainAt q2189 q2191 qs80 rfl rfl rfl rfl rfl rfl rfl rfl rfl dX5_canHold_3 ?_
  refine zr_istore_n (pc := 6) hX rfl rfl (Nat.le_of_ble_eq_true rfl) rfl dX5_canHold_6 ?_
  refine zr_iconst (pc := 7) hX zci_1 dX5_canHold_7 ?_
  refine zr_aload_n (pc := 8) hX 1 rfl rfl dX5_canHold_8 ?_
  refine zr_mgetA (pc := 9) hX 19 rfl rfl q1757 dX5_canHold_9 ?_
  refine zr_bipush (pc := 12) hX zcb_6 dX5_canHold_12 ?_
  refine zr_iload_n (pc := 14) hX 2 rfl rfl dX5_canHold_14 ?_
  refine zr_imul (pc := 15) hX dX5_canHold_15 ?_
  refine zr_iload_n (pc := 16) hX 3 rfl rfl dX5_canHold_16 ?_
  refine zr_iadd (pc := 17) hX dX5_canHold_17 ?_
  obtain ⟨x2, gx2, h⟩ := bnd h
  refine zr_mald (pc := 18) hX 19 rfl rfl rfl gx2 dX5_canHold_18 ?_
  refine zr_ishl (pc := 19) hX dX5_canHold_19 ?_
  obtain ⟨x3, gx3, h⟩ := bnd h
  refine zr_istore (pc := 20) hX (Option.some.inj gx3) (Nat.le_of_ble_eq_true rfl) rfl dX5_canHold_20 ?_
  refine zr_aload_n (pc := 22) hX 2 rfl rfl dX5_canHold_22 ?_
  refine zr_mgetA (pc := 23) hX 23 rfl rfl q1761 dX5_canHold_23 ?_
  refine zr_bipush (pc := 26) hX zcb_6 dX5_canHold_26 ?_
  refine zr_iload_n (pc := 28) hX 3 rfl rfl dX5_canHold_28 ?_
  refine zr_imul (pc := 29) hX dX5_canHold_29 ?_
  refine zr_iload_n (pc := 30) hX 4 rfl rfl dX5_canHold_30 ?_
  refine zr_iadd (pc := 31) hX dX5_canHold_31 ?_
  obtain ⟨x4, gx4, h⟩ := bnd h
  refine zr_maldZ (pc := 32) hX 23 rfl rfl rfl gx4 dX5_canHold_32 ?_
  refine zr_if_eq (pc := 33) hX 51 rfl dX5_canHold_33 (fun c33_6 => ?_) (fun c33_6 => ?_)
  · rw [if_pos c33_6] at h
    refine zr_iload_n (pc := 51) hX 1 rfl rfl dX5_canHold_51 ?_
    refine zr_iload (pc := 52) hX 0 rfl dX5_canHold_52 ?_
    refine zr_iconst (pc := 54) hX zci_m1 dX5_canHold_54 ?_
    refine zr_ixor (pc := 55) hX dX5_canHold_55 ?_
    refine zr_iand (pc := 56) hX dX5_canHold_56 ?_
    refine zr_if_eq (pc := 57) hX 64 rfl dX5_canHold_57 (fun c57_4 => ?_) (fun c57_4 => ?_)
    · rw [if_pos c57_4] at h
      refine zr_iconst (pc := 64) hX zci_0 dX5_canHold_64 ?_
      obtain rfl := Option.some.inj h
      exact hret _ _ dX5_canHold_65 (Or.inr ⟨rfl, Or.inl rfl⟩)
    · rw [if_neg c57_4] at h
      refine zr_iconst (pc := 60) hX zci_1 dX5_canHold_60 ?_
      refine zr_goto (pc := 61) hX 65 rfl dX5_canHold_61 ?_
      obtain rfl := Option.some.inj h
      exact hret _ _ dX5_canHold_65 (Or.inr ⟨rfl, Or.inr rfl⟩)
  · rw [if_neg c33_6] at h
    refine zr_iload_n (pc := 36) hX 1 rfl rfl dX5_canHold_36 ?_
    refine zr_iload (pc := 37) hX 0 rfl dX5_canHold_37 ?_
    refine zr_iand (pc := 39) hX dX5_canHold_39 ?_
    refine zr_if_eq (pc := 40) hX 47 rfl dX5_canHold_40 (fun c40_5 => ?_) (fun c40_5 => ?_)
    · rw [if_pos c40_5] at h
      refine zr_iconst (pc := 47) hX zci_0 dX5_canHold_47 ?_
      refine zr_goto (pc := 48) hX 65 rfl dX5_canHold_48 ?_
      obtain rfl := Option.some.inj h
      exact hret _ _ dX5_canHold_65 (Or.inr ⟨rfl, Or.inl rfl⟩)
    · rw [if_neg c40_5] at h
      refine zr_iconst (pc := 43) hX zci_1 dX5_canHold_43 ?_
      refine zr_goto (pc := 44) hX 65 rfl dX5_canHold_44 ?_
      obtain rfl := Option.some.inj h
      exact hret _ _ dX5_canHold_65 (Or.inr ⟨rfl, Or.inr rfl⟩)
