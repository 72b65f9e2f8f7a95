/-! X: walks, group b (printed by gen/gens.py) -/
set_option maxRecDepth 100000
set_option maxHeartbeats 4000000 in
theorem mX15_keep_2 (l : Launch) (s0 : State) (D : zD) {σ : zH} {sz : Nat} {th : Nat} {p0 : Int32} {p1 : Int32} {p2 : Int32} {o : zH} (h : fX15_keep_2 σ th p0 p1 p2 = some o) : zM l s0 D yX15_keep_2 cX15_keep_2 4 none 8 400 0 0 [.ref th, .int p0, .int p1, .int p2] σ sz o sz none := by
  refine zenter (own := RX15) zplX15 rfl (Nat.le_of_ble_eq_true rfl) rfl (fun K hX hnm hret => ?_)
  unfold fX15_keep_2 at h
  have hret : ∀ a, o = a → zRet K cX15_keep_2 none a sz 0 0 none := fun a e => by cases e; exact hret
  show VW K σ sz 0 0 0 [(0, .ref th), (1, .int p0), (2, .int p1), (3, .int p2)] []
  refine zr_aload_n (pc := 0) hX 0 rfl rfl dX15_keep_2_0 ?_
  obtain ⟨r1, gr1, h⟩ := bnd h
  refine zr_fv (pc := 1) hX za13_4 (zgR_spec gr1) q1275 (Or.inl rfl) dX15_keep_2_1 ?_
  refine zr_iload_n (pc := 4) hX 1 rfl rfl dX15_keep_2_4 ?_
  refine zr_iload_n (pc := 5) hX 2 rfl rfl dX15_keep_2_5 ?_
  refine zr_iload_n (pc := 6) hX 3 rfl rfl dX15_keep_2_6 ?_
  obtain ⟨x2, gx2, h⟩ := bnd h
  refine zr_holds (pc := 7) (rest := []) hX gx2 rfl rfl dX15_keep_2_7 ?_
  refine zr_if_eq (pc := 12) hX 59 rfl dX15_keep_2_12 (fun c12_14 => ?_) (fun c12_14 => ?_)
  · rw [if_pos c12_14] at h
    exact hret _ (Option.some.inj h).symm _ _ dX15_keep_2_59
  · rw [if_neg c12_14] at h
    refine zr_aload_n (pc := 15) hX 0 rfl rfl dX15_keep_2_15 ?_
    obtain ⟨r3, gr3, h⟩ := bnd h
    refine zr_fv (pc := 16) hX za13_1 (zgR_spec gr3) q1091 (Or.inr q1092) dX15_keep_2_16 ?_
    refine zr_iconst (pc := 19) hX zci_0 dX15_keep_2_19 ?_
    refine zr_dup2 (pc := 20) hX rfl rfl dX15_keep_2_20 ?_
    obtain ⟨x4, gx4, h⟩ := bnd h
    refine zr_aI (pc := 21) hX gx4 dX15_keep_2_21 ?_
    refine zr_iconst (pc := 22) hX zci_1 dX15_keep_2_22 ?_
    refine zr_iload_n (pc := 23) hX 1 rfl rfl dX15_keep_2_23 ?_
    refine zr_ishl (pc := 24) hX dX15_keep_2_24 ?_
    refine zr_ior (pc := 25) hX dX15_keep_2_25 ?_
    obtain ⟨σ5, gσ5, h⟩ := bnd h
    refine zr_sI (pc := 26) hX gσ5 dX15_keep_2_26 ?_
    refine zr_aload_n (pc := 27) hX 0 rfl rfl dX15_keep_2_27 ?_
    obtain ⟨r6, gr6, h⟩ := bnd h
    refine zr_fv (pc := 28) hX za13_1 (zgR_spec gr6) q1091 (Or.inr q1092) dX15_keep_2_28 ?_
    refine zr_iconst (pc := 31) hX zci_1 dX15_keep_2_31 ?_
    refine zr_dup2 (pc := 32) hX rfl rfl dX15_keep_2_32 ?_
    obtain ⟨x7, gx7, h⟩ := bnd h
    refine zr_aI (pc := 33) hX gx7 dX15_keep_2_33 ?_
    refine zr_iconst (pc := 34) hX zci_1 dX15_keep_2_34 ?_
    refine zr_iload_n (pc := 35) hX 2 rfl rfl dX15_keep_2_35 ?_
    refine zr_ishl (pc := 36) hX dX15_keep_2_36 ?_
    refine zr_ior (pc := 37) hX dX15_keep_2_37 ?_
    obtain ⟨σ8, gσ8, h⟩ := bnd h
    refine zr_sI (pc := 38) hX gσ8 dX15_keep_2_38 ?_
    refine zr_aload_n (pc := 39) hX 0 rfl rfl dX15_keep_2_39 ?_
    obtain ⟨u9, gu9, h⟩ := bnd h
    obtain ⟨t10, gt10, h⟩ := bnd h
    refine zr_callU (pc := 40) (rest := []) (stk' := [.int t10]) (k' := 0) (n' := 0) hX (fun l s0 D => mX9_size l s0 D gt10) gu9 zc13 zwX9_size q622 q623 q473 q624 (Or.inl ⟨q473, _, _, _, q474⟩) (by decide) rfl rfl rfl rfl rfl rfl rfl rfl rfl dX15_keep_2_40 ?_
    refine zr_iconst (pc := 43) hX zci_2 dX15_keep_2_43 ?_
    refine zr_icmp_le (pc := 44) hX 59 rfl dX15_keep_2_44 (fun c44_13 => ?_) (fun c44_13 => ?_)
    · rw [if_pos c44_13] at h
      exact hret _ (Option.some.inj h).symm _ _ dX15_keep_2_59
    · rw [if_neg c44_13] at h
      refine zr_aload_n (pc := 47) hX 0 rfl rfl dX15_keep_2_47 ?_
      obtain ⟨r11, gr11, h⟩ := bnd h
      refine zr_fv (pc := 48) hX za13_1 (zgR_spec gr11) q1091 (Or.inr q1092) dX15_keep_2_48 ?_
      refine zr_iconst (pc := 51) hX zci_2 dX15_keep_2_51 ?_
      refine zr_dup2 (pc := 52) hX rfl rfl dX15_keep_2_52 ?_
      obtain ⟨x12, gx12, h⟩ := bnd h
      refine zr_aI (pc := 53) hX gx12 dX15_keep_2_53 ?_
      refine zr_iconst (pc := 54) hX zci_1 dX15_keep_2_54 ?_
      refine zr_iload_n (pc := 55) hX 3 rfl rfl dX15_keep_2_55 ?_
      refine zr_ishl (pc := 56) hX dX15_keep_2_56 ?_
      refine zr_ior (pc := 57) hX dX15_keep_2_57 ?_
      obtain ⟨σ13, gσ13, h⟩ := bnd h
      refine zr_sI (pc := 58) hX gσ13 dX15_keep_2_58 ?_
      exact hret _ (Option.some.inj h).symm _ _ dX15_keep_2_59
set_option maxHeartbeats 4000000 in
theorem mX15_keep (l : Launch) (s0 : State) (D : zD) {n : Nat} {σ : zH} {sz : Nat} {th : Nat} {p0 : Nat} {o : zH} (h : fX15_keep n σ th p0 = some o) : zM l s0 D yX15_keep cX15_keep 6 none 9 423 0 0 [.ref th, .ref p0] σ sz o sz none := by
  refine zenter (own := RX15) zplX15 rfl (Nat.le_of_ble_eq_true rfl) rfl (fun K hX hnm hret => ?_)
  unfold fX15_keep at h
  have hret : ∀ a, o = a → zRet K cX15_keep none a sz 0 0 none := fun a e => by cases e; exact hret
  show VW K σ sz 0 0 0 [(0, .ref th), (1, .ref p0)] []
  refine zr_iconst (pc := 0) hX zci_0 dX15_keep_0 ?_
  refine zr_istore_n (pc := 1) hX rfl rfl (Nat.le_of_ble_eq_true rfl) rfl dX15_keep_1 ?_
  obtain ⟨t3, gt3, h⟩ := bnd h
  have hJt3 : ∀ a, a = t3 → VW K a sz 0 0 23 [(0, .ref th), (1, .ref p0)] [] := by
    intro a ea
    rw [ea]
    refine zr_aload_n (pc := 23) hX 0 rfl rfl dX15_keep_23 ?_
    obtain ⟨u4, gu4, h⟩ := bnd h
    obtain ⟨t5, gt5, h⟩ := bnd h
    refine zr_callU (pc := 24) (rest := []) (stk' := [.int t5]) (k' := 0) (n' := 0) hX (fun l s0 D => mX9_size l s0 D gt5) gu4 zc13 zwX9_size q622 q623 q473 q624 (Or.inl ⟨q473, _, _, _, q474⟩) (by decide) rfl rfl rfl rfl rfl rfl rfl rfl rfl dX15_keep_24 ?_
    refine zr_iconst (pc := 27) hX zci_2 dX15_keep_27 ?_
    obtain ⟨t6, gt6, h⟩ := bnd h
    have hJt6 : ∀ a, t6 = a → VW K t3 sz 0 0 41 [(0, .ref th), (1, .ref p0)] [.int a] := by
      intro a ea
      subst ea
      refine zr_istore_n (pc := 41) hX rfl rfl (Nat.le_of_ble_eq_true rfl) rfl dX15_keep_41 ?_
      refine zr_iconst (pc := 42) hX zci_0 dX15_keep_42 ?_
      refine zr_istore_n (pc := 43) hX rfl rfl (Nat.le_of_ble_eq_true rfl) rfl dX15_keep_43 ?_
      refine VW.sub (lv' := [(0, .ref th), (1, .ref p0), (2, .int t6), (3, .int (0 : Int32))]) ?_ [2, 3, 1, 0] rfl
      refine zloop_walk (V := (fun a => VW K a.1 sz 0 0 44 [(0, .ref th), (1, .ref p0), (2, .int t6), (3, .int a.2)] [])) (E := fun e => e = o) ?_ n (t3, (0 : Int32)) _ h rfl
      intro a7 o8 h kco8 keo8
      unfold fX15_keep_L44 at h
      refine zr_iload_n (pc := 44) hX 3 rfl rfl dX15_keep_44 ?_
      refine zr_bipush (pc := 45) hX zcb_32 dX15_keep_45 ?_
      refine zr_icmp_ge (pc := 47) hX 133 rfl dX15_keep_47 (fun c47_32 => ?_) (fun c47_32 => ?_)
      · rw [if_pos c47_32] at h
        replace h := congrArg some (keo8 _ (Option.some.inj h).symm)
        exact hret _ (Option.some.inj h).symm _ _ dX15_keep_133
      · rw [if_neg c47_32] at h
        refine zr_iconst (pc := 50) hX zci_0 dX15_keep_50 ?_
        refine zr_istore (pc := 51) hX rfl (Nat.le_of_ble_eq_true rfl) rfl dX15_keep_51 ?_
        obtain ⟨t11, gt11, h⟩ := bnd h
        have hJt11 : ∀ a, a = t11 → VW K a sz 0 0 127 [(0, .ref th), (1, .ref p0), (2, .int t6), (3, .int a7.2)] [] := by
          intro a ea
          rw [ea]
          obtain ⟨x12, gx12, h⟩ := bnd h
          refine zr_iinc (pc := 127) hX 3 rfl zci_1 (Option.some.inj gx12) (Nat.le_of_ble_eq_true rfl) rfl dX15_keep_127 ?_
          refine zr_goto (pc := 130) hX 44 rfl dX15_keep_130 ?_
          exact VW.sub (kco8 (t11, x12) (Option.some.inj h).symm) [1, 2, 3, 0] rfl
        refine VW.sub (lv' := [(0, .ref th), (1, .ref p0), (2, .int t6), (3, .int a7.2), (4, .int (0 : Int32))]) ?_ [1, 2, 3, 4, 0] rfl
        refine zloop_walk (V := (fun a => VW K a.1 sz 0 0 53 [(0, .ref th), (1, .ref p0), (2, .int t6), (3, .int a7.2), (4, .int a.2)] [])) (E := fun e => e = t11) ?_ n (a7.1, (0 : Int32)) _ gt11 rfl
        intro a9 o10 h kco10 keo10
        unfold fX15_keep_L53 at h
        refine zr_iload (pc := 53) hX 4 rfl dX15_keep_53 ?_
        refine zr_bipush (pc := 55) hX zcb_32 dX15_keep_55 ?_
        refine zr_icmp_ge (pc := 57) hX 127 rfl dX15_keep_57 (fun c57_31 => ?_) (fun c57_31 => ?_)
        · rw [if_pos c57_31] at h
          exact VW.sub (hJt11 a9.1 (keo10 _ (Option.some.inj h).symm)) [0, 1, 2, 3] rfl
        · rw [if_neg c57_31] at h
          refine zr_aload_n (pc := 60) hX 0 rfl rfl dX15_keep_60 ?_
          refine zr_aload_n (pc := 61) hX 1 rfl rfl dX15_keep_61 ?_
          refine zr_iconst (pc := 62) hX zci_0 dX15_keep_62 ?_
          obtain ⟨u13, gu13, h⟩ := bnd h
          obtain ⟨t14, gt14, h⟩ := bnd h
          refine zr_callU (pc := 63) (rest := []) (stk' := [.int t14]) (k' := 0) (n' := 0) hX (fun l s0 D => mX9_domain l s0 D gt14) gu13 zc13 zwX9_domain q625 q626 q479 q627 (Or.inl ⟨q479, _, _, _, q480⟩) (by decide) rfl rfl rfl rfl rfl rfl rfl rfl rfl dX15_keep_63 ?_
          refine zr_iload_n (pc := 66) hX 3 rfl rfl dX15_keep_66 ?_
          obtain ⟨t15, gt15, h⟩ := bnd h
          refine zr_callSN (pc := 67) (rest := []) (stk' := [.int t15]) (k' := 0) (n' := 0) hX (fun l s0 D => mX1_has l s0 D gt15) zwX1_has q628 q432 rfl rfl rfl rfl rfl rfl rfl rfl dX15_keep_67 ?_
          refine zr_if_eq (pc := 70) hX 127 rfl dX15_keep_70 (fun c70_30 => ?_) (fun c70_30 => ?_)
          · rw [if_pos c70_30] at h
            exact VW.sub (hJt11 a9.1 (keo10 _ (Option.some.inj h).symm)) [0, 1, 2, 3] rfl
          · rw [if_neg c70_30] at h
            refine zr_iconst (pc := 73) hX zci_0 dX15_keep_73 ?_
            refine zr_istore (pc := 74) hX rfl (Nat.le_of_ble_eq_true rfl) rfl dX15_keep_74 ?_
            obtain ⟨t18, gt18, h⟩ := bnd h
            have hJt18 : ∀ a, a = t18 → VW K a sz 0 0 121 [(0, .ref th), (1, .ref p0), (2, .int t6), (3, .int a7.2), (4, .int a9.2)] [] := by
              intro a ea
              rw [ea]
              obtain ⟨x19, gx19, h⟩ := bnd h
              refine zr_iinc (pc := 121) hX 4 rfl zci_1 (Option.some.inj gx19) (Nat.le_of_ble_eq_true rfl) rfl dX15_keep_121 ?_
              refine zr_goto (pc := 124) hX 53 rfl dX15_keep_124 ?_
              exact VW.sub (kco10 (t18, x19) (Option.some.inj h).symm) [1, 2, 3, 4, 0] rfl
            refine VW.sub (lv' := [(0, .ref th), (1, .ref p0), (2, .int t6), (3, .int a7.2), (4, .int a9.2), (5, .int (0 : Int32))]) ?_ [1, 2, 3, 4, 5, 0] rfl
            refine zloop_walk (V := (fun a => VW K a.1 sz 0 0 76 [(0, .ref th), (1, .ref p0), (2, .int t6), (3, .int a7.2), (4, .int a9.2), (5, .int a.2)] [])) (E := fun e => e = t18) ?_ n (a9.1, (0 : Int32)) _ gt18 rfl
            intro a16 o17 h kco17 keo17
            unfold fX15_keep_L76 at h
            refine zr_iload (pc := 76) hX 5 rfl dX15_keep_76 ?_
            refine zr_bipush (pc := 78) hX zcb_32 dX15_keep_78 ?_
            refine zr_icmp_ge (pc := 80) hX 121 rfl dX15_keep_80 (fun c80_29 => ?_) (fun c80_29 => ?_)
            · rw [if_pos c80_29] at h
              exact VW.sub (hJt18 a16.1 (keo17 _ (Option.some.inj h).symm)) [0, 1, 2, 3, 4] rfl
            · rw [if_neg c80_29] at h
              refine zr_aload_n (pc := 83) hX 0 rfl rfl dX15_keep_83 ?_
              refine zr_aload_n (pc := 84) hX 1 rfl rfl dX15_keep_84 ?_
              refine zr_iconst (pc := 85) hX zci_1 dX15_keep_85 ?_
              obtain ⟨u20, gu20, h⟩ := bnd h
              obtain ⟨t21, gt21, h⟩ := bnd h
              refine zr_callU (pc := 86) (rest := []) (stk' := [.int t21]) (k' := 0) (n' := 0) hX (fun l s0 D => mX9_domain l s0 D gt21) gu20 zc13 zwX9_domain q625 q626 q479 q627 (Or.inl ⟨q479, _, _, _, q480⟩) (by decide) rfl rfl rfl rfl rfl rfl rfl rfl rfl dX15_keep_86 ?_
              refine zr_iload (pc := 89) hX 4 rfl dX15_keep_89 ?_
              obtain ⟨t22, gt22, h⟩ := bnd h
              refine zr_callSN (pc := 91) (rest := []) (stk' := [.int t22]) (k' := 0) (n' := 0) hX (fun l s0 D => mX1_has l s0 D gt22) zwX1_has q628 q432 rfl rfl rfl rfl rfl rfl rfl rfl dX15_keep_91 ?_
              refine zr_if_eq (pc := 94) hX 121 rfl dX15_keep_94 (fun c94_28 => ?_) (fun c94_28 => ?_)
              · rw [if_pos c94_28] at h
                exact VW.sub (hJt18 a16.1 (keo17 _ (Option.some.inj h).symm)) [0, 1, 2, 3, 4] rfl
              · rw [if_neg c94_28] at h
                refine zr_iload_n (pc := 97) hX 2 rfl rfl dX15_keep_97 ?_
                refine zr_iload (pc := 98) hX 5 rfl dX15_keep_98 ?_
                obtain ⟨t23, gt23, h⟩ := bnd h
                refine zr_callSN (pc := 100) (rest := []) (stk' := [.int t23]) (k' := 0) (n' := 0) hX (fun l s0 D => mX1_has l s0 D gt23) zwX1_has q628 q432 rfl rfl rfl rfl rfl rfl rfl rfl dX15_keep_100 ?_
                obtain ⟨t24, gt24, h⟩ := bnd h
                have hJt24 : ∀ a, t24 = a → VW K a sz 0 0 115 [(0, .ref th), (1, .ref p0), (2, .int t6), (3, .int a7.2), (4, .int a9.2), (5, .int a16.2)] [] := by
                  intro a ea
                  subst ea
                  obtain ⟨x25, gx25, h⟩ := bnd h
                  refine zr_iinc (pc := 115) hX 5 rfl zci_1 (Option.some.inj gx25) (Nat.le_of_ble_eq_true rfl) rfl dX15_keep_115 ?_
                  refine zr_goto (pc := 118) hX 76 rfl dX15_keep_118 ?_
                  exact VW.sub (kco17 (t24, x25) (Option.some.inj h).symm) [1, 2, 3, 4, 5, 0] rfl
                replace h := gt24
                refine zr_if_eq (pc := 103) hX 115 rfl dX15_keep_103 (fun c103_27 => ?_) (fun c103_27 => ?_)
                · rw [if_pos c103_27] at h
                  exact VW.sub (hJt24 a16.1 (Option.some.inj h).symm) [0, 1, 2, 3, 4, 5] rfl
                · rw [if_neg c103_27] at h
                  refine zr_aload_n (pc := 106) hX 0 rfl rfl dX15_keep_106 ?_
                  refine zr_iload_n (pc := 107) hX 3 rfl rfl dX15_keep_107 ?_
                  refine zr_iload (pc := 108) hX 4 rfl dX15_keep_108 ?_
                  refine zr_iload (pc := 110) hX 5 rfl dX15_keep_110 ?_
                  obtain ⟨u26, gu26, h⟩ := bnd h
                  obtain ⟨t27, gt27, h⟩ := bnd h
                  refine zr_callVs (pc := 112) (rest := []) (stk' := []) (k' := 0) (n' := 0) hX (fun l s0 D => mX15_keep_2 l s0 D gt27) gu26 zc13 zwX15_keep_2 q629 q631 qs17 rfl rfl rfl rfl rfl rfl rfl rfl rfl dX15_keep_112 ?_
                  exact VW.sub (hJt24 t27 (Option.some.inj h).symm) [0, 1, 2, 3, 4, 5] rfl
    replace h := gt6
    refine zr_icmp_le (pc := 28) hX 40 rfl dX15_keep_28 (fun c28_35 => ?_) (fun c28_35 => ?_)
    · rw [if_pos c28_35] at h
      refine zr_iconst (pc := 40) hX zci_1 dX15_keep_40 ?_
      exact VW.sub (hJt6 (1 : Int32) (Option.some.inj h).symm) [0, 1] rfl
    · rw [if_neg c28_35] at h
      refine zr_aload_n (pc := 31) hX 0 rfl rfl dX15_keep_31 ?_
      refine zr_aload_n (pc := 32) hX 1 rfl rfl dX15_keep_32 ?_
      refine zr_iconst (pc := 33) hX zci_2 dX15_keep_33 ?_
      obtain ⟨u34, gu34, h⟩ := bnd h
      obtain ⟨t35, gt35, h⟩ := bnd h
      refine zr_callU (pc := 34) (rest := []) (stk' := [.int t35]) (k' := 0) (n' := 0) hX (fun l s0 D => mX9_domain l s0 D gt35) gu34 zc13 zwX9_domain q625 q626 q479 q627 (Or.inl ⟨q479, _, _, _, q480⟩) (by decide) rfl rfl rfl rfl rfl rfl rfl rfl rfl dX15_keep_34 ?_
      refine zr_goto (pc := 37) hX 41 rfl dX15_keep_37 ?_
      exact VW.sub (hJt6 t35 (Option.some.inj h).symm) [0, 1] rfl
  refine VW.sub (lv' := [(0, .ref th), (1, .ref p0), (2, .int (0 : Int32))]) ?_ [1, 2, 0] rfl
  refine zloop_walk (V := (fun a => VW K a.1 sz 0 0 2 [(0, .ref th), (1, .ref p0), (2, .int a.2)] [])) (E := fun e => e = t3) ?_ n (σ, (0 : Int32)) _ gt3 rfl
  intro a1 o2 h kco2 keo2
  unfold fX15_keep_L2 at h
  refine zr_iload_n (pc := 2) hX 2 rfl rfl dX15_keep_2 ?_
  refine zr_aload_n (pc := 3) hX 0 rfl rfl dX15_keep_3 ?_
  obtain ⟨u37, gu37, h⟩ := bnd h
  obtain ⟨t38, gt38, h⟩ := bnd h
  refine zr_callU (pc := 4) (rest := [.int a1.2]) (stk' := [.int t38, .int a1.2]) (k' := 0) (n' := 0) hX (fun l s0 D => mX9_size l s0 D gt38) gu37 zc13 zwX9_size q622 q623 q473 q624 (Or.inl ⟨q473, _, _, _, q474⟩) (by decide) rfl rfl rfl rfl rfl rfl rfl rfl rfl dX15_keep_4 ?_
  refine zr_icmp_ge (pc := 7) hX 23 rfl dX15_keep_7 (fun c7_41 => ?_) (fun c7_41 => ?_)
  · rw [if_pos c7_41] at h
    exact VW.sub (hJt3 a1.1 (keo2 _ (Option.some.inj h).symm)) [0, 1] rfl
  · rw [if_neg c7_41] at h
    refine zr_aload_n (pc := 10) hX 0 rfl rfl dX15_keep_10 ?_
    obtain ⟨r39, gr39, h⟩ := bnd h
    refine zr_fv (pc := 11) hX za13_1 (zgR_spec gr39) q1091 (Or.inr q1092) dX15_keep_11 ?_
    refine zr_iload_n (pc := 14) hX 2 rfl rfl dX15_keep_14 ?_
    refine zr_iconst (pc := 15) hX zci_0 dX15_keep_15 ?_
    obtain ⟨σ40, gσ40, h⟩ := bnd h
    refine zr_sI (pc := 16) hX gσ40 dX15_keep_16 ?_
    obtain ⟨x41, gx41, h⟩ := bnd h
    refine zr_iinc (pc := 17) hX 2 rfl zci_1 (Option.some.inj gx41) (Nat.le_of_ble_eq_true rfl) rfl dX15_keep_17 ?_
    refine zr_goto (pc := 20) hX 2 rfl dX15_keep_20 ?_
    exact VW.sub (kco2 (σ40, x41) (Option.some.inj h).symm) [1, 2, 0] rfl
