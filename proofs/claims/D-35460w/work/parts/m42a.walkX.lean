/-! X: walks, group a (printed by gen/gens.py) -/
set_option maxRecDepth 100000
set_option maxHeartbeats 4000000 in
theorem mJ0_init (l : Launch) (s0 : State) (D : zD) {σ : zH} {sz : Nat} {th : Nat} {o : Unit} (h : fJ0_init th = some o) : zM l s0 D yJ0_init cJ0_init 1 none 2 30 0 0 [.ref th] σ sz σ sz none := by
  refine zenter (own := RJ0) zplJ0 rfl (Nat.le_of_ble_eq_true rfl) rfl (fun K hX hnm hret => ?_)
  unfold fJ0_init at h
  have hret : ∀ a, o = a → zRet K cJ0_init none σ sz 0 0 none := fun a e => by cases e; exact hret
  show VW K σ sz 0 0 0 [(0, .ref th)] []
  refine zr_aload_n (pc := 0) hX 0 rfl rfl dJ0_init_0 ?_
  refine zr_objInit (pc := 1) hX q169 q156 q157 rfl dJ0_init_1 ?_
  exact hret _ (Option.some.inj h).symm _ _ dJ0_init_4
set_option maxHeartbeats 4000000 in
theorem mJ1_init (l : Launch) (s0 : State) (D : zD) {σ : zH} {sz : Nat} {th : Nat} {o : zH} (h : fJ1_init σ th = some o) : zM l s0 D yJ1_init cJ1_init 1 none 3 50 0 0 [.ref th] σ sz o sz none := by
  refine zenter (own := RJ1) zplJ1 rfl (Nat.le_of_ble_eq_true rfl) rfl (fun K hX hnm hret => ?_)
  unfold fJ1_init at h
  have hret : ∀ a, o = a → zRet K cJ1_init none a sz 0 0 none := fun a e => by cases e; exact hret
  show VW K σ sz 0 0 0 [(0, .ref th)] []
  refine zr_aload_n (pc := 0) hX 0 rfl rfl dJ1_init_0 ?_
  obtain ⟨t1, gt1, h⟩ := bnd h
  refine zr_callI (pc := 1) (rest := []) (k' := 0) (n' := 0) hX (fun l s0 D => mJ0_init l s0 D gt1) zwJ0_init q166 q167 rfl rfl rfl rfl rfl rfl rfl rfl dJ1_init_1 ?_
  refine zr_aload_n (pc := 4) hX 0 rfl rfl dJ1_init_4 ?_
  refine zr_iconst (pc := 5) hX zci_0 dJ1_init_5 ?_
  obtain ⟨σ2, gσ2, h⟩ := bnd h
  refine zr_pv (pc := 6) hX za18_0 gσ2 rfl q174 (Or.inl rfl) rfl (tyJ2_ok 0 (Nat.le_of_ble_eq_true rfl)) rfl rfl dJ1_init_6 ?_
  exact hret _ (Option.some.inj h).symm _ _ dJ1_init_9
set_option maxHeartbeats 4000000 in
theorem mJ11_copyOf_2 (l : Launch) (s0 : State) (D : zD) {σ : zH} {sz : Nat} {p0 : Nat} {p1 : Int32} {p2 : Nat} {o : zH × Nat × Nat} (h : fJ11_copyOf_2 σ sz p0 p1 p2 = some o) : zM l s0 D yJ11_copyOf_2 cJ11_copyOf_2 4 (some (.array (.object "java/lang/Object"))) 3 60 1 366 [.ref p0, .int p1, .ref p2] σ sz o.1 o.2.1 (some (.ref o.2.2)) := by
  refine zenter (own := RJ11) zplJ11 rfl (Nat.le_of_ble_eq_true rfl) ⟨_, rfl, Or.inr ⟨_, rfl⟩⟩ (fun K hX hnm hret => ?_)
  unfold fJ11_copyOf_2 at h
  have hret : ∀ a, o = a → zRet K cJ11_copyOf_2 (some (.array (.object "java/lang/Object"))) a.1 a.2.1 1 366 (some (.ref a.2.2)) := fun a e => by cases e; exact hret
  show VW K σ sz 0 0 0 [(0, .ref p0), (1, .int p1), (2, .ref p2)] []
  refine zr_aload_n (pc := 0) hX 2 rfl rfl dJ11_copyOf_2_0 ?_
  refine zr_ldcM (pc := 1) hX q871 dJ11_copyOf_2_1 ?_
  refine zr_acmp_ne (pc := 3) hX 13 rfl dJ11_copyOf_2_3 (fun c3_3 => ?_) (fun c3_3 => ?_)
  · rw [if_neg c3_3] at h
    cases h
  · rw [if_pos c3_3] at h
    refine zr_iload_n (pc := 6) hX 1 rfl rfl dJ11_copyOf_2_6 ?_
    obtain ⟨σ1, gσ1, h⟩ := bnd h
    refine zr_newq (pc := 7) (k' := 1) (n' := 366) (sz' := sz + 1) hX gσ1 q873 rfl (by decide) rfl rfl rfl rfl rfl dJ11_copyOf_2_7 ?_
    refine zr_goto (pc := 10) hX 24 rfl dJ11_copyOf_2_10 ?_
    refine zr_astore_n (pc := 24) hX rfl rfl (Nat.le_of_ble_eq_true rfl) rfl dJ11_copyOf_2_24 ?_
    refine zr_aload_n (pc := 25) hX 1 rfl rfl dJ11_copyOf_2_25 ?_
    refine zr_iconst (pc := 26) hX zci_0 dJ11_copyOf_2_26 ?_
    refine zr_aload_n (pc := 27) hX 0 rfl rfl dJ11_copyOf_2_27 ?_
    refine zr_iconst (pc := 28) hX zci_0 dJ11_copyOf_2_28 ?_
    refine zr_aload_n (pc := 29) hX 1 rfl rfl dJ11_copyOf_2_29 ?_
    obtain ⟨x2, gx2, h⟩ := bnd h
    refine zr_len (pc := 30) hX gx2 dJ11_copyOf_2_30 ?_
    refine zr_iload_n (pc := 31) hX 2 rfl rfl dJ11_copyOf_2_31 ?_
    refine zr_min (pc := 32) hX q874 q658 q126 q659 rfl rfl dJ11_copyOf_2_32 ?_
    obtain ⟨σ3, gσ3, h⟩ := bnd h
    refine zr_cp (pc := 35) (rest := []) hX gσ3 q875 rfl dJ11_copyOf_2_35 ?_
    refine zr_aload_n (pc := 38) hX 0 rfl rfl dJ11_copyOf_2_38 ?_
    exact hret _ (Option.some.inj h).symm _ _ dJ11_copyOf_2_39
set_option maxHeartbeats 4000000 in
theorem mJ11_copyOf (l : Launch) (s0 : State) (D : zD) {σ : zH} {sz : Nat} {p0 : Nat} {p1 : Int32} {o : zH × Nat × Nat} (h : fJ11_copyOf σ sz p0 p1 = some o) : zM l s0 D yJ11_copyOf cJ11_copyOf 2 (some (.array (.object "java/lang/Object"))) 4 83 1 366 [.ref p0, .int p1] σ sz o.1 o.2.1 (some (.ref o.2.2)) := by
  refine zenter (own := RJ11) zplJ11 rfl (Nat.le_of_ble_eq_true rfl) ⟨_, rfl, Or.inr ⟨_, rfl⟩⟩ (fun K hX hnm hret => ?_)
  unfold fJ11_copyOf at h
  have hret : ∀ a, o = a → zRet K cJ11_copyOf (some (.array (.object "java/lang/Object"))) a.1 a.2.1 1 366 (some (.ref a.2.2)) := fun a e => by cases e; exact hret
  show VW K σ sz 0 0 0 [(0, .ref p0), (1, .int p1)] []
  refine zr_aload_n (pc := 0) hX 0 rfl rfl dJ11_copyOf_0 ?_
  refine zr_iload_n (pc := 1) hX 1 rfl rfl dJ11_copyOf_1 ?_
  refine zr_aload_n (pc := 2) hX 0 rfl rfl dJ11_copyOf_2 ?_
  obtain ⟨u1, gu1, h⟩ := bnd h
  refine zr_getC (pc := 3) hX gu1 q840 q2479 q841 q867 rfl dJ11_copyOf_3 ?_
  obtain ⟨t2, gt2, h⟩ := bnd h
  refine zr_callS (pc := 6) (rest := []) (stk' := [.ref t2.2.2]) (k' := 1) (n' := 366) hX (fun l s0 D => mJ11_copyOf_2 l s0 D gt2) zwJ11_copyOf_2 q868 q869 rfl rfl rfl rfl rfl rfl rfl rfl dJ11_copyOf_6 ?_
  exact hret _ (Option.some.inj h).symm _ _ dJ11_copyOf_9
set_option maxHeartbeats 4000000 in
theorem mJ16_checkIndex (l : Launch) (s0 : State) (D : zD) {σ : zH} {sz : Nat} {p0 : Int32} {p1 : Int32} {o : Int32} (h : fJ16_checkIndex p0 p1 = some o) : zM l s0 D yJ16_checkIndex cJ16_checkIndex 3 (some .int) 1 0 0 0 [.int p0, .int p1, .null] σ sz σ sz (some (.int o)) := by
  refine zenter (own := RJ16) zplJ16 rfl (Nat.le_of_ble_eq_true rfl) trivial (fun K hX hnm hret => ?_)
  unfold fJ16_checkIndex at h
  have hret : ∀ a, o = a → zRet K cJ16_checkIndex (some .int) σ sz 0 0 (some (.int a)) := fun a e => by cases e; exact hret
  show VW K σ sz 0 0 0 [(0, .int p0), (1, .int p1), (2, .null)] []
  refine zr_iload_n (pc := 0) hX 0 rfl rfl dJ16_checkIndex_0 ?_
  obtain ⟨u2, gu2, hAu2, hBu2⟩ := zesc_bnd h
  have hJt1 : ∀ a, u2 = .inl a → VW K σ sz 0 0 9 [(0, .int p0), (1, .int p1), (2, .null)] [] := by
    intro t1 ea
    have h := hAu2 _ ea
    cases h
  replace h := gu2
  refine zr_if_lt (pc := 1) hX 9 rfl dJ16_checkIndex_1 (fun c1_3 => ?_) (fun c1_3 => ?_)
  · rw [if_pos c1_3] at h
    exact VW.sub (hJt1 () (Option.some.inj h).symm) [0, 1, 2] rfl
  · rw [if_neg c1_3] at h
    refine zr_iload_n (pc := 4) hX 0 rfl rfl dJ16_checkIndex_4 ?_
    refine zr_iload_n (pc := 5) hX 1 rfl rfl dJ16_checkIndex_5 ?_
    refine zr_icmp_lt (pc := 6) hX 16 rfl dJ16_checkIndex_6 (fun c6_2 => ?_) (fun c6_2 => ?_)
    · rw [if_pos c6_2] at h
      refine zr_iload_n (pc := 16) hX 0 rfl rfl dJ16_checkIndex_16 ?_
      replace h := congrArg some (hBu2 _ (Option.some.inj h).symm)
      exact hret _ (Option.some.inj h).symm _ _ dJ16_checkIndex_17 (Or.inl rfl)
    · rw [if_neg c6_2] at h
      exact VW.sub (hJt1 () (Option.some.inj h).symm) [0, 1, 2] rfl
set_option maxHeartbeats 4000000 in
theorem mJ15_checkIndex (l : Launch) (s0 : State) (D : zD) {σ : zH} {sz : Nat} {p0 : Int32} {p1 : Int32} {o : Int32} (h : fJ15_checkIndex p0 p1 = some o) : zM l s0 D yJ15_checkIndex cJ15_checkIndex 2 (some .int) 2 22 0 0 [.int p0, .int p1] σ sz σ sz (some (.int o)) := by
  refine zenter (own := RJ15) zplJ15 rfl (Nat.le_of_ble_eq_true rfl) trivial (fun K hX hnm hret => ?_)
  unfold fJ15_checkIndex at h
  have hret : ∀ a, o = a → zRet K cJ15_checkIndex (some .int) σ sz 0 0 (some (.int a)) := fun a e => by cases e; exact hret
  show VW K σ sz 0 0 0 [(0, .int p0), (1, .int p1)] []
  refine zr_iload_n (pc := 0) hX 0 rfl rfl dJ15_checkIndex_0 ?_
  refine zr_iload_n (pc := 1) hX 1 rfl rfl dJ15_checkIndex_1 ?_
  refine zr_null (pc := 2) hX dJ15_checkIndex_2 ?_
  obtain ⟨t1, gt1, h⟩ := bnd h
  refine zr_callS (pc := 3) (rest := []) (stk' := [.int t1]) (k' := 0) (n' := 0) hX (fun l s0 D => mJ16_checkIndex l s0 D gt1) zwJ16_checkIndex q411 q412 rfl rfl rfl rfl rfl rfl rfl rfl dJ15_checkIndex_3 ?_
  exact hret _ (Option.some.inj h).symm _ _ dJ15_checkIndex_6 (Or.inl rfl)
set_option maxHeartbeats 4000000 in
theorem mJ17_init (l : Launch) (s0 : State) (D : zD) {σ : zH} {sz : Nat} {th : Nat} {o : Unit} (h : fJ17_init th = some o) : zM l s0 D yJ17_init cJ17_init 1 none 2 30 0 0 [.ref th] σ sz σ sz none := by
  refine zenter (own := RJ17) zplJ17 rfl (Nat.le_of_ble_eq_true rfl) rfl (fun K hX hnm hret => ?_)
  unfold fJ17_init at h
  have hret : ∀ a, o = a → zRet K cJ17_init none σ sz 0 0 none := fun a e => by cases e; exact hret
  show VW K σ sz 0 0 0 [(0, .ref th)] []
  refine zr_aload_n (pc := 0) hX 0 rfl rfl dJ17_init_0 ?_
  refine zr_objInit (pc := 1) hX q964 q156 q157 rfl dJ17_init_1 ?_
  exact hret _ (Option.some.inj h).symm _ _ dJ17_init_4
set_option maxHeartbeats 4000000 in
theorem mJ18_numberOfTrailingZeros (l : Launch) (s0 : State) (D : zD) {σ : zH} {sz : Nat} {p0 : Int32} {o : Int32} (h : fJ18_numberOfTrailingZeros p0 = some o) : zM l s0 D yJ18_numberOfTrailingZeros cJ18_numberOfTrailingZeros 2 (some .int) 1 0 0 0 [.int p0] σ sz σ sz (some (.int o)) := by
  refine zenter (own := RJ18) zplJ18 rfl (Nat.le_of_ble_eq_true rfl) trivial (fun K hX hnm hret => ?_)
  unfold fJ18_numberOfTrailingZeros at h
  have hret : ∀ a, o = a → zRet K cJ18_numberOfTrailingZeros (some .int) σ sz 0 0 (some (.int a)) := fun a e => by cases e; exact hret
  show VW K σ sz 0 0 0 [(0, .int p0)] []
  refine zr_iload_n (pc := 0) hX 0 rfl rfl dJ18_numberOfTrailingZeros_0 ?_
  refine zr_iconst (pc := 1) hX zci_m1 dJ18_numberOfTrailingZeros_1 ?_
  refine zr_ixor (pc := 2) hX dJ18_numberOfTrailingZeros_2 ?_
  refine zr_iload_n (pc := 3) hX 0 rfl rfl dJ18_numberOfTrailingZeros_3 ?_
  refine zr_iconst (pc := 4) hX zci_1 dJ18_numberOfTrailingZeros_4 ?_
  refine zr_isub (pc := 5) hX dJ18_numberOfTrailingZeros_5 ?_
  refine zr_iand (pc := 6) hX dJ18_numberOfTrailingZeros_6 ?_
  obtain ⟨x1, gx1, h⟩ := bnd h
  refine zr_istore_n (pc := 7) hX (Option.some.inj gx1) rfl (Nat.le_of_ble_eq_true rfl) rfl dJ18_numberOfTrailingZeros_7 ?_
  refine zr_iload_n (pc := 8) hX 0 rfl rfl dJ18_numberOfTrailingZeros_8 ?_
  refine zr_if_gt (pc := 9) hX 17 rfl dJ18_numberOfTrailingZeros_9 (fun c9_17 => ?_) (fun c9_17 => ?_)
  · rw [if_pos c9_17] at h
    refine zr_iconst (pc := 17) hX zci_1 dJ18_numberOfTrailingZeros_17 ?_
    refine zr_istore_n (pc := 18) hX rfl rfl (Nat.le_of_ble_eq_true rfl) rfl dJ18_numberOfTrailingZeros_18 ?_
    refine zr_iload_n (pc := 19) hX 1 rfl rfl dJ18_numberOfTrailingZeros_19 ?_
    refine zr_ldcw (pc := 20) hX q557 dJ18_numberOfTrailingZeros_20 ?_
    obtain ⟨t2, gt2, h⟩ := bnd h
    have hJt2 : ∀ a, t2 = a → VW K σ sz 0 0 34 [(0, .int a.1), (1, .int a.2)] [] := by
      intro a ea
      subst ea
      refine zr_iload_n (pc := 34) hX 0 rfl rfl dJ18_numberOfTrailingZeros_34 ?_
      refine zr_sipush (pc := 35) hX zcs_256 dJ18_numberOfTrailingZeros_35 ?_
      obtain ⟨t3, gt3, h⟩ := bnd h
      have hJt3 : ∀ a, t3 = a → VW K σ sz 0 0 49 [(0, .int a.1), (1, .int a.2)] [] := by
        intro a ea
        subst ea
        refine zr_iload_n (pc := 49) hX 0 rfl rfl dJ18_numberOfTrailingZeros_49 ?_
        refine zr_bipush (pc := 50) hX zcb_16 dJ18_numberOfTrailingZeros_50 ?_
        obtain ⟨t4, gt4, h⟩ := bnd h
        have hJt4 : ∀ a, t4 = a → VW K σ sz 0 0 62 [(0, .int a.1), (1, .int a.2)] [] := by
          intro a ea
          subst ea
          refine zr_iload_n (pc := 62) hX 0 rfl rfl dJ18_numberOfTrailingZeros_62 ?_
          refine zr_iconst (pc := 63) hX zci_4 dJ18_numberOfTrailingZeros_63 ?_
          obtain ⟨t5, gt5, h⟩ := bnd h
          have hJt5 : ∀ a, t5 = a → VW K σ sz 0 0 74 [(0, .int a.1), (1, .int a.2)] [] := by
            intro a ea
            subst ea
            refine zr_iload_n (pc := 74) hX 1 rfl rfl dJ18_numberOfTrailingZeros_74 ?_
            refine zr_iload_n (pc := 75) hX 0 rfl rfl dJ18_numberOfTrailingZeros_75 ?_
            refine zr_iconst (pc := 76) hX zci_1 dJ18_numberOfTrailingZeros_76 ?_
            refine zr_iushr (pc := 77) hX dJ18_numberOfTrailingZeros_77 ?_
            refine zr_iadd (pc := 78) hX dJ18_numberOfTrailingZeros_78 ?_
            exact hret _ (Option.some.inj h).symm _ _ dJ18_numberOfTrailingZeros_79 (Or.inl rfl)
          replace h := gt5
          refine zr_icmp_le (pc := 64) hX 74 rfl dJ18_numberOfTrailingZeros_64 (fun c64_7 => ?_) (fun c64_7 => ?_)
          · rw [if_pos c64_7] at h
            exact VW.sub (hJt5 (t4.1, t4.2) (Option.some.inj h).symm) [0, 1] rfl
          · rw [if_neg c64_7] at h
            obtain ⟨x6, gx6, h⟩ := bnd h
            refine zr_iinc (pc := 67) hX 1 rfl zci_2 (Option.some.inj gx6) (Nat.le_of_ble_eq_true rfl) rfl dJ18_numberOfTrailingZeros_67 ?_
            refine zr_iload_n (pc := 70) hX 1 rfl rfl dJ18_numberOfTrailingZeros_70 ?_
            refine zr_iconst (pc := 71) hX zci_2 dJ18_numberOfTrailingZeros_71 ?_
            refine zr_iushr (pc := 72) hX dJ18_numberOfTrailingZeros_72 ?_
            obtain ⟨x7, gx7, h⟩ := bnd h
            refine zr_istore_n (pc := 73) hX (Option.some.inj gx7) rfl (Nat.le_of_ble_eq_true rfl) rfl dJ18_numberOfTrailingZeros_73 ?_
            exact VW.sub (hJt5 (x7, x6) (Option.some.inj h).symm) [0, 1] rfl
        replace h := gt4
        refine zr_icmp_le (pc := 52) hX 62 rfl dJ18_numberOfTrailingZeros_52 (fun c52_10 => ?_) (fun c52_10 => ?_)
        · rw [if_pos c52_10] at h
          exact VW.sub (hJt4 (t3.1, t3.2) (Option.some.inj h).symm) [0, 1] rfl
        · rw [if_neg c52_10] at h
          obtain ⟨x9, gx9, h⟩ := bnd h
          refine zr_iinc (pc := 55) hX 1 rfl zci_4 (Option.some.inj gx9) (Nat.le_of_ble_eq_true rfl) rfl dJ18_numberOfTrailingZeros_55 ?_
          refine zr_iload_n (pc := 58) hX 1 rfl rfl dJ18_numberOfTrailingZeros_58 ?_
          refine zr_iconst (pc := 59) hX zci_4 dJ18_numberOfTrailingZeros_59 ?_
          refine zr_iushr (pc := 60) hX dJ18_numberOfTrailingZeros_60 ?_
          obtain ⟨x10, gx10, h⟩ := bnd h
          refine zr_istore_n (pc := 61) hX (Option.some.inj gx10) rfl (Nat.le_of_ble_eq_true rfl) rfl dJ18_numberOfTrailingZeros_61 ?_
          exact VW.sub (hJt4 (x10, x9) (Option.some.inj h).symm) [0, 1] rfl
      replace h := gt3
      refine zr_icmp_le (pc := 38) hX 49 rfl dJ18_numberOfTrailingZeros_38 (fun c38_13 => ?_) (fun c38_13 => ?_)
      · rw [if_pos c38_13] at h
        exact VW.sub (hJt3 (t2.1, t2.2) (Option.some.inj h).symm) [0, 1] rfl
      · rw [if_neg c38_13] at h
        obtain ⟨x12, gx12, h⟩ := bnd h
        refine zr_iinc (pc := 41) hX 1 rfl zci_8 (Option.some.inj gx12) (Nat.le_of_ble_eq_true rfl) rfl dJ18_numberOfTrailingZeros_41 ?_
        refine zr_iload_n (pc := 44) hX 1 rfl rfl dJ18_numberOfTrailingZeros_44 ?_
        refine zr_bipush (pc := 45) hX zcb_8 dJ18_numberOfTrailingZeros_45 ?_
        refine zr_iushr (pc := 47) hX dJ18_numberOfTrailingZeros_47 ?_
        obtain ⟨x13, gx13, h⟩ := bnd h
        refine zr_istore_n (pc := 48) hX (Option.some.inj gx13) rfl (Nat.le_of_ble_eq_true rfl) rfl dJ18_numberOfTrailingZeros_48 ?_
        exact VW.sub (hJt3 (x13, x12) (Option.some.inj h).symm) [0, 1] rfl
    replace h := gt2
    refine zr_icmp_le (pc := 23) hX 34 rfl dJ18_numberOfTrailingZeros_23 (fun c23_16 => ?_) (fun c23_16 => ?_)
    · rw [if_pos c23_16] at h
      exact VW.sub (hJt2 (x1, (1 : Int32)) (Option.some.inj h).symm) [1, 0] rfl
    · rw [if_neg c23_16] at h
      obtain ⟨x15, gx15, h⟩ := bnd h
      refine zr_iinc (pc := 26) hX 0 rfl zci_16 (Option.some.inj gx15) (Nat.le_of_ble_eq_true rfl) rfl dJ18_numberOfTrailingZeros_26 ?_
      refine zr_iload_n (pc := 29) hX 1 rfl rfl dJ18_numberOfTrailingZeros_29 ?_
      refine zr_bipush (pc := 30) hX zcb_16 dJ18_numberOfTrailingZeros_30 ?_
      refine zr_iushr (pc := 32) hX dJ18_numberOfTrailingZeros_32 ?_
      obtain ⟨x16, gx16, h⟩ := bnd h
      refine zr_istore_n (pc := 33) hX (Option.some.inj gx16) rfl (Nat.le_of_ble_eq_true rfl) rfl dJ18_numberOfTrailingZeros_33 ?_
      exact VW.sub (hJt2 (x16, x15) (Option.some.inj h).symm) [0, 1] rfl
  · rw [if_neg c9_17] at h
    refine zr_iload_n (pc := 12) hX 0 rfl rfl dJ18_numberOfTrailingZeros_12 ?_
    refine zr_bipush (pc := 13) hX zcb_32 dJ18_numberOfTrailingZeros_13 ?_
    refine zr_iand (pc := 15) hX dJ18_numberOfTrailingZeros_15 ?_
    exact hret _ (Option.some.inj h).symm _ _ dJ18_numberOfTrailingZeros_16 (Or.inl rfl)
set_option maxHeartbeats 4000000 in
theorem mJ18_numberOfLeadingZeros (l : Launch) (s0 : State) (D : zD) {σ : zH} {sz : Nat} {p0 : Int32} {o : Int32} (h : fJ18_numberOfLeadingZeros p0 = some o) : zM l s0 D yJ18_numberOfLeadingZeros cJ18_numberOfLeadingZeros 2 (some .int) 1 0 0 0 [.int p0] σ sz σ sz (some (.int o)) := by
  refine zenter (own := RJ18) zplJ18 rfl (Nat.le_of_ble_eq_true rfl) trivial (fun K hX hnm hret => ?_)
  unfold fJ18_numberOfLeadingZeros at h
  have hret : ∀ a, o = a → zRet K cJ18_numberOfLeadingZeros (some .int) σ sz 0 0 (some (.int a)) := fun a e => by cases e; exact hret
  show VW K σ sz 0 0 0 [(0, .int p0)] []
  refine zr_iload_n (pc := 0) hX 0 rfl rfl dJ18_numberOfLeadingZeros_0 ?_
  refine zr_if_gt (pc := 1) hX 15 rfl dJ18_numberOfLeadingZeros_1 (fun c1_17 => ?_) (fun c1_17 => ?_)
  · rw [if_pos c1_17] at h
    refine zr_bipush (pc := 15) hX zcb_31 dJ18_numberOfLeadingZeros_15 ?_
    refine zr_istore_n (pc := 17) hX rfl rfl (Nat.le_of_ble_eq_true rfl) rfl dJ18_numberOfLeadingZeros_17 ?_
    refine zr_iload_n (pc := 18) hX 1 rfl rfl dJ18_numberOfLeadingZeros_18 ?_
    refine zr_ldcw (pc := 19) hX q557 dJ18_numberOfLeadingZeros_19 ?_
    obtain ⟨t1, gt1, h⟩ := bnd h
    have hJt1 : ∀ a, t1 = a → VW K σ sz 0 0 33 [(0, .int a.1), (1, .int a.2)] [] := by
      intro a ea
      subst ea
      refine zr_iload_n (pc := 33) hX 0 rfl rfl dJ18_numberOfLeadingZeros_33 ?_
      refine zr_sipush (pc := 34) hX zcs_256 dJ18_numberOfLeadingZeros_34 ?_
      obtain ⟨t2, gt2, h⟩ := bnd h
      have hJt2 : ∀ a, t2 = a → VW K σ sz 0 0 48 [(0, .int a.1), (1, .int a.2)] [] := by
        intro a ea
        subst ea
        refine zr_iload_n (pc := 48) hX 0 rfl rfl dJ18_numberOfLeadingZeros_48 ?_
        refine zr_bipush (pc := 49) hX zcb_16 dJ18_numberOfLeadingZeros_49 ?_
        obtain ⟨t3, gt3, h⟩ := bnd h
        have hJt3 : ∀ a, t3 = a → VW K σ sz 0 0 61 [(0, .int a.1), (1, .int a.2)] [] := by
          intro a ea
          subst ea
          refine zr_iload_n (pc := 61) hX 0 rfl rfl dJ18_numberOfLeadingZeros_61 ?_
          refine zr_iconst (pc := 62) hX zci_4 dJ18_numberOfLeadingZeros_62 ?_
          obtain ⟨t4, gt4, h⟩ := bnd h
          have hJt4 : ∀ a, t4 = a → VW K σ sz 0 0 73 [(0, .int a.1), (1, .int a.2)] [] := by
            intro a ea
            subst ea
            refine zr_iload_n (pc := 73) hX 1 rfl rfl dJ18_numberOfLeadingZeros_73 ?_
            refine zr_iload_n (pc := 74) hX 0 rfl rfl dJ18_numberOfLeadingZeros_74 ?_
            refine zr_iconst (pc := 75) hX zci_1 dJ18_numberOfLeadingZeros_75 ?_
            refine zr_iushr (pc := 76) hX dJ18_numberOfLeadingZeros_76 ?_
            refine zr_isub (pc := 77) hX dJ18_numberOfLeadingZeros_77 ?_
            exact hret _ (Option.some.inj h).symm _ _ dJ18_numberOfLeadingZeros_78 (Or.inl rfl)
          replace h := gt4
          refine zr_icmp_lt (pc := 63) hX 73 rfl dJ18_numberOfLeadingZeros_63 (fun c63_6 => ?_) (fun c63_6 => ?_)
          · rw [if_pos c63_6] at h
            exact VW.sub (hJt4 (t3.1, t3.2) (Option.some.inj h).symm) [0, 1] rfl
          · rw [if_neg c63_6] at h
            obtain ⟨x5, gx5, h⟩ := bnd h
            refine zr_iinc (pc := 66) hX 1 rfl zci_m2 (Option.some.inj gx5) (Nat.le_of_ble_eq_true rfl) rfl dJ18_numberOfLeadingZeros_66 ?_
            refine zr_iload_n (pc := 69) hX 1 rfl rfl dJ18_numberOfLeadingZeros_69 ?_
            refine zr_iconst (pc := 70) hX zci_2 dJ18_numberOfLeadingZeros_70 ?_
            refine zr_iushr (pc := 71) hX dJ18_numberOfLeadingZeros_71 ?_
            obtain ⟨x6, gx6, h⟩ := bnd h
            refine zr_istore_n (pc := 72) hX (Option.some.inj gx6) rfl (Nat.le_of_ble_eq_true rfl) rfl dJ18_numberOfLeadingZeros_72 ?_
            exact VW.sub (hJt4 (x6, x5) (Option.some.inj h).symm) [0, 1] rfl
        replace h := gt3
        refine zr_icmp_lt (pc := 51) hX 61 rfl dJ18_numberOfLeadingZeros_51 (fun c51_9 => ?_) (fun c51_9 => ?_)
        · rw [if_pos c51_9] at h
          exact VW.sub (hJt3 (t2.1, t2.2) (Option.some.inj h).symm) [0, 1] rfl
        · rw [if_neg c51_9] at h
          obtain ⟨x8, gx8, h⟩ := bnd h
          refine zr_iinc (pc := 54) hX 1 rfl zci_m4 (Option.some.inj gx8) (Nat.le_of_ble_eq_true rfl) rfl dJ18_numberOfLeadingZeros_54 ?_
          refine zr_iload_n (pc := 57) hX 1 rfl rfl dJ18_numberOfLeadingZeros_57 ?_
          refine zr_iconst (pc := 58) hX zci_4 dJ18_numberOfLeadingZeros_58 ?_
          refine zr_iushr (pc := 59) hX dJ18_numberOfLeadingZeros_59 ?_
          obtain ⟨x9, gx9, h⟩ := bnd h
          refine zr_istore_n (pc := 60) hX (Option.some.inj gx9) rfl (Nat.le_of_ble_eq_true rfl) rfl dJ18_numberOfLeadingZeros_60 ?_
          exact VW.sub (hJt3 (x9, x8) (Option.some.inj h).symm) [0, 1] rfl
      replace h := gt2
      refine zr_icmp_lt (pc := 37) hX 48 rfl dJ18_numberOfLeadingZeros_37 (fun c37_12 => ?_) (fun c37_12 => ?_)
      · rw [if_pos c37_12] at h
        exact VW.sub (hJt2 (t1.1, t1.2) (Option.some.inj h).symm) [0, 1] rfl
      · rw [if_neg c37_12] at h
        obtain ⟨x11, gx11, h⟩ := bnd h
        refine zr_iinc (pc := 40) hX 1 rfl zci_m8 (Option.some.inj gx11) (Nat.le_of_ble_eq_true rfl) rfl dJ18_numberOfLeadingZeros_40 ?_
        refine zr_iload_n (pc := 43) hX 1 rfl rfl dJ18_numberOfLeadingZeros_43 ?_
        refine zr_bipush (pc := 44) hX zcb_8 dJ18_numberOfLeadingZeros_44 ?_
        refine zr_iushr (pc := 46) hX dJ18_numberOfLeadingZeros_46 ?_
        obtain ⟨x12, gx12, h⟩ := bnd h
        refine zr_istore_n (pc := 47) hX (Option.some.inj gx12) rfl (Nat.le_of_ble_eq_true rfl) rfl dJ18_numberOfLeadingZeros_47 ?_
        exact VW.sub (hJt2 (x12, x11) (Option.some.inj h).symm) [0, 1] rfl
    replace h := gt1
    refine zr_icmp_lt (pc := 22) hX 33 rfl dJ18_numberOfLeadingZeros_22 (fun c22_15 => ?_) (fun c22_15 => ?_)
    · rw [if_pos c22_15] at h
      exact VW.sub (hJt1 (p0, (31 : Int32)) (Option.some.inj h).symm) [1, 0] rfl
    · rw [if_neg c22_15] at h
      obtain ⟨x14, gx14, h⟩ := bnd h
      refine zr_iinc (pc := 25) hX 0 rfl zci_m16 (Option.some.inj gx14) (Nat.le_of_ble_eq_true rfl) rfl dJ18_numberOfLeadingZeros_25 ?_
      refine zr_iload_n (pc := 28) hX 1 rfl rfl dJ18_numberOfLeadingZeros_28 ?_
      refine zr_bipush (pc := 29) hX zcb_16 dJ18_numberOfLeadingZeros_29 ?_
      refine zr_iushr (pc := 31) hX dJ18_numberOfLeadingZeros_31 ?_
      obtain ⟨x15, gx15, h⟩ := bnd h
      refine zr_istore_n (pc := 32) hX (Option.some.inj gx15) rfl (Nat.le_of_ble_eq_true rfl) rfl dJ18_numberOfLeadingZeros_32 ?_
      exact VW.sub (hJt1 (x15, x14) (Option.some.inj h).symm) [0, 1] rfl
  · rw [if_neg c1_17] at h
    refine zr_iload_n (pc := 4) hX 0 rfl rfl dJ18_numberOfLeadingZeros_4 ?_
    refine zr_if_ne (pc := 5) hX 13 rfl dJ18_numberOfLeadingZeros_5 (fun c5_16 => ?_) (fun c5_16 => ?_)
    · rw [if_neg c5_16] at h
      refine zr_iconst (pc := 13) hX zci_0 dJ18_numberOfLeadingZeros_13 ?_
      exact hret _ (Option.some.inj h).symm _ _ dJ18_numberOfLeadingZeros_14 (Or.inl rfl)
    · rw [if_pos c5_16] at h
      refine zr_bipush (pc := 8) hX zcb_32 dJ18_numberOfLeadingZeros_8 ?_
      refine zr_goto (pc := 10) hX 14 rfl dJ18_numberOfLeadingZeros_10 ?_
      exact hret _ (Option.some.inj h).symm _ _ dJ18_numberOfLeadingZeros_14 (Or.inl rfl)
set_option maxHeartbeats 4000000 in
theorem mJ18_valueOf (l : Launch) (s0 : State) (D : zD) {σ : zH} {sz : Nat} {p0 : Int32} {o : Nat} (h : fJ18_valueOf σ p0 = some o) : zM l s0 D yJ18_valueOf cJ18_valueOf 1 (some (.object "java/lang/Integer")) 1 0 0 0 [.int p0] σ sz σ sz (some (.ref o)) := by
  refine zenter (own := RJ18) zplJ18 rfl (Nat.le_of_ble_eq_true rfl) ⟨_, rfl, Or.inl ⟨_, rfl⟩⟩ (fun K hX hnm hret => ?_)
  unfold fJ18_valueOf at h
  have hret : ∀ a, o = a → zRet K cJ18_valueOf (some (.object "java/lang/Integer")) σ sz 0 0 (some (.ref a)) := fun a e => by cases e; exact hret
  show VW K σ sz 0 0 0 [(0, .int p0)] []
  refine zr_iload_n (pc := 0) hX 0 rfl rfl dJ18_valueOf_0 ?_
  refine zr_bipush (pc := 1) hX zcb_m128 dJ18_valueOf_1 ?_
  obtain ⟨u2, gu2, hAu2, hBu2⟩ := zesc_bnd h
  have hJt1 : ∀ a, u2 = .inl a → VW K σ sz 0 0 23 [] [] := by
    intro t1 ea
    have h := hAu2 _ ea
    cases h
  replace h := gu2
  refine zr_icmp_lt (pc := 3) hX 23 rfl dJ18_valueOf_3 (fun c3_4 => ?_) (fun c3_4 => ?_)
  · rw [if_pos c3_4] at h
    exact VW.sub (hJt1 () (Option.some.inj h).symm) [] rfl
  · rw [if_neg c3_4] at h
    refine zr_iload_n (pc := 6) hX 0 rfl rfl dJ18_valueOf_6 ?_
    refine zr_getsH (pc := 7) hX q952 dJ18_valueOf_7 ?_
    refine zr_icmp_gt (pc := 10) hX 23 rfl dJ18_valueOf_10 (fun c10_3 => ?_) (fun c10_3 => ?_)
    · rw [if_pos c10_3] at h
      exact VW.sub (hJt1 () (Option.some.inj h).symm) [] rfl
    · rw [if_neg c10_3] at h
      refine zr_gets (pc := 13) hX 1 rfl q954 dJ18_valueOf_13 ?_
      refine zr_iload_n (pc := 16) hX 0 rfl rfl dJ18_valueOf_16 ?_
      refine zr_sipush (pc := 17) hX zcs_128 dJ18_valueOf_17 ?_
      refine zr_iadd (pc := 20) hX dJ18_valueOf_20 ?_
      obtain ⟨r3, gr3, h⟩ := bnd h
      refine zr_aR (pc := 21) hX gr3 dJ18_valueOf_21 ?_
      replace h := congrArg some (hBu2 _ (Option.some.inj h).symm)
      exact hret _ (Option.some.inj h).symm _ _ dJ18_valueOf_22
set_option maxHeartbeats 4000000 in
theorem mJ18_intValue (l : Launch) (s0 : State) (D : zD) {σ : zH} {sz : Nat} {th : Nat} {o : Int32} (h : fJ18_intValue σ th = some o) : zM l s0 D yJ18_intValue cJ18_intValue 1 (some .int) 1 0 0 0 [.ref th] σ sz σ sz (some (.int o)) := by
  refine zenter (own := RJ18) zplJ18 rfl (Nat.le_of_ble_eq_true rfl) trivial (fun K hX hnm hret => ?_)
  unfold fJ18_intValue at h
  have hret : ∀ a, o = a → zRet K cJ18_intValue (some .int) σ sz 0 0 (some (.int a)) := fun a e => by cases e; exact hret
  show VW K σ sz 0 0 0 [(0, .ref th)] []
  refine zr_aload_n (pc := 0) hX 0 rfl rfl dJ18_intValue_0 ?_
  obtain ⟨x1, gx1, h⟩ := bnd h
  refine zr_fv (pc := 1) hX za19_0 (zgI_spec gx1) q965 (Or.inl rfl) dJ18_intValue_1 ?_
  exact hret _ (Option.some.inj h).symm _ _ dJ18_intValue_4 (Or.inl rfl)
set_option maxHeartbeats 4000000 in
theorem mJ18_bitCount (l : Launch) (s0 : State) (D : zD) {σ : zH} {sz : Nat} {p0 : Int32} {o : Int32} (h : fJ18_bitCount p0 = some o) : zM l s0 D yJ18_bitCount cJ18_bitCount 1 (some .int) 1 0 0 0 [.int p0] σ sz σ sz (some (.int o)) := by
  refine zenter (own := RJ18) zplJ18 rfl (Nat.le_of_ble_eq_true rfl) trivial (fun K hX hnm hret => ?_)
  unfold fJ18_bitCount at h
  have hret : ∀ a, o = a → zRet K cJ18_bitCount (some .int) σ sz 0 0 (some (.int a)) := fun a e => by cases e; exact hret
  show VW K σ sz 0 0 0 [(0, .int p0)] []
  refine zr_iload_n (pc := 0) hX 0 rfl rfl dJ18_bitCount_0 ?_
  refine zr_iload_n (pc := 1) hX 0 rfl rfl dJ18_bitCount_1 ?_
  refine zr_iconst (pc := 2) hX zci_1 dJ18_bitCount_2 ?_
  refine zr_iushr (pc := 3) hX dJ18_bitCount_3 ?_
  refine zr_ldcw (pc := 4) hX q1313 dJ18_bitCount_4 ?_
  refine zr_iand (pc := 7) hX dJ18_bitCount_7 ?_
  refine zr_isub (pc := 8) hX dJ18_bitCount_8 ?_
  obtain ⟨x1, gx1, h⟩ := bnd h
  refine zr_istore_n (pc := 9) hX (Option.some.inj gx1) rfl (Nat.le_of_ble_eq_true rfl) rfl dJ18_bitCount_9 ?_
  refine zr_iload_n (pc := 10) hX 0 rfl rfl dJ18_bitCount_10 ?_
  refine zr_ldcw (pc := 11) hX q1314 dJ18_bitCount_11 ?_
  refine zr_iand (pc := 14) hX dJ18_bitCount_14 ?_
  refine zr_iload_n (pc := 15) hX 0 rfl rfl dJ18_bitCount_15 ?_
  refine zr_iconst (pc := 16) hX zci_2 dJ18_bitCount_16 ?_
  refine zr_iushr (pc := 17) hX dJ18_bitCount_17 ?_
  refine zr_ldcw (pc := 18) hX q1314 dJ18_bitCount_18 ?_
  refine zr_iand (pc := 21) hX dJ18_bitCount_21 ?_
  refine zr_iadd (pc := 22) hX dJ18_bitCount_22 ?_
  obtain ⟨x2, gx2, h⟩ := bnd h
  refine zr_istore_n (pc := 23) hX (Option.some.inj gx2) rfl (Nat.le_of_ble_eq_true rfl) rfl dJ18_bitCount_23 ?_
  refine zr_iload_n (pc := 24) hX 0 rfl rfl dJ18_bitCount_24 ?_
  refine zr_iload_n (pc := 25) hX 0 rfl rfl dJ18_bitCount_25 ?_
  refine zr_iconst (pc := 26) hX zci_4 dJ18_bitCount_26 ?_
  refine zr_iushr (pc := 27) hX dJ18_bitCount_27 ?_
  refine zr_iadd (pc := 28) hX dJ18_bitCount_28 ?_
  refine zr_ldcw (pc := 29) hX q1315 dJ18_bitCount_29 ?_
  refine zr_iand (pc := 32) hX dJ18_bitCount_32 ?_
  obtain ⟨x3, gx3, h⟩ := bnd h
  refine zr_istore_n (pc := 33) hX (Option.some.inj gx3) rfl (Nat.le_of_ble_eq_true rfl) rfl dJ18_bitCount_33 ?_
  refine zr_iload_n (pc := 34) hX 0 rfl rfl dJ18_bitCount_34 ?_
  refine zr_iload_n (pc := 35) hX 0 rfl rfl dJ18_bitCount_35 ?_
  refine zr_bipush (pc := 36) hX zcb_8 dJ18_bitCount_36 ?_
  refine zr_iushr (pc := 38) hX dJ18_bitCount_38 ?_
  refine zr_iadd (pc := 39) hX dJ18_bitCount_39 ?_
  obtain ⟨x4, gx4, h⟩ := bnd h
  refine zr_istore_n (pc := 40) hX (Option.some.inj gx4) rfl (Nat.le_of_ble_eq_true rfl) rfl dJ18_bitCount_40 ?_
  refine zr_iload_n (pc := 41) hX 0 rfl rfl dJ18_bitCount_41 ?_
  refine zr_iload_n (pc := 42) hX 0 rfl rfl dJ18_bitCount_42 ?_
  refine zr_bipush (pc := 43) hX zcb_16 dJ18_bitCount_43 ?_
  refine zr_iushr (pc := 45) hX dJ18_bitCount_45 ?_
  refine zr_iadd (pc := 46) hX dJ18_bitCount_46 ?_
  obtain ⟨x5, gx5, h⟩ := bnd h
  refine zr_istore_n (pc := 47) hX (Option.some.inj gx5) rfl (Nat.le_of_ble_eq_true rfl) rfl dJ18_bitCount_47 ?_
  refine zr_iload_n (pc := 48) hX 0 rfl rfl dJ18_bitCount_48 ?_
  refine zr_bipush (pc := 49) hX zcb_63 dJ18_bitCount_49 ?_
  refine zr_iand (pc := 51) hX dJ18_bitCount_51 ?_
  exact hret _ (Option.some.inj h).symm _ _ dJ18_bitCount_52 (Or.inl rfl)
set_option maxHeartbeats 4000000 in
theorem mJ18_highestOneBit (l : Launch) (s0 : State) (D : zD) {σ : zH} {sz : Nat} {p0 : Int32} {o : Int32} (h : fJ18_highestOneBit p0 = some o) : zM l s0 D yJ18_highestOneBit cJ18_highestOneBit 1 (some .int) 2 21 0 0 [.int p0] σ sz σ sz (some (.int o)) := by
  refine zenter (own := RJ18) zplJ18 rfl (Nat.le_of_ble_eq_true rfl) trivial (fun K hX hnm hret => ?_)
  unfold fJ18_highestOneBit at h
  have hret : ∀ a, o = a → zRet K cJ18_highestOneBit (some .int) σ sz 0 0 (some (.int a)) := fun a e => by cases e; exact hret
  show VW K σ sz 0 0 0 [(0, .int p0)] []
  refine zr_iload_n (pc := 0) hX 0 rfl rfl dJ18_highestOneBit_0 ?_
  refine zr_ldc (pc := 1) hX q1487 dJ18_highestOneBit_1 ?_
  refine zr_iload_n (pc := 3) hX 0 rfl rfl dJ18_highestOneBit_3 ?_
  obtain ⟨t1, gt1, h⟩ := bnd h
  refine zr_callS (pc := 4) (rest := [.int (-2147483648 : Int32), .int p0]) (stk' := [.int t1, .int (-2147483648 : Int32), .int p0]) (k' := 0) (n' := 0) hX (fun l s0 D => mJ18_numberOfLeadingZeros l s0 D gt1) zwJ18_numberOfLeadingZeros q1488 q566 rfl rfl rfl rfl rfl rfl rfl rfl dJ18_highestOneBit_4 ?_
  refine zr_iushr (pc := 7) hX dJ18_highestOneBit_7 ?_
  refine zr_iand (pc := 8) hX dJ18_highestOneBit_8 ?_
  exact hret _ (Option.some.inj h).symm _ _ dJ18_highestOneBit_9 (Or.inl rfl)
set_option maxHeartbeats 4000000 in
theorem mJ2_init (l : Launch) (s0 : State) (D : zD) {σ : zH} {sz : Nat} {th : Nat} {o : zH} (h : fJ2_init σ th = some o) : zM l s0 D yJ2_init cJ2_init 1 none 4 70 0 0 [.ref th] σ sz o sz none := by
  refine zenter (own := RJ2) zplJ2 rfl (Nat.le_of_ble_eq_true rfl) rfl (fun K hX hnm hret => ?_)
  unfold fJ2_init at h
  have hret : ∀ a, o = a → zRet K cJ2_init none a sz 0 0 none := fun a e => by cases e; exact hret
  show VW K σ sz 0 0 0 [(0, .ref th)] []
  refine zr_aload_n (pc := 0) hX 0 rfl rfl dJ2_init_0 ?_
  obtain ⟨t1, gt1, h⟩ := bnd h
  refine zr_callI (pc := 1) (rest := []) (k' := 0) (n' := 0) hX (fun l s0 D => mJ1_init l s0 D gt1) zwJ1_init q163 q164 rfl rfl rfl rfl rfl rfl rfl rfl dJ2_init_1 ?_
  refine zr_aload_n (pc := 4) hX 0 rfl rfl dJ2_init_4 ?_
  refine zr_gets (pc := 5) hX 2 rfl q170 dJ2_init_5 ?_
  obtain ⟨σ2, gσ2, h⟩ := bnd h
  refine zr_pv (pc := 8) hX za18_1 gσ2 rfl q172 (Or.inl rfl) rfl (tyJ2_ok 1 (Nat.le_of_ble_eq_true rfl)) rfl rfl dJ2_init_8 ?_
  exact hret _ (Option.some.inj h).symm _ _ dJ2_init_11
set_option maxHeartbeats 4000000 in
theorem mJ2_size (l : Launch) (s0 : State) (D : zD) {σ : zH} {sz : Nat} {th : Nat} {o : Int32} (h : fJ2_size σ th = some o) : zM l s0 D yJ2_size cJ2_size 1 (some .int) 1 0 0 0 [.ref th] σ sz σ sz (some (.int o)) := by
  refine zenter (own := RJ2) zplJ2 rfl (Nat.le_of_ble_eq_true rfl) trivial (fun K hX hnm hret => ?_)
  unfold fJ2_size at h
  have hret : ∀ a, o = a → zRet K cJ2_size (some .int) σ sz 0 0 (some (.int a)) := fun a e => by cases e; exact hret
  show VW K σ sz 0 0 0 [(0, .ref th)] []
  refine zr_aload_n (pc := 0) hX 0 rfl rfl dJ2_size_0 ?_
  obtain ⟨x1, gx1, h⟩ := bnd h
  refine zr_fv (pc := 1) hX za18_2 (zgI_spec gx1) q173 (Or.inl rfl) dJ2_size_1 ?_
  exact hret _ (Option.some.inj h).symm _ _ dJ2_size_4 (Or.inl rfl)
set_option maxHeartbeats 4000000 in
theorem mJ2_elementData (l : Launch) (s0 : State) (D : zD) {σ : zH} {sz : Nat} {th : Nat} {p0 : Int32} {o : Nat} (h : fJ2_elementData σ th p0 = some o) : zM l s0 D yJ2_elementData cJ2_elementData 2 (some (.object "java/lang/Object")) 1 0 0 0 [.ref th, .int p0] σ sz σ sz (some (.ref o)) := by
  refine zenter (own := RJ2) zplJ2 rfl (Nat.le_of_ble_eq_true rfl) ⟨_, rfl, Or.inl ⟨_, rfl⟩⟩ (fun K hX hnm hret => ?_)
  unfold fJ2_elementData at h
  have hret : ∀ a, o = a → zRet K cJ2_elementData (some (.object "java/lang/Object")) σ sz 0 0 (some (.ref a)) := fun a e => by cases e; exact hret
  show VW K σ sz 0 0 0 [(0, .ref th), (1, .int p0)] []
  refine zr_aload_n (pc := 0) hX 0 rfl rfl dJ2_elementData_0 ?_
  obtain ⟨r1, gr1, h⟩ := bnd h
  refine zr_fv (pc := 1) hX za18_1 (zgR_spec gr1) q172 (Or.inl rfl) dJ2_elementData_1 ?_
  refine zr_iload_n (pc := 4) hX 1 rfl rfl dJ2_elementData_4 ?_
  obtain ⟨r2, gr2, h⟩ := bnd h
  refine zr_aR (pc := 5) hX gr2 dJ2_elementData_5 ?_
  exact hret _ (Option.some.inj h).symm _ _ dJ2_elementData_6
set_option maxHeartbeats 4000000 in
theorem mJ2_get (l : Launch) (s0 : State) (D : zD) {σ : zH} {sz : Nat} {th : Nat} {p0 : Int32} {o : Nat} (h : fJ2_get σ th p0 = some o) : zM l s0 D yJ2_get cJ2_get 2 (some (.object "java/lang/Object")) 3 43 0 0 [.ref th, .int p0] σ sz σ sz (some (.ref o)) := by
  refine zenter (own := RJ2) zplJ2 rfl (Nat.le_of_ble_eq_true rfl) ⟨_, rfl, Or.inl ⟨_, rfl⟩⟩ (fun K hX hnm hret => ?_)
  unfold fJ2_get at h
  have hret : ∀ a, o = a → zRet K cJ2_get (some (.object "java/lang/Object")) σ sz 0 0 (some (.ref a)) := fun a e => by cases e; exact hret
  show VW K σ sz 0 0 0 [(0, .ref th), (1, .int p0)] []
  refine zr_iload_n (pc := 0) hX 1 rfl rfl dJ2_get_0 ?_
  refine zr_aload_n (pc := 1) hX 0 rfl rfl dJ2_get_1 ?_
  obtain ⟨x1, gx1, h⟩ := bnd h
  refine zr_fv (pc := 2) hX za18_2 (zgI_spec gx1) q173 (Or.inl rfl) dJ2_get_2 ?_
  obtain ⟨t2, gt2, h⟩ := bnd h
  refine zr_callS (pc := 5) (rest := []) (stk' := [.int t2]) (k' := 0) (n' := 0) hX (fun l s0 D => mJ15_checkIndex l s0 D gt2) zwJ15_checkIndex q408 q409 rfl rfl rfl rfl rfl rfl rfl rfl dJ2_get_5 ?_
  refine zr_pop (pc := 8) hX rfl dJ2_get_8 ?_
  refine zr_aload_n (pc := 9) hX 0 rfl rfl dJ2_get_9 ?_
  refine zr_iload_n (pc := 10) hX 1 rfl rfl dJ2_get_10 ?_
  obtain ⟨u3, gu3, h⟩ := bnd h
  obtain ⟨t4, gt4, h⟩ := bnd h
  refine zr_callVs (pc := 11) (rest := []) (stk' := [.ref t4]) (k' := 0) (n' := 0) hX (fun l s0 D => mJ2_elementData l s0 D gt4) gu3 zc18 zwJ2_elementData q414 q415 q416 rfl rfl rfl rfl rfl rfl rfl rfl rfl dJ2_get_11 ?_
  exact hret _ (Option.some.inj h).symm _ _ dJ2_get_14
set_option maxHeartbeats 4000000 in
theorem mJ9_hugeLength (l : Launch) (s0 : State) (D : zD) {σ : zH} {sz : Nat} {p0 : Int32} {p1 : Int32} {o : Int32} (h : fJ9_hugeLength p0 p1 = some o) : zM l s0 D yJ9_hugeLength cJ9_hugeLength 3 (some .int) 1 0 0 0 [.int p0, .int p1] σ sz σ sz (some (.int o)) := by
  refine zenter (own := RJ9) zplJ9 rfl (Nat.le_of_ble_eq_true rfl) trivial (fun K hX hnm hret => ?_)
  unfold fJ9_hugeLength at h
  have hret : ∀ a, o = a → zRet K cJ9_hugeLength (some .int) σ sz 0 0 (some (.int a)) := fun a e => by cases e; exact hret
  show VW K σ sz 0 0 0 [(0, .int p0), (1, .int p1)] []
  refine zr_iload_n (pc := 0) hX 0 rfl rfl dJ9_hugeLength_0 ?_
  refine zr_iload_n (pc := 1) hX 1 rfl rfl dJ9_hugeLength_1 ?_
  refine zr_iadd (pc := 2) hX dJ9_hugeLength_2 ?_
  obtain ⟨x1, gx1, h⟩ := bnd h
  refine zr_istore_n (pc := 3) hX (Option.some.inj gx1) rfl (Nat.le_of_ble_eq_true rfl) rfl dJ9_hugeLength_3 ?_
  refine zr_iload_n (pc := 4) hX 0 rfl rfl dJ9_hugeLength_4 ?_
  refine zr_if_ge (pc := 5) hX 49 rfl dJ9_hugeLength_5 (fun c5_2 => ?_) (fun c5_2 => ?_)
  · rw [if_pos c5_2] at h
    refine zr_iload_n (pc := 49) hX 0 rfl rfl dJ9_hugeLength_49 ?_
    refine zr_ldc (pc := 50) hX q833 dJ9_hugeLength_50 ?_
    refine zr_icmp_gt (pc := 52) hX 58 rfl dJ9_hugeLength_52 (fun c52_1 => ?_) (fun c52_1 => ?_)
    · rw [if_pos c52_1] at h
      refine zr_iload_n (pc := 58) hX 0 rfl rfl dJ9_hugeLength_58 ?_
      exact hret _ (Option.some.inj h).symm _ _ dJ9_hugeLength_59 (Or.inl rfl)
    · rw [if_neg c52_1] at h
      refine zr_ldc (pc := 55) hX q833 dJ9_hugeLength_55 ?_
      exact hret _ (Option.some.inj h).symm _ _ dJ9_hugeLength_57 (Or.inl rfl)
  · rw [if_neg c5_2] at h
    cases h
set_option maxHeartbeats 4000000 in
theorem mJ9_newLength (l : Launch) (s0 : State) (D : zD) {σ : zH} {sz : Nat} {p0 : Int32} {p1 : Int32} {p2 : Int32} {o : Int32} (h : fJ9_newLength p0 p1 p2 = some o) : zM l s0 D yJ9_newLength cJ9_newLength 4 (some .int) 2 40 0 0 [.int p0, .int p1, .int p2] σ sz σ sz (some (.int o)) := by
  refine zenter (own := RJ9) zplJ9 rfl (Nat.le_of_ble_eq_true rfl) trivial (fun K hX hnm hret => ?_)
  unfold fJ9_newLength at h
  have hret : ∀ a, o = a → zRet K cJ9_newLength (some .int) σ sz 0 0 (some (.int a)) := fun a e => by cases e; exact hret
  show VW K σ sz 0 0 0 [(0, .int p0), (1, .int p1), (2, .int p2)] []
  refine zr_iload_n (pc := 0) hX 0 rfl rfl dJ9_newLength_0 ?_
  refine zr_iload_n (pc := 1) hX 1 rfl rfl dJ9_newLength_1 ?_
  refine zr_iload_n (pc := 2) hX 2 rfl rfl dJ9_newLength_2 ?_
  refine zr_max (pc := 3) hX q832 q655 q126 q656 rfl rfl dJ9_newLength_3 ?_
  refine zr_iadd (pc := 6) hX dJ9_newLength_6 ?_
  obtain ⟨x1, gx1, h⟩ := bnd h
  refine zr_istore_n (pc := 7) hX (Option.some.inj gx1) rfl (Nat.le_of_ble_eq_true rfl) rfl dJ9_newLength_7 ?_
  refine zr_iconst (pc := 8) hX zci_0 dJ9_newLength_8 ?_
  refine zr_iload_n (pc := 9) hX 0 rfl rfl dJ9_newLength_9 ?_
  obtain ⟨u4, gu4, hAu4, hBu4⟩ := zesc_bnd h
  have hJt2 : ∀ a, u4 = .inl a → VW K σ sz 0 0 21 [(0, .int p0), (1, .int p1)] [] := by
    intro t2 ea
    have h := hAu4 _ ea
    refine zr_iload_n (pc := 21) hX 0 rfl rfl dJ9_newLength_21 ?_
    refine zr_iload_n (pc := 22) hX 1 rfl rfl dJ9_newLength_22 ?_
    obtain ⟨t3, gt3, h⟩ := bnd h
    refine zr_callS (pc := 23) (rest := []) (stk' := [.int t3]) (k' := 0) (n' := 0) hX (fun l s0 D => mJ9_hugeLength l s0 D gt3) zwJ9_hugeLength q834 q835 rfl rfl rfl rfl rfl rfl rfl rfl dJ9_newLength_23 ?_
    exact hret _ (Option.some.inj h).symm _ _ dJ9_newLength_26 (Or.inl rfl)
  replace h := gu4
  refine zr_icmp_ge (pc := 10) hX 21 rfl dJ9_newLength_10 (fun c10_5 => ?_) (fun c10_5 => ?_)
  · rw [if_pos c10_5] at h
    exact VW.sub (hJt2 () (Option.some.inj h).symm) [1, 2] rfl
  · rw [if_neg c10_5] at h
    refine zr_iload_n (pc := 13) hX 0 rfl rfl dJ9_newLength_13 ?_
    refine zr_ldc (pc := 14) hX q833 dJ9_newLength_14 ?_
    refine zr_icmp_gt (pc := 16) hX 21 rfl dJ9_newLength_16 (fun c16_4 => ?_) (fun c16_4 => ?_)
    · rw [if_pos c16_4] at h
      exact VW.sub (hJt2 () (Option.some.inj h).symm) [1, 2] rfl
    · rw [if_neg c16_4] at h
      refine zr_iload_n (pc := 19) hX 0 rfl rfl dJ9_newLength_19 ?_
      replace h := congrArg some (hBu4 _ (Option.some.inj h).symm)
      exact hret _ (Option.some.inj h).symm _ _ dJ9_newLength_20 (Or.inl rfl)
set_option maxHeartbeats 4000000 in
theorem mJ2_grow_2 (l : Launch) (s0 : State) (D : zD) {σ : zH} {sz : Nat} {th : Nat} {p0 : Int32} {o : zH × Nat × Nat} (h : fJ2_grow_2 σ sz th p0 = some o) : zM l s0 D yJ2_grow_2 cJ2_grow_2 4 (some (.array (.object "java/lang/Object"))) 5 104 1 366 [.ref th, .int p0] σ sz o.1 o.2.1 (some (.ref o.2.2)) := by
  refine zenter (own := RJ2) zplJ2 rfl (Nat.le_of_ble_eq_true rfl) ⟨_, rfl, Or.inr ⟨_, rfl⟩⟩ (fun K hX hnm hret => ?_)
  unfold fJ2_grow_2 at h
  have hret : ∀ a, o = a → zRet K cJ2_grow_2 (some (.array (.object "java/lang/Object"))) a.1 a.2.1 1 366 (some (.ref a.2.2)) := fun a e => by cases e; exact hret
  show VW K σ sz 0 0 0 [(0, .ref th), (1, .int p0)] []
  refine zr_aload_n (pc := 0) hX 0 rfl rfl dJ2_grow_2_0 ?_
  obtain ⟨r1, gr1, h⟩ := bnd h
  refine zr_fv (pc := 1) hX za18_1 (zgR_spec gr1) q172 (Or.inl rfl) dJ2_grow_2_1 ?_
  obtain ⟨x2, gx2, h⟩ := bnd h
  refine zr_len (pc := 4) hX gx2 dJ2_grow_2_4 ?_
  refine zr_istore_n (pc := 5) hX rfl rfl (Nat.le_of_ble_eq_true rfl) rfl dJ2_grow_2_5 ?_
  refine zr_iload_n (pc := 6) hX 0 rfl rfl dJ2_grow_2_6 ?_
  obtain ⟨u8, gu8, hAu8, hBu8⟩ := zesc_bnd h
  have hJt3 : ∀ a, u8 = .inl a → VW K a.1 a.2 0 0 20 [(0, .ref th), (1, .int p0), (2, .int x2)] [] := by
    intro t3 ea
    have h := hAu8 _ ea
    refine zr_iload_n (pc := 20) hX 2 rfl rfl dJ2_grow_2_20 ?_
    refine zr_iload_n (pc := 21) hX 1 rfl rfl dJ2_grow_2_21 ?_
    refine zr_iload_n (pc := 22) hX 2 rfl rfl dJ2_grow_2_22 ?_
    refine zr_isub (pc := 23) hX dJ2_grow_2_23 ?_
    refine zr_iload_n (pc := 24) hX 2 rfl rfl dJ2_grow_2_24 ?_
    refine zr_iconst (pc := 25) hX zci_1 dJ2_grow_2_25 ?_
    refine zr_ishr (pc := 26) hX dJ2_grow_2_26 ?_
    obtain ⟨t4, gt4, h⟩ := bnd h
    refine zr_callS (pc := 27) (rest := []) (stk' := [.int t4]) (k' := 0) (n' := 0) hX (fun l s0 D => mJ9_newLength l s0 D gt4) zwJ9_newLength q829 q830 rfl rfl rfl rfl rfl rfl rfl rfl dJ2_grow_2_27 ?_
    refine zr_istore_n (pc := 30) hX rfl rfl (Nat.le_of_ble_eq_true rfl) rfl dJ2_grow_2_30 ?_
    refine zr_aload_n (pc := 31) hX 1 rfl rfl dJ2_grow_2_31 ?_
    refine zr_aload_n (pc := 32) hX 1 rfl rfl dJ2_grow_2_32 ?_
    obtain ⟨r5, gr5, h⟩ := bnd h
    refine zr_fv (pc := 33) hX za18_1 (zgR_spec gr5) q172 (Or.inl rfl) dJ2_grow_2_33 ?_
    refine zr_iload_n (pc := 36) hX 0 rfl rfl dJ2_grow_2_36 ?_
    obtain ⟨t6, gt6, h⟩ := bnd h
    refine zr_callS (pc := 37) (rest := [.ref th]) (stk' := [.ref t6.2.2, .ref th]) (k' := 1) (n' := 366) hX (fun l s0 D => mJ11_copyOf l s0 D gt6) zwJ11_copyOf q837 q838 rfl rfl rfl rfl rfl rfl rfl rfl dJ2_grow_2_37 ?_
    refine zr_dup_x1 (pc := 40) hX rfl rfl dJ2_grow_2_40 ?_
    obtain ⟨σ7, gσ7, h⟩ := bnd h
    refine zr_pv (pc := 41) hX za18_1 gσ7 rfl q172 (Or.inl rfl) rfl (tyJ2_ok 1 (Nat.le_of_ble_eq_true rfl)) rfl rfl dJ2_grow_2_41 ?_
    exact hret _ (Option.some.inj h).symm _ _ dJ2_grow_2_44
  replace h := gu8
  refine zr_if_gt (pc := 7) hX 20 rfl dJ2_grow_2_7 (fun c7_12 => ?_) (fun c7_12 => ?_)
  · rw [if_pos c7_12] at h
    exact VW.sub (hJt3 (σ, sz) (Option.some.inj h).symm) [1, 2, 0] rfl
  · rw [if_neg c7_12] at h
    refine zr_aload_n (pc := 10) hX 1 rfl rfl dJ2_grow_2_10 ?_
    obtain ⟨r9, gr9, h⟩ := bnd h
    refine zr_fv (pc := 11) hX za18_1 (zgR_spec gr9) q172 (Or.inl rfl) dJ2_grow_2_11 ?_
    refine zr_gets (pc := 14) hX 2 rfl q170 dJ2_grow_2_14 ?_
    refine zr_acmp_eq (pc := 17) hX 45 rfl dJ2_grow_2_17 (fun c17_11 => ?_) (fun c17_11 => ?_)
    · rw [if_pos c17_11] at h
      refine zr_aload_n (pc := 45) hX 1 rfl rfl dJ2_grow_2_45 ?_
      refine zr_bipush (pc := 46) hX zcb_10 dJ2_grow_2_46 ?_
      refine zr_iload_n (pc := 48) hX 2 rfl rfl dJ2_grow_2_48 ?_
      refine zr_max (pc := 49) hX q878 q655 q126 q656 rfl rfl dJ2_grow_2_49 ?_
      obtain ⟨σ10, gσ10, h⟩ := bnd h
      refine zr_newq (pc := 52) (k' := 1) (n' := 10) (sz' := sz + 1) hX gσ10 q879 rfl (by decide) rfl rfl rfl rfl rfl dJ2_grow_2_52 ?_
      refine zr_dup_x1 (pc := 55) hX rfl rfl dJ2_grow_2_55 ?_
      obtain ⟨σ11, gσ11, h⟩ := bnd h
      refine zr_pv (pc := 56) hX za18_1 gσ11 rfl q172 (Or.inl rfl) rfl (tyJ2_ok 1 (Nat.le_of_ble_eq_true rfl)) rfl rfl dJ2_grow_2_56 ?_
      replace h := congrArg some (hBu8 _ (Option.some.inj h).symm)
      refine VW.widen 1 366 ?_ (Nat.le_of_ble_eq_true rfl) (Nat.le_of_ble_eq_true rfl)
      exact hret _ (Option.some.inj h).symm _ _ dJ2_grow_2_59
    · rw [if_neg c17_11] at h
      exact VW.sub (hJt3 (σ, sz) (Option.some.inj h).symm) [1, 2, 0] rfl
set_option maxHeartbeats 4000000 in
theorem mJ2_grow (l : Launch) (s0 : State) (D : zD) {σ : zH} {sz : Nat} {th : Nat} {o : zH × Nat × Nat} (h : fJ2_grow σ sz th = some o) : zM l s0 D yJ2_grow cJ2_grow 1 (some (.array (.object "java/lang/Object"))) 6 127 1 366 [.ref th] σ sz o.1 o.2.1 (some (.ref o.2.2)) := by
  refine zenter (own := RJ2) zplJ2 rfl (Nat.le_of_ble_eq_true rfl) ⟨_, rfl, Or.inr ⟨_, rfl⟩⟩ (fun K hX hnm hret => ?_)
  unfold fJ2_grow at h
  have hret : ∀ a, o = a → zRet K cJ2_grow (some (.array (.object "java/lang/Object"))) a.1 a.2.1 1 366 (some (.ref a.2.2)) := fun a e => by cases e; exact hret
  show VW K σ sz 0 0 0 [(0, .ref th)] []
  refine zr_aload_n (pc := 0) hX 0 rfl rfl dJ2_grow_0 ?_
  refine zr_aload_n (pc := 1) hX 0 rfl rfl dJ2_grow_1 ?_
  obtain ⟨x1, gx1, h⟩ := bnd h
  refine zr_fv (pc := 2) hX za18_2 (zgI_spec gx1) q173 (Or.inl rfl) dJ2_grow_2 ?_
  refine zr_iconst (pc := 5) hX zci_1 dJ2_grow_5 ?_
  refine zr_iadd (pc := 6) hX dJ2_grow_6 ?_
  obtain ⟨u2, gu2, h⟩ := bnd h
  obtain ⟨t3, gt3, h⟩ := bnd h
  refine zr_callVs (pc := 7) (rest := []) (stk' := [.ref t3.2.2]) (k' := 1) (n' := 366) hX (fun l s0 D => mJ2_grow_2 l s0 D gt3) gu2 zc18 zwJ2_grow_2 q825 q827 qs24 rfl rfl rfl rfl rfl rfl rfl rfl rfl dJ2_grow_7 ?_
  exact hret _ (Option.some.inj h).symm _ _ dJ2_grow_10
set_option maxHeartbeats 4000000 in
theorem mJ2_add_2 (l : Launch) (s0 : State) (D : zD) {σ : zH} {sz : Nat} {th : Nat} {p0 : Nat} {p1 : Nat} {p2 : Int32} {o : zH × Nat} (h : fJ2_add_2 σ sz th p0 p1 p2 = some o) : zM l s0 D yJ2_add_2 cJ2_add_2 4 none 7 147 1 366 [.ref th, .ref p0, .ref p1, .int p2] σ sz o.1 o.2 none := by
  refine zenter (own := RJ2) zplJ2 rfl (Nat.le_of_ble_eq_true rfl) rfl (fun K hX hnm hret => ?_)
  unfold fJ2_add_2 at h
  have hret : ∀ a, o = a → zRet K cJ2_add_2 none a.1 a.2 1 366 none := fun a e => by cases e; exact hret
  show VW K σ sz 0 0 0 [(0, .ref th), (1, .ref p0), (2, .ref p1), (3, .int p2)] []
  refine zr_iload_n (pc := 0) hX 3 rfl rfl dJ2_add_2_0 ?_
  refine zr_aload_n (pc := 1) hX 2 rfl rfl dJ2_add_2_1 ?_
  obtain ⟨x1, gx1, h⟩ := bnd h
  refine zr_len (pc := 2) hX gx1 dJ2_add_2_2 ?_
  obtain ⟨t2, gt2, h⟩ := bnd h
  have hJt2 : ∀ a, t2 = a → VW K a.1 a.2.1 1 366 11 [(0, .ref th), (1, .ref p0), (2, .ref a.2.2), (3, .int p2)] [] := by
    intro a ea
    subst ea
    refine zr_aload_n (pc := 11) hX 2 rfl rfl dJ2_add_2_11 ?_
    refine zr_iload_n (pc := 12) hX 3 rfl rfl dJ2_add_2_12 ?_
    refine zr_aload_n (pc := 13) hX 1 rfl rfl dJ2_add_2_13 ?_
    obtain ⟨σ3, gσ3, h⟩ := bnd h
    refine zr_sR (pc := 14) hX gσ3 dJ2_add_2_14 ?_
    refine zr_aload_n (pc := 15) hX 0 rfl rfl dJ2_add_2_15 ?_
    refine zr_iload_n (pc := 16) hX 3 rfl rfl dJ2_add_2_16 ?_
    refine zr_iconst (pc := 17) hX zci_1 dJ2_add_2_17 ?_
    refine zr_iadd (pc := 18) hX dJ2_add_2_18 ?_
    obtain ⟨σ4, gσ4, h⟩ := bnd h
    refine zr_pv (pc := 19) hX za18_2 gσ4 rfl q173 (Or.inl rfl) rfl (tyJ2_ok 2 (Nat.le_of_ble_eq_true rfl)) rfl rfl dJ2_add_2_19 ?_
    exact hret _ (Option.some.inj h).symm _ _ dJ2_add_2_22
  replace h := gt2
  refine zr_icmp_ne (pc := 3) hX 11 rfl dJ2_add_2_3 (fun c3_6 => ?_) (fun c3_6 => ?_)
  · rw [if_neg c3_6] at h
    refine VW.widen 1 366 ?_ (Nat.le_of_ble_eq_true rfl) (Nat.le_of_ble_eq_true rfl)
    exact VW.sub (hJt2 (σ, sz, p1) (Option.some.inj h).symm) [0, 1, 2, 3] rfl
  · rw [if_pos c3_6] at h
    refine zr_aload_n (pc := 6) hX 0 rfl rfl dJ2_add_2_6 ?_
    obtain ⟨u5, gu5, h⟩ := bnd h
    obtain ⟨t6, gt6, h⟩ := bnd h
    refine zr_callVs (pc := 7) (rest := []) (stk' := [.ref t6.2.2]) (k' := 1) (n' := 366) hX (fun l s0 D => mJ2_grow l s0 D gt6) gu5 zc18 zwJ2_grow q821 q823 qs23 rfl rfl rfl rfl rfl rfl rfl rfl rfl dJ2_add_2_7 ?_
    refine zr_astore_n (pc := 10) hX rfl rfl (Nat.le_of_ble_eq_true rfl) rfl dJ2_add_2_10 ?_
    exact VW.sub (hJt2 (t6.1, t6.2.1, t6.2.2) (Option.some.inj h).symm) [1, 2, 0, 3] rfl
set_option maxHeartbeats 4000000 in
theorem mJ2_add (l : Launch) (s0 : State) (D : zD) {σ : zH} {sz : Nat} {th : Nat} {p0 : Nat} {o : zH × Nat × Int32} (h : fJ2_add σ sz th p0 = some o) : zM l s0 D yJ2_add cJ2_add 2 (some .boolean) 8 170 1 366 [.ref th, .ref p0] σ sz o.1 o.2.1 (some (.int o.2.2)) := by
  refine zenter (own := RJ2) zplJ2 rfl (Nat.le_of_ble_eq_true rfl) trivial (fun K hX hnm hret => ?_)
  unfold fJ2_add at h
  have hret : ∀ a, o = a → zRet K cJ2_add (some .boolean) a.1 a.2.1 1 366 (some (.int a.2.2)) := fun a e => by cases e; exact hret
  show VW K σ sz 0 0 0 [(0, .ref th), (1, .ref p0)] []
  refine zr_aload_n (pc := 0) hX 0 rfl rfl dJ2_add_0 ?_
  refine zr_dup (pc := 1) hX rfl dJ2_add_1 ?_
  obtain ⟨x1, gx1, h⟩ := bnd h
  refine zr_fv (pc := 2) hX za18_0 (zgI_spec gx1) q175 (Or.inr q176) dJ2_add_2 ?_
  refine zr_iconst (pc := 5) hX zci_1 dJ2_add_5 ?_
  refine zr_iadd (pc := 6) hX dJ2_add_6 ?_
  obtain ⟨σ2, gσ2, h⟩ := bnd h
  refine zr_pv (pc := 7) hX za18_0 gσ2 rfl q175 (Or.inr q176) rfl (tyJ2_ok 0 (Nat.le_of_ble_eq_true rfl)) rfl rfl dJ2_add_7 ?_
  refine zr_aload_n (pc := 10) hX 0 rfl rfl dJ2_add_10 ?_
  refine zr_aload_n (pc := 11) hX 1 rfl rfl dJ2_add_11 ?_
  refine zr_aload_n (pc := 12) hX 0 rfl rfl dJ2_add_12 ?_
  obtain ⟨r3, gr3, h⟩ := bnd h
  refine zr_fv (pc := 13) hX za18_1 (zgR_spec gr3) q172 (Or.inl rfl) dJ2_add_13 ?_
  refine zr_aload_n (pc := 16) hX 0 rfl rfl dJ2_add_16 ?_
  obtain ⟨x4, gx4, h⟩ := bnd h
  refine zr_fv (pc := 17) hX za18_2 (zgI_spec gx4) q173 (Or.inl rfl) dJ2_add_17 ?_
  obtain ⟨u5, gu5, h⟩ := bnd h
  obtain ⟨t6, gt6, h⟩ := bnd h
  refine zr_callVs (pc := 20) (rest := []) (stk' := []) (k' := 1) (n' := 366) hX (fun l s0 D => mJ2_add_2 l s0 D gt6) gu5 zc18 zwJ2_add_2 q817 q819 qs22 rfl rfl rfl rfl rfl rfl rfl rfl rfl dJ2_add_20 ?_
  refine zr_iconst (pc := 23) hX zci_1 dJ2_add_23 ?_
  exact hret _ (Option.some.inj h).symm _ _ dJ2_add_24 (Or.inr ⟨rfl, Or.inr rfl⟩)
set_option maxHeartbeats 4000000 in
theorem mJ2_isEmpty (l : Launch) (s0 : State) (D : zD) {σ : zH} {sz : Nat} {th : Nat} {o : Int32} (h : fJ2_isEmpty σ th = some o) : zM l s0 D yJ2_isEmpty cJ2_isEmpty 1 (some .boolean) 1 0 0 0 [.ref th] σ sz σ sz (some (.int o)) := by
  refine zenter (own := RJ2) zplJ2 rfl (Nat.le_of_ble_eq_true rfl) trivial (fun K hX hnm hret => ?_)
  unfold fJ2_isEmpty at h
  have hret : ∀ a, o = a → zRet K cJ2_isEmpty (some .boolean) σ sz 0 0 (some (.int a)) := fun a e => by cases e; exact hret
  show VW K σ sz 0 0 0 [(0, .ref th)] []
  refine zr_aload_n (pc := 0) hX 0 rfl rfl dJ2_isEmpty_0 ?_
  obtain ⟨x1, gx1, h⟩ := bnd h
  refine zr_fv (pc := 1) hX za18_2 (zgI_spec gx1) q173 (Or.inl rfl) dJ2_isEmpty_1 ?_
  refine zr_if_ne (pc := 4) hX 11 rfl dJ2_isEmpty_4 (fun c4_1 => ?_) (fun c4_1 => ?_)
  · rw [if_neg c4_1] at h
    refine zr_iconst (pc := 11) hX zci_0 dJ2_isEmpty_11 ?_
    exact hret _ (Option.some.inj h).symm _ _ dJ2_isEmpty_12 (Or.inr ⟨rfl, Or.inl rfl⟩)
  · rw [if_pos c4_1] at h
    refine zr_iconst (pc := 7) hX zci_1 dJ2_isEmpty_7 ?_
    refine zr_goto (pc := 8) hX 12 rfl dJ2_isEmpty_8 ?_
    exact hret _ (Option.some.inj h).symm _ _ dJ2_isEmpty_12 (Or.inr ⟨rfl, Or.inr rfl⟩)
set_option maxHeartbeats 4000000 in
theorem mJ2_toArray (l : Launch) (s0 : State) (D : zD) {σ : zH} {sz : Nat} {th : Nat} {o : zH × Nat × Nat} (h : fJ2_toArray σ sz th = some o) : zM l s0 D yJ2_toArray cJ2_toArray 1 (some (.array (.object "java/lang/Object"))) 5 104 1 366 [.ref th] σ sz o.1 o.2.1 (some (.ref o.2.2)) := by
  refine zenter (own := RJ2) zplJ2 rfl (Nat.le_of_ble_eq_true rfl) ⟨_, rfl, Or.inr ⟨_, rfl⟩⟩ (fun K hX hnm hret => ?_)
  unfold fJ2_toArray at h
  have hret : ∀ a, o = a → zRet K cJ2_toArray (some (.array (.object "java/lang/Object"))) a.1 a.2.1 1 366 (some (.ref a.2.2)) := fun a e => by cases e; exact hret
  show VW K σ sz 0 0 0 [(0, .ref th)] []
  refine zr_aload_n (pc := 0) hX 0 rfl rfl dJ2_toArray_0 ?_
  obtain ⟨r1, gr1, h⟩ := bnd h
  refine zr_fv (pc := 1) hX za18_1 (zgR_spec gr1) q172 (Or.inl rfl) dJ2_toArray_1 ?_
  refine zr_aload_n (pc := 4) hX 0 rfl rfl dJ2_toArray_4 ?_
  obtain ⟨x2, gx2, h⟩ := bnd h
  refine zr_fv (pc := 5) hX za18_2 (zgI_spec gx2) q173 (Or.inl rfl) dJ2_toArray_5 ?_
  obtain ⟨t3, gt3, h⟩ := bnd h
  refine zr_callS (pc := 8) (rest := []) (stk' := [.ref t3.2.2]) (k' := 1) (n' := 366) hX (fun l s0 D => mJ11_copyOf l s0 D gt3) zwJ11_copyOf q837 q838 rfl rfl rfl rfl rfl rfl rfl rfl dJ2_toArray_8 ?_
  exact hret _ (Option.some.inj h).symm _ _ dJ2_toArray_11
set_option maxHeartbeats 4000000 in
theorem mJ2_addAll (l : Launch) (s0 : State) (D : zD) {σ : zH} {sz : Nat} {th : Nat} {p0 : Nat} {o : zH × Nat × Int32} (h : fJ2_addAll σ sz th p0 = some o) : zM l s0 D yJ2_addAll cJ2_addAll 6 (some .boolean) 6 127 2 732 [.ref th, .ref p0] σ sz o.1 o.2.1 (some (.int o.2.2)) := by
  refine zenter (own := RJ2) zplJ2 rfl (Nat.le_of_ble_eq_true rfl) trivial (fun K hX hnm hret => ?_)
  unfold fJ2_addAll at h
  have hret : ∀ a, o = a → zRet K cJ2_addAll (some .boolean) a.1 a.2.1 2 732 (some (.int a.2.2)) := fun a e => by cases e; exact hret
  show VW K σ sz 0 0 0 [(0, .ref th), (1, .ref p0)] []
  refine zr_aload_n (pc := 0) hX 1 rfl rfl dJ2_addAll_0 ?_
  obtain ⟨u1, gu1, h⟩ := bnd h
  obtain ⟨t2, gt2, h⟩ := bnd h
  refine zr_callF (pc := 1) (rest := []) (stk' := [.ref t2.2.2]) (k' := 1) (n' := 366) hX (fun l s0 D => mJ2_toArray l s0 D gt2) gu1 zwJ2_toArray (by decide) q1233 q1239 q1237 rfl rfl rfl rfl rfl rfl rfl rfl rfl dJ2_addAll_1 ?_
  refine zr_astore_n (pc := 6) hX rfl rfl (Nat.le_of_ble_eq_true rfl) rfl dJ2_addAll_6 ?_
  refine zr_aload_n (pc := 7) hX 1 rfl rfl dJ2_addAll_7 ?_
  refine zr_dup (pc := 8) hX rfl dJ2_addAll_8 ?_
  obtain ⟨x3, gx3, h⟩ := bnd h
  refine zr_fv (pc := 9) hX za18_0 (zgI_spec gx3) q175 (Or.inr q176) dJ2_addAll_9 ?_
  refine zr_iconst (pc := 12) hX zci_1 dJ2_addAll_12 ?_
  refine zr_iadd (pc := 13) hX dJ2_addAll_13 ?_
  obtain ⟨σ4, gσ4, h⟩ := bnd h
  refine zr_pv (pc := 14) hX za18_0 gσ4 rfl q175 (Or.inr q176) rfl (tyJ2_ok 0 (Nat.le_of_ble_eq_true rfl)) rfl rfl dJ2_addAll_14 ?_
  refine zr_aload_n (pc := 17) hX 0 rfl rfl dJ2_addAll_17 ?_
  obtain ⟨x5, gx5, h⟩ := bnd h
  refine zr_len (pc := 18) hX gx5 dJ2_addAll_18 ?_
  refine zr_istore_n (pc := 19) hX rfl rfl (Nat.le_of_ble_eq_true rfl) rfl dJ2_addAll_19 ?_
  refine zr_iload_n (pc := 20) hX 0 rfl rfl dJ2_addAll_20 ?_
  refine zr_if_ne (pc := 21) hX 26 rfl dJ2_addAll_21 (fun c21_14 => ?_) (fun c21_14 => ?_)
  · rw [if_neg c21_14] at h
    refine zr_iload_n (pc := 26) hX 0 rfl rfl dJ2_addAll_26 ?_
    refine zr_aload_n (pc := 27) hX 2 rfl rfl dJ2_addAll_27 ?_
    obtain ⟨r6, gr6, h⟩ := bnd h
    refine zr_fv (pc := 28) hX za18_1 (zgR_spec gr6) q172 (Or.inl rfl) dJ2_addAll_28 ?_
    refine zr_dup (pc := 31) hX rfl dJ2_addAll_31 ?_
    refine zr_astore (pc := 32) hX rfl (Nat.le_of_ble_eq_true rfl) rfl dJ2_addAll_32 ?_
    obtain ⟨x7, gx7, h⟩ := bnd h
    refine zr_len (pc := 34) hX gx7 dJ2_addAll_34 ?_
    refine zr_aload_n (pc := 35) hX 3 rfl rfl dJ2_addAll_35 ?_
    obtain ⟨x8, gx8, h⟩ := bnd h
    refine zr_fv (pc := 36) hX za18_2 (zgI_spec gx8) q173 (Or.inl rfl) dJ2_addAll_36 ?_
    refine zr_dup (pc := 39) hX rfl dJ2_addAll_39 ?_
    refine zr_istore (pc := 40) hX rfl (Nat.le_of_ble_eq_true rfl) rfl dJ2_addAll_40 ?_
    refine zr_isub (pc := 42) hX dJ2_addAll_42 ?_
    obtain ⟨t9, gt9, h⟩ := bnd h
    have hJt9 : ∀ a, t9 = a → VW K a.1 a.2.1 2 732 56 [(0, .ref th), (2, .ref t2.2.2), (3, .int x5), (4, .ref a.2.2), (5, .int x8)] [] := by
      intro a ea
      subst ea
      refine zr_aload_n (pc := 56) hX 1 rfl rfl dJ2_addAll_56 ?_
      refine zr_iconst (pc := 57) hX zci_0 dJ2_addAll_57 ?_
      refine zr_aload (pc := 58) hX 3 rfl dJ2_addAll_58 ?_
      refine zr_iload (pc := 60) hX 4 rfl dJ2_addAll_60 ?_
      refine zr_iload_n (pc := 62) hX 2 rfl rfl dJ2_addAll_62 ?_
      obtain ⟨σ10, gσ10, h⟩ := bnd h
      refine zr_cp (pc := 63) (rest := []) hX gσ10 q1242 rfl dJ2_addAll_63 ?_
      refine zr_aload_n (pc := 66) hX 0 rfl rfl dJ2_addAll_66 ?_
      refine zr_iload (pc := 67) hX 4 rfl dJ2_addAll_67 ?_
      refine zr_iload_n (pc := 69) hX 2 rfl rfl dJ2_addAll_69 ?_
      refine zr_iadd (pc := 70) hX dJ2_addAll_70 ?_
      obtain ⟨σ11, gσ11, h⟩ := bnd h
      refine zr_pv (pc := 71) hX za18_2 gσ11 rfl q173 (Or.inl rfl) rfl (tyJ2_ok 2 (Nat.le_of_ble_eq_true rfl)) rfl rfl dJ2_addAll_71 ?_
      refine zr_iconst (pc := 74) hX zci_1 dJ2_addAll_74 ?_
      exact hret _ (Option.some.inj h).symm _ _ dJ2_addAll_75 (Or.inr ⟨rfl, Or.inr rfl⟩)
    replace h := gt9
    refine zr_icmp_le (pc := 43) hX 56 rfl dJ2_addAll_43 (fun c43_13 => ?_) (fun c43_13 => ?_)
    · rw [if_pos c43_13] at h
      refine VW.widen 2 732 ?_ (Nat.le_of_ble_eq_true rfl) (Nat.le_of_ble_eq_true rfl)
      exact VW.sub (hJt9 (σ4, t2.2.1, r6) (Option.some.inj h).symm) [4, 3, 2, 1, 0] rfl
    · rw [if_neg c43_13] at h
      refine zr_aload_n (pc := 46) hX 4 rfl rfl dJ2_addAll_46 ?_
      refine zr_iload (pc := 47) hX 0 rfl dJ2_addAll_47 ?_
      refine zr_iload_n (pc := 49) hX 2 rfl rfl dJ2_addAll_49 ?_
      refine zr_iadd (pc := 50) hX dJ2_addAll_50 ?_
      obtain ⟨u12, gu12, h⟩ := bnd h
      obtain ⟨t13, gt13, h⟩ := bnd h
      refine zr_callVs (pc := 51) (rest := []) (stk' := [.ref t13.2.2]) (k' := 2) (n' := 732) hX (fun l s0 D => mJ2_grow_2 l s0 D gt13) gu12 zc18 zwJ2_grow_2 q825 q827 qs24 rfl rfl rfl rfl rfl rfl rfl rfl rfl dJ2_addAll_51 ?_
      refine zr_astore (pc := 54) hX rfl (Nat.le_of_ble_eq_true rfl) rfl dJ2_addAll_54 ?_
      exact VW.sub (hJt9 (t13.1, t13.2.1, t13.2.2) (Option.some.inj h).symm) [4, 3, 2, 0, 1] rfl
  · rw [if_pos c21_14] at h
    refine zr_iconst (pc := 24) hX zci_0 dJ2_addAll_24 ?_
    refine VW.widen 2 732 ?_ (Nat.le_of_ble_eq_true rfl) (Nat.le_of_ble_eq_true rfl)
    exact hret _ (Option.some.inj h).symm _ _ dJ2_addAll_25 (Or.inr ⟨rfl, Or.inl rfl⟩)
set_option maxHeartbeats 4000000 in
theorem mJ2_fastRemove (l : Launch) (s0 : State) (D : zD) {σ : zH} {sz : Nat} {th : Nat} {p0 : Nat} {p1 : Int32} {o : zH} (h : fJ2_fastRemove σ th p0 p1 = some o) : zM l s0 D yJ2_fastRemove cJ2_fastRemove 4 none 3 60 0 0 [.ref th, .ref p0, .int p1] σ sz o sz none := by
  refine zenter (own := RJ2) zplJ2 rfl (Nat.le_of_ble_eq_true rfl) rfl (fun K hX hnm hret => ?_)
  unfold fJ2_fastRemove at h
  have hret : ∀ a, o = a → zRet K cJ2_fastRemove none a sz 0 0 none := fun a e => by cases e; exact hret
  show VW K σ sz 0 0 0 [(0, .ref th), (1, .ref p0), (2, .int p1)] []
  refine zr_aload_n (pc := 0) hX 0 rfl rfl dJ2_fastRemove_0 ?_
  refine zr_dup (pc := 1) hX rfl dJ2_fastRemove_1 ?_
  obtain ⟨x1, gx1, h⟩ := bnd h
  refine zr_fv (pc := 2) hX za18_0 (zgI_spec gx1) q175 (Or.inr q176) dJ2_fastRemove_2 ?_
  refine zr_iconst (pc := 5) hX zci_1 dJ2_fastRemove_5 ?_
  refine zr_iadd (pc := 6) hX dJ2_fastRemove_6 ?_
  obtain ⟨σ2, gσ2, h⟩ := bnd h
  refine zr_pv (pc := 7) hX za18_0 gσ2 rfl q175 (Or.inr q176) rfl (tyJ2_ok 0 (Nat.le_of_ble_eq_true rfl)) rfl rfl dJ2_fastRemove_7 ?_
  refine zr_aload_n (pc := 10) hX 0 rfl rfl dJ2_fastRemove_10 ?_
  obtain ⟨x3, gx3, h⟩ := bnd h
  refine zr_fv (pc := 11) hX za18_2 (zgI_spec gx3) q173 (Or.inl rfl) dJ2_fastRemove_11 ?_
  refine zr_iconst (pc := 14) hX zci_1 dJ2_fastRemove_14 ?_
  refine zr_isub (pc := 15) hX dJ2_fastRemove_15 ?_
  refine zr_dup (pc := 16) hX rfl dJ2_fastRemove_16 ?_
  obtain ⟨x4, gx4, h⟩ := bnd h
  refine zr_istore_n (pc := 17) hX (Option.some.inj gx4) rfl (Nat.le_of_ble_eq_true rfl) rfl dJ2_fastRemove_17 ?_
  refine zr_iload_n (pc := 18) hX 3 rfl rfl dJ2_fastRemove_18 ?_
  obtain ⟨t5, gt5, h⟩ := bnd h
  have hJt5 : ∀ a, t5 = a → VW K a sz 0 0 34 [(0, .ref th), (1, .ref p0), (3, .int x4)] [] := by
    intro a ea
    subst ea
    refine zr_aload_n (pc := 34) hX 1 rfl rfl dJ2_fastRemove_34 ?_
    refine zr_aload_n (pc := 35) hX 0 rfl rfl dJ2_fastRemove_35 ?_
    refine zr_iload_n (pc := 36) hX 2 rfl rfl dJ2_fastRemove_36 ?_
    refine zr_dup_x1 (pc := 37) hX rfl rfl dJ2_fastRemove_37 ?_
    obtain ⟨σ6, gσ6, h⟩ := bnd h
    refine zr_pv (pc := 38) hX za18_2 gσ6 rfl q173 (Or.inl rfl) rfl (tyJ2_ok 2 (Nat.le_of_ble_eq_true rfl)) rfl rfl dJ2_fastRemove_38 ?_
    refine zr_null (pc := 41) hX dJ2_fastRemove_41 ?_
    obtain ⟨σ7, gσ7, h⟩ := bnd h
    refine zr_sN (pc := 42) hX gσ7 dJ2_fastRemove_42 ?_
    exact hret _ (Option.some.inj h).symm _ _ dJ2_fastRemove_43
  replace h := gt5
  refine zr_icmp_le (pc := 19) hX 34 rfl dJ2_fastRemove_19 (fun c19_8 => ?_) (fun c19_8 => ?_)
  · rw [if_pos c19_8] at h
    exact VW.sub (hJt5 σ2 (Option.some.inj h).symm) [1, 2, 0] rfl
  · rw [if_neg c19_8] at h
    refine zr_aload_n (pc := 22) hX 2 rfl rfl dJ2_fastRemove_22 ?_
    refine zr_iload_n (pc := 23) hX 3 rfl rfl dJ2_fastRemove_23 ?_
    refine zr_iconst (pc := 24) hX zci_1 dJ2_fastRemove_24 ?_
    refine zr_iadd (pc := 25) hX dJ2_fastRemove_25 ?_
    refine zr_aload_n (pc := 26) hX 2 rfl rfl dJ2_fastRemove_26 ?_
    refine zr_iload_n (pc := 27) hX 3 rfl rfl dJ2_fastRemove_27 ?_
    refine zr_iload_n (pc := 28) hX 0 rfl rfl dJ2_fastRemove_28 ?_
    refine zr_iload_n (pc := 29) hX 3 rfl rfl dJ2_fastRemove_29 ?_
    refine zr_isub (pc := 30) hX dJ2_fastRemove_30 ?_
    obtain ⟨σ8, gσ8, h⟩ := bnd h
    refine zr_cp (pc := 31) (rest := []) hX gσ8 q1242 rfl dJ2_fastRemove_31 ?_
    exact VW.sub (hJt5 σ8 (Option.some.inj h).symm) [1, 2, 0] rfl
set_option maxHeartbeats 4000000 in
theorem mJ2_remove (l : Launch) (s0 : State) (D : zD) {σ : zH} {sz : Nat} {th : Nat} {p0 : Int32} {o : zH × Nat} (h : fJ2_remove σ th p0 = some o) : zM l s0 D yJ2_remove cJ2_remove 4 (some (.object "java/lang/Object")) 4 83 0 0 [.ref th, .int p0] σ sz o.1 sz (some (.ref o.2)) := by
  refine zenter (own := RJ2) zplJ2 rfl (Nat.le_of_ble_eq_true rfl) ⟨_, rfl, Or.inl ⟨_, rfl⟩⟩ (fun K hX hnm hret => ?_)
  unfold fJ2_remove at h
  have hret : ∀ a, o = a → zRet K cJ2_remove (some (.object "java/lang/Object")) a.1 sz 0 0 (some (.ref a.2)) := fun a e => by cases e; exact hret
  show VW K σ sz 0 0 0 [(0, .ref th), (1, .int p0)] []
  refine zr_iload_n (pc := 0) hX 1 rfl rfl dJ2_remove_0 ?_
  refine zr_aload_n (pc := 1) hX 0 rfl rfl dJ2_remove_1 ?_
  obtain ⟨x1, gx1, h⟩ := bnd h
  refine zr_fv (pc := 2) hX za18_2 (zgI_spec gx1) q173 (Or.inl rfl) dJ2_remove_2 ?_
  obtain ⟨t2, gt2, h⟩ := bnd h
  refine zr_callS (pc := 5) (rest := []) (stk' := [.int t2]) (k' := 0) (n' := 0) hX (fun l s0 D => mJ15_checkIndex l s0 D gt2) zwJ15_checkIndex q408 q409 rfl rfl rfl rfl rfl rfl rfl rfl dJ2_remove_5 ?_
  refine zr_pop (pc := 8) hX rfl dJ2_remove_8 ?_
  refine zr_aload_n (pc := 9) hX 0 rfl rfl dJ2_remove_9 ?_
  obtain ⟨r3, gr3, h⟩ := bnd h
  refine zr_fv (pc := 10) hX za18_1 (zgR_spec gr3) q172 (Or.inl rfl) dJ2_remove_10 ?_
  refine zr_astore_n (pc := 13) hX rfl rfl (Nat.le_of_ble_eq_true rfl) rfl dJ2_remove_13 ?_
  refine zr_aload_n (pc := 14) hX 0 rfl rfl dJ2_remove_14 ?_
  refine zr_iload_n (pc := 15) hX 2 rfl rfl dJ2_remove_15 ?_
  obtain ⟨r4, gr4, h⟩ := bnd h
  refine zr_aR (pc := 16) hX gr4 dJ2_remove_16 ?_
  refine zr_astore_n (pc := 17) hX rfl rfl (Nat.le_of_ble_eq_true rfl) rfl dJ2_remove_17 ?_
  refine zr_aload_n (pc := 18) hX 2 rfl rfl dJ2_remove_18 ?_
  refine zr_aload_n (pc := 19) hX 1 rfl rfl dJ2_remove_19 ?_
  refine zr_iload_n (pc := 20) hX 3 rfl rfl dJ2_remove_20 ?_
  obtain ⟨u5, gu5, h⟩ := bnd h
  obtain ⟨t6, gt6, h⟩ := bnd h
  refine zr_callVs (pc := 21) (rest := []) (stk' := []) (k' := 0) (n' := 0) hX (fun l s0 D => mJ2_fastRemove l s0 D gt6) gu5 zc18 zwJ2_fastRemove q1635 q1637 qs49 rfl rfl rfl rfl rfl rfl rfl rfl rfl dJ2_remove_21 ?_
  refine zr_aload_n (pc := 24) hX 0 rfl rfl dJ2_remove_24 ?_
  exact hret _ (Option.some.inj h).symm _ _ dJ2_remove_25
set_option maxHeartbeats 4000000 in
theorem mJ7_init (l : Launch) (s0 : State) (D : zD) {σ : zH} {sz : Nat} {th : Nat} {o : Unit} (h : fJ7_init th = some o) : zM l s0 D yJ7_init cJ7_init 1 none 2 30 0 0 [.ref th] σ sz σ sz none := by
  refine zenter (own := RJ7) zplJ7 rfl (Nat.le_of_ble_eq_true rfl) rfl (fun K hX hnm hret => ?_)
  unfold fJ7_init at h
  have hret : ∀ a, o = a → zRet K cJ7_init none σ sz 0 0 none := fun a e => by cases e; exact hret
  show VW K σ sz 0 0 0 [(0, .ref th)] []
  refine zr_aload_n (pc := 0) hX 0 rfl rfl dJ7_init_0 ?_
  refine zr_objInit (pc := 1) hX q772 q156 q157 rfl dJ7_init_1 ?_
  exact hret _ (Option.some.inj h).symm _ _ dJ7_init_4
set_option maxHeartbeats 4000000 in
theorem mX1_lambda_when_0 (l : Launch) (s0 : State) (D : zD) {σ : zH} {sz : Nat} {p0 : Int32} {p1 : Int32} {p2 : Int32} {p3 : Int32} {o : Int32} (h : fX1_lambda_when_0 p0 p1 p2 p3 = some o) : zM l s0 D yX1_lambda_when_0 cX1_lambda_when_0 4 (some .boolean) 1 0 0 0 [.int p0, .int p1, .int p2, .int p3] σ sz σ sz (some (.int o)) := by
  refine zenter (own := RX1) zplX1 rfl (Nat.le_of_ble_eq_true rfl) trivial (fun K hX hnm hret => ?_)
  unfold fX1_lambda_when_0 at h
  have hret : ∀ a, o = a → zRet K cX1_lambda_when_0 (some .boolean) σ sz 0 0 (some (.int a)) := fun a e => by cases e; exact hret
  show VW K σ sz 0 0 0 [(0, .int p0), (1, .int p1), (2, .int p2), (3, .int p3)] []
  refine zr_iload_n (pc := 0) hX 1 rfl rfl dX1_lambda_when_0_0 ?_
  refine zr_iload_n (pc := 1) hX 0 rfl rfl dX1_lambda_when_0_1 ?_
  obtain ⟨t1, gt1, h⟩ := bnd h
  have hJt1 : ∀ a, t1 = a → VW K σ sz 0 0 23 [] [.int a, .int p1] := by
    intro a ea
    subst ea
    refine zr_icmp_ne (pc := 23) hX 30 rfl dX1_lambda_when_0_23 (fun c23_1 => ?_) (fun c23_1 => ?_)
    · rw [if_neg c23_1] at h
      refine zr_iconst (pc := 30) hX zci_0 dX1_lambda_when_0_30 ?_
      exact hret _ (Option.some.inj h).symm _ _ dX1_lambda_when_0_31 (Or.inr ⟨rfl, Or.inl rfl⟩)
    · rw [if_pos c23_1] at h
      refine zr_iconst (pc := 26) hX zci_1 dX1_lambda_when_0_26 ?_
      refine zr_goto (pc := 27) hX 31 rfl dX1_lambda_when_0_27 ?_
      exact hret _ (Option.some.inj h).symm _ _ dX1_lambda_when_0_31 (Or.inr ⟨rfl, Or.inr rfl⟩)
  replace h := gt1
  obtain ⟨u4, gu4, hAu4, hBu4⟩ := zesc_bnd h
  have hJt3 : ∀ a, u4 = .inl a → VW K σ sz 0 0 18 [] [.int p1] := by
    intro t3 ea
    have h := hAu4 _ ea
    refine zr_iconst (pc := 18) hX zci_1 dX1_lambda_when_0_18 ?_
    refine zr_goto (pc := 19) hX 23 rfl dX1_lambda_when_0_19 ?_
    exact VW.sub (hJt1 (1 : Int32) (Option.some.inj h).symm) [] rfl
  replace h := gu4
  obtain ⟨u6, gu6, hAu6, hBu6⟩ := zesc_bnd h
  have hJt5 : ∀ a, u6 = .inl a → VW K σ sz 0 0 22 [] [.int p1] := by
    intro t5 ea
    have h := hAu6 _ ea
    refine zr_iconst (pc := 22) hX zci_0 dX1_lambda_when_0_22 ?_
    replace h := congrArg some (hBu4 _ (Option.some.inj h).symm)
    exact VW.sub (hJt1 (0 : Int32) (Option.some.inj h).symm) [] rfl
  replace h := gu6
  refine zr_if_eq (pc := 2) hX 13 rfl dX1_lambda_when_0_2 (fun c2_8 => ?_) (fun c2_8 => ?_)
  · rw [if_pos c2_8] at h
    refine zr_iload_n (pc := 13) hX 2 rfl rfl dX1_lambda_when_0_13 ?_
    refine zr_iload_n (pc := 14) hX 3 rfl rfl dX1_lambda_when_0_14 ?_
    refine zr_icmp_ne (pc := 15) hX 22 rfl dX1_lambda_when_0_15 (fun c15_6 => ?_) (fun c15_6 => ?_)
    · rw [if_neg c15_6] at h
      exact VW.sub (hJt5 () (Option.some.inj h).symm) [] rfl
    · rw [if_pos c15_6] at h
      replace h := congrArg some (hBu6 _ (Option.some.inj h).symm)
      exact VW.sub (hJt3 () (Option.some.inj h).symm) [] rfl
  · rw [if_neg c2_8] at h
    refine zr_iload_n (pc := 5) hX 2 rfl rfl dX1_lambda_when_0_5 ?_
    refine zr_iload_n (pc := 6) hX 3 rfl rfl dX1_lambda_when_0_6 ?_
    refine zr_icmp_ge (pc := 7) hX 22 rfl dX1_lambda_when_0_7 (fun c7_7 => ?_) (fun c7_7 => ?_)
    · rw [if_pos c7_7] at h
      exact VW.sub (hJt5 () (Option.some.inj h).symm) [] rfl
    · rw [if_neg c7_7] at h
      refine zr_goto (pc := 10) hX 18 rfl dX1_lambda_when_0_10 ?_
      replace h := congrArg some (hBu6 _ (Option.some.inj h).symm)
      exact VW.sub (hJt3 () (Option.some.inj h).symm) [] rfl
set_option maxHeartbeats 4000000 in
theorem mX1_lambda_sets_1 (l : Launch) (s0 : State) (D : zD) {σ : zH} {sz : Nat} {p0 : Int32} {p1 : Int32} {p2 : Int32} {p3 : Int32} {o : Int32} (h : fX1_lambda_sets_1 p0 p1 p2 p3 = some o) : zM l s0 D yX1_lambda_sets_1 cX1_lambda_sets_1 4 (some .boolean) 1 0 0 0 [.int p0, .int p1, .int p2, .int p3] σ sz σ sz (some (.int o)) := by
  refine zenter (own := RX1) zplX1 rfl (Nat.le_of_ble_eq_true rfl) trivial (fun K hX hnm hret => ?_)
  unfold fX1_lambda_sets_1 at h
  have hret : ∀ a, o = a → zRet K cX1_lambda_sets_1 (some .boolean) σ sz 0 0 (some (.int a)) := fun a e => by cases e; exact hret
  show VW K σ sz 0 0 0 [(0, .int p0), (1, .int p1), (2, .int p2), (3, .int p3)] []
  refine zr_iload_n (pc := 0) hX 1 rfl rfl dX1_lambda_sets_1_0 ?_
  refine zr_iload_n (pc := 1) hX 0 rfl rfl dX1_lambda_sets_1_1 ?_
  obtain ⟨t1, gt1, h⟩ := bnd h
  have hJt1 : ∀ a, t1 = a → VW K σ sz 0 0 14 [] [.int a, .int p1] := by
    intro a ea
    subst ea
    refine zr_icmp_ne (pc := 14) hX 21 rfl dX1_lambda_sets_1_14 (fun c14_1 => ?_) (fun c14_1 => ?_)
    · rw [if_neg c14_1] at h
      refine zr_iconst (pc := 21) hX zci_0 dX1_lambda_sets_1_21 ?_
      exact hret _ (Option.some.inj h).symm _ _ dX1_lambda_sets_1_22 (Or.inr ⟨rfl, Or.inl rfl⟩)
    · rw [if_pos c14_1] at h
      refine zr_iconst (pc := 17) hX zci_1 dX1_lambda_sets_1_17 ?_
      refine zr_goto (pc := 18) hX 22 rfl dX1_lambda_sets_1_18 ?_
      exact hret _ (Option.some.inj h).symm _ _ dX1_lambda_sets_1_22 (Or.inr ⟨rfl, Or.inr rfl⟩)
  replace h := gt1
  refine zr_if_eq (pc := 2) hX 11 rfl dX1_lambda_sets_1_2 (fun c2_2 => ?_) (fun c2_2 => ?_)
  · rw [if_pos c2_2] at h
    refine zr_iload_n (pc := 11) hX 2 rfl rfl dX1_lambda_sets_1_11 ?_
    refine zr_iload_n (pc := 12) hX 3 rfl rfl dX1_lambda_sets_1_12 ?_
    refine zr_iand (pc := 13) hX dX1_lambda_sets_1_13 ?_
    exact VW.sub (hJt1 (p2 &&& p3) (Option.some.inj h).symm) [] rfl
  · rw [if_neg c2_2] at h
    refine zr_iload_n (pc := 5) hX 2 rfl rfl dX1_lambda_sets_1_5 ?_
    refine zr_iload_n (pc := 6) hX 3 rfl rfl dX1_lambda_sets_1_6 ?_
    refine zr_ior (pc := 7) hX dX1_lambda_sets_1_7 ?_
    refine zr_goto (pc := 8) hX 14 rfl dX1_lambda_sets_1_8 ?_
    exact VW.sub (hJt1 (p2 ||| p3) (Option.some.inj h).symm) [] rfl
set_option maxHeartbeats 4000000 in
theorem mX1_lambda_within_2 (l : Launch) (s0 : State) (D : zD) {σ : zH} {sz : Nat} {p0 : Int32} {p1 : Int32} {p2 : Int32} {o : Int32} (h : fX1_lambda_within_2 p0 p1 p2 = some o) : zM l s0 D yX1_lambda_within_2 cX1_lambda_within_2 3 (some .boolean) 1 0 0 0 [.int p0, .int p1, .int p2] σ sz σ sz (some (.int o)) := by
  refine zenter (own := RX1) zplX1 rfl (Nat.le_of_ble_eq_true rfl) trivial (fun K hX hnm hret => ?_)
  unfold fX1_lambda_within_2 at h
  have hret : ∀ a, o = a → zRet K cX1_lambda_within_2 (some .boolean) σ sz 0 0 (some (.int a)) := fun a e => by cases e; exact hret
  show VW K σ sz 0 0 0 [(0, .int p0), (1, .int p1), (2, .int p2)] []
  refine zr_iload_n (pc := 0) hX 0 rfl rfl dX1_lambda_within_2_0 ?_
  refine zr_iload_n (pc := 1) hX 1 rfl rfl dX1_lambda_within_2_1 ?_
  refine zr_iconst (pc := 2) hX zci_m1 dX1_lambda_within_2_2 ?_
  refine zr_ixor (pc := 3) hX dX1_lambda_within_2_3 ?_
  refine zr_iand (pc := 4) hX dX1_lambda_within_2_4 ?_
  refine zr_if_ne (pc := 5) hX 12 rfl dX1_lambda_within_2_5 (fun c5_0 => ?_) (fun c5_0 => ?_)
  · rw [if_neg c5_0] at h
    refine zr_iconst (pc := 12) hX zci_0 dX1_lambda_within_2_12 ?_
    exact hret _ (Option.some.inj h).symm _ _ dX1_lambda_within_2_13 (Or.inr ⟨rfl, Or.inl rfl⟩)
  · rw [if_pos c5_0] at h
    refine zr_iconst (pc := 8) hX zci_1 dX1_lambda_within_2_8 ?_
    refine zr_goto (pc := 9) hX 13 rfl dX1_lambda_within_2_9 ?_
    exact hret _ (Option.some.inj h).symm _ _ dX1_lambda_within_2_13 (Or.inr ⟨rfl, Or.inr rfl⟩)
set_option maxHeartbeats 4000000 in
theorem mX1_length (l : Launch) (s0 : State) (D : zD) {σ : zH} {sz : Nat} {p0 : Int32} {o : Int32} (h : fX1_length p0 = some o) : zM l s0 D yX1_length cX1_length 1 (some .int) 1 0 0 0 [.int p0] σ sz σ sz (some (.int o)) := by
  refine zenter (own := RX1) zplX1 rfl (Nat.le_of_ble_eq_true rfl) trivial (fun K hX hnm hret => ?_)
  unfold fX1_length at h
  have hret : ∀ a, o = a → zRet K cX1_length (some .int) σ sz 0 0 (some (.int a)) := fun a e => by cases e; exact hret
  show VW K σ sz 0 0 0 [(0, .int p0)] []
  refine zr_iload_n (pc := 0) hX 0 rfl rfl dX1_length_0 ?_
  refine zr_if_ne (pc := 1) hX 8 rfl dX1_length_1 (fun c1_2 => ?_) (fun c1_2 => ?_)
  · rw [if_neg c1_2] at h
    refine zr_iload_n (pc := 8) hX 0 rfl rfl dX1_length_8 ?_
    refine zr_iconst (pc := 9) hX zci_3 dX1_length_9 ?_
    refine zr_icmp_ge (pc := 10) hX 17 rfl dX1_length_10 (fun c10_1 => ?_) (fun c10_1 => ?_)
    · rw [if_pos c10_1] at h
      refine zr_iload_n (pc := 17) hX 0 rfl rfl dX1_length_17 ?_
      refine zr_bipush (pc := 18) hX zcb_7 dX1_length_18 ?_
      refine zr_icmp_ge (pc := 20) hX 27 rfl dX1_length_20 (fun c20_0 => ?_) (fun c20_0 => ?_)
      · rw [if_pos c20_0] at h
        refine zr_iconst (pc := 27) hX zci_3 dX1_length_27 ?_
        exact hret _ (Option.some.inj h).symm _ _ dX1_length_28 (Or.inl rfl)
      · rw [if_neg c20_0] at h
        refine zr_iconst (pc := 23) hX zci_2 dX1_length_23 ?_
        refine zr_goto (pc := 24) hX 28 rfl dX1_length_24 ?_
        exact hret _ (Option.some.inj h).symm _ _ dX1_length_28 (Or.inl rfl)
    · rw [if_neg c10_1] at h
      refine zr_iconst (pc := 13) hX zci_1 dX1_length_13 ?_
      refine zr_goto (pc := 14) hX 28 rfl dX1_length_14 ?_
      exact hret _ (Option.some.inj h).symm _ _ dX1_length_28 (Or.inl rfl)
  · rw [if_pos c1_2] at h
    refine zr_iconst (pc := 4) hX zci_0 dX1_length_4 ?_
    refine zr_goto (pc := 5) hX 28 rfl dX1_length_5 ?_
    exact hret _ (Option.some.inj h).symm _ _ dX1_length_28 (Or.inl rfl)
set_option maxHeartbeats 4000000 in
theorem mX1_lambda_measure_3 (l : Launch) (s0 : State) (D : zD) {σ : zH} {sz : Nat} {p0 : Int32} {p1 : Int32} {p2 : Int32} {p3 : Int32} {o : Int32} (h : fX1_lambda_measure_3 p0 p1 p2 p3 = some o) : zM l s0 D yX1_lambda_measure_3 cX1_lambda_measure_3 4 (some .boolean) 2 20 0 0 [.int p0, .int p1, .int p2, .int p3] σ sz σ sz (some (.int o)) := by
  refine zenter (own := RX1) zplX1 rfl (Nat.le_of_ble_eq_true rfl) trivial (fun K hX hnm hret => ?_)
  unfold fX1_lambda_measure_3 at h
  have hret : ∀ a, o = a → zRet K cX1_lambda_measure_3 (some .boolean) σ sz 0 0 (some (.int a)) := fun a e => by cases e; exact hret
  show VW K σ sz 0 0 0 [(0, .int p0), (1, .int p1), (2, .int p2), (3, .int p3)] []
  refine zr_iload_n (pc := 0) hX 2 rfl rfl dX1_lambda_measure_3_0 ?_
  refine zr_iload_n (pc := 1) hX 0 rfl rfl dX1_lambda_measure_3_1 ?_
  obtain ⟨t1, gt1, h⟩ := bnd h
  have hJt1 : ∀ a, t1 = a → VW K σ sz 0 0 16 [] [.int a, .int p2] := by
    intro a ea
    subst ea
    refine zr_icmp_ne (pc := 16) hX 23 rfl dX1_lambda_measure_3_16 (fun c16_1 => ?_) (fun c16_1 => ?_)
    · rw [if_neg c16_1] at h
      refine zr_iconst (pc := 23) hX zci_0 dX1_lambda_measure_3_23 ?_
      exact hret _ (Option.some.inj h).symm _ _ dX1_lambda_measure_3_24 (Or.inr ⟨rfl, Or.inl rfl⟩)
    · rw [if_pos c16_1] at h
      refine zr_iconst (pc := 19) hX zci_1 dX1_lambda_measure_3_19 ?_
      refine zr_goto (pc := 20) hX 24 rfl dX1_lambda_measure_3_20 ?_
      exact hret _ (Option.some.inj h).symm _ _ dX1_lambda_measure_3_24 (Or.inr ⟨rfl, Or.inr rfl⟩)
  replace h := gt1
  refine zr_if_eq (pc := 2) hX 12 rfl dX1_lambda_measure_3_2 (fun c2_4 => ?_) (fun c2_4 => ?_)
  · rw [if_pos c2_4] at h
    refine zr_iload_n (pc := 12) hX 1 rfl rfl dX1_lambda_measure_3_12 ?_
    obtain ⟨t3, gt3, h⟩ := bnd h
    refine zr_callS (pc := 13) (rest := [.int p2]) (stk' := [.int t3, .int p2]) (k' := 0) (n' := 0) hX (fun l s0 D => mX1_length l s0 D gt3) zwX1_length q1316 q1317 rfl rfl rfl rfl rfl rfl rfl rfl dX1_lambda_measure_3_13 ?_
    exact VW.sub (hJt1 t3 (Option.some.inj h).symm) [] rfl
  · rw [if_neg c2_4] at h
    refine zr_iload_n (pc := 5) hX 1 rfl rfl dX1_lambda_measure_3_5 ?_
    obtain ⟨t4, gt4, h⟩ := bnd h
    refine zr_callS (pc := 6) (rest := [.int p2]) (stk' := [.int t4, .int p2]) (k' := 0) (n' := 0) hX (fun l s0 D => mJ18_bitCount l s0 D gt4) zwJ18_bitCount q1310 q1311 rfl rfl rfl rfl rfl rfl rfl rfl dX1_lambda_measure_3_6 ?_
    refine zr_goto (pc := 9) hX 16 rfl dX1_lambda_measure_3_9 ?_
    exact VW.sub (hJt1 t4 (Option.some.inj h).symm) [] rfl
set_option maxHeartbeats 4000000 in
theorem mX1_has (l : Launch) (s0 : State) (D : zD) {σ : zH} {sz : Nat} {p0 : Int32} {p1 : Int32} {o : Int32} (h : fX1_has p0 p1 = some o) : zM l s0 D yX1_has cX1_has 2 (some .boolean) 1 0 0 0 [.int p0, .int p1] σ sz σ sz (some (.int o)) := by
  refine zenter (own := RX1) zplX1 rfl (Nat.le_of_ble_eq_true rfl) trivial (fun K hX hnm hret => ?_)
  unfold fX1_has at h
  have hret : ∀ a, o = a → zRet K cX1_has (some .boolean) σ sz 0 0 (some (.int a)) := fun a e => by cases e; exact hret
  show VW K σ sz 0 0 0 [(0, .int p0), (1, .int p1)] []
  refine zr_iload_n (pc := 0) hX 0 rfl rfl dX1_has_0 ?_
  refine zr_iload_n (pc := 1) hX 1 rfl rfl dX1_has_1 ?_
  refine zr_ishr (pc := 2) hX dX1_has_2 ?_
  refine zr_iconst (pc := 3) hX zci_1 dX1_has_3 ?_
  refine zr_iand (pc := 4) hX dX1_has_4 ?_
  refine zr_iconst (pc := 5) hX zci_1 dX1_has_5 ?_
  refine zr_icmp_ne (pc := 6) hX 13 rfl dX1_has_6 (fun c6_0 => ?_) (fun c6_0 => ?_)
  · rw [if_neg c6_0] at h
    refine zr_iconst (pc := 13) hX zci_0 dX1_has_13 ?_
    exact hret _ (Option.some.inj h).symm _ _ dX1_has_14 (Or.inr ⟨rfl, Or.inl rfl⟩)
  · rw [if_pos c6_0] at h
    refine zr_iconst (pc := 9) hX zci_1 dX1_has_9 ?_
    refine zr_goto (pc := 10) hX 14 rfl dX1_has_10 ?_
    exact hret _ (Option.some.inj h).symm _ _ dX1_has_14 (Or.inr ⟨rfl, Or.inr rfl⟩)
set_option maxHeartbeats 4000000 in
theorem mX1_lambda_member_4 (l : Launch) (s0 : State) (D : zD) {σ : zH} {sz : Nat} {p0 : Int32} {p1 : Int32} {p2 : Int32} {o : Int32} (h : fX1_lambda_member_4 p0 p1 p2 = some o) : zM l s0 D yX1_lambda_member_4 cX1_lambda_member_4 3 (some .boolean) 2 21 0 0 [.int p0, .int p1, .int p2] σ sz σ sz (some (.int o)) := by
  refine zenter (own := RX1) zplX1 rfl (Nat.le_of_ble_eq_true rfl) trivial (fun K hX hnm hret => ?_)
  unfold fX1_lambda_member_4 at h
  have hret : ∀ a, o = a → zRet K cX1_lambda_member_4 (some .boolean) σ sz 0 0 (some (.int a)) := fun a e => by cases e; exact hret
  show VW K σ sz 0 0 0 [(0, .int p0), (1, .int p1), (2, .int p2)] []
  refine zr_iload_n (pc := 0) hX 0 rfl rfl dX1_lambda_member_4_0 ?_
  refine zr_iload_n (pc := 1) hX 2 rfl rfl dX1_lambda_member_4_1 ?_
  refine zr_iload_n (pc := 2) hX 1 rfl rfl dX1_lambda_member_4_2 ?_
  obtain ⟨t1, gt1, h⟩ := bnd h
  refine zr_callS (pc := 3) (rest := [.int p0]) (stk' := [.int t1, .int p0]) (k' := 0) (n' := 0) hX (fun l s0 D => mX1_has l s0 D gt1) zwX1_has q431 q432 rfl rfl rfl rfl rfl rfl rfl rfl dX1_lambda_member_4_3 ?_
  obtain ⟨t2, gt2, h⟩ := bnd h
  have hJt2 : ∀ a, t2 = a → VW K σ sz 0 0 14 [] [.int a, .int p0] := by
    intro a ea
    subst ea
    refine zr_icmp_ne (pc := 14) hX 21 rfl dX1_lambda_member_4_14 (fun c14_2 => ?_) (fun c14_2 => ?_)
    · rw [if_neg c14_2] at h
      refine zr_iconst (pc := 21) hX zci_0 dX1_lambda_member_4_21 ?_
      exact hret _ (Option.some.inj h).symm _ _ dX1_lambda_member_4_22 (Or.inr ⟨rfl, Or.inl rfl⟩)
    · rw [if_pos c14_2] at h
      refine zr_iconst (pc := 17) hX zci_1 dX1_lambda_member_4_17 ?_
      refine zr_goto (pc := 18) hX 22 rfl dX1_lambda_member_4_18 ?_
      exact hret _ (Option.some.inj h).symm _ _ dX1_lambda_member_4_22 (Or.inr ⟨rfl, Or.inr rfl⟩)
  replace h := gt2
  refine zr_if_eq (pc := 6) hX 13 rfl dX1_lambda_member_4_6 (fun c6_3 => ?_) (fun c6_3 => ?_)
  · rw [if_pos c6_3] at h
    refine zr_iconst (pc := 13) hX zci_0 dX1_lambda_member_4_13 ?_
    exact VW.sub (hJt2 (0 : Int32) (Option.some.inj h).symm) [] rfl
  · rw [if_neg c6_3] at h
    refine zr_iconst (pc := 9) hX zci_1 dX1_lambda_member_4_9 ?_
    refine zr_goto (pc := 10) hX 14 rfl dX1_lambda_member_4_10 ?_
    exact VW.sub (hJt2 (1 : Int32) (Option.some.inj h).symm) [] rfl
set_option maxHeartbeats 4000000 in
theorem mX1_letters (l : Launch) (s0 : State) (D : zD) {σ : zH} {sz : Nat} {p0 : Int32} {o : Int32} (h : fX1_letters p0 = some o) : zM l s0 D yX1_letters cX1_letters 1 (some .int) 2 20 0 0 [.int p0] σ sz σ sz (some (.int o)) := by
  refine zenter (own := RX1) zplX1 rfl (Nat.le_of_ble_eq_true rfl) trivial (fun K hX hnm hret => ?_)
  unfold fX1_letters at h
  have hret : ∀ a, o = a → zRet K cX1_letters (some .int) σ sz 0 0 (some (.int a)) := fun a e => by cases e; exact hret
  show VW K σ sz 0 0 0 [(0, .int p0)] []
  refine zr_iload_n (pc := 0) hX 0 rfl rfl dX1_letters_0 ?_
  refine zr_iconst (pc := 1) hX zci_1 dX1_letters_1 ?_
  refine zr_iload_n (pc := 2) hX 0 rfl rfl dX1_letters_2 ?_
  obtain ⟨t1, gt1, h⟩ := bnd h
  refine zr_callS (pc := 3) (rest := [.int (1 : Int32), .int p0]) (stk' := [.int t1, .int (1 : Int32), .int p0]) (k' := 0) (n' := 0) hX (fun l s0 D => mX1_length l s0 D gt1) zwX1_length q1316 q1317 rfl rfl rfl rfl rfl rfl rfl rfl dX1_letters_3 ?_
  refine zr_ishl (pc := 6) hX dX1_letters_6 ?_
  refine zr_isub (pc := 7) hX dX1_letters_7 ?_
  refine zr_iconst (pc := 8) hX zci_1 dX1_letters_8 ?_
  refine zr_iadd (pc := 9) hX dX1_letters_9 ?_
  exact hret _ (Option.some.inj h).symm _ _ dX1_letters_10 (Or.inl rfl)
set_option maxHeartbeats 4000000 in
theorem mX1_isJoined (l : Launch) (s0 : State) (D : zD) {σ : zH} {sz : Nat} {p0 : Int32} {p1 : Int32} {p2 : Int32} {o : Int32} (h : fX1_isJoined p0 p1 p2 = some o) : zM l s0 D yX1_isJoined cX1_isJoined 5 (some .boolean) 3 40 0 0 [.int p0, .int p1, .int p2] σ sz σ sz (some (.int o)) := by
  refine zenter (own := RX1) zplX1 rfl (Nat.le_of_ble_eq_true rfl) trivial (fun K hX hnm hret => ?_)
  unfold fX1_isJoined at h
  have hret : ∀ a, o = a → zRet K cX1_isJoined (some .boolean) σ sz 0 0 (some (.int a)) := fun a e => by cases e; exact hret
  show VW K σ sz 0 0 0 [(0, .int p0), (1, .int p1), (2, .int p2)] []
  refine zr_iload_n (pc := 0) hX 2 rfl rfl dX1_isJoined_0 ?_
  obtain ⟨t1, gt1, h⟩ := bnd h
  refine zr_callS (pc := 1) (rest := []) (stk' := [.int t1]) (k' := 0) (n' := 0) hX (fun l s0 D => mX1_length l s0 D gt1) zwX1_length q1316 q1317 rfl rfl rfl rfl rfl rfl rfl rfl dX1_isJoined_1 ?_
  refine zr_istore_n (pc := 4) hX rfl rfl (Nat.le_of_ble_eq_true rfl) rfl dX1_isJoined_4 ?_
  refine zr_iload_n (pc := 5) hX 1 rfl rfl dX1_isJoined_5 ?_
  obtain ⟨t2, gt2, h⟩ := bnd h
  refine zr_callS (pc := 6) (rest := []) (stk' := [.int t2]) (k' := 0) (n' := 0) hX (fun l s0 D => mX1_length l s0 D gt2) zwX1_length q1316 q1317 rfl rfl rfl rfl rfl rfl rfl rfl dX1_isJoined_6 ?_
  refine zr_iload_n (pc := 9) hX 2 rfl rfl dX1_isJoined_9 ?_
  obtain ⟨t3, gt3, h⟩ := bnd h
  refine zr_callS (pc := 10) (rest := [.int t2]) (stk' := [.int t3, .int t2]) (k' := 0) (n' := 0) hX (fun l s0 D => mX1_length l s0 D gt3) zwX1_length q1316 q1317 rfl rfl rfl rfl rfl rfl rfl rfl dX1_isJoined_10 ?_
  refine zr_iload_n (pc := 13) hX 0 rfl rfl dX1_isJoined_13 ?_
  refine zr_iadd (pc := 14) hX dX1_isJoined_14 ?_
  obtain ⟨t4, gt4, h⟩ := bnd h
  have hJt4 : ∀ a, t4 = a → VW K σ sz 0 0 23 [(0, .int p0), (1, .int p1), (2, .int p2), (3, .int t1)] [.int a] := by
    intro a ea
    subst ea
    refine zr_istore (pc := 23) hX rfl (Nat.le_of_ble_eq_true rfl) rfl dX1_isJoined_23 ?_
    refine zr_iload (pc := 25) hX 0 rfl dX1_isJoined_25 ?_
    refine zr_if_eq (pc := 27) hX 52 rfl dX1_isJoined_27 (fun c27_8 => ?_) (fun c27_8 => ?_)
    · rw [if_pos c27_8] at h
      refine zr_iconst (pc := 52) hX zci_0 dX1_isJoined_52 ?_
      exact hret _ (Option.some.inj h).symm _ _ dX1_isJoined_53 (Or.inr ⟨rfl, Or.inl rfl⟩)
    · rw [if_neg c27_8] at h
      refine zr_iload_n (pc := 30) hX 1 rfl rfl dX1_isJoined_30 ?_
      obtain ⟨t5, gt5, h⟩ := bnd h
      refine zr_callS (pc := 31) (rest := []) (stk' := [.int t5]) (k' := 0) (n' := 0) hX (fun l s0 D => mX1_letters l s0 D gt5) zwX1_letters q1337 q1338 rfl rfl rfl rfl rfl rfl rfl rfl dX1_isJoined_31 ?_
      refine zr_iload_n (pc := 34) hX 2 rfl rfl dX1_isJoined_34 ?_
      obtain ⟨t6, gt6, h⟩ := bnd h
      refine zr_callS (pc := 35) (rest := [.int t5]) (stk' := [.int t6, .int t5]) (k' := 0) (n' := 0) hX (fun l s0 D => mX1_letters l s0 D gt6) zwX1_letters q1337 q1338 rfl rfl rfl rfl rfl rfl rfl rfl dX1_isJoined_35 ?_
      refine zr_iload_n (pc := 38) hX 4 rfl rfl dX1_isJoined_38 ?_
      refine zr_ishl (pc := 39) hX dX1_isJoined_39 ?_
      refine zr_iload_n (pc := 40) hX 3 rfl rfl dX1_isJoined_40 ?_
      obtain ⟨t7, gt7, h⟩ := bnd h
      refine zr_callS (pc := 41) (rest := [.int (t6 <<< (t1 &&& 31)), .int t5]) (stk' := [.int t7, .int (t6 <<< (t1 &&& 31)), .int t5]) (k' := 0) (n' := 0) hX (fun l s0 D => mX1_letters l s0 D gt7) zwX1_letters q1337 q1338 rfl rfl rfl rfl rfl rfl rfl rfl dX1_isJoined_41 ?_
      refine zr_ior (pc := 44) hX dX1_isJoined_44 ?_
      refine zr_icmp_ne (pc := 45) hX 52 rfl dX1_isJoined_45 (fun c45_7 => ?_) (fun c45_7 => ?_)
      · rw [if_neg c45_7] at h
        refine zr_iconst (pc := 52) hX zci_0 dX1_isJoined_52 ?_
        exact hret _ (Option.some.inj h).symm _ _ dX1_isJoined_53 (Or.inr ⟨rfl, Or.inl rfl⟩)
      · rw [if_pos c45_7] at h
        refine zr_iconst (pc := 48) hX zci_1 dX1_isJoined_48 ?_
        refine zr_goto (pc := 49) hX 53 rfl dX1_isJoined_49 ?_
        exact hret _ (Option.some.inj h).symm _ _ dX1_isJoined_53 (Or.inr ⟨rfl, Or.inr rfl⟩)
  replace h := gt4
  refine zr_icmp_ne (pc := 15) hX 22 rfl dX1_isJoined_15 (fun c15_9 => ?_) (fun c15_9 => ?_)
  · rw [if_neg c15_9] at h
    refine zr_iconst (pc := 22) hX zci_0 dX1_isJoined_22 ?_
    exact VW.sub (hJt4 (0 : Int32) (Option.some.inj h).symm) [1, 2, 3, 0] rfl
  · rw [if_pos c15_9] at h
    refine zr_iconst (pc := 18) hX zci_1 dX1_isJoined_18 ?_
    refine zr_goto (pc := 19) hX 23 rfl dX1_isJoined_19 ?_
    exact VW.sub (hJt4 (1 : Int32) (Option.some.inj h).symm) [1, 2, 3, 0] rfl
set_option maxHeartbeats 4000000 in
theorem mX1_begins (l : Launch) (s0 : State) (D : zD) {σ : zH} {sz : Nat} {p0 : Int32} {p1 : Int32} {o : Int32} (h : fX1_begins p0 p1 = some o) : zM l s0 D yX1_begins cX1_begins 3 (some .boolean) 3 40 0 0 [.int p0, .int p1] σ sz σ sz (some (.int o)) := by
  refine zenter (own := RX1) zplX1 rfl (Nat.le_of_ble_eq_true rfl) trivial (fun K hX hnm hret => ?_)
  unfold fX1_begins at h
  have hret : ∀ a, o = a → zRet K cX1_begins (some .boolean) σ sz 0 0 (some (.int a)) := fun a e => by cases e; exact hret
  show VW K σ sz 0 0 0 [(0, .int p0), (1, .int p1)] []
  refine zr_iload_n (pc := 0) hX 1 rfl rfl dX1_begins_0 ?_
  obtain ⟨t1, gt1, h⟩ := bnd h
  refine zr_callS (pc := 1) (rest := []) (stk' := [.int t1]) (k' := 0) (n' := 0) hX (fun l s0 D => mX1_length l s0 D gt1) zwX1_length q1316 q1317 rfl rfl rfl rfl rfl rfl rfl rfl dX1_begins_1 ?_
  refine zr_iload_n (pc := 4) hX 0 rfl rfl dX1_begins_4 ?_
  obtain ⟨t2, gt2, h⟩ := bnd h
  refine zr_callS (pc := 5) (rest := [.int t1]) (stk' := [.int t2, .int t1]) (k' := 0) (n' := 0) hX (fun l s0 D => mX1_length l s0 D gt2) zwX1_length q1316 q1317 rfl rfl rfl rfl rfl rfl rfl rfl dX1_begins_5 ?_
  refine zr_isub (pc := 8) hX dX1_begins_8 ?_
  obtain ⟨x3, gx3, h⟩ := bnd h
  refine zr_istore_n (pc := 9) hX (Option.some.inj gx3) rfl (Nat.le_of_ble_eq_true rfl) rfl dX1_begins_9 ?_
  refine zr_iload_n (pc := 10) hX 0 rfl rfl dX1_begins_10 ?_
  refine zr_if_lt (pc := 11) hX 31 rfl dX1_begins_11 (fun c11_6 => ?_) (fun c11_6 => ?_)
  · rw [if_pos c11_6] at h
    refine zr_iconst (pc := 31) hX zci_0 dX1_begins_31 ?_
    exact hret _ (Option.some.inj h).symm _ _ dX1_begins_32 (Or.inr ⟨rfl, Or.inl rfl⟩)
  · rw [if_neg c11_6] at h
    refine zr_iload_n (pc := 14) hX 2 rfl rfl dX1_begins_14 ?_
    obtain ⟨t4, gt4, h⟩ := bnd h
    refine zr_callS (pc := 15) (rest := []) (stk' := [.int t4]) (k' := 0) (n' := 0) hX (fun l s0 D => mX1_letters l s0 D gt4) zwX1_letters q1337 q1338 rfl rfl rfl rfl rfl rfl rfl rfl dX1_begins_15 ?_
    refine zr_iload_n (pc := 18) hX 0 rfl rfl dX1_begins_18 ?_
    refine zr_ishr (pc := 19) hX dX1_begins_19 ?_
    refine zr_iload_n (pc := 20) hX 1 rfl rfl dX1_begins_20 ?_
    obtain ⟨t5, gt5, h⟩ := bnd h
    refine zr_callS (pc := 21) (rest := [.int (t4 >>> (x3 &&& 31))]) (stk' := [.int t5, .int (t4 >>> (x3 &&& 31))]) (k' := 0) (n' := 0) hX (fun l s0 D => mX1_letters l s0 D gt5) zwX1_letters q1337 q1338 rfl rfl rfl rfl rfl rfl rfl rfl dX1_begins_21 ?_
    refine zr_icmp_ne (pc := 24) hX 31 rfl dX1_begins_24 (fun c24_5 => ?_) (fun c24_5 => ?_)
    · rw [if_neg c24_5] at h
      refine zr_iconst (pc := 31) hX zci_0 dX1_begins_31 ?_
      exact hret _ (Option.some.inj h).symm _ _ dX1_begins_32 (Or.inr ⟨rfl, Or.inl rfl⟩)
    · rw [if_pos c24_5] at h
      refine zr_iconst (pc := 27) hX zci_1 dX1_begins_27 ?_
      refine zr_goto (pc := 28) hX 32 rfl dX1_begins_28 ?_
      exact hret _ (Option.some.inj h).symm _ _ dX1_begins_32 (Or.inr ⟨rfl, Or.inr rfl⟩)
set_option maxHeartbeats 4000000 in
theorem mX1_lambda_prefix_5 (l : Launch) (s0 : State) (D : zD) {σ : zH} {sz : Nat} {p0 : Int32} {p1 : Int32} {p2 : Int32} {o : Int32} (h : fX1_lambda_prefix_5 p0 p1 p2 = some o) : zM l s0 D yX1_lambda_prefix_5 cX1_lambda_prefix_5 3 (some .boolean) 4 62 0 0 [.int p0, .int p1, .int p2] σ sz σ sz (some (.int o)) := by
  refine zenter (own := RX1) zplX1 rfl (Nat.le_of_ble_eq_true rfl) trivial (fun K hX hnm hret => ?_)
  unfold fX1_lambda_prefix_5 at h
  have hret : ∀ a, o = a → zRet K cX1_lambda_prefix_5 (some .boolean) σ sz 0 0 (some (.int a)) := fun a e => by cases e; exact hret
  show VW K σ sz 0 0 0 [(0, .int p0), (1, .int p1), (2, .int p2)] []
  refine zr_iload_n (pc := 0) hX 0 rfl rfl dX1_lambda_prefix_5_0 ?_
  refine zr_iload_n (pc := 1) hX 1 rfl rfl dX1_lambda_prefix_5_1 ?_
  obtain ⟨t1, gt1, h⟩ := bnd h
  refine zr_callS (pc := 2) (rest := []) (stk' := [.int t1]) (k' := 0) (n' := 0) hX (fun l s0 D => mX1_begins l s0 D gt1) zwX1_begins q1349 q1350 rfl rfl rfl rfl rfl rfl rfl rfl dX1_lambda_prefix_5_2 ?_
  obtain ⟨x2, gx2, h⟩ := bnd h
  rw [(zq_spec gx2).1] at h
  exact hret _ (Option.some.inj h).symm _ _ dX1_lambda_prefix_5_5 (Or.inr ⟨rfl, (zq_spec gx2).2⟩)
set_option maxHeartbeats 4000000 in
theorem mX1_isLetter (l : Launch) (s0 : State) (D : zD) {σ : zH} {sz : Nat} {p0 : Int32} {p1 : Int32} {p2 : Int32} {o : Int32} (h : fX1_isLetter p0 p1 p2 = some o) : zM l s0 D yX1_isLetter cX1_isLetter 3 (some .boolean) 3 40 0 0 [.int p0, .int p1, .int p2] σ sz σ sz (some (.int o)) := by
  refine zenter (own := RX1) zplX1 rfl (Nat.le_of_ble_eq_true rfl) trivial (fun K hX hnm hret => ?_)
  unfold fX1_isLetter at h
  have hret : ∀ a, o = a → zRet K cX1_isLetter (some .boolean) σ sz 0 0 (some (.int a)) := fun a e => by cases e; exact hret
  show VW K σ sz 0 0 0 [(0, .int p0), (1, .int p1), (2, .int p2)] []
  refine zr_iload_n (pc := 0) hX 2 rfl rfl dX1_isLetter_0 ?_
  refine zr_iload_n (pc := 1) hX 1 rfl rfl dX1_isLetter_1 ?_
  obtain ⟨t1, gt1, h⟩ := bnd h
  refine zr_callS (pc := 2) (rest := [.int p2]) (stk' := [.int t1, .int p2]) (k' := 0) (n' := 0) hX (fun l s0 D => mX1_length l s0 D gt1) zwX1_length q1316 q1317 rfl rfl rfl rfl rfl rfl rfl rfl dX1_isLetter_2 ?_
  refine zr_icmp_ge (pc := 5) hX 31 rfl dX1_isLetter_5 (fun c5_4 => ?_) (fun c5_4 => ?_)
  · rw [if_pos c5_4] at h
    refine zr_iconst (pc := 31) hX zci_0 dX1_isLetter_31 ?_
    exact hret _ (Option.some.inj h).symm _ _ dX1_isLetter_32 (Or.inr ⟨rfl, Or.inl rfl⟩)
  · rw [if_neg c5_4] at h
    refine zr_iload_n (pc := 8) hX 1 rfl rfl dX1_isLetter_8 ?_
    obtain ⟨t2, gt2, h⟩ := bnd h
    refine zr_callS (pc := 9) (rest := []) (stk' := [.int t2]) (k' := 0) (n' := 0) hX (fun l s0 D => mX1_letters l s0 D gt2) zwX1_letters q1337 q1338 rfl rfl rfl rfl rfl rfl rfl rfl dX1_isLetter_9 ?_
    refine zr_iload_n (pc := 12) hX 1 rfl rfl dX1_isLetter_12 ?_
    obtain ⟨t3, gt3, h⟩ := bnd h
    refine zr_callS (pc := 13) (rest := [.int t2]) (stk' := [.int t3, .int t2]) (k' := 0) (n' := 0) hX (fun l s0 D => mX1_length l s0 D gt3) zwX1_length q1316 q1317 rfl rfl rfl rfl rfl rfl rfl rfl dX1_isLetter_13 ?_
    refine zr_iconst (pc := 16) hX zci_1 dX1_isLetter_16 ?_
    refine zr_isub (pc := 17) hX dX1_isLetter_17 ?_
    refine zr_iload_n (pc := 18) hX 2 rfl rfl dX1_isLetter_18 ?_
    refine zr_isub (pc := 19) hX dX1_isLetter_19 ?_
    refine zr_ishr (pc := 20) hX dX1_isLetter_20 ?_
    refine zr_iconst (pc := 21) hX zci_1 dX1_isLetter_21 ?_
    refine zr_iand (pc := 22) hX dX1_isLetter_22 ?_
    refine zr_iload_n (pc := 23) hX 0 rfl rfl dX1_isLetter_23 ?_
    refine zr_icmp_ne (pc := 24) hX 31 rfl dX1_isLetter_24 (fun c24_3 => ?_) (fun c24_3 => ?_)
    · rw [if_neg c24_3] at h
      refine zr_iconst (pc := 31) hX zci_0 dX1_isLetter_31 ?_
      exact hret _ (Option.some.inj h).symm _ _ dX1_isLetter_32 (Or.inr ⟨rfl, Or.inl rfl⟩)
    · rw [if_pos c24_3] at h
      refine zr_iconst (pc := 27) hX zci_1 dX1_isLetter_27 ?_
      refine zr_goto (pc := 28) hX 32 rfl dX1_isLetter_28 ?_
      exact hret _ (Option.some.inj h).symm _ _ dX1_isLetter_32 (Or.inr ⟨rfl, Or.inr rfl⟩)
set_option maxHeartbeats 4000000 in
theorem mX2_init (l : Launch) (s0 : State) (D : zD) {σ : zH} {sz : Nat} {th : Nat} {o : zH × Nat} (h : fX2_init σ sz th = some o) : zM l s0 D yX2_init cX2_init 1 none 2 30 3 1239 [.ref th] σ sz o.1 o.2 none := by
  refine zenter (own := RX2) zplX2 rfl (Nat.le_of_ble_eq_true rfl) rfl (fun K hX hnm hret => ?_)
  unfold fX2_init at h
  have hret : ∀ a, o = a → zRet K cX2_init none a.1 a.2 3 1239 none := fun a e => by cases e; exact hret
  show VW K σ sz 0 0 0 [(0, .ref th)] []
  refine zr_aload_n (pc := 0) hX 0 rfl rfl dX2_init_0 ?_
  refine zr_objInit (pc := 1) hX q189 q156 q157 rfl dX2_init_1 ?_
  refine zr_aload_n (pc := 4) hX 0 rfl rfl dX2_init_4 ?_
  refine zr_sipush (pc := 5) hX zcs_413 dX2_init_5 ?_
  obtain ⟨σ1, gσ1, h⟩ := bnd h
  refine zr_newa (atype := .int) (pc := 8) (k' := 1) (n' := 413) (sz' := sz + 1) hX gσ1 q207 rfl (by decide) rfl rfl rfl rfl rfl dX2_init_8 ?_
  obtain ⟨σ2, gσ2, h⟩ := bnd h
  refine zr_pvF (pc := 10) hX hnm rfl za1_0 gσ2 rfl q190 rfl rfl (tyX2_ok 0 (Nat.le_of_ble_eq_true rfl)) rfl rfl dX2_init_10 ?_
  refine zr_aload_n (pc := 13) hX 0 rfl rfl dX2_init_13 ?_
  refine zr_sipush (pc := 14) hX zcs_413 dX2_init_14 ?_
  obtain ⟨σ3, gσ3, h⟩ := bnd h
  refine zr_newa (atype := .int) (pc := 17) (k' := 2) (n' := 826) (sz' := sz + 2) hX gσ3 q207 rfl (by decide) rfl rfl rfl rfl rfl dX2_init_17 ?_
  obtain ⟨σ4, gσ4, h⟩ := bnd h
  refine zr_pvF (pc := 19) hX hnm rfl za1_1 gσ4 rfl q192 rfl rfl (tyX2_ok 1 (Nat.le_of_ble_eq_true rfl)) rfl rfl dX2_init_19 ?_
  refine zr_aload_n (pc := 22) hX 0 rfl rfl dX2_init_22 ?_
  refine zr_sipush (pc := 23) hX zcs_413 dX2_init_23 ?_
  obtain ⟨σ5, gσ5, h⟩ := bnd h
  refine zr_newa (atype := .boolean) (pc := 26) (k' := 3) (n' := 1239) (sz' := sz + 3) hX gσ5 q208 rfl (by decide) rfl rfl rfl rfl rfl dX2_init_26 ?_
  obtain ⟨σ6, gσ6, h⟩ := bnd h
  refine zr_pvF (pc := 28) hX hnm rfl za1_2 gσ6 rfl q194 rfl rfl (tyX2_ok 2 (Nat.le_of_ble_eq_true rfl)) rfl rfl dX2_init_28 ?_
  exact hret _ (Option.some.inj h).symm _ _ dX2_init_31
set_option maxHeartbeats 4000000 in
theorem mX3_init (l : Launch) (s0 : State) (D : zD) {σ : zH} {sz : Nat} {th : Nat} {o : zH × Nat} (h : fX3_init σ sz th = some o) : zM l s0 D yX3_init cX3_init 1 none 2 30 4 64 [.ref th] σ sz o.1 o.2 none := by
  refine zenter (own := RX3) zplX3 rfl (Nat.le_of_ble_eq_true rfl) rfl (fun K hX hnm hret => ?_)
  unfold fX3_init at h
  have hret : ∀ a, o = a → zRet K cX3_init none a.1 a.2 4 64 none := fun a e => by cases e; exact hret
  show VW K σ sz 0 0 0 [(0, .ref th)] []
  refine zr_aload_n (pc := 0) hX 0 rfl rfl dX3_init_0 ?_
  refine zr_objInit (pc := 1) hX q214 q156 q157 rfl dX3_init_1 ?_
  refine zr_aload_n (pc := 4) hX 0 rfl rfl dX3_init_4 ?_
  refine zr_bipush (pc := 5) hX zcb_16 dX3_init_5 ?_
  obtain ⟨σ1, gσ1, h⟩ := bnd h
  refine zr_newa (atype := .int) (pc := 7) (k' := 1) (n' := 16) (sz' := sz + 1) hX gσ1 q207 rfl (by decide) rfl rfl rfl rfl rfl dX3_init_7 ?_
  obtain ⟨σ2, gσ2, h⟩ := bnd h
  refine zr_pvF (pc := 9) hX hnm rfl za2_0 gσ2 rfl q215 rfl rfl (tyX3_ok 0 (Nat.le_of_ble_eq_true rfl)) rfl rfl dX3_init_9 ?_
  refine zr_aload_n (pc := 12) hX 0 rfl rfl dX3_init_12 ?_
  refine zr_bipush (pc := 13) hX zcb_16 dX3_init_13 ?_
  obtain ⟨σ3, gσ3, h⟩ := bnd h
  refine zr_newa (atype := .int) (pc := 15) (k' := 2) (n' := 32) (sz' := sz + 2) hX gσ3 q207 rfl (by decide) rfl rfl rfl rfl rfl dX3_init_15 ?_
  obtain ⟨σ4, gσ4, h⟩ := bnd h
  refine zr_pvF (pc := 17) hX hnm rfl za2_1 gσ4 rfl q216 rfl rfl (tyX3_ok 1 (Nat.le_of_ble_eq_true rfl)) rfl rfl dX3_init_17 ?_
  refine zr_aload_n (pc := 20) hX 0 rfl rfl dX3_init_20 ?_
  refine zr_bipush (pc := 21) hX zcb_16 dX3_init_21 ?_
  obtain ⟨σ5, gσ5, h⟩ := bnd h
  refine zr_newa (atype := .int) (pc := 23) (k' := 3) (n' := 48) (sz' := sz + 3) hX gσ5 q207 rfl (by decide) rfl rfl rfl rfl rfl dX3_init_23 ?_
  obtain ⟨σ6, gσ6, h⟩ := bnd h
  refine zr_pvF (pc := 25) hX hnm rfl za2_2 gσ6 rfl q217 rfl rfl (tyX3_ok 2 (Nat.le_of_ble_eq_true rfl)) rfl rfl dX3_init_25 ?_
  refine zr_aload_n (pc := 28) hX 0 rfl rfl dX3_init_28 ?_
  refine zr_bipush (pc := 29) hX zcb_16 dX3_init_29 ?_
  obtain ⟨σ7, gσ7, h⟩ := bnd h
  refine zr_newa (atype := .int) (pc := 31) (k' := 4) (n' := 64) (sz' := sz + 4) hX gσ7 q207 rfl (by decide) rfl rfl rfl rfl rfl dX3_init_31 ?_
  obtain ⟨σ8, gσ8, h⟩ := bnd h
  refine zr_pvF (pc := 33) hX hnm rfl za2_3 gσ8 rfl q218 rfl rfl (tyX3_ok 3 (Nat.le_of_ble_eq_true rfl)) rfl rfl dX3_init_33 ?_
  exact hret _ (Option.some.inj h).symm _ _ dX3_init_36
set_option maxHeartbeats 4000000 in
theorem mX4_init (l : Launch) (s0 : State) (D : zD) {σ : zH} {sz : Nat} {th : Nat} {o : zH × Nat} (h : fX4_init σ sz th = some o) : zM l s0 D yX4_init cX4_init 1 none 2 30 3 30 [.ref th] σ sz o.1 o.2 none := by
  refine zenter (own := RX4) zplX4 rfl (Nat.le_of_ble_eq_true rfl) rfl (fun K hX hnm hret => ?_)
  unfold fX4_init at h
  have hret : ∀ a, o = a → zRet K cX4_init none a.1 a.2 3 30 none := fun a e => by cases e; exact hret
  show VW K σ sz 0 0 0 [(0, .ref th)] []
  refine zr_aload_n (pc := 0) hX 0 rfl rfl dX4_init_0 ?_
  refine zr_objInit (pc := 1) hX q237 q156 q157 rfl dX4_init_1 ?_
  refine zr_aload_n (pc := 4) hX 0 rfl rfl dX4_init_4 ?_
  refine zr_bipush (pc := 5) hX zcb_10 dX4_init_5 ?_
  obtain ⟨σ1, gσ1, h⟩ := bnd h
  refine zr_newa (atype := .int) (pc := 7) (k' := 1) (n' := 10) (sz' := sz + 1) hX gσ1 q207 rfl (by decide) rfl rfl rfl rfl rfl dX4_init_7 ?_
  obtain ⟨σ2, gσ2, h⟩ := bnd h
  refine zr_pvF (pc := 9) hX hnm rfl za3_0 gσ2 rfl q238 rfl rfl (tyX4_ok 0 (Nat.le_of_ble_eq_true rfl)) rfl rfl dX4_init_9 ?_
  refine zr_aload_n (pc := 12) hX 0 rfl rfl dX4_init_12 ?_
  refine zr_bipush (pc := 13) hX zcb_10 dX4_init_13 ?_
  obtain ⟨σ3, gσ3, h⟩ := bnd h
  refine zr_newa (atype := .int) (pc := 15) (k' := 2) (n' := 20) (sz' := sz + 2) hX gσ3 q207 rfl (by decide) rfl rfl rfl rfl rfl dX4_init_15 ?_
  obtain ⟨σ4, gσ4, h⟩ := bnd h
  refine zr_pvF (pc := 17) hX hnm rfl za3_1 gσ4 rfl q241 rfl rfl (tyX4_ok 1 (Nat.le_of_ble_eq_true rfl)) rfl rfl dX4_init_17 ?_
  refine zr_aload_n (pc := 20) hX 0 rfl rfl dX4_init_20 ?_
  refine zr_bipush (pc := 21) hX zcb_10 dX4_init_21 ?_
  obtain ⟨σ5, gσ5, h⟩ := bnd h
  refine zr_newa (atype := .int) (pc := 23) (k' := 3) (n' := 30) (sz' := sz + 3) hX gσ5 q207 rfl (by decide) rfl rfl rfl rfl rfl dX4_init_23 ?_
  obtain ⟨σ6, gσ6, h⟩ := bnd h
  refine zr_pvF (pc := 25) hX hnm rfl za3_2 gσ6 rfl q244 rfl rfl (tyX4_ok 2 (Nat.le_of_ble_eq_true rfl)) rfl rfl dX4_init_25 ?_
  exact hret _ (Option.some.inj h).symm _ _ dX4_init_28
set_option maxHeartbeats 4000000 in
theorem mX6_domain (l : Launch) (s0 : State) (D : zD) {σ : zH} {sz : Nat} {th : Nat} {o : Int32} (h : fX6_domain σ th = some o) : zM l s0 D yX6_domain cX6_domain 1 (some .int) 1 0 0 0 [.ref th] σ sz σ sz (some (.int o)) := by
  refine zenter (own := RX6) zplX6 rfl (Nat.le_of_ble_eq_true rfl) trivial (fun K hX hnm hret => ?_)
  unfold fX6_domain at h
  have hret : ∀ a, o = a → zRet K cX6_domain (some .int) σ sz 0 0 (some (.int a)) := fun a e => by cases e; exact hret
  show VW K σ sz 0 0 0 [(0, .ref th)] []
  refine zr_aload_n (pc := 0) hX 0 rfl rfl dX6_domain_0 ?_
  obtain ⟨x1, gx1, h⟩ := bnd h
  refine zr_fv (pc := 1) hX za5_1 (zgI_spec gx1) q774 (Or.inl rfl) dX6_domain_1 ?_
  exact hret _ (Option.some.inj h).symm _ _ dX6_domain_4 (Or.inl rfl)
set_option maxHeartbeats 4000000 in
theorem mX6_low (l : Launch) (s0 : State) (D : zD) {σ : zH} {sz : Nat} {th : Nat} {o : Int32} (h : fX6_low σ th = some o) : zM l s0 D yX6_low cX6_low 1 (some .int) 1 0 0 0 [.ref th] σ sz σ sz (some (.int o)) := by
  refine zenter (own := RX6) zplX6 rfl (Nat.le_of_ble_eq_true rfl) trivial (fun K hX hnm hret => ?_)
  unfold fX6_low at h
  have hret : ∀ a, o = a → zRet K cX6_low (some .int) σ sz 0 0 (some (.int a)) := fun a e => by cases e; exact hret
  show VW K σ sz 0 0 0 [(0, .ref th)] []
  refine zr_aload_n (pc := 0) hX 0 rfl rfl dX6_low_0 ?_
  obtain ⟨x1, gx1, h⟩ := bnd h
  refine zr_fv (pc := 1) hX za5_2 (zgI_spec gx1) q775 (Or.inl rfl) dX6_low_1 ?_
  exact hret _ (Option.some.inj h).symm _ _ dX6_low_4 (Or.inl rfl)
set_option maxHeartbeats 4000000 in
theorem mX6_high (l : Launch) (s0 : State) (D : zD) {σ : zH} {sz : Nat} {th : Nat} {o : Int32} (h : fX6_high σ th = some o) : zM l s0 D yX6_high cX6_high 1 (some .int) 1 0 0 0 [.ref th] σ sz σ sz (some (.int o)) := by
  refine zenter (own := RX6) zplX6 rfl (Nat.le_of_ble_eq_true rfl) trivial (fun K hX hnm hret => ?_)
  unfold fX6_high at h
  have hret : ∀ a, o = a → zRet K cX6_high (some .int) σ sz 0 0 (some (.int a)) := fun a e => by cases e; exact hret
  show VW K σ sz 0 0 0 [(0, .ref th)] []
  refine zr_aload_n (pc := 0) hX 0 rfl rfl dX6_high_0 ?_
  obtain ⟨x1, gx1, h⟩ := bnd h
  refine zr_fv (pc := 1) hX za5_3 (zgI_spec gx1) q776 (Or.inl rfl) dX6_high_1 ?_
  exact hret _ (Option.some.inj h).symm _ _ dX6_high_4 (Or.inl rfl)
set_option maxHeartbeats 4000000 in
theorem mX2_left (l : Launch) (s0 : State) (D : zD) {σ : zH} {sz : Nat} {th : Nat} {p0 : Int32} {p1 : Int32} {o : Int32} (h : fX2_left σ th p0 p1 = some o) : zM l s0 D yX2_left cX2_left 4 (some .int) 1 0 0 0 [.ref th, .int p0, .int p1] σ sz σ sz (some (.int o)) := by
  refine zenter (own := RX2) zplX2 rfl (Nat.le_of_ble_eq_true rfl) trivial (fun K hX hnm hret => ?_)
  unfold fX2_left at h
  have hret : ∀ a, o = a → zRet K cX2_left (some .int) σ sz 0 0 (some (.int a)) := fun a e => by cases e; exact hret
  show VW K σ sz 0 0 0 [(0, .ref th), (1, .int p0), (2, .int p1)] []
  refine zr_iconst (pc := 0) hX zci_1 dX2_left_0 ?_
  refine zr_aload_n (pc := 1) hX 0 rfl rfl dX2_left_1 ?_
  obtain ⟨r1, gr1, h⟩ := bnd h
  refine zr_fv (pc := 2) hX za1_1 (zgR_spec gr1) q192 (Or.inl rfl) dX2_left_2 ?_
  refine zr_iload_n (pc := 5) hX 1 rfl rfl dX2_left_5 ?_
  obtain ⟨x2, gx2, h⟩ := bnd h
  refine zr_aI (pc := 6) hX gx2 dX2_left_6 ?_
  refine zr_ishl (pc := 7) hX dX2_left_7 ?_
  obtain ⟨x3, gx3, h⟩ := bnd h
  refine zr_istore_n (pc := 8) hX (Option.some.inj gx3) rfl (Nat.le_of_ble_eq_true rfl) rfl dX2_left_8 ?_
  refine zr_aload_n (pc := 9) hX 1 rfl rfl dX2_left_9 ?_
  obtain ⟨r4, gr4, h⟩ := bnd h
  refine zr_fv (pc := 10) hX za1_2 (zgR_spec gr4) q194 (Or.inl rfl) dX2_left_10 ?_
  refine zr_iload_n (pc := 13) hX 2 rfl rfl dX2_left_13 ?_
  obtain ⟨x5, gx5, h⟩ := bnd h
  refine zr_aZ (pc := 14) hX gx5 dX2_left_14 ?_
  refine zr_if_eq (pc := 15) hX 24 rfl dX2_left_15 (fun c15_5 => ?_) (fun c15_5 => ?_)
  · rw [if_pos c15_5] at h
    refine zr_iload_n (pc := 24) hX 3 rfl rfl dX2_left_24 ?_
    refine zr_iload_n (pc := 25) hX 0 rfl rfl dX2_left_25 ?_
    refine zr_iconst (pc := 26) hX zci_m1 dX2_left_26 ?_
    refine zr_ixor (pc := 27) hX dX2_left_27 ?_
    refine zr_iand (pc := 28) hX dX2_left_28 ?_
    exact hret _ (Option.some.inj h).symm _ _ dX2_left_29 (Or.inl rfl)
  · rw [if_neg c15_5] at h
    refine zr_iload_n (pc := 18) hX 3 rfl rfl dX2_left_18 ?_
    refine zr_iload_n (pc := 19) hX 0 rfl rfl dX2_left_19 ?_
    refine zr_iand (pc := 20) hX dX2_left_20 ?_
    refine zr_goto (pc := 21) hX 29 rfl dX2_left_21 ?_
    exact hret _ (Option.some.inj h).symm _ _ dX2_left_29 (Or.inl rfl)
set_option maxHeartbeats 4000000 in
theorem mX6_kind (l : Launch) (s0 : State) (D : zD) {σ : zH} {sz : Nat} {th : Nat} {o : Int32} (h : fX6_kind σ th = some o) : zM l s0 D yX6_kind cX6_kind 1 (some .int) 1 0 0 0 [.ref th] σ sz σ sz (some (.int o)) := by
  refine zenter (own := RX6) zplX6 rfl (Nat.le_of_ble_eq_true rfl) trivial (fun K hX hnm hret => ?_)
  unfold fX6_kind at h
  have hret : ∀ a, o = a → zRet K cX6_kind (some .int) σ sz 0 0 (some (.int a)) := fun a e => by cases e; exact hret
  show VW K σ sz 0 0 0 [(0, .ref th)] []
  refine zr_aload_n (pc := 0) hX 0 rfl rfl dX6_kind_0 ?_
  obtain ⟨x1, gx1, h⟩ := bnd h
  refine zr_fv (pc := 1) hX za5_0 (zgI_spec gx1) q773 (Or.inl rfl) dX6_kind_1 ?_
  exact hret _ (Option.some.inj h).symm _ _ dX6_kind_4 (Or.inl rfl)
set_option maxHeartbeats 4000000 in
theorem mX9_size (l : Launch) (s0 : State) (D : zD) {σ : zH} {sz : Nat} {th : Nat} {o : Int32} (h : fX9_size σ th = some o) : zM l s0 D yX9_size cX9_size 1 (some .int) 1 0 0 0 [.ref th] σ sz σ sz (some (.int o)) := by
  refine zenter (own := RX9) zplX9 rfl (Nat.le_of_ble_eq_true rfl) trivial (fun K hX hnm hret => ?_)
  unfold fX9_size at h
  have hret : ∀ a, o = a → zRet K cX9_size (some .int) σ sz 0 0 (some (.int a)) := fun a e => by cases e; exact hret
  show VW K σ sz 0 0 0 [(0, .ref th)] []
  refine zr_aload_n (pc := 0) hX 0 rfl rfl dX9_size_0 ?_
  obtain ⟨r1, gr1, h⟩ := bnd h
  refine zr_fv (pc := 1) hX zaC_0 (zgR_spec gr1) q1082 (Or.inl rfl) dX9_size_1 ?_
  obtain ⟨x2, gx2, h⟩ := bnd h
  refine zr_len (pc := 4) hX gx2 dX9_size_4 ?_
  exact hret _ (Option.some.inj h).symm _ _ dX9_size_5 (Or.inl rfl)
set_option maxHeartbeats 4000000 in
theorem mX9_domain (l : Launch) (s0 : State) (D : zD) {σ : zH} {sz : Nat} {th : Nat} {p0 : Nat} {p1 : Int32} {o : Int32} (h : fX9_domain σ th p0 p1 = some o) : zM l s0 D yX9_domain cX9_domain 3 (some .int) 1 0 0 0 [.ref th, .ref p0, .int p1] σ sz σ sz (some (.int o)) := by
  refine zenter (own := RX9) zplX9 rfl (Nat.le_of_ble_eq_true rfl) trivial (fun K hX hnm hret => ?_)
  unfold fX9_domain at h
  have hret : ∀ a, o = a → zRet K cX9_domain (some .int) σ sz 0 0 (some (.int a)) := fun a e => by cases e; exact hret
  show VW K σ sz 0 0 0 [(0, .ref th), (1, .ref p0), (2, .int p1)] []
  refine zr_aload_n (pc := 0) hX 1 rfl rfl dX9_domain_0 ?_
  obtain ⟨r1, gr1, h⟩ := bnd h
  refine zr_fvN (pc := 1) hX za3_0 (zgR_spec gr1) q239 (Or.inl rfl) dX9_domain_1 ?_
  refine zr_aload_n (pc := 4) hX 0 rfl rfl dX9_domain_4 ?_
  obtain ⟨r2, gr2, h⟩ := bnd h
  refine zr_fv (pc := 5) hX zaC_0 (zgR_spec gr2) q1082 (Or.inl rfl) dX9_domain_5 ?_
  refine zr_iload_n (pc := 8) hX 2 rfl rfl dX9_domain_8 ?_
  obtain ⟨x3, gx3, h⟩ := bnd h
  refine zr_aI (pc := 9) hX gx3 dX9_domain_9 ?_
  obtain ⟨x4, gx4, h⟩ := bnd h
  refine zr_aI (pc := 10) hX gx4 dX9_domain_10 ?_
  exact hret _ (Option.some.inj h).symm _ _ dX9_domain_11 (Or.inl rfl)
set_option maxHeartbeats 4000000 in
theorem mX1_least (l : Launch) (s0 : State) (D : zD) {σ : zH} {sz : Nat} {p0 : Int32} {o : Int32} (h : fX1_least p0 = some o) : zM l s0 D yX1_least cX1_least 1 (some .int) 2 21 0 0 [.int p0] σ sz σ sz (some (.int o)) := by
  refine zenter (own := RX1) zplX1 rfl (Nat.le_of_ble_eq_true rfl) trivial (fun K hX hnm hret => ?_)
  unfold fX1_least at h
  have hret : ∀ a, o = a → zRet K cX1_least (some .int) σ sz 0 0 (some (.int a)) := fun a e => by cases e; exact hret
  show VW K σ sz 0 0 0 [(0, .int p0)] []
  refine zr_iload_n (pc := 0) hX 0 rfl rfl dX1_least_0 ?_
  obtain ⟨t1, gt1, h⟩ := bnd h
  refine zr_callS (pc := 1) (rest := []) (stk' := [.int t1]) (k' := 0) (n' := 0) hX (fun l s0 D => mJ18_numberOfTrailingZeros l s0 D gt1) zwJ18_numberOfTrailingZeros q554 q555 rfl rfl rfl rfl rfl rfl rfl rfl dX1_least_1 ?_
  exact hret _ (Option.some.inj h).symm _ _ dX1_least_4 (Or.inl rfl)
set_option maxHeartbeats 4000000 in
theorem mX10_low (l : Launch) (s0 : State) (D : zD) {σ : zH} {sz : Nat} {th : Nat} {p0 : Nat} {p1 : Int32} {o : Int32} (h : fX10_low σ th p0 p1 = some o) : zM l s0 D yX10_low cX10_low 3 (some .int) 3 41 0 0 [.ref th, .ref p0, .int p1] σ sz σ sz (some (.int o)) := by
  refine zenter (own := RX10) zplX10 rfl (Nat.le_of_ble_eq_true rfl) trivial (fun K hX hnm hret => ?_)
  unfold fX10_low at h
  have hret : ∀ a, o = a → zRet K cX10_low (some .int) σ sz 0 0 (some (.int a)) := fun a e => by cases e; exact hret
  show VW K σ sz 0 0 0 [(0, .ref th), (1, .ref p0), (2, .int p1)] []
  refine zr_aload_n (pc := 0) hX 0 rfl rfl dX10_low_0 ?_
  obtain ⟨r1, gr1, h⟩ := bnd h
  refine zr_fv (pc := 1) hX za8_5 (zgR_spec gr1) q1079 (Or.inl rfl) dX10_low_1 ?_
  refine zr_iload_n (pc := 4) hX 2 rfl rfl dX10_low_4 ?_
  obtain ⟨x2, gx2, h⟩ := bnd h
  refine zr_aZ (pc := 5) hX gx2 dX10_low_5 ?_
  refine zr_if_eq (pc := 6) hX 23 rfl dX10_low_6 (fun c6_9 => ?_) (fun c6_9 => ?_)
  · rw [if_pos c6_9] at h
    refine zr_bipush (pc := 23) hX zcb_12 dX10_low_23 ?_
    refine zr_aload_n (pc := 25) hX 0 rfl rfl dX10_low_25 ?_
    refine zr_aload_n (pc := 26) hX 1 rfl rfl dX10_low_26 ?_
    refine zr_iload_n (pc := 27) hX 2 rfl rfl dX10_low_27 ?_
    obtain ⟨u3, gu3, h⟩ := bnd h
    obtain ⟨t4, gt4, h⟩ := bnd h
    refine zr_callU (pc := 28) (rest := [.int (12 : Int32)]) (stk' := [.int t4, .int (12 : Int32)]) (k' := 0) (n' := 0) hX (fun l s0 D => mX9_domain l s0 D gt4) gu3 zc8 zwX9_domain q548 q549 q479 q550 (Or.inl ⟨q479, _, _, _, q480⟩) (by decide) rfl rfl rfl rfl rfl rfl rfl rfl rfl dX10_low_28 ?_
    obtain ⟨t5, gt5, h⟩ := bnd h
    refine zr_callSN (pc := 31) (rest := [.int (12 : Int32)]) (stk' := [.int t5, .int (12 : Int32)]) (k' := 0) (n' := 0) hX (fun l s0 D => mX1_least l s0 D gt5) zwX1_least q551 q552 rfl rfl rfl rfl rfl rfl rfl rfl dX10_low_31 ?_
    refine zr_imul (pc := 34) hX dX10_low_34 ?_
    exact hret _ (Option.some.inj h).symm _ _ dX10_low_35 (Or.inl rfl)
  · rw [if_neg c6_9] at h
    refine zr_aload_n (pc := 9) hX 1 rfl rfl dX10_low_9 ?_
    obtain ⟨r6, gr6, h⟩ := bnd h
    refine zr_fvN (pc := 10) hX za3_1 (zgR_spec gr6) q242 (Or.inl rfl) dX10_low_10 ?_
    refine zr_aload_n (pc := 13) hX 0 rfl rfl dX10_low_13 ?_
    obtain ⟨r7, gr7, h⟩ := bnd h
    refine zr_fv (pc := 14) hX za8_0 (zgR_spec gr7) q1083 (Or.inr q1084) dX10_low_14 ?_
    refine zr_iload_n (pc := 17) hX 2 rfl rfl dX10_low_17 ?_
    obtain ⟨x8, gx8, h⟩ := bnd h
    refine zr_aI (pc := 18) hX gx8 dX10_low_18 ?_
    obtain ⟨x9, gx9, h⟩ := bnd h
    refine zr_aI (pc := 19) hX gx9 dX10_low_19 ?_
    refine zr_goto (pc := 20) hX 35 rfl dX10_low_20 ?_
    exact hret _ (Option.some.inj h).symm _ _ dX10_low_35 (Or.inl rfl)
set_option maxHeartbeats 4000000 in
theorem mX1_greatest (l : Launch) (s0 : State) (D : zD) {σ : zH} {sz : Nat} {p0 : Int32} {o : Int32} (h : fX1_greatest p0 = some o) : zM l s0 D yX1_greatest cX1_greatest 1 (some .int) 2 21 0 0 [.int p0] σ sz σ sz (some (.int o)) := by
  refine zenter (own := RX1) zplX1 rfl (Nat.le_of_ble_eq_true rfl) trivial (fun K hX hnm hret => ?_)
  unfold fX1_greatest at h
  have hret : ∀ a, o = a → zRet K cX1_greatest (some .int) σ sz 0 0 (some (.int a)) := fun a e => by cases e; exact hret
  show VW K σ sz 0 0 0 [(0, .int p0)] []
  refine zr_bipush (pc := 0) hX zcb_31 dX1_greatest_0 ?_
  refine zr_iload_n (pc := 2) hX 0 rfl rfl dX1_greatest_2 ?_
  obtain ⟨t1, gt1, h⟩ := bnd h
  refine zr_callS (pc := 3) (rest := [.int (31 : Int32)]) (stk' := [.int t1, .int (31 : Int32)]) (k' := 0) (n' := 0) hX (fun l s0 D => mJ18_numberOfLeadingZeros l s0 D gt1) zwJ18_numberOfLeadingZeros q565 q566 rfl rfl rfl rfl rfl rfl rfl rfl dX1_greatest_3 ?_
  refine zr_isub (pc := 6) hX dX1_greatest_6 ?_
  exact hret _ (Option.some.inj h).symm _ _ dX1_greatest_7 (Or.inl rfl)
set_option maxHeartbeats 4000000 in
theorem mX10_high (l : Launch) (s0 : State) (D : zD) {σ : zH} {sz : Nat} {th : Nat} {p0 : Nat} {p1 : Int32} {o : Int32} (h : fX10_high σ th p0 p1 = some o) : zM l s0 D yX10_high cX10_high 3 (some .int) 3 41 0 0 [.ref th, .ref p0, .int p1] σ sz σ sz (some (.int o)) := by
  refine zenter (own := RX10) zplX10 rfl (Nat.le_of_ble_eq_true rfl) trivial (fun K hX hnm hret => ?_)
  unfold fX10_high at h
  have hret : ∀ a, o = a → zRet K cX10_high (some .int) σ sz 0 0 (some (.int a)) := fun a e => by cases e; exact hret
  show VW K σ sz 0 0 0 [(0, .ref th), (1, .ref p0), (2, .int p1)] []
  refine zr_aload_n (pc := 0) hX 0 rfl rfl dX10_high_0 ?_
  obtain ⟨r1, gr1, h⟩ := bnd h
  refine zr_fv (pc := 1) hX za8_5 (zgR_spec gr1) q1079 (Or.inl rfl) dX10_high_1 ?_
  refine zr_iload_n (pc := 4) hX 2 rfl rfl dX10_high_4 ?_
  obtain ⟨x2, gx2, h⟩ := bnd h
  refine zr_aZ (pc := 5) hX gx2 dX10_high_5 ?_
  refine zr_if_eq (pc := 6) hX 23 rfl dX10_high_6 (fun c6_9 => ?_) (fun c6_9 => ?_)
  · rw [if_pos c6_9] at h
    refine zr_bipush (pc := 23) hX zcb_12 dX10_high_23 ?_
    refine zr_aload_n (pc := 25) hX 0 rfl rfl dX10_high_25 ?_
    refine zr_aload_n (pc := 26) hX 1 rfl rfl dX10_high_26 ?_
    refine zr_iload_n (pc := 27) hX 2 rfl rfl dX10_high_27 ?_
    obtain ⟨u3, gu3, h⟩ := bnd h
    obtain ⟨t4, gt4, h⟩ := bnd h
    refine zr_callU (pc := 28) (rest := [.int (12 : Int32)]) (stk' := [.int t4, .int (12 : Int32)]) (k' := 0) (n' := 0) hX (fun l s0 D => mX9_domain l s0 D gt4) gu3 zc8 zwX9_domain q548 q549 q479 q550 (Or.inl ⟨q479, _, _, _, q480⟩) (by decide) rfl rfl rfl rfl rfl rfl rfl rfl rfl dX10_high_28 ?_
    obtain ⟨t5, gt5, h⟩ := bnd h
    refine zr_callSN (pc := 31) (rest := [.int (12 : Int32)]) (stk' := [.int t5, .int (12 : Int32)]) (k' := 0) (n' := 0) hX (fun l s0 D => mX1_greatest l s0 D gt5) zwX1_greatest q562 q563 rfl rfl rfl rfl rfl rfl rfl rfl dX10_high_31 ?_
    refine zr_imul (pc := 34) hX dX10_high_34 ?_
    exact hret _ (Option.some.inj h).symm _ _ dX10_high_35 (Or.inl rfl)
  · rw [if_neg c6_9] at h
    refine zr_aload_n (pc := 9) hX 1 rfl rfl dX10_high_9 ?_
    obtain ⟨r6, gr6, h⟩ := bnd h
    refine zr_fvN (pc := 10) hX za3_2 (zgR_spec gr6) q245 (Or.inl rfl) dX10_high_10 ?_
    refine zr_aload_n (pc := 13) hX 0 rfl rfl dX10_high_13 ?_
    obtain ⟨r7, gr7, h⟩ := bnd h
    refine zr_fv (pc := 14) hX za8_0 (zgR_spec gr7) q1083 (Or.inr q1084) dX10_high_14 ?_
    refine zr_iload_n (pc := 17) hX 2 rfl rfl dX10_high_17 ?_
    obtain ⟨x8, gx8, h⟩ := bnd h
    refine zr_aI (pc := 18) hX gx8 dX10_high_18 ?_
    obtain ⟨x9, gx9, h⟩ := bnd h
    refine zr_aI (pc := 19) hX gx9 dX10_high_19 ?_
    refine zr_goto (pc := 20) hX 35 rfl dX10_high_20 ?_
    exact hret _ (Option.some.inj h).symm _ _ dX10_high_35 (Or.inl rfl)
set_option maxHeartbeats 4000000 in
theorem mX10_least (l : Launch) (s0 : State) (D : zD) {σ : zH} {sz : Nat} {th : Nat} {p0 : Nat} {p1 : Int32} {o : Int32} (h : fX10_least σ th p0 p1 = some o) : zM l s0 D yX10_least cX10_least 3 (some .int) 4 63 0 0 [.ref th, .ref p0, .int p1] σ sz σ sz (some (.int o)) := by
  refine zenter (own := RX10) zplX10 rfl (Nat.le_of_ble_eq_true rfl) trivial (fun K hX hnm hret => ?_)
  unfold fX10_least at h
  have hret : ∀ a, o = a → zRet K cX10_least (some .int) σ sz 0 0 (some (.int a)) := fun a e => by cases e; exact hret
  show VW K σ sz 0 0 0 [(0, .ref th), (1, .ref p0), (2, .int p1)] []
  refine zr_aload_n (pc := 0) hX 0 rfl rfl dX10_least_0 ?_
  obtain ⟨r1, gr1, h⟩ := bnd h
  refine zr_fv (pc := 1) hX za8_4 (zgR_spec gr1) q1078 (Or.inl rfl) dX10_least_1 ?_
  refine zr_iload_n (pc := 4) hX 2 rfl rfl dX10_least_4 ?_
  obtain ⟨x2, gx2, h⟩ := bnd h
  refine zr_aI (pc := 5) hX gx2 dX10_least_5 ?_
  refine zr_aload_n (pc := 6) hX 0 rfl rfl dX10_least_6 ?_
  obtain ⟨r3, gr3, h⟩ := bnd h
  refine zr_fv (pc := 7) hX za8_4 (zgR_spec gr3) q1078 (Or.inl rfl) dX10_least_7 ?_
  refine zr_iload_n (pc := 10) hX 2 rfl rfl dX10_least_10 ?_
  obtain ⟨x4, gx4, h⟩ := bnd h
  refine zr_aI (pc := 11) hX gx4 dX10_least_11 ?_
  obtain ⟨t5, gt5, h⟩ := bnd h
  have hJt5 : ∀ a, t5 = a → VW K σ sz 0 0 30 [] [.int a, .int x2] := by
    intro a ea
    subst ea
    refine zr_imul (pc := 30) hX dX10_least_30 ?_
    exact hret _ (Option.some.inj h).symm _ _ dX10_least_31 (Or.inl rfl)
  replace h := gt5
  refine zr_if_lt (pc := 12) hX 24 rfl dX10_least_12 (fun c12_9 => ?_) (fun c12_9 => ?_)
  · rw [if_pos c12_9] at h
    refine zr_aload_n (pc := 24) hX 0 rfl rfl dX10_least_24 ?_
    refine zr_aload_n (pc := 25) hX 1 rfl rfl dX10_least_25 ?_
    refine zr_iload_n (pc := 26) hX 2 rfl rfl dX10_least_26 ?_
    obtain ⟨u6, gu6, h⟩ := bnd h
    obtain ⟨t7, gt7, h⟩ := bnd h
    refine zr_callVs (pc := 27) (rest := [.int x2]) (stk' := [.int t7, .int x2]) (k' := 0) (n' := 0) hX (fun l s0 D => mX10_high l s0 D gt7) gu6 zc8 zwX10_high q558 q560 qs13 rfl rfl rfl rfl rfl rfl rfl rfl rfl dX10_least_27 ?_
    exact VW.sub (hJt5 t7 (Option.some.inj h).symm) [] rfl
  · rw [if_neg c12_9] at h
    refine zr_aload_n (pc := 15) hX 0 rfl rfl dX10_least_15 ?_
    refine zr_aload_n (pc := 16) hX 1 rfl rfl dX10_least_16 ?_
    refine zr_iload_n (pc := 17) hX 2 rfl rfl dX10_least_17 ?_
    obtain ⟨u8, gu8, h⟩ := bnd h
    obtain ⟨t9, gt9, h⟩ := bnd h
    refine zr_callVs (pc := 18) (rest := [.int x2]) (stk' := [.int t9, .int x2]) (k' := 0) (n' := 0) hX (fun l s0 D => mX10_low l s0 D gt9) gu8 zc8 zwX10_low q544 q546 qs12 rfl rfl rfl rfl rfl rfl rfl rfl rfl dX10_least_18 ?_
    refine zr_goto (pc := 21) hX 30 rfl dX10_least_21 ?_
    exact VW.sub (hJt5 t9 (Option.some.inj h).symm) [] rfl
set_option maxHeartbeats 4000000 in
theorem mX10_greatest (l : Launch) (s0 : State) (D : zD) {σ : zH} {sz : Nat} {th : Nat} {p0 : Nat} {p1 : Int32} {o : Int32} (h : fX10_greatest σ th p0 p1 = some o) : zM l s0 D yX10_greatest cX10_greatest 3 (some .int) 4 63 0 0 [.ref th, .ref p0, .int p1] σ sz σ sz (some (.int o)) := by
  refine zenter (own := RX10) zplX10 rfl (Nat.le_of_ble_eq_true rfl) trivial (fun K hX hnm hret => ?_)
  unfold fX10_greatest at h
  have hret : ∀ a, o = a → zRet K cX10_greatest (some .int) σ sz 0 0 (some (.int a)) := fun a e => by cases e; exact hret
  show VW K σ sz 0 0 0 [(0, .ref th), (1, .ref p0), (2, .int p1)] []
  refine zr_aload_n (pc := 0) hX 0 rfl rfl dX10_greatest_0 ?_
  obtain ⟨r1, gr1, h⟩ := bnd h
  refine zr_fv (pc := 1) hX za8_4 (zgR_spec gr1) q1078 (Or.inl rfl) dX10_greatest_1 ?_
  refine zr_iload_n (pc := 4) hX 2 rfl rfl dX10_greatest_4 ?_
  obtain ⟨x2, gx2, h⟩ := bnd h
  refine zr_aI (pc := 5) hX gx2 dX10_greatest_5 ?_
  refine zr_aload_n (pc := 6) hX 0 rfl rfl dX10_greatest_6 ?_
  obtain ⟨r3, gr3, h⟩ := bnd h
  refine zr_fv (pc := 7) hX za8_4 (zgR_spec gr3) q1078 (Or.inl rfl) dX10_greatest_7 ?_
  refine zr_iload_n (pc := 10) hX 2 rfl rfl dX10_greatest_10 ?_
  obtain ⟨x4, gx4, h⟩ := bnd h
  refine zr_aI (pc := 11) hX gx4 dX10_greatest_11 ?_
  obtain ⟨t5, gt5, h⟩ := bnd h
  have hJt5 : ∀ a, t5 = a → VW K σ sz 0 0 30 [] [.int a, .int x2] := by
    intro a ea
    subst ea
    refine zr_imul (pc := 30) hX dX10_greatest_30 ?_
    exact hret _ (Option.some.inj h).symm _ _ dX10_greatest_31 (Or.inl rfl)
  replace h := gt5
  refine zr_if_lt (pc := 12) hX 24 rfl dX10_greatest_12 (fun c12_9 => ?_) (fun c12_9 => ?_)
  · rw [if_pos c12_9] at h
    refine zr_aload_n (pc := 24) hX 0 rfl rfl dX10_greatest_24 ?_
    refine zr_aload_n (pc := 25) hX 1 rfl rfl dX10_greatest_25 ?_
    refine zr_iload_n (pc := 26) hX 2 rfl rfl dX10_greatest_26 ?_
    obtain ⟨u6, gu6, h⟩ := bnd h
    obtain ⟨t7, gt7, h⟩ := bnd h
    refine zr_callVs (pc := 27) (rest := [.int x2]) (stk' := [.int t7, .int x2]) (k' := 0) (n' := 0) hX (fun l s0 D => mX10_low l s0 D gt7) gu6 zc8 zwX10_low q544 q546 qs12 rfl rfl rfl rfl rfl rfl rfl rfl rfl dX10_greatest_27 ?_
    exact VW.sub (hJt5 t7 (Option.some.inj h).symm) [] rfl
  · rw [if_neg c12_9] at h
    refine zr_aload_n (pc := 15) hX 0 rfl rfl dX10_greatest_15 ?_
    refine zr_aload_n (pc := 16) hX 1 rfl rfl dX10_greatest_16 ?_
    refine zr_iload_n (pc := 17) hX 2 rfl rfl dX10_greatest_17 ?_
    obtain ⟨u8, gu8, h⟩ := bnd h
    obtain ⟨t9, gt9, h⟩ := bnd h
    refine zr_callVs (pc := 18) (rest := [.int x2]) (stk' := [.int t9, .int x2]) (k' := 0) (n' := 0) hX (fun l s0 D => mX10_high l s0 D gt9) gu8 zc8 zwX10_high q558 q560 qs13 rfl rfl rfl rfl rfl rfl rfl rfl rfl dX10_greatest_18 ?_
    refine zr_goto (pc := 21) hX 30 rfl dX10_greatest_21 ?_
    exact VW.sub (hJt5 t9 (Option.some.inj h).symm) [] rfl
set_option maxHeartbeats 4000000 in
theorem mX10_agrees (l : Launch) (s0 : State) (D : zD) {σ : zH} {sz : Nat} {th : Nat} {p0 : Int32} {p1 : Int32} {p2 : Int32} {o : Int32} (h : fX10_agrees σ th p0 p1 p2 = some o) : zM l s0 D yX10_agrees cX10_agrees 4 (some .boolean) 1 0 0 0 [.ref th, .int p0, .int p1, .int p2] σ sz σ sz (some (.int o)) := by
  refine zenter (own := RX10) zplX10 rfl (Nat.le_of_ble_eq_true rfl) trivial (fun K hX hnm hret => ?_)
  unfold fX10_agrees at h
  have hret : ∀ a, o = a → zRet K cX10_agrees (some .boolean) σ sz 0 0 (some (.int a)) := fun a e => by cases e; exact hret
  show VW K σ sz 0 0 0 [(0, .ref th), (1, .int p0), (2, .int p1), (3, .int p2)] []
  refine zr_iload_n (pc := 0) hX 1 rfl rfl dX10_agrees_0 ?_
  refine zr_iload_n (pc := 1) hX 2 rfl rfl dX10_agrees_1 ?_
  refine zr_iadd (pc := 2) hX dX10_agrees_2 ?_
  refine zr_aload_n (pc := 3) hX 0 rfl rfl dX10_agrees_3 ?_
  obtain ⟨x1, gx1, h⟩ := bnd h
  refine zr_fv (pc := 4) hX za8_7 (zgI_spec gx1) q1081 (Or.inl rfl) dX10_agrees_4 ?_
  refine zr_icmp_gt (pc := 7) hX 31 rfl dX10_agrees_7 (fun c7_7 => ?_) (fun c7_7 => ?_)
  · rw [if_pos c7_7] at h
    refine zr_iconst (pc := 31) hX zci_0 dX10_agrees_31 ?_
    exact hret _ (Option.some.inj h).symm _ _ dX10_agrees_32 (Or.inr ⟨rfl, Or.inl rfl⟩)
  · rw [if_neg c7_7] at h
    refine zr_aload_n (pc := 10) hX 0 rfl rfl dX10_agrees_10 ?_
    obtain ⟨x2, gx2, h⟩ := bnd h
    refine zr_fv (pc := 11) hX za8_6 (zgI_spec gx2) q1080 (Or.inl rfl) dX10_agrees_11 ?_
    obtain ⟨u4, gu4, hAu4, hBu4⟩ := zesc_bnd h
    have hJt3 : ∀ a, u4 = .inl a → VW K σ sz 0 0 27 [] [] := by
      intro t3 ea
      have h := hAu4 _ ea
      refine zr_iconst (pc := 27) hX zci_1 dX10_agrees_27 ?_
      refine zr_goto (pc := 28) hX 32 rfl dX10_agrees_28 ?_
      exact hret _ (Option.some.inj h).symm _ _ dX10_agrees_32 (Or.inr ⟨rfl, Or.inr rfl⟩)
    replace h := gu4
    refine zr_if_eq (pc := 14) hX 27 rfl dX10_agrees_14 (fun c14_6 => ?_) (fun c14_6 => ?_)
    · rw [if_pos c14_6] at h
      exact VW.sub (hJt3 () (Option.some.inj h).symm) [] rfl
    · rw [if_neg c14_6] at h
      refine zr_iload_n (pc := 17) hX 1 rfl rfl dX10_agrees_17 ?_
      refine zr_iload_n (pc := 18) hX 3 rfl rfl dX10_agrees_18 ?_
      refine zr_iadd (pc := 19) hX dX10_agrees_19 ?_
      refine zr_aload_n (pc := 20) hX 0 rfl rfl dX10_agrees_20 ?_
      obtain ⟨x5, gx5, h⟩ := bnd h
      refine zr_fv (pc := 21) hX za8_7 (zgI_spec gx5) q1081 (Or.inl rfl) dX10_agrees_21 ?_
      refine zr_icmp_lt (pc := 24) hX 31 rfl dX10_agrees_24 (fun c24_5 => ?_) (fun c24_5 => ?_)
      · rw [if_pos c24_5] at h
        refine zr_iconst (pc := 31) hX zci_0 dX10_agrees_31 ?_
        replace h := congrArg some (hBu4 _ (Option.some.inj h).symm)
        exact hret _ (Option.some.inj h).symm _ _ dX10_agrees_32 (Or.inr ⟨rfl, Or.inl rfl⟩)
      · rw [if_neg c24_5] at h
        exact VW.sub (hJt3 () (Option.some.inj h).symm) [] rfl
set_option maxHeartbeats 4000000 in
theorem mX10_keepAt (l : Launch) (s0 : State) (D : zD) {n : Nat} {σ : zH} {sz : Nat} {th : Nat} {p0 : Nat} {p1 : Int32} {p2 : Int32} {p3 : Int32} {o : zH} (h : fX10_keepAt n σ th p0 p1 p2 p3 = some o) : zM l s0 D yX10_keepAt cX10_keepAt 6 none 4 63 0 0 [.ref th, .ref p0, .int p1, .int p2, .int p3] σ sz o sz none := by
  refine zenter (own := RX10) zplX10 rfl (Nat.le_of_ble_eq_true rfl) rfl (fun K hX hnm hret => ?_)
  unfold fX10_keepAt at h
  have hret : ∀ a, o = a → zRet K cX10_keepAt none a sz 0 0 none := fun a e => by cases e; exact hret
  show VW K σ sz 0 0 0 [(0, .ref th), (1, .ref p0), (2, .int p1), (3, .int p2), (4, .int p3)] []
  refine zr_aload_n (pc := 0) hX 0 rfl rfl dX10_keepAt_0 ?_
  obtain ⟨r1, gr1, h⟩ := bnd h
  refine zr_fv (pc := 1) hX za8_5 (zgR_spec gr1) q1079 (Or.inl rfl) dX10_keepAt_1 ?_
  refine zr_iload_n (pc := 4) hX 2 rfl rfl dX10_keepAt_4 ?_
  obtain ⟨x2, gx2, h⟩ := bnd h
  refine zr_aZ (pc := 5) hX gx2 dX10_keepAt_5 ?_
  refine zr_if_eq (pc := 6) hX 135 rfl dX10_keepAt_6 (fun c6_61 => ?_) (fun c6_61 => ?_)
  · rw [if_pos c6_61] at h
    refine zr_aload_n (pc := 135) hX 0 rfl rfl dX10_keepAt_135 ?_
    obtain ⟨r3, gr3, h⟩ := bnd h
    refine zr_fv (pc := 136) hX za8_1 (zgR_spec gr3) q1101 (Or.inr q1102) dX10_keepAt_136 ?_
    refine zr_iload_n (pc := 139) hX 2 rfl rfl dX10_keepAt_139 ?_
    refine zr_iconst (pc := 140) hX zci_0 dX10_keepAt_140 ?_
    obtain ⟨σ4, gσ4, h⟩ := bnd h
    refine zr_sI (pc := 141) hX gσ4 dX10_keepAt_141 ?_
    refine zr_iconst (pc := 142) hX zci_0 dX10_keepAt_142 ?_
    refine zr_istore (pc := 143) hX rfl (Nat.le_of_ble_eq_true rfl) rfl dX10_keepAt_143 ?_
    refine VW.sub (lv' := [(0, .ref th), (2, .int p1), (3, .int p2), (4, .int p3), (5, .int (0 : Int32))]) ?_ [1, 3, 4, 5, 0] rfl
    refine zloop_walk (V := (fun a => VW K a.1 sz 0 0 145 [(0, .ref th), (2, .int p1), (3, .int p2), (4, .int p3), (5, .int a.2)] [])) (E := fun e => e = o) ?_ n (σ4, (0 : Int32)) _ h rfl
    intro a5 o6 h kco6 keo6
    unfold fX10_keepAt_L145 at h
    refine zr_iload (pc := 145) hX 4 rfl dX10_keepAt_145 ?_
    refine zr_getsN (pc := 147) hX 0 rfl q580 dX10_keepAt_147 ?_
    refine zr_iconst (pc := 150) hX zci_0 dX10_keepAt_150 ?_
    obtain ⟨x7, gx7, h⟩ := bnd h
    refine zr_aI (pc := 151) hX gx7 dX10_keepAt_151 ?_
    refine zr_icmp_gt (pc := 152) hX 200 rfl dX10_keepAt_152 (fun c152_17 => ?_) (fun c152_17 => ?_)
    · rw [if_pos c152_17] at h
      replace h := congrArg some (keo6 _ (Option.some.inj h).symm)
      exact hret _ (Option.some.inj h).symm _ _ dX10_keepAt_200
    · rw [if_neg c152_17] at h
      refine zr_aload_n (pc := 155) hX 0 rfl rfl dX10_keepAt_155 ?_
      obtain ⟨r8, gr8, h⟩ := bnd h
      refine zr_fv (pc := 156) hX za8_1 (zgR_spec gr8) q1101 (Or.inr q1102) dX10_keepAt_156 ?_
      refine zr_iload_n (pc := 159) hX 1 rfl rfl dX10_keepAt_159 ?_
      refine zr_dup2 (pc := 160) hX rfl rfl dX10_keepAt_160 ?_
      obtain ⟨x9, gx9, h⟩ := bnd h
      refine zr_aI (pc := 161) hX gx9 dX10_keepAt_161 ?_
      refine zr_aload_n (pc := 162) hX 0 rfl rfl dX10_keepAt_162 ?_
      refine zr_aload_n (pc := 163) hX 0 rfl rfl dX10_keepAt_163 ?_
      obtain ⟨r10, gr10, h⟩ := bnd h
      refine zr_fv (pc := 164) hX za8_4 (zgR_spec gr10) q1078 (Or.inl rfl) dX10_keepAt_164 ?_
      refine zr_iload_n (pc := 167) hX 1 rfl rfl dX10_keepAt_167 ?_
      obtain ⟨x11, gx11, h⟩ := bnd h
      refine zr_aI (pc := 168) hX gx11 dX10_keepAt_168 ?_
      refine zr_bipush (pc := 169) hX zcb_12 dX10_keepAt_169 ?_
      refine zr_imul (pc := 171) hX dX10_keepAt_171 ?_
      refine zr_iload (pc := 172) hX 4 rfl dX10_keepAt_172 ?_
      refine zr_imul (pc := 174) hX dX10_keepAt_174 ?_
      refine zr_iload_n (pc := 175) hX 2 rfl rfl dX10_keepAt_175 ?_
      refine zr_iload (pc := 176) hX 3 rfl dX10_keepAt_176 ?_
      obtain ⟨u12, gu12, h⟩ := bnd h
      obtain ⟨t13, gt13, h⟩ := bnd h
      refine zr_callVs (pc := 178) (rest := [.int x9, .int p1, .ref r8]) (stk' := [.int t13, .int x9, .int p1, .ref r8]) (k' := 0) (n' := 0) hX (fun l s0 D => mX10_agrees l s0 D gt13) gu12 zc8 zwX10_agrees q576 q578 qs16 rfl rfl rfl rfl rfl rfl rfl rfl rfl dX10_keepAt_178 ?_
      obtain ⟨t14, gt14, h⟩ := bnd h
      have hJt14 : ∀ a, t14 = a → VW K a5.1 sz 0 0 192 [(0, .ref th), (2, .int p1), (3, .int p2), (4, .int p3), (5, .int a5.2)] [.int a, .int x9, .int p1, .ref r8] := by
        intro a ea
        subst ea
        refine zr_ior (pc := 192) hX dX10_keepAt_192 ?_
        obtain ⟨σ15, gσ15, h⟩ := bnd h
        refine zr_sI (pc := 193) hX gσ15 dX10_keepAt_193 ?_
        obtain ⟨x16, gx16, h⟩ := bnd h
        refine zr_iinc (pc := 194) hX 4 rfl zci_1 (Option.some.inj gx16) (Nat.le_of_ble_eq_true rfl) rfl dX10_keepAt_194 ?_
        refine zr_goto (pc := 197) hX 145 rfl dX10_keepAt_197 ?_
        exact VW.sub (kco6 (σ15, x16) (Option.some.inj h).symm) [1, 2, 3, 4, 0] rfl
      replace h := gt14
      refine zr_if_eq (pc := 181) hX 191 rfl dX10_keepAt_181 (fun c181_16 => ?_) (fun c181_16 => ?_)
      · rw [if_pos c181_16] at h
        refine zr_iconst (pc := 191) hX zci_0 dX10_keepAt_191 ?_
        exact VW.sub (hJt14 (0 : Int32) (Option.some.inj h).symm) [0, 1, 2, 3, 4] rfl
      · rw [if_neg c181_16] at h
        refine zr_iconst (pc := 184) hX zci_1 dX10_keepAt_184 ?_
        refine zr_iload (pc := 185) hX 4 rfl dX10_keepAt_185 ?_
        refine zr_ishl (pc := 187) hX dX10_keepAt_187 ?_
        refine zr_goto (pc := 188) hX 192 rfl dX10_keepAt_188 ?_
        exact VW.sub (hJt14 ((1 : Int32) <<< (a5.2 &&& 31)) (Option.some.inj h).symm) [0, 1, 2, 3, 4] rfl
  · rw [if_neg c6_61] at h
    refine zr_aload_n (pc := 9) hX 0 rfl rfl dX10_keepAt_9 ?_
    obtain ⟨r19, gr19, h⟩ := bnd h
    refine zr_fv (pc := 10) hX za8_2 (zgR_spec gr19) q1105 (Or.inr q1106) dX10_keepAt_10 ?_
    refine zr_iload_n (pc := 13) hX 2 rfl rfl dX10_keepAt_13 ?_
    refine zr_aload_n (pc := 14) hX 0 rfl rfl dX10_keepAt_14 ?_
    refine zr_aload_n (pc := 15) hX 1 rfl rfl dX10_keepAt_15 ?_
    refine zr_iload_n (pc := 16) hX 2 rfl rfl dX10_keepAt_16 ?_
    obtain ⟨u20, gu20, h⟩ := bnd h
    obtain ⟨t21, gt21, h⟩ := bnd h
    refine zr_callVs (pc := 17) (rest := [.int p1, .ref r19]) (stk' := [.int t21, .int p1, .ref r19]) (k' := 0) (n' := 0) hX (fun l s0 D => mX10_low l s0 D gt21) gu20 zc8 zwX10_low q544 q546 qs12 rfl rfl rfl rfl rfl rfl rfl rfl rfl dX10_keepAt_17 ?_
    obtain ⟨σ22, gσ22, h⟩ := bnd h
    refine zr_sI (pc := 20) hX gσ22 dX10_keepAt_20 ?_
    refine zr_aload_n (pc := 21) hX 0 rfl rfl dX10_keepAt_21 ?_
    obtain ⟨r23, gr23, h⟩ := bnd h
    refine zr_fv (pc := 22) hX za8_3 (zgR_spec gr23) q1109 (Or.inr q1110) dX10_keepAt_22 ?_
    refine zr_iload_n (pc := 25) hX 2 rfl rfl dX10_keepAt_25 ?_
    refine zr_aload_n (pc := 26) hX 0 rfl rfl dX10_keepAt_26 ?_
    refine zr_aload_n (pc := 27) hX 1 rfl rfl dX10_keepAt_27 ?_
    refine zr_iload_n (pc := 28) hX 2 rfl rfl dX10_keepAt_28 ?_
    obtain ⟨u24, gu24, h⟩ := bnd h
    obtain ⟨t25, gt25, h⟩ := bnd h
    refine zr_callVs (pc := 29) (rest := [.int p1, .ref r23]) (stk' := [.int t25, .int p1, .ref r23]) (k' := 0) (n' := 0) hX (fun l s0 D => mX10_high l s0 D gt25) gu24 zc8 zwX10_high q558 q560 qs13 rfl rfl rfl rfl rfl rfl rfl rfl rfl dX10_keepAt_29 ?_
    obtain ⟨σ26, gσ26, h⟩ := bnd h
    refine zr_sI (pc := 32) hX gσ26 dX10_keepAt_32 ?_
    obtain ⟨t29, gt29, h⟩ := bnd h
    have hJt29 : ∀ a, a = t29 → VW K a sz 0 0 84 [(0, .ref th), (2, .int p1), (3, .int p2), (4, .int p3)] [] := by
      intro a ea
      rw [ea]
      refine VW.sub (lv' := [(0, .ref th), (2, .int p1), (3, .int p2), (4, .int p3)]) ?_ [0, 1, 2, 3] rfl
      refine zloop_walk (V := (fun a => VW K a sz 0 0 84 [(0, .ref th), (2, .int p1), (3, .int p2), (4, .int p3)] [])) (E := fun e => e = o) ?_ n t29 _ h rfl
      intro a30 o31 h kco31 keo31
      unfold fX10_keepAt_L84 at h
      refine zr_aload_n (pc := 84) hX 0 rfl rfl dX10_keepAt_84 ?_
      obtain ⟨r32, gr32, h⟩ := bnd h
      refine zr_fv (pc := 85) hX za8_2 (zgR_spec gr32) q1105 (Or.inr q1106) dX10_keepAt_85 ?_
      refine zr_iload_n (pc := 88) hX 1 rfl rfl dX10_keepAt_88 ?_
      obtain ⟨x33, gx33, h⟩ := bnd h
      refine zr_aI (pc := 89) hX gx33 dX10_keepAt_89 ?_
      refine zr_aload_n (pc := 90) hX 0 rfl rfl dX10_keepAt_90 ?_
      obtain ⟨r34, gr34, h⟩ := bnd h
      refine zr_fv (pc := 91) hX za8_3 (zgR_spec gr34) q1109 (Or.inr q1110) dX10_keepAt_91 ?_
      refine zr_iload_n (pc := 94) hX 1 rfl rfl dX10_keepAt_94 ?_
      obtain ⟨x35, gx35, h⟩ := bnd h
      refine zr_aI (pc := 95) hX gx35 dX10_keepAt_95 ?_
      refine zr_icmp_gt (pc := 96) hX 200 rfl dX10_keepAt_96 (fun c96_45 => ?_) (fun c96_45 => ?_)
      · rw [if_pos c96_45] at h
        replace h := congrArg some (keo31 _ (Option.some.inj h).symm)
        exact hret _ (Option.some.inj h).symm _ _ dX10_keepAt_200
      · rw [if_neg c96_45] at h
        refine zr_aload_n (pc := 99) hX 0 rfl rfl dX10_keepAt_99 ?_
        refine zr_aload_n (pc := 100) hX 0 rfl rfl dX10_keepAt_100 ?_
        obtain ⟨r36, gr36, h⟩ := bnd h
        refine zr_fv (pc := 101) hX za8_4 (zgR_spec gr36) q1078 (Or.inl rfl) dX10_keepAt_101 ?_
        refine zr_iload_n (pc := 104) hX 1 rfl rfl dX10_keepAt_104 ?_
        obtain ⟨x37, gx37, h⟩ := bnd h
        refine zr_aI (pc := 105) hX gx37 dX10_keepAt_105 ?_
        refine zr_aload_n (pc := 106) hX 0 rfl rfl dX10_keepAt_106 ?_
        obtain ⟨r38, gr38, h⟩ := bnd h
        refine zr_fv (pc := 107) hX za8_3 (zgR_spec gr38) q1109 (Or.inr q1110) dX10_keepAt_107 ?_
        refine zr_iload_n (pc := 110) hX 1 rfl rfl dX10_keepAt_110 ?_
        obtain ⟨x39, gx39, h⟩ := bnd h
        refine zr_aI (pc := 111) hX gx39 dX10_keepAt_111 ?_
        refine zr_imul (pc := 112) hX dX10_keepAt_112 ?_
        refine zr_iload_n (pc := 113) hX 2 rfl rfl dX10_keepAt_113 ?_
        refine zr_iload (pc := 114) hX 3 rfl dX10_keepAt_114 ?_
        obtain ⟨u40, gu40, h⟩ := bnd h
        obtain ⟨t41, gt41, h⟩ := bnd h
        refine zr_callVs (pc := 116) (rest := []) (stk' := [.int t41]) (k' := 0) (n' := 0) hX (fun l s0 D => mX10_agrees l s0 D gt41) gu40 zc8 zwX10_agrees q576 q578 qs16 rfl rfl rfl rfl rfl rfl rfl rfl rfl dX10_keepAt_116 ?_
        refine zr_if_ne (pc := 119) hX 200 rfl dX10_keepAt_119 (fun c119_44 => ?_) (fun c119_44 => ?_)
        · rw [if_neg c119_44] at h
          replace h := congrArg some (keo31 _ (Option.some.inj h).symm)
          exact hret _ (Option.some.inj h).symm _ _ dX10_keepAt_200
        · rw [if_pos c119_44] at h
          refine zr_aload_n (pc := 122) hX 0 rfl rfl dX10_keepAt_122 ?_
          obtain ⟨r42, gr42, h⟩ := bnd h
          refine zr_fv (pc := 123) hX za8_3 (zgR_spec gr42) q1109 (Or.inr q1110) dX10_keepAt_123 ?_
          refine zr_iload_n (pc := 126) hX 1 rfl rfl dX10_keepAt_126 ?_
          refine zr_dup2 (pc := 127) hX rfl rfl dX10_keepAt_127 ?_
          obtain ⟨x43, gx43, h⟩ := bnd h
          refine zr_aI (pc := 128) hX gx43 dX10_keepAt_128 ?_
          refine zr_iconst (pc := 129) hX zci_1 dX10_keepAt_129 ?_
          refine zr_isub (pc := 130) hX dX10_keepAt_130 ?_
          obtain ⟨σ44, gσ44, h⟩ := bnd h
          refine zr_sI (pc := 131) hX gσ44 dX10_keepAt_131 ?_
          refine zr_goto (pc := 132) hX 84 rfl dX10_keepAt_132 ?_
          exact VW.sub (kco31 σ44 (Option.some.inj h).symm) [0, 1, 2, 3] rfl
    refine VW.sub (lv' := [(0, .ref th), (2, .int p1), (3, .int p2), (4, .int p3)]) ?_ [0, 2, 3, 4] rfl
    refine zloop_walk (V := (fun a => VW K a sz 0 0 33 [(0, .ref th), (2, .int p1), (3, .int p2), (4, .int p3)] [])) (E := fun e => e = t29) ?_ n σ26 _ gt29 rfl
    intro a27 o28 h kco28 keo28
    unfold fX10_keepAt_L33 at h
    refine zr_aload_n (pc := 33) hX 0 rfl rfl dX10_keepAt_33 ?_
    obtain ⟨r47, gr47, h⟩ := bnd h
    refine zr_fv (pc := 34) hX za8_2 (zgR_spec gr47) q1105 (Or.inr q1106) dX10_keepAt_34 ?_
    refine zr_iload_n (pc := 37) hX 1 rfl rfl dX10_keepAt_37 ?_
    obtain ⟨x48, gx48, h⟩ := bnd h
    refine zr_aI (pc := 38) hX gx48 dX10_keepAt_38 ?_
    refine zr_aload_n (pc := 39) hX 0 rfl rfl dX10_keepAt_39 ?_
    obtain ⟨r49, gr49, h⟩ := bnd h
    refine zr_fv (pc := 40) hX za8_3 (zgR_spec gr49) q1109 (Or.inr q1110) dX10_keepAt_40 ?_
    refine zr_iload_n (pc := 43) hX 1 rfl rfl dX10_keepAt_43 ?_
    obtain ⟨x50, gx50, h⟩ := bnd h
    refine zr_aI (pc := 44) hX gx50 dX10_keepAt_44 ?_
    refine zr_icmp_gt (pc := 45) hX 84 rfl dX10_keepAt_45 (fun c45_60 => ?_) (fun c45_60 => ?_)
    · rw [if_pos c45_60] at h
      exact VW.sub (hJt29 a27 (keo28 _ (Option.some.inj h).symm)) [0, 1, 2, 3] rfl
    · rw [if_neg c45_60] at h
      refine zr_aload_n (pc := 48) hX 0 rfl rfl dX10_keepAt_48 ?_
      refine zr_aload_n (pc := 49) hX 0 rfl rfl dX10_keepAt_49 ?_
      obtain ⟨r51, gr51, h⟩ := bnd h
      refine zr_fv (pc := 50) hX za8_4 (zgR_spec gr51) q1078 (Or.inl rfl) dX10_keepAt_50 ?_
      refine zr_iload_n (pc := 53) hX 1 rfl rfl dX10_keepAt_53 ?_
      obtain ⟨x52, gx52, h⟩ := bnd h
      refine zr_aI (pc := 54) hX gx52 dX10_keepAt_54 ?_
      refine zr_aload_n (pc := 55) hX 0 rfl rfl dX10_keepAt_55 ?_
      obtain ⟨r53, gr53, h⟩ := bnd h
      refine zr_fv (pc := 56) hX za8_2 (zgR_spec gr53) q1105 (Or.inr q1106) dX10_keepAt_56 ?_
      refine zr_iload_n (pc := 59) hX 1 rfl rfl dX10_keepAt_59 ?_
      obtain ⟨x54, gx54, h⟩ := bnd h
      refine zr_aI (pc := 60) hX gx54 dX10_keepAt_60 ?_
      refine zr_imul (pc := 61) hX dX10_keepAt_61 ?_
      refine zr_iload_n (pc := 62) hX 2 rfl rfl dX10_keepAt_62 ?_
      refine zr_iload (pc := 63) hX 3 rfl dX10_keepAt_63 ?_
      obtain ⟨u55, gu55, h⟩ := bnd h
      obtain ⟨t56, gt56, h⟩ := bnd h
      refine zr_callVs (pc := 65) (rest := []) (stk' := [.int t56]) (k' := 0) (n' := 0) hX (fun l s0 D => mX10_agrees l s0 D gt56) gu55 zc8 zwX10_agrees q576 q578 qs16 rfl rfl rfl rfl rfl rfl rfl rfl rfl dX10_keepAt_65 ?_
      refine zr_if_ne (pc := 68) hX 84 rfl dX10_keepAt_68 (fun c68_59 => ?_) (fun c68_59 => ?_)
      · rw [if_neg c68_59] at h
        exact VW.sub (hJt29 a27 (keo28 _ (Option.some.inj h).symm)) [0, 1, 2, 3] rfl
      · rw [if_pos c68_59] at h
        refine zr_aload_n (pc := 71) hX 0 rfl rfl dX10_keepAt_71 ?_
        obtain ⟨r57, gr57, h⟩ := bnd h
        refine zr_fv (pc := 72) hX za8_2 (zgR_spec gr57) q1105 (Or.inr q1106) dX10_keepAt_72 ?_
        refine zr_iload_n (pc := 75) hX 1 rfl rfl dX10_keepAt_75 ?_
        refine zr_dup2 (pc := 76) hX rfl rfl dX10_keepAt_76 ?_
        obtain ⟨x58, gx58, h⟩ := bnd h
        refine zr_aI (pc := 77) hX gx58 dX10_keepAt_77 ?_
        refine zr_iconst (pc := 78) hX zci_1 dX10_keepAt_78 ?_
        refine zr_iadd (pc := 79) hX dX10_keepAt_79 ?_
        obtain ⟨σ59, gσ59, h⟩ := bnd h
        refine zr_sI (pc := 80) hX gσ59 dX10_keepAt_80 ?_
        refine zr_goto (pc := 81) hX 33 rfl dX10_keepAt_81 ?_
        exact VW.sub (kco28 σ59 (Option.some.inj h).symm) [0, 1, 2, 3] rfl
set_option maxHeartbeats 4000000 in
theorem mX10_keep (l : Launch) (s0 : State) (D : zD) {n : Nat} {σ : zH} {sz : Nat} {th : Nat} {p0 : Nat} {o : zH} (h : fX10_keep n σ th p0 = some o) : zM l s0 D yX10_keep cX10_keep 5 none 5 88 0 0 [.ref th, .ref p0] σ sz o sz none := by
  refine zenter (own := RX10) zplX10 rfl (Nat.le_of_ble_eq_true rfl) rfl (fun K hX hnm hret => ?_)
  unfold fX10_keep at h
  have hret : ∀ a, o = a → zRet K cX10_keep none a sz 0 0 none := fun a e => by cases e; exact hret
  show VW K σ sz 0 0 0 [(0, .ref th), (1, .ref p0)] []
  refine zr_iconst (pc := 0) hX zci_0 dX10_keep_0 ?_
  refine zr_istore_n (pc := 1) hX rfl rfl (Nat.le_of_ble_eq_true rfl) rfl dX10_keep_1 ?_
  refine zr_iconst (pc := 2) hX zci_0 dX10_keep_2 ?_
  refine zr_istore_n (pc := 3) hX rfl rfl (Nat.le_of_ble_eq_true rfl) rfl dX10_keep_3 ?_
  refine zr_iconst (pc := 4) hX zci_0 dX10_keep_4 ?_
  refine zr_istore (pc := 5) hX rfl (Nat.le_of_ble_eq_true rfl) rfl dX10_keep_5 ?_
  obtain ⟨t3, gt3, h⟩ := bnd h
  have hJt3 : ∀ a, a = t3 → VW K σ sz 0 0 42 [(0, .ref th), (1, .ref p0), (2, .int a.1), (3, .int a.2)] [] := by
    intro a ea
    rw [ea]
    refine zr_iconst (pc := 42) hX zci_0 dX10_keep_42 ?_
    refine zr_istore (pc := 43) hX rfl (Nat.le_of_ble_eq_true rfl) rfl dX10_keep_43 ?_
    refine VW.sub (lv' := [(0, .ref th), (1, .ref p0), (2, .int t3.1), (3, .int t3.2), (4, .int (0 : Int32))]) ?_ [1, 2, 3, 4, 0] rfl
    refine zloop_walk (V := (fun a => VW K a.1 sz 0 0 45 [(0, .ref th), (1, .ref p0), (2, .int t3.1), (3, .int t3.2), (4, .int a.2)] [])) (E := fun e => e = o) ?_ n (σ, (0 : Int32)) _ h rfl
    intro a4 o5 h kco5 keo5
    unfold fX10_keep_L45 at h
    refine zr_iload (pc := 45) hX 4 rfl dX10_keep_45 ?_
    refine zr_aload_n (pc := 47) hX 0 rfl rfl dX10_keep_47 ?_
    obtain ⟨u6, gu6, h⟩ := bnd h
    obtain ⟨t7, gt7, h⟩ := bnd h
    refine zr_callU (pc := 48) (rest := [.int a4.2]) (stk' := [.int t7, .int a4.2]) (k' := 0) (n' := 0) hX (fun l s0 D => mX9_size l s0 D gt7) gu6 zc8 zwX9_size q536 q537 q473 q538 (Or.inl ⟨q473, _, _, _, q474⟩) (by decide) rfl rfl rfl rfl rfl rfl rfl rfl rfl dX10_keep_48 ?_
    refine zr_icmp_ge (pc := 51) hX 85 rfl dX10_keep_51 (fun c51_14 => ?_) (fun c51_14 => ?_)
    · rw [if_pos c51_14] at h
      replace h := congrArg some (keo5 _ (Option.some.inj h).symm)
      exact hret _ (Option.some.inj h).symm _ _ dX10_keep_85
    · rw [if_neg c51_14] at h
      refine zr_aload_n (pc := 54) hX 0 rfl rfl dX10_keep_54 ?_
      refine zr_aload_n (pc := 55) hX 1 rfl rfl dX10_keep_55 ?_
      refine zr_iload (pc := 56) hX 4 rfl dX10_keep_56 ?_
      refine zr_iload_n (pc := 58) hX 2 rfl rfl dX10_keep_58 ?_
      refine zr_aload_n (pc := 59) hX 0 rfl rfl dX10_keep_59 ?_
      refine zr_aload_n (pc := 60) hX 1 rfl rfl dX10_keep_60 ?_
      refine zr_iload (pc := 61) hX 4 rfl dX10_keep_61 ?_
      obtain ⟨u8, gu8, h⟩ := bnd h
      obtain ⟨t9, gt9, h⟩ := bnd h
      refine zr_callVs (pc := 63) (rest := [.int t3.1, .int a4.2, .ref p0, .ref th]) (stk' := [.int t9, .int t3.1, .int a4.2, .ref p0, .ref th]) (k' := 0) (n' := 0) hX (fun l s0 D => mX10_least l s0 D gt9) gu8 zc8 zwX10_least q539 q541 qs11 rfl rfl rfl rfl rfl rfl rfl rfl rfl dX10_keep_63 ?_
      refine zr_isub (pc := 66) hX dX10_keep_66 ?_
      refine zr_iload_n (pc := 67) hX 3 rfl rfl dX10_keep_67 ?_
      refine zr_aload_n (pc := 68) hX 0 rfl rfl dX10_keep_68 ?_
      refine zr_aload_n (pc := 69) hX 1 rfl rfl dX10_keep_69 ?_
      refine zr_iload (pc := 70) hX 4 rfl dX10_keep_70 ?_
      obtain ⟨u10, gu10, h⟩ := bnd h
      obtain ⟨t11, gt11, h⟩ := bnd h
      refine zr_callVs (pc := 72) (rest := [.int t3.2, .int (t3.1 - t9), .int a4.2, .ref p0, .ref th]) (stk' := [.int t11, .int t3.2, .int (t3.1 - t9), .int a4.2, .ref p0, .ref th]) (k' := 0) (n' := 0) hX (fun l s0 D => mX10_greatest l s0 D gt11) gu10 zc8 zwX10_greatest q568 q570 qs14 rfl rfl rfl rfl rfl rfl rfl rfl rfl dX10_keep_72 ?_
      refine zr_isub (pc := 75) hX dX10_keep_75 ?_
      obtain ⟨u12, gu12, h⟩ := bnd h
      obtain ⟨t13, gt13, h⟩ := bnd h
      refine zr_callVs (pc := 76) (rest := []) (stk' := []) (k' := 0) (n' := 0) hX (fun l s0 D => mX10_keepAt l s0 D gt13) gu12 zc8 zwX10_keepAt q572 q574 qs15 rfl rfl rfl rfl rfl rfl rfl rfl rfl dX10_keep_76 ?_
      obtain ⟨x14, gx14, h⟩ := bnd h
      refine zr_iinc (pc := 79) hX 4 rfl zci_1 (Option.some.inj gx14) (Nat.le_of_ble_eq_true rfl) rfl dX10_keep_79 ?_
      refine zr_goto (pc := 82) hX 45 rfl dX10_keep_82 ?_
      exact VW.sub (kco5 (t13, x14) (Option.some.inj h).symm) [1, 2, 3, 4, 0] rfl
  refine VW.sub (lv' := [(0, .ref th), (1, .ref p0), (2, .int (0 : Int32)), (3, .int (0 : Int32)), (4, .int (0 : Int32))]) ?_ [3, 4, 2, 1, 0] rfl
  refine zloop_walk (V := (fun a => VW K σ sz 0 0 7 [(0, .ref th), (1, .ref p0), (2, .int a.1), (3, .int a.2.1), (4, .int a.2.2)] [])) (E := fun e => e = t3) ?_ n ((0 : Int32), (0 : Int32), (0 : Int32)) _ gt3 rfl
  intro a1 o2 h kco2 keo2
  unfold fX10_keep_L7 at h
  refine zr_iload (pc := 7) hX 4 rfl dX10_keep_7 ?_
  refine zr_aload_n (pc := 9) hX 0 rfl rfl dX10_keep_9 ?_
  obtain ⟨u16, gu16, h⟩ := bnd h
  obtain ⟨t17, gt17, h⟩ := bnd h
  refine zr_callU (pc := 10) (rest := [.int a1.2.2]) (stk' := [.int t17, .int a1.2.2]) (k' := 0) (n' := 0) hX (fun l s0 D => mX9_size l s0 D gt17) gu16 zc8 zwX9_size q536 q537 q473 q538 (Or.inl ⟨q473, _, _, _, q474⟩) (by decide) rfl rfl rfl rfl rfl rfl rfl rfl rfl dX10_keep_10 ?_
  refine zr_icmp_ge (pc := 13) hX 42 rfl dX10_keep_13 (fun c13_24 => ?_) (fun c13_24 => ?_)
  · rw [if_pos c13_24] at h
    exact VW.sub (hJt3 (a1.1, a1.2.1) (keo2 _ (Option.some.inj h).symm)) [0, 1, 2, 3] rfl
  · rw [if_neg c13_24] at h
    refine zr_iload_n (pc := 16) hX 2 rfl rfl dX10_keep_16 ?_
    refine zr_aload_n (pc := 17) hX 0 rfl rfl dX10_keep_17 ?_
    refine zr_aload_n (pc := 18) hX 1 rfl rfl dX10_keep_18 ?_
    refine zr_iload (pc := 19) hX 4 rfl dX10_keep_19 ?_
    obtain ⟨u18, gu18, h⟩ := bnd h
    obtain ⟨t19, gt19, h⟩ := bnd h
    refine zr_callVs (pc := 21) (rest := [.int a1.1]) (stk' := [.int t19, .int a1.1]) (k' := 0) (n' := 0) hX (fun l s0 D => mX10_least l s0 D gt19) gu18 zc8 zwX10_least q539 q541 qs11 rfl rfl rfl rfl rfl rfl rfl rfl rfl dX10_keep_21 ?_
    refine zr_iadd (pc := 24) hX dX10_keep_24 ?_
    obtain ⟨x20, gx20, h⟩ := bnd h
    refine zr_istore_n (pc := 25) hX (Option.some.inj gx20) rfl (Nat.le_of_ble_eq_true rfl) rfl dX10_keep_25 ?_
    refine zr_iload_n (pc := 26) hX 3 rfl rfl dX10_keep_26 ?_
    refine zr_aload_n (pc := 27) hX 1 rfl rfl dX10_keep_27 ?_
    refine zr_aload_n (pc := 28) hX 2 rfl rfl dX10_keep_28 ?_
    refine zr_iload (pc := 29) hX 4 rfl dX10_keep_29 ?_
    obtain ⟨u21, gu21, h⟩ := bnd h
    obtain ⟨t22, gt22, h⟩ := bnd h
    refine zr_callVs (pc := 31) (rest := [.int a1.2.1]) (stk' := [.int t22, .int a1.2.1]) (k' := 0) (n' := 0) hX (fun l s0 D => mX10_greatest l s0 D gt22) gu21 zc8 zwX10_greatest q568 q570 qs14 rfl rfl rfl rfl rfl rfl rfl rfl rfl dX10_keep_31 ?_
    refine zr_iadd (pc := 34) hX dX10_keep_34 ?_
    obtain ⟨x23, gx23, h⟩ := bnd h
    refine zr_istore_n (pc := 35) hX (Option.some.inj gx23) rfl (Nat.le_of_ble_eq_true rfl) rfl dX10_keep_35 ?_
    obtain ⟨x24, gx24, h⟩ := bnd h
    refine zr_iinc (pc := 36) hX 4 rfl zci_1 (Option.some.inj gx24) (Nat.le_of_ble_eq_true rfl) rfl dX10_keep_36 ?_
    refine zr_goto (pc := 39) hX 7 rfl dX10_keep_39 ?_
    exact VW.sub (kco2 (x20, x23, x24) (Option.some.inj h).symm) [3, 4, 2, 1, 0] rfl
set_option maxHeartbeats 4000000 in
theorem mX11_findFor_d : ∀ (d : Nat) (l : Launch) (s0 : State) (D : zD) {n : Nat} {σ : zH} {sz : Nat} {th : Nat} {p0 : Nat} {p1 : Int32} {p2 : Int32} {o : zH × Int32} (h : fX11_findFor d n σ th p0 p1 p2 = some o), zM l s0 D yX11_findFor cX11_findFor 6 (some .boolean) (2 + d) (22 + d * 25) 0 0 [.ref th, .ref p0, .int p1, .int p2] σ sz o.1 sz (some (.int o.2)) := by
  intro d
  induction d with
  | zero => intro l s0 D; intros; rename_i h; cases h
  | succ d ih =>
    intro l s0 D n σ sz th p0 p1 p2 o h
    replace h : fX11_findFor_B (fX11_findFor d) n σ th p0 p1 p2 = some o := h
    refine zenter (own := RX11) zplX11 rfl (Nat.le_of_ble_eq_true rfl) trivial (fun K hX hnm hret => ?_)
    unfold fX11_findFor_B at h
    have hret : ∀ a, o = a → zRet K cX11_findFor (some .boolean) a.1 sz 0 0 (some (.int a.2)) := fun a e => by cases e; exact hret
    show VW K σ sz 0 0 0 [(0, .ref th), (1, .ref p0), (2, .int p1), (3, .int p2)] []
    refine zr_aload_n (pc := 0) hX 0 rfl rfl dX11_findFor_0 ?_
    refine zr_aload_n (pc := 1) hX 1 rfl rfl dX11_findFor_1 ?_
    refine zr_iload_n (pc := 2) hX 2 rfl rfl dX11_findFor_2 ?_
    obtain ⟨u1, gu1, h⟩ := bnd h
    obtain ⟨t2, gt2, h⟩ := bnd h
    refine zr_callU (pc := 3) (rest := []) (stk' := [.int t2]) (k' := 0) (n' := 0) hX (fun l s0 D => mX9_domain l s0 D gt2) gu1 zc9 zwX9_domain q505 q506 q479 q507 (Or.inl ⟨q479, _, _, _, q480⟩) (by decide) rfl (zble2 (by omega) (by omega)) rfl rfl rfl rfl rfl rfl rfl dX11_findFor_3 ?_
    refine zr_iload_n (pc := 6) hX 3 rfl rfl dX11_findFor_6 ?_
    refine zr_iconst (pc := 7) hX zci_m1 dX11_findFor_7 ?_
    refine zr_ixor (pc := 8) hX dX11_findFor_8 ?_
    refine zr_iand (pc := 9) hX dX11_findFor_9 ?_
    obtain ⟨x3, gx3, h⟩ := bnd h
    refine zr_istore (pc := 10) hX (Option.some.inj gx3) (Nat.le_of_ble_eq_true rfl) rfl dX11_findFor_10 ?_
    refine zr_iconst (pc := 12) hX zci_0 dX11_findFor_12 ?_
    refine zr_istore (pc := 13) hX rfl (Nat.le_of_ble_eq_true rfl) rfl dX11_findFor_13 ?_
    obtain ⟨u9, gu9, hAu9, hBu9⟩ := zesc_bnd h
    have hJt6 : ∀ a, .inl a = u9 → VW K a.1 sz 0 0 82 [(0, .ref th), (2, .int p1), (5, .int a.2)] [] := by
      intro t6 ea
      have h := hAu9 _ ea.symm
      refine zr_aload_n (pc := 82) hX 0 rfl rfl dX11_findFor_82 ?_
      obtain ⟨r7, gr7, h⟩ := bnd h
      refine zr_fv (pc := 83) hX za9_4 (zgR_spec gr7) q1153 (Or.inl rfl) dX11_findFor_83 ?_
      refine zr_iload (pc := 86) hX 2 rfl dX11_findFor_86 ?_
      refine zr_iload_n (pc := 88) hX 1 rfl rfl dX11_findFor_88 ?_
      obtain ⟨σ8, gσ8, h⟩ := bnd h
      refine zr_sI (pc := 89) hX gσ8 dX11_findFor_89 ?_
      refine zr_iconst (pc := 90) hX zci_1 dX11_findFor_90 ?_
      exact hret _ (Option.some.inj h).symm _ _ dX11_findFor_91 (Or.inr ⟨rfl, Or.inr rfl⟩)
    refine VW.sub (lv' := [(0, .ref th), (1, .ref p0), (2, .int p1), (3, .int p2), (4, .int x3), (5, .int (0 : Int32))]) ?_ [2, 3, 4, 5, 1, 0] rfl
    refine zloop_walk (V := (fun a => VW K a.1 sz 0 0 15 [(0, .ref th), (1, .ref p0), (2, .int p1), (3, .int p2), (4, .int x3), (5, .int a.2)] [])) (E := fun e => e = u9) ?_ n (σ, (0 : Int32)) _ gu9 rfl
    intro a4 o5 h kco5 keo5
    unfold fX11_findFor_L15 at h
    refine zr_iload (pc := 15) hX 5 rfl dX11_findFor_15 ?_
    refine zr_getsN (pc := 17) hX 0 rfl q503 dX11_findFor_17 ?_
    refine zr_iconst (pc := 20) hX zci_0 dX11_findFor_20 ?_
    obtain ⟨x10, gx10, h⟩ := bnd h
    refine zr_aI (pc := 21) hX gx10 dX11_findFor_21 ?_
    refine zr_icmp_gt (pc := 22) hX 98 rfl dX11_findFor_22 (fun c22_26 => ?_) (fun c22_26 => ?_)
    · rw [if_pos c22_26] at h
      refine zr_iconst (pc := 98) hX zci_0 dX11_findFor_98 ?_
      replace h := congrArg some (hBu9 _ (keo5 _ (Option.some.inj h).symm).symm)
      exact hret _ (Option.some.inj h).symm _ _ dX11_findFor_99 (Or.inr ⟨rfl, Or.inl rfl⟩)
    · rw [if_neg c22_26] at h
      refine zr_iload (pc := 25) hX 4 rfl dX11_findFor_25 ?_
      refine zr_aload_n (pc := 27) hX 0 rfl rfl dX11_findFor_27 ?_
      obtain ⟨x11, gx11, h⟩ := bnd h
      refine zr_fv (pc := 28) hX za9_5 (zgI_spec gx11) q1154 (Or.inl rfl) dX11_findFor_28 ?_
      refine zr_iconst (pc := 31) hX zci_m1 dX11_findFor_31 ?_
      refine zr_ixor (pc := 32) hX dX11_findFor_32 ?_
      refine zr_iand (pc := 33) hX dX11_findFor_33 ?_
      refine zr_iload (pc := 34) hX 5 rfl dX11_findFor_34 ?_
      obtain ⟨t12, gt12, h⟩ := bnd h
      refine zr_callSN (pc := 36) (rest := []) (stk' := [.int t12]) (k' := 0) (n' := 0) hX (fun l s0 D => mX1_has l s0 D gt12) zwX1_has q508 q432 (zble2 (by omega) (by omega)) rfl rfl rfl rfl rfl rfl rfl dX11_findFor_36 ?_
      obtain ⟨u15, gu15, hAu15, hBu15⟩ := zesc_bnd h
      have hJt13 : ∀ a, u15 = .inl a → VW K a sz 0 0 92 [(0, .ref th), (1, .ref p0), (2, .int p1), (3, .int p2), (4, .int x3), (5, .int a4.2)] [] := by
        intro t13 ea
        have h := hAu15 _ ea
        obtain ⟨x14, gx14, h⟩ := bnd h
        refine zr_iinc (pc := 92) hX 5 rfl zci_1 (Option.some.inj gx14) (Nat.le_of_ble_eq_true rfl) rfl dX11_findFor_92 ?_
        refine zr_goto (pc := 95) hX 15 rfl dX11_findFor_95 ?_
        exact VW.sub (kco5 (t13, x14) (Option.some.inj h).symm) [1, 2, 3, 4, 5, 0] rfl
      replace h := gu15
      refine zr_if_eq (pc := 39) hX 92 rfl dX11_findFor_39 (fun c39_25 => ?_) (fun c39_25 => ?_)
      · rw [if_pos c39_25] at h
        exact VW.sub (hJt13 a4.1 (Option.some.inj h).symm) [0, 1, 2, 3, 4, 5] rfl
      · rw [if_neg c39_25] at h
        refine zr_aload_n (pc := 42) hX 0 rfl rfl dX11_findFor_42 ?_
        refine zr_dup (pc := 43) hX rfl dX11_findFor_43 ?_
        obtain ⟨x16, gx16, h⟩ := bnd h
        refine zr_fv (pc := 44) hX za9_5 (zgI_spec gx16) q1154 (Or.inl rfl) dX11_findFor_44 ?_
        refine zr_iconst (pc := 47) hX zci_1 dX11_findFor_47 ?_
        refine zr_iload (pc := 48) hX 5 rfl dX11_findFor_48 ?_
        refine zr_ishl (pc := 50) hX dX11_findFor_50 ?_
        refine zr_ior (pc := 51) hX dX11_findFor_51 ?_
        obtain ⟨σ17, gσ17, h⟩ := bnd h
        refine zr_pv (pc := 52) hX za9_5 gσ17 rfl q1154 (Or.inl rfl) rfl (tyX11_ok 5 (Nat.le_of_ble_eq_true rfl)) rfl rfl dX11_findFor_52 ?_
        refine zr_aload_n (pc := 55) hX 0 rfl rfl dX11_findFor_55 ?_
        obtain ⟨r18, gr18, h⟩ := bnd h
        refine zr_fv (pc := 56) hX za9_4 (zgR_spec gr18) q1153 (Or.inl rfl) dX11_findFor_56 ?_
        refine zr_iload (pc := 59) hX 5 rfl dX11_findFor_59 ?_
        obtain ⟨x19, gx19, h⟩ := bnd h
        refine zr_aI (pc := 61) hX gx19 dX11_findFor_61 ?_
        refine zr_iconst (pc := 62) hX zci_m1 dX11_findFor_62 ?_
        refine zr_icmp_eq (pc := 63) hX 82 rfl dX11_findFor_63 (fun c63_24 => ?_) (fun c63_24 => ?_)
        · rw [if_pos c63_24] at h
          replace h := congrArg some (hBu15 _ (Option.some.inj h).symm)
          exact VW.sub (hJt6 (σ17, a4.2) (keo5 _ (Option.some.inj h).symm)) [0, 2, 5] rfl
        · rw [if_neg c63_24] at h
          refine zr_aload_n (pc := 66) hX 0 rfl rfl dX11_findFor_66 ?_
          refine zr_aload_n (pc := 67) hX 1 rfl rfl dX11_findFor_67 ?_
          refine zr_aload_n (pc := 68) hX 0 rfl rfl dX11_findFor_68 ?_
          obtain ⟨r20, gr20, h⟩ := bnd h
          refine zr_fv (pc := 69) hX za9_4 (zgR_spec gr20) q1153 (Or.inl rfl) dX11_findFor_69 ?_
          refine zr_iload (pc := 72) hX 5 rfl dX11_findFor_72 ?_
          obtain ⟨x21, gx21, h⟩ := bnd h
          refine zr_aI (pc := 74) hX gx21 dX11_findFor_74 ?_
          refine zr_iload_n (pc := 75) hX 3 rfl rfl dX11_findFor_75 ?_
          obtain ⟨u22, gu22, h⟩ := bnd h
          obtain ⟨t23, gt23, h⟩ := bnd h
          refine zr_callVs (pc := 76) (rest := []) (stk' := [.int t23.2]) (k' := 0) (n' := 0) hX (fun l s0 D => ih l s0 D gt23) gu22 zc9 zwX11_findFor q514 q516 qs9 rfl (zble2 (by omega) (by omega)) rfl rfl rfl rfl rfl rfl rfl dX11_findFor_76 ?_
          refine zr_if_eq (pc := 79) hX 92 rfl dX11_findFor_79 (fun c79_23 => ?_) (fun c79_23 => ?_)
          · rw [if_pos c79_23] at h
            exact VW.sub (hJt13 t23.1 (Option.some.inj h).symm) [0, 1, 2, 3, 4, 5] rfl
          · rw [if_neg c79_23] at h
            replace h := congrArg some (hBu15 _ (Option.some.inj h).symm)
            exact VW.sub (hJt6 (t23.1, a4.2) (keo5 _ (Option.some.inj h).symm)) [0, 2, 5] rfl
theorem mX11_findFor (l : Launch) (s0 : State) (D : zD) {n : Nat} {σ : zH} {sz : Nat} {th : Nat} {p0 : Nat} {p1 : Int32} {p2 : Int32} {o : zH × Int32} (h : fX11_findFor 34 n σ th p0 p1 p2 = some o) : zM l s0 D yX11_findFor cX11_findFor 6 (some .boolean) 36 872 0 0 [.ref th, .ref p0, .int p1, .int p2] σ sz o.1 sz (some (.int o.2)) := mX11_findFor_d 34 l s0 D h
set_option maxHeartbeats 4000000 in
theorem mX11_agrees (l : Launch) (s0 : State) (D : zD) {n : Nat} {σ : zH} {sz : Nat} {th : Nat} {p0 : Nat} {p1 : Int32} {p2 : Int32} {o : zH × Int32} (h : fX11_agrees n σ th p0 p1 p2 = some o) : zM l s0 D yX11_agrees cX11_agrees 6 (some .boolean) 37 897 0 0 [.ref th, .ref p0, .int p1, .int p2] σ sz o.1 sz (some (.int o.2)) := by
  refine zenter (own := RX11) zplX11 rfl (Nat.le_of_ble_eq_true rfl) trivial (fun K hX hnm hret => ?_)
  unfold fX11_agrees at h
  have hret : ∀ a, o = a → zRet K cX11_agrees (some .boolean) a.1 sz 0 0 (some (.int a.2)) := fun a e => by cases e; exact hret
  show VW K σ sz 0 0 0 [(0, .ref th), (1, .ref p0), (2, .int p1), (3, .int p2)] []
  refine zr_iconst (pc := 0) hX zci_0 dX11_agrees_0 ?_
  refine zr_istore (pc := 1) hX rfl (Nat.le_of_ble_eq_true rfl) rfl dX11_agrees_1 ?_
  obtain ⟨t3, gt3, h⟩ := bnd h
  have hJt3 : ∀ a, a = t3 → VW K a sz 0 0 24 [(0, .ref th), (1, .ref p0), (2, .int p1), (3, .int p2)] [] := by
    intro a ea
    rw [ea]
    refine zr_iconst (pc := 24) hX zci_1 dX11_agrees_24 ?_
    refine zr_istore (pc := 25) hX rfl (Nat.le_of_ble_eq_true rfl) rfl dX11_agrees_25 ?_
    refine zr_iconst (pc := 27) hX zci_0 dX11_agrees_27 ?_
    refine zr_istore (pc := 28) hX rfl (Nat.le_of_ble_eq_true rfl) rfl dX11_agrees_28 ?_
    refine VW.sub (lv' := [(0, .ref th), (1, .ref p0), (2, .int p1), (3, .int p2), (4, .int (1 : Int32)), (5, .int (0 : Int32))]) ?_ [2, 3, 4, 5, 1, 0] rfl
    refine zloop_walk (V := (fun a => VW K a.1 sz 0 0 30 [(0, .ref th), (1, .ref p0), (2, .int p1), (3, .int p2), (4, .int a.2.1), (5, .int a.2.2)] [])) (E := fun e => e = o) ?_ n (t3, (1 : Int32), (0 : Int32)) _ h rfl
    intro a4 o5 h kco5 keo5
    unfold fX11_agrees_L30 at h
    refine zr_iload (pc := 30) hX 5 rfl dX11_agrees_30 ?_
    refine zr_aload_n (pc := 32) hX 0 rfl rfl dX11_agrees_32 ?_
    obtain ⟨u6, gu6, h⟩ := bnd h
    obtain ⟨t7, gt7, h⟩ := bnd h
    refine zr_callU (pc := 33) (rest := [.int a4.2.2]) (stk' := [.int t7, .int a4.2.2]) (k' := 0) (n' := 0) hX (fun l s0 D => mX9_size l s0 D gt7) gu6 zc9 zwX9_size q500 q501 q473 q502 (Or.inl ⟨q473, _, _, _, q474⟩) (by decide) rfl rfl rfl rfl rfl rfl rfl rfl rfl dX11_agrees_33 ?_
    refine zr_icmp_ge (pc := 36) hX 81 rfl dX11_agrees_36 (fun c36_19 => ?_) (fun c36_19 => ?_)
    · rw [if_pos c36_19] at h
      refine zr_iload (pc := 81) hX 4 rfl dX11_agrees_81 ?_
      obtain ⟨x8, gx8, h⟩ := bnd h
      rw [(zq_spec gx8).1] at h
      replace h := congrArg some (keo5 _ (Option.some.inj h).symm)
      exact hret _ (Option.some.inj h).symm _ _ dX11_agrees_83 (Or.inr ⟨rfl, (zq_spec gx8).2⟩)
    · rw [if_neg c36_19] at h
      refine zr_iload (pc := 39) hX 4 rfl dX11_agrees_39 ?_
      refine zr_if_eq (pc := 41) hX 81 rfl dX11_agrees_41 (fun c41_18 => ?_) (fun c41_18 => ?_)
      · rw [if_pos c41_18] at h
        refine zr_iload (pc := 81) hX 4 rfl dX11_agrees_81 ?_
        obtain ⟨x9, gx9, h⟩ := bnd h
        rw [(zq_spec gx9).1] at h
        replace h := congrArg some (keo5 _ (Option.some.inj h).symm)
        exact hret _ (Option.some.inj h).symm _ _ dX11_agrees_83 (Or.inr ⟨rfl, (zq_spec gx9).2⟩)
      · rw [if_neg c41_18] at h
        refine zr_aload_n (pc := 44) hX 0 rfl rfl dX11_agrees_44 ?_
        refine zr_iconst (pc := 45) hX zci_0 dX11_agrees_45 ?_
        obtain ⟨σ10, gσ10, h⟩ := bnd h
        refine zr_pv (pc := 46) hX za9_5 gσ10 rfl q1154 (Or.inl rfl) rfl (tyX11_ok 5 (Nat.le_of_ble_eq_true rfl)) rfl rfl dX11_agrees_46 ?_
        refine zr_iload (pc := 49) hX 5 rfl dX11_agrees_49 ?_
        refine zr_iload_n (pc := 51) hX 2 rfl rfl dX11_agrees_51 ?_
        obtain ⟨t11, gt11, h⟩ := bnd h
        have hJt11 : ∀ a, t11 = a → VW K a.1 sz 0 0 73 [(0, .ref th), (1, .ref p0), (2, .int p1), (3, .int p2), (5, .int a4.2.2)] [.int a.2] := by
          intro a ea
          subst ea
          refine zr_istore (pc := 73) hX rfl (Nat.le_of_ble_eq_true rfl) rfl dX11_agrees_73 ?_
          obtain ⟨x12, gx12, h⟩ := bnd h
          refine zr_iinc (pc := 75) hX 5 rfl zci_1 (Option.some.inj gx12) (Nat.le_of_ble_eq_true rfl) rfl dX11_agrees_75 ?_
          refine zr_goto (pc := 78) hX 30 rfl dX11_agrees_78 ?_
          exact VW.sub (kco5 (t11.1, t11.2, x12) (Option.some.inj h).symm) [2, 3, 4, 5, 1, 0] rfl
        replace h := gt11
        obtain ⟨u14, gu14, hAu14, hBu14⟩ := zesc_bnd h
        have hJt13 : ∀ a, u14 = .inl a → VW K a sz 0 0 68 [(0, .ref th), (1, .ref p0), (2, .int p1), (3, .int p2), (5, .int a4.2.2)] [] := by
          intro t13 ea
          have h := hAu14 _ ea
          refine zr_iconst (pc := 68) hX zci_1 dX11_agrees_68 ?_
          refine zr_goto (pc := 69) hX 73 rfl dX11_agrees_69 ?_
          exact VW.sub (hJt11 (t13, (1 : Int32)) (Option.some.inj h).symm) [0, 1, 2, 3, 4] rfl
        replace h := gu14
        refine zr_icmp_eq (pc := 52) hX 68 rfl dX11_agrees_52 (fun c52_17 => ?_) (fun c52_17 => ?_)
        · rw [if_pos c52_17] at h
          exact VW.sub (hJt13 σ10 (Option.some.inj h).symm) [0, 1, 2, 3, 5] rfl
        · rw [if_neg c52_17] at h
          refine zr_aload_n (pc := 55) hX 0 rfl rfl dX11_agrees_55 ?_
          refine zr_aload_n (pc := 56) hX 1 rfl rfl dX11_agrees_56 ?_
          refine zr_iload (pc := 57) hX 5 rfl dX11_agrees_57 ?_
          refine zr_iconst (pc := 59) hX zci_1 dX11_agrees_59 ?_
          refine zr_iload_n (pc := 60) hX 3 rfl rfl dX11_agrees_60 ?_
          refine zr_ishl (pc := 61) hX dX11_agrees_61 ?_
          obtain ⟨u15, gu15, h⟩ := bnd h
          obtain ⟨t16, gt16, h⟩ := bnd h
          refine zr_callVs (pc := 62) (rest := []) (stk' := [.int t16.2]) (k' := 0) (n' := 0) hX (fun l s0 D => mX11_findFor l s0 D gt16) gu15 zc9 zwX11_findFor q514 q516 qs9 rfl rfl rfl rfl rfl rfl rfl rfl rfl dX11_agrees_62 ?_
          refine zr_if_eq (pc := 65) hX 72 rfl dX11_agrees_65 (fun c65_16 => ?_) (fun c65_16 => ?_)
          · rw [if_pos c65_16] at h
            refine zr_iconst (pc := 72) hX zci_0 dX11_agrees_72 ?_
            replace h := congrArg some (hBu14 _ (Option.some.inj h).symm)
            exact VW.sub (hJt11 (t16.1, (0 : Int32)) (Option.some.inj h).symm) [0, 1, 2, 3, 5] rfl
          · rw [if_neg c65_16] at h
            exact VW.sub (hJt13 t16.1 (Option.some.inj h).symm) [0, 1, 2, 3, 5] rfl
  refine VW.sub (lv' := [(0, .ref th), (1, .ref p0), (2, .int p1), (3, .int p2), (4, .int (0 : Int32))]) ?_ [1, 2, 3, 4, 0] rfl
  refine zloop_walk (V := (fun a => VW K a.1 sz 0 0 3 [(0, .ref th), (1, .ref p0), (2, .int p1), (3, .int p2), (4, .int a.2)] [])) (E := fun e => e = t3) ?_ n (σ, (0 : Int32)) _ gt3 rfl
  intro a1 o2 h kco2 keo2
  unfold fX11_agrees_L3 at h
  refine zr_iload (pc := 3) hX 4 rfl dX11_agrees_3 ?_
  refine zr_bipush (pc := 5) hX zcb_32 dX11_agrees_5 ?_
  refine zr_icmp_ge (pc := 7) hX 24 rfl dX11_agrees_7 (fun c7_23 => ?_) (fun c7_23 => ?_)
  · rw [if_pos c7_23] at h
    exact VW.sub (hJt3 a1.1 (keo2 _ (Option.some.inj h).symm)) [0, 1, 2, 3] rfl
  · rw [if_neg c7_23] at h
    refine zr_aload_n (pc := 10) hX 0 rfl rfl dX11_agrees_10 ?_
    obtain ⟨r21, gr21, h⟩ := bnd h
    refine zr_fv (pc := 11) hX za9_4 (zgR_spec gr21) q1153 (Or.inl rfl) dX11_agrees_11 ?_
    refine zr_iload (pc := 14) hX 4 rfl dX11_agrees_14 ?_
    refine zr_iconst (pc := 16) hX zci_m1 dX11_agrees_16 ?_
    obtain ⟨σ22, gσ22, h⟩ := bnd h
    refine zr_sI (pc := 17) hX gσ22 dX11_agrees_17 ?_
    obtain ⟨x23, gx23, h⟩ := bnd h
    refine zr_iinc (pc := 18) hX 4 rfl zci_1 (Option.some.inj gx23) (Nat.le_of_ble_eq_true rfl) rfl dX11_agrees_18 ?_
    refine zr_goto (pc := 21) hX 3 rfl dX11_agrees_21 ?_
    exact VW.sub (kco2 (σ22, x23) (Option.some.inj h).symm) [1, 2, 3, 4, 0] rfl
set_option maxHeartbeats 4000000 in
theorem mX11_keep (l : Launch) (s0 : State) (D : zD) {n : Nat} {σ : zH} {sz : Nat} {th : Nat} {p0 : Nat} {o : zH} (h : fX11_keep n σ th p0 = some o) : zM l s0 D yX11_keep cX11_keep 5 none 38 922 0 0 [.ref th, .ref p0] σ sz o sz none := by
  refine zenter (own := RX11) zplX11 rfl (Nat.le_of_ble_eq_true rfl) rfl (fun K hX hnm hret => ?_)
  unfold fX11_keep at h
  have hret : ∀ a, o = a → zRet K cX11_keep none a sz 0 0 none := fun a e => by cases e; exact hret
  show VW K σ sz 0 0 0 [(0, .ref th), (1, .ref p0)] []
  refine zr_iconst (pc := 0) hX zci_0 dX11_keep_0 ?_
  refine zr_istore_n (pc := 1) hX rfl rfl (Nat.le_of_ble_eq_true rfl) rfl dX11_keep_1 ?_
  refine VW.sub (lv' := [(0, .ref th), (1, .ref p0), (2, .int (0 : Int32))]) ?_ [1, 2, 0] rfl
  refine zloop_walk (V := (fun a => VW K a.1 sz 0 0 2 [(0, .ref th), (1, .ref p0), (2, .int a.2)] [])) (E := fun e => e = o) ?_ n (σ, (0 : Int32)) _ h rfl
  intro a1 o2 h kco2 keo2
  unfold fX11_keep_L2 at h
  refine zr_iload_n (pc := 2) hX 2 rfl rfl dX11_keep_2 ?_
  refine zr_aload_n (pc := 3) hX 0 rfl rfl dX11_keep_3 ?_
  obtain ⟨u3, gu3, h⟩ := bnd h
  obtain ⟨t4, gt4, h⟩ := bnd h
  refine zr_callU (pc := 4) (rest := [.int a1.2]) (stk' := [.int t4, .int a1.2]) (k' := 0) (n' := 0) hX (fun l s0 D => mX9_size l s0 D gt4) gu3 zc9 zwX9_size q500 q501 q473 q502 (Or.inl ⟨q473, _, _, _, q474⟩) (by decide) rfl rfl rfl rfl rfl rfl rfl rfl rfl dX11_keep_4 ?_
  refine zr_icmp_ge (pc := 7) hX 91 rfl dX11_keep_7 (fun c7_28 => ?_) (fun c7_28 => ?_)
  · rw [if_pos c7_28] at h
    replace h := congrArg some (keo2 _ (Option.some.inj h).symm)
    exact hret _ (Option.some.inj h).symm _ _ dX11_keep_91
  · rw [if_neg c7_28] at h
    refine zr_aload_n (pc := 10) hX 0 rfl rfl dX11_keep_10 ?_
    obtain ⟨r5, gr5, h⟩ := bnd h
    refine zr_fv (pc := 11) hX za9_1 (zgR_spec gr5) q1099 (Or.inr q1100) dX11_keep_11 ?_
    refine zr_iload_n (pc := 14) hX 2 rfl rfl dX11_keep_14 ?_
    refine zr_iconst (pc := 15) hX zci_0 dX11_keep_15 ?_
    obtain ⟨σ6, gσ6, h⟩ := bnd h
    refine zr_sI (pc := 16) hX gσ6 dX11_keep_16 ?_
    refine zr_iconst (pc := 17) hX zci_0 dX11_keep_17 ?_
    refine zr_istore_n (pc := 18) hX rfl rfl (Nat.le_of_ble_eq_true rfl) rfl dX11_keep_18 ?_
    obtain ⟨t9, gt9, h⟩ := bnd h
    have hJt9 : ∀ a, a = t9 → VW K a sz 0 0 85 [(0, .ref th), (1, .ref p0), (2, .int a1.2)] [] := by
      intro a ea
      rw [ea]
      obtain ⟨x10, gx10, h⟩ := bnd h
      refine zr_iinc (pc := 85) hX 2 rfl zci_1 (Option.some.inj gx10) (Nat.le_of_ble_eq_true rfl) rfl dX11_keep_85 ?_
      refine zr_goto (pc := 88) hX 2 rfl dX11_keep_88 ?_
      exact VW.sub (kco2 (t9, x10) (Option.some.inj h).symm) [1, 2, 0] rfl
    refine VW.sub (lv' := [(0, .ref th), (1, .ref p0), (2, .int a1.2), (3, .int (0 : Int32))]) ?_ [1, 2, 3, 0] rfl
    refine zloop_walk (V := (fun a => VW K a.1 sz 0 0 19 [(0, .ref th), (1, .ref p0), (2, .int a1.2), (3, .int a.2)] [])) (E := fun e => e = t9) ?_ n (σ6, (0 : Int32)) _ gt9 rfl
    intro a7 o8 h kco8 keo8
    unfold fX11_keep_L19 at h
    refine zr_iload_n (pc := 19) hX 3 rfl rfl dX11_keep_19 ?_
    refine zr_getsN (pc := 20) hX 0 rfl q503 dX11_keep_20 ?_
    refine zr_iconst (pc := 23) hX zci_0 dX11_keep_23 ?_
    obtain ⟨x11, gx11, h⟩ := bnd h
    refine zr_aI (pc := 24) hX gx11 dX11_keep_24 ?_
    refine zr_icmp_gt (pc := 25) hX 85 rfl dX11_keep_25 (fun c25_27 => ?_) (fun c25_27 => ?_)
    · rw [if_pos c25_27] at h
      exact VW.sub (hJt9 a7.1 (keo8 _ (Option.some.inj h).symm)) [0, 1, 2] rfl
    · rw [if_neg c25_27] at h
      refine zr_aload_n (pc := 28) hX 0 rfl rfl dX11_keep_28 ?_
      refine zr_aload_n (pc := 29) hX 1 rfl rfl dX11_keep_29 ?_
      refine zr_iload_n (pc := 30) hX 2 rfl rfl dX11_keep_30 ?_
      obtain ⟨u12, gu12, h⟩ := bnd h
      obtain ⟨t13, gt13, h⟩ := bnd h
      refine zr_callU (pc := 31) (rest := []) (stk' := [.int t13]) (k' := 0) (n' := 0) hX (fun l s0 D => mX9_domain l s0 D gt13) gu12 zc9 zwX9_domain q505 q506 q479 q507 (Or.inl ⟨q479, _, _, _, q480⟩) (by decide) rfl rfl rfl rfl rfl rfl rfl rfl rfl dX11_keep_31 ?_
      refine zr_iload_n (pc := 34) hX 3 rfl rfl dX11_keep_34 ?_
      obtain ⟨t14, gt14, h⟩ := bnd h
      refine zr_callSN (pc := 35) (rest := []) (stk' := [.int t14]) (k' := 0) (n' := 0) hX (fun l s0 D => mX1_has l s0 D gt14) zwX1_has q508 q432 rfl rfl rfl rfl rfl rfl rfl rfl dX11_keep_35 ?_
      obtain ⟨t15, gt15, h⟩ := bnd h
      have hJt15 : ∀ a, t15 = a → VW K a.1 sz 0 0 56 [(0, .ref th), (1, .ref p0), (2, .int a1.2), (3, .int a7.2)] [.int a.2] := by
        intro a ea
        subst ea
        refine zr_istore (pc := 56) hX rfl (Nat.le_of_ble_eq_true rfl) rfl dX11_keep_56 ?_
        refine zr_aload_n (pc := 58) hX 1 rfl rfl dX11_keep_58 ?_
        obtain ⟨r16, gr16, h⟩ := bnd h
        refine zr_fv (pc := 59) hX za9_1 (zgR_spec gr16) q1099 (Or.inr q1100) dX11_keep_59 ?_
        refine zr_iload_n (pc := 62) hX 3 rfl rfl dX11_keep_62 ?_
        refine zr_dup2 (pc := 63) hX rfl rfl dX11_keep_63 ?_
        obtain ⟨x17, gx17, h⟩ := bnd h
        refine zr_aI (pc := 64) hX gx17 dX11_keep_64 ?_
        refine zr_iload (pc := 65) hX 0 rfl dX11_keep_65 ?_
        obtain ⟨t18, gt18, h⟩ := bnd h
        have hJt18 : ∀ a, t18 = a → VW K t15.1 sz 0 0 77 [(0, .ref th), (1, .ref p0), (2, .int a1.2), (3, .int a7.2)] [.int a, .int x17, .int a1.2, .ref r16] := by
          intro a ea
          subst ea
          refine zr_ior (pc := 77) hX dX11_keep_77 ?_
          obtain ⟨σ19, gσ19, h⟩ := bnd h
          refine zr_sI (pc := 78) hX gσ19 dX11_keep_78 ?_
          obtain ⟨x20, gx20, h⟩ := bnd h
          refine zr_iinc (pc := 79) hX 3 rfl zci_1 (Option.some.inj gx20) (Nat.le_of_ble_eq_true rfl) rfl dX11_keep_79 ?_
          refine zr_goto (pc := 82) hX 19 rfl dX11_keep_82 ?_
          exact VW.sub (kco8 (σ19, x20) (Option.some.inj h).symm) [1, 2, 3, 0] rfl
        replace h := gt18
        refine zr_if_eq (pc := 67) hX 76 rfl dX11_keep_67 (fun c67_20 => ?_) (fun c67_20 => ?_)
        · rw [if_pos c67_20] at h
          refine zr_iconst (pc := 76) hX zci_0 dX11_keep_76 ?_
          exact VW.sub (hJt18 (0 : Int32) (Option.some.inj h).symm) [1, 2, 3, 4] rfl
        · rw [if_neg c67_20] at h
          refine zr_iconst (pc := 70) hX zci_1 dX11_keep_70 ?_
          refine zr_iload_n (pc := 71) hX 4 rfl rfl dX11_keep_71 ?_
          refine zr_ishl (pc := 72) hX dX11_keep_72 ?_
          refine zr_goto (pc := 73) hX 77 rfl dX11_keep_73 ?_
          exact VW.sub (hJt18 ((1 : Int32) <<< (a7.2 &&& 31)) (Option.some.inj h).symm) [1, 2, 3, 4] rfl
      replace h := gt15
      obtain ⟨u23, gu23, hAu23, hBu23⟩ := zesc_bnd h
      have hJt22 : ∀ a, u23 = .inl a → VW K a sz 0 0 55 [(0, .ref th), (1, .ref p0), (2, .int a1.2), (3, .int a7.2)] [] := by
        intro t22 ea
        have h := hAu23 _ ea
        refine zr_iconst (pc := 55) hX zci_0 dX11_keep_55 ?_
        exact VW.sub (hJt15 (t22, (0 : Int32)) (Option.some.inj h).symm) [0, 1, 2, 3] rfl
      replace h := gu23
      refine zr_if_eq (pc := 38) hX 55 rfl dX11_keep_38 (fun c38_26 => ?_) (fun c38_26 => ?_)
      · rw [if_pos c38_26] at h
        exact VW.sub (hJt22 a7.1 (Option.some.inj h).symm) [0, 1, 2, 3] rfl
      · rw [if_neg c38_26] at h
        refine zr_aload_n (pc := 41) hX 0 rfl rfl dX11_keep_41 ?_
        refine zr_aload_n (pc := 42) hX 1 rfl rfl dX11_keep_42 ?_
        refine zr_iload_n (pc := 43) hX 2 rfl rfl dX11_keep_43 ?_
        refine zr_iload_n (pc := 44) hX 3 rfl rfl dX11_keep_44 ?_
        obtain ⟨u24, gu24, h⟩ := bnd h
        obtain ⟨t25, gt25, h⟩ := bnd h
        refine zr_callVs (pc := 45) (rest := []) (stk' := [.int t25.2]) (k' := 0) (n' := 0) hX (fun l s0 D => mX11_agrees l s0 D gt25) gu24 zc9 zwX11_agrees q509 q511 qs8 rfl rfl rfl rfl rfl rfl rfl rfl rfl dX11_keep_45 ?_
        refine zr_if_eq (pc := 48) hX 55 rfl dX11_keep_48 (fun c48_25 => ?_) (fun c48_25 => ?_)
        · rw [if_pos c48_25] at h
          exact VW.sub (hJt22 t25.1 (Option.some.inj h).symm) [0, 1, 2, 3] rfl
        · rw [if_neg c48_25] at h
          refine zr_iconst (pc := 51) hX zci_1 dX11_keep_51 ?_
          refine zr_goto (pc := 52) hX 56 rfl dX11_keep_52 ?_
          replace h := congrArg some (hBu23 _ (Option.some.inj h).symm)
          exact VW.sub (hJt15 (t25.1, (1 : Int32)) (Option.some.inj h).symm) [0, 1, 2, 3] rfl
set_option maxHeartbeats 4000000 in
theorem mX12_keep (l : Launch) (s0 : State) (D : zD) {n : Nat} {σ : zH} {sz : Nat} {th : Nat} {p0 : Nat} {o : zH} (h : fX12_keep n σ th p0 = some o) : zM l s0 D yX12_keep cX12_keep 6 none 3 41 0 0 [.ref th, .ref p0] σ sz o sz none := by
  refine zenter (own := RX12) zplX12 rfl (Nat.le_of_ble_eq_true rfl) rfl (fun K hX hnm hret => ?_)
  unfold fX12_keep at h
  have hret : ∀ a, o = a → zRet K cX12_keep none a sz 0 0 none := fun a e => by cases e; exact hret
  show VW K σ sz 0 0 0 [(0, .ref th), (1, .ref p0)] []
  refine zr_iconst (pc := 0) hX zci_0 dX12_keep_0 ?_
  refine zr_istore_n (pc := 1) hX rfl rfl (Nat.le_of_ble_eq_true rfl) rfl dX12_keep_1 ?_
  refine zr_iconst (pc := 2) hX zci_0 dX12_keep_2 ?_
  refine zr_istore_n (pc := 3) hX rfl rfl (Nat.le_of_ble_eq_true rfl) rfl dX12_keep_3 ?_
  obtain ⟨t3, gt3, h⟩ := bnd h
  have hJt3 : ∀ a, a = t3 → VW K a sz 0 0 68 [(0, .ref th), (1, .ref p0)] [] := by
    intro a ea
    rw [ea]
    refine zr_bipush (pc := 68) hX zcb_31 dX12_keep_68 ?_
    refine zr_istore_n (pc := 70) hX rfl rfl (Nat.le_of_ble_eq_true rfl) rfl dX12_keep_70 ?_
    refine zr_aload_n (pc := 71) hX 1 rfl rfl dX12_keep_71 ?_
    obtain ⟨u4, gu4, h⟩ := bnd h
    obtain ⟨t5, gt5, h⟩ := bnd h
    refine zr_callU (pc := 72) (rest := []) (stk' := [.int t5]) (k' := 0) (n' := 0) hX (fun l s0 D => mX9_size l s0 D gt5) gu4 zc10 zwX9_size q584 q585 q473 q586 (Or.inl ⟨q473, _, _, _, q474⟩) (by decide) rfl rfl rfl rfl rfl rfl rfl rfl rfl dX12_keep_72 ?_
    refine zr_iconst (pc := 75) hX zci_1 dX12_keep_75 ?_
    refine zr_isub (pc := 76) hX dX12_keep_76 ?_
    obtain ⟨x6, gx6, h⟩ := bnd h
    refine zr_istore (pc := 77) hX (Option.some.inj gx6) (Nat.le_of_ble_eq_true rfl) rfl dX12_keep_77 ?_
    refine VW.sub (lv' := [(0, .ref th), (1, .ref p0), (3, .int (31 : Int32)), (4, .int x6)]) ?_ [2, 3, 1, 0] rfl
    refine zloop_walk (V := (fun a => VW K a.1 sz 0 0 79 [(0, .ref th), (1, .ref p0), (3, .int a.2.1), (4, .int a.2.2)] [])) (E := fun e => e = o) ?_ n (t3, (31 : Int32), x6) _ h rfl
    intro a7 o8 h kco8 keo8
    unfold fX12_keep_L79 at h
    refine zr_iload (pc := 79) hX 3 rfl dX12_keep_79 ?_
    refine zr_if_lt (pc := 81) hX 141 rfl dX12_keep_81 (fun c81_19 => ?_) (fun c81_19 => ?_)
    · rw [if_pos c81_19] at h
      replace h := congrArg some (keo8 _ (Option.some.inj h).symm)
      exact hret _ (Option.some.inj h).symm _ _ dX12_keep_141
    · rw [if_neg c81_19] at h
      refine zr_iload_n (pc := 84) hX 2 rfl rfl dX12_keep_84 ?_
      obtain ⟨t9, gt9, h⟩ := bnd h
      have hJt9 : ∀ a, t9 = a → VW K a7.1 sz 0 0 106 [(0, .ref th), (1, .ref p0), (4, .int a7.2.2)] [.int a] := by
        intro a ea
        subst ea
        refine zr_istore (pc := 106) hX rfl (Nat.le_of_ble_eq_true rfl) rfl dX12_keep_106 ?_
        refine zr_iload (pc := 108) hX 0 rfl dX12_keep_108 ?_
        obtain ⟨t10, gt10, h⟩ := bnd h
        have hJt10 : ∀ a, t10 = a → VW K a7.1 sz 0 0 122 [(0, .ref th), (1, .ref p0), (4, .int a7.2.2), (5, .int t9)] [.int a] := by
          intro a ea
          subst ea
          refine zr_istore_n (pc := 122) hX rfl rfl (Nat.le_of_ble_eq_true rfl) rfl dX12_keep_122 ?_
          refine zr_aload_n (pc := 123) hX 1 rfl rfl dX12_keep_123 ?_
          obtain ⟨r11, gr11, h⟩ := bnd h
          refine zr_fv (pc := 124) hX za10_1 (zgR_spec gr11) q1087 (Or.inr q1088) dX12_keep_124 ?_
          refine zr_iload (pc := 127) hX 3 rfl dX12_keep_127 ?_
          refine zr_dup2 (pc := 129) hX rfl rfl dX12_keep_129 ?_
          obtain ⟨x12, gx12, h⟩ := bnd h
          refine zr_aI (pc := 130) hX gx12 dX12_keep_130 ?_
          refine zr_iload (pc := 131) hX 4 rfl dX12_keep_131 ?_
          refine zr_iand (pc := 133) hX dX12_keep_133 ?_
          obtain ⟨σ13, gσ13, h⟩ := bnd h
          refine zr_sI (pc := 134) hX gσ13 dX12_keep_134 ?_
          obtain ⟨x14, gx14, h⟩ := bnd h
          refine zr_iinc (pc := 135) hX 3 rfl zci_m1 (Option.some.inj gx14) (Nat.le_of_ble_eq_true rfl) rfl dX12_keep_135 ?_
          refine zr_goto (pc := 138) hX 79 rfl dX12_keep_138 ?_
          exact VW.sub (kco8 (σ13, t10, x14) (Option.some.inj h).symm) [2, 3, 1, 0] rfl
        replace h := gt10
        refine zr_if_ne (pc := 110) hX 117 rfl dX12_keep_110 (fun c110_15 => ?_) (fun c110_15 => ?_)
        · rw [if_neg c110_15] at h
          refine zr_iload (pc := 117) hX 0 rfl dX12_keep_117 ?_
          obtain ⟨t15, gt15, h⟩ := bnd h
          refine zr_callSN (pc := 119) (rest := []) (stk' := [.int t15]) (k' := 0) (n' := 0) hX (fun l s0 D => mX1_greatest l s0 D gt15) zwX1_greatest q591 q563 rfl rfl rfl rfl rfl rfl rfl rfl dX12_keep_119 ?_
          exact VW.sub (hJt10 t15 (Option.some.inj h).symm) [1, 2, 3, 0] rfl
        · rw [if_pos c110_15] at h
          refine zr_iconst (pc := 113) hX zci_m1 dX12_keep_113 ?_
          refine zr_goto (pc := 114) hX 122 rfl dX12_keep_114 ?_
          exact VW.sub (hJt10 (-1 : Int32) (Option.some.inj h).symm) [1, 2, 3, 0] rfl
      replace h := gt9
      refine zr_if_ge (pc := 85) hX 92 rfl dX12_keep_85 (fun c85_18 => ?_) (fun c85_18 => ?_)
      · rw [if_pos c85_18] at h
        refine zr_aload_n (pc := 92) hX 0 rfl rfl dX12_keep_92 ?_
        refine zr_aload_n (pc := 93) hX 1 rfl rfl dX12_keep_93 ?_
        refine zr_iload (pc := 94) hX 3 rfl dX12_keep_94 ?_
        obtain ⟨u17, gu17, h⟩ := bnd h
        obtain ⟨t18, gt18, h⟩ := bnd h
        refine zr_callU (pc := 96) (rest := []) (stk' := [.int t18]) (k' := 0) (n' := 0) hX (fun l s0 D => mX9_domain l s0 D gt18) gu17 zc10 zwX9_domain q587 q588 q479 q589 (Or.inl ⟨q479, _, _, _, q480⟩) (by decide) rfl rfl rfl rfl rfl rfl rfl rfl rfl dX12_keep_96 ?_
        refine zr_iconst (pc := 99) hX zci_m1 dX12_keep_99 ?_
        refine zr_bipush (pc := 100) hX zcb_31 dX12_keep_100 ?_
        refine zr_iload_n (pc := 102) hX 2 rfl rfl dX12_keep_102 ?_
        refine zr_isub (pc := 103) hX dX12_keep_103 ?_
        refine zr_iushr (pc := 104) hX dX12_keep_104 ?_
        refine zr_iand (pc := 105) hX dX12_keep_105 ?_
        exact VW.sub (hJt9 (t18 &&& (((-1 : Int32).toUInt32 >>> (((31 : Int32) - a7.2.1).toUInt32 &&& Int32.toUInt32 31)).toInt32)) (Option.some.inj h).symm) [0, 1, 3] rfl
      · rw [if_neg c85_18] at h
        refine zr_iconst (pc := 88) hX zci_0 dX12_keep_88 ?_
        refine zr_goto (pc := 89) hX 106 rfl dX12_keep_89 ?_
        exact VW.sub (hJt9 (0 : Int32) (Option.some.inj h).symm) [0, 1, 3] rfl
  refine VW.sub (lv' := [(0, .ref th), (1, .ref p0), (2, .int (0 : Int32)), (3, .int (0 : Int32))]) ?_ [2, 3, 1, 0] rfl
  refine zloop_walk (V := (fun a => VW K a.1 sz 0 0 4 [(0, .ref th), (1, .ref p0), (2, .int a.2.1), (3, .int a.2.2)] [])) (E := fun e => e = t3) ?_ n (σ, (0 : Int32), (0 : Int32)) _ gt3 rfl
  intro a1 o2 h kco2 keo2
  unfold fX12_keep_L4 at h
  refine zr_iload_n (pc := 4) hX 3 rfl rfl dX12_keep_4 ?_
  refine zr_aload_n (pc := 5) hX 0 rfl rfl dX12_keep_5 ?_
  obtain ⟨u21, gu21, h⟩ := bnd h
  obtain ⟨t22, gt22, h⟩ := bnd h
  refine zr_callU (pc := 6) (rest := [.int a1.2.2]) (stk' := [.int t22, .int a1.2.2]) (k' := 0) (n' := 0) hX (fun l s0 D => mX9_size l s0 D gt22) gu21 zc10 zwX9_size q584 q585 q473 q586 (Or.inl ⟨q473, _, _, _, q474⟩) (by decide) rfl rfl rfl rfl rfl rfl rfl rfl rfl dX12_keep_6 ?_
  refine zr_icmp_ge (pc := 9) hX 68 rfl dX12_keep_9 (fun c9_36 => ?_) (fun c9_36 => ?_)
  · rw [if_pos c9_36] at h
    exact VW.sub (hJt3 a1.1 (keo2 _ (Option.some.inj h).symm)) [0, 1] rfl
  · rw [if_neg c9_36] at h
    refine zr_aload_n (pc := 12) hX 0 rfl rfl dX12_keep_12 ?_
    obtain ⟨r23, gr23, h⟩ := bnd h
    refine zr_fv (pc := 13) hX za10_1 (zgR_spec gr23) q1087 (Or.inr q1088) dX12_keep_13 ?_
    refine zr_iload_n (pc := 16) hX 3 rfl rfl dX12_keep_16 ?_
    refine zr_iload_n (pc := 17) hX 2 rfl rfl dX12_keep_17 ?_
    refine zr_bipush (pc := 18) hX zcb_32 dX12_keep_18 ?_
    obtain ⟨t24, gt24, h⟩ := bnd h
    have hJt24 : ∀ a, t24 = a → VW K a1.1 sz 0 0 37 [(0, .ref th), (1, .ref p0), (3, .int a1.2.2)] [.int a, .int a1.2.2, .ref r23] := by
      intro a ea
      subst ea
      obtain ⟨σ25, gσ25, h⟩ := bnd h
      refine zr_sI (pc := 37) hX gσ25 dX12_keep_37 ?_
      refine zr_aload_n (pc := 38) hX 0 rfl rfl dX12_keep_38 ?_
      obtain ⟨r26, gr26, h⟩ := bnd h
      refine zr_fv (pc := 39) hX za10_1 (zgR_spec gr26) q1087 (Or.inr q1088) dX12_keep_39 ?_
      refine zr_iload_n (pc := 42) hX 2 rfl rfl dX12_keep_42 ?_
      obtain ⟨x27, gx27, h⟩ := bnd h
      refine zr_aI (pc := 43) hX gx27 dX12_keep_43 ?_
      obtain ⟨t28, gt28, h⟩ := bnd h
      have hJt28 : ∀ a, t28 = a → VW K σ25 sz 0 0 61 [(0, .ref th), (1, .ref p0), (3, .int a1.2.2)] [.int a] := by
        intro a ea
        subst ea
        refine zr_istore_n (pc := 61) hX rfl rfl (Nat.le_of_ble_eq_true rfl) rfl dX12_keep_61 ?_
        obtain ⟨x29, gx29, h⟩ := bnd h
        refine zr_iinc (pc := 62) hX 3 rfl zci_1 (Option.some.inj gx29) (Nat.le_of_ble_eq_true rfl) rfl dX12_keep_62 ?_
        refine zr_goto (pc := 65) hX 4 rfl dX12_keep_65 ?_
        exact VW.sub (kco2 (σ25, t28, x29) (Option.some.inj h).symm) [2, 3, 1, 0] rfl
      replace h := gt28
      refine zr_if_ne (pc := 44) hX 52 rfl dX12_keep_44 (fun c44_32 => ?_) (fun c44_32 => ?_)
      · rw [if_neg c44_32] at h
        refine zr_aload_n (pc := 52) hX 0 rfl rfl dX12_keep_52 ?_
        obtain ⟨r30, gr30, h⟩ := bnd h
        refine zr_fv (pc := 53) hX za10_1 (zgR_spec gr30) q1087 (Or.inr q1088) dX12_keep_53 ?_
        refine zr_iload_n (pc := 56) hX 2 rfl rfl dX12_keep_56 ?_
        obtain ⟨x31, gx31, h⟩ := bnd h
        refine zr_aI (pc := 57) hX gx31 dX12_keep_57 ?_
        obtain ⟨t32, gt32, h⟩ := bnd h
        refine zr_callSN (pc := 58) (rest := []) (stk' := [.int t32]) (k' := 0) (n' := 0) hX (fun l s0 D => mX1_least l s0 D gt32) zwX1_least q590 q552 rfl rfl rfl rfl rfl rfl rfl rfl dX12_keep_58 ?_
        exact VW.sub (hJt28 t32 (Option.some.inj h).symm) [0, 1, 2] rfl
      · rw [if_pos c44_32] at h
        refine zr_bipush (pc := 47) hX zcb_32 dX12_keep_47 ?_
        refine zr_goto (pc := 49) hX 61 rfl dX12_keep_49 ?_
        exact VW.sub (hJt28 (32 : Int32) (Option.some.inj h).symm) [0, 1, 2] rfl
    replace h := gt24
    refine zr_icmp_lt (pc := 20) hX 27 rfl dX12_keep_20 (fun c20_35 => ?_) (fun c20_35 => ?_)
    · rw [if_pos c20_35] at h
      refine zr_aload_n (pc := 27) hX 0 rfl rfl dX12_keep_27 ?_
      refine zr_aload_n (pc := 28) hX 1 rfl rfl dX12_keep_28 ?_
      refine zr_iload_n (pc := 29) hX 3 rfl rfl dX12_keep_29 ?_
      obtain ⟨u34, gu34, h⟩ := bnd h
      obtain ⟨t35, gt35, h⟩ := bnd h
      refine zr_callU (pc := 30) (rest := [.int a1.2.2, .ref r23]) (stk' := [.int t35, .int a1.2.2, .ref r23]) (k' := 0) (n' := 0) hX (fun l s0 D => mX9_domain l s0 D gt35) gu34 zc10 zwX9_domain q587 q588 q479 q589 (Or.inl ⟨q479, _, _, _, q480⟩) (by decide) rfl rfl rfl rfl rfl rfl rfl rfl rfl dX12_keep_30 ?_
      refine zr_iconst (pc := 33) hX zci_m1 dX12_keep_33 ?_
      refine zr_iload_n (pc := 34) hX 2 rfl rfl dX12_keep_34 ?_
      refine zr_ishl (pc := 35) hX dX12_keep_35 ?_
      refine zr_iand (pc := 36) hX dX12_keep_36 ?_
      exact VW.sub (hJt24 (t35 &&& ((-1 : Int32) <<< (a1.2.1 &&& 31))) (Option.some.inj h).symm) [0, 1, 3] rfl
    · rw [if_neg c20_35] at h
      refine zr_iconst (pc := 23) hX zci_0 dX12_keep_23 ?_
      refine zr_goto (pc := 24) hX 37 rfl dX12_keep_24 ?_
      exact VW.sub (hJt24 (0 : Int32) (Option.some.inj h).symm) [0, 1, 3] rfl
set_option maxHeartbeats 4000000 in
theorem mX7_state (l : Launch) (s0 : State) (D : zD) {σ : zH} {sz : Nat} {th : Nat} {o : Int32} (h : fX7_state σ th = some o) : zM l s0 D yX7_state cX7_state 1 (some .int) 1 0 0 0 [.ref th] σ sz σ sz (some (.int o)) := by
  refine zenter (own := RX7) zplX7 rfl (Nat.le_of_ble_eq_true rfl) trivial (fun K hX hnm hret => ?_)
  unfold fX7_state at h
  have hret : ∀ a, o = a → zRet K cX7_state (some .int) σ sz 0 0 (some (.int a)) := fun a e => by cases e; exact hret
  show VW K σ sz 0 0 0 [(0, .ref th)] []
  refine zr_aload_n (pc := 0) hX 0 rfl rfl dX7_state_0 ?_
  obtain ⟨x1, gx1, h⟩ := bnd h
  refine zr_fv (pc := 1) hX za6_0 (zgI_spec gx1) q989 (Or.inl rfl) dX7_state_1 ?_
  exact hret _ (Option.some.inj h).symm _ _ dX7_state_4 (Or.inl rfl)
set_option maxHeartbeats 4000000 in
theorem mX7_value (l : Launch) (s0 : State) (D : zD) {σ : zH} {sz : Nat} {th : Nat} {o : Int32} (h : fX7_value σ th = some o) : zM l s0 D yX7_value cX7_value 1 (some .int) 1 0 0 0 [.ref th] σ sz σ sz (some (.int o)) := by
  refine zenter (own := RX7) zplX7 rfl (Nat.le_of_ble_eq_true rfl) trivial (fun K hX hnm hret => ?_)
  unfold fX7_value at h
  have hret : ∀ a, o = a → zRet K cX7_value (some .int) σ sz 0 0 (some (.int a)) := fun a e => by cases e; exact hret
  show VW K σ sz 0 0 0 [(0, .ref th)] []
  refine zr_aload_n (pc := 0) hX 0 rfl rfl dX7_value_0 ?_
  obtain ⟨x1, gx1, h⟩ := bnd h
  refine zr_fv (pc := 1) hX za6_1 (zgI_spec gx1) q990 (Or.inl rfl) dX7_value_1 ?_
  exact hret _ (Option.some.inj h).symm _ _ dX7_value_4 (Or.inl rfl)
set_option maxHeartbeats 4000000 in
theorem mX7_next (l : Launch) (s0 : State) (D : zD) {σ : zH} {sz : Nat} {th : Nat} {o : Int32} (h : fX7_next σ th = some o) : zM l s0 D yX7_next cX7_next 1 (some .int) 1 0 0 0 [.ref th] σ sz σ sz (some (.int o)) := by
  refine zenter (own := RX7) zplX7 rfl (Nat.le_of_ble_eq_true rfl) trivial (fun K hX hnm hret => ?_)
  unfold fX7_next at h
  have hret : ∀ a, o = a → zRet K cX7_next (some .int) σ sz 0 0 (some (.int a)) := fun a e => by cases e; exact hret
  show VW K σ sz 0 0 0 [(0, .ref th)] []
  refine zr_aload_n (pc := 0) hX 0 rfl rfl dX7_next_0 ?_
  obtain ⟨x1, gx1, h⟩ := bnd h
  refine zr_fv (pc := 1) hX za6_2 (zgI_spec gx1) q991 (Or.inl rfl) dX7_next_1 ?_
  exact hret _ (Option.some.inj h).symm _ _ dX7_next_4 (Or.inl rfl)
set_option maxHeartbeats 4000000 in
theorem mX13_keep (l : Launch) (s0 : State) (D : zD) {n : Nat} {σ : zH} {sz : Nat} {th : Nat} {p0 : Nat} {o : zH} (h : fX13_keep n σ th p0 = some o) : zM l s0 D yX13_keep cX13_keep 6 none 4 64 0 0 [.ref th, .ref p0] σ sz o sz none := by
  refine zenter (own := RX13) zplX13 rfl (Nat.le_of_ble_eq_true rfl) rfl (fun K hX hnm hret => ?_)
  unfold fX13_keep at h
  have hret : ∀ a, o = a → zRet K cX13_keep none a sz 0 0 none := fun a e => by cases e; exact hret
  show VW K σ sz 0 0 0 [(0, .ref th), (1, .ref p0)] []
  refine zr_aload_n (pc := 0) hX 0 rfl rfl dX13_keep_0 ?_
  obtain ⟨r1, gr1, h⟩ := bnd h
  refine zr_fv (pc := 1) hX za11_6 (zgR_spec gr1) q1197 (Or.inl rfl) dX13_keep_1 ?_
  refine zr_iconst (pc := 4) hX zci_0 dX13_keep_4 ?_
  refine zr_iconst (pc := 5) hX zci_1 dX13_keep_5 ?_
  obtain ⟨σ2, gσ2, h⟩ := bnd h
  refine zr_sI (pc := 6) hX gσ2 dX13_keep_6 ?_
  refine zr_aload_n (pc := 7) hX 0 rfl rfl dX13_keep_7 ?_
  obtain ⟨r3, gr3, h⟩ := bnd h
  refine zr_fv (pc := 8) hX za11_7 (zgR_spec gr3) q1198 (Or.inl rfl) dX13_keep_8 ?_
  refine zr_aload_n (pc := 11) hX 0 rfl rfl dX13_keep_11 ?_
  obtain ⟨u4, gu4, h⟩ := bnd h
  obtain ⟨t5, gt5, h⟩ := bnd h
  refine zr_callU (pc := 12) (rest := [.ref r3]) (stk' := [.int t5, .ref r3]) (k' := 0) (n' := 0) hX (fun l s0 D => mX9_size l s0 D gt5) gu4 zc11 zwX9_size q595 q596 q473 q597 (Or.inl ⟨q473, _, _, _, q474⟩) (by decide) rfl rfl rfl rfl rfl rfl rfl rfl rfl dX13_keep_12 ?_
  refine zr_aload_n (pc := 15) hX 0 rfl rfl dX13_keep_15 ?_
  obtain ⟨x6, gx6, h⟩ := bnd h
  refine zr_fv (pc := 16) hX za11_5 (zgI_spec gx6) q1196 (Or.inl rfl) dX13_keep_16 ?_
  obtain ⟨σ7, gσ7, h⟩ := bnd h
  refine zr_sI (pc := 19) hX gσ7 dX13_keep_19 ?_
  refine zr_iconst (pc := 20) hX zci_0 dX13_keep_20 ?_
  refine zr_istore_n (pc := 21) hX rfl rfl (Nat.le_of_ble_eq_true rfl) rfl dX13_keep_21 ?_
  obtain ⟨t10, gt10, h⟩ := bnd h
  have hJt10 : ∀ a, a = t10 → VW K a sz 0 0 167 [(0, .ref th), (1, .ref p0)] [] := by
    intro a ea
    rw [ea]
    refine zr_aload_n (pc := 167) hX 0 rfl rfl dX13_keep_167 ?_
    obtain ⟨u11, gu11, h⟩ := bnd h
    obtain ⟨t12, gt12, h⟩ := bnd h
    refine zr_callU (pc := 168) (rest := []) (stk' := [.int t12]) (k' := 0) (n' := 0) hX (fun l s0 D => mX9_size l s0 D gt12) gu11 zc11 zwX9_size q595 q596 q473 q597 (Or.inl ⟨q473, _, _, _, q474⟩) (by decide) rfl rfl rfl rfl rfl rfl rfl rfl rfl dX13_keep_168 ?_
    refine zr_iconst (pc := 171) hX zci_1 dX13_keep_171 ?_
    refine zr_isub (pc := 172) hX dX13_keep_172 ?_
    obtain ⟨x13, gx13, h⟩ := bnd h
    refine zr_istore_n (pc := 173) hX (Option.some.inj gx13) rfl (Nat.le_of_ble_eq_true rfl) rfl dX13_keep_173 ?_
    refine VW.sub (lv' := [(0, .ref th), (1, .ref p0), (2, .int x13)]) ?_ [1, 2, 0] rfl
    refine zloop_walk (V := (fun a => VW K a.1 sz 0 0 174 [(0, .ref th), (1, .ref p0), (2, .int a.2)] [])) (E := fun e => e = o) ?_ n (t10, x13) _ h rfl
    intro a14 o15 h kco15 keo15
    unfold fX13_keep_L174 at h
    refine zr_iload_n (pc := 174) hX 2 rfl rfl dX13_keep_174 ?_
    refine zr_if_lt (pc := 175) hX 344 rfl dX13_keep_175 (fun c175_69 => ?_) (fun c175_69 => ?_)
    · rw [if_pos c175_69] at h
      replace h := congrArg some (keo15 _ (Option.some.inj h).symm)
      exact hret _ (Option.some.inj h).symm _ _ dX13_keep_344
    · rw [if_neg c175_69] at h
      refine zr_aload_n (pc := 178) hX 0 rfl rfl dX13_keep_178 ?_
      obtain ⟨r16, gr16, h⟩ := bnd h
      refine zr_fv (pc := 179) hX za11_7 (zgR_spec gr16) q1198 (Or.inl rfl) dX13_keep_179 ?_
      refine zr_iload_n (pc := 182) hX 2 rfl rfl dX13_keep_182 ?_
      refine zr_iconst (pc := 183) hX zci_0 dX13_keep_183 ?_
      obtain ⟨σ17, gσ17, h⟩ := bnd h
      refine zr_sI (pc := 184) hX gσ17 dX13_keep_184 ?_
      refine zr_aload_n (pc := 185) hX 0 rfl rfl dX13_keep_185 ?_
      obtain ⟨r18, gr18, h⟩ := bnd h
      refine zr_fv (pc := 186) hX za11_1 (zgR_spec gr18) q1093 (Or.inr q1094) dX13_keep_186 ?_
      refine zr_iload_n (pc := 189) hX 2 rfl rfl dX13_keep_189 ?_
      refine zr_iconst (pc := 190) hX zci_0 dX13_keep_190 ?_
      obtain ⟨σ19, gσ19, h⟩ := bnd h
      refine zr_sI (pc := 191) hX gσ19 dX13_keep_191 ?_
      refine zr_iconst (pc := 192) hX zci_0 dX13_keep_192 ?_
      refine zr_istore_n (pc := 193) hX rfl rfl (Nat.le_of_ble_eq_true rfl) rfl dX13_keep_193 ?_
      obtain ⟨t22, gt22, h⟩ := bnd h
      have hJt22 : ∀ a, a = t22 → VW K a sz 0 0 338 [(0, .ref th), (1, .ref p0), (2, .int a14.2)] [] := by
        intro a ea
        rw [ea]
        obtain ⟨x23, gx23, h⟩ := bnd h
        refine zr_iinc (pc := 338) hX 2 rfl zci_m1 (Option.some.inj gx23) (Nat.le_of_ble_eq_true rfl) rfl dX13_keep_338 ?_
        refine zr_goto (pc := 341) hX 174 rfl dX13_keep_341 ?_
        exact VW.sub (kco15 (t22, x23) (Option.some.inj h).symm) [1, 2, 0] rfl
      refine VW.sub (lv' := [(0, .ref th), (1, .ref p0), (2, .int a14.2), (3, .int (0 : Int32))]) ?_ [1, 2, 3, 0] rfl
      refine zloop_walk (V := (fun a => VW K a.1 sz 0 0 194 [(0, .ref th), (1, .ref p0), (2, .int a14.2), (3, .int a.2)] [])) (E := fun e => e = t22) ?_ n (σ19, (0 : Int32)) _ gt22 rfl
      intro a20 o21 h kco21 keo21
      unfold fX13_keep_L194 at h
      refine zr_iload_n (pc := 194) hX 3 rfl rfl dX13_keep_194 ?_
      refine zr_aload_n (pc := 195) hX 0 rfl rfl dX13_keep_195 ?_
      obtain ⟨r24, gr24, h⟩ := bnd h
      refine zr_fv (pc := 196) hX za11_4 (zgR_spec gr24) q1195 (Or.inl rfl) dX13_keep_196 ?_
      obtain ⟨u25, gu25, h⟩ := bnd h
      obtain ⟨t26, gt26, h⟩ := bnd h
      refine zr_callF (pc := 199) (rest := [.int a20.2]) (stk' := [.int t26, .int a20.2]) (k' := 0) (n' := 0) hX (fun l s0 D => mJ2_size l s0 D gt26) gu25 zwJ2_size (by decide) q599 q384 q382 rfl rfl rfl rfl rfl rfl rfl rfl rfl dX13_keep_199 ?_
      refine zr_icmp_ge (pc := 204) hX 338 rfl dX13_keep_204 (fun c204_68 => ?_) (fun c204_68 => ?_)
      · rw [if_pos c204_68] at h
        exact VW.sub (hJt22 a20.1 (keo21 _ (Option.some.inj h).symm)) [0, 1, 2] rfl
      · rw [if_neg c204_68] at h
        refine zr_aload_n (pc := 207) hX 0 rfl rfl dX13_keep_207 ?_
        obtain ⟨r27, gr27, h⟩ := bnd h
        refine zr_fv (pc := 208) hX za11_4 (zgR_spec gr27) q1195 (Or.inl rfl) dX13_keep_208 ?_
        refine zr_iload_n (pc := 211) hX 3 rfl rfl dX13_keep_211 ?_
        obtain ⟨u28, gu28, h⟩ := bnd h
        obtain ⟨t29, gt29, h⟩ := bnd h
        refine zr_callF (pc := 212) (rest := []) (stk' := [.ref t29]) (k' := 0) (n' := 0) hX (fun l s0 D => mJ2_get l s0 D gt29) gu28 zwJ2_get (by decide) q601 q405 q403 rfl rfl rfl rfl rfl rfl rfl rfl rfl dX13_keep_212 ?_
        obtain ⟨u30, gu30, h⟩ := bnd h
        refine zr_cast (pc := 217) hX gu30 zc6 q602 (Or.inl rfl) dX13_keep_217 ?_
        refine zr_astore (pc := 220) hX rfl (Nat.le_of_ble_eq_true rfl) rfl dX13_keep_220 ?_
        refine zr_aload_n (pc := 222) hX 1 rfl rfl dX13_keep_222 ?_
        obtain ⟨r31, gr31, h⟩ := bnd h
        refine zr_fv (pc := 223) hX za11_7 (zgR_spec gr31) q1198 (Or.inl rfl) dX13_keep_223 ?_
        refine zr_iload_n (pc := 226) hX 3 rfl rfl dX13_keep_226 ?_
        refine zr_iconst (pc := 227) hX zci_1 dX13_keep_227 ?_
        refine zr_iadd (pc := 228) hX dX13_keep_228 ?_
        obtain ⟨x32, gx32, h⟩ := bnd h
        refine zr_aI (pc := 229) hX gx32 dX13_keep_229 ?_
        refine zr_aload (pc := 230) hX 0 rfl dX13_keep_230 ?_
        obtain ⟨u33, gu33, h⟩ := bnd h
        obtain ⟨t34, gt34, h⟩ := bnd h
        refine zr_callVs (pc := 232) (rest := [.int x32]) (stk' := [.int t34, .int x32]) (k' := 0) (n' := 0) hX (fun l s0 D => mX7_next l s0 D gt34) gu33 zc6 zwX7_next q615 q616 q617 rfl rfl rfl rfl rfl rfl rfl rfl rfl dX13_keep_232 ?_
        obtain ⟨t35, gt35, h⟩ := bnd h
        refine zr_callSN (pc := 235) (rest := []) (stk' := [.int t35]) (k' := 0) (n' := 0) hX (fun l s0 D => mX1_has l s0 D gt35) zwX1_has q607 q432 rfl rfl rfl rfl rfl rfl rfl rfl dX13_keep_235 ?_
        obtain ⟨t36, gt36, h⟩ := bnd h
        have hJt36 : ∀ a, t36 = a → VW K a20.1 sz 0 0 263 [(0, .ref th), (1, .ref p0), (2, .int a14.2), (3, .int a20.2), (4, .ref t29)] [.int a] := by
          intro a ea
          subst ea
          refine zr_istore (pc := 263) hX rfl (Nat.le_of_ble_eq_true rfl) rfl dX13_keep_263 ?_
          refine zr_aload_n (pc := 265) hX 1 rfl rfl dX13_keep_265 ?_
          obtain ⟨r37, gr37, h⟩ := bnd h
          refine zr_fv (pc := 266) hX za11_7 (zgR_spec gr37) q1198 (Or.inl rfl) dX13_keep_266 ?_
          refine zr_iload_n (pc := 269) hX 3 rfl rfl dX13_keep_269 ?_
          refine zr_dup2 (pc := 270) hX rfl rfl dX13_keep_270 ?_
          obtain ⟨x38, gx38, h⟩ := bnd h
          refine zr_aI (pc := 271) hX gx38 dX13_keep_271 ?_
          refine zr_iload (pc := 272) hX 0 rfl dX13_keep_272 ?_
          obtain ⟨t39, gt39, h⟩ := bnd h
          have hJt39 : ∀ a, t39 = a → VW K a20.1 sz 0 0 288 [(0, .ref th), (1, .ref p0), (2, .int a14.2), (3, .int a20.2), (4, .ref t29), (5, .int t36)] [.int a, .int x38, .int a14.2, .ref r37] := by
            intro a ea
            subst ea
            refine zr_ior (pc := 288) hX dX13_keep_288 ?_
            obtain ⟨σ40, gσ40, h⟩ := bnd h
            refine zr_sI (pc := 289) hX gσ40 dX13_keep_289 ?_
            refine zr_aload_n (pc := 290) hX 0 rfl rfl dX13_keep_290 ?_
            obtain ⟨r41, gr41, h⟩ := bnd h
            refine zr_fv (pc := 291) hX za11_1 (zgR_spec gr41) q1093 (Or.inr q1094) dX13_keep_291 ?_
            refine zr_iload_n (pc := 294) hX 2 rfl rfl dX13_keep_294 ?_
            refine zr_dup2 (pc := 295) hX rfl rfl dX13_keep_295 ?_
            obtain ⟨x42, gx42, h⟩ := bnd h
            refine zr_aI (pc := 296) hX gx42 dX13_keep_296 ?_
            refine zr_iload (pc := 297) hX 5 rfl dX13_keep_297 ?_
            obtain ⟨t43, gt43, h⟩ := bnd h
            have hJt43 : ∀ a, t43 = a → VW K σ40 sz 0 0 330 [(0, .ref th), (1, .ref p0), (2, .int a14.2), (3, .int a20.2)] [.int a, .int x42, .int a14.2, .ref r41] := by
              intro a ea
              subst ea
              refine zr_ior (pc := 330) hX dX13_keep_330 ?_
              obtain ⟨σ44, gσ44, h⟩ := bnd h
              refine zr_sI (pc := 331) hX gσ44 dX13_keep_331 ?_
              obtain ⟨x45, gx45, h⟩ := bnd h
              refine zr_iinc (pc := 332) hX 3 rfl zci_1 (Option.some.inj gx45) (Nat.le_of_ble_eq_true rfl) rfl dX13_keep_332 ?_
              refine zr_goto (pc := 335) hX 194 rfl dX13_keep_335 ?_
              exact VW.sub (kco21 (σ44, x45) (Option.some.inj h).symm) [1, 2, 3, 0] rfl
            replace h := gt43
            obtain ⟨u47, gu47, hAu47, hBu47⟩ := zesc_bnd h
            have hJt46 : ∀ a, u47 = .inl a → VW K σ40 sz 0 0 329 [(0, .ref th), (1, .ref p0), (2, .int a14.2), (3, .int a20.2)] [.int x42, .int a14.2, .ref r41] := by
              intro t46 ea
              have h := hAu47 _ ea
              refine zr_iconst (pc := 329) hX zci_0 dX13_keep_329 ?_
              exact VW.sub (hJt43 (0 : Int32) (Option.some.inj h).symm) [0, 1, 2, 3] rfl
            replace h := gu47
            refine zr_if_eq (pc := 299) hX 329 rfl dX13_keep_299 (fun c299_55 => ?_) (fun c299_55 => ?_)
            · rw [if_pos c299_55] at h
              exact VW.sub (hJt46 () (Option.some.inj h).symm) [0, 1, 2, 3] rfl
            · rw [if_neg c299_55] at h
              refine zr_aload_n (pc := 302) hX 0 rfl rfl dX13_keep_302 ?_
              obtain ⟨r48, gr48, h⟩ := bnd h
              refine zr_fv (pc := 303) hX za11_6 (zgR_spec gr48) q1197 (Or.inl rfl) dX13_keep_303 ?_
              refine zr_iload_n (pc := 306) hX 2 rfl rfl dX13_keep_306 ?_
              obtain ⟨x49, gx49, h⟩ := bnd h
              refine zr_aI (pc := 307) hX gx49 dX13_keep_307 ?_
              refine zr_aload (pc := 308) hX 4 rfl dX13_keep_308 ?_
              obtain ⟨u50, gu50, h⟩ := bnd h
              obtain ⟨t51, gt51, h⟩ := bnd h
              refine zr_callVs (pc := 310) (rest := [.int x49, .int x42, .int a14.2, .ref r41]) (stk' := [.int t51, .int x49, .int x42, .int a14.2, .ref r41]) (k' := 0) (n' := 0) hX (fun l s0 D => mX7_state l s0 D gt51) gu50 zc6 zwX7_state q603 q604 q605 rfl rfl rfl rfl rfl rfl rfl rfl rfl dX13_keep_310 ?_
              obtain ⟨t52, gt52, h⟩ := bnd h
              refine zr_callSN (pc := 313) (rest := [.int x42, .int a14.2, .ref r41]) (stk' := [.int t52, .int x42, .int a14.2, .ref r41]) (k' := 0) (n' := 0) hX (fun l s0 D => mX1_has l s0 D gt52) zwX1_has q607 q432 rfl rfl rfl rfl rfl rfl rfl rfl dX13_keep_313 ?_
              refine zr_if_eq (pc := 316) hX 329 rfl dX13_keep_316 (fun c316_54 => ?_) (fun c316_54 => ?_)
              · rw [if_pos c316_54] at h
                exact VW.sub (hJt46 () (Option.some.inj h).symm) [0, 1, 2, 3] rfl
              · rw [if_neg c316_54] at h
                refine zr_iconst (pc := 319) hX zci_1 dX13_keep_319 ?_
                refine zr_aload (pc := 320) hX 4 rfl dX13_keep_320 ?_
                obtain ⟨u53, gu53, h⟩ := bnd h
                obtain ⟨t54, gt54, h⟩ := bnd h
                refine zr_callVs (pc := 322) (rest := [.int (1 : Int32), .int x42, .int a14.2, .ref r41]) (stk' := [.int t54, .int (1 : Int32), .int x42, .int a14.2, .ref r41]) (k' := 0) (n' := 0) hX (fun l s0 D => mX7_value l s0 D gt54) gu53 zc6 zwX7_value q611 q612 q613 rfl rfl rfl rfl rfl rfl rfl rfl rfl dX13_keep_322 ?_
                refine zr_ishl (pc := 325) hX dX13_keep_325 ?_
                refine zr_goto (pc := 326) hX 330 rfl dX13_keep_326 ?_
                replace h := congrArg some (hBu47 _ (Option.some.inj h).symm)
                exact VW.sub (hJt43 ((1 : Int32) <<< (t54 &&& 31)) (Option.some.inj h).symm) [0, 1, 2, 3] rfl
          replace h := gt39
          refine zr_if_eq (pc := 274) hX 287 rfl dX13_keep_274 (fun c274_58 => ?_) (fun c274_58 => ?_)
          · rw [if_pos c274_58] at h
            refine zr_iconst (pc := 287) hX zci_0 dX13_keep_287 ?_
            exact VW.sub (hJt39 (0 : Int32) (Option.some.inj h).symm) [1, 2, 3, 4, 5, 0] rfl
          · rw [if_neg c274_58] at h
            refine zr_iconst (pc := 277) hX zci_1 dX13_keep_277 ?_
            refine zr_aload (pc := 278) hX 5 rfl dX13_keep_278 ?_
            obtain ⟨u57, gu57, h⟩ := bnd h
            obtain ⟨t58, gt58, h⟩ := bnd h
            refine zr_callVs (pc := 280) (rest := [.int (1 : Int32), .int x38, .int a14.2, .ref r37]) (stk' := [.int t58, .int (1 : Int32), .int x38, .int a14.2, .ref r37]) (k' := 0) (n' := 0) hX (fun l s0 D => mX7_state l s0 D gt58) gu57 zc6 zwX7_state q603 q604 q605 rfl rfl rfl rfl rfl rfl rfl rfl rfl dX13_keep_280 ?_
            refine zr_ishl (pc := 283) hX dX13_keep_283 ?_
            refine zr_goto (pc := 284) hX 288 rfl dX13_keep_284 ?_
            exact VW.sub (hJt39 ((1 : Int32) <<< (t58 &&& 31)) (Option.some.inj h).symm) [1, 2, 3, 4, 5, 0] rfl
        replace h := gt36
        obtain ⟨u61, gu61, hAu61, hBu61⟩ := zesc_bnd h
        have hJt60 : ∀ a, u61 = .inl a → VW K a20.1 sz 0 0 262 [(0, .ref th), (1, .ref p0), (2, .int a14.2), (3, .int a20.2), (4, .ref t29)] [] := by
          intro t60 ea
          have h := hAu61 _ ea
          refine zr_iconst (pc := 262) hX zci_0 dX13_keep_262 ?_
          exact VW.sub (hJt36 (0 : Int32) (Option.some.inj h).symm) [0, 1, 2, 3, 4] rfl
        replace h := gu61
        refine zr_if_eq (pc := 238) hX 262 rfl dX13_keep_238 (fun c238_67 => ?_) (fun c238_67 => ?_)
        · rw [if_pos c238_67] at h
          exact VW.sub (hJt60 () (Option.some.inj h).symm) [1, 2, 3, 4, 0] rfl
        · rw [if_neg c238_67] at h
          refine zr_aload_n (pc := 241) hX 1 rfl rfl dX13_keep_241 ?_
          refine zr_aload_n (pc := 242) hX 2 rfl rfl dX13_keep_242 ?_
          refine zr_iload_n (pc := 243) hX 3 rfl rfl dX13_keep_243 ?_
          obtain ⟨u62, gu62, h⟩ := bnd h
          obtain ⟨t63, gt63, h⟩ := bnd h
          refine zr_callU (pc := 244) (rest := []) (stk' := [.int t63]) (k' := 0) (n' := 0) hX (fun l s0 D => mX9_domain l s0 D gt63) gu62 zc11 zwX9_domain q608 q609 q479 q610 (Or.inl ⟨q479, _, _, _, q480⟩) (by decide) rfl rfl rfl rfl rfl rfl rfl rfl rfl dX13_keep_244 ?_
          refine zr_aload (pc := 247) hX 0 rfl dX13_keep_247 ?_
          obtain ⟨u64, gu64, h⟩ := bnd h
          obtain ⟨t65, gt65, h⟩ := bnd h
          refine zr_callVs (pc := 249) (rest := [.int t63]) (stk' := [.int t65, .int t63]) (k' := 0) (n' := 0) hX (fun l s0 D => mX7_value l s0 D gt65) gu64 zc6 zwX7_value q611 q612 q613 rfl rfl rfl rfl rfl rfl rfl rfl rfl dX13_keep_249 ?_
          obtain ⟨t66, gt66, h⟩ := bnd h
          refine zr_callSN (pc := 252) (rest := []) (stk' := [.int t66]) (k' := 0) (n' := 0) hX (fun l s0 D => mX1_has l s0 D gt66) zwX1_has q607 q432 rfl rfl rfl rfl rfl rfl rfl rfl dX13_keep_252 ?_
          refine zr_if_eq (pc := 255) hX 262 rfl dX13_keep_255 (fun c255_66 => ?_) (fun c255_66 => ?_)
          · rw [if_pos c255_66] at h
            exact VW.sub (hJt60 () (Option.some.inj h).symm) [1, 2, 3, 4, 0] rfl
          · rw [if_neg c255_66] at h
            refine zr_iconst (pc := 258) hX zci_1 dX13_keep_258 ?_
            refine zr_goto (pc := 259) hX 263 rfl dX13_keep_259 ?_
            replace h := congrArg some (hBu61 _ (Option.some.inj h).symm)
            exact VW.sub (hJt36 (1 : Int32) (Option.some.inj h).symm) [1, 2, 3, 4, 0] rfl
  refine VW.sub (lv' := [(0, .ref th), (1, .ref p0), (2, .int (0 : Int32))]) ?_ [1, 2, 0] rfl
  refine zloop_walk (V := (fun a => VW K a.1 sz 0 0 22 [(0, .ref th), (1, .ref p0), (2, .int a.2)] [])) (E := fun e => e = t10) ?_ n (σ7, (0 : Int32)) _ gt10 rfl
  intro a8 o9 h kco9 keo9
  unfold fX13_keep_L22 at h
  refine zr_iload_n (pc := 22) hX 2 rfl rfl dX13_keep_22 ?_
  refine zr_aload_n (pc := 23) hX 0 rfl rfl dX13_keep_23 ?_
  obtain ⟨u71, gu71, h⟩ := bnd h
  obtain ⟨t72, gt72, h⟩ := bnd h
  refine zr_callU (pc := 24) (rest := [.int a8.2]) (stk' := [.int t72, .int a8.2]) (k' := 0) (n' := 0) hX (fun l s0 D => mX9_size l s0 D gt72) gu71 zc11 zwX9_size q595 q596 q473 q597 (Or.inl ⟨q473, _, _, _, q474⟩) (by decide) rfl rfl rfl rfl rfl rfl rfl rfl rfl dX13_keep_24 ?_
  refine zr_icmp_ge (pc := 27) hX 167 rfl dX13_keep_27 (fun c27_117 => ?_) (fun c27_117 => ?_)
  · rw [if_pos c27_117] at h
    exact VW.sub (hJt10 a8.1 (keo9 _ (Option.some.inj h).symm)) [0, 1] rfl
  · rw [if_neg c27_117] at h
    refine zr_aload_n (pc := 30) hX 0 rfl rfl dX13_keep_30 ?_
    obtain ⟨r73, gr73, h⟩ := bnd h
    refine zr_fv (pc := 31) hX za11_6 (zgR_spec gr73) q1197 (Or.inl rfl) dX13_keep_31 ?_
    refine zr_iload_n (pc := 34) hX 2 rfl rfl dX13_keep_34 ?_
    refine zr_iconst (pc := 35) hX zci_1 dX13_keep_35 ?_
    refine zr_iadd (pc := 36) hX dX13_keep_36 ?_
    refine zr_iconst (pc := 37) hX zci_0 dX13_keep_37 ?_
    obtain ⟨σ74, gσ74, h⟩ := bnd h
    refine zr_sI (pc := 38) hX gσ74 dX13_keep_38 ?_
    refine zr_iconst (pc := 39) hX zci_0 dX13_keep_39 ?_
    refine zr_istore_n (pc := 40) hX rfl rfl (Nat.le_of_ble_eq_true rfl) rfl dX13_keep_40 ?_
    obtain ⟨t77, gt77, h⟩ := bnd h
    have hJt77 : ∀ a, a = t77 → VW K a sz 0 0 161 [(0, .ref th), (1, .ref p0), (2, .int a8.2)] [] := by
      intro a ea
      rw [ea]
      obtain ⟨x78, gx78, h⟩ := bnd h
      refine zr_iinc (pc := 161) hX 2 rfl zci_1 (Option.some.inj gx78) (Nat.le_of_ble_eq_true rfl) rfl dX13_keep_161 ?_
      refine zr_goto (pc := 164) hX 22 rfl dX13_keep_164 ?_
      exact VW.sub (kco9 (t77, x78) (Option.some.inj h).symm) [1, 2, 0] rfl
    refine VW.sub (lv' := [(0, .ref th), (1, .ref p0), (2, .int a8.2), (3, .int (0 : Int32))]) ?_ [1, 2, 3, 0] rfl
    refine zloop_walk (V := (fun a => VW K a.1 sz 0 0 41 [(0, .ref th), (1, .ref p0), (2, .int a8.2), (3, .int a.2)] [])) (E := fun e => e = t77) ?_ n (σ74, (0 : Int32)) _ gt77 rfl
    intro a75 o76 h kco76 keo76
    unfold fX13_keep_L41 at h
    refine zr_iload_n (pc := 41) hX 3 rfl rfl dX13_keep_41 ?_
    refine zr_aload_n (pc := 42) hX 0 rfl rfl dX13_keep_42 ?_
    obtain ⟨r79, gr79, h⟩ := bnd h
    refine zr_fv (pc := 43) hX za11_4 (zgR_spec gr79) q1195 (Or.inl rfl) dX13_keep_43 ?_
    obtain ⟨u80, gu80, h⟩ := bnd h
    obtain ⟨t81, gt81, h⟩ := bnd h
    refine zr_callF (pc := 46) (rest := [.int a75.2]) (stk' := [.int t81, .int a75.2]) (k' := 0) (n' := 0) hX (fun l s0 D => mJ2_size l s0 D gt81) gu80 zwJ2_size (by decide) q599 q384 q382 rfl rfl rfl rfl rfl rfl rfl rfl rfl dX13_keep_46 ?_
    refine zr_icmp_ge (pc := 51) hX 161 rfl dX13_keep_51 (fun c51_116 => ?_) (fun c51_116 => ?_)
    · rw [if_pos c51_116] at h
      exact VW.sub (hJt77 a75.1 (keo76 _ (Option.some.inj h).symm)) [0, 1, 2] rfl
    · rw [if_neg c51_116] at h
      refine zr_aload_n (pc := 54) hX 0 rfl rfl dX13_keep_54 ?_
      obtain ⟨r82, gr82, h⟩ := bnd h
      refine zr_fv (pc := 55) hX za11_6 (zgR_spec gr82) q1197 (Or.inl rfl) dX13_keep_55 ?_
      refine zr_iload_n (pc := 58) hX 2 rfl rfl dX13_keep_58 ?_
      obtain ⟨x83, gx83, h⟩ := bnd h
      refine zr_aI (pc := 59) hX gx83 dX13_keep_59 ?_
      refine zr_aload_n (pc := 60) hX 0 rfl rfl dX13_keep_60 ?_
      obtain ⟨r84, gr84, h⟩ := bnd h
      refine zr_fv (pc := 61) hX za11_4 (zgR_spec gr84) q1195 (Or.inl rfl) dX13_keep_61 ?_
      refine zr_iload_n (pc := 64) hX 3 rfl rfl dX13_keep_64 ?_
      obtain ⟨u85, gu85, h⟩ := bnd h
      obtain ⟨t86, gt86, h⟩ := bnd h
      refine zr_callF (pc := 65) (rest := [.int x83]) (stk' := [.ref t86, .int x83]) (k' := 0) (n' := 0) hX (fun l s0 D => mJ2_get l s0 D gt86) gu85 zwJ2_get (by decide) q601 q405 q403 rfl rfl rfl rfl rfl rfl rfl rfl rfl dX13_keep_65 ?_
      obtain ⟨u87, gu87, h⟩ := bnd h
      refine zr_cast (pc := 70) hX gu87 zc6 q602 (Or.inl rfl) dX13_keep_70 ?_
      obtain ⟨u88, gu88, h⟩ := bnd h
      obtain ⟨t89, gt89, h⟩ := bnd h
      refine zr_callVs (pc := 73) (rest := [.int x83]) (stk' := [.int t89, .int x83]) (k' := 0) (n' := 0) hX (fun l s0 D => mX7_state l s0 D gt89) gu88 zc6 zwX7_state q603 q604 q605 rfl rfl rfl rfl rfl rfl rfl rfl rfl dX13_keep_73 ?_
      obtain ⟨t90, gt90, h⟩ := bnd h
      refine zr_callSN (pc := 76) (rest := []) (stk' := [.int t90]) (k' := 0) (n' := 0) hX (fun l s0 D => mX1_has l s0 D gt90) zwX1_has q607 q432 rfl rfl rfl rfl rfl rfl rfl rfl dX13_keep_76 ?_
      obtain ⟨t91, gt91, h⟩ := bnd h
      have hJt91 : ∀ a, t91 = a → VW K a75.1 sz 0 0 115 [(0, .ref th), (1, .ref p0), (2, .int a8.2), (3, .int a75.2)] [.int a] := by
        intro a ea
        subst ea
        refine zr_istore (pc := 115) hX rfl (Nat.le_of_ble_eq_true rfl) rfl dX13_keep_115 ?_
        refine zr_aload_n (pc := 117) hX 1 rfl rfl dX13_keep_117 ?_
        obtain ⟨r92, gr92, h⟩ := bnd h
        refine zr_fv (pc := 118) hX za11_6 (zgR_spec gr92) q1197 (Or.inl rfl) dX13_keep_118 ?_
        refine zr_iload_n (pc := 121) hX 3 rfl rfl dX13_keep_121 ?_
        refine zr_iconst (pc := 122) hX zci_1 dX13_keep_122 ?_
        refine zr_iadd (pc := 123) hX dX13_keep_123 ?_
        refine zr_dup2 (pc := 124) hX rfl rfl dX13_keep_124 ?_
        obtain ⟨x93, gx93, h⟩ := bnd h
        refine zr_aI (pc := 125) hX gx93 dX13_keep_125 ?_
        refine zr_iload (pc := 126) hX 0 rfl dX13_keep_126 ?_
        obtain ⟨t94, gt94, h⟩ := bnd h
        have hJt94 : ∀ a, t94 = a → VW K a75.1 sz 0 0 153 [(0, .ref th), (1, .ref p0), (2, .int a8.2), (3, .int a75.2)] [.int a, .int x93, .int (a8.2 + (1 : Int32)), .ref r92] := by
          intro a ea
          subst ea
          refine zr_ior (pc := 153) hX dX13_keep_153 ?_
          obtain ⟨σ95, gσ95, h⟩ := bnd h
          refine zr_sI (pc := 154) hX gσ95 dX13_keep_154 ?_
          obtain ⟨x96, gx96, h⟩ := bnd h
          refine zr_iinc (pc := 155) hX 3 rfl zci_1 (Option.some.inj gx96) (Nat.le_of_ble_eq_true rfl) rfl dX13_keep_155 ?_
          refine zr_goto (pc := 158) hX 41 rfl dX13_keep_158 ?_
          exact VW.sub (kco76 (σ95, x96) (Option.some.inj h).symm) [1, 2, 3, 0] rfl
        replace h := gt94
        refine zr_if_eq (pc := 128) hX 152 rfl dX13_keep_128 (fun c128_102 => ?_) (fun c128_102 => ?_)
        · rw [if_pos c128_102] at h
          refine zr_iconst (pc := 152) hX zci_0 dX13_keep_152 ?_
          exact VW.sub (hJt94 (0 : Int32) (Option.some.inj h).symm) [1, 2, 3, 4] rfl
        · rw [if_neg c128_102] at h
          refine zr_iconst (pc := 131) hX zci_1 dX13_keep_131 ?_
          refine zr_aload_n (pc := 132) hX 1 rfl rfl dX13_keep_132 ?_
          obtain ⟨r97, gr97, h⟩ := bnd h
          refine zr_fv (pc := 133) hX za11_4 (zgR_spec gr97) q1195 (Or.inl rfl) dX13_keep_133 ?_
          refine zr_iload_n (pc := 136) hX 4 rfl rfl dX13_keep_136 ?_
          obtain ⟨u98, gu98, h⟩ := bnd h
          obtain ⟨t99, gt99, h⟩ := bnd h
          refine zr_callF (pc := 137) (rest := [.int (1 : Int32), .int x93, .int (a8.2 + (1 : Int32)), .ref r92]) (stk' := [.ref t99, .int (1 : Int32), .int x93, .int (a8.2 + (1 : Int32)), .ref r92]) (k' := 0) (n' := 0) hX (fun l s0 D => mJ2_get l s0 D gt99) gu98 zwJ2_get (by decide) q601 q405 q403 rfl rfl rfl rfl rfl rfl rfl rfl rfl dX13_keep_137 ?_
          obtain ⟨u100, gu100, h⟩ := bnd h
          refine zr_cast (pc := 142) hX gu100 zc6 q602 (Or.inl rfl) dX13_keep_142 ?_
          obtain ⟨u101, gu101, h⟩ := bnd h
          obtain ⟨t102, gt102, h⟩ := bnd h
          refine zr_callVs (pc := 145) (rest := [.int (1 : Int32), .int x93, .int (a8.2 + (1 : Int32)), .ref r92]) (stk' := [.int t102, .int (1 : Int32), .int x93, .int (a8.2 + (1 : Int32)), .ref r92]) (k' := 0) (n' := 0) hX (fun l s0 D => mX7_next l s0 D gt102) gu101 zc6 zwX7_next q615 q616 q617 rfl rfl rfl rfl rfl rfl rfl rfl rfl dX13_keep_145 ?_
          refine zr_ishl (pc := 148) hX dX13_keep_148 ?_
          refine zr_goto (pc := 149) hX 153 rfl dX13_keep_149 ?_
          exact VW.sub (hJt94 ((1 : Int32) <<< (t102 &&& 31)) (Option.some.inj h).symm) [1, 2, 3, 4] rfl
      replace h := gt91
      obtain ⟨u105, gu105, hAu105, hBu105⟩ := zesc_bnd h
      have hJt104 : ∀ a, u105 = .inl a → VW K a75.1 sz 0 0 114 [(0, .ref th), (1, .ref p0), (2, .int a8.2), (3, .int a75.2)] [] := by
        intro t104 ea
        have h := hAu105 _ ea
        refine zr_iconst (pc := 114) hX zci_0 dX13_keep_114 ?_
        exact VW.sub (hJt91 (0 : Int32) (Option.some.inj h).symm) [0, 1, 2, 3] rfl
      replace h := gu105
      refine zr_if_eq (pc := 79) hX 114 rfl dX13_keep_79 (fun c79_115 => ?_) (fun c79_115 => ?_)
      · rw [if_pos c79_115] at h
        exact VW.sub (hJt104 () (Option.some.inj h).symm) [0, 1, 2, 3] rfl
      · rw [if_neg c79_115] at h
        refine zr_aload_n (pc := 82) hX 0 rfl rfl dX13_keep_82 ?_
        refine zr_aload_n (pc := 83) hX 1 rfl rfl dX13_keep_83 ?_
        refine zr_iload_n (pc := 84) hX 2 rfl rfl dX13_keep_84 ?_
        obtain ⟨u106, gu106, h⟩ := bnd h
        obtain ⟨t107, gt107, h⟩ := bnd h
        refine zr_callU (pc := 85) (rest := []) (stk' := [.int t107]) (k' := 0) (n' := 0) hX (fun l s0 D => mX9_domain l s0 D gt107) gu106 zc11 zwX9_domain q608 q609 q479 q610 (Or.inl ⟨q479, _, _, _, q480⟩) (by decide) rfl rfl rfl rfl rfl rfl rfl rfl rfl dX13_keep_85 ?_
        refine zr_aload_n (pc := 88) hX 0 rfl rfl dX13_keep_88 ?_
        obtain ⟨r108, gr108, h⟩ := bnd h
        refine zr_fv (pc := 89) hX za11_4 (zgR_spec gr108) q1195 (Or.inl rfl) dX13_keep_89 ?_
        refine zr_iload_n (pc := 92) hX 3 rfl rfl dX13_keep_92 ?_
        obtain ⟨u109, gu109, h⟩ := bnd h
        obtain ⟨t110, gt110, h⟩ := bnd h
        refine zr_callF (pc := 93) (rest := [.int t107]) (stk' := [.ref t110, .int t107]) (k' := 0) (n' := 0) hX (fun l s0 D => mJ2_get l s0 D gt110) gu109 zwJ2_get (by decide) q601 q405 q403 rfl rfl rfl rfl rfl rfl rfl rfl rfl dX13_keep_93 ?_
        obtain ⟨u111, gu111, h⟩ := bnd h
        refine zr_cast (pc := 98) hX gu111 zc6 q602 (Or.inl rfl) dX13_keep_98 ?_
        obtain ⟨u112, gu112, h⟩ := bnd h
        obtain ⟨t113, gt113, h⟩ := bnd h
        refine zr_callVs (pc := 101) (rest := [.int t107]) (stk' := [.int t113, .int t107]) (k' := 0) (n' := 0) hX (fun l s0 D => mX7_value l s0 D gt113) gu112 zc6 zwX7_value q611 q612 q613 rfl rfl rfl rfl rfl rfl rfl rfl rfl dX13_keep_101 ?_
        obtain ⟨t114, gt114, h⟩ := bnd h
        refine zr_callSN (pc := 104) (rest := []) (stk' := [.int t114]) (k' := 0) (n' := 0) hX (fun l s0 D => mX1_has l s0 D gt114) zwX1_has q607 q432 rfl rfl rfl rfl rfl rfl rfl rfl dX13_keep_104 ?_
        refine zr_if_eq (pc := 107) hX 114 rfl dX13_keep_107 (fun c107_114 => ?_) (fun c107_114 => ?_)
        · rw [if_pos c107_114] at h
          exact VW.sub (hJt104 () (Option.some.inj h).symm) [0, 1, 2, 3] rfl
        · rw [if_neg c107_114] at h
          refine zr_iconst (pc := 110) hX zci_1 dX13_keep_110 ?_
          refine zr_goto (pc := 111) hX 115 rfl dX13_keep_111 ?_
          replace h := congrArg some (hBu105 _ (Option.some.inj h).symm)
          exact VW.sub (hJt91 (1 : Int32) (Option.some.inj h).symm) [0, 1, 2, 3] rfl
set_option maxHeartbeats 4000000 in
theorem mX14_canTell (l : Launch) (s0 : State) (D : zD) {σ : zH} {sz : Nat} {th : Nat} {p0 : Nat} {p1 : Int32} {o : Int32} (h : fX14_canTell σ th p0 p1 = some o) : zM l s0 D yX14_canTell cX14_canTell 3 (some .boolean) 2 22 0 0 [.ref th, .ref p0, .int p1] σ sz σ sz (some (.int o)) := by
  refine zenter (own := RX14) zplX14 rfl (Nat.le_of_ble_eq_true rfl) trivial (fun K hX hnm hret => ?_)
  unfold fX14_canTell at h
  have hret : ∀ a, o = a → zRet K cX14_canTell (some .boolean) σ sz 0 0 (some (.int a)) := fun a e => by cases e; exact hret
  show VW K σ sz 0 0 0 [(0, .ref th), (1, .ref p0), (2, .int p1)] []
  refine zr_iload_n (pc := 0) hX 2 rfl rfl dX14_canTell_0 ?_
  refine zr_aload_n (pc := 1) hX 0 rfl rfl dX14_canTell_1 ?_
  obtain ⟨u1, gu1, h⟩ := bnd h
  obtain ⟨t2, gt2, h⟩ := bnd h
  refine zr_callU (pc := 2) (rest := [.int p1]) (stk' := [.int t2, .int p1]) (k' := 0) (n' := 0) hX (fun l s0 D => mX9_size l s0 D gt2) gu1 zc12 zwX9_size q521 q522 q473 q523 (Or.inl ⟨q473, _, _, _, q474⟩) (by decide) rfl rfl rfl rfl rfl rfl rfl rfl rfl dX14_canTell_2 ?_
  refine zr_iconst (pc := 5) hX zci_2 dX14_canTell_5 ?_
  refine zr_isub (pc := 6) hX dX14_canTell_6 ?_
  refine zr_icmp_ge (pc := 7) hX 27 rfl dX14_canTell_7 (fun c7_6 => ?_) (fun c7_6 => ?_)
  · rw [if_pos c7_6] at h
    refine zr_iconst (pc := 27) hX zci_0 dX14_canTell_27 ?_
    exact hret _ (Option.some.inj h).symm _ _ dX14_canTell_28 (Or.inr ⟨rfl, Or.inl rfl⟩)
  · rw [if_neg c7_6] at h
    refine zr_aload_n (pc := 10) hX 0 rfl rfl dX14_canTell_10 ?_
    refine zr_aload_n (pc := 11) hX 1 rfl rfl dX14_canTell_11 ?_
    refine zr_iconst (pc := 12) hX zci_1 dX14_canTell_12 ?_
    obtain ⟨u3, gu3, h⟩ := bnd h
    obtain ⟨t4, gt4, h⟩ := bnd h
    refine zr_callU (pc := 13) (rest := []) (stk' := [.int t4]) (k' := 0) (n' := 0) hX (fun l s0 D => mX9_domain l s0 D gt4) gu3 zc12 zwX9_domain q529 q530 q479 q531 (Or.inl ⟨q479, _, _, _, q480⟩) (by decide) rfl rfl rfl rfl rfl rfl rfl rfl rfl dX14_canTell_13 ?_
    refine zr_iload_n (pc := 16) hX 2 rfl rfl dX14_canTell_16 ?_
    obtain ⟨t5, gt5, h⟩ := bnd h
    refine zr_callSN (pc := 17) (rest := []) (stk' := [.int t5]) (k' := 0) (n' := 0) hX (fun l s0 D => mX1_has l s0 D gt5) zwX1_has q532 q432 rfl rfl rfl rfl rfl rfl rfl rfl dX14_canTell_17 ?_
    refine zr_if_eq (pc := 20) hX 27 rfl dX14_canTell_20 (fun c20_5 => ?_) (fun c20_5 => ?_)
    · rw [if_pos c20_5] at h
      refine zr_iconst (pc := 27) hX zci_0 dX14_canTell_27 ?_
      exact hret _ (Option.some.inj h).symm _ _ dX14_canTell_28 (Or.inr ⟨rfl, Or.inl rfl⟩)
    · rw [if_neg c20_5] at h
      refine zr_iconst (pc := 23) hX zci_1 dX14_canTell_23 ?_
      refine zr_goto (pc := 24) hX 28 rfl dX14_canTell_24 ?_
      exact hret _ (Option.some.inj h).symm _ _ dX14_canTell_28 (Or.inr ⟨rfl, Or.inr rfl⟩)
set_option maxHeartbeats 4000000 in
theorem mX14_keep (l : Launch) (s0 : State) (D : zD) {n : Nat} {σ : zH} {sz : Nat} {th : Nat} {p0 : Nat} {o : zH} (h : fX14_keep n σ th p0 = some o) : zM l s0 D yX14_keep cX14_keep 5 none 3 44 0 0 [.ref th, .ref p0] σ sz o sz none := by
  refine zenter (own := RX14) zplX14 rfl (Nat.le_of_ble_eq_true rfl) rfl (fun K hX hnm hret => ?_)
  unfold fX14_keep at h
  have hret : ∀ a, o = a → zRet K cX14_keep none a sz 0 0 none := fun a e => by cases e; exact hret
  show VW K σ sz 0 0 0 [(0, .ref th), (1, .ref p0)] []
  refine zr_aload_n (pc := 0) hX 0 rfl rfl dX14_keep_0 ?_
  obtain ⟨r1, gr1, h⟩ := bnd h
  refine zr_fv (pc := 1) hX za12_1 (zgR_spec gr1) q1095 (Or.inr q1096) dX14_keep_1 ?_
  refine zr_iconst (pc := 4) hX zci_0 dX14_keep_4 ?_
  refine zr_iconst (pc := 5) hX zci_0 dX14_keep_5 ?_
  obtain ⟨σ2, gσ2, h⟩ := bnd h
  refine zr_sI (pc := 6) hX gσ2 dX14_keep_6 ?_
  refine zr_aload_n (pc := 7) hX 0 rfl rfl dX14_keep_7 ?_
  obtain ⟨r3, gr3, h⟩ := bnd h
  refine zr_fv (pc := 8) hX za12_1 (zgR_spec gr3) q1095 (Or.inr q1096) dX14_keep_8 ?_
  refine zr_iconst (pc := 11) hX zci_1 dX14_keep_11 ?_
  refine zr_iconst (pc := 12) hX zci_0 dX14_keep_12 ?_
  obtain ⟨σ4, gσ4, h⟩ := bnd h
  refine zr_sI (pc := 13) hX gσ4 dX14_keep_13 ?_
  refine zr_iconst (pc := 14) hX zci_0 dX14_keep_14 ?_
  refine zr_istore_n (pc := 15) hX rfl rfl (Nat.le_of_ble_eq_true rfl) rfl dX14_keep_15 ?_
  refine zr_iconst (pc := 16) hX zci_0 dX14_keep_16 ?_
  refine zr_istore_n (pc := 17) hX rfl rfl (Nat.le_of_ble_eq_true rfl) rfl dX14_keep_17 ?_
  obtain ⟨t7, gt7, h⟩ := bnd h
  have hJt7 : ∀ a, a = t7 → VW K a.1 sz 0 0 147 [(0, .ref th), (1, .ref p0), (2, .int a.2)] [] := by
    intro a ea
    rw [ea]
    refine zr_iconst (pc := 147) hX zci_0 dX14_keep_147 ?_
    refine zr_istore_n (pc := 148) hX rfl rfl (Nat.le_of_ble_eq_true rfl) rfl dX14_keep_148 ?_
    refine VW.sub (lv' := [(0, .ref th), (1, .ref p0), (2, .int t7.2), (3, .int (0 : Int32))]) ?_ [1, 2, 3, 0] rfl
    refine zloop_walk (V := (fun a => VW K a.1 sz 0 0 149 [(0, .ref th), (1, .ref p0), (2, .int t7.2), (3, .int a.2)] [])) (E := fun e => e = o) ?_ n (t7.1, (0 : Int32)) _ h rfl
    intro a8 o9 h kco9 keo9
    unfold fX14_keep_L149 at h
    refine zr_iload_n (pc := 149) hX 3 rfl rfl dX14_keep_149 ?_
    refine zr_aload_n (pc := 150) hX 0 rfl rfl dX14_keep_150 ?_
    obtain ⟨u10, gu10, h⟩ := bnd h
    obtain ⟨t11, gt11, h⟩ := bnd h
    refine zr_callU (pc := 151) (rest := [.int a8.2]) (stk' := [.int t11, .int a8.2]) (k' := 0) (n' := 0) hX (fun l s0 D => mX9_size l s0 D gt11) gu10 zc12 zwX9_size q521 q522 q473 q523 (Or.inl ⟨q473, _, _, _, q474⟩) (by decide) rfl rfl rfl rfl rfl rfl rfl rfl rfl dX14_keep_151 ?_
    refine zr_iconst (pc := 154) hX zci_2 dX14_keep_154 ?_
    refine zr_isub (pc := 155) hX dX14_keep_155 ?_
    refine zr_icmp_ge (pc := 156) hX 218 rfl dX14_keep_156 (fun c156_23 => ?_) (fun c156_23 => ?_)
    · rw [if_pos c156_23] at h
      replace h := congrArg some (keo9 _ (Option.some.inj h).symm)
      exact hret _ (Option.some.inj h).symm _ _ dX14_keep_218
    · rw [if_neg c156_23] at h
      refine zr_iload_n (pc := 159) hX 2 rfl rfl dX14_keep_159 ?_
      refine zr_iconst (pc := 160) hX zci_1 dX14_keep_160 ?_
      refine zr_iload_n (pc := 161) hX 3 rfl rfl dX14_keep_161 ?_
      refine zr_ishl (pc := 162) hX dX14_keep_162 ?_
      refine zr_iconst (pc := 163) hX zci_m1 dX14_keep_163 ?_
      refine zr_ixor (pc := 164) hX dX14_keep_164 ?_
      refine zr_iand (pc := 165) hX dX14_keep_165 ?_
      obtain ⟨t12, gt12, h⟩ := bnd h
      have hJt12 : ∀ a, t12 = a → VW K a8.1 sz 0 0 174 [(0, .ref th), (1, .ref p0), (2, .int t7.2), (3, .int a8.2)] [.int a] := by
        intro a ea
        subst ea
        refine zr_istore (pc := 174) hX rfl (Nat.le_of_ble_eq_true rfl) rfl dX14_keep_174 ?_
        refine zr_aload_n (pc := 176) hX 1 rfl rfl dX14_keep_176 ?_
        obtain ⟨r13, gr13, h⟩ := bnd h
        refine zr_fv (pc := 177) hX za12_1 (zgR_spec gr13) q1095 (Or.inr q1096) dX14_keep_177 ?_
        refine zr_iload_n (pc := 180) hX 4 rfl rfl dX14_keep_180 ?_
        refine zr_iconst (pc := 181) hX zci_2 dX14_keep_181 ?_
        refine zr_iadd (pc := 182) hX dX14_keep_182 ?_
        refine zr_iload (pc := 183) hX 0 rfl dX14_keep_183 ?_
        obtain ⟨t14, gt14, h⟩ := bnd h
        have hJt14 : ∀ a, t14 = a → VW K a8.1 sz 0 0 211 [(0, .ref th), (1, .ref p0), (2, .int t7.2), (3, .int a8.2)] [.int a, .int (a8.2 + (2 : Int32)), .ref r13] := by
          intro a ea
          subst ea
          obtain ⟨σ15, gσ15, h⟩ := bnd h
          refine zr_sI (pc := 211) hX gσ15 dX14_keep_211 ?_
          obtain ⟨x16, gx16, h⟩ := bnd h
          refine zr_iinc (pc := 212) hX 3 rfl zci_1 (Option.some.inj gx16) (Nat.le_of_ble_eq_true rfl) rfl dX14_keep_212 ?_
          refine zr_goto (pc := 215) hX 149 rfl dX14_keep_215 ?_
          exact VW.sub (kco9 (σ15, x16) (Option.some.inj h).symm) [1, 2, 3, 0] rfl
        replace h := gt14
        refine zr_if_eq (pc := 185) hX 192 rfl dX14_keep_185 (fun c185_21 => ?_) (fun c185_21 => ?_)
        · rw [if_pos c185_21] at h
          refine zr_aload_n (pc := 192) hX 1 rfl rfl dX14_keep_192 ?_
          refine zr_aload_n (pc := 193) hX 2 rfl rfl dX14_keep_193 ?_
          refine zr_iload_n (pc := 194) hX 4 rfl rfl dX14_keep_194 ?_
          obtain ⟨u17, gu17, h⟩ := bnd h
          obtain ⟨t18, gt18, h⟩ := bnd h
          refine zr_callVs (pc := 195) (rest := [.int (a8.2 + (2 : Int32)), .ref r13]) (stk' := [.int t18, .int (a8.2 + (2 : Int32)), .ref r13]) (k' := 0) (n' := 0) hX (fun l s0 D => mX14_canTell l s0 D gt18) gu17 zc12 zwX14_canTell q524 q526 qs10 rfl rfl rfl rfl rfl rfl rfl rfl rfl dX14_keep_195 ?_
          refine zr_if_eq (pc := 198) hX 210 rfl dX14_keep_198 (fun c198_20 => ?_) (fun c198_20 => ?_)
          · rw [if_pos c198_20] at h
            refine zr_iconst (pc := 210) hX zci_0 dX14_keep_210 ?_
            exact VW.sub (hJt14 (0 : Int32) (Option.some.inj h).symm) [1, 2, 3, 4] rfl
          · rw [if_neg c198_20] at h
            refine zr_aload_n (pc := 201) hX 1 rfl rfl dX14_keep_201 ?_
            refine zr_aload_n (pc := 202) hX 2 rfl rfl dX14_keep_202 ?_
            refine zr_iconst (pc := 203) hX zci_0 dX14_keep_203 ?_
            obtain ⟨u19, gu19, h⟩ := bnd h
            obtain ⟨t20, gt20, h⟩ := bnd h
            refine zr_callU (pc := 204) (rest := [.int (a8.2 + (2 : Int32)), .ref r13]) (stk' := [.int t20, .int (a8.2 + (2 : Int32)), .ref r13]) (k' := 0) (n' := 0) hX (fun l s0 D => mX9_domain l s0 D gt20) gu19 zc12 zwX9_domain q529 q530 q479 q531 (Or.inl ⟨q479, _, _, _, q480⟩) (by decide) rfl rfl rfl rfl rfl rfl rfl rfl rfl dX14_keep_204 ?_
            refine zr_goto (pc := 207) hX 211 rfl dX14_keep_207 ?_
            exact VW.sub (hJt14 t20 (Option.some.inj h).symm) [1, 2, 3, 4] rfl
        · rw [if_neg c185_21] at h
          refine zr_iconst (pc := 188) hX zci_m1 dX14_keep_188 ?_
          refine zr_goto (pc := 189) hX 211 rfl dX14_keep_189 ?_
          exact VW.sub (hJt14 (-1 : Int32) (Option.some.inj h).symm) [1, 2, 3, 4] rfl
      replace h := gt12
      refine zr_if_eq (pc := 166) hX 173 rfl dX14_keep_166 (fun c166_22 => ?_) (fun c166_22 => ?_)
      · rw [if_pos c166_22] at h
        refine zr_iconst (pc := 173) hX zci_0 dX14_keep_173 ?_
        exact VW.sub (hJt12 (0 : Int32) (Option.some.inj h).symm) [0, 1, 2, 3] rfl
      · rw [if_neg c166_22] at h
        refine zr_iconst (pc := 169) hX zci_1 dX14_keep_169 ?_
        refine zr_goto (pc := 170) hX 174 rfl dX14_keep_170 ?_
        exact VW.sub (hJt12 (1 : Int32) (Option.some.inj h).symm) [0, 1, 2, 3] rfl
  refine VW.sub (lv' := [(0, .ref th), (1, .ref p0), (2, .int (0 : Int32)), (3, .int (0 : Int32))]) ?_ [2, 3, 1, 0] rfl
  refine zloop_walk (V := (fun a => VW K a.1 sz 0 0 18 [(0, .ref th), (1, .ref p0), (2, .int a.2.1), (3, .int a.2.2)] [])) (E := fun e => e = t7) ?_ n (σ4, (0 : Int32), (0 : Int32)) _ gt7 rfl
  intro a5 o6 h kco6 keo6
  unfold fX14_keep_L18 at h
  refine zr_iload_n (pc := 18) hX 3 rfl rfl dX14_keep_18 ?_
  refine zr_aload_n (pc := 19) hX 0 rfl rfl dX14_keep_19 ?_
  obtain ⟨u25, gu25, h⟩ := bnd h
  obtain ⟨t26, gt26, h⟩ := bnd h
  refine zr_callU (pc := 20) (rest := [.int a5.2.2]) (stk' := [.int t26, .int a5.2.2]) (k' := 0) (n' := 0) hX (fun l s0 D => mX9_size l s0 D gt26) gu25 zc12 zwX9_size q521 q522 q473 q523 (Or.inl ⟨q473, _, _, _, q474⟩) (by decide) rfl rfl rfl rfl rfl rfl rfl rfl rfl dX14_keep_20 ?_
  refine zr_iconst (pc := 23) hX zci_2 dX14_keep_23 ?_
  refine zr_isub (pc := 24) hX dX14_keep_24 ?_
  refine zr_icmp_ge (pc := 25) hX 147 rfl dX14_keep_25 (fun c25_59 => ?_) (fun c25_59 => ?_)
  · rw [if_pos c25_59] at h
    exact VW.sub (hJt7 (a5.1, a5.2.1) (keo6 _ (Option.some.inj h).symm)) [0, 1, 2] rfl
  · rw [if_neg c25_59] at h
    refine zr_aload_n (pc := 28) hX 0 rfl rfl dX14_keep_28 ?_
    refine zr_aload_n (pc := 29) hX 1 rfl rfl dX14_keep_29 ?_
    refine zr_iload_n (pc := 30) hX 3 rfl rfl dX14_keep_30 ?_
    obtain ⟨u27, gu27, h⟩ := bnd h
    obtain ⟨t28, gt28, h⟩ := bnd h
    refine zr_callVs (pc := 31) (rest := []) (stk' := [.int t28]) (k' := 0) (n' := 0) hX (fun l s0 D => mX14_canTell l s0 D gt28) gu27 zc12 zwX14_canTell q524 q526 qs10 rfl rfl rfl rfl rfl rfl rfl rfl rfl dX14_keep_31 ?_
    obtain ⟨t29, gt29, h⟩ := bnd h
    have hJt29 : ∀ a, t29 = a → VW K a5.1 sz 0 0 60 [(0, .ref th), (1, .ref p0), (2, .int a5.2.1), (3, .int a5.2.2)] [.int a] := by
      intro a ea
      subst ea
      refine zr_istore (pc := 60) hX rfl (Nat.le_of_ble_eq_true rfl) rfl dX14_keep_60 ?_
      refine zr_aload_n (pc := 62) hX 1 rfl rfl dX14_keep_62 ?_
      obtain ⟨r30, gr30, h⟩ := bnd h
      refine zr_fv (pc := 63) hX za12_1 (zgR_spec gr30) q1095 (Or.inr q1096) dX14_keep_63 ?_
      refine zr_iconst (pc := 66) hX zci_0 dX14_keep_66 ?_
      refine zr_dup2 (pc := 67) hX rfl rfl dX14_keep_67 ?_
      obtain ⟨x31, gx31, h⟩ := bnd h
      refine zr_aI (pc := 68) hX gx31 dX14_keep_68 ?_
      refine zr_aload_n (pc := 69) hX 1 rfl rfl dX14_keep_69 ?_
      refine zr_aload_n (pc := 70) hX 2 rfl rfl dX14_keep_70 ?_
      refine zr_iload_n (pc := 71) hX 4 rfl rfl dX14_keep_71 ?_
      obtain ⟨u32, gu32, h⟩ := bnd h
      obtain ⟨t33, gt33, h⟩ := bnd h
      refine zr_callVs (pc := 72) (rest := [.int x31, .int (0 : Int32), .ref r30]) (stk' := [.int t33, .int x31, .int (0 : Int32), .ref r30]) (k' := 0) (n' := 0) hX (fun l s0 D => mX14_canTell l s0 D gt33) gu32 zc12 zwX14_canTell q524 q526 qs10 rfl rfl rfl rfl rfl rfl rfl rfl rfl dX14_keep_72 ?_
      obtain ⟨t34, gt34, h⟩ := bnd h
      have hJt34 : ∀ a, t34 = a → VW K a5.1 sz 0 0 90 [(0, .ref th), (1, .ref p0), (2, .int a5.2.1), (3, .int a5.2.2), (4, .int t29)] [.int a, .int x31, .int (0 : Int32), .ref r30] := by
        intro a ea
        subst ea
        refine zr_ior (pc := 90) hX dX14_keep_90 ?_
        obtain ⟨σ35, gσ35, h⟩ := bnd h
        refine zr_sI (pc := 91) hX gσ35 dX14_keep_91 ?_
        refine zr_aload_n (pc := 92) hX 0 rfl rfl dX14_keep_92 ?_
        obtain ⟨r36, gr36, h⟩ := bnd h
        refine zr_fv (pc := 93) hX za12_1 (zgR_spec gr36) q1095 (Or.inr q1096) dX14_keep_93 ?_
        refine zr_iconst (pc := 96) hX zci_1 dX14_keep_96 ?_
        refine zr_dup2 (pc := 97) hX rfl rfl dX14_keep_97 ?_
        obtain ⟨x37, gx37, h⟩ := bnd h
        refine zr_aI (pc := 98) hX gx37 dX14_keep_98 ?_
        refine zr_aload_n (pc := 99) hX 0 rfl rfl dX14_keep_99 ?_
        refine zr_aload_n (pc := 100) hX 1 rfl rfl dX14_keep_100 ?_
        refine zr_iconst (pc := 101) hX zci_0 dX14_keep_101 ?_
        obtain ⟨u38, gu38, h⟩ := bnd h
        obtain ⟨t39, gt39, h⟩ := bnd h
        refine zr_callU (pc := 102) (rest := [.int x37, .int (1 : Int32), .ref r36]) (stk' := [.int t39, .int x37, .int (1 : Int32), .ref r36]) (k' := 0) (n' := 0) hX (fun l s0 D => mX9_domain l s0 D gt39) gu38 zc12 zwX9_domain q529 q530 q479 q531 (Or.inl ⟨q479, _, _, _, q480⟩) (by decide) rfl rfl rfl rfl rfl rfl rfl rfl rfl dX14_keep_102 ?_
        refine zr_aload_n (pc := 105) hX 0 rfl rfl dX14_keep_105 ?_
        refine zr_aload_n (pc := 106) hX 1 rfl rfl dX14_keep_106 ?_
        refine zr_iload_n (pc := 107) hX 3 rfl rfl dX14_keep_107 ?_
        refine zr_iconst (pc := 108) hX zci_2 dX14_keep_108 ?_
        refine zr_iadd (pc := 109) hX dX14_keep_109 ?_
        obtain ⟨u40, gu40, h⟩ := bnd h
        obtain ⟨t41, gt41, h⟩ := bnd h
        refine zr_callU (pc := 110) (rest := [.int t39, .int x37, .int (1 : Int32), .ref r36]) (stk' := [.int t41, .int t39, .int x37, .int (1 : Int32), .ref r36]) (k' := 0) (n' := 0) hX (fun l s0 D => mX9_domain l s0 D gt41) gu40 zc12 zwX9_domain q529 q530 q479 q531 (Or.inl ⟨q479, _, _, _, q480⟩) (by decide) rfl rfl rfl rfl rfl rfl rfl rfl rfl dX14_keep_110 ?_
        refine zr_iand (pc := 113) hX dX14_keep_113 ?_
        obtain ⟨t42, gt42, h⟩ := bnd h
        have hJt42 : ∀ a, t42 = a → VW K σ35 sz 0 0 124 [(0, .ref th), (1, .ref p0), (2, .int a5.2.1), (3, .int a5.2.2), (4, .int t29)] [.int a, .int x37, .int (1 : Int32), .ref r36] := by
          intro a ea
          subst ea
          refine zr_ior (pc := 124) hX dX14_keep_124 ?_
          obtain ⟨σ43, gσ43, h⟩ := bnd h
          refine zr_sI (pc := 125) hX gσ43 dX14_keep_125 ?_
          refine zr_iload_n (pc := 126) hX 2 rfl rfl dX14_keep_126 ?_
          refine zr_iload (pc := 127) hX 4 rfl dX14_keep_127 ?_
          obtain ⟨t44, gt44, h⟩ := bnd h
          have hJt44 : ∀ a, t44 = a → VW K σ43 sz 0 0 139 [(0, .ref th), (1, .ref p0), (3, .int a5.2.2)] [.int a, .int a5.2.1] := by
            intro a ea
            subst ea
            refine zr_ior (pc := 139) hX dX14_keep_139 ?_
            obtain ⟨x45, gx45, h⟩ := bnd h
            refine zr_istore_n (pc := 140) hX (Option.some.inj gx45) rfl (Nat.le_of_ble_eq_true rfl) rfl dX14_keep_140 ?_
            obtain ⟨x46, gx46, h⟩ := bnd h
            refine zr_iinc (pc := 141) hX 3 rfl zci_1 (Option.some.inj gx46) (Nat.le_of_ble_eq_true rfl) rfl dX14_keep_141 ?_
            refine zr_goto (pc := 144) hX 18 rfl dX14_keep_144 ?_
            exact VW.sub (kco6 (σ43, x45, x46) (Option.some.inj h).symm) [2, 3, 1, 0] rfl
          replace h := gt44
          refine zr_if_eq (pc := 129) hX 138 rfl dX14_keep_129 (fun c129_46 => ?_) (fun c129_46 => ?_)
          · rw [if_pos c129_46] at h
            refine zr_iconst (pc := 138) hX zci_0 dX14_keep_138 ?_
            exact VW.sub (hJt44 (0 : Int32) (Option.some.inj h).symm) [0, 1, 3] rfl
          · rw [if_neg c129_46] at h
            refine zr_iconst (pc := 132) hX zci_1 dX14_keep_132 ?_
            refine zr_iload_n (pc := 133) hX 3 rfl rfl dX14_keep_133 ?_
            refine zr_ishl (pc := 134) hX dX14_keep_134 ?_
            refine zr_goto (pc := 135) hX 139 rfl dX14_keep_135 ?_
            exact VW.sub (hJt44 ((1 : Int32) <<< (a5.2.2 &&& 31)) (Option.some.inj h).symm) [0, 1, 3] rfl
        replace h := gt42
        refine zr_if_eq (pc := 114) hX 123 rfl dX14_keep_114 (fun c114_47 => ?_) (fun c114_47 => ?_)
        · rw [if_pos c114_47] at h
          refine zr_iconst (pc := 123) hX zci_0 dX14_keep_123 ?_
          exact VW.sub (hJt42 (0 : Int32) (Option.some.inj h).symm) [0, 1, 2, 3, 4] rfl
        · rw [if_neg c114_47] at h
          refine zr_iconst (pc := 117) hX zci_1 dX14_keep_117 ?_
          refine zr_iload_n (pc := 118) hX 3 rfl rfl dX14_keep_118 ?_
          refine zr_ishl (pc := 119) hX dX14_keep_119 ?_
          refine zr_goto (pc := 120) hX 124 rfl dX14_keep_120 ?_
          exact VW.sub (hJt42 ((1 : Int32) <<< (a5.2.2 &&& 31)) (Option.some.inj h).symm) [0, 1, 2, 3, 4] rfl
      replace h := gt34
      refine zr_if_eq (pc := 75) hX 89 rfl dX14_keep_75 (fun c75_50 => ?_) (fun c75_50 => ?_)
      · rw [if_pos c75_50] at h
        refine zr_iconst (pc := 89) hX zci_0 dX14_keep_89 ?_
        exact VW.sub (hJt34 (0 : Int32) (Option.some.inj h).symm) [1, 2, 3, 4, 0] rfl
      · rw [if_neg c75_50] at h
        refine zr_aload_n (pc := 78) hX 1 rfl rfl dX14_keep_78 ?_
        refine zr_aload_n (pc := 79) hX 2 rfl rfl dX14_keep_79 ?_
        refine zr_iload_n (pc := 80) hX 4 rfl rfl dX14_keep_80 ?_
        refine zr_iconst (pc := 81) hX zci_2 dX14_keep_81 ?_
        refine zr_iadd (pc := 82) hX dX14_keep_82 ?_
        obtain ⟨u49, gu49, h⟩ := bnd h
        obtain ⟨t50, gt50, h⟩ := bnd h
        refine zr_callU (pc := 83) (rest := [.int x31, .int (0 : Int32), .ref r30]) (stk' := [.int t50, .int x31, .int (0 : Int32), .ref r30]) (k' := 0) (n' := 0) hX (fun l s0 D => mX9_domain l s0 D gt50) gu49 zc12 zwX9_domain q529 q530 q479 q531 (Or.inl ⟨q479, _, _, _, q480⟩) (by decide) rfl rfl rfl rfl rfl rfl rfl rfl rfl dX14_keep_83 ?_
        refine zr_goto (pc := 86) hX 90 rfl dX14_keep_86 ?_
        exact VW.sub (hJt34 t50 (Option.some.inj h).symm) [1, 2, 3, 4, 0] rfl
    replace h := gt29
    obtain ⟨u53, gu53, hAu53, hBu53⟩ := zesc_bnd h
    have hJt52 : ∀ a, u53 = .inl a → VW K a5.1 sz 0 0 59 [(0, .ref th), (1, .ref p0), (2, .int a5.2.1), (3, .int a5.2.2)] [] := by
      intro t52 ea
      have h := hAu53 _ ea
      refine zr_iconst (pc := 59) hX zci_0 dX14_keep_59 ?_
      exact VW.sub (hJt29 (0 : Int32) (Option.some.inj h).symm) [0, 1, 2, 3] rfl
    replace h := gu53
    refine zr_if_eq (pc := 34) hX 59 rfl dX14_keep_34 (fun c34_58 => ?_) (fun c34_58 => ?_)
    · rw [if_pos c34_58] at h
      exact VW.sub (hJt52 () (Option.some.inj h).symm) [0, 1, 2, 3] rfl
    · rw [if_neg c34_58] at h
      refine zr_aload_n (pc := 37) hX 0 rfl rfl dX14_keep_37 ?_
      refine zr_aload_n (pc := 38) hX 1 rfl rfl dX14_keep_38 ?_
      refine zr_iconst (pc := 39) hX zci_0 dX14_keep_39 ?_
      obtain ⟨u54, gu54, h⟩ := bnd h
      obtain ⟨t55, gt55, h⟩ := bnd h
      refine zr_callU (pc := 40) (rest := []) (stk' := [.int t55]) (k' := 0) (n' := 0) hX (fun l s0 D => mX9_domain l s0 D gt55) gu54 zc12 zwX9_domain q529 q530 q479 q531 (Or.inl ⟨q479, _, _, _, q480⟩) (by decide) rfl rfl rfl rfl rfl rfl rfl rfl rfl dX14_keep_40 ?_
      refine zr_aload_n (pc := 43) hX 0 rfl rfl dX14_keep_43 ?_
      refine zr_aload_n (pc := 44) hX 1 rfl rfl dX14_keep_44 ?_
      refine zr_iload_n (pc := 45) hX 3 rfl rfl dX14_keep_45 ?_
      refine zr_iconst (pc := 46) hX zci_2 dX14_keep_46 ?_
      refine zr_iadd (pc := 47) hX dX14_keep_47 ?_
      obtain ⟨u56, gu56, h⟩ := bnd h
      obtain ⟨t57, gt57, h⟩ := bnd h
      refine zr_callU (pc := 48) (rest := [.int t55]) (stk' := [.int t57, .int t55]) (k' := 0) (n' := 0) hX (fun l s0 D => mX9_domain l s0 D gt57) gu56 zc12 zwX9_domain q529 q530 q479 q531 (Or.inl ⟨q479, _, _, _, q480⟩) (by decide) rfl rfl rfl rfl rfl rfl rfl rfl rfl dX14_keep_48 ?_
      refine zr_iand (pc := 51) hX dX14_keep_51 ?_
      refine zr_if_eq (pc := 52) hX 59 rfl dX14_keep_52 (fun c52_57 => ?_) (fun c52_57 => ?_)
      · rw [if_pos c52_57] at h
        exact VW.sub (hJt52 () (Option.some.inj h).symm) [0, 1, 2, 3] rfl
      · rw [if_neg c52_57] at h
        refine zr_iconst (pc := 55) hX zci_1 dX14_keep_55 ?_
        refine zr_goto (pc := 56) hX 60 rfl dX14_keep_56 ?_
        replace h := congrArg some (hBu53 _ (Option.some.inj h).symm)
        exact VW.sub (hJt29 (1 : Int32) (Option.some.inj h).symm) [0, 1, 2, 3] rfl
set_option maxHeartbeats 4000000 in
theorem mX8_value (l : Launch) (s0 : State) (D : zD) {σ : zH} {sz : Nat} {th : Nat} {o : Int32} (h : fX8_value σ th = some o) : zM l s0 D yX8_value cX8_value 1 (some .int) 1 0 0 0 [.ref th] σ sz σ sz (some (.int o)) := by
  refine zenter (own := RX8) zplX8 rfl (Nat.le_of_ble_eq_true rfl) trivial (fun K hX hnm hret => ?_)
  unfold fX8_value at h
  have hret : ∀ a, o = a → zRet K cX8_value (some .int) σ sz 0 0 (some (.int a)) := fun a e => by cases e; exact hret
  show VW K σ sz 0 0 0 [(0, .ref th)] []
  refine zr_aload_n (pc := 0) hX 0 rfl rfl dX8_value_0 ?_
  obtain ⟨x1, gx1, h⟩ := bnd h
  refine zr_fv (pc := 1) hX za7_1 (zgI_spec gx1) q1022 (Or.inl rfl) dX8_value_1 ?_
  exact hret _ (Option.some.inj h).symm _ _ dX8_value_4 (Or.inl rfl)
set_option maxHeartbeats 4000000 in
theorem mX8_has (l : Launch) (s0 : State) (D : zD) {σ : zH} {sz : Nat} {th : Nat} {o : Int32} (h : fX8_has σ th = some o) : zM l s0 D yX8_has cX8_has 1 (some .boolean) 1 0 0 0 [.ref th] σ sz σ sz (some (.int o)) := by
  refine zenter (own := RX8) zplX8 rfl (Nat.le_of_ble_eq_true rfl) trivial (fun K hX hnm hret => ?_)
  unfold fX8_has at h
  have hret : ∀ a, o = a → zRet K cX8_has (some .boolean) σ sz 0 0 (some (.int a)) := fun a e => by cases e; exact hret
  show VW K σ sz 0 0 0 [(0, .ref th)] []
  refine zr_aload_n (pc := 0) hX 0 rfl rfl dX8_has_0 ?_
  obtain ⟨x1, gx1, h⟩ := bnd h
  refine zr_fv (pc := 1) hX za7_2 (zgI_spec gx1) q1023 (Or.inl rfl) dX8_has_1 ?_
  obtain ⟨x2, gx2, h⟩ := bnd h
  rw [(zq_spec gx2).1] at h
  exact hret _ (Option.some.inj h).symm _ _ dX8_has_4 (Or.inr ⟨rfl, (zq_spec gx2).2⟩)
set_option maxHeartbeats 4000000 in
theorem mX16_holding (l : Launch) (s0 : State) (D : zD) {σ : zH} {sz : Nat} {th : Nat} {p0 : Int32} {o : Int32} (h : fX16_holding σ th p0 = some o) : zM l s0 D yX16_holding cX16_holding 3 (some .int) 4 64 0 0 [.ref th, .int p0] σ sz σ sz (some (.int o)) := by
  refine zenter (own := RX16) zplX16 rfl (Nat.le_of_ble_eq_true rfl) trivial (fun K hX hnm hret => ?_)
  unfold fX16_holding at h
  have hret : ∀ a, o = a → zRet K cX16_holding (some .int) σ sz 0 0 (some (.int a)) := fun a e => by cases e; exact hret
  show VW K σ sz 0 0 0 [(0, .ref th), (1, .int p0)] []
  refine zr_iconst (pc := 0) hX zci_1 dX16_holding_0 ?_
  refine zr_aload_n (pc := 1) hX 0 rfl rfl dX16_holding_1 ?_
  obtain ⟨r1, gr1, h⟩ := bnd h
  refine zr_fv (pc := 2) hX za14_4 (zgR_spec gr1) q1381 (Or.inl rfl) dX16_holding_2 ?_
  refine zr_iload_n (pc := 5) hX 1 rfl rfl dX16_holding_5 ?_
  obtain ⟨u2, gu2, h⟩ := bnd h
  obtain ⟨t3, gt3, h⟩ := bnd h
  refine zr_callF (pc := 6) (rest := [.int (1 : Int32)]) (stk' := [.ref t3, .int (1 : Int32)]) (k' := 0) (n' := 0) hX (fun l s0 D => mJ2_get l s0 D gt3) gu2 zwJ2_get (by decide) q487 q405 q403 rfl rfl rfl rfl rfl rfl rfl rfl rfl dX16_holding_6 ?_
  obtain ⟨u4, gu4, h⟩ := bnd h
  refine zr_cast (pc := 11) hX gu4 zc7 q488 (Or.inl rfl) dX16_holding_11 ?_
  obtain ⟨u5, gu5, h⟩ := bnd h
  obtain ⟨t6, gt6, h⟩ := bnd h
  refine zr_callVs (pc := 14) (rest := [.int (1 : Int32)]) (stk' := [.int t6, .int (1 : Int32)]) (k' := 0) (n' := 0) hX (fun l s0 D => mX8_value l s0 D gt6) gu5 zc7 zwX8_value q489 q490 q491 rfl rfl rfl rfl rfl rfl rfl rfl rfl dX16_holding_14 ?_
  refine zr_ishl (pc := 17) hX dX16_holding_17 ?_
  obtain ⟨x7, gx7, h⟩ := bnd h
  refine zr_istore_n (pc := 18) hX (Option.some.inj gx7) rfl (Nat.le_of_ble_eq_true rfl) rfl dX16_holding_18 ?_
  refine zr_aload_n (pc := 19) hX 1 rfl rfl dX16_holding_19 ?_
  obtain ⟨r8, gr8, h⟩ := bnd h
  refine zr_fv (pc := 20) hX za14_4 (zgR_spec gr8) q1381 (Or.inl rfl) dX16_holding_20 ?_
  refine zr_iload_n (pc := 23) hX 2 rfl rfl dX16_holding_23 ?_
  obtain ⟨u9, gu9, h⟩ := bnd h
  obtain ⟨t10, gt10, h⟩ := bnd h
  refine zr_callF (pc := 24) (rest := []) (stk' := [.ref t10]) (k' := 0) (n' := 0) hX (fun l s0 D => mJ2_get l s0 D gt10) gu9 zwJ2_get (by decide) q487 q405 q403 rfl rfl rfl rfl rfl rfl rfl rfl rfl dX16_holding_24 ?_
  obtain ⟨u11, gu11, h⟩ := bnd h
  refine zr_cast (pc := 29) hX gu11 zc7 q488 (Or.inl rfl) dX16_holding_29 ?_
  obtain ⟨u12, gu12, h⟩ := bnd h
  obtain ⟨t13, gt13, h⟩ := bnd h
  refine zr_callVs (pc := 32) (rest := []) (stk' := [.int t13]) (k' := 0) (n' := 0) hX (fun l s0 D => mX8_has l s0 D gt13) gu12 zc7 zwX8_has q493 q494 q495 rfl rfl rfl rfl rfl rfl rfl rfl rfl dX16_holding_32 ?_
  refine zr_if_eq (pc := 35) hX 42 rfl dX16_holding_35 (fun c35_13 => ?_) (fun c35_13 => ?_)
  · rw [if_pos c35_13] at h
    refine zr_iload_n (pc := 42) hX 0 rfl rfl dX16_holding_42 ?_
    refine zr_iconst (pc := 43) hX zci_m1 dX16_holding_43 ?_
    refine zr_ixor (pc := 44) hX dX16_holding_44 ?_
    exact hret _ (Option.some.inj h).symm _ _ dX16_holding_45 (Or.inl rfl)
  · rw [if_neg c35_13] at h
    refine zr_iload_n (pc := 38) hX 0 rfl rfl dX16_holding_38 ?_
    refine zr_goto (pc := 39) hX 45 rfl dX16_holding_39 ?_
    exact hret _ (Option.some.inj h).symm _ _ dX16_holding_45 (Or.inl rfl)
set_option maxHeartbeats 4000000 in
theorem mX16_keep (l : Launch) (s0 : State) (D : zD) {n : Nat} {σ : zH} {sz : Nat} {th : Nat} {p0 : Nat} {o : zH} (h : fX16_keep n σ th p0 = some o) : zM l s0 D yX16_keep cX16_keep 5 none 5 86 0 0 [.ref th, .ref p0] σ sz o sz none := by
  refine zenter (own := RX16) zplX16 rfl (Nat.le_of_ble_eq_true rfl) rfl (fun K hX hnm hret => ?_)
  unfold fX16_keep at h
  have hret : ∀ a, o = a → zRet K cX16_keep none a sz 0 0 none := fun a e => by cases e; exact hret
  show VW K σ sz 0 0 0 [(0, .ref th), (1, .ref p0)] []
  refine zr_iconst (pc := 0) hX zci_0 dX16_keep_0 ?_
  refine zr_istore_n (pc := 1) hX rfl rfl (Nat.le_of_ble_eq_true rfl) rfl dX16_keep_1 ?_
  refine VW.sub (lv' := [(0, .ref th), (1, .ref p0), (2, .int (0 : Int32))]) ?_ [1, 2, 0] rfl
  refine zloop_walk (V := (fun a => VW K a.1 sz 0 0 2 [(0, .ref th), (1, .ref p0), (2, .int a.2)] [])) (E := fun e => e = o) ?_ n (σ, (0 : Int32)) _ h rfl
  intro a1 o2 h kco2 keo2
  unfold fX16_keep_L2 at h
  refine zr_iload_n (pc := 2) hX 2 rfl rfl dX16_keep_2 ?_
  refine zr_aload_n (pc := 3) hX 0 rfl rfl dX16_keep_3 ?_
  obtain ⟨u3, gu3, h⟩ := bnd h
  obtain ⟨t4, gt4, h⟩ := bnd h
  refine zr_callU (pc := 4) (rest := [.int a1.2]) (stk' := [.int t4, .int a1.2]) (k' := 0) (n' := 0) hX (fun l s0 D => mX9_size l s0 D gt4) gu3 zc14 zwX9_size q469 q470 q473 q472 (Or.inl ⟨q473, _, _, _, q474⟩) (by decide) rfl rfl rfl rfl rfl rfl rfl rfl rfl dX16_keep_4 ?_
  refine zr_icmp_ge (pc := 7) hX 86 rfl dX16_keep_7 (fun c7_28 => ?_) (fun c7_28 => ?_)
  · rw [if_pos c7_28] at h
    replace h := congrArg some (keo2 _ (Option.some.inj h).symm)
    exact hret _ (Option.some.inj h).symm _ _ dX16_keep_86
  · rw [if_neg c7_28] at h
    refine zr_iconst (pc := 10) hX zci_0 dX16_keep_10 ?_
    refine zr_istore_n (pc := 11) hX rfl rfl (Nat.le_of_ble_eq_true rfl) rfl dX16_keep_11 ?_
    refine zr_iconst (pc := 12) hX zci_0 dX16_keep_12 ?_
    refine zr_istore (pc := 13) hX rfl (Nat.le_of_ble_eq_true rfl) rfl dX16_keep_13 ?_
    obtain ⟨t7, gt7, h⟩ := bnd h
    have hJt7 : ∀ a, a = t7 → VW K a1.1 sz 0 0 61 [(0, .ref th), (1, .ref p0), (2, .int a1.2), (3, .int a)] [] := by
      intro a ea
      rw [ea]
      refine zr_aload_n (pc := 61) hX 0 rfl rfl dX16_keep_61 ?_
      obtain ⟨r8, gr8, h⟩ := bnd h
      refine zr_fv (pc := 62) hX za14_1 (zgR_spec gr8) q1097 (Or.inr q1098) dX16_keep_62 ?_
      refine zr_iload_n (pc := 65) hX 2 rfl rfl dX16_keep_65 ?_
      refine zr_iload_n (pc := 66) hX 3 rfl rfl dX16_keep_66 ?_
      obtain ⟨t9, gt9, h⟩ := bnd h
      have hJt9 : ∀ a, t9 = a → VW K a1.1 sz 0 0 79 [(0, .ref th), (1, .ref p0), (2, .int a1.2)] [.int a, .int a1.2, .ref r8] := by
        intro a ea
        subst ea
        obtain ⟨σ10, gσ10, h⟩ := bnd h
        refine zr_sI (pc := 79) hX gσ10 dX16_keep_79 ?_
        obtain ⟨x11, gx11, h⟩ := bnd h
        refine zr_iinc (pc := 80) hX 2 rfl zci_1 (Option.some.inj gx11) (Nat.le_of_ble_eq_true rfl) rfl dX16_keep_80 ?_
        refine zr_goto (pc := 83) hX 2 rfl dX16_keep_83 ?_
        exact VW.sub (kco2 (σ10, x11) (Option.some.inj h).symm) [1, 2, 0] rfl
      replace h := gt9
      refine zr_if_eq (pc := 67) hX 74 rfl dX16_keep_67 (fun c67_13 => ?_) (fun c67_13 => ?_)
      · rw [if_pos c67_13] at h
        refine zr_aload_n (pc := 74) hX 0 rfl rfl dX16_keep_74 ?_
        refine zr_iload_n (pc := 75) hX 2 rfl rfl dX16_keep_75 ?_
        obtain ⟨u12, gu12, h⟩ := bnd h
        obtain ⟨t13, gt13, h⟩ := bnd h
        refine zr_callVs (pc := 76) (rest := [.int a1.2, .ref r8]) (stk' := [.int t13, .int a1.2, .ref r8]) (k' := 0) (n' := 0) hX (fun l s0 D => mX16_holding l s0 D gt13) gu12 zc14 zwX16_holding q481 q483 qs7 rfl rfl rfl rfl rfl rfl rfl rfl rfl dX16_keep_76 ?_
        exact VW.sub (hJt9 t13 (Option.some.inj h).symm) [0, 1, 2] rfl
      · rw [if_neg c67_13] at h
        refine zr_iconst (pc := 70) hX zci_m1 dX16_keep_70 ?_
        refine zr_goto (pc := 71) hX 79 rfl dX16_keep_71 ?_
        exact VW.sub (hJt9 (-1 : Int32) (Option.some.inj h).symm) [0, 1, 2] rfl
    refine VW.sub (lv' := [(0, .ref th), (1, .ref p0), (2, .int a1.2), (3, .int (0 : Int32)), (4, .int (0 : Int32))]) ?_ [2, 3, 4, 1, 0] rfl
    refine zloop_walk (V := (fun a => VW K a1.1 sz 0 0 15 [(0, .ref th), (1, .ref p0), (2, .int a1.2), (3, .int a.1), (4, .int a.2)] [])) (E := fun e => e = t7) ?_ n ((0 : Int32), (0 : Int32)) _ gt7 rfl
    intro a5 o6 h kco6 keo6
    unfold fX16_keep_L15 at h
    refine zr_iload (pc := 15) hX 4 rfl dX16_keep_15 ?_
    refine zr_aload_n (pc := 17) hX 0 rfl rfl dX16_keep_17 ?_
    obtain ⟨u15, gu15, h⟩ := bnd h
    obtain ⟨t16, gt16, h⟩ := bnd h
    refine zr_callU (pc := 18) (rest := [.int a5.2]) (stk' := [.int t16, .int a5.2]) (k' := 0) (n' := 0) hX (fun l s0 D => mX9_size l s0 D gt16) gu15 zc14 zwX9_size q469 q470 q473 q472 (Or.inl ⟨q473, _, _, _, q474⟩) (by decide) rfl rfl rfl rfl rfl rfl rfl rfl rfl dX16_keep_18 ?_
    refine zr_icmp_ge (pc := 21) hX 61 rfl dX16_keep_21 (fun c21_27 => ?_) (fun c21_27 => ?_)
    · rw [if_pos c21_27] at h
      exact VW.sub (hJt7 a5.1 (keo6 _ (Option.some.inj h).symm)) [0, 1, 2, 3] rfl
    · rw [if_neg c21_27] at h
      refine zr_iload_n (pc := 24) hX 3 rfl rfl dX16_keep_24 ?_
      refine zr_iload (pc := 25) hX 4 rfl dX16_keep_25 ?_
      refine zr_iload_n (pc := 27) hX 2 rfl rfl dX16_keep_27 ?_
      obtain ⟨t17, gt17, h⟩ := bnd h
      have hJt17 : ∀ a, t17 = a → VW K a1.1 sz 0 0 53 [(0, .ref th), (1, .ref p0), (2, .int a1.2), (4, .int a5.2)] [.int a, .int a5.1] := by
        intro a ea
        subst ea
        refine zr_ior (pc := 53) hX dX16_keep_53 ?_
        obtain ⟨x18, gx18, h⟩ := bnd h
        refine zr_istore_n (pc := 54) hX (Option.some.inj gx18) rfl (Nat.le_of_ble_eq_true rfl) rfl dX16_keep_54 ?_
        obtain ⟨x19, gx19, h⟩ := bnd h
        refine zr_iinc (pc := 55) hX 4 rfl zci_1 (Option.some.inj gx19) (Nat.le_of_ble_eq_true rfl) rfl dX16_keep_55 ?_
        refine zr_goto (pc := 58) hX 15 rfl dX16_keep_58 ?_
        exact VW.sub (kco6 (x18, x19) (Option.some.inj h).symm) [2, 3, 4, 1, 0] rfl
      replace h := gt17
      obtain ⟨u21, gu21, hAu21, hBu21⟩ := zesc_bnd h
      have hJt20 : ∀ a, u21 = .inl a → VW K a1.1 sz 0 0 52 [(0, .ref th), (1, .ref p0), (2, .int a1.2), (4, .int a5.2)] [.int a5.1] := by
        intro t20 ea
        have h := hAu21 _ ea
        refine zr_iconst (pc := 52) hX zci_0 dX16_keep_52 ?_
        exact VW.sub (hJt17 (0 : Int32) (Option.some.inj h).symm) [0, 1, 2, 3] rfl
      replace h := gu21
      refine zr_icmp_eq (pc := 28) hX 52 rfl dX16_keep_28 (fun c28_26 => ?_) (fun c28_26 => ?_)
      · rw [if_pos c28_26] at h
        exact VW.sub (hJt20 () (Option.some.inj h).symm) [0, 1, 2, 4] rfl
      · rw [if_neg c28_26] at h
        refine zr_aload_n (pc := 31) hX 0 rfl rfl dX16_keep_31 ?_
        refine zr_aload_n (pc := 32) hX 1 rfl rfl dX16_keep_32 ?_
        refine zr_iload (pc := 33) hX 4 rfl dX16_keep_33 ?_
        obtain ⟨u22, gu22, h⟩ := bnd h
        obtain ⟨t23, gt23, h⟩ := bnd h
        refine zr_callU (pc := 35) (rest := [.int a5.1]) (stk' := [.int t23, .int a5.1]) (k' := 0) (n' := 0) hX (fun l s0 D => mX9_domain l s0 D gt23) gu22 zc14 zwX9_domain q475 q476 q479 q478 (Or.inl ⟨q479, _, _, _, q480⟩) (by decide) rfl rfl rfl rfl rfl rfl rfl rfl rfl dX16_keep_35 ?_
        refine zr_aload_n (pc := 38) hX 0 rfl rfl dX16_keep_38 ?_
        refine zr_iload (pc := 39) hX 4 rfl dX16_keep_39 ?_
        obtain ⟨u24, gu24, h⟩ := bnd h
        obtain ⟨t25, gt25, h⟩ := bnd h
        refine zr_callVs (pc := 41) (rest := [.int t23, .int a5.1]) (stk' := [.int t25, .int t23, .int a5.1]) (k' := 0) (n' := 0) hX (fun l s0 D => mX16_holding l s0 D gt25) gu24 zc14 zwX16_holding q481 q483 qs7 rfl rfl rfl rfl rfl rfl rfl rfl rfl dX16_keep_41 ?_
        refine zr_iand (pc := 44) hX dX16_keep_44 ?_
        refine zr_if_eq (pc := 45) hX 52 rfl dX16_keep_45 (fun c45_25 => ?_) (fun c45_25 => ?_)
        · rw [if_pos c45_25] at h
          exact VW.sub (hJt20 () (Option.some.inj h).symm) [0, 1, 2, 4] rfl
        · rw [if_neg c45_25] at h
          refine zr_iconst (pc := 48) hX zci_1 dX16_keep_48 ?_
          refine zr_goto (pc := 49) hX 53 rfl dX16_keep_49 ?_
          replace h := congrArg some (hBu21 _ (Option.some.inj h).symm)
          exact VW.sub (hJt17 (1 : Int32) (Option.some.inj h).symm) [0, 1, 2, 4] rfl
set_option maxHeartbeats 4000000 in
theorem mX3_one (l : Launch) (s0 : State) (D : zD) {n : Nat} {σ : zH} {sz : Nat} {th : Nat} {p0 : Int32} {o : Int32} (h : fX3_one n σ th p0 = some o) : zM l s0 D yX3_one cX3_one 3 (some .int) 1 0 0 0 [.ref th, .int p0] σ sz σ sz (some (.int o)) := by
  refine zenter (own := RX3) zplX3 rfl (Nat.le_of_ble_eq_true rfl) trivial (fun K hX hnm hret => ?_)
  unfold fX3_one at h
  have hret : ∀ a, o = a → zRet K cX3_one (some .int) σ sz 0 0 (some (.int a)) := fun a e => by cases e; exact hret
  show VW K σ sz 0 0 0 [(0, .ref th), (1, .int p0)] []
  refine zr_iload_n (pc := 0) hX 1 rfl rfl dX3_one_0 ?_
  refine zr_istore_n (pc := 1) hX rfl rfl (Nat.le_of_ble_eq_true rfl) rfl dX3_one_1 ?_
  refine VW.sub (lv' := [(0, .ref th), (2, .int p0)]) ?_ [1, 0] rfl
  refine zloop_walk (V := (fun a => VW K σ sz 0 0 2 [(0, .ref th), (2, .int a)] [])) (E := fun e => e = o) ?_ n p0 _ h rfl
  intro a1 o2 h kco2 keo2
  unfold fX3_one_L2 at h
  refine zr_aload_n (pc := 2) hX 0 rfl rfl dX3_one_2 ?_
  obtain ⟨r3, gr3, h⟩ := bnd h
  refine zr_fv (pc := 3) hX za2_0 (zgR_spec gr3) q215 (Or.inl rfl) dX3_one_3 ?_
  refine zr_iload_n (pc := 6) hX 1 rfl rfl dX3_one_6 ?_
  obtain ⟨x4, gx4, h⟩ := bnd h
  refine zr_aI (pc := 7) hX gx4 dX3_one_7 ?_
  refine zr_iload_n (pc := 8) hX 1 rfl rfl dX3_one_8 ?_
  refine zr_icmp_eq (pc := 9) hX 22 rfl dX3_one_9 (fun c9_6 => ?_) (fun c9_6 => ?_)
  · rw [if_pos c9_6] at h
    refine zr_iload_n (pc := 22) hX 1 rfl rfl dX3_one_22 ?_
    replace h := congrArg some (keo2 _ (Option.some.inj h).symm)
    exact hret _ (Option.some.inj h).symm _ _ dX3_one_23 (Or.inl rfl)
  · rw [if_neg c9_6] at h
    refine zr_aload_n (pc := 12) hX 0 rfl rfl dX3_one_12 ?_
    obtain ⟨r5, gr5, h⟩ := bnd h
    refine zr_fv (pc := 13) hX za2_0 (zgR_spec gr5) q215 (Or.inl rfl) dX3_one_13 ?_
    refine zr_iload_n (pc := 16) hX 1 rfl rfl dX3_one_16 ?_
    obtain ⟨x6, gx6, h⟩ := bnd h
    refine zr_aI (pc := 17) hX gx6 dX3_one_17 ?_
    refine zr_istore_n (pc := 18) hX rfl rfl (Nat.le_of_ble_eq_true rfl) rfl dX3_one_18 ?_
    refine zr_goto (pc := 19) hX 2 rfl dX3_one_19 ?_
    exact VW.sub (kco2 x6 (Option.some.inj h).symm) [1, 0] rfl
set_option maxHeartbeats 4000000 in
theorem mX3_symbol (l : Launch) (s0 : State) (D : zD) {n : Nat} {σ : zH} {sz : Nat} {th : Nat} {p0 : Int32} {o : Int32} (h : fX3_symbol n σ th p0 = some o) : zM l s0 D yX3_symbol cX3_symbol 2 (some .int) 2 22 0 0 [.ref th, .int p0] σ sz σ sz (some (.int o)) := by
  refine zenter (own := RX3) zplX3 rfl (Nat.le_of_ble_eq_true rfl) trivial (fun K hX hnm hret => ?_)
  unfold fX3_symbol at h
  have hret : ∀ a, o = a → zRet K cX3_symbol (some .int) σ sz 0 0 (some (.int a)) := fun a e => by cases e; exact hret
  show VW K σ sz 0 0 0 [(0, .ref th), (1, .int p0)] []
  refine zr_aload_n (pc := 0) hX 0 rfl rfl dX3_symbol_0 ?_
  obtain ⟨r1, gr1, h⟩ := bnd h
  refine zr_fv (pc := 1) hX za2_1 (zgR_spec gr1) q216 (Or.inl rfl) dX3_symbol_1 ?_
  refine zr_aload_n (pc := 4) hX 0 rfl rfl dX3_symbol_4 ?_
  refine zr_iload_n (pc := 5) hX 1 rfl rfl dX3_symbol_5 ?_
  obtain ⟨u2, gu2, h⟩ := bnd h
  obtain ⟨t3, gt3, h⟩ := bnd h
  refine zr_callVs (pc := 6) (rest := [.ref r1]) (stk' := [.int t3, .ref r1]) (k' := 0) (n' := 0) hX (fun l s0 D => mX3_one l s0 D gt3) gu2 zc2 zwX3_one q645 q646 q647 rfl rfl rfl rfl rfl rfl rfl rfl rfl dX3_symbol_6 ?_
  obtain ⟨x4, gx4, h⟩ := bnd h
  refine zr_aI (pc := 9) hX gx4 dX3_symbol_9 ?_
  exact hret _ (Option.some.inj h).symm _ _ dX3_symbol_10 (Or.inl rfl)
set_option maxHeartbeats 4000000 in
theorem mX17_keep (l : Launch) (s0 : State) (D : zD) {n : Nat} {σ : zH} {sz : Nat} {th : Nat} {p0 : Nat} {o : zH} (h : fX17_keep n σ th p0 = some o) : zM l s0 D yX17_keep cX17_keep 3 none 3 43 0 0 [.ref th, .ref p0] σ sz o sz none := by
  refine zenter (own := RX17) zplX17 rfl (Nat.le_of_ble_eq_true rfl) rfl (fun K hX hnm hret => ?_)
  unfold fX17_keep at h
  have hret : ∀ a, o = a → zRet K cX17_keep none a sz 0 0 none := fun a e => by cases e; exact hret
  show VW K σ sz 0 0 0 [(0, .ref th), (1, .ref p0)] []
  refine zr_aload_n (pc := 0) hX 0 rfl rfl dX17_keep_0 ?_
  obtain ⟨r1, gr1, h⟩ := bnd h
  refine zr_fv (pc := 1) hX za15_4 (zgR_spec gr1) q1402 (Or.inl rfl) dX17_keep_1 ?_
  refine zr_aload_n (pc := 4) hX 0 rfl rfl dX17_keep_4 ?_
  obtain ⟨x2, gx2, h⟩ := bnd h
  refine zr_fv (pc := 5) hX za15_5 (zgI_spec gx2) q1403 (Or.inl rfl) dX17_keep_5 ?_
  obtain ⟨u3, gu3, h⟩ := bnd h
  obtain ⟨t4, gt4, h⟩ := bnd h
  refine zr_callVs (pc := 8) (rest := []) (stk' := [.int t4]) (k' := 0) (n' := 0) hX (fun l s0 D => mX3_symbol l s0 D gt4) gu3 zc2 zwX3_symbol q641 q642 q643 rfl rfl rfl rfl rfl rfl rfl rfl rfl dX17_keep_8 ?_
  refine zr_istore_n (pc := 11) hX rfl rfl (Nat.le_of_ble_eq_true rfl) rfl dX17_keep_11 ?_
  refine zr_aload_n (pc := 12) hX 1 rfl rfl dX17_keep_12 ?_
  obtain ⟨r5, gr5, h⟩ := bnd h
  refine zr_fv (pc := 13) hX za15_1 (zgR_spec gr5) q1089 (Or.inr q1090) dX17_keep_13 ?_
  refine zr_iconst (pc := 16) hX zci_0 dX17_keep_16 ?_
  refine zr_iload_n (pc := 17) hX 0 rfl rfl dX17_keep_17 ?_
  refine zr_iconst (pc := 18) hX zci_m1 dX17_keep_18 ?_
  obtain ⟨t6, gt6, h⟩ := bnd h
  have hJt6 : ∀ a, t6 = a → VW K σ sz 0 0 29 [] [.int a, .int (0 : Int32), .ref r5] := by
    intro a ea
    subst ea
    obtain ⟨σ7, gσ7, h⟩ := bnd h
    refine zr_sI (pc := 29) hX gσ7 dX17_keep_29 ?_
    exact hret _ (Option.some.inj h).symm _ _ dX17_keep_30
  replace h := gt6
  refine zr_icmp_ne (pc := 19) hX 26 rfl dX17_keep_19 (fun c19_7 => ?_) (fun c19_7 => ?_)
  · rw [if_neg c19_7] at h
    refine zr_iconst (pc := 26) hX zci_1 dX17_keep_26 ?_
    refine zr_iload_n (pc := 27) hX 0 rfl rfl dX17_keep_27 ?_
    refine zr_ishl (pc := 28) hX dX17_keep_28 ?_
    exact VW.sub (hJt6 ((1 : Int32) <<< (t4 &&& 31)) (Option.some.inj h).symm) [] rfl
  · rw [if_pos c19_7] at h
    refine zr_iconst (pc := 22) hX zci_m1 dX17_keep_22 ?_
    refine zr_goto (pc := 23) hX 29 rfl dX17_keep_23 ?_
    exact VW.sub (hJt6 (-1 : Int32) (Option.some.inj h).symm) [] rfl
set_option maxHeartbeats 4000000 in
theorem mX6_init (l : Launch) (s0 : State) (D : zD) {σ : zH} {sz : Nat} {th : Nat} {p0 : Int32} {p1 : Int32} {p2 : Int32} {p3 : Int32} {o : zH} (h : fX6_init σ th p0 p1 p2 p3 = some o) : zM l s0 D yX6_init cX6_init 5 none 3 50 0 0 [.ref th, .int p0, .int p1, .int p2, .int p3] σ sz o sz none := by
  refine zenter (own := RX6) zplX6 rfl (Nat.le_of_ble_eq_true rfl) rfl (fun K hX hnm hret => ?_)
  unfold fX6_init at h
  have hret : ∀ a, o = a → zRet K cX6_init none a sz 0 0 none := fun a e => by cases e; exact hret
  show VW K σ sz 0 0 0 [(0, .ref th), (1, .int p0), (2, .int p1), (3, .int p2), (4, .int p3)] []
  refine zr_aload_n (pc := 0) hX 0 rfl rfl dX6_init_0 ?_
  obtain ⟨t1, gt1, h⟩ := bnd h
  refine zr_callI (pc := 1) (rest := []) (k' := 0) (n' := 0) hX (fun l s0 D => mJ7_init l s0 D gt1) zwJ7_init q769 q770 rfl rfl rfl rfl rfl rfl rfl rfl dX6_init_1 ?_
  refine zr_aload_n (pc := 4) hX 0 rfl rfl dX6_init_4 ?_
  refine zr_iload_n (pc := 5) hX 1 rfl rfl dX6_init_5 ?_
  obtain ⟨σ2, gσ2, h⟩ := bnd h
  refine zr_pvF (pc := 6) hX hnm rfl za5_0 gσ2 rfl q773 rfl rfl (tyX6_ok 0 (Nat.le_of_ble_eq_true rfl)) rfl rfl dX6_init_6 ?_
  refine zr_aload_n (pc := 9) hX 0 rfl rfl dX6_init_9 ?_
  refine zr_iload_n (pc := 10) hX 2 rfl rfl dX6_init_10 ?_
  obtain ⟨σ3, gσ3, h⟩ := bnd h
  refine zr_pvF (pc := 11) hX hnm rfl za5_1 gσ3 rfl q774 rfl rfl (tyX6_ok 1 (Nat.le_of_ble_eq_true rfl)) rfl rfl dX6_init_11 ?_
  refine zr_aload_n (pc := 14) hX 0 rfl rfl dX6_init_14 ?_
  refine zr_iload_n (pc := 15) hX 3 rfl rfl dX6_init_15 ?_
  obtain ⟨σ4, gσ4, h⟩ := bnd h
  refine zr_pvF (pc := 16) hX hnm rfl za5_2 gσ4 rfl q775 rfl rfl (tyX6_ok 2 (Nat.le_of_ble_eq_true rfl)) rfl rfl dX6_init_16 ?_
  refine zr_aload_n (pc := 19) hX 0 rfl rfl dX6_init_19 ?_
  refine zr_iload (pc := 20) hX 4 rfl dX6_init_20 ?_
  obtain ⟨σ5, gσ5, h⟩ := bnd h
  refine zr_pvF (pc := 22) hX hnm rfl za5_3 gσ5 rfl q776 rfl rfl (tyX6_ok 3 (Nat.le_of_ble_eq_true rfl)) rfl rfl dX6_init_22 ?_
  exact hret _ (Option.some.inj h).symm _ _ dX6_init_25
set_option maxHeartbeats 4000000 in
theorem mX7_init (l : Launch) (s0 : State) (D : zD) {σ : zH} {sz : Nat} {th : Nat} {p0 : Int32} {p1 : Int32} {p2 : Int32} {o : zH} (h : fX7_init σ th p0 p1 p2 = some o) : zM l s0 D yX7_init cX7_init 4 none 3 50 0 0 [.ref th, .int p0, .int p1, .int p2] σ sz o sz none := by
  refine zenter (own := RX7) zplX7 rfl (Nat.le_of_ble_eq_true rfl) rfl (fun K hX hnm hret => ?_)
  unfold fX7_init at h
  have hret : ∀ a, o = a → zRet K cX7_init none a sz 0 0 none := fun a e => by cases e; exact hret
  show VW K σ sz 0 0 0 [(0, .ref th), (1, .int p0), (2, .int p1), (3, .int p2)] []
  refine zr_aload_n (pc := 0) hX 0 rfl rfl dX7_init_0 ?_
  obtain ⟨t1, gt1, h⟩ := bnd h
  refine zr_callI (pc := 1) (rest := []) (k' := 0) (n' := 0) hX (fun l s0 D => mJ7_init l s0 D gt1) zwJ7_init q988 q770 rfl rfl rfl rfl rfl rfl rfl rfl dX7_init_1 ?_
  refine zr_aload_n (pc := 4) hX 0 rfl rfl dX7_init_4 ?_
  refine zr_iload_n (pc := 5) hX 1 rfl rfl dX7_init_5 ?_
  obtain ⟨σ2, gσ2, h⟩ := bnd h
  refine zr_pvF (pc := 6) hX hnm rfl za6_0 gσ2 rfl q989 rfl rfl (tyX7_ok 0 (Nat.le_of_ble_eq_true rfl)) rfl rfl dX7_init_6 ?_
  refine zr_aload_n (pc := 9) hX 0 rfl rfl dX7_init_9 ?_
  refine zr_iload_n (pc := 10) hX 2 rfl rfl dX7_init_10 ?_
  obtain ⟨σ3, gσ3, h⟩ := bnd h
  refine zr_pvF (pc := 11) hX hnm rfl za6_1 gσ3 rfl q990 rfl rfl (tyX7_ok 1 (Nat.le_of_ble_eq_true rfl)) rfl rfl dX7_init_11 ?_
  refine zr_aload_n (pc := 14) hX 0 rfl rfl dX7_init_14 ?_
  refine zr_iload_n (pc := 15) hX 3 rfl rfl dX7_init_15 ?_
  obtain ⟨σ4, gσ4, h⟩ := bnd h
  refine zr_pvF (pc := 16) hX hnm rfl za6_2 gσ4 rfl q991 rfl rfl (tyX7_ok 2 (Nat.le_of_ble_eq_true rfl)) rfl rfl dX7_init_16 ?_
  exact hret _ (Option.some.inj h).symm _ _ dX7_init_19
set_option maxHeartbeats 4000000 in
theorem mX6_greatest (l : Launch) (s0 : State) (D : zD) {σ : zH} {sz : Nat} {th : Nat} {o : Int32} (h : fX6_greatest σ th = some o) : zM l s0 D yX6_greatest cX6_greatest 1 (some .int) 1 0 0 0 [.ref th] σ sz σ sz (some (.int o)) := by
  refine zenter (own := RX6) zplX6 rfl (Nat.le_of_ble_eq_true rfl) trivial (fun K hX hnm hret => ?_)
  unfold fX6_greatest at h
  have hret : ∀ a, o = a → zRet K cX6_greatest (some .int) σ sz 0 0 (some (.int a)) := fun a e => by cases e; exact hret
  show VW K σ sz 0 0 0 [(0, .ref th)] []
  refine zr_getsN (pc := 0) hX 0 rfl q1014 dX6_greatest_0 ?_
  refine zr_aload_n (pc := 3) hX 0 rfl rfl dX6_greatest_3 ?_
  obtain ⟨x1, gx1, h⟩ := bnd h
  refine zr_fv (pc := 4) hX za5_0 (zgI_spec gx1) q773 (Or.inl rfl) dX6_greatest_4 ?_
  obtain ⟨x2, gx2, h⟩ := bnd h
  refine zr_aI (pc := 7) hX gx2 dX6_greatest_7 ?_
  exact hret _ (Option.some.inj h).symm _ _ dX6_greatest_8 (Or.inl rfl)
set_option maxHeartbeats 4000000 in
theorem mX8_init (l : Launch) (s0 : State) (D : zD) {σ : zH} {sz : Nat} {th : Nat} {p0 : Int32} {p1 : Int32} {p2 : Int32} {o : zH} (h : fX8_init σ th p0 p1 p2 = some o) : zM l s0 D yX8_init cX8_init 4 none 3 50 0 0 [.ref th, .int p0, .int p1, .int p2] σ sz o sz none := by
  refine zenter (own := RX8) zplX8 rfl (Nat.le_of_ble_eq_true rfl) rfl (fun K hX hnm hret => ?_)
  unfold fX8_init at h
  have hret : ∀ a, o = a → zRet K cX8_init none a sz 0 0 none := fun a e => by cases e; exact hret
  show VW K σ sz 0 0 0 [(0, .ref th), (1, .int p0), (2, .int p1), (3, .int p2)] []
  refine zr_aload_n (pc := 0) hX 0 rfl rfl dX8_init_0 ?_
  obtain ⟨t1, gt1, h⟩ := bnd h
  refine zr_callI (pc := 1) (rest := []) (k' := 0) (n' := 0) hX (fun l s0 D => mJ7_init l s0 D gt1) zwJ7_init q1020 q770 rfl rfl rfl rfl rfl rfl rfl rfl dX8_init_1 ?_
  refine zr_aload_n (pc := 4) hX 0 rfl rfl dX8_init_4 ?_
  refine zr_iload_n (pc := 5) hX 1 rfl rfl dX8_init_5 ?_
  obtain ⟨σ2, gσ2, h⟩ := bnd h
  refine zr_pvF (pc := 6) hX hnm rfl za7_0 gσ2 rfl q1021 rfl rfl (tyX8_ok 0 (Nat.le_of_ble_eq_true rfl)) rfl rfl dX8_init_6 ?_
  refine zr_aload_n (pc := 9) hX 0 rfl rfl dX8_init_9 ?_
  refine zr_iload_n (pc := 10) hX 2 rfl rfl dX8_init_10 ?_
  obtain ⟨σ3, gσ3, h⟩ := bnd h
  refine zr_pvF (pc := 11) hX hnm rfl za7_1 gσ3 rfl q1022 rfl rfl (tyX8_ok 1 (Nat.le_of_ble_eq_true rfl)) rfl rfl dX8_init_11 ?_
  refine zr_aload_n (pc := 14) hX 0 rfl rfl dX8_init_14 ?_
  refine zr_iload_n (pc := 15) hX 3 rfl rfl dX8_init_15 ?_
  obtain ⟨σ4, gσ4, h⟩ := bnd h
  refine zr_pZF (pc := 16) hX hnm rfl za7_2 gσ4 rfl q1023 rfl rfl (tyX8_ok 2 (Nat.le_of_ble_eq_true rfl)) dX8_init_16 ?_
  exact hret _ (Option.some.inj h).symm _ _ dX8_init_19
set_option maxHeartbeats 4000000 in
theorem mX9_init (l : Launch) (s0 : State) (D : zD) {n : Nat} {σ : zH} {sz : Nat} {th : Nat} {p0 : Nat} {o : zH × Nat} (h : fX9_init n σ sz th p0 = some o) : zM l s0 D yX9_init cX9_init 3 none 4 64 4 32 [.ref th, .ref p0] σ sz o.1 o.2 none := by
  refine zenter (own := RX9) zplX9 rfl (Nat.le_of_ble_eq_true rfl) rfl (fun K hX hnm hret => ?_)
  unfold fX9_init at h
  have hret : ∀ a, o = a → zRet K cX9_init none a.1 a.2 4 32 none := fun a e => by cases e; exact hret
  show VW K σ sz 0 0 0 [(0, .ref th), (1, .ref p0)] []
  refine zr_aload_n (pc := 0) hX 0 rfl rfl dX9_init_0 ?_
  refine zr_objInit (pc := 1) hX q1067 q156 q157 rfl dX9_init_1 ?_
  refine zr_aload_n (pc := 4) hX 0 rfl rfl dX9_init_4 ?_
  refine zr_aload_n (pc := 5) hX 1 rfl rfl dX9_init_5 ?_
  obtain ⟨u1, gu1, h⟩ := bnd h
  obtain ⟨t2, gt2, h⟩ := bnd h
  refine zr_callF (pc := 6) (rest := [.ref th]) (stk' := [.int t2, .ref th]) (k' := 0) (n' := 0) hX (fun l s0 D => mJ2_size l s0 D gt2) gu1 zwJ2_size (by decide) q1069 q384 q382 rfl rfl rfl rfl rfl rfl rfl rfl rfl dX9_init_6 ?_
  obtain ⟨σ3, gσ3, h⟩ := bnd h
  refine zr_newa (atype := .int) (pc := 11) (k' := 1) (n' := 8) (sz' := sz + 1) hX gσ3 q207 rfl (by decide) rfl rfl rfl rfl rfl dX9_init_11 ?_
  obtain ⟨σ4, gσ4, h⟩ := bnd h
  refine zr_pvF (pc := 13) hX hnm rfl zaC_0 gσ4 rfl q1082 rfl rfl (tyX10_ok 0 (Nat.le_of_ble_eq_true rfl)) rfl rfl dX9_init_13 ?_
  refine zr_aload_n (pc := 16) hX 0 rfl rfl dX9_init_16 ?_
  refine zr_aload_n (pc := 17) hX 0 rfl rfl dX9_init_17 ?_
  obtain ⟨r5, gr5, h⟩ := bnd h
  refine zr_fv (pc := 18) hX zaC_0 (zgR_spec gr5) q1082 (Or.inl rfl) dX9_init_18 ?_
  obtain ⟨x6, gx6, h⟩ := bnd h
  refine zr_len (pc := 21) hX gx6 dX9_init_21 ?_
  obtain ⟨σ7, gσ7, h⟩ := bnd h
  refine zr_newa (atype := .int) (pc := 22) (k' := 2) (n' := 16) (sz' := sz + 2) hX gσ7 q207 rfl (by decide) rfl rfl rfl rfl rfl dX9_init_22 ?_
  obtain ⟨σ8, gσ8, h⟩ := bnd h
  refine zr_pvF (pc := 24) hX hnm rfl zaC_1 gσ8 rfl q1086 rfl rfl (tyX10_ok 1 (Nat.le_of_ble_eq_true rfl)) rfl rfl dX9_init_24 ?_
  refine zr_aload_n (pc := 27) hX 0 rfl rfl dX9_init_27 ?_
  refine zr_aload_n (pc := 28) hX 0 rfl rfl dX9_init_28 ?_
  obtain ⟨r9, gr9, h⟩ := bnd h
  refine zr_fv (pc := 29) hX zaC_0 (zgR_spec gr9) q1082 (Or.inl rfl) dX9_init_29 ?_
  obtain ⟨x10, gx10, h⟩ := bnd h
  refine zr_len (pc := 32) hX gx10 dX9_init_32 ?_
  obtain ⟨σ11, gσ11, h⟩ := bnd h
  refine zr_newa (atype := .int) (pc := 33) (k' := 3) (n' := 24) (sz' := sz + 3) hX gσ11 q207 rfl (by decide) rfl rfl rfl rfl rfl dX9_init_33 ?_
  obtain ⟨σ12, gσ12, h⟩ := bnd h
  refine zr_pvF (pc := 35) hX hnm rfl zaC_2 gσ12 rfl q1104 rfl rfl (tyX10_ok 2 (Nat.le_of_ble_eq_true rfl)) rfl rfl dX9_init_35 ?_
  refine zr_aload_n (pc := 38) hX 0 rfl rfl dX9_init_38 ?_
  refine zr_aload_n (pc := 39) hX 0 rfl rfl dX9_init_39 ?_
  obtain ⟨r13, gr13, h⟩ := bnd h
  refine zr_fv (pc := 40) hX zaC_0 (zgR_spec gr13) q1082 (Or.inl rfl) dX9_init_40 ?_
  obtain ⟨x14, gx14, h⟩ := bnd h
  refine zr_len (pc := 43) hX gx14 dX9_init_43 ?_
  obtain ⟨σ15, gσ15, h⟩ := bnd h
  refine zr_newa (atype := .int) (pc := 44) (k' := 4) (n' := 32) (sz' := sz + 4) hX gσ15 q207 rfl (by decide) rfl rfl rfl rfl rfl dX9_init_44 ?_
  obtain ⟨σ16, gσ16, h⟩ := bnd h
  refine zr_pvF (pc := 46) hX hnm rfl zaC_3 gσ16 rfl q1108 rfl rfl (tyX10_ok 3 (Nat.le_of_ble_eq_true rfl)) rfl rfl dX9_init_46 ?_
  refine zr_iconst (pc := 49) hX zci_0 dX9_init_49 ?_
  refine zr_istore_n (pc := 50) hX rfl rfl (Nat.le_of_ble_eq_true rfl) rfl dX9_init_50 ?_
  refine VW.sub (lv' := [(0, .ref th), (1, .ref p0), (2, .int (0 : Int32))]) ?_ [1, 2, 0] rfl
  refine zloop_walk (V := (fun a => VW K a.1 (sz + 4) 4 32 51 [(0, .ref th), (1, .ref p0), (2, .int a.2)] [])) (E := fun e => e = o) ?_ n (σ16, (0 : Int32)) _ h rfl
  intro a17 o18 h kco18 keo18
  unfold fX9_init_L51 at h
  refine zr_iload_n (pc := 51) hX 2 rfl rfl dX9_init_51 ?_
  refine zr_aload_n (pc := 52) hX 0 rfl rfl dX9_init_52 ?_
  obtain ⟨r19, gr19, h⟩ := bnd h
  refine zr_fv (pc := 53) hX zaC_0 (zgR_spec gr19) q1082 (Or.inl rfl) dX9_init_53 ?_
  obtain ⟨x20, gx20, h⟩ := bnd h
  refine zr_len (pc := 56) hX gx20 dX9_init_56 ?_
  refine zr_icmp_ge (pc := 57) hX 85 rfl dX9_init_57 (fun c57_28 => ?_) (fun c57_28 => ?_)
  · rw [if_pos c57_28] at h
    replace h := congrArg some (keo18 _ (Option.some.inj h).symm)
    exact hret _ (Option.some.inj h).symm _ _ dX9_init_85
  · rw [if_neg c57_28] at h
    refine zr_aload_n (pc := 60) hX 0 rfl rfl dX9_init_60 ?_
    obtain ⟨r21, gr21, h⟩ := bnd h
    refine zr_fv (pc := 61) hX zaC_0 (zgR_spec gr21) q1082 (Or.inl rfl) dX9_init_61 ?_
    refine zr_iload_n (pc := 64) hX 2 rfl rfl dX9_init_64 ?_
    refine zr_aload_n (pc := 65) hX 1 rfl rfl dX9_init_65 ?_
    refine zr_iload_n (pc := 66) hX 2 rfl rfl dX9_init_66 ?_
    obtain ⟨u22, gu22, h⟩ := bnd h
    obtain ⟨t23, gt23, h⟩ := bnd h
    refine zr_callF (pc := 67) (rest := [.int a17.2, .ref r21]) (stk' := [.ref t23, .int a17.2, .ref r21]) (k' := 4) (n' := 32) hX (fun l s0 D => mJ2_get l s0 D gt23) gu22 zwJ2_get (by decide) q1071 q405 q403 rfl rfl rfl rfl rfl rfl rfl rfl rfl dX9_init_67 ?_
    obtain ⟨u24, gu24, h⟩ := bnd h
    refine zr_cast (pc := 72) hX gu24 zc19 q1072 (Or.inl rfl) dX9_init_72 ?_
    obtain ⟨u25, gu25, h⟩ := bnd h
    obtain ⟨t26, gt26, h⟩ := bnd h
    refine zr_callVs (pc := 75) (rest := [.int a17.2, .ref r21]) (stk' := [.int t26, .int a17.2, .ref r21]) (k' := 4) (n' := 32) hX (fun l s0 D => mJ18_intValue l s0 D gt26) gu25 zc19 zwJ18_intValue q1073 q1053 q1054 rfl rfl rfl rfl rfl rfl rfl rfl rfl dX9_init_75 ?_
    obtain ⟨σ27, gσ27, h⟩ := bnd h
    refine zr_sI (pc := 78) hX gσ27 dX9_init_78 ?_
    obtain ⟨x28, gx28, h⟩ := bnd h
    refine zr_iinc (pc := 79) hX 2 rfl zci_1 (Option.some.inj gx28) (Nat.le_of_ble_eq_true rfl) rfl dX9_init_79 ?_
    refine zr_goto (pc := 82) hX 51 rfl dX9_init_82 ?_
    exact VW.sub (kco18 (σ27, x28) (Option.some.inj h).symm) [1, 2, 0] rfl
set_option maxHeartbeats 4000000 in
theorem mX10_init (l : Launch) (s0 : State) (D : zD) {n : Nat} {σ : zH} {sz : Nat} {th : Nat} {p0 : Nat} {p1 : Nat} {p2 : Nat} {p3 : Int32} {p4 : Int32} {o : zH × Nat} (h : fX10_init n σ sz th p0 p1 p2 p3 p4 = some o) : zM l s0 D yX10_init cX10_init 7 none 5 86 5 40 [.ref th, .ref p0, .ref p1, .ref p2, .int p3, .int p4] σ sz o.1 o.2 none := by
  refine zenter (own := RX10) zplX10 rfl (Nat.le_of_ble_eq_true rfl) rfl (fun K hX hnm hret => ?_)
  unfold fX10_init at h
  have hret : ∀ a, o = a → zRet K cX10_init none a.1 a.2 5 40 none := fun a e => by cases e; exact hret
  show VW K σ sz 0 0 0 [(0, .ref th), (1, .ref p0), (2, .ref p1), (3, .ref p2), (4, .int p3), (5, .int p4)] []
  refine zr_aload_n (pc := 0) hX 0 rfl rfl dX10_init_0 ?_
  refine zr_aload_n (pc := 1) hX 1 rfl rfl dX10_init_1 ?_
  obtain ⟨t1, gt1, h⟩ := bnd h
  refine zr_callI (pc := 2) (rest := []) (k' := 4) (n' := 32) hX (fun l s0 D => mX9_init l s0 D gt1) zwX9_init q1064 q1065 rfl rfl rfl rfl rfl rfl rfl rfl dX10_init_2 ?_
  refine zr_aload_n (pc := 5) hX 0 rfl rfl dX10_init_5 ?_
  refine zr_aload_n (pc := 6) hX 3 rfl rfl dX10_init_6 ?_
  obtain ⟨σ2, gσ2, h⟩ := bnd h
  refine zr_pvF (pc := 7) hX hnm rfl za8_5 gσ2 rfl q1079 rfl rfl (tyX10_ok 5 (Nat.le_of_ble_eq_true rfl)) rfl rfl dX10_init_7 ?_
  refine zr_aload_n (pc := 10) hX 0 rfl rfl dX10_init_10 ?_
  refine zr_iload (pc := 11) hX 4 rfl dX10_init_11 ?_
  obtain ⟨σ3, gσ3, h⟩ := bnd h
  refine zr_pZF (pc := 13) hX hnm rfl za8_6 gσ3 rfl q1080 rfl rfl (tyX10_ok 6 (Nat.le_of_ble_eq_true rfl)) dX10_init_13 ?_
  refine zr_aload_n (pc := 16) hX 0 rfl rfl dX10_init_16 ?_
  refine zr_iload (pc := 17) hX 5 rfl dX10_init_17 ?_
  obtain ⟨σ4, gσ4, h⟩ := bnd h
  refine zr_pvF (pc := 19) hX hnm rfl za8_7 gσ4 rfl q1081 rfl rfl (tyX10_ok 7 (Nat.le_of_ble_eq_true rfl)) rfl rfl dX10_init_19 ?_
  refine zr_aload_n (pc := 22) hX 0 rfl rfl dX10_init_22 ?_
  refine zr_aload_n (pc := 23) hX 0 rfl rfl dX10_init_23 ?_
  obtain ⟨u5, gu5, h⟩ := bnd h
  obtain ⟨t6, gt6, h⟩ := bnd h
  refine zr_callU (pc := 24) (rest := [.ref th]) (stk' := [.int t6, .ref th]) (k' := 4) (n' := 32) hX (fun l s0 D => mX9_size l s0 D gt6) gu5 zc8 zwX9_size q536 q537 q473 q538 (Or.inl ⟨q473, _, _, _, q474⟩) (by decide) rfl rfl rfl rfl rfl rfl rfl rfl rfl dX10_init_24 ?_
  obtain ⟨σ7, gσ7, h⟩ := bnd h
  refine zr_newa (atype := .int) (pc := 27) (k' := 5) (n' := 40) (sz' := t1.2 + 1) hX gσ7 q207 rfl (by decide) rfl rfl rfl rfl rfl dX10_init_27 ?_
  obtain ⟨σ8, gσ8, h⟩ := bnd h
  refine zr_pvF (pc := 29) hX hnm rfl za8_4 gσ8 rfl q1078 rfl rfl (tyX10_ok 4 (Nat.le_of_ble_eq_true rfl)) rfl rfl dX10_init_29 ?_
  refine zr_iconst (pc := 32) hX zci_0 dX10_init_32 ?_
  refine zr_istore (pc := 33) hX rfl (Nat.le_of_ble_eq_true rfl) rfl dX10_init_33 ?_
  refine VW.sub (lv' := [(0, .ref th), (2, .ref p1), (6, .int (0 : Int32))]) ?_ [1, 3, 0] rfl
  refine zloop_walk (V := (fun a => VW K a.1 (t1.2 + 1) 5 40 35 [(0, .ref th), (2, .ref p1), (6, .int a.2)] [])) (E := fun e => e = o) ?_ n (σ8, (0 : Int32)) _ h rfl
  intro a9 o10 h kco10 keo10
  unfold fX10_init_L35 at h
  refine zr_iload (pc := 35) hX 2 rfl dX10_init_35 ?_
  refine zr_aload_n (pc := 37) hX 0 rfl rfl dX10_init_37 ?_
  obtain ⟨r11, gr11, h⟩ := bnd h
  refine zr_fv (pc := 38) hX za8_4 (zgR_spec gr11) q1078 (Or.inl rfl) dX10_init_38 ?_
  obtain ⟨x12, gx12, h⟩ := bnd h
  refine zr_len (pc := 41) hX gx12 dX10_init_41 ?_
  refine zr_icmp_ge (pc := 42) hX 72 rfl dX10_init_42 (fun c42_20 => ?_) (fun c42_20 => ?_)
  · rw [if_pos c42_20] at h
    replace h := congrArg some (keo10 _ (Option.some.inj h).symm)
    exact hret _ (Option.some.inj h).symm _ _ dX10_init_72
  · rw [if_neg c42_20] at h
    refine zr_aload_n (pc := 45) hX 0 rfl rfl dX10_init_45 ?_
    obtain ⟨r13, gr13, h⟩ := bnd h
    refine zr_fv (pc := 46) hX za8_4 (zgR_spec gr13) q1078 (Or.inl rfl) dX10_init_46 ?_
    refine zr_iload (pc := 49) hX 2 rfl dX10_init_49 ?_
    refine zr_aload_n (pc := 51) hX 1 rfl rfl dX10_init_51 ?_
    refine zr_iload (pc := 52) hX 2 rfl dX10_init_52 ?_
    obtain ⟨u14, gu14, h⟩ := bnd h
    obtain ⟨t15, gt15, h⟩ := bnd h
    refine zr_callF (pc := 54) (rest := [.int a9.2, .ref r13]) (stk' := [.ref t15, .int a9.2, .ref r13]) (k' := 5) (n' := 40) hX (fun l s0 D => mJ2_get l s0 D gt15) gu14 zwJ2_get (by decide) q1075 q405 q403 rfl rfl rfl rfl rfl rfl rfl rfl rfl dX10_init_54 ?_
    obtain ⟨u16, gu16, h⟩ := bnd h
    refine zr_cast (pc := 59) hX gu16 zc19 q1076 (Or.inl rfl) dX10_init_59 ?_
    obtain ⟨u17, gu17, h⟩ := bnd h
    obtain ⟨t18, gt18, h⟩ := bnd h
    refine zr_callVs (pc := 62) (rest := [.int a9.2, .ref r13]) (stk' := [.int t18, .int a9.2, .ref r13]) (k' := 5) (n' := 40) hX (fun l s0 D => mJ18_intValue l s0 D gt18) gu17 zc19 zwJ18_intValue q1077 q1053 q1054 rfl rfl rfl rfl rfl rfl rfl rfl rfl dX10_init_62 ?_
    obtain ⟨σ19, gσ19, h⟩ := bnd h
    refine zr_sI (pc := 65) hX gσ19 dX10_init_65 ?_
    obtain ⟨x20, gx20, h⟩ := bnd h
    refine zr_iinc (pc := 66) hX 2 rfl zci_1 (Option.some.inj gx20) (Nat.le_of_ble_eq_true rfl) rfl dX10_init_66 ?_
    refine zr_goto (pc := 69) hX 35 rfl dX10_init_69 ?_
    exact VW.sub (kco10 (σ19, x20) (Option.some.inj h).symm) [1, 2, 0] rfl
set_option maxHeartbeats 4000000 in
theorem mX11_init (l : Launch) (s0 : State) (D : zD) {n : Nat} {σ : zH} {sz : Nat} {th : Nat} {p0 : Nat} {o : zH × Nat} (h : fX11_init n σ sz th p0 = some o) : zM l s0 D yX11_init cX11_init 2 none 5 86 5 64 [.ref th, .ref p0] σ sz o.1 o.2 none := by
  refine zenter (own := RX11) zplX11 rfl (Nat.le_of_ble_eq_true rfl) rfl (fun K hX hnm hret => ?_)
  unfold fX11_init at h
  have hret : ∀ a, o = a → zRet K cX11_init none a.1 a.2 5 64 none := fun a e => by cases e; exact hret
  show VW K σ sz 0 0 0 [(0, .ref th), (1, .ref p0)] []
  refine zr_aload_n (pc := 0) hX 0 rfl rfl dX11_init_0 ?_
  refine zr_aload_n (pc := 1) hX 1 rfl rfl dX11_init_1 ?_
  obtain ⟨t1, gt1, h⟩ := bnd h
  refine zr_callI (pc := 2) (rest := []) (k' := 4) (n' := 32) hX (fun l s0 D => mX9_init l s0 D gt1) zwX9_init q1152 q1065 rfl rfl rfl rfl rfl rfl rfl rfl dX11_init_2 ?_
  refine zr_aload_n (pc := 5) hX 0 rfl rfl dX11_init_5 ?_
  refine zr_bipush (pc := 6) hX zcb_32 dX11_init_6 ?_
  obtain ⟨σ2, gσ2, h⟩ := bnd h
  refine zr_newa (atype := .int) (pc := 8) (k' := 5) (n' := 64) (sz' := t1.2 + 1) hX gσ2 q207 rfl (by decide) rfl rfl rfl rfl rfl dX11_init_8 ?_
  obtain ⟨σ3, gσ3, h⟩ := bnd h
  refine zr_pvF (pc := 10) hX hnm rfl za9_4 gσ3 rfl q1153 rfl rfl (tyX11_ok 4 (Nat.le_of_ble_eq_true rfl)) rfl rfl dX11_init_10 ?_
  exact hret _ (Option.some.inj h).symm _ _ dX11_init_13
set_option maxHeartbeats 4000000 in
theorem mX12_init (l : Launch) (s0 : State) (D : zD) {n : Nat} {σ : zH} {sz : Nat} {th : Nat} {p0 : Nat} {o : zH × Nat} (h : fX12_init n σ sz th p0 = some o) : zM l s0 D yX12_init cX12_init 2 none 5 86 4 32 [.ref th, .ref p0] σ sz o.1 o.2 none := by
  refine zenter (own := RX12) zplX12 rfl (Nat.le_of_ble_eq_true rfl) rfl (fun K hX hnm hret => ?_)
  unfold fX12_init at h
  have hret : ∀ a, o = a → zRet K cX12_init none a.1 a.2 4 32 none := fun a e => by cases e; exact hret
  show VW K σ sz 0 0 0 [(0, .ref th), (1, .ref p0)] []
  refine zr_aload_n (pc := 0) hX 0 rfl rfl dX12_init_0 ?_
  refine zr_aload_n (pc := 1) hX 1 rfl rfl dX12_init_1 ?_
  obtain ⟨t1, gt1, h⟩ := bnd h
  refine zr_callI (pc := 2) (rest := []) (k' := 4) (n' := 32) hX (fun l s0 D => mX9_init l s0 D gt1) zwX9_init q1176 q1065 rfl rfl rfl rfl rfl rfl rfl rfl dX12_init_2 ?_
  exact hret _ (Option.some.inj h).symm _ _ dX12_init_5
set_option maxHeartbeats 4000000 in
theorem mX13_init (l : Launch) (s0 : State) (D : zD) {n : Nat} {σ : zH} {sz : Nat} {th : Nat} {p0 : Nat} {p1 : Nat} {p2 : Int32} {o : zH × Nat} (h : fX13_init n σ sz th p0 p1 p2 = some o) : zM l s0 D yX13_init cX13_init 4 none 5 86 6 46 [.ref th, .ref p0, .ref p1, .int p2] σ sz o.1 o.2 none := by
  refine zenter (own := RX13) zplX13 rfl (Nat.le_of_ble_eq_true rfl) rfl (fun K hX hnm hret => ?_)
  unfold fX13_init at h
  have hret : ∀ a, o = a → zRet K cX13_init none a.1 a.2 6 46 none := fun a e => by cases e; exact hret
  show VW K σ sz 0 0 0 [(0, .ref th), (1, .ref p0), (2, .ref p1), (3, .int p2)] []
  refine zr_aload_n (pc := 0) hX 0 rfl rfl dX13_init_0 ?_
  refine zr_aload_n (pc := 1) hX 1 rfl rfl dX13_init_1 ?_
  obtain ⟨t1, gt1, h⟩ := bnd h
  refine zr_callI (pc := 2) (rest := []) (k' := 4) (n' := 32) hX (fun l s0 D => mX9_init l s0 D gt1) zwX9_init q1194 q1065 rfl rfl rfl rfl rfl rfl rfl rfl dX13_init_2 ?_
  refine zr_aload_n (pc := 5) hX 0 rfl rfl dX13_init_5 ?_
  refine zr_bipush (pc := 6) hX zcb_7 dX13_init_6 ?_
  obtain ⟨σ2, gσ2, h⟩ := bnd h
  refine zr_newa (atype := .int) (pc := 8) (k' := 5) (n' := 39) (sz' := t1.2 + 1) hX gσ2 q207 rfl (by decide) rfl rfl rfl rfl rfl dX13_init_8 ?_
  obtain ⟨σ3, gσ3, h⟩ := bnd h
  refine zr_pvF (pc := 10) hX hnm rfl za11_6 gσ3 rfl q1197 rfl rfl (tyX13_ok 6 (Nat.le_of_ble_eq_true rfl)) rfl rfl dX13_init_10 ?_
  refine zr_aload_n (pc := 13) hX 0 rfl rfl dX13_init_13 ?_
  refine zr_bipush (pc := 14) hX zcb_7 dX13_init_14 ?_
  obtain ⟨σ4, gσ4, h⟩ := bnd h
  refine zr_newa (atype := .int) (pc := 16) (k' := 6) (n' := 46) (sz' := t1.2 + 2) hX gσ4 q207 rfl (by decide) rfl rfl rfl rfl rfl dX13_init_16 ?_
  obtain ⟨σ5, gσ5, h⟩ := bnd h
  refine zr_pvF (pc := 18) hX hnm rfl za11_7 gσ5 rfl q1198 rfl rfl (tyX13_ok 7 (Nat.le_of_ble_eq_true rfl)) rfl rfl dX13_init_18 ?_
  refine zr_aload_n (pc := 21) hX 0 rfl rfl dX13_init_21 ?_
  refine zr_aload_n (pc := 22) hX 2 rfl rfl dX13_init_22 ?_
  obtain ⟨σ6, gσ6, h⟩ := bnd h
  refine zr_pvF (pc := 23) hX hnm rfl za11_4 gσ6 rfl q1195 rfl rfl (tyX13_ok 4 (Nat.le_of_ble_eq_true rfl)) rfl rfl dX13_init_23 ?_
  refine zr_aload_n (pc := 26) hX 0 rfl rfl dX13_init_26 ?_
  refine zr_iload_n (pc := 27) hX 3 rfl rfl dX13_init_27 ?_
  obtain ⟨σ7, gσ7, h⟩ := bnd h
  refine zr_pvF (pc := 28) hX hnm rfl za11_5 gσ7 rfl q1196 rfl rfl (tyX13_ok 5 (Nat.le_of_ble_eq_true rfl)) rfl rfl dX13_init_28 ?_
  exact hret _ (Option.some.inj h).symm _ _ dX13_init_31
set_option maxHeartbeats 4000000 in
theorem mX14_init (l : Launch) (s0 : State) (D : zD) {n : Nat} {σ : zH} {sz : Nat} {th : Nat} {p0 : Nat} {o : zH × Nat} (h : fX14_init n σ sz th p0 = some o) : zM l s0 D yX14_init cX14_init 2 none 5 86 4 32 [.ref th, .ref p0] σ sz o.1 o.2 none := by
  refine zenter (own := RX14) zplX14 rfl (Nat.le_of_ble_eq_true rfl) rfl (fun K hX hnm hret => ?_)
  unfold fX14_init at h
  have hret : ∀ a, o = a → zRet K cX14_init none a.1 a.2 4 32 none := fun a e => by cases e; exact hret
  show VW K σ sz 0 0 0 [(0, .ref th), (1, .ref p0)] []
  refine zr_aload_n (pc := 0) hX 0 rfl rfl dX14_init_0 ?_
  refine zr_aload_n (pc := 1) hX 1 rfl rfl dX14_init_1 ?_
  obtain ⟨t1, gt1, h⟩ := bnd h
  refine zr_callI (pc := 2) (rest := []) (k' := 4) (n' := 32) hX (fun l s0 D => mX9_init l s0 D gt1) zwX9_init q1247 q1065 rfl rfl rfl rfl rfl rfl rfl rfl dX14_init_2 ?_
  exact hret _ (Option.some.inj h).symm _ _ dX14_init_5
set_option maxHeartbeats 4000000 in
theorem mX15_init (l : Launch) (s0 : State) (D : zD) {n : Nat} {σ : zH} {sz : Nat} {th : Nat} {p0 : Nat} {p1 : Nat} {o : zH × Nat} (h : fX15_init n σ sz th p0 p1 = some o) : zM l s0 D yX15_init cX15_init 3 none 5 86 4 32 [.ref th, .ref p0, .ref p1] σ sz o.1 o.2 none := by
  refine zenter (own := RX15) zplX15 rfl (Nat.le_of_ble_eq_true rfl) rfl (fun K hX hnm hret => ?_)
  unfold fX15_init at h
  have hret : ∀ a, o = a → zRet K cX15_init none a.1 a.2 4 32 none := fun a e => by cases e; exact hret
  show VW K σ sz 0 0 0 [(0, .ref th), (1, .ref p0), (2, .ref p1)] []
  refine zr_aload_n (pc := 0) hX 0 rfl rfl dX15_init_0 ?_
  refine zr_aload_n (pc := 1) hX 1 rfl rfl dX15_init_1 ?_
  obtain ⟨t1, gt1, h⟩ := bnd h
  refine zr_callI (pc := 2) (rest := []) (k' := 4) (n' := 32) hX (fun l s0 D => mX9_init l s0 D gt1) zwX9_init q1274 q1065 rfl rfl rfl rfl rfl rfl rfl rfl dX15_init_2 ?_
  refine zr_aload_n (pc := 5) hX 0 rfl rfl dX15_init_5 ?_
  refine zr_aload_n (pc := 6) hX 2 rfl rfl dX15_init_6 ?_
  obtain ⟨σ2, gσ2, h⟩ := bnd h
  refine zr_pvF (pc := 7) hX hnm rfl za13_4 gσ2 rfl q1275 rfl rfl (tyX15_ok 4 (Nat.le_of_ble_eq_true rfl)) rfl rfl dX15_init_7 ?_
  exact hret _ (Option.some.inj h).symm _ _ dX15_init_10
set_option maxHeartbeats 4000000 in
theorem mX8_variable (l : Launch) (s0 : State) (D : zD) {σ : zH} {sz : Nat} {th : Nat} {o : Int32} (h : fX8_variable σ th = some o) : zM l s0 D yX8_variable cX8_variable 1 (some .int) 1 0 0 0 [.ref th] σ sz σ sz (some (.int o)) := by
  refine zenter (own := RX8) zplX8 rfl (Nat.le_of_ble_eq_true rfl) trivial (fun K hX hnm hret => ?_)
  unfold fX8_variable at h
  have hret : ∀ a, o = a → zRet K cX8_variable (some .int) σ sz 0 0 (some (.int a)) := fun a e => by cases e; exact hret
  show VW K σ sz 0 0 0 [(0, .ref th)] []
  refine zr_aload_n (pc := 0) hX 0 rfl rfl dX8_variable_0 ?_
  obtain ⟨x1, gx1, h⟩ := bnd h
  refine zr_fv (pc := 1) hX za7_0 (zgI_spec gx1) q1021 (Or.inl rfl) dX8_variable_1 ?_
  exact hret _ (Option.some.inj h).symm _ _ dX8_variable_4 (Or.inl rfl)
set_option maxHeartbeats 4000000 in
theorem mX16_init (l : Launch) (s0 : State) (D : zD) {n : Nat} {σ : zH} {sz : Nat} {th : Nat} {p0 : Nat} {p1 : Nat} {o : zH × Nat} (h : fX16_init n σ sz th p0 p1 = some o) : zM l s0 D yX16_init cX16_init 3 none 5 86 4 32 [.ref th, .ref p0, .ref p1] σ sz o.1 o.2 none := by
  refine zenter (own := RX16) zplX16 rfl (Nat.le_of_ble_eq_true rfl) rfl (fun K hX hnm hret => ?_)
  unfold fX16_init at h
  have hret : ∀ a, o = a → zRet K cX16_init none a.1 a.2 4 32 none := fun a e => by cases e; exact hret
  show VW K σ sz 0 0 0 [(0, .ref th), (1, .ref p0), (2, .ref p1)] []
  refine zr_aload_n (pc := 0) hX 0 rfl rfl dX16_init_0 ?_
  refine zr_aload_n (pc := 1) hX 1 rfl rfl dX16_init_1 ?_
  obtain ⟨t1, gt1, h⟩ := bnd h
  refine zr_callI (pc := 2) (rest := []) (k' := 4) (n' := 32) hX (fun l s0 D => mX9_init l s0 D gt1) zwX9_init q1380 q1065 rfl rfl rfl rfl rfl rfl rfl rfl dX16_init_2 ?_
  refine zr_aload_n (pc := 5) hX 0 rfl rfl dX16_init_5 ?_
  refine zr_aload_n (pc := 6) hX 2 rfl rfl dX16_init_6 ?_
  obtain ⟨σ2, gσ2, h⟩ := bnd h
  refine zr_pvF (pc := 7) hX hnm rfl za14_4 gσ2 rfl q1381 rfl rfl (tyX16_ok 4 (Nat.le_of_ble_eq_true rfl)) rfl rfl dX16_init_7 ?_
  exact hret _ (Option.some.inj h).symm _ _ dX16_init_10
set_option maxHeartbeats 4000000 in
theorem mX17_init (l : Launch) (s0 : State) (D : zD) {n : Nat} {σ : zH} {sz : Nat} {th : Nat} {p0 : Nat} {p1 : Nat} {p2 : Int32} {o : zH × Nat} (h : fX17_init n σ sz th p0 p1 p2 = some o) : zM l s0 D yX17_init cX17_init 4 none 5 86 4 32 [.ref th, .ref p0, .ref p1, .int p2] σ sz o.1 o.2 none := by
  refine zenter (own := RX17) zplX17 rfl (Nat.le_of_ble_eq_true rfl) rfl (fun K hX hnm hret => ?_)
  unfold fX17_init at h
  have hret : ∀ a, o = a → zRet K cX17_init none a.1 a.2 4 32 none := fun a e => by cases e; exact hret
  show VW K σ sz 0 0 0 [(0, .ref th), (1, .ref p0), (2, .ref p1), (3, .int p2)] []
  refine zr_aload_n (pc := 0) hX 0 rfl rfl dX17_init_0 ?_
  refine zr_aload_n (pc := 1) hX 1 rfl rfl dX17_init_1 ?_
  obtain ⟨t1, gt1, h⟩ := bnd h
  refine zr_callI (pc := 2) (rest := []) (k' := 4) (n' := 32) hX (fun l s0 D => mX9_init l s0 D gt1) zwX9_init q1401 q1065 rfl rfl rfl rfl rfl rfl rfl rfl dX17_init_2 ?_
  refine zr_aload_n (pc := 5) hX 0 rfl rfl dX17_init_5 ?_
  refine zr_aload_n (pc := 6) hX 2 rfl rfl dX17_init_6 ?_
  obtain ⟨σ2, gσ2, h⟩ := bnd h
  refine zr_pvF (pc := 7) hX hnm rfl za15_4 gσ2 rfl q1402 rfl rfl (tyX17_ok 4 (Nat.le_of_ble_eq_true rfl)) rfl rfl dX17_init_7 ?_
  refine zr_aload_n (pc := 10) hX 0 rfl rfl dX17_init_10 ?_
  refine zr_iload_n (pc := 11) hX 3 rfl rfl dX17_init_11 ?_
  obtain ⟨σ3, gσ3, h⟩ := bnd h
  refine zr_pvF (pc := 12) hX hnm rfl za15_5 gσ3 rfl q1403 rfl rfl (tyX17_ok 5 (Nat.le_of_ble_eq_true rfl)) rfl rfl dX17_init_12 ?_
  exact hret _ (Option.some.inj h).symm _ _ dX17_init_15
set_option maxHeartbeats 4000000 in
theorem mX2_add (l : Launch) (s0 : State) (D : zD) {σ : zH} {sz : Nat} {th : Nat} {p0 : Int32} {p1 : Int32} {p2 : Int32} {o : zH} (h : fX2_add σ th p0 p1 p2 = some o) : zM l s0 D yX2_add cX2_add 4 none 1 0 0 0 [.ref th, .int p0, .int p1, .int p2] σ sz o sz none := by
  refine zenter (own := RX2) zplX2 rfl (Nat.le_of_ble_eq_true rfl) rfl (fun K hX hnm hret => ?_)
  unfold fX2_add at h
  have hret : ∀ a, o = a → zRet K cX2_add none a sz 0 0 none := fun a e => by cases e; exact hret
  show VW K σ sz 0 0 0 [(0, .ref th), (1, .int p0), (2, .int p1), (3, .int p2)] []
  refine zr_aload_n (pc := 0) hX 0 rfl rfl dX2_add_0 ?_
  obtain ⟨r1, gr1, h⟩ := bnd h
  refine zr_fv (pc := 1) hX za1_0 (zgR_spec gr1) q190 (Or.inl rfl) dX2_add_1 ?_
  refine zr_aload_n (pc := 4) hX 0 rfl rfl dX2_add_4 ?_
  obtain ⟨x2, gx2, h⟩ := bnd h
  refine zr_fv (pc := 5) hX za1_3 (zgI_spec gx2) q196 (Or.inl rfl) dX2_add_5 ?_
  refine zr_iload_n (pc := 8) hX 1 rfl rfl dX2_add_8 ?_
  obtain ⟨σ3, gσ3, h⟩ := bnd h
  refine zr_sI (pc := 9) hX gσ3 dX2_add_9 ?_
  refine zr_aload_n (pc := 10) hX 0 rfl rfl dX2_add_10 ?_
  obtain ⟨r4, gr4, h⟩ := bnd h
  refine zr_fv (pc := 11) hX za1_1 (zgR_spec gr4) q192 (Or.inl rfl) dX2_add_11 ?_
  refine zr_aload_n (pc := 14) hX 0 rfl rfl dX2_add_14 ?_
  obtain ⟨x5, gx5, h⟩ := bnd h
  refine zr_fv (pc := 15) hX za1_3 (zgI_spec gx5) q196 (Or.inl rfl) dX2_add_15 ?_
  refine zr_iload_n (pc := 18) hX 2 rfl rfl dX2_add_18 ?_
  obtain ⟨σ6, gσ6, h⟩ := bnd h
  refine zr_sI (pc := 19) hX gσ6 dX2_add_19 ?_
  refine zr_aload_n (pc := 20) hX 0 rfl rfl dX2_add_20 ?_
  obtain ⟨r7, gr7, h⟩ := bnd h
  refine zr_fv (pc := 21) hX za1_2 (zgR_spec gr7) q194 (Or.inl rfl) dX2_add_21 ?_
  refine zr_aload_n (pc := 24) hX 0 rfl rfl dX2_add_24 ?_
  obtain ⟨x8, gx8, h⟩ := bnd h
  refine zr_fv (pc := 25) hX za1_3 (zgI_spec gx8) q196 (Or.inl rfl) dX2_add_25 ?_
  refine zr_iload_n (pc := 28) hX 3 rfl rfl dX2_add_28 ?_
  obtain ⟨σ9, gσ9, h⟩ := bnd h
  refine zr_sZ (pc := 29) hX gσ9 dX2_add_29 ?_
  refine zr_aload_n (pc := 30) hX 0 rfl rfl dX2_add_30 ?_
  refine zr_dup (pc := 31) hX rfl dX2_add_31 ?_
  obtain ⟨x10, gx10, h⟩ := bnd h
  refine zr_fv (pc := 32) hX za1_3 (zgI_spec gx10) q196 (Or.inl rfl) dX2_add_32 ?_
  refine zr_iconst (pc := 35) hX zci_1 dX2_add_35 ?_
  refine zr_iadd (pc := 36) hX dX2_add_36 ?_
  obtain ⟨σ11, gσ11, h⟩ := bnd h
  refine zr_pv (pc := 37) hX za1_3 gσ11 rfl q196 (Or.inl rfl) rfl (tyX2_ok 3 (Nat.le_of_ble_eq_true rfl)) rfl rfl dX2_add_37 ?_
  exact hret _ (Option.some.inj h).symm _ _ dX2_add_40
set_option maxHeartbeats 4000000 in
theorem mX1_isFixed (l : Launch) (s0 : State) (D : zD) {σ : zH} {sz : Nat} {p0 : Int32} {o : Int32} (h : fX1_isFixed p0 = some o) : zM l s0 D yX1_isFixed cX1_isFixed 1 (some .boolean) 2 20 0 0 [.int p0] σ sz σ sz (some (.int o)) := by
  refine zenter (own := RX1) zplX1 rfl (Nat.le_of_ble_eq_true rfl) trivial (fun K hX hnm hret => ?_)
  unfold fX1_isFixed at h
  have hret : ∀ a, o = a → zRet K cX1_isFixed (some .boolean) σ sz 0 0 (some (.int a)) := fun a e => by cases e; exact hret
  show VW K σ sz 0 0 0 [(0, .int p0)] []
  refine zr_iload_n (pc := 0) hX 0 rfl rfl dX1_isFixed_0 ?_
  obtain ⟨t1, gt1, h⟩ := bnd h
  refine zr_callS (pc := 1) (rest := []) (stk' := [.int t1]) (k' := 0) (n' := 0) hX (fun l s0 D => mJ18_bitCount l s0 D gt1) zwJ18_bitCount q1310 q1311 rfl rfl rfl rfl rfl rfl rfl rfl dX1_isFixed_1 ?_
  refine zr_iconst (pc := 4) hX zci_1 dX1_isFixed_4 ?_
  refine zr_icmp_ne (pc := 5) hX 12 rfl dX1_isFixed_5 (fun c5_1 => ?_) (fun c5_1 => ?_)
  · rw [if_neg c5_1] at h
    refine zr_iconst (pc := 12) hX zci_0 dX1_isFixed_12 ?_
    exact hret _ (Option.some.inj h).symm _ _ dX1_isFixed_13 (Or.inr ⟨rfl, Or.inl rfl⟩)
  · rw [if_pos c5_1] at h
    refine zr_iconst (pc := 8) hX zci_1 dX1_isFixed_8 ?_
    refine zr_goto (pc := 9) hX 13 rfl dX1_isFixed_9 ?_
    exact hret _ (Option.some.inj h).symm _ _ dX1_isFixed_13 (Or.inr ⟨rfl, Or.inr rfl⟩)
set_option maxHeartbeats 4000000 in
theorem mX19_init (l : Launch) (s0 : State) (D : zD) {σ : zH} {sz : Nat} {th : Nat} {p0 : Int32} {p1 : Int32} {p2 : Int32} {p3 : Int32} {o : zH} (h : fX19_init σ th p0 p1 p2 p3 = some o) : zM l s0 D yX19_init cX19_init 5 none 3 50 0 0 [.ref th, .int p0, .int p1, .int p2, .int p3] σ sz o sz none := by
  refine zenter (own := RX19) zplX19 rfl (Nat.le_of_ble_eq_true rfl) rfl (fun K hX hnm hret => ?_)
  unfold fX19_init at h
  have hret : ∀ a, o = a → zRet K cX19_init none a sz 0 0 none := fun a e => by cases e; exact hret
  show VW K σ sz 0 0 0 [(0, .ref th), (1, .int p0), (2, .int p1), (3, .int p2), (4, .int p3)] []
  refine zr_aload_n (pc := 0) hX 0 rfl rfl dX19_init_0 ?_
  obtain ⟨t1, gt1, h⟩ := bnd h
  refine zr_callI (pc := 1) (rest := []) (k' := 0) (n' := 0) hX (fun l s0 D => mJ7_init l s0 D gt1) zwJ7_init q1582 q770 rfl rfl rfl rfl rfl rfl rfl rfl dX19_init_1 ?_
  refine zr_aload_n (pc := 4) hX 0 rfl rfl dX19_init_4 ?_
  refine zr_iload_n (pc := 5) hX 1 rfl rfl dX19_init_5 ?_
  obtain ⟨σ2, gσ2, h⟩ := bnd h
  refine zr_pvF (pc := 6) hX hnm rfl za17_0 gσ2 rfl q1583 rfl rfl (tyX19_ok 0 (Nat.le_of_ble_eq_true rfl)) rfl rfl dX19_init_6 ?_
  refine zr_aload_n (pc := 9) hX 0 rfl rfl dX19_init_9 ?_
  refine zr_iload_n (pc := 10) hX 2 rfl rfl dX19_init_10 ?_
  obtain ⟨σ3, gσ3, h⟩ := bnd h
  refine zr_pvF (pc := 11) hX hnm rfl za17_1 gσ3 rfl q1584 rfl rfl (tyX19_ok 1 (Nat.le_of_ble_eq_true rfl)) rfl rfl dX19_init_11 ?_
  refine zr_aload_n (pc := 14) hX 0 rfl rfl dX19_init_14 ?_
  refine zr_iload_n (pc := 15) hX 3 rfl rfl dX19_init_15 ?_
  obtain ⟨σ4, gσ4, h⟩ := bnd h
  refine zr_pvF (pc := 16) hX hnm rfl za17_2 gσ4 rfl q1585 rfl rfl (tyX19_ok 2 (Nat.le_of_ble_eq_true rfl)) rfl rfl dX19_init_16 ?_
  refine zr_aload_n (pc := 19) hX 0 rfl rfl dX19_init_19 ?_
  refine zr_iload (pc := 20) hX 4 rfl dX19_init_20 ?_
  obtain ⟨σ5, gσ5, h⟩ := bnd h
  refine zr_pZF (pc := 22) hX hnm rfl za17_3 gσ5 rfl q1586 rfl rfl (tyX19_ok 3 (Nat.le_of_ble_eq_true rfl)) dX19_init_22 ?_
  exact hret _ (Option.some.inj h).symm _ _ dX19_init_25
set_option maxHeartbeats 4000000 in
theorem mX18_init (l : Launch) (s0 : State) (D : zD) {σ : zH} {sz : Nat} {th : Nat} {p0 : Int32} {p1 : Int32} {o : zH × Nat} (h : fX18_init σ sz th p0 p1 = some o) : zM l s0 D yX18_init cX18_init 3 none 9 191 7 1616 [.ref th, .int p0, .int p1] σ sz o.1 o.2 none := by
  refine zenter (own := RX18) zplX18 rfl (Nat.le_of_ble_eq_true rfl) rfl (fun K hX hnm hret => ?_)
  unfold fX18_init at h
  have hret : ∀ a, o = a → zRet K cX18_init none a.1 a.2 7 1616 none := fun a e => by cases e; exact hret
  show VW K σ sz 0 0 0 [(0, .ref th), (1, .int p0), (2, .int p1)] []
  refine zr_aload_n (pc := 0) hX 0 rfl rfl dX18_init_0 ?_
  refine zr_objInit (pc := 1) hX q1572 q156 q157 rfl dX18_init_1 ?_
  refine zr_aload_n (pc := 4) hX 0 rfl rfl dX18_init_4 ?_
  obtain ⟨σ1, gσ1, h⟩ := bnd h
  refine zr_new (pc := 5) (k' := 1) (n' := 4) (sz' := sz + 1) hX zc1 tyX2_ok zfs1 q1573 q185 q114 rfl rfl rfl (Option.some.inj gσ1) rfl dX18_init_5 ?_
  refine zr_dup (pc := 8) hX rfl dX18_init_8 ?_
  obtain ⟨t2, gt2, h⟩ := bnd h
  refine zr_callIN (pc := 9) (rest := [.ref sz, .ref th]) (k' := 4) (n' := 1243) hX (fun l s0 D => mX2_init l s0 D gt2) zwX2_init q1574 q187 rfl rfl rfl rfl rfl rfl rfl rfl dX18_init_9 ?_
  obtain ⟨σ3, gσ3, h⟩ := bnd h
  refine zr_pvF (pc := 12) hX hnm rfl za16_2 gσ3 rfl q1602 rfl rfl (tyX18_ok 2 (Nat.le_of_ble_eq_true rfl)) rfl rfl dX18_init_12 ?_
  refine zr_aload_n (pc := 15) hX 0 rfl rfl dX18_init_15 ?_
  obtain ⟨σ4, gσ4, h⟩ := bnd h
  refine zr_new (pc := 16) (k' := 5) (n' := 1246) (sz' := t2.2 + 1) hX zc18 tyJ2_ok zfs18 q1575 q159 q113 rfl rfl rfl (Option.some.inj gσ4) rfl dX18_init_16 ?_
  refine zr_dup (pc := 19) hX rfl dX18_init_19 ?_
  obtain ⟨t5, gt5, h⟩ := bnd h
  refine zr_callI (pc := 20) (rest := [.ref t2.2, .ref th]) (k' := 5) (n' := 1246) hX (fun l s0 D => mJ2_init l s0 D gt5) zwJ2_init q1576 q161 rfl rfl rfl rfl rfl rfl rfl rfl dX18_init_20 ?_
  obtain ⟨σ6, gσ6, h⟩ := bnd h
  refine zr_pvF (pc := 23) hX hnm rfl za16_3 gσ6 rfl q1604 rfl rfl (tyX18_ok 3 (Nat.le_of_ble_eq_true rfl)) rfl rfl dX18_init_23 ?_
  refine zr_aload_n (pc := 26) hX 0 rfl rfl dX18_init_26 ?_
  refine zr_iload_n (pc := 27) hX 1 rfl rfl dX18_init_27 ?_
  obtain ⟨σ7, gσ7, h⟩ := bnd h
  refine zr_pvF (pc := 28) hX hnm rfl za16_0 gσ7 rfl q1598 rfl rfl (tyX18_ok 0 (Nat.le_of_ble_eq_true rfl)) rfl rfl dX18_init_28 ?_
  refine zr_aload_n (pc := 31) hX 0 rfl rfl dX18_init_31 ?_
  refine zr_iload_n (pc := 32) hX 2 rfl rfl dX18_init_32 ?_
  obtain ⟨σ8, gσ8, h⟩ := bnd h
  refine zr_pvF (pc := 33) hX hnm rfl za16_1 gσ8 rfl q1600 rfl rfl (tyX18_ok 1 (Nat.le_of_ble_eq_true rfl)) rfl rfl dX18_init_33 ?_
  refine zr_aload_n (pc := 36) hX 0 rfl rfl dX18_init_36 ?_
  obtain ⟨r9, gr9, h⟩ := bnd h
  refine zr_fv (pc := 37) hX za16_3 (zgR_spec gr9) q1604 (Or.inl rfl) dX18_init_37 ?_
  obtain ⟨σ10, gσ10, h⟩ := bnd h
  refine zr_new (pc := 40) (k' := 6) (n' := 1250) (sz' := t2.2 + 2) hX zc17 tyX19_ok zfs17 q1577 q1578 q149 rfl rfl rfl (Option.some.inj gσ10) rfl dX18_init_40 ?_
  refine zr_dup (pc := 43) hX rfl dX18_init_43 ?_
  refine zr_iconst (pc := 44) hX zci_0 dX18_init_44 ?_
  refine zr_iconst (pc := 45) hX zci_m1 dX18_init_45 ?_
  refine zr_iconst (pc := 46) hX zci_0 dX18_init_46 ?_
  refine zr_iconst (pc := 47) hX zci_0 dX18_init_47 ?_
  obtain ⟨t11, gt11, h⟩ := bnd h
  refine zr_callIN (pc := 48) (rest := [.ref (t2.2 + 1), .ref r9]) (k' := 6) (n' := 1250) hX (fun l s0 D => mX19_init l s0 D gt11) zwX19_init q1579 q1580 rfl rfl rfl rfl rfl rfl rfl rfl dX18_init_48 ?_
  obtain ⟨u12, gu12, h⟩ := bnd h
  obtain ⟨t13, gt13, h⟩ := bnd h
  refine zr_callF (pc := 51) (rest := []) (stk' := [.int t13.2.2]) (k' := 7) (n' := 1616) hX (fun l s0 D => mJ2_add l s0 D gt13) gu12 zwJ2_add (by decide) q1597 q814 q812 rfl rfl rfl rfl rfl rfl rfl rfl rfl dX18_init_51 ?_
  refine zr_pop (pc := 56) hX rfl dX18_init_56 ?_
  exact hret _ (Option.some.inj h).symm _ _ dX18_init_57
set_option maxHeartbeats 4000000 in
theorem mX19_stay (l : Launch) (s0 : State) (D : zD) {σ : zH} {sz : Nat} {th : Nat} {o : Int32} (h : fX19_stay σ th = some o) : zM l s0 D yX19_stay cX19_stay 1 (some .int) 1 0 0 0 [.ref th] σ sz σ sz (some (.int o)) := by
  refine zenter (own := RX19) zplX19 rfl (Nat.le_of_ble_eq_true rfl) trivial (fun K hX hnm hret => ?_)
  unfold fX19_stay at h
  have hret : ∀ a, o = a → zRet K cX19_stay (some .int) σ sz 0 0 (some (.int a)) := fun a e => by cases e; exact hret
  show VW K σ sz 0 0 0 [(0, .ref th)] []
  refine zr_aload_n (pc := 0) hX 0 rfl rfl dX19_stay_0 ?_
  obtain ⟨x1, gx1, h⟩ := bnd h
  refine zr_fv (pc := 1) hX za17_0 (zgI_spec gx1) q1583 (Or.inl rfl) dX19_stay_1 ?_
  exact hret _ (Option.some.inj h).symm _ _ dX19_stay_4 (Or.inl rfl)
set_option maxHeartbeats 4000000 in
theorem mX19_variable (l : Launch) (s0 : State) (D : zD) {σ : zH} {sz : Nat} {th : Nat} {o : Int32} (h : fX19_variable σ th = some o) : zM l s0 D yX19_variable cX19_variable 1 (some .int) 1 0 0 0 [.ref th] σ sz σ sz (some (.int o)) := by
  refine zenter (own := RX19) zplX19 rfl (Nat.le_of_ble_eq_true rfl) trivial (fun K hX hnm hret => ?_)
  unfold fX19_variable at h
  have hret : ∀ a, o = a → zRet K cX19_variable (some .int) σ sz 0 0 (some (.int a)) := fun a e => by cases e; exact hret
  show VW K σ sz 0 0 0 [(0, .ref th)] []
  refine zr_aload_n (pc := 0) hX 0 rfl rfl dX19_variable_0 ?_
  obtain ⟨x1, gx1, h⟩ := bnd h
  refine zr_fv (pc := 1) hX za17_1 (zgI_spec gx1) q1584 (Or.inl rfl) dX19_variable_1 ?_
  exact hret _ (Option.some.inj h).symm _ _ dX19_variable_4 (Or.inl rfl)
set_option maxHeartbeats 4000000 in
theorem mX19_value (l : Launch) (s0 : State) (D : zD) {σ : zH} {sz : Nat} {th : Nat} {o : Int32} (h : fX19_value σ th = some o) : zM l s0 D yX19_value cX19_value 1 (some .int) 1 0 0 0 [.ref th] σ sz σ sz (some (.int o)) := by
  refine zenter (own := RX19) zplX19 rfl (Nat.le_of_ble_eq_true rfl) trivial (fun K hX hnm hret => ?_)
  unfold fX19_value at h
  have hret : ∀ a, o = a → zRet K cX19_value (some .int) σ sz 0 0 (some (.int a)) := fun a e => by cases e; exact hret
  show VW K σ sz 0 0 0 [(0, .ref th)] []
  refine zr_aload_n (pc := 0) hX 0 rfl rfl dX19_value_0 ?_
  obtain ⟨x1, gx1, h⟩ := bnd h
  refine zr_fv (pc := 1) hX za17_2 (zgI_spec gx1) q1585 (Or.inl rfl) dX19_value_1 ?_
  exact hret _ (Option.some.inj h).symm _ _ dX19_value_4 (Or.inl rfl)
set_option maxHeartbeats 4000000 in
theorem mX19_has (l : Launch) (s0 : State) (D : zD) {σ : zH} {sz : Nat} {th : Nat} {o : Int32} (h : fX19_has σ th = some o) : zM l s0 D yX19_has cX19_has 1 (some .boolean) 1 0 0 0 [.ref th] σ sz σ sz (some (.int o)) := by
  refine zenter (own := RX19) zplX19 rfl (Nat.le_of_ble_eq_true rfl) trivial (fun K hX hnm hret => ?_)
  unfold fX19_has at h
  have hret : ∀ a, o = a → zRet K cX19_has (some .boolean) σ sz 0 0 (some (.int a)) := fun a e => by cases e; exact hret
  show VW K σ sz 0 0 0 [(0, .ref th)] []
  refine zr_aload_n (pc := 0) hX 0 rfl rfl dX19_has_0 ?_
  obtain ⟨x1, gx1, h⟩ := bnd h
  refine zr_fv (pc := 1) hX za17_3 (zgI_spec gx1) q1586 (Or.inl rfl) dX19_has_1 ?_
  obtain ⟨x2, gx2, h⟩ := bnd h
  rw [(zq_spec gx2).1] at h
  exact hret _ (Option.some.inj h).symm _ _ dX19_has_4 (Or.inr ⟨rfl, (zq_spec gx2).2⟩)
set_option maxHeartbeats 4000000 in
theorem mX3_add (l : Launch) (s0 : State) (D : zD) {σ : zH} {sz : Nat} {th : Nat} {p0 : Int32} {p1 : Int32} {p2 : Int32} {o : zH} (h : fX3_add σ th p0 p1 p2 = some o) : zM l s0 D yX3_add cX3_add 4 none 1 0 0 0 [.ref th, .int p0, .int p1, .int p2] σ sz o sz none := by
  refine zenter (own := RX3) zplX3 rfl (Nat.le_of_ble_eq_true rfl) rfl (fun K hX hnm hret => ?_)
  unfold fX3_add at h
  have hret : ∀ a, o = a → zRet K cX3_add none a sz 0 0 none := fun a e => by cases e; exact hret
  show VW K σ sz 0 0 0 [(0, .ref th), (1, .int p0), (2, .int p1), (3, .int p2)] []
  refine zr_aload_n (pc := 0) hX 0 rfl rfl dX3_add_0 ?_
  obtain ⟨r1, gr1, h⟩ := bnd h
  refine zr_fv (pc := 1) hX za2_0 (zgR_spec gr1) q215 (Or.inl rfl) dX3_add_1 ?_
  refine zr_aload_n (pc := 4) hX 0 rfl rfl dX3_add_4 ?_
  obtain ⟨x2, gx2, h⟩ := bnd h
  refine zr_fv (pc := 5) hX za2_4 (zgI_spec gx2) q219 (Or.inl rfl) dX3_add_5 ?_
  refine zr_aload_n (pc := 8) hX 0 rfl rfl dX3_add_8 ?_
  obtain ⟨x3, gx3, h⟩ := bnd h
  refine zr_fv (pc := 9) hX za2_4 (zgI_spec gx3) q219 (Or.inl rfl) dX3_add_9 ?_
  obtain ⟨σ4, gσ4, h⟩ := bnd h
  refine zr_sI (pc := 12) hX gσ4 dX3_add_12 ?_
  refine zr_aload_n (pc := 13) hX 0 rfl rfl dX3_add_13 ?_
  obtain ⟨r5, gr5, h⟩ := bnd h
  refine zr_fv (pc := 14) hX za2_1 (zgR_spec gr5) q216 (Or.inl rfl) dX3_add_14 ?_
  refine zr_aload_n (pc := 17) hX 0 rfl rfl dX3_add_17 ?_
  obtain ⟨x6, gx6, h⟩ := bnd h
  refine zr_fv (pc := 18) hX za2_4 (zgI_spec gx6) q219 (Or.inl rfl) dX3_add_18 ?_
  refine zr_iload_n (pc := 21) hX 1 rfl rfl dX3_add_21 ?_
  obtain ⟨σ7, gσ7, h⟩ := bnd h
  refine zr_sI (pc := 22) hX gσ7 dX3_add_22 ?_
  refine zr_aload_n (pc := 23) hX 0 rfl rfl dX3_add_23 ?_
  obtain ⟨r8, gr8, h⟩ := bnd h
  refine zr_fv (pc := 24) hX za2_2 (zgR_spec gr8) q217 (Or.inl rfl) dX3_add_24 ?_
  refine zr_aload_n (pc := 27) hX 0 rfl rfl dX3_add_27 ?_
  obtain ⟨x9, gx9, h⟩ := bnd h
  refine zr_fv (pc := 28) hX za2_4 (zgI_spec gx9) q219 (Or.inl rfl) dX3_add_28 ?_
  refine zr_iload_n (pc := 31) hX 2 rfl rfl dX3_add_31 ?_
  obtain ⟨σ10, gσ10, h⟩ := bnd h
  refine zr_sI (pc := 32) hX gσ10 dX3_add_32 ?_
  refine zr_aload_n (pc := 33) hX 0 rfl rfl dX3_add_33 ?_
  obtain ⟨r11, gr11, h⟩ := bnd h
  refine zr_fv (pc := 34) hX za2_3 (zgR_spec gr11) q218 (Or.inl rfl) dX3_add_34 ?_
  refine zr_aload_n (pc := 37) hX 0 rfl rfl dX3_add_37 ?_
  obtain ⟨x12, gx12, h⟩ := bnd h
  refine zr_fv (pc := 38) hX za2_4 (zgI_spec gx12) q219 (Or.inl rfl) dX3_add_38 ?_
  refine zr_iload_n (pc := 41) hX 3 rfl rfl dX3_add_41 ?_
  obtain ⟨σ13, gσ13, h⟩ := bnd h
  refine zr_sI (pc := 42) hX gσ13 dX3_add_42 ?_
  refine zr_aload_n (pc := 43) hX 0 rfl rfl dX3_add_43 ?_
  refine zr_dup (pc := 44) hX rfl dX3_add_44 ?_
  obtain ⟨x14, gx14, h⟩ := bnd h
  refine zr_fv (pc := 45) hX za2_4 (zgI_spec gx14) q219 (Or.inl rfl) dX3_add_45 ?_
  refine zr_iconst (pc := 48) hX zci_1 dX3_add_48 ?_
  refine zr_iadd (pc := 49) hX dX3_add_49 ?_
  obtain ⟨σ15, gσ15, h⟩ := bnd h
  refine zr_pv (pc := 50) hX za2_4 gσ15 rfl q219 (Or.inl rfl) rfl (tyX3_ok 4 (Nat.le_of_ble_eq_true rfl)) rfl rfl dX3_add_50 ?_
  exact hret _ (Option.some.inj h).symm _ _ dX3_add_53
set_option maxHeartbeats 4000000 in
theorem mX3_copy (l : Launch) (s0 : State) (D : zD) {n : Nat} {σ : zH} {sz : Nat} {th : Nat} {p0 : Nat} {o : zH} (h : fX3_copy n σ th p0 = some o) : zM l s0 D yX3_copy cX3_copy 3 none 1 0 0 0 [.ref th, .ref p0] σ sz o sz none := by
  refine zenter (own := RX3) zplX3 rfl (Nat.le_of_ble_eq_true rfl) rfl (fun K hX hnm hret => ?_)
  unfold fX3_copy at h
  have hret : ∀ a, o = a → zRet K cX3_copy none a sz 0 0 none := fun a e => by cases e; exact hret
  show VW K σ sz 0 0 0 [(0, .ref th), (1, .ref p0)] []
  refine zr_aload_n (pc := 0) hX 0 rfl rfl dX3_copy_0 ?_
  refine zr_aload_n (pc := 1) hX 1 rfl rfl dX3_copy_1 ?_
  obtain ⟨x1, gx1, h⟩ := bnd h
  refine zr_fv (pc := 2) hX za2_4 (zgI_spec gx1) q219 (Or.inl rfl) dX3_copy_2 ?_
  obtain ⟨σ2, gσ2, h⟩ := bnd h
  refine zr_pv (pc := 5) hX za2_4 gσ2 rfl q219 (Or.inl rfl) rfl (tyX3_ok 4 (Nat.le_of_ble_eq_true rfl)) rfl rfl dX3_copy_5 ?_
  refine zr_iconst (pc := 8) hX zci_0 dX3_copy_8 ?_
  refine zr_istore_n (pc := 9) hX rfl rfl (Nat.le_of_ble_eq_true rfl) rfl dX3_copy_9 ?_
  refine VW.sub (lv' := [(0, .ref th), (1, .ref p0), (2, .int (0 : Int32))]) ?_ [1, 2, 0] rfl
  refine zloop_walk (V := (fun a => VW K a.1 sz 0 0 10 [(0, .ref th), (1, .ref p0), (2, .int a.2)] [])) (E := fun e => e = o) ?_ n (σ2, (0 : Int32)) _ h rfl
  intro a3 o4 h kco4 keo4
  unfold fX3_copy_L10 at h
  refine zr_iload_n (pc := 10) hX 2 rfl rfl dX3_copy_10 ?_
  refine zr_aload_n (pc := 11) hX 0 rfl rfl dX3_copy_11 ?_
  obtain ⟨x5, gx5, h⟩ := bnd h
  refine zr_fv (pc := 12) hX za2_4 (zgI_spec gx5) q219 (Or.inl rfl) dX3_copy_12 ?_
  refine zr_icmp_ge (pc := 15) hX 72 rfl dX3_copy_15 (fun c15_22 => ?_) (fun c15_22 => ?_)
  · rw [if_pos c15_22] at h
    replace h := congrArg some (keo4 _ (Option.some.inj h).symm)
    exact hret _ (Option.some.inj h).symm _ _ dX3_copy_72
  · rw [if_neg c15_22] at h
    refine zr_aload_n (pc := 18) hX 0 rfl rfl dX3_copy_18 ?_
    obtain ⟨r6, gr6, h⟩ := bnd h
    refine zr_fv (pc := 19) hX za2_0 (zgR_spec gr6) q215 (Or.inl rfl) dX3_copy_19 ?_
    refine zr_iload_n (pc := 22) hX 2 rfl rfl dX3_copy_22 ?_
    refine zr_aload_n (pc := 23) hX 1 rfl rfl dX3_copy_23 ?_
    obtain ⟨r7, gr7, h⟩ := bnd h
    refine zr_fv (pc := 24) hX za2_0 (zgR_spec gr7) q215 (Or.inl rfl) dX3_copy_24 ?_
    refine zr_iload_n (pc := 27) hX 2 rfl rfl dX3_copy_27 ?_
    obtain ⟨x8, gx8, h⟩ := bnd h
    refine zr_aI (pc := 28) hX gx8 dX3_copy_28 ?_
    obtain ⟨σ9, gσ9, h⟩ := bnd h
    refine zr_sI (pc := 29) hX gσ9 dX3_copy_29 ?_
    refine zr_aload_n (pc := 30) hX 0 rfl rfl dX3_copy_30 ?_
    obtain ⟨r10, gr10, h⟩ := bnd h
    refine zr_fv (pc := 31) hX za2_1 (zgR_spec gr10) q216 (Or.inl rfl) dX3_copy_31 ?_
    refine zr_iload_n (pc := 34) hX 2 rfl rfl dX3_copy_34 ?_
    refine zr_aload_n (pc := 35) hX 1 rfl rfl dX3_copy_35 ?_
    obtain ⟨r11, gr11, h⟩ := bnd h
    refine zr_fv (pc := 36) hX za2_1 (zgR_spec gr11) q216 (Or.inl rfl) dX3_copy_36 ?_
    refine zr_iload_n (pc := 39) hX 2 rfl rfl dX3_copy_39 ?_
    obtain ⟨x12, gx12, h⟩ := bnd h
    refine zr_aI (pc := 40) hX gx12 dX3_copy_40 ?_
    obtain ⟨σ13, gσ13, h⟩ := bnd h
    refine zr_sI (pc := 41) hX gσ13 dX3_copy_41 ?_
    refine zr_aload_n (pc := 42) hX 0 rfl rfl dX3_copy_42 ?_
    obtain ⟨r14, gr14, h⟩ := bnd h
    refine zr_fv (pc := 43) hX za2_2 (zgR_spec gr14) q217 (Or.inl rfl) dX3_copy_43 ?_
    refine zr_iload_n (pc := 46) hX 2 rfl rfl dX3_copy_46 ?_
    refine zr_aload_n (pc := 47) hX 1 rfl rfl dX3_copy_47 ?_
    obtain ⟨r15, gr15, h⟩ := bnd h
    refine zr_fv (pc := 48) hX za2_2 (zgR_spec gr15) q217 (Or.inl rfl) dX3_copy_48 ?_
    refine zr_iload_n (pc := 51) hX 2 rfl rfl dX3_copy_51 ?_
    obtain ⟨x16, gx16, h⟩ := bnd h
    refine zr_aI (pc := 52) hX gx16 dX3_copy_52 ?_
    obtain ⟨σ17, gσ17, h⟩ := bnd h
    refine zr_sI (pc := 53) hX gσ17 dX3_copy_53 ?_
    refine zr_aload_n (pc := 54) hX 0 rfl rfl dX3_copy_54 ?_
    obtain ⟨r18, gr18, h⟩ := bnd h
    refine zr_fv (pc := 55) hX za2_3 (zgR_spec gr18) q218 (Or.inl rfl) dX3_copy_55 ?_
    refine zr_iload_n (pc := 58) hX 2 rfl rfl dX3_copy_58 ?_
    refine zr_aload_n (pc := 59) hX 1 rfl rfl dX3_copy_59 ?_
    obtain ⟨r19, gr19, h⟩ := bnd h
    refine zr_fv (pc := 60) hX za2_3 (zgR_spec gr19) q218 (Or.inl rfl) dX3_copy_60 ?_
    refine zr_iload_n (pc := 63) hX 2 rfl rfl dX3_copy_63 ?_
    obtain ⟨x20, gx20, h⟩ := bnd h
    refine zr_aI (pc := 64) hX gx20 dX3_copy_64 ?_
    obtain ⟨σ21, gσ21, h⟩ := bnd h
    refine zr_sI (pc := 65) hX gσ21 dX3_copy_65 ?_
    obtain ⟨x22, gx22, h⟩ := bnd h
    refine zr_iinc (pc := 66) hX 2 rfl zci_1 (Option.some.inj gx22) (Nat.le_of_ble_eq_true rfl) rfl dX3_copy_66 ?_
    refine zr_goto (pc := 69) hX 10 rfl dX3_copy_69 ?_
    exact VW.sub (kco4 (σ21, x22) (Option.some.inj h).symm) [1, 2, 0] rfl
set_option maxHeartbeats 4000000 in
theorem mX3_unify_d : ∀ (d : Nat) (l : Launch) (s0 : State) (D : zD) {n : Nat} {σ : zH} {sz : Nat} {th : Nat} {p0 : Int32} {p1 : Int32} {o : zH × Int32} (h : fX3_unify d n σ th p0 p1 = some o), zM l s0 D yX3_unify cX3_unify 9 (some .boolean) (2 + d) (40 + d * 28) 0 0 [.ref th, .int p0, .int p1] σ sz o.1 sz (some (.int o.2)) := by
  intro d
  induction d with
  | zero => intro l s0 D; intros; rename_i h; cases h
  | succ d ih =>
    intro l s0 D n σ sz th p0 p1 o h
    replace h : fX3_unify_B (fX3_unify d) n σ th p0 p1 = some o := h
    refine zenter (own := RX3) zplX3 rfl (Nat.le_of_ble_eq_true rfl) trivial (fun K hX hnm hret => ?_)
    unfold fX3_unify_B at h
    have hret : ∀ a, o = a → zRet K cX3_unify (some .boolean) a.1 sz 0 0 (some (.int a.2)) := fun a e => by cases e; exact hret
    show VW K σ sz 0 0 0 [(0, .ref th), (1, .int p0), (2, .int p1)] []
    refine zr_aload_n (pc := 0) hX 0 rfl rfl dX3_unify_0 ?_
    refine zr_iload_n (pc := 1) hX 1 rfl rfl dX3_unify_1 ?_
    obtain ⟨u1, gu1, h⟩ := bnd h
    obtain ⟨t2, gt2, h⟩ := bnd h
    refine zr_callVs (pc := 2) (rest := []) (stk' := [.int t2]) (k' := 0) (n' := 0) hX (fun l s0 D => mX3_one l s0 D gt2) gu1 zc2 zwX3_one q645 q646 q647 rfl (zble2 (by omega) (by omega)) rfl rfl rfl rfl rfl rfl rfl dX3_unify_2 ?_
    refine zr_aload_n (pc := 5) hX 0 rfl rfl dX3_unify_5 ?_
    refine zr_iload_n (pc := 6) hX 2 rfl rfl dX3_unify_6 ?_
    obtain ⟨u3, gu3, h⟩ := bnd h
    obtain ⟨t4, gt4, h⟩ := bnd h
    refine zr_callVs (pc := 7) (rest := [.int t2]) (stk' := [.int t4, .int t2]) (k' := 0) (n' := 0) hX (fun l s0 D => mX3_one l s0 D gt4) gu3 zc2 zwX3_one q645 q646 q647 rfl (zble2 (by omega) (by omega)) rfl rfl rfl rfl rfl rfl rfl dX3_unify_7 ?_
    refine zr_min (pc := 10) hX q1694 q658 q126 q659 (zble2 (by omega) (by show _ ≤ _; simp [Value.category]; omega)) rfl dX3_unify_10 ?_
    obtain ⟨x5, gx5, h⟩ := bnd h
    refine zr_istore_n (pc := 13) hX (Option.some.inj gx5) rfl (Nat.le_of_ble_eq_true rfl) rfl dX3_unify_13 ?_
    refine zr_aload_n (pc := 14) hX 1 rfl rfl dX3_unify_14 ?_
    refine zr_iload_n (pc := 15) hX 2 rfl rfl dX3_unify_15 ?_
    obtain ⟨u6, gu6, h⟩ := bnd h
    obtain ⟨t7, gt7, h⟩ := bnd h
    refine zr_callVs (pc := 16) (rest := []) (stk' := [.int t7]) (k' := 0) (n' := 0) hX (fun l s0 D => mX3_one l s0 D gt7) gu6 zc2 zwX3_one q645 q646 q647 rfl (zble2 (by omega) (by omega)) rfl rfl rfl rfl rfl rfl rfl dX3_unify_16 ?_
    refine zr_aload_n (pc := 19) hX 1 rfl rfl dX3_unify_19 ?_
    refine zr_iload_n (pc := 20) hX 3 rfl rfl dX3_unify_20 ?_
    obtain ⟨u8, gu8, h⟩ := bnd h
    obtain ⟨t9, gt9, h⟩ := bnd h
    refine zr_callVs (pc := 21) (rest := [.int t7]) (stk' := [.int t9, .int t7]) (k' := 0) (n' := 0) hX (fun l s0 D => mX3_one l s0 D gt9) gu8 zc2 zwX3_one q645 q646 q647 rfl (zble2 (by omega) (by omega)) rfl rfl rfl rfl rfl rfl rfl dX3_unify_21 ?_
    refine zr_max (pc := 24) hX q1695 q655 q126 q656 (zble2 (by omega) (by show _ ≤ _; simp [Value.category]; omega)) rfl dX3_unify_24 ?_
    obtain ⟨x10, gx10, h⟩ := bnd h
    refine zr_istore (pc := 27) hX (Option.some.inj gx10) (Nat.le_of_ble_eq_true rfl) rfl dX3_unify_27 ?_
    refine zr_iload_n (pc := 29) hX 1 rfl rfl dX3_unify_29 ?_
    refine zr_iload (pc := 30) hX 0 rfl dX3_unify_30 ?_
    refine zr_icmp_ne (pc := 32) hX 37 rfl dX3_unify_32 (fun c32_69 => ?_) (fun c32_69 => ?_)
    · rw [if_neg c32_69] at h
      refine zr_aload_n (pc := 37) hX 2 rfl rfl dX3_unify_37 ?_
      obtain ⟨r11, gr11, h⟩ := bnd h
      refine zr_fv (pc := 38) hX za2_1 (zgR_spec gr11) q216 (Or.inl rfl) dX3_unify_38 ?_
      refine zr_iload_n (pc := 41) hX 1 rfl rfl dX3_unify_41 ?_
      obtain ⟨x12, gx12, h⟩ := bnd h
      refine zr_aI (pc := 42) hX gx12 dX3_unify_42 ?_
      refine zr_iconst (pc := 43) hX zci_m1 dX3_unify_43 ?_
      obtain ⟨t13, gt13, h⟩ := bnd h
      have hJt13 : ∀ a, t13 = a → VW K σ sz 0 0 63 [(0, .ref th), (3, .int x5), (4, .int x10)] [.int a] := by
        intro a ea
        subst ea
        refine zr_istore (pc := 63) hX rfl (Nat.le_of_ble_eq_true rfl) rfl dX3_unify_63 ?_
        refine zr_iload (pc := 65) hX 0 rfl dX3_unify_65 ?_
        obtain ⟨u57, gu57, hAu57, hBu57⟩ := zesc_bnd h
        have hJt14 : ∀ a, u57 = .inl a → VW K σ sz 0 0 88 [(0, .ref th), (3, .int x5), (4, .int x10), (5, .int t13)] [] := by
          intro t14 ea
          have h := hAu57 _ ea
          refine zr_aload_n (pc := 88) hX 0 rfl rfl dX3_unify_88 ?_
          obtain ⟨r15, gr15, h⟩ := bnd h
          refine zr_fv (pc := 89) hX za2_2 (zgR_spec gr15) q217 (Or.inl rfl) dX3_unify_89 ?_
          refine zr_iload_n (pc := 92) hX 1 rfl rfl dX3_unify_92 ?_
          obtain ⟨x16, gx16, h⟩ := bnd h
          refine zr_aI (pc := 93) hX gx16 dX3_unify_93 ?_
          refine zr_istore (pc := 94) hX rfl (Nat.le_of_ble_eq_true rfl) rfl dX3_unify_94 ?_
          refine zr_aload_n (pc := 96) hX 1 rfl rfl dX3_unify_96 ?_
          obtain ⟨r17, gr17, h⟩ := bnd h
          refine zr_fv (pc := 97) hX za2_3 (zgR_spec gr17) q218 (Or.inl rfl) dX3_unify_97 ?_
          refine zr_iload_n (pc := 100) hX 2 rfl rfl dX3_unify_100 ?_
          obtain ⟨x18, gx18, h⟩ := bnd h
          refine zr_aI (pc := 101) hX gx18 dX3_unify_101 ?_
          refine zr_istore (pc := 102) hX rfl (Nat.le_of_ble_eq_true rfl) rfl dX3_unify_102 ?_
          refine zr_aload_n (pc := 104) hX 2 rfl rfl dX3_unify_104 ?_
          obtain ⟨r19, gr19, h⟩ := bnd h
          refine zr_fv (pc := 105) hX za2_0 (zgR_spec gr19) q215 (Or.inl rfl) dX3_unify_105 ?_
          refine zr_iload (pc := 108) hX 4 rfl dX3_unify_108 ?_
          refine zr_iload_n (pc := 110) hX 3 rfl rfl dX3_unify_110 ?_
          obtain ⟨σ20, gσ20, h⟩ := bnd h
          refine zr_sI (pc := 111) hX gσ20 dX3_unify_111 ?_
          refine zr_aload_n (pc := 112) hX 2 rfl rfl dX3_unify_112 ?_
          obtain ⟨r21, gr21, h⟩ := bnd h
          refine zr_fv (pc := 113) hX za2_1 (zgR_spec gr21) q216 (Or.inl rfl) dX3_unify_113 ?_
          refine zr_iload_n (pc := 116) hX 3 rfl rfl dX3_unify_116 ?_
          obtain ⟨x22, gx22, h⟩ := bnd h
          refine zr_aI (pc := 117) hX gx22 dX3_unify_117 ?_
          refine zr_iconst (pc := 118) hX zci_m1 dX3_unify_118 ?_
          obtain ⟨t23, gt23, h⟩ := bnd h
          have hJt23 : ∀ a, t23 = a → VW K a sz 0 0 161 [(0, .ref th), (4, .int x10), (5, .int t13), (6, .int x16), (7, .int x18)] [] := by
            intro a ea
            subst ea
            refine zr_iload (pc := 161) hX 2 rfl dX3_unify_161 ?_
            obtain ⟨t24, gt24, h⟩ := bnd h
            have hJt24 : ∀ a, t24 = a → VW K a.1 sz 0 0 193 [(0, .ref th), (4, .int x10), (5, .int t13), (7, .int x18)] [.int a.2] := by
              intro a ea
              subst ea
              refine zr_istore (pc := 193) hX rfl (Nat.le_of_ble_eq_true rfl) rfl dX3_unify_193 ?_
              refine zr_iload (pc := 195) hX 0 rfl dX3_unify_195 ?_
              refine zr_if_eq (pc := 197) hX 231 rfl dX3_unify_197 (fun c197_33 => ?_) (fun c197_33 => ?_)
              · rw [if_pos c197_33] at h
                refine zr_iconst (pc := 231) hX zci_0 dX3_unify_231 ?_
                exact hret _ (Option.some.inj h).symm _ _ dX3_unify_232 (Or.inr ⟨rfl, Or.inl rfl⟩)
              · rw [if_neg c197_33] at h
                refine zr_iload (pc := 200) hX 3 rfl dX3_unify_200 ?_
                obtain ⟨u26, gu26, hAu26, hBu26⟩ := zesc_bnd h
                have hJt25 : ∀ a, u26 = .inl a → VW K a sz 0 0 227 [] [] := by
                  intro t25 ea
                  have h := hAu26 _ ea
                  refine zr_iconst (pc := 227) hX zci_1 dX3_unify_227 ?_
                  refine zr_goto (pc := 228) hX 232 rfl dX3_unify_228 ?_
                  exact hret _ (Option.some.inj h).symm _ _ dX3_unify_232 (Or.inr ⟨rfl, Or.inr rfl⟩)
                replace h := gu26
                refine zr_if_eq (pc := 202) hX 227 rfl dX3_unify_202 (fun c202_32 => ?_) (fun c202_32 => ?_)
                · rw [if_pos c202_32] at h
                  exact VW.sub (hJt25 t24.1 (Option.some.inj h).symm) [] rfl
                · rw [if_neg c202_32] at h
                  refine zr_iload (pc := 205) hX 4 rfl dX3_unify_205 ?_
                  refine zr_iconst (pc := 207) hX zci_m1 dX3_unify_207 ?_
                  refine zr_icmp_eq (pc := 208) hX 227 rfl dX3_unify_208 (fun c208_31 => ?_) (fun c208_31 => ?_)
                  · rw [if_pos c208_31] at h
                    exact VW.sub (hJt25 t24.1 (Option.some.inj h).symm) [] rfl
                  · rw [if_neg c208_31] at h
                    refine zr_aload_n (pc := 211) hX 1 rfl rfl dX3_unify_211 ?_
                    refine zr_iload (pc := 212) hX 4 rfl dX3_unify_212 ?_
                    refine zr_aload_n (pc := 214) hX 1 rfl rfl dX3_unify_214 ?_
                    obtain ⟨r27, gr27, h⟩ := bnd h
                    refine zr_fv (pc := 215) hX za2_3 (zgR_spec gr27) q218 (Or.inl rfl) dX3_unify_215 ?_
                    refine zr_iload (pc := 218) hX 2 rfl dX3_unify_218 ?_
                    obtain ⟨x28, gx28, h⟩ := bnd h
                    refine zr_aI (pc := 220) hX gx28 dX3_unify_220 ?_
                    obtain ⟨u29, gu29, h⟩ := bnd h
                    obtain ⟨t30, gt30, h⟩ := bnd h
                    refine zr_callVs (pc := 221) (rest := []) (stk' := [.int t30.2]) (k' := 0) (n' := 0) hX (fun l s0 D => ih l s0 D gt30) gu29 zc2 zwX3_unify q1696 q1691 q1692 rfl (zble2 (by omega) (by omega)) rfl rfl rfl rfl rfl rfl rfl dX3_unify_221 ?_
                    refine zr_if_eq (pc := 224) hX 231 rfl dX3_unify_224 (fun c224_30 => ?_) (fun c224_30 => ?_)
                    · rw [if_pos c224_30] at h
                      refine zr_iconst (pc := 231) hX zci_0 dX3_unify_231 ?_
                      replace h := congrArg some (hBu26 _ (Option.some.inj h).symm)
                      exact hret _ (Option.some.inj h).symm _ _ dX3_unify_232 (Or.inr ⟨rfl, Or.inl rfl⟩)
                    · rw [if_neg c224_30] at h
                      exact VW.sub (hJt25 t30.1 (Option.some.inj h).symm) [] rfl
            replace h := gt24
            obtain ⟨u36, gu36, hAu36, hBu36⟩ := zesc_bnd h
            have hJt35 : ∀ a, u36 = .inl a → VW K a sz 0 0 188 [(0, .ref th), (4, .int x10), (5, .int t13), (7, .int x18)] [] := by
              intro t35 ea
              have h := hAu36 _ ea
              refine zr_iconst (pc := 188) hX zci_1 dX3_unify_188 ?_
              refine zr_goto (pc := 189) hX 193 rfl dX3_unify_189 ?_
              exact VW.sub (hJt24 (t35, (1 : Int32)) (Option.some.inj h).symm) [0, 1, 2, 3] rfl
            replace h := gu36
            refine zr_if_eq (pc := 163) hX 188 rfl dX3_unify_163 (fun c163_42 => ?_) (fun c163_42 => ?_)
            · rw [if_pos c163_42] at h
              exact VW.sub (hJt35 t23 (Option.some.inj h).symm) [0, 1, 2, 4] rfl
            · rw [if_neg c163_42] at h
              refine zr_iload (pc := 166) hX 3 rfl dX3_unify_166 ?_
              refine zr_iconst (pc := 168) hX zci_m1 dX3_unify_168 ?_
              refine zr_icmp_eq (pc := 169) hX 188 rfl dX3_unify_169 (fun c169_41 => ?_) (fun c169_41 => ?_)
              · rw [if_pos c169_41] at h
                exact VW.sub (hJt35 t23 (Option.some.inj h).symm) [0, 1, 2, 4] rfl
              · rw [if_neg c169_41] at h
                refine zr_aload_n (pc := 172) hX 0 rfl rfl dX3_unify_172 ?_
                refine zr_iload (pc := 173) hX 3 rfl dX3_unify_173 ?_
                refine zr_aload_n (pc := 175) hX 0 rfl rfl dX3_unify_175 ?_
                obtain ⟨r37, gr37, h⟩ := bnd h
                refine zr_fv (pc := 176) hX za2_2 (zgR_spec gr37) q217 (Or.inl rfl) dX3_unify_176 ?_
                refine zr_iload (pc := 179) hX 1 rfl dX3_unify_179 ?_
                obtain ⟨x38, gx38, h⟩ := bnd h
                refine zr_aI (pc := 181) hX gx38 dX3_unify_181 ?_
                obtain ⟨u39, gu39, h⟩ := bnd h
                obtain ⟨t40, gt40, h⟩ := bnd h
                refine zr_callVs (pc := 182) (rest := []) (stk' := [.int t40.2]) (k' := 0) (n' := 0) hX (fun l s0 D => ih l s0 D gt40) gu39 zc2 zwX3_unify q1696 q1691 q1692 rfl (zble2 (by omega) (by omega)) rfl rfl rfl rfl rfl rfl rfl dX3_unify_182 ?_
                refine zr_if_eq (pc := 185) hX 192 rfl dX3_unify_185 (fun c185_40 => ?_) (fun c185_40 => ?_)
                · rw [if_pos c185_40] at h
                  refine zr_iconst (pc := 192) hX zci_0 dX3_unify_192 ?_
                  replace h := congrArg some (hBu36 _ (Option.some.inj h).symm)
                  exact VW.sub (hJt24 (t40.1, (0 : Int32)) (Option.some.inj h).symm) [0, 1, 2, 4] rfl
                · rw [if_neg c185_40] at h
                  exact VW.sub (hJt35 t40.1 (Option.some.inj h).symm) [0, 1, 2, 4] rfl
          replace h := gt23
          refine zr_icmp_ne (pc := 119) hX 161 rfl dX3_unify_119 (fun c119_55 => ?_) (fun c119_55 => ?_)
          · rw [if_neg c119_55] at h
            exact VW.sub (hJt23 σ20 (Option.some.inj h).symm) [2, 4, 5, 1, 0] rfl
          · rw [if_pos c119_55] at h
            refine zr_aload_n (pc := 122) hX 2 rfl rfl dX3_unify_122 ?_
            obtain ⟨r44, gr44, h⟩ := bnd h
            refine zr_fv (pc := 123) hX za2_1 (zgR_spec gr44) q216 (Or.inl rfl) dX3_unify_123 ?_
            refine zr_iload_n (pc := 126) hX 3 rfl rfl dX3_unify_126 ?_
            refine zr_aload_n (pc := 127) hX 2 rfl rfl dX3_unify_127 ?_
            obtain ⟨r45, gr45, h⟩ := bnd h
            refine zr_fv (pc := 128) hX za2_1 (zgR_spec gr45) q216 (Or.inl rfl) dX3_unify_128 ?_
            refine zr_iload (pc := 131) hX 4 rfl dX3_unify_131 ?_
            obtain ⟨x46, gx46, h⟩ := bnd h
            refine zr_aI (pc := 133) hX gx46 dX3_unify_133 ?_
            obtain ⟨σ47, gσ47, h⟩ := bnd h
            refine zr_sI (pc := 134) hX gσ47 dX3_unify_134 ?_
            refine zr_aload_n (pc := 135) hX 2 rfl rfl dX3_unify_135 ?_
            obtain ⟨r48, gr48, h⟩ := bnd h
            refine zr_fv (pc := 136) hX za2_2 (zgR_spec gr48) q217 (Or.inl rfl) dX3_unify_136 ?_
            refine zr_iload_n (pc := 139) hX 3 rfl rfl dX3_unify_139 ?_
            refine zr_aload_n (pc := 140) hX 2 rfl rfl dX3_unify_140 ?_
            obtain ⟨r49, gr49, h⟩ := bnd h
            refine zr_fv (pc := 141) hX za2_2 (zgR_spec gr49) q217 (Or.inl rfl) dX3_unify_141 ?_
            refine zr_iload (pc := 144) hX 4 rfl dX3_unify_144 ?_
            obtain ⟨x50, gx50, h⟩ := bnd h
            refine zr_aI (pc := 146) hX gx50 dX3_unify_146 ?_
            obtain ⟨σ51, gσ51, h⟩ := bnd h
            refine zr_sI (pc := 147) hX gσ51 dX3_unify_147 ?_
            refine zr_aload_n (pc := 148) hX 2 rfl rfl dX3_unify_148 ?_
            obtain ⟨r52, gr52, h⟩ := bnd h
            refine zr_fv (pc := 149) hX za2_3 (zgR_spec gr52) q218 (Or.inl rfl) dX3_unify_149 ?_
            refine zr_iload_n (pc := 152) hX 3 rfl rfl dX3_unify_152 ?_
            refine zr_aload_n (pc := 153) hX 2 rfl rfl dX3_unify_153 ?_
            obtain ⟨r53, gr53, h⟩ := bnd h
            refine zr_fv (pc := 154) hX za2_3 (zgR_spec gr53) q218 (Or.inl rfl) dX3_unify_154 ?_
            refine zr_iload (pc := 157) hX 4 rfl dX3_unify_157 ?_
            obtain ⟨x54, gx54, h⟩ := bnd h
            refine zr_aI (pc := 159) hX gx54 dX3_unify_159 ?_
            obtain ⟨σ55, gσ55, h⟩ := bnd h
            refine zr_sI (pc := 160) hX gσ55 dX3_unify_160 ?_
            exact VW.sub (hJt23 σ55 (Option.some.inj h).symm) [2, 4, 5, 1, 0] rfl
        replace h := gu57
        refine zr_if_eq (pc := 67) hX 88 rfl dX3_unify_67 (fun c67_62 => ?_) (fun c67_62 => ?_)
        · rw [if_pos c67_62] at h
          exact VW.sub (hJt14 () (Option.some.inj h).symm) [1, 2, 3, 0] rfl
        · rw [if_neg c67_62] at h
          refine zr_aload_n (pc := 70) hX 1 rfl rfl dX3_unify_70 ?_
          obtain ⟨r58, gr58, h⟩ := bnd h
          refine zr_fv (pc := 71) hX za2_1 (zgR_spec gr58) q216 (Or.inl rfl) dX3_unify_71 ?_
          refine zr_iload_n (pc := 74) hX 2 rfl rfl dX3_unify_74 ?_
          obtain ⟨x59, gx59, h⟩ := bnd h
          refine zr_aI (pc := 75) hX gx59 dX3_unify_75 ?_
          refine zr_aload_n (pc := 76) hX 1 rfl rfl dX3_unify_76 ?_
          obtain ⟨r60, gr60, h⟩ := bnd h
          refine zr_fv (pc := 77) hX za2_1 (zgR_spec gr60) q216 (Or.inl rfl) dX3_unify_77 ?_
          refine zr_iload (pc := 80) hX 3 rfl dX3_unify_80 ?_
          obtain ⟨x61, gx61, h⟩ := bnd h
          refine zr_aI (pc := 82) hX gx61 dX3_unify_82 ?_
          refine zr_icmp_eq (pc := 83) hX 88 rfl dX3_unify_83 (fun c83_61 => ?_) (fun c83_61 => ?_)
          · rw [if_pos c83_61] at h
            exact VW.sub (hJt14 () (Option.some.inj h).symm) [1, 2, 3, 0] rfl
          · rw [if_neg c83_61] at h
            refine zr_iconst (pc := 86) hX zci_0 dX3_unify_86 ?_
            replace h := congrArg some (hBu57 _ (Option.some.inj h).symm)
            exact hret _ (Option.some.inj h).symm _ _ dX3_unify_87 (Or.inr ⟨rfl, Or.inl rfl⟩)
      replace h := gt13
      obtain ⟨u65, gu65, hAu65, hBu65⟩ := zesc_bnd h
      have hJt64 : ∀ a, u65 = .inl a → VW K σ sz 0 0 62 [(0, .ref th), (3, .int x5), (4, .int x10)] [] := by
        intro t64 ea
        have h := hAu65 _ ea
        refine zr_iconst (pc := 62) hX zci_0 dX3_unify_62 ?_
        exact VW.sub (hJt13 (0 : Int32) (Option.some.inj h).symm) [0, 1, 2] rfl
      replace h := gu65
      refine zr_icmp_eq (pc := 44) hX 62 rfl dX3_unify_44 (fun c44_68 => ?_) (fun c44_68 => ?_)
      · rw [if_pos c44_68] at h
        exact VW.sub (hJt64 () (Option.some.inj h).symm) [2, 1, 0] rfl
      · rw [if_neg c44_68] at h
        refine zr_aload_n (pc := 47) hX 2 rfl rfl dX3_unify_47 ?_
        obtain ⟨r66, gr66, h⟩ := bnd h
        refine zr_fv (pc := 48) hX za2_1 (zgR_spec gr66) q216 (Or.inl rfl) dX3_unify_48 ?_
        refine zr_iload (pc := 51) hX 0 rfl dX3_unify_51 ?_
        obtain ⟨x67, gx67, h⟩ := bnd h
        refine zr_aI (pc := 53) hX gx67 dX3_unify_53 ?_
        refine zr_iconst (pc := 54) hX zci_m1 dX3_unify_54 ?_
        refine zr_icmp_eq (pc := 55) hX 62 rfl dX3_unify_55 (fun c55_67 => ?_) (fun c55_67 => ?_)
        · rw [if_pos c55_67] at h
          exact VW.sub (hJt64 () (Option.some.inj h).symm) [2, 1, 0] rfl
        · rw [if_neg c55_67] at h
          refine zr_iconst (pc := 58) hX zci_1 dX3_unify_58 ?_
          refine zr_goto (pc := 59) hX 63 rfl dX3_unify_59 ?_
          replace h := congrArg some (hBu65 _ (Option.some.inj h).symm)
          exact VW.sub (hJt13 (1 : Int32) (Option.some.inj h).symm) [2, 1, 0] rfl
    · rw [if_pos c32_69] at h
      refine zr_iconst (pc := 35) hX zci_1 dX3_unify_35 ?_
      exact hret _ (Option.some.inj h).symm _ _ dX3_unify_36 (Or.inr ⟨rfl, Or.inr rfl⟩)
theorem mX3_unify (l : Launch) (s0 : State) (D : zD) {n : Nat} {σ : zH} {sz : Nat} {th : Nat} {p0 : Int32} {p1 : Int32} {o : zH × Int32} (h : fX3_unify 34 n σ th p0 p1 = some o) : zM l s0 D yX3_unify cX3_unify 9 (some .boolean) 36 992 0 0 [.ref th, .int p0, .int p1] σ sz o.1 sz (some (.int o.2)) := mX3_unify_d 34 l s0 D h
set_option maxHeartbeats 4000000 in
theorem mX3_child (l : Launch) (s0 : State) (D : zD) {n : Nat} {σ : zH} {sz : Nat} {th : Nat} {p0 : Int32} {p1 : Int32} {o : Int32} (h : fX3_child n σ th p0 p1 = some o) : zM l s0 D yX3_child cX3_child 5 (some .int) 2 22 0 0 [.ref th, .int p0, .int p1] σ sz σ sz (some (.int o)) := by
  refine zenter (own := RX3) zplX3 rfl (Nat.le_of_ble_eq_true rfl) trivial (fun K hX hnm hret => ?_)
  unfold fX3_child at h
  have hret : ∀ a, o = a → zRet K cX3_child (some .int) σ sz 0 0 (some (.int a)) := fun a e => by cases e; exact hret
  show VW K σ sz 0 0 0 [(0, .ref th), (1, .int p0), (2, .int p1)] []
  refine zr_aload_n (pc := 0) hX 0 rfl rfl dX3_child_0 ?_
  refine zr_iload_n (pc := 1) hX 1 rfl rfl dX3_child_1 ?_
  obtain ⟨u1, gu1, h⟩ := bnd h
  obtain ⟨t2, gt2, h⟩ := bnd h
  refine zr_callVs (pc := 2) (rest := []) (stk' := [.int t2]) (k' := 0) (n' := 0) hX (fun l s0 D => mX3_one l s0 D gt2) gu1 zc2 zwX3_one q645 q646 q647 rfl rfl rfl rfl rfl rfl rfl rfl rfl dX3_child_2 ?_
  refine zr_istore_n (pc := 5) hX rfl rfl (Nat.le_of_ble_eq_true rfl) rfl dX3_child_5 ?_
  refine zr_iload_n (pc := 6) hX 3 rfl rfl dX3_child_6 ?_
  obtain ⟨t3, gt3, h⟩ := bnd h
  have hJt3 : ∀ a, t3 = a → VW K σ sz 0 0 25 [(0, .ref th)] [.int a] := by
    intro a ea
    subst ea
    refine zr_istore (pc := 25) hX rfl (Nat.le_of_ble_eq_true rfl) rfl dX3_child_25 ?_
    refine zr_iload (pc := 27) hX 0 rfl dX3_child_27 ?_
    refine zr_iconst (pc := 29) hX zci_m1 dX3_child_29 ?_
    refine zr_icmp_ne (pc := 30) hX 37 rfl dX3_child_30 (fun c30_5 => ?_) (fun c30_5 => ?_)
    · rw [if_neg c30_5] at h
      refine zr_aload_n (pc := 37) hX 1 rfl rfl dX3_child_37 ?_
      refine zr_iload (pc := 38) hX 0 rfl dX3_child_38 ?_
      obtain ⟨u4, gu4, h⟩ := bnd h
      obtain ⟨t5, gt5, h⟩ := bnd h
      refine zr_callVs (pc := 40) (rest := []) (stk' := [.int t5]) (k' := 0) (n' := 0) hX (fun l s0 D => mX3_one l s0 D gt5) gu4 zc2 zwX3_one q645 q646 q647 rfl rfl rfl rfl rfl rfl rfl rfl rfl dX3_child_40 ?_
      exact hret _ (Option.some.inj h).symm _ _ dX3_child_43 (Or.inl rfl)
    · rw [if_pos c30_5] at h
      refine zr_iconst (pc := 33) hX zci_m1 dX3_child_33 ?_
      refine zr_goto (pc := 34) hX 43 rfl dX3_child_34 ?_
      exact hret _ (Option.some.inj h).symm _ _ dX3_child_43 (Or.inl rfl)
  replace h := gt3
  refine zr_if_eq (pc := 7) hX 19 rfl dX3_child_7 (fun c7_10 => ?_) (fun c7_10 => ?_)
  · rw [if_pos c7_10] at h
    refine zr_aload_n (pc := 19) hX 1 rfl rfl dX3_child_19 ?_
    obtain ⟨r7, gr7, h⟩ := bnd h
    refine zr_fv (pc := 20) hX za2_2 (zgR_spec gr7) q217 (Or.inl rfl) dX3_child_20 ?_
    refine zr_iload_n (pc := 23) hX 0 rfl rfl dX3_child_23 ?_
    obtain ⟨x8, gx8, h⟩ := bnd h
    refine zr_aI (pc := 24) hX gx8 dX3_child_24 ?_
    exact VW.sub (hJt3 x8 (Option.some.inj h).symm) [1] rfl
  · rw [if_neg c7_10] at h
    refine zr_aload_n (pc := 10) hX 1 rfl rfl dX3_child_10 ?_
    obtain ⟨r9, gr9, h⟩ := bnd h
    refine zr_fv (pc := 11) hX za2_3 (zgR_spec gr9) q218 (Or.inl rfl) dX3_child_11 ?_
    refine zr_iload_n (pc := 14) hX 0 rfl rfl dX3_child_14 ?_
    obtain ⟨x10, gx10, h⟩ := bnd h
    refine zr_aI (pc := 15) hX gx10 dX3_child_15 ?_
    refine zr_goto (pc := 16) hX 25 rfl dX3_child_16 ?_
    exact VW.sub (hJt3 x10 (Option.some.inj h).symm) [1] rfl
