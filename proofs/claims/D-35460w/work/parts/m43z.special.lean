/-! SPECIAL: a constraint of any class: its size, what it keeps (printed by gen/gens.py) -/
set_option maxRecDepth 100000
theorem zne_int {x y : Int32} (h : ¬ x = y) {i : Int} (hy : y.toInt = i) : x.toInt ≠ i := fun q => h (Int32.toInt_inj.mp (q.trans hy.symm))
theorem zis_of {σ : zH} {c ci : Nat} {fs : List Value} (h : σ.2 c = some (.inr (ci, fs))) : zis σ c ci = some () := by simp [zis, h]
set_option maxHeartbeats 4000000 in
theorem zr_csize {K : zC} {cc : ByteArray} {ret : Option FieldType} {nL fr lo mc ms : Nat} {σ : zH} {sz k n pc : Nat} {lv : List (Nat × Value)} {rest : List Value} (hX : zOk K RX1 cc ret nL fr lo mc ms) {c : Nat} {r : Int32} (h : fX9_size σ c = some r) (hR : (Nat.ble 2 fr && Nat.ble 20 lo) = true) (hf : (Nat.ble k mc && Nat.ble n ms) = true) (hcat : Nat.ble ((rest.map fun v => v.category).sum) 8 = true) (hd : decode cc pc = .ok (.invokevirtual 356, 3)) (kk : VW K σ sz k n (pc + 3) lv (.int r :: rest)) : VW K σ sz k n pc lv (.ref c :: rest) := by
  have h0 := h
  unfold fX9_size at h0
  obtain ⟨r0, h1, -⟩ := bnd h0
  obtain ⟨ci, fs, he, hc, -⟩ := zgv_spec (zgR_spec h1)
  simp only [Bool.and_eq_true, Nat.ble_eq] at hR hf
  simp only [zcs, List.mem_cons, List.not_mem_nil, or_false] at hc
  rcases hc with rfl | rfl | rfl | rfl | rfl | rfl | rfl | rfl
  · exact zr_callU (owner := RX9) (x := yX9_size) (rest := rest) (stk' := .int r :: rest) (k' := k) (n' := n) hX (fun l s0 D => mX9_size l s0 D h) (zis_of he) zc8 zwX9_size q649 q2432 q473 q2436 (Or.inl ⟨q473, _, _, _, q474⟩) (by decide) rfl (zble2 (by omega) (by omega)) (zble2 (by omega) (by omega)) rfl rfl rfl rfl hcat rfl hd kk
  · exact zr_callU (owner := RX9) (x := yX9_size) (rest := rest) (stk' := .int r :: rest) (k' := k) (n' := n) hX (fun l s0 D => mX9_size l s0 D h) (zis_of he) zc9 zwX9_size q649 q2432 q473 q2434 (Or.inl ⟨q473, _, _, _, q474⟩) (by decide) rfl (zble2 (by omega) (by omega)) (zble2 (by omega) (by omega)) rfl rfl rfl rfl hcat rfl hd kk
  · exact zr_callU (owner := RX9) (x := yX9_size) (rest := rest) (stk' := .int r :: rest) (k' := k) (n' := n) hX (fun l s0 D => mX9_size l s0 D h) (zis_of he) zc10 zwX9_size q649 q2432 q473 q2437 (Or.inl ⟨q473, _, _, _, q474⟩) (by decide) rfl (zble2 (by omega) (by omega)) (zble2 (by omega) (by omega)) rfl rfl rfl rfl hcat rfl hd kk
  · exact zr_callU (owner := RX9) (x := yX9_size) (rest := rest) (stk' := .int r :: rest) (k' := k) (n' := n) hX (fun l s0 D => mX9_size l s0 D h) (zis_of he) zc11 zwX9_size q649 q2432 q473 q2438 (Or.inl ⟨q473, _, _, _, q474⟩) (by decide) rfl (zble2 (by omega) (by omega)) (zble2 (by omega) (by omega)) rfl rfl rfl rfl hcat rfl hd kk
  · exact zr_callU (owner := RX9) (x := yX9_size) (rest := rest) (stk' := .int r :: rest) (k' := k) (n' := n) hX (fun l s0 D => mX9_size l s0 D h) (zis_of he) zc12 zwX9_size q649 q2432 q473 q2435 (Or.inl ⟨q473, _, _, _, q474⟩) (by decide) rfl (zble2 (by omega) (by omega)) (zble2 (by omega) (by omega)) rfl rfl rfl rfl hcat rfl hd kk
  · exact zr_callU (owner := RX9) (x := yX9_size) (rest := rest) (stk' := .int r :: rest) (k' := k) (n' := n) hX (fun l s0 D => mX9_size l s0 D h) (zis_of he) zc13 zwX9_size q649 q2432 q473 q2439 (Or.inl ⟨q473, _, _, _, q474⟩) (by decide) rfl (zble2 (by omega) (by omega)) (zble2 (by omega) (by omega)) rfl rfl rfl rfl hcat rfl hd kk
  · exact zr_callU (owner := RX9) (x := yX9_size) (rest := rest) (stk' := .int r :: rest) (k' := k) (n' := n) hX (fun l s0 D => mX9_size l s0 D h) (zis_of he) zc14 zwX9_size q649 q2432 q473 q2433 (Or.inl ⟨q473, _, _, _, q474⟩) (by decide) rfl (zble2 (by omega) (by omega)) (zble2 (by omega) (by omega)) rfl rfl rfl rfl hcat rfl hd kk
  · exact zr_callU (owner := RX9) (x := yX9_size) (rest := rest) (stk' := .int r :: rest) (k' := k) (n' := n) hX (fun l s0 D => mX9_size l s0 D h) (zis_of he) zc15 zwX9_size q649 q2432 q473 q2440 (Or.inl ⟨q473, _, _, _, q474⟩) (by decide) rfl (zble2 (by omega) (by omega)) (zble2 (by omega) (by omega)) rfl rfl rfl rfl hcat rfl hd kk
set_option maxHeartbeats 4000000 in
theorem zr_keep {K : zC} {cc : ByteArray} {ret : Option FieldType} {nL fr lo mc ms : Nat} {σ σ' : zH} {sz k n pc : Nat} {lv : List (Nat × Value)} {rest : List Value} (hX : zOk K RX1 cc ret nL fr lo mc ms) {n0 c st : Nat} (h : fkeep n0 σ c st = some σ') (hR : (Nat.ble 39 fr && Nat.ble 946 lo) = true) (hf : (Nat.ble k mc && Nat.ble n ms) = true) (hcat : Nat.ble ((rest.map fun v => v.category).sum) 8 = true) (hd : decode cc pc = .ok (.invokevirtual 352, 3)) (kk : VW K σ' sz k n (pc + 3) lv rest) : VW K σ sz k n pc lv (.ref st :: .ref c :: rest) := by
  unfold fkeep at h
  obtain ⟨ci, h1, h⟩ := bnd h
  unfold zcls at h1
  split at h1
  case h_2 => cases h1
  rename_i ci2 fs he
  obtain rfl := Option.some.inj h1
  simp only [Bool.and_eq_true, Nat.ble_eq] at hR hf
  by_cases e8 : ci2 = 8
  · rw [if_pos e8] at h
    subst e8
    exact zr_callU (owner := RX9) (x := ⟨RX9, "keep", "(LDomainLinks$Store;)V"⟩) (av := [.ref st]) (rest := rest) (stk' := rest) (k' := k) (n' := n) hX (fun l s0 D => mX10_keep l s0 D h) (zis_of he) zc8 zwX10_keep q463 q465 q534 q533 (Or.inr q464) (by decide) rfl (zble2 (by omega) (by omega)) (zble2 (by omega) (by omega)) rfl rfl rfl rfl hcat rfl hd kk
  rw [if_neg e8] at h
  by_cases e9 : ci2 = 9
  · rw [if_pos e9] at h
    subst e9
    exact zr_callU (owner := RX9) (x := ⟨RX9, "keep", "(LDomainLinks$Store;)V"⟩) (av := [.ref st]) (rest := rest) (stk' := rest) (k' := k) (n' := n) hX (fun l s0 D => mX11_keep l s0 D h) (zis_of he) zc9 zwX11_keep q463 q465 q498 q497 (Or.inr q464) (by decide) rfl (zble2 (by omega) (by omega)) (zble2 (by omega) (by omega)) rfl rfl rfl rfl hcat rfl hd kk
  rw [if_neg e9] at h
  by_cases e10 : ci2 = 10
  · rw [if_pos e10] at h
    subst e10
    exact zr_callU (owner := RX9) (x := ⟨RX9, "keep", "(LDomainLinks$Store;)V"⟩) (av := [.ref st]) (rest := rest) (stk' := rest) (k' := k) (n' := n) hX (fun l s0 D => mX12_keep l s0 D h) (zis_of he) zc10 zwX12_keep q463 q465 q582 q581 (Or.inr q464) (by decide) rfl (zble2 (by omega) (by omega)) (zble2 (by omega) (by omega)) rfl rfl rfl rfl hcat rfl hd kk
  rw [if_neg e10] at h
  by_cases e11 : ci2 = 11
  · rw [if_pos e11] at h
    subst e11
    exact zr_callU (owner := RX9) (x := ⟨RX9, "keep", "(LDomainLinks$Store;)V"⟩) (av := [.ref st]) (rest := rest) (stk' := rest) (k' := k) (n' := n) hX (fun l s0 D => mX13_keep l s0 D h) (zis_of he) zc11 zwX13_keep q463 q465 q593 q592 (Or.inr q464) (by decide) rfl (zble2 (by omega) (by omega)) (zble2 (by omega) (by omega)) rfl rfl rfl rfl hcat rfl hd kk
  rw [if_neg e11] at h
  by_cases e12 : ci2 = 12
  · rw [if_pos e12] at h
    subst e12
    exact zr_callU (owner := RX9) (x := ⟨RX9, "keep", "(LDomainLinks$Store;)V"⟩) (av := [.ref st]) (rest := rest) (stk' := rest) (k' := k) (n' := n) hX (fun l s0 D => mX14_keep l s0 D h) (zis_of he) zc12 zwX14_keep q463 q465 q519 q518 (Or.inr q464) (by decide) rfl (zble2 (by omega) (by omega)) (zble2 (by omega) (by omega)) rfl rfl rfl rfl hcat rfl hd kk
  rw [if_neg e12] at h
  by_cases e13 : ci2 = 13
  · rw [if_pos e13] at h
    subst e13
    exact zr_callU (owner := RX9) (x := ⟨RX9, "keep", "(LDomainLinks$Store;)V"⟩) (av := [.ref st]) (rest := rest) (stk' := rest) (k' := k) (n' := n) hX (fun l s0 D => mX15_keep l s0 D h) (zis_of he) zc13 zwX15_keep q463 q465 q620 q619 (Or.inr q464) (by decide) rfl (zble2 (by omega) (by omega)) (zble2 (by omega) (by omega)) rfl rfl rfl rfl hcat rfl hd kk
  rw [if_neg e13] at h
  by_cases e14 : ci2 = 14
  · rw [if_pos e14] at h
    subst e14
    exact zr_callU (owner := RX9) (x := ⟨RX9, "keep", "(LDomainLinks$Store;)V"⟩) (av := [.ref st]) (rest := rest) (stk' := rest) (k' := k) (n' := n) hX (fun l s0 D => mX16_keep l s0 D h) (zis_of he) zc14 zwX16_keep q463 q465 q467 q466 (Or.inr q464) (by decide) rfl (zble2 (by omega) (by omega)) (zble2 (by omega) (by omega)) rfl rfl rfl rfl hcat rfl hd kk
  rw [if_neg e14] at h
  by_cases e15 : ci2 = 15
  · rw [if_pos e15] at h
    subst e15
    exact zr_callU (owner := RX9) (x := ⟨RX9, "keep", "(LDomainLinks$Store;)V"⟩) (av := [.ref st]) (rest := rest) (stk' := rest) (k' := k) (n' := n) hX (fun l s0 D => mX17_keep l s0 D h) (zis_of he) zc15 zwX17_keep q463 q465 q639 q638 (Or.inr q464) (by decide) rfl (zble2 (by omega) (by omega)) (zble2 (by omega) (by omega)) rfl rfl rfl rfl hcat rfl hd kk
  rw [if_neg e15] at h
  cases h
