/-! SPECIAL: constraints of any class, arraycopy, casts, arrays of arrays, lambdas -/
set_option maxRecDepth 100000
theorem zcp_spec {σ σ' : zH} {a b : Nat} {sp dp n : Int32} (h : zcp σ a sp b dp n = some σ') : ∃ n0 n1 f g, σ.2 a = some (.inl (3, n0, .inr (.inr (.inr (.inr f))))) ∧ σ.2 b = some (.inl (3, n1, .inr (.inr (.inr (.inr g))))) ∧ 0 ≤ sp ∧ 0 ≤ dp ∧ 0 ≤ n ∧ sp.toNatClampNeg + n.toNatClampNeg ≤ n0 ∧ dp.toNatClampNeg + n.toNatClampNeg ≤ n1 ∧ (∀ i, i < n.toNatClampNeg → ∀ y, f (sp.toNatClampNeg + i) = some y → ∃ c fs, σ.2 y = some (.inr (c, fs)) ∧ c ∈ zOb) ∧ σ' = zset σ b (.inl (3, n1, .inr (.inr (.inr (.inr (va_cpy f g sp.toNatClampNeg dp.toNatClampNeg n.toNatClampNeg)))))) := by
  unfold zcp at h
  split at h
  · rename_i n0 f n1 g e0 e1
    split at h
    · rename_i hc
      obtain ⟨c1, c2, c3, c4, c5, c6⟩ := hc
      refine ⟨n0, n1, f, g, e0, e1, c1, c2, c3, c4, c5, fun i hi y hy => ?_, (Option.some.inj h).symm⟩
      have q := List.all_eq_true.mp c6 i (List.mem_range.mpr hi)
      rw [hy] at q
      simp only at q
      split at q
      · rename_i c fs e2
        exact ⟨c, fs, e2, List.contains_iff_mem.mp q⟩
      · cases q
    · cases h
  · cases h
theorem zOb_lt {c : Nat} (h : c ∈ zOb) : c < 100 := by
  simp only [zOb, List.mem_cons, List.not_mem_nil, or_false] at h
  omega
theorem zCs_ok : ∀ c ∈ zcs, ∃ q : vw_C, zcl[c]? = some q ∧ Cond.castable q.1 "DomainLinks$Constraint" ∈ lw_tbl := by
  intro c hc
  simp only [zcs, List.mem_cons, List.not_mem_nil, or_false] at hc
  rcases hc with rfl | rfl | rfl | rfl | rfl | rfl | rfl | rfl
  · exact ⟨_, rfl, q2447⟩
  · exact ⟨_, rfl, q2445⟩
  · exact ⟨_, rfl, q2448⟩
  · exact ⟨_, rfl, q2449⟩
  · exact ⟨_, rfl, q2446⟩
  · exact ⟨_, rfl, q2450⟩
  · exact ⟨_, rfl, q2444⟩
  · exact ⟨_, rfl, q2451⟩
theorem zP.multi {s0 : State} {D : zD} {σ : zH} {H H1 : Heap} {sz : Nat} (h : zP s0 D σ H) (hsz : sz = H.size) {cA comp : ClassId} (hA : ArrOfT s0 cA (.array .int)) (hRA : va_RA s0 cA (.array .int)) (hC : ArrOfT s0 comp .int) (hRC : va_RA s0 comp .int) (hz : H1.size = H.size + 11) (oq : ∀ q : Nat, q < H.size → H1[q]? = H[q]?)
    (e0 : H1[sz]? = some (vp_cell cA (10, .inr (.inr (.inr (.inr (fun j => some (sz + 1 + j)))))))) (e1 : ∀ j, j < 10 → H1[sz + 1 + j]? = some (vp_cell comp (32, .inl (fun _ => 0)))) : zP s0 D (zmul σ sz) H1 := by
  have h0 := h.2.1
  refine ⟨fun b e' hb => ?_, by omega, fun q hq => ?_, h.2.2.2⟩
  · by_cases hba : b = sz
    · subst hba
      simp only [zmul, if_true, Option.some.injEq] at hb
      subst hb
      exact ⟨⟨cA, hA, hRA, e0⟩, fun _ => by omega⟩
    · by_cases hbb : sz < b ∧ b ≤ sz + 10
      · simp only [zmul, if_neg hba, if_pos hbb, Option.some.injEq] at hb
        subst hb
        have := e1 (b - (sz + 1)) (by omega)
        rw [show sz + 1 + (b - (sz + 1)) = b by omega] at this
        exact ⟨⟨comp, hC, hRC, this⟩, fun _ => by omega⟩
      · simp only [zmul, if_neg hba, if_neg hbb] at hb
        exact ⟨(h.1 b e' hb).1.kept (oq b (h.1 b e' hb).1.lt), (h.1 b e' hb).2⟩
  · rw [oq q (by omega)]
    exact h.2.2.1 q hq
theorem zouter0 (cA : ClassId) (N h : Nat) : ∀ i, Jvm.Free.Multi.outerC cA N h i = { cls := cA, slots := (Jvm.Free.Multi.outerC cA N h i).slots, vm := .none }
  | 0 => rfl
  | i + 1 => by
    show (Jvm.Free.Multi.outerC cA N h i).setSlot i _ = { cls := cA, slots := ((Jvm.Free.Multi.outerC cA N h i).setSlot i _).slots, vm := .none }
    rw [zouter0 cA N h i]
    rfl
theorem zouter (cA : ClassId) (h : Nat) : Jvm.Free.Multi.outerC cA 10 h 10 = vp_cell cA (10, .inr (.inr (.inr (.inr (fun j => some (h + 1 + j)))))) := by
  have o3 := (Jvm.Free.Multi.outerC_facts cA 10 h 10).2.2
  have os := Jvm.Free.Multi.outerC_slot cA 10 h 10
  rw [vp_cell_q]
  rw [zouter0]
  generalize (Jvm.Free.Multi.outerC cA 10 h 10).slots = sl at o3 os
  have e : sl = (arrV cA 10 (fun j => va_rf (some (h + 1 + j)))).slots := by
    apply Array.ext_getElem?
    intro i
    rcases Nat.lt_or_ge i 10 with g | g
    · rw [arrV_read _ _ g]
      have := os i g
      rw [if_pos g] at this
      exact this
    · rw [Array.getElem?_eq_none (show sl.size ≤ i by rw [o3]; exact g), Array.getElem?_eq_none (by rw [arrV_size]; exact g)]
  rw [e]
  rfl
section ZP
variable {K : zC} {own : String} {cc : ByteArray} {ret : Option FieldType} {nL fr lo mc ms : Nat} {σ σ' : zH} {sz sz' k n pc k' n' : Nat} {lv : List (Nat × Value)} {stk rest : List Value}
theorem zr_cp (hX : zOk K own cc ret nL fr lo mc ms) {a b index : Nat} {sp dp x : Int32} (h : zcp σ a sp b dp x = some σ') (h1 : Cond.methodLink own index arraycopyName ∈ lw_all) (hR : (Nat.ble 1 fr && Nat.ble ((rest.map fun v => v.category).sum + (nativeFrameWords "java/lang/System" "arraycopy" 5 + 11)) lo) = true) (hd : decode cc pc = .ok (.invokestatic index, 3)) (kk : VW K σ' sz k n (pc + 3) lv rest) : VW K σ sz k n pc lv (.int x :: .int dp :: .ref b :: .int sp :: .ref a :: rest) := by
  obtain ⟨n0, n1, f, g, ea, eb, p1, p2, p3, h4, h5, hel, rfl⟩ := zcp_spec h
  obtain ⟨⟨s0, D⟩, ⟨p, l, e, R, s, m⟩, ⟨args, below, meth, c⟩, Q, nL0⟩ := K
  obtain ⟨hx, hb, hr, hml, hown, hts, hlk, hcx, hnl, rfl, hs1, hs2⟩ := hX
  simp only [Bool.and_eq_true, Nat.ble_eq] at hR
  intro H locs ls hP hz hlo hls
  have nn : ∀ z : Int32, 0 ≤ z → ¬ z < 0 ∧ z.toInt = (z.toNatClampNeg : Int) := by
    intro z hz
    have hz0 : (0 : Int) ≤ z.toInt := by
      simpa using Int32.le_iff_toInt_le.mp hz
    refine ⟨Int32.not_lt.mpr hz, ?_⟩
    show z.toInt = ((z.toInt.toNat : Nat) : Int)
    omega
  obtain ⟨cA, hA0, hRA0, hcell0⟩ := (hP.1 a _ ea).1
  obtain ⟨cB, hB0, hRB0, hcell1⟩ := (hP.1 b _ eb).1
  have hbb : s0.heap.size ≤ b := (hP.1 b _ eb).2 rfl
  have hA := arrOfT_moved hcx.1 hA0
  have hB := arrOfT_moved hcx.1 hB0
  obtain ⟨-, k0, hk0, cm0, hkk0⟩ := hA n0 (fun j => va_rf (f j))
  obtain ⟨-, k1, hk1, cm1, hkk1⟩ := hB n1 (fun j => va_rf (g j))
  intro T hT X
  have hc0 : H[a]? = some (vp_cell cA (n0, .inr (.inr (.inr (.inr f))))) := hcell0
  have hc1 : H[b]? = some (vp_cell cB (n1, .inr (.inr (.inr (.inr g))))) := hcell1
  obtain ⟨vm', X', step⟩ := X.arraycopy hx hown (hts _ h1) (hts _ q877) (hts _ q876) (hts _ q128) (src := a) (dst := b) (cs := vp_cell cA (n0, .inr (.inr (.inr (.inr f))))) (cd := vp_cell cB (n1, .inr (.inr (.inr (.inr g))))) (srcPos := sp) (destPos := dp) (n := x) (by rw [hT]; exact hc0) (by rw [hT]; exact hc1)
    (fun _ h => by cases h) (fun _ h => by cases h) (fun h => by cases h) (fun h => by cases h) hk0 hk1 hkk0 hkk1 rfl (nn sp p1).1 (nn dp p2).1 (nn x p3).1
    (by rw [(nn sp p1).2, (nn x p3).2]; show ¬ _ > ((arrV cA n0 (fun j => va_rf (f j))).slots.size : Int); rw [arrV_size]; omega)
    (by rw [(nn dp p2).2, (nn x p3).2]; show ¬ _ > ((arrV cB n1 (fun j => va_rf (g j))).slots.size : Int); rw [arrV_size]; omega)
    (fun vm₁ hal i hi => by
      have e : (vp_cell cA (n0, .inr (.inr (.inr (.inr f))))).slots.getD (sp.toNatClampNeg + i) .null = va_rf (f (sp.toNatClampNeg + i)) := by
        show (arrV cA n0 (fun j => va_rf (f j))).slots.getD _ _ = _
        rw [Array.getD_eq_getD_getElem?, arrV_read _ _ (by omega)]
        rfl
      rw [e]
      cases hy : f (sp.toNatClampNeg + i) with
      | none => exact ⟨rfl, trivial⟩
      | some y =>
        obtain ⟨ci, fs, hr0, hob⟩ := hel i hi y hy
        obtain ⟨q, hq, hcb⟩ := zOb_ok ci hob
        obtain ⟨c0, t1, f1, f2, f3⟩ := Cond.castable_spec (va_Nw.use (A := args) rfl (hcx.2.2.1 _ hcb rfl))
        obtain ⟨r', hr', cellV, g1, g2, g3, -⟩ := (hP.one hr0 (zOb_lt hob)) 0 _ rfl
        have hcls := (hcx.2.1.1 ci q hq).2
        have hRA := hRB0.moved hcx.1
        obtain ⟨kA, comp, r1, r2, r3, -⟩ := hRA
        cases hk1.symm.trans r1
        cases hkk1.symm.trans r2
        cases hcls.1.symm.trans f1
        cases r3.symm.trans f2
        obtain ⟨kC, hkC, -⟩ := hcls.2
        obtain ⟨kE, hkE, -⟩ := Vm.findClass_spec r3
        obtain ⟨kC', hkC', -⟩ := hal.2.2 _ _ hkC
        obtain ⟨kE', hkE', -⟩ := hal.2.2 _ _ hkE
        refine ⟨rfl, cellV, (show T.heap[y]? = some cellV by rw [hT]; exact g1), (fun q h => by rw [h] at g3; cases g3), ⟨kC', by rw [g2]; exact hkC'⟩, ?_, ?_⟩
        · exact ⟨kE', hkE'⟩
        · show vm₁.assignable _ _ = true
          rw [hal.assignable, g2]
          exact f3)
    (g := F0 m pc ls (.int x :: .int dp :: .ref b :: .int sp :: .ref a :: rest)) rfl (hml.trans (by rw [← hnl]; exact hls.1.symm)).symm (rest := rest) rfl (by rw [hb]; exact hd) hR.1 (by show 2 * 0 + _ + _ ≤ lo; omega)
  have e1 : copied (vp_cell cA (n0, .inr (.inr (.inr (.inr f))))) (vp_cell cB (n1, .inr (.inr (.inr (.inr g))))) sp dp x = vp_cell cB (n1, .inr (.inr (.inr (.inr (va_cpy f g sp.toNatClampNeg dp.toNatClampNeg x.toNatClampNeg))))) := by
    rw [vp_cell_q, vp_cell_q, vp_cell_q]
    exact va_copied (fun z => va_rf z) cA cB f g h4
  rw [e1] at X' step
  have hl : b < H.size := (Array.getElem?_eq_some_iff.mp hc1).1
  have hheap : ((T.setVm vm').setCell b (vp_cell cB (n1, .inr (.inr (.inr (.inr (va_cpy f g sp.toNatClampNeg dp.toNatClampNeg x.toNatClampNeg))))))).heap = H.setIfInBounds b (vp_cell cB (n1, .inr (.inr (.inr (.inr (va_cpy f g sp.toNatClampNeg dp.toNatClampNeg x.toNatClampNeg)))))) := by rw [← hT]; rfl
  have oq : ∀ q : Nat, q ≠ b → (H.setIfInBounds b (vp_cell cB (n1, .inr (.inr (.inr (.inr (va_cpy f g sp.toNatClampNeg dp.toNatClampNeg x.toNatClampNeg)))))))[q]? = H[q]? := fun q hq => by simp [Array.getElem?_setIfInBounds, Ne.symm hq]
  have hcell2 : (H.setIfInBounds b (vp_cell cB (n1, .inr (.inr (.inr (.inr (va_cpy f g sp.toNatClampNeg dp.toNatClampNeg x.toNatClampNeg)))))))[b]? = some (vp_cell cB (n1, .inr (.inr (.inr (.inr (va_cpy f g sp.toNatClampNeg dp.toNatClampNeg x.toNatClampNeg)))))) := by simp [Array.getElem?_setIfInBounds, hl]
  obtain ⟨t, a1, b1⟩ := kk _ _ ls (hP.set hbb ⟨cB, hB0, hRB0, hcell2⟩ (by simp) oq) ⟨by simp; exact hz.1, hz.2⟩ (fun q hq => by
      rcases List.mem_append.mp hq with h | h
      · exact hlo q h
      · obtain ⟨z, -, hz⟩ := List.mem_map.mp h
        rw [← hz]
        exact hbb) hls _ hheap X'
  exact ⟨t, step t a1, b1⟩
theorem zr_castA (hX : zOk K own cc ret nL fr lo mc ms) {a index : Nat} {u : Unit} (h : zarr σ a 3 = some u) (h1 : Cond.classLink own index "[Ljava/lang/Object;" ∈ lw_all) (hd : decode cc pc = .ok (.checkcast index, 3)) (kk : VW K σ sz k n (pc + 3) lv (.ref a :: stk)) : VW K σ sz k n pc lv (.ref a :: stk) := by
  unfold zarr at h
  split at h
  case h_2 => cases h
  rename_i t x he
  split at h
  case isFalse => cases h
  rename_i ht
  subst ht
  obtain ⟨⟨s0, D⟩, ⟨p, l, e, R, s, m⟩, ⟨args, below, meth, c⟩, Q, nL0⟩ := K
  obtain ⟨hx, hb, hr, hml, hown, hts, hlk, hcx, hnl, hR, hs1, hs2⟩ := hX
  intro H locs ls hP hz hlo hls
  obtain ⟨cA, hA0, hRA0, hcell⟩ := (hP.1 a _ he).1
  obtain ⟨kA, comp, r1, r2, r3, r4⟩ := hRA0.moved hcx.1
  exact va_castA (D := D.1) (cl := zcl) (ws := [(a, .inl (cA, x))]) hx hb hown (hts _ h1) (fun j q hj => by cases j with | zero => cases hj; exact hcell | succ j => cases hj) 0 rfl r4 hd (kk H locs ls hP hz hlo hls)
theorem zr_castC (hX : zOk K own cc ret nL fr lo mc ms) {a index : Nat} {u : Unit} (h : zcon σ a = some u) (h1 : Cond.classLink own index "DomainLinks$Constraint" ∈ lw_all) (hd : decode cc pc = .ok (.checkcast index, 3)) (kk : VW K σ sz k n (pc + 3) lv (.ref a :: stk)) : VW K σ sz k n pc lv (.ref a :: stk) := by
  unfold zcon at h
  obtain ⟨ci, h2, h⟩ := bnd h
  unfold zcls at h2
  split at h2
  case h_2 => cases h2
  rename_i ci2 fs he
  obtain rfl := Option.some.inj h2
  split at h
  case isFalse => cases h
  rename_i hc
  have hc := List.contains_iff_mem.mp hc
  obtain ⟨q, hq, hcb⟩ := zCs_ok ci2 hc
  obtain ⟨⟨s0, D⟩, ⟨p, l, e, R, s, m⟩, ⟨args, below, meth, c⟩, Q, nL0⟩ := K
  obtain ⟨hx, hb, hr, hml, hown, hts, hlk, hcx, hnl, hR, hs1, hs2⟩ := hX
  intro H locs ls hP hz hlo hls
  have hlt : ci2 < 100 := by
    simp only [zcs, List.mem_cons, List.not_mem_nil, or_false] at hc
    omega
  obtain ⟨r', hr', cellV, g1, g2, g3, -⟩ := (hP.one he hlt) 0 _ rfl
  have hcls := (hcx.2.1.1 ci2 q hq).2
  exact va_castY hx hb hown (hts _ h1) (hcx.2.2.1 _ hcb rfl) ⟨cellV, g1, by rw [g3]; rfl, by rw [g2]; exact hcls.1⟩ hd (kk H locs ls hP hz hlo hls)
theorem zr_multi (hX : zOk K own cc ret nL fr lo mc ms) {index : Nat} (hs : zmul σ sz = σ') (h1 : Cond.classLink own index "[[I" ∈ lw_all) (hk : k + 11 = k') (hn : n + 330 = n') (hf : (Nat.ble k' mc && Nat.ble n' ms) = true) (hsz : sz + 11 = sz') (hd : decode cc pc = .ok (.multianewarray index 2, 4)) (kk : VW K σ' sz' k' n' (pc + 4) lv (.ref sz :: stk)) : VW K σ sz k n pc lv (.int 32 :: .int 10 :: stk) := by
  obtain ⟨⟨s0, D⟩, ⟨p, l, e, R, s, m⟩, ⟨args, below, meth, c⟩, Q, nL0⟩ := K
  obtain ⟨hx, hb, hr, hml, hown, hts, hlk, hcx, hnl, rfl, hs1, hs2⟩ := hX
  subst hk
  subst hn
  subst hs
  subst hsz
  simp only [Bool.and_eq_true, Nat.ble_eq] at hf
  have hov : (Cond.arrayOver (.array .int)).before args s = true := hcx.2.2.2.2.1
  intro H locs ls hP hz hlo hls
  intro T hT X
  have n10 : (10 : Int32).toNatClampNeg = 10 := by decide
  have n32 : (32 : Int32).toNatClampNeg = 32 := by decide
  obtain ⟨vm₁, cA, comp, hW, hfA, hfC, hO, hI, X1, st⟩ := X.multianewarray2F hx (own := own) (index := index) (ty := .int) hown (hts _ h1) hov (hts _ q207) (g := F0 m pc ls (.int 32 :: .int 10 :: stk)) rfl (by rw [hb]; exact hd) (n := 10) (k := 32) (rest := stk) rfl (by decide) (by decide) (by decide) (by decide) (by decide) rfl rfl (by rw [n10]; exact hf.1) (by rw [n10, n32]; exact hf.2)
  rw [n10, n32] at X1 st
  obtain ⟨f1, f2, f3, f4⟩ := Jvm.Free.Multi.fill_facts (T.setVm vm₁) cA comp 10 32 (defaultValue .int) 10
  have fo := fun (a : Addr) (ha : a < T.heap.size) => Jvm.Free.Multi.fill_old (T.setVm vm₁) cA comp 10 32 (defaultValue .int) (a := a) ha 10
  have fi := fun (j : Nat) (hj : j < 10) => Jvm.Free.Multi.fill_inner (T.setVm vm₁) cA comp 10 32 (defaultValue .int) 10 j hj
  have hA : ArrOfT s cA (.array .int) := fun N z => by
    obtain ⟨-, kA, f2, cp, f3⟩ := (hO 0 0 0).1
    exact ⟨(fun k h => by cases h), kA, f2, cp, f3⟩
  have hC : ArrOfT s comp .int := fun N z => by
    obtain ⟨-, kA, f2, cp, f3⟩ := (hI 0 .null).1
    exact ⟨(fun k h => by cases h), kA, f2, cp, f3⟩
  have hh : T.heap.size = sz := by rw [hT]; exact hz.1
  have f1 : (Jvm.Free.Multi.fill (T.setVm vm₁) cA comp 10 32 (defaultValue .int) 10).heap.size = T.heap.size + 1 + 10 := f1
  have f2 : (Jvm.Free.Multi.fill (T.setVm vm₁) cA comp 10 32 (defaultValue .int) 10).heap[T.heap.size]? = some (Jvm.Free.Multi.outerC cA 10 T.heap.size 10) := f2
  have fi : ∀ j, j < 10 → (Jvm.Free.Multi.fill (T.setVm vm₁) cA comp 10 32 (defaultValue .int) 10).heap[T.heap.size + 1 + j]? = some (Jvm.Free.Multi.innerC comp 32 (defaultValue .int)) := fi
  have fo : ∀ a, a < T.heap.size → (Jvm.Free.Multi.fill (T.setVm vm₁) cA comp 10 32 (defaultValue .int) 10).heap[a]? = T.heap[a]? := fo
  rw [hh] at f1 f2 fi fo st
  have hZ : zP s0 D (zmul σ sz) (Jvm.Free.Multi.fill (T.setVm vm₁) cA comp 10 32 (defaultValue .int) 10).heap := by
    refine hP.multi hz.1.symm (arrOfT_moved hcx.1.symm hA) (va_RA.moved hcx.1.symm hfA) (arrOfT_moved hcx.1.symm hC) (va_RA.moved hcx.1.symm hfC) (by rw [f1, hz.1]) (fun q hq => ?_) ?_ (fun j hj => ?_)
    · rw [fo q (by rw [← hz.1]; exact hq), hT]
    · rw [f2, zouter]
    · rw [fi j hj]
      congr 1
  obtain ⟨t, a1, b1⟩ := kk _ _ ls hZ ⟨by rw [f1], Nat.le_trans hz.2 (Nat.le_add_right _ _)⟩ hlo hls _ rfl X1
  exact ⟨t, st t a1, b1⟩
theorem zr_max (hX : zOk K own cc ret nL fr lo mc ms) {index : Nat} {x y : Int32} (h1 : Cond.methodLink own index Lib.Math.max.name ∈ lw_all) (h2 : Cond.static Lib.Math.max.name ∈ lw_all) (h3 : Cond.initialized "java/lang/Math" ∈ lw_all) (h4 : Cond.code Lib.Math.max.name Lib.Math.max.code 2 (some .int) ∈ lw_all) (hR : (Nat.ble 1 fr && Nat.ble ((stk.map fun v => v.category).sum + 13) lo) = true) (hf : (Nat.ble k mc && Nat.ble n ms) = true) (hd : decode cc pc = .ok (.invokestatic index, 3)) (kk : VW K σ sz k n (pc + 3) lv (.int (zmax x y) :: stk)) : VW K σ sz k n pc lv (.int y :: .int x :: stk) := by
  obtain ⟨⟨s0, D⟩, ⟨p, l, e, R, s, m⟩, ⟨args, below, meth, c⟩, Q, nL0⟩ := K
  obtain ⟨hx, hb, hr, hml, hown, hts, hlk, hcx, hnl, rfl, hs1, hs2⟩ := hX
  simp only [Bool.and_eq_true, Nat.ble_eq] at hR hf
  exact fun H locs ls hP hz hlo hl => va_mmax hx hb (hml.trans (by rw [← hnl]; exact hl.1.symm)) hown (hts _ h1) (hts _ h2) (hts _ h3) (hts _ h4) hR.1 hR.2 hf.1 hf.2 hd (kk H locs ls hP hz hlo hl)
theorem zr_min (hX : zOk K own cc ret nL fr lo mc ms) {index : Nat} {x y : Int32} (h1 : Cond.methodLink own index Lib.Math.min.name ∈ lw_all) (h2 : Cond.static Lib.Math.min.name ∈ lw_all) (h3 : Cond.initialized "java/lang/Math" ∈ lw_all) (h4 : Cond.code Lib.Math.min.name Lib.Math.min.code 2 (some .int) ∈ lw_all) (hR : (Nat.ble 1 fr && Nat.ble ((stk.map fun v => v.category).sum + 13) lo) = true) (hf : (Nat.ble k mc && Nat.ble n ms) = true) (hd : decode cc pc = .ok (.invokestatic index, 3)) (kk : VW K σ sz k n (pc + 3) lv (.int (zmin x y) :: stk)) : VW K σ sz k n pc lv (.int y :: .int x :: stk) := by
  obtain ⟨⟨s0, D⟩, ⟨p, l, e, R, s, m⟩, ⟨args, below, meth, c⟩, Q, nL0⟩ := K
  obtain ⟨hx, hb, hr, hml, hown, hts, hlk, hcx, hnl, rfl, hs1, hs2⟩ := hX
  simp only [Bool.and_eq_true, Nat.ble_eq] at hR hf
  exact fun H locs ls hP hz hlo hl => va_mmin hx hb (hml.trans (by rw [← hnl]; exact hl.1.symm)) hown (hts _ h1) (hts _ h2) (hts _ h3) (hts _ h4) hR.1 hR.2 hf.1 hf.2 hd (kk H locs ls hP hz hlo hl)
theorem zm15 {α : Type} {x : Array Nat} {f : Nat → Nat → Nat → Option α} {r : α} (h : Jvm.Lambda.shapeOf?.match_15 (fun _ => Option α) x f (fun _ => none) = some r) : ∃ a0 a1 a2, f a0 a1 a2 = some r := by
  obtain ⟨L⟩ := x
  match L, h with
  | [], h => cases h
  | [_], h => cases h
  | [_, _], h => cases h
  | [a, b, c], h => exact ⟨a, b, c, h⟩
  | _ :: _ :: _ :: _ :: _, h => cases h
theorem zb01 (x : Int32) : zb x = 0 ∨ zb x = 1 := by
  have e : (x &&& 1).toBitVec = x.toBitVec &&& 1#32 := rfl
  have h2 : (x.toBitVec &&& 1#32).toNat = x.toBitVec.toNat % 2 := by
    rw [BitVec.toNat_and]
    exact Nat.and_one_is_mod _
  show (x &&& 1) = 0 ∨ (x &&& 1) = 1
  rcases Nat.mod_two_eq_zero_or_one x.toBitVec.toNat with g | g
  · left
    apply Int32.toBitVec_inj.mp
    apply BitVec.eq_of_toNat_eq
    rw [e, h2, g]
    rfl
  · right
    apply Int32.toBitVec_inj.mp
    apply BitVec.eq_of_toNat_eq
    rw [e, h2, g]
    rfl
theorem zm19 {α : Type} {x : Option ClassFile.CpInfo} {f : Nat → Nat → Option α} {r : α} (h : Jvm.Lambda.shapeOf?.match_19 (fun _ => Option α) x f (fun _ => none) = some r) : ∃ y0 y1, x = some (.invokeDynamic y0 y1) ∧ f y0 y1 = some r := by
  split at h
  · exact ⟨_, _, rfl, h⟩
  · cases h
theorem zm17 {α : Type} {x : Option ClassFile.CpInfo} {f : Nat → Option α} {r : α} (h : Jvm.Lambda.shapeOf?.match_17 (fun _ => Option α) x f (fun _ => none) = some r) : ∃ y0, f y0 = some r := by
  split at h
  · exact ⟨_, h⟩
  · cases h
theorem zm9 {α : Type} {x : Option ClassFile.CpInfo} {f : Nat → Option α} {r : α} (h : Jvm.Lambda.shapeOf?.match_9 (fun _ => Option α) x f (fun _ => none) = some r) : ∃ y0, f y0 = some r := by
  split at h
  · exact ⟨_, h⟩
  · cases h
theorem zm12 {α : Type} {x : Option ClassFile.CpInfo} {f : Nat → Nat → Option α} {r : α} (h : Jvm.Lambda.shapeOf?.match_12 (fun _ => Option α) x f (fun _ => none) = some r) : ∃ y0 y1, f y0 y1 = some r := by
  split at h
  · exact ⟨_, _, h⟩
  · cases h
theorem zm6 {α : Type} {x : Option ClassFile.FieldType} {f : String → Option α} {r : α} (h : Jvm.Lambda.shapeOf?.match_6 (fun _ => Option α) x f (fun _ => none) = some r) : ∃ y0, f y0 = some r := by
  split at h
  · exact ⟨_, h⟩
  · cases h
theorem zshape {cf : ClassFile} {index : Nat} {h0 : Jvm.Lambda.Shape} (h : Jvm.Lambda.shapeOf? cf index = some h0) : ∃ (b nt : Nat) (name desc : String) (site : ClassFile.MethodDescriptor), cf.constantPool[index]? = some (.invokeDynamic b nt) ∧ cf.constantPool.nameAndType? nt = some (name, desc) ∧ ClassFile.parseMethodDescriptor desc = some site ∧ site.parameters = h0.captured := by
  unfold Jvm.Lambda.shapeOf? at h
  obtain ⟨b, nt, hc, h⟩ := zm19 h
  obtain ⟨_, -, h⟩ := Option.bind_eq_some_iff.mp h
  obtain ⟨_, -, h⟩ := Option.bind_eq_some_iff.mp h
  obtain ⟨_, h⟩ := zm17 h
  obtain ⟨_, -, h⟩ := Option.bind_eq_some_iff.mp h
  obtain ⟨_, _, _, h⟩ := zm15 h
  obtain ⟨_, h⟩ := zm9 h
  obtain ⟨_, _, h⟩ := zm12 h
  obtain ⟨_, h⟩ := zm9 h
  obtain ⟨⟨name, desc⟩, hnt, h⟩ := Option.bind_eq_some_iff.mp h
  obtain ⟨site, hsite, h⟩ := Option.bind_eq_some_iff.mp h
  obtain ⟨_, h⟩ := zm6 h
  obtain ⟨⟨c1, c2, c3, c4⟩, -, h⟩ := Option.bind_eq_some_iff.mp h
  obtain ⟨_, -, h⟩ := Option.bind_eq_some_iff.mp h
  obtain ⟨_, -, h⟩ := Option.bind_eq_some_iff.mp h
  obtain ⟨_, -, h⟩ := Option.bind_eq_some_iff.mp h
  obtain ⟨_, -, h⟩ := Option.bind_eq_some_iff.mp h
  obtain ⟨_, -, h⟩ := Option.bind_eq_some_iff.mp h
  cases h
  exact ⟨b, nt, name, desc, site, hc, hnt, hsite, rfl⟩
theorem zmade {e : Jvm.Setting} {s : State} {args : Array Value} {d c : ClassId} {sh : Jvm.Lambda.Shape} {dk : Class} {T : Array FieldType} (h : Jvm.Lambda.isMade e s.vm d sh c = true) (hd : s.vm.classes[d]? = some dk) (hO : (Cond.instantiable "java/lang/Object" 0).before args s = true) (hlay : ((sh.file dk.name).bind (Jvm.layoutFields · 0)).map (·.2.1) = some T) : ∃ k, s.vm.classes[c]? = some k ∧ k.instanceTypes = T ∧ k.kind = .ordinary := by
  obtain ⟨dk', k, ok, tk, file, cf, object, iface, t, lay, methods, target, found, h1, h2, h3, h4, h5, h6, h7, h8, h9, h10, h11, h12, h13, ⟨-, hkind, -⟩, -, -, -, -, -, -, -, ⟨hty, -⟩, -⟩ := Jvm.Lambda.isMade_spec h
  cases hd.symm.trans h1
  obtain ⟨cO, kO, hfO, hkO, -, -, -, hsz⟩ := Cond.instantiable_spec hO
  cases hfO.symm.trans h5
  cases hkO.symm.trans h7
  have hemp : ok.instanceTypes = #[] := Array.eq_empty_of_size_eq_zero hsz
  rw [hsz] at h8
  rw [h4] at hlay
  simp only [Option.bind_some, h8, Option.map_some, Option.some.injEq] at hlay
  exact ⟨k, h2, by rw [hty, hemp, hlay]; simp, hkind⟩
theorem zlay (j : Nat) : (((zsh j).file "DomainLinks").bind (Jvm.layoutFields · 0)).map (·.2.1) = some (if (zls j).2.2.2 then #[.boolean] else #[]) := by
  match j with
  | 0 => decide +kernel
  | 1 => decide +kernel
  | 2 => decide +kernel
  | 3 => decide +kernel
  | 4 => decide +kernel
  | 5 => decide +kernel
  | 6 => decide +kernel
  | j + 7 =>
    show (((zsh 7).file "DomainLinks").bind (Jvm.layoutFields · 0)).map (·.2.1) = some #[]
    decide +kernel
theorem zr_lamM (hX : zOk K own cc ret nL fr lo mc ms) {y : MethodName} (hN : zNm K y) {index : Nat} {x : Int32} (j : Nat) (hj : zls j = (y, pc, index, true)) (hj8 : j < 8) (hs : zset σ sz (.inr (100 + j, [.int (zb x)])) = σ') (hk : k + 1 = k') (hn : n + 1 = n') (hf : (Nat.ble k' mc && Nat.ble n' ms) = true) (hR : Nat.ble ((stk.map fun v => v.category).sum + 3080) lo = true) (hsz : sz + 1 = sz') (hd : decode cc pc = .ok (.invokedynamic index, 5)) (kk : VW K σ' sz' k' n' (pc + 5) lv (.ref sz :: stk)) : VW K σ sz k n pc lv (.int x :: stk) := by
  obtain ⟨⟨s0, D⟩, ⟨p, l, e, R, s, m⟩, ⟨args, below, meth, c⟩, Q, nL0⟩ := K
  obtain ⟨hx, hb, hr, hml, hown, hts, hlk, hcx, hnl, rfl, hs1, hs2⟩ := hX
  subst hk
  subst hn
  subst hs
  subst hsz
  simp only [Bool.and_eq_true, Nat.ble_eq] at hf hR
  obtain ⟨m', kS, cfS, i0, p0, hm', hkS, hnS, hcfS, hsh, hfind, hmade, hcan⟩ := hcx.2.2.2.2.2.1 j hj8
  have hlay := zlay j
  have hcap0 : zlsc j = [.boolean] := by
    unfold zlsc
    rw [hj]
    rfl
  rw [hj] at hm' hfind hsh hlay
  simp only [if_true] at hfind hlay
  cases hN.2.symm.trans hm'
  obtain ⟨b, nt, name, desc, site, hc, hnt, hsite, hcap⟩ := zshape hsh
  have hlong := ClassFile.parseLong_of_parse hsite
  obtain ⟨kK, hkK, htyK, hkindK⟩ := zmade hmade hkS (hts _ q2488) (by rw [hnS]; exact hlay)
  intro H locs ls hP hz hlo hls T hT X
  have hslotsE : ((kK.instanceTypes.toList.zip [Value.int x]).map fun (t, z) => narrow t z) = [.int (zb x)] := by rw [htyK]; rfl
  obtain ⟨X1, st⟩ := X.lambdaMakes hx (g := F0 m pc ls (.int x :: stk)) rfl (hml.trans (by rw [← hnl]; exact hls.1.symm)).symm (by rw [hb]; exact hd) (vals := [.int x]) (rest := stk) hkS hfind hcfS hc hnt hlong (by rw [hcap]; show 1 = (zlsc j).length; rw [hcap0]; rfl) rfl hkK
    (by rw [X.admits.platform]; show 2 * 0 + (1 + (stk.map fun v => v.category).sum) + 3072 ≤ lo; omega) hf.1 (by rw [hslotsE]; exact hf.2)
    (fun i v hv => by
      rw [hslotsE] at hv
      cases i with
      | zero => simp at hv; subst hv; simp [State.fitsSlot, State.slotType?, hkK, hkindK, htyK, fits]; exact zb01 x
      | succ j => simp at hv)
  rw [hslotsE] at X1 st
  subst hT
  have hsz0 := hz.1
  rw [hsz0] at st
  have hnew : (T.heap.push ({ cls := D.1.1 (100 + j), slots := [Value.int (zb x)].toArray, vm := .none } : Cell))[sz]? = some { cls := D.1.1 (100 + j), slots := [Value.int (zb x)].toArray, vm := .none } := by
    rw [← hsz0]
    exact Array.getElem?_push_size
  obtain ⟨t, a1, b1⟩ := kk (T.heap.push ({ cls := D.1.1 (100 + j), slots := [Value.int (zb x)].toArray, vm := .none } : Cell)) locs ls (hP.push hsz0.symm ⟨fun _ => ⟨_, hnew, rfl, rfl, fun q hq => by cases q with | zero => rfl | succ q => exact absurd hq (by simp)⟩, fun g => absurd g (by show ¬ 100 + j < 100; omega)⟩ (by simp) (fun q hq => by rw [Array.getElem?_push, if_neg (Nat.ne_of_lt hq)])) ⟨by simp [hsz0], Nat.le_succ_of_le hz.2⟩ hlo hls (T.pushCell { cls := D.1.1 (100 + j), slots := [Value.int (zb x)].toArray, vm := .none }) rfl X1
  exact ⟨t, st t a1, b1⟩
theorem zr_lamC (hX : zOk K own cc ret nL fr lo mc ms) {y : MethodName} (hN : zNm K y) {index : Nat} (j : Nat) (hj : zls j = (y, pc, index, false)) (hj8 : j < 8) (hR : Nat.ble ((stk.map fun v => v.category).sum + 3080) lo = true) (hd : decode cc pc = .ok (.invokedynamic index, 5)) (kk : VW K σ sz k n (pc + 5) lv (.ref (σ.1 (10 + j)) :: stk)) : VW K σ sz k n pc lv stk := by
  obtain ⟨⟨s0, D⟩, ⟨p, l, e, R, s, m⟩, ⟨args, below, meth, c⟩, Q, nL0⟩ := K
  obtain ⟨hx, hb, hr, hml, hown, hts, hlk, hcx, hnl, rfl, hs1, hs2⟩ := hX
  simp only [Nat.ble_eq] at hR
  obtain ⟨m', kS, cfS, i0, p0, hm', hkS, hnS, hcfS, hsh, hfind, hmade, hcan⟩ := hcx.2.2.2.2.2.1 j hj8
  rw [hj] at hm' hfind
  simp only [Bool.false_eq_true, if_false] at hfind
  cases hN.2.symm.trans hm'
  intro H locs ls hP hz hlo hls T hT X
  have kk := kk H locs ls hP hz hlo hls T hT X
  rw [hP.2.2.2] at kk
  obtain ⟨t, a1, b1⟩ := kk
  exact ⟨t, X.lambdaConstant hx (g := F0 m pc ls stk) rfl (hml.trans (by rw [← hnl]; exact hls.1.symm)).symm (by rw [hb]; exact hd) hkS hfind (by rw [X.admits.platform]; show 2 * 0 + (stk.map fun v => v.category).sum + 3072 ≤ lo; omega) a1, b1⟩
end ZP
