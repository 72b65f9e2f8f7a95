/-! FLAT: calls of the other kinds -/
set_option maxRecDepth 100000
section ZG
variable {K : zC} {own : String} {cc : ByteArray} {ret : Option FieldType} {nL fr lo mc ms : Nat} {σ σ' : zH} {sz sz' k n pc : Nat} {lv : List (Nat × Value)} {stk stk' rest : List Value}
theorem zr_callVs (hX : zOk K own cc ret nL fr lo mc ms) {y : MethodName} {C : String} {T : u_T} {bytes : ByteArray} {maxL fr' lo' mc' ms' index np k' n' N b ci : Nat} {ret' : Option FieldType} {av : List Value} {r : Option Value} {u : Unit} (hM : ∀ l s0 D, zM l s0 D y bytes maxL ret' fr' lo' mc' ms' (.ref b :: av) σ sz σ' sz' r) (h : zis σ b ci = some u) (hc : zCl ci C T N) (hw : zWd y bytes maxL ret' np) (h1 : Cond.methodLink own index y ∈ lw_all) (h2 : Cond.instanceMethod y ∈ lw_all) (h3 : Cond.selects C y y ∈ lw_all) (hC : y.cls = C) (hR : (Nat.ble (fr' + 1) fr && Nat.ble (8 + (maxL + 11) + lo') lo) = true) (hf : (Nat.ble (k + mc') mc && Nat.ble (n + ms') ms) = true) (hk : k + mc' = k') (hn : n + ms' = n') (hnp : av.length = np) (hstk : stk = av.reverse ++ .ref b :: rest) (hcat : Nat.ble ((rest.map fun v => v.category).sum) 8 = true) (hs : r.toList ++ rest = stk') (hd : decode cc pc = .ok (.invokevirtual index, 3))
    (kk : VW K σ' sz' k' n' (pc + 3) lv stk') : VW K σ sz k n pc lv stk := by
  obtain ⟨fs, he⟩ := zis_spec h
  exact zr_callV hX hM he hc.1 hw h1 h2 h3 hC hR hf hk hn hnp hstk hcat hs hd kk
theorem zr_callVNs (hX : zOk K own cc ret nL fr lo mc ms) {y : MethodName} {C host : String} {T : u_T} {bytes : ByteArray} {maxL fr' lo' mc' ms' index np k' n' N b ci : Nat} {ret' : Option FieldType} {av : List Value} {r : Option Value} {u : Unit} (hM : ∀ l s0 D, zM l s0 D y bytes maxL ret' fr' lo' mc' ms' (.ref b :: av) σ sz σ' sz' r) (h : zis σ b ci = some u) (hc : zCl ci C T N) (hw : zWd y bytes maxL ret' np) (h1 : Cond.methodLinkNest own index y host ∈ lw_tbl) (h2 : Cond.instanceMethod y ∈ lw_all) (h3 : Cond.selects C y y ∈ lw_all) (hR : (Nat.ble (fr' + 1) fr && Nat.ble (8 + (maxL + 11) + lo') lo) = true) (hf : (Nat.ble (k + mc') mc && Nat.ble (n + ms') ms) = true) (hk : k + mc' = k') (hn : n + ms' = n') (hnp : av.length = np) (hstk : stk = av.reverse ++ .ref b :: rest) (hcat : Nat.ble ((rest.map fun v => v.category).sum) 8 = true) (hs : r.toList ++ rest = stk') (hd : decode cc pc = .ok (.invokevirtual index, 3))
    (kk : VW K σ' sz' k' n' (pc + 3) lv stk') : VW K σ sz k n pc lv stk := by
  obtain ⟨fs, he⟩ := zis_spec h
  exact zr_callVN hX hM he hc.1 hw h1 h2 h3 hR hf hk hn hnp hstk hcat hs hd kk
theorem zr_callU (hX : zOk K own cc ret nL fr lo mc ms) {x y : MethodName} {C owner : String} {T : u_T} {bytes : ByteArray} {maxL fr' lo' mc' ms' index np k' n' N b ci : Nat} {ret' : Option FieldType} {av : List Value} {r : Option Value} {u : Unit} (hM : ∀ l s0 D, zM l s0 D y bytes maxL ret' fr' lo' mc' ms' (.ref b :: av) σ sz σ' sz' r) (h : zis σ b ci = some u) (hc : zCl ci C T N) (hw : zWd y bytes maxL ret' np) (h1 : Cond.methodLink own index x ∈ lw_all) (h5 : Cond.sameMethod x.cls owner x.name x.desc ∈ lw_all) (h2 : Cond.instanceMethod y ∈ lw_all) (h3 : Cond.selects C x y ∈ lw_all) (hdc : (Cond.instanceMethod ⟨owner, x.name, x.desc⟩ ∈ lw_all ∧ ∃ b0 m0 r0, Cond.code ⟨owner, x.name, x.desc⟩ b0 m0 r0 ∈ lw_all) ∨ Cond.declares ⟨owner, x.name, x.desc⟩ ∈ lw_tbl) (how : owner ≠ "java/lang/invoke/MethodHandle" ∧ owner ≠ "java/lang/invoke/VarHandle") (hde : y.desc = x.desc) (hR : (Nat.ble (fr' + 1) fr && Nat.ble (8 + (maxL + 11) + lo') lo) = true) (hf : (Nat.ble (k + mc') mc && Nat.ble (n + ms') ms) = true) (hk : k + mc' = k') (hn : n + ms' = n') (hnp : av.length = np) (hstk : stk = av.reverse ++ .ref b :: rest) (hcat : Nat.ble ((rest.map fun v => v.category).sum) 8 = true) (hs : r.toList ++ rest = stk') (hd : decode cc pc = .ok (.invokevirtual index, 3))
    (kk : VW K σ' sz' k' n' (pc + 3) lv stk') : VW K σ sz k n pc lv stk := by
  obtain ⟨fs, he⟩ := zis_spec h
  obtain ⟨⟨s0, D⟩, ⟨p, l, e, R, s, m⟩, ⟨args, below, meth, c⟩, Q, nL0⟩ := K
  obtain ⟨hx, hb, hr, hml, hown, hts, hlk, hcx, hnl, rfl, hs1, hs2⟩ := hX
  subst hk
  subst hn
  subst hnl
  obtain ⟨w1, w2, w3, w4, w5⟩ := hw
  simp only [Bool.and_eq_true, Nat.ble_eq] at hR hf
  intro H locs ls hP hz hlo hl
  have hci : ci < 100 := Nat.lt_trans (List.getElem?_eq_some_iff.mp hc.1).1 (by decide)
  have hG := lw_meth w2
  have hdecl : va_Decl s ⟨owner, x.name, x.desc⟩ := by
    rcases hdc with ⟨g1, b0, m0, r0, g2⟩ | g
    · exact va_Decl.of (hts _ g1) (hts _ g2)
    · exact va_Decl.abs (hcx.2.2.1 _ g rfl)
  have cw : va_CU { frames := fr, cells := mc, slots := ms, locals := lo } s args own C owner index x y bytes maxL ret' (ws_ y bytes maxL ret') { frames := fr', cells := mc', slots := ms', locals := lo' } mc' ms' np := by
    refine ⟨⟨rfl, rfl, hR.1, hR.2, pay_in hts hG, List.mem_cons_self⟩, hts _ w2, hts _ w1, how, fun sig hh => ?_, hts _ h1, hts _ h5, hdecl, hts _ h3, hts _ h2⟩
    rw [hde, hh] at w5
    exact (Option.some.inj w5).symm
  refine zgo hz (va_runU (As := av) (rest := rest) (Ts := lw_all) (b := b) (C := C) ⟨hx, hb, hml, hown, hts⟩ (hM l s0 D) cw ⟨zS.blind, va_recv hcx.2.1 (hP.one he hci) (ci := ci) (q0 := 0) hc.1 rfl, fun U hU hW => ⟨rfl, by rw [hU]; exact hz.1, by rw [hU]; exact hP, hcx.warm hW⟩⟩ rfl hnp hl.1 hstk (lv_room (Nat.le_of_ble_eq_true hcat)) hd hf) hs hlo hl kk
theorem zr_callI (hX : zOk K own cc ret nL fr lo mc ms) {y : MethodName} {bytes : ByteArray} {maxL fr' lo' mc' ms' index np k' n' b : Nat} {av : List Value} (hM : ∀ l s0 D, zM l s0 D y bytes maxL none fr' lo' mc' ms' (.ref b :: av) σ sz σ' sz' none) (hw : zWd y bytes maxL none np) (h1 : Cond.methodLink own index y ∈ lw_all) (h2 : Cond.instanceMethod y ∈ lw_all) (hy1 : y.name = "<init>") (hR : (Nat.ble (fr' + 1) fr && Nat.ble (8 + (maxL + 11) + lo') lo) = true) (hf : (Nat.ble (k + mc') mc && Nat.ble (n + ms') ms) = true) (hk : k + mc' = k') (hn : n + ms' = n') (hnp : av.length = np) (hstk : stk = av.reverse ++ .ref b :: rest) (hcat : Nat.ble ((rest.map fun v => v.category).sum) 8 = true) (hd : decode cc pc = .ok (.invokespecial index, 3))
    (kk : VW K σ' sz' k' n' (pc + 3) lv rest) : VW K σ sz k n pc lv stk := by
  obtain ⟨⟨s0, D⟩, ⟨p, l, e, R, s, m⟩, ⟨args, below, meth, c⟩, Q, nL0⟩ := K
  obtain ⟨hx, hb, hr, hml, hown, hts, hlk, hcx, hnl, rfl, hs1, hs2⟩ := hX
  subst hk
  subst hn
  subst hnl
  obtain ⟨w1, w2, w3, w4, w5⟩ := hw
  simp only [Bool.and_eq_true, Nat.ble_eq] at hR hf
  intro H locs ls hP hz hlo hl
  refine zgo hz (va_runI (As := av) (rest := rest) (Ts := lw_all) (b := b) ⟨hx, hb, hml, hown, hts⟩ (hM l s0 D) (cwI np hts (lw_meth w2) rfl rfl rfl (hts _ w1) (hts _ h1) (hts _ h2) hy1 ⟨w3, w4, w5⟩ hR) ⟨zS.blind, fun U hU hW => ⟨rfl, by rw [hU]; exact hz.1, by rw [hU]; exact hP, hcx.warm hW⟩⟩ rfl hnp hl.1 hstk (lv_room (Nat.le_of_ble_eq_true hcat)) hd hf) rfl hlo hl kk
theorem zr_callIN (hX : zOk K own cc ret nL fr lo mc ms) {y : MethodName} {host : String} {bytes : ByteArray} {maxL fr' lo' mc' ms' index np k' n' b : Nat} {av : List Value} (hM : ∀ l s0 D, zM l s0 D y bytes maxL none fr' lo' mc' ms' (.ref b :: av) σ sz σ' sz' none) (hw : zWd y bytes maxL none np) (h1 : Cond.methodLinkNest own index y host ∈ lw_tbl) (h2 : Cond.instanceMethod y ∈ lw_all) (hy1 : y.name = "<init>") (hR : (Nat.ble (fr' + 1) fr && Nat.ble (8 + (maxL + 11) + lo') lo) = true) (hf : (Nat.ble (k + mc') mc && Nat.ble (n + ms') ms) = true) (hk : k + mc' = k') (hn : n + ms' = n') (hnp : av.length = np) (hstk : stk = av.reverse ++ .ref b :: rest) (hcat : Nat.ble ((rest.map fun v => v.category).sum) 8 = true) (hd : decode cc pc = .ok (.invokespecial index, 3))
    (kk : VW K σ' sz' k' n' (pc + 3) lv rest) : VW K σ sz k n pc lv stk := by
  obtain ⟨⟨s0, D⟩, ⟨p, l, e, R, s, m⟩, ⟨args, below, meth, c⟩, Q, nL0⟩ := K
  obtain ⟨hx, hb, hr, hml, hown, hts, hlk, hcx, hnl, rfl, hs1, hs2⟩ := hX
  subst hk
  subst hn
  subst hnl
  obtain ⟨w1, w2, w3, w4, w5⟩ := hw
  simp only [Bool.and_eq_true, Nat.ble_eq] at hR hf
  intro H locs ls hP hz hlo hl
  refine zgo hz (va_runIN (As := av) (rest := rest) (Ts := lw_all) (b := b) ⟨hx, hb, hml, hown, hts⟩ (hM l s0 D) ⟨va_cnB np hts (lw_meth w2) rfl rfl rfl (hcx.2.2.1 _ h1 rfl) (hts _ w1) ⟨w3, w4, w5⟩ hR, hy1, hts _ h2⟩ ⟨zS.blind, fun U hU hW => ⟨rfl, by rw [hU]; exact hz.1, by rw [hU]; exact hP, hcx.warm hW⟩⟩ rfl hnp hl.1 hstk (lv_room (Nat.le_of_ble_eq_true hcat)) hd hf) rfl hlo hl kk
theorem zgo5 {p : Program} {l : Launch} {e : Env} {R : Room} {s : State} {m : MethodId} {args : Array Value} {below : List Frame} {meth : Method} {c : Code} {Q : State → Prop} {nL : Nat} {s0 : State} {D : zD} {H : Heap} {locs : List Loc} {ls : Array Slot} {mc' ms' : Nat} {r : Option Value} {a : Array Value}
    (hz : H.size = sz ∧ s.heap.size ≤ sz) (hrun : va_Run5 p l e R s m args below meth c H locs k n mc' ms' (F0 m pc ls stk) rest (zQ s0 D σ' sz' r a) (zA s0)) (hs : r.toList ++ rest = stk') (hlo : ∀ q ∈ locs, s0.heap.size ≤ q.base) (hl : lv_has ls nL lv)
    (kk : VW ((s0, D), (p, l, e, R, s, m), (args, below, meth, c), Q, nL) σ' sz' (k + mc') (n + ms') (pc + 5) lv stk') : W p l e R s m args below meth c H locs k n Q (F0 m pc ls stk) := by
  intro T hT X
  obtain ⟨v, st₀, t, T', L, h0, X', hL, e1, e2, ⟨⟨hv, hz', hp⟩, hF⟩, st⟩ := hrun T hT X
  cases hv
  subst hs
  obtain ⟨t2, a1, b1⟩ := kk T'.heap (locs ++ L) ls (by rw [e1]; exact hp) (by rw [e1]; exact ⟨hz', by rw [← hz', ← hz.1] at *; have := hF.1; rw [h0] at this; omega⟩) (fun q hq => by
      rcases List.mem_append.mp hq with h | h
      · exact hlo q h
      · exact hL q h) hl T' rfl X'
  exact ⟨t2, st t2 a1, b1⟩
theorem zr_callF (hX : zOk K own cc ret nL fr lo mc ms) {x y : MethodName} {bytes : ByteArray} {maxL fr' lo' mc' ms' index count np k' n' b : Nat} {ret' : Option FieldType} {av : List Value} {r : Option Value} {u : Unit} (hM : ∀ l s0 D, zM l s0 D y bytes maxL ret' fr' lo' mc' ms' (.ref b :: av) σ sz σ' sz' r) (h : zis σ b 18 = some u) (hw : zWd y bytes maxL ret' np) (hxy : (x, y) ∈ zIfs) (h1 : Cond.methodLink own index x ∈ lw_all) (h2 : Cond.instanceMethod y ∈ lw_all) (h3 : Cond.selects RJ2 x y ∈ lw_all) (hde : y.desc = x.desc) (hR : (Nat.ble (fr' + 1) fr && Nat.ble (8 + (maxL + 11) + lo') lo) = true) (hf : (Nat.ble (k + mc') mc && Nat.ble (n + ms') ms) = true) (hk : k + mc' = k') (hn : n + ms' = n') (hnp : av.length = np) (hstk : stk = av.reverse ++ .ref b :: rest) (hcat : Nat.ble ((rest.map fun v => v.category).sum) 8 = true) (hs : r.toList ++ rest = stk') (hd : decode cc pc = .ok (.invokeinterface index count, 5))
    (kk : VW K σ' sz' k' n' (pc + 5) lv stk') : VW K σ sz k n pc lv stk := by
  obtain ⟨fs, he⟩ := zis_spec h
  obtain ⟨⟨s0, D⟩, ⟨p, l, e, R, s, m⟩, ⟨args, below, meth, c⟩, Q, nL0⟩ := K
  obtain ⟨hx, hb, hr, hml, hown, hts, hlk, hcx, hnl, rfl, hs1, hs2⟩ := hX
  subst hk
  subst hn
  subst hnl
  obtain ⟨w1, w2, w3, w4, w5⟩ := hw
  simp only [Bool.and_eq_true, Nat.ble_eq] at hR hf
  intro H locs ls hP hz hlo hl
  have hG : GoodIn lw_all (va_wsF own index RJ2 x y (ws_ y bytes maxL ret')) := by
    refine lw_app (fun w hw => ?_) (lw_meth w2)
    simp only [List.mem_cons, List.not_mem_nil, or_false] at hw
    rcases hw with rfl | rfl | rfl | rfl
    · exact h1
    · exact h3
    · exact h2
    · exact w1
  rw [hde] at w5
  have hok := zIfs_ok _ hxy
  refine zgo5 hz (va_runF (As := av) (rest := rest) (Ts := lw_all) (b := b) (C := RJ2) (hcx.2.1.1 18 _ rfl).2 ⟨hx, hb, hml, hown, hts⟩ (hM l s0 D) (va_cwF np hts hG rfl rfl rfl (hcx.2.2.2.1.2.2.2.2.2.2.2.2.2.2 _ hxy) ⟨hok.1, hok.2, w5⟩ hR) ⟨zS.blind, va_recv hcx.2.1 (hP.one he (by decide)) (ci := 18) (q0 := 0) rfl rfl, fun U hU hW => ⟨rfl, by rw [hU]; exact hz.1, by rw [hU]; exact hP, hcx.warm hW⟩⟩ rfl hnp hl.1 hstk (lv_room (Nat.le_of_ble_eq_true hcat)) hd hf) hs hlo hl kk
theorem zr_objInit (hX : zOk K own cc ret nL fr lo mc ms) {index a : Nat} (h1 : Cond.methodLink own index objectInit ∈ lw_all) (h2 : Cond.instanceMethod objectInit ∈ lw_all) (h3 : Cond.code objectInit ⟨#[0xb1]⟩ 1 none ∈ lw_all) (hR : (Nat.ble 1 fr && Nat.ble ((rest.map fun v => v.category).sum + 12) lo) = true) (hd : decode cc pc = .ok (.invokespecial index, 3)) (kk : VW K σ sz k n (pc + 3) lv rest) : VW K σ sz k n pc lv (.ref a :: rest) := by
  obtain ⟨⟨s0, D⟩, ⟨p, l, e, R, s, m⟩, ⟨args, below, meth, c⟩, Q, nL0⟩ := K
  obtain ⟨hx, hb, hr, hml, hown, hts, hlk, hcx, hnl, rfl, hs1, hs2⟩ := hX
  simp only [Bool.and_eq_true, Nat.ble_eq] at hR
  intro H locs ls hP hz hlo hl
  refine W.objInit hx hb hown (hts _ h1) (hts _ h2) (hts _ h3) rfl (by rw [hml, ← hnl]; exact hl.1) rfl hd hR.1 (by show 2 * 0 + _ + 12 ≤ lo; omega) ?_
  exact W.eq (g2 := F0 m (pc + 3) ls rest) rfl (kk H locs ls hP hz hlo hl)
theorem zr_ldcM (hX : zOk K own cc ret nL fr lo mc ms) {index : Nat} (h1 : Cond.classLink own index "[Ljava/lang/Object;" ∈ lw_all) (hd : decode cc pc = .ok (.ldc index, 2)) (kk : VW K σ sz k n (pc + 2) lv (.ref (σ.1 3) :: stk)) : VW K σ sz k n pc lv stk := by
  obtain ⟨⟨s0, D⟩, ⟨p, l, e, R, s, m⟩, ⟨args, below, meth, c⟩, Q, nL0⟩ := K
  obtain ⟨hx, hb, hr, hml, hown, hts, hlk, hcx, hnl, rfl, hs1, hs2⟩ := hX
  intro H locs ls hP hz hlo hl
  have h9 := hcx.2.2.2.1.2.2.2.2.2.2.1
  rw [← hP.2.2.2] at h9
  exact va_ldcM hx hb hown (hts _ h1) h9 hd (kk H locs ls hP hz hlo hl)
theorem zarr_spec {a t : Nat} {u : Unit} (h : zarr σ a t = some u) : ∃ x, σ.2 a = some (.inl (t, x)) := by
  unfold zarr at h
  split at h
  · rename_i t' x e
    split at h
    · rename_i g
      subst g
      exact ⟨x, e⟩
    · cases h
  · cases h
theorem zr_getC (hX : zOk K own cc ret nL fr lo mc ms) {index a : Nat} {u : Unit} (h : zarr σ a 3 = some u) (h1 : Cond.methodLink own index ⟨"java/lang/Object", "getClass", "()Ljava/lang/Class;"⟩ ∈ lw_all) (h3 : Cond.selects "[Ljava/lang/Object;" ⟨"java/lang/Object", "getClass", "()Ljava/lang/Class;"⟩ ⟨"java/lang/Object", "getClass", "()Ljava/lang/Class;"⟩ ∈ lw_all) (h4 : Cond.instanceMethod ⟨"java/lang/Object", "getClass", "()Ljava/lang/Class;"⟩ ∈ lw_all) (h5 : Cond.native ⟨"java/lang/Object", "getClass", "()Ljava/lang/Class;"⟩ ∈ lw_all) (hR : (Nat.ble 1 fr && Nat.ble ((stk.map fun v => v.category).sum + 14) lo) = true) (hd : decode cc pc = .ok (.invokevirtual index, 3)) (kk : VW K σ sz k n (pc + 3) lv (.ref (σ.1 3) :: stk)) : VW K σ sz k n pc lv (.ref a :: stk) := by
  obtain ⟨⟨s0, D⟩, ⟨p, l, e, R, s, m⟩, ⟨args, below, meth, c⟩, Q, nL0⟩ := K
  obtain ⟨hx, hb, hr, hml, hown, hts, hlk, hcx, hnl, rfl, hs1, hs2⟩ := hX
  simp only [Bool.and_eq_true, Nat.ble_eq] at hR
  obtain ⟨x, he⟩ := zarr_spec h
  intro H locs ls hP hz hlo hl
  have h9 := hcx.2.2.2.1.2.2.2.2.2.2.1
  rw [← hP.2.2.2] at h9
  obtain ⟨cA, hA, hRA, hcell⟩ := (hP.1 a _ he).1
  have hRA := hRA.moved hcx.1
  refine va_getC hx hb (hml.trans (by rw [← hnl]; exact hl.1.symm)) hown (hts _ h1) (va_Dc.use hcx.2.2.2.1.2.2.2.2.2.2.2.1) (hts _ h3) (hts _ h4) (hts _ h5) h9 ⟨_, hcell, ?_, ?_⟩ hR.1 hR.2 hd (kk H locs ls hP hz hlo hl)
  · obtain ⟨N, f | f | f | f | f⟩ := x <;> rfl
  · have h8 := va_nmO (C := "java/lang/Object") (nm := "[Ljava/lang/Object;") hRA (by decide)
    rw [h8]
    obtain ⟨N, f | f | f | f | f⟩ := x <;> rfl
end ZG
