/-! THROWS: contracts that throw, their calls; the four checks' throws (printed by gen/throw.py) -/
set_option maxRecDepth 100000
def zXn (k : Nat) : String := match k with
  | 1 => "java/lang/IllegalArgumentException"
  | 2 => "java/lang/IllegalStateException"
  | _ => "java/lang/IndexOutOfBoundsException"
def zXs : List String := ["java/lang/RuntimeException", "java/lang/Exception"]
set_option maxHeartbeats 4000000 in
theorem zxw1 : ∀ w ∈ vx_at0 RX1 124 (zXn 1) zXs, w ∈ lw_all ∨ (w ∈ lw_tbl ∧ zNw w = true) := by
  intro w hw
  obtain ⟨h1, h2⟩ := List.mem_filter.mp hw
  simp only [Bundle.ownAtoms0, Bundle.throwableAtoms, Bundle.chain0Atoms, Bundle.passAtoms, zXs, List.cons_append, List.nil_append, List.append_assoc, List.mem_cons, List.not_mem_nil, or_false] at h1
  rcases h1 with rfl | rfl | rfl | rfl | rfl | rfl | rfl | rfl | rfl | rfl | rfl | rfl | rfl | rfl | rfl | rfl | rfl | rfl | rfl | rfl | rfl | rfl | rfl | rfl | rfl | rfl | rfl | rfl | rfl | rfl | rfl | rfl | rfl | rfl | rfl | rfl | rfl | rfl | rfl | rfl | rfl | rfl | rfl | rfl | rfl | rfl | rfl | rfl | rfl | rfl | rfl | rfl | rfl
  · exact Or.inl q118
  · exact Or.inl q718
  · exact Or.inl q727
  · exact Or.inl q732
  · exact Or.inl q735
  · exact Or.inl q737
  · exact Or.inl q719
  · exact Or.inl q720
  · exact Or.inl q156
  · exact Or.inl q157
  · exact Or.inl q721
  · exact Or.inl q726
  · exact Or.inl q733
  · exact Or.inl q750
  · exact Or.inl q708
  · exact Or.inl q751
  · exact Or.inl q710
  · exact Or.inl q752
  · exact Or.inl q712
  · exact Or.inl q722
  · exact absurd h2 (by decide)
  · exact Or.inl q724
  · exact absurd h2 (by decide)
  · exact Or.inl q714
  · exact Or.inl q739
  · exact Or.inl q740
  · exact Or.inl q741
  · exact Or.inl q742
  · exact Or.inr ⟨q699, rfl⟩
  · exact Or.inl q742
  · exact Or.inl q743
  · exact Or.inl q744
  · exact Or.inl q745
  · exact Or.inr ⟨q701, rfl⟩
  · exact Or.inl q745
  · exact Or.inl q746
  · exact Or.inl q747
  · exact Or.inl q719
  · exact Or.inr ⟨q703, rfl⟩
  · exact Or.inl q738
  · exact Or.inl q697
  · exact Or.inr ⟨q698, rfl⟩
  · exact Or.inl q705
  · exact Or.inl q706
  · exact Or.inl q707
  · exact Or.inl q709
  · exact Or.inl q711
  · exact Or.inl q713
  · exact absurd h2 (by decide)
  · exact absurd h2 (by decide)
  · exact Or.inl q748
  · exact Or.inl q716
  · exact Or.inl q715
theorem zxg1 : ∀ w ∈ Cond.classLink RX1 122 (zXn 1) :: Cond.initialized (zXn 1) :: vx_at0 RX1 124 (zXn 1) zXs, vx_ot w = true := by decide +kernel
set_option maxHeartbeats 4000000 in
theorem zxw2 : ∀ w ∈ vx_at0 RX1 127 (zXn 2) zXs, w ∈ lw_all ∨ (w ∈ lw_tbl ∧ zNw w = true) := by
  intro w hw
  obtain ⟨h1, h2⟩ := List.mem_filter.mp hw
  simp only [Bundle.ownAtoms0, Bundle.throwableAtoms, Bundle.chain0Atoms, Bundle.passAtoms, zXs, List.cons_append, List.nil_append, List.append_assoc, List.mem_cons, List.not_mem_nil, or_false] at h1
  rcases h1 with rfl | rfl | rfl | rfl | rfl | rfl | rfl | rfl | rfl | rfl | rfl | rfl | rfl | rfl | rfl | rfl | rfl | rfl | rfl | rfl | rfl | rfl | rfl | rfl | rfl | rfl | rfl | rfl | rfl | rfl | rfl | rfl | rfl | rfl | rfl | rfl | rfl | rfl | rfl | rfl | rfl | rfl | rfl | rfl | rfl | rfl | rfl | rfl | rfl | rfl | rfl | rfl | rfl
  · exact Or.inl q118
  · exact Or.inl q718
  · exact Or.inl q727
  · exact Or.inl q732
  · exact Or.inl q735
  · exact Or.inl q737
  · exact Or.inl q719
  · exact Or.inl q720
  · exact Or.inl q156
  · exact Or.inl q157
  · exact Or.inl q721
  · exact Or.inl q726
  · exact Or.inl q733
  · exact Or.inl q750
  · exact Or.inl q708
  · exact Or.inl q751
  · exact Or.inl q710
  · exact Or.inl q752
  · exact Or.inl q712
  · exact Or.inl q722
  · exact absurd h2 (by decide)
  · exact Or.inl q724
  · exact absurd h2 (by decide)
  · exact Or.inl q714
  · exact Or.inl q803
  · exact Or.inl q804
  · exact Or.inl q805
  · exact Or.inl q742
  · exact Or.inr ⟨q699, rfl⟩
  · exact Or.inl q742
  · exact Or.inl q743
  · exact Or.inl q744
  · exact Or.inl q745
  · exact Or.inr ⟨q701, rfl⟩
  · exact Or.inl q745
  · exact Or.inl q746
  · exact Or.inl q747
  · exact Or.inl q719
  · exact Or.inr ⟨q703, rfl⟩
  · exact Or.inl q802
  · exact Or.inl q794
  · exact Or.inr ⟨q795, rfl⟩
  · exact Or.inl q796
  · exact Or.inl q730
  · exact Or.inl q797
  · exact Or.inl q798
  · exact Or.inl q799
  · exact Or.inl q800
  · exact absurd h2 (by decide)
  · exact absurd h2 (by decide)
  · exact Or.inl q748
  · exact Or.inl q716
  · exact Or.inl q801
theorem zxg2 : ∀ w ∈ Cond.classLink RX1 125 (zXn 2) :: Cond.initialized (zXn 2) :: vx_at0 RX1 127 (zXn 2) zXs, vx_ot w = true := by decide +kernel
set_option maxHeartbeats 4000000 in
theorem zxw3 : ∀ w ∈ vx_at0 RX1 130 (zXn 3) zXs, w ∈ lw_all ∨ (w ∈ lw_tbl ∧ zNw w = true) := by
  intro w hw
  obtain ⟨h1, h2⟩ := List.mem_filter.mp hw
  simp only [Bundle.ownAtoms0, Bundle.throwableAtoms, Bundle.chain0Atoms, Bundle.passAtoms, zXs, List.cons_append, List.nil_append, List.append_assoc, List.mem_cons, List.not_mem_nil, or_false] at h1
  rcases h1 with rfl | rfl | rfl | rfl | rfl | rfl | rfl | rfl | rfl | rfl | rfl | rfl | rfl | rfl | rfl | rfl | rfl | rfl | rfl | rfl | rfl | rfl | rfl | rfl | rfl | rfl | rfl | rfl | rfl | rfl | rfl | rfl | rfl | rfl | rfl | rfl | rfl | rfl | rfl | rfl | rfl | rfl | rfl | rfl | rfl | rfl | rfl | rfl | rfl | rfl | rfl | rfl | rfl
  · exact Or.inl q118
  · exact Or.inl q718
  · exact Or.inl q727
  · exact Or.inl q732
  · exact Or.inl q735
  · exact Or.inl q737
  · exact Or.inl q719
  · exact Or.inl q720
  · exact Or.inl q156
  · exact Or.inl q157
  · exact Or.inl q721
  · exact Or.inl q726
  · exact Or.inl q733
  · exact Or.inl q750
  · exact Or.inl q708
  · exact Or.inl q751
  · exact Or.inl q710
  · exact Or.inl q752
  · exact Or.inl q712
  · exact Or.inl q722
  · exact absurd h2 (by decide)
  · exact Or.inl q724
  · exact absurd h2 (by decide)
  · exact Or.inl q714
  · exact Or.inl q944
  · exact Or.inl q945
  · exact Or.inl q946
  · exact Or.inl q742
  · exact Or.inr ⟨q699, rfl⟩
  · exact Or.inl q742
  · exact Or.inl q743
  · exact Or.inl q744
  · exact Or.inl q745
  · exact Or.inr ⟨q701, rfl⟩
  · exact Or.inl q745
  · exact Or.inl q746
  · exact Or.inl q747
  · exact Or.inl q719
  · exact Or.inr ⟨q703, rfl⟩
  · exact Or.inl q943
  · exact Or.inl q935
  · exact Or.inr ⟨q936, rfl⟩
  · exact Or.inl q937
  · exact Or.inl q731
  · exact Or.inl q938
  · exact Or.inl q939
  · exact Or.inl q940
  · exact Or.inl q941
  · exact absurd h2 (by decide)
  · exact absurd h2 (by decide)
  · exact Or.inl q748
  · exact Or.inl q716
  · exact Or.inl q942
theorem zxg3 : ∀ w ∈ Cond.classLink RX1 128 (zXn 3) :: Cond.initialized (zXn 3) :: vx_at0 RX1 130 (zXn 3) zXs, vx_ot w = true := by decide +kernel
def zTr (K : zC) : Prop := match K with
  | (_, (_, l, _, _, _, _), _) => l.stackTraces = false
/-- what a throw of this method comes to: class number E, heap sigma -/
def zXok (K : zC) (E : Nat) (σ : zH) (mc ms : Nat) : Prop := match K with
  | ((s0, D), (p, l, e, R, s, m), (args, below, meth, c), Q, _) => ∀ (H : Heap) (locs : List Loc) (ls : Array Slot) (pc : Nat) (rest : List Value) (q : Addr) (ce : Cell) (k n : Nat), k ≤ mc → n ≤ ms → zP s0 D σ H → s.heap.size ≤ H.size → (∀ q ∈ locs, s0.heap.size ≤ q.base) → H[q]? = some ce → ce.vm = .none → s.vm.findClass (zXn E) = some ce.cls → vx_W p l e R s m args below meth c H locs k n Q (F0 m pc ls rest) q
def zQX (s0 : State) (D : zD) (E : Nat) (σ : zH) : String → State → State → Prop := fun nm st t => nm = zXn E ∧ zP s0 D σ t.heap ∧ st.heap.size ≤ t.heap.size
/-- a method's contract where it throws -/
def zMX (l : Launch) (s0 : State) (D : zD) (y : MethodName) (cc : ByteArray) (nL : Nat) (ret : Option FieldType) (fr lo mc ms : Nat) (av : List Value) (σ : zH) (sz : Nat) (E : Nat) (σ' : zH) : Prop :=
  vx_Met l y (ws_ y cc nL ret) { frames := fr, cells := mc, slots := ms, locals := lo } (va_Pc av (zS s0 D σ sz)) (fun _ _ _ _ => False) (zQX s0 D E σ') mc ms (zA s0)
/-- 'throw new E()' from here is all right -/
def zTh (K : zC) (cc : ByteArray) (E : Nat) (σ : zH) (sz : Nat) : Prop := ∀ (pc ik ic : Nat) (lv : List (Nat × Value)) (rest : List Value), Nat.ble ((rest.map fun v => v.category).sum) 8 = true → decode cc pc = .ok (.new ik, 3) → decode cc (pc + 3) = .ok (.dup, 1) → decode cc (pc + 4) = .ok (.invokespecial ic, 3) → decode cc (pc + 7) = .ok (.athrow, 1) → Cond.classLink RX1 ik (zXn E) ∈ lw_all → Cond.initialized (zXn E) ∈ lw_all → (∀ w ∈ vx_at0 RX1 ic (zXn E) zXs, w ∈ lw_all ∨ (w ∈ lw_tbl ∧ zNw w = true)) → (∀ w ∈ Cond.classLink RX1 ik (zXn E) :: Cond.initialized (zXn E) :: vx_at0 RX1 ic (zXn E) zXs, vx_ot w = true) → VW K σ sz 0 0 pc lv rest
theorem zXn_fit (E : Nat) : Bundle.fit (zXn E) = true := by
  unfold zXn
  split <;> decide
theorem zenterX {l : Launch} {s0 : State} {D : zD} {y : MethodName} {own : String} {cc : ByteArray} {nL : Nat} {ret : Option FieldType} {fr lo mc ms : Nat} {av : List Value} {σ : zH} {sz : Nat} {E : Nat} {σ' : zH} (htr : l.stackTraces = false) (hy : plainName y.cls = true) (hcl : y.cls = own) (hlen : (lg_sl av).length ≤ nL) 
    (body : ∀ K : zC, zOk K own cc ret nL fr lo mc ms → zNm K y → zTr K → zXok K E σ' mc ms → (own = RX1 → 5 < fr → 89 ≤ lo → 1 ≤ mc → 6 ≤ ms → σ = σ' → zTh K cc E σ sz) → VW K σ sz 0 0 0 (lv_args 0 av) []) : zMX l s0 D y cc nL ret fr lo mc ms av σ sz E σ' := by
  refine vx_ofW (cc := cc) (maxL := nL) (ret := ret) hy rfl ?_
  intro p e s m args below meth c s₁ B hml hnx hv
  obtain ⟨rfl, hsz, hP, hC⟩ := hv
  have hx := B.exec
  have hb := B.bytes
  have hr := B.returns
  have hts0 := atoms_spec (ws := ws_ y cc nL ret) B.pre
  have hts : ∀ w ∈ lw_all, w.before _ s = true := fun w h => hts0 w (List.mem_cons_of_mem _ h)
  have hown : s.vm.findClass own = some m.cls := by rw [← hcl]; exact findClass_of_methodNamed B.named
  have hlocks := B.notSynchronized
  have hl := lv_entry av (n := nL) hlen
  rw [lg_entry_eq]
  have hxt : ∀ (pc : Nat), ∀ x ∈ c.exceptionTable.toList, covers x pc = false := fun pc x hx => (hnx x hx).elim
  refine body ((s0, D), (p, l, e, { frames := fr, cells := mc, slots := ms, locals := lo }, s, m), (av.toArray, below, meth, c), vx_MQ below (fun _ _ _ _ => False) (zQX s0 D E σ') av.toArray s mc ms (zA s0), nL) ⟨hx, hb, hr, hml, hown, hts, hlocks, hC, rfl, rfl, hP.2.1, hP.2.2.1⟩ ⟨(name_of_methodNamed B.named B.method).1, B.named⟩ htr ?_ ?_ s.heap [] _ hP ⟨hsz, Nat.le_of_eq hsz⟩ (fun q h => by cases h) hl
  · intro H locs ls pc rest q ce k n hk hn hPH hz hlo hce hcv hcl'
    exact vx_out (hxt pc) hlocks hce hcv hcl' (fun t ht _ => ⟨rfl, by rw [ht]; exact hPH, by rw [ht]; exact hz⟩) hlo hk hn
  · intro hRX hfr hloc hmc hms hσ pc ik ic lv rest hcat d0 d3 d4 d7 h1 h2 h3 h4 H locs ls hPH hz hlo hls
    subst hσ
    have hcat := Nat.le_of_ble_eq_true hcat
    refine vx_throw0 (A := zA s0) (own := own) (cls := zXn E) (names := zXs) hx hb htr hown (zXn_fit E) (by decide) (by rw [hRX]; exact hts _ h1) (hts _ h2) (fun w hw => ?_) (by rw [hRX]; exact h4) (hC.2.2.2.1.2.2.2.2.1.kept (zStk hP.2.2.1)) (hC.2.2.2.1.2.2.2.2.2.1.kept (zStk hP.2.2.1)) (zVS hPH hz hP.2.2.1 hlo) (by rw [hml]; exact hls.1) d0 d3 d4 d7 (hxt _) hfr (by show _ + (13 * (zXs.length + 1) + 42) ≤ lo; have : zXs.length = 2 := rfl; omega) (by show 0 + 1 ≤ mc; omega) (by show 0 + 6 ≤ ms; omega) hlocks (fun t _ hsz2 hk => ?_) hlo hmc hms
    · rw [hRX] at hw
      rcases h3 w hw with h | ⟨h, g⟩
      · exact hts _ h
      · exact va_Nw.use (zNw_tab g) (hC.2.2.1 _ h g)
    · refine ⟨rfl, ⟨fun a e' ha => ⟨(hPH.1 a e' ha).1.kept (hk a (hPH.1 a e' ha).1.lt), (hPH.1 a e' ha).2⟩, Nat.le_trans hPH.2.1 hsz2, fun q hq => by rw [hk q (Nat.lt_of_lt_of_le hq hPH.2.1)]; exact hPH.2.2.1 q hq, hPH.2.2.2⟩, Nat.le_trans (by rw [hz.1]; exact hz.2) hsz2⟩
section ZX
variable {K : zC} {own : String} {cc : ByteArray} {ret : Option FieldType} {nL fr lo mc ms : Nat} {σ σ' : zH} {sz k n pc : Nat} {lv : List (Nat × Value)} {stk rest : List Value}
theorem zgoX {p : Program} {l : Launch} {e : Env} {R : Room} {s : State} {m : MethodId} {args : Array Value} {below : List Frame} {meth : Method} {c : Code} {Q : State → Prop} {nL : Nat} {s0 : State} {D : zD} {H : Heap} {locs : List Loc} {ls : Array Slot} {E mc' ms' : Nat}
    (hz : H.size = sz ∧ s.heap.size ≤ sz) (hrun : vx_Run p l e R s m args below meth c H locs k n mc' ms' (F0 m pc ls stk) rest (fun _ _ _ => False) (zQX s0 D E σ') (zA s0)) (hlo : ∀ q ∈ locs, s0.heap.size ≤ q.base) (hk : k + mc' ≤ mc) (hn : n + ms' ≤ ms)
    (kx : zXok ((s0, D), (p, l, e, R, s, m), (args, below, meth, c), Q, nL) E σ' mc ms) : W p l e R s m args below meth c H locs k n Q (F0 m pc ls stk) := by
  intro T hT X
  rcases hrun T hT X with ⟨v, st₀, t, T', L, h0, X', hL, e1, e2, hq, st⟩ | ⟨q, st₀, t, T', L, E', ce, h0, X', hL, e1, e2, ⟨hn1, hp1, hz1⟩, hce, hcv, hcl, st⟩
  · exact hq.elim
  · subst hn1
    obtain ⟨t2, a1, b1⟩ := kx T'.heap (locs ++ L) ls pc rest q ce (k + mc') (n + ms') hk hn (by rw [e1]; exact hp1) (by rw [e1]; rw [h0] at hz1; omega) (fun q hq => by
      rcases List.mem_append.mp hq with h | h
      · exact hlo q h
      · exact hL q h) (by rw [e1]; exact hce) hcv hcl T' rfl X'
    exact ⟨t2, st.trans a1, b1⟩
theorem zr_callSX (hX : zOk K own cc ret nL fr lo mc ms) (hT : zTr K) {y : MethodName} {bytes : ByteArray} {maxL fr' lo' mc' ms' index np E : Nat} {ret' : Option FieldType} {av : List Value} (kx : zXok K E σ' mc ms) (hM : ∀ l s0 D, l.stackTraces = false → zMX l s0 D y bytes maxL ret' fr' lo' mc' ms' av σ sz E σ') (hw : zWd y bytes maxL ret' np) (h1 : Cond.methodLink own index y ∈ lw_all) (h2 : Cond.static y ∈ lw_all)
    (hR : (Nat.ble (fr' + 1) fr && Nat.ble (8 + (maxL + 11) + lo') lo) = true) (hf : (Nat.ble (k + mc') mc && Nat.ble (n + ms') ms) = true) (hnp : av.length = np) (hstk : stk = av.reverse ++ rest) (hcat : Nat.ble ((rest.map fun v => v.category).sum) 8 = true) (hd : decode cc pc = .ok (.invokestatic index, 3)) : VW K σ sz k n pc lv stk := by
  obtain ⟨⟨s0, D⟩, ⟨p, l, e, R, s, m⟩, ⟨args, below, meth, c⟩, Q, nL0⟩ := K
  obtain ⟨hx, hb, hr, hml, hown, hts, hlk, hcx, hnl, rfl, hs1, hs2⟩ := hX
  subst hnl
  obtain ⟨w1, w2, w3, w4, w5⟩ := hw
  simp only [Bool.and_eq_true, Nat.ble_eq] at hR hf
  intro H locs ls hP hz hlo hl
  exact zgoX hz (vx_runS (As := av) (rest := rest) (Ts := lw_all) ⟨hx, hb, hml, hown, hts⟩ (hM l s0 D hT) (va_cwS np hts (lw_S h1 h2 w1 w2) rfl rfl rfl ⟨w3, w4, w5⟩ hR) ⟨zS.blind, fun U hU hW => ⟨rfl, by rw [hU]; exact hz.1, by rw [hU]; exact hP, hcx.warm hW⟩⟩ rfl hnp hl.1 hstk (lv_room (Nat.le_of_ble_eq_true hcat)) hd hf) hlo hf.1 hf.2 kx
theorem zr_callVX (hX : zOk K own cc ret nL fr lo mc ms) (hT : zTr K) {y : MethodName} {C : String} {T : u_T} {bytes : ByteArray} {maxL fr' lo' mc' ms' index np E N b ci : Nat} {ret' : Option FieldType} {av : List Value} {u : Unit} (kx : zXok K E σ' mc ms) (hM : ∀ l s0 D, l.stackTraces = false → zMX l s0 D y bytes maxL ret' fr' lo' mc' ms' (.ref b :: av) σ sz E σ') (h : zis σ b ci = some u) (hc : zCl ci C T N) (hw : zWd y bytes maxL ret' np) (h1 : Cond.methodLink own index y ∈ lw_all) (h2 : Cond.instanceMethod y ∈ lw_all) (h3 : Cond.selects C y y ∈ lw_all) (hC : y.cls = C)
    (hR : (Nat.ble (fr' + 1) fr && Nat.ble (8 + (maxL + 11) + lo') lo) = true) (hf : (Nat.ble (k + mc') mc && Nat.ble (n + ms') ms) = true) (hnp : av.length = np) (hstk : stk = av.reverse ++ .ref b :: rest) (hcat : Nat.ble ((rest.map fun v => v.category).sum) 8 = true) (hd : decode cc pc = .ok (.invokevirtual index, 3)) : VW K σ sz k n pc lv stk := by
  obtain ⟨fs, he⟩ := zis_spec h
  obtain ⟨⟨s0, D⟩, ⟨p, l, e, R, s, m⟩, ⟨args, below, meth, c⟩, Q, nL0⟩ := K
  obtain ⟨hx, hb, hr, hml, hown, hts, hlk, hcx, hnl, rfl, hs1, hs2⟩ := hX
  subst hnl
  obtain ⟨w1, w2, w3, w4, w5⟩ := hw
  simp only [Bool.and_eq_true, Nat.ble_eq] at hR hf
  intro H locs ls hP hz hlo hl
  have hci : ci < 100 := Nat.lt_trans (List.getElem?_eq_some_iff.mp hc.1).1 (by decide)
  exact zgoX hz (vx_runV (As := av) (rest := rest) (Ts := lw_all) (b := b) (C := C) ⟨hx, hb, hml, hown, hts⟩ (hM l s0 D hT) (cwV np hts (lw_V h1 h2 h3 (hC ▸ w1) w2) rfl rfl rfl ⟨hC, w3, w4, w5⟩ hR) ⟨zS.blind, va_recv hcx.2.1 (hP.one he hci) (ci := ci) (q0 := 0) hc.1 rfl, fun U hU hW => ⟨rfl, by rw [hU]; exact hz.1, by rw [hU]; exact hP, hcx.warm hW⟩⟩ rfl hnp hl.1 hstk (lv_room (Nat.le_of_ble_eq_true hcat)) hd hf) hlo hf.1 hf.2 kx
end ZX
