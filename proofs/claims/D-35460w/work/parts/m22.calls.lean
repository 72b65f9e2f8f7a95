/-! CORE: the heap's rows, a method's entry and end, calls -/
set_option maxRecDepth 100000
theorem zNw_tab {w : Cond} (h : zNw w = true) : w.onTables = true := by
  cases w <;> first | rfl | (simp [zNw] at h)
theorem zCtx.same {s0 : State} {D : zD} {u U : State} (e : u.vm = U.vm) (h : zCtx s0 D u) : zCtx s0 D U := by
  have hv : u.vm.Alike U.vm := by rw [← e]; exact Vm.Alike.refl _
  exact ⟨by rw [← e]; exact h.1, va_K.moved hv h.2.1, fun w hw hn => va_Nw.same (zNw_tab hn) e (h.2.2.1 w hw hn), h.2.2.2.1.moved hv, h.2.2.2.2.same e⟩
theorem zCtx.warm {s0 : State} {D : zD} {s U : State} (hW : s.WarmedH U.vm) (h : zCtx s0 D s) : zCtx s0 D U := by
  refine ⟨h.1.trans hW.alike, va_K.moved hW.alike h.2.1, fun w hw hn => ?_, h.2.2.2.1.moved hW.alike, h.2.2.2.2.warm hW⟩
  have h1 := h.2.2.1 w hw hn
  cases w <;> first | exact va_Nw.warmF hW h1 | exact va_Nw.warmM hW h1 | exact va_Nw.warmC hW h1 | exact va_Nw.warmD hW h1 | (simp [zNw] at hn)
def zS (s0 : State) (D : zD) (σ : zH) (sz : Nat) : State → Prop := fun U => U.heap.size = sz ∧ zP s0 D σ U.heap ∧ zCtx s0 D U
theorem zS.blind {s0 : State} {D : zD} {σ : zH} {sz : Nat} {av : List Value} : FrameBlind (va_Pc av (zS s0 D σ sz)) := fun a U g mk h => ⟨h.1, h.2.1, h.2.2.1, h.2.2.2.same (u := U) rfl⟩
def zQ (s0 : State) (D : zD) (σ : zH) (sz : Nat) (r : Option Value) : Array Value → State → Outcome → State → Prop := fun _ st o t => (o = .returned r ∧ t.heap.size = sz ∧ zP s0 D σ t.heap) ∧ va_F (zA s0) st t
/-- a method's contract: from sigma, sz it returns r with sigma', sz' -/
def zM (l : Launch) (s0 : State) (D : zD) (y : MethodName) (cc : ByteArray) (nL : Nat) (ret : Option FieldType) (fr lo mc ms : Nat) (av : List Value) (σ : zH) (sz : Nat) (σ' : zH) (sz' : Nat) (r : Option Value) : Prop :=
  Met l y (ws_ y cc nL ret) { frames := fr, cells := mc, slots := ms, locals := lo } (va_Pc av (zS s0 D σ sz)) (zQ s0 D σ' sz' r) mc ms (zA s0)
theorem zF_of {s0 : State} {D : zD} {σ σ' : zH} {st t : State} (h1 : zP s0 D σ st.heap) (h2 : zP s0 D σ' t.heap) (hz : st.heap.size ≤ t.heap.size) : va_F (zA s0) st t :=
  ⟨hz, fun q _ hq => by
    have h : q < s0.heap.size := Nat.not_le.mp hq
    rw [h1.2.2.1 q h, h2.2.2.1 q h]⟩
/-- what a method's walk is given for its end -/
def zRet (K : zC) (cc : ByteArray) (ret : Option FieldType) (σ : zH) (sz mc ms : Nat) (r : Option Value) : Prop := match r with
  | none => ∀ (pc : Nat) (lv : List (Nat × Value)), decode cc pc = .ok (.return_, 1) → VW K σ sz mc ms pc lv []
  | some (.int v) => ∀ (pc : Nat) (lv : List (Nat × Value)), decode cc pc = .ok (.ireturn, 1) → (ret = some .int ∨ (ret = some .boolean ∧ (v = 0 ∨ v = 1))) → VW K σ sz mc ms pc lv [.int v]
  | some (.long v) => ∀ (pc : Nat) (lv : List (Nat × Value)), decode cc pc = .ok (.lreturn, 1) → VW K σ sz mc ms pc lv [.long v]
  | some (.ref v) => ∀ (pc : Nat) (lv : List (Nat × Value)), decode cc pc = .ok (.areturn, 1) → VW K σ sz mc ms pc lv [.ref v]
  | _ => True
def zRtOk (ret : Option FieldType) (r : Option Value) : Prop := match r with
  | none => ret = none
  | some (.int _) => True
  | some (.long _) => ret = some .long
  | some (.ref _) => ∃ rt, ret = some rt ∧ ((∃ n, rt = .object n) ∨ ∃ t, rt = .array t)
  | _ => True
/-- which method it is -/
def zNm (K : zC) (y : MethodName) : Prop := match K with
  | (_, (_, _, _, _, s, m), (_, _, meth, _), _) => meth.name = y.name ∧ s.methodNamed? y = some m
theorem zenter {l : Launch} {s0 : State} {D : zD} {y : MethodName} {own : String} {cc : ByteArray} {nL : Nat} {ret : Option FieldType} {fr lo mc ms : Nat} {av : List Value} {σ : zH} {sz : Nat} {σ' : zH} {sz' : Nat} {r : Option Value} (hy : plainName y.cls = true) (hcl : y.cls = own) (hlen : (lg_sl av).length ≤ nL) (hrt : zRtOk ret r)
    (body : ∀ K : zC, zOk K own cc ret nL fr lo mc ms → zNm K y → zRet K cc ret σ' sz' mc ms r → VW K σ sz 0 0 0 (lv_args 0 av) []) : zM l s0 D y cc nL ret fr lo mc ms av σ sz σ' sz' r := by
  refine Met.ofW (cc := cc) (maxL := nL) (ret := ret) hy rfl ?_
  intro p e s m args below meth c s₁ B hml hv
  obtain ⟨rfl, hsz, hP, hC⟩ := hv
  have hx := B.exec
  have hb := B.bytes
  have hr := B.returns
  have hts0 := atoms_spec (ws := ws_ y cc nL ret) B.pre
  have hts : ∀ w ∈ lw_all, w.before _ s = true := fun w h => hts0 w (List.mem_cons_of_mem _ h)
  have hown : s.vm.findClass own = some m.cls := by rw [← hcl]; exact findClass_of_methodNamed B.named
  have hlocks := B.notSynchronized
  have hl := lv_entry av (n := nL) hlen
  rw [lg_entry_eq]
  generalize hQ : MQ below (zQ s0 D σ' sz' r) av.toArray s mc ms (zA s0) = Q
  have hret : zRet ((s0, D), (p, l, e, { frames := fr, cells := mc, slots := ms, locals := lo }, s, m), (av.toArray, below, meth, c), Q, nL) cc ret σ' sz' mc ms r := by
    subst hQ
    have hq : ∀ (H : Heap) (t : State), zP s0 D σ' H → (H.size = sz' ∧ s.heap.size ≤ sz') → t.heap = H → zQ s0 D σ' sz' r av.toArray s (.returned r) t := fun H t h1 h2 h3 => ⟨⟨rfl, by rw [h3]; exact h2.1, by rw [h3]; exact h1⟩, zF_of hP (by rw [h3]; exact h1) (by rw [h3, h2.1]; exact h2.2)⟩
    match r, hrt, hq with
    | none, hrt, hq => exact fun pc lv hd H locs ls hP hs hlo hl => W.vret hx hb (hr.trans hrt) (fun t ht _ => hq H t hP hs ht) hlo hd
    | some (.int v), hrt, hq =>
      intro pc lv hd hrt H locs ls hP hs hlo hl
      rcases hrt with h | ⟨h, h2⟩
      · exact W.iret hx hb (hr.trans h) (fun t ht _ => hq H t hP hs ht) hlo hd
      · exact W.zret hx hb (hr.trans h) (by rcases h2 with rfl | rfl <;> rfl) (fun t ht _ => hq H t hP hs ht) hlo hd
    | some (.long v), hrt, hq => exact fun pc lv hd H locs ls hP hs hlo hl => W.lret hx hb (hr.trans hrt) (fun t ht _ => hq H t hP hs ht) hlo hd
    | some (.ref v), hrt, hq =>
      obtain ⟨rt, h1, h2⟩ := hrt
      exact fun pc lv hd H locs ls hP hs hlo hl => W.aret hx hb (hr.trans h1) h2 (Or.inr ⟨v, rfl⟩) (fun t ht _ => hq H t hP hs ht) hlo hd
    | some .null, hrt, hq => trivial
    | some (.float v), hrt, hq => trivial
    | some (.double v), hrt, hq => trivial
    | some (.retAddr v), hrt, hq => trivial
  exact body ((s0, D), (p, l, e, { frames := fr, cells := mc, slots := ms, locals := lo }, s, m), (av.toArray, below, meth, c), Q, nL) ⟨hx, hb, hr, hml, hown, hts, hlocks, hC, rfl, rfl, hP.2.1, hP.2.2.1⟩ ⟨(name_of_methodNamed B.named B.method).1, B.named⟩ hret s.heap [] _ hP ⟨hsz, Nat.le_of_eq hsz⟩ (fun q h => by cases h) hl
section ZC
variable {K : zC} {own : String} {cc : ByteArray} {ret : Option FieldType} {nL fr lo mc ms : Nat} {σ σ' : zH} {sz sz' k n pc : Nat} {lv : List (Nat × Value)} {stk stk' rest : List Value}
/-- what the tables say of a callee -/
def zWd (y : MethodName) (bytes : ByteArray) (maxL : Nat) (ret : Option FieldType) (np : Nat) : Prop := Cond.initialized y.cls ∈ lw_all ∧ Cond.code y bytes maxL ret ∈ lw_all ∧ y.cls ≠ "java/lang/invoke/MethodHandle" ∧ y.cls ≠ "java/lang/invoke/VarHandle" ∧ (parseMethodDescriptor y.desc).map (fun d => d.parameters.length) = some np
/-- behind a call -/
theorem zgo {p : Program} {l : Launch} {e : Env} {R : Room} {s : State} {m : MethodId} {args : Array Value} {below : List Frame} {meth : Method} {c : Code} {Q : State → Prop} {nL : Nat} {s0 : State} {D : zD} {H : Heap} {locs : List Loc} {ls : Array Slot} {mc' ms' : Nat} {r : Option Value} {a : Array Value}
    (hz : H.size = sz ∧ s.heap.size ≤ sz) (hrun : va_Run p l e R s m args below meth c H locs k n mc' ms' (F0 m pc ls stk) rest (zQ s0 D σ' sz' r a) (zA s0)) (hs : r.toList ++ rest = stk') (hlo : ∀ q ∈ locs, s0.heap.size ≤ q.base) (hl : lv_has ls nL lv)
    (kk : VW ((s0, D), (p, l, e, R, s, m), (args, below, meth, c), Q, nL) σ' sz' (k + mc') (n + ms') (pc + 3) lv stk') : W p l e R s m args below meth c H locs k n Q (F0 m pc ls stk) := by
  intro T hT X
  obtain ⟨v, st₀, t, T', L, h0, X', hL, e1, e2, ⟨⟨hv, hz', hp⟩, hF⟩, st⟩ := hrun T hT X
  cases hv
  subst hs
  obtain ⟨t2, a1, b1⟩ := kk T'.heap (locs ++ L) ls (by rw [e1]; exact hp) (by rw [e1]; exact ⟨hz', by rw [← hz', ← hz.1] at *; have := hF.1; rw [h0] at this; omega⟩) (fun q hq => by
      rcases List.mem_append.mp hq with h | h
      · exact hlo q h
      · exact hL q h) hl T' rfl X'
  exact ⟨t2, st t2 a1, b1⟩
theorem zr_callS (hX : zOk K own cc ret nL fr lo mc ms) {y : MethodName} {bytes : ByteArray} {maxL fr' lo' mc' ms' index np k' n' : Nat} {ret' : Option FieldType} {av : List Value} {r : Option Value} (hM : ∀ l s0 D, zM l s0 D y bytes maxL ret' fr' lo' mc' ms' av σ sz σ' sz' r) (hw : zWd y bytes maxL ret' np) (h1 : Cond.methodLink own index y ∈ lw_all) (h2 : Cond.static y ∈ lw_all)
    (hR : (Nat.ble (fr' + 1) fr && Nat.ble (8 + (maxL + 11) + lo') lo) = true) (hf : (Nat.ble (k + mc') mc && Nat.ble (n + ms') ms) = true) (hk : k + mc' = k') (hn : n + ms' = n') (hnp : av.length = np) (hstk : stk = av.reverse ++ rest) (hcat : Nat.ble ((rest.map fun v => v.category).sum) 8 = true) (hs : r.toList ++ rest = stk') (hd : decode cc pc = .ok (.invokestatic index, 3))
    (kk : VW K σ' sz' k' n' (pc + 3) lv stk') : VW K σ sz k n pc lv stk := by
  obtain ⟨⟨s0, D⟩, ⟨p, l, e, R, s, m⟩, ⟨args, below, meth, c⟩, Q, nL0⟩ := K
  obtain ⟨hx, hb, hr, hml, hown, hts, hlk, hcx, hnl, rfl, hs1, hs2⟩ := hX
  subst hk
  subst hn
  subst hnl
  obtain ⟨w1, w2, w3, w4, w5⟩ := hw
  simp only [Bool.and_eq_true, Nat.ble_eq] at hR hf
  intro H locs ls hP hz hlo hl
  refine zgo hz (va_runS (As := av) (rest := rest) (Ts := lw_all) ⟨hx, hb, hml, hown, hts⟩ (hM l s0 D) (va_cwS np hts (lw_S h1 h2 w1 w2) rfl rfl rfl ⟨w3, w4, w5⟩ hR) ⟨zS.blind, fun U hU hW => ⟨rfl, by rw [hU]; exact hz.1, by rw [hU]; exact hP, hcx.warm hW⟩⟩ rfl hnp hl.1 hstk (lv_room (Nat.le_of_ble_eq_true hcat)) hd hf) hs hlo hl kk
theorem zr_callSN (hX : zOk K own cc ret nL fr lo mc ms) {y : MethodName} {host : String} {bytes : ByteArray} {maxL fr' lo' mc' ms' index np k' n' : Nat} {ret' : Option FieldType} {av : List Value} {r : Option Value} (hM : ∀ l s0 D, zM l s0 D y bytes maxL ret' fr' lo' mc' ms' av σ sz σ' sz' r) (hw : zWd y bytes maxL ret' np) (h1 : Cond.methodLinkNest own index y host ∈ lw_tbl) (h2 : Cond.static y ∈ lw_all)
    (hR : (Nat.ble (fr' + 1) fr && Nat.ble (8 + (maxL + 11) + lo') lo) = true) (hf : (Nat.ble (k + mc') mc && Nat.ble (n + ms') ms) = true) (hk : k + mc' = k') (hn : n + ms' = n') (hnp : av.length = np) (hstk : stk = av.reverse ++ rest) (hcat : Nat.ble ((rest.map fun v => v.category).sum) 8 = true) (hs : r.toList ++ rest = stk') (hd : decode cc pc = .ok (.invokestatic index, 3))
    (kk : VW K σ' sz' k' n' (pc + 3) lv stk') : VW K σ sz k n pc lv stk := by
  obtain ⟨⟨s0, D⟩, ⟨p, l, e, R, s, m⟩, ⟨args, below, meth, c⟩, Q, nL0⟩ := K
  obtain ⟨hx, hb, hr, hml, hown, hts, hlk, hcx, hnl, rfl, hs1, hs2⟩ := hX
  subst hk
  subst hn
  subst hnl
  obtain ⟨w1, w2, w3, w4, w5⟩ := hw
  simp only [Bool.and_eq_true, Nat.ble_eq] at hR hf
  intro H locs ls hP hz hlo hl
  refine zgo hz (va_runSN (As := av) (rest := rest) (Ts := lw_all) ⟨hx, hb, hml, hown, hts⟩ (hM l s0 D) ⟨va_cnB np hts (lw_meth w2) rfl rfl rfl (hcx.2.2.1 _ h1 rfl) (hts _ w1) ⟨w3, w4, w5⟩ hR, hts _ h2, trivial⟩ ⟨zS.blind, fun U hU hW => ⟨rfl, by rw [hU]; exact hz.1, by rw [hU]; exact hP, hcx.warm hW⟩⟩ rfl hnp hl.1 hstk (lv_room (Nat.le_of_ble_eq_true hcat)) hd hf) hs hlo hl kk
theorem zP.one {s0 : State} {D : zD} {H : Heap} {a ci : Nat} {fs : List Value} (h : zP s0 D σ H) (he : σ.2 a = some (.inr (ci, fs))) (hci : ci < 100) : va_P D.1 zcl [(a, .inr (ci, fs))] H := by
  intro k q hk
  cases k with
  | zero => cases hk; exact (h.1 a _ he).1.2 hci
  | succ k => cases hk
theorem zr_callV (hX : zOk K own cc ret nL fr lo mc ms) {y : MethodName} {C : String} {T : u_T} {bytes : ByteArray} {maxL fr' lo' mc' ms' index np k' n' N b ci : Nat} {fs : List Value} {ret' : Option FieldType} {av : List Value} {r : Option Value} (hM : ∀ l s0 D, zM l s0 D y bytes maxL ret' fr' lo' mc' ms' (.ref b :: av) σ sz σ' sz' r) (he : σ.2 b = some (.inr (ci, fs))) (hc : zcl[ci]? = some (C, T, N)) (hw : zWd y bytes maxL ret' np) (h1 : Cond.methodLink own index y ∈ lw_all) (h2 : Cond.instanceMethod y ∈ lw_all) (h3 : Cond.selects C y y ∈ lw_all) (hC : y.cls = C)
    (hR : (Nat.ble (fr' + 1) fr && Nat.ble (8 + (maxL + 11) + lo') lo) = true) (hf : (Nat.ble (k + mc') mc && Nat.ble (n + ms') ms) = true) (hk : k + mc' = k') (hn : n + ms' = n') (hnp : av.length = np) (hstk : stk = av.reverse ++ .ref b :: rest) (hcat : Nat.ble ((rest.map fun v => v.category).sum) 8 = true) (hs : r.toList ++ rest = stk') (hd : decode cc pc = .ok (.invokevirtual index, 3))
    (kk : VW K σ' sz' k' n' (pc + 3) lv stk') : VW K σ sz k n pc lv stk := by
  obtain ⟨⟨s0, D⟩, ⟨p, l, e, R, s, m⟩, ⟨args, below, meth, c⟩, Q, nL0⟩ := K
  obtain ⟨hx, hb, hr, hml, hown, hts, hlk, hcx, hnl, rfl, hs1, hs2⟩ := hX
  subst hk
  subst hn
  subst hnl
  obtain ⟨w1, w2, w3, w4, w5⟩ := hw
  simp only [Bool.and_eq_true, Nat.ble_eq] at hR hf
  intro H locs ls hP hz hlo hl
  have hci : ci < 100 := Nat.lt_trans (List.getElem?_eq_some_iff.mp hc).1 (by decide)
  refine zgo hz (va_runV (As := av) (rest := rest) (Ts := lw_all) (b := b) (C := C) ⟨hx, hb, hml, hown, hts⟩ (hM l s0 D) (cwV np hts (lw_V h1 h2 h3 (hC ▸ w1) w2) rfl rfl rfl ⟨hC, w3, w4, w5⟩ hR) ⟨zS.blind, va_recv hcx.2.1 (hP.one he hci) (ci := ci) (q0 := 0) hc rfl, fun U hU hW => ⟨rfl, by rw [hU]; exact hz.1, by rw [hU]; exact hP, hcx.warm hW⟩⟩ rfl hnp hl.1 hstk (lv_room (Nat.le_of_ble_eq_true hcat)) hd hf) hs hlo hl kk
theorem zr_callVN (hX : zOk K own cc ret nL fr lo mc ms) {y : MethodName} {C host : String} {T : u_T} {bytes : ByteArray} {maxL fr' lo' mc' ms' index np k' n' N b ci : Nat} {fs : List Value} {ret' : Option FieldType} {av : List Value} {r : Option Value} (hM : ∀ l s0 D, zM l s0 D y bytes maxL ret' fr' lo' mc' ms' (.ref b :: av) σ sz σ' sz' r) (he : σ.2 b = some (.inr (ci, fs))) (hc : zcl[ci]? = some (C, T, N)) (hw : zWd y bytes maxL ret' np) (h1 : Cond.methodLinkNest own index y host ∈ lw_tbl) (h2 : Cond.instanceMethod y ∈ lw_all) (h3 : Cond.selects C y y ∈ lw_all)
    (hR : (Nat.ble (fr' + 1) fr && Nat.ble (8 + (maxL + 11) + lo') lo) = true) (hf : (Nat.ble (k + mc') mc && Nat.ble (n + ms') ms) = true) (hk : k + mc' = k') (hn : n + ms' = n') (hnp : av.length = np) (hstk : stk = av.reverse ++ .ref b :: rest) (hcat : Nat.ble ((rest.map fun v => v.category).sum) 8 = true) (hs : r.toList ++ rest = stk') (hd : decode cc pc = .ok (.invokevirtual index, 3))
    (kk : VW K σ' sz' k' n' (pc + 3) lv stk') : VW K σ sz k n pc lv stk := by
  obtain ⟨⟨s0, D⟩, ⟨p, l, e, R, s, m⟩, ⟨args, below, meth, c⟩, Q, nL0⟩ := K
  obtain ⟨hx, hb, hr, hml, hown, hts, hlk, hcx, hnl, rfl, hs1, hs2⟩ := hX
  subst hk
  subst hn
  subst hnl
  obtain ⟨w1, w2, w3, w4, w5⟩ := hw
  simp only [Bool.and_eq_true, Nat.ble_eq] at hR hf
  intro H locs ls hP hz hlo hl
  have hci : ci < 100 := Nat.lt_trans (List.getElem?_eq_some_iff.mp hc).1 (by decide)
  refine zgo hz (va_runVN (As := av) (rest := rest) (Ts := lw_all) (b := b) (C := C) ⟨hx, hb, hml, hown, hts⟩ (hM l s0 D) ⟨va_cnB np hts (lw_meth w2) rfl rfl rfl (hcx.2.2.1 _ h1 rfl) (hts _ w1) ⟨w3, w4, w5⟩ hR, hts _ h2, hts _ h3⟩ ⟨zS.blind, va_recv hcx.2.1 (hP.one he hci) (ci := ci) (q0 := 0) hc rfl, fun U hU hW => ⟨rfl, by rw [hU]; exact hz.1, by rw [hU]; exact hP, hcx.warm hW⟩⟩ rfl hnp hl.1 hstk (lv_room (Nat.le_of_ble_eq_true hcat)) hd hf) hs hlo hl kk
/-! fields and arrays -/
theorem zr_get (hX : zOk K own cc ret nL fr lo mc ms) {ref C : String} {T : u_T} {N ci index a : Nat} {fs : List Value} {v : Value} (he : σ.2 a = some (.inr (ci, fs))) (hc : zcl[ci]? = some (C, T, N)) (hin : ∀ w ∈ u_ws C T N, w ∈ lw_all) (f : Nat) (hk : f < N) (hlink : Cond.fieldLink own index ref (T f).2.1 (T f).2.2.1 ∈ lw_all) (hsame : ref = (T f).1 ∨ Cond.sameField ref (T f).1 (T f).2.1 (T f).2.2.1 ∈ lw_all) (hv : fs[f]? = some v) (hd : decode cc pc = .ok (.getfield index, 3))
    (kk : VW K σ sz k n (pc + 3) lv (v :: stk)) : VW K σ sz k n pc lv (.ref a :: stk) := by
  obtain ⟨⟨s0, D⟩, ⟨p, l, e, R, s, m⟩, ⟨args, below, meth, c⟩, Q, nL0⟩ := K
  obtain ⟨hx, hb, hr, hml, hown, hts, hlk, hcx, hnl, hR, hs1, hs2⟩ := hX
  have hci : ci < 100 := Nat.lt_trans (List.getElem?_eq_some_iff.mp hc).1 (by decide)
  exact fun H locs ls hP hz hlo hl => va_get hx hb hts hin hown hcx.2.1 (hP.one he hci) 0 rfl hc f hk (hts _ hlink) (fun x h => by rcases hsame with rfl | hs; exact h; exact u_same (hts _ hs) x h) hv hd (kk H locs ls hP hz hlo hl)
theorem zr_getN (hX : zOk K own cc ret nL fr lo mc ms) {ref C host : String} {T : u_T} {N ci index a : Nat} {fs : List Value} {v : Value} (he : σ.2 a = some (.inr (ci, fs))) (hc : zcl[ci]? = some (C, T, N)) (hin : ∀ w ∈ u_ws C T N, w ∈ lw_all) (f : Nat) (hk : f < N) (hlink : Cond.fieldLinkNest own index ref (T f).2.1 (T f).2.2.1 host ∈ lw_tbl) (hsame : ref = (T f).1 ∨ Cond.sameField ref (T f).1 (T f).2.1 (T f).2.2.1 ∈ lw_all) (hv : fs[f]? = some v) (hd : decode cc pc = .ok (.getfield index, 3))
    (kk : VW K σ sz k n (pc + 3) lv (v :: stk)) : VW K σ sz k n pc lv (.ref a :: stk) := by
  obtain ⟨⟨s0, D⟩, ⟨p, l, e, R, s, m⟩, ⟨args, below, meth, c⟩, Q, nL0⟩ := K
  obtain ⟨hx, hb, hr, hml, hown, hts, hlk, hcx, hnl, hR, hs1, hs2⟩ := hX
  have hci : ci < 100 := Nat.lt_trans (List.getElem?_eq_some_iff.mp hc).1 (by decide)
  exact fun H locs ls hP hz hlo hl => va_getN hx hb hts hin hown hcx.2.1 (hP.one he hci) 0 rfl hc f hk (va_Nw.use rfl (hcx.2.2.1 _ hlink rfl)) (fun x h => by rcases hsame with rfl | hs; exact h; exact u_same (hts _ hs) x h) hv hd (kk H locs ls hP hz hlo hl)
/-- what putfield needs of a class's table -/
def zTab (C : String) (T : u_T) (N : Nat) : Prop := (∀ w ∈ u_ws C T N, w ∈ lw_all) ∧ (∃ ty0 : Nat → FieldType, ∀ k, k < N → parseFieldDescriptor (T k).2.2.1 = some (ty0 k)) ∧ (∀ a, a < N → ∀ b, b < N → a ≠ b → (T a).2.1 ≠ (T b).2.1)
theorem zlo {s0 : State} {locs : List Loc} {a i : Nat} (h : ∀ q ∈ locs, s0.heap.size ≤ q.base) (ha : s0.heap.size ≤ a) : ∀ q ∈ locs ++ [⟨a, i⟩], s0.heap.size ≤ q.base := by
  intro q hq
  rcases List.mem_append.mp hq with h1 | h1
  · exact h q h1
  · rw [List.mem_singleton.mp h1]
    exact ha
theorem zr_put (hX : zOk K own cc ret nL fr lo mc ms) {ref C : String} {T : u_T} {N ci index a : Nat} {fs : List Value} {v : Value} {ty : FieldType} (he : σ.2 a = some (.inr (ci, fs))) (hc : zcl[ci]? = some (C, T, N)) (hro : ci ≠ 19) (ht : zTab C T N) (f : Nat) (hk : f < N) (hl : f < fs.length) (hlink : Cond.fieldLink own index ref (T f).2.1 (T f).2.2.1 ∈ lw_all) (hsame : ref = (T f).1 ∨ Cond.sameField ref (T f).1 (T f).2.1 (T f).2.2.1 ∈ lw_all) (hfin : (T f).2.2.2 = false) (hdsc : parseFieldDescriptor (T f).2.2.1 = some ty) (hnar : narrow ty v = v) (hfit : fits ty v = true) (hd : decode cc pc = .ok (.putfield index, 3))
    (kk : VW K (zset σ a (.inr (ci, fs.set f v))) sz k n (pc + 3) lv stk) : VW K σ sz k n pc lv (v :: .ref a :: stk) := by
  obtain ⟨⟨s0, D⟩, ⟨p, l, e, R, s, m⟩, ⟨args, below, meth, c⟩, Q, nL0⟩ := K
  obtain ⟨hx, hb, hr, hml, hown, hts, hlk, hcx, hnl, hR, hs1, hs2⟩ := hX
  have hci : ci < 100 := Nat.lt_trans (List.getElem?_eq_some_iff.mp hc).1 (by decide)
  intro H locs ls hP hz hlo hls
  obtain ⟨hin, ⟨ty0, hty⟩, hnm⟩ := ht
  have ha : s0.heap.size ≤ a := (hP.1 a _ he).2 (by simp [zRO, hro]; omega)
  have hap := va_apart (own := own) hts hin ty0 hty hnm hcx.2.1 hc
  obtain ⟨r, h1, cell, q1, q2, q3, q4⟩ := (hP.one he hci) 0 _ rfl
  have hr : r = (C, T, N) := Option.some.inj (h1.symm.trans hc)
  subst hr
  obtain ⟨hS, hfc, kC, hkC, hkind⟩ := hcx.2.1.1 ci _ hc
  obtain ⟨cf, kf, fi, f', hi, hsl⟩ := hS f hk
  have hlay := hts _ (hin _ (u_in_lay hk))
  unfold u_lay at hlay
  rw [if_neg (by rw [hfin]; decide)] at hlay
  have hst := (u_facts hfc hkC (u_lays hts hin hk) hi).1
  have h6 := u_store hfc hkC hkind hlay hi hdsc hnar hfit
  have hsame' : ∀ x, s.fieldFound? (T f).1 (T f).2.1 (T f).2.2.1 = some x → s.fieldFound? ref (T f).2.1 (T f).2.2.1 = some x := fun x h => by
    rcases hsame with rfl | hs
    · exact h
    · exact u_same (hts _ hs) x h
  refine W.putK hx hb (f := f') ⟨hown, hts _ hlink, ⟨_, _, _, hsame' _ hi⟩, hst⟩ (by rw [q2]; exact h6) q1 q3 (by rw [hsl]; exact k2_hasslot (q4 f hk)) rfl rfl hd fun H' e1 e2 e3 => ?_
  rw [hsl] at e1 ⊢
  exact kk H' _ ls (hP.set ha ⟨fun g => absurd g (by show ¬ 100 ≤ ci; omega), fun _ => ⟨_, hc, t_OB.to (V := updV (vp_V fs) f v) ⟨_, e1, q2, q3, t_set q4 hap hk v⟩ (fun j _ => vp_updV_set hl v j)⟩⟩ e2 e3) ⟨e2.trans hz.1, hz.2⟩ (zlo hlo ha) hls
theorem zr_iald (hX : zOk K own cc ret nL fr lo mc ms) {a t N : Nat} {f : Nat → Int32} {i : Int32} (he : σ.2 a = some (.inl (t, N, .inl f))) (hty : zTy t = .int) (hin : zin i N = true) (hd : decode cc pc = .ok (.iaload, 1))
    (kk : VW K σ sz k n (pc + 1) lv (.int (f i.toNatClampNeg) :: stk)) : VW K σ sz k n pc lv (.int i :: .ref a :: stk) := by
  obtain ⟨⟨s0, D⟩, ⟨p, l, e, R, s, m⟩, ⟨args, below, meth, c⟩, Q, nL0⟩ := K
  obtain ⟨hx, hb, hr, hml, hown, hts, hlk, hcx, hnl, hR, hs1, hs2⟩ := hX
  intro H locs ls hP hz hlo hls
  have hin := zin_vp hin
  obtain ⟨cA, hA, hRA, hcell⟩ := (hP.1 a _ he).1
  rw [hty] at hA
  have hA := arrOfT_moved hcx.1 hA
  have hlt : i.toNatClampNeg < N := Nat.not_le.mp fun q => hin (Or.inr q)
  exact W.iald (v := .int (f i.toNatClampNeg)) hx hb hcell (hA N (fun j => .int (f j))) (fun q => by cases q) (by show ¬ (i < 0 ∨ (arrV _ _ _).slots.size ≤ _); rw [arrV_size]; exact hin) (by show (arrV _ _ _).slots[_]? = _; rw [arrV_read _ _ hlt]) rfl rfl hd (kk H locs ls hP hz hlo hls)
theorem zr_iast (hX : zOk K own cc ret nL fr lo mc ms) {a t N : Nat} {f : Nat → Int32} {i x : Int32} (he : σ.2 a = some (.inl (t, N, .inl f))) (hty : zTy t = .int) (hro : t < 6) (hin : zin i N = true) (hd : decode cc pc = .ok (.iastore, 1))
    (kk : VW K (zset σ a (.inl (t, N, .inl (upd f i.toNatClampNeg x)))) sz k n (pc + 1) lv stk) : VW K σ sz k n pc lv (.int x :: .int i :: .ref a :: stk) := by
  obtain ⟨⟨s0, D⟩, ⟨p, l, e, R, s, m⟩, ⟨args, below, meth, c⟩, Q, nL0⟩ := K
  obtain ⟨hx, hb, hr, hml, hown, hts, hlk, hcx, hnl, hR, hs1, hs2⟩ := hX
  intro H locs ls hP hz hlo hls
  have hin := zin_vp hin
  obtain ⟨cA, hA0, hRA, hcell⟩ := (hP.1 a _ he).1
  have ha : s0.heap.size ≤ a := (hP.1 a _ he).2 (by simp [zRO]; omega)
  have hA := hA0
  rw [hty] at hA
  have hA := arrOfT_moved hcx.1 hA
  refine W.iast hx hb hcell (hA N (fun j => .int (f j))) (fun q => by cases q) (by show ¬ (i < 0 ∨ (arrV _ _ _).slots.size ≤ _); rw [arrV_size]; exact hin) rfl rfl hd fun H1 e1 z oq => ?_
  refine kk H1 _ ls (hP.set ha ⟨cA, hA0, hRA, ?_⟩ z oq) ⟨z.trans hz.1, hz.2⟩ (zlo hlo ha) hls
  rw [e1]
  rw [vp_cell_i, vp_cell_i, arrV_store]
  congr 2
  funext q
  by_cases hq : q = i.toNatClampNeg
  · subst hq
    simp [updV, upd]
  · simp [updV, upd, hq]
theorem zr_zald (hX : zOk K own cc ret nL fr lo mc ms) {a t N : Nat} {f : Nat → Int32} {i : Int32} (he : σ.2 a = some (.inl (t, N, .inl f))) (hty : zTy t = .boolean) (hin : zin i N = true) (hd : decode cc pc = .ok (.baload, 1))
    (kk : VW K σ sz k n (pc + 1) lv (.int (f i.toNatClampNeg) :: stk)) : VW K σ sz k n pc lv (.int i :: .ref a :: stk) := by
  obtain ⟨⟨s0, D⟩, ⟨p, l, e, R, s, m⟩, ⟨args, below, meth, c⟩, Q, nL0⟩ := K
  obtain ⟨hx, hb, hr, hml, hown, hts, hlk, hcx, hnl, hR, hs1, hs2⟩ := hX
  intro H locs ls hP hz hlo hls
  have hin := zin_vp hin
  obtain ⟨cA, hA, hRA, hcell⟩ := (hP.1 a _ he).1
  rw [hty] at hA hRA
  have hA := arrOfT_moved hcx.1 hA
  have hRA := hRA.moved hcx.1
  exact va_zald (D := D.1) (cl := zcl) (tys := [(cA, .boolean)]) (ws := [(a, .inl (cA, N, .inl f))]) hx hb ⟨hcx.2.1.1, fun j q hj => by cases j with | zero => cases hj; exact ⟨hA, hRA⟩ | succ j => cases hj⟩ (fun j q hj => by cases j with | zero => cases hj; exact hcell | succ j => cases hj) 0 0 rfl rfl hin hd (kk H locs ls hP hz hlo hls)
theorem zr_zast (hX : zOk K own cc ret nL fr lo mc ms) {a t N : Nat} {f : Nat → Int32} {i x : Int32} (he : σ.2 a = some (.inl (t, N, .inl f))) (hty : zTy t = .boolean) (hro : t < 6) (hin : zin i N = true) (hd : decode cc pc = .ok (.bastore, 1))
    (kk : VW K (zset σ a (.inl (t, N, .inl (upd f i.toNatClampNeg (zb x))))) sz k n (pc + 1) lv stk) : VW K σ sz k n pc lv (.int x :: .int i :: .ref a :: stk) := by
  obtain ⟨⟨s0, D⟩, ⟨p, l, e, R, s, m⟩, ⟨args, below, meth, c⟩, Q, nL0⟩ := K
  obtain ⟨hx, hb, hr, hml, hown, hts, hlk, hcx, hnl, hR, hs1, hs2⟩ := hX
  intro H locs ls hP hz hlo hls
  have hin := zin_vp hin
  obtain ⟨cA, hA0, hRA, hcell⟩ := (hP.1 a _ he).1
  have ha : s0.heap.size ≤ a := (hP.1 a _ he).2 (by simp [zRO]; omega)
  have hA := hA0
  rw [hty] at hA
  have hA := arrOfT_moved hcx.1 hA
  refine W.zast hx hb hcell (hA N (fun j => .int (f j))) (fun q => by cases q) (by show ¬ (i < 0 ∨ (arrV _ _ _).slots.size ≤ _); rw [arrV_size]; exact hin) rfl rfl hd fun H1 e1 z oq => ?_
  refine kk H1 _ ls (hP.set ha ⟨cA, hA0, hRA, ?_⟩ z oq) ⟨z.trans hz.1, hz.2⟩ (zlo hlo ha) hls
  rw [e1]
  rw [vp_cell_i, vp_cell_i, arrV_store]
  congr 2
  funext q
  by_cases hq : q = i.toNatClampNeg
  · subst hq
    simp [updV, upd, zb, vp_nar]
    try rfl
  · simp [updV, upd, hq]
end ZC
