/-! FLAT: the rows -/
set_option maxRecDepth 100000
def zCl (ci : Nat) (C : String) (T : u_T) (N : Nat) : Prop := zcl[ci]? = some (C, T, N) ∧ zTab C T N
def zAll (cs : List Nat) (f : Nat) (tf : String × String × String × Bool) : Prop := ∀ c ∈ cs, ∃ C T N, zCl c C T N ∧ f < N ∧ T f = tf
theorem zone {ci : Nat} {C : String} {T : u_T} {N : Nat} (h : zCl ci C T N) (f : Nat) (hf : Nat.blt f N = true) : zAll [ci] f (T f) := by
  intro c hc
  rw [List.mem_singleton.mp hc]
  exact ⟨C, T, N, h, Nat.le_of_ble_eq_true hf, rfl⟩
section ZF
variable {K : zC} {own : String} {cc : ByteArray} {ret : Option FieldType} {nL fr lo mc ms : Nat} {σ σ' : zH} {sz sz' k n pc : Nat} {lv : List (Nat × Value)} {stk stk' rest : List Value}
theorem zr_fv (hX : zOk K own cc ret nL fr lo mc ms) {ref : String} {cs : List Nat} {f index a : Nat} {tf : String × String × String × Bool} {v : Value} (hall : zAll cs f tf) (h : zgv cs f σ a = some v) (hlink : Cond.fieldLink own index ref tf.2.1 tf.2.2.1 ∈ lw_all) (hsame : ref = tf.1 ∨ Cond.sameField ref tf.1 tf.2.1 tf.2.2.1 ∈ lw_all) (hd : decode cc pc = .ok (.getfield index, 3))
    (kk : VW K σ sz k n (pc + 3) lv (v :: stk)) : VW K σ sz k n pc lv (.ref a :: stk) := by
  obtain ⟨c, fs, he, hc, hv⟩ := zgv_spec h
  obtain ⟨C, T, N, ⟨hz, ht⟩, hf, rfl⟩ := hall c hc
  exact zr_get hX he hz ht.1 f hf hlink hsame hv hd kk
theorem zr_fvN (hX : zOk K own cc ret nL fr lo mc ms) {ref host : String} {cs : List Nat} {f index a : Nat} {tf : String × String × String × Bool} {v : Value} (hall : zAll cs f tf) (h : zgv cs f σ a = some v) (hlink : Cond.fieldLinkNest own index ref tf.2.1 tf.2.2.1 host ∈ lw_tbl) (hsame : ref = tf.1 ∨ Cond.sameField ref tf.1 tf.2.1 tf.2.2.1 ∈ lw_all) (hd : decode cc pc = .ok (.getfield index, 3))
    (kk : VW K σ sz k n (pc + 3) lv (v :: stk)) : VW K σ sz k n pc lv (.ref a :: stk) := by
  obtain ⟨c, fs, he, hc, hv⟩ := zgv_spec h
  obtain ⟨C, T, N, ⟨hz, ht⟩, hf, rfl⟩ := hall c hc
  exact zr_getN hX he hz ht.1 f hf hlink hsame hv hd kk
theorem zr_pv (hX : zOk K own cc ret nL fr lo mc ms) {ref : String} {cs : List Nat} {f index a : Nat} {tf : String × String × String × Bool} {v : Value} {ty : FieldType} (hall : zAll cs f tf) (h : zpv cs f σ a v = some σ') (hro : cs.contains 19 = false) (hlink : Cond.fieldLink own index ref tf.2.1 tf.2.2.1 ∈ lw_all) (hsame : ref = tf.1 ∨ Cond.sameField ref tf.1 tf.2.1 tf.2.2.1 ∈ lw_all) (hfin : tf.2.2.2 = false) (hdsc : parseFieldDescriptor tf.2.2.1 = some ty) (hnar : narrow ty v = v) (hfit : fits ty v = true) (hd : decode cc pc = .ok (.putfield index, 3))
    (kk : VW K σ' sz k n (pc + 3) lv stk) : VW K σ sz k n pc lv (v :: .ref a :: stk) := by
  obtain ⟨c, fs, he, hc, hl, rfl⟩ := zpv_spec h
  obtain ⟨C, T, N, ⟨hz, ht⟩, hf, rfl⟩ := hall c hc
  exact zr_put hX he hz (fun q => by subst q; simp [hc] at hro) ht f hf hl hlink hsame hfin hdsc hnar hfit hd kk
theorem zr_pvN (hX : zOk K own cc ret nL fr lo mc ms) {ref host : String} {cs : List Nat} {f index a : Nat} {tf : String × String × String × Bool} {v : Value} {ty : FieldType} (hall : zAll cs f tf) (h : zpv cs f σ a v = some σ') (hro : cs.contains 19 = false) (hlink : Cond.fieldLinkNest own index ref tf.2.1 tf.2.2.1 host ∈ lw_tbl) (hsame : ref = tf.1 ∨ Cond.sameField ref tf.1 tf.2.1 tf.2.2.1 ∈ lw_all) (hfin : tf.2.2.2 = false) (hdsc : parseFieldDescriptor tf.2.2.1 = some ty) (hnar : narrow ty v = v) (hfit : fits ty v = true) (hd : decode cc pc = .ok (.putfield index, 3))
    (kk : VW K σ' sz k n (pc + 3) lv stk) : VW K σ sz k n pc lv (v :: .ref a :: stk) := by
  obtain ⟨ci, fs, he, hci0, hl, rfl⟩ := zpv_spec h
  obtain ⟨C, T, N, ⟨hc, ht⟩, hk, rfl⟩ := hall ci hci0
  have hro : ci ≠ 19 := fun q => by subst q; simp [hci0] at hro
  obtain ⟨⟨s0, D⟩, ⟨p, l, e, R, s, m⟩, ⟨args, below, meth, c⟩, Q, nL0⟩ := K
  obtain ⟨hx, hb, hr, hml, hown, hts, hlk, hcx, hnl, hR, hs1, hs2⟩ := hX
  have hci : ci < 100 := Nat.lt_trans (List.getElem?_eq_some_iff.mp hc).1 (by decide)
  intro H locs ls hP hz hlo hls
  obtain ⟨hin, ⟨ty0, hty⟩, hnm⟩ := ht
  have ha : s0.heap.size ≤ a := (hP.1 a _ he).2 (by simp [zRO, hro]; omega)
  have hap := va_apart (own := own) hts hin ty0 hty hnm hcx.2.1 hc
  obtain ⟨r, h1, cell, q1, q2, q3, q4⟩ := (hP.one he hci) 0 _ rfl
  have hr : r = (C, T, N) := Option.some.inj (h1.symm.trans hc)
  subst hr
  obtain ⟨hS, hfc, kC, hkC, hkind⟩ := hcx.2.1.1 ci _ hc
  obtain ⟨cf, kf, fi, f', hi, hsl⟩ := hS f hk
  have hlay := hts _ (hin _ (u_in_lay hk))
  unfold u_lay at hlay
  rw [if_neg (by rw [hfin]; decide)] at hlay
  have hst := (u_facts hfc hkC (u_lays hts hin hk) hi).1
  have h6 := u_store hfc hkC hkind hlay hi hdsc hnar hfit
  have hsame' : ∀ x, s.fieldFound? (T f).1 (T f).2.1 (T f).2.2.1 = some x → s.fieldFound? ref (T f).2.1 (T f).2.2.1 = some x := fun x h => by
    rcases hsame with rfl | hs
    · exact h
    · exact u_same (hts _ hs) x h
  refine va_WputK hx hb (f := f') hown (va_Nw.use rfl (hcx.2.2.1 _ hlink rfl)) (hsame' _ hi) hst (by rw [q2]; exact h6) q1 q3 (by rw [hsl]; exact k2_hasslot (q4 f hk)) rfl rfl hd fun H' e1 e2 e3 => ?_
  rw [hsl] at e1 ⊢
  exact kk H' _ ls (hP.set ha ⟨fun g => absurd g (by show ¬ 100 ≤ ci; omega), fun _ => ⟨_, hc, t_OB.to (V := updV (vp_V fs) f v) ⟨_, e1, q2, q3, t_set q4 hap hk v⟩ (fun j _ => vp_updV_set hl v j)⟩⟩ e2 e3) ⟨e2.trans hz.1, hz.2⟩ (zlo hlo ha) hls
theorem zr_pvF (hX : zOk K own cc ret nL fr lo mc ms) {y : MethodName} (hN : zNm K y) (hyn : y.name = "<init>") {cs : List Nat} {f index a : Nat} {tf : String × String × String × Bool} {v : Value} {ty : FieldType} (hall : zAll cs f tf) (h : zpv cs f σ a v = some σ') (hro : cs.contains 19 = false) (hlink : Cond.fieldLink own index own tf.2.1 tf.2.2.1 ∈ lw_all) (hdecl : tf.1 = own) (hfin : tf.2.2.2 = true) (hdsc : parseFieldDescriptor tf.2.2.1 = some ty) (hnar : narrow ty v = v) (hfit : fits ty v = true) (hd : decode cc pc = .ok (.putfield index, 3))
    (kk : VW K σ' sz k n (pc + 3) lv stk) : VW K σ sz k n pc lv (v :: .ref a :: stk) := by
  obtain ⟨ci, fs, he, hci0, hl, rfl⟩ := zpv_spec h
  obtain ⟨C, T, N, ⟨hc, ht⟩, hk, rfl⟩ := hall ci hci0
  have hro : ci ≠ 19 := fun q => by subst q; simp [hci0] at hro
  obtain ⟨⟨s0, D⟩, ⟨p, l, e, R, s, m⟩, ⟨args, below, meth, c⟩, Q, nL0⟩ := K
  obtain ⟨hx, hb, hr, hml, hown, hts, hlk, hcx, hnl, hR, hs1, hs2⟩ := hX
  have hci : ci < 100 := Nat.lt_trans (List.getElem?_eq_some_iff.mp hc).1 (by decide)
  intro H locs ls hP hz hlo hls
  obtain ⟨hin, ⟨ty0, hty⟩, hnm⟩ := ht
  have ha : s0.heap.size ≤ a := (hP.1 a _ he).2 (by simp [zRO, hro]; omega)
  have hap := va_apart (own := own) hts hin ty0 hty hnm hcx.2.1 hc
  obtain ⟨r, h1, cell, q1, q2, q3, q4⟩ := (hP.one he hci) 0 _ rfl
  have hr : r = (C, T, N) := Option.some.inj (h1.symm.trans hc)
  subst hr
  obtain ⟨hS, hfc, kC, hkC, hkind⟩ := hcx.2.1.1 ci _ hc
  obtain ⟨cf, kf, fi, f', hi, hsl⟩ := hS f hk
  have hlay := hts _ (hin _ (u_in_lay hk))
  unfold u_lay at hlay
  rw [if_pos hfin] at hlay
  have hst := (u_facts hfc hkC (u_lays hts hin hk) hi).1
  have hcf : m.cls = cf := by
    obtain ⟨_, _, c', _, _, _, -, -, hf', -, -, -, hown2, -⟩ := Cond.laysFinal_spec hlay
    have e1 : c' = cf := by have := hi.symm.trans hf'; simp at this; exact this.1.symm
    rw [hdecl] at hown2
    rw [← e1]; exact Option.some.inj (hown.symm.trans hown2)
  have h6 := u_fits hfc hkC hkind (Or.inr hlay) hi hdsc hnar hfit
  refine W.putFinK hx hb hown (hts _ hlink) (show s.fieldFound? own _ _ = _ by rw [← hdecl]; exact hi) hst hcf (hN.1.trans hyn) (by rw [q2]; exact h6) q1 q3 (by rw [hsl]; exact k2_hasslot (q4 f hk)) rfl rfl hd fun H' e1 e2 e3 => ?_
  rw [hsl] at e1 ⊢
  exact kk H' _ ls (hP.set ha ⟨fun g => absurd g (by show ¬ 100 ≤ ci; omega), fun _ => ⟨_, hc, t_OB.to (V := updV (vp_V fs) f v) ⟨_, e1, q2, q3, t_set q4 hap hk v⟩ (fun j _ => vp_updV_set hl v j)⟩⟩ e2 e3) ⟨e2.trans hz.1, hz.2⟩ (zlo hlo ha) hls
theorem zr_pZ (hX : zOk K own cc ret nL fr lo mc ms) {ref : String} {cs : List Nat} {f index a : Nat} {tf : String × String × String × Bool} {x : Int32} (hall : zAll cs f tf) (h : zpZ cs f σ a x = some σ') (hro : cs.contains 19 = false) (hlink : Cond.fieldLink own index ref tf.2.1 tf.2.2.1 ∈ lw_all) (hsame : ref = tf.1 ∨ Cond.sameField ref tf.1 tf.2.1 tf.2.2.1 ∈ lw_all) (hfin : tf.2.2.2 = false) (hdsc : parseFieldDescriptor tf.2.2.1 = some .boolean) (hd : decode cc pc = .ok (.putfield index, 3))
    (kk : VW K σ' sz k n (pc + 3) lv stk) : VW K σ sz k n pc lv (.int x :: .ref a :: stk) := by
  obtain ⟨h1, h2⟩ := zpZ_spec h
  exact zr_pv hX hall h2 hro hlink hsame hfin hdsc (by rcases h1 with rfl | rfl <;> rfl) (by rcases h1 with rfl | rfl <;> rfl) hd kk
theorem zr_pZN (hX : zOk K own cc ret nL fr lo mc ms) {ref host : String} {cs : List Nat} {f index a : Nat} {tf : String × String × String × Bool} {x : Int32} (hall : zAll cs f tf) (h : zpZ cs f σ a x = some σ') (hro : cs.contains 19 = false) (hlink : Cond.fieldLinkNest own index ref tf.2.1 tf.2.2.1 host ∈ lw_tbl) (hsame : ref = tf.1 ∨ Cond.sameField ref tf.1 tf.2.1 tf.2.2.1 ∈ lw_all) (hfin : tf.2.2.2 = false) (hdsc : parseFieldDescriptor tf.2.2.1 = some .boolean) (hd : decode cc pc = .ok (.putfield index, 3))
    (kk : VW K σ' sz k n (pc + 3) lv stk) : VW K σ sz k n pc lv (.int x :: .ref a :: stk) := by
  obtain ⟨h1, h2⟩ := zpZ_spec h
  exact zr_pvN hX hall h2 hro hlink hsame hfin hdsc (by rcases h1 with rfl | rfl <;> rfl) (by rcases h1 with rfl | rfl <;> rfl) hd kk
theorem zr_pZF (hX : zOk K own cc ret nL fr lo mc ms) {y : MethodName} (hN : zNm K y) (hyn : y.name = "<init>") {cs : List Nat} {f index a : Nat} {tf : String × String × String × Bool} {x : Int32} (hall : zAll cs f tf) (h : zpZ cs f σ a x = some σ') (hro : cs.contains 19 = false) (hlink : Cond.fieldLink own index own tf.2.1 tf.2.2.1 ∈ lw_all) (hdecl : tf.1 = own) (hfin : tf.2.2.2 = true) (hdsc : parseFieldDescriptor tf.2.2.1 = some .boolean) (hd : decode cc pc = .ok (.putfield index, 3))
    (kk : VW K σ' sz k n (pc + 3) lv stk) : VW K σ sz k n pc lv (.int x :: .ref a :: stk) := by
  obtain ⟨h1, h2⟩ := zpZ_spec h
  exact zr_pvF hX hN hyn hall h2 hro hlink hdecl hfin hdsc (by rcases h1 with rfl | rfl <;> rfl) (by rcases h1 with rfl | rfl <;> rfl) hd kk
theorem zr_aI (hX : zOk K own cc ret nL fr lo mc ms) {a : Nat} {i x : Int32} (h : zaI σ a i = some x) (hd : decode cc pc = .ok (.iaload, 1)) (kk : VW K σ sz k n (pc + 1) lv (.int x :: stk)) : VW K σ sz k n pc lv (.int i :: .ref a :: stk) := by
  obtain ⟨t, N, f, he, ht, hin, rfl⟩ := zaI_spec h
  exact zr_iald hX he (by rcases ht with rfl | rfl <;> rfl) hin hd kk
theorem zr_aZ (hX : zOk K own cc ret nL fr lo mc ms) {a : Nat} {i x : Int32} (h : zaZ σ a i = some x) (hd : decode cc pc = .ok (.baload, 1)) (kk : VW K σ sz k n (pc + 1) lv (.int x :: stk)) : VW K σ sz k n pc lv (.int i :: .ref a :: stk) := by
  obtain ⟨N, f, he, hin, rfl⟩ := zaZ_spec h
  exact zr_zald hX he rfl hin hd kk
theorem zr_sI (hX : zOk K own cc ret nL fr lo mc ms) {a : Nat} {i x : Int32} (h : zsI σ a i x = some σ') (hd : decode cc pc = .ok (.iastore, 1)) (kk : VW K σ' sz k n (pc + 1) lv stk) : VW K σ sz k n pc lv (.int x :: .int i :: .ref a :: stk) := by
  obtain ⟨N, f, he, hin, rfl⟩ := zsI_spec h
  exact zr_iast hX he rfl (by decide) hin hd kk
theorem zr_sZ (hX : zOk K own cc ret nL fr lo mc ms) {a : Nat} {i x : Int32} (h : zsZ σ a i x = some σ') (hd : decode cc pc = .ok (.bastore, 1)) (kk : VW K σ' sz k n (pc + 1) lv stk) : VW K σ sz k n pc lv (.int x :: .int i :: .ref a :: stk) := by
  obtain ⟨N, f, he, hin, rfl⟩ := zsZ_spec h
  exact zr_zast hX he rfl (by decide) hin hd kk
theorem zr_len (hX : zOk K own cc ret nL fr lo mc ms) {a : Nat} {x : Int32} (h : zln σ a = some x) (hd : decode cc pc = .ok (.arraylength, 1)) (kk : VW K σ sz k n (pc + 1) lv (.int x :: stk)) : VW K σ sz k n pc lv (.ref a :: stk) := by
  obtain ⟨t, N, f, he, rfl⟩ := zln_spec h
  obtain ⟨⟨s0, D⟩, ⟨p, l, e, R, s, m⟩, ⟨args, below, meth, c⟩, Q, nL0⟩ := K
  obtain ⟨hx, hb, hr, hml, hown, hts, hlk, hcx, hnl, hR, hs1, hs2⟩ := hX
  intro H locs ls hP hz hlo hls
  obtain ⟨cA, hA, hRA, hcell⟩ := (hP.1 a _ he).1
  exact va_alen (D := D.1) (cl := zcl) (tys := [(cA, zTy t)]) (ws := [(a, .inl (cA, (N, f)))]) hx hb ⟨hcx.2.1.1, fun j q hj => by cases j with | zero => cases hj; exact ⟨arrOfT_moved hcx.1 hA, hRA.moved hcx.1⟩ | succ j => cases hj⟩ (fun j q hj => by cases j with | zero => cases hj; exact hcell | succ j => cases hj) 0 0 rfl rfl rfl hd (kk H locs ls hP hz hlo hls)
theorem zr_aR (hX : zOk K own cc ret nL fr lo mc ms) {a x : Nat} {i : Int32} (h : zaR σ a i = some x) (hd : decode cc pc = .ok (.aaload, 1)) (kk : VW K σ sz k n (pc + 1) lv (.ref x :: stk)) : VW K σ sz k n pc lv (.int i :: .ref a :: stk) := by
  obtain ⟨t, N, f, he, ht, hin, hv⟩ := zaR_spec h
  obtain ⟨⟨s0, D⟩, ⟨p, l, e, R, s, m⟩, ⟨args, below, meth, c⟩, Q, nL0⟩ := K
  obtain ⟨hx, hb, hr, hml, hown, hts, hlk, hcx, hnl, hR, hs1, hs2⟩ := hX
  intro H locs ls hP hz hlo hls
  have hin := zin_vp hin
  obtain ⟨cA, hA, hRA, hcell⟩ := (hP.1 a _ he).1
  have hA := arrOfT_moved hcx.1 hA
  have hlt : i.toNatClampNeg < N := Nat.not_le.mp fun q => hin (Or.inr q)
  have kk := kk H locs ls hP hz hlo hls
  exact W.aald (v := .ref x) (ty := zTy t) hx hb hcell (hA N (fun j => va_rf (f j))) (by rcases ht with rfl | rfl | rfl | rfl <;> rfl) (fun q => by cases q) (by show ¬ (i < 0 ∨ (arrV _ _ _).slots.size ≤ _); rw [arrV_size]; exact hin) (by show (arrV _ _ _).slots[_]? = _; rw [arrV_read _ _ hlt, hv]; rfl) rfl rfl hd kk
theorem zOb_ok : ∀ c ∈ zOb, ∃ q : vw_C, zcl[c]? = some q ∧ Cond.castable q.1 "java/lang/Object" ∈ lw_tbl := by
  intro c hc
  simp only [zOb, List.mem_cons, List.not_mem_nil, or_false] at hc
  rcases hc with rfl | rfl | rfl | rfl | rfl | rfl | rfl | rfl | rfl | rfl | rfl | rfl | rfl
  · exact ⟨_, rfl, q2460⟩
  · exact ⟨_, rfl, q2465⟩
  · exact ⟨_, rfl, q2466⟩
  · exact ⟨_, rfl, q2467⟩
  · exact ⟨_, rfl, q2468⟩
  · exact ⟨_, rfl, q2469⟩
  · exact ⟨_, rfl, q2470⟩
  · exact ⟨_, rfl, q2471⟩
  · exact ⟨_, rfl, q2472⟩
  · exact ⟨_, rfl, q2473⟩
  · exact ⟨_, rfl, q2474⟩
  · exact ⟨_, rfl, q2475⟩
  · exact ⟨_, rfl, q2464⟩
theorem zr_sN (hX : zOk K own cc ret nL fr lo mc ms) {a : Nat} {i : Int32} (h : zsN σ a i = some σ') (hd : decode cc pc = .ok (.aastore, 1)) (kk : VW K σ' sz k n (pc + 1) lv stk) : VW K σ sz k n pc lv (.null :: .int i :: .ref a :: stk) := by
  obtain ⟨N, f, he, hin, rfl⟩ := zsN_spec h
  obtain ⟨⟨s0, D⟩, ⟨p, l, e, R, s, m⟩, ⟨args, below, meth, c⟩, Q, nL0⟩ := K
  obtain ⟨hx, hb, hr, hml, hown, hts, hlk, hcx, hnl, hR, hs1, hs2⟩ := hX
  intro H locs ls hP hz hlo hls
  have hin := zin_vp hin
  have hlt : i.toNatClampNeg < N := Nat.not_le.mp fun q => hin (Or.inr q)
  have h0 : ¬ i < 0 := fun q => hin (Or.inl q)
  obtain ⟨cA, hA0, hRA0, hcell⟩ := (hP.1 a _ he).1
  have ha : s0.heap.size ≤ a := (hP.1 a _ he).2 rfl
  have hA := arrOfT_moved hcx.1 hA0
  refine va_WaastN (C := "java/lang/Object") hx hb hcell (hA N (fun j => va_rf (f j))) (fun h => by cases h) (by show ¬ (i < 0 ∨ (arrV _ _ _).slots.size ≤ _); rw [arrV_size]; exact hin) rfl rfl hd fun H1 e1 z oq => ?_
  refine kk H1 _ ls (hP.set ha ⟨cA, hA0, hRA0, ?_⟩ z oq) ⟨z.trans hz.1, hz.2⟩ (zlo hlo ha) hls
  rw [e1]
  rw [vp_cell_q, vp_cell_q, arrV_store]
  congr 2
  funext q
  by_cases hq : q = i.toNatClampNeg
  · subst hq
    simp [updV, va_up, va_rf]
  · simp [updV, va_up, hq]
theorem zr_sR (hX : zOk K own cc ret nL fr lo mc ms) {a r : Nat} {i : Int32} (h : zsR σ a i r = some σ') (hd : decode cc pc = .ok (.aastore, 1)) (kk : VW K σ' sz k n (pc + 1) lv stk) : VW K σ sz k n pc lv (.ref r :: .int i :: .ref a :: stk) := by
  obtain ⟨t, N, f, ci, fs, he, hr0, ht, hin, rfl⟩ := zsR_spec h
  obtain ⟨⟨s0, D⟩, ⟨p, l, e, R, s, m⟩, ⟨args, below, meth, c⟩, Q, nL0⟩ := K
  obtain ⟨hx, hb, hr, hml, hown, hts, hlk, hcx, hnl, hR, hs1, hs2⟩ := hX
  intro H locs ls hP hz hlo hls
  have hin := zin_vp hin
  have hlt : i.toNatClampNeg < N := Nat.not_le.mp fun q => hin (Or.inr q)
  have h0 : ¬ i < 0 := fun q => hin (Or.inl q)
  obtain ⟨cA, hA0, hRA0, hcell⟩ := (hP.1 a _ he).1
  have ha : s0.heap.size ≤ a := (hP.1 a _ he).2 (by rcases ht with ⟨rfl, -⟩ | ⟨rfl, -⟩ <;> rfl)
  have hci : ci < 100 := by
    rcases ht with ⟨-, h⟩ | ⟨-, rfl⟩
    · simp only [zOb, List.mem_cons, List.not_mem_nil, or_false] at h
      omega
    · decide
  obtain ⟨q, hq, hasg⟩ : ∃ q : vw_C, zcl[ci]? = some q ∧ ∃ E : String, zTy t = .object E ∧ ∃ c0 t1 : ClassId, s.vm.findClass q.1 = some c0 ∧ s.vm.findClass E = some t1 ∧ s.vm.assignable c0 t1 = true := by
    rcases ht with ⟨rfl, hob⟩ | ⟨rfl, rfl⟩
    · obtain ⟨q, h1, h2⟩ := zOb_ok ci hob
      obtain ⟨c0, t1, f1, f2, f3⟩ := Cond.castable_spec (va_Nw.use (A := args) rfl (hcx.2.2.1 _ h2 rfl))
      exact ⟨q, h1, _, rfl, c0, t1, f1, f2, f3⟩
    · have h2 := hcx.2.1.1 16 _ rfl
      exact ⟨_, rfl, _, rfl, _, _, h2.2.1, h2.2.1, va_assign h2.2⟩
  obtain ⟨E, hE, c0, t1, f1, f2, f3⟩ := hasg
  obtain ⟨r', hr', cellV, g1, g2, g3, -⟩ := (hP.one hr0 hci) 0 _ rfl
  have hcls := (hcx.2.1.1 ci q hq).2
  have hRA := hRA0.moved hcx.1
  rw [hE] at hRA
  obtain ⟨kA, comp, k1, k2, k3, -⟩ := hRA
  obtain ⟨kE, hkE, -⟩ := Vm.findClass_spec k3
  cases hcls.1.symm.trans f1
  cases k3.symm.trans f2
  obtain ⟨kC, hkC, -⟩ := hcls.2
  refine W.aast hx hb hcell (fun q h => by cases h) (fun h => by cases h) k1 k2 rfl hkE ⟨h0, by show _ < (arrV _ _ _).slots.size; rw [arrV_size]; exact hlt⟩ g1 (fun q h => by rw [g3] at h; cases h) (by rw [g2]; exact hkC) (by rw [g2]; exact f3) rfl rfl hd fun H1 e1 z oq => ?_
  refine kk H1 _ ls (hP.set ha ⟨cA, hA0, hRA0, ?_⟩ z oq) ⟨z.trans hz.1, hz.2⟩ (zlo hlo ha) hls
  rw [e1]
  rw [vp_cell_q, vp_cell_q, arrV_store]
  congr 2
  funext q
  by_cases hq : q = i.toNatClampNeg
  · subst hq
    simp [updV, va_up, va_rf]
  · simp [updV, va_up, hq]
/-- new: the object lies at the heap's old size -/
theorem zr_new (hX : zOk K own cc ret nL fr lo mc ms) {C : String} {T : u_T} {N ci index k' n' : Nat} {fs : List Value} {ty : Nat → FieldType} (hz : zCl ci C T N) (hty : ∀ j, j < N → parseFieldDescriptor (T j).2.2.1 = some (ty j)) (hfs : ∀ j, j < N → defaultValue (ty j) = vp_V fs j) (hcl : Cond.classLink own index C ∈ lw_all) (hins : Cond.instantiable C N ∈ lw_all) (hini : Cond.initialized C ∈ lw_all) (hk : k + 1 = k') (hn : n + N = n') (hf : (Nat.ble k' mc && Nat.ble n' ms) = true) (hs : zset σ sz (.inr (ci, fs)) = σ') (hsz : sz + 1 = sz') (hd : decode cc pc = .ok (.new index, 3))
    (kk : VW K σ' sz' k' n' (pc + 3) lv (.ref sz :: stk)) : VW K σ sz k n pc lv stk := by
  obtain ⟨⟨s0, D⟩, ⟨p, l, e, R, s, m⟩, ⟨args, below, meth, c⟩, Q, nL0⟩ := K
  obtain ⟨hx, hb, hr, hml, hown, hts, hlk, hcx, hnl, rfl, hs1, hs2⟩ := hX
  subst hk
  subst hn
  subst hs
  subst hsz
  simp only [Bool.and_eq_true, Nat.ble_eq] at hf
  intro H locs ls hP hz2 hlo hls
  obtain ⟨hc, hin, -, -⟩ := hz
  have hKn := hcx.2.1.1 ci _ hc
  have hci : ci < 100 := Nat.lt_trans (List.getElem?_eq_some_iff.mp hc).1 (by decide)
  refine W.newcK hx hb hown (hts _ hcl) (hts _ hins) (hts _ hini) rfl hd hf.1 hf.2 hKn.2.1 hz2.1 fun H1 kC hkC e1 z1 o1 => ?_
  refine kk H1 locs ls (hP.push hz2.1.symm ⟨fun g => absurd g (by show ¬ 100 ≤ ci; omega), fun _ => ⟨_, hc, (u_born ty hts hin hKn hkC e1 hty).to hfs⟩⟩ (by rw [z1, hz2.1]) (fun q hq => o1 q (by rw [← hz2.1]; exact hq))) ⟨z1, Nat.le_succ_of_le hz2.2⟩ hlo hls
theorem zr_newa (hX : zOk K own cc ret nL fr lo mc ms) {atype : ArrayType} {t lim k' n' : Nat} {x : Int32} (h : znA t lim σ sz x = some σ') (harr : Cond.arrayClass (newarray.typeOf atype) ∈ lw_all) (hty : newarray.typeOf atype = zTy t) (ht : t = 0 ∨ t = 1 ∨ t = 2) (hlim : Nat.ble lim 10000 = true) (hk : k + 1 = k') (hn : n + lim = n') (hf : (Nat.ble k' mc && Nat.ble n' ms) = true) (hsz : sz + 1 = sz') (hd : decode cc pc = .ok (.newarray atype, 2))
    (kk : VW K σ' sz' k' n' (pc + 2) lv (.ref sz :: stk)) : VW K σ sz k n pc lv (.int x :: stk) := by
  obtain ⟨⟨s0, D⟩, ⟨p, l, e, R, s, m⟩, ⟨args, below, meth, c⟩, Q, nL0⟩ := K
  obtain ⟨hx, hb, hr, hml, hown, hts, hlk, hcx, hnl, rfl, hs1, hs2⟩ := hX
  subst hk
  subst hn
  subst hsz
  simp only [Bool.and_eq_true, Nat.ble_eq] at hf
  obtain ⟨h1, h2, rfl⟩ := znA_spec h
  have hlim := Nat.le_of_ble_eq_true hlim
  intro H locs ls hP hz2 hlo hls
  refine va_newaK hx hb (hts _ harr) rfl hd rfl h1 rfl (by have : componentBytes (newarray.typeOf atype) ≤ 8 := by cases atype <;> decide
                                                           have := Nat.mul_le_mul (Nat.le_trans h2 hlim) this; omega) hf.1 (by show n + _ ≤ ms; omega) hz2.1 fun H1 cA e1 z1 o1 hAr hNm => ?_
  rw [hty] at hAr hNm e1
  refine W.widen (Nat.le_refl _) (Nat.add_le_add_left h2 _) (kk H1 locs ls (hP.push hz2.1.symm ⟨cA, arrOfT_moved hcx.1.symm hAr, va_RA.moved hcx.1.symm (by rcases ht with rfl | rfl | rfl <;> exact hNm), ?_⟩ (by rw [z1, hz2.1]) (fun q hq => o1 q (by rw [← hz2.1]; exact hq))) ⟨z1, Nat.le_succ_of_le hz2.2⟩ hlo hls)
  rw [e1]
  rcases ht with rfl | rfl | rfl <;> rfl
theorem zr_newq (hX : zOk K own cc ret nL fr lo mc ms) {C : String} {t lim index k' n' : Nat} {x : Int32} (h : znR t lim σ sz x = some σ') (hcl : Cond.classLink own index C ∈ lw_all) (hty : zTy t = .object C) (ht : t = 3 ∨ t = 5) (hlim : Nat.ble lim 10000 = true) (hk : k + 1 = k') (hn : n + lim = n') (hf : (Nat.ble k' mc && Nat.ble n' ms) = true) (hsz : sz + 1 = sz') (hd : decode cc pc = .ok (.anewarray index, 3))
    (kk : VW K σ' sz' k' n' (pc + 3) lv (.ref sz :: stk)) : VW K σ sz k n pc lv (.int x :: stk) := by
  obtain ⟨⟨s0, D⟩, ⟨p, l, e, R, s, m⟩, ⟨args, below, meth, c⟩, Q, nL0⟩ := K
  obtain ⟨hx, hb, hr, hml, hown, hts, hlk, hcx, hnl, rfl, hs1, hs2⟩ := hX
  subst hk
  subst hn
  subst hsz
  simp only [Bool.and_eq_true, Nat.ble_eq] at hf
  obtain ⟨h1, h2, rfl⟩ := znR_spec h
  have hlim := Nat.le_of_ble_eq_true hlim
  intro H locs ls hP hz2 hlo hls
  have hAO : va_AO C s := by
    rcases ht with rfl | rfl
    · cases hty
      exact hcx.2.2.2.1.2.2.2.2.2.2.2.2.1
    · cases hty
      exact hcx.2.2.2.1.2.2.2.2.2.2.2.2.2.1
  refine W.anew hx hb hown (hts _ hcl) (va_AO.use hAO) rfl hd rfl h1 (by omega) hf.1 (by show n + _ ≤ ms; omega) fun cA kA comp f1 f2 f3 f4 => ?_
  generalize hH1 : H.push ({ cls := cA, slots := Array.replicate x.toNatClampNeg .null, vm := .none } : Cell) = H1
  have z1 : H1.size = H.size + 1 := by rw [← hH1, Array.size_push]
  have e1 : H1[H.size]? = some (arrV cA x.toNatClampNeg (fun _ => .null)) := by rw [← hH1, Array.getElem?_push_size, ← arrV_new]
  have o1 : ∀ q : Nat, q < H.size → H1[q]? = H[q]? := fun q hq => by rw [← hH1, Array.getElem?_push, if_neg (Nat.ne_of_lt hq)]
  have hAr : ArrOfT s cA (.object C) := fun N z => ⟨(fun k h => by cases h), kA, f2, comp, f3⟩
  have hRA : va_RA s cA (.object C) := ⟨kA, comp, f2, f3, f4, f1⟩
  have kk2 := kk H1 locs ls (hP.push hz2.1.symm ⟨cA, by rw [hty]; exact arrOfT_moved hcx.1.symm hAr, by rw [hty]; exact hRA.moved hcx.1.symm, by rw [← hz2.1, e1]; rfl⟩ z1 o1) ⟨by rw [z1, hz2.1], Nat.le_succ_of_le hz2.2⟩ hlo hls
  rw [← hz2.1] at kk2
  exact W.widen (Nat.le_refl _) (Nat.add_le_add_left h2 _) kk2
theorem zStk {s0 s : State} (h2 : ∀ q : Nat, q < s0.heap.size → s.heap[q]? = s0.heap[q]?) : ∀ a : Nat, a < s0.heap.size → ¬ zA s0 a → s.heap[a]? = s0.heap[a]? := fun a h _ => h2 a h
theorem zVS {s0 s : State} {D : zD} {H : Heap} {locs : List Loc} (hP : zP s0 D σ H) (hz : H.size = sz ∧ s.heap.size ≤ sz) (h2 : ∀ q : Nat, q < s0.heap.size → s.heap[q]? = s0.heap[q]?) (hlo : ∀ q ∈ locs, s0.heap.size ≤ q.base) : va_S (zA s0) s.heap H locs := ⟨by rw [hz.1]; exact hz.2, fun q _ hA => by
    have h : q < s0.heap.size := Nat.not_le.mp hA
    rw [h2 q h, hP.2.2.1 q h], hlo⟩
/-- the statics: 0 GREATEST_VALUES, 1 the cache of Integers, 2 ArrayList's empty array -/
def zsn (g : Nat) : String × String × String := match g with
  | 0 => ("DomainLinks", "GREATEST_VALUES", "[I")
  | 1 => ("java/lang/Integer$IntegerCache", "cache", "[Ljava/lang/Integer;")
  | _ => ("java/util/ArrayList", "DEFAULTCAPACITY_EMPTY_ELEMENTDATA", "[Ljava/lang/Object;")
theorem zSt.gets {s0 : State} {G : Nat → Nat} {U : State} (h : zSt s0 G U) {g : Nat} (hg : g < 3) : va_Z (zsn g).1 (zsn g).2.1 (zsn g).2.2 (.ref (G g)) (zA s0) U s0.heap := by
  rcases (show g = 0 ∨ g = 1 ∨ g = 2 by omega) with rfl | rfl | rfl
  · exact h.1
  · exact h.2.1
  · exact h.2.2.1
theorem zr_gets (hX : zOk K own cc ret nL fr lo mc ms) (g : Nat) {index : Nat} (hg : Nat.blt g 3 = true) (hlink : Cond.fieldLink own index (zsn g).1 (zsn g).2.1 (zsn g).2.2 ∈ lw_all) (hd : decode cc pc = .ok (.getstatic index, 3)) (kk : VW K σ sz k n (pc + 3) lv (.ref (σ.1 g) :: stk)) : VW K σ sz k n pc lv stk := by
  obtain ⟨⟨s0, D⟩, ⟨p, l, e, R, s, m⟩, ⟨args, below, meth, c⟩, Q, nL0⟩ := K
  obtain ⟨hx, hb, hr, hml, hown, hts, hlk, hcx, hnl, rfl, hs1, hs2⟩ := hX
  intro H locs ls hP hz hlo hls
  have h1 := (hcx.2.2.2.1.gets (Nat.le_of_ble_eq_true hg)).kept (zStk hs2)
  rw [← hP.2.2.2] at h1
  exact va_gets hx hb h1 (zVS hP hz hs2 hlo) hown (hts _ hlink) (fun x h => h) hd (kk H locs ls hP hz hlo hls)
theorem zr_getsN (hX : zOk K own cc ret nL fr lo mc ms) (g : Nat) {index : Nat} {host : String} (hg : Nat.blt g 3 = true) (hlink : Cond.fieldLinkNest own index (zsn g).1 (zsn g).2.1 (zsn g).2.2 host ∈ lw_tbl) (hd : decode cc pc = .ok (.getstatic index, 3)) (kk : VW K σ sz k n (pc + 3) lv (.ref (σ.1 g) :: stk)) : VW K σ sz k n pc lv stk := by
  obtain ⟨⟨s0, D⟩, ⟨p, l, e, R, s, m⟩, ⟨args, below, meth, c⟩, Q, nL0⟩ := K
  obtain ⟨hx, hb, hr, hml, hown, hts, hlk, hcx, hnl, rfl, hs1, hs2⟩ := hX
  intro H locs ls hP hz hlo hls
  have h1 := (hcx.2.2.2.1.gets (Nat.le_of_ble_eq_true hg)).kept (zStk hs2)
  rw [← hP.2.2.2] at h1
  exact va_getsN hx hb h1 (zVS hP hz hs2 hlo) hown (va_Nw.use rfl (hcx.2.2.1 _ hlink rfl)) (fun x h => h) hd (kk H locs ls hP hz hlo hls)
theorem zr_getsH (hX : zOk K own cc ret nL fr lo mc ms) {index : Nat} (hlink : Cond.fieldLink own index "java/lang/Integer$IntegerCache" "high" "I" ∈ lw_all) (hd : decode cc pc = .ok (.getstatic index, 3)) (kk : VW K σ sz k n (pc + 3) lv (.int 127 :: stk)) : VW K σ sz k n pc lv stk := by
  obtain ⟨⟨s0, D⟩, ⟨p, l, e, R, s, m⟩, ⟨args, below, meth, c⟩, Q, nL0⟩ := K
  obtain ⟨hx, hb, hr, hml, hown, hts, hlk, hcx, hnl, rfl, hs1, hs2⟩ := hX
  intro H locs ls hP hz hlo hls
  have h1 := hcx.2.2.2.1.2.2.2.1.kept (zStk hs2)
  exact va_gets hx hb h1 (zVS hP hz hs2 hlo) hown (hts _ hlink) (fun x h => h) hd (kk H locs ls hP hz hlo hls)
/-- a cast that the tables say holds; to the object's own class -/
theorem zr_cast (hX : zOk K own cc ret nL fr lo mc ms) {C nm : String} {T : u_T} {N ci index a : Nat} {u : Unit} (h : zis σ a ci = some u) (hz : zCl ci C T N) (hcl : Cond.classLink own index nm ∈ lw_all) (hca : C = nm ∨ Cond.castable C nm ∈ lw_tbl) (hd : decode cc pc = .ok (.checkcast index, 3)) (kk : VW K σ sz k n (pc + 3) lv (.ref a :: stk)) : VW K σ sz k n pc lv (.ref a :: stk) := by
  obtain ⟨⟨s0, D⟩, ⟨p, l, e, R, s, m⟩, ⟨args, below, meth, c⟩, Q, nL0⟩ := K
  obtain ⟨hx, hb, hr, hml, hown, hts, hlk, hcx, hnl, rfl, hs1, hs2⟩ := hX
  obtain ⟨fs, he⟩ := zis_spec h
  have hci : ci < 100 := Nat.lt_trans (List.getElem?_eq_some_iff.mp hz.1).1 (by decide)
  intro H locs ls hP hz2 hlo hls
  have hrc := va_recv hcx.2.1 (hP.one he hci) (ci := ci) (q0 := 0) hz.1 rfl
  rcases hca with rfl | hca
  · exact va_castS (cC := D.1.1 ci) hx hb hown (hts _ hcl) (hcx.2.1.1 ci _ hz.1).2 hrc hd (kk H locs ls hP hz2 hlo hls)
  · exact va_castY hx hb hown (hts _ hcl) (hcx.2.2.1 _ hca rfl) hrc hd (kk H locs ls hP hz2 hlo hls)
end ZF
