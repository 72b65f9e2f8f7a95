/-! ROWS: an instruction a row, over VW (printed by gen/rows.py) -/
set_option maxRecDepth 100000
section ZR
variable {K : zC} {own : String} {cc : ByteArray} {ret : Option FieldType} {nL fr lo mc ms : Nat} {σ : zH} {sz k n pc : Nat} {lv : List (Nat × Value)} {stk : List Value}
theorem zr_iadd (hX : zOk K own cc ret nL fr lo mc ms) {x y : Int32} (hd : decode cc pc = .ok (.iadd, 1)) (kk : VW K σ sz k n (pc + 1) lv (.int (x + y) :: stk)) : VW K σ sz k n pc lv (.int y :: .int x :: stk) := by
  obtain ⟨⟨s0, D⟩, ⟨p, l, e, R, s, m⟩, ⟨args, below, meth, c⟩, Q, nL0⟩ := K
  obtain ⟨hx, hb, hr, hml, hown, hts, hlk, hcx, hnl, hR, hs1, hs2⟩ := hX
  exact fun H locs ls hP hz hlo hl => lv_iadd hx hb hd  (kk H locs ls hP hz hlo hl)
theorem zr_isub (hX : zOk K own cc ret nL fr lo mc ms) {x y : Int32} (hd : decode cc pc = .ok (.isub, 1)) (kk : VW K σ sz k n (pc + 1) lv (.int (x - y) :: stk)) : VW K σ sz k n pc lv (.int y :: .int x :: stk) := by
  obtain ⟨⟨s0, D⟩, ⟨p, l, e, R, s, m⟩, ⟨args, below, meth, c⟩, Q, nL0⟩ := K
  obtain ⟨hx, hb, hr, hml, hown, hts, hlk, hcx, hnl, hR, hs1, hs2⟩ := hX
  exact fun H locs ls hP hz hlo hl => lv_isub hx hb hd  (kk H locs ls hP hz hlo hl)
theorem zr_imul (hX : zOk K own cc ret nL fr lo mc ms) {x y : Int32} (hd : decode cc pc = .ok (.imul, 1)) (kk : VW K σ sz k n (pc + 1) lv (.int (x * y) :: stk)) : VW K σ sz k n pc lv (.int y :: .int x :: stk) := by
  obtain ⟨⟨s0, D⟩, ⟨p, l, e, R, s, m⟩, ⟨args, below, meth, c⟩, Q, nL0⟩ := K
  obtain ⟨hx, hb, hr, hml, hown, hts, hlk, hcx, hnl, hR, hs1, hs2⟩ := hX
  exact fun H locs ls hP hz hlo hl => lv_imul hx hb hd  (kk H locs ls hP hz hlo hl)
theorem zr_iand (hX : zOk K own cc ret nL fr lo mc ms) {x y : Int32} (hd : decode cc pc = .ok (.iand, 1)) (kk : VW K σ sz k n (pc + 1) lv (.int (x &&& y) :: stk)) : VW K σ sz k n pc lv (.int y :: .int x :: stk) := by
  obtain ⟨⟨s0, D⟩, ⟨p, l, e, R, s, m⟩, ⟨args, below, meth, c⟩, Q, nL0⟩ := K
  obtain ⟨hx, hb, hr, hml, hown, hts, hlk, hcx, hnl, hR, hs1, hs2⟩ := hX
  exact fun H locs ls hP hz hlo hl => lv_iand hx hb hd  (kk H locs ls hP hz hlo hl)
theorem zr_ior (hX : zOk K own cc ret nL fr lo mc ms) {x y : Int32} (hd : decode cc pc = .ok (.ior, 1)) (kk : VW K σ sz k n (pc + 1) lv (.int (x ||| y) :: stk)) : VW K σ sz k n pc lv (.int y :: .int x :: stk) := by
  obtain ⟨⟨s0, D⟩, ⟨p, l, e, R, s, m⟩, ⟨args, below, meth, c⟩, Q, nL0⟩ := K
  obtain ⟨hx, hb, hr, hml, hown, hts, hlk, hcx, hnl, hR, hs1, hs2⟩ := hX
  exact fun H locs ls hP hz hlo hl => lv_ior hx hb hd  (kk H locs ls hP hz hlo hl)
theorem zr_ixor (hX : zOk K own cc ret nL fr lo mc ms) {x y : Int32} (hd : decode cc pc = .ok (.ixor, 1)) (kk : VW K σ sz k n (pc + 1) lv (.int (x ^^^ y) :: stk)) : VW K σ sz k n pc lv (.int y :: .int x :: stk) := by
  obtain ⟨⟨s0, D⟩, ⟨p, l, e, R, s, m⟩, ⟨args, below, meth, c⟩, Q, nL0⟩ := K
  obtain ⟨hx, hb, hr, hml, hown, hts, hlk, hcx, hnl, hR, hs1, hs2⟩ := hX
  exact fun H locs ls hP hz hlo hl => lv_ixor hx hb hd  (kk H locs ls hP hz hlo hl)
theorem zr_ishl (hX : zOk K own cc ret nL fr lo mc ms) {x y : Int32} (hd : decode cc pc = .ok (.ishl, 1)) (kk : VW K σ sz k n (pc + 1) lv (.int (x <<< (y &&& 31)) :: stk)) : VW K σ sz k n pc lv (.int y :: .int x :: stk) := by
  obtain ⟨⟨s0, D⟩, ⟨p, l, e, R, s, m⟩, ⟨args, below, meth, c⟩, Q, nL0⟩ := K
  obtain ⟨hx, hb, hr, hml, hown, hts, hlk, hcx, hnl, hR, hs1, hs2⟩ := hX
  exact fun H locs ls hP hz hlo hl => lv_ishl hx hb hd  (kk H locs ls hP hz hlo hl)
theorem zr_ishr (hX : zOk K own cc ret nL fr lo mc ms) {x y : Int32} (hd : decode cc pc = .ok (.ishr, 1)) (kk : VW K σ sz k n (pc + 1) lv (.int (x >>> (y &&& 31)) :: stk)) : VW K σ sz k n pc lv (.int y :: .int x :: stk) := by
  obtain ⟨⟨s0, D⟩, ⟨p, l, e, R, s, m⟩, ⟨args, below, meth, c⟩, Q, nL0⟩ := K
  obtain ⟨hx, hb, hr, hml, hown, hts, hlk, hcx, hnl, hR, hs1, hs2⟩ := hX
  exact fun H locs ls hP hz hlo hl => lv_ishr hx hb hd  (kk H locs ls hP hz hlo hl)
theorem zr_iushr (hX : zOk K own cc ret nL fr lo mc ms) {x y : Int32} (hd : decode cc pc = .ok (.iushr, 1)) (kk : VW K σ sz k n (pc + 1) lv (.int (x.toUInt32 >>> (y.toUInt32 &&& Int32.toUInt32 31)).toInt32 :: stk)) : VW K σ sz k n pc lv (.int y :: .int x :: stk) := by
  obtain ⟨⟨s0, D⟩, ⟨p, l, e, R, s, m⟩, ⟨args, below, meth, c⟩, Q, nL0⟩ := K
  obtain ⟨hx, hb, hr, hml, hown, hts, hlk, hcx, hnl, hR, hs1, hs2⟩ := hX
  exact fun H locs ls hP hz hlo hl => lv_iushr hx hb hd rfl (kk H locs ls hP hz hlo hl)
theorem zr_idiv (hX : zOk K own cc ret nL fr lo mc ms) {x y : Int32} (hne : ¬ y = 0) (hd : decode cc pc = .ok (.idiv, 1)) (kk : VW K σ sz k n (pc + 1) lv (.int (x / y) :: stk)) : VW K σ sz k n pc lv (.int y :: .int x :: stk) := by
  obtain ⟨⟨s0, D⟩, ⟨p, l, e, R, s, m⟩, ⟨args, below, meth, c⟩, Q, nL0⟩ := K
  obtain ⟨hx, hb, hr, hml, hown, hts, hlk, hcx, hnl, hR, hs1, hs2⟩ := hX
  exact fun H locs ls hP hz hlo hl => lv_idiv hx hb hd hne (kk H locs ls hP hz hlo hl)
theorem zr_irem (hX : zOk K own cc ret nL fr lo mc ms) {x y : Int32} (hne : ¬ y = 0) (hd : decode cc pc = .ok (.irem, 1)) (kk : VW K σ sz k n (pc + 1) lv (.int (x - x / y * y) :: stk)) : VW K σ sz k n pc lv (.int y :: .int x :: stk) := by
  obtain ⟨⟨s0, D⟩, ⟨p, l, e, R, s, m⟩, ⟨args, below, meth, c⟩, Q, nL0⟩ := K
  obtain ⟨hx, hb, hr, hml, hown, hts, hlk, hcx, hnl, hR, hs1, hs2⟩ := hX
  exact fun H locs ls hP hz hlo hl => lv_irem hx hb hd hne (kk H locs ls hP hz hlo hl)
theorem zr_i2l (hX : zOk K own cc ret nL fr lo mc ms) {x : Int32} (hd : decode cc pc = .ok (.i2l, 1)) (kk : VW K σ sz k n (pc + 1) lv (.long x.toInt64 :: stk)) : VW K σ sz k n pc lv (.int x :: stk) := by
  obtain ⟨⟨s0, D⟩, ⟨p, l, e, R, s, m⟩, ⟨args, below, meth, c⟩, Q, nL0⟩ := K
  obtain ⟨hx, hb, hr, hml, hown, hts, hlk, hcx, hnl, hR, hs1, hs2⟩ := hX
  exact fun H locs ls hP hz hlo hl => lv_i2l hx hb hd rfl (kk H locs ls hP hz hlo hl)
theorem zr_lmul (hX : zOk K own cc ret nL fr lo mc ms) {x y : Int64} (hd : decode cc pc = .ok (.lmul, 1)) (kk : VW K σ sz k n (pc + 1) lv (.long (x * y) :: stk)) : VW K σ sz k n pc lv (.long y :: .long x :: stk) := by
  obtain ⟨⟨s0, D⟩, ⟨p, l, e, R, s, m⟩, ⟨args, below, meth, c⟩, Q, nL0⟩ := K
  obtain ⟨hx, hb, hr, hml, hown, hts, hlk, hcx, hnl, hR, hs1, hs2⟩ := hX
  exact fun H locs ls hP hz hlo hl => lv_lmul hx hb hd  (kk H locs ls hP hz hlo hl)
theorem zr_lcmp (hX : zOk K own cc ret nL fr lo mc ms) {x y : Int64} (hd : decode cc pc = .ok (.lcmp, 1)) (kk : VW K σ sz k n (pc + 1) lv (.int (lg_cmp x y) :: stk)) : VW K σ sz k n pc lv (.long y :: .long x :: stk) := by
  obtain ⟨⟨s0, D⟩, ⟨p, l, e, R, s, m⟩, ⟨args, below, meth, c⟩, Q, nL0⟩ := K
  obtain ⟨hx, hb, hr, hml, hown, hts, hlk, hcx, hnl, hR, hs1, hs2⟩ := hX
  exact fun H locs ls hP hz hlo hl => W.lcmp hx hb hd  (kk H locs ls hP hz hlo hl)
theorem zr_dup (hX : zOk K own cc ret nL fr lo mc ms) {va : Value} (hva : va.category = 1) (hd : decode cc pc = .ok (.dup, 1)) (kk : VW K σ sz k n (pc + 1) lv (va :: va :: stk)) : VW K σ sz k n pc lv (va :: stk) := by
  obtain ⟨⟨s0, D⟩, ⟨p, l, e, R, s, m⟩, ⟨args, below, meth, c⟩, Q, nL0⟩ := K
  obtain ⟨hx, hb, hr, hml, hown, hts, hlk, hcx, hnl, hR, hs1, hs2⟩ := hX
  exact fun H locs ls hP hz hlo hl => lv_dup hx hb hd hva (kk H locs ls hP hz hlo hl)
theorem zr_pop (hX : zOk K own cc ret nL fr lo mc ms) {va : Value} (hva : va.category = 1) (hd : decode cc pc = .ok (.pop, 1)) (kk : VW K σ sz k n (pc + 1) lv (stk)) : VW K σ sz k n pc lv (va :: stk) := by
  obtain ⟨⟨s0, D⟩, ⟨p, l, e, R, s, m⟩, ⟨args, below, meth, c⟩, Q, nL0⟩ := K
  obtain ⟨hx, hb, hr, hml, hown, hts, hlk, hcx, hnl, hR, hs1, hs2⟩ := hX
  exact fun H locs ls hP hz hlo hl => lv_pop hx hb hd hva (kk H locs ls hP hz hlo hl)
theorem zr_dup_x1 (hX : zOk K own cc ret nL fr lo mc ms) {va vb : Value} (hva : va.category = 1) (hvb : vb.category = 1) (hd : decode cc pc = .ok (.dup_x1, 1)) (kk : VW K σ sz k n (pc + 1) lv (va :: vb :: va :: stk)) : VW K σ sz k n pc lv (va :: vb :: stk) := by
  obtain ⟨⟨s0, D⟩, ⟨p, l, e, R, s, m⟩, ⟨args, below, meth, c⟩, Q, nL0⟩ := K
  obtain ⟨hx, hb, hr, hml, hown, hts, hlk, hcx, hnl, hR, hs1, hs2⟩ := hX
  exact fun H locs ls hP hz hlo hl => lv_dup_x1 hx hb hd hva hvb (kk H locs ls hP hz hlo hl)
theorem zr_dup2 (hX : zOk K own cc ret nL fr lo mc ms) {va vb : Value} (hva : va.category = 1) (hvb : vb.category = 1) (hd : decode cc pc = .ok (.dup2, 1)) (kk : VW K σ sz k n (pc + 1) lv (va :: vb :: va :: vb :: stk)) : VW K σ sz k n pc lv (va :: vb :: stk) := by
  obtain ⟨⟨s0, D⟩, ⟨p, l, e, R, s, m⟩, ⟨args, below, meth, c⟩, Q, nL0⟩ := K
  obtain ⟨hx, hb, hr, hml, hown, hts, hlk, hcx, hnl, hR, hs1, hs2⟩ := hX
  exact fun H locs ls hP hz hlo hl => lv_dup2_11 hx hb hd hva hvb (kk H locs ls hP hz hlo hl)
theorem zr_iconst (hX : zOk K own cc ret nL fr lo mc ms) {v : Int32} {i : Int} (hv : Int32.ofInt i = v) (hd : decode cc pc = .ok (.iconst i, 1)) (kk : VW K σ sz k n (pc + 1) lv (.int v :: stk)) : VW K σ sz k n pc lv (stk) := by
  obtain ⟨⟨s0, D⟩, ⟨p, l, e, R, s, m⟩, ⟨args, below, meth, c⟩, Q, nL0⟩ := K
  obtain ⟨hx, hb, hr, hml, hown, hts, hlk, hcx, hnl, hR, hs1, hs2⟩ := hX
  exact fun H locs ls hP hz hlo hl => lv_iconst hx hb hd hv (kk H locs ls hP hz hlo hl)
theorem zr_bipush (hX : zOk K own cc ret nL fr lo mc ms) {v : Int32} {i : Int} (hv : (Int8.ofInt i).toInt32 = v) (hd : decode cc pc = .ok (.bipush i, 2)) (kk : VW K σ sz k n (pc + 2) lv (.int v :: stk)) : VW K σ sz k n pc lv (stk) := by
  obtain ⟨⟨s0, D⟩, ⟨p, l, e, R, s, m⟩, ⟨args, below, meth, c⟩, Q, nL0⟩ := K
  obtain ⟨hx, hb, hr, hml, hown, hts, hlk, hcx, hnl, hR, hs1, hs2⟩ := hX
  exact fun H locs ls hP hz hlo hl => lv_bipush hx hb hd hv (kk H locs ls hP hz hlo hl)
theorem zr_sipush (hX : zOk K own cc ret nL fr lo mc ms) {v : Int32} {i : Int} (hv : (Int16.ofInt i).toInt32 = v) (hd : decode cc pc = .ok (.sipush i, 3)) (kk : VW K σ sz k n (pc + 3) lv (.int v :: stk)) : VW K σ sz k n pc lv (stk) := by
  obtain ⟨⟨s0, D⟩, ⟨p, l, e, R, s, m⟩, ⟨args, below, meth, c⟩, Q, nL0⟩ := K
  obtain ⟨hx, hb, hr, hml, hown, hts, hlk, hcx, hnl, hR, hs1, hs2⟩ := hX
  exact fun H locs ls hP hz hlo hl => lv_sipush hx hb hd hv (kk H locs ls hP hz hlo hl)
theorem zr_lconst (hX : zOk K own cc ret nL fr lo mc ms) {v : Int64} {i : Fin 2} (hv : Int64.ofNat (i : Nat) = v) (hd : decode cc pc = .ok (.lconst i, 1)) (kk : VW K σ sz k n (pc + 1) lv (.long v :: stk)) : VW K σ sz k n pc lv (stk) := by
  obtain ⟨⟨s0, D⟩, ⟨p, l, e, R, s, m⟩, ⟨args, below, meth, c⟩, Q, nL0⟩ := K
  obtain ⟨hx, hb, hr, hml, hown, hts, hlk, hcx, hnl, hR, hs1, hs2⟩ := hX
  exact fun H locs ls hP hz hlo hl => lv_lconst hx hb hd hv (kk H locs ls hP hz hlo hl)
theorem zr_null (hX : zOk K own cc ret nL fr lo mc ms)  (hd : decode cc pc = .ok (.aconst_null, 1)) (kk : VW K σ sz k n (pc + 1) lv (.null :: stk)) : VW K σ sz k n pc lv (stk) := by
  obtain ⟨⟨s0, D⟩, ⟨p, l, e, R, s, m⟩, ⟨args, below, meth, c⟩, Q, nL0⟩ := K
  obtain ⟨hx, hb, hr, hml, hown, hts, hlk, hcx, hnl, hR, hs1, hs2⟩ := hX
  exact fun H locs ls hP hz hlo hl => lv_null hx hb hd  (kk H locs ls hP hz hlo hl)
theorem zr_ldc (hX : zOk K own cc ret nL fr lo mc ms) {v : Int32} {i : Nat} (hc : Cond.constant own i v ∈ lw_all) (hd : decode cc pc = .ok (.ldc i, 2)) (kk : VW K σ sz k n (pc + 2) lv (.int v :: stk)) : VW K σ sz k n pc lv (stk) := by
  obtain ⟨⟨s0, D⟩, ⟨p, l, e, R, s, m⟩, ⟨args, below, meth, c⟩, Q, nL0⟩ := K
  obtain ⟨hx, hb, hr, hml, hown, hts, hlk, hcx, hnl, hR, hs1, hs2⟩ := hX
  exact fun H locs ls hP hz hlo hl => lv_ldc hx hb hown (hts _ hc) hd (kk H locs ls hP hz hlo hl)
theorem zr_ldcw (hX : zOk K own cc ret nL fr lo mc ms) {v : Int32} {i : Nat} (hc : Cond.constant own i v ∈ lw_all) (hd : decode cc pc = .ok (.ldc_w i, 3)) (kk : VW K σ sz k n (pc + 3) lv (.int v :: stk)) : VW K σ sz k n pc lv (stk) := by
  obtain ⟨⟨s0, D⟩, ⟨p, l, e, R, s, m⟩, ⟨args, below, meth, c⟩, Q, nL0⟩ := K
  obtain ⟨hx, hb, hr, hml, hown, hts, hlk, hcx, hnl, hR, hs1, hs2⟩ := hX
  exact fun H locs ls hP hz hlo hl => lv_ldcw hx hb hown (hts _ hc) hd (kk H locs ls hP hz hlo hl)
theorem zr_ldc2 (hX : zOk K own cc ret nL fr lo mc ms) {v : Int64} {i : Nat} (hc : Cond.constantLong own i v ∈ lw_all) (hd : decode cc pc = .ok (.ldc2_w i, 3)) (kk : VW K σ sz k n (pc + 3) lv (.long v :: stk)) : VW K σ sz k n pc lv (stk) := by
  obtain ⟨⟨s0, D⟩, ⟨p, l, e, R, s, m⟩, ⟨args, below, meth, c⟩, Q, nL0⟩ := K
  obtain ⟨hx, hb, hr, hml, hown, hts, hlk, hcx, hnl, hR, hs1, hs2⟩ := hX
  exact fun H locs ls hP hz hlo hl => lv_ldc2 hx hb hown (hts _ hc) hd (kk H locs ls hP hz hlo hl)
theorem zr_iload_n (hX : zOk K own cc ret nL fr lo mc ms) (j : Nat) {q : Fin 4} {i : Nat} {x : Int32} (hi : (q : Nat) = i) (hj : lv[j]? = some (i, .int x)) (hd : decode cc pc = .ok (.iload_n q, 1)) (kk : VW K σ sz k n (pc + 1) lv (.int x :: stk)) : VW K σ sz k n pc lv (stk) := by
  obtain ⟨⟨s0, D⟩, ⟨p, l, e, R, s, m⟩, ⟨args, below, meth, c⟩, Q, nL0⟩ := K
  obtain ⟨hx, hb, hr, hml, hown, hts, hlk, hcx, hnl, hR, hs1, hs2⟩ := hX
  exact fun H locs ls hP hz hlo hl => lv_iload_n hx hb hd hi (lv_at hl j hj) (kk H locs ls hP hz hlo hl)
theorem zr_iload (hX : zOk K own cc ret nL fr lo mc ms) (j : Nat) {i : Nat} {x : Int32} (hj : lv[j]? = some (i, .int x)) (hd : decode cc pc = .ok (.iload i, 2)) (kk : VW K σ sz k n (pc + 2) lv (.int x :: stk)) : VW K σ sz k n pc lv (stk) := by
  obtain ⟨⟨s0, D⟩, ⟨p, l, e, R, s, m⟩, ⟨args, below, meth, c⟩, Q, nL0⟩ := K
  obtain ⟨hx, hb, hr, hml, hown, hts, hlk, hcx, hnl, hR, hs1, hs2⟩ := hX
  exact fun H locs ls hP hz hlo hl => lv_iload hx hb hd (lv_at hl j hj) (kk H locs ls hP hz hlo hl)
theorem zr_lload_n (hX : zOk K own cc ret nL fr lo mc ms) (j : Nat) {q : Fin 4} {i : Nat} {x : Int64} (hi : (q : Nat) = i) (hj : lv[j]? = some (i, .long x)) (hd : decode cc pc = .ok (.lload_n q, 1)) (kk : VW K σ sz k n (pc + 1) lv (.long x :: stk)) : VW K σ sz k n pc lv (stk) := by
  obtain ⟨⟨s0, D⟩, ⟨p, l, e, R, s, m⟩, ⟨args, below, meth, c⟩, Q, nL0⟩ := K
  obtain ⟨hx, hb, hr, hml, hown, hts, hlk, hcx, hnl, hR, hs1, hs2⟩ := hX
  exact fun H locs ls hP hz hlo hl => lv_lload_n hx hb hd hi (lv_at hl j hj) (kk H locs ls hP hz hlo hl)
theorem zr_lload (hX : zOk K own cc ret nL fr lo mc ms) (j : Nat) {i : Nat} {x : Int64} (hj : lv[j]? = some (i, .long x)) (hd : decode cc pc = .ok (.lload i, 2)) (kk : VW K σ sz k n (pc + 2) lv (.long x :: stk)) : VW K σ sz k n pc lv (stk) := by
  obtain ⟨⟨s0, D⟩, ⟨p, l, e, R, s, m⟩, ⟨args, below, meth, c⟩, Q, nL0⟩ := K
  obtain ⟨hx, hb, hr, hml, hown, hts, hlk, hcx, hnl, hR, hs1, hs2⟩ := hX
  exact fun H locs ls hP hz hlo hl => lv_lload hx hb hd (lv_at hl j hj) (kk H locs ls hP hz hlo hl)
theorem zr_aload_n (hX : zOk K own cc ret nL fr lo mc ms) (j : Nat) {q : Fin 4} {i : Nat} {x : Nat} (hi : (q : Nat) = i) (hj : lv[j]? = some (i, .ref x)) (hd : decode cc pc = .ok (.aload_n q, 1)) (kk : VW K σ sz k n (pc + 1) lv (.ref x :: stk)) : VW K σ sz k n pc lv (stk) := by
  obtain ⟨⟨s0, D⟩, ⟨p, l, e, R, s, m⟩, ⟨args, below, meth, c⟩, Q, nL0⟩ := K
  obtain ⟨hx, hb, hr, hml, hown, hts, hlk, hcx, hnl, hR, hs1, hs2⟩ := hX
  exact fun H locs ls hP hz hlo hl => lv_aload_n hx hb hd hi (lv_at hl j hj) (kk H locs ls hP hz hlo hl)
theorem zr_aload (hX : zOk K own cc ret nL fr lo mc ms) (j : Nat) {i : Nat} {x : Nat} (hj : lv[j]? = some (i, .ref x)) (hd : decode cc pc = .ok (.aload i, 2)) (kk : VW K σ sz k n (pc + 2) lv (.ref x :: stk)) : VW K σ sz k n pc lv (stk) := by
  obtain ⟨⟨s0, D⟩, ⟨p, l, e, R, s, m⟩, ⟨args, below, meth, c⟩, Q, nL0⟩ := K
  obtain ⟨hx, hb, hr, hml, hown, hts, hlk, hcx, hnl, hR, hs1, hs2⟩ := hX
  exact fun H locs ls hP hz hlo hl => lv_aload hx hb hd (lv_at hl j hj) (kk H locs ls hP hz hlo hl)
theorem zr_istore_n (hX : zOk K own cc ret nL fr lo mc ms) {i : Nat} {q : Fin 4} {x v : Int32} {lv' : List (Nat × Value)} (hv : x = v) (hi : (q : Nat) = i) (hn : i < nL) (hl' : (i, Value.int v) :: lv.filter (fun q => !(q.1 == i) && !(q.1 + 1 == i && q.2.category == 2)) = lv') (hd : decode cc pc = .ok (.istore_n q, 1)) (kk : VW K σ sz k n (pc + 1) lv' (stk)) : VW K σ sz k n pc lv (.int x :: stk) := by
  obtain ⟨⟨s0, D⟩, ⟨p, l, e, R, s, m⟩, ⟨args, below, meth, c⟩, Q, nL0⟩ := K
  obtain ⟨hx, hb, hr, hml, hown, hts, hlk, hcx, hnl, hR, hs1, hs2⟩ := hX
  subst hv
  subst hnl
  exact fun H locs ls hP hz hlo hl => lv_istore_n hx hb hd hi hl hn hl' (fun ls' hl2 => kk H locs ls' hP hz hlo hl2)
theorem zr_istore (hX : zOk K own cc ret nL fr lo mc ms) {i : Nat} {x v : Int32} {lv' : List (Nat × Value)} (hv : x = v) (hn : i < nL) (hl' : (i, Value.int v) :: lv.filter (fun q => !(q.1 == i) && !(q.1 + 1 == i && q.2.category == 2)) = lv') (hd : decode cc pc = .ok (.istore i, 2)) (kk : VW K σ sz k n (pc + 2) lv' (stk)) : VW K σ sz k n pc lv (.int x :: stk) := by
  obtain ⟨⟨s0, D⟩, ⟨p, l, e, R, s, m⟩, ⟨args, below, meth, c⟩, Q, nL0⟩ := K
  obtain ⟨hx, hb, hr, hml, hown, hts, hlk, hcx, hnl, hR, hs1, hs2⟩ := hX
  subst hv
  subst hnl
  exact fun H locs ls hP hz hlo hl => lv_istore hx hb hd hl hn hl' (fun ls' hl2 => kk H locs ls' hP hz hlo hl2)
theorem zr_lstore_n (hX : zOk K own cc ret nL fr lo mc ms) {i : Nat} {q : Fin 4} {x v : Int64} {lv' : List (Nat × Value)} (hv : x = v) (hi : (q : Nat) = i) (hn : i + 1 < nL) (hl' : (i, Value.long v) :: lv.filter (fun q => !(q.1 == i) && (!(q.1 == i + 1) && !(q.1 + 1 == i && q.2.category == 2))) = lv') (hd : decode cc pc = .ok (.lstore_n q, 1)) (kk : VW K σ sz k n (pc + 1) lv' (stk)) : VW K σ sz k n pc lv (.long x :: stk) := by
  obtain ⟨⟨s0, D⟩, ⟨p, l, e, R, s, m⟩, ⟨args, below, meth, c⟩, Q, nL0⟩ := K
  obtain ⟨hx, hb, hr, hml, hown, hts, hlk, hcx, hnl, hR, hs1, hs2⟩ := hX
  subst hv
  subst hnl
  exact fun H locs ls hP hz hlo hl => lv_lstore_n hx hb hd hi hl hn hl' (fun ls' hl2 => kk H locs ls' hP hz hlo hl2)
theorem zr_lstore (hX : zOk K own cc ret nL fr lo mc ms) {i : Nat} {x v : Int64} {lv' : List (Nat × Value)} (hv : x = v) (hn : i + 1 < nL) (hl' : (i, Value.long v) :: lv.filter (fun q => !(q.1 == i) && (!(q.1 == i + 1) && !(q.1 + 1 == i && q.2.category == 2))) = lv') (hd : decode cc pc = .ok (.lstore i, 2)) (kk : VW K σ sz k n (pc + 2) lv' (stk)) : VW K σ sz k n pc lv (.long x :: stk) := by
  obtain ⟨⟨s0, D⟩, ⟨p, l, e, R, s, m⟩, ⟨args, below, meth, c⟩, Q, nL0⟩ := K
  obtain ⟨hx, hb, hr, hml, hown, hts, hlk, hcx, hnl, hR, hs1, hs2⟩ := hX
  subst hv
  subst hnl
  exact fun H locs ls hP hz hlo hl => lv_lstore hx hb hd hl hn hl' (fun ls' hl2 => kk H locs ls' hP hz hlo hl2)
theorem zr_astore_n (hX : zOk K own cc ret nL fr lo mc ms) {i : Nat} {q : Fin 4} {x v : Nat} {lv' : List (Nat × Value)} (hv : x = v) (hi : (q : Nat) = i) (hn : i < nL) (hl' : (i, Value.ref v) :: lv.filter (fun q => !(q.1 == i) && !(q.1 + 1 == i && q.2.category == 2)) = lv') (hd : decode cc pc = .ok (.astore_n q, 1)) (kk : VW K σ sz k n (pc + 1) lv' (stk)) : VW K σ sz k n pc lv (.ref x :: stk) := by
  obtain ⟨⟨s0, D⟩, ⟨p, l, e, R, s, m⟩, ⟨args, below, meth, c⟩, Q, nL0⟩ := K
  obtain ⟨hx, hb, hr, hml, hown, hts, hlk, hcx, hnl, hR, hs1, hs2⟩ := hX
  subst hv
  subst hnl
  exact fun H locs ls hP hz hlo hl => lv_astore_n hx hb hd hi hl hn hl' (fun ls' hl2 => kk H locs ls' hP hz hlo hl2)
theorem zr_astore (hX : zOk K own cc ret nL fr lo mc ms) {i : Nat} {x v : Nat} {lv' : List (Nat × Value)} (hv : x = v) (hn : i < nL) (hl' : (i, Value.ref v) :: lv.filter (fun q => !(q.1 == i) && !(q.1 + 1 == i && q.2.category == 2)) = lv') (hd : decode cc pc = .ok (.astore i, 2)) (kk : VW K σ sz k n (pc + 2) lv' (stk)) : VW K σ sz k n pc lv (.ref x :: stk) := by
  obtain ⟨⟨s0, D⟩, ⟨p, l, e, R, s, m⟩, ⟨args, below, meth, c⟩, Q, nL0⟩ := K
  obtain ⟨hx, hb, hr, hml, hown, hts, hlk, hcx, hnl, hR, hs1, hs2⟩ := hX
  subst hv
  subst hnl
  exact fun H locs ls hP hz hlo hl => lv_astore hx hb hd hl hn hl' (fun ls' hl2 => kk H locs ls' hP hz hlo hl2)
theorem zr_iinc (hX : zOk K own cc ret nL fr lo mc ms) (j : Nat) {i : Nat} {w : Int} {x wv v : Int32} {lv' : List (Nat × Value)} (hj : lv[j]? = some (i, .int x)) (hw : Int32.ofInt w = wv) (hv : x + wv = v) (hn : i < nL) (hl' : (i, Value.int v) :: lv.filter (fun q => !(q.1 == i) && !(q.1 + 1 == i && q.2.category == 2)) = lv') (hd : decode cc pc = .ok (.iinc i w, 3)) (kk : VW K σ sz k n (pc + 3) lv' stk) : VW K σ sz k n pc lv stk := by
  obtain ⟨⟨s0, D⟩, ⟨p, l, e, R, s, m⟩, ⟨args, below, meth, c⟩, Q, nL0⟩ := K
  obtain ⟨hx, hb, hr, hml, hown, hts, hlk, hcx, hnl, hR, hs1, hs2⟩ := hX
  subst hnl
  subst hw
  exact fun H locs ls hP hz hlo hl => lv_iinc hx hb hd hl hj hv hn hl' (fun ls' hl2 => kk H locs ls' hP hz hlo hl2)
theorem zr_if_eq (hX : zOk K own cc ret nL fr lo mc ms) {x : Int32} (tgt : Nat) {off : Int} (ht : (pc : Int) + off = (tgt : Int)) (hd : decode cc pc = .ok (.ifCond .eq off, 3)) (kt : x = 0 → VW K σ sz k n tgt lv (stk)) (kf : ¬ x = 0 → VW K σ sz k n (pc + 3) lv (stk)) : VW K σ sz k n pc lv (.int x :: stk) := by
  obtain ⟨⟨s0, D⟩, ⟨p, l, e, R, s, m⟩, ⟨args, below, meth, c⟩, Q, nL0⟩ := K
  obtain ⟨hx, hb, hr, hml, hown, hts, hlk, hcx, hnl, hR, hs1, hs2⟩ := hX
  exact fun H locs ls hP hz hlo hl => lv_if_eq hx hb hd ht (fun h => kt h H locs ls hP hz hlo hl) (fun h => kf h H locs ls hP hz hlo hl)
theorem zr_icmp_eq (hX : zOk K own cc ret nL fr lo mc ms) {x y : Int32} (tgt : Nat) {off : Int} (ht : (pc : Int) + off = (tgt : Int)) (hd : decode cc pc = .ok (.if_icmp .eq off, 3)) (kt : x = y → VW K σ sz k n tgt lv (stk)) (kf : ¬ x = y → VW K σ sz k n (pc + 3) lv (stk)) : VW K σ sz k n pc lv (.int y :: .int x :: stk) := by
  obtain ⟨⟨s0, D⟩, ⟨p, l, e, R, s, m⟩, ⟨args, below, meth, c⟩, Q, nL0⟩ := K
  obtain ⟨hx, hb, hr, hml, hown, hts, hlk, hcx, hnl, hR, hs1, hs2⟩ := hX
  exact fun H locs ls hP hz hlo hl => lv_icmp_eq hx hb hd ht (fun h => kt h H locs ls hP hz hlo hl) (fun h => kf h H locs ls hP hz hlo hl)
theorem zr_if_ne (hX : zOk K own cc ret nL fr lo mc ms) {x : Int32} (tgt : Nat) {off : Int} (ht : (pc : Int) + off = (tgt : Int)) (hd : decode cc pc = .ok (.ifCond .ne off, 3)) (kt : ¬ x = 0 → VW K σ sz k n tgt lv (stk)) (kf : x = 0 → VW K σ sz k n (pc + 3) lv (stk)) : VW K σ sz k n pc lv (.int x :: stk) := by
  obtain ⟨⟨s0, D⟩, ⟨p, l, e, R, s, m⟩, ⟨args, below, meth, c⟩, Q, nL0⟩ := K
  obtain ⟨hx, hb, hr, hml, hown, hts, hlk, hcx, hnl, hR, hs1, hs2⟩ := hX
  exact fun H locs ls hP hz hlo hl => lv_if_ne hx hb hd ht (fun h => kt h H locs ls hP hz hlo hl) (fun h => kf h H locs ls hP hz hlo hl)
theorem zr_icmp_ne (hX : zOk K own cc ret nL fr lo mc ms) {x y : Int32} (tgt : Nat) {off : Int} (ht : (pc : Int) + off = (tgt : Int)) (hd : decode cc pc = .ok (.if_icmp .ne off, 3)) (kt : ¬ x = y → VW K σ sz k n tgt lv (stk)) (kf : x = y → VW K σ sz k n (pc + 3) lv (stk)) : VW K σ sz k n pc lv (.int y :: .int x :: stk) := by
  obtain ⟨⟨s0, D⟩, ⟨p, l, e, R, s, m⟩, ⟨args, below, meth, c⟩, Q, nL0⟩ := K
  obtain ⟨hx, hb, hr, hml, hown, hts, hlk, hcx, hnl, hR, hs1, hs2⟩ := hX
  exact fun H locs ls hP hz hlo hl => lv_icmp_ne hx hb hd ht (fun h => kt h H locs ls hP hz hlo hl) (fun h => kf h H locs ls hP hz hlo hl)
theorem zr_if_lt (hX : zOk K own cc ret nL fr lo mc ms) {x : Int32} (tgt : Nat) {off : Int} (ht : (pc : Int) + off = (tgt : Int)) (hd : decode cc pc = .ok (.ifCond .lt off, 3)) (kt : x < 0 → VW K σ sz k n tgt lv (stk)) (kf : ¬ x < 0 → VW K σ sz k n (pc + 3) lv (stk)) : VW K σ sz k n pc lv (.int x :: stk) := by
  obtain ⟨⟨s0, D⟩, ⟨p, l, e, R, s, m⟩, ⟨args, below, meth, c⟩, Q, nL0⟩ := K
  obtain ⟨hx, hb, hr, hml, hown, hts, hlk, hcx, hnl, hR, hs1, hs2⟩ := hX
  exact fun H locs ls hP hz hlo hl => lv_if_lt hx hb hd ht (fun h => kt h H locs ls hP hz hlo hl) (fun h => kf h H locs ls hP hz hlo hl)
theorem zr_icmp_lt (hX : zOk K own cc ret nL fr lo mc ms) {x y : Int32} (tgt : Nat) {off : Int} (ht : (pc : Int) + off = (tgt : Int)) (hd : decode cc pc = .ok (.if_icmp .lt off, 3)) (kt : x < y → VW K σ sz k n tgt lv (stk)) (kf : ¬ x < y → VW K σ sz k n (pc + 3) lv (stk)) : VW K σ sz k n pc lv (.int y :: .int x :: stk) := by
  obtain ⟨⟨s0, D⟩, ⟨p, l, e, R, s, m⟩, ⟨args, below, meth, c⟩, Q, nL0⟩ := K
  obtain ⟨hx, hb, hr, hml, hown, hts, hlk, hcx, hnl, hR, hs1, hs2⟩ := hX
  exact fun H locs ls hP hz hlo hl => lv_icmp_lt hx hb hd ht (fun h => kt h H locs ls hP hz hlo hl) (fun h => kf h H locs ls hP hz hlo hl)
theorem zr_if_ge (hX : zOk K own cc ret nL fr lo mc ms) {x : Int32} (tgt : Nat) {off : Int} (ht : (pc : Int) + off = (tgt : Int)) (hd : decode cc pc = .ok (.ifCond .ge off, 3)) (kt : 0 ≤ x → VW K σ sz k n tgt lv (stk)) (kf : ¬ 0 ≤ x → VW K σ sz k n (pc + 3) lv (stk)) : VW K σ sz k n pc lv (.int x :: stk) := by
  obtain ⟨⟨s0, D⟩, ⟨p, l, e, R, s, m⟩, ⟨args, below, meth, c⟩, Q, nL0⟩ := K
  obtain ⟨hx, hb, hr, hml, hown, hts, hlk, hcx, hnl, hR, hs1, hs2⟩ := hX
  exact fun H locs ls hP hz hlo hl => lv_if_ge hx hb hd ht (fun h => kt h H locs ls hP hz hlo hl) (fun h => kf h H locs ls hP hz hlo hl)
theorem zr_icmp_ge (hX : zOk K own cc ret nL fr lo mc ms) {x y : Int32} (tgt : Nat) {off : Int} (ht : (pc : Int) + off = (tgt : Int)) (hd : decode cc pc = .ok (.if_icmp .ge off, 3)) (kt : y ≤ x → VW K σ sz k n tgt lv (stk)) (kf : ¬ y ≤ x → VW K σ sz k n (pc + 3) lv (stk)) : VW K σ sz k n pc lv (.int y :: .int x :: stk) := by
  obtain ⟨⟨s0, D⟩, ⟨p, l, e, R, s, m⟩, ⟨args, below, meth, c⟩, Q, nL0⟩ := K
  obtain ⟨hx, hb, hr, hml, hown, hts, hlk, hcx, hnl, hR, hs1, hs2⟩ := hX
  exact fun H locs ls hP hz hlo hl => lv_icmp_ge hx hb hd ht (fun h => kt h H locs ls hP hz hlo hl) (fun h => kf h H locs ls hP hz hlo hl)
theorem zr_if_gt (hX : zOk K own cc ret nL fr lo mc ms) {x : Int32} (tgt : Nat) {off : Int} (ht : (pc : Int) + off = (tgt : Int)) (hd : decode cc pc = .ok (.ifCond .gt off, 3)) (kt : 0 < x → VW K σ sz k n tgt lv (stk)) (kf : ¬ 0 < x → VW K σ sz k n (pc + 3) lv (stk)) : VW K σ sz k n pc lv (.int x :: stk) := by
  obtain ⟨⟨s0, D⟩, ⟨p, l, e, R, s, m⟩, ⟨args, below, meth, c⟩, Q, nL0⟩ := K
  obtain ⟨hx, hb, hr, hml, hown, hts, hlk, hcx, hnl, hR, hs1, hs2⟩ := hX
  exact fun H locs ls hP hz hlo hl => lv_if_gt hx hb hd ht (fun h => kt h H locs ls hP hz hlo hl) (fun h => kf h H locs ls hP hz hlo hl)
theorem zr_icmp_gt (hX : zOk K own cc ret nL fr lo mc ms) {x y : Int32} (tgt : Nat) {off : Int} (ht : (pc : Int) + off = (tgt : Int)) (hd : decode cc pc = .ok (.if_icmp .gt off, 3)) (kt : y < x → VW K σ sz k n tgt lv (stk)) (kf : ¬ y < x → VW K σ sz k n (pc + 3) lv (stk)) : VW K σ sz k n pc lv (.int y :: .int x :: stk) := by
  obtain ⟨⟨s0, D⟩, ⟨p, l, e, R, s, m⟩, ⟨args, below, meth, c⟩, Q, nL0⟩ := K
  obtain ⟨hx, hb, hr, hml, hown, hts, hlk, hcx, hnl, hR, hs1, hs2⟩ := hX
  exact fun H locs ls hP hz hlo hl => lv_icmp_gt hx hb hd ht (fun h => kt h H locs ls hP hz hlo hl) (fun h => kf h H locs ls hP hz hlo hl)
theorem zr_if_le (hX : zOk K own cc ret nL fr lo mc ms) {x : Int32} (tgt : Nat) {off : Int} (ht : (pc : Int) + off = (tgt : Int)) (hd : decode cc pc = .ok (.ifCond .le off, 3)) (kt : x ≤ 0 → VW K σ sz k n tgt lv (stk)) (kf : ¬ x ≤ 0 → VW K σ sz k n (pc + 3) lv (stk)) : VW K σ sz k n pc lv (.int x :: stk) := by
  obtain ⟨⟨s0, D⟩, ⟨p, l, e, R, s, m⟩, ⟨args, below, meth, c⟩, Q, nL0⟩ := K
  obtain ⟨hx, hb, hr, hml, hown, hts, hlk, hcx, hnl, hR, hs1, hs2⟩ := hX
  exact fun H locs ls hP hz hlo hl => lv_if_le hx hb hd ht (fun h => kt h H locs ls hP hz hlo hl) (fun h => kf h H locs ls hP hz hlo hl)
theorem zr_icmp_le (hX : zOk K own cc ret nL fr lo mc ms) {x y : Int32} (tgt : Nat) {off : Int} (ht : (pc : Int) + off = (tgt : Int)) (hd : decode cc pc = .ok (.if_icmp .le off, 3)) (kt : x ≤ y → VW K σ sz k n tgt lv (stk)) (kf : ¬ x ≤ y → VW K σ sz k n (pc + 3) lv (stk)) : VW K σ sz k n pc lv (.int y :: .int x :: stk) := by
  obtain ⟨⟨s0, D⟩, ⟨p, l, e, R, s, m⟩, ⟨args, below, meth, c⟩, Q, nL0⟩ := K
  obtain ⟨hx, hb, hr, hml, hown, hts, hlk, hcx, hnl, hR, hs1, hs2⟩ := hX
  exact fun H locs ls hP hz hlo hl => lv_icmp_le hx hb hd ht (fun h => kt h H locs ls hP hz hlo hl) (fun h => kf h H locs ls hP hz hlo hl)
theorem zr_acmp_eq (hX : zOk K own cc ret nL fr lo mc ms) {x y : Nat} (tgt : Nat) {off : Int} (ht : (pc : Int) + off = (tgt : Int)) (hd : decode cc pc = .ok (.if_acmp .eq off, 3)) (kt : x = y → VW K σ sz k n tgt lv (stk)) (kf : ¬ x = y → VW K σ sz k n (pc + 3) lv (stk)) : VW K σ sz k n pc lv (.ref y :: .ref x :: stk) := by
  obtain ⟨⟨s0, D⟩, ⟨p, l, e, R, s, m⟩, ⟨args, below, meth, c⟩, Q, nL0⟩ := K
  obtain ⟨hx, hb, hr, hml, hown, hts, hlk, hcx, hnl, hR, hs1, hs2⟩ := hX
  exact fun H locs ls hP hz hlo hl => lv_acmp_eq (rx := some x) (ry := some y) hx hb hd ht (fun h => kt (by simpa using h) H locs ls hP hz hlo hl) (fun h => kf (by simpa using h) H locs ls hP hz hlo hl)
theorem zr_acmp_ne (hX : zOk K own cc ret nL fr lo mc ms) {x y : Nat} (tgt : Nat) {off : Int} (ht : (pc : Int) + off = (tgt : Int)) (hd : decode cc pc = .ok (.if_acmp .ne off, 3)) (kt : ¬ x = y → VW K σ sz k n tgt lv (stk)) (kf : x = y → VW K σ sz k n (pc + 3) lv (stk)) : VW K σ sz k n pc lv (.ref y :: .ref x :: stk) := by
  obtain ⟨⟨s0, D⟩, ⟨p, l, e, R, s, m⟩, ⟨args, below, meth, c⟩, Q, nL0⟩ := K
  obtain ⟨hx, hb, hr, hml, hown, hts, hlk, hcx, hnl, hR, hs1, hs2⟩ := hX
  exact fun H locs ls hP hz hlo hl => lv_acmp_ne (rx := some x) (ry := some y) hx hb hd ht (fun h => kt (by simpa using h) H locs ls hP hz hlo hl) (fun h => kf (by simpa using h) H locs ls hP hz hlo hl)
theorem zr_goto (hX : zOk K own cc ret nL fr lo mc ms) (tgt : Nat) {off : Int} (ht : (pc : Int) + off = (tgt : Int)) (hd : decode cc pc = .ok (.goto off, 3)) (kk : VW K σ sz k n tgt lv (stk)) : VW K σ sz k n pc lv (stk) := by
  obtain ⟨⟨s0, D⟩, ⟨p, l, e, R, s, m⟩, ⟨args, below, meth, c⟩, Q, nL0⟩ := K
  obtain ⟨hx, hb, hr, hml, hown, hts, hlk, hcx, hnl, hR, hs1, hs2⟩ := hX
  exact fun H locs ls hP hz hlo hl => lv_goto hx hb hd ht (kk H locs ls hP hz hlo hl)
theorem zr_tableOut (hX : zOk K own cc ret nL fr lo mc ms) {x : Int32} {dflt lo' hi' : Int} {offs : Array Int} {len : Nat} (tgt : Nat) (h : x.toInt < lo' ∨ hi' < x.toInt) (ht : (pc : Int) + dflt = (tgt : Int)) (hd : decode cc pc = .ok (.tableswitch dflt lo' hi' offs, len)) (kk : VW K σ sz k n tgt lv (stk)) : VW K σ sz k n pc lv (.int x :: stk) := by
  obtain ⟨⟨s0, D⟩, ⟨p, l, e, R, s, m⟩, ⟨args, below, meth, c⟩, Q, nL0⟩ := K
  obtain ⟨hx, hb, hr, hml, hown, hts, hlk, hcx, hnl, hR, hs1, hs2⟩ := hX
  exact fun H locs ls hP hz hlo hl => lv_tableOut hx hb hd h ht (kk H locs ls hP hz hlo hl)
theorem zr_tableIn (hX : zOk K own cc ret nL fr lo mc ms) {x : Int32} {dflt lo' hi' off : Int} {offs : Array Int} {len : Nat} (tgt : Nat) (h1 : ¬ x.toInt < lo') (h2 : ¬ hi' < x.toInt) (ho : offs[(x.toInt - lo').toNat]? = some off) (ht : (pc : Int) + off = (tgt : Int)) (hd : decode cc pc = .ok (.tableswitch dflt lo' hi' offs, len)) (kk : VW K σ sz k n tgt lv (stk)) : VW K σ sz k n pc lv (.int x :: stk) := by
  obtain ⟨⟨s0, D⟩, ⟨p, l, e, R, s, m⟩, ⟨args, below, meth, c⟩, Q, nL0⟩ := K
  obtain ⟨hx, hb, hr, hml, hown, hts, hlk, hcx, hnl, hR, hs1, hs2⟩ := hX
  exact fun H locs ls hP hz hlo hl => lv_tableIn hx hb hd h1 h2 ho ht (kk H locs ls hP hz hlo hl)
end ZR
