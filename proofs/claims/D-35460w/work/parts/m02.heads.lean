/-! DECODE ROWS BY BYTES: one lemma an opcode; a method's code is cut into short pieces once, and a row reads its own piece alone. -/
set_option maxRecDepth 100000
/-- the code has just these bytes from pc on -/
def DkAt (code : ByteArray) (pc : Nat) (bs : List UInt8) : Prop := ∀ (j : Nat) (b : UInt8), bs[j]? = some b → code.data.toList[pc + j]? = some b
/-- the piece W has the bytes bs from its place j on -/
def dkIn (W : List UInt8) (j : Nat) (bs : List UInt8) : Bool := decide ((W.drop j).take bs.length = bs)
theorem dk_seg {l W T : List UInt8} {o o2 : Nat} (h : l.drop o = W ++ T) (n : Nat) (hn : W.length = n) (ho : o + n = o2) : l.drop o2 = T := by
  subst ho
  rw [← List.drop_drop, h, List.drop_left' hn]
theorem dk_at {code : ByteArray} {W T bs : List UInt8} {o pc : Nat} (h : code.data.toList.drop o = W ++ T) (j : Nat) (hp : o + j = pc) (hw : dkIn W j bs = true) : DkAt code pc bs := by
  subst hp
  intro i b e
  have h1 := of_decide_eq_true hw
  have h2 : i < bs.length := (List.getElem?_eq_some_iff.mp e).1
  have h3 : W[j + i]? = some b := by
    rw [← h1, List.getElem?_take, if_pos h2, List.getElem?_drop] at e
    exact e
  have h4 : j + i < W.length := (List.getElem?_eq_some_iff.mp h3).1
  have h5 : (code.data.toList.drop o)[j + i]? = some b := by
    rw [h, List.getElem?_append_left h4]
    exact h3
  rw [List.getElem?_drop, ← Nat.add_assoc] at h5
  exact h5
theorem dk_u1 {A : ByteArray} {p : Nat} {b : UInt8} (h : A.data.toList[p]? = some b) : (Reader.u1 : Reader DecodeError Nat) A p = .ok (b.toNat, p + 1) := by
  obtain ⟨h1, h2⟩ := List.getElem?_eq_some_iff.mp h
  have h3 : p < A.size := by simpa using h1
  have h4 : A[p]'h3 = b := h2
  have e : (Reader.u1 : Reader DecodeError Nat) A p = (if h : p < A.size then .ok (A[p].toNat, p + 1) else .error (HasTruncated.truncated p)) := by
    show (do if h : p < A.size then do set (p + 1); Pure.pure A[p].toNat else MonadExcept.throw (HasTruncated.truncated p) : Reader DecodeError Nat) A p = _
    by_cases hi : p < A.size
    · rw [dif_pos hi, dif_pos hi]; rfl
    · rw [dif_neg hi, dif_neg hi]; rfl
  rw [e, dif_pos h3, h4]
theorem dk_bind {α β : Type} {r : Reader DecodeError α} {f : α → Reader DecodeError β} {A : ByteArray} {p s : Nat} {a : α} (h : r A p = .ok (a, s)) : (r >>= f) A p = f a A s := by
  show (do let (a, s) ← r A p; f a A s : Except DecodeError (β × Nat)) = _
  rw [h]
  rfl
theorem dk_map {α β : Type} {r : Reader DecodeError α} {g : α → β} {A : ByteArray} {p s : Nat} {a : α} (h : r A p = .ok (a, s)) : (g <$> r) A p = .ok (g a, s) := by
  show (do let (a, s) ← r A p; .ok (g a, s) : Except DecodeError (β × Nat)) = _
  rw [h]
  rfl
theorem dk_u2 {A : ByteArray} {p : Nat} {a b : UInt8} (h : A.data.toList[p]? = some a) (h2 : A.data.toList[p + 1]? = some b) : (Reader.u2 : Reader DecodeError Nat) A p = .ok (a.toNat * 256 + b.toNat, p + 2) := by
  show (Reader.u1 >>= fun hi => Reader.u1 >>= fun lo => Pure.pure (hi * 256 + lo) : Reader DecodeError Nat) A p = _
  rw [dk_bind (dk_u1 h), dk_bind (dk_u1 h2)]
  rfl
theorem dk_of {code : ByteArray} {pc n : Nat} {i : Instr} (h : Decoder.instr pc code pc = .ok (i, pc + n)) : decode code pc = .ok (i, n) := by
  have e : decode code pc = (match Decoder.instr pc code pc with | .error x => .error x | .ok (j, s) => .ok (j, s - pc)) := by
    show (do let (j, s) ← Decoder.instr pc code pc; Pure.pure (j, s - pc) : Except DecodeError (Instr × Nat)) = _
    cases Decoder.instr pc code pc <;> rfl
  rw [e, h]
  show Except.ok (i, pc + n - pc) = _
  rw [Nat.add_sub_cancel_left]
theorem dk_1 {code : ByteArray} {pc : Nat} (h : DkAt code pc [1]) : decode code pc = .ok (.aconst_null, 1) := dk_of ((dk_bind (dk_u1 (h 0 _ rfl))).trans rfl)
theorem dk_2 {code : ByteArray} {pc : Nat} (h : DkAt code pc [2]) : decode code pc = .ok (.iconst (-1), 1) := dk_of ((dk_bind (dk_u1 (h 0 _ rfl))).trans rfl)
theorem dk_3 {code : ByteArray} {pc : Nat} (h : DkAt code pc [3]) : decode code pc = .ok (.iconst 0, 1) := dk_of ((dk_bind (dk_u1 (h 0 _ rfl))).trans rfl)
theorem dk_4 {code : ByteArray} {pc : Nat} (h : DkAt code pc [4]) : decode code pc = .ok (.iconst 1, 1) := dk_of ((dk_bind (dk_u1 (h 0 _ rfl))).trans rfl)
theorem dk_5 {code : ByteArray} {pc : Nat} (h : DkAt code pc [5]) : decode code pc = .ok (.iconst 2, 1) := dk_of ((dk_bind (dk_u1 (h 0 _ rfl))).trans rfl)
theorem dk_6 {code : ByteArray} {pc : Nat} (h : DkAt code pc [6]) : decode code pc = .ok (.iconst 3, 1) := dk_of ((dk_bind (dk_u1 (h 0 _ rfl))).trans rfl)
theorem dk_7 {code : ByteArray} {pc : Nat} (h : DkAt code pc [7]) : decode code pc = .ok (.iconst 4, 1) := dk_of ((dk_bind (dk_u1 (h 0 _ rfl))).trans rfl)
theorem dk_8 {code : ByteArray} {pc : Nat} (h : DkAt code pc [8]) : decode code pc = .ok (.iconst 5, 1) := dk_of ((dk_bind (dk_u1 (h 0 _ rfl))).trans rfl)
theorem dk_9 {code : ByteArray} {pc : Nat} (h : DkAt code pc [9]) : decode code pc = .ok (.lconst 0, 1) := dk_of ((dk_bind (dk_u1 (h 0 _ rfl))).trans rfl)
theorem dk_10 {code : ByteArray} {pc : Nat} (h : DkAt code pc [10]) : decode code pc = .ok (.lconst 1, 1) := dk_of ((dk_bind (dk_u1 (h 0 _ rfl))).trans rfl)
theorem dk_16 {code : ByteArray} {pc : Nat} (a : UInt8) (h : DkAt code pc [16, a]) : decode code pc = .ok (.bipush (Reader.signed 8 a.toNat), 2) := dk_of ((dk_bind (dk_u1 (h 0 _ rfl))).trans ((dk_bind (dk_map (dk_u1 (h 1 _ rfl)))).trans rfl))
theorem dk_17 {code : ByteArray} {pc : Nat} (a b : UInt8) (h : DkAt code pc [17, a, b]) : decode code pc = .ok (.sipush (Reader.signed 16 (a.toNat * 256 + b.toNat)), 3) := dk_of ((dk_bind (dk_u1 (h 0 _ rfl))).trans ((dk_bind (dk_map (dk_u2 (h 1 _ rfl) (h 2 _ rfl)))).trans rfl))
theorem dk_18 {code : ByteArray} {pc : Nat} (a : UInt8) (h : DkAt code pc [18, a]) : decode code pc = .ok (.ldc a.toNat, 2) := dk_of ((dk_bind (dk_u1 (h 0 _ rfl))).trans ((dk_bind (dk_u1 (h 1 _ rfl))).trans rfl))
theorem dk_19 {code : ByteArray} {pc : Nat} (a b : UInt8) (h : DkAt code pc [19, a, b]) : decode code pc = .ok (.ldc_w (a.toNat * 256 + b.toNat), 3) := dk_of ((dk_bind (dk_u1 (h 0 _ rfl))).trans ((dk_bind (dk_u2 (h 1 _ rfl) (h 2 _ rfl))).trans rfl))
theorem dk_20 {code : ByteArray} {pc : Nat} (a b : UInt8) (h : DkAt code pc [20, a, b]) : decode code pc = .ok (.ldc2_w (a.toNat * 256 + b.toNat), 3) := dk_of ((dk_bind (dk_u1 (h 0 _ rfl))).trans ((dk_bind (dk_u2 (h 1 _ rfl) (h 2 _ rfl))).trans rfl))
theorem dk_21 {code : ByteArray} {pc : Nat} (a : UInt8) (h : DkAt code pc [21, a]) : decode code pc = .ok (.iload a.toNat, 2) := dk_of ((dk_bind (dk_u1 (h 0 _ rfl))).trans ((dk_bind (dk_u1 (h 1 _ rfl))).trans rfl))
theorem dk_25 {code : ByteArray} {pc : Nat} (a : UInt8) (h : DkAt code pc [25, a]) : decode code pc = .ok (.aload a.toNat, 2) := dk_of ((dk_bind (dk_u1 (h 0 _ rfl))).trans ((dk_bind (dk_u1 (h 1 _ rfl))).trans rfl))
theorem dk_26 {code : ByteArray} {pc : Nat} (h : DkAt code pc [26]) : decode code pc = .ok (.iload_n 0, 1) := dk_of ((dk_bind (dk_u1 (h 0 _ rfl))).trans rfl)
theorem dk_27 {code : ByteArray} {pc : Nat} (h : DkAt code pc [27]) : decode code pc = .ok (.iload_n 1, 1) := dk_of ((dk_bind (dk_u1 (h 0 _ rfl))).trans rfl)
theorem dk_28 {code : ByteArray} {pc : Nat} (h : DkAt code pc [28]) : decode code pc = .ok (.iload_n 2, 1) := dk_of ((dk_bind (dk_u1 (h 0 _ rfl))).trans rfl)
theorem dk_29 {code : ByteArray} {pc : Nat} (h : DkAt code pc [29]) : decode code pc = .ok (.iload_n 3, 1) := dk_of ((dk_bind (dk_u1 (h 0 _ rfl))).trans rfl)
theorem dk_31 {code : ByteArray} {pc : Nat} (h : DkAt code pc [31]) : decode code pc = .ok (.lload_n 1, 1) := dk_of ((dk_bind (dk_u1 (h 0 _ rfl))).trans rfl)
theorem dk_42 {code : ByteArray} {pc : Nat} (h : DkAt code pc [42]) : decode code pc = .ok (.aload_n 0, 1) := dk_of ((dk_bind (dk_u1 (h 0 _ rfl))).trans rfl)
theorem dk_43 {code : ByteArray} {pc : Nat} (h : DkAt code pc [43]) : decode code pc = .ok (.aload_n 1, 1) := dk_of ((dk_bind (dk_u1 (h 0 _ rfl))).trans rfl)
theorem dk_44 {code : ByteArray} {pc : Nat} (h : DkAt code pc [44]) : decode code pc = .ok (.aload_n 2, 1) := dk_of ((dk_bind (dk_u1 (h 0 _ rfl))).trans rfl)
theorem dk_45 {code : ByteArray} {pc : Nat} (h : DkAt code pc [45]) : decode code pc = .ok (.aload_n 3, 1) := dk_of ((dk_bind (dk_u1 (h 0 _ rfl))).trans rfl)
theorem dk_46 {code : ByteArray} {pc : Nat} (h : DkAt code pc [46]) : decode code pc = .ok (.iaload, 1) := dk_of ((dk_bind (dk_u1 (h 0 _ rfl))).trans rfl)
theorem dk_47 {code : ByteArray} {pc : Nat} (h : DkAt code pc [47]) : decode code pc = .ok (.laload, 1) := dk_of ((dk_bind (dk_u1 (h 0 _ rfl))).trans rfl)
theorem dk_50 {code : ByteArray} {pc : Nat} (h : DkAt code pc [50]) : decode code pc = .ok (.aaload, 1) := dk_of ((dk_bind (dk_u1 (h 0 _ rfl))).trans rfl)
theorem dk_51 {code : ByteArray} {pc : Nat} (h : DkAt code pc [51]) : decode code pc = .ok (.baload, 1) := dk_of ((dk_bind (dk_u1 (h 0 _ rfl))).trans rfl)
theorem dk_54 {code : ByteArray} {pc : Nat} (a : UInt8) (h : DkAt code pc [54, a]) : decode code pc = .ok (.istore a.toNat, 2) := dk_of ((dk_bind (dk_u1 (h 0 _ rfl))).trans ((dk_bind (dk_u1 (h 1 _ rfl))).trans rfl))
theorem dk_58 {code : ByteArray} {pc : Nat} (a : UInt8) (h : DkAt code pc [58, a]) : decode code pc = .ok (.astore a.toNat, 2) := dk_of ((dk_bind (dk_u1 (h 0 _ rfl))).trans ((dk_bind (dk_u1 (h 1 _ rfl))).trans rfl))
theorem dk_59 {code : ByteArray} {pc : Nat} (h : DkAt code pc [59]) : decode code pc = .ok (.istore_n 0, 1) := dk_of ((dk_bind (dk_u1 (h 0 _ rfl))).trans rfl)
theorem dk_60 {code : ByteArray} {pc : Nat} (h : DkAt code pc [60]) : decode code pc = .ok (.istore_n 1, 1) := dk_of ((dk_bind (dk_u1 (h 0 _ rfl))).trans rfl)
theorem dk_61 {code : ByteArray} {pc : Nat} (h : DkAt code pc [61]) : decode code pc = .ok (.istore_n 2, 1) := dk_of ((dk_bind (dk_u1 (h 0 _ rfl))).trans rfl)
theorem dk_62 {code : ByteArray} {pc : Nat} (h : DkAt code pc [62]) : decode code pc = .ok (.istore_n 3, 1) := dk_of ((dk_bind (dk_u1 (h 0 _ rfl))).trans rfl)
theorem dk_64 {code : ByteArray} {pc : Nat} (h : DkAt code pc [64]) : decode code pc = .ok (.lstore_n 1, 1) := dk_of ((dk_bind (dk_u1 (h 0 _ rfl))).trans rfl)
theorem dk_76 {code : ByteArray} {pc : Nat} (h : DkAt code pc [76]) : decode code pc = .ok (.astore_n 1, 1) := dk_of ((dk_bind (dk_u1 (h 0 _ rfl))).trans rfl)
theorem dk_77 {code : ByteArray} {pc : Nat} (h : DkAt code pc [77]) : decode code pc = .ok (.astore_n 2, 1) := dk_of ((dk_bind (dk_u1 (h 0 _ rfl))).trans rfl)
theorem dk_78 {code : ByteArray} {pc : Nat} (h : DkAt code pc [78]) : decode code pc = .ok (.astore_n 3, 1) := dk_of ((dk_bind (dk_u1 (h 0 _ rfl))).trans rfl)
theorem dk_79 {code : ByteArray} {pc : Nat} (h : DkAt code pc [79]) : decode code pc = .ok (.iastore, 1) := dk_of ((dk_bind (dk_u1 (h 0 _ rfl))).trans rfl)
theorem dk_80 {code : ByteArray} {pc : Nat} (h : DkAt code pc [80]) : decode code pc = .ok (.lastore, 1) := dk_of ((dk_bind (dk_u1 (h 0 _ rfl))).trans rfl)
theorem dk_83 {code : ByteArray} {pc : Nat} (h : DkAt code pc [83]) : decode code pc = .ok (.aastore, 1) := dk_of ((dk_bind (dk_u1 (h 0 _ rfl))).trans rfl)
theorem dk_84 {code : ByteArray} {pc : Nat} (h : DkAt code pc [84]) : decode code pc = .ok (.bastore, 1) := dk_of ((dk_bind (dk_u1 (h 0 _ rfl))).trans rfl)
theorem dk_87 {code : ByteArray} {pc : Nat} (h : DkAt code pc [87]) : decode code pc = .ok (.pop, 1) := dk_of ((dk_bind (dk_u1 (h 0 _ rfl))).trans rfl)
theorem dk_89 {code : ByteArray} {pc : Nat} (h : DkAt code pc [89]) : decode code pc = .ok (.dup, 1) := dk_of ((dk_bind (dk_u1 (h 0 _ rfl))).trans rfl)
theorem dk_90 {code : ByteArray} {pc : Nat} (h : DkAt code pc [90]) : decode code pc = .ok (.dup_x1, 1) := dk_of ((dk_bind (dk_u1 (h 0 _ rfl))).trans rfl)
theorem dk_92 {code : ByteArray} {pc : Nat} (h : DkAt code pc [92]) : decode code pc = .ok (.dup2, 1) := dk_of ((dk_bind (dk_u1 (h 0 _ rfl))).trans rfl)
theorem dk_96 {code : ByteArray} {pc : Nat} (h : DkAt code pc [96]) : decode code pc = .ok (.iadd, 1) := dk_of ((dk_bind (dk_u1 (h 0 _ rfl))).trans rfl)
theorem dk_100 {code : ByteArray} {pc : Nat} (h : DkAt code pc [100]) : decode code pc = .ok (.isub, 1) := dk_of ((dk_bind (dk_u1 (h 0 _ rfl))).trans rfl)
theorem dk_104 {code : ByteArray} {pc : Nat} (h : DkAt code pc [104]) : decode code pc = .ok (.imul, 1) := dk_of ((dk_bind (dk_u1 (h 0 _ rfl))).trans rfl)
theorem dk_105 {code : ByteArray} {pc : Nat} (h : DkAt code pc [105]) : decode code pc = .ok (.lmul, 1) := dk_of ((dk_bind (dk_u1 (h 0 _ rfl))).trans rfl)
theorem dk_108 {code : ByteArray} {pc : Nat} (h : DkAt code pc [108]) : decode code pc = .ok (.idiv, 1) := dk_of ((dk_bind (dk_u1 (h 0 _ rfl))).trans rfl)
theorem dk_112 {code : ByteArray} {pc : Nat} (h : DkAt code pc [112]) : decode code pc = .ok (.irem, 1) := dk_of ((dk_bind (dk_u1 (h 0 _ rfl))).trans rfl)
theorem dk_120 {code : ByteArray} {pc : Nat} (h : DkAt code pc [120]) : decode code pc = .ok (.ishl, 1) := dk_of ((dk_bind (dk_u1 (h 0 _ rfl))).trans rfl)
theorem dk_122 {code : ByteArray} {pc : Nat} (h : DkAt code pc [122]) : decode code pc = .ok (.ishr, 1) := dk_of ((dk_bind (dk_u1 (h 0 _ rfl))).trans rfl)
theorem dk_124 {code : ByteArray} {pc : Nat} (h : DkAt code pc [124]) : decode code pc = .ok (.iushr, 1) := dk_of ((dk_bind (dk_u1 (h 0 _ rfl))).trans rfl)
theorem dk_126 {code : ByteArray} {pc : Nat} (h : DkAt code pc [126]) : decode code pc = .ok (.iand, 1) := dk_of ((dk_bind (dk_u1 (h 0 _ rfl))).trans rfl)
theorem dk_128 {code : ByteArray} {pc : Nat} (h : DkAt code pc [128]) : decode code pc = .ok (.ior, 1) := dk_of ((dk_bind (dk_u1 (h 0 _ rfl))).trans rfl)
theorem dk_130 {code : ByteArray} {pc : Nat} (h : DkAt code pc [130]) : decode code pc = .ok (.ixor, 1) := dk_of ((dk_bind (dk_u1 (h 0 _ rfl))).trans rfl)
theorem dk_132 {code : ByteArray} {pc : Nat} (a b : UInt8) (h : DkAt code pc [132, a, b]) : decode code pc = .ok (.iinc a.toNat (Reader.signed 8 b.toNat), 3) := dk_of ((dk_bind (dk_u1 (h 0 _ rfl))).trans ((dk_bind (dk_u1 (h 1 _ rfl))).trans ((dk_bind (dk_map (dk_u1 (h 2 _ rfl)))).trans rfl)))
theorem dk_133 {code : ByteArray} {pc : Nat} (h : DkAt code pc [133]) : decode code pc = .ok (.i2l, 1) := dk_of ((dk_bind (dk_u1 (h 0 _ rfl))).trans rfl)
theorem dk_148 {code : ByteArray} {pc : Nat} (h : DkAt code pc [148]) : decode code pc = .ok (.lcmp, 1) := dk_of ((dk_bind (dk_u1 (h 0 _ rfl))).trans rfl)
theorem dk_153 {code : ByteArray} {pc : Nat} (a b : UInt8) (h : DkAt code pc [153, a, b]) : decode code pc = .ok (.ifCond .eq (Reader.signed 16 (a.toNat * 256 + b.toNat)), 3) := dk_of ((dk_bind (dk_u1 (h 0 _ rfl))).trans ((dk_bind (dk_map (dk_u2 (h 1 _ rfl) (h 2 _ rfl)))).trans rfl))
theorem dk_154 {code : ByteArray} {pc : Nat} (a b : UInt8) (h : DkAt code pc [154, a, b]) : decode code pc = .ok (.ifCond .ne (Reader.signed 16 (a.toNat * 256 + b.toNat)), 3) := dk_of ((dk_bind (dk_u1 (h 0 _ rfl))).trans ((dk_bind (dk_map (dk_u2 (h 1 _ rfl) (h 2 _ rfl)))).trans rfl))
theorem dk_155 {code : ByteArray} {pc : Nat} (a b : UInt8) (h : DkAt code pc [155, a, b]) : decode code pc = .ok (.ifCond .lt (Reader.signed 16 (a.toNat * 256 + b.toNat)), 3) := dk_of ((dk_bind (dk_u1 (h 0 _ rfl))).trans ((dk_bind (dk_map (dk_u2 (h 1 _ rfl) (h 2 _ rfl)))).trans rfl))
theorem dk_156 {code : ByteArray} {pc : Nat} (a b : UInt8) (h : DkAt code pc [156, a, b]) : decode code pc = .ok (.ifCond .ge (Reader.signed 16 (a.toNat * 256 + b.toNat)), 3) := dk_of ((dk_bind (dk_u1 (h 0 _ rfl))).trans ((dk_bind (dk_map (dk_u2 (h 1 _ rfl) (h 2 _ rfl)))).trans rfl))
theorem dk_157 {code : ByteArray} {pc : Nat} (a b : UInt8) (h : DkAt code pc [157, a, b]) : decode code pc = .ok (.ifCond .gt (Reader.signed 16 (a.toNat * 256 + b.toNat)), 3) := dk_of ((dk_bind (dk_u1 (h 0 _ rfl))).trans ((dk_bind (dk_map (dk_u2 (h 1 _ rfl) (h 2 _ rfl)))).trans rfl))
theorem dk_158 {code : ByteArray} {pc : Nat} (a b : UInt8) (h : DkAt code pc [158, a, b]) : decode code pc = .ok (.ifCond .le (Reader.signed 16 (a.toNat * 256 + b.toNat)), 3) := dk_of ((dk_bind (dk_u1 (h 0 _ rfl))).trans ((dk_bind (dk_map (dk_u2 (h 1 _ rfl) (h 2 _ rfl)))).trans rfl))
theorem dk_159 {code : ByteArray} {pc : Nat} (a b : UInt8) (h : DkAt code pc [159, a, b]) : decode code pc = .ok (.if_icmp .eq (Reader.signed 16 (a.toNat * 256 + b.toNat)), 3) := dk_of ((dk_bind (dk_u1 (h 0 _ rfl))).trans ((dk_bind (dk_map (dk_u2 (h 1 _ rfl) (h 2 _ rfl)))).trans rfl))
theorem dk_160 {code : ByteArray} {pc : Nat} (a b : UInt8) (h : DkAt code pc [160, a, b]) : decode code pc = .ok (.if_icmp .ne (Reader.signed 16 (a.toNat * 256 + b.toNat)), 3) := dk_of ((dk_bind (dk_u1 (h 0 _ rfl))).trans ((dk_bind (dk_map (dk_u2 (h 1 _ rfl) (h 2 _ rfl)))).trans rfl))
theorem dk_161 {code : ByteArray} {pc : Nat} (a b : UInt8) (h : DkAt code pc [161, a, b]) : decode code pc = .ok (.if_icmp .lt (Reader.signed 16 (a.toNat * 256 + b.toNat)), 3) := dk_of ((dk_bind (dk_u1 (h 0 _ rfl))).trans ((dk_bind (dk_map (dk_u2 (h 1 _ rfl) (h 2 _ rfl)))).trans rfl))
theorem dk_162 {code : ByteArray} {pc : Nat} (a b : UInt8) (h : DkAt code pc [162, a, b]) : decode code pc = .ok (.if_icmp .ge (Reader.signed 16 (a.toNat * 256 + b.toNat)), 3) := dk_of ((dk_bind (dk_u1 (h 0 _ rfl))).trans ((dk_bind (dk_map (dk_u2 (h 1 _ rfl) (h 2 _ rfl)))).trans rfl))
theorem dk_163 {code : ByteArray} {pc : Nat} (a b : UInt8) (h : DkAt code pc [163, a, b]) : decode code pc = .ok (.if_icmp .gt (Reader.signed 16 (a.toNat * 256 + b.toNat)), 3) := dk_of ((dk_bind (dk_u1 (h 0 _ rfl))).trans ((dk_bind (dk_map (dk_u2 (h 1 _ rfl) (h 2 _ rfl)))).trans rfl))
theorem dk_164 {code : ByteArray} {pc : Nat} (a b : UInt8) (h : DkAt code pc [164, a, b]) : decode code pc = .ok (.if_icmp .le (Reader.signed 16 (a.toNat * 256 + b.toNat)), 3) := dk_of ((dk_bind (dk_u1 (h 0 _ rfl))).trans ((dk_bind (dk_map (dk_u2 (h 1 _ rfl) (h 2 _ rfl)))).trans rfl))
theorem dk_165 {code : ByteArray} {pc : Nat} (a b : UInt8) (h : DkAt code pc [165, a, b]) : decode code pc = .ok (.if_acmp .eq (Reader.signed 16 (a.toNat * 256 + b.toNat)), 3) := dk_of ((dk_bind (dk_u1 (h 0 _ rfl))).trans ((dk_bind (dk_map (dk_u2 (h 1 _ rfl) (h 2 _ rfl)))).trans rfl))
theorem dk_166 {code : ByteArray} {pc : Nat} (a b : UInt8) (h : DkAt code pc [166, a, b]) : decode code pc = .ok (.if_acmp .ne (Reader.signed 16 (a.toNat * 256 + b.toNat)), 3) := dk_of ((dk_bind (dk_u1 (h 0 _ rfl))).trans ((dk_bind (dk_map (dk_u2 (h 1 _ rfl) (h 2 _ rfl)))).trans rfl))
theorem dk_167 {code : ByteArray} {pc : Nat} (a b : UInt8) (h : DkAt code pc [167, a, b]) : decode code pc = .ok (.goto (Reader.signed 16 (a.toNat * 256 + b.toNat)), 3) := dk_of ((dk_bind (dk_u1 (h 0 _ rfl))).trans ((dk_bind (dk_map (dk_u2 (h 1 _ rfl) (h 2 _ rfl)))).trans rfl))
theorem dk_172 {code : ByteArray} {pc : Nat} (h : DkAt code pc [172]) : decode code pc = .ok (.ireturn, 1) := dk_of ((dk_bind (dk_u1 (h 0 _ rfl))).trans rfl)
theorem dk_173 {code : ByteArray} {pc : Nat} (h : DkAt code pc [173]) : decode code pc = .ok (.lreturn, 1) := dk_of ((dk_bind (dk_u1 (h 0 _ rfl))).trans rfl)
theorem dk_176 {code : ByteArray} {pc : Nat} (h : DkAt code pc [176]) : decode code pc = .ok (.areturn, 1) := dk_of ((dk_bind (dk_u1 (h 0 _ rfl))).trans rfl)
theorem dk_177 {code : ByteArray} {pc : Nat} (h : DkAt code pc [177]) : decode code pc = .ok (.return_, 1) := dk_of ((dk_bind (dk_u1 (h 0 _ rfl))).trans rfl)
theorem dk_178 {code : ByteArray} {pc : Nat} (a b : UInt8) (h : DkAt code pc [178, a, b]) : decode code pc = .ok (.getstatic (a.toNat * 256 + b.toNat), 3) := dk_of ((dk_bind (dk_u1 (h 0 _ rfl))).trans ((dk_bind (dk_u2 (h 1 _ rfl) (h 2 _ rfl))).trans rfl))
theorem dk_180 {code : ByteArray} {pc : Nat} (a b : UInt8) (h : DkAt code pc [180, a, b]) : decode code pc = .ok (.getfield (a.toNat * 256 + b.toNat), 3) := dk_of ((dk_bind (dk_u1 (h 0 _ rfl))).trans ((dk_bind (dk_u2 (h 1 _ rfl) (h 2 _ rfl))).trans rfl))
theorem dk_181 {code : ByteArray} {pc : Nat} (a b : UInt8) (h : DkAt code pc [181, a, b]) : decode code pc = .ok (.putfield (a.toNat * 256 + b.toNat), 3) := dk_of ((dk_bind (dk_u1 (h 0 _ rfl))).trans ((dk_bind (dk_u2 (h 1 _ rfl) (h 2 _ rfl))).trans rfl))
theorem dk_182 {code : ByteArray} {pc : Nat} (a b : UInt8) (h : DkAt code pc [182, a, b]) : decode code pc = .ok (.invokevirtual (a.toNat * 256 + b.toNat), 3) := dk_of ((dk_bind (dk_u1 (h 0 _ rfl))).trans ((dk_bind (dk_u2 (h 1 _ rfl) (h 2 _ rfl))).trans rfl))
theorem dk_183 {code : ByteArray} {pc : Nat} (a b : UInt8) (h : DkAt code pc [183, a, b]) : decode code pc = .ok (.invokespecial (a.toNat * 256 + b.toNat), 3) := dk_of ((dk_bind (dk_u1 (h 0 _ rfl))).trans ((dk_bind (dk_u2 (h 1 _ rfl) (h 2 _ rfl))).trans rfl))
theorem dk_184 {code : ByteArray} {pc : Nat} (a b : UInt8) (h : DkAt code pc [184, a, b]) : decode code pc = .ok (.invokestatic (a.toNat * 256 + b.toNat), 3) := dk_of ((dk_bind (dk_u1 (h 0 _ rfl))).trans ((dk_bind (dk_u2 (h 1 _ rfl) (h 2 _ rfl))).trans rfl))
theorem dk_187 {code : ByteArray} {pc : Nat} (a b : UInt8) (h : DkAt code pc [187, a, b]) : decode code pc = .ok (.new (a.toNat * 256 + b.toNat), 3) := dk_of ((dk_bind (dk_u1 (h 0 _ rfl))).trans ((dk_bind (dk_u2 (h 1 _ rfl) (h 2 _ rfl))).trans rfl))
theorem dk_188_4 {code : ByteArray} {pc : Nat} (h : DkAt code pc [188, 4]) : decode code pc = .ok (.newarray .boolean, 2) := dk_of ((dk_bind (dk_u1 (h 0 _ rfl))).trans ((dk_bind (dk_u1 (h 1 _ rfl))).trans rfl))
theorem dk_188_10 {code : ByteArray} {pc : Nat} (h : DkAt code pc [188, 10]) : decode code pc = .ok (.newarray .int, 2) := dk_of ((dk_bind (dk_u1 (h 0 _ rfl))).trans ((dk_bind (dk_u1 (h 1 _ rfl))).trans rfl))
theorem dk_188_11 {code : ByteArray} {pc : Nat} (h : DkAt code pc [188, 11]) : decode code pc = .ok (.newarray .long, 2) := dk_of ((dk_bind (dk_u1 (h 0 _ rfl))).trans ((dk_bind (dk_u1 (h 1 _ rfl))).trans rfl))
theorem dk_189 {code : ByteArray} {pc : Nat} (a b : UInt8) (h : DkAt code pc [189, a, b]) : decode code pc = .ok (.anewarray (a.toNat * 256 + b.toNat), 3) := dk_of ((dk_bind (dk_u1 (h 0 _ rfl))).trans ((dk_bind (dk_u2 (h 1 _ rfl) (h 2 _ rfl))).trans rfl))
theorem dk_190 {code : ByteArray} {pc : Nat} (h : DkAt code pc [190]) : decode code pc = .ok (.arraylength, 1) := dk_of ((dk_bind (dk_u1 (h 0 _ rfl))).trans rfl)
theorem dk_191 {code : ByteArray} {pc : Nat} (h : DkAt code pc [191]) : decode code pc = .ok (.athrow, 1) := dk_of ((dk_bind (dk_u1 (h 0 _ rfl))).trans rfl)
theorem dk_192 {code : ByteArray} {pc : Nat} (a b : UInt8) (h : DkAt code pc [192, a, b]) : decode code pc = .ok (.checkcast (a.toNat * 256 + b.toNat), 3) := dk_of ((dk_bind (dk_u1 (h 0 _ rfl))).trans ((dk_bind (dk_u2 (h 1 _ rfl) (h 2 _ rfl))).trans rfl))

/-! java/util/AbstractCollection -/
set_option maxRecDepth 100000
def RJ0 : String := "java/util/AbstractCollection"
abbrev cJ0_init : ByteArray := prog_39_method_1_code
def yJ0_init : MethodName := ⟨RJ0, "<init>", "()V"⟩
theorem q111 : (Jvm.Cond.initialized "java/util/AbstractCollection") ∈ lw_all := lw_g (lw_at lw_m1 2 rfl) rfl
theorem q167 : (Jvm.Cond.instanceMethod ({ cls := "java/util/AbstractCollection", name := "<init>", desc := "()V" } : Jvm.MethodName)) ∈ lw_all := lw_g (lw_at lw_m1 58 rfl) rfl
theorem q168 : (Jvm.Cond.code ({ cls := "java/util/AbstractCollection", name := "<init>", desc := "()V" } : Jvm.MethodName) prog_39_method_1_code (1 : Nat) (Option.none : Option Jvm.ClassFile.FieldType)) ∈ lw_all := lw_g (lw_at lw_m1 59 rfl) rfl
theorem q169 : (Jvm.Cond.methodLink "java/util/AbstractCollection" (1 : Nat) ({ cls := "java/lang/Object", name := "<init>", desc := "()V" } : Jvm.MethodName)) ∈ lw_all := lw_g (lw_at lw_m1 60 rfl) rfl

/-! java/util/AbstractList -/
set_option maxRecDepth 100000
def RJ1 : String := "java/util/AbstractList"
abbrev cJ1_init : ByteArray := prog_40_method_1_code
def yJ1_init : MethodName := ⟨RJ1, "<init>", "()V"⟩
theorem q112 : (Jvm.Cond.initialized "java/util/AbstractList") ∈ lw_all := lw_g (lw_at lw_m1 3 rfl) rfl
theorem q164 : (Jvm.Cond.instanceMethod ({ cls := "java/util/AbstractList", name := "<init>", desc := "()V" } : Jvm.MethodName)) ∈ lw_all := lw_g (lw_at lw_m1 55 rfl) rfl
theorem q165 : (Jvm.Cond.code ({ cls := "java/util/AbstractList", name := "<init>", desc := "()V" } : Jvm.MethodName) prog_40_method_1_code (1 : Nat) (Option.none : Option Jvm.ClassFile.FieldType)) ∈ lw_all := lw_g (lw_at lw_m1 56 rfl) rfl
theorem q166 : (Jvm.Cond.methodLink "java/util/AbstractList" (1 : Nat) ({ cls := "java/util/AbstractCollection", name := "<init>", desc := "()V" } : Jvm.MethodName)) ∈ lw_all := lw_g (lw_at lw_m1 57 rfl) rfl
theorem q174 : (Jvm.Cond.fieldLink "java/util/AbstractList" (7 : Nat) "java/util/AbstractList" "modCount" "I") ∈ lw_all := lw_g (lw_at lw_m1 65 rfl) rfl
theorem q182 : (Jvm.Cond.soleField "java/util/AbstractList" "modCount") ∈ lw_all := lw_g (lw_at lw_m1 73 rfl) rfl

/-! java/lang/Math -/
set_option maxRecDepth 100000
def RJ10 : String := "java/lang/Math"
abbrev cJ10_max : ByteArray := prog_32_method_65_code
def yJ10_max : MethodName := ⟨RJ10, "max", "(II)I"⟩
abbrev cJ10_min : ByteArray := prog_32_method_69_code
def yJ10_min : MethodName := ⟨RJ10, "min", "(II)I"⟩
theorem q126 : (Jvm.Cond.initialized "java/lang/Math") ∈ lw_all := lw_g (lw_at lw_m1 17 rfl) rfl
theorem q655 : (Jvm.Cond.static ({ cls := "java/lang/Math", name := "max", desc := "(II)I" } : Jvm.MethodName)) ∈ lw_all := lw_g (lw_at lw_m3 66 rfl) rfl
theorem q656 : (Jvm.Cond.code ({ cls := "java/lang/Math", name := "max", desc := "(II)I" } : Jvm.MethodName) prog_32_method_65_code (2 : Nat) (Option.some Jvm.ClassFile.FieldType.int)) ∈ lw_all := lw_g (lw_at lw_m3 67 rfl) rfl
theorem q658 : (Jvm.Cond.static ({ cls := "java/lang/Math", name := "min", desc := "(II)I" } : Jvm.MethodName)) ∈ lw_all := lw_g (lw_at lw_m3 69 rfl) rfl
theorem q659 : (Jvm.Cond.code ({ cls := "java/lang/Math", name := "min", desc := "(II)I" } : Jvm.MethodName) prog_32_method_69_code (2 : Nat) (Option.some Jvm.ClassFile.FieldType.int)) ∈ lw_all := lw_g (lw_at lw_m3 70 rfl) rfl

/-! java/util/Arrays -/
set_option maxRecDepth 100000
def RJ11 : String := "java/util/Arrays"
abbrev cJ11_copyOf : ByteArray := prog_42_method_119_code
def yJ11_copyOf : MethodName := ⟨RJ11, "copyOf", "([Ljava/lang/Object;I)[Ljava/lang/Object;"⟩
abbrev cJ11_copyOf_2 : ByteArray := prog_42_method_120_code
def yJ11_copyOf_2 : MethodName := ⟨RJ11, "copyOf", "([Ljava/lang/Object;ILjava/lang/Class;)[Ljava/lang/Object;"⟩
theorem q127 : (Jvm.Cond.initialized "java/util/Arrays") ∈ lw_all := lw_g (lw_at lw_m1 18 rfl) rfl
theorem q838 : (Jvm.Cond.static ({ cls := "java/util/Arrays", name := "copyOf", desc := "([Ljava/lang/Object;I)[Ljava/lang/Object;" } : Jvm.MethodName)) ∈ lw_all := lw_g (lw_at lw_m4 9 rfl) rfl
theorem q839 : (Jvm.Cond.code ({ cls := "java/util/Arrays", name := "copyOf", desc := "([Ljava/lang/Object;I)[Ljava/lang/Object;" } : Jvm.MethodName) prog_42_method_119_code (2 : Nat) (Option.some (Jvm.ClassFile.FieldType.array (Jvm.ClassFile.FieldType.object "java/lang/Object")))) ∈ lw_all := lw_g (lw_at lw_m4 10 rfl) rfl
theorem q840 : (Jvm.Cond.methodLink "java/util/Arrays" (86 : Nat) ({ cls := "java/lang/Object", name := "getClass", desc := "()Ljava/lang/Class;" } : Jvm.MethodName)) ∈ lw_all := lw_g (lw_at lw_m4 11 rfl) rfl
theorem q868 : (Jvm.Cond.methodLink "java/util/Arrays" (300 : Nat) ({ cls := "java/util/Arrays", name := "copyOf", desc := "([Ljava/lang/Object;ILjava/lang/Class;)[Ljava/lang/Object;" } : Jvm.MethodName)) ∈ lw_all := lw_g (lw_at lw_m4 39 rfl) rfl
theorem q869 : (Jvm.Cond.static ({ cls := "java/util/Arrays", name := "copyOf", desc := "([Ljava/lang/Object;ILjava/lang/Class;)[Ljava/lang/Object;" } : Jvm.MethodName)) ∈ lw_all := lw_g (lw_at lw_m4 40 rfl) rfl
theorem q870 : (Jvm.Cond.code ({ cls := "java/util/Arrays", name := "copyOf", desc := "([Ljava/lang/Object;ILjava/lang/Class;)[Ljava/lang/Object;" } : Jvm.MethodName) prog_42_method_120_code (4 : Nat) (Option.some (Jvm.ClassFile.FieldType.array (Jvm.ClassFile.FieldType.object "java/lang/Object")))) ∈ lw_all := lw_g (lw_at lw_m4 41 rfl) rfl
theorem q871 : (Jvm.Cond.classLink "java/util/Arrays" (110 : Nat) "[Ljava/lang/Object;") ∈ lw_all := lw_g (lw_at lw_m4 42 rfl) rfl
theorem q873 : (Jvm.Cond.classLink "java/util/Arrays" (2 : Nat) "java/lang/Object") ∈ lw_all := lw_g (lw_at lw_m4 44 rfl) rfl
theorem q874 : (Jvm.Cond.methodLink "java/util/Arrays" (304 : Nat) ({ cls := "java/lang/Math", name := "min", desc := "(II)I" } : Jvm.MethodName)) ∈ lw_all := lw_g (lw_at lw_m4 45 rfl) rfl
theorem q875 : (Jvm.Cond.methodLink "java/util/Arrays" (150 : Nat) ({ cls := "java/lang/System", name := "arraycopy", desc := "(Ljava/lang/Object;ILjava/lang/Object;II)V" } : Jvm.MethodName)) ∈ lw_all := lw_g (lw_at lw_m4 46 rfl) rfl

/-! java/lang/IndexOutOfBoundsException -/
set_option maxRecDepth 100000
def RJ12 : String := "java/lang/IndexOutOfBoundsException"
def TJ12 : u_T := fun k => match k with
  | 0 => ("java/lang/Throwable", "cause", "Ljava/lang/Throwable;", false)
  | 1 => ("java/lang/Throwable", "stackTrace", "[Ljava/lang/StackTraceElement;", false)
  | 2 => ("java/lang/Throwable", "suppressedExceptions", "Ljava/util/List;", false)
  | 3 => ("java/lang/Throwable", "detailMessage", "Ljava/lang/String;", false)
  | 4 => ("java/lang/Throwable", "backtrace", "Ljava/lang/Object;", false)
  | _ => ("java/lang/Throwable", "depth", "I", false)
def tyJ12 : Nat → FieldType := fun k => match k with
  | 0 => .object "java/lang/Throwable"
  | 1 => .array (.object "java/lang/StackTraceElement")
  | 2 => .object "java/util/List"
  | 3 => .object "java/lang/String"
  | 4 => .object "java/lang/Object"
  | _ => .int
abbrev wsJ120 : List Cond := u_ws RJ12 TJ12 6
theorem nmJ12 : ∀ a, a < 6 → ∀ b, b < 6 → a ≠ b → (TJ12 a).2.1 ≠ (TJ12 b).2.1 := by decide +kernel
theorem tyJ12_ok : ∀ k, k < 6 → parseFieldDescriptor (TJ12 k).2.2.1 = some (tyJ12 k) := by decide +kernel
abbrev cJ12_init : ByteArray := prog_28_method_2_code
def yJ12_init : MethodName := ⟨RJ12, "<init>", "(Ljava/lang/String;)V"⟩
abbrev cJ12_init_2 : ByteArray := prog_28_method_1_code
def yJ12_init_2 : MethodName := ⟨RJ12, "<init>", "()V"⟩
theorem q129 : (Jvm.Cond.initialized "java/lang/IndexOutOfBoundsException") ∈ lw_all := lw_g (lw_at lw_m1 20 rfl) rfl
theorem q731 : (Jvm.Cond.selects "java/lang/IndexOutOfBoundsException" ({ cls := "java/lang/Throwable", name := "fillInStackTrace", desc := "()Ljava/lang/Throwable;" } : Jvm.MethodName) ({ cls := "java/lang/Throwable", name := "fillInStackTrace", desc := "()Ljava/lang/Throwable;" } : Jvm.MethodName)) ∈ lw_all := lw_g (lw_at lw_m3 142 rfl) rfl
theorem q864 : (Jvm.Cond.selects "java/lang/IndexOutOfBoundsException" ({ cls := "java/lang/Object", name := "getClass", desc := "()Ljava/lang/Class;" } : Jvm.MethodName) ({ cls := "java/lang/Object", name := "getClass", desc := "()Ljava/lang/Class;" } : Jvm.MethodName)) ∈ lw_all := lw_g (lw_at lw_m4 35 rfl) rfl
theorem q895 : (Jvm.Cond.instanceMethod ({ cls := "java/lang/IndexOutOfBoundsException", name := "<init>", desc := "(Ljava/lang/String;)V" } : Jvm.MethodName)) ∈ lw_all := lw_g (lw_at lw_m4 66 rfl) rfl
theorem q896 : (Jvm.Cond.code ({ cls := "java/lang/IndexOutOfBoundsException", name := "<init>", desc := "(Ljava/lang/String;)V" } : Jvm.MethodName) prog_28_method_2_code (2 : Nat) (Option.none : Option Jvm.ClassFile.FieldType)) ∈ lw_all := lw_g (lw_at lw_m4 67 rfl) rfl
theorem q897 : (Jvm.Cond.methodLink "java/lang/IndexOutOfBoundsException" (7 : Nat) ({ cls := "java/lang/RuntimeException", name := "<init>", desc := "(Ljava/lang/String;)V" } : Jvm.MethodName)) ∈ lw_all := lw_g (lw_at lw_m4 68 rfl) rfl
theorem q914 : (Jvm.Cond.declares ({ cls := "java/lang/IndexOutOfBoundsException", name := "<init>", desc := "()V" } : Jvm.MethodName)) ∈ lw_tbl := lw_at lw_m4 85 rfl
theorem q915 : (Jvm.Cond.declares ({ cls := "java/lang/IndexOutOfBoundsException", name := "<init>", desc := "(Ljava/lang/String;)V" } : Jvm.MethodName)) ∈ lw_tbl := lw_at lw_m4 86 rfl
theorem q935 : (Jvm.Cond.instantiable "java/lang/IndexOutOfBoundsException" (6 : Nat)) ∈ lw_all := lw_g (lw_at lw_m4 106 rfl) rfl
theorem q936 : (Jvm.Cond.castable "java/lang/IndexOutOfBoundsException" "java/lang/IndexOutOfBoundsException") ∈ lw_tbl := lw_at lw_m4 107 rfl
theorem q937 : (Jvm.Cond.selects "java/lang/IndexOutOfBoundsException" ({ cls := "java/lang/Throwable", name := "fillInStackTrace", desc := "(I)Ljava/lang/Throwable;" } : Jvm.MethodName) ({ cls := "java/lang/Throwable", name := "fillInStackTrace", desc := "(I)Ljava/lang/Throwable;" } : Jvm.MethodName)) ∈ lw_all := lw_g (lw_at lw_m4 108 rfl) rfl
theorem q938 : (Jvm.Cond.lays "java/lang/IndexOutOfBoundsException" "java/lang/Throwable" "cause" "Ljava/lang/Throwable;") ∈ lw_all := lw_g (lw_at lw_m4 109 rfl) rfl
theorem q939 : (Jvm.Cond.lays "java/lang/IndexOutOfBoundsException" "java/lang/Throwable" "stackTrace" "[Ljava/lang/StackTraceElement;") ∈ lw_all := lw_g (lw_at lw_m4 110 rfl) rfl
theorem q940 : (Jvm.Cond.lays "java/lang/IndexOutOfBoundsException" "java/lang/Throwable" "suppressedExceptions" "Ljava/util/List;") ∈ lw_all := lw_g (lw_at lw_m4 111 rfl) rfl
theorem q941 : (Jvm.Cond.lays "java/lang/IndexOutOfBoundsException" "java/lang/Throwable" "detailMessage" "Ljava/lang/String;") ∈ lw_all := lw_g (lw_at lw_m4 112 rfl) rfl
theorem q942 : (Jvm.Cond.lays "java/lang/IndexOutOfBoundsException" "java/lang/Throwable" "backtrace" "Ljava/lang/Object;") ∈ lw_all := lw_g (lw_at lw_m4 113 rfl) rfl
theorem q944 : (Jvm.Cond.instanceMethod ({ cls := "java/lang/IndexOutOfBoundsException", name := "<init>", desc := "()V" } : Jvm.MethodName)) ∈ lw_all := lw_g (lw_at lw_m4 115 rfl) rfl
theorem q945 : (Jvm.Cond.code ({ cls := "java/lang/IndexOutOfBoundsException", name := "<init>", desc := "()V" } : Jvm.MethodName) prog_28_method_1_code (1 : Nat) (Option.none : Option Jvm.ClassFile.FieldType)) ∈ lw_all := lw_g (lw_at lw_m4 116 rfl) rfl
theorem q946 : (Jvm.Cond.methodLink "java/lang/IndexOutOfBoundsException" (1 : Nat) ({ cls := "java/lang/RuntimeException", name := "<init>", desc := "()V" } : Jvm.MethodName)) ∈ lw_all := lw_g (lw_at lw_m4 117 rfl) rfl
theorem q947 : (Jvm.Cond.lays "java/lang/IndexOutOfBoundsException" "java/lang/Throwable" "depth" "I") ∈ lw_all := lw_g (lw_at lw_m4 118 rfl) rfl
theorem q948 : (Jvm.Cond.superclass "java/lang/IndexOutOfBoundsException" "java/lang/RuntimeException") ∈ lw_all := lw_g (lw_at lw_m4 119 rfl) rfl
theorem q2463 : (Jvm.Cond.castable "java/lang/IndexOutOfBoundsException" "java/lang/Object") ∈ lw_tbl := lw_at lw_m10 194 rfl
theorem in_J12 : ∀ w ∈ wsJ120, w ∈ lw_all := lw_in wsJ120 [938, 939, 940, 941, 942, 947] (by decide +kernel) (by decide +kernel)

/-! java/lang/ArrayIndexOutOfBoundsException -/
set_option maxRecDepth 100000
def RJ13 : String := "java/lang/ArrayIndexOutOfBoundsException"
def TJ13 : u_T := fun k => match k with
  | 0 => ("java/lang/Throwable", "backtrace", "Ljava/lang/Object;", false)
  | 1 => ("java/lang/Throwable", "detailMessage", "Ljava/lang/String;", false)
  | 2 => ("java/lang/Throwable", "cause", "Ljava/lang/Throwable;", false)
  | 3 => ("java/lang/Throwable", "stackTrace", "[Ljava/lang/StackTraceElement;", false)
  | 4 => ("java/lang/Throwable", "depth", "I", false)
  | _ => ("java/lang/Throwable", "suppressedExceptions", "Ljava/util/List;", false)
def tyJ13 : Nat → FieldType := fun k => match k with
  | 0 => .object "java/lang/Object"
  | 1 => .object "java/lang/String"
  | 2 => .object "java/lang/Throwable"
  | 3 => .array (.object "java/lang/StackTraceElement")
  | 4 => .int
  | _ => .object "java/util/List"
abbrev wsJ130 : List Cond := u_ws RJ13 TJ13 6
theorem nmJ13 : ∀ a, a < 6 → ∀ b, b < 6 → a ≠ b → (TJ13 a).2.1 ≠ (TJ13 b).2.1 := by decide +kernel
theorem tyJ13_ok : ∀ k, k < 6 → parseFieldDescriptor (TJ13 k).2.2.1 = some (tyJ13 k) := by decide +kernel
abbrev cJ13_init : ByteArray := prog_23_method_2_code
def yJ13_init : MethodName := ⟨RJ13, "<init>", "(Ljava/lang/String;)V"⟩
theorem q130 : (Jvm.Cond.initialized "java/lang/ArrayIndexOutOfBoundsException") ∈ lw_all := lw_g (lw_at lw_m1 21 rfl) rfl
theorem q729 : (Jvm.Cond.selects "java/lang/ArrayIndexOutOfBoundsException" ({ cls := "java/lang/Throwable", name := "fillInStackTrace", desc := "()Ljava/lang/Throwable;" } : Jvm.MethodName) ({ cls := "java/lang/Throwable", name := "fillInStackTrace", desc := "()Ljava/lang/Throwable;" } : Jvm.MethodName)) ∈ lw_all := lw_g (lw_at lw_m3 140 rfl) rfl
theorem q861 : (Jvm.Cond.selects "java/lang/ArrayIndexOutOfBoundsException" ({ cls := "java/lang/Object", name := "getClass", desc := "()Ljava/lang/Class;" } : Jvm.MethodName) ({ cls := "java/lang/Object", name := "getClass", desc := "()Ljava/lang/Class;" } : Jvm.MethodName)) ∈ lw_all := lw_g (lw_at lw_m4 32 rfl) rfl
theorem q891 : (Jvm.Cond.instantiable "java/lang/ArrayIndexOutOfBoundsException" (6 : Nat)) ∈ lw_all := lw_g (lw_at lw_m4 62 rfl) rfl
theorem q892 : (Jvm.Cond.instanceMethod ({ cls := "java/lang/ArrayIndexOutOfBoundsException", name := "<init>", desc := "(Ljava/lang/String;)V" } : Jvm.MethodName)) ∈ lw_all := lw_g (lw_at lw_m4 63 rfl) rfl
theorem q893 : (Jvm.Cond.code ({ cls := "java/lang/ArrayIndexOutOfBoundsException", name := "<init>", desc := "(Ljava/lang/String;)V" } : Jvm.MethodName) prog_23_method_2_code (2 : Nat) (Option.none : Option Jvm.ClassFile.FieldType)) ∈ lw_all := lw_g (lw_at lw_m4 64 rfl) rfl
theorem q894 : (Jvm.Cond.methodLink "java/lang/ArrayIndexOutOfBoundsException" (7 : Nat) ({ cls := "java/lang/IndexOutOfBoundsException", name := "<init>", desc := "(Ljava/lang/String;)V" } : Jvm.MethodName)) ∈ lw_all := lw_g (lw_at lw_m4 65 rfl) rfl
theorem q906 : (Jvm.Cond.lays "java/lang/ArrayIndexOutOfBoundsException" "java/lang/Throwable" "backtrace" "Ljava/lang/Object;") ∈ lw_all := lw_g (lw_at lw_m4 77 rfl) rfl
theorem q907 : (Jvm.Cond.lays "java/lang/ArrayIndexOutOfBoundsException" "java/lang/Throwable" "detailMessage" "Ljava/lang/String;") ∈ lw_all := lw_g (lw_at lw_m4 78 rfl) rfl
theorem q908 : (Jvm.Cond.lays "java/lang/ArrayIndexOutOfBoundsException" "java/lang/Throwable" "cause" "Ljava/lang/Throwable;") ∈ lw_all := lw_g (lw_at lw_m4 79 rfl) rfl
theorem q909 : (Jvm.Cond.lays "java/lang/ArrayIndexOutOfBoundsException" "java/lang/Throwable" "stackTrace" "[Ljava/lang/StackTraceElement;") ∈ lw_all := lw_g (lw_at lw_m4 80 rfl) rfl
theorem q910 : (Jvm.Cond.lays "java/lang/ArrayIndexOutOfBoundsException" "java/lang/Throwable" "depth" "I") ∈ lw_all := lw_g (lw_at lw_m4 81 rfl) rfl
theorem q911 : (Jvm.Cond.lays "java/lang/ArrayIndexOutOfBoundsException" "java/lang/Throwable" "suppressedExceptions" "Ljava/util/List;") ∈ lw_all := lw_g (lw_at lw_m4 82 rfl) rfl
theorem q912 : (Jvm.Cond.superclass "java/lang/ArrayIndexOutOfBoundsException" "java/lang/IndexOutOfBoundsException") ∈ lw_all := lw_g (lw_at lw_m4 83 rfl) rfl
theorem q913 : (Jvm.Cond.castable "java/lang/ArrayIndexOutOfBoundsException" "java/lang/ArrayIndexOutOfBoundsException") ∈ lw_tbl := lw_at lw_m4 84 rfl
theorem q916 : (Jvm.Cond.selects "java/lang/ArrayIndexOutOfBoundsException" ({ cls := "java/lang/Throwable", name := "fillInStackTrace", desc := "(I)Ljava/lang/Throwable;" } : Jvm.MethodName) ({ cls := "java/lang/Throwable", name := "fillInStackTrace", desc := "(I)Ljava/lang/Throwable;" } : Jvm.MethodName)) ∈ lw_all := lw_g (lw_at lw_m4 87 rfl) rfl
theorem q2443 : (Jvm.Cond.castable "java/lang/ArrayIndexOutOfBoundsException" "java/lang/IndexOutOfBoundsException") ∈ lw_tbl := lw_at lw_m10 174 rfl
theorem q2462 : (Jvm.Cond.castable "java/lang/ArrayIndexOutOfBoundsException" "java/lang/Object") ∈ lw_tbl := lw_at lw_m10 193 rfl
theorem in_J13 : ∀ w ∈ wsJ130, w ∈ lw_all := lw_in wsJ130 [906, 907, 908, 909, 910, 911] (by decide +kernel) (by decide +kernel)

/-! java/lang/String -/
set_option maxRecDepth 100000
def RJ14 : String := "java/lang/String"
def TJ14 : u_T := fun k => match k with
  | 0 => ("java/lang/String", "value", "[B", true)
  | _ => ("java/lang/String", "coder", "B", true)
def tyJ14 : Nat → FieldType := fun k => match k with
  | 0 => .array .byte
  | _ => .byte
abbrev wsJ140 : List Cond := u_ws RJ14 TJ14 2
theorem nmJ14 : ∀ a, a < 2 → ∀ b, b < 2 → a ≠ b → (TJ14 a).2.1 ≠ (TJ14 b).2.1 := by decide +kernel
theorem tyJ14_ok : ∀ k, k < 2 → parseFieldDescriptor (TJ14 k).2.2.1 = some (tyJ14 k) := by decide +kernel
theorem q131 : (Jvm.Cond.initialized "java/lang/String") ∈ lw_all := lw_g (lw_at lw_m1 22 rfl) rfl
theorem q917 : (Jvm.Cond.instantiable "java/lang/String" (4 : Nat)) ∈ lw_all := lw_g (lw_at lw_m4 88 rfl) rfl
theorem q919 : (Jvm.Cond.laysFinal "java/lang/String" "java/lang/String" "value" "[B") ∈ lw_all := lw_g (lw_at lw_m4 90 rfl) rfl
theorem q920 : (Jvm.Cond.soleField "java/lang/String" "value") ∈ lw_all := lw_g (lw_at lw_m4 91 rfl) rfl
theorem q921 : (Jvm.Cond.laysFinal "java/lang/String" "java/lang/String" "coder" "B") ∈ lw_all := lw_g (lw_at lw_m4 92 rfl) rfl
theorem q922 : (Jvm.Cond.soleField "java/lang/String" "coder") ∈ lw_all := lw_g (lw_at lw_m4 93 rfl) rfl
theorem q2477 : (Jvm.Cond.castable "java/lang/String" "java/lang/Object") ∈ lw_tbl := lw_at lw_m10 208 rfl
theorem in_J14 : ∀ w ∈ wsJ140, w ∈ lw_all := lw_in wsJ140 [919, 921] (by decide +kernel) (by decide +kernel)

/-! java/util/Objects -/
set_option maxRecDepth 100000
def RJ15 : String := "java/util/Objects"
abbrev cJ15_checkIndex : ByteArray := prog_45_method_17_code
def yJ15_checkIndex : MethodName := ⟨RJ15, "checkIndex", "(II)I"⟩
theorem q132 : (Jvm.Cond.initialized "java/util/Objects") ∈ lw_all := lw_g (lw_at lw_m1 23 rfl) rfl
theorem q409 : (Jvm.Cond.static ({ cls := "java/util/Objects", name := "checkIndex", desc := "(II)I" } : Jvm.MethodName)) ∈ lw_all := lw_g (lw_at lw_m2 60 rfl) rfl
theorem q410 : (Jvm.Cond.code ({ cls := "java/util/Objects", name := "checkIndex", desc := "(II)I" } : Jvm.MethodName) prog_45_method_17_code (2 : Nat) (Option.some Jvm.ClassFile.FieldType.int)) ∈ lw_all := lw_g (lw_at lw_m2 61 rfl) rfl
theorem q411 : (Jvm.Cond.methodLink "java/util/Objects" (105 : Nat) ({ cls := "jdk/internal/util/Preconditions", name := "checkIndex", desc := "(IILjava/util/function/BiFunction;)I" } : Jvm.MethodName)) ∈ lw_all := lw_g (lw_at lw_m2 62 rfl) rfl

/-! jdk/internal/util/Preconditions -/
set_option maxRecDepth 100000
def RJ16 : String := "jdk/internal/util/Preconditions"
abbrev cJ16_checkIndex : ByteArray := prog_49_method_11_code
def yJ16_checkIndex : MethodName := ⟨RJ16, "checkIndex", "(IILjava/util/function/BiFunction;)I"⟩
theorem q133 : (Jvm.Cond.initialized "jdk/internal/util/Preconditions") ∈ lw_all := lw_g (lw_at lw_m1 24 rfl) rfl
theorem q412 : (Jvm.Cond.static ({ cls := "jdk/internal/util/Preconditions", name := "checkIndex", desc := "(IILjava/util/function/BiFunction;)I" } : Jvm.MethodName)) ∈ lw_all := lw_g (lw_at lw_m2 63 rfl) rfl
theorem q413 : (Jvm.Cond.code ({ cls := "jdk/internal/util/Preconditions", name := "checkIndex", desc := "(IILjava/util/function/BiFunction;)I" } : Jvm.MethodName) prog_49_method_11_code (3 : Nat) (Option.some Jvm.ClassFile.FieldType.int)) ∈ lw_all := lw_g (lw_at lw_m2 64 rfl) rfl

/-! java/lang/Number -/
set_option maxRecDepth 100000
def RJ17 : String := "java/lang/Number"
abbrev cJ17_init : ByteArray := prog_33_method_1_code
def yJ17_init : MethodName := ⟨RJ17, "<init>", "()V"⟩
theorem q134 : (Jvm.Cond.initialized "java/lang/Number") ∈ lw_all := lw_g (lw_at lw_m1 25 rfl) rfl
theorem q962 : (Jvm.Cond.instanceMethod ({ cls := "java/lang/Number", name := "<init>", desc := "()V" } : Jvm.MethodName)) ∈ lw_all := lw_g (lw_at lw_m4 133 rfl) rfl
theorem q963 : (Jvm.Cond.code ({ cls := "java/lang/Number", name := "<init>", desc := "()V" } : Jvm.MethodName) prog_33_method_1_code (1 : Nat) (Option.none : Option Jvm.ClassFile.FieldType)) ∈ lw_all := lw_g (lw_at lw_m4 134 rfl) rfl
theorem q964 : (Jvm.Cond.methodLink "java/lang/Number" (1 : Nat) ({ cls := "java/lang/Object", name := "<init>", desc := "()V" } : Jvm.MethodName)) ∈ lw_all := lw_g (lw_at lw_m4 135 rfl) rfl

/-! java/lang/Integer -/
set_option maxRecDepth 100000
def RJ18 : String := "java/lang/Integer"
def TJ18 : u_T := fun k => match k with
  | _ => ("java/lang/Integer", "value", "I", true)
def tyJ18 : Nat → FieldType := fun k => match k with
  | _ => .int
abbrev wsJ180 : List Cond := u_ws RJ18 TJ18 1
theorem nmJ18 : ∀ a, a < 1 → ∀ b, b < 1 → a ≠ b → (TJ18 a).2.1 ≠ (TJ18 b).2.1 := by decide +kernel
theorem tyJ18_ok : ∀ k, k < 1 → parseFieldDescriptor (TJ18 k).2.2.1 = some (tyJ18 k) := by decide +kernel
abbrev cJ18_numberOfTrailingZeros : ByteArray := prog_29_method_48_code
def yJ18_numberOfTrailingZeros : MethodName := ⟨RJ18, "numberOfTrailingZeros", "(I)I"⟩
abbrev cJ18_numberOfLeadingZeros : ByteArray := prog_29_method_47_code
def yJ18_numberOfLeadingZeros : MethodName := ⟨RJ18, "numberOfLeadingZeros", "(I)I"⟩
abbrev cJ18_valueOf : ByteArray := prog_29_method_22_code
def yJ18_valueOf : MethodName := ⟨RJ18, "valueOf", "(I)Ljava/lang/Integer;"⟩
abbrev cJ18_init : ByteArray := prog_29_method_23_code
def yJ18_init : MethodName := ⟨RJ18, "<init>", "(I)V"⟩
abbrev cJ18_intValue : ByteArray := prog_29_method_27_code
def yJ18_intValue : MethodName := ⟨RJ18, "intValue", "()I"⟩
abbrev cJ18_bitCount : ByteArray := prog_29_method_49_code
def yJ18_bitCount : MethodName := ⟨RJ18, "bitCount", "(I)I"⟩
abbrev cJ18_highestOneBit : ByteArray := prog_29_method_45_code
def yJ18_highestOneBit : MethodName := ⟨RJ18, "highestOneBit", "(I)I"⟩
theorem q135 : (Jvm.Cond.initialized "java/lang/Integer") ∈ lw_all := lw_g (lw_at lw_m1 26 rfl) rfl
theorem q555 : (Jvm.Cond.static ({ cls := "java/lang/Integer", name := "numberOfTrailingZeros", desc := "(I)I" } : Jvm.MethodName)) ∈ lw_all := lw_g (lw_at lw_m2 206 rfl) rfl
theorem q556 : (Jvm.Cond.code ({ cls := "java/lang/Integer", name := "numberOfTrailingZeros", desc := "(I)I" } : Jvm.MethodName) prog_29_method_48_code (2 : Nat) (Option.some Jvm.ClassFile.FieldType.int)) ∈ lw_all := lw_g (lw_at lw_m2 207 rfl) rfl
theorem q557 : (Jvm.Cond.constant "java/lang/Integer" (264 : Nat) (65536 : Int32)) ∈ lw_all := lw_g (lw_at lw_m2 208 rfl) rfl
theorem q566 : (Jvm.Cond.static ({ cls := "java/lang/Integer", name := "numberOfLeadingZeros", desc := "(I)I" } : Jvm.MethodName)) ∈ lw_all := lw_g (lw_at lw_m2 217 rfl) rfl
theorem q567 : (Jvm.Cond.code ({ cls := "java/lang/Integer", name := "numberOfLeadingZeros", desc := "(I)I" } : Jvm.MethodName) prog_29_method_47_code (2 : Nat) (Option.some Jvm.ClassFile.FieldType.int)) ∈ lw_all := lw_g (lw_at lw_m2 218 rfl) rfl
theorem q865 : (Jvm.Cond.selects "java/lang/Integer" ({ cls := "java/lang/Object", name := "getClass", desc := "()Ljava/lang/Class;" } : Jvm.MethodName) ({ cls := "java/lang/Object", name := "getClass", desc := "()Ljava/lang/Class;" } : Jvm.MethodName)) ∈ lw_all := lw_g (lw_at lw_m4 36 rfl) rfl
theorem q950 : (Jvm.Cond.static ({ cls := "java/lang/Integer", name := "valueOf", desc := "(I)Ljava/lang/Integer;" } : Jvm.MethodName)) ∈ lw_all := lw_g (lw_at lw_m4 121 rfl) rfl
theorem q951 : (Jvm.Cond.code ({ cls := "java/lang/Integer", name := "valueOf", desc := "(I)Ljava/lang/Integer;" } : Jvm.MethodName) prog_29_method_22_code (1 : Nat) (Option.some (Jvm.ClassFile.FieldType.object "java/lang/Integer"))) ∈ lw_all := lw_g (lw_at lw_m4 122 rfl) rfl
theorem q952 : (Jvm.Cond.fieldLink "java/lang/Integer" (191 : Nat) "java/lang/Integer$IntegerCache" "high" "I") ∈ lw_all := lw_g (lw_at lw_m4 123 rfl) rfl
theorem q954 : (Jvm.Cond.fieldLink "java/lang/Integer" (195 : Nat) "java/lang/Integer$IntegerCache" "cache" "[Ljava/lang/Integer;") ∈ lw_all := lw_g (lw_at lw_m4 125 rfl) rfl
theorem q956 : (Jvm.Cond.classLink "java/lang/Integer" (1 : Nat) "java/lang/Integer") ∈ lw_all := lw_g (lw_at lw_m4 127 rfl) rfl
theorem q957 : (Jvm.Cond.instantiable "java/lang/Integer" (1 : Nat)) ∈ lw_all := lw_g (lw_at lw_m4 128 rfl) rfl
theorem q958 : (Jvm.Cond.methodLink "java/lang/Integer" (199 : Nat) ({ cls := "java/lang/Integer", name := "<init>", desc := "(I)V" } : Jvm.MethodName)) ∈ lw_all := lw_g (lw_at lw_m4 129 rfl) rfl
theorem q959 : (Jvm.Cond.instanceMethod ({ cls := "java/lang/Integer", name := "<init>", desc := "(I)V" } : Jvm.MethodName)) ∈ lw_all := lw_g (lw_at lw_m4 130 rfl) rfl
theorem q960 : (Jvm.Cond.code ({ cls := "java/lang/Integer", name := "<init>", desc := "(I)V" } : Jvm.MethodName) prog_29_method_23_code (2 : Nat) (Option.none : Option Jvm.ClassFile.FieldType)) ∈ lw_all := lw_g (lw_at lw_m4 131 rfl) rfl
theorem q961 : (Jvm.Cond.methodLink "java/lang/Integer" (202 : Nat) ({ cls := "java/lang/Number", name := "<init>", desc := "()V" } : Jvm.MethodName)) ∈ lw_all := lw_g (lw_at lw_m4 132 rfl) rfl
theorem q965 : (Jvm.Cond.fieldLink "java/lang/Integer" (205 : Nat) "java/lang/Integer" "value" "I") ∈ lw_all := lw_g (lw_at lw_m4 136 rfl) rfl
theorem q966 : (Jvm.Cond.laysFinal "java/lang/Integer" "java/lang/Integer" "value" "I") ∈ lw_all := lw_g (lw_at lw_m4 137 rfl) rfl
theorem q967 : (Jvm.Cond.soleField "java/lang/Integer" "value") ∈ lw_all := lw_g (lw_at lw_m4 138 rfl) rfl
theorem q968 : (Jvm.Cond.superclass "java/lang/Integer" "java/lang/Number") ∈ lw_all := lw_g (lw_at lw_m4 139 rfl) rfl
theorem q1053 : (Jvm.Cond.instanceMethod ({ cls := "java/lang/Integer", name := "intValue", desc := "()I" } : Jvm.MethodName)) ∈ lw_all := lw_g (lw_at lw_m4 224 rfl) rfl
theorem q1054 : (Jvm.Cond.selects "java/lang/Integer" ({ cls := "java/lang/Integer", name := "intValue", desc := "()I" } : Jvm.MethodName) ({ cls := "java/lang/Integer", name := "intValue", desc := "()I" } : Jvm.MethodName)) ∈ lw_all := lw_g (lw_at lw_m4 225 rfl) rfl
theorem q1055 : (Jvm.Cond.code ({ cls := "java/lang/Integer", name := "intValue", desc := "()I" } : Jvm.MethodName) prog_29_method_27_code (1 : Nat) (Option.some Jvm.ClassFile.FieldType.int)) ∈ lw_all := lw_g (lw_at lw_m4 226 rfl) rfl
theorem q1311 : (Jvm.Cond.static ({ cls := "java/lang/Integer", name := "bitCount", desc := "(I)I" } : Jvm.MethodName)) ∈ lw_all := lw_g (lw_at lw_m6 2 rfl) rfl
theorem q1312 : (Jvm.Cond.code ({ cls := "java/lang/Integer", name := "bitCount", desc := "(I)I" } : Jvm.MethodName) prog_29_method_49_code (1 : Nat) (Option.some Jvm.ClassFile.FieldType.int)) ∈ lw_all := lw_g (lw_at lw_m6 3 rfl) rfl
theorem q1313 : (Jvm.Cond.constant "java/lang/Integer" (265 : Nat) (1431655765 : Int32)) ∈ lw_all := lw_g (lw_at lw_m6 4 rfl) rfl
theorem q1314 : (Jvm.Cond.constant "java/lang/Integer" (266 : Nat) (858993459 : Int32)) ∈ lw_all := lw_g (lw_at lw_m6 5 rfl) rfl
theorem q1315 : (Jvm.Cond.constant "java/lang/Integer" (267 : Nat) (252645135 : Int32)) ∈ lw_all := lw_g (lw_at lw_m6 6 rfl) rfl
theorem q1485 : (Jvm.Cond.static ({ cls := "java/lang/Integer", name := "highestOneBit", desc := "(I)I" } : Jvm.MethodName)) ∈ lw_all := lw_g (lw_at lw_m6 176 rfl) rfl
theorem q1486 : (Jvm.Cond.code ({ cls := "java/lang/Integer", name := "highestOneBit", desc := "(I)I" } : Jvm.MethodName) prog_29_method_45_code (1 : Nat) (Option.some Jvm.ClassFile.FieldType.int)) ∈ lw_all := lw_g (lw_at lw_m6 177 rfl) rfl
theorem q1487 : (Jvm.Cond.constant "java/lang/Integer" (127 : Nat) (-2147483648 : Int32)) ∈ lw_all := lw_g (lw_at lw_m6 178 rfl) rfl
theorem q1488 : (Jvm.Cond.methodLink "java/lang/Integer" (51 : Nat) ({ cls := "java/lang/Integer", name := "numberOfLeadingZeros", desc := "(I)I" } : Jvm.MethodName)) ∈ lw_all := lw_g (lw_at lw_m6 179 rfl) rfl
theorem q2464 : (Jvm.Cond.castable "java/lang/Integer" "java/lang/Object") ∈ lw_tbl := lw_at lw_m10 195 rfl
theorem in_J18 : ∀ w ∈ wsJ180, w ∈ lw_all := lw_in wsJ180 [966] (by decide +kernel) (by decide +kernel)

/-! java/lang/Object -/
set_option maxRecDepth 100000
def RJ19 : String := "java/lang/Object"
abbrev cJ19_init : ByteArray := object_method_1_code
def yJ19_init : MethodName := ⟨RJ19, "<init>", "()V"⟩
theorem q156 : (Jvm.Cond.instanceMethod ({ cls := "java/lang/Object", name := "<init>", desc := "()V" } : Jvm.MethodName)) ∈ lw_all := lw_g (lw_at lw_m1 47 rfl) rfl
theorem q157 : (Jvm.Cond.code ({ cls := "java/lang/Object", name := "<init>", desc := "()V" } : Jvm.MethodName) object_method_1_code (1 : Nat) (Option.none : Option Jvm.ClassFile.FieldType)) ∈ lw_all := lw_g (lw_at lw_m1 48 rfl) rfl
theorem q841 : (Jvm.Cond.instanceMethod ({ cls := "java/lang/Object", name := "getClass", desc := "()Ljava/lang/Class;" } : Jvm.MethodName)) ∈ lw_all := lw_g (lw_at lw_m4 12 rfl) rfl
theorem q842 : (Jvm.Cond.sameMethod "java/lang/Object" "java/lang/Object" "getClass" "()Ljava/lang/Class;") ∈ lw_all := lw_g (lw_at lw_m4 13 rfl) rfl
theorem q867 : (Jvm.Cond.native ({ cls := "java/lang/Object", name := "getClass", desc := "()Ljava/lang/Class;" } : Jvm.MethodName)) ∈ lw_all := lw_g (lw_at lw_m4 38 rfl) rfl
theorem q2442 : (Jvm.Cond.initialized "java/lang/Object") ∈ lw_all := lw_g (lw_at lw_m10 173 rfl) rfl
theorem q2480 : (Jvm.Cond.declares ({ cls := "java/lang/Object", name := "getClass", desc := "()Ljava/lang/Class;" } : Jvm.MethodName)) ∈ lw_tbl := lw_at lw_m10 211 rfl
theorem q2488 : (Jvm.Cond.instantiable "java/lang/Object" (0 : Nat)) ∈ lw_all := lw_g (lw_at lw_m10 219 rfl) rfl

/-! java/util/ArrayList -/
set_option maxRecDepth 100000
def RJ2 : String := "java/util/ArrayList"
def TJ2 : u_T := fun k => match k with
  | 0 => ("java/util/AbstractList", "modCount", "I", false)
  | 1 => ("java/util/ArrayList", "elementData", "[Ljava/lang/Object;", false)
  | _ => ("java/util/ArrayList", "size", "I", false)
def tyJ2 : Nat → FieldType := fun k => match k with
  | 0 => .int
  | 1 => .array (.object "java/lang/Object")
  | _ => .int
abbrev wsJ20 : List Cond := u_ws RJ2 TJ2 3
theorem nmJ2 : ∀ a, a < 3 → ∀ b, b < 3 → a ≠ b → (TJ2 a).2.1 ≠ (TJ2 b).2.1 := by decide +kernel
theorem tyJ2_ok : ∀ k, k < 3 → parseFieldDescriptor (TJ2 k).2.2.1 = some (tyJ2 k) := by decide +kernel
abbrev cJ2_init : ByteArray := prog_41_method_2_code
def yJ2_init : MethodName := ⟨RJ2, "<init>", "()V"⟩
abbrev cJ2_size : ByteArray := prog_41_method_8_code
def yJ2_size : MethodName := ⟨RJ2, "size", "()I"⟩
abbrev cJ2_get : ByteArray := prog_41_method_20_code
def yJ2_get : MethodName := ⟨RJ2, "get", "(I)Ljava/lang/Object;"⟩
abbrev cJ2_elementData : ByteArray := prog_41_method_18_code
def yJ2_elementData : MethodName := ⟨RJ2, "elementData", "(I)Ljava/lang/Object;"⟩
abbrev cJ2_add : ByteArray := prog_41_method_25_code
def yJ2_add : MethodName := ⟨RJ2, "add", "(Ljava/lang/Object;)Z"⟩
abbrev cJ2_add_2 : ByteArray := prog_41_method_24_code
def yJ2_add_2 : MethodName := ⟨RJ2, "add", "(Ljava/lang/Object;[Ljava/lang/Object;I)V"⟩
abbrev cJ2_grow : ByteArray := prog_41_method_7_code
def yJ2_grow : MethodName := ⟨RJ2, "grow", "()[Ljava/lang/Object;"⟩
abbrev cJ2_grow_2 : ByteArray := prog_41_method_6_code
def yJ2_grow_2 : MethodName := ⟨RJ2, "grow", "(I)[Ljava/lang/Object;"⟩
abbrev cJ2_isEmpty : ByteArray := prog_41_method_9_code
def yJ2_isEmpty : MethodName := ⟨RJ2, "isEmpty", "()Z"⟩
abbrev cJ2_addAll : ByteArray := prog_41_method_41_code
def yJ2_addAll : MethodName := ⟨RJ2, "addAll", "(Ljava/util/Collection;)Z"⟩
abbrev cJ2_toArray : ByteArray := prog_41_method_16_code
def yJ2_toArray : MethodName := ⟨RJ2, "toArray", "()[Ljava/lang/Object;"⟩
abbrev cJ2_remove : ByteArray := prog_41_method_29_code
def yJ2_remove : MethodName := ⟨RJ2, "remove", "(I)Ljava/lang/Object;"⟩
abbrev cJ2_fastRemove : ByteArray := prog_41_method_39_code
def yJ2_fastRemove : MethodName := ⟨RJ2, "fastRemove", "([Ljava/lang/Object;I)V"⟩
theorem q113 : (Jvm.Cond.initialized "java/util/ArrayList") ∈ lw_all := lw_g (lw_at lw_m1 4 rfl) rfl
theorem q159 : (Jvm.Cond.instantiable "java/util/ArrayList" (3 : Nat)) ∈ lw_all := lw_g (lw_at lw_m1 50 rfl) rfl
theorem q161 : (Jvm.Cond.instanceMethod ({ cls := "java/util/ArrayList", name := "<init>", desc := "()V" } : Jvm.MethodName)) ∈ lw_all := lw_g (lw_at lw_m1 52 rfl) rfl
theorem q162 : (Jvm.Cond.code ({ cls := "java/util/ArrayList", name := "<init>", desc := "()V" } : Jvm.MethodName) prog_41_method_2_code (1 : Nat) (Option.none : Option Jvm.ClassFile.FieldType)) ∈ lw_all := lw_g (lw_at lw_m1 53 rfl) rfl
theorem q163 : (Jvm.Cond.methodLink "java/util/ArrayList" (1 : Nat) ({ cls := "java/util/AbstractList", name := "<init>", desc := "()V" } : Jvm.MethodName)) ∈ lw_all := lw_g (lw_at lw_m1 54 rfl) rfl
theorem q170 : (Jvm.Cond.fieldLink "java/util/ArrayList" (39 : Nat) "java/util/ArrayList" "DEFAULTCAPACITY_EMPTY_ELEMENTDATA" "[Ljava/lang/Object;") ∈ lw_all := lw_g (lw_at lw_m1 61 rfl) rfl
theorem q171 : (Jvm.Cond.laysStatic "java/util/ArrayList" "DEFAULTCAPACITY_EMPTY_ELEMENTDATA" "[Ljava/lang/Object;") ∈ lw_tbl := lw_at lw_m1 62 rfl
theorem q172 : (Jvm.Cond.fieldLink "java/util/ArrayList" (9 : Nat) "java/util/ArrayList" "elementData" "[Ljava/lang/Object;") ∈ lw_all := lw_g (lw_at lw_m1 63 rfl) rfl
theorem q173 : (Jvm.Cond.fieldLink "java/util/ArrayList" (48 : Nat) "java/util/ArrayList" "size" "I") ∈ lw_all := lw_g (lw_at lw_m1 64 rfl) rfl
theorem q175 : (Jvm.Cond.fieldLink "java/util/ArrayList" (63 : Nat) "java/util/ArrayList" "modCount" "I") ∈ lw_all := lw_g (lw_at lw_m1 66 rfl) rfl
theorem q176 : (Jvm.Cond.sameField "java/util/ArrayList" "java/util/AbstractList" "modCount" "I") ∈ lw_all := lw_g (lw_at lw_m1 67 rfl) rfl
theorem q177 : (Jvm.Cond.lays "java/util/ArrayList" "java/util/ArrayList" "elementData" "[Ljava/lang/Object;") ∈ lw_all := lw_g (lw_at lw_m1 68 rfl) rfl
theorem q178 : (Jvm.Cond.soleField "java/util/ArrayList" "elementData") ∈ lw_all := lw_g (lw_at lw_m1 69 rfl) rfl
theorem q179 : (Jvm.Cond.lays "java/util/ArrayList" "java/util/ArrayList" "size" "I") ∈ lw_all := lw_g (lw_at lw_m1 70 rfl) rfl
theorem q180 : (Jvm.Cond.soleField "java/util/ArrayList" "size") ∈ lw_all := lw_g (lw_at lw_m1 71 rfl) rfl
theorem q181 : (Jvm.Cond.lays "java/util/ArrayList" "java/util/AbstractList" "modCount" "I") ∈ lw_all := lw_g (lw_at lw_m1 72 rfl) rfl
theorem q183 : (Jvm.Cond.superclass "java/util/ArrayList" "java/util/AbstractList") ∈ lw_all := lw_g (lw_at lw_m1 74 rfl) rfl
theorem q381 : (Jvm.Cond.castable "java/util/ArrayList" "java/util/List") ∈ lw_tbl := lw_at lw_m2 32 rfl
theorem q382 : (Jvm.Cond.selects "java/util/ArrayList" ({ cls := "java/util/List", name := "size", desc := "()I" } : Jvm.MethodName) ({ cls := "java/util/ArrayList", name := "size", desc := "()I" } : Jvm.MethodName)) ∈ lw_all := lw_g (lw_at lw_m2 33 rfl) rfl
theorem q383 : (Jvm.Cond.unhidden "java/util/ArrayList" "size" "()I") ∈ lw_tbl := lw_at lw_m2 34 rfl
theorem q384 : (Jvm.Cond.instanceMethod ({ cls := "java/util/ArrayList", name := "size", desc := "()I" } : Jvm.MethodName)) ∈ lw_all := lw_g (lw_at lw_m2 35 rfl) rfl
theorem q385 : (Jvm.Cond.publicMethod ({ cls := "java/util/ArrayList", name := "size", desc := "()I" } : Jvm.MethodName)) ∈ lw_tbl := lw_at lw_m2 36 rfl
theorem q386 : (Jvm.Cond.code ({ cls := "java/util/ArrayList", name := "size", desc := "()I" } : Jvm.MethodName) prog_41_method_8_code (1 : Nat) (Option.some Jvm.ClassFile.FieldType.int)) ∈ lw_all := lw_g (lw_at lw_m2 37 rfl) rfl
theorem q403 : (Jvm.Cond.selects "java/util/ArrayList" ({ cls := "java/util/List", name := "get", desc := "(I)Ljava/lang/Object;" } : Jvm.MethodName) ({ cls := "java/util/ArrayList", name := "get", desc := "(I)Ljava/lang/Object;" } : Jvm.MethodName)) ∈ lw_all := lw_g (lw_at lw_m2 54 rfl) rfl
theorem q404 : (Jvm.Cond.unhidden "java/util/ArrayList" "get" "(I)Ljava/lang/Object;") ∈ lw_tbl := lw_at lw_m2 55 rfl
theorem q405 : (Jvm.Cond.instanceMethod ({ cls := "java/util/ArrayList", name := "get", desc := "(I)Ljava/lang/Object;" } : Jvm.MethodName)) ∈ lw_all := lw_g (lw_at lw_m2 56 rfl) rfl
theorem q406 : (Jvm.Cond.publicMethod ({ cls := "java/util/ArrayList", name := "get", desc := "(I)Ljava/lang/Object;" } : Jvm.MethodName)) ∈ lw_tbl := lw_at lw_m2 57 rfl
theorem q407 : (Jvm.Cond.code ({ cls := "java/util/ArrayList", name := "get", desc := "(I)Ljava/lang/Object;" } : Jvm.MethodName) prog_41_method_20_code (2 : Nat) (Option.some (Jvm.ClassFile.FieldType.object "java/lang/Object"))) ∈ lw_all := lw_g (lw_at lw_m2 58 rfl) rfl
theorem q408 : (Jvm.Cond.methodLink "java/util/ArrayList" (118 : Nat) ({ cls := "java/util/Objects", name := "checkIndex", desc := "(II)I" } : Jvm.MethodName)) ∈ lw_all := lw_g (lw_at lw_m2 59 rfl) rfl
theorem q414 : (Jvm.Cond.methodLink "java/util/ArrayList" (123 : Nat) ({ cls := "java/util/ArrayList", name := "elementData", desc := "(I)Ljava/lang/Object;" } : Jvm.MethodName)) ∈ lw_all := lw_g (lw_at lw_m2 65 rfl) rfl
theorem q415 : (Jvm.Cond.instanceMethod ({ cls := "java/util/ArrayList", name := "elementData", desc := "(I)Ljava/lang/Object;" } : Jvm.MethodName)) ∈ lw_all := lw_g (lw_at lw_m2 66 rfl) rfl
theorem q416 : (Jvm.Cond.selects "java/util/ArrayList" ({ cls := "java/util/ArrayList", name := "elementData", desc := "(I)Ljava/lang/Object;" } : Jvm.MethodName) ({ cls := "java/util/ArrayList", name := "elementData", desc := "(I)Ljava/lang/Object;" } : Jvm.MethodName)) ∈ lw_all := lw_g (lw_at lw_m2 67 rfl) rfl
theorem q417 : (Jvm.Cond.code ({ cls := "java/util/ArrayList", name := "elementData", desc := "(I)Ljava/lang/Object;" } : Jvm.MethodName) prog_41_method_18_code (2 : Nat) (Option.some (Jvm.ClassFile.FieldType.object "java/lang/Object"))) ∈ lw_all := lw_g (lw_at lw_m2 68 rfl) rfl
theorem q812 : (Jvm.Cond.selects "java/util/ArrayList" ({ cls := "java/util/List", name := "add", desc := "(Ljava/lang/Object;)Z" } : Jvm.MethodName) ({ cls := "java/util/ArrayList", name := "add", desc := "(Ljava/lang/Object;)Z" } : Jvm.MethodName)) ∈ lw_all := lw_g (lw_at lw_m3 223 rfl) rfl
theorem q813 : (Jvm.Cond.unhidden "java/util/ArrayList" "add" "(Ljava/lang/Object;)Z") ∈ lw_tbl := lw_at lw_m3 224 rfl
theorem q814 : (Jvm.Cond.instanceMethod ({ cls := "java/util/ArrayList", name := "add", desc := "(Ljava/lang/Object;)Z" } : Jvm.MethodName)) ∈ lw_all := lw_g (lw_at lw_m3 225 rfl) rfl
theorem q815 : (Jvm.Cond.publicMethod ({ cls := "java/util/ArrayList", name := "add", desc := "(Ljava/lang/Object;)Z" } : Jvm.MethodName)) ∈ lw_tbl := lw_at lw_m3 226 rfl
theorem q816 : (Jvm.Cond.code ({ cls := "java/util/ArrayList", name := "add", desc := "(Ljava/lang/Object;)Z" } : Jvm.MethodName) prog_41_method_25_code (2 : Nat) (Option.some Jvm.ClassFile.FieldType.boolean)) ∈ lw_all := lw_g (lw_at lw_m3 227 rfl) rfl
theorem q817 : (Jvm.Cond.methodLink "java/util/ArrayList" (131 : Nat) ({ cls := "java/util/ArrayList", name := "add", desc := "(Ljava/lang/Object;[Ljava/lang/Object;I)V" } : Jvm.MethodName)) ∈ lw_all := lw_g (lw_at lw_m3 228 rfl) rfl
theorem q818 : (Jvm.Cond.privateMethod ({ cls := "java/util/ArrayList", name := "add", desc := "(Ljava/lang/Object;[Ljava/lang/Object;I)V" } : Jvm.MethodName)) ∈ lw_tbl := lw_at lw_m3 229 rfl
theorem q819 : (Jvm.Cond.instanceMethod ({ cls := "java/util/ArrayList", name := "add", desc := "(Ljava/lang/Object;[Ljava/lang/Object;I)V" } : Jvm.MethodName)) ∈ lw_all := lw_g (lw_at lw_m3 230 rfl) rfl
theorem q820 : (Jvm.Cond.code ({ cls := "java/util/ArrayList", name := "add", desc := "(Ljava/lang/Object;[Ljava/lang/Object;I)V" } : Jvm.MethodName) prog_41_method_24_code (4 : Nat) (Option.none : Option Jvm.ClassFile.FieldType)) ∈ lw_all := lw_g (lw_at lw_m3 231 rfl) rfl
theorem q821 : (Jvm.Cond.methodLink "java/util/ArrayList" (129 : Nat) ({ cls := "java/util/ArrayList", name := "grow", desc := "()[Ljava/lang/Object;" } : Jvm.MethodName)) ∈ lw_all := lw_g (lw_at lw_m3 232 rfl) rfl
theorem q822 : (Jvm.Cond.privateMethod ({ cls := "java/util/ArrayList", name := "grow", desc := "()[Ljava/lang/Object;" } : Jvm.MethodName)) ∈ lw_tbl := lw_at lw_m3 233 rfl
theorem q823 : (Jvm.Cond.instanceMethod ({ cls := "java/util/ArrayList", name := "grow", desc := "()[Ljava/lang/Object;" } : Jvm.MethodName)) ∈ lw_all := lw_g (lw_at lw_m3 234 rfl) rfl
theorem q824 : (Jvm.Cond.code ({ cls := "java/util/ArrayList", name := "grow", desc := "()[Ljava/lang/Object;" } : Jvm.MethodName) prog_41_method_7_code (1 : Nat) (Option.some (Jvm.ClassFile.FieldType.array (Jvm.ClassFile.FieldType.object "java/lang/Object")))) ∈ lw_all := lw_g (lw_at lw_m3 235 rfl) rfl
theorem q825 : (Jvm.Cond.methodLink "java/util/ArrayList" (69 : Nat) ({ cls := "java/util/ArrayList", name := "grow", desc := "(I)[Ljava/lang/Object;" } : Jvm.MethodName)) ∈ lw_all := lw_g (lw_at lw_m3 236 rfl) rfl
theorem q826 : (Jvm.Cond.privateMethod ({ cls := "java/util/ArrayList", name := "grow", desc := "(I)[Ljava/lang/Object;" } : Jvm.MethodName)) ∈ lw_tbl := lw_at lw_m3 237 rfl
theorem q827 : (Jvm.Cond.instanceMethod ({ cls := "java/util/ArrayList", name := "grow", desc := "(I)[Ljava/lang/Object;" } : Jvm.MethodName)) ∈ lw_all := lw_g (lw_at lw_m3 238 rfl) rfl
theorem q828 : (Jvm.Cond.code ({ cls := "java/util/ArrayList", name := "grow", desc := "(I)[Ljava/lang/Object;" } : Jvm.MethodName) prog_41_method_6_code (4 : Nat) (Option.some (Jvm.ClassFile.FieldType.array (Jvm.ClassFile.FieldType.object "java/lang/Object")))) ∈ lw_all := lw_g (lw_at lw_m3 239 rfl) rfl
theorem q829 : (Jvm.Cond.methodLink "java/util/ArrayList" (73 : Nat) ({ cls := "jdk/internal/util/ArraysSupport", name := "newLength", desc := "(III)I" } : Jvm.MethodName)) ∈ lw_all := lw_g (lw_at lw_m4 0 rfl) rfl
theorem q837 : (Jvm.Cond.methodLink "java/util/ArrayList" (66 : Nat) ({ cls := "java/util/Arrays", name := "copyOf", desc := "([Ljava/lang/Object;I)[Ljava/lang/Object;" } : Jvm.MethodName)) ∈ lw_all := lw_g (lw_at lw_m4 8 rfl) rfl
theorem q866 : (Jvm.Cond.selects "java/util/ArrayList" ({ cls := "java/lang/Object", name := "getClass", desc := "()Ljava/lang/Class;" } : Jvm.MethodName) ({ cls := "java/lang/Object", name := "getClass", desc := "()Ljava/lang/Class;" } : Jvm.MethodName)) ∈ lw_all := lw_g (lw_at lw_m4 37 rfl) rfl
theorem q878 : (Jvm.Cond.methodLink "java/util/ArrayList" (79 : Nat) ({ cls := "java/lang/Math", name := "max", desc := "(II)I" } : Jvm.MethodName)) ∈ lw_all := lw_g (lw_at lw_m4 49 rfl) rfl
theorem q879 : (Jvm.Cond.classLink "java/util/ArrayList" (7 : Nat) "java/lang/Object") ∈ lw_all := lw_g (lw_at lw_m4 50 rfl) rfl
theorem q1046 : (Jvm.Cond.selects "java/util/ArrayList" ({ cls := "java/util/List", name := "isEmpty", desc := "()Z" } : Jvm.MethodName) ({ cls := "java/util/ArrayList", name := "isEmpty", desc := "()Z" } : Jvm.MethodName)) ∈ lw_all := lw_g (lw_at lw_m4 217 rfl) rfl
theorem q1047 : (Jvm.Cond.unhidden "java/util/ArrayList" "isEmpty" "()Z") ∈ lw_tbl := lw_at lw_m4 218 rfl
theorem q1048 : (Jvm.Cond.instanceMethod ({ cls := "java/util/ArrayList", name := "isEmpty", desc := "()Z" } : Jvm.MethodName)) ∈ lw_all := lw_g (lw_at lw_m4 219 rfl) rfl
theorem q1049 : (Jvm.Cond.publicMethod ({ cls := "java/util/ArrayList", name := "isEmpty", desc := "()Z" } : Jvm.MethodName)) ∈ lw_tbl := lw_at lw_m4 220 rfl
theorem q1050 : (Jvm.Cond.code ({ cls := "java/util/ArrayList", name := "isEmpty", desc := "()Z" } : Jvm.MethodName) prog_41_method_9_code (1 : Nat) (Option.some Jvm.ClassFile.FieldType.boolean)) ∈ lw_all := lw_g (lw_at lw_m4 221 rfl) rfl
theorem q1227 : (Jvm.Cond.selects "java/util/ArrayList" ({ cls := "java/util/List", name := "addAll", desc := "(Ljava/util/Collection;)Z" } : Jvm.MethodName) ({ cls := "java/util/ArrayList", name := "addAll", desc := "(Ljava/util/Collection;)Z" } : Jvm.MethodName)) ∈ lw_all := lw_g (lw_at lw_m5 158 rfl) rfl
theorem q1228 : (Jvm.Cond.unhidden "java/util/ArrayList" "addAll" "(Ljava/util/Collection;)Z") ∈ lw_tbl := lw_at lw_m5 159 rfl
theorem q1229 : (Jvm.Cond.instanceMethod ({ cls := "java/util/ArrayList", name := "addAll", desc := "(Ljava/util/Collection;)Z" } : Jvm.MethodName)) ∈ lw_all := lw_g (lw_at lw_m5 160 rfl) rfl
theorem q1230 : (Jvm.Cond.publicMethod ({ cls := "java/util/ArrayList", name := "addAll", desc := "(Ljava/util/Collection;)Z" } : Jvm.MethodName)) ∈ lw_tbl := lw_at lw_m5 161 rfl
theorem q1231 : (Jvm.Cond.code ({ cls := "java/util/ArrayList", name := "addAll", desc := "(Ljava/util/Collection;)Z" } : Jvm.MethodName) prog_41_method_41_code (6 : Nat) (Option.some Jvm.ClassFile.FieldType.boolean)) ∈ lw_all := lw_g (lw_at lw_m5 162 rfl) rfl
theorem q1232 : (Jvm.Cond.interfaceEntry "java/util/ArrayList" (42 : Nat)) ∈ lw_tbl := lw_at lw_m5 163 rfl
theorem q1233 : (Jvm.Cond.methodLink "java/util/ArrayList" (42 : Nat) ({ cls := "java/util/Collection", name := "toArray", desc := "()[Ljava/lang/Object;" } : Jvm.MethodName)) ∈ lw_all := lw_g (lw_at lw_m5 164 rfl) rfl
theorem q1236 : (Jvm.Cond.castable "java/util/ArrayList" "java/util/Collection") ∈ lw_tbl := lw_at lw_m5 167 rfl
theorem q1237 : (Jvm.Cond.selects "java/util/ArrayList" ({ cls := "java/util/Collection", name := "toArray", desc := "()[Ljava/lang/Object;" } : Jvm.MethodName) ({ cls := "java/util/ArrayList", name := "toArray", desc := "()[Ljava/lang/Object;" } : Jvm.MethodName)) ∈ lw_all := lw_g (lw_at lw_m5 168 rfl) rfl
theorem q1238 : (Jvm.Cond.unhidden "java/util/ArrayList" "toArray" "()[Ljava/lang/Object;") ∈ lw_tbl := lw_at lw_m5 169 rfl
theorem q1239 : (Jvm.Cond.instanceMethod ({ cls := "java/util/ArrayList", name := "toArray", desc := "()[Ljava/lang/Object;" } : Jvm.MethodName)) ∈ lw_all := lw_g (lw_at lw_m5 170 rfl) rfl
theorem q1240 : (Jvm.Cond.publicMethod ({ cls := "java/util/ArrayList", name := "toArray", desc := "()[Ljava/lang/Object;" } : Jvm.MethodName)) ∈ lw_tbl := lw_at lw_m5 171 rfl
theorem q1241 : (Jvm.Cond.code ({ cls := "java/util/ArrayList", name := "toArray", desc := "()[Ljava/lang/Object;" } : Jvm.MethodName) prog_41_method_16_code (1 : Nat) (Option.some (Jvm.ClassFile.FieldType.array (Jvm.ClassFile.FieldType.object "java/lang/Object")))) ∈ lw_all := lw_g (lw_at lw_m5 172 rfl) rfl
theorem q1242 : (Jvm.Cond.methodLink "java/util/ArrayList" (112 : Nat) ({ cls := "java/lang/System", name := "arraycopy", desc := "(Ljava/lang/Object;ILjava/lang/Object;II)V" } : Jvm.MethodName)) ∈ lw_all := lw_g (lw_at lw_m5 173 rfl) rfl
theorem q1630 : (Jvm.Cond.selects "java/util/ArrayList" ({ cls := "java/util/List", name := "remove", desc := "(I)Ljava/lang/Object;" } : Jvm.MethodName) ({ cls := "java/util/ArrayList", name := "remove", desc := "(I)Ljava/lang/Object;" } : Jvm.MethodName)) ∈ lw_all := lw_g (lw_at lw_m7 81 rfl) rfl
theorem q1631 : (Jvm.Cond.unhidden "java/util/ArrayList" "remove" "(I)Ljava/lang/Object;") ∈ lw_tbl := lw_at lw_m7 82 rfl
theorem q1632 : (Jvm.Cond.instanceMethod ({ cls := "java/util/ArrayList", name := "remove", desc := "(I)Ljava/lang/Object;" } : Jvm.MethodName)) ∈ lw_all := lw_g (lw_at lw_m7 83 rfl) rfl
theorem q1633 : (Jvm.Cond.publicMethod ({ cls := "java/util/ArrayList", name := "remove", desc := "(I)Ljava/lang/Object;" } : Jvm.MethodName)) ∈ lw_tbl := lw_at lw_m7 84 rfl
theorem q1634 : (Jvm.Cond.code ({ cls := "java/util/ArrayList", name := "remove", desc := "(I)Ljava/lang/Object;" } : Jvm.MethodName) prog_41_method_29_code (4 : Nat) (Option.some (Jvm.ClassFile.FieldType.object "java/lang/Object"))) ∈ lw_all := lw_g (lw_at lw_m7 85 rfl) rfl
theorem q1635 : (Jvm.Cond.methodLink "java/util/ArrayList" (144 : Nat) ({ cls := "java/util/ArrayList", name := "fastRemove", desc := "([Ljava/lang/Object;I)V" } : Jvm.MethodName)) ∈ lw_all := lw_g (lw_at lw_m7 86 rfl) rfl
theorem q1636 : (Jvm.Cond.privateMethod ({ cls := "java/util/ArrayList", name := "fastRemove", desc := "([Ljava/lang/Object;I)V" } : Jvm.MethodName)) ∈ lw_tbl := lw_at lw_m7 87 rfl
theorem q1637 : (Jvm.Cond.instanceMethod ({ cls := "java/util/ArrayList", name := "fastRemove", desc := "([Ljava/lang/Object;I)V" } : Jvm.MethodName)) ∈ lw_all := lw_g (lw_at lw_m7 88 rfl) rfl
theorem q1638 : (Jvm.Cond.code ({ cls := "java/util/ArrayList", name := "fastRemove", desc := "([Ljava/lang/Object;I)V" } : Jvm.MethodName) prog_41_method_39_code (4 : Nat) (Option.none : Option Jvm.ClassFile.FieldType)) ∈ lw_all := lw_g (lw_at lw_m7 89 rfl) rfl
theorem q2454 : (Jvm.Cond.castable "java/util/ArrayList" "java/lang/Object") ∈ lw_tbl := lw_at lw_m10 185 rfl
theorem in_J2 : ∀ w ∈ wsJ20, w ∈ lw_all := lw_in wsJ20 [181, 177, 179] (by decide +kernel) (by decide +kernel)

/-! java/lang/Throwable -/
set_option maxRecDepth 100000
def RJ3 : String := "java/lang/Throwable"
def TJ3 : u_T := fun k => match k with
  | 0 => ("java/lang/Throwable", "cause", "Ljava/lang/Throwable;", false)
  | 1 => ("java/lang/Throwable", "stackTrace", "[Ljava/lang/StackTraceElement;", false)
  | 2 => ("java/lang/Throwable", "suppressedExceptions", "Ljava/util/List;", false)
  | 3 => ("java/lang/Throwable", "detailMessage", "Ljava/lang/String;", false)
  | _ => ("java/lang/Throwable", "backtrace", "Ljava/lang/Object;", false)
def tyJ3 : Nat → FieldType := fun k => match k with
  | 0 => .object "java/lang/Throwable"
  | 1 => .array (.object "java/lang/StackTraceElement")
  | 2 => .object "java/util/List"
  | 3 => .object "java/lang/String"
  | _ => .object "java/lang/Object"
abbrev wsJ30 : List Cond := u_ws RJ3 TJ3 5
theorem nmJ3 : ∀ a, a < 5 → ∀ b, b < 5 → a ≠ b → (TJ3 a).2.1 ≠ (TJ3 b).2.1 := by decide +kernel
theorem tyJ3_ok : ∀ k, k < 5 → parseFieldDescriptor (TJ3 k).2.2.1 = some (tyJ3 k) := by decide +kernel
abbrev cJ3_init : ByteArray := prog_38_method_1_code
def yJ3_init : MethodName := ⟨RJ3, "<init>", "()V"⟩
abbrev cJ3_init_2 : ByteArray := prog_38_method_2_code
def yJ3_init_2 : MethodName := ⟨RJ3, "<init>", "(Ljava/lang/String;)V"⟩
theorem q118 : (Jvm.Cond.initialized "java/lang/Throwable") ∈ lw_all := lw_g (lw_at lw_m1 9 rfl) rfl
theorem q703 : (Jvm.Cond.declares ({ cls := "java/lang/Throwable", name := "<init>", desc := "()V" } : Jvm.MethodName)) ∈ lw_tbl := lw_at lw_m3 114 rfl
theorem q704 : (Jvm.Cond.declares ({ cls := "java/lang/Throwable", name := "<init>", desc := "(Ljava/lang/String;)V" } : Jvm.MethodName)) ∈ lw_tbl := lw_at lw_m3 115 rfl
theorem q708 : (Jvm.Cond.lays "java/lang/Throwable" "java/lang/Throwable" "cause" "Ljava/lang/Throwable;") ∈ lw_all := lw_g (lw_at lw_m3 119 rfl) rfl
theorem q710 : (Jvm.Cond.lays "java/lang/Throwable" "java/lang/Throwable" "stackTrace" "[Ljava/lang/StackTraceElement;") ∈ lw_all := lw_g (lw_at lw_m3 121 rfl) rfl
theorem q712 : (Jvm.Cond.lays "java/lang/Throwable" "java/lang/Throwable" "suppressedExceptions" "Ljava/util/List;") ∈ lw_all := lw_g (lw_at lw_m3 123 rfl) rfl
theorem q714 : (Jvm.Cond.lays "java/lang/Throwable" "java/lang/Throwable" "detailMessage" "Ljava/lang/String;") ∈ lw_all := lw_g (lw_at lw_m3 125 rfl) rfl
theorem q716 : (Jvm.Cond.lays "java/lang/Throwable" "java/lang/Throwable" "backtrace" "Ljava/lang/Object;") ∈ lw_all := lw_g (lw_at lw_m3 127 rfl) rfl
theorem q717 : (Jvm.Cond.fieldLink "java/lang/Throwable" (198 : Nat) "java/lang/Throwable" "backtrace" "Ljava/lang/Object;") ∈ lw_all := lw_g (lw_at lw_m3 128 rfl) rfl
theorem q718 : (Jvm.Cond.superclass "java/lang/Throwable" "java/lang/Object") ∈ lw_all := lw_g (lw_at lw_m3 129 rfl) rfl
theorem q719 : (Jvm.Cond.instanceMethod ({ cls := "java/lang/Throwable", name := "<init>", desc := "()V" } : Jvm.MethodName)) ∈ lw_all := lw_g (lw_at lw_m3 130 rfl) rfl
theorem q720 : (Jvm.Cond.code ({ cls := "java/lang/Throwable", name := "<init>", desc := "()V" } : Jvm.MethodName) prog_38_method_1_code (1 : Nat) (Option.none : Option Jvm.ClassFile.FieldType)) ∈ lw_all := lw_g (lw_at lw_m3 131 rfl) rfl
theorem q721 : (Jvm.Cond.methodLink "java/lang/Throwable" (1 : Nat) ({ cls := "java/lang/Object", name := "<init>", desc := "()V" } : Jvm.MethodName)) ∈ lw_all := lw_g (lw_at lw_m3 132 rfl) rfl
theorem q722 : (Jvm.Cond.fieldLink "java/lang/Throwable" (13 : Nat) "java/lang/Throwable" "UNASSIGNED_STACK" "[Ljava/lang/StackTraceElement;") ∈ lw_all := lw_g (lw_at lw_m3 133 rfl) rfl
theorem q723 : (Jvm.Cond.laysStatic "java/lang/Throwable" "UNASSIGNED_STACK" "[Ljava/lang/StackTraceElement;") ∈ lw_tbl := lw_at lw_m3 134 rfl
theorem q724 : (Jvm.Cond.fieldLink "java/lang/Throwable" (20 : Nat) "java/lang/Throwable" "SUPPRESSED_SENTINEL" "Ljava/util/List;") ∈ lw_all := lw_g (lw_at lw_m3 135 rfl) rfl
theorem q725 : (Jvm.Cond.laysStatic "java/lang/Throwable" "SUPPRESSED_SENTINEL" "Ljava/util/List;") ∈ lw_tbl := lw_at lw_m3 136 rfl
theorem q726 : (Jvm.Cond.methodLink "java/lang/Throwable" (27 : Nat) ({ cls := "java/lang/Throwable", name := "fillInStackTrace", desc := "()Ljava/lang/Throwable;" } : Jvm.MethodName)) ∈ lw_all := lw_g (lw_at lw_m3 137 rfl) rfl
theorem q727 : (Jvm.Cond.instanceMethod ({ cls := "java/lang/Throwable", name := "fillInStackTrace", desc := "()Ljava/lang/Throwable;" } : Jvm.MethodName)) ∈ lw_all := lw_g (lw_at lw_m3 138 rfl) rfl
theorem q728 : (Jvm.Cond.sameMethod "java/lang/Throwable" "java/lang/Throwable" "fillInStackTrace" "()Ljava/lang/Throwable;") ∈ lw_all := lw_g (lw_at lw_m3 139 rfl) rfl
theorem q732 : (Jvm.Cond.codeSync ({ cls := "java/lang/Throwable", name := "fillInStackTrace", desc := "()Ljava/lang/Throwable;" } : Jvm.MethodName) prog_38_method_18_code (1 : Nat) (Option.some (Jvm.ClassFile.FieldType.object "java/lang/Throwable"))) ∈ lw_all := lw_g (lw_at lw_m3 143 rfl) rfl
theorem q733 : (Jvm.Cond.methodLink "java/lang/Throwable" (202 : Nat) ({ cls := "java/lang/Throwable", name := "fillInStackTrace", desc := "(I)Ljava/lang/Throwable;" } : Jvm.MethodName)) ∈ lw_all := lw_g (lw_at lw_m3 144 rfl) rfl
theorem q734 : (Jvm.Cond.privateMethod ({ cls := "java/lang/Throwable", name := "fillInStackTrace", desc := "(I)Ljava/lang/Throwable;" } : Jvm.MethodName)) ∈ lw_tbl := lw_at lw_m3 145 rfl
theorem q735 : (Jvm.Cond.instanceMethod ({ cls := "java/lang/Throwable", name := "fillInStackTrace", desc := "(I)Ljava/lang/Throwable;" } : Jvm.MethodName)) ∈ lw_all := lw_g (lw_at lw_m3 146 rfl) rfl
theorem q736 : (Jvm.Cond.instantiable "java/lang/Throwable" (6 : Nat)) ∈ lw_all := lw_g (lw_at lw_m3 147 rfl) rfl
theorem q737 : (Jvm.Cond.native ({ cls := "java/lang/Throwable", name := "fillInStackTrace", desc := "(I)Ljava/lang/Throwable;" } : Jvm.MethodName)) ∈ lw_all := lw_g (lw_at lw_m3 148 rfl) rfl
theorem q748 : (Jvm.Cond.fieldLink "java/lang/Throwable" (198 : Nat) "java/lang/Throwable" "backtrace" "Ljava/lang/Object;") ∈ lw_all := lw_g (lw_at lw_m3 159 rfl) rfl
theorem q749 : (Jvm.Cond.fieldLink "java/lang/Throwable" (31 : Nat) "java/lang/Throwable" "detailMessage" "Ljava/lang/String;") ∈ lw_all := lw_g (lw_at lw_m3 160 rfl) rfl
theorem q750 : (Jvm.Cond.fieldLink "java/lang/Throwable" (7 : Nat) "java/lang/Throwable" "cause" "Ljava/lang/Throwable;") ∈ lw_all := lw_g (lw_at lw_m3 161 rfl) rfl
theorem q751 : (Jvm.Cond.fieldLink "java/lang/Throwable" (17 : Nat) "java/lang/Throwable" "stackTrace" "[Ljava/lang/StackTraceElement;") ∈ lw_all := lw_g (lw_at lw_m3 162 rfl) rfl
theorem q752 : (Jvm.Cond.fieldLink "java/lang/Throwable" (24 : Nat) "java/lang/Throwable" "suppressedExceptions" "Ljava/util/List;") ∈ lw_all := lw_g (lw_at lw_m3 163 rfl) rfl
theorem q753 : (Jvm.Cond.soleField "java/lang/Throwable" "backtrace") ∈ lw_all := lw_g (lw_at lw_m3 164 rfl) rfl
theorem q754 : (Jvm.Cond.soleField "java/lang/Throwable" "detailMessage") ∈ lw_all := lw_g (lw_at lw_m3 165 rfl) rfl
theorem q755 : (Jvm.Cond.soleField "java/lang/Throwable" "cause") ∈ lw_all := lw_g (lw_at lw_m3 166 rfl) rfl
theorem q756 : (Jvm.Cond.soleField "java/lang/Throwable" "stackTrace") ∈ lw_all := lw_g (lw_at lw_m3 167 rfl) rfl
theorem q758 : (Jvm.Cond.soleField "java/lang/Throwable" "depth") ∈ lw_all := lw_g (lw_at lw_m3 169 rfl) rfl
theorem q759 : (Jvm.Cond.soleField "java/lang/Throwable" "suppressedExceptions") ∈ lw_all := lw_g (lw_at lw_m3 170 rfl) rfl
theorem q904 : (Jvm.Cond.instanceMethod ({ cls := "java/lang/Throwable", name := "<init>", desc := "(Ljava/lang/String;)V" } : Jvm.MethodName)) ∈ lw_all := lw_g (lw_at lw_m4 75 rfl) rfl
theorem q905 : (Jvm.Cond.code ({ cls := "java/lang/Throwable", name := "<init>", desc := "(Ljava/lang/String;)V" } : Jvm.MethodName) prog_38_method_2_code (2 : Nat) (Option.none : Option Jvm.ClassFile.FieldType)) ∈ lw_all := lw_g (lw_at lw_m4 76 rfl) rfl
theorem q2441 : (Jvm.Cond.sameMethod "java/lang/Throwable" "java/lang/Throwable" "fillInStackTrace" "(I)Ljava/lang/Throwable;") ∈ lw_all := lw_g (lw_at lw_m10 172 rfl) rfl
theorem q2476 : (Jvm.Cond.castable "java/lang/Throwable" "java/lang/Object") ∈ lw_tbl := lw_at lw_m10 207 rfl
theorem in_J3 : ∀ w ∈ wsJ30, w ∈ lw_all := lw_in wsJ30 [708, 710, 712, 714, 716] (by decide +kernel) (by decide +kernel)

/-! java/lang/Exception -/
set_option maxRecDepth 100000
def RJ4 : String := "java/lang/Exception"
abbrev cJ4_init : ByteArray := prog_25_method_1_code
def yJ4_init : MethodName := ⟨RJ4, "<init>", "()V"⟩
abbrev cJ4_init_2 : ByteArray := prog_25_method_2_code
def yJ4_init_2 : MethodName := ⟨RJ4, "<init>", "(Ljava/lang/String;)V"⟩
theorem q119 : (Jvm.Cond.initialized "java/lang/Exception") ∈ lw_all := lw_g (lw_at lw_m1 10 rfl) rfl
theorem q701 : (Jvm.Cond.declares ({ cls := "java/lang/Exception", name := "<init>", desc := "()V" } : Jvm.MethodName)) ∈ lw_tbl := lw_at lw_m3 112 rfl
theorem q702 : (Jvm.Cond.declares ({ cls := "java/lang/Exception", name := "<init>", desc := "(Ljava/lang/String;)V" } : Jvm.MethodName)) ∈ lw_tbl := lw_at lw_m3 113 rfl
theorem q745 : (Jvm.Cond.instanceMethod ({ cls := "java/lang/Exception", name := "<init>", desc := "()V" } : Jvm.MethodName)) ∈ lw_all := lw_g (lw_at lw_m3 156 rfl) rfl
theorem q746 : (Jvm.Cond.code ({ cls := "java/lang/Exception", name := "<init>", desc := "()V" } : Jvm.MethodName) prog_25_method_1_code (1 : Nat) (Option.none : Option Jvm.ClassFile.FieldType)) ∈ lw_all := lw_g (lw_at lw_m3 157 rfl) rfl
theorem q747 : (Jvm.Cond.methodLink "java/lang/Exception" (1 : Nat) ({ cls := "java/lang/Throwable", name := "<init>", desc := "()V" } : Jvm.MethodName)) ∈ lw_all := lw_g (lw_at lw_m3 158 rfl) rfl
theorem q901 : (Jvm.Cond.instanceMethod ({ cls := "java/lang/Exception", name := "<init>", desc := "(Ljava/lang/String;)V" } : Jvm.MethodName)) ∈ lw_all := lw_g (lw_at lw_m4 72 rfl) rfl
theorem q902 : (Jvm.Cond.code ({ cls := "java/lang/Exception", name := "<init>", desc := "(Ljava/lang/String;)V" } : Jvm.MethodName) prog_25_method_2_code (2 : Nat) (Option.none : Option Jvm.ClassFile.FieldType)) ∈ lw_all := lw_g (lw_at lw_m4 73 rfl) rfl
theorem q903 : (Jvm.Cond.methodLink "java/lang/Exception" (7 : Nat) ({ cls := "java/lang/Throwable", name := "<init>", desc := "(Ljava/lang/String;)V" } : Jvm.MethodName)) ∈ lw_all := lw_g (lw_at lw_m4 74 rfl) rfl

/-! java/lang/RuntimeException -/
set_option maxRecDepth 100000
def RJ5 : String := "java/lang/RuntimeException"
abbrev cJ5_init : ByteArray := prog_35_method_1_code
def yJ5_init : MethodName := ⟨RJ5, "<init>", "()V"⟩
abbrev cJ5_init_2 : ByteArray := prog_35_method_2_code
def yJ5_init_2 : MethodName := ⟨RJ5, "<init>", "(Ljava/lang/String;)V"⟩
theorem q120 : (Jvm.Cond.initialized "java/lang/RuntimeException") ∈ lw_all := lw_g (lw_at lw_m1 11 rfl) rfl
theorem q699 : (Jvm.Cond.declares ({ cls := "java/lang/RuntimeException", name := "<init>", desc := "()V" } : Jvm.MethodName)) ∈ lw_tbl := lw_at lw_m3 110 rfl
theorem q700 : (Jvm.Cond.declares ({ cls := "java/lang/RuntimeException", name := "<init>", desc := "(Ljava/lang/String;)V" } : Jvm.MethodName)) ∈ lw_tbl := lw_at lw_m3 111 rfl
theorem q742 : (Jvm.Cond.instanceMethod ({ cls := "java/lang/RuntimeException", name := "<init>", desc := "()V" } : Jvm.MethodName)) ∈ lw_all := lw_g (lw_at lw_m3 153 rfl) rfl
theorem q743 : (Jvm.Cond.code ({ cls := "java/lang/RuntimeException", name := "<init>", desc := "()V" } : Jvm.MethodName) prog_35_method_1_code (1 : Nat) (Option.none : Option Jvm.ClassFile.FieldType)) ∈ lw_all := lw_g (lw_at lw_m3 154 rfl) rfl
theorem q744 : (Jvm.Cond.methodLink "java/lang/RuntimeException" (1 : Nat) ({ cls := "java/lang/Exception", name := "<init>", desc := "()V" } : Jvm.MethodName)) ∈ lw_all := lw_g (lw_at lw_m3 155 rfl) rfl
theorem q898 : (Jvm.Cond.instanceMethod ({ cls := "java/lang/RuntimeException", name := "<init>", desc := "(Ljava/lang/String;)V" } : Jvm.MethodName)) ∈ lw_all := lw_g (lw_at lw_m4 69 rfl) rfl
theorem q899 : (Jvm.Cond.code ({ cls := "java/lang/RuntimeException", name := "<init>", desc := "(Ljava/lang/String;)V" } : Jvm.MethodName) prog_35_method_2_code (2 : Nat) (Option.none : Option Jvm.ClassFile.FieldType)) ∈ lw_all := lw_g (lw_at lw_m4 70 rfl) rfl
theorem q900 : (Jvm.Cond.methodLink "java/lang/RuntimeException" (7 : Nat) ({ cls := "java/lang/Exception", name := "<init>", desc := "(Ljava/lang/String;)V" } : Jvm.MethodName)) ∈ lw_all := lw_g (lw_at lw_m4 71 rfl) rfl

/-! java/lang/IllegalArgumentException -/
set_option maxRecDepth 100000
def RJ6 : String := "java/lang/IllegalArgumentException"
def TJ6 : u_T := fun k => match k with
  | 0 => ("java/lang/Throwable", "cause", "Ljava/lang/Throwable;", false)
  | 1 => ("java/lang/Throwable", "stackTrace", "[Ljava/lang/StackTraceElement;", false)
  | 2 => ("java/lang/Throwable", "suppressedExceptions", "Ljava/util/List;", false)
  | 3 => ("java/lang/Throwable", "detailMessage", "Ljava/lang/String;", false)
  | 4 => ("java/lang/Throwable", "backtrace", "Ljava/lang/Object;", false)
  | _ => ("java/lang/Throwable", "depth", "I", false)
def tyJ6 : Nat → FieldType := fun k => match k with
  | 0 => .object "java/lang/Throwable"
  | 1 => .array (.object "java/lang/StackTraceElement")
  | 2 => .object "java/util/List"
  | 3 => .object "java/lang/String"
  | 4 => .object "java/lang/Object"
  | _ => .int
abbrev wsJ60 : List Cond := u_ws RJ6 TJ6 6
theorem nmJ6 : ∀ a, a < 6 → ∀ b, b < 6 → a ≠ b → (TJ6 a).2.1 ≠ (TJ6 b).2.1 := by decide +kernel
theorem tyJ6_ok : ∀ k, k < 6 → parseFieldDescriptor (TJ6 k).2.2.1 = some (tyJ6 k) := by decide +kernel
abbrev cJ6_init : ByteArray := prog_26_method_1_code
def yJ6_init : MethodName := ⟨RJ6, "<init>", "()V"⟩
theorem q121 : (Jvm.Cond.initialized "java/lang/IllegalArgumentException") ∈ lw_all := lw_g (lw_at lw_m1 12 rfl) rfl
theorem q697 : (Jvm.Cond.instantiable "java/lang/IllegalArgumentException" (6 : Nat)) ∈ lw_all := lw_g (lw_at lw_m3 108 rfl) rfl
theorem q698 : (Jvm.Cond.castable "java/lang/IllegalArgumentException" "java/lang/IllegalArgumentException") ∈ lw_tbl := lw_at lw_m3 109 rfl
theorem q705 : (Jvm.Cond.selects "java/lang/IllegalArgumentException" ({ cls := "java/lang/Throwable", name := "fillInStackTrace", desc := "(I)Ljava/lang/Throwable;" } : Jvm.MethodName) ({ cls := "java/lang/Throwable", name := "fillInStackTrace", desc := "(I)Ljava/lang/Throwable;" } : Jvm.MethodName)) ∈ lw_all := lw_g (lw_at lw_m3 116 rfl) rfl
theorem q706 : (Jvm.Cond.selects "java/lang/IllegalArgumentException" ({ cls := "java/lang/Throwable", name := "fillInStackTrace", desc := "()Ljava/lang/Throwable;" } : Jvm.MethodName) ({ cls := "java/lang/Throwable", name := "fillInStackTrace", desc := "()Ljava/lang/Throwable;" } : Jvm.MethodName)) ∈ lw_all := lw_g (lw_at lw_m3 117 rfl) rfl
theorem q707 : (Jvm.Cond.lays "java/lang/IllegalArgumentException" "java/lang/Throwable" "cause" "Ljava/lang/Throwable;") ∈ lw_all := lw_g (lw_at lw_m3 118 rfl) rfl
theorem q709 : (Jvm.Cond.lays "java/lang/IllegalArgumentException" "java/lang/Throwable" "stackTrace" "[Ljava/lang/StackTraceElement;") ∈ lw_all := lw_g (lw_at lw_m3 120 rfl) rfl
theorem q711 : (Jvm.Cond.lays "java/lang/IllegalArgumentException" "java/lang/Throwable" "suppressedExceptions" "Ljava/util/List;") ∈ lw_all := lw_g (lw_at lw_m3 122 rfl) rfl
theorem q713 : (Jvm.Cond.lays "java/lang/IllegalArgumentException" "java/lang/Throwable" "detailMessage" "Ljava/lang/String;") ∈ lw_all := lw_g (lw_at lw_m3 124 rfl) rfl
theorem q715 : (Jvm.Cond.lays "java/lang/IllegalArgumentException" "java/lang/Throwable" "backtrace" "Ljava/lang/Object;") ∈ lw_all := lw_g (lw_at lw_m3 126 rfl) rfl
theorem q739 : (Jvm.Cond.instanceMethod ({ cls := "java/lang/IllegalArgumentException", name := "<init>", desc := "()V" } : Jvm.MethodName)) ∈ lw_all := lw_g (lw_at lw_m3 150 rfl) rfl
theorem q740 : (Jvm.Cond.code ({ cls := "java/lang/IllegalArgumentException", name := "<init>", desc := "()V" } : Jvm.MethodName) prog_26_method_1_code (1 : Nat) (Option.none : Option Jvm.ClassFile.FieldType)) ∈ lw_all := lw_g (lw_at lw_m3 151 rfl) rfl
theorem q741 : (Jvm.Cond.methodLink "java/lang/IllegalArgumentException" (1 : Nat) ({ cls := "java/lang/RuntimeException", name := "<init>", desc := "()V" } : Jvm.MethodName)) ∈ lw_all := lw_g (lw_at lw_m3 152 rfl) rfl
theorem q757 : (Jvm.Cond.lays "java/lang/IllegalArgumentException" "java/lang/Throwable" "depth" "I") ∈ lw_all := lw_g (lw_at lw_m3 168 rfl) rfl
theorem q760 : (Jvm.Cond.superclass "java/lang/IllegalArgumentException" "java/lang/RuntimeException") ∈ lw_all := lw_g (lw_at lw_m3 171 rfl) rfl
theorem q862 : (Jvm.Cond.selects "java/lang/IllegalArgumentException" ({ cls := "java/lang/Object", name := "getClass", desc := "()Ljava/lang/Class;" } : Jvm.MethodName) ({ cls := "java/lang/Object", name := "getClass", desc := "()Ljava/lang/Class;" } : Jvm.MethodName)) ∈ lw_all := lw_g (lw_at lw_m4 33 rfl) rfl
theorem q2459 : (Jvm.Cond.castable "java/lang/IllegalArgumentException" "java/lang/Object") ∈ lw_tbl := lw_at lw_m10 190 rfl
theorem in_J6 : ∀ w ∈ wsJ60, w ∈ lw_all := lw_in wsJ60 [707, 709, 711, 713, 715, 757] (by decide +kernel) (by decide +kernel)

/-! java/lang/Record -/
set_option maxRecDepth 100000
def RJ7 : String := "java/lang/Record"
abbrev cJ7_init : ByteArray := prog_34_method_1_code
def yJ7_init : MethodName := ⟨RJ7, "<init>", "()V"⟩
theorem q122 : (Jvm.Cond.initialized "java/lang/Record") ∈ lw_all := lw_g (lw_at lw_m1 13 rfl) rfl
theorem q770 : (Jvm.Cond.instanceMethod ({ cls := "java/lang/Record", name := "<init>", desc := "()V" } : Jvm.MethodName)) ∈ lw_all := lw_g (lw_at lw_m3 181 rfl) rfl
theorem q771 : (Jvm.Cond.code ({ cls := "java/lang/Record", name := "<init>", desc := "()V" } : Jvm.MethodName) prog_34_method_1_code (1 : Nat) (Option.none : Option Jvm.ClassFile.FieldType)) ∈ lw_all := lw_g (lw_at lw_m3 182 rfl) rfl
theorem q772 : (Jvm.Cond.methodLink "java/lang/Record" (1 : Nat) ({ cls := "java/lang/Object", name := "<init>", desc := "()V" } : Jvm.MethodName)) ∈ lw_all := lw_g (lw_at lw_m3 183 rfl) rfl

/-! java/lang/IllegalStateException -/
set_option maxRecDepth 100000
def RJ8 : String := "java/lang/IllegalStateException"
def TJ8 : u_T := fun k => match k with
  | 0 => ("java/lang/Throwable", "cause", "Ljava/lang/Throwable;", false)
  | 1 => ("java/lang/Throwable", "stackTrace", "[Ljava/lang/StackTraceElement;", false)
  | 2 => ("java/lang/Throwable", "suppressedExceptions", "Ljava/util/List;", false)
  | 3 => ("java/lang/Throwable", "detailMessage", "Ljava/lang/String;", false)
  | 4 => ("java/lang/Throwable", "backtrace", "Ljava/lang/Object;", false)
  | _ => ("java/lang/Throwable", "depth", "I", false)
def tyJ8 : Nat → FieldType := fun k => match k with
  | 0 => .object "java/lang/Throwable"
  | 1 => .array (.object "java/lang/StackTraceElement")
  | 2 => .object "java/util/List"
  | 3 => .object "java/lang/String"
  | 4 => .object "java/lang/Object"
  | _ => .int
abbrev wsJ80 : List Cond := u_ws RJ8 TJ8 6
theorem nmJ8 : ∀ a, a < 6 → ∀ b, b < 6 → a ≠ b → (TJ8 a).2.1 ≠ (TJ8 b).2.1 := by decide +kernel
theorem tyJ8_ok : ∀ k, k < 6 → parseFieldDescriptor (TJ8 k).2.2.1 = some (tyJ8 k) := by decide +kernel
abbrev cJ8_init : ByteArray := prog_27_method_1_code
def yJ8_init : MethodName := ⟨RJ8, "<init>", "()V"⟩
theorem q124 : (Jvm.Cond.initialized "java/lang/IllegalStateException") ∈ lw_all := lw_g (lw_at lw_m1 15 rfl) rfl
theorem q730 : (Jvm.Cond.selects "java/lang/IllegalStateException" ({ cls := "java/lang/Throwable", name := "fillInStackTrace", desc := "()Ljava/lang/Throwable;" } : Jvm.MethodName) ({ cls := "java/lang/Throwable", name := "fillInStackTrace", desc := "()Ljava/lang/Throwable;" } : Jvm.MethodName)) ∈ lw_all := lw_g (lw_at lw_m3 141 rfl) rfl
theorem q794 : (Jvm.Cond.instantiable "java/lang/IllegalStateException" (6 : Nat)) ∈ lw_all := lw_g (lw_at lw_m3 205 rfl) rfl
theorem q795 : (Jvm.Cond.castable "java/lang/IllegalStateException" "java/lang/IllegalStateException") ∈ lw_tbl := lw_at lw_m3 206 rfl
theorem q796 : (Jvm.Cond.selects "java/lang/IllegalStateException" ({ cls := "java/lang/Throwable", name := "fillInStackTrace", desc := "(I)Ljava/lang/Throwable;" } : Jvm.MethodName) ({ cls := "java/lang/Throwable", name := "fillInStackTrace", desc := "(I)Ljava/lang/Throwable;" } : Jvm.MethodName)) ∈ lw_all := lw_g (lw_at lw_m3 207 rfl) rfl
theorem q797 : (Jvm.Cond.lays "java/lang/IllegalStateException" "java/lang/Throwable" "cause" "Ljava/lang/Throwable;") ∈ lw_all := lw_g (lw_at lw_m3 208 rfl) rfl
theorem q798 : (Jvm.Cond.lays "java/lang/IllegalStateException" "java/lang/Throwable" "stackTrace" "[Ljava/lang/StackTraceElement;") ∈ lw_all := lw_g (lw_at lw_m3 209 rfl) rfl
theorem q799 : (Jvm.Cond.lays "java/lang/IllegalStateException" "java/lang/Throwable" "suppressedExceptions" "Ljava/util/List;") ∈ lw_all := lw_g (lw_at lw_m3 210 rfl) rfl
theorem q800 : (Jvm.Cond.lays "java/lang/IllegalStateException" "java/lang/Throwable" "detailMessage" "Ljava/lang/String;") ∈ lw_all := lw_g (lw_at lw_m3 211 rfl) rfl
theorem q801 : (Jvm.Cond.lays "java/lang/IllegalStateException" "java/lang/Throwable" "backtrace" "Ljava/lang/Object;") ∈ lw_all := lw_g (lw_at lw_m3 212 rfl) rfl
theorem q803 : (Jvm.Cond.instanceMethod ({ cls := "java/lang/IllegalStateException", name := "<init>", desc := "()V" } : Jvm.MethodName)) ∈ lw_all := lw_g (lw_at lw_m3 214 rfl) rfl
theorem q804 : (Jvm.Cond.code ({ cls := "java/lang/IllegalStateException", name := "<init>", desc := "()V" } : Jvm.MethodName) prog_27_method_1_code (1 : Nat) (Option.none : Option Jvm.ClassFile.FieldType)) ∈ lw_all := lw_g (lw_at lw_m3 215 rfl) rfl
theorem q805 : (Jvm.Cond.methodLink "java/lang/IllegalStateException" (1 : Nat) ({ cls := "java/lang/RuntimeException", name := "<init>", desc := "()V" } : Jvm.MethodName)) ∈ lw_all := lw_g (lw_at lw_m3 216 rfl) rfl
theorem q806 : (Jvm.Cond.lays "java/lang/IllegalStateException" "java/lang/Throwable" "depth" "I") ∈ lw_all := lw_g (lw_at lw_m3 217 rfl) rfl
theorem q807 : (Jvm.Cond.superclass "java/lang/IllegalStateException" "java/lang/RuntimeException") ∈ lw_all := lw_g (lw_at lw_m3 218 rfl) rfl
theorem q863 : (Jvm.Cond.selects "java/lang/IllegalStateException" ({ cls := "java/lang/Object", name := "getClass", desc := "()Ljava/lang/Class;" } : Jvm.MethodName) ({ cls := "java/lang/Object", name := "getClass", desc := "()Ljava/lang/Class;" } : Jvm.MethodName)) ∈ lw_all := lw_g (lw_at lw_m4 34 rfl) rfl
theorem q2461 : (Jvm.Cond.castable "java/lang/IllegalStateException" "java/lang/Object") ∈ lw_tbl := lw_at lw_m10 192 rfl
theorem in_J8 : ∀ w ∈ wsJ80, w ∈ lw_all := lw_in wsJ80 [797, 798, 799, 800, 801, 806] (by decide +kernel) (by decide +kernel)

/-! jdk/internal/util/ArraysSupport -/
set_option maxRecDepth 100000
def RJ9 : String := "jdk/internal/util/ArraysSupport"
abbrev cJ9_newLength : ByteArray := prog_48_method_27_code
def yJ9_newLength : MethodName := ⟨RJ9, "newLength", "(III)I"⟩
abbrev cJ9_hugeLength : ByteArray := prog_48_method_28_code
def yJ9_hugeLength : MethodName := ⟨RJ9, "hugeLength", "(II)I"⟩
theorem q125 : (Jvm.Cond.initialized "jdk/internal/util/ArraysSupport") ∈ lw_all := lw_g (lw_at lw_m1 16 rfl) rfl
theorem q830 : (Jvm.Cond.static ({ cls := "jdk/internal/util/ArraysSupport", name := "newLength", desc := "(III)I" } : Jvm.MethodName)) ∈ lw_all := lw_g (lw_at lw_m4 1 rfl) rfl
theorem q831 : (Jvm.Cond.code ({ cls := "jdk/internal/util/ArraysSupport", name := "newLength", desc := "(III)I" } : Jvm.MethodName) prog_48_method_27_code (4 : Nat) (Option.some Jvm.ClassFile.FieldType.int)) ∈ lw_all := lw_g (lw_at lw_m4 2 rfl) rfl
theorem q832 : (Jvm.Cond.methodLink "jdk/internal/util/ArraysSupport" (194 : Nat) ({ cls := "java/lang/Math", name := "max", desc := "(II)I" } : Jvm.MethodName)) ∈ lw_all := lw_g (lw_at lw_m4 3 rfl) rfl
theorem q833 : (Jvm.Cond.constant "jdk/internal/util/ArraysSupport" (200 : Nat) (2147483639 : Int32)) ∈ lw_all := lw_g (lw_at lw_m4 4 rfl) rfl
theorem q834 : (Jvm.Cond.methodLink "jdk/internal/util/ArraysSupport" (201 : Nat) ({ cls := "jdk/internal/util/ArraysSupport", name := "hugeLength", desc := "(II)I" } : Jvm.MethodName)) ∈ lw_all := lw_g (lw_at lw_m4 5 rfl) rfl
theorem q835 : (Jvm.Cond.static ({ cls := "jdk/internal/util/ArraysSupport", name := "hugeLength", desc := "(II)I" } : Jvm.MethodName)) ∈ lw_all := lw_g (lw_at lw_m4 6 rfl) rfl
theorem q836 : (Jvm.Cond.code ({ cls := "jdk/internal/util/ArraysSupport", name := "hugeLength", desc := "(II)I" } : Jvm.MethodName) prog_48_method_28_code (3 : Nat) (Option.some Jvm.ClassFile.FieldType.int)) ∈ lw_all := lw_g (lw_at lw_m4 7 rfl) rfl

/-! the law's own entry -/
set_option maxRecDepth 100000
abbrev cL_law : ByteArray := code

/-! DomainLinksLaw -/
set_option maxRecDepth 100000
def RX0 : String := "DomainLinksLaw"
abbrev cX0_variable : ByteArray := method_3_code
def yX0_variable : MethodName := ⟨RX0, "variable", "(LDomainLinks;II[J)I"⟩
abbrev cX0_ratio : ByteArray := method_4_code
def yX0_ratio : MethodName := ⟨RX0, "ratio", "(LDomainLinks;II[J)I"⟩
abbrev cX0_name : ByteArray := method_5_code
def yX0_name : MethodName := ⟨RX0, "name", "(LDomainLinks;I[J)I"⟩
abbrev cX0_number : ByteArray := method_6_code
def yX0_number : MethodName := ⟨RX0, "number", "(LDomainLinks;I[J)I"⟩
abbrev cX0_move : ByteArray := method_7_code
def yX0_move : MethodName := ⟨RX0, "move", "(LDomainLinks;III[J)I"⟩
abbrev cX0_literal : ByteArray := method_8_code
def yX0_literal : MethodName := ⟨RX0, "literal", "(LDomainLinks;IIZ[J)I"⟩
abbrev cX0_linear : ByteArray := method_9_code
def yX0_linear : MethodName := ⟨RX0, "linear", "(LDomainLinks;ZI[J)I"⟩
abbrev cX0_different : ByteArray := method_10_code
def yX0_different : MethodName := ⟨RX0, "different", "(LDomainLinks;[J)I"⟩
abbrev cX0_order : ByteArray := method_11_code
def yX0_order : MethodName := ⟨RX0, "order", "(LDomainLinks;[J)I"⟩
abbrev cX0_regular : ByteArray := method_12_code
def yX0_regular : MethodName := ⟨RX0, "regular", "(LDomainLinks;I[J)I"⟩
abbrev cX0_element : ByteArray := method_13_code
def yX0_element : MethodName := ⟨RX0, "element", "(LDomainLinks;II[J)I"⟩
abbrev cX0_when : ByteArray := method_14_code
def yX0_when : MethodName := ⟨RX0, "when", "(LDomainLinks;IIIZ[J)I"⟩
abbrev cX0_sets : ByteArray := method_15_code
def yX0_sets : MethodName := ⟨RX0, "sets", "(LDomainLinks;ZIII[J)I"⟩
abbrev cX0_within : ByteArray := method_16_code
def yX0_within : MethodName := ⟨RX0, "within", "(LDomainLinks;II[J)I"⟩
abbrev cX0_measure : ByteArray := method_17_code
def yX0_measure : MethodName := ⟨RX0, "measure", "(LDomainLinks;II[J)I"⟩
abbrev cX0_member : ByteArray := method_18_code
def yX0_member : MethodName := ⟨RX0, "member", "(LDomainLinks;III[J)I"⟩
abbrev cX0_joined : ByteArray := method_19_code
def yX0_joined : MethodName := ⟨RX0, "joined", "(LDomainLinks;III[J)I"⟩
abbrev cX0_prefix : ByteArray := method_20_code
def yX0_prefix : MethodName := ⟨RX0, "prefix", "(LDomainLinks;II[J)I"⟩
abbrev cX0_letter : ByteArray := method_21_code
def yX0_letter : MethodName := ⟨RX0, "letter", "(LDomainLinks;III[J)I"⟩
abbrev cX0_clause : ByteArray := method_22_code
def yX0_clause : MethodName := ⟨RX0, "clause", "(LDomainLinks;[J)I"⟩
abbrev cX0_symbol : ByteArray := method_23_code
def yX0_symbol : MethodName := ⟨RX0, "symbol", "(LDomainLinks;II[J)I"⟩
abbrev cX0_decide : ByteArray := method_24_code
def yX0_decide : MethodName := ⟨RX0, "decide", "(LDomainLinks;IIZ[J)I"⟩
abbrev cX0_back : ByteArray := method_25_code
def yX0_back : MethodName := ⟨RX0, "back", "(LDomainLinks;I[J)I"⟩
abbrev cX0_domain : ByteArray := method_26_code
def yX0_domain : MethodName := ⟨RX0, "domain", "(LDomainLinks;I[J)I"⟩
abbrev cX0_bound : ByteArray := method_27_code
def yX0_bound : MethodName := ⟨RX0, "bound", "(LDomainLinks;IZ[J)I"⟩
abbrev cX0_removal : ByteArray := method_28_code
def yX0_removal : MethodName := ⟨RX0, "removal", "(LDomainLinks;II[J)I"⟩
abbrev cX0_reason : ByteArray := method_29_code
def yX0_reason : MethodName := ⟨RX0, "reason", "(LDomainLinks;II[J)I"⟩
abbrev cX0_failure : ByteArray := method_30_code
def yX0_failure : MethodName := ⟨RX0, "failure", "(LDomainLinks;[J)I"⟩
abbrev cX0_learn : ByteArray := method_31_code
def yX0_learn : MethodName := ⟨RX0, "learn", "(LDomainLinks;[J)I"⟩
abbrev cX0_search : ByteArray := method_32_code
def yX0_search : MethodName := ⟨RX0, "search", "(LDomainLinks;IIIII[J)I"⟩
abbrev cX0_solution : ByteArray := method_33_code
def yX0_solution : MethodName := ⟨RX0, "solution", "(LDomainLinks;I[J)I"⟩
abbrev cX0_solutions : ByteArray := method_34_code
def yX0_solutions : MethodName := ⟨RX0, "solutions", "(LDomainLinks;[J)I"⟩
abbrev cX0_solutionsByAll : ByteArray := method_35_code
def yX0_solutionsByAll : MethodName := ⟨RX0, "solutionsByAll", "(LDomainLinks;[J)I"⟩
abbrev cX0_minimise : ByteArray := method_36_code
def yX0_minimise : MethodName := ⟨RX0, "minimise", "(LDomainLinks;IIIII)I"⟩
abbrev cX0_goOn : ByteArray := method_37_code
def yX0_goOn : MethodName := ⟨RX0, "goOn", "(LDomainLinks;II[J)I"⟩
abbrev cX0_tree : ByteArray := method_38_code
def yX0_tree : MethodName := ⟨RX0, "tree", "(LDomainLinks;[J)I"⟩
abbrev cX0_term : ByteArray := method_39_code
def yX0_term : MethodName := ⟨RX0, "term", "(LDomainLinks;III[J)I"⟩
abbrev cX0_unify : ByteArray := method_40_code
def yX0_unify : MethodName := ⟨RX0, "unify", "(LDomainLinks;II[J)I"⟩
abbrev cX0_areAlike : ByteArray := method_41_code
def yX0_areAlike : MethodName := ⟨RX0, "areAlike", "(LDomainLinks;II[J)I"⟩
abbrev cX0_symbolAt : ByteArray := method_42_code
def yX0_symbolAt : MethodName := ⟨RX0, "symbolAt", "(LDomainLinks;III[J)I"⟩
abbrev cX0_isEndless : ByteArray := method_43_code
def yX0_isEndless : MethodName := ⟨RX0, "isEndless", "(LDomainLinks;I[J)I"⟩
theorem q109 : (Jvm.Cond.initialized "DomainLinksLaw") ∈ lw_all := lw_g (lw_at lw_m1 0 rfl) rfl
theorem q150 : (Jvm.Cond.classLink "DomainLinksLaw" (8 : Nat) "DomainLinks") ∈ lw_all := lw_g (lw_at lw_m1 41 rfl) rfl
theorem q152 : (Jvm.Cond.methodLink "DomainLinksLaw" (151 : Nat) ({ cls := "DomainLinks", name := "<init>", desc := "()V" } : Jvm.MethodName)) ∈ lw_all := lw_g (lw_at lw_m1 43 rfl) rfl
theorem q373 : (Jvm.Cond.methodLink "DomainLinksLaw" (231 : Nat) ({ cls := "DomainLinks", name := "constraints", desc := "()I" } : Jvm.MethodName)) ∈ lw_all := lw_g (lw_at lw_m2 24 rfl) rfl
theorem q387 : (Jvm.Cond.methodLink "DomainLinksLaw" (241 : Nat) ({ cls := "DomainLinks", name := "isFailed", desc := "()Z" } : Jvm.MethodName)) ∈ lw_all := lw_g (lw_at lw_m2 38 rfl) rfl
theorem q664 : (Jvm.Cond.methodLink "DomainLinksLaw" (253 : Nat) ({ cls := "DomainLinks", name := "rounds", desc := "()I" } : Jvm.MethodName)) ∈ lw_all := lw_g (lw_at lw_m3 75 rfl) rfl
theorem q668 : (Jvm.Cond.methodLink "DomainLinksLaw" (257 : Nat) ({ cls := "DomainLinks", name := "removals", desc := "()I" } : Jvm.MethodName)) ∈ lw_all := lw_g (lw_at lw_m3 79 rfl) rfl
theorem q672 : (Jvm.Cond.methodLink "DomainLinksLaw" (277 : Nat) ({ cls := "DomainLinks", name := "nodes", desc := "()I" } : Jvm.MethodName)) ∈ lw_all := lw_g (lw_at lw_m3 83 rfl) rfl
theorem q676 : (Jvm.Cond.methodLink "DomainLinksLaw" (281 : Nat) ({ cls := "DomainLinks", name := "failures", desc := "()I" } : Jvm.MethodName)) ∈ lw_all := lw_g (lw_at lw_m3 87 rfl) rfl
theorem q680 : (Jvm.Cond.methodLink "DomainLinksLaw" (301 : Nat) ({ cls := "DomainLinks", name := "best", desc := "()I" } : Jvm.MethodName)) ∈ lw_all := lw_g (lw_at lw_m3 91 rfl) rfl
theorem q684 : (Jvm.Cond.methodLink "DomainLinksLaw" (155 : Nat) ({ cls := "DomainLinksLaw", name := "variable", desc := "(LDomainLinks;II[J)I" } : Jvm.MethodName)) ∈ lw_all := lw_g (lw_at lw_m3 95 rfl) rfl
theorem q685 : (Jvm.Cond.static ({ cls := "DomainLinksLaw", name := "variable", desc := "(LDomainLinks;II[J)I" } : Jvm.MethodName)) ∈ lw_all := lw_g (lw_at lw_m3 96 rfl) rfl
theorem q686 : (Jvm.Cond.codeWith ({ cls := "DomainLinksLaw", name := "variable", desc := "(LDomainLinks;II[J)I" } : Jvm.MethodName) method_3_code (5 : Nat) (Option.some Jvm.ClassFile.FieldType.int) [((0 : Nat), (10 : Nat), (13 : Nat), (13 : Nat)), ((0 : Nat), (10 : Nat), (17 : Nat), (15 : Nat))]) ∈ lw_all := lw_g (lw_at lw_m3 97 rfl) rfl
theorem q687 : (Jvm.Cond.classLink "DomainLinksLaw" (13 : Nat) "java/lang/IllegalArgumentException") ∈ lw_all := lw_g (lw_at lw_m3 98 rfl) rfl
theorem q688 : (Jvm.Cond.classLink "DomainLinksLaw" (15 : Nat) "java/lang/IllegalStateException") ∈ lw_all := lw_g (lw_at lw_m3 99 rfl) rfl
theorem q689 : (Jvm.Cond.methodLink "DomainLinksLaw" (7 : Nat) ({ cls := "DomainLinks", name := "variable", desc := "(II)I" } : Jvm.MethodName)) ∈ lw_all := lw_g (lw_at lw_m3 100 rfl) rfl
theorem q880 : (Jvm.Cond.methodLink "DomainLinksLaw" (164 : Nat) ({ cls := "DomainLinksLaw", name := "ratio", desc := "(LDomainLinks;II[J)I" } : Jvm.MethodName)) ∈ lw_all := lw_g (lw_at lw_m4 51 rfl) rfl
theorem q881 : (Jvm.Cond.static ({ cls := "DomainLinksLaw", name := "ratio", desc := "(LDomainLinks;II[J)I" } : Jvm.MethodName)) ∈ lw_all := lw_g (lw_at lw_m4 52 rfl) rfl
theorem q882 : (Jvm.Cond.codeWith ({ cls := "DomainLinksLaw", name := "ratio", desc := "(LDomainLinks;II[J)I" } : Jvm.MethodName) method_4_code (5 : Nat) (Option.some Jvm.ClassFile.FieldType.int) [((0 : Nat), (10 : Nat), (13 : Nat), (13 : Nat)), ((0 : Nat), (10 : Nat), (17 : Nat), (15 : Nat))]) ∈ lw_all := lw_g (lw_at lw_m4 53 rfl) rfl
theorem q883 : (Jvm.Cond.methodLink "DomainLinksLaw" (17 : Nat) ({ cls := "DomainLinks", name := "ratio", desc := "(II)I" } : Jvm.MethodName)) ∈ lw_all := lw_g (lw_at lw_m4 54 rfl) rfl
theorem q887 : (Jvm.Cond.methodLink "DomainLinksLaw" (167 : Nat) ({ cls := "DomainLinksLaw", name := "name", desc := "(LDomainLinks;I[J)I" } : Jvm.MethodName)) ∈ lw_all := lw_g (lw_at lw_m4 58 rfl) rfl
theorem q888 : (Jvm.Cond.static ({ cls := "DomainLinksLaw", name := "name", desc := "(LDomainLinks;I[J)I" } : Jvm.MethodName)) ∈ lw_all := lw_g (lw_at lw_m4 59 rfl) rfl
theorem q889 : (Jvm.Cond.codeWith ({ cls := "DomainLinksLaw", name := "name", desc := "(LDomainLinks;I[J)I" } : Jvm.MethodName) method_5_code (4 : Nat) (Option.some Jvm.ClassFile.FieldType.int) [((0 : Nat), (9 : Nat), (12 : Nat), (24 : Nat)), ((0 : Nat), (9 : Nat), (15 : Nat), (15 : Nat))]) ∈ lw_all := lw_g (lw_at lw_m4 60 rfl) rfl
theorem q890 : (Jvm.Cond.classLink "DomainLinksLaw" (24 : Nat) "java/lang/IndexOutOfBoundsException") ∈ lw_all := lw_g (lw_at lw_m4 61 rfl) rfl
theorem q923 : (Jvm.Cond.methodLink "DomainLinksLaw" (20 : Nat) ({ cls := "DomainLinks", name := "name", desc := "(I)I" } : Jvm.MethodName)) ∈ lw_all := lw_g (lw_at lw_m4 94 rfl) rfl
theorem q969 : (Jvm.Cond.methodLink "DomainLinksLaw" (171 : Nat) ({ cls := "DomainLinksLaw", name := "number", desc := "(LDomainLinks;I[J)I" } : Jvm.MethodName)) ∈ lw_all := lw_g (lw_at lw_m4 140 rfl) rfl
theorem q970 : (Jvm.Cond.static ({ cls := "DomainLinksLaw", name := "number", desc := "(LDomainLinks;I[J)I" } : Jvm.MethodName)) ∈ lw_all := lw_g (lw_at lw_m4 141 rfl) rfl
theorem q971 : (Jvm.Cond.codeWith ({ cls := "DomainLinksLaw", name := "number", desc := "(LDomainLinks;I[J)I" } : Jvm.MethodName) method_6_code (4 : Nat) (Option.some Jvm.ClassFile.FieldType.int) [((0 : Nat), (9 : Nat), (12 : Nat), (13 : Nat)), ((0 : Nat), (9 : Nat), (15 : Nat), (15 : Nat))]) ∈ lw_all := lw_g (lw_at lw_m4 142 rfl) rfl
theorem q972 : (Jvm.Cond.methodLink "DomainLinksLaw" (26 : Nat) ({ cls := "DomainLinks", name := "number", desc := "(I)I" } : Jvm.MethodName)) ∈ lw_all := lw_g (lw_at lw_m4 143 rfl) rfl
theorem q976 : (Jvm.Cond.methodLink "DomainLinksLaw" (174 : Nat) ({ cls := "DomainLinksLaw", name := "move", desc := "(LDomainLinks;III[J)I" } : Jvm.MethodName)) ∈ lw_all := lw_g (lw_at lw_m4 147 rfl) rfl
theorem q977 : (Jvm.Cond.static ({ cls := "DomainLinksLaw", name := "move", desc := "(LDomainLinks;III[J)I" } : Jvm.MethodName)) ∈ lw_all := lw_g (lw_at lw_m4 148 rfl) rfl
theorem q978 : (Jvm.Cond.codeWith ({ cls := "DomainLinksLaw", name := "move", desc := "(LDomainLinks;III[J)I" } : Jvm.MethodName) method_7_code (6 : Nat) (Option.some Jvm.ClassFile.FieldType.int) [((0 : Nat), (12 : Nat), (15 : Nat), (13 : Nat)), ((0 : Nat), (12 : Nat), (19 : Nat), (15 : Nat))]) ∈ lw_all := lw_g (lw_at lw_m4 149 rfl) rfl
theorem q979 : (Jvm.Cond.methodLink "DomainLinksLaw" (29 : Nat) ({ cls := "DomainLinks", name := "move", desc := "(III)I" } : Jvm.MethodName)) ∈ lw_all := lw_g (lw_at lw_m4 150 rfl) rfl
theorem q999 : (Jvm.Cond.methodLink "DomainLinksLaw" (178 : Nat) ({ cls := "DomainLinksLaw", name := "literal", desc := "(LDomainLinks;IIZ[J)I" } : Jvm.MethodName)) ∈ lw_all := lw_g (lw_at lw_m4 170 rfl) rfl
theorem q1000 : (Jvm.Cond.static ({ cls := "DomainLinksLaw", name := "literal", desc := "(LDomainLinks;IIZ[J)I" } : Jvm.MethodName)) ∈ lw_all := lw_g (lw_at lw_m4 171 rfl) rfl
theorem q1001 : (Jvm.Cond.codeWith ({ cls := "DomainLinksLaw", name := "literal", desc := "(LDomainLinks;IIZ[J)I" } : Jvm.MethodName) method_8_code (6 : Nat) (Option.some Jvm.ClassFile.FieldType.int) [((0 : Nat), (12 : Nat), (15 : Nat), (24 : Nat)), ((0 : Nat), (12 : Nat), (19 : Nat), (13 : Nat)), ((0 : Nat), (12 : Nat), (23 : Nat), (15 : Nat))]) ∈ lw_all := lw_g (lw_at lw_m4 172 rfl) rfl
theorem q1002 : (Jvm.Cond.methodLink "DomainLinksLaw" (33 : Nat) ({ cls := "DomainLinks", name := "literal", desc := "(IIZ)I" } : Jvm.MethodName)) ∈ lw_all := lw_g (lw_at lw_m4 173 rfl) rfl
theorem q1031 : (Jvm.Cond.methodLink "DomainLinksLaw" (182 : Nat) ({ cls := "DomainLinksLaw", name := "linear", desc := "(LDomainLinks;ZI[J)I" } : Jvm.MethodName)) ∈ lw_all := lw_g (lw_at lw_m4 202 rfl) rfl
theorem q1032 : (Jvm.Cond.static ({ cls := "DomainLinksLaw", name := "linear", desc := "(LDomainLinks;ZI[J)I" } : Jvm.MethodName)) ∈ lw_all := lw_g (lw_at lw_m4 203 rfl) rfl
theorem q1033 : (Jvm.Cond.codeWith ({ cls := "DomainLinksLaw", name := "linear", desc := "(LDomainLinks;ZI[J)I" } : Jvm.MethodName) method_9_code (5 : Nat) (Option.some Jvm.ClassFile.FieldType.int) [((0 : Nat), (10 : Nat), (13 : Nat), (13 : Nat)), ((0 : Nat), (10 : Nat), (17 : Nat), (15 : Nat))]) ∈ lw_all := lw_g (lw_at lw_m4 204 rfl) rfl
theorem q1034 : (Jvm.Cond.methodLink "DomainLinksLaw" (37 : Nat) ({ cls := "DomainLinks", name := "linear", desc := "(ZI)I" } : Jvm.MethodName)) ∈ lw_all := lw_g (lw_at lw_m4 205 rfl) rfl
theorem q1137 : (Jvm.Cond.methodLink "DomainLinksLaw" (186 : Nat) ({ cls := "DomainLinksLaw", name := "different", desc := "(LDomainLinks;[J)I" } : Jvm.MethodName)) ∈ lw_all := lw_g (lw_at lw_m5 68 rfl) rfl
theorem q1138 : (Jvm.Cond.static ({ cls := "DomainLinksLaw", name := "different", desc := "(LDomainLinks;[J)I" } : Jvm.MethodName)) ∈ lw_all := lw_g (lw_at lw_m5 69 rfl) rfl
theorem q1139 : (Jvm.Cond.codeWith ({ cls := "DomainLinksLaw", name := "different", desc := "(LDomainLinks;[J)I" } : Jvm.MethodName) method_10_code (3 : Nat) (Option.some Jvm.ClassFile.FieldType.int) [((0 : Nat), (8 : Nat), (11 : Nat), (15 : Nat))]) ∈ lw_all := lw_g (lw_at lw_m5 70 rfl) rfl
theorem q1140 : (Jvm.Cond.methodLink "DomainLinksLaw" (41 : Nat) ({ cls := "DomainLinks", name := "different", desc := "()I" } : Jvm.MethodName)) ∈ lw_all := lw_g (lw_at lw_m5 71 rfl) rfl
theorem q1164 : (Jvm.Cond.methodLink "DomainLinksLaw" (190 : Nat) ({ cls := "DomainLinksLaw", name := "order", desc := "(LDomainLinks;[J)I" } : Jvm.MethodName)) ∈ lw_all := lw_g (lw_at lw_m5 95 rfl) rfl
theorem q1165 : (Jvm.Cond.static ({ cls := "DomainLinksLaw", name := "order", desc := "(LDomainLinks;[J)I" } : Jvm.MethodName)) ∈ lw_all := lw_g (lw_at lw_m5 96 rfl) rfl
theorem q1166 : (Jvm.Cond.codeWith ({ cls := "DomainLinksLaw", name := "order", desc := "(LDomainLinks;[J)I" } : Jvm.MethodName) method_11_code (3 : Nat) (Option.some Jvm.ClassFile.FieldType.int) [((0 : Nat), (8 : Nat), (11 : Nat), (15 : Nat))]) ∈ lw_all := lw_g (lw_at lw_m5 97 rfl) rfl
theorem q1167 : (Jvm.Cond.methodLink "DomainLinksLaw" (45 : Nat) ({ cls := "DomainLinks", name := "order", desc := "()I" } : Jvm.MethodName)) ∈ lw_all := lw_g (lw_at lw_m5 98 rfl) rfl
theorem q1182 : (Jvm.Cond.methodLink "DomainLinksLaw" (193 : Nat) ({ cls := "DomainLinksLaw", name := "regular", desc := "(LDomainLinks;I[J)I" } : Jvm.MethodName)) ∈ lw_all := lw_g (lw_at lw_m5 113 rfl) rfl
theorem q1183 : (Jvm.Cond.static ({ cls := "DomainLinksLaw", name := "regular", desc := "(LDomainLinks;I[J)I" } : Jvm.MethodName)) ∈ lw_all := lw_g (lw_at lw_m5 114 rfl) rfl
theorem q1184 : (Jvm.Cond.codeWith ({ cls := "DomainLinksLaw", name := "regular", desc := "(LDomainLinks;I[J)I" } : Jvm.MethodName) method_12_code (4 : Nat) (Option.some Jvm.ClassFile.FieldType.int) [((0 : Nat), (9 : Nat), (12 : Nat), (13 : Nat)), ((0 : Nat), (9 : Nat), (15 : Nat), (15 : Nat))]) ∈ lw_all := lw_g (lw_at lw_m5 115 rfl) rfl
theorem q1185 : (Jvm.Cond.methodLink "DomainLinksLaw" (48 : Nat) ({ cls := "DomainLinks", name := "regular", desc := "(I)I" } : Jvm.MethodName)) ∈ lw_all := lw_g (lw_at lw_m5 116 rfl) rfl
theorem q1212 : (Jvm.Cond.methodLink "DomainLinksLaw" (196 : Nat) ({ cls := "DomainLinksLaw", name := "element", desc := "(LDomainLinks;II[J)I" } : Jvm.MethodName)) ∈ lw_all := lw_g (lw_at lw_m5 143 rfl) rfl
theorem q1213 : (Jvm.Cond.static ({ cls := "DomainLinksLaw", name := "element", desc := "(LDomainLinks;II[J)I" } : Jvm.MethodName)) ∈ lw_all := lw_g (lw_at lw_m5 144 rfl) rfl
theorem q1214 : (Jvm.Cond.codeWith ({ cls := "DomainLinksLaw", name := "element", desc := "(LDomainLinks;II[J)I" } : Jvm.MethodName) method_13_code (5 : Nat) (Option.some Jvm.ClassFile.FieldType.int) [((0 : Nat), (10 : Nat), (13 : Nat), (24 : Nat)), ((0 : Nat), (10 : Nat), (17 : Nat), (13 : Nat)), ((0 : Nat), (10 : Nat), (21 : Nat), (15 : Nat))]) ∈ lw_all := lw_g (lw_at lw_m5 145 rfl) rfl
theorem q1215 : (Jvm.Cond.methodLink "DomainLinksLaw" (51 : Nat) ({ cls := "DomainLinks", name := "element", desc := "(II)I" } : Jvm.MethodName)) ∈ lw_all := lw_g (lw_at lw_m5 146 rfl) rfl
theorem q1253 : (Jvm.Cond.methodLink "DomainLinksLaw" (199 : Nat) ({ cls := "DomainLinksLaw", name := "when", desc := "(LDomainLinks;IIIZ[J)I" } : Jvm.MethodName)) ∈ lw_all := lw_g (lw_at lw_m5 184 rfl) rfl
theorem q1254 : (Jvm.Cond.static ({ cls := "DomainLinksLaw", name := "when", desc := "(LDomainLinks;IIIZ[J)I" } : Jvm.MethodName)) ∈ lw_all := lw_g (lw_at lw_m5 185 rfl) rfl
theorem q1255 : (Jvm.Cond.codeWith ({ cls := "DomainLinksLaw", name := "when", desc := "(LDomainLinks;IIIZ[J)I" } : Jvm.MethodName) method_14_code (7 : Nat) (Option.some Jvm.ClassFile.FieldType.int) [((0 : Nat), (14 : Nat), (17 : Nat), (24 : Nat)), ((0 : Nat), (14 : Nat), (21 : Nat), (13 : Nat)), ((0 : Nat), (14 : Nat), (25 : Nat), (15 : Nat))]) ∈ lw_all := lw_g (lw_at lw_m5 186 rfl) rfl
theorem q1256 : (Jvm.Cond.methodLink "DomainLinksLaw" (54 : Nat) ({ cls := "DomainLinks", name := "when", desc := "(IIIZ)I" } : Jvm.MethodName)) ∈ lw_all := lw_g (lw_at lw_m5 187 rfl) rfl
theorem q1283 : (Jvm.Cond.methodLink "DomainLinksLaw" (203 : Nat) ({ cls := "DomainLinksLaw", name := "sets", desc := "(LDomainLinks;ZIII[J)I" } : Jvm.MethodName)) ∈ lw_all := lw_g (lw_at lw_m5 214 rfl) rfl
theorem q1284 : (Jvm.Cond.static ({ cls := "DomainLinksLaw", name := "sets", desc := "(LDomainLinks;ZIII[J)I" } : Jvm.MethodName)) ∈ lw_all := lw_g (lw_at lw_m5 215 rfl) rfl
theorem q1285 : (Jvm.Cond.codeWith ({ cls := "DomainLinksLaw", name := "sets", desc := "(LDomainLinks;ZIII[J)I" } : Jvm.MethodName) method_15_code (7 : Nat) (Option.some Jvm.ClassFile.FieldType.int) [((0 : Nat), (14 : Nat), (17 : Nat), (24 : Nat)), ((0 : Nat), (14 : Nat), (21 : Nat), (13 : Nat)), ((0 : Nat), (14 : Nat), (25 : Nat), (15 : Nat))]) ∈ lw_all := lw_g (lw_at lw_m5 216 rfl) rfl
theorem q1286 : (Jvm.Cond.methodLink "DomainLinksLaw" (58 : Nat) ({ cls := "DomainLinks", name := "sets", desc := "(ZIII)I" } : Jvm.MethodName)) ∈ lw_all := lw_g (lw_at lw_m5 217 rfl) rfl
theorem q1292 : (Jvm.Cond.methodLink "DomainLinksLaw" (207 : Nat) ({ cls := "DomainLinksLaw", name := "within", desc := "(LDomainLinks;II[J)I" } : Jvm.MethodName)) ∈ lw_all := lw_g (lw_at lw_m5 223 rfl) rfl
theorem q1293 : (Jvm.Cond.static ({ cls := "DomainLinksLaw", name := "within", desc := "(LDomainLinks;II[J)I" } : Jvm.MethodName)) ∈ lw_all := lw_g (lw_at lw_m5 224 rfl) rfl
theorem q1294 : (Jvm.Cond.codeWith ({ cls := "DomainLinksLaw", name := "within", desc := "(LDomainLinks;II[J)I" } : Jvm.MethodName) method_16_code (5 : Nat) (Option.some Jvm.ClassFile.FieldType.int) [((0 : Nat), (10 : Nat), (13 : Nat), (24 : Nat)), ((0 : Nat), (10 : Nat), (17 : Nat), (13 : Nat)), ((0 : Nat), (10 : Nat), (21 : Nat), (15 : Nat))]) ∈ lw_all := lw_g (lw_at lw_m5 225 rfl) rfl
theorem q1295 : (Jvm.Cond.methodLink "DomainLinksLaw" (62 : Nat) ({ cls := "DomainLinks", name := "within", desc := "(II)I" } : Jvm.MethodName)) ∈ lw_all := lw_g (lw_at lw_m5 226 rfl) rfl
theorem q1301 : (Jvm.Cond.methodLink "DomainLinksLaw" (210 : Nat) ({ cls := "DomainLinksLaw", name := "measure", desc := "(LDomainLinks;II[J)I" } : Jvm.MethodName)) ∈ lw_all := lw_g (lw_at lw_m5 232 rfl) rfl
theorem q1302 : (Jvm.Cond.static ({ cls := "DomainLinksLaw", name := "measure", desc := "(LDomainLinks;II[J)I" } : Jvm.MethodName)) ∈ lw_all := lw_g (lw_at lw_m5 233 rfl) rfl
theorem q1303 : (Jvm.Cond.codeWith ({ cls := "DomainLinksLaw", name := "measure", desc := "(LDomainLinks;II[J)I" } : Jvm.MethodName) method_17_code (5 : Nat) (Option.some Jvm.ClassFile.FieldType.int) [((0 : Nat), (10 : Nat), (13 : Nat), (24 : Nat)), ((0 : Nat), (10 : Nat), (17 : Nat), (13 : Nat)), ((0 : Nat), (10 : Nat), (21 : Nat), (15 : Nat))]) ∈ lw_all := lw_g (lw_at lw_m5 234 rfl) rfl
theorem q1304 : (Jvm.Cond.methodLink "DomainLinksLaw" (65 : Nat) ({ cls := "DomainLinks", name := "measure", desc := "(II)I" } : Jvm.MethodName)) ∈ lw_all := lw_g (lw_at lw_m5 235 rfl) rfl
theorem q1319 : (Jvm.Cond.methodLink "DomainLinksLaw" (213 : Nat) ({ cls := "DomainLinksLaw", name := "member", desc := "(LDomainLinks;III[J)I" } : Jvm.MethodName)) ∈ lw_all := lw_g (lw_at lw_m6 10 rfl) rfl
theorem q1320 : (Jvm.Cond.static ({ cls := "DomainLinksLaw", name := "member", desc := "(LDomainLinks;III[J)I" } : Jvm.MethodName)) ∈ lw_all := lw_g (lw_at lw_m6 11 rfl) rfl
theorem q1321 : (Jvm.Cond.codeWith ({ cls := "DomainLinksLaw", name := "member", desc := "(LDomainLinks;III[J)I" } : Jvm.MethodName) method_18_code (6 : Nat) (Option.some Jvm.ClassFile.FieldType.int) [((0 : Nat), (12 : Nat), (15 : Nat), (24 : Nat)), ((0 : Nat), (12 : Nat), (19 : Nat), (13 : Nat)), ((0 : Nat), (12 : Nat), (23 : Nat), (15 : Nat))]) ∈ lw_all := lw_g (lw_at lw_m6 12 rfl) rfl
theorem q1322 : (Jvm.Cond.methodLink "DomainLinksLaw" (68 : Nat) ({ cls := "DomainLinks", name := "member", desc := "(III)I" } : Jvm.MethodName)) ∈ lw_all := lw_g (lw_at lw_m6 13 rfl) rfl
theorem q1328 : (Jvm.Cond.methodLink "DomainLinksLaw" (216 : Nat) ({ cls := "DomainLinksLaw", name := "joined", desc := "(LDomainLinks;III[J)I" } : Jvm.MethodName)) ∈ lw_all := lw_g (lw_at lw_m6 19 rfl) rfl
theorem q1329 : (Jvm.Cond.static ({ cls := "DomainLinksLaw", name := "joined", desc := "(LDomainLinks;III[J)I" } : Jvm.MethodName)) ∈ lw_all := lw_g (lw_at lw_m6 20 rfl) rfl
theorem q1330 : (Jvm.Cond.codeWith ({ cls := "DomainLinksLaw", name := "joined", desc := "(LDomainLinks;III[J)I" } : Jvm.MethodName) method_19_code (6 : Nat) (Option.some Jvm.ClassFile.FieldType.int) [((0 : Nat), (12 : Nat), (15 : Nat), (24 : Nat)), ((0 : Nat), (12 : Nat), (19 : Nat), (13 : Nat)), ((0 : Nat), (12 : Nat), (23 : Nat), (15 : Nat))]) ∈ lw_all := lw_g (lw_at lw_m6 21 rfl) rfl
theorem q1331 : (Jvm.Cond.methodLink "DomainLinksLaw" (71 : Nat) ({ cls := "DomainLinks", name := "joined", desc := "(III)I" } : Jvm.MethodName)) ∈ lw_all := lw_g (lw_at lw_m6 22 rfl) rfl
theorem q1340 : (Jvm.Cond.methodLink "DomainLinksLaw" (219 : Nat) ({ cls := "DomainLinksLaw", name := "prefix", desc := "(LDomainLinks;II[J)I" } : Jvm.MethodName)) ∈ lw_all := lw_g (lw_at lw_m6 31 rfl) rfl
theorem q1341 : (Jvm.Cond.static ({ cls := "DomainLinksLaw", name := "prefix", desc := "(LDomainLinks;II[J)I" } : Jvm.MethodName)) ∈ lw_all := lw_g (lw_at lw_m6 32 rfl) rfl
theorem q1342 : (Jvm.Cond.codeWith ({ cls := "DomainLinksLaw", name := "prefix", desc := "(LDomainLinks;II[J)I" } : Jvm.MethodName) method_20_code (5 : Nat) (Option.some Jvm.ClassFile.FieldType.int) [((0 : Nat), (10 : Nat), (13 : Nat), (24 : Nat)), ((0 : Nat), (10 : Nat), (17 : Nat), (13 : Nat)), ((0 : Nat), (10 : Nat), (21 : Nat), (15 : Nat))]) ∈ lw_all := lw_g (lw_at lw_m6 33 rfl) rfl
theorem q1343 : (Jvm.Cond.methodLink "DomainLinksLaw" (74 : Nat) ({ cls := "DomainLinks", name := "prefix", desc := "(II)I" } : Jvm.MethodName)) ∈ lw_all := lw_g (lw_at lw_m6 34 rfl) rfl
theorem q1352 : (Jvm.Cond.methodLink "DomainLinksLaw" (222 : Nat) ({ cls := "DomainLinksLaw", name := "letter", desc := "(LDomainLinks;III[J)I" } : Jvm.MethodName)) ∈ lw_all := lw_g (lw_at lw_m6 43 rfl) rfl
theorem q1353 : (Jvm.Cond.static ({ cls := "DomainLinksLaw", name := "letter", desc := "(LDomainLinks;III[J)I" } : Jvm.MethodName)) ∈ lw_all := lw_g (lw_at lw_m6 44 rfl) rfl
theorem q1354 : (Jvm.Cond.codeWith ({ cls := "DomainLinksLaw", name := "letter", desc := "(LDomainLinks;III[J)I" } : Jvm.MethodName) method_21_code (6 : Nat) (Option.some Jvm.ClassFile.FieldType.int) [((0 : Nat), (12 : Nat), (15 : Nat), (24 : Nat)), ((0 : Nat), (12 : Nat), (19 : Nat), (13 : Nat)), ((0 : Nat), (12 : Nat), (23 : Nat), (15 : Nat))]) ∈ lw_all := lw_g (lw_at lw_m6 45 rfl) rfl
theorem q1355 : (Jvm.Cond.methodLink "DomainLinksLaw" (77 : Nat) ({ cls := "DomainLinks", name := "letter", desc := "(III)I" } : Jvm.MethodName)) ∈ lw_all := lw_g (lw_at lw_m6 46 rfl) rfl
theorem q1361 : (Jvm.Cond.methodLink "DomainLinksLaw" (225 : Nat) ({ cls := "DomainLinksLaw", name := "clause", desc := "(LDomainLinks;[J)I" } : Jvm.MethodName)) ∈ lw_all := lw_g (lw_at lw_m6 52 rfl) rfl
theorem q1362 : (Jvm.Cond.static ({ cls := "DomainLinksLaw", name := "clause", desc := "(LDomainLinks;[J)I" } : Jvm.MethodName)) ∈ lw_all := lw_g (lw_at lw_m6 53 rfl) rfl
theorem q1363 : (Jvm.Cond.codeWith ({ cls := "DomainLinksLaw", name := "clause", desc := "(LDomainLinks;[J)I" } : Jvm.MethodName) method_22_code (3 : Nat) (Option.some Jvm.ClassFile.FieldType.int) [((0 : Nat), (8 : Nat), (11 : Nat), (15 : Nat))]) ∈ lw_all := lw_g (lw_at lw_m6 54 rfl) rfl
theorem q1364 : (Jvm.Cond.methodLink "DomainLinksLaw" (80 : Nat) ({ cls := "DomainLinks", name := "clause", desc := "()I" } : Jvm.MethodName)) ∈ lw_all := lw_g (lw_at lw_m6 55 rfl) rfl
theorem q1389 : (Jvm.Cond.methodLink "DomainLinksLaw" (228 : Nat) ({ cls := "DomainLinksLaw", name := "symbol", desc := "(LDomainLinks;II[J)I" } : Jvm.MethodName)) ∈ lw_all := lw_g (lw_at lw_m6 80 rfl) rfl
theorem q1390 : (Jvm.Cond.static ({ cls := "DomainLinksLaw", name := "symbol", desc := "(LDomainLinks;II[J)I" } : Jvm.MethodName)) ∈ lw_all := lw_g (lw_at lw_m6 81 rfl) rfl
theorem q1391 : (Jvm.Cond.codeWith ({ cls := "DomainLinksLaw", name := "symbol", desc := "(LDomainLinks;II[J)I" } : Jvm.MethodName) method_23_code (5 : Nat) (Option.some Jvm.ClassFile.FieldType.int) [((0 : Nat), (10 : Nat), (13 : Nat), (24 : Nat)), ((0 : Nat), (10 : Nat), (17 : Nat), (13 : Nat)), ((0 : Nat), (10 : Nat), (21 : Nat), (15 : Nat))]) ∈ lw_all := lw_g (lw_at lw_m6 82 rfl) rfl
theorem q1392 : (Jvm.Cond.methodLink "DomainLinksLaw" (83 : Nat) ({ cls := "DomainLinks", name := "symbol", desc := "(II)I" } : Jvm.MethodName)) ∈ lw_all := lw_g (lw_at lw_m6 83 rfl) rfl
theorem q1413 : (Jvm.Cond.methodLink "DomainLinksLaw" (235 : Nat) ({ cls := "DomainLinksLaw", name := "decide", desc := "(LDomainLinks;IIZ[J)I" } : Jvm.MethodName)) ∈ lw_all := lw_g (lw_at lw_m6 104 rfl) rfl
theorem q1414 : (Jvm.Cond.static ({ cls := "DomainLinksLaw", name := "decide", desc := "(LDomainLinks;IIZ[J)I" } : Jvm.MethodName)) ∈ lw_all := lw_g (lw_at lw_m6 105 rfl) rfl
theorem q1415 : (Jvm.Cond.codeWith ({ cls := "DomainLinksLaw", name := "decide", desc := "(LDomainLinks;IIZ[J)I" } : Jvm.MethodName) method_24_code (6 : Nat) (Option.some Jvm.ClassFile.FieldType.int) [((0 : Nat), (12 : Nat), (15 : Nat), (24 : Nat)), ((0 : Nat), (12 : Nat), (19 : Nat), (13 : Nat)), ((0 : Nat), (12 : Nat), (23 : Nat), (15 : Nat))]) ∈ lw_all := lw_g (lw_at lw_m6 106 rfl) rfl
theorem q1416 : (Jvm.Cond.methodLink "DomainLinksLaw" (86 : Nat) ({ cls := "DomainLinks", name := "decide", desc := "(IIZ)I" } : Jvm.MethodName)) ∈ lw_all := lw_g (lw_at lw_m6 107 rfl) rfl
theorem q1424 : (Jvm.Cond.methodLink "DomainLinksLaw" (238 : Nat) ({ cls := "DomainLinksLaw", name := "back", desc := "(LDomainLinks;I[J)I" } : Jvm.MethodName)) ∈ lw_all := lw_g (lw_at lw_m6 115 rfl) rfl
theorem q1425 : (Jvm.Cond.static ({ cls := "DomainLinksLaw", name := "back", desc := "(LDomainLinks;I[J)I" } : Jvm.MethodName)) ∈ lw_all := lw_g (lw_at lw_m6 116 rfl) rfl
theorem q1426 : (Jvm.Cond.codeWith ({ cls := "DomainLinksLaw", name := "back", desc := "(LDomainLinks;I[J)I" } : Jvm.MethodName) method_25_code (4 : Nat) (Option.some Jvm.ClassFile.FieldType.int) [((0 : Nat), (9 : Nat), (12 : Nat), (13 : Nat))]) ∈ lw_all := lw_g (lw_at lw_m6 117 rfl) rfl
theorem q1427 : (Jvm.Cond.methodLink "DomainLinksLaw" (89 : Nat) ({ cls := "DomainLinks", name := "back", desc := "(I)I" } : Jvm.MethodName)) ∈ lw_all := lw_g (lw_at lw_m6 118 rfl) rfl
theorem q1431 : (Jvm.Cond.methodLink "DomainLinksLaw" (246 : Nat) ({ cls := "DomainLinksLaw", name := "domain", desc := "(LDomainLinks;I[J)I" } : Jvm.MethodName)) ∈ lw_all := lw_g (lw_at lw_m6 122 rfl) rfl
theorem q1432 : (Jvm.Cond.static ({ cls := "DomainLinksLaw", name := "domain", desc := "(LDomainLinks;I[J)I" } : Jvm.MethodName)) ∈ lw_all := lw_g (lw_at lw_m6 123 rfl) rfl
theorem q1433 : (Jvm.Cond.codeWith ({ cls := "DomainLinksLaw", name := "domain", desc := "(LDomainLinks;I[J)I" } : Jvm.MethodName) method_26_code (4 : Nat) (Option.some Jvm.ClassFile.FieldType.int) [((0 : Nat), (9 : Nat), (12 : Nat), (24 : Nat))]) ∈ lw_all := lw_g (lw_at lw_m6 124 rfl) rfl
theorem q1434 : (Jvm.Cond.methodLink "DomainLinksLaw" (92 : Nat) ({ cls := "DomainLinks", name := "domain", desc := "(I)I" } : Jvm.MethodName)) ∈ lw_all := lw_g (lw_at lw_m6 125 rfl) rfl
theorem q1438 : (Jvm.Cond.methodLink "DomainLinksLaw" (249 : Nat) ({ cls := "DomainLinksLaw", name := "bound", desc := "(LDomainLinks;IZ[J)I" } : Jvm.MethodName)) ∈ lw_all := lw_g (lw_at lw_m6 129 rfl) rfl
theorem q1439 : (Jvm.Cond.static ({ cls := "DomainLinksLaw", name := "bound", desc := "(LDomainLinks;IZ[J)I" } : Jvm.MethodName)) ∈ lw_all := lw_g (lw_at lw_m6 130 rfl) rfl
theorem q1440 : (Jvm.Cond.codeWith ({ cls := "DomainLinksLaw", name := "bound", desc := "(LDomainLinks;IZ[J)I" } : Jvm.MethodName) method_27_code (5 : Nat) (Option.some Jvm.ClassFile.FieldType.int) [((0 : Nat), (10 : Nat), (13 : Nat), (24 : Nat))]) ∈ lw_all := lw_g (lw_at lw_m6 131 rfl) rfl
theorem q1441 : (Jvm.Cond.methodLink "DomainLinksLaw" (95 : Nat) ({ cls := "DomainLinks", name := "bound", desc := "(IZ)I" } : Jvm.MethodName)) ∈ lw_all := lw_g (lw_at lw_m6 132 rfl) rfl
theorem q1447 : (Jvm.Cond.methodLink "DomainLinksLaw" (261 : Nat) ({ cls := "DomainLinksLaw", name := "removal", desc := "(LDomainLinks;II[J)I" } : Jvm.MethodName)) ∈ lw_all := lw_g (lw_at lw_m6 138 rfl) rfl
theorem q1448 : (Jvm.Cond.static ({ cls := "DomainLinksLaw", name := "removal", desc := "(LDomainLinks;II[J)I" } : Jvm.MethodName)) ∈ lw_all := lw_g (lw_at lw_m6 139 rfl) rfl
theorem q1449 : (Jvm.Cond.codeWith ({ cls := "DomainLinksLaw", name := "removal", desc := "(LDomainLinks;II[J)I" } : Jvm.MethodName) method_28_code (5 : Nat) (Option.some Jvm.ClassFile.FieldType.int) [((0 : Nat), (10 : Nat), (13 : Nat), (24 : Nat)), ((0 : Nat), (10 : Nat), (17 : Nat), (13 : Nat))]) ∈ lw_all := lw_g (lw_at lw_m6 140 rfl) rfl
theorem q1450 : (Jvm.Cond.methodLink "DomainLinksLaw" (99 : Nat) ({ cls := "DomainLinks", name := "removal", desc := "(II)I" } : Jvm.MethodName)) ∈ lw_all := lw_g (lw_at lw_m6 141 rfl) rfl
theorem q1455 : (Jvm.Cond.methodLink "DomainLinksLaw" (264 : Nat) ({ cls := "DomainLinksLaw", name := "reason", desc := "(LDomainLinks;II[J)I" } : Jvm.MethodName)) ∈ lw_all := lw_g (lw_at lw_m6 146 rfl) rfl
theorem q1456 : (Jvm.Cond.static ({ cls := "DomainLinksLaw", name := "reason", desc := "(LDomainLinks;II[J)I" } : Jvm.MethodName)) ∈ lw_all := lw_g (lw_at lw_m6 147 rfl) rfl
theorem q1457 : (Jvm.Cond.codeWith ({ cls := "DomainLinksLaw", name := "reason", desc := "(LDomainLinks;II[J)I" } : Jvm.MethodName) method_29_code (5 : Nat) (Option.some Jvm.ClassFile.FieldType.int) [((0 : Nat), (10 : Nat), (13 : Nat), (24 : Nat)), ((0 : Nat), (10 : Nat), (17 : Nat), (13 : Nat)), ((0 : Nat), (10 : Nat), (21 : Nat), (15 : Nat))]) ∈ lw_all := lw_g (lw_at lw_m6 148 rfl) rfl
theorem q1458 : (Jvm.Cond.methodLink "DomainLinksLaw" (102 : Nat) ({ cls := "DomainLinks", name := "reason", desc := "(II)I" } : Jvm.MethodName)) ∈ lw_all := lw_g (lw_at lw_m6 149 rfl) rfl
theorem q1470 : (Jvm.Cond.methodLink "DomainLinksLaw" (267 : Nat) ({ cls := "DomainLinksLaw", name := "failure", desc := "(LDomainLinks;[J)I" } : Jvm.MethodName)) ∈ lw_all := lw_g (lw_at lw_m6 161 rfl) rfl
theorem q1471 : (Jvm.Cond.static ({ cls := "DomainLinksLaw", name := "failure", desc := "(LDomainLinks;[J)I" } : Jvm.MethodName)) ∈ lw_all := lw_g (lw_at lw_m6 162 rfl) rfl
theorem q1472 : (Jvm.Cond.codeWith ({ cls := "DomainLinksLaw", name := "failure", desc := "(LDomainLinks;[J)I" } : Jvm.MethodName) method_30_code (3 : Nat) (Option.some Jvm.ClassFile.FieldType.int) [((0 : Nat), (8 : Nat), (11 : Nat), (15 : Nat))]) ∈ lw_all := lw_g (lw_at lw_m6 163 rfl) rfl
theorem q1473 : (Jvm.Cond.methodLink "DomainLinksLaw" (105 : Nat) ({ cls := "DomainLinks", name := "failure", desc := "()I" } : Jvm.MethodName)) ∈ lw_all := lw_g (lw_at lw_m6 164 rfl) rfl
theorem q1477 : (Jvm.Cond.methodLink "DomainLinksLaw" (270 : Nat) ({ cls := "DomainLinksLaw", name := "learn", desc := "(LDomainLinks;[J)I" } : Jvm.MethodName)) ∈ lw_all := lw_g (lw_at lw_m6 168 rfl) rfl
theorem q1478 : (Jvm.Cond.static ({ cls := "DomainLinksLaw", name := "learn", desc := "(LDomainLinks;[J)I" } : Jvm.MethodName)) ∈ lw_all := lw_g (lw_at lw_m6 169 rfl) rfl
theorem q1479 : (Jvm.Cond.codeWith ({ cls := "DomainLinksLaw", name := "learn", desc := "(LDomainLinks;[J)I" } : Jvm.MethodName) method_31_code (3 : Nat) (Option.some Jvm.ClassFile.FieldType.int) [((0 : Nat), (8 : Nat), (11 : Nat), (15 : Nat))]) ∈ lw_all := lw_g (lw_at lw_m6 170 rfl) rfl
theorem q1480 : (Jvm.Cond.methodLink "DomainLinksLaw" (108 : Nat) ({ cls := "DomainLinks", name := "learn", desc := "()I" } : Jvm.MethodName)) ∈ lw_all := lw_g (lw_at lw_m6 171 rfl) rfl
theorem q1489 : (Jvm.Cond.methodLink "DomainLinksLaw" (273 : Nat) ({ cls := "DomainLinksLaw", name := "search", desc := "(LDomainLinks;IIIII[J)I" } : Jvm.MethodName)) ∈ lw_all := lw_g (lw_at lw_m6 180 rfl) rfl
theorem q1490 : (Jvm.Cond.static ({ cls := "DomainLinksLaw", name := "search", desc := "(LDomainLinks;IIIII[J)I" } : Jvm.MethodName)) ∈ lw_all := lw_g (lw_at lw_m6 181 rfl) rfl
theorem q1491 : (Jvm.Cond.codeWith ({ cls := "DomainLinksLaw", name := "search", desc := "(LDomainLinks;IIIII[J)I" } : Jvm.MethodName) method_32_code (8 : Nat) (Option.some Jvm.ClassFile.FieldType.int) [((0 : Nat), (16 : Nat), (19 : Nat), (13 : Nat))]) ∈ lw_all := lw_g (lw_at lw_m6 182 rfl) rfl
theorem q1492 : (Jvm.Cond.methodLink "DomainLinksLaw" (111 : Nat) ({ cls := "DomainLinks", name := "search", desc := "(IIIII)I" } : Jvm.MethodName)) ∈ lw_all := lw_g (lw_at lw_m6 183 rfl) rfl
theorem q1527 : (Jvm.Cond.methodLink "DomainLinksLaw" (285 : Nat) ({ cls := "DomainLinksLaw", name := "solution", desc := "(LDomainLinks;I[J)I" } : Jvm.MethodName)) ∈ lw_all := lw_g (lw_at lw_m6 218 rfl) rfl
theorem q1528 : (Jvm.Cond.static ({ cls := "DomainLinksLaw", name := "solution", desc := "(LDomainLinks;I[J)I" } : Jvm.MethodName)) ∈ lw_all := lw_g (lw_at lw_m6 219 rfl) rfl
theorem q1529 : (Jvm.Cond.codeWith ({ cls := "DomainLinksLaw", name := "solution", desc := "(LDomainLinks;I[J)I" } : Jvm.MethodName) method_33_code (4 : Nat) (Option.some Jvm.ClassFile.FieldType.int) [((0 : Nat), (9 : Nat), (12 : Nat), (24 : Nat)), ((0 : Nat), (9 : Nat), (15 : Nat), (15 : Nat))]) ∈ lw_all := lw_g (lw_at lw_m6 220 rfl) rfl
theorem q1530 : (Jvm.Cond.methodLink "DomainLinksLaw" (115 : Nat) ({ cls := "DomainLinks", name := "solution", desc := "(I)I" } : Jvm.MethodName)) ∈ lw_all := lw_g (lw_at lw_m6 221 rfl) rfl
theorem q1534 : (Jvm.Cond.methodLink "DomainLinksLaw" (288 : Nat) ({ cls := "DomainLinksLaw", name := "solutions", desc := "(LDomainLinks;[J)I" } : Jvm.MethodName)) ∈ lw_all := lw_g (lw_at lw_m6 225 rfl) rfl
theorem q1535 : (Jvm.Cond.static ({ cls := "DomainLinksLaw", name := "solutions", desc := "(LDomainLinks;[J)I" } : Jvm.MethodName)) ∈ lw_all := lw_g (lw_at lw_m6 226 rfl) rfl
theorem q1536 : (Jvm.Cond.codeWith ({ cls := "DomainLinksLaw", name := "solutions", desc := "(LDomainLinks;[J)I" } : Jvm.MethodName) method_34_code (3 : Nat) (Option.some Jvm.ClassFile.FieldType.int) [((0 : Nat), (8 : Nat), (11 : Nat), (15 : Nat))]) ∈ lw_all := lw_g (lw_at lw_m6 227 rfl) rfl
theorem q1537 : (Jvm.Cond.methodLink "DomainLinksLaw" (118 : Nat) ({ cls := "DomainLinks", name := "solutions", desc := "()I" } : Jvm.MethodName)) ∈ lw_all := lw_g (lw_at lw_m6 228 rfl) rfl
theorem q1545 : (Jvm.Cond.methodLink "DomainLinksLaw" (291 : Nat) ({ cls := "DomainLinksLaw", name := "solutionsByAll", desc := "(LDomainLinks;[J)I" } : Jvm.MethodName)) ∈ lw_all := lw_g (lw_at lw_m6 236 rfl) rfl
theorem q1546 : (Jvm.Cond.static ({ cls := "DomainLinksLaw", name := "solutionsByAll", desc := "(LDomainLinks;[J)I" } : Jvm.MethodName)) ∈ lw_all := lw_g (lw_at lw_m6 237 rfl) rfl
theorem q1547 : (Jvm.Cond.codeWith ({ cls := "DomainLinksLaw", name := "solutionsByAll", desc := "(LDomainLinks;[J)I" } : Jvm.MethodName) method_35_code (3 : Nat) (Option.some Jvm.ClassFile.FieldType.int) [((0 : Nat), (8 : Nat), (11 : Nat), (15 : Nat))]) ∈ lw_all := lw_g (lw_at lw_m6 238 rfl) rfl
theorem q1548 : (Jvm.Cond.methodLink "DomainLinksLaw" (121 : Nat) ({ cls := "DomainLinks", name := "solutionsByAll", desc := "()I" } : Jvm.MethodName)) ∈ lw_all := lw_g (lw_at lw_m6 239 rfl) rfl
theorem q1561 : (Jvm.Cond.methodLink "DomainLinksLaw" (294 : Nat) ({ cls := "DomainLinksLaw", name := "minimise", desc := "(LDomainLinks;IIIII)I" } : Jvm.MethodName)) ∈ lw_all := lw_g (lw_at lw_m7 12 rfl) rfl
theorem q1562 : (Jvm.Cond.static ({ cls := "DomainLinksLaw", name := "minimise", desc := "(LDomainLinks;IIIII)I" } : Jvm.MethodName)) ∈ lw_all := lw_g (lw_at lw_m7 13 rfl) rfl
theorem q1563 : (Jvm.Cond.codeWith ({ cls := "DomainLinksLaw", name := "minimise", desc := "(LDomainLinks;IIIII)I" } : Jvm.MethodName) method_36_code (7 : Nat) (Option.some Jvm.ClassFile.FieldType.int) [((0 : Nat), (11 : Nat), (14 : Nat), (24 : Nat)), ((0 : Nat), (11 : Nat), (18 : Nat), (13 : Nat))]) ∈ lw_all := lw_g (lw_at lw_m7 14 rfl) rfl
theorem q1564 : (Jvm.Cond.methodLink "DomainLinksLaw" (124 : Nat) ({ cls := "DomainLinks", name := "minimise", desc := "(IIIII)V" } : Jvm.MethodName)) ∈ lw_all := lw_g (lw_at lw_m7 15 rfl) rfl
theorem q1615 : (Jvm.Cond.methodLink "DomainLinksLaw" (298 : Nat) ({ cls := "DomainLinksLaw", name := "goOn", desc := "(LDomainLinks;II[J)I" } : Jvm.MethodName)) ∈ lw_all := lw_g (lw_at lw_m7 66 rfl) rfl
theorem q1616 : (Jvm.Cond.static ({ cls := "DomainLinksLaw", name := "goOn", desc := "(LDomainLinks;II[J)I" } : Jvm.MethodName)) ∈ lw_all := lw_g (lw_at lw_m7 67 rfl) rfl
theorem q1617 : (Jvm.Cond.codeWith ({ cls := "DomainLinksLaw", name := "goOn", desc := "(LDomainLinks;II[J)I" } : Jvm.MethodName) method_37_code (5 : Nat) (Option.some Jvm.ClassFile.FieldType.int) [((0 : Nat), (10 : Nat), (13 : Nat), (13 : Nat)), ((0 : Nat), (10 : Nat), (17 : Nat), (15 : Nat))]) ∈ lw_all := lw_g (lw_at lw_m7 68 rfl) rfl
theorem q1618 : (Jvm.Cond.methodLink "DomainLinksLaw" (128 : Nat) ({ cls := "DomainLinks", name := "goOn", desc := "(II)I" } : Jvm.MethodName)) ∈ lw_all := lw_g (lw_at lw_m7 69 rfl) rfl
theorem q1657 : (Jvm.Cond.methodLink "DomainLinksLaw" (305 : Nat) ({ cls := "DomainLinksLaw", name := "tree", desc := "(LDomainLinks;[J)I" } : Jvm.MethodName)) ∈ lw_all := lw_g (lw_at lw_m7 108 rfl) rfl
theorem q1658 : (Jvm.Cond.static ({ cls := "DomainLinksLaw", name := "tree", desc := "(LDomainLinks;[J)I" } : Jvm.MethodName)) ∈ lw_all := lw_g (lw_at lw_m7 109 rfl) rfl
theorem q1659 : (Jvm.Cond.codeWith ({ cls := "DomainLinksLaw", name := "tree", desc := "(LDomainLinks;[J)I" } : Jvm.MethodName) method_38_code (3 : Nat) (Option.some Jvm.ClassFile.FieldType.int) [((0 : Nat), (8 : Nat), (11 : Nat), (15 : Nat))]) ∈ lw_all := lw_g (lw_at lw_m7 110 rfl) rfl
theorem q1660 : (Jvm.Cond.methodLink "DomainLinksLaw" (131 : Nat) ({ cls := "DomainLinks", name := "tree", desc := "()I" } : Jvm.MethodName)) ∈ lw_all := lw_g (lw_at lw_m7 111 rfl) rfl
theorem q1668 : (Jvm.Cond.methodLink "DomainLinksLaw" (308 : Nat) ({ cls := "DomainLinksLaw", name := "term", desc := "(LDomainLinks;III[J)I" } : Jvm.MethodName)) ∈ lw_all := lw_g (lw_at lw_m7 119 rfl) rfl
theorem q1669 : (Jvm.Cond.static ({ cls := "DomainLinksLaw", name := "term", desc := "(LDomainLinks;III[J)I" } : Jvm.MethodName)) ∈ lw_all := lw_g (lw_at lw_m7 120 rfl) rfl
theorem q1670 : (Jvm.Cond.codeWith ({ cls := "DomainLinksLaw", name := "term", desc := "(LDomainLinks;III[J)I" } : Jvm.MethodName) method_39_code (6 : Nat) (Option.some Jvm.ClassFile.FieldType.int) [((0 : Nat), (12 : Nat), (15 : Nat), (24 : Nat)), ((0 : Nat), (12 : Nat), (19 : Nat), (13 : Nat)), ((0 : Nat), (12 : Nat), (23 : Nat), (15 : Nat))]) ∈ lw_all := lw_g (lw_at lw_m7 121 rfl) rfl
theorem q1671 : (Jvm.Cond.methodLink "DomainLinksLaw" (134 : Nat) ({ cls := "DomainLinks", name := "term", desc := "(III)I" } : Jvm.MethodName)) ∈ lw_all := lw_g (lw_at lw_m7 122 rfl) rfl
theorem q1679 : (Jvm.Cond.methodLink "DomainLinksLaw" (311 : Nat) ({ cls := "DomainLinksLaw", name := "unify", desc := "(LDomainLinks;II[J)I" } : Jvm.MethodName)) ∈ lw_all := lw_g (lw_at lw_m7 130 rfl) rfl
theorem q1680 : (Jvm.Cond.static ({ cls := "DomainLinksLaw", name := "unify", desc := "(LDomainLinks;II[J)I" } : Jvm.MethodName)) ∈ lw_all := lw_g (lw_at lw_m7 131 rfl) rfl
theorem q1681 : (Jvm.Cond.codeWith ({ cls := "DomainLinksLaw", name := "unify", desc := "(LDomainLinks;II[J)I" } : Jvm.MethodName) method_40_code (5 : Nat) (Option.some Jvm.ClassFile.FieldType.int) [((0 : Nat), (10 : Nat), (13 : Nat), (24 : Nat)), ((0 : Nat), (10 : Nat), (17 : Nat), (15 : Nat))]) ∈ lw_all := lw_g (lw_at lw_m7 132 rfl) rfl
theorem q1682 : (Jvm.Cond.methodLink "DomainLinksLaw" (137 : Nat) ({ cls := "DomainLinks", name := "unify", desc := "(II)I" } : Jvm.MethodName)) ∈ lw_all := lw_g (lw_at lw_m7 133 rfl) rfl
theorem q1698 : (Jvm.Cond.methodLink "DomainLinksLaw" (314 : Nat) ({ cls := "DomainLinksLaw", name := "areAlike", desc := "(LDomainLinks;II[J)I" } : Jvm.MethodName)) ∈ lw_all := lw_g (lw_at lw_m7 149 rfl) rfl
theorem q1699 : (Jvm.Cond.static ({ cls := "DomainLinksLaw", name := "areAlike", desc := "(LDomainLinks;II[J)I" } : Jvm.MethodName)) ∈ lw_all := lw_g (lw_at lw_m7 150 rfl) rfl
theorem q1700 : (Jvm.Cond.codeWith ({ cls := "DomainLinksLaw", name := "areAlike", desc := "(LDomainLinks;II[J)I" } : Jvm.MethodName) method_41_code (5 : Nat) (Option.some Jvm.ClassFile.FieldType.int) [((0 : Nat), (17 : Nat), (20 : Nat), (24 : Nat))]) ∈ lw_all := lw_g (lw_at lw_m7 151 rfl) rfl
theorem q1701 : (Jvm.Cond.methodLink "DomainLinksLaw" (140 : Nat) ({ cls := "DomainLinks", name := "areAlike", desc := "(II)Z" } : Jvm.MethodName)) ∈ lw_all := lw_g (lw_at lw_m7 152 rfl) rfl
theorem q1714 : (Jvm.Cond.methodLink "DomainLinksLaw" (317 : Nat) ({ cls := "DomainLinksLaw", name := "symbolAt", desc := "(LDomainLinks;III[J)I" } : Jvm.MethodName)) ∈ lw_all := lw_g (lw_at lw_m7 165 rfl) rfl
theorem q1715 : (Jvm.Cond.static ({ cls := "DomainLinksLaw", name := "symbolAt", desc := "(LDomainLinks;III[J)I" } : Jvm.MethodName)) ∈ lw_all := lw_g (lw_at lw_m7 166 rfl) rfl
theorem q1716 : (Jvm.Cond.codeWith ({ cls := "DomainLinksLaw", name := "symbolAt", desc := "(LDomainLinks;III[J)I" } : Jvm.MethodName) method_42_code (6 : Nat) (Option.some Jvm.ClassFile.FieldType.int) [((0 : Nat), (12 : Nat), (15 : Nat), (24 : Nat)), ((0 : Nat), (12 : Nat), (19 : Nat), (13 : Nat))]) ∈ lw_all := lw_g (lw_at lw_m7 167 rfl) rfl
theorem q1717 : (Jvm.Cond.methodLink "DomainLinksLaw" (144 : Nat) ({ cls := "DomainLinks", name := "symbolAt", desc := "(III)I" } : Jvm.MethodName)) ∈ lw_all := lw_g (lw_at lw_m7 168 rfl) rfl
theorem q1721 : (Jvm.Cond.methodLink "DomainLinksLaw" (320 : Nat) ({ cls := "DomainLinksLaw", name := "isEndless", desc := "(LDomainLinks;I[J)I" } : Jvm.MethodName)) ∈ lw_all := lw_g (lw_at lw_m7 172 rfl) rfl
theorem q1722 : (Jvm.Cond.static ({ cls := "DomainLinksLaw", name := "isEndless", desc := "(LDomainLinks;I[J)I" } : Jvm.MethodName)) ∈ lw_all := lw_g (lw_at lw_m7 173 rfl) rfl
theorem q1723 : (Jvm.Cond.codeWith ({ cls := "DomainLinksLaw", name := "isEndless", desc := "(LDomainLinks;I[J)I" } : Jvm.MethodName) method_43_code (4 : Nat) (Option.some Jvm.ClassFile.FieldType.int) [((0 : Nat), (16 : Nat), (19 : Nat), (24 : Nat))]) ∈ lw_all := lw_g (lw_at lw_m7 174 rfl) rfl
theorem q1724 : (Jvm.Cond.methodLink "DomainLinksLaw" (147 : Nat) ({ cls := "DomainLinks", name := "isEndless", desc := "(I)Z" } : Jvm.MethodName)) ∈ lw_all := lw_g (lw_at lw_m7 175 rfl) rfl
theorem q1732 : (Jvm.Cond.classLink "DomainLinksLaw" (152 : Nat) "DomainLinksModel") ∈ lw_all := lw_g (lw_at lw_m7 183 rfl) rfl
theorem q1734 : (Jvm.Cond.methodLink "DomainLinksLaw" (154 : Nat) ({ cls := "DomainLinksModel", name := "<init>", desc := "()V" } : Jvm.MethodName)) ∈ lw_all := lw_g (lw_at lw_m7 185 rfl) rfl
theorem q1955 : (Jvm.Cond.methodLink "DomainLinksLaw" (161 : Nat) ({ cls := "DomainLinksModel", name := "thrown", desc := "()I" } : Jvm.MethodName)) ∈ lw_all := lw_g (lw_at lw_m8 166 rfl) rfl
theorem q1959 : (Jvm.Cond.methodLink "DomainLinksLaw" (160 : Nat) ({ cls := "DomainLinksModel", name := "variable", desc := "(II)I" } : Jvm.MethodName)) ∈ lw_all := lw_g (lw_at lw_m8 170 rfl) rfl
theorem q1974 : (Jvm.Cond.methodLink "DomainLinksLaw" (166 : Nat) ({ cls := "DomainLinksModel", name := "ratio", desc := "(II)I" } : Jvm.MethodName)) ∈ lw_all := lw_g (lw_at lw_m8 185 rfl) rfl
theorem q1978 : (Jvm.Cond.methodLink "DomainLinksLaw" (170 : Nat) ({ cls := "DomainLinksModel", name := "name", desc := "(I)I" } : Jvm.MethodName)) ∈ lw_all := lw_g (lw_at lw_m8 189 rfl) rfl
theorem q1986 : (Jvm.Cond.methodLink "DomainLinksLaw" (173 : Nat) ({ cls := "DomainLinksModel", name := "number", desc := "(I)I" } : Jvm.MethodName)) ∈ lw_all := lw_g (lw_at lw_m8 197 rfl) rfl
theorem q1990 : (Jvm.Cond.methodLink "DomainLinksLaw" (177 : Nat) ({ cls := "DomainLinksModel", name := "move", desc := "(III)I" } : Jvm.MethodName)) ∈ lw_all := lw_g (lw_at lw_m8 201 rfl) rfl
theorem q1994 : (Jvm.Cond.methodLink "DomainLinksLaw" (181 : Nat) ({ cls := "DomainLinksModel", name := "literal", desc := "(IIZ)I" } : Jvm.MethodName)) ∈ lw_all := lw_g (lw_at lw_m8 205 rfl) rfl
theorem q2005 : (Jvm.Cond.methodLink "DomainLinksLaw" (185 : Nat) ({ cls := "DomainLinksModel", name := "linear", desc := "(ZI)I" } : Jvm.MethodName)) ∈ lw_all := lw_g (lw_at lw_m8 216 rfl) rfl
theorem q2029 : (Jvm.Cond.methodLink "DomainLinksLaw" (189 : Nat) ({ cls := "DomainLinksModel", name := "different", desc := "()I" } : Jvm.MethodName)) ∈ lw_all := lw_g (lw_at lw_m9 0 rfl) rfl
theorem q2037 : (Jvm.Cond.methodLink "DomainLinksLaw" (192 : Nat) ({ cls := "DomainLinksModel", name := "order", desc := "()I" } : Jvm.MethodName)) ∈ lw_all := lw_g (lw_at lw_m9 8 rfl) rfl
theorem q2041 : (Jvm.Cond.methodLink "DomainLinksLaw" (195 : Nat) ({ cls := "DomainLinksModel", name := "regular", desc := "(I)I" } : Jvm.MethodName)) ∈ lw_all := lw_g (lw_at lw_m9 12 rfl) rfl
theorem q2045 : (Jvm.Cond.methodLink "DomainLinksLaw" (198 : Nat) ({ cls := "DomainLinksModel", name := "element", desc := "(II)I" } : Jvm.MethodName)) ∈ lw_all := lw_g (lw_at lw_m9 16 rfl) rfl
theorem q2049 : (Jvm.Cond.methodLink "DomainLinksLaw" (202 : Nat) ({ cls := "DomainLinksModel", name := "when", desc := "(IIIZ)I" } : Jvm.MethodName)) ∈ lw_all := lw_g (lw_at lw_m9 20 rfl) rfl
theorem q2060 : (Jvm.Cond.methodLink "DomainLinksLaw" (206 : Nat) ({ cls := "DomainLinksModel", name := "sets", desc := "(ZIII)I" } : Jvm.MethodName)) ∈ lw_all := lw_g (lw_at lw_m9 31 rfl) rfl
theorem q2064 : (Jvm.Cond.methodLink "DomainLinksLaw" (209 : Nat) ({ cls := "DomainLinksModel", name := "within", desc := "(II)I" } : Jvm.MethodName)) ∈ lw_all := lw_g (lw_at lw_m9 35 rfl) rfl
theorem q2068 : (Jvm.Cond.methodLink "DomainLinksLaw" (212 : Nat) ({ cls := "DomainLinksModel", name := "measure", desc := "(II)I" } : Jvm.MethodName)) ∈ lw_all := lw_g (lw_at lw_m9 39 rfl) rfl
theorem q2072 : (Jvm.Cond.methodLink "DomainLinksLaw" (215 : Nat) ({ cls := "DomainLinksModel", name := "member", desc := "(III)I" } : Jvm.MethodName)) ∈ lw_all := lw_g (lw_at lw_m9 43 rfl) rfl
theorem q2076 : (Jvm.Cond.methodLink "DomainLinksLaw" (218 : Nat) ({ cls := "DomainLinksModel", name := "joined", desc := "(III)I" } : Jvm.MethodName)) ∈ lw_all := lw_g (lw_at lw_m9 47 rfl) rfl
theorem q2080 : (Jvm.Cond.methodLink "DomainLinksLaw" (221 : Nat) ({ cls := "DomainLinksModel", name := "prefix", desc := "(II)I" } : Jvm.MethodName)) ∈ lw_all := lw_g (lw_at lw_m9 51 rfl) rfl
theorem q2084 : (Jvm.Cond.methodLink "DomainLinksLaw" (224 : Nat) ({ cls := "DomainLinksModel", name := "letter", desc := "(III)I" } : Jvm.MethodName)) ∈ lw_all := lw_g (lw_at lw_m9 55 rfl) rfl
theorem q2088 : (Jvm.Cond.methodLink "DomainLinksLaw" (227 : Nat) ({ cls := "DomainLinksModel", name := "clause", desc := "()I" } : Jvm.MethodName)) ∈ lw_all := lw_g (lw_at lw_m9 59 rfl) rfl
theorem q2096 : (Jvm.Cond.methodLink "DomainLinksLaw" (230 : Nat) ({ cls := "DomainLinksModel", name := "symbol", desc := "(II)I" } : Jvm.MethodName)) ∈ lw_all := lw_g (lw_at lw_m9 67 rfl) rfl
theorem q2104 : (Jvm.Cond.methodLink "DomainLinksLaw" (234 : Nat) ({ cls := "DomainLinksModel", name := "constraints", desc := "()I" } : Jvm.MethodName)) ∈ lw_all := lw_g (lw_at lw_m9 75 rfl) rfl
theorem q2108 : (Jvm.Cond.methodLink "DomainLinksLaw" (237 : Nat) ({ cls := "DomainLinksModel", name := "decide", desc := "(IIZ)I" } : Jvm.MethodName)) ∈ lw_all := lw_g (lw_at lw_m9 79 rfl) rfl
theorem q2112 : (Jvm.Cond.methodLink "DomainLinksLaw" (240 : Nat) ({ cls := "DomainLinksModel", name := "back", desc := "(I)I" } : Jvm.MethodName)) ∈ lw_all := lw_g (lw_at lw_m9 83 rfl) rfl
theorem q2116 : (Jvm.Cond.methodLink "DomainLinksLaw" (245 : Nat) ({ cls := "DomainLinksModel", name := "isFailed", desc := "()Z" } : Jvm.MethodName)) ∈ lw_all := lw_g (lw_at lw_m9 87 rfl) rfl
theorem q2276 : (Jvm.Cond.methodLink "DomainLinksLaw" (248 : Nat) ({ cls := "DomainLinksModel", name := "domain", desc := "(I)I" } : Jvm.MethodName)) ∈ lw_all := lw_g (lw_at lw_m10 7 rfl) rfl
theorem q2284 : (Jvm.Cond.methodLink "DomainLinksLaw" (252 : Nat) ({ cls := "DomainLinksModel", name := "bound", desc := "(IZ)I" } : Jvm.MethodName)) ∈ lw_all := lw_g (lw_at lw_m10 15 rfl) rfl
theorem q2288 : (Jvm.Cond.methodLink "DomainLinksLaw" (256 : Nat) ({ cls := "DomainLinksModel", name := "rounds", desc := "()I" } : Jvm.MethodName)) ∈ lw_all := lw_g (lw_at lw_m10 19 rfl) rfl
theorem q2292 : (Jvm.Cond.methodLink "DomainLinksLaw" (260 : Nat) ({ cls := "DomainLinksModel", name := "removals", desc := "()I" } : Jvm.MethodName)) ∈ lw_all := lw_g (lw_at lw_m10 23 rfl) rfl
theorem q2296 : (Jvm.Cond.methodLink "DomainLinksLaw" (263 : Nat) ({ cls := "DomainLinksModel", name := "removal", desc := "(II)I" } : Jvm.MethodName)) ∈ lw_all := lw_g (lw_at lw_m10 27 rfl) rfl
theorem q2300 : (Jvm.Cond.methodLink "DomainLinksLaw" (266 : Nat) ({ cls := "DomainLinksModel", name := "reason", desc := "(II)I" } : Jvm.MethodName)) ∈ lw_all := lw_g (lw_at lw_m10 31 rfl) rfl
theorem q2308 : (Jvm.Cond.methodLink "DomainLinksLaw" (269 : Nat) ({ cls := "DomainLinksModel", name := "failure", desc := "()I" } : Jvm.MethodName)) ∈ lw_all := lw_g (lw_at lw_m10 39 rfl) rfl
theorem q2312 : (Jvm.Cond.methodLink "DomainLinksLaw" (272 : Nat) ({ cls := "DomainLinksModel", name := "learn", desc := "()I" } : Jvm.MethodName)) ∈ lw_all := lw_g (lw_at lw_m10 43 rfl) rfl
theorem q2316 : (Jvm.Cond.methodLink "DomainLinksLaw" (276 : Nat) ({ cls := "DomainLinksModel", name := "search", desc := "(IIIII)I" } : Jvm.MethodName)) ∈ lw_all := lw_g (lw_at lw_m10 47 rfl) rfl
theorem q2352 : (Jvm.Cond.methodLink "DomainLinksLaw" (280 : Nat) ({ cls := "DomainLinksModel", name := "nodes", desc := "()I" } : Jvm.MethodName)) ∈ lw_all := lw_g (lw_at lw_m10 83 rfl) rfl
theorem q2356 : (Jvm.Cond.methodLink "DomainLinksLaw" (284 : Nat) ({ cls := "DomainLinksModel", name := "failures", desc := "()I" } : Jvm.MethodName)) ∈ lw_all := lw_g (lw_at lw_m10 87 rfl) rfl
theorem q2360 : (Jvm.Cond.methodLink "DomainLinksLaw" (287 : Nat) ({ cls := "DomainLinksModel", name := "solution", desc := "(I)I" } : Jvm.MethodName)) ∈ lw_all := lw_g (lw_at lw_m10 91 rfl) rfl
theorem q2364 : (Jvm.Cond.methodLink "DomainLinksLaw" (290 : Nat) ({ cls := "DomainLinksModel", name := "solutions", desc := "()I" } : Jvm.MethodName)) ∈ lw_all := lw_g (lw_at lw_m10 95 rfl) rfl
theorem q2368 : (Jvm.Cond.methodLink "DomainLinksLaw" (293 : Nat) ({ cls := "DomainLinksModel", name := "solutionsByAll", desc := "()I" } : Jvm.MethodName)) ∈ lw_all := lw_g (lw_at lw_m10 99 rfl) rfl
theorem q2376 : (Jvm.Cond.methodLink "DomainLinksLaw" (297 : Nat) ({ cls := "DomainLinksModel", name := "minimise", desc := "(IIIII)V" } : Jvm.MethodName)) ∈ lw_all := lw_g (lw_at lw_m10 107 rfl) rfl
theorem q2380 : (Jvm.Cond.methodLink "DomainLinksLaw" (300 : Nat) ({ cls := "DomainLinksModel", name := "goOn", desc := "(II)I" } : Jvm.MethodName)) ∈ lw_all := lw_g (lw_at lw_m10 111 rfl) rfl
theorem q2388 : (Jvm.Cond.methodLink "DomainLinksLaw" (304 : Nat) ({ cls := "DomainLinksModel", name := "best", desc := "()I" } : Jvm.MethodName)) ∈ lw_all := lw_g (lw_at lw_m10 119 rfl) rfl
theorem q2392 : (Jvm.Cond.methodLink "DomainLinksLaw" (307 : Nat) ({ cls := "DomainLinksModel", name := "tree", desc := "()I" } : Jvm.MethodName)) ∈ lw_all := lw_g (lw_at lw_m10 123 rfl) rfl
theorem q2400 : (Jvm.Cond.methodLink "DomainLinksLaw" (310 : Nat) ({ cls := "DomainLinksModel", name := "term", desc := "(III)I" } : Jvm.MethodName)) ∈ lw_all := lw_g (lw_at lw_m10 131 rfl) rfl
theorem q2404 : (Jvm.Cond.methodLink "DomainLinksLaw" (313 : Nat) ({ cls := "DomainLinksModel", name := "unify", desc := "(II)I" } : Jvm.MethodName)) ∈ lw_all := lw_g (lw_at lw_m10 135 rfl) rfl
theorem q2408 : (Jvm.Cond.methodLink "DomainLinksLaw" (316 : Nat) ({ cls := "DomainLinksModel", name := "areAlike", desc := "(II)Z" } : Jvm.MethodName)) ∈ lw_all := lw_g (lw_at lw_m10 139 rfl) rfl
theorem q2423 : (Jvm.Cond.methodLink "DomainLinksLaw" (319 : Nat) ({ cls := "DomainLinksModel", name := "symbolAt", desc := "(III)I" } : Jvm.MethodName)) ∈ lw_all := lw_g (lw_at lw_m10 154 rfl) rfl
theorem q2427 : (Jvm.Cond.methodLink "DomainLinksLaw" (322 : Nat) ({ cls := "DomainLinksModel", name := "isEndless", desc := "(I)Z" } : Jvm.MethodName)) ∈ lw_all := lw_g (lw_at lw_m10 158 rfl) rfl

/-! DomainLinks -/
set_option maxRecDepth 100000
def RX1 : String := "DomainLinks"
def TX1 : u_T := fun k => match k with
  | 0 => ("DomainLinks", "variables", "Ljava/util/List;", true)
  | 1 => ("DomainLinks", "constraints", "Ljava/util/List;", true)
  | 2 => ("DomainLinks", "names", "Ljava/util/List;", false)
  | 3 => ("DomainLinks", "numbers", "Ljava/util/List;", false)
  | 4 => ("DomainLinks", "moves", "Ljava/util/List;", false)
  | 5 => ("DomainLinks", "literals", "Ljava/util/List;", false)
  | 6 => ("DomainLinks", "decisions", "LDomainLinks$Decisions;", true)
  | 7 => ("DomainLinks", "trees", "LDomainLinks$Trees;", true)
  | 8 => ("DomainLinks", "trial", "LDomainLinks$Trees;", true)
  | 9 => ("DomainLinks", "store", "LDomainLinks$Store;", true)
  | 10 => ("DomainLinks", "isKnown", "Z", false)
  | 11 => ("DomainLinks", "traceRounds", "[I", true)
  | 12 => ("DomainLinks", "traceVariables", "[I", true)
  | 13 => ("DomainLinks", "traceValues", "[I", true)
  | 14 => ("DomainLinks", "traceConstraints", "[I", true)
  | 15 => ("DomainLinks", "removals", "I", false)
  | 16 => ("DomainLinks", "other", "LDomainLinks$Store;", true)
  | 17 => ("DomainLinks", "nextSets", "[I", true)
  | 18 => ("DomainLinks", "nextLows", "[I", true)
  | 19 => ("DomainLinks", "nextHighs", "[I", true)
  | 20 => ("DomainLinks", "removers", "[[I", true)
  | 21 => ("DomainLinks", "path", "LDomainLinks$Decisions;", true)
  | 22 => ("DomainLinks", "phases", "[I", true)
  | 23 => ("DomainLinks", "found", "[I", true)
  | 24 => ("DomainLinks", "foundVariables", "I", false)
  | 25 => ("DomainLinks", "nodes", "I", false)
  | 26 => ("DomainLinks", "failures", "I", false)
  | 27 => ("DomainLinks", "cut", "I", false)
  | 28 => ("DomainLinks", "sinceCut", "I", false)
  | 29 => ("DomainLinks", "restarts", "I", false)
  | 30 => ("DomainLinks", "first", "I", false)
  | 31 => ("DomainLinks", "choice", "I", false)
  | 32 => ("DomainLinks", "order", "I", false)
  | 33 => ("DomainLinks", "minimised", "I", false)
  | 34 => ("DomainLinks", "best", "I", false)
  | _ => ("DomainLinks", "shared", "[LDomainLinks$Shared;", true)
def tyX1 : Nat → FieldType := fun k => match k with
  | 0 => .object "java/util/List"
  | 1 => .object "java/util/List"
  | 2 => .object "java/util/List"
  | 3 => .object "java/util/List"
  | 4 => .object "java/util/List"
  | 5 => .object "java/util/List"
  | 6 => .object "DomainLinks$Decisions"
  | 7 => .object "DomainLinks$Trees"
  | 8 => .object "DomainLinks$Trees"
  | 9 => .object "DomainLinks$Store"
  | 10 => .boolean
  | 11 => .array .int
  | 12 => .array .int
  | 13 => .array .int
  | 14 => .array .int
  | 15 => .int
  | 16 => .object "DomainLinks$Store"
  | 17 => .array .int
  | 18 => .array .int
  | 19 => .array .int
  | 20 => .array (.array .int)
  | 21 => .object "DomainLinks$Decisions"
  | 22 => .array .int
  | 23 => .array .int
  | 24 => .int
  | 25 => .int
  | 26 => .int
  | 27 => .int
  | 28 => .int
  | 29 => .int
  | 30 => .int
  | 31 => .int
  | 32 => .int
  | 33 => .int
  | 34 => .int
  | _ => .array (.object "DomainLinks$Shared")
abbrev wsX10 : List Cond := u_ws RX1 TX1 36
set_option maxRecDepth 100000 in
theorem nmX1 : ∀ a, a < 36 → ∀ b, b < 36 → a ≠ b → (TX1 a).2.1 ≠ (TX1 b).2.1 := by decide +kernel
set_option maxRecDepth 100000 in
theorem tyX1_ok : ∀ k, k < 36 → parseFieldDescriptor (TX1 k).2.2.1 = some (tyX1 k) := by decide +kernel
abbrev cX1_init : ByteArray := prog_1_method_9_code
def yX1_init : MethodName := ⟨RX1, "<init>", "()V"⟩
abbrev cX1_constraints : ByteArray := prog_1_method_47_code
def yX1_constraints : MethodName := ⟨RX1, "constraints", "()I"⟩
abbrev cX1_isFailed : ByteArray := prog_1_method_59_code
def yX1_isFailed : MethodName := ⟨RX1, "isFailed", "()Z"⟩
abbrev cX1_store : ByteArray := prog_1_method_56_code
def yX1_store : MethodName := ⟨RX1, "store", "()LDomainLinks$Store;"⟩
abbrev cX1_begin : ByteArray := prog_1_method_49_code
def yX1_begin : MethodName := ⟨RX1, "begin", "(LDomainLinks$Store;LDomainLinks$Decisions;I)V"⟩
abbrev cX1_has : ByteArray := prog_1_method_1_code
def yX1_has : MethodName := ⟨RX1, "has", "(II)Z"⟩
abbrev cX1_solve : ByteArray := prog_1_method_51_code
def yX1_solve : MethodName := ⟨RX1, "solve", "(LDomainLinks$Store;Z)V"⟩
abbrev cX1_seesFailure : ByteArray := prog_1_method_52_code
def yX1_seesFailure : MethodName := ⟨RX1, "seesFailure", "(LDomainLinks$Store;)Z"⟩
abbrev cX1_isEmpty : ByteArray := prog_1_method_50_code
def yX1_isEmpty : MethodName := ⟨RX1, "isEmpty", "(LDomainLinks$Store;I)Z"⟩
abbrev cX1_isRatio : ByteArray := prog_1_method_48_code
def yX1_isRatio : MethodName := ⟨RX1, "isRatio", "(I)Z"⟩
abbrev cX1_makeRound : ByteArray := prog_1_method_53_code
def yX1_makeRound : MethodName := ⟨RX1, "makeRound", "(LDomainLinks$Store;Z)Z"⟩
abbrev cX1_least : ByteArray := prog_1_method_2_code
def yX1_least : MethodName := ⟨RX1, "least", "(I)I"⟩
abbrev cX1_greatest : ByteArray := prog_1_method_3_code
def yX1_greatest : MethodName := ⟨RX1, "greatest", "(I)I"⟩
abbrev cX1_take : ByteArray := prog_1_method_54_code
def yX1_take : MethodName := ⟨RX1, "take", "(LDomainLinks$Constraint;II)V"⟩
abbrev cX1_trace : ByteArray := prog_1_method_55_code
def yX1_trace : MethodName := ⟨RX1, "trace", "(III)V"⟩
abbrev cX1_rounds : ByteArray := prog_1_method_62_code
def yX1_rounds : MethodName := ⟨RX1, "rounds", "()I"⟩
abbrev cX1_removals : ByteArray := prog_1_method_63_code
def yX1_removals : MethodName := ⟨RX1, "removals", "()I"⟩
abbrev cX1_nodes : ByteArray := prog_1_method_84_code
def yX1_nodes : MethodName := ⟨RX1, "nodes", "()I"⟩
abbrev cX1_failures : ByteArray := prog_1_method_85_code
def yX1_failures : MethodName := ⟨RX1, "failures", "()I"⟩
abbrev cX1_best : ByteArray := prog_1_method_90_code
def yX1_best : MethodName := ⟨RX1, "best", "()I"⟩
abbrev cX1_variable : ByteArray := prog_1_method_19_code
def yX1_variable : MethodName := ⟨RX1, "variable", "(II)I"⟩
abbrev cX1_check : ByteArray := prog_1_method_10_code
def yX1_check : MethodName := ⟨RX1, "check", "(III)V"⟩
abbrev cX1_checkArgument : ByteArray := prog_1_method_11_code
def yX1_checkArgument : MethodName := ⟨RX1, "checkArgument", "(Z)V"⟩
abbrev cX1_add : ByteArray := prog_1_method_18_code
def yX1_add : MethodName := ⟨RX1, "add", "(LDomainLinks$Variable;)I"⟩
abbrev cX1_checkState : ByteArray := prog_1_method_12_code
def yX1_checkState : MethodName := ⟨RX1, "checkState", "(Z)V"⟩
abbrev cX1_ratio : ByteArray := prog_1_method_20_code
def yX1_ratio : MethodName := ⟨RX1, "ratio", "(II)I"⟩
abbrev cX1_name : ByteArray := prog_1_method_21_code
def yX1_name : MethodName := ⟨RX1, "name", "(I)I"⟩
abbrev cX1_variable_2 : ByteArray := prog_1_method_14_code
def yX1_variable_2 : MethodName := ⟨RX1, "variable", "(I)LDomainLinks$Variable;"⟩
abbrev cX1_checkIndex : ByteArray := prog_1_method_13_code
def yX1_checkIndex : MethodName := ⟨RX1, "checkIndex", "(II)V"⟩
abbrev cX1_number : ByteArray := prog_1_method_22_code
def yX1_number : MethodName := ⟨RX1, "number", "(I)I"⟩
abbrev cX1_move : ByteArray := prog_1_method_23_code
def yX1_move : MethodName := ⟨RX1, "move", "(III)I"⟩
abbrev cX1_literal : ByteArray := prog_1_method_24_code
def yX1_literal : MethodName := ⟨RX1, "literal", "(IIZ)I"⟩
abbrev cX1_checkValue : ByteArray := prog_1_method_17_code
def yX1_checkValue : MethodName := ⟨RX1, "checkValue", "(II)V"⟩
abbrev cX1_linear : ByteArray := prog_1_method_29_code
def yX1_linear : MethodName := ⟨RX1, "linear", "(ZI)I"⟩
abbrev cX1_takeNames : ByteArray := prog_1_method_25_code
def yX1_takeNames : MethodName := ⟨RX1, "takeNames", "()Ljava/util/List;"⟩
abbrev cX1_isOf : ByteArray := prog_1_method_15_code
def yX1_isOf : MethodName := ⟨RX1, "isOf", "(II)Z"⟩
abbrev cX1_add_2 : ByteArray := prog_1_method_28_code
def yX1_add_2 : MethodName := ⟨RX1, "add", "(LDomainLinks$Constraint;)I"⟩
abbrev cX1_hasRoom : ByteArray := prog_1_method_27_code
def yX1_hasRoom : MethodName := ⟨RX1, "hasRoom", "()Z"⟩
abbrev cX1_different : ByteArray := prog_1_method_30_code
def yX1_different : MethodName := ⟨RX1, "different", "()I"⟩
abbrev cX1_areInts : ByteArray := prog_1_method_26_code
def yX1_areInts : MethodName := ⟨RX1, "areInts", "(Ljava/util/List;)Z"⟩
abbrev cX1_order : ByteArray := prog_1_method_31_code
def yX1_order : MethodName := ⟨RX1, "order", "()I"⟩
abbrev cX1_regular : ByteArray := prog_1_method_32_code
def yX1_regular : MethodName := ⟨RX1, "regular", "(I)I"⟩
abbrev cX1_element : ByteArray := prog_1_method_33_code
def yX1_element : MethodName := ⟨RX1, "element", "(II)I"⟩
abbrev cX1_checkKind : ByteArray := prog_1_method_16_code
def yX1_checkKind : MethodName := ⟨RX1, "checkKind", "(II)V"⟩
abbrev cX1_when : ByteArray := prog_1_method_36_code
def yX1_when : MethodName := ⟨RX1, "when", "(IIIZ)I"⟩
abbrev cX1_checkAll : ByteArray := prog_1_method_35_code
def yX1_checkAll : MethodName := ⟨RX1, "checkAll", "([I[I)V"⟩
abbrev cX1_lambda_when_0 : ByteArray := prog_1_method_105_code
def yX1_lambda_when_0 : MethodName := ⟨RX1, "lambda$when$0", "(ZIII)Z"⟩
abbrev cX1_addSmall : ByteArray := prog_1_method_34_code
def yX1_addSmall : MethodName := ⟨RX1, "addSmall", "(LDomainLinks$Relation;[I)I"⟩
abbrev cX1_sets : ByteArray := prog_1_method_37_code
def yX1_sets : MethodName := ⟨RX1, "sets", "(ZIII)I"⟩
abbrev cX1_lambda_sets_1 : ByteArray := prog_1_method_104_code
def yX1_lambda_sets_1 : MethodName := ⟨RX1, "lambda$sets$1", "(ZIII)Z"⟩
abbrev cX1_within : ByteArray := prog_1_method_38_code
def yX1_within : MethodName := ⟨RX1, "within", "(II)I"⟩
abbrev cX1_lambda_within_2 : ByteArray := prog_1_method_103_code
def yX1_lambda_within_2 : MethodName := ⟨RX1, "lambda$within$2", "(III)Z"⟩
abbrev cX1_measure : ByteArray := prog_1_method_39_code
def yX1_measure : MethodName := ⟨RX1, "measure", "(II)I"⟩
abbrev cX1_lambda_measure_3 : ByteArray := prog_1_method_102_code
def yX1_lambda_measure_3 : MethodName := ⟨RX1, "lambda$measure$3", "(ZIII)Z"⟩
abbrev cX1_length : ByteArray := prog_1_method_4_code
def yX1_length : MethodName := ⟨RX1, "length", "(I)I"⟩
abbrev cX1_member : ByteArray := prog_1_method_40_code
def yX1_member : MethodName := ⟨RX1, "member", "(III)I"⟩
abbrev cX1_lambda_member_4 : ByteArray := prog_1_method_101_code
def yX1_lambda_member_4 : MethodName := ⟨RX1, "lambda$member$4", "(III)Z"⟩
abbrev cX1_joined : ByteArray := prog_1_method_41_code
def yX1_joined : MethodName := ⟨RX1, "joined", "(III)I"⟩
abbrev cX1_isJoined : ByteArray := prog_1_method_6_code
def yX1_isJoined : MethodName := ⟨RX1, "isJoined", "(III)Z"⟩
abbrev cX1_letters : ByteArray := prog_1_method_5_code
def yX1_letters : MethodName := ⟨RX1, "letters", "(I)I"⟩
abbrev cX1_prefix : ByteArray := prog_1_method_42_code
def yX1_prefix : MethodName := ⟨RX1, "prefix", "(II)I"⟩
abbrev cX1_lambda_prefix_5 : ByteArray := prog_1_method_100_code
def yX1_lambda_prefix_5 : MethodName := ⟨RX1, "lambda$prefix$5", "(III)Z"⟩
abbrev cX1_begins : ByteArray := prog_1_method_7_code
def yX1_begins : MethodName := ⟨RX1, "begins", "(II)Z"⟩
abbrev cX1_letter : ByteArray := prog_1_method_43_code
def yX1_letter : MethodName := ⟨RX1, "letter", "(III)I"⟩
abbrev cX1_isLetter : ByteArray := prog_1_method_8_code
def yX1_isLetter : MethodName := ⟨RX1, "isLetter", "(III)Z"⟩
abbrev cX1_clause : ByteArray := prog_1_method_45_code
def yX1_clause : MethodName := ⟨RX1, "clause", "()I"⟩
abbrev cX1_addClause : ByteArray := prog_1_method_44_code
def yX1_addClause : MethodName := ⟨RX1, "addClause", "(Ljava/util/List;)I"⟩
abbrev cX1_symbol : ByteArray := prog_1_method_46_code
def yX1_symbol : MethodName := ⟨RX1, "symbol", "(II)I"⟩
abbrev cX1_decide : ByteArray := prog_1_method_57_code
def yX1_decide : MethodName := ⟨RX1, "decide", "(IIZ)I"⟩
abbrev cX1_back : ByteArray := prog_1_method_58_code
def yX1_back : MethodName := ⟨RX1, "back", "(I)I"⟩
abbrev cX1_domain : ByteArray := prog_1_method_60_code
def yX1_domain : MethodName := ⟨RX1, "domain", "(I)I"⟩
abbrev cX1_bound : ByteArray := prog_1_method_61_code
def yX1_bound : MethodName := ⟨RX1, "bound", "(IZ)I"⟩
abbrev cX1_removal : ByteArray := prog_1_method_64_code
def yX1_removal : MethodName := ⟨RX1, "removal", "(II)I"⟩
abbrev cX1_reason : ByteArray := prog_1_method_67_code
def yX1_reason : MethodName := ⟨RX1, "reason", "(II)I"⟩
abbrev cX1_reasonOf : ByteArray := prog_1_method_66_code
def yX1_reasonOf : MethodName := ⟨RX1, "reasonOf", "(II)I"⟩
abbrev cX1_isSo : ByteArray := prog_1_method_65_code
def yX1_isSo : MethodName := ⟨RX1, "isSo", "(III)Z"⟩
abbrev cX1_failure : ByteArray := prog_1_method_68_code
def yX1_failure : MethodName := ⟨RX1, "failure", "()I"⟩
abbrev cX1_learn : ByteArray := prog_1_method_69_code
def yX1_learn : MethodName := ⟨RX1, "learn", "()I"⟩
abbrev cX1_search : ByteArray := prog_1_method_78_code
def yX1_search : MethodName := ⟨RX1, "search", "(IIIII)I"⟩
abbrev cX1_beginPath : ByteArray := prog_1_method_73_code
def yX1_beginPath : MethodName := ⟨RX1, "beginPath", "()V"⟩
abbrev cX1_searchFrom : ByteArray := prog_1_method_76_code
def yX1_searchFrom : MethodName := ⟨RX1, "searchFrom", "()I"⟩
abbrev cX1_look : ByteArray := prog_1_method_74_code
def yX1_look : MethodName := ⟨RX1, "look", "(LDomainLinks$Decisions;)V"⟩
abbrev cX1_chosen : ByteArray := prog_1_method_71_code
def yX1_chosen : MethodName := ⟨RX1, "chosen", "(LDomainLinks$Store;II)I"⟩
abbrev cX1_isFixed : ByteArray := prog_1_method_70_code
def yX1_isFixed : MethodName := ⟨RX1, "isFixed", "(I)Z"⟩
abbrev cX1_keepSolution : ByteArray := prog_1_method_77_code
def yX1_keepSolution : MethodName := ⟨RX1, "keepSolution", "()V"⟩
abbrev cX1_valueOf : ByteArray := prog_1_method_72_code
def yX1_valueOf : MethodName := ⟨RX1, "valueOf", "(III)I"⟩
abbrev cX1_isCut : ByteArray := prog_1_method_75_code
def yX1_isCut : MethodName := ⟨RX1, "isCut", "()Z"⟩
abbrev cX1_solution : ByteArray := prog_1_method_86_code
def yX1_solution : MethodName := ⟨RX1, "solution", "(I)I"⟩
abbrev cX1_solutions : ByteArray := prog_1_method_80_code
def yX1_solutions : MethodName := ⟨RX1, "solutions", "()I"⟩
abbrev cX1_countFrom : ByteArray := prog_1_method_79_code
def yX1_countFrom : MethodName := ⟨RX1, "countFrom", "([I)I"⟩
abbrev cX1_solutionsByAll : ByteArray := prog_1_method_83_code
def yX1_solutionsByAll : MethodName := ⟨RX1, "solutionsByAll", "()I"⟩
abbrev cX1_choices : ByteArray := prog_1_method_81_code
def yX1_choices : MethodName := ⟨RX1, "choices", "()J"⟩
abbrev cX1_countChoices : ByteArray := prog_1_method_82_code
def yX1_countChoices : MethodName := ⟨RX1, "countChoices", "(I)I"⟩
abbrev cX1_minimise : ByteArray := prog_1_method_87_code
def yX1_minimise : MethodName := ⟨RX1, "minimise", "(IIIII)V"⟩
abbrev cX1_goOn : ByteArray := prog_1_method_89_code
def yX1_goOn : MethodName := ⟨RX1, "goOn", "(II)I"⟩
abbrev cX1_step : ByteArray := prog_1_method_88_code
def yX1_step : MethodName := ⟨RX1, "step", "(LDomainLinks$Shared;)V"⟩
abbrev cX1_tree : ByteArray := prog_1_method_91_code
def yX1_tree : MethodName := ⟨RX1, "tree", "()I"⟩
abbrev cX1_term : ByteArray := prog_1_method_93_code
def yX1_term : MethodName := ⟨RX1, "term", "(III)I"⟩
abbrev cX1_checkChild : ByteArray := prog_1_method_92_code
def yX1_checkChild : MethodName := ⟨RX1, "checkChild", "(IZ)V"⟩
abbrev cX1_unify : ByteArray := prog_1_method_94_code
def yX1_unify : MethodName := ⟨RX1, "unify", "(II)I"⟩
abbrev cX1_areAlike : ByteArray := prog_1_method_96_code
def yX1_areAlike : MethodName := ⟨RX1, "areAlike", "(II)Z"⟩
abbrev cX1_areAlike_2 : ByteArray := prog_1_method_95_code
def yX1_areAlike_2 : MethodName := ⟨RX1, "areAlike", "(II[I)Z"⟩
abbrev cX1_symbolAt : ByteArray := prog_1_method_97_code
def yX1_symbolAt : MethodName := ⟨RX1, "symbolAt", "(III)I"⟩
abbrev cX1_isEndless : ByteArray := prog_1_method_99_code
def yX1_isEndless : MethodName := ⟨RX1, "isEndless", "(I)Z"⟩
abbrev cX1_isEndless_2 : ByteArray := prog_1_method_98_code
def yX1_isEndless_2 : MethodName := ⟨RX1, "isEndless", "(II)Z"⟩
theorem q110 : (Jvm.Cond.initialized "DomainLinks") ∈ lw_all := lw_g (lw_at lw_m1 1 rfl) rfl
theorem q151 : (Jvm.Cond.instantiable "DomainLinks" (36 : Nat)) ∈ lw_all := lw_g (lw_at lw_m1 42 rfl) rfl
theorem q153 : (Jvm.Cond.instanceMethod ({ cls := "DomainLinks", name := "<init>", desc := "()V" } : Jvm.MethodName)) ∈ lw_all := lw_g (lw_at lw_m1 44 rfl) rfl
theorem q154 : (Jvm.Cond.code ({ cls := "DomainLinks", name := "<init>", desc := "()V" } : Jvm.MethodName) prog_1_method_9_code (2 : Nat) (Option.none : Option Jvm.ClassFile.FieldType)) ∈ lw_all := lw_g (lw_at lw_m1 45 rfl) rfl
theorem q155 : (Jvm.Cond.methodLink "DomainLinks" (18 : Nat) ({ cls := "java/lang/Object", name := "<init>", desc := "()V" } : Jvm.MethodName)) ∈ lw_all := lw_g (lw_at lw_m1 46 rfl) rfl
theorem q158 : (Jvm.Cond.classLink "DomainLinks" (24 : Nat) "java/util/ArrayList") ∈ lw_all := lw_g (lw_at lw_m1 49 rfl) rfl
theorem q160 : (Jvm.Cond.methodLink "DomainLinks" (26 : Nat) ({ cls := "java/util/ArrayList", name := "<init>", desc := "()V" } : Jvm.MethodName)) ∈ lw_all := lw_g (lw_at lw_m1 51 rfl) rfl
theorem q184 : (Jvm.Cond.classLink "DomainLinks" (46 : Nat) "DomainLinks$Decisions") ∈ lw_all := lw_g (lw_at lw_m1 75 rfl) rfl
theorem q186 : (Jvm.Cond.methodLinkNest "DomainLinks" (48 : Nat) ({ cls := "DomainLinks$Decisions", name := "<init>", desc := "()V" } : Jvm.MethodName) "DomainLinks") ∈ lw_tbl := lw_at lw_m1 77 rfl
theorem q191 : (Jvm.Cond.fieldLinkNest "DomainLinks" (317 : Nat) "DomainLinks$Decisions" "variables" "[I" "DomainLinks") ∈ lw_tbl := lw_at lw_m1 82 rfl
theorem q193 : (Jvm.Cond.fieldLinkNest "DomainLinks" (408 : Nat) "DomainLinks$Decisions" "values" "[I" "DomainLinks") ∈ lw_tbl := lw_at lw_m1 84 rfl
theorem q195 : (Jvm.Cond.fieldLinkNest "DomainLinks" (411 : Nat) "DomainLinks$Decisions" "have" "[Z" "DomainLinks") ∈ lw_tbl := lw_at lw_m1 86 rfl
theorem q197 : (Jvm.Cond.fieldLinkNest "DomainLinks" (316 : Nat) "DomainLinks$Decisions" "size" "I" "DomainLinks") ∈ lw_tbl := lw_at lw_m1 88 rfl
theorem q209 : (Jvm.Cond.classLink "DomainLinks" (53 : Nat) "DomainLinks$Trees") ∈ lw_all := lw_g (lw_at lw_m1 100 rfl) rfl
theorem q211 : (Jvm.Cond.methodLinkNest "DomainLinks" (55 : Nat) ({ cls := "DomainLinks$Trees", name := "<init>", desc := "()V" } : Jvm.MethodName) "DomainLinks") ∈ lw_tbl := lw_at lw_m1 102 rfl
theorem q220 : (Jvm.Cond.fieldLinkNest "DomainLinks" (291 : Nat) "DomainLinks$Trees" "size" "I" "DomainLinks") ∈ lw_tbl := lw_at lw_m1 111 rfl
theorem q232 : (Jvm.Cond.classLink "DomainLinks" (63 : Nat) "DomainLinks$Store") ∈ lw_all := lw_g (lw_at lw_m1 123 rfl) rfl
theorem q234 : (Jvm.Cond.methodLinkNest "DomainLinks" (65 : Nat) ({ cls := "DomainLinks$Store", name := "<init>", desc := "()V" } : Jvm.MethodName) "DomainLinks") ∈ lw_tbl := lw_at lw_m1 125 rfl
theorem q240 : (Jvm.Cond.fieldLinkNest "DomainLinks" (298 : Nat) "DomainLinks$Store" "sets" "[I" "DomainLinks") ∈ lw_tbl := lw_at lw_m1 131 rfl
theorem q243 : (Jvm.Cond.fieldLinkNest "DomainLinks" (304 : Nat) "DomainLinks$Store" "lows" "[I" "DomainLinks") ∈ lw_tbl := lw_at lw_m1 134 rfl
theorem q246 : (Jvm.Cond.fieldLinkNest "DomainLinks" (310 : Nat) "DomainLinks$Store" "highs" "[I" "DomainLinks") ∈ lw_tbl := lw_at lw_m1 137 rfl
theorem q247 : (Jvm.Cond.fieldLinkNest "DomainLinks" (344 : Nat) "DomainLinks$Store" "isFailed" "Z" "DomainLinks") ∈ lw_tbl := lw_at lw_m1 138 rfl
theorem q248 : (Jvm.Cond.fieldLinkNest "DomainLinks" (330 : Nat) "DomainLinks$Store" "rounds" "I" "DomainLinks") ∈ lw_tbl := lw_at lw_m1 139 rfl
theorem q260 : (Jvm.Cond.classLink "DomainLinks" (95 : Nat) "[[I") ∈ lw_all := lw_g (lw_at lw_m1 151 rfl) rfl
theorem q262 : (Jvm.Cond.classLink "DomainLinks" (116 : Nat) "DomainLinks$Shared") ∈ lw_all := lw_g (lw_at lw_m1 153 rfl) rfl
theorem q264 : (Jvm.Cond.fieldLink "DomainLinks" (27 : Nat) "DomainLinks" "variables" "Ljava/util/List;") ∈ lw_all := lw_g (lw_at lw_m1 155 rfl) rfl
theorem q265 : (Jvm.Cond.fieldLink "DomainLinks" (31 : Nat) "DomainLinks" "constraints" "Ljava/util/List;") ∈ lw_all := lw_g (lw_at lw_m1 156 rfl) rfl
theorem q266 : (Jvm.Cond.fieldLink "DomainLinks" (34 : Nat) "DomainLinks" "names" "Ljava/util/List;") ∈ lw_all := lw_g (lw_at lw_m1 157 rfl) rfl
theorem q267 : (Jvm.Cond.fieldLink "DomainLinks" (37 : Nat) "DomainLinks" "numbers" "Ljava/util/List;") ∈ lw_all := lw_g (lw_at lw_m1 158 rfl) rfl
theorem q268 : (Jvm.Cond.fieldLink "DomainLinks" (40 : Nat) "DomainLinks" "moves" "Ljava/util/List;") ∈ lw_all := lw_g (lw_at lw_m1 159 rfl) rfl
theorem q269 : (Jvm.Cond.fieldLink "DomainLinks" (43 : Nat) "DomainLinks" "literals" "Ljava/util/List;") ∈ lw_all := lw_g (lw_at lw_m1 160 rfl) rfl
theorem q270 : (Jvm.Cond.fieldLink "DomainLinks" (49 : Nat) "DomainLinks" "decisions" "LDomainLinks$Decisions;") ∈ lw_all := lw_g (lw_at lw_m1 161 rfl) rfl
theorem q271 : (Jvm.Cond.fieldLink "DomainLinks" (56 : Nat) "DomainLinks" "trees" "LDomainLinks$Trees;") ∈ lw_all := lw_g (lw_at lw_m1 162 rfl) rfl
theorem q272 : (Jvm.Cond.fieldLink "DomainLinks" (60 : Nat) "DomainLinks" "trial" "LDomainLinks$Trees;") ∈ lw_all := lw_g (lw_at lw_m1 163 rfl) rfl
theorem q273 : (Jvm.Cond.fieldLink "DomainLinks" (66 : Nat) "DomainLinks" "store" "LDomainLinks$Store;") ∈ lw_all := lw_g (lw_at lw_m1 164 rfl) rfl
theorem q274 : (Jvm.Cond.fieldLink "DomainLinks" (176 : Nat) "DomainLinks" "isKnown" "Z") ∈ lw_all := lw_g (lw_at lw_m1 165 rfl) rfl
theorem q275 : (Jvm.Cond.fieldLink "DomainLinks" (70 : Nat) "DomainLinks" "traceRounds" "[I") ∈ lw_all := lw_g (lw_at lw_m1 166 rfl) rfl
theorem q276 : (Jvm.Cond.fieldLink "DomainLinks" (74 : Nat) "DomainLinks" "traceVariables" "[I") ∈ lw_all := lw_g (lw_at lw_m1 167 rfl) rfl
theorem q277 : (Jvm.Cond.fieldLink "DomainLinks" (77 : Nat) "DomainLinks" "traceValues" "[I") ∈ lw_all := lw_g (lw_at lw_m1 168 rfl) rfl
theorem q278 : (Jvm.Cond.fieldLink "DomainLinks" (80 : Nat) "DomainLinks" "traceConstraints" "[I") ∈ lw_all := lw_g (lw_at lw_m1 169 rfl) rfl
theorem q279 : (Jvm.Cond.fieldLink "DomainLinks" (333 : Nat) "DomainLinks" "removals" "I") ∈ lw_all := lw_g (lw_at lw_m1 170 rfl) rfl
theorem q280 : (Jvm.Cond.fieldLink "DomainLinks" (83 : Nat) "DomainLinks" "other" "LDomainLinks$Store;") ∈ lw_all := lw_g (lw_at lw_m1 171 rfl) rfl
theorem q281 : (Jvm.Cond.fieldLink "DomainLinks" (86 : Nat) "DomainLinks" "nextSets" "[I") ∈ lw_all := lw_g (lw_at lw_m1 172 rfl) rfl
theorem q282 : (Jvm.Cond.fieldLink "DomainLinks" (89 : Nat) "DomainLinks" "nextLows" "[I") ∈ lw_all := lw_g (lw_at lw_m1 173 rfl) rfl
theorem q283 : (Jvm.Cond.fieldLink "DomainLinks" (92 : Nat) "DomainLinks" "nextHighs" "[I") ∈ lw_all := lw_g (lw_at lw_m1 174 rfl) rfl
theorem q284 : (Jvm.Cond.fieldLink "DomainLinks" (97 : Nat) "DomainLinks" "removers" "[[I") ∈ lw_all := lw_g (lw_at lw_m1 175 rfl) rfl
theorem q285 : (Jvm.Cond.fieldLink "DomainLinks" (100 : Nat) "DomainLinks" "path" "LDomainLinks$Decisions;") ∈ lw_all := lw_g (lw_at lw_m1 176 rfl) rfl
theorem q286 : (Jvm.Cond.fieldLink "DomainLinks" (103 : Nat) "DomainLinks" "phases" "[I") ∈ lw_all := lw_g (lw_at lw_m1 177 rfl) rfl
theorem q287 : (Jvm.Cond.fieldLink "DomainLinks" (106 : Nat) "DomainLinks" "found" "[I") ∈ lw_all := lw_g (lw_at lw_m1 178 rfl) rfl
theorem q288 : (Jvm.Cond.fieldLink "DomainLinks" (109 : Nat) "DomainLinks" "foundVariables" "I") ∈ lw_all := lw_g (lw_at lw_m1 179 rfl) rfl
theorem q289 : (Jvm.Cond.fieldLink "DomainLinks" (430 : Nat) "DomainLinks" "nodes" "I") ∈ lw_all := lw_g (lw_at lw_m1 180 rfl) rfl
theorem q290 : (Jvm.Cond.fieldLink "DomainLinks" (437 : Nat) "DomainLinks" "failures" "I") ∈ lw_all := lw_g (lw_at lw_m1 181 rfl) rfl
theorem q291 : (Jvm.Cond.fieldLink "DomainLinks" (427 : Nat) "DomainLinks" "cut" "I") ∈ lw_all := lw_g (lw_at lw_m1 182 rfl) rfl
theorem q292 : (Jvm.Cond.fieldLink "DomainLinks" (424 : Nat) "DomainLinks" "sinceCut" "I") ∈ lw_all := lw_g (lw_at lw_m1 183 rfl) rfl
theorem q293 : (Jvm.Cond.fieldLink "DomainLinks" (421 : Nat) "DomainLinks" "restarts" "I") ∈ lw_all := lw_g (lw_at lw_m1 184 rfl) rfl
theorem q294 : (Jvm.Cond.fieldLink "DomainLinks" (440 : Nat) "DomainLinks" "first" "I") ∈ lw_all := lw_g (lw_at lw_m1 185 rfl) rfl
theorem q295 : (Jvm.Cond.fieldLink "DomainLinks" (443 : Nat) "DomainLinks" "choice" "I") ∈ lw_all := lw_g (lw_at lw_m1 186 rfl) rfl
theorem q296 : (Jvm.Cond.fieldLink "DomainLinks" (453 : Nat) "DomainLinks" "order" "I") ∈ lw_all := lw_g (lw_at lw_m1 187 rfl) rfl
theorem q297 : (Jvm.Cond.fieldLink "DomainLinks" (113 : Nat) "DomainLinks" "minimised" "I") ∈ lw_all := lw_g (lw_at lw_m1 188 rfl) rfl
theorem q298 : (Jvm.Cond.fieldLink "DomainLinks" (481 : Nat) "DomainLinks" "best" "I") ∈ lw_all := lw_g (lw_at lw_m1 189 rfl) rfl
theorem q299 : (Jvm.Cond.fieldLink "DomainLinks" (118 : Nat) "DomainLinks" "shared" "[LDomainLinks$Shared;") ∈ lw_all := lw_g (lw_at lw_m1 190 rfl) rfl
theorem q300 : (Jvm.Cond.laysFinal "DomainLinks" "DomainLinks" "variables" "Ljava/util/List;") ∈ lw_all := lw_g (lw_at lw_m1 191 rfl) rfl
theorem q301 : (Jvm.Cond.soleField "DomainLinks" "variables") ∈ lw_all := lw_g (lw_at lw_m1 192 rfl) rfl
theorem q302 : (Jvm.Cond.laysFinal "DomainLinks" "DomainLinks" "constraints" "Ljava/util/List;") ∈ lw_all := lw_g (lw_at lw_m1 193 rfl) rfl
theorem q303 : (Jvm.Cond.soleField "DomainLinks" "constraints") ∈ lw_all := lw_g (lw_at lw_m1 194 rfl) rfl
theorem q304 : (Jvm.Cond.lays "DomainLinks" "DomainLinks" "names" "Ljava/util/List;") ∈ lw_all := lw_g (lw_at lw_m1 195 rfl) rfl
theorem q305 : (Jvm.Cond.soleField "DomainLinks" "names") ∈ lw_all := lw_g (lw_at lw_m1 196 rfl) rfl
theorem q306 : (Jvm.Cond.lays "DomainLinks" "DomainLinks" "numbers" "Ljava/util/List;") ∈ lw_all := lw_g (lw_at lw_m1 197 rfl) rfl
theorem q307 : (Jvm.Cond.soleField "DomainLinks" "numbers") ∈ lw_all := lw_g (lw_at lw_m1 198 rfl) rfl
theorem q308 : (Jvm.Cond.lays "DomainLinks" "DomainLinks" "moves" "Ljava/util/List;") ∈ lw_all := lw_g (lw_at lw_m1 199 rfl) rfl
theorem q309 : (Jvm.Cond.soleField "DomainLinks" "moves") ∈ lw_all := lw_g (lw_at lw_m1 200 rfl) rfl
theorem q310 : (Jvm.Cond.lays "DomainLinks" "DomainLinks" "literals" "Ljava/util/List;") ∈ lw_all := lw_g (lw_at lw_m1 201 rfl) rfl
theorem q311 : (Jvm.Cond.soleField "DomainLinks" "literals") ∈ lw_all := lw_g (lw_at lw_m1 202 rfl) rfl
theorem q312 : (Jvm.Cond.laysFinal "DomainLinks" "DomainLinks" "decisions" "LDomainLinks$Decisions;") ∈ lw_all := lw_g (lw_at lw_m1 203 rfl) rfl
theorem q313 : (Jvm.Cond.soleField "DomainLinks" "decisions") ∈ lw_all := lw_g (lw_at lw_m1 204 rfl) rfl
theorem q314 : (Jvm.Cond.laysFinal "DomainLinks" "DomainLinks" "trees" "LDomainLinks$Trees;") ∈ lw_all := lw_g (lw_at lw_m1 205 rfl) rfl
theorem q315 : (Jvm.Cond.soleField "DomainLinks" "trees") ∈ lw_all := lw_g (lw_at lw_m1 206 rfl) rfl
theorem q316 : (Jvm.Cond.laysFinal "DomainLinks" "DomainLinks" "trial" "LDomainLinks$Trees;") ∈ lw_all := lw_g (lw_at lw_m1 207 rfl) rfl
theorem q317 : (Jvm.Cond.soleField "DomainLinks" "trial") ∈ lw_all := lw_g (lw_at lw_m1 208 rfl) rfl
theorem q318 : (Jvm.Cond.laysFinal "DomainLinks" "DomainLinks" "store" "LDomainLinks$Store;") ∈ lw_all := lw_g (lw_at lw_m1 209 rfl) rfl
theorem q319 : (Jvm.Cond.soleField "DomainLinks" "store") ∈ lw_all := lw_g (lw_at lw_m1 210 rfl) rfl
theorem q320 : (Jvm.Cond.lays "DomainLinks" "DomainLinks" "isKnown" "Z") ∈ lw_all := lw_g (lw_at lw_m1 211 rfl) rfl
theorem q321 : (Jvm.Cond.soleField "DomainLinks" "isKnown") ∈ lw_all := lw_g (lw_at lw_m1 212 rfl) rfl
theorem q322 : (Jvm.Cond.laysFinal "DomainLinks" "DomainLinks" "traceRounds" "[I") ∈ lw_all := lw_g (lw_at lw_m1 213 rfl) rfl
theorem q323 : (Jvm.Cond.soleField "DomainLinks" "traceRounds") ∈ lw_all := lw_g (lw_at lw_m1 214 rfl) rfl
theorem q324 : (Jvm.Cond.laysFinal "DomainLinks" "DomainLinks" "traceVariables" "[I") ∈ lw_all := lw_g (lw_at lw_m1 215 rfl) rfl
theorem q325 : (Jvm.Cond.soleField "DomainLinks" "traceVariables") ∈ lw_all := lw_g (lw_at lw_m1 216 rfl) rfl
theorem q326 : (Jvm.Cond.laysFinal "DomainLinks" "DomainLinks" "traceValues" "[I") ∈ lw_all := lw_g (lw_at lw_m1 217 rfl) rfl
theorem q327 : (Jvm.Cond.soleField "DomainLinks" "traceValues") ∈ lw_all := lw_g (lw_at lw_m1 218 rfl) rfl
theorem q328 : (Jvm.Cond.laysFinal "DomainLinks" "DomainLinks" "traceConstraints" "[I") ∈ lw_all := lw_g (lw_at lw_m1 219 rfl) rfl
theorem q329 : (Jvm.Cond.soleField "DomainLinks" "traceConstraints") ∈ lw_all := lw_g (lw_at lw_m1 220 rfl) rfl
theorem q330 : (Jvm.Cond.lays "DomainLinks" "DomainLinks" "removals" "I") ∈ lw_all := lw_g (lw_at lw_m1 221 rfl) rfl
theorem q331 : (Jvm.Cond.soleField "DomainLinks" "removals") ∈ lw_all := lw_g (lw_at lw_m1 222 rfl) rfl
theorem q332 : (Jvm.Cond.laysFinal "DomainLinks" "DomainLinks" "other" "LDomainLinks$Store;") ∈ lw_all := lw_g (lw_at lw_m1 223 rfl) rfl
theorem q333 : (Jvm.Cond.soleField "DomainLinks" "other") ∈ lw_all := lw_g (lw_at lw_m1 224 rfl) rfl
theorem q334 : (Jvm.Cond.laysFinal "DomainLinks" "DomainLinks" "nextSets" "[I") ∈ lw_all := lw_g (lw_at lw_m1 225 rfl) rfl
theorem q335 : (Jvm.Cond.soleField "DomainLinks" "nextSets") ∈ lw_all := lw_g (lw_at lw_m1 226 rfl) rfl
theorem q336 : (Jvm.Cond.laysFinal "DomainLinks" "DomainLinks" "nextLows" "[I") ∈ lw_all := lw_g (lw_at lw_m1 227 rfl) rfl
theorem q337 : (Jvm.Cond.soleField "DomainLinks" "nextLows") ∈ lw_all := lw_g (lw_at lw_m1 228 rfl) rfl
theorem q338 : (Jvm.Cond.laysFinal "DomainLinks" "DomainLinks" "nextHighs" "[I") ∈ lw_all := lw_g (lw_at lw_m1 229 rfl) rfl
theorem q339 : (Jvm.Cond.soleField "DomainLinks" "nextHighs") ∈ lw_all := lw_g (lw_at lw_m1 230 rfl) rfl
theorem q340 : (Jvm.Cond.laysFinal "DomainLinks" "DomainLinks" "removers" "[[I") ∈ lw_all := lw_g (lw_at lw_m1 231 rfl) rfl
theorem q341 : (Jvm.Cond.soleField "DomainLinks" "removers") ∈ lw_all := lw_g (lw_at lw_m1 232 rfl) rfl
theorem q342 : (Jvm.Cond.laysFinal "DomainLinks" "DomainLinks" "path" "LDomainLinks$Decisions;") ∈ lw_all := lw_g (lw_at lw_m1 233 rfl) rfl
theorem q343 : (Jvm.Cond.soleField "DomainLinks" "path") ∈ lw_all := lw_g (lw_at lw_m1 234 rfl) rfl
theorem q344 : (Jvm.Cond.laysFinal "DomainLinks" "DomainLinks" "phases" "[I") ∈ lw_all := lw_g (lw_at lw_m1 235 rfl) rfl
theorem q345 : (Jvm.Cond.soleField "DomainLinks" "phases") ∈ lw_all := lw_g (lw_at lw_m1 236 rfl) rfl
theorem q346 : (Jvm.Cond.laysFinal "DomainLinks" "DomainLinks" "found" "[I") ∈ lw_all := lw_g (lw_at lw_m1 237 rfl) rfl
theorem q347 : (Jvm.Cond.soleField "DomainLinks" "found") ∈ lw_all := lw_g (lw_at lw_m1 238 rfl) rfl
theorem q348 : (Jvm.Cond.lays "DomainLinks" "DomainLinks" "foundVariables" "I") ∈ lw_all := lw_g (lw_at lw_m1 239 rfl) rfl
theorem q349 : (Jvm.Cond.soleField "DomainLinks" "foundVariables") ∈ lw_all := lw_g (lw_at lw_m2 0 rfl) rfl
theorem q350 : (Jvm.Cond.lays "DomainLinks" "DomainLinks" "nodes" "I") ∈ lw_all := lw_g (lw_at lw_m2 1 rfl) rfl
theorem q351 : (Jvm.Cond.soleField "DomainLinks" "nodes") ∈ lw_all := lw_g (lw_at lw_m2 2 rfl) rfl
theorem q352 : (Jvm.Cond.lays "DomainLinks" "DomainLinks" "failures" "I") ∈ lw_all := lw_g (lw_at lw_m2 3 rfl) rfl
theorem q353 : (Jvm.Cond.soleField "DomainLinks" "failures") ∈ lw_all := lw_g (lw_at lw_m2 4 rfl) rfl
theorem q354 : (Jvm.Cond.lays "DomainLinks" "DomainLinks" "cut" "I") ∈ lw_all := lw_g (lw_at lw_m2 5 rfl) rfl
theorem q355 : (Jvm.Cond.soleField "DomainLinks" "cut") ∈ lw_all := lw_g (lw_at lw_m2 6 rfl) rfl
theorem q356 : (Jvm.Cond.lays "DomainLinks" "DomainLinks" "sinceCut" "I") ∈ lw_all := lw_g (lw_at lw_m2 7 rfl) rfl
theorem q357 : (Jvm.Cond.soleField "DomainLinks" "sinceCut") ∈ lw_all := lw_g (lw_at lw_m2 8 rfl) rfl
theorem q358 : (Jvm.Cond.lays "DomainLinks" "DomainLinks" "restarts" "I") ∈ lw_all := lw_g (lw_at lw_m2 9 rfl) rfl
theorem q359 : (Jvm.Cond.soleField "DomainLinks" "restarts") ∈ lw_all := lw_g (lw_at lw_m2 10 rfl) rfl
theorem q360 : (Jvm.Cond.lays "DomainLinks" "DomainLinks" "first" "I") ∈ lw_all := lw_g (lw_at lw_m2 11 rfl) rfl
theorem q361 : (Jvm.Cond.soleField "DomainLinks" "first") ∈ lw_all := lw_g (lw_at lw_m2 12 rfl) rfl
theorem q362 : (Jvm.Cond.lays "DomainLinks" "DomainLinks" "choice" "I") ∈ lw_all := lw_g (lw_at lw_m2 13 rfl) rfl
theorem q363 : (Jvm.Cond.soleField "DomainLinks" "choice") ∈ lw_all := lw_g (lw_at lw_m2 14 rfl) rfl
theorem q364 : (Jvm.Cond.lays "DomainLinks" "DomainLinks" "order" "I") ∈ lw_all := lw_g (lw_at lw_m2 15 rfl) rfl
theorem q365 : (Jvm.Cond.soleField "DomainLinks" "order") ∈ lw_all := lw_g (lw_at lw_m2 16 rfl) rfl
theorem q366 : (Jvm.Cond.lays "DomainLinks" "DomainLinks" "minimised" "I") ∈ lw_all := lw_g (lw_at lw_m2 17 rfl) rfl
theorem q367 : (Jvm.Cond.soleField "DomainLinks" "minimised") ∈ lw_all := lw_g (lw_at lw_m2 18 rfl) rfl
theorem q368 : (Jvm.Cond.lays "DomainLinks" "DomainLinks" "best" "I") ∈ lw_all := lw_g (lw_at lw_m2 19 rfl) rfl
theorem q369 : (Jvm.Cond.soleField "DomainLinks" "best") ∈ lw_all := lw_g (lw_at lw_m2 20 rfl) rfl
theorem q370 : (Jvm.Cond.laysFinal "DomainLinks" "DomainLinks" "shared" "[LDomainLinks$Shared;") ∈ lw_all := lw_g (lw_at lw_m2 21 rfl) rfl
theorem q371 : (Jvm.Cond.soleField "DomainLinks" "shared") ∈ lw_all := lw_g (lw_at lw_m2 22 rfl) rfl
theorem q372 : (Jvm.Cond.superclass "DomainLinks" "java/lang/Object") ∈ lw_all := lw_g (lw_at lw_m2 23 rfl) rfl
theorem q374 : (Jvm.Cond.instanceMethod ({ cls := "DomainLinks", name := "constraints", desc := "()I" } : Jvm.MethodName)) ∈ lw_all := lw_g (lw_at lw_m2 25 rfl) rfl
theorem q375 : (Jvm.Cond.selects "DomainLinks" ({ cls := "DomainLinks", name := "constraints", desc := "()I" } : Jvm.MethodName) ({ cls := "DomainLinks", name := "constraints", desc := "()I" } : Jvm.MethodName)) ∈ lw_all := lw_g (lw_at lw_m2 26 rfl) rfl
theorem q376 : (Jvm.Cond.code ({ cls := "DomainLinks", name := "constraints", desc := "()I" } : Jvm.MethodName) prog_1_method_47_code (1 : Nat) (Option.some Jvm.ClassFile.FieldType.int)) ∈ lw_all := lw_g (lw_at lw_m2 27 rfl) rfl
theorem q377 : (Jvm.Cond.interfaceEntry "DomainLinks" (131 : Nat)) ∈ lw_tbl := lw_at lw_m2 28 rfl
theorem q378 : (Jvm.Cond.methodLink "DomainLinks" (131 : Nat) ({ cls := "java/util/List", name := "size", desc := "()I" } : Jvm.MethodName)) ∈ lw_all := lw_g (lw_at lw_m2 29 rfl) rfl
theorem q388 : (Jvm.Cond.instanceMethod ({ cls := "DomainLinks", name := "isFailed", desc := "()Z" } : Jvm.MethodName)) ∈ lw_all := lw_g (lw_at lw_m2 39 rfl) rfl
theorem q389 : (Jvm.Cond.selects "DomainLinks" ({ cls := "DomainLinks", name := "isFailed", desc := "()Z" } : Jvm.MethodName) ({ cls := "DomainLinks", name := "isFailed", desc := "()Z" } : Jvm.MethodName)) ∈ lw_all := lw_g (lw_at lw_m2 40 rfl) rfl
theorem q390 : (Jvm.Cond.code ({ cls := "DomainLinks", name := "isFailed", desc := "()Z" } : Jvm.MethodName) prog_1_method_59_code (1 : Nat) (Option.some Jvm.ClassFile.FieldType.boolean)) ∈ lw_all := lw_g (lw_at lw_m2 41 rfl) rfl
theorem q391 : (Jvm.Cond.methodLink "DomainLinks" (388 : Nat) ({ cls := "DomainLinks", name := "store", desc := "()LDomainLinks$Store;" } : Jvm.MethodName)) ∈ lw_all := lw_g (lw_at lw_m2 42 rfl) rfl
theorem q392 : (Jvm.Cond.privateMethod ({ cls := "DomainLinks", name := "store", desc := "()LDomainLinks$Store;" } : Jvm.MethodName)) ∈ lw_tbl := lw_at lw_m2 43 rfl
theorem q393 : (Jvm.Cond.instanceMethod ({ cls := "DomainLinks", name := "store", desc := "()LDomainLinks$Store;" } : Jvm.MethodName)) ∈ lw_all := lw_g (lw_at lw_m2 44 rfl) rfl
theorem q394 : (Jvm.Cond.code ({ cls := "DomainLinks", name := "store", desc := "()LDomainLinks$Store;" } : Jvm.MethodName) prog_1_method_56_code (1 : Nat) (Option.some (Jvm.ClassFile.FieldType.object "DomainLinks$Store"))) ∈ lw_all := lw_g (lw_at lw_m2 45 rfl) rfl
theorem q395 : (Jvm.Cond.methodLink "DomainLinks" (378 : Nat) ({ cls := "DomainLinks", name := "begin", desc := "(LDomainLinks$Store;LDomainLinks$Decisions;I)V" } : Jvm.MethodName)) ∈ lw_all := lw_g (lw_at lw_m2 46 rfl) rfl
theorem q396 : (Jvm.Cond.privateMethod ({ cls := "DomainLinks", name := "begin", desc := "(LDomainLinks$Store;LDomainLinks$Decisions;I)V" } : Jvm.MethodName)) ∈ lw_tbl := lw_at lw_m2 47 rfl
theorem q397 : (Jvm.Cond.instanceMethod ({ cls := "DomainLinks", name := "begin", desc := "(LDomainLinks$Store;LDomainLinks$Decisions;I)V" } : Jvm.MethodName)) ∈ lw_all := lw_g (lw_at lw_m2 48 rfl) rfl
theorem q398 : (Jvm.Cond.code ({ cls := "DomainLinks", name := "begin", desc := "(LDomainLinks$Store;LDomainLinks$Decisions;I)V" } : Jvm.MethodName) prog_1_method_49_code (7 : Nat) (Option.none : Option Jvm.ClassFile.FieldType)) ∈ lw_all := lw_g (lw_at lw_m2 49 rfl) rfl
theorem q399 : (Jvm.Cond.interfaceEntry "DomainLinks" (141 : Nat)) ∈ lw_tbl := lw_at lw_m2 50 rfl
theorem q400 : (Jvm.Cond.methodLink "DomainLinks" (141 : Nat) ({ cls := "java/util/List", name := "get", desc := "(I)Ljava/lang/Object;" } : Jvm.MethodName)) ∈ lw_all := lw_g (lw_at lw_m2 51 rfl) rfl
theorem q418 : (Jvm.Cond.classLink "DomainLinks" (145 : Nat) "DomainLinks$Variable") ∈ lw_all := lw_g (lw_at lw_m2 69 rfl) rfl
theorem q419 : (Jvm.Cond.methodLink "DomainLinks" (301 : Nat) ({ cls := "DomainLinks$Variable", name := "domain", desc := "()I" } : Jvm.MethodName)) ∈ lw_all := lw_g (lw_at lw_m2 70 rfl) rfl
theorem q423 : (Jvm.Cond.methodLink "DomainLinks" (307 : Nat) ({ cls := "DomainLinks$Variable", name := "low", desc := "()I" } : Jvm.MethodName)) ∈ lw_all := lw_g (lw_at lw_m2 74 rfl) rfl
theorem q427 : (Jvm.Cond.methodLink "DomainLinks" (313 : Nat) ({ cls := "DomainLinks$Variable", name := "high", desc := "()I" } : Jvm.MethodName)) ∈ lw_all := lw_g (lw_at lw_m2 78 rfl) rfl
theorem q431 : (Jvm.Cond.methodLink "DomainLinks" (319 : Nat) ({ cls := "DomainLinks", name := "has", desc := "(II)Z" } : Jvm.MethodName)) ∈ lw_all := lw_g (lw_at lw_m2 82 rfl) rfl
theorem q432 : (Jvm.Cond.static ({ cls := "DomainLinks", name := "has", desc := "(II)Z" } : Jvm.MethodName)) ∈ lw_all := lw_g (lw_at lw_m2 83 rfl) rfl
theorem q433 : (Jvm.Cond.code ({ cls := "DomainLinks", name := "has", desc := "(II)Z" } : Jvm.MethodName) prog_1_method_1_code (2 : Nat) (Option.some Jvm.ClassFile.FieldType.boolean)) ∈ lw_all := lw_g (lw_at lw_m2 84 rfl) rfl
theorem q434 : (Jvm.Cond.methodLink "DomainLinks" (322 : Nat) ({ cls := "DomainLinks$Decisions", name := "left", desc := "(II)I" } : Jvm.MethodName)) ∈ lw_all := lw_g (lw_at lw_m2 85 rfl) rfl
theorem q438 : (Jvm.Cond.methodLink "DomainLinks" (382 : Nat) ({ cls := "DomainLinks", name := "solve", desc := "(LDomainLinks$Store;Z)V" } : Jvm.MethodName)) ∈ lw_all := lw_g (lw_at lw_m2 89 rfl) rfl
theorem q439 : (Jvm.Cond.privateMethod ({ cls := "DomainLinks", name := "solve", desc := "(LDomainLinks$Store;Z)V" } : Jvm.MethodName)) ∈ lw_tbl := lw_at lw_m2 90 rfl
theorem q440 : (Jvm.Cond.instanceMethod ({ cls := "DomainLinks", name := "solve", desc := "(LDomainLinks$Store;Z)V" } : Jvm.MethodName)) ∈ lw_all := lw_g (lw_at lw_m2 91 rfl) rfl
theorem q441 : (Jvm.Cond.code ({ cls := "DomainLinks", name := "solve", desc := "(LDomainLinks$Store;Z)V" } : Jvm.MethodName) prog_1_method_51_code (4 : Nat) (Option.none : Option Jvm.ClassFile.FieldType)) ∈ lw_all := lw_g (lw_at lw_m2 92 rfl) rfl
theorem q442 : (Jvm.Cond.methodLink "DomainLinks" (336 : Nat) ({ cls := "DomainLinks", name := "seesFailure", desc := "(LDomainLinks$Store;)Z" } : Jvm.MethodName)) ∈ lw_all := lw_g (lw_at lw_m2 93 rfl) rfl
theorem q443 : (Jvm.Cond.privateMethod ({ cls := "DomainLinks", name := "seesFailure", desc := "(LDomainLinks$Store;)Z" } : Jvm.MethodName)) ∈ lw_tbl := lw_at lw_m2 94 rfl
theorem q444 : (Jvm.Cond.instanceMethod ({ cls := "DomainLinks", name := "seesFailure", desc := "(LDomainLinks$Store;)Z" } : Jvm.MethodName)) ∈ lw_all := lw_g (lw_at lw_m2 95 rfl) rfl
theorem q445 : (Jvm.Cond.code ({ cls := "DomainLinks", name := "seesFailure", desc := "(LDomainLinks$Store;)Z" } : Jvm.MethodName) prog_1_method_52_code (3 : Nat) (Option.some Jvm.ClassFile.FieldType.boolean)) ∈ lw_all := lw_g (lw_at lw_m2 96 rfl) rfl
theorem q446 : (Jvm.Cond.methodLink "DomainLinks" (347 : Nat) ({ cls := "DomainLinks", name := "isEmpty", desc := "(LDomainLinks$Store;I)Z" } : Jvm.MethodName)) ∈ lw_all := lw_g (lw_at lw_m2 97 rfl) rfl
theorem q447 : (Jvm.Cond.privateMethod ({ cls := "DomainLinks", name := "isEmpty", desc := "(LDomainLinks$Store;I)Z" } : Jvm.MethodName)) ∈ lw_tbl := lw_at lw_m2 98 rfl
theorem q448 : (Jvm.Cond.instanceMethod ({ cls := "DomainLinks", name := "isEmpty", desc := "(LDomainLinks$Store;I)Z" } : Jvm.MethodName)) ∈ lw_all := lw_g (lw_at lw_m2 99 rfl) rfl
theorem q449 : (Jvm.Cond.code ({ cls := "DomainLinks", name := "isEmpty", desc := "(LDomainLinks$Store;I)Z" } : Jvm.MethodName) prog_1_method_50_code (3 : Nat) (Option.some Jvm.ClassFile.FieldType.boolean)) ∈ lw_all := lw_g (lw_at lw_m2 100 rfl) rfl
theorem q450 : (Jvm.Cond.methodLink "DomainLinks" (326 : Nat) ({ cls := "DomainLinks", name := "isRatio", desc := "(I)Z" } : Jvm.MethodName)) ∈ lw_all := lw_g (lw_at lw_m2 101 rfl) rfl
theorem q451 : (Jvm.Cond.privateMethod ({ cls := "DomainLinks", name := "isRatio", desc := "(I)Z" } : Jvm.MethodName)) ∈ lw_tbl := lw_at lw_m2 102 rfl
theorem q452 : (Jvm.Cond.instanceMethod ({ cls := "DomainLinks", name := "isRatio", desc := "(I)Z" } : Jvm.MethodName)) ∈ lw_all := lw_g (lw_at lw_m2 103 rfl) rfl
theorem q453 : (Jvm.Cond.code ({ cls := "DomainLinks", name := "isRatio", desc := "(I)Z" } : Jvm.MethodName) prog_1_method_48_code (2 : Nat) (Option.some Jvm.ClassFile.FieldType.boolean)) ∈ lw_all := lw_g (lw_at lw_m2 104 rfl) rfl
theorem q454 : (Jvm.Cond.methodLink "DomainLinks" (147 : Nat) ({ cls := "DomainLinks$Variable", name := "kind", desc := "()I" } : Jvm.MethodName)) ∈ lw_all := lw_g (lw_at lw_m2 105 rfl) rfl
theorem q458 : (Jvm.Cond.methodLink "DomainLinks" (340 : Nat) ({ cls := "DomainLinks", name := "makeRound", desc := "(LDomainLinks$Store;Z)Z" } : Jvm.MethodName)) ∈ lw_all := lw_g (lw_at lw_m2 109 rfl) rfl
theorem q459 : (Jvm.Cond.privateMethod ({ cls := "DomainLinks", name := "makeRound", desc := "(LDomainLinks$Store;Z)Z" } : Jvm.MethodName)) ∈ lw_tbl := lw_at lw_m2 110 rfl
theorem q460 : (Jvm.Cond.instanceMethod ({ cls := "DomainLinks", name := "makeRound", desc := "(LDomainLinks$Store;Z)Z" } : Jvm.MethodName)) ∈ lw_all := lw_g (lw_at lw_m2 111 rfl) rfl
theorem q461 : (Jvm.Cond.code ({ cls := "DomainLinks", name := "makeRound", desc := "(LDomainLinks$Store;Z)Z" } : Jvm.MethodName) prog_1_method_53_code (6 : Nat) (Option.some Jvm.ClassFile.FieldType.boolean)) ∈ lw_all := lw_g (lw_at lw_m2 112 rfl) rfl
theorem q462 : (Jvm.Cond.classLink "DomainLinks" (350 : Nat) "DomainLinks$Constraint") ∈ lw_all := lw_g (lw_at lw_m2 113 rfl) rfl
theorem q463 : (Jvm.Cond.methodLink "DomainLinks" (352 : Nat) ({ cls := "DomainLinks$Constraint", name := "keep", desc := "(LDomainLinks$Store;)V" } : Jvm.MethodName)) ∈ lw_all := lw_g (lw_at lw_m2 114 rfl) rfl
theorem q504 : (Jvm.Cond.laysStatic "DomainLinks" "GREATEST_VALUES" "[I") ∈ lw_tbl := lw_at lw_m2 155 rfl
theorem q552 : (Jvm.Cond.static ({ cls := "DomainLinks", name := "least", desc := "(I)I" } : Jvm.MethodName)) ∈ lw_all := lw_g (lw_at lw_m2 203 rfl) rfl
theorem q553 : (Jvm.Cond.code ({ cls := "DomainLinks", name := "least", desc := "(I)I" } : Jvm.MethodName) prog_1_method_2_code (1 : Nat) (Option.some Jvm.ClassFile.FieldType.int)) ∈ lw_all := lw_g (lw_at lw_m2 204 rfl) rfl
theorem q554 : (Jvm.Cond.methodLink "DomainLinks" (1 : Nat) ({ cls := "java/lang/Integer", name := "numberOfTrailingZeros", desc := "(I)I" } : Jvm.MethodName)) ∈ lw_all := lw_g (lw_at lw_m2 205 rfl) rfl
theorem q563 : (Jvm.Cond.static ({ cls := "DomainLinks", name := "greatest", desc := "(I)I" } : Jvm.MethodName)) ∈ lw_all := lw_g (lw_at lw_m2 214 rfl) rfl
theorem q564 : (Jvm.Cond.code ({ cls := "DomainLinks", name := "greatest", desc := "(I)I" } : Jvm.MethodName) prog_1_method_3_code (1 : Nat) (Option.some Jvm.ClassFile.FieldType.int)) ∈ lw_all := lw_g (lw_at lw_m2 215 rfl) rfl
theorem q565 : (Jvm.Cond.methodLink "DomainLinks" (9 : Nat) ({ cls := "java/lang/Integer", name := "numberOfLeadingZeros", desc := "(I)I" } : Jvm.MethodName)) ∈ lw_all := lw_g (lw_at lw_m2 216 rfl) rfl
theorem q649 : (Jvm.Cond.methodLink "DomainLinks" (356 : Nat) ({ cls := "DomainLinks$Constraint", name := "size", desc := "()I" } : Jvm.MethodName)) ∈ lw_all := lw_g (lw_at lw_m3 60 rfl) rfl
theorem q650 : (Jvm.Cond.methodLink "DomainLinks" (357 : Nat) ({ cls := "DomainLinks", name := "take", desc := "(LDomainLinks$Constraint;II)V" } : Jvm.MethodName)) ∈ lw_all := lw_g (lw_at lw_m3 61 rfl) rfl
theorem q651 : (Jvm.Cond.privateMethod ({ cls := "DomainLinks", name := "take", desc := "(LDomainLinks$Constraint;II)V" } : Jvm.MethodName)) ∈ lw_tbl := lw_at lw_m3 62 rfl
theorem q652 : (Jvm.Cond.instanceMethod ({ cls := "DomainLinks", name := "take", desc := "(LDomainLinks$Constraint;II)V" } : Jvm.MethodName)) ∈ lw_all := lw_g (lw_at lw_m3 63 rfl) rfl
theorem q653 : (Jvm.Cond.code ({ cls := "DomainLinks", name := "take", desc := "(LDomainLinks$Constraint;II)V" } : Jvm.MethodName) prog_1_method_54_code (7 : Nat) (Option.none : Option Jvm.ClassFile.FieldType)) ∈ lw_all := lw_g (lw_at lw_m3 64 rfl) rfl
theorem q654 : (Jvm.Cond.methodLink "DomainLinks" (368 : Nat) ({ cls := "java/lang/Math", name := "max", desc := "(II)I" } : Jvm.MethodName)) ∈ lw_all := lw_g (lw_at lw_m3 65 rfl) rfl
theorem q657 : (Jvm.Cond.methodLink "DomainLinks" (374 : Nat) ({ cls := "java/lang/Math", name := "min", desc := "(II)I" } : Jvm.MethodName)) ∈ lw_all := lw_g (lw_at lw_m3 68 rfl) rfl
theorem q660 : (Jvm.Cond.methodLink "DomainLinks" (361 : Nat) ({ cls := "DomainLinks", name := "trace", desc := "(III)V" } : Jvm.MethodName)) ∈ lw_all := lw_g (lw_at lw_m3 71 rfl) rfl
theorem q661 : (Jvm.Cond.privateMethod ({ cls := "DomainLinks", name := "trace", desc := "(III)V" } : Jvm.MethodName)) ∈ lw_tbl := lw_at lw_m3 72 rfl
theorem q662 : (Jvm.Cond.instanceMethod ({ cls := "DomainLinks", name := "trace", desc := "(III)V" } : Jvm.MethodName)) ∈ lw_all := lw_g (lw_at lw_m3 73 rfl) rfl
theorem q663 : (Jvm.Cond.code ({ cls := "DomainLinks", name := "trace", desc := "(III)V" } : Jvm.MethodName) prog_1_method_55_code (5 : Nat) (Option.none : Option Jvm.ClassFile.FieldType)) ∈ lw_all := lw_g (lw_at lw_m3 74 rfl) rfl
theorem q665 : (Jvm.Cond.instanceMethod ({ cls := "DomainLinks", name := "rounds", desc := "()I" } : Jvm.MethodName)) ∈ lw_all := lw_g (lw_at lw_m3 76 rfl) rfl
theorem q666 : (Jvm.Cond.selects "DomainLinks" ({ cls := "DomainLinks", name := "rounds", desc := "()I" } : Jvm.MethodName) ({ cls := "DomainLinks", name := "rounds", desc := "()I" } : Jvm.MethodName)) ∈ lw_all := lw_g (lw_at lw_m3 77 rfl) rfl
theorem q667 : (Jvm.Cond.code ({ cls := "DomainLinks", name := "rounds", desc := "()I" } : Jvm.MethodName) prog_1_method_62_code (1 : Nat) (Option.some Jvm.ClassFile.FieldType.int)) ∈ lw_all := lw_g (lw_at lw_m3 78 rfl) rfl
theorem q669 : (Jvm.Cond.instanceMethod ({ cls := "DomainLinks", name := "removals", desc := "()I" } : Jvm.MethodName)) ∈ lw_all := lw_g (lw_at lw_m3 80 rfl) rfl
theorem q670 : (Jvm.Cond.selects "DomainLinks" ({ cls := "DomainLinks", name := "removals", desc := "()I" } : Jvm.MethodName) ({ cls := "DomainLinks", name := "removals", desc := "()I" } : Jvm.MethodName)) ∈ lw_all := lw_g (lw_at lw_m3 81 rfl) rfl
theorem q671 : (Jvm.Cond.code ({ cls := "DomainLinks", name := "removals", desc := "()I" } : Jvm.MethodName) prog_1_method_63_code (1 : Nat) (Option.some Jvm.ClassFile.FieldType.int)) ∈ lw_all := lw_g (lw_at lw_m3 82 rfl) rfl
theorem q673 : (Jvm.Cond.instanceMethod ({ cls := "DomainLinks", name := "nodes", desc := "()I" } : Jvm.MethodName)) ∈ lw_all := lw_g (lw_at lw_m3 84 rfl) rfl
theorem q674 : (Jvm.Cond.selects "DomainLinks" ({ cls := "DomainLinks", name := "nodes", desc := "()I" } : Jvm.MethodName) ({ cls := "DomainLinks", name := "nodes", desc := "()I" } : Jvm.MethodName)) ∈ lw_all := lw_g (lw_at lw_m3 85 rfl) rfl
theorem q675 : (Jvm.Cond.code ({ cls := "DomainLinks", name := "nodes", desc := "()I" } : Jvm.MethodName) prog_1_method_84_code (1 : Nat) (Option.some Jvm.ClassFile.FieldType.int)) ∈ lw_all := lw_g (lw_at lw_m3 86 rfl) rfl
theorem q677 : (Jvm.Cond.instanceMethod ({ cls := "DomainLinks", name := "failures", desc := "()I" } : Jvm.MethodName)) ∈ lw_all := lw_g (lw_at lw_m3 88 rfl) rfl
theorem q678 : (Jvm.Cond.selects "DomainLinks" ({ cls := "DomainLinks", name := "failures", desc := "()I" } : Jvm.MethodName) ({ cls := "DomainLinks", name := "failures", desc := "()I" } : Jvm.MethodName)) ∈ lw_all := lw_g (lw_at lw_m3 89 rfl) rfl
theorem q679 : (Jvm.Cond.code ({ cls := "DomainLinks", name := "failures", desc := "()I" } : Jvm.MethodName) prog_1_method_85_code (1 : Nat) (Option.some Jvm.ClassFile.FieldType.int)) ∈ lw_all := lw_g (lw_at lw_m3 90 rfl) rfl
theorem q681 : (Jvm.Cond.instanceMethod ({ cls := "DomainLinks", name := "best", desc := "()I" } : Jvm.MethodName)) ∈ lw_all := lw_g (lw_at lw_m3 92 rfl) rfl
theorem q682 : (Jvm.Cond.selects "DomainLinks" ({ cls := "DomainLinks", name := "best", desc := "()I" } : Jvm.MethodName) ({ cls := "DomainLinks", name := "best", desc := "()I" } : Jvm.MethodName)) ∈ lw_all := lw_g (lw_at lw_m3 93 rfl) rfl
theorem q683 : (Jvm.Cond.code ({ cls := "DomainLinks", name := "best", desc := "()I" } : Jvm.MethodName) prog_1_method_90_code (1 : Nat) (Option.some Jvm.ClassFile.FieldType.int)) ∈ lw_all := lw_g (lw_at lw_m3 94 rfl) rfl
theorem q690 : (Jvm.Cond.instanceMethod ({ cls := "DomainLinks", name := "variable", desc := "(II)I" } : Jvm.MethodName)) ∈ lw_all := lw_g (lw_at lw_m3 101 rfl) rfl
theorem q691 : (Jvm.Cond.selects "DomainLinks" ({ cls := "DomainLinks", name := "variable", desc := "(II)I" } : Jvm.MethodName) ({ cls := "DomainLinks", name := "variable", desc := "(II)I" } : Jvm.MethodName)) ∈ lw_all := lw_g (lw_at lw_m3 102 rfl) rfl
theorem q692 : (Jvm.Cond.code ({ cls := "DomainLinks", name := "variable", desc := "(II)I" } : Jvm.MethodName) prog_1_method_19_code (4 : Nat) (Option.some Jvm.ClassFile.FieldType.int)) ∈ lw_all := lw_g (lw_at lw_m3 103 rfl) rfl
theorem q693 : (Jvm.Cond.methodLink "DomainLinks" (162 : Nat) ({ cls := "DomainLinks", name := "check", desc := "(III)V" } : Jvm.MethodName)) ∈ lw_all := lw_g (lw_at lw_m3 104 rfl) rfl
theorem q694 : (Jvm.Cond.static ({ cls := "DomainLinks", name := "check", desc := "(III)V" } : Jvm.MethodName)) ∈ lw_all := lw_g (lw_at lw_m3 105 rfl) rfl
theorem q695 : (Jvm.Cond.code ({ cls := "DomainLinks", name := "check", desc := "(III)V" } : Jvm.MethodName) prog_1_method_10_code (3 : Nat) (Option.none : Option Jvm.ClassFile.FieldType)) ∈ lw_all := lw_g (lw_at lw_m3 106 rfl) rfl
theorem q696 : (Jvm.Cond.classLink "DomainLinks" (122 : Nat) "java/lang/IllegalArgumentException") ∈ lw_all := lw_g (lw_at lw_m3 107 rfl) rfl
theorem q738 : (Jvm.Cond.methodLink "DomainLinks" (124 : Nat) ({ cls := "java/lang/IllegalArgumentException", name := "<init>", desc := "()V" } : Jvm.MethodName)) ∈ lw_all := lw_g (lw_at lw_m3 149 rfl) rfl
theorem q761 : (Jvm.Cond.fieldLink "DomainLinks" (180 : Nat) "DomainLinks" "GREATEST_VALUES" "[I") ∈ lw_all := lw_g (lw_at lw_m3 172 rfl) rfl
theorem q762 : (Jvm.Cond.methodLink "DomainLinks" (154 : Nat) ({ cls := "DomainLinks", name := "checkArgument", desc := "(Z)V" } : Jvm.MethodName)) ∈ lw_all := lw_g (lw_at lw_m3 173 rfl) rfl
theorem q763 : (Jvm.Cond.static ({ cls := "DomainLinks", name := "checkArgument", desc := "(Z)V" } : Jvm.MethodName)) ∈ lw_all := lw_g (lw_at lw_m3 174 rfl) rfl
theorem q764 : (Jvm.Cond.code ({ cls := "DomainLinks", name := "checkArgument", desc := "(Z)V" } : Jvm.MethodName) prog_1_method_11_code (1 : Nat) (Option.none : Option Jvm.ClassFile.FieldType)) ∈ lw_all := lw_g (lw_at lw_m3 175 rfl) rfl
theorem q766 : (Jvm.Cond.methodLinkNest "DomainLinks" (183 : Nat) ({ cls := "DomainLinks$Variable", name := "<init>", desc := "(IIII)V" } : Jvm.MethodName) "DomainLinks") ∈ lw_tbl := lw_at lw_m3 177 rfl
theorem q786 : (Jvm.Cond.methodLink "DomainLinks" (186 : Nat) ({ cls := "DomainLinks", name := "add", desc := "(LDomainLinks$Variable;)I" } : Jvm.MethodName)) ∈ lw_all := lw_g (lw_at lw_m3 197 rfl) rfl
theorem q787 : (Jvm.Cond.privateMethod ({ cls := "DomainLinks", name := "add", desc := "(LDomainLinks$Variable;)I" } : Jvm.MethodName)) ∈ lw_tbl := lw_at lw_m3 198 rfl
theorem q788 : (Jvm.Cond.instanceMethod ({ cls := "DomainLinks", name := "add", desc := "(LDomainLinks$Variable;)I" } : Jvm.MethodName)) ∈ lw_all := lw_g (lw_at lw_m3 199 rfl) rfl
theorem q789 : (Jvm.Cond.code ({ cls := "DomainLinks", name := "add", desc := "(LDomainLinks$Variable;)I" } : Jvm.MethodName) prog_1_method_18_code (2 : Nat) (Option.some Jvm.ClassFile.FieldType.int)) ∈ lw_all := lw_g (lw_at lw_m3 200 rfl) rfl
theorem q790 : (Jvm.Cond.methodLink "DomainLinks" (169 : Nat) ({ cls := "DomainLinks", name := "checkState", desc := "(Z)V" } : Jvm.MethodName)) ∈ lw_all := lw_g (lw_at lw_m3 201 rfl) rfl
theorem q791 : (Jvm.Cond.static ({ cls := "DomainLinks", name := "checkState", desc := "(Z)V" } : Jvm.MethodName)) ∈ lw_all := lw_g (lw_at lw_m3 202 rfl) rfl
theorem q792 : (Jvm.Cond.code ({ cls := "DomainLinks", name := "checkState", desc := "(Z)V" } : Jvm.MethodName) prog_1_method_12_code (1 : Nat) (Option.none : Option Jvm.ClassFile.FieldType)) ∈ lw_all := lw_g (lw_at lw_m3 203 rfl) rfl
theorem q793 : (Jvm.Cond.classLink "DomainLinks" (125 : Nat) "java/lang/IllegalStateException") ∈ lw_all := lw_g (lw_at lw_m3 204 rfl) rfl
theorem q802 : (Jvm.Cond.methodLink "DomainLinks" (127 : Nat) ({ cls := "java/lang/IllegalStateException", name := "<init>", desc := "()V" } : Jvm.MethodName)) ∈ lw_all := lw_g (lw_at lw_m3 213 rfl) rfl
theorem q808 : (Jvm.Cond.interfaceEntry "DomainLinks" (172 : Nat)) ∈ lw_tbl := lw_at lw_m3 219 rfl
theorem q809 : (Jvm.Cond.methodLink "DomainLinks" (172 : Nat) ({ cls := "java/util/List", name := "add", desc := "(Ljava/lang/Object;)Z" } : Jvm.MethodName)) ∈ lw_all := lw_g (lw_at lw_m3 220 rfl) rfl
theorem q843 : (Jvm.Cond.selects "DomainLinks" ({ cls := "java/lang/Object", name := "getClass", desc := "()Ljava/lang/Class;" } : Jvm.MethodName) ({ cls := "java/lang/Object", name := "getClass", desc := "()Ljava/lang/Class;" } : Jvm.MethodName)) ∈ lw_all := lw_g (lw_at lw_m4 14 rfl) rfl
theorem q884 : (Jvm.Cond.instanceMethod ({ cls := "DomainLinks", name := "ratio", desc := "(II)I" } : Jvm.MethodName)) ∈ lw_all := lw_g (lw_at lw_m4 55 rfl) rfl
theorem q885 : (Jvm.Cond.selects "DomainLinks" ({ cls := "DomainLinks", name := "ratio", desc := "(II)I" } : Jvm.MethodName) ({ cls := "DomainLinks", name := "ratio", desc := "(II)I" } : Jvm.MethodName)) ∈ lw_all := lw_g (lw_at lw_m4 56 rfl) rfl
theorem q886 : (Jvm.Cond.code ({ cls := "DomainLinks", name := "ratio", desc := "(II)I" } : Jvm.MethodName) prog_1_method_20_code (3 : Nat) (Option.some Jvm.ClassFile.FieldType.int)) ∈ lw_all := lw_g (lw_at lw_m4 57 rfl) rfl
theorem q924 : (Jvm.Cond.instanceMethod ({ cls := "DomainLinks", name := "name", desc := "(I)I" } : Jvm.MethodName)) ∈ lw_all := lw_g (lw_at lw_m4 95 rfl) rfl
theorem q925 : (Jvm.Cond.selects "DomainLinks" ({ cls := "DomainLinks", name := "name", desc := "(I)I" } : Jvm.MethodName) ({ cls := "DomainLinks", name := "name", desc := "(I)I" } : Jvm.MethodName)) ∈ lw_all := lw_g (lw_at lw_m4 96 rfl) rfl
theorem q926 : (Jvm.Cond.code ({ cls := "DomainLinks", name := "name", desc := "(I)I" } : Jvm.MethodName) prog_1_method_21_code (2 : Nat) (Option.some Jvm.ClassFile.FieldType.int)) ∈ lw_all := lw_g (lw_at lw_m4 97 rfl) rfl
theorem q927 : (Jvm.Cond.methodLink "DomainLinks" (158 : Nat) ({ cls := "DomainLinks", name := "variable", desc := "(I)LDomainLinks$Variable;" } : Jvm.MethodName)) ∈ lw_all := lw_g (lw_at lw_m4 98 rfl) rfl
theorem q928 : (Jvm.Cond.privateMethod ({ cls := "DomainLinks", name := "variable", desc := "(I)LDomainLinks$Variable;" } : Jvm.MethodName)) ∈ lw_tbl := lw_at lw_m4 99 rfl
theorem q929 : (Jvm.Cond.instanceMethod ({ cls := "DomainLinks", name := "variable", desc := "(I)LDomainLinks$Variable;" } : Jvm.MethodName)) ∈ lw_all := lw_g (lw_at lw_m4 100 rfl) rfl
theorem q930 : (Jvm.Cond.code ({ cls := "DomainLinks", name := "variable", desc := "(I)LDomainLinks$Variable;" } : Jvm.MethodName) prog_1_method_14_code (2 : Nat) (Option.some (Jvm.ClassFile.FieldType.object "DomainLinks$Variable"))) ∈ lw_all := lw_g (lw_at lw_m4 101 rfl) rfl
theorem q931 : (Jvm.Cond.methodLink "DomainLinks" (137 : Nat) ({ cls := "DomainLinks", name := "checkIndex", desc := "(II)V" } : Jvm.MethodName)) ∈ lw_all := lw_g (lw_at lw_m4 102 rfl) rfl
theorem q932 : (Jvm.Cond.static ({ cls := "DomainLinks", name := "checkIndex", desc := "(II)V" } : Jvm.MethodName)) ∈ lw_all := lw_g (lw_at lw_m4 103 rfl) rfl
theorem q933 : (Jvm.Cond.code ({ cls := "DomainLinks", name := "checkIndex", desc := "(II)V" } : Jvm.MethodName) prog_1_method_13_code (2 : Nat) (Option.none : Option Jvm.ClassFile.FieldType)) ∈ lw_all := lw_g (lw_at lw_m4 104 rfl) rfl
theorem q934 : (Jvm.Cond.classLink "DomainLinks" (128 : Nat) "java/lang/IndexOutOfBoundsException") ∈ lw_all := lw_g (lw_at lw_m4 105 rfl) rfl
theorem q943 : (Jvm.Cond.methodLink "DomainLinks" (130 : Nat) ({ cls := "java/lang/IndexOutOfBoundsException", name := "<init>", desc := "()V" } : Jvm.MethodName)) ∈ lw_all := lw_g (lw_at lw_m4 114 rfl) rfl
theorem q949 : (Jvm.Cond.methodLink "DomainLinks" (189 : Nat) ({ cls := "java/lang/Integer", name := "valueOf", desc := "(I)Ljava/lang/Integer;" } : Jvm.MethodName)) ∈ lw_all := lw_g (lw_at lw_m4 120 rfl) rfl
theorem q973 : (Jvm.Cond.instanceMethod ({ cls := "DomainLinks", name := "number", desc := "(I)I" } : Jvm.MethodName)) ∈ lw_all := lw_g (lw_at lw_m4 144 rfl) rfl
theorem q974 : (Jvm.Cond.selects "DomainLinks" ({ cls := "DomainLinks", name := "number", desc := "(I)I" } : Jvm.MethodName) ({ cls := "DomainLinks", name := "number", desc := "(I)I" } : Jvm.MethodName)) ∈ lw_all := lw_g (lw_at lw_m4 145 rfl) rfl
theorem q975 : (Jvm.Cond.code ({ cls := "DomainLinks", name := "number", desc := "(I)I" } : Jvm.MethodName) prog_1_method_22_code (2 : Nat) (Option.some Jvm.ClassFile.FieldType.int)) ∈ lw_all := lw_g (lw_at lw_m4 146 rfl) rfl
theorem q980 : (Jvm.Cond.instanceMethod ({ cls := "DomainLinks", name := "move", desc := "(III)I" } : Jvm.MethodName)) ∈ lw_all := lw_g (lw_at lw_m4 151 rfl) rfl
theorem q981 : (Jvm.Cond.selects "DomainLinks" ({ cls := "DomainLinks", name := "move", desc := "(III)I" } : Jvm.MethodName) ({ cls := "DomainLinks", name := "move", desc := "(III)I" } : Jvm.MethodName)) ∈ lw_all := lw_g (lw_at lw_m4 152 rfl) rfl
theorem q982 : (Jvm.Cond.code ({ cls := "DomainLinks", name := "move", desc := "(III)I" } : Jvm.MethodName) prog_1_method_23_code (4 : Nat) (Option.some Jvm.ClassFile.FieldType.int)) ∈ lw_all := lw_g (lw_at lw_m4 153 rfl) rfl
theorem q983 : (Jvm.Cond.classLink "DomainLinks" (193 : Nat) "DomainLinks$Move") ∈ lw_all := lw_g (lw_at lw_m4 154 rfl) rfl
theorem q985 : (Jvm.Cond.methodLinkNest "DomainLinks" (195 : Nat) ({ cls := "DomainLinks$Move", name := "<init>", desc := "(III)V" } : Jvm.MethodName) "DomainLinks") ∈ lw_tbl := lw_at lw_m4 156 rfl
theorem q1003 : (Jvm.Cond.instanceMethod ({ cls := "DomainLinks", name := "literal", desc := "(IIZ)I" } : Jvm.MethodName)) ∈ lw_all := lw_g (lw_at lw_m4 174 rfl) rfl
theorem q1004 : (Jvm.Cond.selects "DomainLinks" ({ cls := "DomainLinks", name := "literal", desc := "(IIZ)I" } : Jvm.MethodName) ({ cls := "DomainLinks", name := "literal", desc := "(IIZ)I" } : Jvm.MethodName)) ∈ lw_all := lw_g (lw_at lw_m4 175 rfl) rfl
theorem q1005 : (Jvm.Cond.code ({ cls := "DomainLinks", name := "literal", desc := "(IIZ)I" } : Jvm.MethodName) prog_1_method_24_code (4 : Nat) (Option.some Jvm.ClassFile.FieldType.int)) ∈ lw_all := lw_g (lw_at lw_m4 176 rfl) rfl
theorem q1006 : (Jvm.Cond.methodLink "DomainLinks" (197 : Nat) ({ cls := "DomainLinks", name := "checkValue", desc := "(II)V" } : Jvm.MethodName)) ∈ lw_all := lw_g (lw_at lw_m4 177 rfl) rfl
theorem q1007 : (Jvm.Cond.privateMethod ({ cls := "DomainLinks", name := "checkValue", desc := "(II)V" } : Jvm.MethodName)) ∈ lw_tbl := lw_at lw_m4 178 rfl
theorem q1008 : (Jvm.Cond.instanceMethod ({ cls := "DomainLinks", name := "checkValue", desc := "(II)V" } : Jvm.MethodName)) ∈ lw_all := lw_g (lw_at lw_m4 179 rfl) rfl
theorem q1009 : (Jvm.Cond.code ({ cls := "DomainLinks", name := "checkValue", desc := "(II)V" } : Jvm.MethodName) prog_1_method_17_code (4 : Nat) (Option.none : Option Jvm.ClassFile.FieldType)) ∈ lw_all := lw_g (lw_at lw_m4 180 rfl) rfl
theorem q1010 : (Jvm.Cond.methodLink "DomainLinks" (166 : Nat) ({ cls := "DomainLinks$Variable", name := "greatest", desc := "()I" } : Jvm.MethodName)) ∈ lw_all := lw_g (lw_at lw_m4 181 rfl) rfl
theorem q1015 : (Jvm.Cond.classLink "DomainLinks" (200 : Nat) "DomainLinks$Literal") ∈ lw_all := lw_g (lw_at lw_m4 186 rfl) rfl
theorem q1017 : (Jvm.Cond.methodLinkNest "DomainLinks" (202 : Nat) ({ cls := "DomainLinks$Literal", name := "<init>", desc := "(IIZ)V" } : Jvm.MethodName) "DomainLinks") ∈ lw_tbl := lw_at lw_m4 188 rfl
theorem q1035 : (Jvm.Cond.instanceMethod ({ cls := "DomainLinks", name := "linear", desc := "(ZI)I" } : Jvm.MethodName)) ∈ lw_all := lw_g (lw_at lw_m4 206 rfl) rfl
theorem q1036 : (Jvm.Cond.selects "DomainLinks" ({ cls := "DomainLinks", name := "linear", desc := "(ZI)I" } : Jvm.MethodName) ({ cls := "DomainLinks", name := "linear", desc := "(ZI)I" } : Jvm.MethodName)) ∈ lw_all := lw_g (lw_at lw_m4 207 rfl) rfl
theorem q1037 : (Jvm.Cond.code ({ cls := "DomainLinks", name := "linear", desc := "(ZI)I" } : Jvm.MethodName) prog_1_method_29_code (8 : Nat) (Option.some Jvm.ClassFile.FieldType.int)) ∈ lw_all := lw_g (lw_at lw_m4 208 rfl) rfl
theorem q1038 : (Jvm.Cond.methodLink "DomainLinks" (215 : Nat) ({ cls := "DomainLinks", name := "takeNames", desc := "()Ljava/util/List;" } : Jvm.MethodName)) ∈ lw_all := lw_g (lw_at lw_m4 209 rfl) rfl
theorem q1039 : (Jvm.Cond.privateMethod ({ cls := "DomainLinks", name := "takeNames", desc := "()Ljava/util/List;" } : Jvm.MethodName)) ∈ lw_tbl := lw_at lw_m4 210 rfl
theorem q1040 : (Jvm.Cond.instanceMethod ({ cls := "DomainLinks", name := "takeNames", desc := "()Ljava/util/List;" } : Jvm.MethodName)) ∈ lw_all := lw_g (lw_at lw_m4 211 rfl) rfl
theorem q1041 : (Jvm.Cond.code ({ cls := "DomainLinks", name := "takeNames", desc := "()Ljava/util/List;" } : Jvm.MethodName) prog_1_method_25_code (2 : Nat) (Option.some (Jvm.ClassFile.FieldType.object "java/util/List"))) ∈ lw_all := lw_g (lw_at lw_m4 212 rfl) rfl
theorem q1042 : (Jvm.Cond.interfaceEntry "DomainLinks" (205 : Nat)) ∈ lw_tbl := lw_at lw_m4 213 rfl
theorem q1043 : (Jvm.Cond.methodLink "DomainLinks" (205 : Nat) ({ cls := "java/util/List", name := "isEmpty", desc := "()Z" } : Jvm.MethodName)) ∈ lw_all := lw_g (lw_at lw_m4 214 rfl) rfl
theorem q1051 : (Jvm.Cond.classLink "DomainLinks" (2 : Nat) "java/lang/Integer") ∈ lw_all := lw_g (lw_at lw_m4 222 rfl) rfl
theorem q1052 : (Jvm.Cond.methodLink "DomainLinks" (209 : Nat) ({ cls := "java/lang/Integer", name := "intValue", desc := "()I" } : Jvm.MethodName)) ∈ lw_all := lw_g (lw_at lw_m4 223 rfl) rfl
theorem q1056 : (Jvm.Cond.methodLink "DomainLinks" (150 : Nat) ({ cls := "DomainLinks", name := "isOf", desc := "(II)Z" } : Jvm.MethodName)) ∈ lw_all := lw_g (lw_at lw_m4 227 rfl) rfl
theorem q1057 : (Jvm.Cond.privateMethod ({ cls := "DomainLinks", name := "isOf", desc := "(II)Z" } : Jvm.MethodName)) ∈ lw_tbl := lw_at lw_m4 228 rfl
theorem q1058 : (Jvm.Cond.instanceMethod ({ cls := "DomainLinks", name := "isOf", desc := "(II)Z" } : Jvm.MethodName)) ∈ lw_all := lw_g (lw_at lw_m4 229 rfl) rfl
theorem q1059 : (Jvm.Cond.code ({ cls := "DomainLinks", name := "isOf", desc := "(II)Z" } : Jvm.MethodName) prog_1_method_15_code (3 : Nat) (Option.some Jvm.ClassFile.FieldType.boolean)) ∈ lw_all := lw_g (lw_at lw_m4 230 rfl) rfl
theorem q1060 : (Jvm.Cond.classLink "DomainLinks" (219 : Nat) "DomainLinks$Linear") ∈ lw_all := lw_g (lw_at lw_m4 231 rfl) rfl
theorem q1061 : (Jvm.Cond.methodLink "DomainLinks" (221 : Nat) ({ cls := "DomainLinks$Linear", name := "<init>", desc := "(Ljava/util/List;Ljava/util/List;[ZZI)V" } : Jvm.MethodName)) ∈ lw_all := lw_g (lw_at lw_m4 232 rfl) rfl
theorem q1085 : (Jvm.Cond.fieldLink "DomainLinks" (364 : Nat) "DomainLinks$Constraint" "places" "[I") ∈ lw_all := lw_g (lw_at lw_m5 16 rfl) rfl
theorem q1103 : (Jvm.Cond.fieldLink "DomainLinks" (377 : Nat) "DomainLinks$Constraint" "sets" "[I") ∈ lw_all := lw_g (lw_at lw_m5 34 rfl) rfl
theorem q1107 : (Jvm.Cond.fieldLink "DomainLinks" (367 : Nat) "DomainLinks$Constraint" "lows" "[I") ∈ lw_all := lw_g (lw_at lw_m5 38 rfl) rfl
theorem q1111 : (Jvm.Cond.fieldLink "DomainLinks" (373 : Nat) "DomainLinks$Constraint" "highs" "[I") ∈ lw_all := lw_g (lw_at lw_m5 42 rfl) rfl
theorem q1129 : (Jvm.Cond.methodLink "DomainLinks" (224 : Nat) ({ cls := "DomainLinks", name := "add", desc := "(LDomainLinks$Constraint;)I" } : Jvm.MethodName)) ∈ lw_all := lw_g (lw_at lw_m5 60 rfl) rfl
theorem q1130 : (Jvm.Cond.privateMethod ({ cls := "DomainLinks", name := "add", desc := "(LDomainLinks$Constraint;)I" } : Jvm.MethodName)) ∈ lw_tbl := lw_at lw_m5 61 rfl
theorem q1131 : (Jvm.Cond.instanceMethod ({ cls := "DomainLinks", name := "add", desc := "(LDomainLinks$Constraint;)I" } : Jvm.MethodName)) ∈ lw_all := lw_g (lw_at lw_m5 62 rfl) rfl
theorem q1132 : (Jvm.Cond.code ({ cls := "DomainLinks", name := "add", desc := "(LDomainLinks$Constraint;)I" } : Jvm.MethodName) prog_1_method_28_code (2 : Nat) (Option.some Jvm.ClassFile.FieldType.int)) ∈ lw_all := lw_g (lw_at lw_m5 63 rfl) rfl
theorem q1133 : (Jvm.Cond.methodLink "DomainLinks" (212 : Nat) ({ cls := "DomainLinks", name := "hasRoom", desc := "()Z" } : Jvm.MethodName)) ∈ lw_all := lw_g (lw_at lw_m5 64 rfl) rfl
theorem q1134 : (Jvm.Cond.privateMethod ({ cls := "DomainLinks", name := "hasRoom", desc := "()Z" } : Jvm.MethodName)) ∈ lw_tbl := lw_at lw_m5 65 rfl
theorem q1135 : (Jvm.Cond.instanceMethod ({ cls := "DomainLinks", name := "hasRoom", desc := "()Z" } : Jvm.MethodName)) ∈ lw_all := lw_g (lw_at lw_m5 66 rfl) rfl
theorem q1136 : (Jvm.Cond.code ({ cls := "DomainLinks", name := "hasRoom", desc := "()Z" } : Jvm.MethodName) prog_1_method_27_code (1 : Nat) (Option.some Jvm.ClassFile.FieldType.boolean)) ∈ lw_all := lw_g (lw_at lw_m5 67 rfl) rfl
theorem q1141 : (Jvm.Cond.instanceMethod ({ cls := "DomainLinks", name := "different", desc := "()I" } : Jvm.MethodName)) ∈ lw_all := lw_g (lw_at lw_m5 72 rfl) rfl
theorem q1142 : (Jvm.Cond.selects "DomainLinks" ({ cls := "DomainLinks", name := "different", desc := "()I" } : Jvm.MethodName) ({ cls := "DomainLinks", name := "different", desc := "()I" } : Jvm.MethodName)) ∈ lw_all := lw_g (lw_at lw_m5 73 rfl) rfl
theorem q1143 : (Jvm.Cond.code ({ cls := "DomainLinks", name := "different", desc := "()I" } : Jvm.MethodName) prog_1_method_30_code (2 : Nat) (Option.some Jvm.ClassFile.FieldType.int)) ∈ lw_all := lw_g (lw_at lw_m5 74 rfl) rfl
theorem q1144 : (Jvm.Cond.methodLink "DomainLinks" (227 : Nat) ({ cls := "DomainLinks", name := "areInts", desc := "(Ljava/util/List;)Z" } : Jvm.MethodName)) ∈ lw_all := lw_g (lw_at lw_m5 75 rfl) rfl
theorem q1145 : (Jvm.Cond.privateMethod ({ cls := "DomainLinks", name := "areInts", desc := "(Ljava/util/List;)Z" } : Jvm.MethodName)) ∈ lw_tbl := lw_at lw_m5 76 rfl
theorem q1146 : (Jvm.Cond.instanceMethod ({ cls := "DomainLinks", name := "areInts", desc := "(Ljava/util/List;)Z" } : Jvm.MethodName)) ∈ lw_all := lw_g (lw_at lw_m5 77 rfl) rfl
theorem q1147 : (Jvm.Cond.code ({ cls := "DomainLinks", name := "areInts", desc := "(Ljava/util/List;)Z" } : Jvm.MethodName) prog_1_method_26_code (4 : Nat) (Option.some Jvm.ClassFile.FieldType.boolean)) ∈ lw_all := lw_g (lw_at lw_m5 78 rfl) rfl
theorem q1148 : (Jvm.Cond.classLink "DomainLinks" (231 : Nat) "DomainLinks$Different") ∈ lw_all := lw_g (lw_at lw_m5 79 rfl) rfl
theorem q1149 : (Jvm.Cond.methodLink "DomainLinks" (233 : Nat) ({ cls := "DomainLinks$Different", name := "<init>", desc := "(Ljava/util/List;)V" } : Jvm.MethodName)) ∈ lw_all := lw_g (lw_at lw_m5 80 rfl) rfl
theorem q1168 : (Jvm.Cond.instanceMethod ({ cls := "DomainLinks", name := "order", desc := "()I" } : Jvm.MethodName)) ∈ lw_all := lw_g (lw_at lw_m5 99 rfl) rfl
theorem q1169 : (Jvm.Cond.selects "DomainLinks" ({ cls := "DomainLinks", name := "order", desc := "()I" } : Jvm.MethodName) ({ cls := "DomainLinks", name := "order", desc := "()I" } : Jvm.MethodName)) ∈ lw_all := lw_g (lw_at lw_m5 100 rfl) rfl
theorem q1170 : (Jvm.Cond.code ({ cls := "DomainLinks", name := "order", desc := "()I" } : Jvm.MethodName) prog_1_method_31_code (2 : Nat) (Option.some Jvm.ClassFile.FieldType.int)) ∈ lw_all := lw_g (lw_at lw_m5 101 rfl) rfl
theorem q1171 : (Jvm.Cond.classLink "DomainLinks" (236 : Nat) "DomainLinks$Order") ∈ lw_all := lw_g (lw_at lw_m5 102 rfl) rfl
theorem q1173 : (Jvm.Cond.methodLink "DomainLinks" (238 : Nat) ({ cls := "DomainLinks$Order", name := "<init>", desc := "(Ljava/util/List;)V" } : Jvm.MethodName)) ∈ lw_all := lw_g (lw_at lw_m5 104 rfl) rfl
theorem q1186 : (Jvm.Cond.instanceMethod ({ cls := "DomainLinks", name := "regular", desc := "(I)I" } : Jvm.MethodName)) ∈ lw_all := lw_g (lw_at lw_m5 117 rfl) rfl
theorem q1187 : (Jvm.Cond.selects "DomainLinks" ({ cls := "DomainLinks", name := "regular", desc := "(I)I" } : Jvm.MethodName) ({ cls := "DomainLinks", name := "regular", desc := "(I)I" } : Jvm.MethodName)) ∈ lw_all := lw_g (lw_at lw_m5 118 rfl) rfl
theorem q1188 : (Jvm.Cond.code ({ cls := "DomainLinks", name := "regular", desc := "(I)I" } : Jvm.MethodName) prog_1_method_32_code (4 : Nat) (Option.some Jvm.ClassFile.FieldType.int)) ∈ lw_all := lw_g (lw_at lw_m5 119 rfl) rfl
theorem q1189 : (Jvm.Cond.classLink "DomainLinks" (239 : Nat) "DomainLinks$Regular") ∈ lw_all := lw_g (lw_at lw_m5 120 rfl) rfl
theorem q1191 : (Jvm.Cond.methodLink "DomainLinks" (241 : Nat) ({ cls := "DomainLinks$Regular", name := "<init>", desc := "(Ljava/util/List;Ljava/util/List;I)V" } : Jvm.MethodName)) ∈ lw_all := lw_g (lw_at lw_m5 122 rfl) rfl
theorem q1216 : (Jvm.Cond.instanceMethod ({ cls := "DomainLinks", name := "element", desc := "(II)I" } : Jvm.MethodName)) ∈ lw_all := lw_g (lw_at lw_m5 147 rfl) rfl
theorem q1217 : (Jvm.Cond.selects "DomainLinks" ({ cls := "DomainLinks", name := "element", desc := "(II)I" } : Jvm.MethodName) ({ cls := "DomainLinks", name := "element", desc := "(II)I" } : Jvm.MethodName)) ∈ lw_all := lw_g (lw_at lw_m5 148 rfl) rfl
theorem q1218 : (Jvm.Cond.code ({ cls := "DomainLinks", name := "element", desc := "(II)I" } : Jvm.MethodName) prog_1_method_33_code (5 : Nat) (Option.some Jvm.ClassFile.FieldType.int)) ∈ lw_all := lw_g (lw_at lw_m5 149 rfl) rfl
theorem q1219 : (Jvm.Cond.methodLink "DomainLinks" (244 : Nat) ({ cls := "DomainLinks", name := "checkKind", desc := "(II)V" } : Jvm.MethodName)) ∈ lw_all := lw_g (lw_at lw_m5 150 rfl) rfl
theorem q1220 : (Jvm.Cond.privateMethod ({ cls := "DomainLinks", name := "checkKind", desc := "(II)V" } : Jvm.MethodName)) ∈ lw_tbl := lw_at lw_m5 151 rfl
theorem q1221 : (Jvm.Cond.instanceMethod ({ cls := "DomainLinks", name := "checkKind", desc := "(II)V" } : Jvm.MethodName)) ∈ lw_all := lw_g (lw_at lw_m5 152 rfl) rfl
theorem q1222 : (Jvm.Cond.code ({ cls := "DomainLinks", name := "checkKind", desc := "(II)V" } : Jvm.MethodName) prog_1_method_16_code (3 : Nat) (Option.none : Option Jvm.ClassFile.FieldType)) ∈ lw_all := lw_g (lw_at lw_m5 153 rfl) rfl
theorem q1223 : (Jvm.Cond.interfaceEntry "DomainLinks" (247 : Nat)) ∈ lw_tbl := lw_at lw_m5 154 rfl
theorem q1224 : (Jvm.Cond.methodLink "DomainLinks" (247 : Nat) ({ cls := "java/util/List", name := "addAll", desc := "(Ljava/util/Collection;)Z" } : Jvm.MethodName)) ∈ lw_all := lw_g (lw_at lw_m5 155 rfl) rfl
theorem q1243 : (Jvm.Cond.classLink "DomainLinks" (251 : Nat) "DomainLinks$Element") ∈ lw_all := lw_g (lw_at lw_m5 174 rfl) rfl
theorem q1244 : (Jvm.Cond.methodLink "DomainLinks" (253 : Nat) ({ cls := "DomainLinks$Element", name := "<init>", desc := "(Ljava/util/List;)V" } : Jvm.MethodName)) ∈ lw_all := lw_g (lw_at lw_m5 175 rfl) rfl
theorem q1257 : (Jvm.Cond.instanceMethod ({ cls := "DomainLinks", name := "when", desc := "(IIIZ)I" } : Jvm.MethodName)) ∈ lw_all := lw_g (lw_at lw_m5 188 rfl) rfl
theorem q1258 : (Jvm.Cond.selects "DomainLinks" ({ cls := "DomainLinks", name := "when", desc := "(IIIZ)I" } : Jvm.MethodName) ({ cls := "DomainLinks", name := "when", desc := "(IIIZ)I" } : Jvm.MethodName)) ∈ lw_all := lw_g (lw_at lw_m5 189 rfl) rfl
theorem q1259 : (Jvm.Cond.code ({ cls := "DomainLinks", name := "when", desc := "(IIIZ)I" } : Jvm.MethodName) prog_1_method_36_code (5 : Nat) (Option.some Jvm.ClassFile.FieldType.int)) ∈ lw_all := lw_g (lw_at lw_m5 190 rfl) rfl
theorem q1260 : (Jvm.Cond.methodLink "DomainLinks" (259 : Nat) ({ cls := "DomainLinks", name := "checkAll", desc := "([I[I)V" } : Jvm.MethodName)) ∈ lw_all := lw_g (lw_at lw_m5 191 rfl) rfl
theorem q1261 : (Jvm.Cond.privateMethod ({ cls := "DomainLinks", name := "checkAll", desc := "([I[I)V" } : Jvm.MethodName)) ∈ lw_tbl := lw_at lw_m5 192 rfl
theorem q1262 : (Jvm.Cond.instanceMethod ({ cls := "DomainLinks", name := "checkAll", desc := "([I[I)V" } : Jvm.MethodName)) ∈ lw_all := lw_g (lw_at lw_m5 193 rfl) rfl
theorem q1263 : (Jvm.Cond.code ({ cls := "DomainLinks", name := "checkAll", desc := "([I[I)V" } : Jvm.MethodName) prog_1_method_35_code (7 : Nat) (Option.none : Option Jvm.ClassFile.FieldType)) ∈ lw_all := lw_g (lw_at lw_m5 194 rfl) rfl
theorem q1264 : (Jvm.Cond.static ({ cls := "DomainLinks", name := "lambda$when$0", desc := "(ZIII)Z" } : Jvm.MethodName)) ∈ lw_all := lw_g (lw_at lw_m5 195 rfl) rfl
theorem q1265 : (Jvm.Cond.code ({ cls := "DomainLinks", name := "lambda$when$0", desc := "(ZIII)Z" } : Jvm.MethodName) prog_1_method_105_code (4 : Nat) (Option.some Jvm.ClassFile.FieldType.boolean)) ∈ lw_all := lw_g (lw_at lw_m5 196 rfl) rfl
theorem q1266 : (Jvm.Cond.methodLink "DomainLinks" (267 : Nat) ({ cls := "DomainLinks", name := "addSmall", desc := "(LDomainLinks$Relation;[I)I" } : Jvm.MethodName)) ∈ lw_all := lw_g (lw_at lw_m5 197 rfl) rfl
theorem q1267 : (Jvm.Cond.privateMethod ({ cls := "DomainLinks", name := "addSmall", desc := "(LDomainLinks$Relation;[I)I" } : Jvm.MethodName)) ∈ lw_tbl := lw_at lw_m5 198 rfl
theorem q1268 : (Jvm.Cond.instanceMethod ({ cls := "DomainLinks", name := "addSmall", desc := "(LDomainLinks$Relation;[I)I" } : Jvm.MethodName)) ∈ lw_all := lw_g (lw_at lw_m5 199 rfl) rfl
theorem q1269 : (Jvm.Cond.code ({ cls := "DomainLinks", name := "addSmall", desc := "(LDomainLinks$Relation;[I)I" } : Jvm.MethodName) prog_1_method_34_code (8 : Nat) (Option.some Jvm.ClassFile.FieldType.int)) ∈ lw_all := lw_g (lw_at lw_m5 200 rfl) rfl
theorem q1270 : (Jvm.Cond.classLink "DomainLinks" (254 : Nat) "DomainLinks$Small") ∈ lw_all := lw_g (lw_at lw_m5 201 rfl) rfl
theorem q1271 : (Jvm.Cond.methodLink "DomainLinks" (256 : Nat) ({ cls := "DomainLinks$Small", name := "<init>", desc := "(Ljava/util/List;LDomainLinks$Relation;)V" } : Jvm.MethodName)) ∈ lw_all := lw_g (lw_at lw_m5 202 rfl) rfl
theorem q1287 : (Jvm.Cond.instanceMethod ({ cls := "DomainLinks", name := "sets", desc := "(ZIII)I" } : Jvm.MethodName)) ∈ lw_all := lw_g (lw_at lw_m5 218 rfl) rfl
theorem q1288 : (Jvm.Cond.selects "DomainLinks" ({ cls := "DomainLinks", name := "sets", desc := "(ZIII)I" } : Jvm.MethodName) ({ cls := "DomainLinks", name := "sets", desc := "(ZIII)I" } : Jvm.MethodName)) ∈ lw_all := lw_g (lw_at lw_m5 219 rfl) rfl
theorem q1289 : (Jvm.Cond.code ({ cls := "DomainLinks", name := "sets", desc := "(ZIII)I" } : Jvm.MethodName) prog_1_method_37_code (5 : Nat) (Option.some Jvm.ClassFile.FieldType.int)) ∈ lw_all := lw_g (lw_at lw_m5 220 rfl) rfl
theorem q1290 : (Jvm.Cond.static ({ cls := "DomainLinks", name := "lambda$sets$1", desc := "(ZIII)Z" } : Jvm.MethodName)) ∈ lw_all := lw_g (lw_at lw_m5 221 rfl) rfl
theorem q1291 : (Jvm.Cond.code ({ cls := "DomainLinks", name := "lambda$sets$1", desc := "(ZIII)Z" } : Jvm.MethodName) prog_1_method_104_code (4 : Nat) (Option.some Jvm.ClassFile.FieldType.boolean)) ∈ lw_all := lw_g (lw_at lw_m5 222 rfl) rfl
theorem q1296 : (Jvm.Cond.instanceMethod ({ cls := "DomainLinks", name := "within", desc := "(II)I" } : Jvm.MethodName)) ∈ lw_all := lw_g (lw_at lw_m5 227 rfl) rfl
theorem q1297 : (Jvm.Cond.selects "DomainLinks" ({ cls := "DomainLinks", name := "within", desc := "(II)I" } : Jvm.MethodName) ({ cls := "DomainLinks", name := "within", desc := "(II)I" } : Jvm.MethodName)) ∈ lw_all := lw_g (lw_at lw_m5 228 rfl) rfl
theorem q1298 : (Jvm.Cond.code ({ cls := "DomainLinks", name := "within", desc := "(II)I" } : Jvm.MethodName) prog_1_method_38_code (3 : Nat) (Option.some Jvm.ClassFile.FieldType.int)) ∈ lw_all := lw_g (lw_at lw_m5 229 rfl) rfl
theorem q1299 : (Jvm.Cond.static ({ cls := "DomainLinks", name := "lambda$within$2", desc := "(III)Z" } : Jvm.MethodName)) ∈ lw_all := lw_g (lw_at lw_m5 230 rfl) rfl
theorem q1300 : (Jvm.Cond.code ({ cls := "DomainLinks", name := "lambda$within$2", desc := "(III)Z" } : Jvm.MethodName) prog_1_method_103_code (3 : Nat) (Option.some Jvm.ClassFile.FieldType.boolean)) ∈ lw_all := lw_g (lw_at lw_m5 231 rfl) rfl
theorem q1305 : (Jvm.Cond.instanceMethod ({ cls := "DomainLinks", name := "measure", desc := "(II)I" } : Jvm.MethodName)) ∈ lw_all := lw_g (lw_at lw_m5 236 rfl) rfl
theorem q1306 : (Jvm.Cond.selects "DomainLinks" ({ cls := "DomainLinks", name := "measure", desc := "(II)I" } : Jvm.MethodName) ({ cls := "DomainLinks", name := "measure", desc := "(II)I" } : Jvm.MethodName)) ∈ lw_all := lw_g (lw_at lw_m5 237 rfl) rfl
theorem q1307 : (Jvm.Cond.code ({ cls := "DomainLinks", name := "measure", desc := "(II)I" } : Jvm.MethodName) prog_1_method_39_code (4 : Nat) (Option.some Jvm.ClassFile.FieldType.int)) ∈ lw_all := lw_g (lw_at lw_m5 238 rfl) rfl
theorem q1308 : (Jvm.Cond.static ({ cls := "DomainLinks", name := "lambda$measure$3", desc := "(ZIII)Z" } : Jvm.MethodName)) ∈ lw_all := lw_g (lw_at lw_m5 239 rfl) rfl
theorem q1309 : (Jvm.Cond.code ({ cls := "DomainLinks", name := "lambda$measure$3", desc := "(ZIII)Z" } : Jvm.MethodName) prog_1_method_102_code (4 : Nat) (Option.some Jvm.ClassFile.FieldType.boolean)) ∈ lw_all := lw_g (lw_at lw_m6 0 rfl) rfl
theorem q1310 : (Jvm.Cond.methodLink "DomainLinks" (405 : Nat) ({ cls := "java/lang/Integer", name := "bitCount", desc := "(I)I" } : Jvm.MethodName)) ∈ lw_all := lw_g (lw_at lw_m6 1 rfl) rfl
theorem q1316 : (Jvm.Cond.methodLink "DomainLinks" (12 : Nat) ({ cls := "DomainLinks", name := "length", desc := "(I)I" } : Jvm.MethodName)) ∈ lw_all := lw_g (lw_at lw_m6 7 rfl) rfl
theorem q1317 : (Jvm.Cond.static ({ cls := "DomainLinks", name := "length", desc := "(I)I" } : Jvm.MethodName)) ∈ lw_all := lw_g (lw_at lw_m6 8 rfl) rfl
theorem q1318 : (Jvm.Cond.code ({ cls := "DomainLinks", name := "length", desc := "(I)I" } : Jvm.MethodName) prog_1_method_4_code (1 : Nat) (Option.some Jvm.ClassFile.FieldType.int)) ∈ lw_all := lw_g (lw_at lw_m6 9 rfl) rfl
theorem q1323 : (Jvm.Cond.instanceMethod ({ cls := "DomainLinks", name := "member", desc := "(III)I" } : Jvm.MethodName)) ∈ lw_all := lw_g (lw_at lw_m6 14 rfl) rfl
theorem q1324 : (Jvm.Cond.selects "DomainLinks" ({ cls := "DomainLinks", name := "member", desc := "(III)I" } : Jvm.MethodName) ({ cls := "DomainLinks", name := "member", desc := "(III)I" } : Jvm.MethodName)) ∈ lw_all := lw_g (lw_at lw_m6 15 rfl) rfl
theorem q1325 : (Jvm.Cond.code ({ cls := "DomainLinks", name := "member", desc := "(III)I" } : Jvm.MethodName) prog_1_method_40_code (4 : Nat) (Option.some Jvm.ClassFile.FieldType.int)) ∈ lw_all := lw_g (lw_at lw_m6 16 rfl) rfl
theorem q1326 : (Jvm.Cond.static ({ cls := "DomainLinks", name := "lambda$member$4", desc := "(III)Z" } : Jvm.MethodName)) ∈ lw_all := lw_g (lw_at lw_m6 17 rfl) rfl
theorem q1327 : (Jvm.Cond.code ({ cls := "DomainLinks", name := "lambda$member$4", desc := "(III)Z" } : Jvm.MethodName) prog_1_method_101_code (3 : Nat) (Option.some Jvm.ClassFile.FieldType.boolean)) ∈ lw_all := lw_g (lw_at lw_m6 18 rfl) rfl
theorem q1332 : (Jvm.Cond.instanceMethod ({ cls := "DomainLinks", name := "joined", desc := "(III)I" } : Jvm.MethodName)) ∈ lw_all := lw_g (lw_at lw_m6 23 rfl) rfl
theorem q1333 : (Jvm.Cond.selects "DomainLinks" ({ cls := "DomainLinks", name := "joined", desc := "(III)I" } : Jvm.MethodName) ({ cls := "DomainLinks", name := "joined", desc := "(III)I" } : Jvm.MethodName)) ∈ lw_all := lw_g (lw_at lw_m6 24 rfl) rfl
theorem q1334 : (Jvm.Cond.code ({ cls := "DomainLinks", name := "joined", desc := "(III)I" } : Jvm.MethodName) prog_1_method_41_code (4 : Nat) (Option.some Jvm.ClassFile.FieldType.int)) ∈ lw_all := lw_g (lw_at lw_m6 25 rfl) rfl
theorem q1335 : (Jvm.Cond.static ({ cls := "DomainLinks", name := "isJoined", desc := "(III)Z" } : Jvm.MethodName)) ∈ lw_all := lw_g (lw_at lw_m6 26 rfl) rfl
theorem q1336 : (Jvm.Cond.code ({ cls := "DomainLinks", name := "isJoined", desc := "(III)Z" } : Jvm.MethodName) prog_1_method_6_code (5 : Nat) (Option.some Jvm.ClassFile.FieldType.boolean)) ∈ lw_all := lw_g (lw_at lw_m6 27 rfl) rfl
theorem q1337 : (Jvm.Cond.methodLink "DomainLinks" (15 : Nat) ({ cls := "DomainLinks", name := "letters", desc := "(I)I" } : Jvm.MethodName)) ∈ lw_all := lw_g (lw_at lw_m6 28 rfl) rfl
theorem q1338 : (Jvm.Cond.static ({ cls := "DomainLinks", name := "letters", desc := "(I)I" } : Jvm.MethodName)) ∈ lw_all := lw_g (lw_at lw_m6 29 rfl) rfl
theorem q1339 : (Jvm.Cond.code ({ cls := "DomainLinks", name := "letters", desc := "(I)I" } : Jvm.MethodName) prog_1_method_5_code (1 : Nat) (Option.some Jvm.ClassFile.FieldType.int)) ∈ lw_all := lw_g (lw_at lw_m6 30 rfl) rfl
theorem q1344 : (Jvm.Cond.instanceMethod ({ cls := "DomainLinks", name := "prefix", desc := "(II)I" } : Jvm.MethodName)) ∈ lw_all := lw_g (lw_at lw_m6 35 rfl) rfl
theorem q1345 : (Jvm.Cond.selects "DomainLinks" ({ cls := "DomainLinks", name := "prefix", desc := "(II)I" } : Jvm.MethodName) ({ cls := "DomainLinks", name := "prefix", desc := "(II)I" } : Jvm.MethodName)) ∈ lw_all := lw_g (lw_at lw_m6 36 rfl) rfl
theorem q1346 : (Jvm.Cond.code ({ cls := "DomainLinks", name := "prefix", desc := "(II)I" } : Jvm.MethodName) prog_1_method_42_code (3 : Nat) (Option.some Jvm.ClassFile.FieldType.int)) ∈ lw_all := lw_g (lw_at lw_m6 37 rfl) rfl
theorem q1347 : (Jvm.Cond.static ({ cls := "DomainLinks", name := "lambda$prefix$5", desc := "(III)Z" } : Jvm.MethodName)) ∈ lw_all := lw_g (lw_at lw_m6 38 rfl) rfl
theorem q1348 : (Jvm.Cond.code ({ cls := "DomainLinks", name := "lambda$prefix$5", desc := "(III)Z" } : Jvm.MethodName) prog_1_method_100_code (3 : Nat) (Option.some Jvm.ClassFile.FieldType.boolean)) ∈ lw_all := lw_g (lw_at lw_m6 39 rfl) rfl
theorem q1349 : (Jvm.Cond.methodLink "DomainLinks" (543 : Nat) ({ cls := "DomainLinks", name := "begins", desc := "(II)Z" } : Jvm.MethodName)) ∈ lw_all := lw_g (lw_at lw_m6 40 rfl) rfl
theorem q1350 : (Jvm.Cond.static ({ cls := "DomainLinks", name := "begins", desc := "(II)Z" } : Jvm.MethodName)) ∈ lw_all := lw_g (lw_at lw_m6 41 rfl) rfl
theorem q1351 : (Jvm.Cond.code ({ cls := "DomainLinks", name := "begins", desc := "(II)Z" } : Jvm.MethodName) prog_1_method_7_code (3 : Nat) (Option.some Jvm.ClassFile.FieldType.boolean)) ∈ lw_all := lw_g (lw_at lw_m6 42 rfl) rfl
theorem q1356 : (Jvm.Cond.instanceMethod ({ cls := "DomainLinks", name := "letter", desc := "(III)I" } : Jvm.MethodName)) ∈ lw_all := lw_g (lw_at lw_m6 47 rfl) rfl
theorem q1357 : (Jvm.Cond.selects "DomainLinks" ({ cls := "DomainLinks", name := "letter", desc := "(III)I" } : Jvm.MethodName) ({ cls := "DomainLinks", name := "letter", desc := "(III)I" } : Jvm.MethodName)) ∈ lw_all := lw_g (lw_at lw_m6 48 rfl) rfl
theorem q1358 : (Jvm.Cond.code ({ cls := "DomainLinks", name := "letter", desc := "(III)I" } : Jvm.MethodName) prog_1_method_43_code (4 : Nat) (Option.some Jvm.ClassFile.FieldType.int)) ∈ lw_all := lw_g (lw_at lw_m6 49 rfl) rfl
theorem q1359 : (Jvm.Cond.static ({ cls := "DomainLinks", name := "isLetter", desc := "(III)Z" } : Jvm.MethodName)) ∈ lw_all := lw_g (lw_at lw_m6 50 rfl) rfl
theorem q1360 : (Jvm.Cond.code ({ cls := "DomainLinks", name := "isLetter", desc := "(III)Z" } : Jvm.MethodName) prog_1_method_8_code (3 : Nat) (Option.some Jvm.ClassFile.FieldType.boolean)) ∈ lw_all := lw_g (lw_at lw_m6 51 rfl) rfl
theorem q1365 : (Jvm.Cond.instanceMethod ({ cls := "DomainLinks", name := "clause", desc := "()I" } : Jvm.MethodName)) ∈ lw_all := lw_g (lw_at lw_m6 56 rfl) rfl
theorem q1366 : (Jvm.Cond.selects "DomainLinks" ({ cls := "DomainLinks", name := "clause", desc := "()I" } : Jvm.MethodName) ({ cls := "DomainLinks", name := "clause", desc := "()I" } : Jvm.MethodName)) ∈ lw_all := lw_g (lw_at lw_m6 57 rfl) rfl
theorem q1367 : (Jvm.Cond.code ({ cls := "DomainLinks", name := "clause", desc := "()I" } : Jvm.MethodName) prog_1_method_45_code (2 : Nat) (Option.some Jvm.ClassFile.FieldType.int)) ∈ lw_all := lw_g (lw_at lw_m6 58 rfl) rfl
theorem q1368 : (Jvm.Cond.methodLink "DomainLinks" (287 : Nat) ({ cls := "DomainLinks", name := "addClause", desc := "(Ljava/util/List;)I" } : Jvm.MethodName)) ∈ lw_all := lw_g (lw_at lw_m6 59 rfl) rfl
theorem q1369 : (Jvm.Cond.privateMethod ({ cls := "DomainLinks", name := "addClause", desc := "(Ljava/util/List;)I" } : Jvm.MethodName)) ∈ lw_tbl := lw_at lw_m6 60 rfl
theorem q1370 : (Jvm.Cond.instanceMethod ({ cls := "DomainLinks", name := "addClause", desc := "(Ljava/util/List;)I" } : Jvm.MethodName)) ∈ lw_all := lw_g (lw_at lw_m6 61 rfl) rfl
theorem q1371 : (Jvm.Cond.code ({ cls := "DomainLinks", name := "addClause", desc := "(Ljava/util/List;)I" } : Jvm.MethodName) prog_1_method_44_code (4 : Nat) (Option.some Jvm.ClassFile.FieldType.int)) ∈ lw_all := lw_g (lw_at lw_m6 62 rfl) rfl
theorem q1372 : (Jvm.Cond.methodLink "DomainLinks" (280 : Nat) ({ cls := "DomainLinks$Literal", name := "variable", desc := "()I" } : Jvm.MethodName)) ∈ lw_all := lw_g (lw_at lw_m6 63 rfl) rfl
theorem q1376 : (Jvm.Cond.classLink "DomainLinks" (282 : Nat) "DomainLinks$Clause") ∈ lw_all := lw_g (lw_at lw_m6 67 rfl) rfl
theorem q1377 : (Jvm.Cond.methodLink "DomainLinks" (284 : Nat) ({ cls := "DomainLinks$Clause", name := "<init>", desc := "(Ljava/util/List;Ljava/util/List;)V" } : Jvm.MethodName)) ∈ lw_all := lw_g (lw_at lw_m6 68 rfl) rfl
theorem q1393 : (Jvm.Cond.instanceMethod ({ cls := "DomainLinks", name := "symbol", desc := "(II)I" } : Jvm.MethodName)) ∈ lw_all := lw_g (lw_at lw_m6 84 rfl) rfl
theorem q1394 : (Jvm.Cond.selects "DomainLinks" ({ cls := "DomainLinks", name := "symbol", desc := "(II)I" } : Jvm.MethodName) ({ cls := "DomainLinks", name := "symbol", desc := "(II)I" } : Jvm.MethodName)) ∈ lw_all := lw_g (lw_at lw_m6 85 rfl) rfl
theorem q1395 : (Jvm.Cond.code ({ cls := "DomainLinks", name := "symbol", desc := "(II)I" } : Jvm.MethodName) prog_1_method_46_code (4 : Nat) (Option.some Jvm.ClassFile.FieldType.int)) ∈ lw_all := lw_g (lw_at lw_m6 86 rfl) rfl
theorem q1396 : (Jvm.Cond.classLink "DomainLinks" (293 : Nat) "DomainLinks$Symbol") ∈ lw_all := lw_g (lw_at lw_m6 87 rfl) rfl
theorem q1398 : (Jvm.Cond.methodLink "DomainLinks" (295 : Nat) ({ cls := "DomainLinks$Symbol", name := "<init>", desc := "(Ljava/util/List;LDomainLinks$Trees;I)V" } : Jvm.MethodName)) ∈ lw_all := lw_g (lw_at lw_m6 89 rfl) rfl
theorem q1417 : (Jvm.Cond.instanceMethod ({ cls := "DomainLinks", name := "decide", desc := "(IIZ)I" } : Jvm.MethodName)) ∈ lw_all := lw_g (lw_at lw_m6 108 rfl) rfl
theorem q1418 : (Jvm.Cond.selects "DomainLinks" ({ cls := "DomainLinks", name := "decide", desc := "(IIZ)I" } : Jvm.MethodName) ({ cls := "DomainLinks", name := "decide", desc := "(IIZ)I" } : Jvm.MethodName)) ∈ lw_all := lw_g (lw_at lw_m6 109 rfl) rfl
theorem q1419 : (Jvm.Cond.code ({ cls := "DomainLinks", name := "decide", desc := "(IIZ)I" } : Jvm.MethodName) prog_1_method_57_code (4 : Nat) (Option.some Jvm.ClassFile.FieldType.int)) ∈ lw_all := lw_g (lw_at lw_m6 110 rfl) rfl
theorem q1420 : (Jvm.Cond.methodLink "DomainLinks" (386 : Nat) ({ cls := "DomainLinks$Decisions", name := "add", desc := "(IIZ)V" } : Jvm.MethodName)) ∈ lw_all := lw_g (lw_at lw_m6 111 rfl) rfl
theorem q1428 : (Jvm.Cond.instanceMethod ({ cls := "DomainLinks", name := "back", desc := "(I)I" } : Jvm.MethodName)) ∈ lw_all := lw_g (lw_at lw_m6 119 rfl) rfl
theorem q1429 : (Jvm.Cond.selects "DomainLinks" ({ cls := "DomainLinks", name := "back", desc := "(I)I" } : Jvm.MethodName) ({ cls := "DomainLinks", name := "back", desc := "(I)I" } : Jvm.MethodName)) ∈ lw_all := lw_g (lw_at lw_m6 120 rfl) rfl
theorem q1430 : (Jvm.Cond.code ({ cls := "DomainLinks", name := "back", desc := "(I)I" } : Jvm.MethodName) prog_1_method_58_code (2 : Nat) (Option.some Jvm.ClassFile.FieldType.int)) ∈ lw_all := lw_g (lw_at lw_m6 121 rfl) rfl
theorem q1435 : (Jvm.Cond.instanceMethod ({ cls := "DomainLinks", name := "domain", desc := "(I)I" } : Jvm.MethodName)) ∈ lw_all := lw_g (lw_at lw_m6 126 rfl) rfl
theorem q1436 : (Jvm.Cond.selects "DomainLinks" ({ cls := "DomainLinks", name := "domain", desc := "(I)I" } : Jvm.MethodName) ({ cls := "DomainLinks", name := "domain", desc := "(I)I" } : Jvm.MethodName)) ∈ lw_all := lw_g (lw_at lw_m6 127 rfl) rfl
theorem q1437 : (Jvm.Cond.code ({ cls := "DomainLinks", name := "domain", desc := "(I)I" } : Jvm.MethodName) prog_1_method_60_code (3 : Nat) (Option.some Jvm.ClassFile.FieldType.int)) ∈ lw_all := lw_g (lw_at lw_m6 128 rfl) rfl
theorem q1442 : (Jvm.Cond.instanceMethod ({ cls := "DomainLinks", name := "bound", desc := "(IZ)I" } : Jvm.MethodName)) ∈ lw_all := lw_g (lw_at lw_m6 133 rfl) rfl
theorem q1443 : (Jvm.Cond.selects "DomainLinks" ({ cls := "DomainLinks", name := "bound", desc := "(IZ)I" } : Jvm.MethodName) ({ cls := "DomainLinks", name := "bound", desc := "(IZ)I" } : Jvm.MethodName)) ∈ lw_all := lw_g (lw_at lw_m6 134 rfl) rfl
theorem q1444 : (Jvm.Cond.code ({ cls := "DomainLinks", name := "bound", desc := "(IZ)I" } : Jvm.MethodName) prog_1_method_61_code (4 : Nat) (Option.some Jvm.ClassFile.FieldType.int)) ∈ lw_all := lw_g (lw_at lw_m6 135 rfl) rfl
theorem q1445 : (Jvm.Cond.methodLink "DomainLinks" (391 : Nat) ({ cls := "DomainLinks", name := "greatest", desc := "(I)I" } : Jvm.MethodName)) ∈ lw_all := lw_g (lw_at lw_m6 136 rfl) rfl
theorem q1446 : (Jvm.Cond.methodLink "DomainLinks" (393 : Nat) ({ cls := "DomainLinks", name := "least", desc := "(I)I" } : Jvm.MethodName)) ∈ lw_all := lw_g (lw_at lw_m6 137 rfl) rfl
theorem q1451 : (Jvm.Cond.instanceMethod ({ cls := "DomainLinks", name := "removal", desc := "(II)I" } : Jvm.MethodName)) ∈ lw_all := lw_g (lw_at lw_m6 142 rfl) rfl
theorem q1452 : (Jvm.Cond.selects "DomainLinks" ({ cls := "DomainLinks", name := "removal", desc := "(II)I" } : Jvm.MethodName) ({ cls := "DomainLinks", name := "removal", desc := "(II)I" } : Jvm.MethodName)) ∈ lw_all := lw_g (lw_at lw_m6 143 rfl) rfl
theorem q1453 : (Jvm.Cond.code ({ cls := "DomainLinks", name := "removal", desc := "(II)I" } : Jvm.MethodName) prog_1_method_64_code (3 : Nat) (Option.some Jvm.ClassFile.FieldType.int)) ∈ lw_all := lw_g (lw_at lw_m6 144 rfl) rfl
theorem q1454 : (Jvm.Cond.methodLink "DomainLinks" (396 : Nat) ({ cls := "DomainLinks", name := "removals", desc := "()I" } : Jvm.MethodName)) ∈ lw_all := lw_g (lw_at lw_m6 145 rfl) rfl
theorem q1459 : (Jvm.Cond.instanceMethod ({ cls := "DomainLinks", name := "reason", desc := "(II)I" } : Jvm.MethodName)) ∈ lw_all := lw_g (lw_at lw_m6 150 rfl) rfl
theorem q1460 : (Jvm.Cond.selects "DomainLinks" ({ cls := "DomainLinks", name := "reason", desc := "(II)I" } : Jvm.MethodName) ({ cls := "DomainLinks", name := "reason", desc := "(II)I" } : Jvm.MethodName)) ∈ lw_all := lw_g (lw_at lw_m6 151 rfl) rfl
theorem q1461 : (Jvm.Cond.code ({ cls := "DomainLinks", name := "reason", desc := "(II)I" } : Jvm.MethodName) prog_1_method_67_code (3 : Nat) (Option.some Jvm.ClassFile.FieldType.int)) ∈ lw_all := lw_g (lw_at lw_m6 152 rfl) rfl
theorem q1462 : (Jvm.Cond.methodLink "DomainLinks" (402 : Nat) ({ cls := "DomainLinks", name := "reasonOf", desc := "(II)I" } : Jvm.MethodName)) ∈ lw_all := lw_g (lw_at lw_m6 153 rfl) rfl
theorem q1463 : (Jvm.Cond.privateMethod ({ cls := "DomainLinks", name := "reasonOf", desc := "(II)I" } : Jvm.MethodName)) ∈ lw_tbl := lw_at lw_m6 154 rfl
theorem q1464 : (Jvm.Cond.instanceMethod ({ cls := "DomainLinks", name := "reasonOf", desc := "(II)I" } : Jvm.MethodName)) ∈ lw_all := lw_g (lw_at lw_m6 155 rfl) rfl
theorem q1465 : (Jvm.Cond.code ({ cls := "DomainLinks", name := "reasonOf", desc := "(II)I" } : Jvm.MethodName) prog_1_method_66_code (6 : Nat) (Option.some Jvm.ClassFile.FieldType.int)) ∈ lw_all := lw_g (lw_at lw_m6 156 rfl) rfl
theorem q1466 : (Jvm.Cond.methodLink "DomainLinks" (398 : Nat) ({ cls := "DomainLinks", name := "isSo", desc := "(III)Z" } : Jvm.MethodName)) ∈ lw_all := lw_g (lw_at lw_m6 157 rfl) rfl
theorem q1467 : (Jvm.Cond.privateMethod ({ cls := "DomainLinks", name := "isSo", desc := "(III)Z" } : Jvm.MethodName)) ∈ lw_tbl := lw_at lw_m6 158 rfl
theorem q1468 : (Jvm.Cond.instanceMethod ({ cls := "DomainLinks", name := "isSo", desc := "(III)Z" } : Jvm.MethodName)) ∈ lw_all := lw_g (lw_at lw_m6 159 rfl) rfl
theorem q1469 : (Jvm.Cond.code ({ cls := "DomainLinks", name := "isSo", desc := "(III)Z" } : Jvm.MethodName) prog_1_method_65_code (4 : Nat) (Option.some Jvm.ClassFile.FieldType.boolean)) ∈ lw_all := lw_g (lw_at lw_m6 160 rfl) rfl
theorem q1474 : (Jvm.Cond.instanceMethod ({ cls := "DomainLinks", name := "failure", desc := "()I" } : Jvm.MethodName)) ∈ lw_all := lw_g (lw_at lw_m6 165 rfl) rfl
theorem q1475 : (Jvm.Cond.selects "DomainLinks" ({ cls := "DomainLinks", name := "failure", desc := "()I" } : Jvm.MethodName) ({ cls := "DomainLinks", name := "failure", desc := "()I" } : Jvm.MethodName)) ∈ lw_all := lw_g (lw_at lw_m6 166 rfl) rfl
theorem q1476 : (Jvm.Cond.code ({ cls := "DomainLinks", name := "failure", desc := "()I" } : Jvm.MethodName) prog_1_method_68_code (1 : Nat) (Option.some Jvm.ClassFile.FieldType.int)) ∈ lw_all := lw_g (lw_at lw_m6 167 rfl) rfl
theorem q1481 : (Jvm.Cond.instanceMethod ({ cls := "DomainLinks", name := "learn", desc := "()I" } : Jvm.MethodName)) ∈ lw_all := lw_g (lw_at lw_m6 172 rfl) rfl
theorem q1482 : (Jvm.Cond.selects "DomainLinks" ({ cls := "DomainLinks", name := "learn", desc := "()I" } : Jvm.MethodName) ({ cls := "DomainLinks", name := "learn", desc := "()I" } : Jvm.MethodName)) ∈ lw_all := lw_g (lw_at lw_m6 173 rfl) rfl
theorem q1483 : (Jvm.Cond.code ({ cls := "DomainLinks", name := "learn", desc := "()I" } : Jvm.MethodName) prog_1_method_69_code (4 : Nat) (Option.some Jvm.ClassFile.FieldType.int)) ∈ lw_all := lw_g (lw_at lw_m6 174 rfl) rfl
theorem q1484 : (Jvm.Cond.methodLink "DomainLinks" (415 : Nat) ({ cls := "java/lang/Integer", name := "highestOneBit", desc := "(I)I" } : Jvm.MethodName)) ∈ lw_all := lw_g (lw_at lw_m6 175 rfl) rfl
theorem q1493 : (Jvm.Cond.instanceMethod ({ cls := "DomainLinks", name := "search", desc := "(IIIII)I" } : Jvm.MethodName)) ∈ lw_all := lw_g (lw_at lw_m6 184 rfl) rfl
theorem q1494 : (Jvm.Cond.selects "DomainLinks" ({ cls := "DomainLinks", name := "search", desc := "(IIIII)I" } : Jvm.MethodName) ({ cls := "DomainLinks", name := "search", desc := "(IIIII)I" } : Jvm.MethodName)) ∈ lw_all := lw_g (lw_at lw_m6 185 rfl) rfl
theorem q1495 : (Jvm.Cond.code ({ cls := "DomainLinks", name := "search", desc := "(IIIII)I" } : Jvm.MethodName) prog_1_method_78_code (7 : Nat) (Option.some Jvm.ClassFile.FieldType.int)) ∈ lw_all := lw_g (lw_at lw_m6 186 rfl) rfl
theorem q1496 : (Jvm.Cond.methodLink "DomainLinks" (465 : Nat) ({ cls := "DomainLinks", name := "beginPath", desc := "()V" } : Jvm.MethodName)) ∈ lw_all := lw_g (lw_at lw_m6 187 rfl) rfl
theorem q1497 : (Jvm.Cond.privateMethod ({ cls := "DomainLinks", name := "beginPath", desc := "()V" } : Jvm.MethodName)) ∈ lw_tbl := lw_at lw_m6 188 rfl
theorem q1498 : (Jvm.Cond.instanceMethod ({ cls := "DomainLinks", name := "beginPath", desc := "()V" } : Jvm.MethodName)) ∈ lw_all := lw_g (lw_at lw_m6 189 rfl) rfl
theorem q1499 : (Jvm.Cond.code ({ cls := "DomainLinks", name := "beginPath", desc := "()V" } : Jvm.MethodName) prog_1_method_73_code (2 : Nat) (Option.none : Option Jvm.ClassFile.FieldType)) ∈ lw_all := lw_g (lw_at lw_m6 190 rfl) rfl
theorem q1500 : (Jvm.Cond.methodLink "DomainLinks" (459 : Nat) ({ cls := "DomainLinks", name := "searchFrom", desc := "()I" } : Jvm.MethodName)) ∈ lw_all := lw_g (lw_at lw_m6 191 rfl) rfl
theorem q1501 : (Jvm.Cond.privateMethod ({ cls := "DomainLinks", name := "searchFrom", desc := "()I" } : Jvm.MethodName)) ∈ lw_tbl := lw_at lw_m6 192 rfl
theorem q1502 : (Jvm.Cond.instanceMethod ({ cls := "DomainLinks", name := "searchFrom", desc := "()I" } : Jvm.MethodName)) ∈ lw_all := lw_g (lw_at lw_m6 193 rfl) rfl
theorem q1503 : (Jvm.Cond.code ({ cls := "DomainLinks", name := "searchFrom", desc := "()I" } : Jvm.MethodName) prog_1_method_76_code (5 : Nat) (Option.some Jvm.ClassFile.FieldType.int)) ∈ lw_all := lw_g (lw_at lw_m6 194 rfl) rfl
theorem q1504 : (Jvm.Cond.methodLink "DomainLinks" (433 : Nat) ({ cls := "DomainLinks", name := "look", desc := "(LDomainLinks$Decisions;)V" } : Jvm.MethodName)) ∈ lw_all := lw_g (lw_at lw_m6 195 rfl) rfl
theorem q1505 : (Jvm.Cond.privateMethod ({ cls := "DomainLinks", name := "look", desc := "(LDomainLinks$Decisions;)V" } : Jvm.MethodName)) ∈ lw_tbl := lw_at lw_m6 196 rfl
theorem q1506 : (Jvm.Cond.instanceMethod ({ cls := "DomainLinks", name := "look", desc := "(LDomainLinks$Decisions;)V" } : Jvm.MethodName)) ∈ lw_all := lw_g (lw_at lw_m6 197 rfl) rfl
theorem q1507 : (Jvm.Cond.code ({ cls := "DomainLinks", name := "look", desc := "(LDomainLinks$Decisions;)V" } : Jvm.MethodName) prog_1_method_74_code (2 : Nat) (Option.none : Option Jvm.ClassFile.FieldType)) ∈ lw_all := lw_g (lw_at lw_m6 198 rfl) rfl
theorem q1508 : (Jvm.Cond.methodLink "DomainLinks" (446 : Nat) ({ cls := "DomainLinks", name := "chosen", desc := "(LDomainLinks$Store;II)I" } : Jvm.MethodName)) ∈ lw_all := lw_g (lw_at lw_m6 199 rfl) rfl
theorem q1509 : (Jvm.Cond.privateMethod ({ cls := "DomainLinks", name := "chosen", desc := "(LDomainLinks$Store;II)I" } : Jvm.MethodName)) ∈ lw_tbl := lw_at lw_m6 200 rfl
theorem q1510 : (Jvm.Cond.instanceMethod ({ cls := "DomainLinks", name := "chosen", desc := "(LDomainLinks$Store;II)I" } : Jvm.MethodName)) ∈ lw_all := lw_g (lw_at lw_m6 201 rfl) rfl
theorem q1511 : (Jvm.Cond.code ({ cls := "DomainLinks", name := "chosen", desc := "(LDomainLinks$Store;II)I" } : Jvm.MethodName) prog_1_method_71_code (10 : Nat) (Option.some Jvm.ClassFile.FieldType.int)) ∈ lw_all := lw_g (lw_at lw_m6 202 rfl) rfl
theorem q1512 : (Jvm.Cond.methodLink "DomainLinks" (418 : Nat) ({ cls := "DomainLinks", name := "isFixed", desc := "(I)Z" } : Jvm.MethodName)) ∈ lw_all := lw_g (lw_at lw_m6 203 rfl) rfl
theorem q1513 : (Jvm.Cond.static ({ cls := "DomainLinks", name := "isFixed", desc := "(I)Z" } : Jvm.MethodName)) ∈ lw_all := lw_g (lw_at lw_m6 204 rfl) rfl
theorem q1514 : (Jvm.Cond.code ({ cls := "DomainLinks", name := "isFixed", desc := "(I)Z" } : Jvm.MethodName) prog_1_method_70_code (1 : Nat) (Option.some Jvm.ClassFile.FieldType.boolean)) ∈ lw_all := lw_g (lw_at lw_m6 205 rfl) rfl
theorem q1515 : (Jvm.Cond.methodLink "DomainLinks" (450 : Nat) ({ cls := "DomainLinks", name := "keepSolution", desc := "()V" } : Jvm.MethodName)) ∈ lw_all := lw_g (lw_at lw_m6 206 rfl) rfl
theorem q1516 : (Jvm.Cond.privateMethod ({ cls := "DomainLinks", name := "keepSolution", desc := "()V" } : Jvm.MethodName)) ∈ lw_tbl := lw_at lw_m6 207 rfl
theorem q1517 : (Jvm.Cond.instanceMethod ({ cls := "DomainLinks", name := "keepSolution", desc := "()V" } : Jvm.MethodName)) ∈ lw_all := lw_g (lw_at lw_m6 208 rfl) rfl
theorem q1518 : (Jvm.Cond.code ({ cls := "DomainLinks", name := "keepSolution", desc := "()V" } : Jvm.MethodName) prog_1_method_77_code (2 : Nat) (Option.none : Option Jvm.ClassFile.FieldType)) ∈ lw_all := lw_g (lw_at lw_m6 209 rfl) rfl
theorem q1519 : (Jvm.Cond.methodLink "DomainLinks" (456 : Nat) ({ cls := "DomainLinks", name := "valueOf", desc := "(III)I" } : Jvm.MethodName)) ∈ lw_all := lw_g (lw_at lw_m6 210 rfl) rfl
theorem q1520 : (Jvm.Cond.privateMethod ({ cls := "DomainLinks", name := "valueOf", desc := "(III)I" } : Jvm.MethodName)) ∈ lw_tbl := lw_at lw_m6 211 rfl
theorem q1521 : (Jvm.Cond.instanceMethod ({ cls := "DomainLinks", name := "valueOf", desc := "(III)I" } : Jvm.MethodName)) ∈ lw_all := lw_g (lw_at lw_m6 212 rfl) rfl
theorem q1522 : (Jvm.Cond.code ({ cls := "DomainLinks", name := "valueOf", desc := "(III)I" } : Jvm.MethodName) prog_1_method_72_code (4 : Nat) (Option.some Jvm.ClassFile.FieldType.int)) ∈ lw_all := lw_g (lw_at lw_m6 213 rfl) rfl
theorem q1523 : (Jvm.Cond.methodLink "DomainLinks" (462 : Nat) ({ cls := "DomainLinks", name := "isCut", desc := "()Z" } : Jvm.MethodName)) ∈ lw_all := lw_g (lw_at lw_m6 214 rfl) rfl
theorem q1524 : (Jvm.Cond.privateMethod ({ cls := "DomainLinks", name := "isCut", desc := "()Z" } : Jvm.MethodName)) ∈ lw_tbl := lw_at lw_m6 215 rfl
theorem q1525 : (Jvm.Cond.instanceMethod ({ cls := "DomainLinks", name := "isCut", desc := "()Z" } : Jvm.MethodName)) ∈ lw_all := lw_g (lw_at lw_m6 216 rfl) rfl
theorem q1526 : (Jvm.Cond.code ({ cls := "DomainLinks", name := "isCut", desc := "()Z" } : Jvm.MethodName) prog_1_method_75_code (1 : Nat) (Option.some Jvm.ClassFile.FieldType.boolean)) ∈ lw_all := lw_g (lw_at lw_m6 217 rfl) rfl
theorem q1531 : (Jvm.Cond.instanceMethod ({ cls := "DomainLinks", name := "solution", desc := "(I)I" } : Jvm.MethodName)) ∈ lw_all := lw_g (lw_at lw_m6 222 rfl) rfl
theorem q1532 : (Jvm.Cond.selects "DomainLinks" ({ cls := "DomainLinks", name := "solution", desc := "(I)I" } : Jvm.MethodName) ({ cls := "DomainLinks", name := "solution", desc := "(I)I" } : Jvm.MethodName)) ∈ lw_all := lw_g (lw_at lw_m6 223 rfl) rfl
theorem q1533 : (Jvm.Cond.code ({ cls := "DomainLinks", name := "solution", desc := "(I)I" } : Jvm.MethodName) prog_1_method_86_code (2 : Nat) (Option.some Jvm.ClassFile.FieldType.int)) ∈ lw_all := lw_g (lw_at lw_m6 224 rfl) rfl
theorem q1538 : (Jvm.Cond.instanceMethod ({ cls := "DomainLinks", name := "solutions", desc := "()I" } : Jvm.MethodName)) ∈ lw_all := lw_g (lw_at lw_m6 229 rfl) rfl
theorem q1539 : (Jvm.Cond.selects "DomainLinks" ({ cls := "DomainLinks", name := "solutions", desc := "()I" } : Jvm.MethodName) ({ cls := "DomainLinks", name := "solutions", desc := "()I" } : Jvm.MethodName)) ∈ lw_all := lw_g (lw_at lw_m6 230 rfl) rfl
theorem q1540 : (Jvm.Cond.code ({ cls := "DomainLinks", name := "solutions", desc := "()I" } : Jvm.MethodName) prog_1_method_80_code (2 : Nat) (Option.some Jvm.ClassFile.FieldType.int)) ∈ lw_all := lw_g (lw_at lw_m6 231 rfl) rfl
theorem q1541 : (Jvm.Cond.methodLink "DomainLinks" (468 : Nat) ({ cls := "DomainLinks", name := "countFrom", desc := "([I)I" } : Jvm.MethodName)) ∈ lw_all := lw_g (lw_at lw_m6 232 rfl) rfl
theorem q1542 : (Jvm.Cond.privateMethod ({ cls := "DomainLinks", name := "countFrom", desc := "([I)I" } : Jvm.MethodName)) ∈ lw_tbl := lw_at lw_m6 233 rfl
theorem q1543 : (Jvm.Cond.instanceMethod ({ cls := "DomainLinks", name := "countFrom", desc := "([I)I" } : Jvm.MethodName)) ∈ lw_all := lw_g (lw_at lw_m6 234 rfl) rfl
theorem q1544 : (Jvm.Cond.code ({ cls := "DomainLinks", name := "countFrom", desc := "([I)I" } : Jvm.MethodName) prog_1_method_79_code (7 : Nat) (Option.some Jvm.ClassFile.FieldType.int)) ∈ lw_all := lw_g (lw_at lw_m6 235 rfl) rfl
theorem q1549 : (Jvm.Cond.instanceMethod ({ cls := "DomainLinks", name := "solutionsByAll", desc := "()I" } : Jvm.MethodName)) ∈ lw_all := lw_g (lw_at lw_m7 0 rfl) rfl
theorem q1550 : (Jvm.Cond.selects "DomainLinks" ({ cls := "DomainLinks", name := "solutionsByAll", desc := "()I" } : Jvm.MethodName) ({ cls := "DomainLinks", name := "solutionsByAll", desc := "()I" } : Jvm.MethodName)) ∈ lw_all := lw_g (lw_at lw_m7 1 rfl) rfl
theorem q1551 : (Jvm.Cond.code ({ cls := "DomainLinks", name := "solutionsByAll", desc := "()I" } : Jvm.MethodName) prog_1_method_83_code (1 : Nat) (Option.some Jvm.ClassFile.FieldType.int)) ∈ lw_all := lw_g (lw_at lw_m7 2 rfl) rfl
theorem q1552 : (Jvm.Cond.methodLink "DomainLinks" (475 : Nat) ({ cls := "DomainLinks", name := "choices", desc := "()J" } : Jvm.MethodName)) ∈ lw_all := lw_g (lw_at lw_m7 3 rfl) rfl
theorem q1553 : (Jvm.Cond.privateMethod ({ cls := "DomainLinks", name := "choices", desc := "()J" } : Jvm.MethodName)) ∈ lw_tbl := lw_at lw_m7 4 rfl
theorem q1554 : (Jvm.Cond.instanceMethod ({ cls := "DomainLinks", name := "choices", desc := "()J" } : Jvm.MethodName)) ∈ lw_all := lw_g (lw_at lw_m7 5 rfl) rfl
theorem q1555 : (Jvm.Cond.code ({ cls := "DomainLinks", name := "choices", desc := "()J" } : Jvm.MethodName) prog_1_method_81_code (4 : Nat) (Option.some Jvm.ClassFile.FieldType.long)) ∈ lw_all := lw_g (lw_at lw_m7 6 rfl) rfl
theorem q1556 : (Jvm.Cond.constantLong "DomainLinks" (479 : Nat) (2000 : Int64)) ∈ lw_all := lw_g (lw_at lw_m7 7 rfl) rfl
theorem q1557 : (Jvm.Cond.methodLink "DomainLinks" (472 : Nat) ({ cls := "DomainLinks", name := "countChoices", desc := "(I)I" } : Jvm.MethodName)) ∈ lw_all := lw_g (lw_at lw_m7 8 rfl) rfl
theorem q1558 : (Jvm.Cond.privateMethod ({ cls := "DomainLinks", name := "countChoices", desc := "(I)I" } : Jvm.MethodName)) ∈ lw_tbl := lw_at lw_m7 9 rfl
theorem q1559 : (Jvm.Cond.instanceMethod ({ cls := "DomainLinks", name := "countChoices", desc := "(I)I" } : Jvm.MethodName)) ∈ lw_all := lw_g (lw_at lw_m7 10 rfl) rfl
theorem q1560 : (Jvm.Cond.code ({ cls := "DomainLinks", name := "countChoices", desc := "(I)I" } : Jvm.MethodName) prog_1_method_82_code (6 : Nat) (Option.some Jvm.ClassFile.FieldType.int)) ∈ lw_all := lw_g (lw_at lw_m7 11 rfl) rfl
theorem q1565 : (Jvm.Cond.instanceMethod ({ cls := "DomainLinks", name := "minimise", desc := "(IIIII)V" } : Jvm.MethodName)) ∈ lw_all := lw_g (lw_at lw_m7 16 rfl) rfl
theorem q1566 : (Jvm.Cond.selects "DomainLinks" ({ cls := "DomainLinks", name := "minimise", desc := "(IIIII)V" } : Jvm.MethodName) ({ cls := "DomainLinks", name := "minimise", desc := "(IIIII)V" } : Jvm.MethodName)) ∈ lw_all := lw_g (lw_at lw_m7 17 rfl) rfl
theorem q1567 : (Jvm.Cond.code ({ cls := "DomainLinks", name := "minimise", desc := "(IIIII)V" } : Jvm.MethodName) prog_1_method_87_code (6 : Nat) (Option.none : Option Jvm.ClassFile.FieldType)) ∈ lw_all := lw_g (lw_at lw_m7 18 rfl) rfl
theorem q1569 : (Jvm.Cond.methodLink "DomainLinks" (484 : Nat) ({ cls := "DomainLinks$Shared", name := "<init>", desc := "(II)V" } : Jvm.MethodName)) ∈ lw_all := lw_g (lw_at lw_m7 20 rfl) rfl
theorem q1599 : (Jvm.Cond.fieldLinkNest "DomainLinks" (504 : Nat) "DomainLinks$Shared" "choice" "I" "DomainLinks") ∈ lw_tbl := lw_at lw_m7 50 rfl
theorem q1601 : (Jvm.Cond.fieldLinkNest "DomainLinks" (505 : Nat) "DomainLinks$Shared" "order" "I" "DomainLinks") ∈ lw_tbl := lw_at lw_m7 52 rfl
theorem q1603 : (Jvm.Cond.fieldLinkNest "DomainLinks" (494 : Nat) "DomainLinks$Shared" "decisions" "LDomainLinks$Decisions;" "DomainLinks") ∈ lw_tbl := lw_at lw_m7 54 rfl
theorem q1605 : (Jvm.Cond.fieldLinkNest "DomainLinks" (486 : Nat) "DomainLinks$Shared" "ahead" "Ljava/util/List;" "DomainLinks") ∈ lw_tbl := lw_at lw_m7 56 rfl
theorem q1619 : (Jvm.Cond.instanceMethod ({ cls := "DomainLinks", name := "goOn", desc := "(II)I" } : Jvm.MethodName)) ∈ lw_all := lw_g (lw_at lw_m7 70 rfl) rfl
theorem q1620 : (Jvm.Cond.selects "DomainLinks" ({ cls := "DomainLinks", name := "goOn", desc := "(II)I" } : Jvm.MethodName) ({ cls := "DomainLinks", name := "goOn", desc := "(II)I" } : Jvm.MethodName)) ∈ lw_all := lw_g (lw_at lw_m7 71 rfl) rfl
theorem q1621 : (Jvm.Cond.code ({ cls := "DomainLinks", name := "goOn", desc := "(II)I" } : Jvm.MethodName) prog_1_method_89_code (4 : Nat) (Option.some Jvm.ClassFile.FieldType.int)) ∈ lw_all := lw_g (lw_at lw_m7 72 rfl) rfl
theorem q1622 : (Jvm.Cond.methodLink "DomainLinks" (509 : Nat) ({ cls := "DomainLinks", name := "step", desc := "(LDomainLinks$Shared;)V" } : Jvm.MethodName)) ∈ lw_all := lw_g (lw_at lw_m7 73 rfl) rfl
theorem q1623 : (Jvm.Cond.privateMethod ({ cls := "DomainLinks", name := "step", desc := "(LDomainLinks$Shared;)V" } : Jvm.MethodName)) ∈ lw_tbl := lw_at lw_m7 74 rfl
theorem q1624 : (Jvm.Cond.instanceMethod ({ cls := "DomainLinks", name := "step", desc := "(LDomainLinks$Shared;)V" } : Jvm.MethodName)) ∈ lw_all := lw_g (lw_at lw_m7 75 rfl) rfl
theorem q1625 : (Jvm.Cond.code ({ cls := "DomainLinks", name := "step", desc := "(LDomainLinks$Shared;)V" } : Jvm.MethodName) prog_1_method_88_code (5 : Nat) (Option.none : Option Jvm.ClassFile.FieldType)) ∈ lw_all := lw_g (lw_at lw_m7 76 rfl) rfl
theorem q1626 : (Jvm.Cond.interfaceEntry "DomainLinks" (489 : Nat)) ∈ lw_tbl := lw_at lw_m7 77 rfl
theorem q1627 : (Jvm.Cond.methodLink "DomainLinks" (489 : Nat) ({ cls := "java/util/List", name := "remove", desc := "(I)Ljava/lang/Object;" } : Jvm.MethodName)) ∈ lw_all := lw_g (lw_at lw_m7 78 rfl) rfl
theorem q1639 : (Jvm.Cond.classLink "DomainLinks" (492 : Nat) "DomainLinks$Ahead") ∈ lw_all := lw_g (lw_at lw_m7 90 rfl) rfl
theorem q1640 : (Jvm.Cond.methodLink "DomainLinks" (495 : Nat) ({ cls := "DomainLinks$Ahead", name := "stay", desc := "()I" } : Jvm.MethodName)) ∈ lw_all := lw_g (lw_at lw_m7 91 rfl) rfl
theorem q1644 : (Jvm.Cond.methodLink "DomainLinks" (498 : Nat) ({ cls := "DomainLinks$Ahead", name := "variable", desc := "()I" } : Jvm.MethodName)) ∈ lw_all := lw_g (lw_at lw_m7 95 rfl) rfl
theorem q1648 : (Jvm.Cond.methodLink "DomainLinks" (499 : Nat) ({ cls := "DomainLinks$Ahead", name := "value", desc := "()I" } : Jvm.MethodName)) ∈ lw_all := lw_g (lw_at lw_m7 99 rfl) rfl
theorem q1652 : (Jvm.Cond.methodLink "DomainLinks" (502 : Nat) ({ cls := "DomainLinks$Ahead", name := "has", desc := "()Z" } : Jvm.MethodName)) ∈ lw_all := lw_g (lw_at lw_m7 103 rfl) rfl
theorem q1656 : (Jvm.Cond.methodLinkNest "DomainLinks" (506 : Nat) ({ cls := "DomainLinks$Ahead", name := "<init>", desc := "(IIIZ)V" } : Jvm.MethodName) "DomainLinks") ∈ lw_tbl := lw_at lw_m7 107 rfl
theorem q1661 : (Jvm.Cond.instanceMethod ({ cls := "DomainLinks", name := "tree", desc := "()I" } : Jvm.MethodName)) ∈ lw_all := lw_g (lw_at lw_m7 112 rfl) rfl
theorem q1662 : (Jvm.Cond.selects "DomainLinks" ({ cls := "DomainLinks", name := "tree", desc := "()I" } : Jvm.MethodName) ({ cls := "DomainLinks", name := "tree", desc := "()I" } : Jvm.MethodName)) ∈ lw_all := lw_g (lw_at lw_m7 113 rfl) rfl
theorem q1663 : (Jvm.Cond.code ({ cls := "DomainLinks", name := "tree", desc := "()I" } : Jvm.MethodName) prog_1_method_91_code (1 : Nat) (Option.some Jvm.ClassFile.FieldType.int)) ∈ lw_all := lw_g (lw_at lw_m7 114 rfl) rfl
theorem q1664 : (Jvm.Cond.methodLink "DomainLinks" (513 : Nat) ({ cls := "DomainLinks$Trees", name := "add", desc := "(III)V" } : Jvm.MethodName)) ∈ lw_all := lw_g (lw_at lw_m7 115 rfl) rfl
theorem q1672 : (Jvm.Cond.instanceMethod ({ cls := "DomainLinks", name := "term", desc := "(III)I" } : Jvm.MethodName)) ∈ lw_all := lw_g (lw_at lw_m7 123 rfl) rfl
theorem q1673 : (Jvm.Cond.selects "DomainLinks" ({ cls := "DomainLinks", name := "term", desc := "(III)I" } : Jvm.MethodName) ({ cls := "DomainLinks", name := "term", desc := "(III)I" } : Jvm.MethodName)) ∈ lw_all := lw_g (lw_at lw_m7 124 rfl) rfl
theorem q1674 : (Jvm.Cond.code ({ cls := "DomainLinks", name := "term", desc := "(III)I" } : Jvm.MethodName) prog_1_method_93_code (4 : Nat) (Option.some Jvm.ClassFile.FieldType.int)) ∈ lw_all := lw_g (lw_at lw_m7 125 rfl) rfl
theorem q1675 : (Jvm.Cond.methodLink "DomainLinks" (515 : Nat) ({ cls := "DomainLinks", name := "checkChild", desc := "(IZ)V" } : Jvm.MethodName)) ∈ lw_all := lw_g (lw_at lw_m7 126 rfl) rfl
theorem q1676 : (Jvm.Cond.privateMethod ({ cls := "DomainLinks", name := "checkChild", desc := "(IZ)V" } : Jvm.MethodName)) ∈ lw_tbl := lw_at lw_m7 127 rfl
theorem q1677 : (Jvm.Cond.instanceMethod ({ cls := "DomainLinks", name := "checkChild", desc := "(IZ)V" } : Jvm.MethodName)) ∈ lw_all := lw_g (lw_at lw_m7 128 rfl) rfl
theorem q1678 : (Jvm.Cond.code ({ cls := "DomainLinks", name := "checkChild", desc := "(IZ)V" } : Jvm.MethodName) prog_1_method_92_code (3 : Nat) (Option.none : Option Jvm.ClassFile.FieldType)) ∈ lw_all := lw_g (lw_at lw_m7 129 rfl) rfl
theorem q1683 : (Jvm.Cond.instanceMethod ({ cls := "DomainLinks", name := "unify", desc := "(II)I" } : Jvm.MethodName)) ∈ lw_all := lw_g (lw_at lw_m7 134 rfl) rfl
theorem q1684 : (Jvm.Cond.selects "DomainLinks" ({ cls := "DomainLinks", name := "unify", desc := "(II)I" } : Jvm.MethodName) ({ cls := "DomainLinks", name := "unify", desc := "(II)I" } : Jvm.MethodName)) ∈ lw_all := lw_g (lw_at lw_m7 135 rfl) rfl
theorem q1685 : (Jvm.Cond.code ({ cls := "DomainLinks", name := "unify", desc := "(II)I" } : Jvm.MethodName) prog_1_method_94_code (5 : Nat) (Option.some Jvm.ClassFile.FieldType.int)) ∈ lw_all := lw_g (lw_at lw_m7 136 rfl) rfl
theorem q1686 : (Jvm.Cond.methodLink "DomainLinks" (519 : Nat) ({ cls := "DomainLinks$Trees", name := "copy", desc := "(LDomainLinks$Trees;)V" } : Jvm.MethodName)) ∈ lw_all := lw_g (lw_at lw_m7 137 rfl) rfl
theorem q1690 : (Jvm.Cond.methodLink "DomainLinks" (523 : Nat) ({ cls := "DomainLinks$Trees", name := "unify", desc := "(II)Z" } : Jvm.MethodName)) ∈ lw_all := lw_g (lw_at lw_m7 141 rfl) rfl
theorem q1697 : (Jvm.Cond.methodLink "DomainLinks" (526 : Nat) ({ cls := "DomainLinks$Trees", name := "one", desc := "(I)I" } : Jvm.MethodName)) ∈ lw_all := lw_g (lw_at lw_m7 148 rfl) rfl
theorem q1702 : (Jvm.Cond.instanceMethod ({ cls := "DomainLinks", name := "areAlike", desc := "(II)Z" } : Jvm.MethodName)) ∈ lw_all := lw_g (lw_at lw_m7 153 rfl) rfl
theorem q1703 : (Jvm.Cond.selects "DomainLinks" ({ cls := "DomainLinks", name := "areAlike", desc := "(II)Z" } : Jvm.MethodName) ({ cls := "DomainLinks", name := "areAlike", desc := "(II)Z" } : Jvm.MethodName)) ∈ lw_all := lw_g (lw_at lw_m7 154 rfl) rfl
theorem q1704 : (Jvm.Cond.code ({ cls := "DomainLinks", name := "areAlike", desc := "(II)Z" } : Jvm.MethodName) prog_1_method_96_code (3 : Nat) (Option.some Jvm.ClassFile.FieldType.boolean)) ∈ lw_all := lw_g (lw_at lw_m7 155 rfl) rfl
theorem q1705 : (Jvm.Cond.methodLink "DomainLinks" (536 : Nat) ({ cls := "DomainLinks", name := "areAlike", desc := "(II[I)Z" } : Jvm.MethodName)) ∈ lw_all := lw_g (lw_at lw_m7 156 rfl) rfl
theorem q1706 : (Jvm.Cond.privateMethod ({ cls := "DomainLinks", name := "areAlike", desc := "(II[I)Z" } : Jvm.MethodName)) ∈ lw_tbl := lw_at lw_m7 157 rfl
theorem q1707 : (Jvm.Cond.instanceMethod ({ cls := "DomainLinks", name := "areAlike", desc := "(II[I)Z" } : Jvm.MethodName)) ∈ lw_all := lw_g (lw_at lw_m7 158 rfl) rfl
theorem q1708 : (Jvm.Cond.code ({ cls := "DomainLinks", name := "areAlike", desc := "(II[I)Z" } : Jvm.MethodName) prog_1_method_95_code (8 : Nat) (Option.some Jvm.ClassFile.FieldType.boolean)) ∈ lw_all := lw_g (lw_at lw_m7 159 rfl) rfl
theorem q1709 : (Jvm.Cond.methodLink "DomainLinks" (529 : Nat) ({ cls := "DomainLinks$Trees", name := "symbol", desc := "(I)I" } : Jvm.MethodName)) ∈ lw_all := lw_g (lw_at lw_m7 160 rfl) rfl
theorem q1710 : (Jvm.Cond.methodLink "DomainLinks" (532 : Nat) ({ cls := "DomainLinks$Trees", name := "child", desc := "(IZ)I" } : Jvm.MethodName)) ∈ lw_all := lw_g (lw_at lw_m7 161 rfl) rfl
theorem q1718 : (Jvm.Cond.instanceMethod ({ cls := "DomainLinks", name := "symbolAt", desc := "(III)I" } : Jvm.MethodName)) ∈ lw_all := lw_g (lw_at lw_m7 169 rfl) rfl
theorem q1719 : (Jvm.Cond.selects "DomainLinks" ({ cls := "DomainLinks", name := "symbolAt", desc := "(III)I" } : Jvm.MethodName) ({ cls := "DomainLinks", name := "symbolAt", desc := "(III)I" } : Jvm.MethodName)) ∈ lw_all := lw_g (lw_at lw_m7 170 rfl) rfl
theorem q1720 : (Jvm.Cond.code ({ cls := "DomainLinks", name := "symbolAt", desc := "(III)I" } : Jvm.MethodName) prog_1_method_97_code (6 : Nat) (Option.some Jvm.ClassFile.FieldType.int)) ∈ lw_all := lw_g (lw_at lw_m7 171 rfl) rfl
theorem q1725 : (Jvm.Cond.instanceMethod ({ cls := "DomainLinks", name := "isEndless", desc := "(I)Z" } : Jvm.MethodName)) ∈ lw_all := lw_g (lw_at lw_m7 176 rfl) rfl
theorem q1726 : (Jvm.Cond.selects "DomainLinks" ({ cls := "DomainLinks", name := "isEndless", desc := "(I)Z" } : Jvm.MethodName) ({ cls := "DomainLinks", name := "isEndless", desc := "(I)Z" } : Jvm.MethodName)) ∈ lw_all := lw_g (lw_at lw_m7 177 rfl) rfl
theorem q1727 : (Jvm.Cond.code ({ cls := "DomainLinks", name := "isEndless", desc := "(I)Z" } : Jvm.MethodName) prog_1_method_99_code (2 : Nat) (Option.some Jvm.ClassFile.FieldType.boolean)) ∈ lw_all := lw_g (lw_at lw_m7 178 rfl) rfl
theorem q1728 : (Jvm.Cond.methodLink "DomainLinks" (540 : Nat) ({ cls := "DomainLinks", name := "isEndless", desc := "(II)Z" } : Jvm.MethodName)) ∈ lw_all := lw_g (lw_at lw_m7 179 rfl) rfl
theorem q1729 : (Jvm.Cond.privateMethod ({ cls := "DomainLinks", name := "isEndless", desc := "(II)Z" } : Jvm.MethodName)) ∈ lw_tbl := lw_at lw_m7 180 rfl
theorem q1730 : (Jvm.Cond.instanceMethod ({ cls := "DomainLinks", name := "isEndless", desc := "(II)Z" } : Jvm.MethodName)) ∈ lw_all := lw_g (lw_at lw_m7 181 rfl) rfl
theorem q1731 : (Jvm.Cond.code ({ cls := "DomainLinks", name := "isEndless", desc := "(II)Z" } : Jvm.MethodName) prog_1_method_98_code (6 : Nat) (Option.some Jvm.ClassFile.FieldType.boolean)) ∈ lw_all := lw_g (lw_at lw_m7 182 rfl) rfl
theorem q2453 : (Jvm.Cond.castable "DomainLinks" "java/lang/Object") ∈ lw_tbl := lw_at lw_m10 184 rfl
theorem in_X1 : ∀ w ∈ wsX10, w ∈ lw_all := lw_in wsX10 [300, 302, 304, 306, 308, 310, 312, 314, 316, 318, 320, 322, 324, 326, 328, 330, 332, 334, 336, 338, 340, 342, 344, 346, 348, 350, 352, 354, 356, 358, 360, 362, 364, 366, 368, 370] (by decide +kernel) (by decide +kernel)

/-! DomainLinks$Linear -/
set_option maxRecDepth 100000
def RX10 : String := "DomainLinks$Linear"
def TX10 : u_T := fun k => match k with
  | 0 => ("DomainLinks$Constraint", "places", "[I", true)
  | 1 => ("DomainLinks$Constraint", "sets", "[I", true)
  | 2 => ("DomainLinks$Constraint", "lows", "[I", true)
  | 3 => ("DomainLinks$Constraint", "highs", "[I", true)
  | 4 => ("DomainLinks$Linear", "factors", "[I", true)
  | 5 => ("DomainLinks$Linear", "areRatios", "[Z", true)
  | 6 => ("DomainLinks$Linear", "isJust", "Z", true)
  | _ => ("DomainLinks$Linear", "limit", "I", true)
def tyX10 : Nat → FieldType := fun k => match k with
  | 0 => .array .int
  | 1 => .array .int
  | 2 => .array .int
  | 3 => .array .int
  | 4 => .array .int
  | 5 => .array .boolean
  | 6 => .boolean
  | _ => .int
abbrev wsX100 : List Cond := u_ws RX10 TX10 8
theorem nmX10 : ∀ a, a < 8 → ∀ b, b < 8 → a ≠ b → (TX10 a).2.1 ≠ (TX10 b).2.1 := by decide +kernel
theorem tyX10_ok : ∀ k, k < 8 → parseFieldDescriptor (TX10 k).2.2.1 = some (tyX10 k) := by decide +kernel
abbrev cX10_keep : ByteArray := prog_8_method_7_code
def yX10_keep : MethodName := ⟨RX10, "keep", "(LDomainLinks$Store;)V"⟩
abbrev cX10_least : ByteArray := prog_8_method_4_code
def yX10_least : MethodName := ⟨RX10, "least", "(LDomainLinks$Store;I)I"⟩
abbrev cX10_low : ByteArray := prog_8_method_2_code
def yX10_low : MethodName := ⟨RX10, "low", "(LDomainLinks$Store;I)I"⟩
abbrev cX10_high : ByteArray := prog_8_method_3_code
def yX10_high : MethodName := ⟨RX10, "high", "(LDomainLinks$Store;I)I"⟩
abbrev cX10_greatest : ByteArray := prog_8_method_5_code
def yX10_greatest : MethodName := ⟨RX10, "greatest", "(LDomainLinks$Store;I)I"⟩
abbrev cX10_keepAt : ByteArray := prog_8_method_8_code
def yX10_keepAt : MethodName := ⟨RX10, "keepAt", "(LDomainLinks$Store;III)V"⟩
abbrev cX10_agrees : ByteArray := prog_8_method_6_code
def yX10_agrees : MethodName := ⟨RX10, "agrees", "(III)Z"⟩
abbrev cX10_init : ByteArray := prog_8_method_1_code
def yX10_init : MethodName := ⟨RX10, "<init>", "(Ljava/util/List;Ljava/util/List;[ZZI)V"⟩
theorem q140 : (Jvm.Cond.initialized "DomainLinks$Linear") ∈ lw_all := lw_g (lw_at lw_m1 31 rfl) rfl
theorem q242 : (Jvm.Cond.fieldLinkNest "DomainLinks$Linear" (42 : Nat) "DomainLinks$Store" "lows" "[I" "DomainLinks") ∈ lw_tbl := lw_at lw_m1 133 rfl
theorem q245 : (Jvm.Cond.fieldLinkNest "DomainLinks$Linear" (58 : Nat) "DomainLinks$Store" "highs" "[I" "DomainLinks") ∈ lw_tbl := lw_at lw_m1 136 rfl
theorem q533 : (Jvm.Cond.selects "DomainLinks$Linear" ({ cls := "DomainLinks$Constraint", name := "keep", desc := "(LDomainLinks$Store;)V" } : Jvm.MethodName) ({ cls := "DomainLinks$Linear", name := "keep", desc := "(LDomainLinks$Store;)V" } : Jvm.MethodName)) ∈ lw_all := lw_g (lw_at lw_m2 184 rfl) rfl
theorem q534 : (Jvm.Cond.instanceMethod ({ cls := "DomainLinks$Linear", name := "keep", desc := "(LDomainLinks$Store;)V" } : Jvm.MethodName)) ∈ lw_all := lw_g (lw_at lw_m2 185 rfl) rfl
theorem q535 : (Jvm.Cond.code ({ cls := "DomainLinks$Linear", name := "keep", desc := "(LDomainLinks$Store;)V" } : Jvm.MethodName) prog_8_method_7_code (5 : Nat) (Option.none : Option Jvm.ClassFile.FieldType)) ∈ lw_all := lw_g (lw_at lw_m2 186 rfl) rfl
theorem q536 : (Jvm.Cond.methodLink "DomainLinks$Linear" (23 : Nat) ({ cls := "DomainLinks$Linear", name := "size", desc := "()I" } : Jvm.MethodName)) ∈ lw_all := lw_g (lw_at lw_m2 187 rfl) rfl
theorem q537 : (Jvm.Cond.sameMethod "DomainLinks$Linear" "DomainLinks$Constraint" "size" "()I") ∈ lw_all := lw_g (lw_at lw_m2 188 rfl) rfl
theorem q538 : (Jvm.Cond.selects "DomainLinks$Linear" ({ cls := "DomainLinks$Linear", name := "size", desc := "()I" } : Jvm.MethodName) ({ cls := "DomainLinks$Constraint", name := "size", desc := "()I" } : Jvm.MethodName)) ∈ lw_all := lw_g (lw_at lw_m2 189 rfl) rfl
theorem q539 : (Jvm.Cond.methodLink "DomainLinks$Linear" (70 : Nat) ({ cls := "DomainLinks$Linear", name := "least", desc := "(LDomainLinks$Store;I)I" } : Jvm.MethodName)) ∈ lw_all := lw_g (lw_at lw_m2 190 rfl) rfl
theorem q540 : (Jvm.Cond.privateMethod ({ cls := "DomainLinks$Linear", name := "least", desc := "(LDomainLinks$Store;I)I" } : Jvm.MethodName)) ∈ lw_tbl := lw_at lw_m2 191 rfl
theorem q541 : (Jvm.Cond.instanceMethod ({ cls := "DomainLinks$Linear", name := "least", desc := "(LDomainLinks$Store;I)I" } : Jvm.MethodName)) ∈ lw_all := lw_g (lw_at lw_m2 192 rfl) rfl
theorem q542 : (Jvm.Cond.instantiable "DomainLinks$Linear" (8 : Nat)) ∈ lw_all := lw_g (lw_at lw_m2 193 rfl) rfl
theorem q543 : (Jvm.Cond.code ({ cls := "DomainLinks$Linear", name := "least", desc := "(LDomainLinks$Store;I)I" } : Jvm.MethodName) prog_8_method_4_code (3 : Nat) (Option.some Jvm.ClassFile.FieldType.int)) ∈ lw_all := lw_g (lw_at lw_m2 194 rfl) rfl
theorem q544 : (Jvm.Cond.methodLink "DomainLinks$Linear" (64 : Nat) ({ cls := "DomainLinks$Linear", name := "low", desc := "(LDomainLinks$Store;I)I" } : Jvm.MethodName)) ∈ lw_all := lw_g (lw_at lw_m2 195 rfl) rfl
theorem q545 : (Jvm.Cond.privateMethod ({ cls := "DomainLinks$Linear", name := "low", desc := "(LDomainLinks$Store;I)I" } : Jvm.MethodName)) ∈ lw_tbl := lw_at lw_m2 196 rfl
theorem q546 : (Jvm.Cond.instanceMethod ({ cls := "DomainLinks$Linear", name := "low", desc := "(LDomainLinks$Store;I)I" } : Jvm.MethodName)) ∈ lw_all := lw_g (lw_at lw_m2 197 rfl) rfl
theorem q547 : (Jvm.Cond.code ({ cls := "DomainLinks$Linear", name := "low", desc := "(LDomainLinks$Store;I)I" } : Jvm.MethodName) prog_8_method_2_code (3 : Nat) (Option.some Jvm.ClassFile.FieldType.int)) ∈ lw_all := lw_g (lw_at lw_m2 198 rfl) rfl
theorem q548 : (Jvm.Cond.methodLink "DomainLinks$Linear" (50 : Nat) ({ cls := "DomainLinks$Linear", name := "domain", desc := "(LDomainLinks$Store;I)I" } : Jvm.MethodName)) ∈ lw_all := lw_g (lw_at lw_m2 199 rfl) rfl
theorem q549 : (Jvm.Cond.sameMethod "DomainLinks$Linear" "DomainLinks$Constraint" "domain" "(LDomainLinks$Store;I)I") ∈ lw_all := lw_g (lw_at lw_m2 200 rfl) rfl
theorem q550 : (Jvm.Cond.selects "DomainLinks$Linear" ({ cls := "DomainLinks$Linear", name := "domain", desc := "(LDomainLinks$Store;I)I" } : Jvm.MethodName) ({ cls := "DomainLinks$Constraint", name := "domain", desc := "(LDomainLinks$Store;I)I" } : Jvm.MethodName)) ∈ lw_all := lw_g (lw_at lw_m2 201 rfl) rfl
theorem q551 : (Jvm.Cond.methodLinkNest "DomainLinks$Linear" (54 : Nat) ({ cls := "DomainLinks", name := "least", desc := "(I)I" } : Jvm.MethodName) "DomainLinks") ∈ lw_tbl := lw_at lw_m2 202 rfl
theorem q558 : (Jvm.Cond.methodLink "DomainLinks$Linear" (67 : Nat) ({ cls := "DomainLinks$Linear", name := "high", desc := "(LDomainLinks$Store;I)I" } : Jvm.MethodName)) ∈ lw_all := lw_g (lw_at lw_m2 209 rfl) rfl
theorem q559 : (Jvm.Cond.privateMethod ({ cls := "DomainLinks$Linear", name := "high", desc := "(LDomainLinks$Store;I)I" } : Jvm.MethodName)) ∈ lw_tbl := lw_at lw_m2 210 rfl
theorem q560 : (Jvm.Cond.instanceMethod ({ cls := "DomainLinks$Linear", name := "high", desc := "(LDomainLinks$Store;I)I" } : Jvm.MethodName)) ∈ lw_all := lw_g (lw_at lw_m2 211 rfl) rfl
theorem q561 : (Jvm.Cond.code ({ cls := "DomainLinks$Linear", name := "high", desc := "(LDomainLinks$Store;I)I" } : Jvm.MethodName) prog_8_method_3_code (3 : Nat) (Option.some Jvm.ClassFile.FieldType.int)) ∈ lw_all := lw_g (lw_at lw_m2 212 rfl) rfl
theorem q562 : (Jvm.Cond.methodLinkNest "DomainLinks$Linear" (61 : Nat) ({ cls := "DomainLinks", name := "greatest", desc := "(I)I" } : Jvm.MethodName) "DomainLinks") ∈ lw_tbl := lw_at lw_m2 213 rfl
theorem q568 : (Jvm.Cond.methodLink "DomainLinks$Linear" (72 : Nat) ({ cls := "DomainLinks$Linear", name := "greatest", desc := "(LDomainLinks$Store;I)I" } : Jvm.MethodName)) ∈ lw_all := lw_g (lw_at lw_m2 219 rfl) rfl
theorem q569 : (Jvm.Cond.privateMethod ({ cls := "DomainLinks$Linear", name := "greatest", desc := "(LDomainLinks$Store;I)I" } : Jvm.MethodName)) ∈ lw_tbl := lw_at lw_m2 220 rfl
theorem q570 : (Jvm.Cond.instanceMethod ({ cls := "DomainLinks$Linear", name := "greatest", desc := "(LDomainLinks$Store;I)I" } : Jvm.MethodName)) ∈ lw_all := lw_g (lw_at lw_m2 221 rfl) rfl
theorem q571 : (Jvm.Cond.code ({ cls := "DomainLinks$Linear", name := "greatest", desc := "(LDomainLinks$Store;I)I" } : Jvm.MethodName) prog_8_method_5_code (3 : Nat) (Option.some Jvm.ClassFile.FieldType.int)) ∈ lw_all := lw_g (lw_at lw_m2 222 rfl) rfl
theorem q572 : (Jvm.Cond.methodLink "DomainLinks$Linear" (74 : Nat) ({ cls := "DomainLinks$Linear", name := "keepAt", desc := "(LDomainLinks$Store;III)V" } : Jvm.MethodName)) ∈ lw_all := lw_g (lw_at lw_m2 223 rfl) rfl
theorem q573 : (Jvm.Cond.privateMethod ({ cls := "DomainLinks$Linear", name := "keepAt", desc := "(LDomainLinks$Store;III)V" } : Jvm.MethodName)) ∈ lw_tbl := lw_at lw_m2 224 rfl
theorem q574 : (Jvm.Cond.instanceMethod ({ cls := "DomainLinks$Linear", name := "keepAt", desc := "(LDomainLinks$Store;III)V" } : Jvm.MethodName)) ∈ lw_all := lw_g (lw_at lw_m2 225 rfl) rfl
theorem q575 : (Jvm.Cond.code ({ cls := "DomainLinks$Linear", name := "keepAt", desc := "(LDomainLinks$Store;III)V" } : Jvm.MethodName) prog_8_method_8_code (6 : Nat) (Option.none : Option Jvm.ClassFile.FieldType)) ∈ lw_all := lw_g (lw_at lw_m2 226 rfl) rfl
theorem q576 : (Jvm.Cond.methodLink "DomainLinks$Linear" (80 : Nat) ({ cls := "DomainLinks$Linear", name := "agrees", desc := "(III)Z" } : Jvm.MethodName)) ∈ lw_all := lw_g (lw_at lw_m2 227 rfl) rfl
theorem q577 : (Jvm.Cond.privateMethod ({ cls := "DomainLinks$Linear", name := "agrees", desc := "(III)Z" } : Jvm.MethodName)) ∈ lw_tbl := lw_at lw_m2 228 rfl
theorem q578 : (Jvm.Cond.instanceMethod ({ cls := "DomainLinks$Linear", name := "agrees", desc := "(III)Z" } : Jvm.MethodName)) ∈ lw_all := lw_g (lw_at lw_m2 229 rfl) rfl
theorem q579 : (Jvm.Cond.code ({ cls := "DomainLinks$Linear", name := "agrees", desc := "(III)Z" } : Jvm.MethodName) prog_8_method_6_code (4 : Nat) (Option.some Jvm.ClassFile.FieldType.boolean)) ∈ lw_all := lw_g (lw_at lw_m2 230 rfl) rfl
theorem q580 : (Jvm.Cond.fieldLinkNest "DomainLinks$Linear" (87 : Nat) "DomainLinks" "GREATEST_VALUES" "[I" "DomainLinks") ∈ lw_tbl := lw_at lw_m2 231 rfl
theorem q849 : (Jvm.Cond.selects "DomainLinks$Linear" ({ cls := "java/lang/Object", name := "getClass", desc := "()Ljava/lang/Class;" } : Jvm.MethodName) ({ cls := "java/lang/Object", name := "getClass", desc := "()Ljava/lang/Class;" } : Jvm.MethodName)) ∈ lw_all := lw_g (lw_at lw_m4 20 rfl) rfl
theorem q1062 : (Jvm.Cond.instanceMethod ({ cls := "DomainLinks$Linear", name := "<init>", desc := "(Ljava/util/List;Ljava/util/List;[ZZI)V" } : Jvm.MethodName)) ∈ lw_all := lw_g (lw_at lw_m4 233 rfl) rfl
theorem q1063 : (Jvm.Cond.code ({ cls := "DomainLinks$Linear", name := "<init>", desc := "(Ljava/util/List;Ljava/util/List;[ZZI)V" } : Jvm.MethodName) prog_8_method_1_code (7 : Nat) (Option.none : Option Jvm.ClassFile.FieldType)) ∈ lw_all := lw_g (lw_at lw_m4 234 rfl) rfl
theorem q1064 : (Jvm.Cond.methodLink "DomainLinks$Linear" (3 : Nat) ({ cls := "DomainLinks$Constraint", name := "<init>", desc := "(Ljava/util/List;)V" } : Jvm.MethodName)) ∈ lw_all := lw_g (lw_at lw_m4 235 rfl) rfl
theorem q1074 : (Jvm.Cond.interfaceEntry "DomainLinks$Linear" (31 : Nat)) ∈ lw_tbl := lw_at lw_m5 5 rfl
theorem q1075 : (Jvm.Cond.methodLink "DomainLinks$Linear" (31 : Nat) ({ cls := "java/util/List", name := "get", desc := "(I)Ljava/lang/Object;" } : Jvm.MethodName)) ∈ lw_all := lw_g (lw_at lw_m5 6 rfl) rfl
theorem q1076 : (Jvm.Cond.classLink "DomainLinks$Linear" (37 : Nat) "java/lang/Integer") ∈ lw_all := lw_g (lw_at lw_m5 7 rfl) rfl
theorem q1077 : (Jvm.Cond.methodLink "DomainLinks$Linear" (39 : Nat) ({ cls := "java/lang/Integer", name := "intValue", desc := "()I" } : Jvm.MethodName)) ∈ lw_all := lw_g (lw_at lw_m5 8 rfl) rfl
theorem q1078 : (Jvm.Cond.fieldLink "DomainLinks$Linear" (27 : Nat) "DomainLinks$Linear" "factors" "[I") ∈ lw_all := lw_g (lw_at lw_m5 9 rfl) rfl
theorem q1079 : (Jvm.Cond.fieldLink "DomainLinks$Linear" (9 : Nat) "DomainLinks$Linear" "areRatios" "[Z") ∈ lw_all := lw_g (lw_at lw_m5 10 rfl) rfl
theorem q1080 : (Jvm.Cond.fieldLink "DomainLinks$Linear" (15 : Nat) "DomainLinks$Linear" "isJust" "Z") ∈ lw_all := lw_g (lw_at lw_m5 11 rfl) rfl
theorem q1081 : (Jvm.Cond.fieldLink "DomainLinks$Linear" (19 : Nat) "DomainLinks$Linear" "limit" "I") ∈ lw_all := lw_g (lw_at lw_m5 12 rfl) rfl
theorem q1083 : (Jvm.Cond.fieldLink "DomainLinks$Linear" (47 : Nat) "DomainLinks$Linear" "places" "[I") ∈ lw_all := lw_g (lw_at lw_m5 14 rfl) rfl
theorem q1084 : (Jvm.Cond.sameField "DomainLinks$Linear" "DomainLinks$Constraint" "places" "[I") ∈ lw_all := lw_g (lw_at lw_m5 15 rfl) rfl
theorem q1101 : (Jvm.Cond.fieldLink "DomainLinks$Linear" (84 : Nat) "DomainLinks$Linear" "sets" "[I") ∈ lw_all := lw_g (lw_at lw_m5 32 rfl) rfl
theorem q1102 : (Jvm.Cond.sameField "DomainLinks$Linear" "DomainLinks$Constraint" "sets" "[I") ∈ lw_all := lw_g (lw_at lw_m5 33 rfl) rfl
theorem q1105 : (Jvm.Cond.fieldLink "DomainLinks$Linear" (78 : Nat) "DomainLinks$Linear" "lows" "[I") ∈ lw_all := lw_g (lw_at lw_m5 36 rfl) rfl
theorem q1106 : (Jvm.Cond.sameField "DomainLinks$Linear" "DomainLinks$Constraint" "lows" "[I") ∈ lw_all := lw_g (lw_at lw_m5 37 rfl) rfl
theorem q1109 : (Jvm.Cond.fieldLink "DomainLinks$Linear" (79 : Nat) "DomainLinks$Linear" "highs" "[I") ∈ lw_all := lw_g (lw_at lw_m5 40 rfl) rfl
theorem q1110 : (Jvm.Cond.sameField "DomainLinks$Linear" "DomainLinks$Constraint" "highs" "[I") ∈ lw_all := lw_g (lw_at lw_m5 41 rfl) rfl
theorem q1112 : (Jvm.Cond.laysFinal "DomainLinks$Linear" "DomainLinks$Linear" "factors" "[I") ∈ lw_all := lw_g (lw_at lw_m5 43 rfl) rfl
theorem q1113 : (Jvm.Cond.soleField "DomainLinks$Linear" "factors") ∈ lw_all := lw_g (lw_at lw_m5 44 rfl) rfl
theorem q1114 : (Jvm.Cond.laysFinal "DomainLinks$Linear" "DomainLinks$Linear" "areRatios" "[Z") ∈ lw_all := lw_g (lw_at lw_m5 45 rfl) rfl
theorem q1115 : (Jvm.Cond.soleField "DomainLinks$Linear" "areRatios") ∈ lw_all := lw_g (lw_at lw_m5 46 rfl) rfl
theorem q1116 : (Jvm.Cond.laysFinal "DomainLinks$Linear" "DomainLinks$Linear" "isJust" "Z") ∈ lw_all := lw_g (lw_at lw_m5 47 rfl) rfl
theorem q1117 : (Jvm.Cond.soleField "DomainLinks$Linear" "isJust") ∈ lw_all := lw_g (lw_at lw_m5 48 rfl) rfl
theorem q1118 : (Jvm.Cond.laysFinal "DomainLinks$Linear" "DomainLinks$Linear" "limit" "I") ∈ lw_all := lw_g (lw_at lw_m5 49 rfl) rfl
theorem q1119 : (Jvm.Cond.soleField "DomainLinks$Linear" "limit") ∈ lw_all := lw_g (lw_at lw_m5 50 rfl) rfl
theorem q1120 : (Jvm.Cond.laysFinal "DomainLinks$Linear" "DomainLinks$Constraint" "places" "[I") ∈ lw_all := lw_g (lw_at lw_m5 51 rfl) rfl
theorem q1122 : (Jvm.Cond.laysFinal "DomainLinks$Linear" "DomainLinks$Constraint" "sets" "[I") ∈ lw_all := lw_g (lw_at lw_m5 53 rfl) rfl
theorem q1124 : (Jvm.Cond.laysFinal "DomainLinks$Linear" "DomainLinks$Constraint" "lows" "[I") ∈ lw_all := lw_g (lw_at lw_m5 55 rfl) rfl
theorem q1126 : (Jvm.Cond.laysFinal "DomainLinks$Linear" "DomainLinks$Constraint" "highs" "[I") ∈ lw_all := lw_g (lw_at lw_m5 57 rfl) rfl
theorem q1128 : (Jvm.Cond.superclass "DomainLinks$Linear" "DomainLinks$Constraint") ∈ lw_all := lw_g (lw_at lw_m5 59 rfl) rfl
theorem q2436 : (Jvm.Cond.selects "DomainLinks$Linear" ({ cls := "DomainLinks$Constraint", name := "size", desc := "()I" } : Jvm.MethodName) ({ cls := "DomainLinks$Constraint", name := "size", desc := "()I" } : Jvm.MethodName)) ∈ lw_all := lw_g (lw_at lw_m10 167 rfl) rfl
theorem q2447 : (Jvm.Cond.castable "DomainLinks$Linear" "DomainLinks$Constraint") ∈ lw_tbl := lw_at lw_m10 178 rfl
theorem q2467 : (Jvm.Cond.castable "DomainLinks$Linear" "java/lang/Object") ∈ lw_tbl := lw_at lw_m10 198 rfl
theorem in_X10 : ∀ w ∈ wsX100, w ∈ lw_all := lw_in wsX100 [1120, 1122, 1124, 1126, 1112, 1114, 1116, 1118] (by decide +kernel) (by decide +kernel)

/-! DomainLinks$Different -/
set_option maxRecDepth 100000
def RX11 : String := "DomainLinks$Different"
def TX11 : u_T := fun k => match k with
  | 0 => ("DomainLinks$Constraint", "places", "[I", true)
  | 1 => ("DomainLinks$Constraint", "sets", "[I", true)
  | 2 => ("DomainLinks$Constraint", "lows", "[I", true)
  | 3 => ("DomainLinks$Constraint", "highs", "[I", true)
  | 4 => ("DomainLinks$Different", "owners", "[I", true)
  | _ => ("DomainLinks$Different", "seen", "I", false)
def tyX11 : Nat → FieldType := fun k => match k with
  | 0 => .array .int
  | 1 => .array .int
  | 2 => .array .int
  | 3 => .array .int
  | 4 => .array .int
  | _ => .int
abbrev wsX110 : List Cond := u_ws RX11 TX11 6
theorem nmX11 : ∀ a, a < 6 → ∀ b, b < 6 → a ≠ b → (TX11 a).2.1 ≠ (TX11 b).2.1 := by decide +kernel
theorem tyX11_ok : ∀ k, k < 6 → parseFieldDescriptor (TX11 k).2.2.1 = some (tyX11 k) := by decide +kernel
abbrev cX11_keep : ByteArray := prog_6_method_4_code
def yX11_keep : MethodName := ⟨RX11, "keep", "(LDomainLinks$Store;)V"⟩
abbrev cX11_agrees : ByteArray := prog_6_method_3_code
def yX11_agrees : MethodName := ⟨RX11, "agrees", "(LDomainLinks$Store;II)Z"⟩
abbrev cX11_findFor : ByteArray := prog_6_method_2_code
def yX11_findFor : MethodName := ⟨RX11, "findFor", "(LDomainLinks$Store;II)Z"⟩
abbrev cX11_init : ByteArray := prog_6_method_1_code
def yX11_init : MethodName := ⟨RX11, "<init>", "(Ljava/util/List;)V"⟩
theorem q141 : (Jvm.Cond.initialized "DomainLinks$Different") ∈ lw_all := lw_g (lw_at lw_m1 32 rfl) rfl
theorem q497 : (Jvm.Cond.selects "DomainLinks$Different" ({ cls := "DomainLinks$Constraint", name := "keep", desc := "(LDomainLinks$Store;)V" } : Jvm.MethodName) ({ cls := "DomainLinks$Different", name := "keep", desc := "(LDomainLinks$Store;)V" } : Jvm.MethodName)) ∈ lw_all := lw_g (lw_at lw_m2 148 rfl) rfl
theorem q498 : (Jvm.Cond.instanceMethod ({ cls := "DomainLinks$Different", name := "keep", desc := "(LDomainLinks$Store;)V" } : Jvm.MethodName)) ∈ lw_all := lw_g (lw_at lw_m2 149 rfl) rfl
theorem q499 : (Jvm.Cond.code ({ cls := "DomainLinks$Different", name := "keep", desc := "(LDomainLinks$Store;)V" } : Jvm.MethodName) prog_6_method_4_code (5 : Nat) (Option.none : Option Jvm.ClassFile.FieldType)) ∈ lw_all := lw_g (lw_at lw_m2 150 rfl) rfl
theorem q500 : (Jvm.Cond.methodLink "DomainLinks$Different" (34 : Nat) ({ cls := "DomainLinks$Different", name := "size", desc := "()I" } : Jvm.MethodName)) ∈ lw_all := lw_g (lw_at lw_m2 151 rfl) rfl
theorem q501 : (Jvm.Cond.sameMethod "DomainLinks$Different" "DomainLinks$Constraint" "size" "()I") ∈ lw_all := lw_g (lw_at lw_m2 152 rfl) rfl
theorem q502 : (Jvm.Cond.selects "DomainLinks$Different" ({ cls := "DomainLinks$Different", name := "size", desc := "()I" } : Jvm.MethodName) ({ cls := "DomainLinks$Constraint", name := "size", desc := "()I" } : Jvm.MethodName)) ∈ lw_all := lw_g (lw_at lw_m2 153 rfl) rfl
theorem q503 : (Jvm.Cond.fieldLinkNest "DomainLinks$Different" (19 : Nat) "DomainLinks" "GREATEST_VALUES" "[I" "DomainLinks") ∈ lw_tbl := lw_at lw_m2 154 rfl
theorem q505 : (Jvm.Cond.methodLink "DomainLinks$Different" (15 : Nat) ({ cls := "DomainLinks$Different", name := "domain", desc := "(LDomainLinks$Store;I)I" } : Jvm.MethodName)) ∈ lw_all := lw_g (lw_at lw_m2 156 rfl) rfl
theorem q506 : (Jvm.Cond.sameMethod "DomainLinks$Different" "DomainLinks$Constraint" "domain" "(LDomainLinks$Store;I)I") ∈ lw_all := lw_g (lw_at lw_m2 157 rfl) rfl
theorem q507 : (Jvm.Cond.selects "DomainLinks$Different" ({ cls := "DomainLinks$Different", name := "domain", desc := "(LDomainLinks$Store;I)I" } : Jvm.MethodName) ({ cls := "DomainLinks$Constraint", name := "domain", desc := "(LDomainLinks$Store;I)I" } : Jvm.MethodName)) ∈ lw_all := lw_g (lw_at lw_m2 158 rfl) rfl
theorem q508 : (Jvm.Cond.methodLinkNest "DomainLinks$Different" (26 : Nat) ({ cls := "DomainLinks", name := "has", desc := "(II)Z" } : Jvm.MethodName) "DomainLinks") ∈ lw_tbl := lw_at lw_m2 159 rfl
theorem q509 : (Jvm.Cond.methodLink "DomainLinks$Different" (41 : Nat) ({ cls := "DomainLinks$Different", name := "agrees", desc := "(LDomainLinks$Store;II)Z" } : Jvm.MethodName)) ∈ lw_all := lw_g (lw_at lw_m2 160 rfl) rfl
theorem q510 : (Jvm.Cond.privateMethod ({ cls := "DomainLinks$Different", name := "agrees", desc := "(LDomainLinks$Store;II)Z" } : Jvm.MethodName)) ∈ lw_tbl := lw_at lw_m2 161 rfl
theorem q511 : (Jvm.Cond.instanceMethod ({ cls := "DomainLinks$Different", name := "agrees", desc := "(LDomainLinks$Store;II)Z" } : Jvm.MethodName)) ∈ lw_all := lw_g (lw_at lw_m2 162 rfl) rfl
theorem q512 : (Jvm.Cond.instantiable "DomainLinks$Different" (6 : Nat)) ∈ lw_all := lw_g (lw_at lw_m2 163 rfl) rfl
theorem q513 : (Jvm.Cond.code ({ cls := "DomainLinks$Different", name := "agrees", desc := "(LDomainLinks$Store;II)Z" } : Jvm.MethodName) prog_6_method_3_code (6 : Nat) (Option.some Jvm.ClassFile.FieldType.boolean)) ∈ lw_all := lw_g (lw_at lw_m2 164 rfl) rfl
theorem q514 : (Jvm.Cond.methodLink "DomainLinks$Different" (30 : Nat) ({ cls := "DomainLinks$Different", name := "findFor", desc := "(LDomainLinks$Store;II)Z" } : Jvm.MethodName)) ∈ lw_all := lw_g (lw_at lw_m2 165 rfl) rfl
theorem q515 : (Jvm.Cond.privateMethod ({ cls := "DomainLinks$Different", name := "findFor", desc := "(LDomainLinks$Store;II)Z" } : Jvm.MethodName)) ∈ lw_tbl := lw_at lw_m2 166 rfl
theorem q516 : (Jvm.Cond.instanceMethod ({ cls := "DomainLinks$Different", name := "findFor", desc := "(LDomainLinks$Store;II)Z" } : Jvm.MethodName)) ∈ lw_all := lw_g (lw_at lw_m2 167 rfl) rfl
theorem q517 : (Jvm.Cond.code ({ cls := "DomainLinks$Different", name := "findFor", desc := "(LDomainLinks$Store;II)Z" } : Jvm.MethodName) prog_6_method_2_code (6 : Nat) (Option.some Jvm.ClassFile.FieldType.boolean)) ∈ lw_all := lw_g (lw_at lw_m2 168 rfl) rfl
theorem q847 : (Jvm.Cond.selects "DomainLinks$Different" ({ cls := "java/lang/Object", name := "getClass", desc := "()Ljava/lang/Class;" } : Jvm.MethodName) ({ cls := "java/lang/Object", name := "getClass", desc := "()Ljava/lang/Class;" } : Jvm.MethodName)) ∈ lw_all := lw_g (lw_at lw_m4 18 rfl) rfl
theorem q1099 : (Jvm.Cond.fieldLink "DomainLinks$Different" (38 : Nat) "DomainLinks$Different" "sets" "[I") ∈ lw_all := lw_g (lw_at lw_m5 30 rfl) rfl
theorem q1100 : (Jvm.Cond.sameField "DomainLinks$Different" "DomainLinks$Constraint" "sets" "[I") ∈ lw_all := lw_g (lw_at lw_m5 31 rfl) rfl
theorem q1150 : (Jvm.Cond.instanceMethod ({ cls := "DomainLinks$Different", name := "<init>", desc := "(Ljava/util/List;)V" } : Jvm.MethodName)) ∈ lw_all := lw_g (lw_at lw_m5 81 rfl) rfl
theorem q1151 : (Jvm.Cond.code ({ cls := "DomainLinks$Different", name := "<init>", desc := "(Ljava/util/List;)V" } : Jvm.MethodName) prog_6_method_1_code (2 : Nat) (Option.none : Option Jvm.ClassFile.FieldType)) ∈ lw_all := lw_g (lw_at lw_m5 82 rfl) rfl
theorem q1152 : (Jvm.Cond.methodLink "DomainLinks$Different" (3 : Nat) ({ cls := "DomainLinks$Constraint", name := "<init>", desc := "(Ljava/util/List;)V" } : Jvm.MethodName)) ∈ lw_all := lw_g (lw_at lw_m5 83 rfl) rfl
theorem q1153 : (Jvm.Cond.fieldLink "DomainLinks$Different" (9 : Nat) "DomainLinks$Different" "owners" "[I") ∈ lw_all := lw_g (lw_at lw_m5 84 rfl) rfl
theorem q1154 : (Jvm.Cond.fieldLink "DomainLinks$Different" (22 : Nat) "DomainLinks$Different" "seen" "I") ∈ lw_all := lw_g (lw_at lw_m5 85 rfl) rfl
theorem q1155 : (Jvm.Cond.laysFinal "DomainLinks$Different" "DomainLinks$Different" "owners" "[I") ∈ lw_all := lw_g (lw_at lw_m5 86 rfl) rfl
theorem q1156 : (Jvm.Cond.soleField "DomainLinks$Different" "owners") ∈ lw_all := lw_g (lw_at lw_m5 87 rfl) rfl
theorem q1157 : (Jvm.Cond.lays "DomainLinks$Different" "DomainLinks$Different" "seen" "I") ∈ lw_all := lw_g (lw_at lw_m5 88 rfl) rfl
theorem q1158 : (Jvm.Cond.soleField "DomainLinks$Different" "seen") ∈ lw_all := lw_g (lw_at lw_m5 89 rfl) rfl
theorem q1159 : (Jvm.Cond.laysFinal "DomainLinks$Different" "DomainLinks$Constraint" "places" "[I") ∈ lw_all := lw_g (lw_at lw_m5 90 rfl) rfl
theorem q1160 : (Jvm.Cond.laysFinal "DomainLinks$Different" "DomainLinks$Constraint" "sets" "[I") ∈ lw_all := lw_g (lw_at lw_m5 91 rfl) rfl
theorem q1161 : (Jvm.Cond.laysFinal "DomainLinks$Different" "DomainLinks$Constraint" "lows" "[I") ∈ lw_all := lw_g (lw_at lw_m5 92 rfl) rfl
theorem q1162 : (Jvm.Cond.laysFinal "DomainLinks$Different" "DomainLinks$Constraint" "highs" "[I") ∈ lw_all := lw_g (lw_at lw_m5 93 rfl) rfl
theorem q1163 : (Jvm.Cond.superclass "DomainLinks$Different" "DomainLinks$Constraint") ∈ lw_all := lw_g (lw_at lw_m5 94 rfl) rfl
theorem q2434 : (Jvm.Cond.selects "DomainLinks$Different" ({ cls := "DomainLinks$Constraint", name := "size", desc := "()I" } : Jvm.MethodName) ({ cls := "DomainLinks$Constraint", name := "size", desc := "()I" } : Jvm.MethodName)) ∈ lw_all := lw_g (lw_at lw_m10 165 rfl) rfl
theorem q2445 : (Jvm.Cond.castable "DomainLinks$Different" "DomainLinks$Constraint") ∈ lw_tbl := lw_at lw_m10 176 rfl
theorem q2468 : (Jvm.Cond.castable "DomainLinks$Different" "java/lang/Object") ∈ lw_tbl := lw_at lw_m10 199 rfl
theorem in_X11 : ∀ w ∈ wsX110, w ∈ lw_all := lw_in wsX110 [1159, 1160, 1161, 1162, 1155, 1157] (by decide +kernel) (by decide +kernel)

/-! DomainLinks$Order -/
set_option maxRecDepth 100000
def RX12 : String := "DomainLinks$Order"
def TX12 : u_T := fun k => match k with
  | 0 => ("DomainLinks$Constraint", "places", "[I", true)
  | 1 => ("DomainLinks$Constraint", "sets", "[I", true)
  | 2 => ("DomainLinks$Constraint", "lows", "[I", true)
  | _ => ("DomainLinks$Constraint", "highs", "[I", true)
def tyX12 : Nat → FieldType := fun k => match k with
  | 0 => .array .int
  | 1 => .array .int
  | 2 => .array .int
  | _ => .array .int
abbrev wsX120 : List Cond := u_ws RX12 TX12 4
theorem nmX12 : ∀ a, a < 4 → ∀ b, b < 4 → a ≠ b → (TX12 a).2.1 ≠ (TX12 b).2.1 := by decide +kernel
theorem tyX12_ok : ∀ k, k < 4 → parseFieldDescriptor (TX12 k).2.2.1 = some (tyX12 k) := by decide +kernel
abbrev cX12_keep : ByteArray := prog_11_method_2_code
def yX12_keep : MethodName := ⟨RX12, "keep", "(LDomainLinks$Store;)V"⟩
abbrev cX12_init : ByteArray := prog_11_method_1_code
def yX12_init : MethodName := ⟨RX12, "<init>", "(Ljava/util/List;)V"⟩
theorem q142 : (Jvm.Cond.initialized "DomainLinks$Order") ∈ lw_all := lw_g (lw_at lw_m1 33 rfl) rfl
theorem q581 : (Jvm.Cond.selects "DomainLinks$Order" ({ cls := "DomainLinks$Constraint", name := "keep", desc := "(LDomainLinks$Store;)V" } : Jvm.MethodName) ({ cls := "DomainLinks$Order", name := "keep", desc := "(LDomainLinks$Store;)V" } : Jvm.MethodName)) ∈ lw_all := lw_g (lw_at lw_m2 232 rfl) rfl
theorem q582 : (Jvm.Cond.instanceMethod ({ cls := "DomainLinks$Order", name := "keep", desc := "(LDomainLinks$Store;)V" } : Jvm.MethodName)) ∈ lw_all := lw_g (lw_at lw_m2 233 rfl) rfl
theorem q583 : (Jvm.Cond.code ({ cls := "DomainLinks$Order", name := "keep", desc := "(LDomainLinks$Store;)V" } : Jvm.MethodName) prog_11_method_2_code (6 : Nat) (Option.none : Option Jvm.ClassFile.FieldType)) ∈ lw_all := lw_g (lw_at lw_m2 234 rfl) rfl
theorem q584 : (Jvm.Cond.methodLink "DomainLinks$Order" (9 : Nat) ({ cls := "DomainLinks$Order", name := "size", desc := "()I" } : Jvm.MethodName)) ∈ lw_all := lw_g (lw_at lw_m2 235 rfl) rfl
theorem q585 : (Jvm.Cond.sameMethod "DomainLinks$Order" "DomainLinks$Constraint" "size" "()I") ∈ lw_all := lw_g (lw_at lw_m2 236 rfl) rfl
theorem q586 : (Jvm.Cond.selects "DomainLinks$Order" ({ cls := "DomainLinks$Order", name := "size", desc := "()I" } : Jvm.MethodName) ({ cls := "DomainLinks$Constraint", name := "size", desc := "()I" } : Jvm.MethodName)) ∈ lw_all := lw_g (lw_at lw_m2 237 rfl) rfl
theorem q587 : (Jvm.Cond.methodLink "DomainLinks$Order" (19 : Nat) ({ cls := "DomainLinks$Order", name := "domain", desc := "(LDomainLinks$Store;I)I" } : Jvm.MethodName)) ∈ lw_all := lw_g (lw_at lw_m2 238 rfl) rfl
theorem q588 : (Jvm.Cond.sameMethod "DomainLinks$Order" "DomainLinks$Constraint" "domain" "(LDomainLinks$Store;I)I") ∈ lw_all := lw_g (lw_at lw_m2 239 rfl) rfl
theorem q589 : (Jvm.Cond.selects "DomainLinks$Order" ({ cls := "DomainLinks$Order", name := "domain", desc := "(LDomainLinks$Store;I)I" } : Jvm.MethodName) ({ cls := "DomainLinks$Constraint", name := "domain", desc := "(LDomainLinks$Store;I)I" } : Jvm.MethodName)) ∈ lw_all := lw_g (lw_at lw_m3 0 rfl) rfl
theorem q590 : (Jvm.Cond.methodLinkNest "DomainLinks$Order" (23 : Nat) ({ cls := "DomainLinks", name := "least", desc := "(I)I" } : Jvm.MethodName) "DomainLinks") ∈ lw_tbl := lw_at lw_m3 1 rfl
theorem q591 : (Jvm.Cond.methodLinkNest "DomainLinks$Order" (27 : Nat) ({ cls := "DomainLinks", name := "greatest", desc := "(I)I" } : Jvm.MethodName) "DomainLinks") ∈ lw_tbl := lw_at lw_m3 2 rfl
theorem q852 : (Jvm.Cond.selects "DomainLinks$Order" ({ cls := "java/lang/Object", name := "getClass", desc := "()Ljava/lang/Class;" } : Jvm.MethodName) ({ cls := "java/lang/Object", name := "getClass", desc := "()Ljava/lang/Class;" } : Jvm.MethodName)) ∈ lw_all := lw_g (lw_at lw_m4 23 rfl) rfl
theorem q1087 : (Jvm.Cond.fieldLink "DomainLinks$Order" (15 : Nat) "DomainLinks$Order" "sets" "[I") ∈ lw_all := lw_g (lw_at lw_m5 18 rfl) rfl
theorem q1088 : (Jvm.Cond.sameField "DomainLinks$Order" "DomainLinks$Constraint" "sets" "[I") ∈ lw_all := lw_g (lw_at lw_m5 19 rfl) rfl
theorem q1172 : (Jvm.Cond.instantiable "DomainLinks$Order" (4 : Nat)) ∈ lw_all := lw_g (lw_at lw_m5 103 rfl) rfl
theorem q1174 : (Jvm.Cond.instanceMethod ({ cls := "DomainLinks$Order", name := "<init>", desc := "(Ljava/util/List;)V" } : Jvm.MethodName)) ∈ lw_all := lw_g (lw_at lw_m5 105 rfl) rfl
theorem q1175 : (Jvm.Cond.code ({ cls := "DomainLinks$Order", name := "<init>", desc := "(Ljava/util/List;)V" } : Jvm.MethodName) prog_11_method_1_code (2 : Nat) (Option.none : Option Jvm.ClassFile.FieldType)) ∈ lw_all := lw_g (lw_at lw_m5 106 rfl) rfl
theorem q1176 : (Jvm.Cond.methodLink "DomainLinks$Order" (3 : Nat) ({ cls := "DomainLinks$Constraint", name := "<init>", desc := "(Ljava/util/List;)V" } : Jvm.MethodName)) ∈ lw_all := lw_g (lw_at lw_m5 107 rfl) rfl
theorem q1177 : (Jvm.Cond.laysFinal "DomainLinks$Order" "DomainLinks$Constraint" "places" "[I") ∈ lw_all := lw_g (lw_at lw_m5 108 rfl) rfl
theorem q1178 : (Jvm.Cond.laysFinal "DomainLinks$Order" "DomainLinks$Constraint" "sets" "[I") ∈ lw_all := lw_g (lw_at lw_m5 109 rfl) rfl
theorem q1179 : (Jvm.Cond.laysFinal "DomainLinks$Order" "DomainLinks$Constraint" "lows" "[I") ∈ lw_all := lw_g (lw_at lw_m5 110 rfl) rfl
theorem q1180 : (Jvm.Cond.laysFinal "DomainLinks$Order" "DomainLinks$Constraint" "highs" "[I") ∈ lw_all := lw_g (lw_at lw_m5 111 rfl) rfl
theorem q1181 : (Jvm.Cond.superclass "DomainLinks$Order" "DomainLinks$Constraint") ∈ lw_all := lw_g (lw_at lw_m5 112 rfl) rfl
theorem q2437 : (Jvm.Cond.selects "DomainLinks$Order" ({ cls := "DomainLinks$Constraint", name := "size", desc := "()I" } : Jvm.MethodName) ({ cls := "DomainLinks$Constraint", name := "size", desc := "()I" } : Jvm.MethodName)) ∈ lw_all := lw_g (lw_at lw_m10 168 rfl) rfl
theorem q2448 : (Jvm.Cond.castable "DomainLinks$Order" "DomainLinks$Constraint") ∈ lw_tbl := lw_at lw_m10 179 rfl
theorem q2469 : (Jvm.Cond.castable "DomainLinks$Order" "java/lang/Object") ∈ lw_tbl := lw_at lw_m10 200 rfl
theorem in_X12 : ∀ w ∈ wsX120, w ∈ lw_all := lw_in wsX120 [1177, 1178, 1179, 1180] (by decide +kernel) (by decide +kernel)

/-! DomainLinks$Regular -/
set_option maxRecDepth 100000
def RX13 : String := "DomainLinks$Regular"
def TX13 : u_T := fun k => match k with
  | 0 => ("DomainLinks$Constraint", "places", "[I", true)
  | 1 => ("DomainLinks$Constraint", "sets", "[I", true)
  | 2 => ("DomainLinks$Constraint", "lows", "[I", true)
  | 3 => ("DomainLinks$Constraint", "highs", "[I", true)
  | 4 => ("DomainLinks$Regular", "moves", "Ljava/util/List;", true)
  | 5 => ("DomainLinks$Regular", "finals", "I", true)
  | 6 => ("DomainLinks$Regular", "reached", "[I", true)
  | _ => ("DomainLinks$Regular", "leading", "[I", true)
def tyX13 : Nat → FieldType := fun k => match k with
  | 0 => .array .int
  | 1 => .array .int
  | 2 => .array .int
  | 3 => .array .int
  | 4 => .object "java/util/List"
  | 5 => .int
  | 6 => .array .int
  | _ => .array .int
abbrev wsX130 : List Cond := u_ws RX13 TX13 8
theorem nmX13 : ∀ a, a < 8 → ∀ b, b < 8 → a ≠ b → (TX13 a).2.1 ≠ (TX13 b).2.1 := by decide +kernel
theorem tyX13_ok : ∀ k, k < 8 → parseFieldDescriptor (TX13 k).2.2.1 = some (tyX13 k) := by decide +kernel
abbrev cX13_keep : ByteArray := prog_12_method_2_code
def yX13_keep : MethodName := ⟨RX13, "keep", "(LDomainLinks$Store;)V"⟩
abbrev cX13_init : ByteArray := prog_12_method_1_code
def yX13_init : MethodName := ⟨RX13, "<init>", "(Ljava/util/List;Ljava/util/List;I)V"⟩
theorem q143 : (Jvm.Cond.initialized "DomainLinks$Regular") ∈ lw_all := lw_g (lw_at lw_m1 34 rfl) rfl
theorem q592 : (Jvm.Cond.selects "DomainLinks$Regular" ({ cls := "DomainLinks$Constraint", name := "keep", desc := "(LDomainLinks$Store;)V" } : Jvm.MethodName) ({ cls := "DomainLinks$Regular", name := "keep", desc := "(LDomainLinks$Store;)V" } : Jvm.MethodName)) ∈ lw_all := lw_g (lw_at lw_m3 3 rfl) rfl
theorem q593 : (Jvm.Cond.instanceMethod ({ cls := "DomainLinks$Regular", name := "keep", desc := "(LDomainLinks$Store;)V" } : Jvm.MethodName)) ∈ lw_all := lw_g (lw_at lw_m3 4 rfl) rfl
theorem q594 : (Jvm.Cond.code ({ cls := "DomainLinks$Regular", name := "keep", desc := "(LDomainLinks$Store;)V" } : Jvm.MethodName) prog_12_method_2_code (6 : Nat) (Option.none : Option Jvm.ClassFile.FieldType)) ∈ lw_all := lw_g (lw_at lw_m3 5 rfl) rfl
theorem q595 : (Jvm.Cond.methodLink "DomainLinks$Regular" (26 : Nat) ({ cls := "DomainLinks$Regular", name := "size", desc := "()I" } : Jvm.MethodName)) ∈ lw_all := lw_g (lw_at lw_m3 6 rfl) rfl
theorem q596 : (Jvm.Cond.sameMethod "DomainLinks$Regular" "DomainLinks$Constraint" "size" "()I") ∈ lw_all := lw_g (lw_at lw_m3 7 rfl) rfl
theorem q597 : (Jvm.Cond.selects "DomainLinks$Regular" ({ cls := "DomainLinks$Regular", name := "size", desc := "()I" } : Jvm.MethodName) ({ cls := "DomainLinks$Constraint", name := "size", desc := "()I" } : Jvm.MethodName)) ∈ lw_all := lw_g (lw_at lw_m3 8 rfl) rfl
theorem q598 : (Jvm.Cond.interfaceEntry "DomainLinks$Regular" (30 : Nat)) ∈ lw_tbl := lw_at lw_m3 9 rfl
theorem q599 : (Jvm.Cond.methodLink "DomainLinks$Regular" (30 : Nat) ({ cls := "java/util/List", name := "size", desc := "()I" } : Jvm.MethodName)) ∈ lw_all := lw_g (lw_at lw_m3 10 rfl) rfl
theorem q600 : (Jvm.Cond.interfaceEntry "DomainLinks$Regular" (33 : Nat)) ∈ lw_tbl := lw_at lw_m3 11 rfl
theorem q601 : (Jvm.Cond.methodLink "DomainLinks$Regular" (33 : Nat) ({ cls := "java/util/List", name := "get", desc := "(I)Ljava/lang/Object;" } : Jvm.MethodName)) ∈ lw_all := lw_g (lw_at lw_m3 12 rfl) rfl
theorem q602 : (Jvm.Cond.classLink "DomainLinks$Regular" (37 : Nat) "DomainLinks$Move") ∈ lw_all := lw_g (lw_at lw_m3 13 rfl) rfl
theorem q603 : (Jvm.Cond.methodLink "DomainLinks$Regular" (39 : Nat) ({ cls := "DomainLinks$Move", name := "state", desc := "()I" } : Jvm.MethodName)) ∈ lw_all := lw_g (lw_at lw_m3 14 rfl) rfl
theorem q607 : (Jvm.Cond.methodLinkNest "DomainLinks$Regular" (42 : Nat) ({ cls := "DomainLinks", name := "has", desc := "(II)Z" } : Jvm.MethodName) "DomainLinks") ∈ lw_tbl := lw_at lw_m3 18 rfl
theorem q608 : (Jvm.Cond.methodLink "DomainLinks$Regular" (46 : Nat) ({ cls := "DomainLinks$Regular", name := "domain", desc := "(LDomainLinks$Store;I)I" } : Jvm.MethodName)) ∈ lw_all := lw_g (lw_at lw_m3 19 rfl) rfl
theorem q609 : (Jvm.Cond.sameMethod "DomainLinks$Regular" "DomainLinks$Constraint" "domain" "(LDomainLinks$Store;I)I") ∈ lw_all := lw_g (lw_at lw_m3 20 rfl) rfl
theorem q610 : (Jvm.Cond.selects "DomainLinks$Regular" ({ cls := "DomainLinks$Regular", name := "domain", desc := "(LDomainLinks$Store;I)I" } : Jvm.MethodName) ({ cls := "DomainLinks$Constraint", name := "domain", desc := "(LDomainLinks$Store;I)I" } : Jvm.MethodName)) ∈ lw_all := lw_g (lw_at lw_m3 21 rfl) rfl
theorem q611 : (Jvm.Cond.methodLink "DomainLinks$Regular" (50 : Nat) ({ cls := "DomainLinks$Move", name := "value", desc := "()I" } : Jvm.MethodName)) ∈ lw_all := lw_g (lw_at lw_m3 22 rfl) rfl
theorem q615 : (Jvm.Cond.methodLink "DomainLinks$Regular" (53 : Nat) ({ cls := "DomainLinks$Move", name := "next", desc := "()I" } : Jvm.MethodName)) ∈ lw_all := lw_g (lw_at lw_m3 26 rfl) rfl
theorem q853 : (Jvm.Cond.selects "DomainLinks$Regular" ({ cls := "java/lang/Object", name := "getClass", desc := "()Ljava/lang/Class;" } : Jvm.MethodName) ({ cls := "java/lang/Object", name := "getClass", desc := "()Ljava/lang/Class;" } : Jvm.MethodName)) ∈ lw_all := lw_g (lw_at lw_m4 24 rfl) rfl
theorem q1093 : (Jvm.Cond.fieldLink "DomainLinks$Regular" (56 : Nat) "DomainLinks$Regular" "sets" "[I") ∈ lw_all := lw_g (lw_at lw_m5 24 rfl) rfl
theorem q1094 : (Jvm.Cond.sameField "DomainLinks$Regular" "DomainLinks$Constraint" "sets" "[I") ∈ lw_all := lw_g (lw_at lw_m5 25 rfl) rfl
theorem q1190 : (Jvm.Cond.instantiable "DomainLinks$Regular" (8 : Nat)) ∈ lw_all := lw_g (lw_at lw_m5 121 rfl) rfl
theorem q1192 : (Jvm.Cond.instanceMethod ({ cls := "DomainLinks$Regular", name := "<init>", desc := "(Ljava/util/List;Ljava/util/List;I)V" } : Jvm.MethodName)) ∈ lw_all := lw_g (lw_at lw_m5 123 rfl) rfl
theorem q1193 : (Jvm.Cond.code ({ cls := "DomainLinks$Regular", name := "<init>", desc := "(Ljava/util/List;Ljava/util/List;I)V" } : Jvm.MethodName) prog_12_method_1_code (4 : Nat) (Option.none : Option Jvm.ClassFile.FieldType)) ∈ lw_all := lw_g (lw_at lw_m5 124 rfl) rfl
theorem q1194 : (Jvm.Cond.methodLink "DomainLinks$Regular" (3 : Nat) ({ cls := "DomainLinks$Constraint", name := "<init>", desc := "(Ljava/util/List;)V" } : Jvm.MethodName)) ∈ lw_all := lw_g (lw_at lw_m5 125 rfl) rfl
theorem q1195 : (Jvm.Cond.fieldLink "DomainLinks$Regular" (18 : Nat) "DomainLinks$Regular" "moves" "Ljava/util/List;") ∈ lw_all := lw_g (lw_at lw_m5 126 rfl) rfl
theorem q1196 : (Jvm.Cond.fieldLink "DomainLinks$Regular" (22 : Nat) "DomainLinks$Regular" "finals" "I") ∈ lw_all := lw_g (lw_at lw_m5 127 rfl) rfl
theorem q1197 : (Jvm.Cond.fieldLink "DomainLinks$Regular" (9 : Nat) "DomainLinks$Regular" "reached" "[I") ∈ lw_all := lw_g (lw_at lw_m5 128 rfl) rfl
theorem q1198 : (Jvm.Cond.fieldLink "DomainLinks$Regular" (15 : Nat) "DomainLinks$Regular" "leading" "[I") ∈ lw_all := lw_g (lw_at lw_m5 129 rfl) rfl
theorem q1199 : (Jvm.Cond.laysFinal "DomainLinks$Regular" "DomainLinks$Regular" "moves" "Ljava/util/List;") ∈ lw_all := lw_g (lw_at lw_m5 130 rfl) rfl
theorem q1200 : (Jvm.Cond.soleField "DomainLinks$Regular" "moves") ∈ lw_all := lw_g (lw_at lw_m5 131 rfl) rfl
theorem q1201 : (Jvm.Cond.laysFinal "DomainLinks$Regular" "DomainLinks$Regular" "finals" "I") ∈ lw_all := lw_g (lw_at lw_m5 132 rfl) rfl
theorem q1202 : (Jvm.Cond.soleField "DomainLinks$Regular" "finals") ∈ lw_all := lw_g (lw_at lw_m5 133 rfl) rfl
theorem q1203 : (Jvm.Cond.laysFinal "DomainLinks$Regular" "DomainLinks$Regular" "reached" "[I") ∈ lw_all := lw_g (lw_at lw_m5 134 rfl) rfl
theorem q1204 : (Jvm.Cond.soleField "DomainLinks$Regular" "reached") ∈ lw_all := lw_g (lw_at lw_m5 135 rfl) rfl
theorem q1205 : (Jvm.Cond.laysFinal "DomainLinks$Regular" "DomainLinks$Regular" "leading" "[I") ∈ lw_all := lw_g (lw_at lw_m5 136 rfl) rfl
theorem q1206 : (Jvm.Cond.soleField "DomainLinks$Regular" "leading") ∈ lw_all := lw_g (lw_at lw_m5 137 rfl) rfl
theorem q1207 : (Jvm.Cond.laysFinal "DomainLinks$Regular" "DomainLinks$Constraint" "places" "[I") ∈ lw_all := lw_g (lw_at lw_m5 138 rfl) rfl
theorem q1208 : (Jvm.Cond.laysFinal "DomainLinks$Regular" "DomainLinks$Constraint" "sets" "[I") ∈ lw_all := lw_g (lw_at lw_m5 139 rfl) rfl
theorem q1209 : (Jvm.Cond.laysFinal "DomainLinks$Regular" "DomainLinks$Constraint" "lows" "[I") ∈ lw_all := lw_g (lw_at lw_m5 140 rfl) rfl
theorem q1210 : (Jvm.Cond.laysFinal "DomainLinks$Regular" "DomainLinks$Constraint" "highs" "[I") ∈ lw_all := lw_g (lw_at lw_m5 141 rfl) rfl
theorem q1211 : (Jvm.Cond.superclass "DomainLinks$Regular" "DomainLinks$Constraint") ∈ lw_all := lw_g (lw_at lw_m5 142 rfl) rfl
theorem q2438 : (Jvm.Cond.selects "DomainLinks$Regular" ({ cls := "DomainLinks$Constraint", name := "size", desc := "()I" } : Jvm.MethodName) ({ cls := "DomainLinks$Constraint", name := "size", desc := "()I" } : Jvm.MethodName)) ∈ lw_all := lw_g (lw_at lw_m10 169 rfl) rfl
theorem q2449 : (Jvm.Cond.castable "DomainLinks$Regular" "DomainLinks$Constraint") ∈ lw_tbl := lw_at lw_m10 180 rfl
theorem q2470 : (Jvm.Cond.castable "DomainLinks$Regular" "java/lang/Object") ∈ lw_tbl := lw_at lw_m10 201 rfl
theorem in_X13 : ∀ w ∈ wsX130, w ∈ lw_all := lw_in wsX130 [1207, 1208, 1209, 1210, 1199, 1201, 1203, 1205] (by decide +kernel) (by decide +kernel)

/-! DomainLinks$Element -/
set_option maxRecDepth 100000
def RX14 : String := "DomainLinks$Element"
def TX14 : u_T := fun k => match k with
  | 0 => ("DomainLinks$Constraint", "places", "[I", true)
  | 1 => ("DomainLinks$Constraint", "sets", "[I", true)
  | 2 => ("DomainLinks$Constraint", "lows", "[I", true)
  | _ => ("DomainLinks$Constraint", "highs", "[I", true)
def tyX14 : Nat → FieldType := fun k => match k with
  | 0 => .array .int
  | 1 => .array .int
  | 2 => .array .int
  | _ => .array .int
abbrev wsX140 : List Cond := u_ws RX14 TX14 4
theorem nmX14 : ∀ a, a < 4 → ∀ b, b < 4 → a ≠ b → (TX14 a).2.1 ≠ (TX14 b).2.1 := by decide +kernel
theorem tyX14_ok : ∀ k, k < 4 → parseFieldDescriptor (TX14 k).2.2.1 = some (tyX14 k) := by decide +kernel
abbrev cX14_keep : ByteArray := prog_7_method_3_code
def yX14_keep : MethodName := ⟨RX14, "keep", "(LDomainLinks$Store;)V"⟩
abbrev cX14_canTell : ByteArray := prog_7_method_2_code
def yX14_canTell : MethodName := ⟨RX14, "canTell", "(LDomainLinks$Store;I)Z"⟩
abbrev cX14_init : ByteArray := prog_7_method_1_code
def yX14_init : MethodName := ⟨RX14, "<init>", "(Ljava/util/List;)V"⟩
theorem q144 : (Jvm.Cond.initialized "DomainLinks$Element") ∈ lw_all := lw_g (lw_at lw_m1 35 rfl) rfl
theorem q518 : (Jvm.Cond.selects "DomainLinks$Element" ({ cls := "DomainLinks$Constraint", name := "keep", desc := "(LDomainLinks$Store;)V" } : Jvm.MethodName) ({ cls := "DomainLinks$Element", name := "keep", desc := "(LDomainLinks$Store;)V" } : Jvm.MethodName)) ∈ lw_all := lw_g (lw_at lw_m2 169 rfl) rfl
theorem q519 : (Jvm.Cond.instanceMethod ({ cls := "DomainLinks$Element", name := "keep", desc := "(LDomainLinks$Store;)V" } : Jvm.MethodName)) ∈ lw_all := lw_g (lw_at lw_m2 170 rfl) rfl
theorem q520 : (Jvm.Cond.code ({ cls := "DomainLinks$Element", name := "keep", desc := "(LDomainLinks$Store;)V" } : Jvm.MethodName) prog_7_method_3_code (5 : Nat) (Option.none : Option Jvm.ClassFile.FieldType)) ∈ lw_all := lw_g (lw_at lw_m2 171 rfl) rfl
theorem q521 : (Jvm.Cond.methodLink "DomainLinks$Element" (7 : Nat) ({ cls := "DomainLinks$Element", name := "size", desc := "()I" } : Jvm.MethodName)) ∈ lw_all := lw_g (lw_at lw_m2 172 rfl) rfl
theorem q522 : (Jvm.Cond.sameMethod "DomainLinks$Element" "DomainLinks$Constraint" "size" "()I") ∈ lw_all := lw_g (lw_at lw_m2 173 rfl) rfl
theorem q523 : (Jvm.Cond.selects "DomainLinks$Element" ({ cls := "DomainLinks$Element", name := "size", desc := "()I" } : Jvm.MethodName) ({ cls := "DomainLinks$Constraint", name := "size", desc := "()I" } : Jvm.MethodName)) ∈ lw_all := lw_g (lw_at lw_m2 174 rfl) rfl
theorem q524 : (Jvm.Cond.methodLink "DomainLinks$Element" (27 : Nat) ({ cls := "DomainLinks$Element", name := "canTell", desc := "(LDomainLinks$Store;I)Z" } : Jvm.MethodName)) ∈ lw_all := lw_g (lw_at lw_m2 175 rfl) rfl
theorem q525 : (Jvm.Cond.privateMethod ({ cls := "DomainLinks$Element", name := "canTell", desc := "(LDomainLinks$Store;I)Z" } : Jvm.MethodName)) ∈ lw_tbl := lw_at lw_m2 176 rfl
theorem q526 : (Jvm.Cond.instanceMethod ({ cls := "DomainLinks$Element", name := "canTell", desc := "(LDomainLinks$Store;I)Z" } : Jvm.MethodName)) ∈ lw_all := lw_g (lw_at lw_m2 177 rfl) rfl
theorem q527 : (Jvm.Cond.instantiable "DomainLinks$Element" (4 : Nat)) ∈ lw_all := lw_g (lw_at lw_m2 178 rfl) rfl
theorem q528 : (Jvm.Cond.code ({ cls := "DomainLinks$Element", name := "canTell", desc := "(LDomainLinks$Store;I)Z" } : Jvm.MethodName) prog_7_method_2_code (3 : Nat) (Option.some Jvm.ClassFile.FieldType.boolean)) ∈ lw_all := lw_g (lw_at lw_m2 179 rfl) rfl
theorem q529 : (Jvm.Cond.methodLink "DomainLinks$Element" (13 : Nat) ({ cls := "DomainLinks$Element", name := "domain", desc := "(LDomainLinks$Store;I)I" } : Jvm.MethodName)) ∈ lw_all := lw_g (lw_at lw_m2 180 rfl) rfl
theorem q530 : (Jvm.Cond.sameMethod "DomainLinks$Element" "DomainLinks$Constraint" "domain" "(LDomainLinks$Store;I)I") ∈ lw_all := lw_g (lw_at lw_m2 181 rfl) rfl
theorem q531 : (Jvm.Cond.selects "DomainLinks$Element" ({ cls := "DomainLinks$Element", name := "domain", desc := "(LDomainLinks$Store;I)I" } : Jvm.MethodName) ({ cls := "DomainLinks$Constraint", name := "domain", desc := "(LDomainLinks$Store;I)I" } : Jvm.MethodName)) ∈ lw_all := lw_g (lw_at lw_m2 182 rfl) rfl
theorem q532 : (Jvm.Cond.methodLinkNest "DomainLinks$Element" (17 : Nat) ({ cls := "DomainLinks", name := "has", desc := "(II)Z" } : Jvm.MethodName) "DomainLinks") ∈ lw_tbl := lw_at lw_m2 183 rfl
theorem q848 : (Jvm.Cond.selects "DomainLinks$Element" ({ cls := "java/lang/Object", name := "getClass", desc := "()Ljava/lang/Class;" } : Jvm.MethodName) ({ cls := "java/lang/Object", name := "getClass", desc := "()Ljava/lang/Class;" } : Jvm.MethodName)) ∈ lw_all := lw_g (lw_at lw_m4 19 rfl) rfl
theorem q1095 : (Jvm.Cond.fieldLink "DomainLinks$Element" (23 : Nat) "DomainLinks$Element" "sets" "[I") ∈ lw_all := lw_g (lw_at lw_m5 26 rfl) rfl
theorem q1096 : (Jvm.Cond.sameField "DomainLinks$Element" "DomainLinks$Constraint" "sets" "[I") ∈ lw_all := lw_g (lw_at lw_m5 27 rfl) rfl
theorem q1245 : (Jvm.Cond.instanceMethod ({ cls := "DomainLinks$Element", name := "<init>", desc := "(Ljava/util/List;)V" } : Jvm.MethodName)) ∈ lw_all := lw_g (lw_at lw_m5 176 rfl) rfl
theorem q1246 : (Jvm.Cond.code ({ cls := "DomainLinks$Element", name := "<init>", desc := "(Ljava/util/List;)V" } : Jvm.MethodName) prog_7_method_1_code (2 : Nat) (Option.none : Option Jvm.ClassFile.FieldType)) ∈ lw_all := lw_g (lw_at lw_m5 177 rfl) rfl
theorem q1247 : (Jvm.Cond.methodLink "DomainLinks$Element" (1 : Nat) ({ cls := "DomainLinks$Constraint", name := "<init>", desc := "(Ljava/util/List;)V" } : Jvm.MethodName)) ∈ lw_all := lw_g (lw_at lw_m5 178 rfl) rfl
theorem q1248 : (Jvm.Cond.laysFinal "DomainLinks$Element" "DomainLinks$Constraint" "places" "[I") ∈ lw_all := lw_g (lw_at lw_m5 179 rfl) rfl
theorem q1249 : (Jvm.Cond.laysFinal "DomainLinks$Element" "DomainLinks$Constraint" "sets" "[I") ∈ lw_all := lw_g (lw_at lw_m5 180 rfl) rfl
theorem q1250 : (Jvm.Cond.laysFinal "DomainLinks$Element" "DomainLinks$Constraint" "lows" "[I") ∈ lw_all := lw_g (lw_at lw_m5 181 rfl) rfl
theorem q1251 : (Jvm.Cond.laysFinal "DomainLinks$Element" "DomainLinks$Constraint" "highs" "[I") ∈ lw_all := lw_g (lw_at lw_m5 182 rfl) rfl
theorem q1252 : (Jvm.Cond.superclass "DomainLinks$Element" "DomainLinks$Constraint") ∈ lw_all := lw_g (lw_at lw_m5 183 rfl) rfl
theorem q2435 : (Jvm.Cond.selects "DomainLinks$Element" ({ cls := "DomainLinks$Constraint", name := "size", desc := "()I" } : Jvm.MethodName) ({ cls := "DomainLinks$Constraint", name := "size", desc := "()I" } : Jvm.MethodName)) ∈ lw_all := lw_g (lw_at lw_m10 166 rfl) rfl
theorem q2446 : (Jvm.Cond.castable "DomainLinks$Element" "DomainLinks$Constraint") ∈ lw_tbl := lw_at lw_m10 177 rfl
theorem q2471 : (Jvm.Cond.castable "DomainLinks$Element" "java/lang/Object") ∈ lw_tbl := lw_at lw_m10 202 rfl
theorem in_X14 : ∀ w ∈ wsX140, w ∈ lw_all := lw_in wsX140 [1248, 1249, 1250, 1251] (by decide +kernel) (by decide +kernel)

/-! DomainLinks$Small -/
set_option maxRecDepth 100000
def RX15 : String := "DomainLinks$Small"
def TX15 : u_T := fun k => match k with
  | 0 => ("DomainLinks$Constraint", "places", "[I", true)
  | 1 => ("DomainLinks$Constraint", "sets", "[I", true)
  | 2 => ("DomainLinks$Constraint", "lows", "[I", true)
  | 3 => ("DomainLinks$Constraint", "highs", "[I", true)
  | _ => ("DomainLinks$Small", "relation", "LDomainLinks$Relation;", true)
def tyX15 : Nat → FieldType := fun k => match k with
  | 0 => .array .int
  | 1 => .array .int
  | 2 => .array .int
  | 3 => .array .int
  | _ => .object "DomainLinks$Relation"
abbrev wsX150 : List Cond := u_ws RX15 TX15 5
theorem nmX15 : ∀ a, a < 5 → ∀ b, b < 5 → a ≠ b → (TX15 a).2.1 ≠ (TX15 b).2.1 := by decide +kernel
theorem tyX15_ok : ∀ k, k < 5 → parseFieldDescriptor (TX15 k).2.2.1 = some (tyX15 k) := by decide +kernel
abbrev cX15_keep : ByteArray := prog_15_method_3_code
def yX15_keep : MethodName := ⟨RX15, "keep", "(LDomainLinks$Store;)V"⟩
abbrev cX15_keep_2 : ByteArray := prog_15_method_2_code
def yX15_keep_2 : MethodName := ⟨RX15, "keep", "(III)V"⟩
abbrev cX15_init : ByteArray := prog_15_method_1_code
def yX15_init : MethodName := ⟨RX15, "<init>", "(Ljava/util/List;LDomainLinks$Relation;)V"⟩
theorem q145 : (Jvm.Cond.initialized "DomainLinks$Small") ∈ lw_all := lw_g (lw_at lw_m1 36 rfl) rfl
theorem q619 : (Jvm.Cond.selects "DomainLinks$Small" ({ cls := "DomainLinks$Constraint", name := "keep", desc := "(LDomainLinks$Store;)V" } : Jvm.MethodName) ({ cls := "DomainLinks$Small", name := "keep", desc := "(LDomainLinks$Store;)V" } : Jvm.MethodName)) ∈ lw_all := lw_g (lw_at lw_m3 30 rfl) rfl
theorem q620 : (Jvm.Cond.instanceMethod ({ cls := "DomainLinks$Small", name := "keep", desc := "(LDomainLinks$Store;)V" } : Jvm.MethodName)) ∈ lw_all := lw_g (lw_at lw_m3 31 rfl) rfl
theorem q621 : (Jvm.Cond.code ({ cls := "DomainLinks$Small", name := "keep", desc := "(LDomainLinks$Store;)V" } : Jvm.MethodName) prog_15_method_3_code (6 : Nat) (Option.none : Option Jvm.ClassFile.FieldType)) ∈ lw_all := lw_g (lw_at lw_m3 32 rfl) rfl
theorem q622 : (Jvm.Cond.methodLink "DomainLinks$Small" (25 : Nat) ({ cls := "DomainLinks$Small", name := "size", desc := "()I" } : Jvm.MethodName)) ∈ lw_all := lw_g (lw_at lw_m3 33 rfl) rfl
theorem q623 : (Jvm.Cond.sameMethod "DomainLinks$Small" "DomainLinks$Constraint" "size" "()I") ∈ lw_all := lw_g (lw_at lw_m3 34 rfl) rfl
theorem q624 : (Jvm.Cond.selects "DomainLinks$Small" ({ cls := "DomainLinks$Small", name := "size", desc := "()I" } : Jvm.MethodName) ({ cls := "DomainLinks$Constraint", name := "size", desc := "()I" } : Jvm.MethodName)) ∈ lw_all := lw_g (lw_at lw_m3 35 rfl) rfl
theorem q625 : (Jvm.Cond.methodLink "DomainLinks$Small" (29 : Nat) ({ cls := "DomainLinks$Small", name := "domain", desc := "(LDomainLinks$Store;I)I" } : Jvm.MethodName)) ∈ lw_all := lw_g (lw_at lw_m3 36 rfl) rfl
theorem q626 : (Jvm.Cond.sameMethod "DomainLinks$Small" "DomainLinks$Constraint" "domain" "(LDomainLinks$Store;I)I") ∈ lw_all := lw_g (lw_at lw_m3 37 rfl) rfl
theorem q627 : (Jvm.Cond.selects "DomainLinks$Small" ({ cls := "DomainLinks$Small", name := "domain", desc := "(LDomainLinks$Store;I)I" } : Jvm.MethodName) ({ cls := "DomainLinks$Constraint", name := "domain", desc := "(LDomainLinks$Store;I)I" } : Jvm.MethodName)) ∈ lw_all := lw_g (lw_at lw_m3 38 rfl) rfl
theorem q628 : (Jvm.Cond.methodLinkNest "DomainLinks$Small" (33 : Nat) ({ cls := "DomainLinks", name := "has", desc := "(II)Z" } : Jvm.MethodName) "DomainLinks") ∈ lw_tbl := lw_at lw_m3 39 rfl
theorem q629 : (Jvm.Cond.methodLink "DomainLinks$Small" (37 : Nat) ({ cls := "DomainLinks$Small", name := "keep", desc := "(III)V" } : Jvm.MethodName)) ∈ lw_all := lw_g (lw_at lw_m3 40 rfl) rfl
theorem q630 : (Jvm.Cond.privateMethod ({ cls := "DomainLinks$Small", name := "keep", desc := "(III)V" } : Jvm.MethodName)) ∈ lw_tbl := lw_at lw_m3 41 rfl
theorem q631 : (Jvm.Cond.instanceMethod ({ cls := "DomainLinks$Small", name := "keep", desc := "(III)V" } : Jvm.MethodName)) ∈ lw_all := lw_g (lw_at lw_m3 42 rfl) rfl
theorem q632 : (Jvm.Cond.instantiable "DomainLinks$Small" (5 : Nat)) ∈ lw_all := lw_g (lw_at lw_m3 43 rfl) rfl
theorem q633 : (Jvm.Cond.code ({ cls := "DomainLinks$Small", name := "keep", desc := "(III)V" } : Jvm.MethodName) prog_15_method_2_code (4 : Nat) (Option.none : Option Jvm.ClassFile.FieldType)) ∈ lw_all := lw_g (lw_at lw_m3 44 rfl) rfl
theorem q634 : (Jvm.Cond.interfaceEntry "DomainLinks$Small" (15 : Nat)) ∈ lw_tbl := lw_at lw_m3 45 rfl
theorem q635 : (Jvm.Cond.methodLink "DomainLinks$Small" (15 : Nat) ({ cls := "DomainLinks$Relation", name := "holds", desc := "(III)Z" } : Jvm.MethodName)) ∈ lw_all := lw_g (lw_at lw_m3 46 rfl) rfl
theorem q855 : (Jvm.Cond.selects "DomainLinks$Small" ({ cls := "java/lang/Object", name := "getClass", desc := "()Ljava/lang/Class;" } : Jvm.MethodName) ({ cls := "java/lang/Object", name := "getClass", desc := "()Ljava/lang/Class;" } : Jvm.MethodName)) ∈ lw_all := lw_g (lw_at lw_m4 26 rfl) rfl
theorem q1091 : (Jvm.Cond.fieldLink "DomainLinks$Small" (21 : Nat) "DomainLinks$Small" "sets" "[I") ∈ lw_all := lw_g (lw_at lw_m5 22 rfl) rfl
theorem q1092 : (Jvm.Cond.sameField "DomainLinks$Small" "DomainLinks$Constraint" "sets" "[I") ∈ lw_all := lw_g (lw_at lw_m5 23 rfl) rfl
theorem q1272 : (Jvm.Cond.instanceMethod ({ cls := "DomainLinks$Small", name := "<init>", desc := "(Ljava/util/List;LDomainLinks$Relation;)V" } : Jvm.MethodName)) ∈ lw_all := lw_g (lw_at lw_m5 203 rfl) rfl
theorem q1273 : (Jvm.Cond.code ({ cls := "DomainLinks$Small", name := "<init>", desc := "(Ljava/util/List;LDomainLinks$Relation;)V" } : Jvm.MethodName) prog_15_method_1_code (3 : Nat) (Option.none : Option Jvm.ClassFile.FieldType)) ∈ lw_all := lw_g (lw_at lw_m5 204 rfl) rfl
theorem q1274 : (Jvm.Cond.methodLink "DomainLinks$Small" (3 : Nat) ({ cls := "DomainLinks$Constraint", name := "<init>", desc := "(Ljava/util/List;)V" } : Jvm.MethodName)) ∈ lw_all := lw_g (lw_at lw_m5 205 rfl) rfl
theorem q1275 : (Jvm.Cond.fieldLink "DomainLinks$Small" (9 : Nat) "DomainLinks$Small" "relation" "LDomainLinks$Relation;") ∈ lw_all := lw_g (lw_at lw_m5 206 rfl) rfl
theorem q1276 : (Jvm.Cond.laysFinal "DomainLinks$Small" "DomainLinks$Small" "relation" "LDomainLinks$Relation;") ∈ lw_all := lw_g (lw_at lw_m5 207 rfl) rfl
theorem q1277 : (Jvm.Cond.soleField "DomainLinks$Small" "relation") ∈ lw_all := lw_g (lw_at lw_m5 208 rfl) rfl
theorem q1278 : (Jvm.Cond.laysFinal "DomainLinks$Small" "DomainLinks$Constraint" "places" "[I") ∈ lw_all := lw_g (lw_at lw_m5 209 rfl) rfl
theorem q1279 : (Jvm.Cond.laysFinal "DomainLinks$Small" "DomainLinks$Constraint" "sets" "[I") ∈ lw_all := lw_g (lw_at lw_m5 210 rfl) rfl
theorem q1280 : (Jvm.Cond.laysFinal "DomainLinks$Small" "DomainLinks$Constraint" "lows" "[I") ∈ lw_all := lw_g (lw_at lw_m5 211 rfl) rfl
theorem q1281 : (Jvm.Cond.laysFinal "DomainLinks$Small" "DomainLinks$Constraint" "highs" "[I") ∈ lw_all := lw_g (lw_at lw_m5 212 rfl) rfl
theorem q1282 : (Jvm.Cond.superclass "DomainLinks$Small" "DomainLinks$Constraint") ∈ lw_all := lw_g (lw_at lw_m5 213 rfl) rfl
theorem q2439 : (Jvm.Cond.selects "DomainLinks$Small" ({ cls := "DomainLinks$Constraint", name := "size", desc := "()I" } : Jvm.MethodName) ({ cls := "DomainLinks$Constraint", name := "size", desc := "()I" } : Jvm.MethodName)) ∈ lw_all := lw_g (lw_at lw_m10 170 rfl) rfl
theorem q2450 : (Jvm.Cond.castable "DomainLinks$Small" "DomainLinks$Constraint") ∈ lw_tbl := lw_at lw_m10 181 rfl
theorem q2472 : (Jvm.Cond.castable "DomainLinks$Small" "java/lang/Object") ∈ lw_tbl := lw_at lw_m10 203 rfl
theorem in_X15 : ∀ w ∈ wsX150, w ∈ lw_all := lw_in wsX150 [1278, 1279, 1280, 1281, 1276] (by decide +kernel) (by decide +kernel)

/-! DomainLinks$Clause -/
set_option maxRecDepth 100000
def RX16 : String := "DomainLinks$Clause"
def TX16 : u_T := fun k => match k with
  | 0 => ("DomainLinks$Constraint", "places", "[I", true)
  | 1 => ("DomainLinks$Constraint", "sets", "[I", true)
  | 2 => ("DomainLinks$Constraint", "lows", "[I", true)
  | 3 => ("DomainLinks$Constraint", "highs", "[I", true)
  | _ => ("DomainLinks$Clause", "literals", "Ljava/util/List;", true)
def tyX16 : Nat → FieldType := fun k => match k with
  | 0 => .array .int
  | 1 => .array .int
  | 2 => .array .int
  | 3 => .array .int
  | _ => .object "java/util/List"
abbrev wsX160 : List Cond := u_ws RX16 TX16 5
theorem nmX16 : ∀ a, a < 5 → ∀ b, b < 5 → a ≠ b → (TX16 a).2.1 ≠ (TX16 b).2.1 := by decide +kernel
theorem tyX16_ok : ∀ k, k < 5 → parseFieldDescriptor (TX16 k).2.2.1 = some (tyX16 k) := by decide +kernel
abbrev cX16_keep : ByteArray := prog_3_method_3_code
def yX16_keep : MethodName := ⟨RX16, "keep", "(LDomainLinks$Store;)V"⟩
abbrev cX16_holding : ByteArray := prog_3_method_2_code
def yX16_holding : MethodName := ⟨RX16, "holding", "(I)I"⟩
abbrev cX16_init : ByteArray := prog_3_method_1_code
def yX16_init : MethodName := ⟨RX16, "<init>", "(Ljava/util/List;Ljava/util/List;)V"⟩
theorem q146 : (Jvm.Cond.initialized "DomainLinks$Clause") ∈ lw_all := lw_g (lw_at lw_m1 37 rfl) rfl
theorem q466 : (Jvm.Cond.selects "DomainLinks$Clause" ({ cls := "DomainLinks$Constraint", name := "keep", desc := "(LDomainLinks$Store;)V" } : Jvm.MethodName) ({ cls := "DomainLinks$Clause", name := "keep", desc := "(LDomainLinks$Store;)V" } : Jvm.MethodName)) ∈ lw_all := lw_g (lw_at lw_m2 117 rfl) rfl
theorem q467 : (Jvm.Cond.instanceMethod ({ cls := "DomainLinks$Clause", name := "keep", desc := "(LDomainLinks$Store;)V" } : Jvm.MethodName)) ∈ lw_all := lw_g (lw_at lw_m2 118 rfl) rfl
theorem q468 : (Jvm.Cond.code ({ cls := "DomainLinks$Clause", name := "keep", desc := "(LDomainLinks$Store;)V" } : Jvm.MethodName) prog_3_method_3_code (5 : Nat) (Option.none : Option Jvm.ClassFile.FieldType)) ∈ lw_all := lw_g (lw_at lw_m2 119 rfl) rfl
theorem q469 : (Jvm.Cond.methodLink "DomainLinks$Clause" (29 : Nat) ({ cls := "DomainLinks$Clause", name := "size", desc := "()I" } : Jvm.MethodName)) ∈ lw_all := lw_g (lw_at lw_m2 120 rfl) rfl
theorem q470 : (Jvm.Cond.sameMethod "DomainLinks$Clause" "DomainLinks$Constraint" "size" "()I") ∈ lw_all := lw_g (lw_at lw_m2 121 rfl) rfl
theorem q472 : (Jvm.Cond.selects "DomainLinks$Clause" ({ cls := "DomainLinks$Clause", name := "size", desc := "()I" } : Jvm.MethodName) ({ cls := "DomainLinks$Constraint", name := "size", desc := "()I" } : Jvm.MethodName)) ∈ lw_all := lw_g (lw_at lw_m2 123 rfl) rfl
theorem q475 : (Jvm.Cond.methodLink "DomainLinks$Clause" (32 : Nat) ({ cls := "DomainLinks$Clause", name := "domain", desc := "(LDomainLinks$Store;I)I" } : Jvm.MethodName)) ∈ lw_all := lw_g (lw_at lw_m2 126 rfl) rfl
theorem q476 : (Jvm.Cond.sameMethod "DomainLinks$Clause" "DomainLinks$Constraint" "domain" "(LDomainLinks$Store;I)I") ∈ lw_all := lw_g (lw_at lw_m2 127 rfl) rfl
theorem q478 : (Jvm.Cond.selects "DomainLinks$Clause" ({ cls := "DomainLinks$Clause", name := "domain", desc := "(LDomainLinks$Store;I)I" } : Jvm.MethodName) ({ cls := "DomainLinks$Constraint", name := "domain", desc := "(LDomainLinks$Store;I)I" } : Jvm.MethodName)) ∈ lw_all := lw_g (lw_at lw_m2 129 rfl) rfl
theorem q481 : (Jvm.Cond.methodLink "DomainLinks$Clause" (36 : Nat) ({ cls := "DomainLinks$Clause", name := "holding", desc := "(I)I" } : Jvm.MethodName)) ∈ lw_all := lw_g (lw_at lw_m2 132 rfl) rfl
theorem q482 : (Jvm.Cond.privateMethod ({ cls := "DomainLinks$Clause", name := "holding", desc := "(I)I" } : Jvm.MethodName)) ∈ lw_tbl := lw_at lw_m2 133 rfl
theorem q483 : (Jvm.Cond.instanceMethod ({ cls := "DomainLinks$Clause", name := "holding", desc := "(I)I" } : Jvm.MethodName)) ∈ lw_all := lw_g (lw_at lw_m2 134 rfl) rfl
theorem q484 : (Jvm.Cond.instantiable "DomainLinks$Clause" (5 : Nat)) ∈ lw_all := lw_g (lw_at lw_m2 135 rfl) rfl
theorem q485 : (Jvm.Cond.code ({ cls := "DomainLinks$Clause", name := "holding", desc := "(I)I" } : Jvm.MethodName) prog_3_method_2_code (3 : Nat) (Option.some Jvm.ClassFile.FieldType.int)) ∈ lw_all := lw_g (lw_at lw_m2 136 rfl) rfl
theorem q486 : (Jvm.Cond.interfaceEntry "DomainLinks$Clause" (13 : Nat)) ∈ lw_tbl := lw_at lw_m2 137 rfl
theorem q487 : (Jvm.Cond.methodLink "DomainLinks$Clause" (13 : Nat) ({ cls := "java/util/List", name := "get", desc := "(I)Ljava/lang/Object;" } : Jvm.MethodName)) ∈ lw_all := lw_g (lw_at lw_m2 138 rfl) rfl
theorem q488 : (Jvm.Cond.classLink "DomainLinks$Clause" (19 : Nat) "DomainLinks$Literal") ∈ lw_all := lw_g (lw_at lw_m2 139 rfl) rfl
theorem q489 : (Jvm.Cond.methodLink "DomainLinks$Clause" (21 : Nat) ({ cls := "DomainLinks$Literal", name := "value", desc := "()I" } : Jvm.MethodName)) ∈ lw_all := lw_g (lw_at lw_m2 140 rfl) rfl
theorem q493 : (Jvm.Cond.methodLink "DomainLinks$Clause" (25 : Nat) ({ cls := "DomainLinks$Literal", name := "has", desc := "()Z" } : Jvm.MethodName)) ∈ lw_all := lw_g (lw_at lw_m2 144 rfl) rfl
theorem q845 : (Jvm.Cond.selects "DomainLinks$Clause" ({ cls := "java/lang/Object", name := "getClass", desc := "()Ljava/lang/Class;" } : Jvm.MethodName) ({ cls := "java/lang/Object", name := "getClass", desc := "()Ljava/lang/Class;" } : Jvm.MethodName)) ∈ lw_all := lw_g (lw_at lw_m4 16 rfl) rfl
theorem q1097 : (Jvm.Cond.fieldLink "DomainLinks$Clause" (40 : Nat) "DomainLinks$Clause" "sets" "[I") ∈ lw_all := lw_g (lw_at lw_m5 28 rfl) rfl
theorem q1098 : (Jvm.Cond.sameField "DomainLinks$Clause" "DomainLinks$Constraint" "sets" "[I") ∈ lw_all := lw_g (lw_at lw_m5 29 rfl) rfl
theorem q1378 : (Jvm.Cond.instanceMethod ({ cls := "DomainLinks$Clause", name := "<init>", desc := "(Ljava/util/List;Ljava/util/List;)V" } : Jvm.MethodName)) ∈ lw_all := lw_g (lw_at lw_m6 69 rfl) rfl
theorem q1379 : (Jvm.Cond.code ({ cls := "DomainLinks$Clause", name := "<init>", desc := "(Ljava/util/List;Ljava/util/List;)V" } : Jvm.MethodName) prog_3_method_1_code (3 : Nat) (Option.none : Option Jvm.ClassFile.FieldType)) ∈ lw_all := lw_g (lw_at lw_m6 70 rfl) rfl
theorem q1380 : (Jvm.Cond.methodLink "DomainLinks$Clause" (1 : Nat) ({ cls := "DomainLinks$Constraint", name := "<init>", desc := "(Ljava/util/List;)V" } : Jvm.MethodName)) ∈ lw_all := lw_g (lw_at lw_m6 71 rfl) rfl
theorem q1381 : (Jvm.Cond.fieldLink "DomainLinks$Clause" (7 : Nat) "DomainLinks$Clause" "literals" "Ljava/util/List;") ∈ lw_all := lw_g (lw_at lw_m6 72 rfl) rfl
theorem q1382 : (Jvm.Cond.laysFinal "DomainLinks$Clause" "DomainLinks$Clause" "literals" "Ljava/util/List;") ∈ lw_all := lw_g (lw_at lw_m6 73 rfl) rfl
theorem q1383 : (Jvm.Cond.soleField "DomainLinks$Clause" "literals") ∈ lw_all := lw_g (lw_at lw_m6 74 rfl) rfl
theorem q1384 : (Jvm.Cond.laysFinal "DomainLinks$Clause" "DomainLinks$Constraint" "places" "[I") ∈ lw_all := lw_g (lw_at lw_m6 75 rfl) rfl
theorem q1385 : (Jvm.Cond.laysFinal "DomainLinks$Clause" "DomainLinks$Constraint" "sets" "[I") ∈ lw_all := lw_g (lw_at lw_m6 76 rfl) rfl
theorem q1386 : (Jvm.Cond.laysFinal "DomainLinks$Clause" "DomainLinks$Constraint" "lows" "[I") ∈ lw_all := lw_g (lw_at lw_m6 77 rfl) rfl
theorem q1387 : (Jvm.Cond.laysFinal "DomainLinks$Clause" "DomainLinks$Constraint" "highs" "[I") ∈ lw_all := lw_g (lw_at lw_m6 78 rfl) rfl
theorem q1388 : (Jvm.Cond.superclass "DomainLinks$Clause" "DomainLinks$Constraint") ∈ lw_all := lw_g (lw_at lw_m6 79 rfl) rfl
theorem q2433 : (Jvm.Cond.selects "DomainLinks$Clause" ({ cls := "DomainLinks$Constraint", name := "size", desc := "()I" } : Jvm.MethodName) ({ cls := "DomainLinks$Constraint", name := "size", desc := "()I" } : Jvm.MethodName)) ∈ lw_all := lw_g (lw_at lw_m10 164 rfl) rfl
theorem q2444 : (Jvm.Cond.castable "DomainLinks$Clause" "DomainLinks$Constraint") ∈ lw_tbl := lw_at lw_m10 175 rfl
theorem q2473 : (Jvm.Cond.castable "DomainLinks$Clause" "java/lang/Object") ∈ lw_tbl := lw_at lw_m10 204 rfl
theorem in_X16 : ∀ w ∈ wsX160, w ∈ lw_all := lw_in wsX160 [1384, 1385, 1386, 1387, 1382] (by decide +kernel) (by decide +kernel)

/-! DomainLinks$Symbol -/
set_option maxRecDepth 100000
def RX17 : String := "DomainLinks$Symbol"
def TX17 : u_T := fun k => match k with
  | 0 => ("DomainLinks$Constraint", "places", "[I", true)
  | 1 => ("DomainLinks$Constraint", "sets", "[I", true)
  | 2 => ("DomainLinks$Constraint", "lows", "[I", true)
  | 3 => ("DomainLinks$Constraint", "highs", "[I", true)
  | 4 => ("DomainLinks$Symbol", "trees", "LDomainLinks$Trees;", true)
  | _ => ("DomainLinks$Symbol", "tree", "I", true)
def tyX17 : Nat → FieldType := fun k => match k with
  | 0 => .array .int
  | 1 => .array .int
  | 2 => .array .int
  | 3 => .array .int
  | 4 => .object "DomainLinks$Trees"
  | _ => .int
abbrev wsX170 : List Cond := u_ws RX17 TX17 6
theorem nmX17 : ∀ a, a < 6 → ∀ b, b < 6 → a ≠ b → (TX17 a).2.1 ≠ (TX17 b).2.1 := by decide +kernel
theorem tyX17_ok : ∀ k, k < 6 → parseFieldDescriptor (TX17 k).2.2.1 = some (tyX17 k) := by decide +kernel
abbrev cX17_keep : ByteArray := prog_17_method_2_code
def yX17_keep : MethodName := ⟨RX17, "keep", "(LDomainLinks$Store;)V"⟩
abbrev cX17_init : ByteArray := prog_17_method_1_code
def yX17_init : MethodName := ⟨RX17, "<init>", "(Ljava/util/List;LDomainLinks$Trees;I)V"⟩
theorem q147 : (Jvm.Cond.initialized "DomainLinks$Symbol") ∈ lw_all := lw_g (lw_at lw_m1 38 rfl) rfl
theorem q638 : (Jvm.Cond.selects "DomainLinks$Symbol" ({ cls := "DomainLinks$Constraint", name := "keep", desc := "(LDomainLinks$Store;)V" } : Jvm.MethodName) ({ cls := "DomainLinks$Symbol", name := "keep", desc := "(LDomainLinks$Store;)V" } : Jvm.MethodName)) ∈ lw_all := lw_g (lw_at lw_m3 49 rfl) rfl
theorem q639 : (Jvm.Cond.instanceMethod ({ cls := "DomainLinks$Symbol", name := "keep", desc := "(LDomainLinks$Store;)V" } : Jvm.MethodName)) ∈ lw_all := lw_g (lw_at lw_m3 50 rfl) rfl
theorem q640 : (Jvm.Cond.code ({ cls := "DomainLinks$Symbol", name := "keep", desc := "(LDomainLinks$Store;)V" } : Jvm.MethodName) prog_17_method_2_code (3 : Nat) (Option.none : Option Jvm.ClassFile.FieldType)) ∈ lw_all := lw_g (lw_at lw_m3 51 rfl) rfl
theorem q641 : (Jvm.Cond.methodLink "DomainLinks$Symbol" (19 : Nat) ({ cls := "DomainLinks$Trees", name := "symbol", desc := "(I)I" } : Jvm.MethodName)) ∈ lw_all := lw_g (lw_at lw_m3 52 rfl) rfl
theorem q857 : (Jvm.Cond.selects "DomainLinks$Symbol" ({ cls := "java/lang/Object", name := "getClass", desc := "()Ljava/lang/Class;" } : Jvm.MethodName) ({ cls := "java/lang/Object", name := "getClass", desc := "()Ljava/lang/Class;" } : Jvm.MethodName)) ∈ lw_all := lw_g (lw_at lw_m4 28 rfl) rfl
theorem q1089 : (Jvm.Cond.fieldLink "DomainLinks$Symbol" (25 : Nat) "DomainLinks$Symbol" "sets" "[I") ∈ lw_all := lw_g (lw_at lw_m5 20 rfl) rfl
theorem q1090 : (Jvm.Cond.sameField "DomainLinks$Symbol" "DomainLinks$Constraint" "sets" "[I") ∈ lw_all := lw_g (lw_at lw_m5 21 rfl) rfl
theorem q1397 : (Jvm.Cond.instantiable "DomainLinks$Symbol" (6 : Nat)) ∈ lw_all := lw_g (lw_at lw_m6 88 rfl) rfl
theorem q1399 : (Jvm.Cond.instanceMethod ({ cls := "DomainLinks$Symbol", name := "<init>", desc := "(Ljava/util/List;LDomainLinks$Trees;I)V" } : Jvm.MethodName)) ∈ lw_all := lw_g (lw_at lw_m6 90 rfl) rfl
theorem q1400 : (Jvm.Cond.code ({ cls := "DomainLinks$Symbol", name := "<init>", desc := "(Ljava/util/List;LDomainLinks$Trees;I)V" } : Jvm.MethodName) prog_17_method_1_code (4 : Nat) (Option.none : Option Jvm.ClassFile.FieldType)) ∈ lw_all := lw_g (lw_at lw_m6 91 rfl) rfl
theorem q1401 : (Jvm.Cond.methodLink "DomainLinks$Symbol" (3 : Nat) ({ cls := "DomainLinks$Constraint", name := "<init>", desc := "(Ljava/util/List;)V" } : Jvm.MethodName)) ∈ lw_all := lw_g (lw_at lw_m6 92 rfl) rfl
theorem q1402 : (Jvm.Cond.fieldLink "DomainLinks$Symbol" (9 : Nat) "DomainLinks$Symbol" "trees" "LDomainLinks$Trees;") ∈ lw_all := lw_g (lw_at lw_m6 93 rfl) rfl
theorem q1403 : (Jvm.Cond.fieldLink "DomainLinks$Symbol" (15 : Nat) "DomainLinks$Symbol" "tree" "I") ∈ lw_all := lw_g (lw_at lw_m6 94 rfl) rfl
theorem q1404 : (Jvm.Cond.laysFinal "DomainLinks$Symbol" "DomainLinks$Symbol" "trees" "LDomainLinks$Trees;") ∈ lw_all := lw_g (lw_at lw_m6 95 rfl) rfl
theorem q1405 : (Jvm.Cond.soleField "DomainLinks$Symbol" "trees") ∈ lw_all := lw_g (lw_at lw_m6 96 rfl) rfl
theorem q1406 : (Jvm.Cond.laysFinal "DomainLinks$Symbol" "DomainLinks$Symbol" "tree" "I") ∈ lw_all := lw_g (lw_at lw_m6 97 rfl) rfl
theorem q1407 : (Jvm.Cond.soleField "DomainLinks$Symbol" "tree") ∈ lw_all := lw_g (lw_at lw_m6 98 rfl) rfl
theorem q1408 : (Jvm.Cond.laysFinal "DomainLinks$Symbol" "DomainLinks$Constraint" "places" "[I") ∈ lw_all := lw_g (lw_at lw_m6 99 rfl) rfl
theorem q1409 : (Jvm.Cond.laysFinal "DomainLinks$Symbol" "DomainLinks$Constraint" "sets" "[I") ∈ lw_all := lw_g (lw_at lw_m6 100 rfl) rfl
theorem q1410 : (Jvm.Cond.laysFinal "DomainLinks$Symbol" "DomainLinks$Constraint" "lows" "[I") ∈ lw_all := lw_g (lw_at lw_m6 101 rfl) rfl
theorem q1411 : (Jvm.Cond.laysFinal "DomainLinks$Symbol" "DomainLinks$Constraint" "highs" "[I") ∈ lw_all := lw_g (lw_at lw_m6 102 rfl) rfl
theorem q1412 : (Jvm.Cond.superclass "DomainLinks$Symbol" "DomainLinks$Constraint") ∈ lw_all := lw_g (lw_at lw_m6 103 rfl) rfl
theorem q2440 : (Jvm.Cond.selects "DomainLinks$Symbol" ({ cls := "DomainLinks$Constraint", name := "size", desc := "()I" } : Jvm.MethodName) ({ cls := "DomainLinks$Constraint", name := "size", desc := "()I" } : Jvm.MethodName)) ∈ lw_all := lw_g (lw_at lw_m10 171 rfl) rfl
theorem q2451 : (Jvm.Cond.castable "DomainLinks$Symbol" "DomainLinks$Constraint") ∈ lw_tbl := lw_at lw_m10 182 rfl
theorem q2474 : (Jvm.Cond.castable "DomainLinks$Symbol" "java/lang/Object") ∈ lw_tbl := lw_at lw_m10 205 rfl
theorem in_X17 : ∀ w ∈ wsX170, w ∈ lw_all := lw_in wsX170 [1408, 1409, 1410, 1411, 1404, 1406] (by decide +kernel) (by decide +kernel)

/-! DomainLinks$Shared -/
set_option maxRecDepth 100000
def RX18 : String := "DomainLinks$Shared"
def TX18 : u_T := fun k => match k with
  | 0 => ("DomainLinks$Shared", "choice", "I", true)
  | 1 => ("DomainLinks$Shared", "order", "I", true)
  | 2 => ("DomainLinks$Shared", "decisions", "LDomainLinks$Decisions;", true)
  | _ => ("DomainLinks$Shared", "ahead", "Ljava/util/List;", true)
def tyX18 : Nat → FieldType := fun k => match k with
  | 0 => .int
  | 1 => .int
  | 2 => .object "DomainLinks$Decisions"
  | _ => .object "java/util/List"
abbrev wsX180 : List Cond := u_ws RX18 TX18 4
theorem nmX18 : ∀ a, a < 4 → ∀ b, b < 4 → a ≠ b → (TX18 a).2.1 ≠ (TX18 b).2.1 := by decide +kernel
theorem tyX18_ok : ∀ k, k < 4 → parseFieldDescriptor (TX18 k).2.2.1 = some (tyX18 k) := by decide +kernel
abbrev cX18_init : ByteArray := prog_14_method_1_code
def yX18_init : MethodName := ⟨RX18, "<init>", "(II)V"⟩
theorem q148 : (Jvm.Cond.initialized "DomainLinks$Shared") ∈ lw_all := lw_g (lw_at lw_m1 39 rfl) rfl
theorem q854 : (Jvm.Cond.selects "DomainLinks$Shared" ({ cls := "java/lang/Object", name := "getClass", desc := "()Ljava/lang/Class;" } : Jvm.MethodName) ({ cls := "java/lang/Object", name := "getClass", desc := "()Ljava/lang/Class;" } : Jvm.MethodName)) ∈ lw_all := lw_g (lw_at lw_m4 25 rfl) rfl
theorem q1568 : (Jvm.Cond.instantiable "DomainLinks$Shared" (4 : Nat)) ∈ lw_all := lw_g (lw_at lw_m7 19 rfl) rfl
theorem q1570 : (Jvm.Cond.instanceMethod ({ cls := "DomainLinks$Shared", name := "<init>", desc := "(II)V" } : Jvm.MethodName)) ∈ lw_all := lw_g (lw_at lw_m7 21 rfl) rfl
theorem q1571 : (Jvm.Cond.code ({ cls := "DomainLinks$Shared", name := "<init>", desc := "(II)V" } : Jvm.MethodName) prog_14_method_1_code (3 : Nat) (Option.none : Option Jvm.ClassFile.FieldType)) ∈ lw_all := lw_g (lw_at lw_m7 22 rfl) rfl
theorem q1572 : (Jvm.Cond.methodLink "DomainLinks$Shared" (3 : Nat) ({ cls := "java/lang/Object", name := "<init>", desc := "()V" } : Jvm.MethodName)) ∈ lw_all := lw_g (lw_at lw_m7 23 rfl) rfl
theorem q1573 : (Jvm.Cond.classLink "DomainLinks$Shared" (9 : Nat) "DomainLinks$Decisions") ∈ lw_all := lw_g (lw_at lw_m7 24 rfl) rfl
theorem q1574 : (Jvm.Cond.methodLinkNest "DomainLinks$Shared" (11 : Nat) ({ cls := "DomainLinks$Decisions", name := "<init>", desc := "()V" } : Jvm.MethodName) "DomainLinks") ∈ lw_tbl := lw_at lw_m7 25 rfl
theorem q1575 : (Jvm.Cond.classLink "DomainLinks$Shared" (18 : Nat) "java/util/ArrayList") ∈ lw_all := lw_g (lw_at lw_m7 26 rfl) rfl
theorem q1576 : (Jvm.Cond.methodLink "DomainLinks$Shared" (20 : Nat) ({ cls := "java/util/ArrayList", name := "<init>", desc := "()V" } : Jvm.MethodName)) ∈ lw_all := lw_g (lw_at lw_m7 27 rfl) rfl
theorem q1577 : (Jvm.Cond.classLink "DomainLinks$Shared" (32 : Nat) "DomainLinks$Ahead") ∈ lw_all := lw_g (lw_at lw_m7 28 rfl) rfl
theorem q1579 : (Jvm.Cond.methodLinkNest "DomainLinks$Shared" (34 : Nat) ({ cls := "DomainLinks$Ahead", name := "<init>", desc := "(IIIZ)V" } : Jvm.MethodName) "DomainLinks") ∈ lw_tbl := lw_at lw_m7 30 rfl
theorem q1596 : (Jvm.Cond.interfaceEntry "DomainLinks$Shared" (37 : Nat)) ∈ lw_tbl := lw_at lw_m7 47 rfl
theorem q1597 : (Jvm.Cond.methodLink "DomainLinks$Shared" (37 : Nat) ({ cls := "java/util/List", name := "add", desc := "(Ljava/lang/Object;)Z" } : Jvm.MethodName)) ∈ lw_all := lw_g (lw_at lw_m7 48 rfl) rfl
theorem q1598 : (Jvm.Cond.fieldLink "DomainLinks$Shared" (25 : Nat) "DomainLinks$Shared" "choice" "I") ∈ lw_all := lw_g (lw_at lw_m7 49 rfl) rfl
theorem q1600 : (Jvm.Cond.fieldLink "DomainLinks$Shared" (29 : Nat) "DomainLinks$Shared" "order" "I") ∈ lw_all := lw_g (lw_at lw_m7 51 rfl) rfl
theorem q1602 : (Jvm.Cond.fieldLink "DomainLinks$Shared" (12 : Nat) "DomainLinks$Shared" "decisions" "LDomainLinks$Decisions;") ∈ lw_all := lw_g (lw_at lw_m7 53 rfl) rfl
theorem q1604 : (Jvm.Cond.fieldLink "DomainLinks$Shared" (21 : Nat) "DomainLinks$Shared" "ahead" "Ljava/util/List;") ∈ lw_all := lw_g (lw_at lw_m7 55 rfl) rfl
theorem q1606 : (Jvm.Cond.laysFinal "DomainLinks$Shared" "DomainLinks$Shared" "choice" "I") ∈ lw_all := lw_g (lw_at lw_m7 57 rfl) rfl
theorem q1607 : (Jvm.Cond.soleField "DomainLinks$Shared" "choice") ∈ lw_all := lw_g (lw_at lw_m7 58 rfl) rfl
theorem q1608 : (Jvm.Cond.laysFinal "DomainLinks$Shared" "DomainLinks$Shared" "order" "I") ∈ lw_all := lw_g (lw_at lw_m7 59 rfl) rfl
theorem q1609 : (Jvm.Cond.soleField "DomainLinks$Shared" "order") ∈ lw_all := lw_g (lw_at lw_m7 60 rfl) rfl
theorem q1610 : (Jvm.Cond.laysFinal "DomainLinks$Shared" "DomainLinks$Shared" "decisions" "LDomainLinks$Decisions;") ∈ lw_all := lw_g (lw_at lw_m7 61 rfl) rfl
theorem q1611 : (Jvm.Cond.soleField "DomainLinks$Shared" "decisions") ∈ lw_all := lw_g (lw_at lw_m7 62 rfl) rfl
theorem q1612 : (Jvm.Cond.laysFinal "DomainLinks$Shared" "DomainLinks$Shared" "ahead" "Ljava/util/List;") ∈ lw_all := lw_g (lw_at lw_m7 63 rfl) rfl
theorem q1613 : (Jvm.Cond.soleField "DomainLinks$Shared" "ahead") ∈ lw_all := lw_g (lw_at lw_m7 64 rfl) rfl
theorem q1614 : (Jvm.Cond.superclass "DomainLinks$Shared" "java/lang/Object") ∈ lw_all := lw_g (lw_at lw_m7 65 rfl) rfl
theorem q2452 : (Jvm.Cond.castable "DomainLinks$Shared" "java/lang/Object") ∈ lw_tbl := lw_at lw_m10 183 rfl
theorem in_X18 : ∀ w ∈ wsX180, w ∈ lw_all := lw_in wsX180 [1606, 1608, 1610, 1612] (by decide +kernel) (by decide +kernel)

/-! DomainLinks$Ahead -/
set_option maxRecDepth 100000
def RX19 : String := "DomainLinks$Ahead"
def TX19 : u_T := fun k => match k with
  | 0 => ("DomainLinks$Ahead", "stay", "I", true)
  | 1 => ("DomainLinks$Ahead", "variable", "I", true)
  | 2 => ("DomainLinks$Ahead", "value", "I", true)
  | _ => ("DomainLinks$Ahead", "has", "Z", true)
def tyX19 : Nat → FieldType := fun k => match k with
  | 0 => .int
  | 1 => .int
  | 2 => .int
  | _ => .boolean
abbrev wsX190 : List Cond := u_ws RX19 TX19 4
theorem nmX19 : ∀ a, a < 4 → ∀ b, b < 4 → a ≠ b → (TX19 a).2.1 ≠ (TX19 b).2.1 := by decide +kernel
theorem tyX19_ok : ∀ k, k < 4 → parseFieldDescriptor (TX19 k).2.2.1 = some (tyX19 k) := by decide +kernel
abbrev cX19_init : ByteArray := prog_2_method_1_code
def yX19_init : MethodName := ⟨RX19, "<init>", "(IIIZ)V"⟩
abbrev cX19_stay : ByteArray := prog_2_method_5_code
def yX19_stay : MethodName := ⟨RX19, "stay", "()I"⟩
abbrev cX19_variable : ByteArray := prog_2_method_6_code
def yX19_variable : MethodName := ⟨RX19, "variable", "()I"⟩
abbrev cX19_value : ByteArray := prog_2_method_7_code
def yX19_value : MethodName := ⟨RX19, "value", "()I"⟩
abbrev cX19_has : ByteArray := prog_2_method_8_code
def yX19_has : MethodName := ⟨RX19, "has", "()Z"⟩
theorem q149 : (Jvm.Cond.initialized "DomainLinks$Ahead") ∈ lw_all := lw_g (lw_at lw_m1 40 rfl) rfl
theorem q844 : (Jvm.Cond.selects "DomainLinks$Ahead" ({ cls := "java/lang/Object", name := "getClass", desc := "()Ljava/lang/Class;" } : Jvm.MethodName) ({ cls := "java/lang/Object", name := "getClass", desc := "()Ljava/lang/Class;" } : Jvm.MethodName)) ∈ lw_all := lw_g (lw_at lw_m4 15 rfl) rfl
theorem q1578 : (Jvm.Cond.instantiable "DomainLinks$Ahead" (4 : Nat)) ∈ lw_all := lw_g (lw_at lw_m7 29 rfl) rfl
theorem q1580 : (Jvm.Cond.instanceMethod ({ cls := "DomainLinks$Ahead", name := "<init>", desc := "(IIIZ)V" } : Jvm.MethodName)) ∈ lw_all := lw_g (lw_at lw_m7 31 rfl) rfl
theorem q1581 : (Jvm.Cond.code ({ cls := "DomainLinks$Ahead", name := "<init>", desc := "(IIIZ)V" } : Jvm.MethodName) prog_2_method_1_code (5 : Nat) (Option.none : Option Jvm.ClassFile.FieldType)) ∈ lw_all := lw_g (lw_at lw_m7 32 rfl) rfl
theorem q1582 : (Jvm.Cond.methodLink "DomainLinks$Ahead" (1 : Nat) ({ cls := "java/lang/Record", name := "<init>", desc := "()V" } : Jvm.MethodName)) ∈ lw_all := lw_g (lw_at lw_m7 33 rfl) rfl
theorem q1583 : (Jvm.Cond.fieldLink "DomainLinks$Ahead" (7 : Nat) "DomainLinks$Ahead" "stay" "I") ∈ lw_all := lw_g (lw_at lw_m7 34 rfl) rfl
theorem q1584 : (Jvm.Cond.fieldLink "DomainLinks$Ahead" (13 : Nat) "DomainLinks$Ahead" "variable" "I") ∈ lw_all := lw_g (lw_at lw_m7 35 rfl) rfl
theorem q1585 : (Jvm.Cond.fieldLink "DomainLinks$Ahead" (16 : Nat) "DomainLinks$Ahead" "value" "I") ∈ lw_all := lw_g (lw_at lw_m7 36 rfl) rfl
theorem q1586 : (Jvm.Cond.fieldLink "DomainLinks$Ahead" (19 : Nat) "DomainLinks$Ahead" "has" "Z") ∈ lw_all := lw_g (lw_at lw_m7 37 rfl) rfl
theorem q1587 : (Jvm.Cond.laysFinal "DomainLinks$Ahead" "DomainLinks$Ahead" "stay" "I") ∈ lw_all := lw_g (lw_at lw_m7 38 rfl) rfl
theorem q1588 : (Jvm.Cond.soleField "DomainLinks$Ahead" "stay") ∈ lw_all := lw_g (lw_at lw_m7 39 rfl) rfl
theorem q1589 : (Jvm.Cond.laysFinal "DomainLinks$Ahead" "DomainLinks$Ahead" "variable" "I") ∈ lw_all := lw_g (lw_at lw_m7 40 rfl) rfl
theorem q1590 : (Jvm.Cond.soleField "DomainLinks$Ahead" "variable") ∈ lw_all := lw_g (lw_at lw_m7 41 rfl) rfl
theorem q1591 : (Jvm.Cond.laysFinal "DomainLinks$Ahead" "DomainLinks$Ahead" "value" "I") ∈ lw_all := lw_g (lw_at lw_m7 42 rfl) rfl
theorem q1592 : (Jvm.Cond.soleField "DomainLinks$Ahead" "value") ∈ lw_all := lw_g (lw_at lw_m7 43 rfl) rfl
theorem q1593 : (Jvm.Cond.laysFinal "DomainLinks$Ahead" "DomainLinks$Ahead" "has" "Z") ∈ lw_all := lw_g (lw_at lw_m7 44 rfl) rfl
theorem q1594 : (Jvm.Cond.soleField "DomainLinks$Ahead" "has") ∈ lw_all := lw_g (lw_at lw_m7 45 rfl) rfl
theorem q1595 : (Jvm.Cond.superclass "DomainLinks$Ahead" "java/lang/Record") ∈ lw_all := lw_g (lw_at lw_m7 46 rfl) rfl
theorem q1641 : (Jvm.Cond.instanceMethod ({ cls := "DomainLinks$Ahead", name := "stay", desc := "()I" } : Jvm.MethodName)) ∈ lw_all := lw_g (lw_at lw_m7 92 rfl) rfl
theorem q1642 : (Jvm.Cond.selects "DomainLinks$Ahead" ({ cls := "DomainLinks$Ahead", name := "stay", desc := "()I" } : Jvm.MethodName) ({ cls := "DomainLinks$Ahead", name := "stay", desc := "()I" } : Jvm.MethodName)) ∈ lw_all := lw_g (lw_at lw_m7 93 rfl) rfl
theorem q1643 : (Jvm.Cond.code ({ cls := "DomainLinks$Ahead", name := "stay", desc := "()I" } : Jvm.MethodName) prog_2_method_5_code (1 : Nat) (Option.some Jvm.ClassFile.FieldType.int)) ∈ lw_all := lw_g (lw_at lw_m7 94 rfl) rfl
theorem q1645 : (Jvm.Cond.instanceMethod ({ cls := "DomainLinks$Ahead", name := "variable", desc := "()I" } : Jvm.MethodName)) ∈ lw_all := lw_g (lw_at lw_m7 96 rfl) rfl
theorem q1646 : (Jvm.Cond.selects "DomainLinks$Ahead" ({ cls := "DomainLinks$Ahead", name := "variable", desc := "()I" } : Jvm.MethodName) ({ cls := "DomainLinks$Ahead", name := "variable", desc := "()I" } : Jvm.MethodName)) ∈ lw_all := lw_g (lw_at lw_m7 97 rfl) rfl
theorem q1647 : (Jvm.Cond.code ({ cls := "DomainLinks$Ahead", name := "variable", desc := "()I" } : Jvm.MethodName) prog_2_method_6_code (1 : Nat) (Option.some Jvm.ClassFile.FieldType.int)) ∈ lw_all := lw_g (lw_at lw_m7 98 rfl) rfl
theorem q1649 : (Jvm.Cond.instanceMethod ({ cls := "DomainLinks$Ahead", name := "value", desc := "()I" } : Jvm.MethodName)) ∈ lw_all := lw_g (lw_at lw_m7 100 rfl) rfl
theorem q1650 : (Jvm.Cond.selects "DomainLinks$Ahead" ({ cls := "DomainLinks$Ahead", name := "value", desc := "()I" } : Jvm.MethodName) ({ cls := "DomainLinks$Ahead", name := "value", desc := "()I" } : Jvm.MethodName)) ∈ lw_all := lw_g (lw_at lw_m7 101 rfl) rfl
theorem q1651 : (Jvm.Cond.code ({ cls := "DomainLinks$Ahead", name := "value", desc := "()I" } : Jvm.MethodName) prog_2_method_7_code (1 : Nat) (Option.some Jvm.ClassFile.FieldType.int)) ∈ lw_all := lw_g (lw_at lw_m7 102 rfl) rfl
theorem q1653 : (Jvm.Cond.instanceMethod ({ cls := "DomainLinks$Ahead", name := "has", desc := "()Z" } : Jvm.MethodName)) ∈ lw_all := lw_g (lw_at lw_m7 104 rfl) rfl
theorem q1654 : (Jvm.Cond.selects "DomainLinks$Ahead" ({ cls := "DomainLinks$Ahead", name := "has", desc := "()Z" } : Jvm.MethodName) ({ cls := "DomainLinks$Ahead", name := "has", desc := "()Z" } : Jvm.MethodName)) ∈ lw_all := lw_g (lw_at lw_m7 105 rfl) rfl
theorem q1655 : (Jvm.Cond.code ({ cls := "DomainLinks$Ahead", name := "has", desc := "()Z" } : Jvm.MethodName) prog_2_method_8_code (1 : Nat) (Option.some Jvm.ClassFile.FieldType.boolean)) ∈ lw_all := lw_g (lw_at lw_m7 106 rfl) rfl
theorem q2475 : (Jvm.Cond.castable "DomainLinks$Ahead" "java/lang/Object") ∈ lw_tbl := lw_at lw_m10 206 rfl
theorem in_X19 : ∀ w ∈ wsX190, w ∈ lw_all := lw_in wsX190 [1587, 1589, 1591, 1593] (by decide +kernel) (by decide +kernel)

/-! DomainLinks$Decisions -/
set_option maxRecDepth 100000
def RX2 : String := "DomainLinks$Decisions"
def TX2 : u_T := fun k => match k with
  | 0 => ("DomainLinks$Decisions", "variables", "[I", true)
  | 1 => ("DomainLinks$Decisions", "values", "[I", true)
  | 2 => ("DomainLinks$Decisions", "have", "[Z", true)
  | _ => ("DomainLinks$Decisions", "size", "I", false)
def tyX2 : Nat → FieldType := fun k => match k with
  | 0 => .array .int
  | 1 => .array .int
  | 2 => .array .boolean
  | _ => .int
abbrev wsX20 : List Cond := u_ws RX2 TX2 4
theorem nmX2 : ∀ a, a < 4 → ∀ b, b < 4 → a ≠ b → (TX2 a).2.1 ≠ (TX2 b).2.1 := by decide +kernel
theorem tyX2_ok : ∀ k, k < 4 → parseFieldDescriptor (TX2 k).2.2.1 = some (tyX2 k) := by decide +kernel
abbrev cX2_init : ByteArray := prog_5_method_1_code
def yX2_init : MethodName := ⟨RX2, "<init>", "()V"⟩
abbrev cX2_left : ByteArray := prog_5_method_3_code
def yX2_left : MethodName := ⟨RX2, "left", "(II)I"⟩
abbrev cX2_add : ByteArray := prog_5_method_2_code
def yX2_add : MethodName := ⟨RX2, "add", "(IIZ)V"⟩
theorem q114 : (Jvm.Cond.initialized "DomainLinks$Decisions") ∈ lw_all := lw_g (lw_at lw_m1 5 rfl) rfl
theorem q185 : (Jvm.Cond.instantiable "DomainLinks$Decisions" (4 : Nat)) ∈ lw_all := lw_g (lw_at lw_m1 76 rfl) rfl
theorem q187 : (Jvm.Cond.instanceMethod ({ cls := "DomainLinks$Decisions", name := "<init>", desc := "()V" } : Jvm.MethodName)) ∈ lw_all := lw_g (lw_at lw_m1 78 rfl) rfl
theorem q188 : (Jvm.Cond.code ({ cls := "DomainLinks$Decisions", name := "<init>", desc := "()V" } : Jvm.MethodName) prog_5_method_1_code (1 : Nat) (Option.none : Option Jvm.ClassFile.FieldType)) ∈ lw_all := lw_g (lw_at lw_m1 79 rfl) rfl
theorem q189 : (Jvm.Cond.methodLink "DomainLinks$Decisions" (3 : Nat) ({ cls := "java/lang/Object", name := "<init>", desc := "()V" } : Jvm.MethodName)) ∈ lw_all := lw_g (lw_at lw_m1 80 rfl) rfl
theorem q190 : (Jvm.Cond.fieldLink "DomainLinks$Decisions" (9 : Nat) "DomainLinks$Decisions" "variables" "[I") ∈ lw_all := lw_g (lw_at lw_m1 81 rfl) rfl
theorem q192 : (Jvm.Cond.fieldLink "DomainLinks$Decisions" (15 : Nat) "DomainLinks$Decisions" "values" "[I") ∈ lw_all := lw_g (lw_at lw_m1 83 rfl) rfl
theorem q194 : (Jvm.Cond.fieldLink "DomainLinks$Decisions" (18 : Nat) "DomainLinks$Decisions" "have" "[Z") ∈ lw_all := lw_g (lw_at lw_m1 85 rfl) rfl
theorem q196 : (Jvm.Cond.fieldLink "DomainLinks$Decisions" (22 : Nat) "DomainLinks$Decisions" "size" "I") ∈ lw_all := lw_g (lw_at lw_m1 87 rfl) rfl
theorem q198 : (Jvm.Cond.laysFinal "DomainLinks$Decisions" "DomainLinks$Decisions" "variables" "[I") ∈ lw_all := lw_g (lw_at lw_m1 89 rfl) rfl
theorem q199 : (Jvm.Cond.soleField "DomainLinks$Decisions" "variables") ∈ lw_all := lw_g (lw_at lw_m1 90 rfl) rfl
theorem q200 : (Jvm.Cond.laysFinal "DomainLinks$Decisions" "DomainLinks$Decisions" "values" "[I") ∈ lw_all := lw_g (lw_at lw_m1 91 rfl) rfl
theorem q201 : (Jvm.Cond.soleField "DomainLinks$Decisions" "values") ∈ lw_all := lw_g (lw_at lw_m1 92 rfl) rfl
theorem q202 : (Jvm.Cond.laysFinal "DomainLinks$Decisions" "DomainLinks$Decisions" "have" "[Z") ∈ lw_all := lw_g (lw_at lw_m1 93 rfl) rfl
theorem q203 : (Jvm.Cond.soleField "DomainLinks$Decisions" "have") ∈ lw_all := lw_g (lw_at lw_m1 94 rfl) rfl
theorem q204 : (Jvm.Cond.lays "DomainLinks$Decisions" "DomainLinks$Decisions" "size" "I") ∈ lw_all := lw_g (lw_at lw_m1 95 rfl) rfl
theorem q205 : (Jvm.Cond.soleField "DomainLinks$Decisions" "size") ∈ lw_all := lw_g (lw_at lw_m1 96 rfl) rfl
theorem q206 : (Jvm.Cond.superclass "DomainLinks$Decisions" "java/lang/Object") ∈ lw_all := lw_g (lw_at lw_m1 97 rfl) rfl
theorem q435 : (Jvm.Cond.instanceMethod ({ cls := "DomainLinks$Decisions", name := "left", desc := "(II)I" } : Jvm.MethodName)) ∈ lw_all := lw_g (lw_at lw_m2 86 rfl) rfl
theorem q436 : (Jvm.Cond.selects "DomainLinks$Decisions" ({ cls := "DomainLinks$Decisions", name := "left", desc := "(II)I" } : Jvm.MethodName) ({ cls := "DomainLinks$Decisions", name := "left", desc := "(II)I" } : Jvm.MethodName)) ∈ lw_all := lw_g (lw_at lw_m2 87 rfl) rfl
theorem q437 : (Jvm.Cond.code ({ cls := "DomainLinks$Decisions", name := "left", desc := "(II)I" } : Jvm.MethodName) prog_5_method_3_code (4 : Nat) (Option.some Jvm.ClassFile.FieldType.int)) ∈ lw_all := lw_g (lw_at lw_m2 88 rfl) rfl
theorem q846 : (Jvm.Cond.selects "DomainLinks$Decisions" ({ cls := "java/lang/Object", name := "getClass", desc := "()Ljava/lang/Class;" } : Jvm.MethodName) ({ cls := "java/lang/Object", name := "getClass", desc := "()Ljava/lang/Class;" } : Jvm.MethodName)) ∈ lw_all := lw_g (lw_at lw_m4 17 rfl) rfl
theorem q1421 : (Jvm.Cond.instanceMethod ({ cls := "DomainLinks$Decisions", name := "add", desc := "(IIZ)V" } : Jvm.MethodName)) ∈ lw_all := lw_g (lw_at lw_m6 112 rfl) rfl
theorem q1422 : (Jvm.Cond.selects "DomainLinks$Decisions" ({ cls := "DomainLinks$Decisions", name := "add", desc := "(IIZ)V" } : Jvm.MethodName) ({ cls := "DomainLinks$Decisions", name := "add", desc := "(IIZ)V" } : Jvm.MethodName)) ∈ lw_all := lw_g (lw_at lw_m6 113 rfl) rfl
theorem q1423 : (Jvm.Cond.code ({ cls := "DomainLinks$Decisions", name := "add", desc := "(IIZ)V" } : Jvm.MethodName) prog_5_method_2_code (4 : Nat) (Option.none : Option Jvm.ClassFile.FieldType)) ∈ lw_all := lw_g (lw_at lw_m6 114 rfl) rfl
theorem q2455 : (Jvm.Cond.castable "DomainLinks$Decisions" "java/lang/Object") ∈ lw_tbl := lw_at lw_m10 186 rfl
theorem in_X2 : ∀ w ∈ wsX20, w ∈ lw_all := lw_in wsX20 [198, 200, 202, 204] (by decide +kernel) (by decide +kernel)

/-! DomainLinks$Trees -/
set_option maxRecDepth 100000
def RX3 : String := "DomainLinks$Trees"
def TX3 : u_T := fun k => match k with
  | 0 => ("DomainLinks$Trees", "ones", "[I", true)
  | 1 => ("DomainLinks$Trees", "symbols", "[I", true)
  | 2 => ("DomainLinks$Trees", "firsts", "[I", true)
  | 3 => ("DomainLinks$Trees", "seconds", "[I", true)
  | _ => ("DomainLinks$Trees", "size", "I", false)
def tyX3 : Nat → FieldType := fun k => match k with
  | 0 => .array .int
  | 1 => .array .int
  | 2 => .array .int
  | 3 => .array .int
  | _ => .int
abbrev wsX30 : List Cond := u_ws RX3 TX3 5
theorem nmX3 : ∀ a, a < 5 → ∀ b, b < 5 → a ≠ b → (TX3 a).2.1 ≠ (TX3 b).2.1 := by decide +kernel
theorem tyX3_ok : ∀ k, k < 5 → parseFieldDescriptor (TX3 k).2.2.1 = some (tyX3 k) := by decide +kernel
abbrev cX3_init : ByteArray := prog_18_method_1_code
def yX3_init : MethodName := ⟨RX3, "<init>", "()V"⟩
abbrev cX3_symbol : ByteArray := prog_18_method_4_code
def yX3_symbol : MethodName := ⟨RX3, "symbol", "(I)I"⟩
abbrev cX3_one : ByteArray := prog_18_method_3_code
def yX3_one : MethodName := ⟨RX3, "one", "(I)I"⟩
abbrev cX3_add : ByteArray := prog_18_method_2_code
def yX3_add : MethodName := ⟨RX3, "add", "(III)V"⟩
abbrev cX3_copy : ByteArray := prog_18_method_6_code
def yX3_copy : MethodName := ⟨RX3, "copy", "(LDomainLinks$Trees;)V"⟩
abbrev cX3_unify : ByteArray := prog_18_method_7_code
def yX3_unify : MethodName := ⟨RX3, "unify", "(II)Z"⟩
abbrev cX3_child : ByteArray := prog_18_method_5_code
def yX3_child : MethodName := ⟨RX3, "child", "(IZ)I"⟩
theorem q115 : (Jvm.Cond.initialized "DomainLinks$Trees") ∈ lw_all := lw_g (lw_at lw_m1 6 rfl) rfl
theorem q210 : (Jvm.Cond.instantiable "DomainLinks$Trees" (5 : Nat)) ∈ lw_all := lw_g (lw_at lw_m1 101 rfl) rfl
theorem q212 : (Jvm.Cond.instanceMethod ({ cls := "DomainLinks$Trees", name := "<init>", desc := "()V" } : Jvm.MethodName)) ∈ lw_all := lw_g (lw_at lw_m1 103 rfl) rfl
theorem q213 : (Jvm.Cond.code ({ cls := "DomainLinks$Trees", name := "<init>", desc := "()V" } : Jvm.MethodName) prog_18_method_1_code (1 : Nat) (Option.none : Option Jvm.ClassFile.FieldType)) ∈ lw_all := lw_g (lw_at lw_m1 104 rfl) rfl
theorem q214 : (Jvm.Cond.methodLink "DomainLinks$Trees" (3 : Nat) ({ cls := "java/lang/Object", name := "<init>", desc := "()V" } : Jvm.MethodName)) ∈ lw_all := lw_g (lw_at lw_m1 105 rfl) rfl
theorem q215 : (Jvm.Cond.fieldLink "DomainLinks$Trees" (9 : Nat) "DomainLinks$Trees" "ones" "[I") ∈ lw_all := lw_g (lw_at lw_m1 106 rfl) rfl
theorem q216 : (Jvm.Cond.fieldLink "DomainLinks$Trees" (15 : Nat) "DomainLinks$Trees" "symbols" "[I") ∈ lw_all := lw_g (lw_at lw_m1 107 rfl) rfl
theorem q217 : (Jvm.Cond.fieldLink "DomainLinks$Trees" (18 : Nat) "DomainLinks$Trees" "firsts" "[I") ∈ lw_all := lw_g (lw_at lw_m1 108 rfl) rfl
theorem q218 : (Jvm.Cond.fieldLink "DomainLinks$Trees" (21 : Nat) "DomainLinks$Trees" "seconds" "[I") ∈ lw_all := lw_g (lw_at lw_m1 109 rfl) rfl
theorem q219 : (Jvm.Cond.fieldLink "DomainLinks$Trees" (24 : Nat) "DomainLinks$Trees" "size" "I") ∈ lw_all := lw_g (lw_at lw_m1 110 rfl) rfl
theorem q221 : (Jvm.Cond.laysFinal "DomainLinks$Trees" "DomainLinks$Trees" "ones" "[I") ∈ lw_all := lw_g (lw_at lw_m1 112 rfl) rfl
theorem q222 : (Jvm.Cond.soleField "DomainLinks$Trees" "ones") ∈ lw_all := lw_g (lw_at lw_m1 113 rfl) rfl
theorem q223 : (Jvm.Cond.laysFinal "DomainLinks$Trees" "DomainLinks$Trees" "symbols" "[I") ∈ lw_all := lw_g (lw_at lw_m1 114 rfl) rfl
theorem q224 : (Jvm.Cond.soleField "DomainLinks$Trees" "symbols") ∈ lw_all := lw_g (lw_at lw_m1 115 rfl) rfl
theorem q225 : (Jvm.Cond.laysFinal "DomainLinks$Trees" "DomainLinks$Trees" "firsts" "[I") ∈ lw_all := lw_g (lw_at lw_m1 116 rfl) rfl
theorem q226 : (Jvm.Cond.soleField "DomainLinks$Trees" "firsts") ∈ lw_all := lw_g (lw_at lw_m1 117 rfl) rfl
theorem q227 : (Jvm.Cond.laysFinal "DomainLinks$Trees" "DomainLinks$Trees" "seconds" "[I") ∈ lw_all := lw_g (lw_at lw_m1 118 rfl) rfl
theorem q228 : (Jvm.Cond.soleField "DomainLinks$Trees" "seconds") ∈ lw_all := lw_g (lw_at lw_m1 119 rfl) rfl
theorem q229 : (Jvm.Cond.lays "DomainLinks$Trees" "DomainLinks$Trees" "size" "I") ∈ lw_all := lw_g (lw_at lw_m1 120 rfl) rfl
theorem q230 : (Jvm.Cond.soleField "DomainLinks$Trees" "size") ∈ lw_all := lw_g (lw_at lw_m1 121 rfl) rfl
theorem q231 : (Jvm.Cond.superclass "DomainLinks$Trees" "java/lang/Object") ∈ lw_all := lw_g (lw_at lw_m1 122 rfl) rfl
theorem q642 : (Jvm.Cond.instanceMethod ({ cls := "DomainLinks$Trees", name := "symbol", desc := "(I)I" } : Jvm.MethodName)) ∈ lw_all := lw_g (lw_at lw_m3 53 rfl) rfl
theorem q643 : (Jvm.Cond.selects "DomainLinks$Trees" ({ cls := "DomainLinks$Trees", name := "symbol", desc := "(I)I" } : Jvm.MethodName) ({ cls := "DomainLinks$Trees", name := "symbol", desc := "(I)I" } : Jvm.MethodName)) ∈ lw_all := lw_g (lw_at lw_m3 54 rfl) rfl
theorem q644 : (Jvm.Cond.code ({ cls := "DomainLinks$Trees", name := "symbol", desc := "(I)I" } : Jvm.MethodName) prog_18_method_4_code (2 : Nat) (Option.some Jvm.ClassFile.FieldType.int)) ∈ lw_all := lw_g (lw_at lw_m3 55 rfl) rfl
theorem q645 : (Jvm.Cond.methodLink "DomainLinks$Trees" (28 : Nat) ({ cls := "DomainLinks$Trees", name := "one", desc := "(I)I" } : Jvm.MethodName)) ∈ lw_all := lw_g (lw_at lw_m3 56 rfl) rfl
theorem q646 : (Jvm.Cond.instanceMethod ({ cls := "DomainLinks$Trees", name := "one", desc := "(I)I" } : Jvm.MethodName)) ∈ lw_all := lw_g (lw_at lw_m3 57 rfl) rfl
theorem q647 : (Jvm.Cond.selects "DomainLinks$Trees" ({ cls := "DomainLinks$Trees", name := "one", desc := "(I)I" } : Jvm.MethodName) ({ cls := "DomainLinks$Trees", name := "one", desc := "(I)I" } : Jvm.MethodName)) ∈ lw_all := lw_g (lw_at lw_m3 58 rfl) rfl
theorem q648 : (Jvm.Cond.code ({ cls := "DomainLinks$Trees", name := "one", desc := "(I)I" } : Jvm.MethodName) prog_18_method_3_code (3 : Nat) (Option.some Jvm.ClassFile.FieldType.int)) ∈ lw_all := lw_g (lw_at lw_m3 59 rfl) rfl
theorem q858 : (Jvm.Cond.selects "DomainLinks$Trees" ({ cls := "java/lang/Object", name := "getClass", desc := "()Ljava/lang/Class;" } : Jvm.MethodName) ({ cls := "java/lang/Object", name := "getClass", desc := "()Ljava/lang/Class;" } : Jvm.MethodName)) ∈ lw_all := lw_g (lw_at lw_m4 29 rfl) rfl
theorem q1665 : (Jvm.Cond.instanceMethod ({ cls := "DomainLinks$Trees", name := "add", desc := "(III)V" } : Jvm.MethodName)) ∈ lw_all := lw_g (lw_at lw_m7 116 rfl) rfl
theorem q1666 : (Jvm.Cond.selects "DomainLinks$Trees" ({ cls := "DomainLinks$Trees", name := "add", desc := "(III)V" } : Jvm.MethodName) ({ cls := "DomainLinks$Trees", name := "add", desc := "(III)V" } : Jvm.MethodName)) ∈ lw_all := lw_g (lw_at lw_m7 117 rfl) rfl
theorem q1667 : (Jvm.Cond.code ({ cls := "DomainLinks$Trees", name := "add", desc := "(III)V" } : Jvm.MethodName) prog_18_method_2_code (4 : Nat) (Option.none : Option Jvm.ClassFile.FieldType)) ∈ lw_all := lw_g (lw_at lw_m7 118 rfl) rfl
theorem q1687 : (Jvm.Cond.instanceMethod ({ cls := "DomainLinks$Trees", name := "copy", desc := "(LDomainLinks$Trees;)V" } : Jvm.MethodName)) ∈ lw_all := lw_g (lw_at lw_m7 138 rfl) rfl
theorem q1688 : (Jvm.Cond.selects "DomainLinks$Trees" ({ cls := "DomainLinks$Trees", name := "copy", desc := "(LDomainLinks$Trees;)V" } : Jvm.MethodName) ({ cls := "DomainLinks$Trees", name := "copy", desc := "(LDomainLinks$Trees;)V" } : Jvm.MethodName)) ∈ lw_all := lw_g (lw_at lw_m7 139 rfl) rfl
theorem q1689 : (Jvm.Cond.code ({ cls := "DomainLinks$Trees", name := "copy", desc := "(LDomainLinks$Trees;)V" } : Jvm.MethodName) prog_18_method_6_code (3 : Nat) (Option.none : Option Jvm.ClassFile.FieldType)) ∈ lw_all := lw_g (lw_at lw_m7 140 rfl) rfl
theorem q1691 : (Jvm.Cond.instanceMethod ({ cls := "DomainLinks$Trees", name := "unify", desc := "(II)Z" } : Jvm.MethodName)) ∈ lw_all := lw_g (lw_at lw_m7 142 rfl) rfl
theorem q1692 : (Jvm.Cond.selects "DomainLinks$Trees" ({ cls := "DomainLinks$Trees", name := "unify", desc := "(II)Z" } : Jvm.MethodName) ({ cls := "DomainLinks$Trees", name := "unify", desc := "(II)Z" } : Jvm.MethodName)) ∈ lw_all := lw_g (lw_at lw_m7 143 rfl) rfl
theorem q1693 : (Jvm.Cond.code ({ cls := "DomainLinks$Trees", name := "unify", desc := "(II)Z" } : Jvm.MethodName) prog_18_method_7_code (9 : Nat) (Option.some Jvm.ClassFile.FieldType.boolean)) ∈ lw_all := lw_g (lw_at lw_m7 144 rfl) rfl
theorem q1694 : (Jvm.Cond.methodLink "DomainLinks$Trees" (32 : Nat) ({ cls := "java/lang/Math", name := "min", desc := "(II)I" } : Jvm.MethodName)) ∈ lw_all := lw_g (lw_at lw_m7 145 rfl) rfl
theorem q1695 : (Jvm.Cond.methodLink "DomainLinks$Trees" (38 : Nat) ({ cls := "java/lang/Math", name := "max", desc := "(II)I" } : Jvm.MethodName)) ∈ lw_all := lw_g (lw_at lw_m7 146 rfl) rfl
theorem q1696 : (Jvm.Cond.methodLink "DomainLinks$Trees" (41 : Nat) ({ cls := "DomainLinks$Trees", name := "unify", desc := "(II)Z" } : Jvm.MethodName)) ∈ lw_all := lw_g (lw_at lw_m7 147 rfl) rfl
theorem q1711 : (Jvm.Cond.instanceMethod ({ cls := "DomainLinks$Trees", name := "child", desc := "(IZ)I" } : Jvm.MethodName)) ∈ lw_all := lw_g (lw_at lw_m7 162 rfl) rfl
theorem q1712 : (Jvm.Cond.selects "DomainLinks$Trees" ({ cls := "DomainLinks$Trees", name := "child", desc := "(IZ)I" } : Jvm.MethodName) ({ cls := "DomainLinks$Trees", name := "child", desc := "(IZ)I" } : Jvm.MethodName)) ∈ lw_all := lw_g (lw_at lw_m7 163 rfl) rfl
theorem q1713 : (Jvm.Cond.code ({ cls := "DomainLinks$Trees", name := "child", desc := "(IZ)I" } : Jvm.MethodName) prog_18_method_5_code (5 : Nat) (Option.some Jvm.ClassFile.FieldType.int)) ∈ lw_all := lw_g (lw_at lw_m7 164 rfl) rfl
theorem q2456 : (Jvm.Cond.castable "DomainLinks$Trees" "java/lang/Object") ∈ lw_tbl := lw_at lw_m10 187 rfl
theorem in_X3 : ∀ w ∈ wsX30, w ∈ lw_all := lw_in wsX30 [221, 223, 225, 227, 229] (by decide +kernel) (by decide +kernel)

/-! DomainLinks$Store -/
set_option maxRecDepth 100000
def RX4 : String := "DomainLinks$Store"
def TX4 : u_T := fun k => match k with
  | 0 => ("DomainLinks$Store", "sets", "[I", true)
  | 1 => ("DomainLinks$Store", "lows", "[I", true)
  | 2 => ("DomainLinks$Store", "highs", "[I", true)
  | 3 => ("DomainLinks$Store", "isFailed", "Z", false)
  | _ => ("DomainLinks$Store", "rounds", "I", false)
def tyX4 : Nat → FieldType := fun k => match k with
  | 0 => .array .int
  | 1 => .array .int
  | 2 => .array .int
  | 3 => .boolean
  | _ => .int
abbrev wsX40 : List Cond := u_ws RX4 TX4 5
theorem nmX4 : ∀ a, a < 5 → ∀ b, b < 5 → a ≠ b → (TX4 a).2.1 ≠ (TX4 b).2.1 := by decide +kernel
theorem tyX4_ok : ∀ k, k < 5 → parseFieldDescriptor (TX4 k).2.2.1 = some (tyX4 k) := by decide +kernel
abbrev cX4_init : ByteArray := prog_16_method_1_code
def yX4_init : MethodName := ⟨RX4, "<init>", "()V"⟩
theorem q116 : (Jvm.Cond.initialized "DomainLinks$Store") ∈ lw_all := lw_g (lw_at lw_m1 7 rfl) rfl
theorem q233 : (Jvm.Cond.instantiable "DomainLinks$Store" (5 : Nat)) ∈ lw_all := lw_g (lw_at lw_m1 124 rfl) rfl
theorem q235 : (Jvm.Cond.instanceMethod ({ cls := "DomainLinks$Store", name := "<init>", desc := "()V" } : Jvm.MethodName)) ∈ lw_all := lw_g (lw_at lw_m1 126 rfl) rfl
theorem q236 : (Jvm.Cond.code ({ cls := "DomainLinks$Store", name := "<init>", desc := "()V" } : Jvm.MethodName) prog_16_method_1_code (1 : Nat) (Option.none : Option Jvm.ClassFile.FieldType)) ∈ lw_all := lw_g (lw_at lw_m1 127 rfl) rfl
theorem q237 : (Jvm.Cond.methodLink "DomainLinks$Store" (3 : Nat) ({ cls := "java/lang/Object", name := "<init>", desc := "()V" } : Jvm.MethodName)) ∈ lw_all := lw_g (lw_at lw_m1 128 rfl) rfl
theorem q238 : (Jvm.Cond.fieldLink "DomainLinks$Store" (9 : Nat) "DomainLinks$Store" "sets" "[I") ∈ lw_all := lw_g (lw_at lw_m1 129 rfl) rfl
theorem q241 : (Jvm.Cond.fieldLink "DomainLinks$Store" (15 : Nat) "DomainLinks$Store" "lows" "[I") ∈ lw_all := lw_g (lw_at lw_m1 132 rfl) rfl
theorem q244 : (Jvm.Cond.fieldLink "DomainLinks$Store" (18 : Nat) "DomainLinks$Store" "highs" "[I") ∈ lw_all := lw_g (lw_at lw_m1 135 rfl) rfl
theorem q249 : (Jvm.Cond.laysFinal "DomainLinks$Store" "DomainLinks$Store" "sets" "[I") ∈ lw_all := lw_g (lw_at lw_m1 140 rfl) rfl
theorem q250 : (Jvm.Cond.soleField "DomainLinks$Store" "sets") ∈ lw_all := lw_g (lw_at lw_m1 141 rfl) rfl
theorem q251 : (Jvm.Cond.laysFinal "DomainLinks$Store" "DomainLinks$Store" "lows" "[I") ∈ lw_all := lw_g (lw_at lw_m1 142 rfl) rfl
theorem q252 : (Jvm.Cond.soleField "DomainLinks$Store" "lows") ∈ lw_all := lw_g (lw_at lw_m1 143 rfl) rfl
theorem q253 : (Jvm.Cond.laysFinal "DomainLinks$Store" "DomainLinks$Store" "highs" "[I") ∈ lw_all := lw_g (lw_at lw_m1 144 rfl) rfl
theorem q254 : (Jvm.Cond.soleField "DomainLinks$Store" "highs") ∈ lw_all := lw_g (lw_at lw_m1 145 rfl) rfl
theorem q255 : (Jvm.Cond.lays "DomainLinks$Store" "DomainLinks$Store" "isFailed" "Z") ∈ lw_all := lw_g (lw_at lw_m1 146 rfl) rfl
theorem q256 : (Jvm.Cond.soleField "DomainLinks$Store" "isFailed") ∈ lw_all := lw_g (lw_at lw_m1 147 rfl) rfl
theorem q257 : (Jvm.Cond.lays "DomainLinks$Store" "DomainLinks$Store" "rounds" "I") ∈ lw_all := lw_g (lw_at lw_m1 148 rfl) rfl
theorem q258 : (Jvm.Cond.soleField "DomainLinks$Store" "rounds") ∈ lw_all := lw_g (lw_at lw_m1 149 rfl) rfl
theorem q259 : (Jvm.Cond.superclass "DomainLinks$Store" "java/lang/Object") ∈ lw_all := lw_g (lw_at lw_m1 150 rfl) rfl
theorem q856 : (Jvm.Cond.selects "DomainLinks$Store" ({ cls := "java/lang/Object", name := "getClass", desc := "()Ljava/lang/Class;" } : Jvm.MethodName) ({ cls := "java/lang/Object", name := "getClass", desc := "()Ljava/lang/Class;" } : Jvm.MethodName)) ∈ lw_all := lw_g (lw_at lw_m4 27 rfl) rfl
theorem q2457 : (Jvm.Cond.castable "DomainLinks$Store" "java/lang/Object") ∈ lw_tbl := lw_at lw_m10 188 rfl
theorem in_X4 : ∀ w ∈ wsX40, w ∈ lw_all := lw_in wsX40 [249, 251, 253, 255, 257] (by decide +kernel) (by decide +kernel)

/-! DomainLinksModel -/
set_option maxRecDepth 100000
def RX5 : String := "DomainLinksModel"
def TX5 : u_T := fun k => match k with
  | 0 => ("DomainLinksModel", "variables", "I", false)
  | 1 => ("DomainLinksModel", "kind", "[I", true)
  | 2 => ("DomainLinksModel", "told", "[I", true)
  | 3 => ("DomainLinksModel", "from", "[I", true)
  | 4 => ("DomainLinksModel", "to", "[I", true)
  | 5 => ("DomainLinksModel", "named", "I", false)
  | 6 => ("DomainLinksModel", "names", "[I", true)
  | 7 => ("DomainLinksModel", "numbered", "I", false)
  | 8 => ("DomainLinksModel", "numbers", "[I", true)
  | 9 => ("DomainLinksModel", "moved", "I", false)
  | 10 => ("DomainLinksModel", "moves", "[I", true)
  | 11 => ("DomainLinksModel", "literals", "I", false)
  | 12 => ("DomainLinksModel", "literalOf", "[I", true)
  | 13 => ("DomainLinksModel", "literalValue", "[I", true)
  | 14 => ("DomainLinksModel", "literalHas", "[Z", true)
  | 15 => ("DomainLinksModel", "constraints", "I", false)
  | 16 => ("DomainLinksModel", "sort", "[I", true)
  | 17 => ("DomainLinksModel", "many", "[I", true)
  | 18 => ("DomainLinksModel", "place", "[I", true)
  | 19 => ("DomainLinksModel", "factor", "[I", true)
  | 20 => ("DomainLinksModel", "limit", "[I", true)
  | 21 => ("DomainLinksModel", "rowMany", "[I", true)
  | 22 => ("DomainLinksModel", "rowMoves", "[I", true)
  | 23 => ("DomainLinksModel", "has", "[Z", true)
  | 24 => ("DomainLinksModel", "decided", "I", false)
  | 25 => ("DomainLinksModel", "decision", "[I", true)
  | 26 => ("DomainLinksModel", "decisionValue", "[I", true)
  | 27 => ("DomainLinksModel", "decisionHas", "[Z", true)
  | 28 => ("DomainLinksModel", "taken", "I", false)
  | 29 => ("DomainLinksModel", "takes", "[I", true)
  | 30 => ("DomainLinksModel", "takesValue", "[I", true)
  | 31 => ("DomainLinksModel", "takesHas", "[Z", true)
  | 32 => ("DomainLinksModel", "least", "I", false)
  | 33 => ("DomainLinksModel", "below", "I", false)
  | 34 => ("DomainLinksModel", "domain", "[I", true)
  | 35 => ("DomainLinksModel", "low", "[I", true)
  | 36 => ("DomainLinksModel", "high", "[I", true)
  | 37 => ("DomainLinksModel", "isFailed", "Z", false)
  | 38 => ("DomainLinksModel", "rounds", "I", false)
  | 39 => ("DomainLinksModel", "removals", "I", false)
  | 40 => ("DomainLinksModel", "removal", "[I", true)
  | 41 => ("DomainLinksModel", "support", "[I", true)
  | 42 => ("DomainLinksModel", "left", "[I", true)
  | 43 => ("DomainLinksModel", "leftLow", "[I", true)
  | 44 => ("DomainLinksModel", "leftHigh", "[I", true)
  | 45 => ("DomainLinksModel", "phase", "[I", true)
  | 46 => ("DomainLinksModel", "nodes", "I", false)
  | 47 => ("DomainLinksModel", "failures", "I", false)
  | 48 => ("DomainLinksModel", "ended", "I", false)
  | 49 => ("DomainLinksModel", "solvedMany", "I", false)
  | 50 => ("DomainLinksModel", "solved", "[I", true)
  | 51 => ("DomainLinksModel", "depth", "I", false)
  | 52 => ("DomainLinksModel", "path", "[I", true)
  | 53 => ("DomainLinksModel", "pathValue", "[I", true)
  | 54 => ("DomainLinksModel", "pathHas", "[Z", true)
  | 55 => ("DomainLinksModel", "shared", "I", false)
  | 56 => ("DomainLinksModel", "bound", "I", false)
  | 57 => ("DomainLinksModel", "choice", "[I", true)
  | 58 => ("DomainLinksModel", "order", "[I", true)
  | 59 => ("DomainLinksModel", "isOver", "[Z", true)
  | 60 => ("DomainLinksModel", "ways", "[I", true)
  | 61 => ("DomainLinksModel", "way", "[I", true)
  | 62 => ("DomainLinksModel", "wayValue", "[I", true)
  | 63 => ("DomainLinksModel", "wayHas", "[Z", true)
  | 64 => ("DomainLinksModel", "trees", "I", false)
  | 65 => ("DomainLinksModel", "one", "[I", true)
  | 66 => ("DomainLinksModel", "symbol", "[I", true)
  | 67 => ("DomainLinksModel", "child", "[I", true)
  | 68 => ("DomainLinksModel", "thrown", "I", false)
  | 69 => ("DomainLinksModel", "kept", "[I", true)
  | 70 => ("DomainLinksModel", "todo", "[I", true)
  | _ => ("DomainLinksModel", "unlike", "[Z", true)
def tyX5 : Nat → FieldType := fun k => match k with
  | 0 => .int
  | 1 => .array .int
  | 2 => .array .int
  | 3 => .array .int
  | 4 => .array .int
  | 5 => .int
  | 6 => .array .int
  | 7 => .int
  | 8 => .array .int
  | 9 => .int
  | 10 => .array .int
  | 11 => .int
  | 12 => .array .int
  | 13 => .array .int
  | 14 => .array .boolean
  | 15 => .int
  | 16 => .array .int
  | 17 => .array .int
  | 18 => .array .int
  | 19 => .array .int
  | 20 => .array .int
  | 21 => .array .int
  | 22 => .array .int
  | 23 => .array .boolean
  | 24 => .int
  | 25 => .array .int
  | 26 => .array .int
  | 27 => .array .boolean
  | 28 => .int
  | 29 => .array .int
  | 30 => .array .int
  | 31 => .array .boolean
  | 32 => .int
  | 33 => .int
  | 34 => .array .int
  | 35 => .array .int
  | 36 => .array .int
  | 37 => .boolean
  | 38 => .int
  | 39 => .int
  | 40 => .array .int
  | 41 => .array .int
  | 42 => .array .int
  | 43 => .array .int
  | 44 => .array .int
  | 45 => .array .int
  | 46 => .int
  | 47 => .int
  | 48 => .int
  | 49 => .int
  | 50 => .array .int
  | 51 => .int
  | 52 => .array .int
  | 53 => .array .int
  | 54 => .array .boolean
  | 55 => .int
  | 56 => .int
  | 57 => .array .int
  | 58 => .array .int
  | 59 => .array .boolean
  | 60 => .array .int
  | 61 => .array .int
  | 62 => .array .int
  | 63 => .array .boolean
  | 64 => .int
  | 65 => .array .int
  | 66 => .array .int
  | 67 => .array .int
  | 68 => .int
  | 69 => .array .int
  | 70 => .array .int
  | _ => .array .boolean
abbrev wsX50 : List Cond := u_ws RX5 TX5 72
set_option maxRecDepth 100000 in
theorem nmX5 : ∀ a, a < 72 → ∀ b, b < 72 → a ≠ b → (TX5 a).2.1 ≠ (TX5 b).2.1 := by decide +kernel
set_option maxRecDepth 100000 in
theorem tyX5_ok : ∀ k, k < 72 → parseFieldDescriptor (TX5 k).2.2.1 = some (tyX5 k) := by decide +kernel
abbrev cX5_init : ByteArray := prog_21_method_1_code
def yX5_init : MethodName := ⟨RX5, "<init>", "()V"⟩
abbrev cX5_thrown : ByteArray := prog_21_method_2_code
def yX5_thrown : MethodName := ⟨RX5, "thrown", "()I"⟩
abbrev cX5_variable : ByteArray := prog_21_method_52_code
def yX5_variable : MethodName := ⟨RX5, "variable", "(II)I"⟩
abbrev cX5_isIn : ByteArray := prog_21_method_3_code
def yX5_isIn : MethodName := ⟨RX5, "isIn", "(III)Z"⟩
abbrev cX5_all : ByteArray := prog_21_method_11_code
def yX5_all : MethodName := ⟨RX5, "all", "(I)I"⟩
abbrev cX5_addsVariable : ByteArray := prog_21_method_51_code
def yX5_addsVariable : MethodName := ⟨RX5, "addsVariable", "(IIII)I"⟩
abbrev cX5_ratio : ByteArray := prog_21_method_53_code
def yX5_ratio : MethodName := ⟨RX5, "ratio", "(II)I"⟩
abbrev cX5_name : ByteArray := prog_21_method_54_code
def yX5_name : MethodName := ⟨RX5, "name", "(I)I"⟩
abbrev cX5_isVariable : ByteArray := prog_21_method_5_code
def yX5_isVariable : MethodName := ⟨RX5, "isVariable", "(I)Z"⟩
abbrev cX5_number : ByteArray := prog_21_method_55_code
def yX5_number : MethodName := ⟨RX5, "number", "(I)I"⟩
abbrev cX5_move : ByteArray := prog_21_method_56_code
def yX5_move : MethodName := ⟨RX5, "move", "(III)I"⟩
abbrev cX5_literal : ByteArray := prog_21_method_58_code
def yX5_literal : MethodName := ⟨RX5, "literal", "(IIZ)I"⟩
abbrev cX5_isValue : ByteArray := prog_21_method_57_code
def yX5_isValue : MethodName := ⟨RX5, "isValue", "(II)Z"⟩
abbrev cX5_values : ByteArray := prog_21_method_4_code
def yX5_values : MethodName := ⟨RX5, "values", "(I)I"⟩
abbrev cX5_linear : ByteArray := prog_21_method_64_code
def yX5_linear : MethodName := ⟨RX5, "linear", "(ZI)I"⟩
abbrev cX5_isRow : ByteArray := prog_21_method_61_code
def yX5_isRow : MethodName := ⟨RX5, "isRow", "(Z)Z"⟩
abbrev cX5_hasRoom : ByteArray := prog_21_method_62_code
def yX5_hasRoom : MethodName := ⟨RX5, "hasRoom", "()Z"⟩
abbrev cX5_takesRow : ByteArray := prog_21_method_63_code
def yX5_takesRow : MethodName := ⟨RX5, "takesRow", "(I)V"⟩
abbrev cX5_places : ByteArray := prog_21_method_59_code
def yX5_places : MethodName := ⟨RX5, "places", "(II)V"⟩
abbrev cX5_adds : ByteArray := prog_21_method_60_code
def yX5_adds : MethodName := ⟨RX5, "adds", "(II)I"⟩
abbrev cX5_different : ByteArray := prog_21_method_66_code
def yX5_different : MethodName := ⟨RX5, "different", "()I"⟩
abbrev cX5_rowOf : ByteArray := prog_21_method_65_code
def yX5_rowOf : MethodName := ⟨RX5, "rowOf", "(I)I"⟩
abbrev cX5_order : ByteArray := prog_21_method_67_code
def yX5_order : MethodName := ⟨RX5, "order", "()I"⟩
abbrev cX5_regular : ByteArray := prog_21_method_68_code
def yX5_regular : MethodName := ⟨RX5, "regular", "(I)I"⟩
abbrev cX5_element : ByteArray := prog_21_method_69_code
def yX5_element : MethodName := ⟨RX5, "element", "(II)I"⟩
abbrev cX5_when : ByteArray := prog_21_method_72_code
def yX5_when : MethodName := ⟨RX5, "when", "(IIIZ)I"⟩
abbrev cX5_third : ByteArray := prog_21_method_71_code
def yX5_third : MethodName := ⟨RX5, "third", "(I)I"⟩
abbrev cX5_of : ByteArray := prog_21_method_70_code
def yX5_of : MethodName := ⟨RX5, "of", "(IIIIIII)I"⟩
abbrev cX5_sets : ByteArray := prog_21_method_73_code
def yX5_sets : MethodName := ⟨RX5, "sets", "(ZIII)I"⟩
abbrev cX5_within : ByteArray := prog_21_method_74_code
def yX5_within : MethodName := ⟨RX5, "within", "(II)I"⟩
abbrev cX5_measure : ByteArray := prog_21_method_75_code
def yX5_measure : MethodName := ⟨RX5, "measure", "(II)I"⟩
abbrev cX5_member : ByteArray := prog_21_method_76_code
def yX5_member : MethodName := ⟨RX5, "member", "(III)I"⟩
abbrev cX5_joined : ByteArray := prog_21_method_77_code
def yX5_joined : MethodName := ⟨RX5, "joined", "(III)I"⟩
abbrev cX5_prefix : ByteArray := prog_21_method_78_code
def yX5_prefix : MethodName := ⟨RX5, "prefix", "(II)I"⟩
abbrev cX5_letter : ByteArray := prog_21_method_79_code
def yX5_letter : MethodName := ⟨RX5, "letter", "(III)I"⟩
abbrev cX5_clause : ByteArray := prog_21_method_81_code
def yX5_clause : MethodName := ⟨RX5, "clause", "()I"⟩
abbrev cX5_takesLiterals : ByteArray := prog_21_method_80_code
def yX5_takesLiterals : MethodName := ⟨RX5, "takesLiterals", "(I)V"⟩
abbrev cX5_symbol : ByteArray := prog_21_method_83_code
def yX5_symbol : MethodName := ⟨RX5, "symbol", "(II)I"⟩
abbrev cX5_isTree : ByteArray := prog_21_method_82_code
def yX5_isTree : MethodName := ⟨RX5, "isTree", "(I)Z"⟩
abbrev cX5_constraints : ByteArray := prog_21_method_84_code
def yX5_constraints : MethodName := ⟨RX5, "constraints", "()I"⟩
abbrev cX5_decide : ByteArray := prog_21_method_85_code
def yX5_decide : MethodName := ⟨RX5, "decide", "(IIZ)I"⟩
abbrev cX5_back : ByteArray := prog_21_method_86_code
def yX5_back : MethodName := ⟨RX5, "back", "(I)I"⟩
abbrev cX5_isFailed : ByteArray := prog_21_method_87_code
def yX5_isFailed : MethodName := ⟨RX5, "isFailed", "()Z"⟩
abbrev cX5_now : ByteArray := prog_21_method_48_code
def yX5_now : MethodName := ⟨RX5, "now", "()V"⟩
abbrev cX5_takesDecisions : ByteArray := prog_21_method_40_code
def yX5_takesDecisions : MethodName := ⟨RX5, "takesDecisions", "(I)V"⟩
abbrev cX5_takesOne : ByteArray := prog_21_method_39_code
def yX5_takesOne : MethodName := ⟨RX5, "takesOne", "(IIZ)V"⟩
abbrev cX5_finds : ByteArray := prog_21_method_43_code
def yX5_finds : MethodName := ⟨RX5, "finds", "()V"⟩
abbrev cX5_looksForFailure : ByteArray := prog_21_method_42_code
def yX5_looksForFailure : MethodName := ⟨RX5, "looksForFailure", "()V"⟩
abbrev cX5_isEmpty : ByteArray := prog_21_method_41_code
def yX5_isEmpty : MethodName := ⟨RX5, "isEmpty", "(I)Z"⟩
abbrev cX5_round : ByteArray := prog_21_method_47_code
def yX5_round : MethodName := ⟨RX5, "round", "()Z"⟩
abbrev cX5_supportsAll : ByteArray := prog_21_method_38_code
def yX5_supportsAll : MethodName := ⟨RX5, "supportsAll", "(I)V"⟩
abbrev cX5_byLinear : ByteArray := prog_21_method_24_code
def yX5_byLinear : MethodName := ⟨RX5, "byLinear", "(I)V"⟩
abbrev cX5_hasBit : ByteArray := prog_21_method_7_code
def yX5_hasBit : MethodName := ⟨RX5, "hasBit", "(II)Z"⟩
abbrev cX5_linearAgrees : ByteArray := prog_21_method_23_code
def yX5_linearAgrees : MethodName := ⟨RX5, "linearAgrees", "(III)Z"⟩
abbrev cX5_unit : ByteArray := prog_21_method_20_code
def yX5_unit : MethodName := ⟨RX5, "unit", "(I)I"⟩
abbrev cX5_most : ByteArray := prog_21_method_22_code
def yX5_most : MethodName := ⟨RX5, "most", "(IIZ)I"⟩
abbrev cX5_end : ByteArray := prog_21_method_21_code
def yX5_end : MethodName := ⟨RX5, "end", "(IZ)I"⟩
abbrev cX5_highest : ByteArray := prog_21_method_10_code
def yX5_highest : MethodName := ⟨RX5, "highest", "(I)I"⟩
abbrev cX5_lowest : ByteArray := prog_21_method_9_code
def yX5_lowest : MethodName := ⟨RX5, "lowest", "(I)I"⟩
abbrev cX5_supports : ByteArray := prog_21_method_19_code
def yX5_supports : MethodName := ⟨RX5, "supports", "(III)V"⟩
abbrev cX5_byDifferent : ByteArray := prog_21_method_26_code
def yX5_byDifferent : MethodName := ⟨RX5, "byDifferent", "(I)V"⟩
abbrev cX5_domainAt : ByteArray := prog_21_method_18_code
def yX5_domainAt : MethodName := ⟨RX5, "domainAt", "(II)I"⟩
abbrev cX5_canDiffer : ByteArray := prog_21_method_25_code
def yX5_canDiffer : MethodName := ⟨RX5, "canDiffer", "(III)Z"⟩
abbrev cX5_count : ByteArray := prog_21_method_8_code
def yX5_count : MethodName := ⟨RX5, "count", "(I)I"⟩
abbrev cX5_ordered : ByteArray := prog_21_method_29_code
def yX5_ordered : MethodName := ⟨RX5, "ordered", "(I)V"⟩
abbrev cX5_atLeast : ByteArray := prog_21_method_27_code
def yX5_atLeast : MethodName := ⟨RX5, "atLeast", "(II)I"⟩
abbrev cX5_atMost : ByteArray := prog_21_method_28_code
def yX5_atMost : MethodName := ⟨RX5, "atMost", "(II)I"⟩
abbrev cX5_byRegular : ByteArray := prog_21_method_30_code
def yX5_byRegular : MethodName := ⟨RX5, "byRegular", "(I)V"⟩
abbrev cX5_stepped : ByteArray := prog_21_method_31_code
def yX5_stepped : MethodName := ⟨RX5, "stepped", "(IIIZ)I"⟩
abbrev cX5_byElement : ByteArray := prog_21_method_32_code
def yX5_byElement : MethodName := ⟨RX5, "byElement", "(I)V"⟩
abbrev cX5_byClause : ByteArray := prog_21_method_34_code
def yX5_byClause : MethodName := ⟨RX5, "byClause", "(I)V"⟩
abbrev cX5_canHold : ByteArray := prog_21_method_33_code
def yX5_canHold : MethodName := ⟨RX5, "canHold", "(II)Z"⟩
abbrev cX5_find : ByteArray := prog_21_method_115_code
def yX5_find : MethodName := ⟨RX5, "find", "(I)I"⟩
abbrev cX5_paired : ByteArray := prog_21_method_37_code
def yX5_paired : MethodName := ⟨RX5, "paired", "(I)V"⟩
abbrev cX5_begins : ByteArray := prog_21_method_16_code
def yX5_begins : MethodName := ⟨RX5, "begins", "(II)Z"⟩
abbrev cX5_lengthOf : ByteArray := prog_21_method_12_code
def yX5_lengthOf : MethodName := ⟨RX5, "lengthOf", "(I)I"⟩
abbrev cX5_bitsOf : ByteArray := prog_21_method_13_code
def yX5_bitsOf : MethodName := ⟨RX5, "bitsOf", "(I)I"⟩
abbrev cX5_functional : ByteArray := prog_21_method_36_code
def yX5_functional : MethodName := ⟨RX5, "functional", "(I)V"⟩
abbrev cX5_first : ByteArray := prog_21_method_35_code
def yX5_first : MethodName := ⟨RX5, "first", "(III)I"⟩
abbrev cX5_joinedWord : ByteArray := prog_21_method_15_code
def yX5_joinedWord : MethodName := ⟨RX5, "joinedWord", "(II)I"⟩
abbrev cX5_wordOf : ByteArray := prog_21_method_14_code
def yX5_wordOf : MethodName := ⟨RX5, "wordOf", "(II)I"⟩
abbrev cX5_letterOf : ByteArray := prog_21_method_17_code
def yX5_letterOf : MethodName := ⟨RX5, "letterOf", "(II)I"⟩
abbrev cX5_against : ByteArray := prog_21_method_44_code
def yX5_against : MethodName := ⟨RX5, "against", "(II)I"⟩
abbrev cX5_removes : ByteArray := prog_21_method_46_code
def yX5_removes : MethodName := ⟨RX5, "removes", "(III)V"⟩
abbrev cX5_ratioAgrees : ByteArray := prog_21_method_45_code
def yX5_ratioAgrees : MethodName := ⟨RX5, "ratioAgrees", "(II)Z"⟩
abbrev cX5_domain : ByteArray := prog_21_method_89_code
def yX5_domain : MethodName := ⟨RX5, "domain", "(I)I"⟩
abbrev cX5_asks : ByteArray := prog_21_method_88_code
def yX5_asks : MethodName := ⟨RX5, "asks", "(I)Z"⟩
abbrev cX5_bound : ByteArray := prog_21_method_90_code
def yX5_bound : MethodName := ⟨RX5, "bound", "(IZ)I"⟩
abbrev cX5_rounds : ByteArray := prog_21_method_91_code
def yX5_rounds : MethodName := ⟨RX5, "rounds", "()I"⟩
abbrev cX5_removals : ByteArray := prog_21_method_92_code
def yX5_removals : MethodName := ⟨RX5, "removals", "()I"⟩
abbrev cX5_removal : ByteArray := prog_21_method_93_code
def yX5_removal : MethodName := ⟨RX5, "removal", "(II)I"⟩
abbrev cX5_reason : ByteArray := prog_21_method_95_code
def yX5_reason : MethodName := ⟨RX5, "reason", "(II)I"⟩
abbrev cX5_reasonOf : ByteArray := prog_21_method_94_code
def yX5_reasonOf : MethodName := ⟨RX5, "reasonOf", "(II)I"⟩
abbrev cX5_failure : ByteArray := prog_21_method_96_code
def yX5_failure : MethodName := ⟨RX5, "failure", "()I"⟩
abbrev cX5_learn : ByteArray := prog_21_method_97_code
def yX5_learn : MethodName := ⟨RX5, "learn", "()I"⟩
abbrev cX5_search : ByteArray := prog_21_method_104_code
def yX5_search : MethodName := ⟨RX5, "search", "(IIIII)I"⟩
abbrev cX5_findsNode : ByteArray := prog_21_method_100_code
def yX5_findsNode : MethodName := ⟨RX5, "findsNode", "()V"⟩
abbrev cX5_goesBack : ByteArray := prog_21_method_102_code
def yX5_goesBack : MethodName := ⟨RX5, "goesBack", "()Z"⟩
abbrev cX5_isSolution : ByteArray := prog_21_method_50_code
def yX5_isSolution : MethodName := ⟨RX5, "isSolution", "()Z"⟩
abbrev cX5_isFixed : ByteArray := prog_21_method_49_code
def yX5_isFixed : MethodName := ⟨RX5, "isFixed", "(I)Z"⟩
abbrev cX5_keepsSolution : ByteArray := prog_21_method_103_code
def yX5_keepsSolution : MethodName := ⟨RX5, "keepsSolution", "()V"⟩
abbrev cX5_chosen : ByteArray := prog_21_method_98_code
def yX5_chosen : MethodName := ⟨RX5, "chosen", "(II)I"⟩
abbrev cX5_valueBy : ByteArray := prog_21_method_99_code
def yX5_valueBy : MethodName := ⟨RX5, "valueBy", "(II)I"⟩
abbrev cX5_goesDown : ByteArray := prog_21_method_101_code
def yX5_goesDown : MethodName := ⟨RX5, "goesDown", "(II)V"⟩
abbrev cX5_nodes : ByteArray := prog_21_method_105_code
def yX5_nodes : MethodName := ⟨RX5, "nodes", "()I"⟩
abbrev cX5_failures : ByteArray := prog_21_method_106_code
def yX5_failures : MethodName := ⟨RX5, "failures", "()I"⟩
abbrev cX5_solution : ByteArray := prog_21_method_107_code
def yX5_solution : MethodName := ⟨RX5, "solution", "(I)I"⟩
abbrev cX5_solutions : ByteArray := prog_21_method_108_code
def yX5_solutions : MethodName := ⟨RX5, "solutions", "()I"⟩
abbrev cX5_solutionsByAll : ByteArray := prog_21_method_109_code
def yX5_solutionsByAll : MethodName := ⟨RX5, "solutionsByAll", "()I"⟩
abbrev cX5_nth : ByteArray := prog_21_method_110_code
def yX5_nth : MethodName := ⟨RX5, "nth", "(II)I"⟩
abbrev cX5_minimise : ByteArray := prog_21_method_111_code
def yX5_minimise : MethodName := ⟨RX5, "minimise", "(IIIII)V"⟩
abbrev cX5_goOn : ByteArray := prog_21_method_113_code
def yX5_goOn : MethodName := ⟨RX5, "goOn", "(II)I"⟩
abbrev cX5_steps : ByteArray := prog_21_method_112_code
def yX5_steps : MethodName := ⟨RX5, "steps", "(I)V"⟩
abbrev cX5_best : ByteArray := prog_21_method_114_code
def yX5_best : MethodName := ⟨RX5, "best", "()I"⟩
abbrev cX5_tree : ByteArray := prog_21_method_117_code
def yX5_tree : MethodName := ⟨RX5, "tree", "()I"⟩
abbrev cX5_addsTree : ByteArray := prog_21_method_116_code
def yX5_addsTree : MethodName := ⟨RX5, "addsTree", "(III)I"⟩
abbrev cX5_term : ByteArray := prog_21_method_118_code
def yX5_term : MethodName := ⟨RX5, "term", "(III)I"⟩
abbrev cX5_unify : ByteArray := prog_21_method_119_code
def yX5_unify : MethodName := ⟨RX5, "unify", "(II)I"⟩
abbrev cX5_areAlike : ByteArray := prog_21_method_123_code
def yX5_areAlike : MethodName := ⟨RX5, "areAlike", "(II)Z"⟩
abbrev cX5_differ : ByteArray := prog_21_method_122_code
def yX5_differ : MethodName := ⟨RX5, "differ", "(II)Z"⟩
abbrev cX5_children : ByteArray := prog_21_method_121_code
def yX5_children : MethodName := ⟨RX5, "children", "(I)I"⟩
abbrev cX5_childOf : ByteArray := prog_21_method_120_code
def yX5_childOf : MethodName := ⟨RX5, "childOf", "(II)I"⟩
abbrev cX5_symbolAt : ByteArray := prog_21_method_124_code
def yX5_symbolAt : MethodName := ⟨RX5, "symbolAt", "(III)I"⟩
abbrev cX5_isEndless : ByteArray := prog_21_method_125_code
def yX5_isEndless : MethodName := ⟨RX5, "isEndless", "(I)Z"⟩
theorem q117 : (Jvm.Cond.initialized "DomainLinksModel") ∈ lw_all := lw_g (lw_at lw_m1 8 rfl) rfl
theorem q860 : (Jvm.Cond.selects "DomainLinksModel" ({ cls := "java/lang/Object", name := "getClass", desc := "()Ljava/lang/Class;" } : Jvm.MethodName) ({ cls := "java/lang/Object", name := "getClass", desc := "()Ljava/lang/Class;" } : Jvm.MethodName)) ∈ lw_all := lw_g (lw_at lw_m4 31 rfl) rfl
theorem q1733 : (Jvm.Cond.instantiable "DomainLinksModel" (72 : Nat)) ∈ lw_all := lw_g (lw_at lw_m7 184 rfl) rfl
theorem q1735 : (Jvm.Cond.instanceMethod ({ cls := "DomainLinksModel", name := "<init>", desc := "()V" } : Jvm.MethodName)) ∈ lw_all := lw_g (lw_at lw_m7 186 rfl) rfl
theorem q1736 : (Jvm.Cond.code ({ cls := "DomainLinksModel", name := "<init>", desc := "()V" } : Jvm.MethodName) prog_21_method_1_code (1 : Nat) (Option.none : Option Jvm.ClassFile.FieldType)) ∈ lw_all := lw_g (lw_at lw_m7 187 rfl) rfl
theorem q1737 : (Jvm.Cond.methodLink "DomainLinksModel" (1 : Nat) ({ cls := "java/lang/Object", name := "<init>", desc := "()V" } : Jvm.MethodName)) ∈ lw_all := lw_g (lw_at lw_m7 188 rfl) rfl
theorem q1738 : (Jvm.Cond.fieldLink "DomainLinksModel" (177 : Nat) "DomainLinksModel" "variables" "I") ∈ lw_all := lw_g (lw_at lw_m7 189 rfl) rfl
theorem q1739 : (Jvm.Cond.fieldLink "DomainLinksModel" (7 : Nat) "DomainLinksModel" "kind" "[I") ∈ lw_all := lw_g (lw_at lw_m7 190 rfl) rfl
theorem q1740 : (Jvm.Cond.fieldLink "DomainLinksModel" (13 : Nat) "DomainLinksModel" "told" "[I") ∈ lw_all := lw_g (lw_at lw_m7 191 rfl) rfl
theorem q1741 : (Jvm.Cond.fieldLink "DomainLinksModel" (16 : Nat) "DomainLinksModel" "from" "[I") ∈ lw_all := lw_g (lw_at lw_m7 192 rfl) rfl
theorem q1742 : (Jvm.Cond.fieldLink "DomainLinksModel" (19 : Nat) "DomainLinksModel" "to" "[I") ∈ lw_all := lw_g (lw_at lw_m7 193 rfl) rfl
theorem q1743 : (Jvm.Cond.fieldLink "DomainLinksModel" (352 : Nat) "DomainLinksModel" "named" "I") ∈ lw_all := lw_g (lw_at lw_m7 194 rfl) rfl
theorem q1744 : (Jvm.Cond.fieldLink "DomainLinksModel" (22 : Nat) "DomainLinksModel" "names" "[I") ∈ lw_all := lw_g (lw_at lw_m7 195 rfl) rfl
theorem q1745 : (Jvm.Cond.fieldLink "DomainLinksModel" (355 : Nat) "DomainLinksModel" "numbered" "I") ∈ lw_all := lw_g (lw_at lw_m7 196 rfl) rfl
theorem q1746 : (Jvm.Cond.fieldLink "DomainLinksModel" (25 : Nat) "DomainLinksModel" "numbers" "[I") ∈ lw_all := lw_g (lw_at lw_m7 197 rfl) rfl
theorem q1747 : (Jvm.Cond.fieldLink "DomainLinksModel" (358 : Nat) "DomainLinksModel" "moved" "I") ∈ lw_all := lw_g (lw_at lw_m7 198 rfl) rfl
theorem q1748 : (Jvm.Cond.fieldLink "DomainLinksModel" (28 : Nat) "DomainLinksModel" "moves" "[I") ∈ lw_all := lw_g (lw_at lw_m7 199 rfl) rfl
theorem q1749 : (Jvm.Cond.fieldLink "DomainLinksModel" (367 : Nat) "DomainLinksModel" "literals" "I") ∈ lw_all := lw_g (lw_at lw_m7 200 rfl) rfl
theorem q1750 : (Jvm.Cond.fieldLink "DomainLinksModel" (31 : Nat) "DomainLinksModel" "literalOf" "[I") ∈ lw_all := lw_g (lw_at lw_m7 201 rfl) rfl
theorem q1751 : (Jvm.Cond.fieldLink "DomainLinksModel" (34 : Nat) "DomainLinksModel" "literalValue" "[I") ∈ lw_all := lw_g (lw_at lw_m7 202 rfl) rfl
theorem q1752 : (Jvm.Cond.fieldLink "DomainLinksModel" (37 : Nat) "DomainLinksModel" "literalHas" "[Z") ∈ lw_all := lw_g (lw_at lw_m7 203 rfl) rfl
theorem q1753 : (Jvm.Cond.fieldLink "DomainLinksModel" (318 : Nat) "DomainLinksModel" "constraints" "I") ∈ lw_all := lw_g (lw_at lw_m7 204 rfl) rfl
theorem q1754 : (Jvm.Cond.fieldLink "DomainLinksModel" (41 : Nat) "DomainLinksModel" "sort" "[I") ∈ lw_all := lw_g (lw_at lw_m7 205 rfl) rfl
theorem q1755 : (Jvm.Cond.fieldLink "DomainLinksModel" (44 : Nat) "DomainLinksModel" "many" "[I") ∈ lw_all := lw_g (lw_at lw_m7 206 rfl) rfl
theorem q1756 : (Jvm.Cond.fieldLink "DomainLinksModel" (47 : Nat) "DomainLinksModel" "place" "[I") ∈ lw_all := lw_g (lw_at lw_m7 207 rfl) rfl
theorem q1757 : (Jvm.Cond.fieldLink "DomainLinksModel" (50 : Nat) "DomainLinksModel" "factor" "[I") ∈ lw_all := lw_g (lw_at lw_m7 208 rfl) rfl
theorem q1758 : (Jvm.Cond.fieldLink "DomainLinksModel" (53 : Nat) "DomainLinksModel" "limit" "[I") ∈ lw_all := lw_g (lw_at lw_m7 209 rfl) rfl
theorem q1759 : (Jvm.Cond.fieldLink "DomainLinksModel" (56 : Nat) "DomainLinksModel" "rowMany" "[I") ∈ lw_all := lw_g (lw_at lw_m7 210 rfl) rfl
theorem q1760 : (Jvm.Cond.fieldLink "DomainLinksModel" (59 : Nat) "DomainLinksModel" "rowMoves" "[I") ∈ lw_all := lw_g (lw_at lw_m7 211 rfl) rfl
theorem q1761 : (Jvm.Cond.fieldLink "DomainLinksModel" (62 : Nat) "DomainLinksModel" "has" "[Z") ∈ lw_all := lw_g (lw_at lw_m7 212 rfl) rfl
theorem q1762 : (Jvm.Cond.fieldLink "DomainLinksModel" (290 : Nat) "DomainLinksModel" "decided" "I") ∈ lw_all := lw_g (lw_at lw_m7 213 rfl) rfl
theorem q1763 : (Jvm.Cond.fieldLink "DomainLinksModel" (65 : Nat) "DomainLinksModel" "decision" "[I") ∈ lw_all := lw_g (lw_at lw_m7 214 rfl) rfl
theorem q1764 : (Jvm.Cond.fieldLink "DomainLinksModel" (68 : Nat) "DomainLinksModel" "decisionValue" "[I") ∈ lw_all := lw_g (lw_at lw_m7 215 rfl) rfl
theorem q1765 : (Jvm.Cond.fieldLink "DomainLinksModel" (71 : Nat) "DomainLinksModel" "decisionHas" "[Z") ∈ lw_all := lw_g (lw_at lw_m7 216 rfl) rfl
theorem q1766 : (Jvm.Cond.fieldLink "DomainLinksModel" (287 : Nat) "DomainLinksModel" "taken" "I") ∈ lw_all := lw_g (lw_at lw_m7 217 rfl) rfl
theorem q1767 : (Jvm.Cond.fieldLink "DomainLinksModel" (74 : Nat) "DomainLinksModel" "takes" "[I") ∈ lw_all := lw_g (lw_at lw_m7 218 rfl) rfl
theorem q1768 : (Jvm.Cond.fieldLink "DomainLinksModel" (77 : Nat) "DomainLinksModel" "takesValue" "[I") ∈ lw_all := lw_g (lw_at lw_m7 219 rfl) rfl
theorem q1769 : (Jvm.Cond.fieldLink "DomainLinksModel" (80 : Nat) "DomainLinksModel" "takesHas" "[Z") ∈ lw_all := lw_g (lw_at lw_m7 220 rfl) rfl
theorem q1770 : (Jvm.Cond.fieldLink "DomainLinksModel" (83 : Nat) "DomainLinksModel" "least" "I") ∈ lw_all := lw_g (lw_at lw_m7 221 rfl) rfl
theorem q1771 : (Jvm.Cond.fieldLink "DomainLinksModel" (87 : Nat) "DomainLinksModel" "below" "I") ∈ lw_all := lw_g (lw_at lw_m7 222 rfl) rfl
theorem q1772 : (Jvm.Cond.fieldLink "DomainLinksModel" (90 : Nat) "DomainLinksModel" "domain" "[I") ∈ lw_all := lw_g (lw_at lw_m7 223 rfl) rfl
theorem q1773 : (Jvm.Cond.fieldLink "DomainLinksModel" (93 : Nat) "DomainLinksModel" "low" "[I") ∈ lw_all := lw_g (lw_at lw_m7 224 rfl) rfl
theorem q1774 : (Jvm.Cond.fieldLink "DomainLinksModel" (96 : Nat) "DomainLinksModel" "high" "[I") ∈ lw_all := lw_g (lw_at lw_m7 225 rfl) rfl
theorem q1775 : (Jvm.Cond.fieldLink "DomainLinksModel" (297 : Nat) "DomainLinksModel" "isFailed" "Z") ∈ lw_all := lw_g (lw_at lw_m7 226 rfl) rfl
theorem q1776 : (Jvm.Cond.fieldLink "DomainLinksModel" (305 : Nat) "DomainLinksModel" "rounds" "I") ∈ lw_all := lw_g (lw_at lw_m7 227 rfl) rfl
theorem q1777 : (Jvm.Cond.fieldLink "DomainLinksModel" (308 : Nat) "DomainLinksModel" "removals" "I") ∈ lw_all := lw_g (lw_at lw_m7 228 rfl) rfl
theorem q1778 : (Jvm.Cond.fieldLink "DomainLinksModel" (99 : Nat) "DomainLinksModel" "removal" "[I") ∈ lw_all := lw_g (lw_at lw_m7 229 rfl) rfl
theorem q1779 : (Jvm.Cond.fieldLink "DomainLinksModel" (102 : Nat) "DomainLinksModel" "support" "[I") ∈ lw_all := lw_g (lw_at lw_m7 230 rfl) rfl
theorem q1780 : (Jvm.Cond.fieldLink "DomainLinksModel" (105 : Nat) "DomainLinksModel" "left" "[I") ∈ lw_all := lw_g (lw_at lw_m7 231 rfl) rfl
theorem q1781 : (Jvm.Cond.fieldLink "DomainLinksModel" (108 : Nat) "DomainLinksModel" "leftLow" "[I") ∈ lw_all := lw_g (lw_at lw_m7 232 rfl) rfl
theorem q1782 : (Jvm.Cond.fieldLink "DomainLinksModel" (111 : Nat) "DomainLinksModel" "leftHigh" "[I") ∈ lw_all := lw_g (lw_at lw_m7 233 rfl) rfl
theorem q1783 : (Jvm.Cond.fieldLink "DomainLinksModel" (114 : Nat) "DomainLinksModel" "phase" "[I") ∈ lw_all := lw_g (lw_at lw_m7 234 rfl) rfl
theorem q1784 : (Jvm.Cond.fieldLink "DomainLinksModel" (421 : Nat) "DomainLinksModel" "nodes" "I") ∈ lw_all := lw_g (lw_at lw_m7 235 rfl) rfl
theorem q1785 : (Jvm.Cond.fieldLink "DomainLinksModel" (424 : Nat) "DomainLinksModel" "failures" "I") ∈ lw_all := lw_g (lw_at lw_m7 236 rfl) rfl
theorem q1786 : (Jvm.Cond.fieldLink "DomainLinksModel" (117 : Nat) "DomainLinksModel" "ended" "I") ∈ lw_all := lw_g (lw_at lw_m7 237 rfl) rfl
theorem q1787 : (Jvm.Cond.fieldLink "DomainLinksModel" (418 : Nat) "DomainLinksModel" "solvedMany" "I") ∈ lw_all := lw_g (lw_at lw_m7 238 rfl) rfl
theorem q1788 : (Jvm.Cond.fieldLink "DomainLinksModel" (120 : Nat) "DomainLinksModel" "solved" "[I") ∈ lw_all := lw_g (lw_at lw_m7 239 rfl) rfl
theorem q1789 : (Jvm.Cond.fieldLink "DomainLinksModel" (415 : Nat) "DomainLinksModel" "depth" "I") ∈ lw_all := lw_g (lw_at lw_m8 0 rfl) rfl
theorem q1790 : (Jvm.Cond.fieldLink "DomainLinksModel" (123 : Nat) "DomainLinksModel" "path" "[I") ∈ lw_all := lw_g (lw_at lw_m8 1 rfl) rfl
theorem q1791 : (Jvm.Cond.fieldLink "DomainLinksModel" (126 : Nat) "DomainLinksModel" "pathValue" "[I") ∈ lw_all := lw_g (lw_at lw_m8 2 rfl) rfl
theorem q1792 : (Jvm.Cond.fieldLink "DomainLinksModel" (129 : Nat) "DomainLinksModel" "pathHas" "[Z") ∈ lw_all := lw_g (lw_at lw_m8 3 rfl) rfl
theorem q1793 : (Jvm.Cond.fieldLink "DomainLinksModel" (132 : Nat) "DomainLinksModel" "shared" "I") ∈ lw_all := lw_g (lw_at lw_m8 4 rfl) rfl
theorem q1794 : (Jvm.Cond.fieldLink "DomainLinksModel" (453 : Nat) "DomainLinksModel" "bound" "I") ∈ lw_all := lw_g (lw_at lw_m8 5 rfl) rfl
theorem q1795 : (Jvm.Cond.fieldLink "DomainLinksModel" (135 : Nat) "DomainLinksModel" "choice" "[I") ∈ lw_all := lw_g (lw_at lw_m8 6 rfl) rfl
theorem q1796 : (Jvm.Cond.fieldLink "DomainLinksModel" (138 : Nat) "DomainLinksModel" "order" "[I") ∈ lw_all := lw_g (lw_at lw_m8 7 rfl) rfl
theorem q1797 : (Jvm.Cond.fieldLink "DomainLinksModel" (141 : Nat) "DomainLinksModel" "isOver" "[Z") ∈ lw_all := lw_g (lw_at lw_m8 8 rfl) rfl
theorem q1798 : (Jvm.Cond.fieldLink "DomainLinksModel" (144 : Nat) "DomainLinksModel" "ways" "[I") ∈ lw_all := lw_g (lw_at lw_m8 9 rfl) rfl
theorem q1799 : (Jvm.Cond.fieldLink "DomainLinksModel" (147 : Nat) "DomainLinksModel" "way" "[I") ∈ lw_all := lw_g (lw_at lw_m8 10 rfl) rfl
theorem q1800 : (Jvm.Cond.fieldLink "DomainLinksModel" (150 : Nat) "DomainLinksModel" "wayValue" "[I") ∈ lw_all := lw_g (lw_at lw_m8 11 rfl) rfl
theorem q1801 : (Jvm.Cond.fieldLink "DomainLinksModel" (153 : Nat) "DomainLinksModel" "wayHas" "[Z") ∈ lw_all := lw_g (lw_at lw_m8 12 rfl) rfl
theorem q1802 : (Jvm.Cond.fieldLink "DomainLinksModel" (400 : Nat) "DomainLinksModel" "trees" "I") ∈ lw_all := lw_g (lw_at lw_m8 13 rfl) rfl
theorem q1803 : (Jvm.Cond.fieldLink "DomainLinksModel" (156 : Nat) "DomainLinksModel" "one" "[I") ∈ lw_all := lw_g (lw_at lw_m8 14 rfl) rfl
theorem q1804 : (Jvm.Cond.fieldLink "DomainLinksModel" (159 : Nat) "DomainLinksModel" "symbol" "[I") ∈ lw_all := lw_g (lw_at lw_m8 15 rfl) rfl
theorem q1805 : (Jvm.Cond.fieldLink "DomainLinksModel" (162 : Nat) "DomainLinksModel" "child" "[I") ∈ lw_all := lw_g (lw_at lw_m8 16 rfl) rfl
theorem q1806 : (Jvm.Cond.fieldLink "DomainLinksModel" (174 : Nat) "DomainLinksModel" "thrown" "I") ∈ lw_all := lw_g (lw_at lw_m8 17 rfl) rfl
theorem q1807 : (Jvm.Cond.fieldLink "DomainLinksModel" (165 : Nat) "DomainLinksModel" "kept" "[I") ∈ lw_all := lw_g (lw_at lw_m8 18 rfl) rfl
theorem q1808 : (Jvm.Cond.fieldLink "DomainLinksModel" (168 : Nat) "DomainLinksModel" "todo" "[I") ∈ lw_all := lw_g (lw_at lw_m8 19 rfl) rfl
theorem q1809 : (Jvm.Cond.fieldLink "DomainLinksModel" (171 : Nat) "DomainLinksModel" "unlike" "[Z") ∈ lw_all := lw_g (lw_at lw_m8 20 rfl) rfl
theorem q1810 : (Jvm.Cond.lays "DomainLinksModel" "DomainLinksModel" "variables" "I") ∈ lw_all := lw_g (lw_at lw_m8 21 rfl) rfl
theorem q1811 : (Jvm.Cond.soleField "DomainLinksModel" "variables") ∈ lw_all := lw_g (lw_at lw_m8 22 rfl) rfl
theorem q1812 : (Jvm.Cond.laysFinal "DomainLinksModel" "DomainLinksModel" "kind" "[I") ∈ lw_all := lw_g (lw_at lw_m8 23 rfl) rfl
theorem q1813 : (Jvm.Cond.soleField "DomainLinksModel" "kind") ∈ lw_all := lw_g (lw_at lw_m8 24 rfl) rfl
theorem q1814 : (Jvm.Cond.laysFinal "DomainLinksModel" "DomainLinksModel" "told" "[I") ∈ lw_all := lw_g (lw_at lw_m8 25 rfl) rfl
theorem q1815 : (Jvm.Cond.soleField "DomainLinksModel" "told") ∈ lw_all := lw_g (lw_at lw_m8 26 rfl) rfl
theorem q1816 : (Jvm.Cond.laysFinal "DomainLinksModel" "DomainLinksModel" "from" "[I") ∈ lw_all := lw_g (lw_at lw_m8 27 rfl) rfl
theorem q1817 : (Jvm.Cond.soleField "DomainLinksModel" "from") ∈ lw_all := lw_g (lw_at lw_m8 28 rfl) rfl
theorem q1818 : (Jvm.Cond.laysFinal "DomainLinksModel" "DomainLinksModel" "to" "[I") ∈ lw_all := lw_g (lw_at lw_m8 29 rfl) rfl
theorem q1819 : (Jvm.Cond.soleField "DomainLinksModel" "to") ∈ lw_all := lw_g (lw_at lw_m8 30 rfl) rfl
theorem q1820 : (Jvm.Cond.lays "DomainLinksModel" "DomainLinksModel" "named" "I") ∈ lw_all := lw_g (lw_at lw_m8 31 rfl) rfl
theorem q1821 : (Jvm.Cond.soleField "DomainLinksModel" "named") ∈ lw_all := lw_g (lw_at lw_m8 32 rfl) rfl
theorem q1822 : (Jvm.Cond.laysFinal "DomainLinksModel" "DomainLinksModel" "names" "[I") ∈ lw_all := lw_g (lw_at lw_m8 33 rfl) rfl
theorem q1823 : (Jvm.Cond.soleField "DomainLinksModel" "names") ∈ lw_all := lw_g (lw_at lw_m8 34 rfl) rfl
theorem q1824 : (Jvm.Cond.lays "DomainLinksModel" "DomainLinksModel" "numbered" "I") ∈ lw_all := lw_g (lw_at lw_m8 35 rfl) rfl
theorem q1825 : (Jvm.Cond.soleField "DomainLinksModel" "numbered") ∈ lw_all := lw_g (lw_at lw_m8 36 rfl) rfl
theorem q1826 : (Jvm.Cond.laysFinal "DomainLinksModel" "DomainLinksModel" "numbers" "[I") ∈ lw_all := lw_g (lw_at lw_m8 37 rfl) rfl
theorem q1827 : (Jvm.Cond.soleField "DomainLinksModel" "numbers") ∈ lw_all := lw_g (lw_at lw_m8 38 rfl) rfl
theorem q1828 : (Jvm.Cond.lays "DomainLinksModel" "DomainLinksModel" "moved" "I") ∈ lw_all := lw_g (lw_at lw_m8 39 rfl) rfl
theorem q1829 : (Jvm.Cond.soleField "DomainLinksModel" "moved") ∈ lw_all := lw_g (lw_at lw_m8 40 rfl) rfl
theorem q1830 : (Jvm.Cond.laysFinal "DomainLinksModel" "DomainLinksModel" "moves" "[I") ∈ lw_all := lw_g (lw_at lw_m8 41 rfl) rfl
theorem q1831 : (Jvm.Cond.soleField "DomainLinksModel" "moves") ∈ lw_all := lw_g (lw_at lw_m8 42 rfl) rfl
theorem q1832 : (Jvm.Cond.lays "DomainLinksModel" "DomainLinksModel" "literals" "I") ∈ lw_all := lw_g (lw_at lw_m8 43 rfl) rfl
theorem q1833 : (Jvm.Cond.soleField "DomainLinksModel" "literals") ∈ lw_all := lw_g (lw_at lw_m8 44 rfl) rfl
theorem q1834 : (Jvm.Cond.laysFinal "DomainLinksModel" "DomainLinksModel" "literalOf" "[I") ∈ lw_all := lw_g (lw_at lw_m8 45 rfl) rfl
theorem q1835 : (Jvm.Cond.soleField "DomainLinksModel" "literalOf") ∈ lw_all := lw_g (lw_at lw_m8 46 rfl) rfl
theorem q1836 : (Jvm.Cond.laysFinal "DomainLinksModel" "DomainLinksModel" "literalValue" "[I") ∈ lw_all := lw_g (lw_at lw_m8 47 rfl) rfl
theorem q1837 : (Jvm.Cond.soleField "DomainLinksModel" "literalValue") ∈ lw_all := lw_g (lw_at lw_m8 48 rfl) rfl
theorem q1838 : (Jvm.Cond.laysFinal "DomainLinksModel" "DomainLinksModel" "literalHas" "[Z") ∈ lw_all := lw_g (lw_at lw_m8 49 rfl) rfl
theorem q1839 : (Jvm.Cond.soleField "DomainLinksModel" "literalHas") ∈ lw_all := lw_g (lw_at lw_m8 50 rfl) rfl
theorem q1840 : (Jvm.Cond.lays "DomainLinksModel" "DomainLinksModel" "constraints" "I") ∈ lw_all := lw_g (lw_at lw_m8 51 rfl) rfl
theorem q1841 : (Jvm.Cond.soleField "DomainLinksModel" "constraints") ∈ lw_all := lw_g (lw_at lw_m8 52 rfl) rfl
theorem q1842 : (Jvm.Cond.laysFinal "DomainLinksModel" "DomainLinksModel" "sort" "[I") ∈ lw_all := lw_g (lw_at lw_m8 53 rfl) rfl
theorem q1843 : (Jvm.Cond.soleField "DomainLinksModel" "sort") ∈ lw_all := lw_g (lw_at lw_m8 54 rfl) rfl
theorem q1844 : (Jvm.Cond.laysFinal "DomainLinksModel" "DomainLinksModel" "many" "[I") ∈ lw_all := lw_g (lw_at lw_m8 55 rfl) rfl
theorem q1845 : (Jvm.Cond.soleField "DomainLinksModel" "many") ∈ lw_all := lw_g (lw_at lw_m8 56 rfl) rfl
theorem q1846 : (Jvm.Cond.laysFinal "DomainLinksModel" "DomainLinksModel" "place" "[I") ∈ lw_all := lw_g (lw_at lw_m8 57 rfl) rfl
theorem q1847 : (Jvm.Cond.soleField "DomainLinksModel" "place") ∈ lw_all := lw_g (lw_at lw_m8 58 rfl) rfl
theorem q1848 : (Jvm.Cond.laysFinal "DomainLinksModel" "DomainLinksModel" "factor" "[I") ∈ lw_all := lw_g (lw_at lw_m8 59 rfl) rfl
theorem q1849 : (Jvm.Cond.soleField "DomainLinksModel" "factor") ∈ lw_all := lw_g (lw_at lw_m8 60 rfl) rfl
theorem q1850 : (Jvm.Cond.laysFinal "DomainLinksModel" "DomainLinksModel" "limit" "[I") ∈ lw_all := lw_g (lw_at lw_m8 61 rfl) rfl
theorem q1851 : (Jvm.Cond.soleField "DomainLinksModel" "limit") ∈ lw_all := lw_g (lw_at lw_m8 62 rfl) rfl
theorem q1852 : (Jvm.Cond.laysFinal "DomainLinksModel" "DomainLinksModel" "rowMany" "[I") ∈ lw_all := lw_g (lw_at lw_m8 63 rfl) rfl
theorem q1853 : (Jvm.Cond.soleField "DomainLinksModel" "rowMany") ∈ lw_all := lw_g (lw_at lw_m8 64 rfl) rfl
theorem q1854 : (Jvm.Cond.laysFinal "DomainLinksModel" "DomainLinksModel" "rowMoves" "[I") ∈ lw_all := lw_g (lw_at lw_m8 65 rfl) rfl
theorem q1855 : (Jvm.Cond.soleField "DomainLinksModel" "rowMoves") ∈ lw_all := lw_g (lw_at lw_m8 66 rfl) rfl
theorem q1856 : (Jvm.Cond.laysFinal "DomainLinksModel" "DomainLinksModel" "has" "[Z") ∈ lw_all := lw_g (lw_at lw_m8 67 rfl) rfl
theorem q1857 : (Jvm.Cond.soleField "DomainLinksModel" "has") ∈ lw_all := lw_g (lw_at lw_m8 68 rfl) rfl
theorem q1858 : (Jvm.Cond.lays "DomainLinksModel" "DomainLinksModel" "decided" "I") ∈ lw_all := lw_g (lw_at lw_m8 69 rfl) rfl
theorem q1859 : (Jvm.Cond.soleField "DomainLinksModel" "decided") ∈ lw_all := lw_g (lw_at lw_m8 70 rfl) rfl
theorem q1860 : (Jvm.Cond.laysFinal "DomainLinksModel" "DomainLinksModel" "decision" "[I") ∈ lw_all := lw_g (lw_at lw_m8 71 rfl) rfl
theorem q1861 : (Jvm.Cond.soleField "DomainLinksModel" "decision") ∈ lw_all := lw_g (lw_at lw_m8 72 rfl) rfl
theorem q1862 : (Jvm.Cond.laysFinal "DomainLinksModel" "DomainLinksModel" "decisionValue" "[I") ∈ lw_all := lw_g (lw_at lw_m8 73 rfl) rfl
theorem q1863 : (Jvm.Cond.soleField "DomainLinksModel" "decisionValue") ∈ lw_all := lw_g (lw_at lw_m8 74 rfl) rfl
theorem q1864 : (Jvm.Cond.laysFinal "DomainLinksModel" "DomainLinksModel" "decisionHas" "[Z") ∈ lw_all := lw_g (lw_at lw_m8 75 rfl) rfl
theorem q1865 : (Jvm.Cond.soleField "DomainLinksModel" "decisionHas") ∈ lw_all := lw_g (lw_at lw_m8 76 rfl) rfl
theorem q1866 : (Jvm.Cond.lays "DomainLinksModel" "DomainLinksModel" "taken" "I") ∈ lw_all := lw_g (lw_at lw_m8 77 rfl) rfl
theorem q1867 : (Jvm.Cond.soleField "DomainLinksModel" "taken") ∈ lw_all := lw_g (lw_at lw_m8 78 rfl) rfl
theorem q1868 : (Jvm.Cond.laysFinal "DomainLinksModel" "DomainLinksModel" "takes" "[I") ∈ lw_all := lw_g (lw_at lw_m8 79 rfl) rfl
theorem q1869 : (Jvm.Cond.soleField "DomainLinksModel" "takes") ∈ lw_all := lw_g (lw_at lw_m8 80 rfl) rfl
theorem q1870 : (Jvm.Cond.laysFinal "DomainLinksModel" "DomainLinksModel" "takesValue" "[I") ∈ lw_all := lw_g (lw_at lw_m8 81 rfl) rfl
theorem q1871 : (Jvm.Cond.soleField "DomainLinksModel" "takesValue") ∈ lw_all := lw_g (lw_at lw_m8 82 rfl) rfl
theorem q1872 : (Jvm.Cond.laysFinal "DomainLinksModel" "DomainLinksModel" "takesHas" "[Z") ∈ lw_all := lw_g (lw_at lw_m8 83 rfl) rfl
theorem q1873 : (Jvm.Cond.soleField "DomainLinksModel" "takesHas") ∈ lw_all := lw_g (lw_at lw_m8 84 rfl) rfl
theorem q1874 : (Jvm.Cond.lays "DomainLinksModel" "DomainLinksModel" "least" "I") ∈ lw_all := lw_g (lw_at lw_m8 85 rfl) rfl
theorem q1875 : (Jvm.Cond.soleField "DomainLinksModel" "least") ∈ lw_all := lw_g (lw_at lw_m8 86 rfl) rfl
theorem q1876 : (Jvm.Cond.lays "DomainLinksModel" "DomainLinksModel" "below" "I") ∈ lw_all := lw_g (lw_at lw_m8 87 rfl) rfl
theorem q1877 : (Jvm.Cond.soleField "DomainLinksModel" "below") ∈ lw_all := lw_g (lw_at lw_m8 88 rfl) rfl
theorem q1878 : (Jvm.Cond.laysFinal "DomainLinksModel" "DomainLinksModel" "domain" "[I") ∈ lw_all := lw_g (lw_at lw_m8 89 rfl) rfl
theorem q1879 : (Jvm.Cond.soleField "DomainLinksModel" "domain") ∈ lw_all := lw_g (lw_at lw_m8 90 rfl) rfl
theorem q1880 : (Jvm.Cond.laysFinal "DomainLinksModel" "DomainLinksModel" "low" "[I") ∈ lw_all := lw_g (lw_at lw_m8 91 rfl) rfl
theorem q1881 : (Jvm.Cond.soleField "DomainLinksModel" "low") ∈ lw_all := lw_g (lw_at lw_m8 92 rfl) rfl
theorem q1882 : (Jvm.Cond.laysFinal "DomainLinksModel" "DomainLinksModel" "high" "[I") ∈ lw_all := lw_g (lw_at lw_m8 93 rfl) rfl
theorem q1883 : (Jvm.Cond.soleField "DomainLinksModel" "high") ∈ lw_all := lw_g (lw_at lw_m8 94 rfl) rfl
theorem q1884 : (Jvm.Cond.lays "DomainLinksModel" "DomainLinksModel" "isFailed" "Z") ∈ lw_all := lw_g (lw_at lw_m8 95 rfl) rfl
theorem q1885 : (Jvm.Cond.soleField "DomainLinksModel" "isFailed") ∈ lw_all := lw_g (lw_at lw_m8 96 rfl) rfl
theorem q1886 : (Jvm.Cond.lays "DomainLinksModel" "DomainLinksModel" "rounds" "I") ∈ lw_all := lw_g (lw_at lw_m8 97 rfl) rfl
theorem q1887 : (Jvm.Cond.soleField "DomainLinksModel" "rounds") ∈ lw_all := lw_g (lw_at lw_m8 98 rfl) rfl
theorem q1888 : (Jvm.Cond.lays "DomainLinksModel" "DomainLinksModel" "removals" "I") ∈ lw_all := lw_g (lw_at lw_m8 99 rfl) rfl
theorem q1889 : (Jvm.Cond.soleField "DomainLinksModel" "removals") ∈ lw_all := lw_g (lw_at lw_m8 100 rfl) rfl
theorem q1890 : (Jvm.Cond.laysFinal "DomainLinksModel" "DomainLinksModel" "removal" "[I") ∈ lw_all := lw_g (lw_at lw_m8 101 rfl) rfl
theorem q1891 : (Jvm.Cond.soleField "DomainLinksModel" "removal") ∈ lw_all := lw_g (lw_at lw_m8 102 rfl) rfl
theorem q1892 : (Jvm.Cond.laysFinal "DomainLinksModel" "DomainLinksModel" "support" "[I") ∈ lw_all := lw_g (lw_at lw_m8 103 rfl) rfl
theorem q1893 : (Jvm.Cond.soleField "DomainLinksModel" "support") ∈ lw_all := lw_g (lw_at lw_m8 104 rfl) rfl
theorem q1894 : (Jvm.Cond.laysFinal "DomainLinksModel" "DomainLinksModel" "left" "[I") ∈ lw_all := lw_g (lw_at lw_m8 105 rfl) rfl
theorem q1895 : (Jvm.Cond.soleField "DomainLinksModel" "left") ∈ lw_all := lw_g (lw_at lw_m8 106 rfl) rfl
theorem q1896 : (Jvm.Cond.laysFinal "DomainLinksModel" "DomainLinksModel" "leftLow" "[I") ∈ lw_all := lw_g (lw_at lw_m8 107 rfl) rfl
theorem q1897 : (Jvm.Cond.soleField "DomainLinksModel" "leftLow") ∈ lw_all := lw_g (lw_at lw_m8 108 rfl) rfl
theorem q1898 : (Jvm.Cond.laysFinal "DomainLinksModel" "DomainLinksModel" "leftHigh" "[I") ∈ lw_all := lw_g (lw_at lw_m8 109 rfl) rfl
theorem q1899 : (Jvm.Cond.soleField "DomainLinksModel" "leftHigh") ∈ lw_all := lw_g (lw_at lw_m8 110 rfl) rfl
theorem q1900 : (Jvm.Cond.laysFinal "DomainLinksModel" "DomainLinksModel" "phase" "[I") ∈ lw_all := lw_g (lw_at lw_m8 111 rfl) rfl
theorem q1901 : (Jvm.Cond.soleField "DomainLinksModel" "phase") ∈ lw_all := lw_g (lw_at lw_m8 112 rfl) rfl
theorem q1902 : (Jvm.Cond.lays "DomainLinksModel" "DomainLinksModel" "nodes" "I") ∈ lw_all := lw_g (lw_at lw_m8 113 rfl) rfl
theorem q1903 : (Jvm.Cond.soleField "DomainLinksModel" "nodes") ∈ lw_all := lw_g (lw_at lw_m8 114 rfl) rfl
theorem q1904 : (Jvm.Cond.lays "DomainLinksModel" "DomainLinksModel" "failures" "I") ∈ lw_all := lw_g (lw_at lw_m8 115 rfl) rfl
theorem q1905 : (Jvm.Cond.soleField "DomainLinksModel" "failures") ∈ lw_all := lw_g (lw_at lw_m8 116 rfl) rfl
theorem q1906 : (Jvm.Cond.lays "DomainLinksModel" "DomainLinksModel" "ended" "I") ∈ lw_all := lw_g (lw_at lw_m8 117 rfl) rfl
theorem q1907 : (Jvm.Cond.soleField "DomainLinksModel" "ended") ∈ lw_all := lw_g (lw_at lw_m8 118 rfl) rfl
theorem q1908 : (Jvm.Cond.lays "DomainLinksModel" "DomainLinksModel" "solvedMany" "I") ∈ lw_all := lw_g (lw_at lw_m8 119 rfl) rfl
theorem q1909 : (Jvm.Cond.soleField "DomainLinksModel" "solvedMany") ∈ lw_all := lw_g (lw_at lw_m8 120 rfl) rfl
theorem q1910 : (Jvm.Cond.laysFinal "DomainLinksModel" "DomainLinksModel" "solved" "[I") ∈ lw_all := lw_g (lw_at lw_m8 121 rfl) rfl
theorem q1911 : (Jvm.Cond.soleField "DomainLinksModel" "solved") ∈ lw_all := lw_g (lw_at lw_m8 122 rfl) rfl
theorem q1912 : (Jvm.Cond.lays "DomainLinksModel" "DomainLinksModel" "depth" "I") ∈ lw_all := lw_g (lw_at lw_m8 123 rfl) rfl
theorem q1913 : (Jvm.Cond.soleField "DomainLinksModel" "depth") ∈ lw_all := lw_g (lw_at lw_m8 124 rfl) rfl
theorem q1914 : (Jvm.Cond.laysFinal "DomainLinksModel" "DomainLinksModel" "path" "[I") ∈ lw_all := lw_g (lw_at lw_m8 125 rfl) rfl
theorem q1915 : (Jvm.Cond.soleField "DomainLinksModel" "path") ∈ lw_all := lw_g (lw_at lw_m8 126 rfl) rfl
theorem q1916 : (Jvm.Cond.laysFinal "DomainLinksModel" "DomainLinksModel" "pathValue" "[I") ∈ lw_all := lw_g (lw_at lw_m8 127 rfl) rfl
theorem q1917 : (Jvm.Cond.soleField "DomainLinksModel" "pathValue") ∈ lw_all := lw_g (lw_at lw_m8 128 rfl) rfl
theorem q1918 : (Jvm.Cond.laysFinal "DomainLinksModel" "DomainLinksModel" "pathHas" "[Z") ∈ lw_all := lw_g (lw_at lw_m8 129 rfl) rfl
theorem q1919 : (Jvm.Cond.soleField "DomainLinksModel" "pathHas") ∈ lw_all := lw_g (lw_at lw_m8 130 rfl) rfl
theorem q1920 : (Jvm.Cond.lays "DomainLinksModel" "DomainLinksModel" "shared" "I") ∈ lw_all := lw_g (lw_at lw_m8 131 rfl) rfl
theorem q1921 : (Jvm.Cond.soleField "DomainLinksModel" "shared") ∈ lw_all := lw_g (lw_at lw_m8 132 rfl) rfl
theorem q1922 : (Jvm.Cond.lays "DomainLinksModel" "DomainLinksModel" "bound" "I") ∈ lw_all := lw_g (lw_at lw_m8 133 rfl) rfl
theorem q1923 : (Jvm.Cond.soleField "DomainLinksModel" "bound") ∈ lw_all := lw_g (lw_at lw_m8 134 rfl) rfl
theorem q1924 : (Jvm.Cond.laysFinal "DomainLinksModel" "DomainLinksModel" "choice" "[I") ∈ lw_all := lw_g (lw_at lw_m8 135 rfl) rfl
theorem q1925 : (Jvm.Cond.soleField "DomainLinksModel" "choice") ∈ lw_all := lw_g (lw_at lw_m8 136 rfl) rfl
theorem q1926 : (Jvm.Cond.laysFinal "DomainLinksModel" "DomainLinksModel" "order" "[I") ∈ lw_all := lw_g (lw_at lw_m8 137 rfl) rfl
theorem q1927 : (Jvm.Cond.soleField "DomainLinksModel" "order") ∈ lw_all := lw_g (lw_at lw_m8 138 rfl) rfl
theorem q1928 : (Jvm.Cond.laysFinal "DomainLinksModel" "DomainLinksModel" "isOver" "[Z") ∈ lw_all := lw_g (lw_at lw_m8 139 rfl) rfl
theorem q1929 : (Jvm.Cond.soleField "DomainLinksModel" "isOver") ∈ lw_all := lw_g (lw_at lw_m8 140 rfl) rfl
theorem q1930 : (Jvm.Cond.laysFinal "DomainLinksModel" "DomainLinksModel" "ways" "[I") ∈ lw_all := lw_g (lw_at lw_m8 141 rfl) rfl
theorem q1931 : (Jvm.Cond.soleField "DomainLinksModel" "ways") ∈ lw_all := lw_g (lw_at lw_m8 142 rfl) rfl
theorem q1932 : (Jvm.Cond.laysFinal "DomainLinksModel" "DomainLinksModel" "way" "[I") ∈ lw_all := lw_g (lw_at lw_m8 143 rfl) rfl
theorem q1933 : (Jvm.Cond.soleField "DomainLinksModel" "way") ∈ lw_all := lw_g (lw_at lw_m8 144 rfl) rfl
theorem q1934 : (Jvm.Cond.laysFinal "DomainLinksModel" "DomainLinksModel" "wayValue" "[I") ∈ lw_all := lw_g (lw_at lw_m8 145 rfl) rfl
theorem q1935 : (Jvm.Cond.soleField "DomainLinksModel" "wayValue") ∈ lw_all := lw_g (lw_at lw_m8 146 rfl) rfl
theorem q1936 : (Jvm.Cond.laysFinal "DomainLinksModel" "DomainLinksModel" "wayHas" "[Z") ∈ lw_all := lw_g (lw_at lw_m8 147 rfl) rfl
theorem q1937 : (Jvm.Cond.soleField "DomainLinksModel" "wayHas") ∈ lw_all := lw_g (lw_at lw_m8 148 rfl) rfl
theorem q1938 : (Jvm.Cond.lays "DomainLinksModel" "DomainLinksModel" "trees" "I") ∈ lw_all := lw_g (lw_at lw_m8 149 rfl) rfl
theorem q1939 : (Jvm.Cond.soleField "DomainLinksModel" "trees") ∈ lw_all := lw_g (lw_at lw_m8 150 rfl) rfl
theorem q1940 : (Jvm.Cond.laysFinal "DomainLinksModel" "DomainLinksModel" "one" "[I") ∈ lw_all := lw_g (lw_at lw_m8 151 rfl) rfl
theorem q1941 : (Jvm.Cond.soleField "DomainLinksModel" "one") ∈ lw_all := lw_g (lw_at lw_m8 152 rfl) rfl
theorem q1942 : (Jvm.Cond.laysFinal "DomainLinksModel" "DomainLinksModel" "symbol" "[I") ∈ lw_all := lw_g (lw_at lw_m8 153 rfl) rfl
theorem q1943 : (Jvm.Cond.soleField "DomainLinksModel" "symbol") ∈ lw_all := lw_g (lw_at lw_m8 154 rfl) rfl
theorem q1944 : (Jvm.Cond.laysFinal "DomainLinksModel" "DomainLinksModel" "child" "[I") ∈ lw_all := lw_g (lw_at lw_m8 155 rfl) rfl
theorem q1945 : (Jvm.Cond.soleField "DomainLinksModel" "child") ∈ lw_all := lw_g (lw_at lw_m8 156 rfl) rfl
theorem q1946 : (Jvm.Cond.lays "DomainLinksModel" "DomainLinksModel" "thrown" "I") ∈ lw_all := lw_g (lw_at lw_m8 157 rfl) rfl
theorem q1947 : (Jvm.Cond.soleField "DomainLinksModel" "thrown") ∈ lw_all := lw_g (lw_at lw_m8 158 rfl) rfl
theorem q1948 : (Jvm.Cond.laysFinal "DomainLinksModel" "DomainLinksModel" "kept" "[I") ∈ lw_all := lw_g (lw_at lw_m8 159 rfl) rfl
theorem q1949 : (Jvm.Cond.soleField "DomainLinksModel" "kept") ∈ lw_all := lw_g (lw_at lw_m8 160 rfl) rfl
theorem q1950 : (Jvm.Cond.laysFinal "DomainLinksModel" "DomainLinksModel" "todo" "[I") ∈ lw_all := lw_g (lw_at lw_m8 161 rfl) rfl
theorem q1951 : (Jvm.Cond.soleField "DomainLinksModel" "todo") ∈ lw_all := lw_g (lw_at lw_m8 162 rfl) rfl
theorem q1952 : (Jvm.Cond.laysFinal "DomainLinksModel" "DomainLinksModel" "unlike" "[Z") ∈ lw_all := lw_g (lw_at lw_m8 163 rfl) rfl
theorem q1953 : (Jvm.Cond.soleField "DomainLinksModel" "unlike") ∈ lw_all := lw_g (lw_at lw_m8 164 rfl) rfl
theorem q1954 : (Jvm.Cond.superclass "DomainLinksModel" "java/lang/Object") ∈ lw_all := lw_g (lw_at lw_m8 165 rfl) rfl
theorem q1956 : (Jvm.Cond.instanceMethod ({ cls := "DomainLinksModel", name := "thrown", desc := "()I" } : Jvm.MethodName)) ∈ lw_all := lw_g (lw_at lw_m8 167 rfl) rfl
theorem q1957 : (Jvm.Cond.selects "DomainLinksModel" ({ cls := "DomainLinksModel", name := "thrown", desc := "()I" } : Jvm.MethodName) ({ cls := "DomainLinksModel", name := "thrown", desc := "()I" } : Jvm.MethodName)) ∈ lw_all := lw_g (lw_at lw_m8 168 rfl) rfl
theorem q1958 : (Jvm.Cond.code ({ cls := "DomainLinksModel", name := "thrown", desc := "()I" } : Jvm.MethodName) prog_21_method_2_code (1 : Nat) (Option.some Jvm.ClassFile.FieldType.int)) ∈ lw_all := lw_g (lw_at lw_m8 169 rfl) rfl
theorem q1960 : (Jvm.Cond.instanceMethod ({ cls := "DomainLinksModel", name := "variable", desc := "(II)I" } : Jvm.MethodName)) ∈ lw_all := lw_g (lw_at lw_m8 171 rfl) rfl
theorem q1961 : (Jvm.Cond.selects "DomainLinksModel" ({ cls := "DomainLinksModel", name := "variable", desc := "(II)I" } : Jvm.MethodName) ({ cls := "DomainLinksModel", name := "variable", desc := "(II)I" } : Jvm.MethodName)) ∈ lw_all := lw_g (lw_at lw_m8 172 rfl) rfl
theorem q1962 : (Jvm.Cond.code ({ cls := "DomainLinksModel", name := "variable", desc := "(II)I" } : Jvm.MethodName) prog_21_method_52_code (4 : Nat) (Option.some Jvm.ClassFile.FieldType.int)) ∈ lw_all := lw_g (lw_at lw_m8 173 rfl) rfl
theorem q1963 : (Jvm.Cond.methodLink "DomainLinksModel" (180 : Nat) ({ cls := "DomainLinksModel", name := "isIn", desc := "(III)Z" } : Jvm.MethodName)) ∈ lw_all := lw_g (lw_at lw_m8 174 rfl) rfl
theorem q1964 : (Jvm.Cond.static ({ cls := "DomainLinksModel", name := "isIn", desc := "(III)Z" } : Jvm.MethodName)) ∈ lw_all := lw_g (lw_at lw_m8 175 rfl) rfl
theorem q1965 : (Jvm.Cond.code ({ cls := "DomainLinksModel", name := "isIn", desc := "(III)Z" } : Jvm.MethodName) prog_21_method_3_code (3 : Nat) (Option.some Jvm.ClassFile.FieldType.boolean)) ∈ lw_all := lw_g (lw_at lw_m8 176 rfl) rfl
theorem q1966 : (Jvm.Cond.methodLink "DomainLinksModel" (342 : Nat) ({ cls := "DomainLinksModel", name := "all", desc := "(I)I" } : Jvm.MethodName)) ∈ lw_all := lw_g (lw_at lw_m8 177 rfl) rfl
theorem q1967 : (Jvm.Cond.static ({ cls := "DomainLinksModel", name := "all", desc := "(I)I" } : Jvm.MethodName)) ∈ lw_all := lw_g (lw_at lw_m8 178 rfl) rfl
theorem q1968 : (Jvm.Cond.code ({ cls := "DomainLinksModel", name := "all", desc := "(I)I" } : Jvm.MethodName) prog_21_method_11_code (1 : Nat) (Option.some Jvm.ClassFile.FieldType.int)) ∈ lw_all := lw_g (lw_at lw_m8 179 rfl) rfl
theorem q1969 : (Jvm.Cond.constant "DomainLinksModel" (184 : Nat) (65535 : Int32)) ∈ lw_all := lw_g (lw_at lw_m8 180 rfl) rfl
theorem q1970 : (Jvm.Cond.methodLink "DomainLinksModel" (345 : Nat) ({ cls := "DomainLinksModel", name := "addsVariable", desc := "(IIII)I" } : Jvm.MethodName)) ∈ lw_all := lw_g (lw_at lw_m8 181 rfl) rfl
theorem q1971 : (Jvm.Cond.privateMethod ({ cls := "DomainLinksModel", name := "addsVariable", desc := "(IIII)I" } : Jvm.MethodName)) ∈ lw_tbl := lw_at lw_m8 182 rfl
theorem q1972 : (Jvm.Cond.instanceMethod ({ cls := "DomainLinksModel", name := "addsVariable", desc := "(IIII)I" } : Jvm.MethodName)) ∈ lw_all := lw_g (lw_at lw_m8 183 rfl) rfl
theorem q1973 : (Jvm.Cond.code ({ cls := "DomainLinksModel", name := "addsVariable", desc := "(IIII)I" } : Jvm.MethodName) prog_21_method_51_code (5 : Nat) (Option.some Jvm.ClassFile.FieldType.int)) ∈ lw_all := lw_g (lw_at lw_m8 184 rfl) rfl
theorem q1975 : (Jvm.Cond.instanceMethod ({ cls := "DomainLinksModel", name := "ratio", desc := "(II)I" } : Jvm.MethodName)) ∈ lw_all := lw_g (lw_at lw_m8 186 rfl) rfl
theorem q1976 : (Jvm.Cond.selects "DomainLinksModel" ({ cls := "DomainLinksModel", name := "ratio", desc := "(II)I" } : Jvm.MethodName) ({ cls := "DomainLinksModel", name := "ratio", desc := "(II)I" } : Jvm.MethodName)) ∈ lw_all := lw_g (lw_at lw_m8 187 rfl) rfl
theorem q1977 : (Jvm.Cond.code ({ cls := "DomainLinksModel", name := "ratio", desc := "(II)I" } : Jvm.MethodName) prog_21_method_53_code (3 : Nat) (Option.some Jvm.ClassFile.FieldType.int)) ∈ lw_all := lw_g (lw_at lw_m8 188 rfl) rfl
theorem q1979 : (Jvm.Cond.instanceMethod ({ cls := "DomainLinksModel", name := "name", desc := "(I)I" } : Jvm.MethodName)) ∈ lw_all := lw_g (lw_at lw_m8 190 rfl) rfl
theorem q1980 : (Jvm.Cond.selects "DomainLinksModel" ({ cls := "DomainLinksModel", name := "name", desc := "(I)I" } : Jvm.MethodName) ({ cls := "DomainLinksModel", name := "name", desc := "(I)I" } : Jvm.MethodName)) ∈ lw_all := lw_g (lw_at lw_m8 191 rfl) rfl
theorem q1981 : (Jvm.Cond.code ({ cls := "DomainLinksModel", name := "name", desc := "(I)I" } : Jvm.MethodName) prog_21_method_54_code (2 : Nat) (Option.some Jvm.ClassFile.FieldType.int)) ∈ lw_all := lw_g (lw_at lw_m8 192 rfl) rfl
theorem q1982 : (Jvm.Cond.methodLink "DomainLinksModel" (349 : Nat) ({ cls := "DomainLinksModel", name := "isVariable", desc := "(I)Z" } : Jvm.MethodName)) ∈ lw_all := lw_g (lw_at lw_m8 193 rfl) rfl
theorem q1983 : (Jvm.Cond.privateMethod ({ cls := "DomainLinksModel", name := "isVariable", desc := "(I)Z" } : Jvm.MethodName)) ∈ lw_tbl := lw_at lw_m8 194 rfl
theorem q1984 : (Jvm.Cond.instanceMethod ({ cls := "DomainLinksModel", name := "isVariable", desc := "(I)Z" } : Jvm.MethodName)) ∈ lw_all := lw_g (lw_at lw_m8 195 rfl) rfl
theorem q1985 : (Jvm.Cond.code ({ cls := "DomainLinksModel", name := "isVariable", desc := "(I)Z" } : Jvm.MethodName) prog_21_method_5_code (2 : Nat) (Option.some Jvm.ClassFile.FieldType.boolean)) ∈ lw_all := lw_g (lw_at lw_m8 196 rfl) rfl
theorem q1987 : (Jvm.Cond.instanceMethod ({ cls := "DomainLinksModel", name := "number", desc := "(I)I" } : Jvm.MethodName)) ∈ lw_all := lw_g (lw_at lw_m8 198 rfl) rfl
theorem q1988 : (Jvm.Cond.selects "DomainLinksModel" ({ cls := "DomainLinksModel", name := "number", desc := "(I)I" } : Jvm.MethodName) ({ cls := "DomainLinksModel", name := "number", desc := "(I)I" } : Jvm.MethodName)) ∈ lw_all := lw_g (lw_at lw_m8 199 rfl) rfl
theorem q1989 : (Jvm.Cond.code ({ cls := "DomainLinksModel", name := "number", desc := "(I)I" } : Jvm.MethodName) prog_21_method_55_code (2 : Nat) (Option.some Jvm.ClassFile.FieldType.int)) ∈ lw_all := lw_g (lw_at lw_m8 200 rfl) rfl
theorem q1991 : (Jvm.Cond.instanceMethod ({ cls := "DomainLinksModel", name := "move", desc := "(III)I" } : Jvm.MethodName)) ∈ lw_all := lw_g (lw_at lw_m8 202 rfl) rfl
theorem q1992 : (Jvm.Cond.selects "DomainLinksModel" ({ cls := "DomainLinksModel", name := "move", desc := "(III)I" } : Jvm.MethodName) ({ cls := "DomainLinksModel", name := "move", desc := "(III)I" } : Jvm.MethodName)) ∈ lw_all := lw_g (lw_at lw_m8 203 rfl) rfl
theorem q1993 : (Jvm.Cond.code ({ cls := "DomainLinksModel", name := "move", desc := "(III)I" } : Jvm.MethodName) prog_21_method_56_code (4 : Nat) (Option.some Jvm.ClassFile.FieldType.int)) ∈ lw_all := lw_g (lw_at lw_m8 204 rfl) rfl
theorem q1995 : (Jvm.Cond.instanceMethod ({ cls := "DomainLinksModel", name := "literal", desc := "(IIZ)I" } : Jvm.MethodName)) ∈ lw_all := lw_g (lw_at lw_m8 206 rfl) rfl
theorem q1996 : (Jvm.Cond.selects "DomainLinksModel" ({ cls := "DomainLinksModel", name := "literal", desc := "(IIZ)I" } : Jvm.MethodName) ({ cls := "DomainLinksModel", name := "literal", desc := "(IIZ)I" } : Jvm.MethodName)) ∈ lw_all := lw_g (lw_at lw_m8 207 rfl) rfl
theorem q1997 : (Jvm.Cond.code ({ cls := "DomainLinksModel", name := "literal", desc := "(IIZ)I" } : Jvm.MethodName) prog_21_method_58_code (4 : Nat) (Option.some Jvm.ClassFile.FieldType.int)) ∈ lw_all := lw_g (lw_at lw_m8 208 rfl) rfl
theorem q1998 : (Jvm.Cond.methodLink "DomainLinksModel" (364 : Nat) ({ cls := "DomainLinksModel", name := "isValue", desc := "(II)Z" } : Jvm.MethodName)) ∈ lw_all := lw_g (lw_at lw_m8 209 rfl) rfl
theorem q1999 : (Jvm.Cond.privateMethod ({ cls := "DomainLinksModel", name := "isValue", desc := "(II)Z" } : Jvm.MethodName)) ∈ lw_tbl := lw_at lw_m8 210 rfl
theorem q2000 : (Jvm.Cond.instanceMethod ({ cls := "DomainLinksModel", name := "isValue", desc := "(II)Z" } : Jvm.MethodName)) ∈ lw_all := lw_g (lw_at lw_m8 211 rfl) rfl
theorem q2001 : (Jvm.Cond.code ({ cls := "DomainLinksModel", name := "isValue", desc := "(II)Z" } : Jvm.MethodName) prog_21_method_57_code (3 : Nat) (Option.some Jvm.ClassFile.FieldType.boolean)) ∈ lw_all := lw_g (lw_at lw_m8 212 rfl) rfl
theorem q2002 : (Jvm.Cond.methodLink "DomainLinksModel" (361 : Nat) ({ cls := "DomainLinksModel", name := "values", desc := "(I)I" } : Jvm.MethodName)) ∈ lw_all := lw_g (lw_at lw_m8 213 rfl) rfl
theorem q2003 : (Jvm.Cond.static ({ cls := "DomainLinksModel", name := "values", desc := "(I)I" } : Jvm.MethodName)) ∈ lw_all := lw_g (lw_at lw_m8 214 rfl) rfl
theorem q2004 : (Jvm.Cond.code ({ cls := "DomainLinksModel", name := "values", desc := "(I)I" } : Jvm.MethodName) prog_21_method_4_code (1 : Nat) (Option.some Jvm.ClassFile.FieldType.int)) ∈ lw_all := lw_g (lw_at lw_m8 215 rfl) rfl
theorem q2006 : (Jvm.Cond.instanceMethod ({ cls := "DomainLinksModel", name := "linear", desc := "(ZI)I" } : Jvm.MethodName)) ∈ lw_all := lw_g (lw_at lw_m8 217 rfl) rfl
theorem q2007 : (Jvm.Cond.selects "DomainLinksModel" ({ cls := "DomainLinksModel", name := "linear", desc := "(ZI)I" } : Jvm.MethodName) ({ cls := "DomainLinksModel", name := "linear", desc := "(ZI)I" } : Jvm.MethodName)) ∈ lw_all := lw_g (lw_at lw_m8 218 rfl) rfl
theorem q2008 : (Jvm.Cond.code ({ cls := "DomainLinksModel", name := "linear", desc := "(ZI)I" } : Jvm.MethodName) prog_21_method_64_code (5 : Nat) (Option.some Jvm.ClassFile.FieldType.int)) ∈ lw_all := lw_g (lw_at lw_m8 219 rfl) rfl
theorem q2009 : (Jvm.Cond.methodLink "DomainLinksModel" (374 : Nat) ({ cls := "DomainLinksModel", name := "isRow", desc := "(Z)Z" } : Jvm.MethodName)) ∈ lw_all := lw_g (lw_at lw_m8 220 rfl) rfl
theorem q2010 : (Jvm.Cond.privateMethod ({ cls := "DomainLinksModel", name := "isRow", desc := "(Z)Z" } : Jvm.MethodName)) ∈ lw_tbl := lw_at lw_m8 221 rfl
theorem q2011 : (Jvm.Cond.instanceMethod ({ cls := "DomainLinksModel", name := "isRow", desc := "(Z)Z" } : Jvm.MethodName)) ∈ lw_all := lw_g (lw_at lw_m8 222 rfl) rfl
theorem q2012 : (Jvm.Cond.code ({ cls := "DomainLinksModel", name := "isRow", desc := "(Z)Z" } : Jvm.MethodName) prog_21_method_61_code (4 : Nat) (Option.some Jvm.ClassFile.FieldType.boolean)) ∈ lw_all := lw_g (lw_at lw_m8 223 rfl) rfl
theorem q2013 : (Jvm.Cond.methodLink "DomainLinksModel" (378 : Nat) ({ cls := "DomainLinksModel", name := "hasRoom", desc := "()Z" } : Jvm.MethodName)) ∈ lw_all := lw_g (lw_at lw_m8 224 rfl) rfl
theorem q2014 : (Jvm.Cond.privateMethod ({ cls := "DomainLinksModel", name := "hasRoom", desc := "()Z" } : Jvm.MethodName)) ∈ lw_tbl := lw_at lw_m8 225 rfl
theorem q2015 : (Jvm.Cond.instanceMethod ({ cls := "DomainLinksModel", name := "hasRoom", desc := "()Z" } : Jvm.MethodName)) ∈ lw_all := lw_g (lw_at lw_m8 226 rfl) rfl
theorem q2016 : (Jvm.Cond.code ({ cls := "DomainLinksModel", name := "hasRoom", desc := "()Z" } : Jvm.MethodName) prog_21_method_62_code (1 : Nat) (Option.some Jvm.ClassFile.FieldType.boolean)) ∈ lw_all := lw_g (lw_at lw_m8 227 rfl) rfl
theorem q2017 : (Jvm.Cond.methodLink "DomainLinksModel" (381 : Nat) ({ cls := "DomainLinksModel", name := "takesRow", desc := "(I)V" } : Jvm.MethodName)) ∈ lw_all := lw_g (lw_at lw_m8 228 rfl) rfl
theorem q2018 : (Jvm.Cond.privateMethod ({ cls := "DomainLinksModel", name := "takesRow", desc := "(I)V" } : Jvm.MethodName)) ∈ lw_tbl := lw_at lw_m8 229 rfl
theorem q2019 : (Jvm.Cond.instanceMethod ({ cls := "DomainLinksModel", name := "takesRow", desc := "(I)V" } : Jvm.MethodName)) ∈ lw_all := lw_g (lw_at lw_m8 230 rfl) rfl
theorem q2020 : (Jvm.Cond.code ({ cls := "DomainLinksModel", name := "takesRow", desc := "(I)V" } : Jvm.MethodName) prog_21_method_63_code (3 : Nat) (Option.none : Option Jvm.ClassFile.FieldType)) ∈ lw_all := lw_g (lw_at lw_m8 231 rfl) rfl
theorem q2021 : (Jvm.Cond.methodLink "DomainLinksModel" (370 : Nat) ({ cls := "DomainLinksModel", name := "places", desc := "(II)V" } : Jvm.MethodName)) ∈ lw_all := lw_g (lw_at lw_m8 232 rfl) rfl
theorem q2022 : (Jvm.Cond.privateMethod ({ cls := "DomainLinksModel", name := "places", desc := "(II)V" } : Jvm.MethodName)) ∈ lw_tbl := lw_at lw_m8 233 rfl
theorem q2023 : (Jvm.Cond.instanceMethod ({ cls := "DomainLinksModel", name := "places", desc := "(II)V" } : Jvm.MethodName)) ∈ lw_all := lw_g (lw_at lw_m8 234 rfl) rfl
theorem q2024 : (Jvm.Cond.code ({ cls := "DomainLinksModel", name := "places", desc := "(II)V" } : Jvm.MethodName) prog_21_method_59_code (3 : Nat) (Option.none : Option Jvm.ClassFile.FieldType)) ∈ lw_all := lw_g (lw_at lw_m8 235 rfl) rfl
theorem q2025 : (Jvm.Cond.methodLink "DomainLinksModel" (384 : Nat) ({ cls := "DomainLinksModel", name := "adds", desc := "(II)I" } : Jvm.MethodName)) ∈ lw_all := lw_g (lw_at lw_m8 236 rfl) rfl
theorem q2026 : (Jvm.Cond.privateMethod ({ cls := "DomainLinksModel", name := "adds", desc := "(II)I" } : Jvm.MethodName)) ∈ lw_tbl := lw_at lw_m8 237 rfl
theorem q2027 : (Jvm.Cond.instanceMethod ({ cls := "DomainLinksModel", name := "adds", desc := "(II)I" } : Jvm.MethodName)) ∈ lw_all := lw_g (lw_at lw_m8 238 rfl) rfl
theorem q2028 : (Jvm.Cond.code ({ cls := "DomainLinksModel", name := "adds", desc := "(II)I" } : Jvm.MethodName) prog_21_method_60_code (3 : Nat) (Option.some Jvm.ClassFile.FieldType.int)) ∈ lw_all := lw_g (lw_at lw_m8 239 rfl) rfl
theorem q2030 : (Jvm.Cond.instanceMethod ({ cls := "DomainLinksModel", name := "different", desc := "()I" } : Jvm.MethodName)) ∈ lw_all := lw_g (lw_at lw_m9 1 rfl) rfl
theorem q2031 : (Jvm.Cond.selects "DomainLinksModel" ({ cls := "DomainLinksModel", name := "different", desc := "()I" } : Jvm.MethodName) ({ cls := "DomainLinksModel", name := "different", desc := "()I" } : Jvm.MethodName)) ∈ lw_all := lw_g (lw_at lw_m9 2 rfl) rfl
theorem q2032 : (Jvm.Cond.code ({ cls := "DomainLinksModel", name := "different", desc := "()I" } : Jvm.MethodName) prog_21_method_66_code (1 : Nat) (Option.some Jvm.ClassFile.FieldType.int)) ∈ lw_all := lw_g (lw_at lw_m9 3 rfl) rfl
theorem q2033 : (Jvm.Cond.methodLink "DomainLinksModel" (387 : Nat) ({ cls := "DomainLinksModel", name := "rowOf", desc := "(I)I" } : Jvm.MethodName)) ∈ lw_all := lw_g (lw_at lw_m9 4 rfl) rfl
theorem q2034 : (Jvm.Cond.privateMethod ({ cls := "DomainLinksModel", name := "rowOf", desc := "(I)I" } : Jvm.MethodName)) ∈ lw_tbl := lw_at lw_m9 5 rfl
theorem q2035 : (Jvm.Cond.instanceMethod ({ cls := "DomainLinksModel", name := "rowOf", desc := "(I)I" } : Jvm.MethodName)) ∈ lw_all := lw_g (lw_at lw_m9 6 rfl) rfl
theorem q2036 : (Jvm.Cond.code ({ cls := "DomainLinksModel", name := "rowOf", desc := "(I)I" } : Jvm.MethodName) prog_21_method_65_code (3 : Nat) (Option.some Jvm.ClassFile.FieldType.int)) ∈ lw_all := lw_g (lw_at lw_m9 7 rfl) rfl
theorem q2038 : (Jvm.Cond.instanceMethod ({ cls := "DomainLinksModel", name := "order", desc := "()I" } : Jvm.MethodName)) ∈ lw_all := lw_g (lw_at lw_m9 9 rfl) rfl
theorem q2039 : (Jvm.Cond.selects "DomainLinksModel" ({ cls := "DomainLinksModel", name := "order", desc := "()I" } : Jvm.MethodName) ({ cls := "DomainLinksModel", name := "order", desc := "()I" } : Jvm.MethodName)) ∈ lw_all := lw_g (lw_at lw_m9 10 rfl) rfl
theorem q2040 : (Jvm.Cond.code ({ cls := "DomainLinksModel", name := "order", desc := "()I" } : Jvm.MethodName) prog_21_method_67_code (1 : Nat) (Option.some Jvm.ClassFile.FieldType.int)) ∈ lw_all := lw_g (lw_at lw_m9 11 rfl) rfl
theorem q2042 : (Jvm.Cond.instanceMethod ({ cls := "DomainLinksModel", name := "regular", desc := "(I)I" } : Jvm.MethodName)) ∈ lw_all := lw_g (lw_at lw_m9 13 rfl) rfl
theorem q2043 : (Jvm.Cond.selects "DomainLinksModel" ({ cls := "DomainLinksModel", name := "regular", desc := "(I)I" } : Jvm.MethodName) ({ cls := "DomainLinksModel", name := "regular", desc := "(I)I" } : Jvm.MethodName)) ∈ lw_all := lw_g (lw_at lw_m9 14 rfl) rfl
theorem q2044 : (Jvm.Cond.code ({ cls := "DomainLinksModel", name := "regular", desc := "(I)I" } : Jvm.MethodName) prog_21_method_68_code (4 : Nat) (Option.some Jvm.ClassFile.FieldType.int)) ∈ lw_all := lw_g (lw_at lw_m9 15 rfl) rfl
theorem q2046 : (Jvm.Cond.instanceMethod ({ cls := "DomainLinksModel", name := "element", desc := "(II)I" } : Jvm.MethodName)) ∈ lw_all := lw_g (lw_at lw_m9 17 rfl) rfl
theorem q2047 : (Jvm.Cond.selects "DomainLinksModel" ({ cls := "DomainLinksModel", name := "element", desc := "(II)I" } : Jvm.MethodName) ({ cls := "DomainLinksModel", name := "element", desc := "(II)I" } : Jvm.MethodName)) ∈ lw_all := lw_g (lw_at lw_m9 18 rfl) rfl
theorem q2048 : (Jvm.Cond.code ({ cls := "DomainLinksModel", name := "element", desc := "(II)I" } : Jvm.MethodName) prog_21_method_69_code (4 : Nat) (Option.some Jvm.ClassFile.FieldType.int)) ∈ lw_all := lw_g (lw_at lw_m9 19 rfl) rfl
theorem q2050 : (Jvm.Cond.instanceMethod ({ cls := "DomainLinksModel", name := "when", desc := "(IIIZ)I" } : Jvm.MethodName)) ∈ lw_all := lw_g (lw_at lw_m9 21 rfl) rfl
theorem q2051 : (Jvm.Cond.selects "DomainLinksModel" ({ cls := "DomainLinksModel", name := "when", desc := "(IIIZ)I" } : Jvm.MethodName) ({ cls := "DomainLinksModel", name := "when", desc := "(IIIZ)I" } : Jvm.MethodName)) ∈ lw_all := lw_g (lw_at lw_m9 22 rfl) rfl
theorem q2052 : (Jvm.Cond.code ({ cls := "DomainLinksModel", name := "when", desc := "(IIIZ)I" } : Jvm.MethodName) prog_21_method_72_code (5 : Nat) (Option.some Jvm.ClassFile.FieldType.int)) ∈ lw_all := lw_g (lw_at lw_m9 23 rfl) rfl
theorem q2053 : (Jvm.Cond.methodLink "DomainLinksModel" (390 : Nat) ({ cls := "DomainLinksModel", name := "third", desc := "(I)I" } : Jvm.MethodName)) ∈ lw_all := lw_g (lw_at lw_m9 24 rfl) rfl
theorem q2054 : (Jvm.Cond.static ({ cls := "DomainLinksModel", name := "third", desc := "(I)I" } : Jvm.MethodName)) ∈ lw_all := lw_g (lw_at lw_m9 25 rfl) rfl
theorem q2055 : (Jvm.Cond.code ({ cls := "DomainLinksModel", name := "third", desc := "(I)I" } : Jvm.MethodName) prog_21_method_71_code (1 : Nat) (Option.some Jvm.ClassFile.FieldType.int)) ∈ lw_all := lw_g (lw_at lw_m9 26 rfl) rfl
theorem q2056 : (Jvm.Cond.methodLink "DomainLinksModel" (393 : Nat) ({ cls := "DomainLinksModel", name := "of", desc := "(IIIIIII)I" } : Jvm.MethodName)) ∈ lw_all := lw_g (lw_at lw_m9 27 rfl) rfl
theorem q2057 : (Jvm.Cond.privateMethod ({ cls := "DomainLinksModel", name := "of", desc := "(IIIIIII)I" } : Jvm.MethodName)) ∈ lw_tbl := lw_at lw_m9 28 rfl
theorem q2058 : (Jvm.Cond.instanceMethod ({ cls := "DomainLinksModel", name := "of", desc := "(IIIIIII)I" } : Jvm.MethodName)) ∈ lw_all := lw_g (lw_at lw_m9 29 rfl) rfl
theorem q2059 : (Jvm.Cond.code ({ cls := "DomainLinksModel", name := "of", desc := "(IIIIIII)I" } : Jvm.MethodName) prog_21_method_70_code (10 : Nat) (Option.some Jvm.ClassFile.FieldType.int)) ∈ lw_all := lw_g (lw_at lw_m9 30 rfl) rfl
theorem q2061 : (Jvm.Cond.instanceMethod ({ cls := "DomainLinksModel", name := "sets", desc := "(ZIII)I" } : Jvm.MethodName)) ∈ lw_all := lw_g (lw_at lw_m9 32 rfl) rfl
theorem q2062 : (Jvm.Cond.selects "DomainLinksModel" ({ cls := "DomainLinksModel", name := "sets", desc := "(ZIII)I" } : Jvm.MethodName) ({ cls := "DomainLinksModel", name := "sets", desc := "(ZIII)I" } : Jvm.MethodName)) ∈ lw_all := lw_g (lw_at lw_m9 33 rfl) rfl
theorem q2063 : (Jvm.Cond.code ({ cls := "DomainLinksModel", name := "sets", desc := "(ZIII)I" } : Jvm.MethodName) prog_21_method_73_code (5 : Nat) (Option.some Jvm.ClassFile.FieldType.int)) ∈ lw_all := lw_g (lw_at lw_m9 34 rfl) rfl
theorem q2065 : (Jvm.Cond.instanceMethod ({ cls := "DomainLinksModel", name := "within", desc := "(II)I" } : Jvm.MethodName)) ∈ lw_all := lw_g (lw_at lw_m9 36 rfl) rfl
theorem q2066 : (Jvm.Cond.selects "DomainLinksModel" ({ cls := "DomainLinksModel", name := "within", desc := "(II)I" } : Jvm.MethodName) ({ cls := "DomainLinksModel", name := "within", desc := "(II)I" } : Jvm.MethodName)) ∈ lw_all := lw_g (lw_at lw_m9 37 rfl) rfl
theorem q2067 : (Jvm.Cond.code ({ cls := "DomainLinksModel", name := "within", desc := "(II)I" } : Jvm.MethodName) prog_21_method_74_code (3 : Nat) (Option.some Jvm.ClassFile.FieldType.int)) ∈ lw_all := lw_g (lw_at lw_m9 38 rfl) rfl
theorem q2069 : (Jvm.Cond.instanceMethod ({ cls := "DomainLinksModel", name := "measure", desc := "(II)I" } : Jvm.MethodName)) ∈ lw_all := lw_g (lw_at lw_m9 40 rfl) rfl
theorem q2070 : (Jvm.Cond.selects "DomainLinksModel" ({ cls := "DomainLinksModel", name := "measure", desc := "(II)I" } : Jvm.MethodName) ({ cls := "DomainLinksModel", name := "measure", desc := "(II)I" } : Jvm.MethodName)) ∈ lw_all := lw_g (lw_at lw_m9 41 rfl) rfl
theorem q2071 : (Jvm.Cond.code ({ cls := "DomainLinksModel", name := "measure", desc := "(II)I" } : Jvm.MethodName) prog_21_method_75_code (4 : Nat) (Option.some Jvm.ClassFile.FieldType.int)) ∈ lw_all := lw_g (lw_at lw_m9 42 rfl) rfl
theorem q2073 : (Jvm.Cond.instanceMethod ({ cls := "DomainLinksModel", name := "member", desc := "(III)I" } : Jvm.MethodName)) ∈ lw_all := lw_g (lw_at lw_m9 44 rfl) rfl
theorem q2074 : (Jvm.Cond.selects "DomainLinksModel" ({ cls := "DomainLinksModel", name := "member", desc := "(III)I" } : Jvm.MethodName) ({ cls := "DomainLinksModel", name := "member", desc := "(III)I" } : Jvm.MethodName)) ∈ lw_all := lw_g (lw_at lw_m9 45 rfl) rfl
theorem q2075 : (Jvm.Cond.code ({ cls := "DomainLinksModel", name := "member", desc := "(III)I" } : Jvm.MethodName) prog_21_method_76_code (4 : Nat) (Option.some Jvm.ClassFile.FieldType.int)) ∈ lw_all := lw_g (lw_at lw_m9 46 rfl) rfl
theorem q2077 : (Jvm.Cond.instanceMethod ({ cls := "DomainLinksModel", name := "joined", desc := "(III)I" } : Jvm.MethodName)) ∈ lw_all := lw_g (lw_at lw_m9 48 rfl) rfl
theorem q2078 : (Jvm.Cond.selects "DomainLinksModel" ({ cls := "DomainLinksModel", name := "joined", desc := "(III)I" } : Jvm.MethodName) ({ cls := "DomainLinksModel", name := "joined", desc := "(III)I" } : Jvm.MethodName)) ∈ lw_all := lw_g (lw_at lw_m9 49 rfl) rfl
theorem q2079 : (Jvm.Cond.code ({ cls := "DomainLinksModel", name := "joined", desc := "(III)I" } : Jvm.MethodName) prog_21_method_77_code (4 : Nat) (Option.some Jvm.ClassFile.FieldType.int)) ∈ lw_all := lw_g (lw_at lw_m9 50 rfl) rfl
theorem q2081 : (Jvm.Cond.instanceMethod ({ cls := "DomainLinksModel", name := "prefix", desc := "(II)I" } : Jvm.MethodName)) ∈ lw_all := lw_g (lw_at lw_m9 52 rfl) rfl
theorem q2082 : (Jvm.Cond.selects "DomainLinksModel" ({ cls := "DomainLinksModel", name := "prefix", desc := "(II)I" } : Jvm.MethodName) ({ cls := "DomainLinksModel", name := "prefix", desc := "(II)I" } : Jvm.MethodName)) ∈ lw_all := lw_g (lw_at lw_m9 53 rfl) rfl
theorem q2083 : (Jvm.Cond.code ({ cls := "DomainLinksModel", name := "prefix", desc := "(II)I" } : Jvm.MethodName) prog_21_method_78_code (3 : Nat) (Option.some Jvm.ClassFile.FieldType.int)) ∈ lw_all := lw_g (lw_at lw_m9 54 rfl) rfl
theorem q2085 : (Jvm.Cond.instanceMethod ({ cls := "DomainLinksModel", name := "letter", desc := "(III)I" } : Jvm.MethodName)) ∈ lw_all := lw_g (lw_at lw_m9 56 rfl) rfl
theorem q2086 : (Jvm.Cond.selects "DomainLinksModel" ({ cls := "DomainLinksModel", name := "letter", desc := "(III)I" } : Jvm.MethodName) ({ cls := "DomainLinksModel", name := "letter", desc := "(III)I" } : Jvm.MethodName)) ∈ lw_all := lw_g (lw_at lw_m9 57 rfl) rfl
theorem q2087 : (Jvm.Cond.code ({ cls := "DomainLinksModel", name := "letter", desc := "(III)I" } : Jvm.MethodName) prog_21_method_79_code (4 : Nat) (Option.some Jvm.ClassFile.FieldType.int)) ∈ lw_all := lw_g (lw_at lw_m9 58 rfl) rfl
theorem q2089 : (Jvm.Cond.instanceMethod ({ cls := "DomainLinksModel", name := "clause", desc := "()I" } : Jvm.MethodName)) ∈ lw_all := lw_g (lw_at lw_m9 60 rfl) rfl
theorem q2090 : (Jvm.Cond.selects "DomainLinksModel" ({ cls := "DomainLinksModel", name := "clause", desc := "()I" } : Jvm.MethodName) ({ cls := "DomainLinksModel", name := "clause", desc := "()I" } : Jvm.MethodName)) ∈ lw_all := lw_g (lw_at lw_m9 61 rfl) rfl
theorem q2091 : (Jvm.Cond.code ({ cls := "DomainLinksModel", name := "clause", desc := "()I" } : Jvm.MethodName) prog_21_method_81_code (2 : Nat) (Option.some Jvm.ClassFile.FieldType.int)) ∈ lw_all := lw_g (lw_at lw_m9 62 rfl) rfl
theorem q2092 : (Jvm.Cond.methodLink "DomainLinksModel" (397 : Nat) ({ cls := "DomainLinksModel", name := "takesLiterals", desc := "(I)V" } : Jvm.MethodName)) ∈ lw_all := lw_g (lw_at lw_m9 63 rfl) rfl
theorem q2093 : (Jvm.Cond.privateMethod ({ cls := "DomainLinksModel", name := "takesLiterals", desc := "(I)V" } : Jvm.MethodName)) ∈ lw_tbl := lw_at lw_m9 64 rfl
theorem q2094 : (Jvm.Cond.instanceMethod ({ cls := "DomainLinksModel", name := "takesLiterals", desc := "(I)V" } : Jvm.MethodName)) ∈ lw_all := lw_g (lw_at lw_m9 65 rfl) rfl
theorem q2095 : (Jvm.Cond.code ({ cls := "DomainLinksModel", name := "takesLiterals", desc := "(I)V" } : Jvm.MethodName) prog_21_method_80_code (3 : Nat) (Option.none : Option Jvm.ClassFile.FieldType)) ∈ lw_all := lw_g (lw_at lw_m9 66 rfl) rfl
theorem q2097 : (Jvm.Cond.instanceMethod ({ cls := "DomainLinksModel", name := "symbol", desc := "(II)I" } : Jvm.MethodName)) ∈ lw_all := lw_g (lw_at lw_m9 68 rfl) rfl
theorem q2098 : (Jvm.Cond.selects "DomainLinksModel" ({ cls := "DomainLinksModel", name := "symbol", desc := "(II)I" } : Jvm.MethodName) ({ cls := "DomainLinksModel", name := "symbol", desc := "(II)I" } : Jvm.MethodName)) ∈ lw_all := lw_g (lw_at lw_m9 69 rfl) rfl
theorem q2099 : (Jvm.Cond.code ({ cls := "DomainLinksModel", name := "symbol", desc := "(II)I" } : Jvm.MethodName) prog_21_method_83_code (3 : Nat) (Option.some Jvm.ClassFile.FieldType.int)) ∈ lw_all := lw_g (lw_at lw_m9 70 rfl) rfl
theorem q2100 : (Jvm.Cond.methodLink "DomainLinksModel" (403 : Nat) ({ cls := "DomainLinksModel", name := "isTree", desc := "(I)Z" } : Jvm.MethodName)) ∈ lw_all := lw_g (lw_at lw_m9 71 rfl) rfl
theorem q2101 : (Jvm.Cond.privateMethod ({ cls := "DomainLinksModel", name := "isTree", desc := "(I)Z" } : Jvm.MethodName)) ∈ lw_tbl := lw_at lw_m9 72 rfl
theorem q2102 : (Jvm.Cond.instanceMethod ({ cls := "DomainLinksModel", name := "isTree", desc := "(I)Z" } : Jvm.MethodName)) ∈ lw_all := lw_g (lw_at lw_m9 73 rfl) rfl
theorem q2103 : (Jvm.Cond.code ({ cls := "DomainLinksModel", name := "isTree", desc := "(I)Z" } : Jvm.MethodName) prog_21_method_82_code (2 : Nat) (Option.some Jvm.ClassFile.FieldType.boolean)) ∈ lw_all := lw_g (lw_at lw_m9 74 rfl) rfl
theorem q2105 : (Jvm.Cond.instanceMethod ({ cls := "DomainLinksModel", name := "constraints", desc := "()I" } : Jvm.MethodName)) ∈ lw_all := lw_g (lw_at lw_m9 76 rfl) rfl
theorem q2106 : (Jvm.Cond.selects "DomainLinksModel" ({ cls := "DomainLinksModel", name := "constraints", desc := "()I" } : Jvm.MethodName) ({ cls := "DomainLinksModel", name := "constraints", desc := "()I" } : Jvm.MethodName)) ∈ lw_all := lw_g (lw_at lw_m9 77 rfl) rfl
theorem q2107 : (Jvm.Cond.code ({ cls := "DomainLinksModel", name := "constraints", desc := "()I" } : Jvm.MethodName) prog_21_method_84_code (1 : Nat) (Option.some Jvm.ClassFile.FieldType.int)) ∈ lw_all := lw_g (lw_at lw_m9 78 rfl) rfl
theorem q2109 : (Jvm.Cond.instanceMethod ({ cls := "DomainLinksModel", name := "decide", desc := "(IIZ)I" } : Jvm.MethodName)) ∈ lw_all := lw_g (lw_at lw_m9 80 rfl) rfl
theorem q2110 : (Jvm.Cond.selects "DomainLinksModel" ({ cls := "DomainLinksModel", name := "decide", desc := "(IIZ)I" } : Jvm.MethodName) ({ cls := "DomainLinksModel", name := "decide", desc := "(IIZ)I" } : Jvm.MethodName)) ∈ lw_all := lw_g (lw_at lw_m9 81 rfl) rfl
theorem q2111 : (Jvm.Cond.code ({ cls := "DomainLinksModel", name := "decide", desc := "(IIZ)I" } : Jvm.MethodName) prog_21_method_85_code (4 : Nat) (Option.some Jvm.ClassFile.FieldType.int)) ∈ lw_all := lw_g (lw_at lw_m9 82 rfl) rfl
theorem q2113 : (Jvm.Cond.instanceMethod ({ cls := "DomainLinksModel", name := "back", desc := "(I)I" } : Jvm.MethodName)) ∈ lw_all := lw_g (lw_at lw_m9 84 rfl) rfl
theorem q2114 : (Jvm.Cond.selects "DomainLinksModel" ({ cls := "DomainLinksModel", name := "back", desc := "(I)I" } : Jvm.MethodName) ({ cls := "DomainLinksModel", name := "back", desc := "(I)I" } : Jvm.MethodName)) ∈ lw_all := lw_g (lw_at lw_m9 85 rfl) rfl
theorem q2115 : (Jvm.Cond.code ({ cls := "DomainLinksModel", name := "back", desc := "(I)I" } : Jvm.MethodName) prog_21_method_86_code (2 : Nat) (Option.some Jvm.ClassFile.FieldType.int)) ∈ lw_all := lw_g (lw_at lw_m9 86 rfl) rfl
theorem q2117 : (Jvm.Cond.instanceMethod ({ cls := "DomainLinksModel", name := "isFailed", desc := "()Z" } : Jvm.MethodName)) ∈ lw_all := lw_g (lw_at lw_m9 88 rfl) rfl
theorem q2118 : (Jvm.Cond.selects "DomainLinksModel" ({ cls := "DomainLinksModel", name := "isFailed", desc := "()Z" } : Jvm.MethodName) ({ cls := "DomainLinksModel", name := "isFailed", desc := "()Z" } : Jvm.MethodName)) ∈ lw_all := lw_g (lw_at lw_m9 89 rfl) rfl
theorem q2119 : (Jvm.Cond.code ({ cls := "DomainLinksModel", name := "isFailed", desc := "()Z" } : Jvm.MethodName) prog_21_method_87_code (1 : Nat) (Option.some Jvm.ClassFile.FieldType.boolean)) ∈ lw_all := lw_g (lw_at lw_m9 90 rfl) rfl
theorem q2120 : (Jvm.Cond.methodLink "DomainLinksModel" (406 : Nat) ({ cls := "DomainLinksModel", name := "now", desc := "()V" } : Jvm.MethodName)) ∈ lw_all := lw_g (lw_at lw_m9 91 rfl) rfl
theorem q2121 : (Jvm.Cond.privateMethod ({ cls := "DomainLinksModel", name := "now", desc := "()V" } : Jvm.MethodName)) ∈ lw_tbl := lw_at lw_m9 92 rfl
theorem q2122 : (Jvm.Cond.instanceMethod ({ cls := "DomainLinksModel", name := "now", desc := "()V" } : Jvm.MethodName)) ∈ lw_all := lw_g (lw_at lw_m9 93 rfl) rfl
theorem q2123 : (Jvm.Cond.code ({ cls := "DomainLinksModel", name := "now", desc := "()V" } : Jvm.MethodName) prog_21_method_48_code (1 : Nat) (Option.none : Option Jvm.ClassFile.FieldType)) ∈ lw_all := lw_g (lw_at lw_m9 94 rfl) rfl
theorem q2124 : (Jvm.Cond.methodLink "DomainLinksModel" (333 : Nat) ({ cls := "DomainLinksModel", name := "takesDecisions", desc := "(I)V" } : Jvm.MethodName)) ∈ lw_all := lw_g (lw_at lw_m9 95 rfl) rfl
theorem q2125 : (Jvm.Cond.privateMethod ({ cls := "DomainLinksModel", name := "takesDecisions", desc := "(I)V" } : Jvm.MethodName)) ∈ lw_tbl := lw_at lw_m9 96 rfl
theorem q2126 : (Jvm.Cond.instanceMethod ({ cls := "DomainLinksModel", name := "takesDecisions", desc := "(I)V" } : Jvm.MethodName)) ∈ lw_all := lw_g (lw_at lw_m9 97 rfl) rfl
theorem q2127 : (Jvm.Cond.code ({ cls := "DomainLinksModel", name := "takesDecisions", desc := "(I)V" } : Jvm.MethodName) prog_21_method_40_code (3 : Nat) (Option.none : Option Jvm.ClassFile.FieldType)) ∈ lw_all := lw_g (lw_at lw_m9 98 rfl) rfl
theorem q2128 : (Jvm.Cond.methodLink "DomainLinksModel" (293 : Nat) ({ cls := "DomainLinksModel", name := "takesOne", desc := "(IIZ)V" } : Jvm.MethodName)) ∈ lw_all := lw_g (lw_at lw_m9 99 rfl) rfl
theorem q2129 : (Jvm.Cond.privateMethod ({ cls := "DomainLinksModel", name := "takesOne", desc := "(IIZ)V" } : Jvm.MethodName)) ∈ lw_tbl := lw_at lw_m9 100 rfl
theorem q2130 : (Jvm.Cond.instanceMethod ({ cls := "DomainLinksModel", name := "takesOne", desc := "(IIZ)V" } : Jvm.MethodName)) ∈ lw_all := lw_g (lw_at lw_m9 101 rfl) rfl
theorem q2131 : (Jvm.Cond.code ({ cls := "DomainLinksModel", name := "takesOne", desc := "(IIZ)V" } : Jvm.MethodName) prog_21_method_39_code (4 : Nat) (Option.none : Option Jvm.ClassFile.FieldType)) ∈ lw_all := lw_g (lw_at lw_m9 102 rfl) rfl
theorem q2132 : (Jvm.Cond.methodLink "DomainLinksModel" (336 : Nat) ({ cls := "DomainLinksModel", name := "finds", desc := "()V" } : Jvm.MethodName)) ∈ lw_all := lw_g (lw_at lw_m9 103 rfl) rfl
theorem q2133 : (Jvm.Cond.privateMethod ({ cls := "DomainLinksModel", name := "finds", desc := "()V" } : Jvm.MethodName)) ∈ lw_tbl := lw_at lw_m9 104 rfl
theorem q2134 : (Jvm.Cond.instanceMethod ({ cls := "DomainLinksModel", name := "finds", desc := "()V" } : Jvm.MethodName)) ∈ lw_all := lw_g (lw_at lw_m9 105 rfl) rfl
theorem q2135 : (Jvm.Cond.code ({ cls := "DomainLinksModel", name := "finds", desc := "()V" } : Jvm.MethodName) prog_21_method_43_code (3 : Nat) (Option.none : Option Jvm.ClassFile.FieldType)) ∈ lw_all := lw_g (lw_at lw_m9 106 rfl) rfl
theorem q2136 : (Jvm.Cond.methodLink "DomainLinksModel" (311 : Nat) ({ cls := "DomainLinksModel", name := "looksForFailure", desc := "()V" } : Jvm.MethodName)) ∈ lw_all := lw_g (lw_at lw_m9 107 rfl) rfl
theorem q2137 : (Jvm.Cond.privateMethod ({ cls := "DomainLinksModel", name := "looksForFailure", desc := "()V" } : Jvm.MethodName)) ∈ lw_tbl := lw_at lw_m9 108 rfl
theorem q2138 : (Jvm.Cond.instanceMethod ({ cls := "DomainLinksModel", name := "looksForFailure", desc := "()V" } : Jvm.MethodName)) ∈ lw_all := lw_g (lw_at lw_m9 109 rfl) rfl
theorem q2139 : (Jvm.Cond.code ({ cls := "DomainLinksModel", name := "looksForFailure", desc := "()V" } : Jvm.MethodName) prog_21_method_42_code (2 : Nat) (Option.none : Option Jvm.ClassFile.FieldType)) ∈ lw_all := lw_g (lw_at lw_m9 110 rfl) rfl
theorem q2140 : (Jvm.Cond.methodLink "DomainLinksModel" (301 : Nat) ({ cls := "DomainLinksModel", name := "isEmpty", desc := "(I)Z" } : Jvm.MethodName)) ∈ lw_all := lw_g (lw_at lw_m9 111 rfl) rfl
theorem q2141 : (Jvm.Cond.privateMethod ({ cls := "DomainLinksModel", name := "isEmpty", desc := "(I)Z" } : Jvm.MethodName)) ∈ lw_tbl := lw_at lw_m9 112 rfl
theorem q2142 : (Jvm.Cond.instanceMethod ({ cls := "DomainLinksModel", name := "isEmpty", desc := "(I)Z" } : Jvm.MethodName)) ∈ lw_all := lw_g (lw_at lw_m9 113 rfl) rfl
theorem q2143 : (Jvm.Cond.code ({ cls := "DomainLinksModel", name := "isEmpty", desc := "(I)Z" } : Jvm.MethodName) prog_21_method_41_code (2 : Nat) (Option.some Jvm.ClassFile.FieldType.boolean)) ∈ lw_all := lw_g (lw_at lw_m9 114 rfl) rfl
theorem q2144 : (Jvm.Cond.methodLink "DomainLinksModel" (314 : Nat) ({ cls := "DomainLinksModel", name := "round", desc := "()Z" } : Jvm.MethodName)) ∈ lw_all := lw_g (lw_at lw_m9 115 rfl) rfl
theorem q2145 : (Jvm.Cond.privateMethod ({ cls := "DomainLinksModel", name := "round", desc := "()Z" } : Jvm.MethodName)) ∈ lw_tbl := lw_at lw_m9 116 rfl
theorem q2146 : (Jvm.Cond.instanceMethod ({ cls := "DomainLinksModel", name := "round", desc := "()Z" } : Jvm.MethodName)) ∈ lw_all := lw_g (lw_at lw_m9 117 rfl) rfl
theorem q2147 : (Jvm.Cond.code ({ cls := "DomainLinksModel", name := "round", desc := "()Z" } : Jvm.MethodName) prog_21_method_47_code (5 : Nat) (Option.some Jvm.ClassFile.FieldType.boolean)) ∈ lw_all := lw_g (lw_at lw_m9 118 rfl) rfl
theorem q2148 : (Jvm.Cond.methodLink "DomainLinksModel" (321 : Nat) ({ cls := "DomainLinksModel", name := "supportsAll", desc := "(I)V" } : Jvm.MethodName)) ∈ lw_all := lw_g (lw_at lw_m9 119 rfl) rfl
theorem q2149 : (Jvm.Cond.privateMethod ({ cls := "DomainLinksModel", name := "supportsAll", desc := "(I)V" } : Jvm.MethodName)) ∈ lw_tbl := lw_at lw_m9 120 rfl
theorem q2150 : (Jvm.Cond.instanceMethod ({ cls := "DomainLinksModel", name := "supportsAll", desc := "(I)V" } : Jvm.MethodName)) ∈ lw_all := lw_g (lw_at lw_m9 121 rfl) rfl
theorem q2151 : (Jvm.Cond.code ({ cls := "DomainLinksModel", name := "supportsAll", desc := "(I)V" } : Jvm.MethodName) prog_21_method_38_code (3 : Nat) (Option.none : Option Jvm.ClassFile.FieldType)) ∈ lw_all := lw_g (lw_at lw_m9 122 rfl) rfl
theorem q2152 : (Jvm.Cond.methodLink "DomainLinksModel" (259 : Nat) ({ cls := "DomainLinksModel", name := "byLinear", desc := "(I)V" } : Jvm.MethodName)) ∈ lw_all := lw_g (lw_at lw_m9 123 rfl) rfl
theorem q2153 : (Jvm.Cond.privateMethod ({ cls := "DomainLinksModel", name := "byLinear", desc := "(I)V" } : Jvm.MethodName)) ∈ lw_tbl := lw_at lw_m9 124 rfl
theorem q2154 : (Jvm.Cond.instanceMethod ({ cls := "DomainLinksModel", name := "byLinear", desc := "(I)V" } : Jvm.MethodName)) ∈ lw_all := lw_g (lw_at lw_m9 125 rfl) rfl
theorem q2155 : (Jvm.Cond.code ({ cls := "DomainLinksModel", name := "byLinear", desc := "(I)V" } : Jvm.MethodName) prog_21_method_24_code (5 : Nat) (Option.none : Option Jvm.ClassFile.FieldType)) ∈ lw_all := lw_g (lw_at lw_m9 126 rfl) rfl
theorem q2156 : (Jvm.Cond.methodLink "DomainLinksModel" (213 : Nat) ({ cls := "DomainLinksModel", name := "hasBit", desc := "(II)Z" } : Jvm.MethodName)) ∈ lw_all := lw_g (lw_at lw_m9 127 rfl) rfl
theorem q2157 : (Jvm.Cond.static ({ cls := "DomainLinksModel", name := "hasBit", desc := "(II)Z" } : Jvm.MethodName)) ∈ lw_all := lw_g (lw_at lw_m9 128 rfl) rfl
theorem q2158 : (Jvm.Cond.code ({ cls := "DomainLinksModel", name := "hasBit", desc := "(II)Z" } : Jvm.MethodName) prog_21_method_7_code (2 : Nat) (Option.some Jvm.ClassFile.FieldType.boolean)) ∈ lw_all := lw_g (lw_at lw_m9 129 rfl) rfl
theorem q2159 : (Jvm.Cond.methodLink "DomainLinksModel" (217 : Nat) ({ cls := "DomainLinksModel", name := "linearAgrees", desc := "(III)Z" } : Jvm.MethodName)) ∈ lw_all := lw_g (lw_at lw_m9 130 rfl) rfl
theorem q2160 : (Jvm.Cond.privateMethod ({ cls := "DomainLinksModel", name := "linearAgrees", desc := "(III)Z" } : Jvm.MethodName)) ∈ lw_tbl := lw_at lw_m9 131 rfl
theorem q2161 : (Jvm.Cond.instanceMethod ({ cls := "DomainLinksModel", name := "linearAgrees", desc := "(III)Z" } : Jvm.MethodName)) ∈ lw_all := lw_g (lw_at lw_m9 132 rfl) rfl
theorem q2162 : (Jvm.Cond.code ({ cls := "DomainLinksModel", name := "linearAgrees", desc := "(III)Z" } : Jvm.MethodName) prog_21_method_23_code (8 : Nat) (Option.some Jvm.ClassFile.FieldType.boolean)) ∈ lw_all := lw_g (lw_at lw_m9 133 rfl) rfl
theorem q2163 : (Jvm.Cond.methodLink "DomainLinksModel" (202 : Nat) ({ cls := "DomainLinksModel", name := "unit", desc := "(I)I" } : Jvm.MethodName)) ∈ lw_all := lw_g (lw_at lw_m9 134 rfl) rfl
theorem q2164 : (Jvm.Cond.privateMethod ({ cls := "DomainLinksModel", name := "unit", desc := "(I)I" } : Jvm.MethodName)) ∈ lw_tbl := lw_at lw_m9 135 rfl
theorem q2165 : (Jvm.Cond.instanceMethod ({ cls := "DomainLinksModel", name := "unit", desc := "(I)I" } : Jvm.MethodName)) ∈ lw_all := lw_g (lw_at lw_m9 136 rfl) rfl
theorem q2166 : (Jvm.Cond.code ({ cls := "DomainLinksModel", name := "unit", desc := "(I)I" } : Jvm.MethodName) prog_21_method_20_code (2 : Nat) (Option.some Jvm.ClassFile.FieldType.int)) ∈ lw_all := lw_g (lw_at lw_m9 137 rfl) rfl
theorem q2167 : (Jvm.Cond.methodLink "DomainLinksModel" (209 : Nat) ({ cls := "DomainLinksModel", name := "most", desc := "(IIZ)I" } : Jvm.MethodName)) ∈ lw_all := lw_g (lw_at lw_m9 138 rfl) rfl
theorem q2168 : (Jvm.Cond.privateMethod ({ cls := "DomainLinksModel", name := "most", desc := "(IIZ)I" } : Jvm.MethodName)) ∈ lw_tbl := lw_at lw_m9 139 rfl
theorem q2169 : (Jvm.Cond.instanceMethod ({ cls := "DomainLinksModel", name := "most", desc := "(IIZ)I" } : Jvm.MethodName)) ∈ lw_all := lw_g (lw_at lw_m9 140 rfl) rfl
theorem q2170 : (Jvm.Cond.code ({ cls := "DomainLinksModel", name := "most", desc := "(IIZ)I" } : Jvm.MethodName) prog_21_method_22_code (6 : Nat) (Option.some Jvm.ClassFile.FieldType.int)) ∈ lw_all := lw_g (lw_at lw_m9 141 rfl) rfl
theorem q2171 : (Jvm.Cond.methodLink "DomainLinksModel" (205 : Nat) ({ cls := "DomainLinksModel", name := "end", desc := "(IZ)I" } : Jvm.MethodName)) ∈ lw_all := lw_g (lw_at lw_m9 142 rfl) rfl
theorem q2172 : (Jvm.Cond.privateMethod ({ cls := "DomainLinksModel", name := "end", desc := "(IZ)I" } : Jvm.MethodName)) ∈ lw_tbl := lw_at lw_m9 143 rfl
theorem q2173 : (Jvm.Cond.instanceMethod ({ cls := "DomainLinksModel", name := "end", desc := "(IZ)I" } : Jvm.MethodName)) ∈ lw_all := lw_g (lw_at lw_m9 144 rfl) rfl
theorem q2174 : (Jvm.Cond.code ({ cls := "DomainLinksModel", name := "end", desc := "(IZ)I" } : Jvm.MethodName) prog_21_method_21_code (3 : Nat) (Option.some Jvm.ClassFile.FieldType.int)) ∈ lw_all := lw_g (lw_at lw_m9 145 rfl) rfl
theorem q2175 : (Jvm.Cond.methodLink "DomainLinksModel" (196 : Nat) ({ cls := "DomainLinksModel", name := "highest", desc := "(I)I" } : Jvm.MethodName)) ∈ lw_all := lw_g (lw_at lw_m9 146 rfl) rfl
theorem q2176 : (Jvm.Cond.static ({ cls := "DomainLinksModel", name := "highest", desc := "(I)I" } : Jvm.MethodName)) ∈ lw_all := lw_g (lw_at lw_m9 147 rfl) rfl
theorem q2177 : (Jvm.Cond.code ({ cls := "DomainLinksModel", name := "highest", desc := "(I)I" } : Jvm.MethodName) prog_21_method_10_code (2 : Nat) (Option.some Jvm.ClassFile.FieldType.int)) ∈ lw_all := lw_g (lw_at lw_m9 148 rfl) rfl
theorem q2178 : (Jvm.Cond.methodLink "DomainLinksModel" (199 : Nat) ({ cls := "DomainLinksModel", name := "lowest", desc := "(I)I" } : Jvm.MethodName)) ∈ lw_all := lw_g (lw_at lw_m9 149 rfl) rfl
theorem q2179 : (Jvm.Cond.static ({ cls := "DomainLinksModel", name := "lowest", desc := "(I)I" } : Jvm.MethodName)) ∈ lw_all := lw_g (lw_at lw_m9 150 rfl) rfl
theorem q2180 : (Jvm.Cond.code ({ cls := "DomainLinksModel", name := "lowest", desc := "(I)I" } : Jvm.MethodName) prog_21_method_9_code (2 : Nat) (Option.some Jvm.ClassFile.FieldType.int)) ∈ lw_all := lw_g (lw_at lw_m9 151 rfl) rfl
theorem q2181 : (Jvm.Cond.methodLink "DomainLinksModel" (220 : Nat) ({ cls := "DomainLinksModel", name := "supports", desc := "(III)V" } : Jvm.MethodName)) ∈ lw_all := lw_g (lw_at lw_m9 152 rfl) rfl
theorem q2182 : (Jvm.Cond.privateMethod ({ cls := "DomainLinksModel", name := "supports", desc := "(III)V" } : Jvm.MethodName)) ∈ lw_tbl := lw_at lw_m9 153 rfl
theorem q2183 : (Jvm.Cond.instanceMethod ({ cls := "DomainLinksModel", name := "supports", desc := "(III)V" } : Jvm.MethodName)) ∈ lw_all := lw_g (lw_at lw_m9 154 rfl) rfl
theorem q2184 : (Jvm.Cond.code ({ cls := "DomainLinksModel", name := "supports", desc := "(III)V" } : Jvm.MethodName) prog_21_method_19_code (4 : Nat) (Option.none : Option Jvm.ClassFile.FieldType)) ∈ lw_all := lw_g (lw_at lw_m9 155 rfl) rfl
theorem q2185 : (Jvm.Cond.methodLink "DomainLinksModel" (263 : Nat) ({ cls := "DomainLinksModel", name := "byDifferent", desc := "(I)V" } : Jvm.MethodName)) ∈ lw_all := lw_g (lw_at lw_m9 156 rfl) rfl
theorem q2186 : (Jvm.Cond.privateMethod ({ cls := "DomainLinksModel", name := "byDifferent", desc := "(I)V" } : Jvm.MethodName)) ∈ lw_tbl := lw_at lw_m9 157 rfl
theorem q2187 : (Jvm.Cond.instanceMethod ({ cls := "DomainLinksModel", name := "byDifferent", desc := "(I)V" } : Jvm.MethodName)) ∈ lw_all := lw_g (lw_at lw_m9 158 rfl) rfl
theorem q2188 : (Jvm.Cond.code ({ cls := "DomainLinksModel", name := "byDifferent", desc := "(I)V" } : Jvm.MethodName) prog_21_method_26_code (4 : Nat) (Option.none : Option Jvm.ClassFile.FieldType)) ∈ lw_all := lw_g (lw_at lw_m9 159 rfl) rfl
theorem q2189 : (Jvm.Cond.methodLink "DomainLinksModel" (224 : Nat) ({ cls := "DomainLinksModel", name := "domainAt", desc := "(II)I" } : Jvm.MethodName)) ∈ lw_all := lw_g (lw_at lw_m9 160 rfl) rfl
theorem q2190 : (Jvm.Cond.privateMethod ({ cls := "DomainLinksModel", name := "domainAt", desc := "(II)I" } : Jvm.MethodName)) ∈ lw_tbl := lw_at lw_m9 161 rfl
theorem q2191 : (Jvm.Cond.instanceMethod ({ cls := "DomainLinksModel", name := "domainAt", desc := "(II)I" } : Jvm.MethodName)) ∈ lw_all := lw_g (lw_at lw_m9 162 rfl) rfl
theorem q2192 : (Jvm.Cond.code ({ cls := "DomainLinksModel", name := "domainAt", desc := "(II)I" } : Jvm.MethodName) prog_21_method_18_code (3 : Nat) (Option.some Jvm.ClassFile.FieldType.int)) ∈ lw_all := lw_g (lw_at lw_m9 163 rfl) rfl
theorem q2193 : (Jvm.Cond.methodLink "DomainLinksModel" (230 : Nat) ({ cls := "DomainLinksModel", name := "canDiffer", desc := "(III)Z" } : Jvm.MethodName)) ∈ lw_all := lw_g (lw_at lw_m9 164 rfl) rfl
theorem q2194 : (Jvm.Cond.privateMethod ({ cls := "DomainLinksModel", name := "canDiffer", desc := "(III)Z" } : Jvm.MethodName)) ∈ lw_tbl := lw_at lw_m9 165 rfl
theorem q2195 : (Jvm.Cond.instanceMethod ({ cls := "DomainLinksModel", name := "canDiffer", desc := "(III)Z" } : Jvm.MethodName)) ∈ lw_all := lw_g (lw_at lw_m9 166 rfl) rfl
theorem q2196 : (Jvm.Cond.code ({ cls := "DomainLinksModel", name := "canDiffer", desc := "(III)Z" } : Jvm.MethodName) prog_21_method_25_code (8 : Nat) (Option.some Jvm.ClassFile.FieldType.boolean)) ∈ lw_all := lw_g (lw_at lw_m9 167 rfl) rfl
theorem q2197 : (Jvm.Cond.methodLink "DomainLinksModel" (227 : Nat) ({ cls := "DomainLinksModel", name := "count", desc := "(I)I" } : Jvm.MethodName)) ∈ lw_all := lw_g (lw_at lw_m9 168 rfl) rfl
theorem q2198 : (Jvm.Cond.static ({ cls := "DomainLinksModel", name := "count", desc := "(I)I" } : Jvm.MethodName)) ∈ lw_all := lw_g (lw_at lw_m9 169 rfl) rfl
theorem q2199 : (Jvm.Cond.code ({ cls := "DomainLinksModel", name := "count", desc := "(I)I" } : Jvm.MethodName) prog_21_method_8_code (3 : Nat) (Option.some Jvm.ClassFile.FieldType.int)) ∈ lw_all := lw_g (lw_at lw_m9 170 rfl) rfl
theorem q2200 : (Jvm.Cond.methodLink "DomainLinksModel" (266 : Nat) ({ cls := "DomainLinksModel", name := "ordered", desc := "(I)V" } : Jvm.MethodName)) ∈ lw_all := lw_g (lw_at lw_m9 171 rfl) rfl
theorem q2201 : (Jvm.Cond.privateMethod ({ cls := "DomainLinksModel", name := "ordered", desc := "(I)V" } : Jvm.MethodName)) ∈ lw_tbl := lw_at lw_m9 172 rfl
theorem q2202 : (Jvm.Cond.instanceMethod ({ cls := "DomainLinksModel", name := "ordered", desc := "(I)V" } : Jvm.MethodName)) ∈ lw_all := lw_g (lw_at lw_m9 173 rfl) rfl
theorem q2203 : (Jvm.Cond.code ({ cls := "DomainLinksModel", name := "ordered", desc := "(I)V" } : Jvm.MethodName) prog_21_method_29_code (7 : Nat) (Option.none : Option Jvm.ClassFile.FieldType)) ∈ lw_all := lw_g (lw_at lw_m9 174 rfl) rfl
theorem q2204 : (Jvm.Cond.methodLink "DomainLinksModel" (233 : Nat) ({ cls := "DomainLinksModel", name := "atLeast", desc := "(II)I" } : Jvm.MethodName)) ∈ lw_all := lw_g (lw_at lw_m9 175 rfl) rfl
theorem q2205 : (Jvm.Cond.static ({ cls := "DomainLinksModel", name := "atLeast", desc := "(II)I" } : Jvm.MethodName)) ∈ lw_all := lw_g (lw_at lw_m9 176 rfl) rfl
theorem q2206 : (Jvm.Cond.code ({ cls := "DomainLinksModel", name := "atLeast", desc := "(II)I" } : Jvm.MethodName) prog_21_method_27_code (2 : Nat) (Option.some Jvm.ClassFile.FieldType.int)) ∈ lw_all := lw_g (lw_at lw_m9 177 rfl) rfl
theorem q2207 : (Jvm.Cond.methodLink "DomainLinksModel" (236 : Nat) ({ cls := "DomainLinksModel", name := "atMost", desc := "(II)I" } : Jvm.MethodName)) ∈ lw_all := lw_g (lw_at lw_m9 178 rfl) rfl
theorem q2208 : (Jvm.Cond.static ({ cls := "DomainLinksModel", name := "atMost", desc := "(II)I" } : Jvm.MethodName)) ∈ lw_all := lw_g (lw_at lw_m9 179 rfl) rfl
theorem q2209 : (Jvm.Cond.code ({ cls := "DomainLinksModel", name := "atMost", desc := "(II)I" } : Jvm.MethodName) prog_21_method_28_code (2 : Nat) (Option.some Jvm.ClassFile.FieldType.int)) ∈ lw_all := lw_g (lw_at lw_m9 180 rfl) rfl
theorem q2210 : (Jvm.Cond.methodLink "DomainLinksModel" (269 : Nat) ({ cls := "DomainLinksModel", name := "byRegular", desc := "(I)V" } : Jvm.MethodName)) ∈ lw_all := lw_g (lw_at lw_m9 181 rfl) rfl
theorem q2211 : (Jvm.Cond.privateMethod ({ cls := "DomainLinksModel", name := "byRegular", desc := "(I)V" } : Jvm.MethodName)) ∈ lw_tbl := lw_at lw_m9 182 rfl
theorem q2212 : (Jvm.Cond.instanceMethod ({ cls := "DomainLinksModel", name := "byRegular", desc := "(I)V" } : Jvm.MethodName)) ∈ lw_all := lw_g (lw_at lw_m9 183 rfl) rfl
theorem q2213 : (Jvm.Cond.code ({ cls := "DomainLinksModel", name := "byRegular", desc := "(I)V" } : Jvm.MethodName) prog_21_method_30_code (7 : Nat) (Option.none : Option Jvm.ClassFile.FieldType)) ∈ lw_all := lw_g (lw_at lw_m9 184 rfl) rfl
theorem q2214 : (Jvm.Cond.methodLink "DomainLinksModel" (239 : Nat) ({ cls := "DomainLinksModel", name := "stepped", desc := "(IIIZ)I" } : Jvm.MethodName)) ∈ lw_all := lw_g (lw_at lw_m9 185 rfl) rfl
theorem q2215 : (Jvm.Cond.privateMethod ({ cls := "DomainLinksModel", name := "stepped", desc := "(IIIZ)I" } : Jvm.MethodName)) ∈ lw_tbl := lw_at lw_m9 186 rfl
theorem q2216 : (Jvm.Cond.instanceMethod ({ cls := "DomainLinksModel", name := "stepped", desc := "(IIIZ)I" } : Jvm.MethodName)) ∈ lw_all := lw_g (lw_at lw_m9 187 rfl) rfl
theorem q2217 : (Jvm.Cond.code ({ cls := "DomainLinksModel", name := "stepped", desc := "(IIIZ)I" } : Jvm.MethodName) prog_21_method_31_code (9 : Nat) (Option.some Jvm.ClassFile.FieldType.int)) ∈ lw_all := lw_g (lw_at lw_m9 188 rfl) rfl
theorem q2218 : (Jvm.Cond.methodLink "DomainLinksModel" (272 : Nat) ({ cls := "DomainLinksModel", name := "byElement", desc := "(I)V" } : Jvm.MethodName)) ∈ lw_all := lw_g (lw_at lw_m9 189 rfl) rfl
theorem q2219 : (Jvm.Cond.privateMethod ({ cls := "DomainLinksModel", name := "byElement", desc := "(I)V" } : Jvm.MethodName)) ∈ lw_tbl := lw_at lw_m9 190 rfl
theorem q2220 : (Jvm.Cond.instanceMethod ({ cls := "DomainLinksModel", name := "byElement", desc := "(I)V" } : Jvm.MethodName)) ∈ lw_all := lw_g (lw_at lw_m9 191 rfl) rfl
theorem q2221 : (Jvm.Cond.code ({ cls := "DomainLinksModel", name := "byElement", desc := "(I)V" } : Jvm.MethodName) prog_21_method_32_code (9 : Nat) (Option.none : Option Jvm.ClassFile.FieldType)) ∈ lw_all := lw_g (lw_at lw_m9 192 rfl) rfl
theorem q2222 : (Jvm.Cond.methodLink "DomainLinksModel" (275 : Nat) ({ cls := "DomainLinksModel", name := "byClause", desc := "(I)V" } : Jvm.MethodName)) ∈ lw_all := lw_g (lw_at lw_m9 193 rfl) rfl
theorem q2223 : (Jvm.Cond.privateMethod ({ cls := "DomainLinksModel", name := "byClause", desc := "(I)V" } : Jvm.MethodName)) ∈ lw_tbl := lw_at lw_m9 194 rfl
theorem q2224 : (Jvm.Cond.instanceMethod ({ cls := "DomainLinksModel", name := "byClause", desc := "(I)V" } : Jvm.MethodName)) ∈ lw_all := lw_g (lw_at lw_m9 195 rfl) rfl
theorem q2225 : (Jvm.Cond.code ({ cls := "DomainLinksModel", name := "byClause", desc := "(I)V" } : Jvm.MethodName) prog_21_method_34_code (5 : Nat) (Option.none : Option Jvm.ClassFile.FieldType)) ∈ lw_all := lw_g (lw_at lw_m9 196 rfl) rfl
theorem q2226 : (Jvm.Cond.methodLink "DomainLinksModel" (243 : Nat) ({ cls := "DomainLinksModel", name := "canHold", desc := "(II)Z" } : Jvm.MethodName)) ∈ lw_all := lw_g (lw_at lw_m9 197 rfl) rfl
theorem q2227 : (Jvm.Cond.privateMethod ({ cls := "DomainLinksModel", name := "canHold", desc := "(II)Z" } : Jvm.MethodName)) ∈ lw_tbl := lw_at lw_m9 198 rfl
theorem q2228 : (Jvm.Cond.instanceMethod ({ cls := "DomainLinksModel", name := "canHold", desc := "(II)Z" } : Jvm.MethodName)) ∈ lw_all := lw_g (lw_at lw_m9 199 rfl) rfl
theorem q2229 : (Jvm.Cond.code ({ cls := "DomainLinksModel", name := "canHold", desc := "(II)Z" } : Jvm.MethodName) prog_21_method_33_code (5 : Nat) (Option.some Jvm.ClassFile.FieldType.boolean)) ∈ lw_all := lw_g (lw_at lw_m9 200 rfl) rfl
theorem q2230 : (Jvm.Cond.methodLink "DomainLinksModel" (278 : Nat) ({ cls := "DomainLinksModel", name := "find", desc := "(I)I" } : Jvm.MethodName)) ∈ lw_all := lw_g (lw_at lw_m9 201 rfl) rfl
theorem q2231 : (Jvm.Cond.privateMethod ({ cls := "DomainLinksModel", name := "find", desc := "(I)I" } : Jvm.MethodName)) ∈ lw_tbl := lw_at lw_m9 202 rfl
theorem q2232 : (Jvm.Cond.instanceMethod ({ cls := "DomainLinksModel", name := "find", desc := "(I)I" } : Jvm.MethodName)) ∈ lw_all := lw_g (lw_at lw_m9 203 rfl) rfl
theorem q2233 : (Jvm.Cond.code ({ cls := "DomainLinksModel", name := "find", desc := "(I)I" } : Jvm.MethodName) prog_21_method_115_code (3 : Nat) (Option.some Jvm.ClassFile.FieldType.int)) ∈ lw_all := lw_g (lw_at lw_m9 204 rfl) rfl
theorem q2234 : (Jvm.Cond.methodLink "DomainLinksModel" (281 : Nat) ({ cls := "DomainLinksModel", name := "paired", desc := "(I)V" } : Jvm.MethodName)) ∈ lw_all := lw_g (lw_at lw_m9 205 rfl) rfl
theorem q2235 : (Jvm.Cond.privateMethod ({ cls := "DomainLinksModel", name := "paired", desc := "(I)V" } : Jvm.MethodName)) ∈ lw_tbl := lw_at lw_m9 206 rfl
theorem q2236 : (Jvm.Cond.instanceMethod ({ cls := "DomainLinksModel", name := "paired", desc := "(I)V" } : Jvm.MethodName)) ∈ lw_all := lw_g (lw_at lw_m9 207 rfl) rfl
theorem q2237 : (Jvm.Cond.code ({ cls := "DomainLinksModel", name := "paired", desc := "(I)V" } : Jvm.MethodName) prog_21_method_37_code (5 : Nat) (Option.none : Option Jvm.ClassFile.FieldType)) ∈ lw_all := lw_g (lw_at lw_m9 208 rfl) rfl
theorem q2238 : (Jvm.Cond.methodLink "DomainLinksModel" (256 : Nat) ({ cls := "DomainLinksModel", name := "begins", desc := "(II)Z" } : Jvm.MethodName)) ∈ lw_all := lw_g (lw_at lw_m9 209 rfl) rfl
theorem q2239 : (Jvm.Cond.static ({ cls := "DomainLinksModel", name := "begins", desc := "(II)Z" } : Jvm.MethodName)) ∈ lw_all := lw_g (lw_at lw_m9 210 rfl) rfl
theorem q2240 : (Jvm.Cond.code ({ cls := "DomainLinksModel", name := "begins", desc := "(II)Z" } : Jvm.MethodName) prog_21_method_16_code (3 : Nat) (Option.some Jvm.ClassFile.FieldType.boolean)) ∈ lw_all := lw_g (lw_at lw_m9 211 rfl) rfl
theorem q2241 : (Jvm.Cond.methodLink "DomainLinksModel" (185 : Nat) ({ cls := "DomainLinksModel", name := "lengthOf", desc := "(I)I" } : Jvm.MethodName)) ∈ lw_all := lw_g (lw_at lw_m9 212 rfl) rfl
theorem q2242 : (Jvm.Cond.static ({ cls := "DomainLinksModel", name := "lengthOf", desc := "(I)I" } : Jvm.MethodName)) ∈ lw_all := lw_g (lw_at lw_m9 213 rfl) rfl
theorem q2243 : (Jvm.Cond.code ({ cls := "DomainLinksModel", name := "lengthOf", desc := "(I)I" } : Jvm.MethodName) prog_21_method_12_code (1 : Nat) (Option.some Jvm.ClassFile.FieldType.int)) ∈ lw_all := lw_g (lw_at lw_m9 214 rfl) rfl
theorem q2244 : (Jvm.Cond.methodLink "DomainLinksModel" (189 : Nat) ({ cls := "DomainLinksModel", name := "bitsOf", desc := "(I)I" } : Jvm.MethodName)) ∈ lw_all := lw_g (lw_at lw_m9 215 rfl) rfl
theorem q2245 : (Jvm.Cond.static ({ cls := "DomainLinksModel", name := "bitsOf", desc := "(I)I" } : Jvm.MethodName)) ∈ lw_all := lw_g (lw_at lw_m9 216 rfl) rfl
theorem q2246 : (Jvm.Cond.code ({ cls := "DomainLinksModel", name := "bitsOf", desc := "(I)I" } : Jvm.MethodName) prog_21_method_13_code (1 : Nat) (Option.some Jvm.ClassFile.FieldType.int)) ∈ lw_all := lw_g (lw_at lw_m9 217 rfl) rfl
theorem q2247 : (Jvm.Cond.methodLink "DomainLinksModel" (284 : Nat) ({ cls := "DomainLinksModel", name := "functional", desc := "(I)V" } : Jvm.MethodName)) ∈ lw_all := lw_g (lw_at lw_m9 218 rfl) rfl
theorem q2248 : (Jvm.Cond.privateMethod ({ cls := "DomainLinksModel", name := "functional", desc := "(I)V" } : Jvm.MethodName)) ∈ lw_tbl := lw_at lw_m9 219 rfl
theorem q2249 : (Jvm.Cond.instanceMethod ({ cls := "DomainLinksModel", name := "functional", desc := "(I)V" } : Jvm.MethodName)) ∈ lw_all := lw_g (lw_at lw_m9 220 rfl) rfl
theorem q2250 : (Jvm.Cond.code ({ cls := "DomainLinksModel", name := "functional", desc := "(I)V" } : Jvm.MethodName) prog_21_method_36_code (6 : Nat) (Option.none : Option Jvm.ClassFile.FieldType)) ∈ lw_all := lw_g (lw_at lw_m9 221 rfl) rfl
theorem q2251 : (Jvm.Cond.methodLink "DomainLinksModel" (252 : Nat) ({ cls := "DomainLinksModel", name := "first", desc := "(III)I" } : Jvm.MethodName)) ∈ lw_all := lw_g (lw_at lw_m9 222 rfl) rfl
theorem q2252 : (Jvm.Cond.privateMethod ({ cls := "DomainLinksModel", name := "first", desc := "(III)I" } : Jvm.MethodName)) ∈ lw_tbl := lw_at lw_m9 223 rfl
theorem q2253 : (Jvm.Cond.instanceMethod ({ cls := "DomainLinksModel", name := "first", desc := "(III)I" } : Jvm.MethodName)) ∈ lw_all := lw_g (lw_at lw_m9 224 rfl) rfl
theorem q2254 : (Jvm.Cond.code ({ cls := "DomainLinksModel", name := "first", desc := "(III)I" } : Jvm.MethodName) prog_21_method_35_code (4 : Nat) (Option.some Jvm.ClassFile.FieldType.int)) ∈ lw_all := lw_g (lw_at lw_m9 225 rfl) rfl
theorem q2255 : (Jvm.Cond.methodLink "DomainLinksModel" (246 : Nat) ({ cls := "DomainLinksModel", name := "joinedWord", desc := "(II)I" } : Jvm.MethodName)) ∈ lw_all := lw_g (lw_at lw_m9 226 rfl) rfl
theorem q2256 : (Jvm.Cond.static ({ cls := "DomainLinksModel", name := "joinedWord", desc := "(II)I" } : Jvm.MethodName)) ∈ lw_all := lw_g (lw_at lw_m9 227 rfl) rfl
theorem q2257 : (Jvm.Cond.code ({ cls := "DomainLinksModel", name := "joinedWord", desc := "(II)I" } : Jvm.MethodName) prog_21_method_15_code (3 : Nat) (Option.some Jvm.ClassFile.FieldType.int)) ∈ lw_all := lw_g (lw_at lw_m9 228 rfl) rfl
theorem q2258 : (Jvm.Cond.methodLink "DomainLinksModel" (192 : Nat) ({ cls := "DomainLinksModel", name := "wordOf", desc := "(II)I" } : Jvm.MethodName)) ∈ lw_all := lw_g (lw_at lw_m9 229 rfl) rfl
theorem q2259 : (Jvm.Cond.static ({ cls := "DomainLinksModel", name := "wordOf", desc := "(II)I" } : Jvm.MethodName)) ∈ lw_all := lw_g (lw_at lw_m9 230 rfl) rfl
theorem q2260 : (Jvm.Cond.code ({ cls := "DomainLinksModel", name := "wordOf", desc := "(II)I" } : Jvm.MethodName) prog_21_method_14_code (2 : Nat) (Option.some Jvm.ClassFile.FieldType.int)) ∈ lw_all := lw_g (lw_at lw_m9 231 rfl) rfl
theorem q2261 : (Jvm.Cond.methodLink "DomainLinksModel" (249 : Nat) ({ cls := "DomainLinksModel", name := "letterOf", desc := "(II)I" } : Jvm.MethodName)) ∈ lw_all := lw_g (lw_at lw_m9 232 rfl) rfl
theorem q2262 : (Jvm.Cond.static ({ cls := "DomainLinksModel", name := "letterOf", desc := "(II)I" } : Jvm.MethodName)) ∈ lw_all := lw_g (lw_at lw_m9 233 rfl) rfl
theorem q2263 : (Jvm.Cond.code ({ cls := "DomainLinksModel", name := "letterOf", desc := "(II)I" } : Jvm.MethodName) prog_21_method_17_code (2 : Nat) (Option.some Jvm.ClassFile.FieldType.int)) ∈ lw_all := lw_g (lw_at lw_m9 234 rfl) rfl
theorem q2264 : (Jvm.Cond.methodLink "DomainLinksModel" (324 : Nat) ({ cls := "DomainLinksModel", name := "against", desc := "(II)I" } : Jvm.MethodName)) ∈ lw_all := lw_g (lw_at lw_m9 235 rfl) rfl
theorem q2265 : (Jvm.Cond.privateMethod ({ cls := "DomainLinksModel", name := "against", desc := "(II)I" } : Jvm.MethodName)) ∈ lw_tbl := lw_at lw_m9 236 rfl
theorem q2266 : (Jvm.Cond.instanceMethod ({ cls := "DomainLinksModel", name := "against", desc := "(II)I" } : Jvm.MethodName)) ∈ lw_all := lw_g (lw_at lw_m9 237 rfl) rfl
theorem q2267 : (Jvm.Cond.code ({ cls := "DomainLinksModel", name := "against", desc := "(II)I" } : Jvm.MethodName) prog_21_method_44_code (5 : Nat) (Option.some Jvm.ClassFile.FieldType.int)) ∈ lw_all := lw_g (lw_at lw_m9 238 rfl) rfl
theorem q2268 : (Jvm.Cond.methodLink "DomainLinksModel" (327 : Nat) ({ cls := "DomainLinksModel", name := "removes", desc := "(III)V" } : Jvm.MethodName)) ∈ lw_all := lw_g (lw_at lw_m9 239 rfl) rfl
theorem q2269 : (Jvm.Cond.privateMethod ({ cls := "DomainLinksModel", name := "removes", desc := "(III)V" } : Jvm.MethodName)) ∈ lw_tbl := lw_at lw_m10 0 rfl
theorem q2270 : (Jvm.Cond.instanceMethod ({ cls := "DomainLinksModel", name := "removes", desc := "(III)V" } : Jvm.MethodName)) ∈ lw_all := lw_g (lw_at lw_m10 1 rfl) rfl
theorem q2271 : (Jvm.Cond.code ({ cls := "DomainLinksModel", name := "removes", desc := "(III)V" } : Jvm.MethodName) prog_21_method_46_code (4 : Nat) (Option.none : Option Jvm.ClassFile.FieldType)) ∈ lw_all := lw_g (lw_at lw_m10 2 rfl) rfl
theorem q2272 : (Jvm.Cond.methodLink "DomainLinksModel" (330 : Nat) ({ cls := "DomainLinksModel", name := "ratioAgrees", desc := "(II)Z" } : Jvm.MethodName)) ∈ lw_all := lw_g (lw_at lw_m10 3 rfl) rfl
theorem q2273 : (Jvm.Cond.privateMethod ({ cls := "DomainLinksModel", name := "ratioAgrees", desc := "(II)Z" } : Jvm.MethodName)) ∈ lw_tbl := lw_at lw_m10 4 rfl
theorem q2274 : (Jvm.Cond.instanceMethod ({ cls := "DomainLinksModel", name := "ratioAgrees", desc := "(II)Z" } : Jvm.MethodName)) ∈ lw_all := lw_g (lw_at lw_m10 5 rfl) rfl
theorem q2275 : (Jvm.Cond.code ({ cls := "DomainLinksModel", name := "ratioAgrees", desc := "(II)Z" } : Jvm.MethodName) prog_21_method_45_code (6 : Nat) (Option.some Jvm.ClassFile.FieldType.boolean)) ∈ lw_all := lw_g (lw_at lw_m10 6 rfl) rfl
theorem q2277 : (Jvm.Cond.instanceMethod ({ cls := "DomainLinksModel", name := "domain", desc := "(I)I" } : Jvm.MethodName)) ∈ lw_all := lw_g (lw_at lw_m10 8 rfl) rfl
theorem q2278 : (Jvm.Cond.selects "DomainLinksModel" ({ cls := "DomainLinksModel", name := "domain", desc := "(I)I" } : Jvm.MethodName) ({ cls := "DomainLinksModel", name := "domain", desc := "(I)I" } : Jvm.MethodName)) ∈ lw_all := lw_g (lw_at lw_m10 9 rfl) rfl
theorem q2279 : (Jvm.Cond.code ({ cls := "DomainLinksModel", name := "domain", desc := "(I)I" } : Jvm.MethodName) prog_21_method_89_code (2 : Nat) (Option.some Jvm.ClassFile.FieldType.int)) ∈ lw_all := lw_g (lw_at lw_m10 10 rfl) rfl
theorem q2280 : (Jvm.Cond.methodLink "DomainLinksModel" (409 : Nat) ({ cls := "DomainLinksModel", name := "asks", desc := "(I)Z" } : Jvm.MethodName)) ∈ lw_all := lw_g (lw_at lw_m10 11 rfl) rfl
theorem q2281 : (Jvm.Cond.privateMethod ({ cls := "DomainLinksModel", name := "asks", desc := "(I)Z" } : Jvm.MethodName)) ∈ lw_tbl := lw_at lw_m10 12 rfl
theorem q2282 : (Jvm.Cond.instanceMethod ({ cls := "DomainLinksModel", name := "asks", desc := "(I)Z" } : Jvm.MethodName)) ∈ lw_all := lw_g (lw_at lw_m10 13 rfl) rfl
theorem q2283 : (Jvm.Cond.code ({ cls := "DomainLinksModel", name := "asks", desc := "(I)Z" } : Jvm.MethodName) prog_21_method_88_code (2 : Nat) (Option.some Jvm.ClassFile.FieldType.boolean)) ∈ lw_all := lw_g (lw_at lw_m10 14 rfl) rfl
theorem q2285 : (Jvm.Cond.instanceMethod ({ cls := "DomainLinksModel", name := "bound", desc := "(IZ)I" } : Jvm.MethodName)) ∈ lw_all := lw_g (lw_at lw_m10 16 rfl) rfl
theorem q2286 : (Jvm.Cond.selects "DomainLinksModel" ({ cls := "DomainLinksModel", name := "bound", desc := "(IZ)I" } : Jvm.MethodName) ({ cls := "DomainLinksModel", name := "bound", desc := "(IZ)I" } : Jvm.MethodName)) ∈ lw_all := lw_g (lw_at lw_m10 17 rfl) rfl
theorem q2287 : (Jvm.Cond.code ({ cls := "DomainLinksModel", name := "bound", desc := "(IZ)I" } : Jvm.MethodName) prog_21_method_90_code (3 : Nat) (Option.some Jvm.ClassFile.FieldType.int)) ∈ lw_all := lw_g (lw_at lw_m10 18 rfl) rfl
theorem q2289 : (Jvm.Cond.instanceMethod ({ cls := "DomainLinksModel", name := "rounds", desc := "()I" } : Jvm.MethodName)) ∈ lw_all := lw_g (lw_at lw_m10 20 rfl) rfl
theorem q2290 : (Jvm.Cond.selects "DomainLinksModel" ({ cls := "DomainLinksModel", name := "rounds", desc := "()I" } : Jvm.MethodName) ({ cls := "DomainLinksModel", name := "rounds", desc := "()I" } : Jvm.MethodName)) ∈ lw_all := lw_g (lw_at lw_m10 21 rfl) rfl
theorem q2291 : (Jvm.Cond.code ({ cls := "DomainLinksModel", name := "rounds", desc := "()I" } : Jvm.MethodName) prog_21_method_91_code (1 : Nat) (Option.some Jvm.ClassFile.FieldType.int)) ∈ lw_all := lw_g (lw_at lw_m10 22 rfl) rfl
theorem q2293 : (Jvm.Cond.instanceMethod ({ cls := "DomainLinksModel", name := "removals", desc := "()I" } : Jvm.MethodName)) ∈ lw_all := lw_g (lw_at lw_m10 24 rfl) rfl
theorem q2294 : (Jvm.Cond.selects "DomainLinksModel" ({ cls := "DomainLinksModel", name := "removals", desc := "()I" } : Jvm.MethodName) ({ cls := "DomainLinksModel", name := "removals", desc := "()I" } : Jvm.MethodName)) ∈ lw_all := lw_g (lw_at lw_m10 25 rfl) rfl
theorem q2295 : (Jvm.Cond.code ({ cls := "DomainLinksModel", name := "removals", desc := "()I" } : Jvm.MethodName) prog_21_method_92_code (1 : Nat) (Option.some Jvm.ClassFile.FieldType.int)) ∈ lw_all := lw_g (lw_at lw_m10 26 rfl) rfl
theorem q2297 : (Jvm.Cond.instanceMethod ({ cls := "DomainLinksModel", name := "removal", desc := "(II)I" } : Jvm.MethodName)) ∈ lw_all := lw_g (lw_at lw_m10 28 rfl) rfl
theorem q2298 : (Jvm.Cond.selects "DomainLinksModel" ({ cls := "DomainLinksModel", name := "removal", desc := "(II)I" } : Jvm.MethodName) ({ cls := "DomainLinksModel", name := "removal", desc := "(II)I" } : Jvm.MethodName)) ∈ lw_all := lw_g (lw_at lw_m10 29 rfl) rfl
theorem q2299 : (Jvm.Cond.code ({ cls := "DomainLinksModel", name := "removal", desc := "(II)I" } : Jvm.MethodName) prog_21_method_93_code (3 : Nat) (Option.some Jvm.ClassFile.FieldType.int)) ∈ lw_all := lw_g (lw_at lw_m10 30 rfl) rfl
theorem q2301 : (Jvm.Cond.instanceMethod ({ cls := "DomainLinksModel", name := "reason", desc := "(II)I" } : Jvm.MethodName)) ∈ lw_all := lw_g (lw_at lw_m10 32 rfl) rfl
theorem q2302 : (Jvm.Cond.selects "DomainLinksModel" ({ cls := "DomainLinksModel", name := "reason", desc := "(II)I" } : Jvm.MethodName) ({ cls := "DomainLinksModel", name := "reason", desc := "(II)I" } : Jvm.MethodName)) ∈ lw_all := lw_g (lw_at lw_m10 33 rfl) rfl
theorem q2303 : (Jvm.Cond.code ({ cls := "DomainLinksModel", name := "reason", desc := "(II)I" } : Jvm.MethodName) prog_21_method_95_code (3 : Nat) (Option.some Jvm.ClassFile.FieldType.int)) ∈ lw_all := lw_g (lw_at lw_m10 34 rfl) rfl
theorem q2304 : (Jvm.Cond.methodLink "DomainLinksModel" (412 : Nat) ({ cls := "DomainLinksModel", name := "reasonOf", desc := "(II)I" } : Jvm.MethodName)) ∈ lw_all := lw_g (lw_at lw_m10 35 rfl) rfl
theorem q2305 : (Jvm.Cond.privateMethod ({ cls := "DomainLinksModel", name := "reasonOf", desc := "(II)I" } : Jvm.MethodName)) ∈ lw_tbl := lw_at lw_m10 36 rfl
theorem q2306 : (Jvm.Cond.instanceMethod ({ cls := "DomainLinksModel", name := "reasonOf", desc := "(II)I" } : Jvm.MethodName)) ∈ lw_all := lw_g (lw_at lw_m10 37 rfl) rfl
theorem q2307 : (Jvm.Cond.code ({ cls := "DomainLinksModel", name := "reasonOf", desc := "(II)I" } : Jvm.MethodName) prog_21_method_94_code (6 : Nat) (Option.some Jvm.ClassFile.FieldType.int)) ∈ lw_all := lw_g (lw_at lw_m10 38 rfl) rfl
theorem q2309 : (Jvm.Cond.instanceMethod ({ cls := "DomainLinksModel", name := "failure", desc := "()I" } : Jvm.MethodName)) ∈ lw_all := lw_g (lw_at lw_m10 40 rfl) rfl
theorem q2310 : (Jvm.Cond.selects "DomainLinksModel" ({ cls := "DomainLinksModel", name := "failure", desc := "()I" } : Jvm.MethodName) ({ cls := "DomainLinksModel", name := "failure", desc := "()I" } : Jvm.MethodName)) ∈ lw_all := lw_g (lw_at lw_m10 41 rfl) rfl
theorem q2311 : (Jvm.Cond.code ({ cls := "DomainLinksModel", name := "failure", desc := "()I" } : Jvm.MethodName) prog_21_method_96_code (1 : Nat) (Option.some Jvm.ClassFile.FieldType.int)) ∈ lw_all := lw_g (lw_at lw_m10 42 rfl) rfl
theorem q2313 : (Jvm.Cond.instanceMethod ({ cls := "DomainLinksModel", name := "learn", desc := "()I" } : Jvm.MethodName)) ∈ lw_all := lw_g (lw_at lw_m10 44 rfl) rfl
theorem q2314 : (Jvm.Cond.selects "DomainLinksModel" ({ cls := "DomainLinksModel", name := "learn", desc := "()I" } : Jvm.MethodName) ({ cls := "DomainLinksModel", name := "learn", desc := "()I" } : Jvm.MethodName)) ∈ lw_all := lw_g (lw_at lw_m10 45 rfl) rfl
theorem q2315 : (Jvm.Cond.code ({ cls := "DomainLinksModel", name := "learn", desc := "()I" } : Jvm.MethodName) prog_21_method_97_code (4 : Nat) (Option.some Jvm.ClassFile.FieldType.int)) ∈ lw_all := lw_g (lw_at lw_m10 46 rfl) rfl
theorem q2317 : (Jvm.Cond.instanceMethod ({ cls := "DomainLinksModel", name := "search", desc := "(IIIII)I" } : Jvm.MethodName)) ∈ lw_all := lw_g (lw_at lw_m10 48 rfl) rfl
theorem q2318 : (Jvm.Cond.selects "DomainLinksModel" ({ cls := "DomainLinksModel", name := "search", desc := "(IIIII)I" } : Jvm.MethodName) ({ cls := "DomainLinksModel", name := "search", desc := "(IIIII)I" } : Jvm.MethodName)) ∈ lw_all := lw_g (lw_at lw_m10 49 rfl) rfl
theorem q2319 : (Jvm.Cond.code ({ cls := "DomainLinksModel", name := "search", desc := "(IIIII)I" } : Jvm.MethodName) prog_21_method_104_code (12 : Nat) (Option.some Jvm.ClassFile.FieldType.int)) ∈ lw_all := lw_g (lw_at lw_m10 50 rfl) rfl
theorem q2320 : (Jvm.Cond.methodLink "DomainLinksModel" (427 : Nat) ({ cls := "DomainLinksModel", name := "findsNode", desc := "()V" } : Jvm.MethodName)) ∈ lw_all := lw_g (lw_at lw_m10 51 rfl) rfl
theorem q2321 : (Jvm.Cond.privateMethod ({ cls := "DomainLinksModel", name := "findsNode", desc := "()V" } : Jvm.MethodName)) ∈ lw_tbl := lw_at lw_m10 52 rfl
theorem q2322 : (Jvm.Cond.instanceMethod ({ cls := "DomainLinksModel", name := "findsNode", desc := "()V" } : Jvm.MethodName)) ∈ lw_all := lw_g (lw_at lw_m10 53 rfl) rfl
theorem q2323 : (Jvm.Cond.code ({ cls := "DomainLinksModel", name := "findsNode", desc := "()V" } : Jvm.MethodName) prog_21_method_100_code (2 : Nat) (Option.none : Option Jvm.ClassFile.FieldType)) ∈ lw_all := lw_g (lw_at lw_m10 54 rfl) rfl
theorem q2324 : (Jvm.Cond.methodLink "DomainLinksModel" (430 : Nat) ({ cls := "DomainLinksModel", name := "goesBack", desc := "()Z" } : Jvm.MethodName)) ∈ lw_all := lw_g (lw_at lw_m10 55 rfl) rfl
theorem q2325 : (Jvm.Cond.privateMethod ({ cls := "DomainLinksModel", name := "goesBack", desc := "()Z" } : Jvm.MethodName)) ∈ lw_tbl := lw_at lw_m10 56 rfl
theorem q2326 : (Jvm.Cond.instanceMethod ({ cls := "DomainLinksModel", name := "goesBack", desc := "()Z" } : Jvm.MethodName)) ∈ lw_all := lw_g (lw_at lw_m10 57 rfl) rfl
theorem q2327 : (Jvm.Cond.code ({ cls := "DomainLinksModel", name := "goesBack", desc := "()Z" } : Jvm.MethodName) prog_21_method_102_code (1 : Nat) (Option.some Jvm.ClassFile.FieldType.boolean)) ∈ lw_all := lw_g (lw_at lw_m10 58 rfl) rfl
theorem q2328 : (Jvm.Cond.methodLink "DomainLinksModel" (433 : Nat) ({ cls := "DomainLinksModel", name := "isSolution", desc := "()Z" } : Jvm.MethodName)) ∈ lw_all := lw_g (lw_at lw_m10 59 rfl) rfl
theorem q2329 : (Jvm.Cond.privateMethod ({ cls := "DomainLinksModel", name := "isSolution", desc := "()Z" } : Jvm.MethodName)) ∈ lw_tbl := lw_at lw_m10 60 rfl
theorem q2330 : (Jvm.Cond.instanceMethod ({ cls := "DomainLinksModel", name := "isSolution", desc := "()Z" } : Jvm.MethodName)) ∈ lw_all := lw_g (lw_at lw_m10 61 rfl) rfl
theorem q2331 : (Jvm.Cond.code ({ cls := "DomainLinksModel", name := "isSolution", desc := "()Z" } : Jvm.MethodName) prog_21_method_50_code (3 : Nat) (Option.some Jvm.ClassFile.FieldType.boolean)) ∈ lw_all := lw_g (lw_at lw_m10 62 rfl) rfl
theorem q2332 : (Jvm.Cond.methodLink "DomainLinksModel" (339 : Nat) ({ cls := "DomainLinksModel", name := "isFixed", desc := "(I)Z" } : Jvm.MethodName)) ∈ lw_all := lw_g (lw_at lw_m10 63 rfl) rfl
theorem q2333 : (Jvm.Cond.privateMethod ({ cls := "DomainLinksModel", name := "isFixed", desc := "(I)Z" } : Jvm.MethodName)) ∈ lw_tbl := lw_at lw_m10 64 rfl
theorem q2334 : (Jvm.Cond.instanceMethod ({ cls := "DomainLinksModel", name := "isFixed", desc := "(I)Z" } : Jvm.MethodName)) ∈ lw_all := lw_g (lw_at lw_m10 65 rfl) rfl
theorem q2335 : (Jvm.Cond.code ({ cls := "DomainLinksModel", name := "isFixed", desc := "(I)Z" } : Jvm.MethodName) prog_21_method_49_code (2 : Nat) (Option.some Jvm.ClassFile.FieldType.boolean)) ∈ lw_all := lw_g (lw_at lw_m10 66 rfl) rfl
theorem q2336 : (Jvm.Cond.methodLink "DomainLinksModel" (436 : Nat) ({ cls := "DomainLinksModel", name := "keepsSolution", desc := "()V" } : Jvm.MethodName)) ∈ lw_all := lw_g (lw_at lw_m10 67 rfl) rfl
theorem q2337 : (Jvm.Cond.privateMethod ({ cls := "DomainLinksModel", name := "keepsSolution", desc := "()V" } : Jvm.MethodName)) ∈ lw_tbl := lw_at lw_m10 68 rfl
theorem q2338 : (Jvm.Cond.instanceMethod ({ cls := "DomainLinksModel", name := "keepsSolution", desc := "()V" } : Jvm.MethodName)) ∈ lw_all := lw_g (lw_at lw_m10 69 rfl) rfl
theorem q2339 : (Jvm.Cond.code ({ cls := "DomainLinksModel", name := "keepsSolution", desc := "()V" } : Jvm.MethodName) prog_21_method_103_code (2 : Nat) (Option.none : Option Jvm.ClassFile.FieldType)) ∈ lw_all := lw_g (lw_at lw_m10 70 rfl) rfl
theorem q2340 : (Jvm.Cond.methodLink "DomainLinksModel" (439 : Nat) ({ cls := "DomainLinksModel", name := "chosen", desc := "(II)I" } : Jvm.MethodName)) ∈ lw_all := lw_g (lw_at lw_m10 71 rfl) rfl
theorem q2341 : (Jvm.Cond.privateMethod ({ cls := "DomainLinksModel", name := "chosen", desc := "(II)I" } : Jvm.MethodName)) ∈ lw_tbl := lw_at lw_m10 72 rfl
theorem q2342 : (Jvm.Cond.instanceMethod ({ cls := "DomainLinksModel", name := "chosen", desc := "(II)I" } : Jvm.MethodName)) ∈ lw_all := lw_g (lw_at lw_m10 73 rfl) rfl
theorem q2343 : (Jvm.Cond.code ({ cls := "DomainLinksModel", name := "chosen", desc := "(II)I" } : Jvm.MethodName) prog_21_method_98_code (7 : Nat) (Option.some Jvm.ClassFile.FieldType.int)) ∈ lw_all := lw_g (lw_at lw_m10 74 rfl) rfl
theorem q2344 : (Jvm.Cond.methodLink "DomainLinksModel" (442 : Nat) ({ cls := "DomainLinksModel", name := "valueBy", desc := "(II)I" } : Jvm.MethodName)) ∈ lw_all := lw_g (lw_at lw_m10 75 rfl) rfl
theorem q2345 : (Jvm.Cond.privateMethod ({ cls := "DomainLinksModel", name := "valueBy", desc := "(II)I" } : Jvm.MethodName)) ∈ lw_tbl := lw_at lw_m10 76 rfl
theorem q2346 : (Jvm.Cond.instanceMethod ({ cls := "DomainLinksModel", name := "valueBy", desc := "(II)I" } : Jvm.MethodName)) ∈ lw_all := lw_g (lw_at lw_m10 77 rfl) rfl
theorem q2347 : (Jvm.Cond.code ({ cls := "DomainLinksModel", name := "valueBy", desc := "(II)I" } : Jvm.MethodName) prog_21_method_99_code (3 : Nat) (Option.some Jvm.ClassFile.FieldType.int)) ∈ lw_all := lw_g (lw_at lw_m10 78 rfl) rfl
theorem q2348 : (Jvm.Cond.methodLink "DomainLinksModel" (445 : Nat) ({ cls := "DomainLinksModel", name := "goesDown", desc := "(II)V" } : Jvm.MethodName)) ∈ lw_all := lw_g (lw_at lw_m10 79 rfl) rfl
theorem q2349 : (Jvm.Cond.privateMethod ({ cls := "DomainLinksModel", name := "goesDown", desc := "(II)V" } : Jvm.MethodName)) ∈ lw_tbl := lw_at lw_m10 80 rfl
theorem q2350 : (Jvm.Cond.instanceMethod ({ cls := "DomainLinksModel", name := "goesDown", desc := "(II)V" } : Jvm.MethodName)) ∈ lw_all := lw_g (lw_at lw_m10 81 rfl) rfl
theorem q2351 : (Jvm.Cond.code ({ cls := "DomainLinksModel", name := "goesDown", desc := "(II)V" } : Jvm.MethodName) prog_21_method_101_code (3 : Nat) (Option.none : Option Jvm.ClassFile.FieldType)) ∈ lw_all := lw_g (lw_at lw_m10 82 rfl) rfl
theorem q2353 : (Jvm.Cond.instanceMethod ({ cls := "DomainLinksModel", name := "nodes", desc := "()I" } : Jvm.MethodName)) ∈ lw_all := lw_g (lw_at lw_m10 84 rfl) rfl
theorem q2354 : (Jvm.Cond.selects "DomainLinksModel" ({ cls := "DomainLinksModel", name := "nodes", desc := "()I" } : Jvm.MethodName) ({ cls := "DomainLinksModel", name := "nodes", desc := "()I" } : Jvm.MethodName)) ∈ lw_all := lw_g (lw_at lw_m10 85 rfl) rfl
theorem q2355 : (Jvm.Cond.code ({ cls := "DomainLinksModel", name := "nodes", desc := "()I" } : Jvm.MethodName) prog_21_method_105_code (1 : Nat) (Option.some Jvm.ClassFile.FieldType.int)) ∈ lw_all := lw_g (lw_at lw_m10 86 rfl) rfl
theorem q2357 : (Jvm.Cond.instanceMethod ({ cls := "DomainLinksModel", name := "failures", desc := "()I" } : Jvm.MethodName)) ∈ lw_all := lw_g (lw_at lw_m10 88 rfl) rfl
theorem q2358 : (Jvm.Cond.selects "DomainLinksModel" ({ cls := "DomainLinksModel", name := "failures", desc := "()I" } : Jvm.MethodName) ({ cls := "DomainLinksModel", name := "failures", desc := "()I" } : Jvm.MethodName)) ∈ lw_all := lw_g (lw_at lw_m10 89 rfl) rfl
theorem q2359 : (Jvm.Cond.code ({ cls := "DomainLinksModel", name := "failures", desc := "()I" } : Jvm.MethodName) prog_21_method_106_code (1 : Nat) (Option.some Jvm.ClassFile.FieldType.int)) ∈ lw_all := lw_g (lw_at lw_m10 90 rfl) rfl
theorem q2361 : (Jvm.Cond.instanceMethod ({ cls := "DomainLinksModel", name := "solution", desc := "(I)I" } : Jvm.MethodName)) ∈ lw_all := lw_g (lw_at lw_m10 92 rfl) rfl
theorem q2362 : (Jvm.Cond.selects "DomainLinksModel" ({ cls := "DomainLinksModel", name := "solution", desc := "(I)I" } : Jvm.MethodName) ({ cls := "DomainLinksModel", name := "solution", desc := "(I)I" } : Jvm.MethodName)) ∈ lw_all := lw_g (lw_at lw_m10 93 rfl) rfl
theorem q2363 : (Jvm.Cond.code ({ cls := "DomainLinksModel", name := "solution", desc := "(I)I" } : Jvm.MethodName) prog_21_method_107_code (2 : Nat) (Option.some Jvm.ClassFile.FieldType.int)) ∈ lw_all := lw_g (lw_at lw_m10 94 rfl) rfl
theorem q2365 : (Jvm.Cond.instanceMethod ({ cls := "DomainLinksModel", name := "solutions", desc := "()I" } : Jvm.MethodName)) ∈ lw_all := lw_g (lw_at lw_m10 96 rfl) rfl
theorem q2366 : (Jvm.Cond.selects "DomainLinksModel" ({ cls := "DomainLinksModel", name := "solutions", desc := "()I" } : Jvm.MethodName) ({ cls := "DomainLinksModel", name := "solutions", desc := "()I" } : Jvm.MethodName)) ∈ lw_all := lw_g (lw_at lw_m10 97 rfl) rfl
theorem q2367 : (Jvm.Cond.code ({ cls := "DomainLinksModel", name := "solutions", desc := "()I" } : Jvm.MethodName) prog_21_method_108_code (5 : Nat) (Option.some Jvm.ClassFile.FieldType.int)) ∈ lw_all := lw_g (lw_at lw_m10 98 rfl) rfl
theorem q2369 : (Jvm.Cond.instanceMethod ({ cls := "DomainLinksModel", name := "solutionsByAll", desc := "()I" } : Jvm.MethodName)) ∈ lw_all := lw_g (lw_at lw_m10 100 rfl) rfl
theorem q2370 : (Jvm.Cond.selects "DomainLinksModel" ({ cls := "DomainLinksModel", name := "solutionsByAll", desc := "()I" } : Jvm.MethodName) ({ cls := "DomainLinksModel", name := "solutionsByAll", desc := "()I" } : Jvm.MethodName)) ∈ lw_all := lw_g (lw_at lw_m10 101 rfl) rfl
theorem q2371 : (Jvm.Cond.code ({ cls := "DomainLinksModel", name := "solutionsByAll", desc := "()I" } : Jvm.MethodName) prog_21_method_109_code (8 : Nat) (Option.some Jvm.ClassFile.FieldType.int)) ∈ lw_all := lw_g (lw_at lw_m10 102 rfl) rfl
theorem q2372 : (Jvm.Cond.constantLong "DomainLinksModel" (448 : Nat) (2000 : Int64)) ∈ lw_all := lw_g (lw_at lw_m10 103 rfl) rfl
theorem q2373 : (Jvm.Cond.methodLink "DomainLinksModel" (450 : Nat) ({ cls := "DomainLinksModel", name := "nth", desc := "(II)I" } : Jvm.MethodName)) ∈ lw_all := lw_g (lw_at lw_m10 104 rfl) rfl
theorem q2374 : (Jvm.Cond.static ({ cls := "DomainLinksModel", name := "nth", desc := "(II)I" } : Jvm.MethodName)) ∈ lw_all := lw_g (lw_at lw_m10 105 rfl) rfl
theorem q2375 : (Jvm.Cond.code ({ cls := "DomainLinksModel", name := "nth", desc := "(II)I" } : Jvm.MethodName) prog_21_method_110_code (4 : Nat) (Option.some Jvm.ClassFile.FieldType.int)) ∈ lw_all := lw_g (lw_at lw_m10 106 rfl) rfl
theorem q2377 : (Jvm.Cond.instanceMethod ({ cls := "DomainLinksModel", name := "minimise", desc := "(IIIII)V" } : Jvm.MethodName)) ∈ lw_all := lw_g (lw_at lw_m10 108 rfl) rfl
theorem q2378 : (Jvm.Cond.selects "DomainLinksModel" ({ cls := "DomainLinksModel", name := "minimise", desc := "(IIIII)V" } : Jvm.MethodName) ({ cls := "DomainLinksModel", name := "minimise", desc := "(IIIII)V" } : Jvm.MethodName)) ∈ lw_all := lw_g (lw_at lw_m10 109 rfl) rfl
theorem q2379 : (Jvm.Cond.code ({ cls := "DomainLinksModel", name := "minimise", desc := "(IIIII)V" } : Jvm.MethodName) prog_21_method_111_code (8 : Nat) (Option.none : Option Jvm.ClassFile.FieldType)) ∈ lw_all := lw_g (lw_at lw_m10 110 rfl) rfl
theorem q2381 : (Jvm.Cond.instanceMethod ({ cls := "DomainLinksModel", name := "goOn", desc := "(II)I" } : Jvm.MethodName)) ∈ lw_all := lw_g (lw_at lw_m10 112 rfl) rfl
theorem q2382 : (Jvm.Cond.selects "DomainLinksModel" ({ cls := "DomainLinksModel", name := "goOn", desc := "(II)I" } : Jvm.MethodName) ({ cls := "DomainLinksModel", name := "goOn", desc := "(II)I" } : Jvm.MethodName)) ∈ lw_all := lw_g (lw_at lw_m10 113 rfl) rfl
theorem q2383 : (Jvm.Cond.code ({ cls := "DomainLinksModel", name := "goOn", desc := "(II)I" } : Jvm.MethodName) prog_21_method_113_code (4 : Nat) (Option.some Jvm.ClassFile.FieldType.int)) ∈ lw_all := lw_g (lw_at lw_m10 114 rfl) rfl
theorem q2384 : (Jvm.Cond.methodLink "DomainLinksModel" (456 : Nat) ({ cls := "DomainLinksModel", name := "steps", desc := "(I)V" } : Jvm.MethodName)) ∈ lw_all := lw_g (lw_at lw_m10 115 rfl) rfl
theorem q2385 : (Jvm.Cond.privateMethod ({ cls := "DomainLinksModel", name := "steps", desc := "(I)V" } : Jvm.MethodName)) ∈ lw_tbl := lw_at lw_m10 116 rfl
theorem q2386 : (Jvm.Cond.instanceMethod ({ cls := "DomainLinksModel", name := "steps", desc := "(I)V" } : Jvm.MethodName)) ∈ lw_all := lw_g (lw_at lw_m10 117 rfl) rfl
theorem q2387 : (Jvm.Cond.code ({ cls := "DomainLinksModel", name := "steps", desc := "(I)V" } : Jvm.MethodName) prog_21_method_112_code (4 : Nat) (Option.none : Option Jvm.ClassFile.FieldType)) ∈ lw_all := lw_g (lw_at lw_m10 118 rfl) rfl
theorem q2389 : (Jvm.Cond.instanceMethod ({ cls := "DomainLinksModel", name := "best", desc := "()I" } : Jvm.MethodName)) ∈ lw_all := lw_g (lw_at lw_m10 120 rfl) rfl
theorem q2390 : (Jvm.Cond.selects "DomainLinksModel" ({ cls := "DomainLinksModel", name := "best", desc := "()I" } : Jvm.MethodName) ({ cls := "DomainLinksModel", name := "best", desc := "()I" } : Jvm.MethodName)) ∈ lw_all := lw_g (lw_at lw_m10 121 rfl) rfl
theorem q2391 : (Jvm.Cond.code ({ cls := "DomainLinksModel", name := "best", desc := "()I" } : Jvm.MethodName) prog_21_method_114_code (1 : Nat) (Option.some Jvm.ClassFile.FieldType.int)) ∈ lw_all := lw_g (lw_at lw_m10 122 rfl) rfl
theorem q2393 : (Jvm.Cond.instanceMethod ({ cls := "DomainLinksModel", name := "tree", desc := "()I" } : Jvm.MethodName)) ∈ lw_all := lw_g (lw_at lw_m10 124 rfl) rfl
theorem q2394 : (Jvm.Cond.selects "DomainLinksModel" ({ cls := "DomainLinksModel", name := "tree", desc := "()I" } : Jvm.MethodName) ({ cls := "DomainLinksModel", name := "tree", desc := "()I" } : Jvm.MethodName)) ∈ lw_all := lw_g (lw_at lw_m10 125 rfl) rfl
theorem q2395 : (Jvm.Cond.code ({ cls := "DomainLinksModel", name := "tree", desc := "()I" } : Jvm.MethodName) prog_21_method_117_code (1 : Nat) (Option.some Jvm.ClassFile.FieldType.int)) ∈ lw_all := lw_g (lw_at lw_m10 126 rfl) rfl
theorem q2396 : (Jvm.Cond.methodLink "DomainLinksModel" (459 : Nat) ({ cls := "DomainLinksModel", name := "addsTree", desc := "(III)I" } : Jvm.MethodName)) ∈ lw_all := lw_g (lw_at lw_m10 127 rfl) rfl
theorem q2397 : (Jvm.Cond.privateMethod ({ cls := "DomainLinksModel", name := "addsTree", desc := "(III)I" } : Jvm.MethodName)) ∈ lw_tbl := lw_at lw_m10 128 rfl
theorem q2398 : (Jvm.Cond.instanceMethod ({ cls := "DomainLinksModel", name := "addsTree", desc := "(III)I" } : Jvm.MethodName)) ∈ lw_all := lw_g (lw_at lw_m10 129 rfl) rfl
theorem q2399 : (Jvm.Cond.code ({ cls := "DomainLinksModel", name := "addsTree", desc := "(III)I" } : Jvm.MethodName) prog_21_method_116_code (4 : Nat) (Option.some Jvm.ClassFile.FieldType.int)) ∈ lw_all := lw_g (lw_at lw_m10 130 rfl) rfl
theorem q2401 : (Jvm.Cond.instanceMethod ({ cls := "DomainLinksModel", name := "term", desc := "(III)I" } : Jvm.MethodName)) ∈ lw_all := lw_g (lw_at lw_m10 132 rfl) rfl
theorem q2402 : (Jvm.Cond.selects "DomainLinksModel" ({ cls := "DomainLinksModel", name := "term", desc := "(III)I" } : Jvm.MethodName) ({ cls := "DomainLinksModel", name := "term", desc := "(III)I" } : Jvm.MethodName)) ∈ lw_all := lw_g (lw_at lw_m10 133 rfl) rfl
theorem q2403 : (Jvm.Cond.code ({ cls := "DomainLinksModel", name := "term", desc := "(III)I" } : Jvm.MethodName) prog_21_method_118_code (7 : Nat) (Option.some Jvm.ClassFile.FieldType.int)) ∈ lw_all := lw_g (lw_at lw_m10 134 rfl) rfl
theorem q2405 : (Jvm.Cond.instanceMethod ({ cls := "DomainLinksModel", name := "unify", desc := "(II)I" } : Jvm.MethodName)) ∈ lw_all := lw_g (lw_at lw_m10 136 rfl) rfl
theorem q2406 : (Jvm.Cond.selects "DomainLinksModel" ({ cls := "DomainLinksModel", name := "unify", desc := "(II)I" } : Jvm.MethodName) ({ cls := "DomainLinksModel", name := "unify", desc := "(II)I" } : Jvm.MethodName)) ∈ lw_all := lw_g (lw_at lw_m10 137 rfl) rfl
theorem q2407 : (Jvm.Cond.code ({ cls := "DomainLinksModel", name := "unify", desc := "(II)I" } : Jvm.MethodName) prog_21_method_119_code (10 : Nat) (Option.some Jvm.ClassFile.FieldType.int)) ∈ lw_all := lw_g (lw_at lw_m10 138 rfl) rfl
theorem q2409 : (Jvm.Cond.instanceMethod ({ cls := "DomainLinksModel", name := "areAlike", desc := "(II)Z" } : Jvm.MethodName)) ∈ lw_all := lw_g (lw_at lw_m10 140 rfl) rfl
theorem q2410 : (Jvm.Cond.selects "DomainLinksModel" ({ cls := "DomainLinksModel", name := "areAlike", desc := "(II)Z" } : Jvm.MethodName) ({ cls := "DomainLinksModel", name := "areAlike", desc := "(II)Z" } : Jvm.MethodName)) ∈ lw_all := lw_g (lw_at lw_m10 141 rfl) rfl
theorem q2411 : (Jvm.Cond.code ({ cls := "DomainLinksModel", name := "areAlike", desc := "(II)Z" } : Jvm.MethodName) prog_21_method_123_code (7 : Nat) (Option.some Jvm.ClassFile.FieldType.boolean)) ∈ lw_all := lw_g (lw_at lw_m10 142 rfl) rfl
theorem q2412 : (Jvm.Cond.methodLink "DomainLinksModel" (468 : Nat) ({ cls := "DomainLinksModel", name := "differ", desc := "(II)Z" } : Jvm.MethodName)) ∈ lw_all := lw_g (lw_at lw_m10 143 rfl) rfl
theorem q2413 : (Jvm.Cond.privateMethod ({ cls := "DomainLinksModel", name := "differ", desc := "(II)Z" } : Jvm.MethodName)) ∈ lw_tbl := lw_at lw_m10 144 rfl
theorem q2414 : (Jvm.Cond.instanceMethod ({ cls := "DomainLinksModel", name := "differ", desc := "(II)Z" } : Jvm.MethodName)) ∈ lw_all := lw_g (lw_at lw_m10 145 rfl) rfl
theorem q2415 : (Jvm.Cond.code ({ cls := "DomainLinksModel", name := "differ", desc := "(II)Z" } : Jvm.MethodName) prog_21_method_122_code (5 : Nat) (Option.some Jvm.ClassFile.FieldType.boolean)) ∈ lw_all := lw_g (lw_at lw_m10 146 rfl) rfl
theorem q2416 : (Jvm.Cond.methodLink "DomainLinksModel" (462 : Nat) ({ cls := "DomainLinksModel", name := "children", desc := "(I)I" } : Jvm.MethodName)) ∈ lw_all := lw_g (lw_at lw_m10 147 rfl) rfl
theorem q2417 : (Jvm.Cond.static ({ cls := "DomainLinksModel", name := "children", desc := "(I)I" } : Jvm.MethodName)) ∈ lw_all := lw_g (lw_at lw_m10 148 rfl) rfl
theorem q2418 : (Jvm.Cond.code ({ cls := "DomainLinksModel", name := "children", desc := "(I)I" } : Jvm.MethodName) prog_21_method_121_code (1 : Nat) (Option.some Jvm.ClassFile.FieldType.int)) ∈ lw_all := lw_g (lw_at lw_m10 149 rfl) rfl
theorem q2419 : (Jvm.Cond.methodLink "DomainLinksModel" (465 : Nat) ({ cls := "DomainLinksModel", name := "childOf", desc := "(II)I" } : Jvm.MethodName)) ∈ lw_all := lw_g (lw_at lw_m10 150 rfl) rfl
theorem q2420 : (Jvm.Cond.privateMethod ({ cls := "DomainLinksModel", name := "childOf", desc := "(II)I" } : Jvm.MethodName)) ∈ lw_tbl := lw_at lw_m10 151 rfl
theorem q2421 : (Jvm.Cond.instanceMethod ({ cls := "DomainLinksModel", name := "childOf", desc := "(II)I" } : Jvm.MethodName)) ∈ lw_all := lw_g (lw_at lw_m10 152 rfl) rfl
theorem q2422 : (Jvm.Cond.code ({ cls := "DomainLinksModel", name := "childOf", desc := "(II)I" } : Jvm.MethodName) prog_21_method_120_code (3 : Nat) (Option.some Jvm.ClassFile.FieldType.int)) ∈ lw_all := lw_g (lw_at lw_m10 153 rfl) rfl
theorem q2424 : (Jvm.Cond.instanceMethod ({ cls := "DomainLinksModel", name := "symbolAt", desc := "(III)I" } : Jvm.MethodName)) ∈ lw_all := lw_g (lw_at lw_m10 155 rfl) rfl
theorem q2425 : (Jvm.Cond.selects "DomainLinksModel" ({ cls := "DomainLinksModel", name := "symbolAt", desc := "(III)I" } : Jvm.MethodName) ({ cls := "DomainLinksModel", name := "symbolAt", desc := "(III)I" } : Jvm.MethodName)) ∈ lw_all := lw_g (lw_at lw_m10 156 rfl) rfl
theorem q2426 : (Jvm.Cond.code ({ cls := "DomainLinksModel", name := "symbolAt", desc := "(III)I" } : Jvm.MethodName) prog_21_method_124_code (7 : Nat) (Option.some Jvm.ClassFile.FieldType.int)) ∈ lw_all := lw_g (lw_at lw_m10 157 rfl) rfl
theorem q2428 : (Jvm.Cond.instanceMethod ({ cls := "DomainLinksModel", name := "isEndless", desc := "(I)Z" } : Jvm.MethodName)) ∈ lw_all := lw_g (lw_at lw_m10 159 rfl) rfl
theorem q2429 : (Jvm.Cond.selects "DomainLinksModel" ({ cls := "DomainLinksModel", name := "isEndless", desc := "(I)Z" } : Jvm.MethodName) ({ cls := "DomainLinksModel", name := "isEndless", desc := "(I)Z" } : Jvm.MethodName)) ∈ lw_all := lw_g (lw_at lw_m10 160 rfl) rfl
theorem q2430 : (Jvm.Cond.code ({ cls := "DomainLinksModel", name := "isEndless", desc := "(I)Z" } : Jvm.MethodName) prog_21_method_125_code (7 : Nat) (Option.some Jvm.ClassFile.FieldType.boolean)) ∈ lw_all := lw_g (lw_at lw_m10 161 rfl) rfl
theorem q2458 : (Jvm.Cond.castable "DomainLinksModel" "java/lang/Object") ∈ lw_tbl := lw_at lw_m10 189 rfl
theorem in_X5 : ∀ w ∈ wsX50, w ∈ lw_all := lw_in wsX50 [1810, 1812, 1814, 1816, 1818, 1820, 1822, 1824, 1826, 1828, 1830, 1832, 1834, 1836, 1838, 1840, 1842, 1844, 1846, 1848, 1850, 1852, 1854, 1856, 1858, 1860, 1862, 1864, 1866, 1868, 1870, 1872, 1874, 1876, 1878, 1880, 1882, 1884, 1886, 1888, 1890, 1892, 1894, 1896, 1898, 1900, 1902, 1904, 1906, 1908, 1910, 1912, 1914, 1916, 1918, 1920, 1922, 1924, 1926, 1928, 1930, 1932, 1934, 1936, 1938, 1940, 1942, 1944, 1946, 1948, 1950, 1952] (by decide +kernel) (by decide +kernel)

/-! DomainLinks$Variable -/
set_option maxRecDepth 100000
def RX6 : String := "DomainLinks$Variable"
def TX6 : u_T := fun k => match k with
  | 0 => ("DomainLinks$Variable", "kind", "I", true)
  | 1 => ("DomainLinks$Variable", "domain", "I", true)
  | 2 => ("DomainLinks$Variable", "low", "I", true)
  | _ => ("DomainLinks$Variable", "high", "I", true)
def tyX6 : Nat → FieldType := fun k => match k with
  | 0 => .int
  | 1 => .int
  | 2 => .int
  | _ => .int
abbrev wsX60 : List Cond := u_ws RX6 TX6 4
theorem nmX6 : ∀ a, a < 4 → ∀ b, b < 4 → a ≠ b → (TX6 a).2.1 ≠ (TX6 b).2.1 := by decide +kernel
theorem tyX6_ok : ∀ k, k < 4 → parseFieldDescriptor (TX6 k).2.2.1 = some (tyX6 k) := by decide +kernel
abbrev cX6_domain : ByteArray := prog_19_method_7_code
def yX6_domain : MethodName := ⟨RX6, "domain", "()I"⟩
abbrev cX6_low : ByteArray := prog_19_method_8_code
def yX6_low : MethodName := ⟨RX6, "low", "()I"⟩
abbrev cX6_high : ByteArray := prog_19_method_9_code
def yX6_high : MethodName := ⟨RX6, "high", "()I"⟩
abbrev cX6_kind : ByteArray := prog_19_method_6_code
def yX6_kind : MethodName := ⟨RX6, "kind", "()I"⟩
abbrev cX6_init : ByteArray := prog_19_method_1_code
def yX6_init : MethodName := ⟨RX6, "<init>", "(IIII)V"⟩
abbrev cX6_greatest : ByteArray := prog_19_method_2_code
def yX6_greatest : MethodName := ⟨RX6, "greatest", "()I"⟩
theorem q123 : (Jvm.Cond.initialized "DomainLinks$Variable") ∈ lw_all := lw_g (lw_at lw_m1 14 rfl) rfl
theorem q420 : (Jvm.Cond.instanceMethod ({ cls := "DomainLinks$Variable", name := "domain", desc := "()I" } : Jvm.MethodName)) ∈ lw_all := lw_g (lw_at lw_m2 71 rfl) rfl
theorem q421 : (Jvm.Cond.selects "DomainLinks$Variable" ({ cls := "DomainLinks$Variable", name := "domain", desc := "()I" } : Jvm.MethodName) ({ cls := "DomainLinks$Variable", name := "domain", desc := "()I" } : Jvm.MethodName)) ∈ lw_all := lw_g (lw_at lw_m2 72 rfl) rfl
theorem q422 : (Jvm.Cond.code ({ cls := "DomainLinks$Variable", name := "domain", desc := "()I" } : Jvm.MethodName) prog_19_method_7_code (1 : Nat) (Option.some Jvm.ClassFile.FieldType.int)) ∈ lw_all := lw_g (lw_at lw_m2 73 rfl) rfl
theorem q424 : (Jvm.Cond.instanceMethod ({ cls := "DomainLinks$Variable", name := "low", desc := "()I" } : Jvm.MethodName)) ∈ lw_all := lw_g (lw_at lw_m2 75 rfl) rfl
theorem q425 : (Jvm.Cond.selects "DomainLinks$Variable" ({ cls := "DomainLinks$Variable", name := "low", desc := "()I" } : Jvm.MethodName) ({ cls := "DomainLinks$Variable", name := "low", desc := "()I" } : Jvm.MethodName)) ∈ lw_all := lw_g (lw_at lw_m2 76 rfl) rfl
theorem q426 : (Jvm.Cond.code ({ cls := "DomainLinks$Variable", name := "low", desc := "()I" } : Jvm.MethodName) prog_19_method_8_code (1 : Nat) (Option.some Jvm.ClassFile.FieldType.int)) ∈ lw_all := lw_g (lw_at lw_m2 77 rfl) rfl
theorem q428 : (Jvm.Cond.instanceMethod ({ cls := "DomainLinks$Variable", name := "high", desc := "()I" } : Jvm.MethodName)) ∈ lw_all := lw_g (lw_at lw_m2 79 rfl) rfl
theorem q429 : (Jvm.Cond.selects "DomainLinks$Variable" ({ cls := "DomainLinks$Variable", name := "high", desc := "()I" } : Jvm.MethodName) ({ cls := "DomainLinks$Variable", name := "high", desc := "()I" } : Jvm.MethodName)) ∈ lw_all := lw_g (lw_at lw_m2 80 rfl) rfl
theorem q430 : (Jvm.Cond.code ({ cls := "DomainLinks$Variable", name := "high", desc := "()I" } : Jvm.MethodName) prog_19_method_9_code (1 : Nat) (Option.some Jvm.ClassFile.FieldType.int)) ∈ lw_all := lw_g (lw_at lw_m2 81 rfl) rfl
theorem q455 : (Jvm.Cond.instanceMethod ({ cls := "DomainLinks$Variable", name := "kind", desc := "()I" } : Jvm.MethodName)) ∈ lw_all := lw_g (lw_at lw_m2 106 rfl) rfl
theorem q456 : (Jvm.Cond.selects "DomainLinks$Variable" ({ cls := "DomainLinks$Variable", name := "kind", desc := "()I" } : Jvm.MethodName) ({ cls := "DomainLinks$Variable", name := "kind", desc := "()I" } : Jvm.MethodName)) ∈ lw_all := lw_g (lw_at lw_m2 107 rfl) rfl
theorem q457 : (Jvm.Cond.code ({ cls := "DomainLinks$Variable", name := "kind", desc := "()I" } : Jvm.MethodName) prog_19_method_6_code (1 : Nat) (Option.some Jvm.ClassFile.FieldType.int)) ∈ lw_all := lw_g (lw_at lw_m2 108 rfl) rfl
theorem q765 : (Jvm.Cond.instantiable "DomainLinks$Variable" (4 : Nat)) ∈ lw_all := lw_g (lw_at lw_m3 176 rfl) rfl
theorem q767 : (Jvm.Cond.instanceMethod ({ cls := "DomainLinks$Variable", name := "<init>", desc := "(IIII)V" } : Jvm.MethodName)) ∈ lw_all := lw_g (lw_at lw_m3 178 rfl) rfl
theorem q768 : (Jvm.Cond.code ({ cls := "DomainLinks$Variable", name := "<init>", desc := "(IIII)V" } : Jvm.MethodName) prog_19_method_1_code (5 : Nat) (Option.none : Option Jvm.ClassFile.FieldType)) ∈ lw_all := lw_g (lw_at lw_m3 179 rfl) rfl
theorem q769 : (Jvm.Cond.methodLink "DomainLinks$Variable" (1 : Nat) ({ cls := "java/lang/Record", name := "<init>", desc := "()V" } : Jvm.MethodName)) ∈ lw_all := lw_g (lw_at lw_m3 180 rfl) rfl
theorem q773 : (Jvm.Cond.fieldLink "DomainLinks$Variable" (7 : Nat) "DomainLinks$Variable" "kind" "I") ∈ lw_all := lw_g (lw_at lw_m3 184 rfl) rfl
theorem q774 : (Jvm.Cond.fieldLink "DomainLinks$Variable" (13 : Nat) "DomainLinks$Variable" "domain" "I") ∈ lw_all := lw_g (lw_at lw_m3 185 rfl) rfl
theorem q775 : (Jvm.Cond.fieldLink "DomainLinks$Variable" (16 : Nat) "DomainLinks$Variable" "low" "I") ∈ lw_all := lw_g (lw_at lw_m3 186 rfl) rfl
theorem q776 : (Jvm.Cond.fieldLink "DomainLinks$Variable" (19 : Nat) "DomainLinks$Variable" "high" "I") ∈ lw_all := lw_g (lw_at lw_m3 187 rfl) rfl
theorem q777 : (Jvm.Cond.laysFinal "DomainLinks$Variable" "DomainLinks$Variable" "kind" "I") ∈ lw_all := lw_g (lw_at lw_m3 188 rfl) rfl
theorem q778 : (Jvm.Cond.soleField "DomainLinks$Variable" "kind") ∈ lw_all := lw_g (lw_at lw_m3 189 rfl) rfl
theorem q779 : (Jvm.Cond.laysFinal "DomainLinks$Variable" "DomainLinks$Variable" "domain" "I") ∈ lw_all := lw_g (lw_at lw_m3 190 rfl) rfl
theorem q780 : (Jvm.Cond.soleField "DomainLinks$Variable" "domain") ∈ lw_all := lw_g (lw_at lw_m3 191 rfl) rfl
theorem q781 : (Jvm.Cond.laysFinal "DomainLinks$Variable" "DomainLinks$Variable" "low" "I") ∈ lw_all := lw_g (lw_at lw_m3 192 rfl) rfl
theorem q782 : (Jvm.Cond.soleField "DomainLinks$Variable" "low") ∈ lw_all := lw_g (lw_at lw_m3 193 rfl) rfl
theorem q783 : (Jvm.Cond.laysFinal "DomainLinks$Variable" "DomainLinks$Variable" "high" "I") ∈ lw_all := lw_g (lw_at lw_m3 194 rfl) rfl
theorem q784 : (Jvm.Cond.soleField "DomainLinks$Variable" "high") ∈ lw_all := lw_g (lw_at lw_m3 195 rfl) rfl
theorem q785 : (Jvm.Cond.superclass "DomainLinks$Variable" "java/lang/Record") ∈ lw_all := lw_g (lw_at lw_m3 196 rfl) rfl
theorem q859 : (Jvm.Cond.selects "DomainLinks$Variable" ({ cls := "java/lang/Object", name := "getClass", desc := "()Ljava/lang/Class;" } : Jvm.MethodName) ({ cls := "java/lang/Object", name := "getClass", desc := "()Ljava/lang/Class;" } : Jvm.MethodName)) ∈ lw_all := lw_g (lw_at lw_m4 30 rfl) rfl
theorem q1011 : (Jvm.Cond.instanceMethod ({ cls := "DomainLinks$Variable", name := "greatest", desc := "()I" } : Jvm.MethodName)) ∈ lw_all := lw_g (lw_at lw_m4 182 rfl) rfl
theorem q1012 : (Jvm.Cond.selects "DomainLinks$Variable" ({ cls := "DomainLinks$Variable", name := "greatest", desc := "()I" } : Jvm.MethodName) ({ cls := "DomainLinks$Variable", name := "greatest", desc := "()I" } : Jvm.MethodName)) ∈ lw_all := lw_g (lw_at lw_m4 183 rfl) rfl
theorem q1013 : (Jvm.Cond.code ({ cls := "DomainLinks$Variable", name := "greatest", desc := "()I" } : Jvm.MethodName) prog_19_method_2_code (1 : Nat) (Option.some Jvm.ClassFile.FieldType.int)) ∈ lw_all := lw_g (lw_at lw_m4 184 rfl) rfl
theorem q1014 : (Jvm.Cond.fieldLinkNest "DomainLinks$Variable" (22 : Nat) "DomainLinks" "GREATEST_VALUES" "[I" "DomainLinks") ∈ lw_tbl := lw_at lw_m4 185 rfl
theorem q2460 : (Jvm.Cond.castable "DomainLinks$Variable" "java/lang/Object") ∈ lw_tbl := lw_at lw_m10 191 rfl
theorem in_X6 : ∀ w ∈ wsX60, w ∈ lw_all := lw_in wsX60 [777, 779, 781, 783] (by decide +kernel) (by decide +kernel)

/-! DomainLinks$Move -/
set_option maxRecDepth 100000
def RX7 : String := "DomainLinks$Move"
def TX7 : u_T := fun k => match k with
  | 0 => ("DomainLinks$Move", "state", "I", true)
  | 1 => ("DomainLinks$Move", "value", "I", true)
  | _ => ("DomainLinks$Move", "next", "I", true)
def tyX7 : Nat → FieldType := fun k => match k with
  | 0 => .int
  | 1 => .int
  | _ => .int
abbrev wsX70 : List Cond := u_ws RX7 TX7 3
theorem nmX7 : ∀ a, a < 3 → ∀ b, b < 3 → a ≠ b → (TX7 a).2.1 ≠ (TX7 b).2.1 := by decide +kernel
theorem tyX7_ok : ∀ k, k < 3 → parseFieldDescriptor (TX7 k).2.2.1 = some (tyX7 k) := by decide +kernel
abbrev cX7_state : ByteArray := prog_10_method_5_code
def yX7_state : MethodName := ⟨RX7, "state", "()I"⟩
abbrev cX7_value : ByteArray := prog_10_method_6_code
def yX7_value : MethodName := ⟨RX7, "value", "()I"⟩
abbrev cX7_next : ByteArray := prog_10_method_7_code
def yX7_next : MethodName := ⟨RX7, "next", "()I"⟩
abbrev cX7_init : ByteArray := prog_10_method_1_code
def yX7_init : MethodName := ⟨RX7, "<init>", "(III)V"⟩
theorem q137 : (Jvm.Cond.initialized "DomainLinks$Move") ∈ lw_all := lw_g (lw_at lw_m1 28 rfl) rfl
theorem q604 : (Jvm.Cond.instanceMethod ({ cls := "DomainLinks$Move", name := "state", desc := "()I" } : Jvm.MethodName)) ∈ lw_all := lw_g (lw_at lw_m3 15 rfl) rfl
theorem q605 : (Jvm.Cond.selects "DomainLinks$Move" ({ cls := "DomainLinks$Move", name := "state", desc := "()I" } : Jvm.MethodName) ({ cls := "DomainLinks$Move", name := "state", desc := "()I" } : Jvm.MethodName)) ∈ lw_all := lw_g (lw_at lw_m3 16 rfl) rfl
theorem q606 : (Jvm.Cond.code ({ cls := "DomainLinks$Move", name := "state", desc := "()I" } : Jvm.MethodName) prog_10_method_5_code (1 : Nat) (Option.some Jvm.ClassFile.FieldType.int)) ∈ lw_all := lw_g (lw_at lw_m3 17 rfl) rfl
theorem q612 : (Jvm.Cond.instanceMethod ({ cls := "DomainLinks$Move", name := "value", desc := "()I" } : Jvm.MethodName)) ∈ lw_all := lw_g (lw_at lw_m3 23 rfl) rfl
theorem q613 : (Jvm.Cond.selects "DomainLinks$Move" ({ cls := "DomainLinks$Move", name := "value", desc := "()I" } : Jvm.MethodName) ({ cls := "DomainLinks$Move", name := "value", desc := "()I" } : Jvm.MethodName)) ∈ lw_all := lw_g (lw_at lw_m3 24 rfl) rfl
theorem q614 : (Jvm.Cond.code ({ cls := "DomainLinks$Move", name := "value", desc := "()I" } : Jvm.MethodName) prog_10_method_6_code (1 : Nat) (Option.some Jvm.ClassFile.FieldType.int)) ∈ lw_all := lw_g (lw_at lw_m3 25 rfl) rfl
theorem q616 : (Jvm.Cond.instanceMethod ({ cls := "DomainLinks$Move", name := "next", desc := "()I" } : Jvm.MethodName)) ∈ lw_all := lw_g (lw_at lw_m3 27 rfl) rfl
theorem q617 : (Jvm.Cond.selects "DomainLinks$Move" ({ cls := "DomainLinks$Move", name := "next", desc := "()I" } : Jvm.MethodName) ({ cls := "DomainLinks$Move", name := "next", desc := "()I" } : Jvm.MethodName)) ∈ lw_all := lw_g (lw_at lw_m3 28 rfl) rfl
theorem q618 : (Jvm.Cond.code ({ cls := "DomainLinks$Move", name := "next", desc := "()I" } : Jvm.MethodName) prog_10_method_7_code (1 : Nat) (Option.some Jvm.ClassFile.FieldType.int)) ∈ lw_all := lw_g (lw_at lw_m3 29 rfl) rfl
theorem q851 : (Jvm.Cond.selects "DomainLinks$Move" ({ cls := "java/lang/Object", name := "getClass", desc := "()Ljava/lang/Class;" } : Jvm.MethodName) ({ cls := "java/lang/Object", name := "getClass", desc := "()Ljava/lang/Class;" } : Jvm.MethodName)) ∈ lw_all := lw_g (lw_at lw_m4 22 rfl) rfl
theorem q984 : (Jvm.Cond.instantiable "DomainLinks$Move" (3 : Nat)) ∈ lw_all := lw_g (lw_at lw_m4 155 rfl) rfl
theorem q986 : (Jvm.Cond.instanceMethod ({ cls := "DomainLinks$Move", name := "<init>", desc := "(III)V" } : Jvm.MethodName)) ∈ lw_all := lw_g (lw_at lw_m4 157 rfl) rfl
theorem q987 : (Jvm.Cond.code ({ cls := "DomainLinks$Move", name := "<init>", desc := "(III)V" } : Jvm.MethodName) prog_10_method_1_code (4 : Nat) (Option.none : Option Jvm.ClassFile.FieldType)) ∈ lw_all := lw_g (lw_at lw_m4 158 rfl) rfl
theorem q988 : (Jvm.Cond.methodLink "DomainLinks$Move" (1 : Nat) ({ cls := "java/lang/Record", name := "<init>", desc := "()V" } : Jvm.MethodName)) ∈ lw_all := lw_g (lw_at lw_m4 159 rfl) rfl
theorem q989 : (Jvm.Cond.fieldLink "DomainLinks$Move" (7 : Nat) "DomainLinks$Move" "state" "I") ∈ lw_all := lw_g (lw_at lw_m4 160 rfl) rfl
theorem q990 : (Jvm.Cond.fieldLink "DomainLinks$Move" (13 : Nat) "DomainLinks$Move" "value" "I") ∈ lw_all := lw_g (lw_at lw_m4 161 rfl) rfl
theorem q991 : (Jvm.Cond.fieldLink "DomainLinks$Move" (16 : Nat) "DomainLinks$Move" "next" "I") ∈ lw_all := lw_g (lw_at lw_m4 162 rfl) rfl
theorem q992 : (Jvm.Cond.laysFinal "DomainLinks$Move" "DomainLinks$Move" "state" "I") ∈ lw_all := lw_g (lw_at lw_m4 163 rfl) rfl
theorem q993 : (Jvm.Cond.soleField "DomainLinks$Move" "state") ∈ lw_all := lw_g (lw_at lw_m4 164 rfl) rfl
theorem q994 : (Jvm.Cond.laysFinal "DomainLinks$Move" "DomainLinks$Move" "value" "I") ∈ lw_all := lw_g (lw_at lw_m4 165 rfl) rfl
theorem q995 : (Jvm.Cond.soleField "DomainLinks$Move" "value") ∈ lw_all := lw_g (lw_at lw_m4 166 rfl) rfl
theorem q996 : (Jvm.Cond.laysFinal "DomainLinks$Move" "DomainLinks$Move" "next" "I") ∈ lw_all := lw_g (lw_at lw_m4 167 rfl) rfl
theorem q997 : (Jvm.Cond.soleField "DomainLinks$Move" "next") ∈ lw_all := lw_g (lw_at lw_m4 168 rfl) rfl
theorem q998 : (Jvm.Cond.superclass "DomainLinks$Move" "java/lang/Record") ∈ lw_all := lw_g (lw_at lw_m4 169 rfl) rfl
theorem q2465 : (Jvm.Cond.castable "DomainLinks$Move" "java/lang/Object") ∈ lw_tbl := lw_at lw_m10 196 rfl
theorem in_X7 : ∀ w ∈ wsX70, w ∈ lw_all := lw_in wsX70 [992, 994, 996] (by decide +kernel) (by decide +kernel)

/-! DomainLinks$Literal -/
set_option maxRecDepth 100000
def RX8 : String := "DomainLinks$Literal"
def TX8 : u_T := fun k => match k with
  | 0 => ("DomainLinks$Literal", "variable", "I", true)
  | 1 => ("DomainLinks$Literal", "value", "I", true)
  | _ => ("DomainLinks$Literal", "has", "Z", true)
def tyX8 : Nat → FieldType := fun k => match k with
  | 0 => .int
  | 1 => .int
  | _ => .boolean
abbrev wsX80 : List Cond := u_ws RX8 TX8 3
theorem nmX8 : ∀ a, a < 3 → ∀ b, b < 3 → a ≠ b → (TX8 a).2.1 ≠ (TX8 b).2.1 := by decide +kernel
theorem tyX8_ok : ∀ k, k < 3 → parseFieldDescriptor (TX8 k).2.2.1 = some (tyX8 k) := by decide +kernel
abbrev cX8_value : ByteArray := prog_9_method_7_code
def yX8_value : MethodName := ⟨RX8, "value", "()I"⟩
abbrev cX8_has : ByteArray := prog_9_method_8_code
def yX8_has : MethodName := ⟨RX8, "has", "()Z"⟩
abbrev cX8_init : ByteArray := prog_9_method_1_code
def yX8_init : MethodName := ⟨RX8, "<init>", "(IIZ)V"⟩
abbrev cX8_variable : ByteArray := prog_9_method_6_code
def yX8_variable : MethodName := ⟨RX8, "variable", "()I"⟩
theorem q138 : (Jvm.Cond.initialized "DomainLinks$Literal") ∈ lw_all := lw_g (lw_at lw_m1 29 rfl) rfl
theorem q490 : (Jvm.Cond.instanceMethod ({ cls := "DomainLinks$Literal", name := "value", desc := "()I" } : Jvm.MethodName)) ∈ lw_all := lw_g (lw_at lw_m2 141 rfl) rfl
theorem q491 : (Jvm.Cond.selects "DomainLinks$Literal" ({ cls := "DomainLinks$Literal", name := "value", desc := "()I" } : Jvm.MethodName) ({ cls := "DomainLinks$Literal", name := "value", desc := "()I" } : Jvm.MethodName)) ∈ lw_all := lw_g (lw_at lw_m2 142 rfl) rfl
theorem q492 : (Jvm.Cond.code ({ cls := "DomainLinks$Literal", name := "value", desc := "()I" } : Jvm.MethodName) prog_9_method_7_code (1 : Nat) (Option.some Jvm.ClassFile.FieldType.int)) ∈ lw_all := lw_g (lw_at lw_m2 143 rfl) rfl
theorem q494 : (Jvm.Cond.instanceMethod ({ cls := "DomainLinks$Literal", name := "has", desc := "()Z" } : Jvm.MethodName)) ∈ lw_all := lw_g (lw_at lw_m2 145 rfl) rfl
theorem q495 : (Jvm.Cond.selects "DomainLinks$Literal" ({ cls := "DomainLinks$Literal", name := "has", desc := "()Z" } : Jvm.MethodName) ({ cls := "DomainLinks$Literal", name := "has", desc := "()Z" } : Jvm.MethodName)) ∈ lw_all := lw_g (lw_at lw_m2 146 rfl) rfl
theorem q496 : (Jvm.Cond.code ({ cls := "DomainLinks$Literal", name := "has", desc := "()Z" } : Jvm.MethodName) prog_9_method_8_code (1 : Nat) (Option.some Jvm.ClassFile.FieldType.boolean)) ∈ lw_all := lw_g (lw_at lw_m2 147 rfl) rfl
theorem q850 : (Jvm.Cond.selects "DomainLinks$Literal" ({ cls := "java/lang/Object", name := "getClass", desc := "()Ljava/lang/Class;" } : Jvm.MethodName) ({ cls := "java/lang/Object", name := "getClass", desc := "()Ljava/lang/Class;" } : Jvm.MethodName)) ∈ lw_all := lw_g (lw_at lw_m4 21 rfl) rfl
theorem q1016 : (Jvm.Cond.instantiable "DomainLinks$Literal" (3 : Nat)) ∈ lw_all := lw_g (lw_at lw_m4 187 rfl) rfl
theorem q1018 : (Jvm.Cond.instanceMethod ({ cls := "DomainLinks$Literal", name := "<init>", desc := "(IIZ)V" } : Jvm.MethodName)) ∈ lw_all := lw_g (lw_at lw_m4 189 rfl) rfl
theorem q1019 : (Jvm.Cond.code ({ cls := "DomainLinks$Literal", name := "<init>", desc := "(IIZ)V" } : Jvm.MethodName) prog_9_method_1_code (4 : Nat) (Option.none : Option Jvm.ClassFile.FieldType)) ∈ lw_all := lw_g (lw_at lw_m4 190 rfl) rfl
theorem q1020 : (Jvm.Cond.methodLink "DomainLinks$Literal" (1 : Nat) ({ cls := "java/lang/Record", name := "<init>", desc := "()V" } : Jvm.MethodName)) ∈ lw_all := lw_g (lw_at lw_m4 191 rfl) rfl
theorem q1021 : (Jvm.Cond.fieldLink "DomainLinks$Literal" (7 : Nat) "DomainLinks$Literal" "variable" "I") ∈ lw_all := lw_g (lw_at lw_m4 192 rfl) rfl
theorem q1022 : (Jvm.Cond.fieldLink "DomainLinks$Literal" (13 : Nat) "DomainLinks$Literal" "value" "I") ∈ lw_all := lw_g (lw_at lw_m4 193 rfl) rfl
theorem q1023 : (Jvm.Cond.fieldLink "DomainLinks$Literal" (16 : Nat) "DomainLinks$Literal" "has" "Z") ∈ lw_all := lw_g (lw_at lw_m4 194 rfl) rfl
theorem q1024 : (Jvm.Cond.laysFinal "DomainLinks$Literal" "DomainLinks$Literal" "variable" "I") ∈ lw_all := lw_g (lw_at lw_m4 195 rfl) rfl
theorem q1025 : (Jvm.Cond.soleField "DomainLinks$Literal" "variable") ∈ lw_all := lw_g (lw_at lw_m4 196 rfl) rfl
theorem q1026 : (Jvm.Cond.laysFinal "DomainLinks$Literal" "DomainLinks$Literal" "value" "I") ∈ lw_all := lw_g (lw_at lw_m4 197 rfl) rfl
theorem q1027 : (Jvm.Cond.soleField "DomainLinks$Literal" "value") ∈ lw_all := lw_g (lw_at lw_m4 198 rfl) rfl
theorem q1028 : (Jvm.Cond.laysFinal "DomainLinks$Literal" "DomainLinks$Literal" "has" "Z") ∈ lw_all := lw_g (lw_at lw_m4 199 rfl) rfl
theorem q1029 : (Jvm.Cond.soleField "DomainLinks$Literal" "has") ∈ lw_all := lw_g (lw_at lw_m4 200 rfl) rfl
theorem q1030 : (Jvm.Cond.superclass "DomainLinks$Literal" "java/lang/Record") ∈ lw_all := lw_g (lw_at lw_m4 201 rfl) rfl
theorem q1373 : (Jvm.Cond.instanceMethod ({ cls := "DomainLinks$Literal", name := "variable", desc := "()I" } : Jvm.MethodName)) ∈ lw_all := lw_g (lw_at lw_m6 64 rfl) rfl
theorem q1374 : (Jvm.Cond.selects "DomainLinks$Literal" ({ cls := "DomainLinks$Literal", name := "variable", desc := "()I" } : Jvm.MethodName) ({ cls := "DomainLinks$Literal", name := "variable", desc := "()I" } : Jvm.MethodName)) ∈ lw_all := lw_g (lw_at lw_m6 65 rfl) rfl
theorem q1375 : (Jvm.Cond.code ({ cls := "DomainLinks$Literal", name := "variable", desc := "()I" } : Jvm.MethodName) prog_9_method_6_code (1 : Nat) (Option.some Jvm.ClassFile.FieldType.int)) ∈ lw_all := lw_g (lw_at lw_m6 66 rfl) rfl
theorem q2466 : (Jvm.Cond.castable "DomainLinks$Literal" "java/lang/Object") ∈ lw_tbl := lw_at lw_m10 197 rfl
theorem in_X8 : ∀ w ∈ wsX80, w ∈ lw_all := lw_in wsX80 [1024, 1026, 1028] (by decide +kernel) (by decide +kernel)

/-! DomainLinks$Constraint -/
set_option maxRecDepth 100000
def RX9 : String := "DomainLinks$Constraint"
abbrev cX9_size : ByteArray := prog_4_method_2_code
def yX9_size : MethodName := ⟨RX9, "size", "()I"⟩
abbrev cX9_domain : ByteArray := prog_4_method_3_code
def yX9_domain : MethodName := ⟨RX9, "domain", "(LDomainLinks$Store;I)I"⟩
abbrev cX9_init : ByteArray := prog_4_method_1_code
def yX9_init : MethodName := ⟨RX9, "<init>", "(Ljava/util/List;)V"⟩
theorem q139 : (Jvm.Cond.initialized "DomainLinks$Constraint") ∈ lw_all := lw_g (lw_at lw_m1 30 rfl) rfl
theorem q239 : (Jvm.Cond.fieldLinkNest "DomainLinks$Constraint" (37 : Nat) "DomainLinks$Store" "sets" "[I" "DomainLinks") ∈ lw_tbl := lw_at lw_m1 130 rfl
theorem q464 : (Jvm.Cond.declares ({ cls := "DomainLinks$Constraint", name := "keep", desc := "(LDomainLinks$Store;)V" } : Jvm.MethodName)) ∈ lw_tbl := lw_at lw_m2 115 rfl
theorem q465 : (Jvm.Cond.sameMethod "DomainLinks$Constraint" "DomainLinks$Constraint" "keep" "(LDomainLinks$Store;)V") ∈ lw_all := lw_g (lw_at lw_m2 116 rfl) rfl
theorem q471 : (Jvm.Cond.declares ({ cls := "DomainLinks$Constraint", name := "size", desc := "()I" } : Jvm.MethodName)) ∈ lw_tbl := lw_at lw_m2 122 rfl
theorem q473 : (Jvm.Cond.instanceMethod ({ cls := "DomainLinks$Constraint", name := "size", desc := "()I" } : Jvm.MethodName)) ∈ lw_all := lw_g (lw_at lw_m2 124 rfl) rfl
theorem q474 : (Jvm.Cond.code ({ cls := "DomainLinks$Constraint", name := "size", desc := "()I" } : Jvm.MethodName) prog_4_method_2_code (1 : Nat) (Option.some Jvm.ClassFile.FieldType.int)) ∈ lw_all := lw_g (lw_at lw_m2 125 rfl) rfl
theorem q477 : (Jvm.Cond.declares ({ cls := "DomainLinks$Constraint", name := "domain", desc := "(LDomainLinks$Store;I)I" } : Jvm.MethodName)) ∈ lw_tbl := lw_at lw_m2 128 rfl
theorem q479 : (Jvm.Cond.instanceMethod ({ cls := "DomainLinks$Constraint", name := "domain", desc := "(LDomainLinks$Store;I)I" } : Jvm.MethodName)) ∈ lw_all := lw_g (lw_at lw_m2 130 rfl) rfl
theorem q480 : (Jvm.Cond.code ({ cls := "DomainLinks$Constraint", name := "domain", desc := "(LDomainLinks$Store;I)I" } : Jvm.MethodName) prog_4_method_3_code (3 : Nat) (Option.some Jvm.ClassFile.FieldType.int)) ∈ lw_all := lw_g (lw_at lw_m2 131 rfl) rfl
theorem q1065 : (Jvm.Cond.instanceMethod ({ cls := "DomainLinks$Constraint", name := "<init>", desc := "(Ljava/util/List;)V" } : Jvm.MethodName)) ∈ lw_all := lw_g (lw_at lw_m4 236 rfl) rfl
theorem q1066 : (Jvm.Cond.code ({ cls := "DomainLinks$Constraint", name := "<init>", desc := "(Ljava/util/List;)V" } : Jvm.MethodName) prog_4_method_1_code (3 : Nat) (Option.none : Option Jvm.ClassFile.FieldType)) ∈ lw_all := lw_g (lw_at lw_m4 237 rfl) rfl
theorem q1067 : (Jvm.Cond.methodLink "DomainLinks$Constraint" (1 : Nat) ({ cls := "java/lang/Object", name := "<init>", desc := "()V" } : Jvm.MethodName)) ∈ lw_all := lw_g (lw_at lw_m4 238 rfl) rfl
theorem q1068 : (Jvm.Cond.interfaceEntry "DomainLinks$Constraint" (7 : Nat)) ∈ lw_tbl := lw_at lw_m4 239 rfl
theorem q1069 : (Jvm.Cond.methodLink "DomainLinks$Constraint" (7 : Nat) ({ cls := "java/util/List", name := "size", desc := "()I" } : Jvm.MethodName)) ∈ lw_all := lw_g (lw_at lw_m5 0 rfl) rfl
theorem q1070 : (Jvm.Cond.interfaceEntry "DomainLinks$Constraint" (28 : Nat)) ∈ lw_tbl := lw_at lw_m5 1 rfl
theorem q1071 : (Jvm.Cond.methodLink "DomainLinks$Constraint" (28 : Nat) ({ cls := "java/util/List", name := "get", desc := "(I)Ljava/lang/Object;" } : Jvm.MethodName)) ∈ lw_all := lw_g (lw_at lw_m5 2 rfl) rfl
theorem q1072 : (Jvm.Cond.classLink "DomainLinks$Constraint" (32 : Nat) "java/lang/Integer") ∈ lw_all := lw_g (lw_at lw_m5 3 rfl) rfl
theorem q1073 : (Jvm.Cond.methodLink "DomainLinks$Constraint" (34 : Nat) ({ cls := "java/lang/Integer", name := "intValue", desc := "()I" } : Jvm.MethodName)) ∈ lw_all := lw_g (lw_at lw_m5 4 rfl) rfl
theorem q1082 : (Jvm.Cond.fieldLink "DomainLinks$Constraint" (13 : Nat) "DomainLinks$Constraint" "places" "[I") ∈ lw_all := lw_g (lw_at lw_m5 13 rfl) rfl
theorem q1086 : (Jvm.Cond.fieldLink "DomainLinks$Constraint" (19 : Nat) "DomainLinks$Constraint" "sets" "[I") ∈ lw_all := lw_g (lw_at lw_m5 17 rfl) rfl
theorem q1104 : (Jvm.Cond.fieldLink "DomainLinks$Constraint" (22 : Nat) "DomainLinks$Constraint" "lows" "[I") ∈ lw_all := lw_g (lw_at lw_m5 35 rfl) rfl
theorem q1108 : (Jvm.Cond.fieldLink "DomainLinks$Constraint" (25 : Nat) "DomainLinks$Constraint" "highs" "[I") ∈ lw_all := lw_g (lw_at lw_m5 39 rfl) rfl
theorem q1121 : (Jvm.Cond.soleField "DomainLinks$Constraint" "places") ∈ lw_all := lw_g (lw_at lw_m5 52 rfl) rfl
theorem q1123 : (Jvm.Cond.soleField "DomainLinks$Constraint" "sets") ∈ lw_all := lw_g (lw_at lw_m5 54 rfl) rfl
theorem q1125 : (Jvm.Cond.soleField "DomainLinks$Constraint" "lows") ∈ lw_all := lw_g (lw_at lw_m5 56 rfl) rfl
theorem q1127 : (Jvm.Cond.soleField "DomainLinks$Constraint" "highs") ∈ lw_all := lw_g (lw_at lw_m5 58 rfl) rfl
theorem q2432 : (Jvm.Cond.sameMethod "DomainLinks$Constraint" "DomainLinks$Constraint" "size" "()I") ∈ lw_all := lw_g (lw_at lw_m10 163 rfl) rfl

theorem q636 : (Jvm.Cond.interfaceMethod "DomainLinks$Relation" "DomainLinks$Relation" "holds" "(III)Z") ∈ lw_tbl := lw_at lw_m3 47 rfl
set_option maxRecDepth 100000
theorem q637 : (Jvm.Cond.declares ({ cls := "DomainLinks$Relation", name := "holds", desc := "(III)Z" } : Jvm.MethodName)) ∈ lw_tbl := lw_at lw_m3 48 rfl

theorem q2486 : (Jvm.Cond.castable "[B" "java/lang/Object") ∈ lw_tbl := lw_at lw_m10 217 rfl
set_option maxRecDepth 100000

theorem q2481 : (Jvm.Cond.castable "[I" "java/lang/Object") ∈ lw_tbl := lw_at lw_m10 212 rfl
set_option maxRecDepth 100000

theorem q2487 : (Jvm.Cond.castable "[J" "java/lang/Object") ∈ lw_tbl := lw_at lw_m10 218 rfl
set_option maxRecDepth 100000

theorem q2484 : (Jvm.Cond.castable "[LDomainLinks$Shared;" "java/lang/Object") ∈ lw_tbl := lw_at lw_m10 215 rfl
set_option maxRecDepth 100000

theorem q2478 : (Jvm.Cond.sameMethod "[Ljava/lang/Object;" "java/lang/Object" "getClass" "()Ljava/lang/Class;") ∈ lw_all := lw_g (lw_at lw_m10 209 rfl) rfl
set_option maxRecDepth 100000
theorem q2479 : (Jvm.Cond.selects "[Ljava/lang/Object;" ({ cls := "java/lang/Object", name := "getClass", desc := "()Ljava/lang/Class;" } : Jvm.MethodName) ({ cls := "java/lang/Object", name := "getClass", desc := "()Ljava/lang/Class;" } : Jvm.MethodName)) ∈ lw_all := lw_g (lw_at lw_m10 210 rfl) rfl
theorem q2485 : (Jvm.Cond.castable "[Ljava/lang/Object;" "java/lang/Object") ∈ lw_tbl := lw_at lw_m10 216 rfl

theorem q2482 : (Jvm.Cond.castable "[Z" "java/lang/Object") ∈ lw_tbl := lw_at lw_m10 213 rfl
set_option maxRecDepth 100000

theorem q2483 : (Jvm.Cond.castable "[[I" "java/lang/Object") ∈ lw_tbl := lw_at lw_m10 214 rfl
set_option maxRecDepth 100000

theorem q136 : (Jvm.Cond.initialized "java/lang/Integer$IntegerCache") ∈ lw_all := lw_g (lw_at lw_m1 27 rfl) rfl
set_option maxRecDepth 100000
theorem q953 : (Jvm.Cond.laysStatic "java/lang/Integer$IntegerCache" "high" "I") ∈ lw_tbl := lw_at lw_m4 124 rfl
theorem q955 : (Jvm.Cond.laysStatic "java/lang/Integer$IntegerCache" "cache" "[Ljava/lang/Integer;") ∈ lw_tbl := lw_at lw_m4 126 rfl

theorem q128 : (Jvm.Cond.initialized "java/lang/System") ∈ lw_all := lw_g (lw_at lw_m1 19 rfl) rfl
set_option maxRecDepth 100000
theorem q876 : (Jvm.Cond.static ({ cls := "java/lang/System", name := "arraycopy", desc := "(Ljava/lang/Object;ILjava/lang/Object;II)V" } : Jvm.MethodName)) ∈ lw_all := lw_g (lw_at lw_m4 47 rfl) rfl
theorem q877 : (Jvm.Cond.native ({ cls := "java/lang/System", name := "arraycopy", desc := "(Ljava/lang/Object;ILjava/lang/Object;II)V" } : Jvm.MethodName)) ∈ lw_all := lw_g (lw_at lw_m4 48 rfl) rfl

theorem q1234 : (Jvm.Cond.interfaceMethod "java/util/Collection" "java/util/Collection" "toArray" "()[Ljava/lang/Object;") ∈ lw_tbl := lw_at lw_m5 165 rfl
set_option maxRecDepth 100000
theorem q1235 : (Jvm.Cond.declares ({ cls := "java/util/Collection", name := "toArray", desc := "()[Ljava/lang/Object;" } : Jvm.MethodName)) ∈ lw_tbl := lw_at lw_m5 166 rfl

theorem q379 : (Jvm.Cond.interfaceMethod "java/util/List" "java/util/List" "size" "()I") ∈ lw_tbl := lw_at lw_m2 30 rfl
set_option maxRecDepth 100000
theorem q380 : (Jvm.Cond.declares ({ cls := "java/util/List", name := "size", desc := "()I" } : Jvm.MethodName)) ∈ lw_tbl := lw_at lw_m2 31 rfl
theorem q401 : (Jvm.Cond.interfaceMethod "java/util/List" "java/util/List" "get" "(I)Ljava/lang/Object;") ∈ lw_tbl := lw_at lw_m2 52 rfl
theorem q402 : (Jvm.Cond.declares ({ cls := "java/util/List", name := "get", desc := "(I)Ljava/lang/Object;" } : Jvm.MethodName)) ∈ lw_tbl := lw_at lw_m2 53 rfl
theorem q810 : (Jvm.Cond.interfaceMethod "java/util/List" "java/util/List" "add" "(Ljava/lang/Object;)Z") ∈ lw_tbl := lw_at lw_m3 221 rfl
theorem q811 : (Jvm.Cond.declares ({ cls := "java/util/List", name := "add", desc := "(Ljava/lang/Object;)Z" } : Jvm.MethodName)) ∈ lw_tbl := lw_at lw_m3 222 rfl
theorem q1044 : (Jvm.Cond.interfaceMethod "java/util/List" "java/util/List" "isEmpty" "()Z") ∈ lw_tbl := lw_at lw_m4 215 rfl
theorem q1045 : (Jvm.Cond.declares ({ cls := "java/util/List", name := "isEmpty", desc := "()Z" } : Jvm.MethodName)) ∈ lw_tbl := lw_at lw_m4 216 rfl
theorem q1225 : (Jvm.Cond.interfaceMethod "java/util/List" "java/util/List" "addAll" "(Ljava/util/Collection;)Z") ∈ lw_tbl := lw_at lw_m5 156 rfl
theorem q1226 : (Jvm.Cond.declares ({ cls := "java/util/List", name := "addAll", desc := "(Ljava/util/Collection;)Z" } : Jvm.MethodName)) ∈ lw_tbl := lw_at lw_m5 157 rfl
theorem q1628 : (Jvm.Cond.interfaceMethod "java/util/List" "java/util/List" "remove" "(I)Ljava/lang/Object;") ∈ lw_tbl := lw_at lw_m7 79 rfl
theorem q1629 : (Jvm.Cond.declares ({ cls := "java/util/List", name := "remove", desc := "(I)Ljava/lang/Object;" } : Jvm.MethodName)) ∈ lw_tbl := lw_at lw_m7 80 rfl

theorem q207 : (Jvm.Cond.arrayClass Jvm.ClassFile.FieldType.int) ∈ lw_all := lw_g (lw_at lw_m1 98 rfl) rfl
set_option maxRecDepth 100000
theorem q208 : (Jvm.Cond.arrayClass Jvm.ClassFile.FieldType.boolean) ∈ lw_all := lw_g (lw_at lw_m1 99 rfl) rfl
theorem q261 : (Jvm.Cond.arrayOver (Jvm.ClassFile.FieldType.array Jvm.ClassFile.FieldType.int)) ∈ lw_tbl := lw_at lw_m1 152 rfl
theorem q263 : (Jvm.Cond.arrayOver (Jvm.ClassFile.FieldType.object "DomainLinks$Shared")) ∈ lw_tbl := lw_at lw_m1 154 rfl
theorem q872 : (Jvm.Cond.arrayOver (Jvm.ClassFile.FieldType.object "java/lang/Object")) ∈ lw_tbl := lw_at lw_m4 43 rfl
theorem q918 : (Jvm.Cond.arrayClass Jvm.ClassFile.FieldType.byte) ∈ lw_all := lw_g (lw_at lw_m4 89 rfl) rfl
theorem q2431 : (Jvm.Cond.arrayClass Jvm.ClassFile.FieldType.long) ∈ lw_all := lw_g (lw_at lw_m10 162 rfl) rfl

