/-! M's WORLD: DomainLinksModel is one object with arrays of its own; st = (scalars by field number, arrays by field number) (printed by gen/mworld.py) -/
set_option maxRecDepth 100000
theorem zTX5 (f : Nat) : (TX5 f).1 = RX5 := by unfold TX5; split <;> rfl
section ZM
variable {K : zC} {cc : ByteArray} {ret : Option FieldType} {nL fr lo mc ms : Nat} {sz k n pc index am : Nat} {lv : List (Nat × Value)} {stk : List Value} {st : zMS} {b : zH}
theorem zr_mget (hX : zOk K RX5 cc ret nL fr lo mc ms) (f : Nat) (hf : Nat.blt f 72 = true) (ho : zMo f = 0) (hlink : Cond.fieldLink RX5 index RX5 (TX5 f).2.1 (TX5 f).2.2.1 ∈ lw_all) (hd : decode cc pc = .ok (.getfield index, 3)) (kk : VW K (zMw am st b) sz k n (pc + 3) lv (.int (st.1 f) :: stk)) : VW K (zMw am st b) sz k n pc lv (.ref am :: stk) := by
  have hf : f < 72 := Nat.le_of_ble_eq_true hf
  exact zr_get hX (zMw_obj am st b) (ci := 4) rfl in_X5 f hf hlink (Or.inl (zTX5 f).symm) (by rw [zMF_at am st hf]; simp [zMv, ho]) hd kk
theorem zr_mgetA (hX : zOk K RX5 cc ret nL fr lo mc ms) (f : Nat) (hf : Nat.blt f 72 = true) (ho : Nat.blt 0 (zMo f) = true) (hlink : Cond.fieldLink RX5 index RX5 (TX5 f).2.1 (TX5 f).2.2.1 ∈ lw_all) (hd : decode cc pc = .ok (.getfield index, 3)) (kk : VW K (zMw am st b) sz k n (pc + 3) lv (.ref (am + zMo f) :: stk)) : VW K (zMw am st b) sz k n pc lv (.ref am :: stk) := by
  have hf : f < 72 := Nat.le_of_ble_eq_true hf
  have ho : ¬ zMo f = 0 := fun q => by rw [q] at ho; cases ho
  exact zr_get hX (zMw_obj am st b) (ci := 4) rfl in_X5 f hf hlink (Or.inl (zTX5 f).symm) (by rw [zMF_at am st hf]; simp [zMv, ho]) hd kk
theorem zr_mput (hX : zOk K RX5 cc ret nL fr lo mc ms) (f : Nat) {v : Int32} {st' : zMS} (hst : zps st f v = st') (hf : Nat.blt f 72 = true) (ho : zMo f = 0) (hty : (TX5 f).2.2.1 = "I") (hfin : (TX5 f).2.2.2 = false) (hlink : Cond.fieldLink RX5 index RX5 (TX5 f).2.1 (TX5 f).2.2.1 ∈ lw_all) (hd : decode cc pc = .ok (.putfield index, 3)) (kk : VW K (zMw am st' b) sz k n (pc + 3) lv stk) : VW K (zMw am st b) sz k n pc lv (.int v :: .ref am :: stk) := by
  have hf : f < 72 := Nat.le_of_ble_eq_true hf
  subst hst
  refine zr_put hX (zMw_obj am st b) (ci := 4) (ty := .int) rfl (by decide) ⟨in_X5, ⟨tyX5, tyX5_ok⟩, nmX5⟩ f hf (by rw [zMF_len]; exact hf) hlink (Or.inl (zTX5 f).symm) hfin (by rw [hty]; decide) rfl rfl hd ?_
  rw [zMw_put am st b hf ho v]
  exact kk
theorem zr_mputZ (hX : zOk K RX5 cc ret nL fr lo mc ms) (f : Nat) {v : Int32} {st' : zMS} (hst : zpsZ st f v = some st') (hf : Nat.blt f 72 = true) (ho : zMo f = 0) (hty : (TX5 f).2.2.1 = "Z") (hfin : (TX5 f).2.2.2 = false) (hlink : Cond.fieldLink RX5 index RX5 (TX5 f).2.1 (TX5 f).2.2.1 ∈ lw_all) (hd : decode cc pc = .ok (.putfield index, 3)) (kk : VW K (zMw am st' b) sz k n (pc + 3) lv stk) : VW K (zMw am st b) sz k n pc lv (.int v :: .ref am :: stk) := by
  have hf : f < 72 := Nat.le_of_ble_eq_true hf
  obtain ⟨hv, rfl⟩ := zpsZ_spec hst
  refine zr_put hX (zMw_obj am st b) (ci := 4) (ty := .boolean) rfl (by decide) ⟨in_X5, ⟨tyX5, tyX5_ok⟩, nmX5⟩ f hf (by rw [zMF_len]; exact hf) hlink (Or.inl (zTX5 f).symm) hfin (by rw [hty]; decide) (by rcases hv with rfl | rfl <;> rfl) (by rcases hv with rfl | rfl <;> rfl) hd ?_
  rw [zMw_put am st b hf ho v]
  exact kk
theorem zr_mald (hX : zOk K RX5 cc ret nL fr lo mc ms) (f : Nat) {i x : Int32} (hf : Nat.blt f 72 = true) (ho : Nat.blt 0 (zMo f) = true) (hty : zMt f = 0) (h : zal st f i = some x) (hd : decode cc pc = .ok (.iaload, 1)) (kk : VW K (zMw am st b) sz k n (pc + 1) lv (.int x :: stk)) : VW K (zMw am st b) sz k n pc lv (.int i :: .ref (am + zMo f) :: stk) := by
  have hf : f < 72 := Nat.le_of_ble_eq_true hf
  have ho : ¬ zMo f = 0 := fun q => by rw [q] at ho; cases ho
  obtain ⟨h1, rfl⟩ := zal_spec h
  exact zr_iald hX (zMw_arr am st b hf ho) (by rw [hty]; rfl) h1 hd kk
theorem zr_mast (hX : zOk K RX5 cc ret nL fr lo mc ms) (f : Nat) {i v : Int32} {st' : zMS} (hf : Nat.blt f 72 = true) (ho : Nat.blt 0 (zMo f) = true) (hty : zMt f = 0) (h : zas st f i v = some st') (hd : decode cc pc = .ok (.iastore, 1)) (kk : VW K (zMw am st' b) sz k n (pc + 1) lv stk) : VW K (zMw am st b) sz k n pc lv (.int v :: .int i :: .ref (am + zMo f) :: stk) := by
  have hf : f < 72 := Nat.le_of_ble_eq_true hf
  have ho : ¬ zMo f = 0 := fun q => by rw [q] at ho; cases ho
  obtain ⟨h1, rfl⟩ := zas_spec h
  refine zr_iast hX (zMw_arr am st b hf ho) (by rw [hty]; rfl) (by rw [hty]; decide) h1 hd ?_
  rw [zMw_ast am st b hf ho]
  exact kk
theorem zr_maldZ (hX : zOk K RX5 cc ret nL fr lo mc ms) (f : Nat) {i x : Int32} (hf : Nat.blt f 72 = true) (ho : Nat.blt 0 (zMo f) = true) (hty : zMt f = 1) (h : zal st f i = some x) (hd : decode cc pc = .ok (.baload, 1)) (kk : VW K (zMw am st b) sz k n (pc + 1) lv (.int x :: stk)) : VW K (zMw am st b) sz k n pc lv (.int i :: .ref (am + zMo f) :: stk) := by
  have hf : f < 72 := Nat.le_of_ble_eq_true hf
  have ho : ¬ zMo f = 0 := fun q => by rw [q] at ho; cases ho
  obtain ⟨h1, rfl⟩ := zal_spec h
  exact zr_zald hX (zMw_arr am st b hf ho) (by rw [hty]; rfl) h1 hd kk
theorem zr_mastZ (hX : zOk K RX5 cc ret nL fr lo mc ms) (f : Nat) {i v : Int32} {st' : zMS} (hf : Nat.blt f 72 = true) (ho : Nat.blt 0 (zMo f) = true) (hty : zMt f = 1) (h : zas st f i (zb v) = some st') (hd : decode cc pc = .ok (.bastore, 1)) (kk : VW K (zMw am st' b) sz k n (pc + 1) lv stk) : VW K (zMw am st b) sz k n pc lv (.int v :: .int i :: .ref (am + zMo f) :: stk) := by
  have hf : f < 72 := Nat.le_of_ble_eq_true hf
  have ho : ¬ zMo f = 0 := fun q => by rw [q] at ho; cases ho
  obtain ⟨h1, rfl⟩ := zas_spec h
  refine zr_zast hX (zMw_arr am st b hf ho) (by rw [hty]; rfl) (by rw [hty]; decide) h1 hd ?_
  rw [zMw_ast am st b hf ho]
  exact kk
end ZM
