/-! the JDK's bitCount and highestOneBit -/
set_option maxRecDepth 100000
theorem Zushr_nI {a k : Nat} (ha : a < 2 ^ 32) (hk : k < 32) : (((nI a).toUInt32 >>> ((nI k).toUInt32 &&& Int32.toUInt32 31)).toInt32) = nI (a / 2 ^ k) := by
  refine Zt_ext fun i hi => ?_
  have h2 : a / 2 ^ k < 2 ^ 32 := Nat.lt_of_le_of_lt (Nat.div_le_self _ _) ha
  rw [Zt_ushr hk, Zt_nI' ha, Zt_nI' h2, Nat.testBit_div_two_pow, Nat.add_comm]
theorem Zdig {n n' d m : Nat} (hd : d < 16) (hm : m < 16) : (16 * n + d) &&& (16 * n' + m) = 16 * (n &&& n') + (d &&& m) := by
  have hlt : d &&& m < 2 ^ 4 := Nat.and_lt_two_pow _ hm
  apply Nat.eq_of_testBit_eq
  intro j
  rw [Nat.testBit_and, show (16 : Nat) = 2 ^ 4 from rfl, Nat.testBit_two_pow_mul_add _ hd, Nat.testBit_two_pow_mul_add _ hm, Nat.testBit_two_pow_mul_add _ hlt]
  split
  · rw [Nat.testBit_and]
  · rw [Nat.testBit_and]
/-- eight digits -/
def Zd8 (f : Nat → Nat) : Nat := 16 * (16 * (16 * (16 * (16 * (16 * (16 * (16 * 0 + f 7) + f 6) + f 5) + f 4) + f 3) + f 2) + f 1) + f 0
theorem Zd8_and {f g : Nat → Nat} (hf : ∀ i, f i < 16) (hg : ∀ i, g i < 16) : Zd8 f &&& Zd8 g = Zd8 fun i => f i &&& g i := by
  unfold Zd8
  rw [Zdig (hf 0) (hg 0), Zdig (hf 1) (hg 1), Zdig (hf 2) (hg 2), Zdig (hf 3) (hg 3), Zdig (hf 4) (hg 4), Zdig (hf 5) (hg 5), Zdig (hf 6) (hg 6), Zdig (hf 7) (hg 7)]
  rfl
theorem Zd8_lt {f : Nat → Nat} (hf : ∀ i, f i < 16) : Zd8 f < 2 ^ 32 := by
  have h0 := hf 0
  have h1 := hf 1
  have h2 := hf 2
  have h3 := hf 3
  have h4 := hf 4
  have h5 := hf 5
  have h6 := hf 6
  have h7 := hf 7
  unfold Zd8
  omega
theorem Zd8_of {N : Nat} (h : N < 2 ^ 32) : N = Zd8 fun i => N / 16 ^ i % 16 := by
  unfold Zd8
  simp only [Nat.reducePow, Nat.div_one]
  omega
/-- a digit, halved twice, masked -/
def Zg1 (d : Nat) : Nat := (d &&& 5) + ((d / 2) &&& 5)
def Zg2 (d : Nat) : Nat := (Zg1 d &&& 3) + ((Zg1 d / 4) &&& 3)
theorem Zg1_f : ∀ d, d < 16 → ∀ e, e < 2 → ((d / 2 + 8 * e) &&& 5) = ((d / 2) &&& 5) ∧ ((d / 2) &&& 5) ≤ d ∧ d - ((d / 2) &&& 5) = Zg1 d ∧ Zg1 d ≤ 10 := by decide
theorem Zg2_f : ∀ d, d < 16 → ∀ e, e < 4 → ((Zg1 d / 4 + 4 * e) &&& 3) = ((Zg1 d / 4) &&& 3) ∧ Zg2 d ≤ 4 ∧ Zg2 d = d % 2 + d / 2 % 2 + d / 4 % 2 + d / 8 := by decide
theorem Zdg (M : Nat) : M % 2 + M / 2 % 2 + M / 4 % 2 + M / 8 % 2 = Zg2 (M % 16) := by
  rw [(Zg2_f (M % 16) (Nat.mod_lt _ (by omega)) 0 (by omega)).2.2]
  omega
def Zsd (f : Nat → Nat) : Nat → Nat
  | 0 => 0
  | n + 1 => Zsd f n + f n
theorem Zct_dig (N : Nat) : ∀ n, Zct (Nat.testBit N) (4 * n) = Zsd (fun i => Zg2 (N / 16 ^ i % 16)) n := by
  have hb : ∀ k, (if Nat.testBit N k = true then 1 else 0) = N / 2 ^ k % 2 := by
    intro k
    rw [Nat.testBit_eq_decide_div_mod_eq]
    have : N / 2 ^ k % 2 < 2 := Nat.mod_lt _ (by omega)
    by_cases g : N / 2 ^ k % 2 = 1
    · simp [g]
    · simp [g]
      omega
  intro n
  induction n with
  | zero => rfl
  | succ n ih =>
    have e : Zct (Nat.testBit N) (4 * (n + 1)) = Zct (Nat.testBit N) (4 * n) + N / 2 ^ (4 * n) % 2 + N / 2 ^ (4 * n + 1) % 2 + N / 2 ^ (4 * n + 2) % 2 + N / 2 ^ (4 * n + 3) % 2 := by
      rw [show 4 * (n + 1) = 4 * n + 3 + 1 by omega]
      simp only [Zct, hb]
    rw [e, ih]
    have p4 : (2 : Nat) ^ (4 * n) = 16 ^ n := by rw [Nat.pow_mul]
    have q1 : N / 2 ^ (4 * n + 1) = N / 16 ^ n / 2 := by rw [Nat.pow_add, p4, Nat.div_div_eq_div_mul]
    have q2 : N / 2 ^ (4 * n + 2) = N / 16 ^ n / 4 := by rw [Nat.pow_add, p4, Nat.div_div_eq_div_mul]
    have q3 : N / 2 ^ (4 * n + 3) = N / 16 ^ n / 8 := by rw [Nat.pow_add, p4, Nat.div_div_eq_div_mul]
    rw [p4, q1, q2, q3]
    have := Zdg (N / 16 ^ n)
    simp only [Zsd]
    omega
theorem ZbitCount (p : Int32) : fJ18_bitCount p = some (nI (Zct (Zt p) 32)) := by
  obtain ⟨N, hN, rfl⟩ : ∃ N, N < 2 ^ 32 ∧ p = nI N := ⟨p.toBitVec.toNat, p.toBitVec.isLt, ZnI_tn p⟩
  have hct : Zct (Zt (nI N)) 32 = Zsd (fun i => Zg2 (N / 16 ^ i % 16)) 8 := (Zct_congr 32 fun k _ => Zt_nI' hN).trans (Zct_dig N 8)
  rw [hct]
  obtain ⟨d, hd⟩ : ∃ d : Nat → Nat, d = fun i => N / 16 ^ i % 16 := ⟨_, rfl⟩
  have d16 : ∀ i, d i < 16 := fun i => by rw [hd]; exact Nat.mod_lt _ (by omega)
  have hNd : N = Zd8 d := by rw [hd]; exact Zd8_of hN
  rw [show (fun i => Zg2 (N / 16 ^ i % 16)) = fun i => Zg2 (d i) by rw [hd]]
  clear hct hd
  -- the first step
  have hg1 : ∀ i, Zg1 (d i) < 16 := fun i => by have := (Zg1_f (d i) (d16 i) 0 (by omega)).2.2.2; omega
  have hg2 : ∀ i, Zg2 (d i) ≤ 4 := fun i => (Zg2_f (d i) (d16 i) 0 (by omega)).2.1
  have s1 : (N / 2) &&& 1431655765 = Zd8 fun i => (d i / 2) &&& 5 := by
    have e : N / 2 = Zd8 fun i => d i / 2 + 8 * (if i < 7 then d (i + 1) % 2 else 0) := by
      rw [hNd]
      have h0 := d16 0
      have h1 := d16 1
      have h2 := d16 2
      have h3 := d16 3
      have h4 := d16 4
      have h5 := d16 5
      have h6 := d16 6
      have h7 := d16 7
      simp only [Zd8, Nat.reduceLT, if_true, if_false, Nat.reduceAdd, show (0 : Nat) < 7 from by decide]
      omega
    have e2 : (1431655765 : Nat) = Zd8 fun _ => 5 := by decide
    rw [e, e2, Zd8_and (fun i => ?_) (fun _ => by omega)]
    · congr 1
      funext i
      exact (Zg1_f (d i) (d16 i) _ (by split <;> omega)).1
    · have := d16 i
      have : (if i < 7 then d (i + 1) % 2 else 0) < 2 := by split <;> omega
      omega
  have s2 : N - Zd8 (fun i => (d i / 2) &&& 5) = Zd8 fun i => Zg1 (d i) := by
    have k := fun i => Zg1_f (d i) (d16 i) 0 (by omega)
    rw [hNd]
    simp only [Zd8]
    have k0 := k 0
    have k1 := k 1
    have k2 := k 2
    have k3 := k 3
    have k4 := k 4
    have k5 := k 5
    have k6 := k 6
    have k7 := k 7
    omega
  have s2' : Zd8 (fun i => (d i / 2) &&& 5) ≤ N := by
    have k := fun i => (Zg1_f (d i) (d16 i) 0 (by omega)).2.1
    rw [hNd]
    simp only [Zd8]
    have k0 := k 0
    have k1 := k 1
    have k2 := k 2
    have k3 := k 3
    have k4 := k 4
    have k5 := k 5
    have k6 := k 6
    have k7 := k 7
    omega
  have s3 : (Zd8 fun i => Zg1 (d i)) &&& 858993459 = Zd8 fun i => Zg1 (d i) &&& 3 := by
    have e2 : (858993459 : Nat) = Zd8 fun _ => 3 := by decide
    rw [e2, Zd8_and hg1 (fun _ => by omega)]
  have s4 : ((Zd8 fun i => Zg1 (d i)) / 4) &&& 858993459 = Zd8 fun i => (Zg1 (d i) / 4) &&& 3 := by
    have e : (Zd8 fun i => Zg1 (d i)) / 4 = Zd8 fun i => Zg1 (d i) / 4 + 4 * (if i < 7 then Zg1 (d (i + 1)) % 4 else 0) := by
      have h0 := hg1 0
      have h1 := hg1 1
      have h2 := hg1 2
      have h3 := hg1 3
      have h4 := hg1 4
      have h5 := hg1 5
      have h6 := hg1 6
      have h7 := hg1 7
      simp only [Zd8, Nat.reduceLT, if_true, if_false, Nat.reduceAdd, show (0 : Nat) < 7 from by decide]
      omega
    have e2 : (858993459 : Nat) = Zd8 fun _ => 3 := by decide
    rw [e, e2, Zd8_and (fun i => ?_) (fun _ => by omega)]
    · congr 1
      funext i
      exact (Zg2_f (d i) (d16 i) _ (by split <;> omega)).1
    · have := hg1 i
      have : (if i < 7 then Zg1 (d (i + 1)) % 4 else 0) < 4 := by split <;> omega
      omega
  have s5 : (Zd8 fun i => Zg1 (d i) &&& 3) + (Zd8 fun i => (Zg1 (d i) / 4) &&& 3) = Zd8 fun i => Zg2 (d i) := by
    simp only [Zd8, Zg2]
    omega
  have s6 : ((Zd8 fun i => Zg2 (d i)) + (Zd8 fun i => Zg2 (d i)) / 16) &&& 252645135 = Zd8 fun i => if i % 2 = 0 then Zg2 (d i) + Zg2 (d (i + 1)) else 0 := by
    have e : (Zd8 fun i => Zg2 (d i)) + (Zd8 fun i => Zg2 (d i)) / 16 = Zd8 fun i => Zg2 (d i) + (if i < 7 then Zg2 (d (i + 1)) else 0) := by
      have h0 := hg2 0
      have h1 := hg2 1
      have h2 := hg2 2
      have h3 := hg2 3
      have h4 := hg2 4
      have h5 := hg2 5
      have h6 := hg2 6
      have h7 := hg2 7
      simp only [Zd8, Nat.reduceLT, if_true, if_false, Nat.reduceAdd, show (0 : Nat) < 7 from by decide]
      omega
    have e2 : (252645135 : Nat) = Zd8 fun i => if i % 2 = 0 then 15 else 0 := by decide
    have bd : ∀ i, Zg2 (d i) + (if i < 7 then Zg2 (d (i + 1)) else 0) < 16 := fun i => by
      have h := hg2 i
      have h' := hg2 (i + 1)
      split <;> omega
    rw [e, e2, Zd8_and bd (fun i => by split <;> omega)]
    have m15 : ∀ x, x < 16 → (x &&& 15) = x := by decide
    simp only [Zd8, Nat.reduceLT, if_true, if_false, Nat.reduceAdd, Nat.reduceMod, show (0 : Nat) < 7 from by decide, Nat.and_zero, Nat.zero_mod, show ¬ (1 : Nat) = 0 from by decide]
    have b0 := bd 0
    have b2 := bd 2
    have b4 := bd 4
    have b6 := bd 6
    simp only [Nat.reduceLT, if_true, Nat.reduceAdd, show (0 : Nat) < 7 from by decide] at b0 b2 b4 b6
    rw [m15 _ b0, m15 _ b2, m15 _ b4, m15 _ b6]
  have s7 : ∀ x, x = (Zd8 fun i => if i % 2 = 0 then Zg2 (d i) + Zg2 (d (i + 1)) else 0) → x < 2 ^ 28 ∧ (x + x / 256 + (x + x / 256) / 65536) < 2 ^ 29 ∧ (x + x / 256 + (x + x / 256) / 65536) &&& 63 = Zsd (fun i => Zg2 (d i)) 8 := by
    intro x hx
    have h0 := hg2 0
    have h1 := hg2 1
    have h2 := hg2 2
    have h3 := hg2 3
    have h4 := hg2 4
    have h5 := hg2 5
    have h6 := hg2 6
    have h7 := hg2 7
    simp only [Zd8, Nat.reduceMod, Nat.zero_mod, if_true, if_false, Nat.reduceAdd, show ¬ (1 : Nat) = 0 from by decide] at hx
    obtain ⟨a0, e0⟩ : ∃ a, a = Zg2 (d 0) + Zg2 (d 1) := ⟨_, rfl⟩
    obtain ⟨a1, e1⟩ : ∃ a, a = Zg2 (d 2) + Zg2 (d 3) := ⟨_, rfl⟩
    obtain ⟨a2, e2⟩ : ∃ a, a = Zg2 (d 4) + Zg2 (d 5) := ⟨_, rfl⟩
    obtain ⟨a3, e3⟩ : ∃ a, a = Zg2 (d 6) + Zg2 (d 7) := ⟨_, rfl⟩
    have u0 : x = a0 + 256 * a1 + 65536 * a2 + 16777216 * a3 := by omega
    have u1 : x / 256 = a1 + 256 * a2 + 65536 * a3 := by omega
    have u2 : (x + x / 256) / 65536 = (a2 + a3) + 256 * a3 := by omega
    have u3 : x + x / 256 + (x + x / 256) / 65536 = (a0 + a1 + a2 + a3) + 64 * (4 * a1 + 4 * a2 + 4 * a3 + 1024 * (a2 + a3) + 262144 * a3) := by omega
    have u4 : Zsd (fun i => Zg2 (d i)) 8 = a0 + a1 + a2 + a3 := by
      simp only [Zsd]
      omega
    rw [u3, u4, show (63 : Nat) = 2 ^ 6 - 1 from rfl, Nat.and_two_pow_sub_one_eq_mod, show 2 ^ 6 = 64 from rfl, Nat.add_mul_mod_self_left]
    exact ⟨by omega, by omega, Nat.mod_eq_of_lt (by omega)⟩
  obtain ⟨x3, hx3⟩ : ∃ x, x = (Zd8 fun i => if i % 2 = 0 then Zg2 (d i) + Zg2 (d (i + 1)) else 0) := ⟨_, rfl⟩
  obtain ⟨t1, t2, t3⟩ := s7 x3 hx3
  have b1 : Zd8 (fun i => Zg1 (d i)) < 2 ^ 32 := Zd8_lt hg1
  have b2 : Zd8 (fun i => Zg2 (d i)) < 2 ^ 32 := Zd8_lt fun i => by have := hg2 i; omega
  have b3 : Zd8 (fun i => Zg2 (d i)) + Zd8 (fun i => Zg2 (d i)) / 16 < 2 ^ 32 := by
    have h7 := hg2 7
    have h6 := hg2 6
    have h5 := hg2 5
    have h4 := hg2 4
    have h3 := hg2 3
    have h2 := hg2 2
    have h1 := hg2 1
    have h0 := hg2 0
    simp only [Zd8]
    omega
  have z1 := Zushr_nI (a := N) (k := 1) hN (by omega)
  have z2 := Zushr_nI (a := Zd8 fun i => Zg1 (d i)) (k := 2) b1 (by omega)
  have z3 := Zushr_nI (a := Zd8 fun i => Zg2 (d i)) (k := 4) b2 (by omega)
  have z4 := Zushr_nI (a := x3) (k := 8) (by omega) (by omega)
  have z5 := Zushr_nI (a := x3 + x3 / 256) (k := 16) (by omega) (by omega)
  simp only [Nat.reducePow] at z1 z2 z3 z4 z5
  have f1 : nI N - nI (Zd8 fun i => (d i / 2) &&& 5) = nI (Zd8 fun i => Zg1 (d i)) := by rw [← s2]; exact pk_sub s2'
  unfold fJ18_bitCount
  simp only [Option.bind_some]
  rw [show ((1 : Int32).toUInt32 &&& Int32.toUInt32 31) = ((nI 1).toUInt32 &&& Int32.toUInt32 31) from rfl, z1, show (1431655765 : Int32) = nI 1431655765 from rfl, ZnI_and (by omega), s1, f1]
  rw [show ((2 : Int32).toUInt32 &&& Int32.toUInt32 31) = ((nI 2).toUInt32 &&& Int32.toUInt32 31) from rfl, z2, show (858993459 : Int32) = nI 858993459 from rfl, ZnI_and b1, ZnI_and (by omega), s3, s4, nI_add, s5]
  rw [show ((4 : Int32).toUInt32 &&& Int32.toUInt32 31) = ((nI 4).toUInt32 &&& Int32.toUInt32 31) from rfl, z3, nI_add, show (252645135 : Int32) = nI 252645135 from rfl, ZnI_and b3, s6, ← hx3]
  rw [show ((8 : Int32).toUInt32 &&& Int32.toUInt32 31) = ((nI 8).toUInt32 &&& Int32.toUInt32 31) from rfl, z4, nI_add]
  rw [show ((16 : Int32).toUInt32 &&& Int32.toUInt32 31) = ((nI 16).toUInt32 &&& Int32.toUInt32 31) from rfl, z5, nI_add, show (63 : Int32) = nI 63 from rfl, ZnI_and (by omega), t3]
