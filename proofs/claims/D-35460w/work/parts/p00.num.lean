/-! NUMBERS: bits of an Int32, loops (no machine) -/
set_option maxRecDepth 100000
theorem Zlit (k : Nat) : (OfNat.ofNat k : Int32) = nI k := rfl
theorem Zsl : ∀ k, k < 32 → ((nI k &&& 31).toBitVec.smod 32).toNat = k := by decide +kernel
theorem Zsu : ∀ k, k < 32 → (((nI k).toUInt32 &&& Int32.toUInt32 31).toBitVec % 32).toNat = k := by decide +kernel
/-- the bit k of a set -/
def Zt (x : Int32) (k : Nat) : Bool := x.toBitVec.getLsbD k
theorem Zt_ge {x : Int32} {k : Nat} (h : 32 ≤ k) : Zt x k = false := BitVec.getLsbD_of_ge _ _ h
theorem Zt_lt {x : Int32} {k : Nat} (h : Zt x k = true) : k < 32 := by
  rcases Nat.lt_or_ge k 32 with g | g
  · exact g
  · rw [Zt_ge g] at h
    cases h
theorem Zt_ext {x y : Int32} (h : ∀ k, k < 32 → Zt x k = Zt y k) : x = y := Int32.toBitVec_inj.1 (BitVec.eq_of_getLsbD_eq h)
theorem Zt_and (x y : Int32) (k : Nat) : Zt (x &&& y) k = (Zt x k && Zt y k) := by
  unfold Zt
  rw [Int32.toBitVec_and, BitVec.getLsbD_and]
theorem Zt_or (x y : Int32) (k : Nat) : Zt (x ||| y) k = (Zt x k || Zt y k) := by
  unfold Zt
  rw [Int32.toBitVec_or, BitVec.getLsbD_or]
theorem Zt_m1 (k : Nat) : Zt (-1) k = decide (k < 32) := by
  unfold Zt
  rw [show (-1 : Int32).toBitVec = BitVec.allOnes 32 from by decide, BitVec.getLsbD_allOnes]
theorem Zt_not (x : Int32) (k : Nat) : Zt (x ^^^ (-1)) k = (decide (k < 32) && !Zt x k) := by
  have h : Zt (x ^^^ (-1)) k = (Zt x k ^^ Zt (-1) k) := by
    unfold Zt
    rw [Int32.toBitVec_xor, BitVec.getLsbD_xor]
  rw [h, Zt_m1]
  rcases Nat.lt_or_ge k 32 with g | g
  · simp [g]
  · rw [Zt_ge g]
    simp [Nat.not_lt.mpr g]
theorem Zt_0 (k : Nat) : Zt 0 k = false := by
  unfold Zt
  rw [Int32.toBitVec_zero, BitVec.getLsbD_zero]
theorem Zt_1 (k : Nat) : Zt 1 k = decide (k = 0) := by
  unfold Zt
  rw [Int32.toBitVec_one, BitVec.getLsbD_one]
  simp
theorem Zt_nI (m k : Nat) : Zt (nI m) k = (decide (k < 32) && m.testBit k) := by
  unfold Zt
  rw [show (nI m).toBitVec = BitVec.ofNat 32 m from rfl, BitVec.getLsbD_ofNat]
theorem Zt_nI' {m k : Nat} (h : m < 2 ^ 32) : Zt (nI m) k = m.testBit k := by
  rw [Zt_nI]
  rcases Nat.lt_or_ge k 32 with g | g
  · simp [g]
  · rw [Nat.testBit_lt_two_pow (Nat.lt_of_lt_of_le h (Nat.pow_le_pow_right (by omega) g))]
    simp
theorem Zt_shl {x : Int32} {k : Nat} (hk : k < 32) (i : Nat) : Zt (x <<< (nI k &&& 31)) i = (decide (i < 32) && !decide (i < k) && Zt x (i - k)) := by
  unfold Zt
  rw [Int32.toBitVec_shiftLeft, BitVec.shiftLeft_eq', Zsl k hk, BitVec.getLsbD_shiftLeft]
theorem Zt_one {k : Nat} (hk : k < 32) (i : Nat) : Zt (1 <<< (nI k &&& 31)) i = decide (i = k) := by
  rw [Zt_shl hk, Zt_1]
  rcases Nat.lt_trichotomy i k with g | g | g
  · simp [g, Nat.ne_of_lt g]
  · subst g
    simp [hk]
  · have h1 : ¬ i < k := by omega
    have h2 : ¬ i - k = 0 := by omega
    have h3 : ¬ i = k := by omega
    simp [h1, h2, h3]
theorem Zt_shr {x : Int32} {k : Nat} (hk : k < 32) (i : Nat) : Zt (x >>> (nI k &&& 31)) i = (!decide (32 ≤ i) && if k + i < 32 then Zt x (k + i) else x.toBitVec.msb) := by
  unfold Zt
  rw [Int32.toBitVec_shiftRight, BitVec.getLsbD_sshiftRight', Zsl k hk]
theorem Zt_ushr {x : Int32} {k : Nat} (hk : k < 32) (i : Nat) : Zt ((x.toUInt32 >>> ((nI k).toUInt32 &&& Int32.toUInt32 31)).toInt32) i = Zt x (k + i) := by
  have h : ((x.toUInt32 >>> ((nI k).toUInt32 &&& Int32.toUInt32 31)).toInt32).toBitVec = x.toBitVec >>> (((nI k).toUInt32 &&& Int32.toUInt32 31).toBitVec % 32) := rfl
  unfold Zt
  rw [h, BitVec.ushiftRight_eq', Zsu k hk, BitVec.getLsbD_ushiftRight]
theorem Zt_and1 (x : Int32) : x &&& 1 = 1 ↔ Zt x 0 = true := by
  constructor
  · intro h
    have := congrArg (fun y => Zt y 0) h
    simpa [Zt_and, Zt_1] using this
  · intro h
    refine Zt_ext fun k hk => ?_
    rw [Zt_and, Zt_1]
    by_cases g : k = 0
    · subst g
      simp [h]
    · simp [g]
theorem Zt_and0 (x : Int32) : x &&& 1 = 0 ↔ Zt x 0 = false := by
  constructor
  · intro h
    have := congrArg (fun y => Zt y 0) h
    simpa [Zt_and, Zt_1, Zt_0] using this
  · intro h
    refine Zt_ext fun k hk => ?_
    rw [Zt_and, Zt_1, Zt_0]
    by_cases g : k = 0
    · subst g
      simp [h]
    · simp [g]
theorem Zt_has {x : Int32} {k : Nat} (hk : k < 32) : (x >>> (nI k &&& 31)) &&& 1 = 1 ↔ Zt x k = true := by
  rw [Zt_and1, Zt_shr hk]
  simp [hk]
theorem Zt_has0 {x : Int32} {k : Nat} (hk : k < 32) : (x >>> (nI k &&& 31)) &&& 1 = 0 ↔ Zt x k = false := by
  rw [Zt_and0, Zt_shr hk]
  simp [hk]
theorem Zt_uhas {x : Int32} {k : Nat} (hk : k < 32) : ((x.toUInt32 >>> ((nI k).toUInt32 &&& Int32.toUInt32 31)).toInt32) &&& 1 = 1 ↔ Zt x k = true := by
  rw [Zt_and1, Zt_ushr hk]
  rfl
theorem Zt_uhas0 {x : Int32} {k : Nat} (hk : k < 32) : ((x.toUInt32 >>> ((nI k).toUInt32 &&& Int32.toUInt32 31)).toInt32) &&& 1 = 0 ↔ Zt x k = false := by
  rw [Zt_and0, Zt_ushr hk]
  rfl
theorem Zt_eq0 {x : Int32} : x = 0 ↔ ∀ k, k < 32 → Zt x k = false := by
  constructor
  · intro h k _
    rw [h, Zt_0]
  · intro h
    exact Zt_ext fun k hk => by rw [h k hk, Zt_0]
theorem Zt_ne0 {x : Int32} : ¬ x = 0 ↔ ∃ k, k < 32 ∧ Zt x k = true := by
  rw [Zt_eq0]
  constructor
  · intro h
    refine Classical.byContradiction fun q => h fun k hk => ?_
    cases e : Zt x k with
    | false => rfl
    | true => exact absurd ⟨k, hk, e⟩ q
  · intro ⟨k, hk, e⟩ h
    rw [h k hk] at e
    cases e
/-- a set by its bits -/
def Zmk (b : Nat → Bool) : Nat → Int32
  | 0 => 0
  | n + 1 => Zmk b n ||| (if b n then 1 <<< (nI n &&& 31) else 0)
theorem Zt_mk (b : Nat → Bool) : ∀ n, n ≤ 32 → ∀ k, Zt (Zmk b n) k = (decide (k < n) && b k) := by
  intro n
  induction n with
  | zero => intro _ k; simp [Zmk, Zt_0]
  | succ n ih =>
    intro hn k
    rw [Zmk, Zt_or, ih (by omega)]
    by_cases hb : b n = true
    · rw [if_pos hb, Zt_one (by omega)]
      rcases Nat.lt_trichotomy k n with g | g | g
      · simp [g, Nat.ne_of_lt g, Nat.lt_succ_of_lt g]
      · subst g
        simp [hb]
      · have h1 : ¬ k < n := by omega
        have h2 : ¬ k = n := by omega
        have h3 : ¬ k < n + 1 := by omega
        simp [h1, h2, h3]
    · have hb : b n = false := by simpa using hb
      rw [if_neg (by simp [hb]), Zt_0]
      rcases Nat.lt_trichotomy k n with g | g | g
      · simp [g, Nat.lt_succ_of_lt g]
      · subst g
        simp [hb]
      · have h1 : ¬ k < n := by omega
        have h3 : ¬ k < n + 1 := by omega
        simp [h1, h3]
/-- how many bits below n -/
def Zct (b : Nat → Bool) : Nat → Nat
  | 0 => 0
  | n + 1 => Zct b n + (if b n then 1 else 0)
/-- the first bit from k on, of m; k + m if none -/
def Zfs (b : Nat → Bool) : Nat → Nat → Nat
  | 0, k => k
  | m + 1, k => if b k then k else Zfs b m (k + 1)
/-- the last bit below n, and 1; 0 if none -/
def Zla (b : Nat → Bool) : Nat → Nat
  | 0 => 0
  | n + 1 => if b n then n + 1 else Zla b n
theorem Zct_le (b : Nat → Bool) (n : Nat) : Zct b n ≤ n := by
  induction n with
  | zero => exact Nat.le_refl _
  | succ n ih => simp only [Zct]; split <;> omega
theorem Zct_congr {b c : Nat → Bool} : ∀ n, (∀ k, k < n → b k = c k) → Zct b n = Zct c n := by
  intro n
  induction n with
  | zero => intro _; rfl
  | succ n ih => intro h; rw [Zct, Zct, ih fun k hk => h k (by omega), h n (by omega)]
theorem Zct_mono {b c : Nat → Bool} : ∀ n, (∀ k, k < n → b k = true → c k = true) → Zct b n ≤ Zct c n := by
  intro n
  induction n with
  | zero => intro _; exact Nat.le_refl _
  | succ n ih =>
    intro h
    have h1 := ih fun k hk => h k (by omega)
    have h2 := h n (by omega)
    simp only [Zct]
    by_cases hb : b n = true
    · rw [if_pos hb, if_pos (h2 hb)]
      omega
    · rw [if_neg hb]
      omega
theorem Zct_zero {b : Nat → Bool} {n : Nat} : Zct b n = 0 ↔ ∀ k, k < n → b k = false := by
  induction n with
  | zero => exact ⟨fun _ k hk => absurd hk (by omega), fun _ => rfl⟩
  | succ n ih =>
    rw [Zct]
    constructor
    · intro h k hk
      rcases Nat.lt_or_ge k n with g | g
      · exact ih.mp (by omega) k g
      · have : k = n := by omega
        subst this
        cases e : b k with
        | false => rfl
        | true => rw [e] at h; simp at h
    · intro h
      rw [ih.mpr fun k hk => h k (by omega), h n (by omega)]
      rfl
theorem Zfs_spec (b : Nat → Bool) : ∀ m k, k ≤ Zfs b m k ∧ Zfs b m k ≤ k + m ∧ (∀ j, k ≤ j → j < Zfs b m k → b j = false) ∧ (Zfs b m k < k + m → b (Zfs b m k) = true) := by
  intro m
  induction m with
  | zero => intro k; exact ⟨Nat.le_refl _, Nat.le_refl _, fun j h1 h2 => absurd h2 (by simp only [Zfs]; omega), fun h => absurd h (by simp only [Zfs]; omega)⟩
  | succ m ih =>
    intro k
    simp only [Zfs]
    by_cases hb : b k = true
    · rw [if_pos hb]
      exact ⟨Nat.le_refl _, by omega, fun j h1 h2 => absurd h2 (by omega), fun _ => hb⟩
    · rw [if_neg hb]
      obtain ⟨h1, h2, h3, h4⟩ := ih (k + 1)
      refine ⟨by omega, by omega, fun j g1 g2 => ?_, fun g => h4 (by omega)⟩
      rcases Nat.lt_or_ge k j with q | q
      · exact h3 j (by omega) g2
      · have : j = k := by omega
        subst this
        simpa using hb
theorem Zla_spec (b : Nat → Bool) : ∀ n, Zla b n ≤ n ∧ (∀ j, Zla b n ≤ j → j < n → b j = false) ∧ (0 < Zla b n → b (Zla b n - 1) = true) := by
  intro n
  induction n with
  | zero => exact ⟨Nat.le_refl _, fun j _ h => absurd h (by omega), fun h => absurd h (by simp only [Zla]; omega)⟩
  | succ n ih =>
    simp only [Zla]
    by_cases hb : b n = true
    · rw [if_pos hb]
      exact ⟨Nat.le_refl _, fun j h1 h2 => absurd h2 (by omega), fun _ => hb⟩
    · rw [if_neg hb]
      obtain ⟨h1, h2, h3⟩ := ih
      refine ⟨by omega, fun j g1 g2 => ?_, h3⟩
      rcases Nat.lt_or_ge j n with q | q
      · exact h2 j g1 q
      · have : j = n := by omega
        subst this
        simpa using hb
/-- a loop whose states are known -/
theorem Zl_exact {α β : Type} {body : α → Option (α ⊕ β)} (S : Nat → α) (N : Nat) (r : β) (hs : ∀ k, k < N → body (S k) = some (.inl (S (k + 1)))) (hr : body (S N) = some (.inr r)) : ∀ n, N < n → zloop body n (S 0) = some r := by
  have key : ∀ m k, k + m = N → ∀ n, m < n → zloop body n (S k) = some r := by
    intro m
    induction m with
    | zero =>
      intro k hk n hn
      obtain ⟨n, rfl⟩ : ∃ q, n = q + 1 := ⟨n - 1, by omega⟩
      have : k = N := by omega
      subst this
      simp only [zloop, hr, Option.bind_some]
    | succ m ih =>
      intro k hk n hn
      obtain ⟨n, rfl⟩ : ∃ q, n = q + 1 := ⟨n - 1, by omega⟩
      simp only [zloop, hs k (by omega), Option.bind_some]
      exact ih (k + 1) (by omega) n (by omega)
  exact fun n hn => key N 0 (by omega) n hn
/-- a loop by a measure -/
theorem Zl_meas {α β : Type} {body : α → Option (α ⊕ β)} (I : α → Prop) (μ : α → Nat) (E : β → Prop) (hs : ∀ a, I a → (∃ a', body a = some (.inl a') ∧ I a' ∧ μ a' < μ a) ∨ (∃ r, body a = some (.inr r) ∧ E r)) : ∀ n a, I a → μ a < n → ∃ r, zloop body n a = some r ∧ E r := by
  intro n
  induction n with
  | zero => intro a _ h; omega
  | succ n ih =>
    intro a ha hm
    rcases hs a ha with ⟨a', h1, h2, h3⟩ | ⟨r, h1, h2⟩
    · obtain ⟨r, h4, h5⟩ := ih a' h2 (by omega)
      exact ⟨r, by simp only [zloop, h1, Option.bind_some]; exact h4, h5⟩
    · exact ⟨r, by simp only [zloop, h1, Option.bind_some], h2⟩
/-- a counting loop by an invariant; it may end early -/
theorem Zl_ex {α β : Type} {body : α → Option (α ⊕ β)} (I : Nat → α → Prop) (N : Nat) (E : β → Prop) (hs : ∀ k a, k < N → I k a → (∃ a', body a = some (.inl a') ∧ I (k + 1) a') ∨ (∃ r, body a = some (.inr r) ∧ E r)) (hr : ∀ a, I N a → ∃ r, body a = some (.inr r) ∧ E r) : ∀ n a, N < n → I 0 a → ∃ r, zloop body n a = some r ∧ E r := by
  have key : ∀ m k, k + m = N → ∀ n a, m < n → I k a → ∃ r, zloop body n a = some r ∧ E r := by
    intro m
    induction m with
    | zero =>
      intro k hk n a hn ha
      obtain ⟨n, rfl⟩ : ∃ q, n = q + 1 := ⟨n - 1, by omega⟩
      have : k = N := by omega
      subst this
      obtain ⟨r, h1, h2⟩ := hr a ha
      exact ⟨r, by simp only [zloop, h1, Option.bind_some], h2⟩
    | succ m ih =>
      intro k hk n a hn ha
      obtain ⟨n, rfl⟩ : ∃ q, n = q + 1 := ⟨n - 1, by omega⟩
      rcases hs k a (by omega) ha with ⟨a', h1, h2⟩ | ⟨r, h1, h2⟩
      · obtain ⟨r, h3, h4⟩ := ih (k + 1) (by omega) n a' (by omega) h2
        exact ⟨r, by simp only [zloop, h1, Option.bind_some]; exact h3, h4⟩
      · exact ⟨r, by simp only [zloop, h1, Option.bind_some], h2⟩
  exact fun n a hn ha => key N 0 (by omega) n a hn ha
theorem Zl_inv {α β : Type} {body : α → Option (α ⊕ β)} (I : Nat → α → Prop) (N : Nat) (E : β → Prop) (hs : ∀ k a, k < N → I k a → ∃ a', body a = some (.inl a') ∧ I (k + 1) a') (hr : ∀ a, I N a → ∃ r, body a = some (.inr r) ∧ E r) : ∀ n a, N < n → I 0 a → ∃ r, zloop body n a = some r ∧ E r := Zl_ex I N E (fun k a hk ha => Or.inl (hs k a hk ha)) hr
theorem Zin_nI {k n : Nat} (h : k < n) (hn : n ≤ 2147483648) : zin (nI k) n = true := by
  unfold zin
  rw [nI_clamp (by omega)]
  simp [nI_pos (show k < 2 ^ 31 by omega), Nat.not_le.mpr h]
theorem Zcl {k : Nat} (h : k < 2147483648) : (nI k).toNatClampNeg = k := nI_clamp (by omega)
/-! the JDK's methods of numbers -/
theorem Zhas {x : Int32} {k : Nat} (hk : k < 32) : fX1_has x (nI k) = some (if Zt x k = true then 1 else 0) := by
  unfold fX1_has
  by_cases h : Zt x k = true
  · rw [if_pos ((Zt_has hk).mpr h), if_pos h]
  · rw [if_neg (fun q => h ((Zt_has hk).mp q)), if_neg h]
theorem ZhasBit {x : Int32} {k : Nat} (hk : k < 32) : fX5_hasBit x (nI k) = some (if Zt x k = true then 1 else 0) := by
  unfold fX5_hasBit
  rw [if_neg (nI_pos (show k < 2 ^ 31 by omega)), if_neg (show ¬ (32 : Int32) ≤ nI k from nI_ge (b := 32) hk (by decide))]
  by_cases h : Zt x k = true
  · rw [if_pos ((Zt_uhas hk).mpr h), if_pos h]
  · rw [if_neg (fun q => h ((Zt_uhas hk).mp q)), if_neg h]
theorem Zodd1 {q : Nat} (h : q % 2 = 1) : 1 ≤ q := by omega
theorem Zodd2 {q : Nat} (h : q % 2 = 1) : (q - 1) / 2 = q / 2 := by omega
/-- what the trailing zeros' method does with the mask below the lowest bit -/
theorem Zntz_x {p : Int32} {k : Nat} (hk : k < 32) (h0 : ∀ j, j < k → Zt p j = false) (h1 : Zt p k = true) : (p ^^^ (-1)) &&& (p - 1) = nI (2 ^ k - 1) := by
  have hp : 2 ^ k ≤ p.toBitVec.toNat := Nat.ge_two_pow_of_testBit h1
  have hlt := p.toBitVec.isLt
  have hdiv : p.toBitVec.toNat = 2 ^ k * (p.toBitVec.toNat / 2 ^ k) := by
    have hm : p.toBitVec.toNat % 2 ^ k = 0 := by
      refine Nat.eq_of_testBit_eq fun j => ?_
      rw [Nat.testBit_mod_two_pow, Nat.zero_testBit]
      rcases Nat.lt_or_ge j k with g | g
      · have : p.toBitVec.toNat.testBit j = false := h0 j g
        simp [this]
      · simp [Nat.not_lt.mpr g]
    have := Nat.div_add_mod p.toBitVec.toNat (2 ^ k)
    omega
  have hodd : (p.toBitVec.toNat / 2 ^ k) % 2 = 1 := by
    have : p.toBitVec.toNat.testBit k = true := h1
    rw [Nat.testBit_eq_decide_div_mod_eq] at this
    simpa using this
  have hpos : 0 < 2 ^ k := Nat.two_pow_pos k
  have hsub : (p - 1).toBitVec.toNat = p.toBitVec.toNat - 1 := by
    rw [Int32.toBitVec_sub, Int32.toBitVec_one, BitVec.toNat_sub]
    simp only [BitVec.toNat_ofNat]
    omega
  have hform : p.toBitVec.toNat - 1 = 2 ^ k * (p.toBitVec.toNat / 2 ^ k - 1) + (2 ^ k - 1) := by
    have h2 : 1 ≤ p.toBitVec.toNat / 2 ^ k := Zodd1 hodd
    have h3 : 2 ^ k * (p.toBitVec.toNat / 2 ^ k) = 2 ^ k * (p.toBitVec.toNat / 2 ^ k - 1) + 2 ^ k := by
      obtain ⟨q, hq⟩ : ∃ q, p.toBitVec.toNat / 2 ^ k = q + 1 := ⟨_, (Nat.sub_add_cancel h2).symm⟩
      rw [hq, Nat.add_sub_cancel, Nat.mul_succ]
    omega
  refine Zt_ext fun i hi => ?_
  have hb : Zt (p - 1) i = (if i < k then true else (p.toBitVec.toNat / 2 ^ k - 1).testBit (i - k)) := by
    unfold Zt
    rw [← BitVec.testBit_toNat, hsub, hform, Nat.testBit_two_pow_mul_add _ (by omega)]
    split
    · rename_i g
      rw [Nat.testBit_two_pow_sub_one]
      simp [g]
    · rfl
  rw [Zt_and, Zt_not, hb, Zt_nI' (Nat.lt_of_le_of_lt (Nat.sub_le _ _) (Nat.pow_lt_pow_right (by omega) hk)), Nat.testBit_two_pow_sub_one]
  rcases Nat.lt_or_ge i k with g | g
  · simp [g, hi, h0 i g]
  · rw [if_neg (Nat.not_lt.mpr g)]
    rcases Nat.lt_or_ge k i with q | q
    · have e1 : Zt p i = (p.toBitVec.toNat / 2 ^ k).testBit (i - k) := by
        unfold Zt
        rw [← BitVec.testBit_toNat, Nat.testBit_div_two_pow]
        congr 1
        omega
      have e2 : (p.toBitVec.toNat / 2 ^ k - 1).testBit (i - k) = (p.toBitVec.toNat / 2 ^ k).testBit (i - k) := by
        obtain ⟨j, hj⟩ : ∃ j, i - k = j + 1 := ⟨i - k - 1, by omega⟩
        rw [hj, Nat.testBit_succ, Nat.testBit_succ, Zodd2 hodd]
      rw [e1, e2]
      simp [Nat.not_lt.mpr g]
    · have : i = k := by omega
      subst this
      simp [h1]
def Zntz_g (x1 : Int32) : Option Int32 :=
  if 0 < x1 then ((if x1 ≤ (65536 : Int32) then (some (x1, (1 : Int32))) else ((some ((1 : Int32) + (16 : Int32))).bind fun x15 =>
(some ((x1.toUInt32 >>> ((16 : Int32).toUInt32 &&& Int32.toUInt32 31)).toInt32)).bind fun x16 =>
some (x16, x15))).bind fun t2 =>
(if t2.1 ≤ (256 : Int32) then (some (t2.1, t2.2)) else ((some (t2.2 + (8 : Int32))).bind fun x12 =>
(some ((t2.1.toUInt32 >>> ((8 : Int32).toUInt32 &&& Int32.toUInt32 31)).toInt32)).bind fun x13 =>
some (x13, x12))).bind fun t3 =>
(if t3.1 ≤ (16 : Int32) then (some (t3.1, t3.2)) else ((some (t3.2 + (4 : Int32))).bind fun x9 =>
(some ((t3.1.toUInt32 >>> ((4 : Int32).toUInt32 &&& Int32.toUInt32 31)).toInt32)).bind fun x10 =>
some (x10, x9))).bind fun t4 =>
(if t4.1 ≤ (4 : Int32) then (some (t4.1, t4.2)) else ((some (t4.2 + (2 : Int32))).bind fun x6 =>
(some ((t4.1.toUInt32 >>> ((2 : Int32).toUInt32 &&& Int32.toUInt32 31)).toInt32)).bind fun x7 =>
some (x7, x6))).bind fun t5 =>
some (t5.2 + ((t5.1.toUInt32 >>> ((1 : Int32).toUInt32 &&& Int32.toUInt32 31)).toInt32))) else (some (x1 &&& (32 : Int32)))
theorem Zntz_all : ∀ k, k < 32 → Zntz_g (nI (2 ^ k - 1)) = some (nI k) := by decide +kernel
theorem Zntz (p : Int32) : fJ18_numberOfTrailingZeros p = some (nI (Zfs (Zt p) 32 0)) := by
  have hg : fJ18_numberOfTrailingZeros p = Zntz_g ((p ^^^ (-1)) &&& (p - 1)) := rfl
  rw [hg]
  obtain ⟨-, h2, h3, h4⟩ := Zfs_spec (Zt p) 32 0
  rcases Nat.lt_or_ge (Zfs (Zt p) 32 0) 32 with g | g
  · rw [Zntz_x g (fun j hj => h3 j (by omega) hj) (h4 (by omega)), Zntz_all _ g]
  · have e : Zfs (Zt p) 32 0 = 32 := by omega
    have hp : p = 0 := Zt_eq0.mpr fun k hk => h3 k (by omega) (by omega)
    rw [e, hp]
    decide +kernel
theorem Zleast (p : Int32) : fX1_least p = some (nI (Zfs (Zt p) 32 0)) := by
  unfold fX1_least
  rw [Zntz]
  rfl
/-- a number by its highest bit -/
theorem Zla_bnd {p : Int32} {h : Nat} (e : Zla (Zt p) 32 = h + 1) : 2 ^ h ≤ p.toBitVec.toNat ∧ p.toBitVec.toNat < 2 ^ (h + 1) := by
  obtain ⟨h1, h2, h3⟩ := Zla_spec (Zt p) 32
  rw [e] at h1 h2 h3
  refine ⟨Nat.ge_two_pow_of_testBit (h3 (by omega)), ?_⟩
  refine Nat.lt_pow_two_of_testBit _ fun j hj => ?_
  rcases Nat.lt_or_ge j 32 with g | g
  · exact h2 j (by omega) g
  · exact Zt_ge g
theorem Znlz_st {s h a v : Nat} {B c S : Int32} (hs : s ≤ 16) (hB : B = nI (2 ^ s)) (hc : nI s + c = 0) (hS : ((S.toUInt32 &&& Int32.toUInt32 31).toBitVec % 32).toNat = s) (hah : a ≤ h) (hh : h ≤ 30) (h2 : a < 2 * s) (h3 : 2 ^ a ≤ v) (h4 : v < 2 ^ (a + 1)) :
    ∃ a' v', (if nI v < B then (some (nI v, nI (31 - h + a))) else ((some (nI (31 - h + a) + c)).bind fun x14 => (some (((nI v).toUInt32 >>> (S.toUInt32 &&& Int32.toUInt32 31)).toInt32)).bind fun x15 => some (x15, x14))) = some (nI v', nI (31 - h + a')) ∧ a' < s ∧ a' ≤ h ∧ 2 ^ a' ≤ v' ∧ v' < 2 ^ (a' + 1) := by
  subst hB
  have hb : (2 : Nat) ^ s < 2 ^ 31 := Nat.pow_lt_pow_right (by omega) (by omega)
  have hv : v < 2 ^ 31 := Nat.lt_of_lt_of_le h4 (Nat.pow_le_pow_right (by omega) (by omega))
  rcases Nat.lt_or_ge a s with g | g
  · refine ⟨a, v, if_pos (nI_lt (Nat.lt_of_lt_of_le h4 (Nat.pow_le_pow_right (by omega) g)) hb), g, hah, h3, h4⟩
  · have h5 : 2 ^ s ≤ v := Nat.le_trans (Nat.pow_le_pow_right (by omega) g) h3
    have e1 : (2 : Nat) ^ a = 2 ^ (a - s) * 2 ^ s := by rw [← Nat.pow_add]; congr 1; omega
    have e2 : (2 : Nat) ^ (a + 1) = 2 ^ (a - s + 1) * 2 ^ s := by rw [← Nat.pow_add]; congr 1; omega
    refine ⟨a - s, v / 2 ^ s, ?_, by omega, by omega, (Nat.le_div_iff_mul_le (Nat.two_pow_pos s)).mpr (by rw [← e1]; exact h3), (Nat.div_lt_iff_lt_mul (Nat.two_pow_pos s)).mpr (by rw [← e2]; exact h4)⟩
    rw [if_neg (nI_nlt h5 hv)]
    simp only [Option.bind_some, pk_ushrN (show v < 2 ^ 32 by omega) S s hS]
    have e3 : 31 - h + a = (31 - h + (a - s)) + s := by omega
    rw [e3, ← nI_add, Int32.add_assoc, hc, Int32.add_zero]
theorem ZnI_tn (p : Int32) : p = nI p.toBitVec.toNat := Int32.toBitVec_inj.1 (by show p.toBitVec = BitVec.ofNat 32 p.toBitVec.toNat; rw [BitVec.ofNat_toNat, BitVec.setWidth_eq])
theorem Znlz (p : Int32) : fJ18_numberOfLeadingZeros p = some (nI (32 - Zla (Zt p) 32)) := by
  obtain ⟨g1, g2, g3⟩ := Zla_spec (Zt p) 32
  rcases Nat.eq_zero_or_pos (Zla (Zt p) 32) with e | e
  · have hp : p = 0 := Zt_eq0.mpr fun k hk => g2 k (by omega) hk
    rw [e, hp]
    decide +kernel
  · obtain ⟨h, eh⟩ : ∃ h, Zla (Zt p) 32 = h + 1 := ⟨Zla (Zt p) 32 - 1, by omega⟩
    obtain ⟨b1, b2⟩ := Zla_bnd eh
    rw [eh]
    unfold fJ18_numberOfLeadingZeros
    rcases Nat.lt_or_ge h 31 with q | q
    · have hm : p.toBitVec.toNat < 2 ^ 31 := Nat.lt_of_lt_of_le b2 (Nat.pow_le_pow_right (by omega) (by omega))
      have hpos : 0 < p.toBitVec.toNat := Nat.lt_of_lt_of_le (Nat.two_pow_pos h) b1
      have ep := ZnI_tn p
      generalize p.toBitVec.toNat = m at ep b1 b2 hm hpos
      subst ep
      have e31 : (31 : Int32) = nI (31 - h + h) := by rw [Nat.sub_add_cancel (by omega)]; rfl
      obtain ⟨a1, v1, e1, i1, j1, k1, l1⟩ := Znlz_st (s := 16) (h := h) (a := h) (v := m) (B := 65536) (c := -16) (S := 16) (by decide) rfl (by decide) (by decide) (Nat.le_refl _) (by omega) (by omega) b1 b2
      obtain ⟨a2, v2, e2, i2, j2, k2, l2⟩ := Znlz_st (s := 8) (h := h) (B := 256) (c := -8) (S := 8) (by decide) rfl (by decide) (by decide) j1 (by omega) i1 k1 l1
      obtain ⟨a3, v3, e3, i3, j3, k3, l3⟩ := Znlz_st (s := 4) (h := h) (B := 16) (c := -4) (S := 4) (by decide) rfl (by decide) (by decide) j2 (by omega) i2 k2 l2
      obtain ⟨a4, v4, e4, i4, j4, k4, l4⟩ := Znlz_st (s := 2) (h := h) (B := 4) (c := -2) (S := 2) (by decide) rfl (by decide) (by decide) j3 (by omega) i3 k3 l3
      rw [← e31] at e1
      simp only [Option.bind_some] at e1 e2 e3 e4
      rw [if_pos (show (0 : Int32) < nI m from nI_lt (a := 0) hpos hm)]
      simp only [Option.bind_some]
      rw [e1]
      simp only [Option.bind_some]
      rw [e2]
      simp only [Option.bind_some]
      rw [e3]
      simp only [Option.bind_some]
      rw [e4]
      have h5 : v4 < 4 := Nat.lt_of_lt_of_le l4 (Nat.pow_le_pow_right (by omega) (show a4 + 1 ≤ 2 by omega))
      simp only [Option.bind_some, pk_ushrN (show v4 < 2 ^ 32 by omega) 1 1 (by decide)]
      have h6 : v4 / 2 ^ 1 = a4 := by
        rcases Nat.lt_or_ge a4 1 with z | z
        · have : a4 = 0 := by omega
          subst this
          omega
        · have : a4 = 1 := by omega
          subst this
          omega
      rw [h6, pk_sub (by omega)]
      congr 2
      omega
    · have hm : p.toBitVec.toNat ≥ 2 ^ 31 := Nat.le_trans (Nat.pow_le_pow_right (by omega) q) b1
      have hneg : p.toInt < 0 := by
        have := BitVec.toInt_eq_toNat_cond p.toBitVec
        have hl := p.toBitVec.isLt
        show p.toBitVec.toInt < 0
        rw [this]
        split <;> omega
      rw [if_neg (by rw [Int32.lt_iff_toInt_lt]; simp only [Int32.toInt_zero]; omega), if_neg (fun e => by rw [e] at hneg; exact absurd hneg (by decide))]
      have : h = 31 := by omega
      subst this
      rfl
theorem Zgr_all : ∀ L, L ≤ 32 → (31 : Int32) - nI (32 - L) = nI L - 1 := by decide +kernel
theorem Zgreatest (p : Int32) : fX1_greatest p = some (nI (Zla (Zt p) 32) - 1) := by
  unfold fX1_greatest
  rw [Znlz]
  simp only [Option.bind_some]
  rw [Zgr_all _ (Zla_spec (Zt p) 32).1]
