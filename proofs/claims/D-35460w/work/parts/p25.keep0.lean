/-! X: what Linear keeps -/
set_option maxRecDepth 100000
theorem Zadd_i {a b : Int32} (h : -2147483648 ≤ a.toInt + b.toInt) (h' : a.toInt + b.toInt < 2147483648) : (a + b).toInt = a.toInt + b.toInt := by
  rw [Int32.toInt_add]
  exact Int.bmod_eq_of_le_mul_two (by omega) (by omega)
theorem Zsub_i {a b : Int32} (h : -2147483648 ≤ a.toInt - b.toInt) (h' : a.toInt - b.toInt < 2147483648) : (a - b).toInt = a.toInt - b.toInt := by
  rw [Int32.toInt_sub]
  exact Int.bmod_eq_of_le_mul_two (by omega) (by omega)
theorem Zmul_i {a b : Int32} (h : -2147483648 ≤ a.toInt * b.toInt) (h' : a.toInt * b.toInt < 2147483648) : (a * b).toInt = a.toInt * b.toInt := by
  rw [Int32.toInt_mul]
  exact Int.bmod_eq_of_le_mul_two (by omega) (by omega)
theorem ZmulB {a b : Int} {n : Nat} (ha : -9 ≤ a ∧ a ≤ 9) (hb : -(n : Int) ≤ b ∧ b ≤ n) : -(9 * n : Int) ≤ a * b ∧ a * b ≤ 9 * n := by
  have : a = -9 ∨ a = -8 ∨ a = -7 ∨ a = -6 ∨ a = -5 ∨ a = -4 ∨ a = -3 ∨ a = -2 ∨ a = -1 ∨ a = 0 ∨ a = 1 ∨ a = 2 ∨ a = 3 ∨ a = 4 ∨ a = 5 ∨ a = 6 ∨ a = 7 ∨ a = 8 ∨ a = 9 := by omega
  rcases this with rfl | rfl | rfl | rfl | rfl | rfl | rfl | rfl | rfl | rfl | rfl | rfl | rfl | rfl | rfl | rfl | rfl | rfl | rfl <;> omega
theorem Zsm_skip {g : Nat → Int} {p : Nat} : ∀ m, (p < m → Zsm (fun q => if q = p then 0 else g q) m = Zsm g m - g p) ∧ (m ≤ p → Zsm (fun q => if q = p then 0 else g q) m = Zsm g m) := by
  intro m
  induction m with
  | zero => exact ⟨fun h => absurd h (by omega), fun _ => rfl⟩
  | succ m ih =>
    simp only [Zsm]
    constructor
    · intro h
      by_cases q : m = p
      · rw [if_pos q, ih.2 (by omega), q]
        omega
      · rw [if_neg q, ih.1 (by omega)]
        omega
    · intro h
      rw [if_neg (by omega), ih.2 (by omega)]
theorem Zsm_bnd {g : Nat → Int} {B : Nat} : ∀ m, (∀ q, q < m → -(B : Int) ≤ g q ∧ g q ≤ B) → -(m * B : Nat) ≤ Zsm g m ∧ Zsm g m ≤ (m * B : Nat) := by
  intro m
  induction m with
  | zero => intro _; simp [Zsm]
  | succ m ih =>
    intro h
    have h1 := ih fun q hq => h q (by omega)
    have h2 := h m (by omega)
    rw [Nat.succ_mul]
    simp only [Zsm]
    omega
/-- what a linear constraint asks -/
def ZCl (P : ZP) (c : Nat) : Prop := 1 ≤ Zmn P c ∧ Zmn P c ≤ 6 ∧ (∀ p, p < Zmn P c → Zpl P c p < Znv P ∧ (Zkd P (Zpl P c p) = 0 ∨ Zkd P (Zpl P c p) = 3)) ∧ (∀ p, p < Zmn P c → -9 ≤ (Zfa P c p).toInt ∧ (Zfa P c p).toInt ≤ 9) ∧ -2000 ≤ (Zli P c).toInt ∧ (Zli P c).toInt ≤ 2000 ∧ (Zhs P c 0 = 0 ∨ Zhs P c 0 = 1)
theorem ZCl_of {P : ZP} {c : Nat} (hC : ZCok P c) (hs : Zso P c = 0) : ZCl P c := by
  obtain ⟨h1, h2, h3, h4, h5, -⟩ := hC
  obtain ⟨g1, g2, g3, g4, g5, g6⟩ := h5 hs
  exact ⟨h1, g1, fun p hp => ⟨h3 p hp, g2 p hp⟩, g3, g4, g5, g6⟩
/-- bounds of the ends -/
theorem Zlw_bnd {P : ZP} {T : ZT0} (hT : ZTok P T) {v : Nat} (hv : v < Znv P) (hk : Zkd P v = 0 ∨ Zkd P v = 3) : -180 ≤ Zun P v * Zlw P T v ∧ Zun P v * Zlw P T v ≤ Zun P v * Zhg P T v ∧ Zun P v * Zhg P T v ≤ 180 := by
  obtain ⟨h1, h2⟩ := hT v hv
  rcases hk with hk | hk
  · obtain ⟨h3, h4⟩ := h1 (by omega)
    obtain ⟨k, hk32, hkt⟩ := Zt_ne0.mp h3
    have hk16 : ∀ j, Zt (T.1 v) j = true → j < 16 := fun j hj => by have := h4 j hj; rw [hk] at this; exact this
    obtain ⟨a1, a2, a3, a4⟩ := Zfs_spec (Zt (T.1 v)) 32 0
    obtain ⟨b1, b2, b3⟩ := Zla_spec (Zt (T.1 v)) 32
    have c1 : Zfs (Zt (T.1 v)) 32 0 ≤ k := Nat.le_of_not_lt fun g => by rw [a3 k (by omega) g] at hkt; cases hkt
    have c2 : k < Zla (Zt (T.1 v)) 32 := Nat.lt_of_not_le fun g => by rw [b2 k g hk32] at hkt; cases hkt
    have c3 := hk16 _ (b3 (by omega))
    unfold Zun Zlw Zhg
    rw [if_neg (by omega), if_neg (by omega), if_neg (by omega)]
    omega
  · obtain ⟨h3, h4, h5⟩ := h2 hk
    unfold Zun Zlw Zhg
    rw [if_pos hk, if_pos hk, if_pos hk]
    omega
theorem Zmi_bnd {P : ZP} {T : ZT0} (hT : ZTok P T) {c : Nat} (hC : ZCl P c) {p : Nat} (hp : p < Zmn P c) : (-1620 ≤ Zmi P T c p ∧ Zmi P T c p ≤ 1620) ∧ (-1620 ≤ Zma P T c p ∧ Zma P T c p ≤ 1620) := by
  obtain ⟨g1, g2⟩ := hC.2.2.1 p hp
  have g3 := hC.2.2.2.1 p hp
  obtain ⟨l1, l2, l3⟩ := Zlw_bnd hT g1 g2
  have q1 := ZmulB (n := 180) g3 (b := Zun P (Zpl P c p) * Zlw P T (Zpl P c p)) ⟨by omega, by omega⟩
  have q2 := ZmulB (n := 180) g3 (b := Zun P (Zpl P c p) * Zhg P T (Zpl P c p)) ⟨by omega, by omega⟩
  unfold Zmi Zma
  split
  · rw [Int.mul_assoc, Int.mul_assoc]
    exact ⟨⟨by omega, by omega⟩, by omega, by omega⟩
  · rw [Int.mul_assoc, Int.mul_assoc]
    exact ⟨⟨by omega, by omega⟩, by omega, by omega⟩
/-- the sums of all others -/
def Zom (P : ZP) (T : ZT0) (c p : Nat) : Int := Zsm (fun q => if q = p then 0 else Zmi P T c q) (Zmn P c)
def ZoM (P : ZP) (T : ZT0) (c p : Nat) : Int := Zsm (fun q => if q = p then 0 else Zma P T c q) (Zmn P c)
theorem Zom_bnd {P : ZP} {T : ZT0} (hT : ZTok P T) {c : Nat} (hC : ZCl P c) (p : Nat) : (-9720 ≤ Zom P T c p ∧ Zom P T c p ≤ 9720) ∧ (-9720 ≤ ZoM P T c p ∧ ZoM P T c p ≤ 9720) := by
  have h6 := hC.2.1
  have a := Zsm_bnd (g := fun q => if q = p then 0 else Zmi P T c q) (B := 1620) (Zmn P c) fun q hq => by
    have := (Zmi_bnd hT hC hq).1
    split <;> omega
  have b := Zsm_bnd (g := fun q => if q = p then 0 else Zma P T c q) (B := 1620) (Zmn P c) fun q hq => by
    have := (Zmi_bnd hT hC hq).2
    split <;> omega
  unfold Zom ZoM
  omega
/-- to agree is convex -/
theorem ZLok_conv {P : ZP} {T : ZT0} {c p : Nat} {a b x : Int} (ha : ZLok P T c p a) (hb : ZLok P T c p b) (h1 : a ≤ x) (h2 : x ≤ b) : ZLok P T c p x := by
  unfold ZLok at ha hb ⊢
  obtain ⟨a1, a2⟩ := ha
  obtain ⟨b1, b2⟩ := hb
  generalize (Zfa P c p).toInt * Zun P (Zpl P c p) = F at *
  rcases Int.le_total 0 F with g | g
  · have e1 := Int.mul_le_mul_of_nonneg_left h1 g
    have e2 := Int.mul_le_mul_of_nonneg_left h2 g
    refine ⟨by omega, ?_⟩
    rcases a2 with q | q
    · exact Or.inl q
    · exact Or.inr (by omega)
  · have e1 := Int.mul_le_mul_of_nonpos_left g h1
    have e2 := Int.mul_le_mul_of_nonpos_left g h2
    refine ⟨by omega, ?_⟩
    rcases b2 with q | q
    · exact Or.inl q
    · exact Or.inr (by omega)
/-- what a constraint of X keeps of intervals -/
def ZKr (P : ZP) (T : ZT0) (c : Nat) (xs' : Zxs) : Prop := Zso P c = 0 → ∀ p, p < Zmn P c → Zkd P (Zpl P c p) = 3 → (T.2.1 (Zpl P c p)).toInt ≤ (xs'.2 (1000 * (c + 1) + 3) p).toInt ∧ (xs'.2 (1000 * (c + 1) + 4) p).toInt ≤ (T.2.2 (Zpl P c p)).toInt ∧
  (∀ x : Int, (T.2.1 (Zpl P c p)).toInt ≤ x → x ≤ (T.2.2 (Zpl P c p)).toInt → (ZLok P T c p x ↔ (xs'.2 (1000 * (c + 1) + 3) p).toInt ≤ x ∧ x ≤ (xs'.2 (1000 * (c + 1) + 4) p).toInt)) ∧
  ((xs'.2 (1000 * (c + 1) + 3) p).toInt ≤ (xs'.2 (1000 * (c + 1) + 4) p).toInt ∨ ((xs'.2 (1000 * (c + 1) + 3) p).toInt = (T.2.2 (Zpl P c p)).toInt + 1 ∧ (xs'.2 (1000 * (c + 1) + 4) p).toInt = (T.2.2 (Zpl P c p)).toInt))
def ZX8 (sh : Nat → Option Zsh) (xs : Zxs) (P : ZP) (c : Nat) : Prop :=
  sh (1000 * (c + 1)) = some (Zo8 (1000 * (c + 1) + 1) (1000 * (c + 1) + 2) (1000 * (c + 1) + 3) (1000 * (c + 1) + 4) (1000 * (c + 1) + 5) (1000 * (c + 1) + 6)) ∧ sh (1000 * (c + 1) + 5) = some (Zia 0 (Zmn P c)) ∧ sh (1000 * (c + 1) + 6) = some (Zia 1 (Zmn P c)) ∧
  xs.1 (1000 * (c + 1)) 6 = Zhs P c 0 ∧ xs.1 (1000 * (c + 1)) 7 = Zli P c ∧ ∀ p, p < Zmn P c → xs.2 (1000 * (c + 1) + 5) p = Zfa P c p ∧ xs.2 (1000 * (c + 1) + 6) p = if Zkd P (Zpl P c p) = 3 then 1 else 0
theorem ZX8.fr {sh : Nat → Option Zsh} {xs xs' : Zxs} {P : ZP} {c : Nat} {A : Nat → Nat → Prop} {B : Nat → Prop} (h : ZX8 sh xs P c) (hf : Zfr A B xs xs') (hA : ∀ f, f = 6 ∨ f = 7 → ¬ A (1000 * (c + 1)) f) (hB : ¬ B (1000 * (c + 1) + 5) ∧ ¬ B (1000 * (c + 1) + 6)) : ZX8 sh xs' P c := by
  obtain ⟨h1, h2, h3, h4, h5, h6⟩ := h
  exact ⟨h1, h2, h3, by rw [hf.1 _ _ (hA 6 (Or.inl rfl))]; exact h4, by rw [hf.1 _ _ (hA 7 (Or.inr rfl))]; exact h5, by rw [hf.2 _ hB.1, hf.2 _ hB.2]; exact h6⟩
section K8
variable {sh : Nat → Option Zsh} {xs : Zxs} {P : ZP} {E : Ze} {ts c : Nat}
theorem ZX_low (hP : ZPok P) (hC : ZCok P c) (hs : Zso P c = 0) (hS : ZS sh ts) (h0 : ZX0 sh xs P c) (h8 : ZX8 sh xs P c) (hT : ZTok P (ZTs xs ts)) {p : Nat} (hp : p < Zmn P c) : (∃ w, fX10_low (ZW E sh xs) (Zl E (1000 * (c + 1))) (Zl E ts) (nI p) = some w ∧ w.toInt = Zun P (Zpl P c p) * Zlw P (ZTs xs ts) (Zpl P c p)) ∧ ∃ w, fX10_high (ZW E sh xs) (Zl E (1000 * (c + 1))) (Zl E ts) (nI p) = some w ∧ w.toInt = Zun P (Zpl P c p) * Zhg P (ZTs xs ts) (Zpl P c p) := by
  have hid : ∀ p, Zpm P c p = p := fun p => Zpm_id (by omega)
  have hCl := ZCl_of hC hs
  obtain ⟨g1, g2⟩ := hCl.2.2.1 p hp
  have hn := hP.1
  have m6 := hCl.2.1
  obtain ⟨a1, a2, a3, a4, a5, a6⟩ := h8
  have d := ZX0_dom h0 hP hC hS hp E
  rw [hid] at d
  have b := Zlw_bnd hT g1 g2
  have h0' := h0
  obtain ⟨_, _, _, _, b3, _, _, _, b7⟩ := h0'
  have b8 := b7 p hp
  rw [hid] at b8
  obtain ⟨s1, s2, s3, s4⟩ := hS
  rcases g2 with k | k
  · have e6 := (a6 p hp).2
    rw [if_neg (by omega)] at e6
    have hu : Zun P (Zpl P c p) = 12 := by unfold Zun; rw [if_neg (by omega)]
    have hl : Zlw P (ZTs xs ts) (Zpl P c p) = (Zfs (Zt (ZDm P (ZTs xs ts) c p)) 32 0 : Nat) := by unfold Zlw ZDm; rw [if_neg (by omega)]
    have hh : Zhg P (ZTs xs ts) (Zpl P c p) = (Zla (Zt (ZDm P (ZTs xs ts) c p)) 32 : Nat) - 1 := by unfold Zhg ZDm; rw [if_neg (by omega)]
    rw [hu, hl, hh] at b
    rw [hu, hl, hh]
    have fl := (Zfs_spec (Zt (ZDm P (ZTs xs ts) c p)) 32 0).2.1
    have gl := (Zla_spec (Zt (ZDm P (ZTs xs ts) c p)) 32).1
    simp (disch := omega) only [fX10_low, fX10_high, Zb8 a1, ZbZ a3, e6, Option.bind_some, if_true, d, Zleast, Zgreatest]
    refine ⟨⟨_, rfl, ?_⟩, _, rfl, ?_⟩
    · rw [Zlit 12, pk_mul, nI_toInt (by omega)]
      omega
    · have : nI (Zla (Zt (ZDm P (ZTs xs ts) c p)) 32) - 1 = nI (Zla (Zt (ZDm P (ZTs xs ts) c p)) 32 - 1) := pk_sub (b := 1) (by omega)
      rw [this, Zlit 12, pk_mul, nI_toInt (by omega)]
      omega
  · have e6 := (a6 p hp).2
    rw [if_pos k] at e6
    have hu : Zun P (Zpl P c p) = 1 := by unfold Zun; rw [if_pos k]
    have hl : Zlw P (ZTs xs ts) (Zpl P c p) = (xs.2 (ts + 2) (Zpl P c p)).toInt := by unfold Zlw ZTs; rw [if_pos k]
    have hh : Zhg P (ZTs xs ts) (Zpl P c p) = (xs.2 (ts + 3) (Zpl P c p)).toInt := by unfold Zhg ZTs; rw [if_pos k]
    rw [hu, hl, hh]
    simp (disch := omega) only [fX10_low, fX10_high, Zb8 a1, ZbZ a3, e6, Option.bind_some, Zne10, if_false, Zb3 s1, ZbI b3, b8, ZbI s3, ZbI s4]
    exact ⟨⟨_, rfl, by omega⟩, _, rfl, by omega⟩
theorem ZX_least (hP : ZPok P) (hC : ZCok P c) (hs : Zso P c = 0) (hS : ZS sh ts) (h0 : ZX0 sh xs P c) (h8 : ZX8 sh xs P c) (hT : ZTok P (ZTs xs ts)) {p : Nat} (hp : p < Zmn P c) : (∃ w, fX10_least (ZW E sh xs) (Zl E (1000 * (c + 1))) (Zl E ts) (nI p) = some w ∧ w.toInt = Zmi P (ZTs xs ts) c p) ∧ ∃ w, fX10_greatest (ZW E sh xs) (Zl E (1000 * (c + 1))) (Zl E ts) (nI p) = some w ∧ w.toInt = Zma P (ZTs xs ts) c p := by
  have hCl := ZCl_of hC hs
  obtain ⟨⟨w, e1, w1⟩, v, e2, v1⟩ := ZX_low (E := E) hP hC hs hS h0 h8 hT hp
  have m6 := hCl.2.1
  obtain ⟨g1, g2⟩ := hCl.2.2.1 p hp
  have g3 := hCl.2.2.2.1 p hp
  obtain ⟨l1, l2, l3⟩ := Zlw_bnd hT g1 g2
  obtain ⟨a1, a2, a3, a4, a5, a6⟩ := h8
  have q1 := ZmulB (n := 180) g3 (b := w.toInt) ⟨by omega, by omega⟩
  have q2 := ZmulB (n := 180) g3 (b := v.toInt) ⟨by omega, by omega⟩
  simp (disch := omega) only [fX10_least, fX10_greatest, Zb8 a1, ZbI a2, (a6 p hp).1, Option.bind_some, e1, e2]
  unfold Zmi Zma
  by_cases n : Zfa P c p < 0
  · have n' : ¬ 0 ≤ (Zfa P c p).toInt := by rw [Int32.lt_iff_toInt_lt] at n; simp at n; omega
    rw [if_pos n, if_pos n, if_neg n', if_neg n']
    refine ⟨⟨_, rfl, ?_⟩, _, rfl, ?_⟩
    · rw [Zmul_i (by omega) (by omega), v1, Int.mul_assoc]
    · rw [Zmul_i (by omega) (by omega), w1, Int.mul_assoc]
  · have n' : 0 ≤ (Zfa P c p).toInt := by rw [Int32.lt_iff_toInt_lt] at n; simp at n; omega
    rw [if_neg n, if_neg n, if_pos n', if_pos n']
    refine ⟨⟨_, rfl, ?_⟩, _, rfl, ?_⟩
    · rw [Zmul_i (by omega) (by omega), w1, Int.mul_assoc]
    · rw [Zmul_i (by omega) (by omega), v1, Int.mul_assoc]
theorem ZX_agr (hC : ZCl P c) (h8 : ZX8 sh xs P c) (o l g : Int32) (ho : -20000 ≤ o.toInt ∧ o.toInt ≤ 20000) (hl : -20000 ≤ l.toInt ∧ l.toInt ≤ 20000) (hg : -20000 ≤ g.toInt ∧ g.toInt ≤ 20000) : ∃ b : Int32, fX10_agrees (ZW E sh xs) (Zl E (1000 * (c + 1))) o l g = some b ∧ (b = 0 ∨ b = 1) ∧ (b = 1 ↔ o.toInt + l.toInt ≤ (Zli P c).toInt ∧ (Zhs P c 0 = 0 ∨ (Zli P c).toInt ≤ o.toInt + g.toInt)) := by
  obtain ⟨a1, a2, a3, a4, a5, a6⟩ := h8
  have s1 : (o + l).toInt = o.toInt + l.toInt := Zadd_i (by omega) (by omega)
  have s2 : (o + g).toInt = o.toInt + g.toInt := Zadd_i (by omega) (by omega)
  simp only [fX10_agrees, Zb8 a1, a4, a5, Option.bind_some]
  by_cases q : Zli P c < o + l
  · rw [if_pos q]
    rw [Int32.lt_iff_toInt_lt, s1] at q
    exact ⟨0, rfl, Or.inl rfl, fun h => absurd h (by decide), fun h => absurd h.1 (by omega)⟩
  · rw [if_neg q]
    rw [Int32.lt_iff_toInt_lt, s1] at q
    by_cases z : Zhs P c 0 = 0
    · rw [if_pos z, Zesc_l]
      exact ⟨1, rfl, Or.inr rfl, fun _ => ⟨by omega, Or.inl z⟩, fun _ => rfl⟩
    · rw [if_neg z]
      by_cases r : o + g < Zli P c
      · rw [if_pos r, Zesc_r]
        rw [Int32.lt_iff_toInt_lt, s2] at r
        exact ⟨0, rfl, Or.inl rfl, fun h => absurd h (by decide), fun h => absurd h.2 (fun k => k.elim z (by omega))⟩
      · rw [if_neg r, Zesc_l]
        rw [Int32.lt_iff_toInt_lt, s2] at r
        exact ⟨1, rfl, Or.inr rfl, fun _ => ⟨by omega, Or.inr (by omega)⟩, fun _ => rfl⟩
/-- what is kept at a place -/
theorem ZX_keepAt (hP : ZPok P) (hC : ZCok P c) (hs : Zso P c = 0) (hS : ZS sh ts) (hts : ts + 4 ≤ 100) (h0 : ZX0 sh xs P c) (h8 : ZX8 sh xs P c) (hT : ZTok P (ZTs xs ts)) (hG : E.1 0 = Zl E 50301 ∧ sh 50301 = some (Zia 6 3) ∧ xs.2 50301 0 = 15) {p : Nat} (hp : p < Zmn P c) {l g : Int32} (hl : l.toInt = Zom P (ZTs xs ts) c p) (hg : g.toInt = ZoM P (ZTs xs ts) c p) :
    ∀ N : Nat, 1000 ≤ N → ∃ y, fX10_keepAt N (ZW E sh xs) (Zl E (1000 * (c + 1))) (Zl E ts) (nI p) l g = some (ZW E sh y) ∧ Zfr (fun _ _ => False) (ZKB c) xs y ∧ (∀ q, q ≠ p → y.2 (1000 * (c + 1) + 2) q = xs.2 (1000 * (c + 1) + 2) q ∧ y.2 (1000 * (c + 1) + 3) q = xs.2 (1000 * (c + 1) + 3) q ∧ y.2 (1000 * (c + 1) + 4) q = xs.2 (1000 * (c + 1) + 4) q) ∧
      (Zkd P (Zpl P c p) = 0 → ∀ k, k < 32 → (Zt (y.2 (1000 * (c + 1) + 2) p) k = true ↔ k < 16 ∧ ZLok P (ZTs xs ts) c p (k : Nat))) ∧
      (Zkd P (Zpl P c p) = 3 → ((ZTs xs ts).2.1 (Zpl P c p)).toInt ≤ (y.2 (1000 * (c + 1) + 3) p).toInt ∧ (y.2 (1000 * (c + 1) + 4) p).toInt ≤ ((ZTs xs ts).2.2 (Zpl P c p)).toInt ∧
        (∀ x : Int, ((ZTs xs ts).2.1 (Zpl P c p)).toInt ≤ x → x ≤ ((ZTs xs ts).2.2 (Zpl P c p)).toInt → (ZLok P (ZTs xs ts) c p x ↔ (y.2 (1000 * (c + 1) + 3) p).toInt ≤ x ∧ x ≤ (y.2 (1000 * (c + 1) + 4) p).toInt)) ∧
        ((y.2 (1000 * (c + 1) + 3) p).toInt ≤ (y.2 (1000 * (c + 1) + 4) p).toInt ∨ ((y.2 (1000 * (c + 1) + 3) p).toInt = ((ZTs xs ts).2.2 (Zpl P c p)).toInt + 1 ∧ (y.2 (1000 * (c + 1) + 4) p).toInt = ((ZTs xs ts).2.2 (Zpl P c p)).toInt))) := by
  intro N hN
  have hCl := ZCl_of hC hs
  have m6 := hCl.2.1
  obtain ⟨g1, g2⟩ := hCl.2.2.1 p hp
  have g3 := hCl.2.2.2.1 p hp
  obtain ⟨⟨ob1, ob2⟩, ob3, ob4⟩ := Zom_bnd hT hCl p
  have hKB : ∀ u, ZKB c u → 1000 ≤ u := by intro u h; unfold ZKB at h; omega
  have h8' : ∀ y, Zfr (fun _ _ => False) (ZKB c) xs y → ZX8 sh y P c := fun y hy => h8.fr hy (fun _ _ q => q) ⟨by unfold ZKB; omega, by unfold ZKB; omega⟩
  have h0c := h0
  obtain ⟨_, _, _, _, b3, b4, b5, b6, b7⟩ := h0c
  have a1 := h8.1
  have a2 := h8.2.1
  have a3 := h8.2.2.1
  obtain ⟨fa, ra⟩ := h8.2.2.2.2.2 p hp
  have hx : ∀ y, Zfr (fun _ _ => False) (ZKB c) xs y → y.2 (1000 * (c + 1) + 5) p = Zfa P c p := fun y hy => ((h8' y hy).2.2.2.2.2 p hp).1
  obtain ⟨⟨w, e1, w1⟩, v, e2, v1⟩ := ZX_low (E := E) hP hC hs hS h0 h8 hT hp
  have lb := Zlw_bnd hT g1 g2
  -- an own number agrees
  have ag : ∀ y, Zfr (fun _ _ => False) (ZKB c) xs y → ∀ (o : Int32) (x : Int), -200 ≤ Zun P (Zpl P c p) * x → Zun P (Zpl P c p) * x ≤ 200 → o.toInt = (Zfa P c p).toInt * Zun P (Zpl P c p) * x → ∃ b : Int32, fX10_agrees (ZW E sh y) (Zl E (1000 * (c + 1))) o l g = some b ∧ (b = 0 ∨ b = 1) ∧ (b = 1 ↔ ZLok P (ZTs xs ts) c p x) := by
    intro y hy o x x1 x2 ho
    have ob : -1800 ≤ o.toInt ∧ o.toInt ≤ 1800 := by
      rw [ho, Int.mul_assoc]
      have := ZmulB (n := 200) g3 (b := Zun P (Zpl P c p) * x) ⟨by omega, by omega⟩
      omega
    obtain ⟨b, q1, q2, q3⟩ := ZX_agr (E := E) hCl (h8' y hy) o l g (by omega) (by omega) (by omega)
    refine ⟨b, q1, q2, ?_⟩
    rw [q3, ho, hl, hg]
    rfl
  have one1 : (1 : Int32).toInt = 1 := rfl
  rcases g2 with k0 | k3
  · -- an INT
    rw [if_neg (by omega)] at ra
    have hu : Zun P (Zpl P c p) = 12 := by unfold Zun; rw [if_neg (by omega)]
    have L := Zl_inv (body := fX10_keepAt_L145 (Zl E (1000 * (c + 1))) (nI p) l g) (fun i a => ∃ y, a = (ZW E sh y, nI i) ∧ Zfr (fun _ _ => False) (ZKB c) xs y ∧ y.2 (1000 * (c + 1) + 3) = xs.2 (1000 * (c + 1) + 3) ∧ y.2 (1000 * (c + 1) + 4) = xs.2 (1000 * (c + 1) + 4) ∧ (∀ q, q ≠ p → y.2 (1000 * (c + 1) + 2) q = xs.2 (1000 * (c + 1) + 2) q) ∧ ∀ k, k < 32 → (Zt (y.2 (1000 * (c + 1) + 2) p) k = true ↔ k < i ∧ ZLok P (ZTs xs ts) c p (k : Nat))) 16
      (fun r => ∃ y, r = ZW E sh y ∧ Zfr (fun _ _ => False) (ZKB c) xs y ∧ y.2 (1000 * (c + 1) + 3) = xs.2 (1000 * (c + 1) + 3) ∧ y.2 (1000 * (c + 1) + 4) = xs.2 (1000 * (c + 1) + 4) ∧ (∀ q, q ≠ p → y.2 (1000 * (c + 1) + 2) q = xs.2 (1000 * (c + 1) + 2) q) ∧ ∀ k, k < 32 → (Zt (y.2 (1000 * (c + 1) + 2) p) k = true ↔ k < 16 ∧ ZLok P (ZTs xs ts) c p (k : Nat)))
      (by
        rintro i a hi ⟨y, rfl, hf, y3, y4, yq, hy⟩
        have e15 : y.2 50301 0 = 15 := by rw [hf.2 50301 (by unfold ZKB; omega)]; exact hG.2.2
        have s1 : (Zfa P c p * 12).toInt = (Zfa P c p).toInt * 12 := Zmul_i (b := 12) (by show -2147483648 ≤ _ * 12; omega) (by show _ * 12 < 2147483648; omega)
        have o1 : (Zfa P c p * 12 * nI i).toInt = (Zfa P c p).toInt * Zun P (Zpl P c p) * (i : Nat) := by
          have hb := ZmulB (n := 180) g3 (b := 12 * (i : Int)) ⟨by omega, by omega⟩
          rw [← Int.mul_assoc] at hb
          rw [Zmul_i (by rw [s1, nI_toInt (by omega)]; omega) (by rw [s1, nI_toInt (by omega)]; omega), s1, nI_toInt (by omega), hu]
        obtain ⟨b, q1, q2, q3⟩ := ag y hf _ _ (by rw [hu]; omega) (by rw [hu]; omega) o1
        have key : ∀ w : Int32, (∀ k, k < 32 → (Zt w k = true ↔ Zt (y.2 (1000 * (c + 1) + 2) p) k = true ∨ (k = i ∧ ZLok P (ZTs xs ts) c p (i : Nat)))) → ∃ y', ((ZW E sh (y.1, zua y.2 (1000 * (c + 1) + 2) p w), nI (i + 1)) : zH × Int32) = (ZW E sh y', nI (i + 1)) ∧ Zfr (fun _ _ => False) (ZKB c) xs y' ∧ y'.2 (1000 * (c + 1) + 3) = xs.2 (1000 * (c + 1) + 3) ∧ y'.2 (1000 * (c + 1) + 4) = xs.2 (1000 * (c + 1) + 4) ∧ (∀ q, q ≠ p → y'.2 (1000 * (c + 1) + 2) q = xs.2 (1000 * (c + 1) + 2) q) ∧ ∀ k, k < 32 → (Zt (y'.2 (1000 * (c + 1) + 2) p) k = true ↔ k < i + 1 ∧ ZLok P (ZTs xs ts) c p (k : Nat)) := by
          intro w hw
          refine ⟨_, rfl, hf.arr (by unfold ZKB; omega), (zua_n (by omega)).trans y3, (zua_n (by omega)).trans y4, fun q hq => (zua_sn hq).trans (yq q hq), fun k hk => ?_⟩
          simp only [zua_ss]
          rw [hw k hk, hy k hk]
          constructor
          · rintro (⟨z1, z2⟩ | ⟨z1, z2⟩)
            · exact ⟨by omega, z2⟩
            · subst z1
              exact ⟨by omega, z2⟩
          · rintro ⟨z1, z2⟩
            by_cases z : k = i
            · subst z
              exact Or.inr ⟨rfl, z2⟩
            · exact Or.inl ⟨by omega, z2⟩
        have h15 : ¬ (15 : Int32) < nI i := nI_nlt (a := 15) (by omega) (by decide)
        by_cases z : b = 0
        · simp (disch := omega) only [fX10_keepAt_L145, ZW_fst, hG.1, ZbI6 hG.2.1, e15, Option.bind_some, if_neg h15, Zb8 a1, ZbI a2, ZbI b4, hx y hf, q1, if_pos z, nI_1]
          refine ⟨_, rfl, key _ fun k hk => ?_⟩
          rw [Zt_or0]
          have : ¬ ZLok P (ZTs xs ts) c p (i : Nat) := fun h => by rw [q3.mpr h] at z; cases z
          simp only [this, and_false, or_false]
        · simp (disch := omega) only [fX10_keepAt_L145, ZW_fst, hG.1, ZbI6 hG.2.1, e15, Option.bind_some, if_neg h15, Zb8 a1, ZbI a2, ZbI b4, hx y hf, q1, if_neg z, nI_1]
          refine ⟨_, rfl, key _ fun k hk => ?_⟩
          rw [Zt_put (by omega)]
          have : ZLok P (ZTs xs ts) c p (i : Nat) := q3.mp (q2.resolve_left z)
          simp only [this, and_true])
      (by
        rintro a ⟨y, rfl, hf, hy⟩
        have e15 : y.2 50301 0 = 15 := by rw [hf.2 50301 (by unfold ZKB; omega)]; exact hG.2.2
        simp (disch := omega) only [fX10_keepAt_L145, ZW_fst, hG.1, ZbI6 hG.2.1, e15, Option.bind_some, if_pos (show (15 : Int32) < nI 16 by decide)]
        exact ⟨_, rfl, y, rfl, hf, hy⟩)
      N (ZW E sh (xs.1, zua xs.2 (1000 * (c + 1) + 2) p 0), 0) (by omega) ⟨_, rfl, Zfr.rfl.arr (by unfold ZKB; omega), zua_n (by omega), zua_n (by omega), fun q hq => zua_sn hq, fun k hk => by
        simp only [zua_ss, Zt_0]
        exact ⟨fun h => (by cases h), fun h => absurd h.1 (by omega)⟩⟩
    obtain ⟨r, e3, y, rfl, hf, y3, y4, yq, hy⟩ := L
    simp (disch := omega) only [fX10_keepAt, Zb8 a1, ZbZ a3, ra, Option.bind_some, if_true, ZbI b4, e3]
    exact ⟨y, rfl, hf, fun q hq => ⟨yq q hq, by rw [y3], by rw [y4]⟩, fun _ => hy, fun h => absurd h (by omega)⟩
  · -- a RATIO
    rw [if_pos k3] at ra
    have hu : Zun P (Zpl P c p) = 1 := by unfold Zun; rw [if_pos k3]
    have hlw : Zlw P (ZTs xs ts) (Zpl P c p) = ((ZTs xs ts).2.1 (Zpl P c p)).toInt := by unfold Zlw; rw [if_pos k3]
    have hhg : Zhg P (ZTs xs ts) (Zpl P c p) = ((ZTs xs ts).2.2 (Zpl P c p)).toInt := by unfold Zhg; rw [if_pos k3]
    obtain ⟨t1, t2, t3⟩ := (hT _ g1).2 k3
    rw [hu, hlw] at w1
    generalize ((ZTs xs ts).2.1 (Zpl P c p)).toInt = lo at *
    have fw : Zfr (fun _ _ => False) (ZKB c) xs (xs.1, zua xs.2 (1000 * (c + 1) + 3) p w) := Zfr.rfl.arr (by unfold ZKB; omega)
    obtain ⟨-, v, e2, v1⟩ := ZX_low (E := E) hP hC hs hS (h0.fr fw (by unfold ZKB; omega)) (h8' _ fw) (by rw [ZTs_fr fw hKB hts]; exact hT) hp
    rw [ZTs_fr fw hKB hts, hu, hhg] at v1
    generalize ((ZTs xs ts).2.2 (Zpl P c p)).toInt = hi at *
    have w1 : w.toInt = lo := by omega
    have v1 : v.toInt = hi := by omega
    have fv : Zfr (fun _ _ => False) (ZKB c) xs (xs.1, zua (zua xs.2 (1000 * (c + 1) + 3) p w) (1000 * (c + 1) + 4) p v) := fw.arr (by unfold ZKB; omega)
    -- upwards
    have L1 := Zl_ex (body := fX10_keepAt_L33 (Zl E (1000 * (c + 1))) (nI p) l g) (fun k a => ∃ y, a = ZW E sh y ∧ Zfr (fun _ _ => False) (ZKB c) xs y ∧ y.2 (1000 * (c + 1) + 2) = xs.2 (1000 * (c + 1) + 2) ∧ (∀ q, q ≠ p → y.2 (1000 * (c + 1) + 3) q = xs.2 (1000 * (c + 1) + 3) q ∧ y.2 (1000 * (c + 1) + 4) q = xs.2 (1000 * (c + 1) + 4) q) ∧ (y.2 (1000 * (c + 1) + 4) p).toInt = hi ∧ (y.2 (1000 * (c + 1) + 3) p).toInt = lo + (k : Nat) ∧ ∀ x : Int, lo ≤ x → x < lo + (k : Nat) → ¬ ZLok P (ZTs xs ts) c p x) (hi + 1 - lo).toNat
      (fun r => ∃ y, r = ZW E sh y ∧ Zfr (fun _ _ => False) (ZKB c) xs y ∧ y.2 (1000 * (c + 1) + 2) = xs.2 (1000 * (c + 1) + 2) ∧ (∀ q, q ≠ p → y.2 (1000 * (c + 1) + 3) q = xs.2 (1000 * (c + 1) + 3) q ∧ y.2 (1000 * (c + 1) + 4) q = xs.2 (1000 * (c + 1) + 4) q) ∧ (y.2 (1000 * (c + 1) + 4) p).toInt = hi ∧ ∃ a : Int, (y.2 (1000 * (c + 1) + 3) p).toInt = a ∧ lo ≤ a ∧ a ≤ hi + 1 ∧ (a ≤ hi → ZLok P (ZTs xs ts) c p a) ∧ ∀ x : Int, lo ≤ x → x < a → ¬ ZLok P (ZTs xs ts) c p x)
      (by
        rintro k a hk ⟨y, rfl, hf, y2, yq, yh, yl, yn⟩
        have o1 : (Zfa P c p * y.2 (1000 * (c + 1) + 3) p).toInt = (Zfa P c p).toInt * Zun P (Zpl P c p) * (lo + (k : Nat)) := by
          have hb := ZmulB (n := 180) g3 (b := lo + (k : Int)) ⟨by omega, by omega⟩
          rw [Zmul_i (by rw [yl]; omega) (by rw [yl]; omega), yl, hu, Int.mul_one]
        obtain ⟨b, q1, q2, q3⟩ := ag y hf _ _ (by rw [hu]; omega) (by rw [hu]; omega) o1
        have hlt : ¬ y.2 (1000 * (c + 1) + 4) p < y.2 (1000 * (c + 1) + 3) p := by rw [Int32.lt_iff_toInt_lt, yh, yl]; omega
        by_cases z : b = 0
        · simp (disch := omega) only [fX10_keepAt_L33, Zb8 a1, ZbI a2, ZbI b5, ZbI b6, Option.bind_some, if_neg hlt, hx y hf, q1, if_pos z]
          refine Or.inl ⟨_, rfl, _, rfl, hf.arr (by unfold ZKB; omega), (zua_n (by omega)).trans y2, fun q hq => ⟨(zua_sn hq).trans (yq q hq).1, ?_⟩, ?_, ?_, fun x x1 x2 => ?_⟩
          · simp only [zua_n (show 1000 * (c + 1) + 4 ≠ 1000 * (c + 1) + 3 by omega)]
            exact (yq q hq).2
          · simp only [zua_n (show 1000 * (c + 1) + 4 ≠ 1000 * (c + 1) + 3 by omega)]
            exact yh
          · simp only [zua_ss]
            rw [Zadd_i (by rw [one1, yl]; omega) (by rw [one1, yl]; omega), one1, yl]
            omega
          · by_cases e : x = lo + (k : Nat)
            · rw [e]
              exact fun h => by rw [q3.mpr h] at z; cases z
            · exact yn x x1 (by omega)
        · simp (disch := omega) only [fX10_keepAt_L33, Zb8 a1, ZbI a2, ZbI b5, ZbI b6, Option.bind_some, if_neg hlt, hx y hf, q1, if_neg z]
          exact Or.inr ⟨_, rfl, y, rfl, hf, y2, yq, yh, _, yl, by omega, by omega, fun _ => q3.mp (q2.resolve_left z), yn⟩)
      (by
        rintro a ⟨y, rfl, hf, y2, yq, yh, yl, yn⟩
        have hlt : y.2 (1000 * (c + 1) + 4) p < y.2 (1000 * (c + 1) + 3) p := by rw [Int32.lt_iff_toInt_lt, yh, yl]; omega
        simp (disch := omega) only [fX10_keepAt_L33, Zb8 a1, ZbI b5, ZbI b6, Option.bind_some, if_pos hlt]
        exact ⟨_, rfl, y, rfl, hf, y2, yq, yh, _, yl, by omega, by omega, fun h => absurd h (by omega), yn⟩)
      N (ZW E sh (xs.1, zua (zua xs.2 (1000 * (c + 1) + 3) p w) (1000 * (c + 1) + 4) p v)) (by omega) ⟨_, rfl, fv, (zua_n (by omega)).trans (zua_n (by omega)), fun q hq => ⟨by simp only [zua_n (show 1000 * (c + 1) + 3 ≠ 1000 * (c + 1) + 4 by omega), zua_sn hq], by simp only [zua_sn hq, zua_n (show 1000 * (c + 1) + 4 ≠ 1000 * (c + 1) + 3 by omega)]⟩, by simp only [zua_ss]; exact v1, by simp only [zua_n (show 1000 * (c + 1) + 3 ≠ 1000 * (c + 1) + 4 by omega), zua_ss]; omega, fun x x1 x2 => absurd x2 (by omega)⟩
    obtain ⟨r, e3, y, rfl, hf, y2, yq, yh, A, yl, A1, A2, A3, A4⟩ := L1
    -- downwards
    have L2 := Zl_ex (body := fX10_keepAt_L84 (Zl E (1000 * (c + 1))) (nI p) l g) (fun k a => ∃ z, a = ZW E sh z ∧ Zfr (fun _ _ => False) (ZKB c) xs z ∧ z.2 (1000 * (c + 1) + 2) = xs.2 (1000 * (c + 1) + 2) ∧ (∀ q, q ≠ p → z.2 (1000 * (c + 1) + 3) q = xs.2 (1000 * (c + 1) + 3) q ∧ z.2 (1000 * (c + 1) + 4) q = xs.2 (1000 * (c + 1) + 4) q) ∧ (z.2 (1000 * (c + 1) + 3) p).toInt = A ∧ (z.2 (1000 * (c + 1) + 4) p).toInt = hi - (k : Nat) ∧ ∀ x : Int, hi - (k : Nat) < x → x ≤ hi → ¬ ZLok P (ZTs xs ts) c p x) (hi + 1 - A).toNat
      (fun r => ∃ z, r = ZW E sh z ∧ Zfr (fun _ _ => False) (ZKB c) xs z ∧ z.2 (1000 * (c + 1) + 2) = xs.2 (1000 * (c + 1) + 2) ∧ (∀ q, q ≠ p → z.2 (1000 * (c + 1) + 3) q = xs.2 (1000 * (c + 1) + 3) q ∧ z.2 (1000 * (c + 1) + 4) q = xs.2 (1000 * (c + 1) + 4) q) ∧ (z.2 (1000 * (c + 1) + 3) p).toInt = A ∧ ∃ b : Int, (z.2 (1000 * (c + 1) + 4) p).toInt = b ∧ A - 1 ≤ b ∧ b ≤ hi ∧ (A ≤ b → ZLok P (ZTs xs ts) c p b) ∧ ∀ x : Int, b < x → x ≤ hi → ¬ ZLok P (ZTs xs ts) c p x)
      (by
        rintro k a hk ⟨z, rfl, hf, y2, yq, yl, yh, yn⟩
        have o1 : (Zfa P c p * z.2 (1000 * (c + 1) + 4) p).toInt = (Zfa P c p).toInt * Zun P (Zpl P c p) * (hi - (k : Nat)) := by
          have hb := ZmulB (n := 180) g3 (b := hi - (k : Int)) ⟨by omega, by omega⟩
          rw [Zmul_i (by rw [yh]; omega) (by rw [yh]; omega), yh, hu, Int.mul_one]
        obtain ⟨b, q1, q2, q3⟩ := ag z hf _ _ (by rw [hu]; omega) (by rw [hu]; omega) o1
        have hlt : ¬ z.2 (1000 * (c + 1) + 4) p < z.2 (1000 * (c + 1) + 3) p := by rw [Int32.lt_iff_toInt_lt, yh, yl]; omega
        by_cases zb : b = 0
        · simp (disch := omega) only [fX10_keepAt_L84, Zb8 a1, ZbI a2, ZbI b5, ZbI b6, Option.bind_some, if_neg hlt, hx z hf, q1, if_pos zb]
          refine Or.inl ⟨_, rfl, _, rfl, hf.arr (by unfold ZKB; omega), (zua_n (by omega)).trans y2, fun q hq => ⟨?_, (zua_sn hq).trans (yq q hq).2⟩, ?_, ?_, fun x x1 x2 => ?_⟩
          · simp only [zua_n (show 1000 * (c + 1) + 3 ≠ 1000 * (c + 1) + 4 by omega)]
            exact (yq q hq).1
          · simp only [zua_n (show 1000 * (c + 1) + 3 ≠ 1000 * (c + 1) + 4 by omega)]
            exact yl
          · simp only [zua_ss]
            rw [Zsub_i (by rw [one1, yh]; omega) (by rw [one1, yh]; omega), one1, yh]
            omega
          · by_cases e : x = hi - (k : Nat)
            · rw [e]
              exact fun h => by rw [q3.mpr h] at zb; cases zb
            · exact yn x (by omega) x2
        · simp (disch := omega) only [fX10_keepAt_L84, Zb8 a1, ZbI a2, ZbI b5, ZbI b6, Option.bind_some, if_neg hlt, hx z hf, q1, if_neg zb]
          exact Or.inr ⟨_, rfl, z, rfl, hf, y2, yq, yl, _, yh, by omega, by omega, fun _ => q3.mp (q2.resolve_left zb), yn⟩)
      (by
        rintro a ⟨z, rfl, hf, y2, yq, yl, yh, yn⟩
        have hlt : z.2 (1000 * (c + 1) + 4) p < z.2 (1000 * (c + 1) + 3) p := by rw [Int32.lt_iff_toInt_lt, yh, yl]; omega
        simp (disch := omega) only [fX10_keepAt_L84, Zb8 a1, ZbI b5, ZbI b6, Option.bind_some, if_pos hlt]
        exact ⟨_, rfl, z, rfl, hf, y2, yq, yl, _, yh, by omega, by omega, fun h => absurd h (by omega), yn⟩)
      N (ZW E sh y) (by omega) ⟨y, rfl, hf, y2, yq, yl, by rw [yh]; omega, fun x x1 x2 => absurd x1 (by omega)⟩
    obtain ⟨r, e4, z, rfl, hfz, z2, zq, zl, B, zh, B1, B2, B3, B4⟩ := L2
    simp (disch := omega) only [fX10_keepAt, Zb8 a1, ZbZ a3, ra, Option.bind_some, Zne10, if_false, e1, ZbI b5, e2, ZbI b6, e3, e4]
    refine ⟨z, rfl, hfz, fun q hq => ⟨by rw [z2], zq q hq⟩, fun h => absurd h (by omega), fun _ => ?_⟩
    rw [zl, zh]
    refine ⟨A1, B2, fun x x1 x2 => ⟨fun h => ⟨Int.not_lt.mp fun g => A4 x x1 g h, Int.not_lt.mp fun g => B4 x g x2 h⟩, fun ⟨h1, h2⟩ => ZLok_conv (A3 (by omega)) (B3 (by omega)) h1 h2⟩, ?_⟩
    rcases Int.lt_or_le hi A with q | q
    · exact Or.inr ⟨by omega, by omega⟩
    · refine Or.inl ?_
      rcases Int.lt_or_le B A with q2 | q2
      · exact absurd (A3 q) (B4 A q2 q)
      · exact q2
end K8
