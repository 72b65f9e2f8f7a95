/-! X: a constraint of any sort keeps; what is kept is taken -/
set_option maxRecDepth 100000
/-- X's constraint c is the problem's -/
def ZXcon (sh : Nat → Option Zsh) (xs : Zxs) (P : ZP) (c : Nat) : Prop := ZX0 sh xs P c ∧
  (Zso P c = 0 → ZX8 sh xs P c) ∧
  (Zso P c = 1 → sh (1000 * (c + 1)) = some (Zo9 (1000 * (c + 1) + 1) (1000 * (c + 1) + 2) (1000 * (c + 1) + 3) (1000 * (c + 1) + 4) (1000 * (c + 1) + 8)) ∧ sh (1000 * (c + 1) + 8) = some (Zia 0 32)) ∧
  (Zso P c = 2 → sh (1000 * (c + 1)) = some (Zo10 (1000 * (c + 1) + 1) (1000 * (c + 1) + 2) (1000 * (c + 1) + 3) (1000 * (c + 1) + 4))) ∧
  (Zso P c = 3 → ZX3 sh xs P c) ∧
  (Zso P c = 4 → sh (1000 * (c + 1)) = some (Zo12 (1000 * (c + 1) + 1) (1000 * (c + 1) + 2) (1000 * (c + 1) + 3) (1000 * (c + 1) + 4))) ∧
  (Zso P c = 5 → ZX5 sh xs P c) ∧ (Zso P c = 6 → ZX6 sh xs P c) ∧ (7 ≤ Zso P c → ZX7 sh xs P c)
/-- X's static cells -/
def Zbase (E : Ze) (sh : Nat → Option Zsh) : Prop := sh 1 = some (Zmain sh) ∧ (E.1 0 = Zl E 50301 ∧ sh 50301 = some (Zia 6 3)) ∧ ZS sh 28 ∧ ZS sh 36 ∧ ZDc sh 14 ∧ ZDc sh 54 ∧ (∀ i, i < 4 → sh (32 + i) = some (Zia 0 320)) ∧ (∀ i, i < 3 → sh (40 + i) = some (Zia 0 10)) ∧ sh 43 = some (Zra 4 10 fun i => some (44 + i)) ∧ (∀ i, i < 10 → sh (44 + i) = some (Zia 0 32)) ∧ sh 58 = some (Zia 0 10) ∧ sh 59 = some (Zia 0 10)
/-- X holds a problem -/
def ZXP (sh : Nat → Option Zsh) (xs : Zxs) (P : ZP) : Prop := ZXv sh xs P ∧ (∃ e, ZLi sh xs 4 e (Znc P) fun c => 1000 * (c + 1)) ∧ (xs.2 50301 0 = 15 ∧ xs.2 50301 1 = 31 ∧ xs.2 50301 2 = 14) ∧ ∀ c, c < Znc P → ZXcon sh xs P c
/-- what a solve in the store at ts may change -/
def ZRA (P : ZP) (ts t f : Nat) : Prop := (t = ts ∧ (f = 3 ∨ f = 4)) ∨ (t = 1 ∧ f = 15) ∨ ∃ c, c < Znc P ∧ ZKA P c t f
def ZRB (P : ZP) (ts u : Nat) : Prop := u = ts + 1 ∨ u = ts + 2 ∨ u = ts + 3 ∨ u = 40 ∨ u = 41 ∨ u = 42 ∨ (44 ≤ u ∧ u < 54) ∨ (32 ≤ u ∧ u < 36) ∨ ∃ c, c < Znc P ∧ ZKB c u
theorem ZKA_no {P : ZP} {c t f : Nat} (h : ¬ (t % 1000 = 0 ∧ 1000 ≤ t)) : ¬ ZKA P c t f := fun ⟨_, e, _⟩ => h (by subst e; omega)
theorem ZKB_no {c u : Nat} (h : u < 1000 ∨ 1000 * 25 ≤ u) (hc : c < 24) : ¬ ZKB c u := by unfold ZKB; omega
theorem ZXP.fr {sh : Nat → Option Zsh} {xs xs' : Zxs} {P : ZP} {ts : Nat} (h : ZXP sh xs P) (hP : ZPok P) (hts : ts = 28 ∨ ts = 36) (hf : Zfr (ZRA P ts) (ZRB P ts) xs xs') : ZXP sh xs' P := by
  obtain ⟨h1, ⟨e, h2⟩, h3, h4⟩ := h
  have hnc := hP.2.1
  have nA : ∀ t f, t ≠ ts → t ≠ 1 → ¬ (t % 1000 = 0 ∧ 1000 ≤ t) → ¬ ZRA P ts t f := by
    rintro t f a b d (q | q | ⟨c, -, q⟩)
    · exact a q.1
    · exact b q.1
    · exact ZKA_no d q
  have nB : ∀ u, 59 < u → u < 1000 ∨ 1000 * 25 ≤ u → ¬ ZRB P ts u := by
    rintro u a b (q | q | q | q | q | q | q | q | ⟨c, hc, q⟩)
    any_goals omega
    exact ZKB_no b (by omega) q
  have nB2 : ∀ u, u = 19 ∨ u = 20 → ¬ ZRB P ts u := by
    rintro u a (q | q | q | q | q | q | q | q | ⟨c, hc, q⟩)
    any_goals omega
    exact ZKB_no (by omega) (show c < 24 by omega) q
  have nB1 : ∀ c i, c < Znc P → i = 1 ∨ i = 5 ∨ i = 6 → ¬ ZRB P ts (1000 * (c + 1) + i) := by
    rintro c i hc a (q | q | q | q | q | q | q | q | ⟨c', hc', q⟩)
    any_goals omega
    unfold ZKB at q
    omega
  have nAc : ∀ c i f, c < Znc P → i < 1000 → ¬ (i = 0 ∧ (Zso P c = 1 ∧ f = 5)) → ¬ ZRA P ts (1000 * (c + 1) + i) f := by
    rintro c i f hc hi a (q | q | ⟨c', hc', q⟩)
    · omega
    · omega
    · obtain ⟨q1, q2, q3⟩ := q
      have : c' = c := by omega
      subst this
      exact a ⟨by omega, q1, q3⟩
  have nAL : ∀ t f, 100000 ≤ t → ¬ ZRA P ts t f := by
    rintro t f a (q | q | ⟨c', hc', q⟩)
    · omega
    · omega
    · obtain ⟨q1, q2, q3⟩ := q
      omega
  refine ⟨h1.fr hP hf (nA 2 2 (by omega) (by omega) (by omega)) fun v f hv => nA _ _ (by omega) (by omega) (by omega), ⟨e, hf.li (nA 4 2 (by omega) (by omega) (by omega)) h2⟩, by rw [hf.2 50301 (nB _ (by omega) (by omega))]; exact h3, fun c hc => ?_⟩
  obtain ⟨c0, c1, c2, c3, c4, c5, c6, c7, c8⟩ := h4 c hc
  have hC := hP.2.2.2.2.2 c hc
  refine ⟨c0.fr hf (nB1 c 1 hc (by omega)), fun hs => (c1 hs).fr hf (fun f hf' => nAc c 0 f hc (by omega) (by omega)) ⟨nB1 c 5 hc (by omega), nB1 c 6 hc (by omega)⟩, c2, c3, fun hs => (c4 hs).fr (hC.2.2.2.2.2.2.1 hs).2.1 hf (fun i f hi hn => nAc c i f hc hi (by omega)) nAL, c5, fun hs => (c6 hs).fr hC.2.1 hf (fun i f hi hn => nAc c i f hc hi (by omega)) nAL, fun hs => ?_, fun hs => (c8 hs).fr hf (nAc c 5 0 hc (by omega) (by omega)) fun r hr => ?_⟩
  · obtain ⟨g1, g2, g3, g4⟩ := c7 hs
    refine ⟨g1, ?_, g3, ?_⟩
    · exact (hf.1 (1000 * (c + 1)) 5 (nAc c 0 5 hc (by omega) (by omega))).trans g2
    · rw [hf.2 _ (nB2 19 (by omega)), hf.2 _ (nB2 20 (by omega))]
      exact g4
  · rintro (q | q | ⟨c', hc', q1, q2, q3⟩)
    · omega
    · omega
    · omega
section TK
variable {sh : Nat → Option Zsh} {xs : Zxs} {P : ZP} {E : Ze} {ts c : Nat}
theorem ZX_fkeep (hP : ZPok P) (hc : c < Znc P) (hS : ZS sh ts) (hts : ts + 4 ≤ 100) (hb : E.1 0 = Zl E 50301 ∧ sh 50301 = some (Zia 6 3)) (h15 : xs.2 50301 0 = 15) (hx : ZXcon sh xs P c) (hT : ZTok P (ZTs xs ts)) :
    ∀ N : Nat, 1000 ≤ N → ∃ xs', fkeep N (ZW E sh xs) (Zl E (1000 * (c + 1))) (Zl E ts) = some (ZW E sh xs') ∧ Zfr (ZKA P c) (ZKB c) xs xs' ∧ ZKs P (ZTs xs ts) c xs' ∧ ZKr P (ZTs xs ts) c xs' := by
  intro N hN
  have hC := hP.2.2.2.2.2 c hc
  obtain ⟨c0, c1, c2, c3, c4, c5, c6, c7, c8⟩ := hx
  have fm : ∀ {y : Zxs}, Zfr (fun _ _ => False) (ZKB c) xs y → Zfr (ZKA P c) (ZKB c) xs y := fun h => h.mono (fun _ _ q => absurd q (fun q => q)) fun _ q => q
  have nr : Zso P c ≠ 0 → ∀ y, ZKr P (ZTs xs ts) c y := fun h y g => absurd g h
  have s17 := hC.2.2.2.1
  have hcase : Zso P c = 0 ∨ Zso P c = 1 ∨ Zso P c = 2 ∨ Zso P c = 3 ∨ Zso P c = 4 ∨ Zso P c = 5 ∨ Zso P c = 6 ∨ 7 ≤ Zso P c := by omega
  rcases hcase with hs | hs | hs | hs | hs | hs | hs | hs
  · obtain ⟨y, e, f, k1, k2⟩ := ZX_keep0 (E := E) hP hc hs hS hts c0 (c1 hs) hT ⟨hb.1, hb.2, h15⟩ N hN
    simp only [fkeep, Zb8 (c1 hs).1, Option.bind_some, if_true]
    exact ⟨y, e, fm f, k1, k2⟩
  · obtain ⟨g1, g2⟩ := c2 hs
    obtain ⟨y, e, f, k1⟩ := ZX_keep1 (E := E) hP hc hs hS hts c0 g1 g2 hT ⟨hb.1, hb.2, h15⟩ N hN
    simp only [fkeep, Zb9 g1, Option.bind_some, ↓reduceIte, Option.bind_some, reduceCtorEq, Nat.reduceAdd, Nat.reduceMul, Nat.reduceEqDiff]
    exact ⟨y, e, f, k1, nr (by omega) y⟩
  · obtain ⟨y, e, f, k1⟩ := ZX_keep2 (E := E) hP hc hs hS hts c0 (c3 hs) N hN
    simp only [fkeep, Zb10 (c3 hs), Option.bind_some, ↓reduceIte, Option.bind_some, reduceCtorEq, Nat.reduceAdd, Nat.reduceMul, Nat.reduceEqDiff]
    exact ⟨y, e, fm (f.mono (fun _ _ q => q) fun u q => Or.inl q), k1, nr (by omega) y⟩
  · obtain ⟨y, e, f, k1⟩ := ZX_keep3 (E := E) hP hc hs hS hts c0 (c4 hs) N hN
    simp only [fkeep, Zb11 (c4 hs).1, Option.bind_some, ↓reduceIte, Option.bind_some, reduceCtorEq, Nat.reduceAdd, Nat.reduceMul, Nat.reduceEqDiff]
    exact ⟨y, e, fm f, k1, nr (by omega) y⟩
  · obtain ⟨y, e, f, k1⟩ := ZX_keep4 (E := E) hP hc hs hS hts c0 (c5 hs) N hN
    simp only [fkeep, Zb12 (c5 hs), Option.bind_some, ↓reduceIte, Option.bind_some, reduceCtorEq, Nat.reduceAdd, Nat.reduceMul, Nat.reduceEqDiff]
    exact ⟨y, e, fm f, k1, nr (by omega) y⟩
  · obtain ⟨y, e, f, k1⟩ := ZX_keep5 (E := E) hP hc hs hS hts c0 (c6 hs) N hN
    simp only [fkeep, Zb14 (c6 hs).1, Option.bind_some, ↓reduceIte, Option.bind_some, reduceCtorEq, Nat.reduceAdd, Nat.reduceMul, Nat.reduceEqDiff]
    exact ⟨y, e, fm f, k1, nr (by omega) y⟩
  · obtain ⟨y, e, f, k1⟩ := ZX_keep6 (E := E) (ts := ts) hP hc hs c0 (c7 hs) N hN
    simp only [fkeep, Zb15 (c7 hs).1, Option.bind_some, ↓reduceIte, Option.bind_some, reduceCtorEq, Nat.reduceAdd, Nat.reduceMul, Nat.reduceEqDiff]
    exact ⟨y, e, fm f, k1, nr (by omega) y⟩
  · obtain ⟨y, e, f, k1⟩ := ZX_keep7 (E := E) hP hc hs hS hts c0 (c8 hs) N hN
    obtain ⟨rt, g1, -⟩ := c8 hs
    simp only [fkeep, Zb13 g1, Option.bind_some, ↓reduceIte, Option.bind_some, reduceCtorEq, Nat.reduceAdd, Nat.reduceMul, Nat.reduceEqDiff]
    exact ⟨y, e, fm f, k1, nr (by omega) y⟩
/-- taking what is kept at a place: a set -/
theorem ZX_takeS (hP : ZPok P) (hc : c < Znc P) (hb : Zbase E sh) (hv : ZXv sh xs P) (h0 : ZX0 sh xs P c) {p v : Nat} (hp : p < Zmn P c) (hpl : Zpl P c (Zpm P c p) = v) (hk : Zkd P v ≤ 2) :
    ∀ N : Nat, 1000 ≤ N → ∃ y, fX1_take N (ZW E sh xs) (Zl E 1) (Zl E (1000 * (c + 1))) (nI p) (nI c) = some (ZW E sh y) ∧ y.1 = xs.1 ∧ (∀ u, u ≠ 40 → u ≠ 44 + v → y.2 u = xs.2 u) ∧ (∀ w, w ≠ v → y.2 40 w = xs.2 40 w) ∧ (∀ k, k < 32 → (Zt (y.2 40 v) k = true ↔ Zt (xs.2 40 v) k = true ∧ Zt (xs.2 (1000 * (c + 1) + 2) p) k = true)) ∧ ∀ k, k < 32 → y.2 (44 + v) k = if Zt (xs.2 40 v) k = true ∧ ¬ Zt (xs.2 (1000 * (c + 1) + 2) p) k = true then nI c else xs.2 (44 + v) k := by
  intro N hN
  have hC := hP.2.2.2.2.2 c hc
  have m8 := hC.2.1
  have hn10 := hP.1
  have hvl : v < Znv P := by rw [← hpl]; exact hC.2.2.1 _ (Zpm_lt hC hp)
  have hr := ZxRat hv hP hvl E
  rw [if_neg (by omega)] at hr
  obtain ⟨ci, fs, d1, d2, d3, d4, d5, d6, d7⟩ := h0
  have ep := d7 p hp
  rw [hpl] at ep
  obtain ⟨b1, b2, b3, b4, b5, b6, b7, b8, b9, b10, b11⟩ := hb
  have a40 := b8 0 (by omega)
  rw [Nat.add_zero] at a40
  have a44 := b10 v (by omega)
  have hx9 : ∀ k, k < 32 → (Zt (xs.2 40 v &&& (xs.2 (1000 * (c + 1) + 2) p ^^^ (-1))) k = true ↔ Zt (xs.2 40 v) k = true ∧ ¬ Zt (xs.2 (1000 * (c + 1) + 2) p) k = true) := by
    intro k hk
    rw [Zt_and, Zt_not]
    simp [hk]
  generalize hx : xs.2 40 v &&& (xs.2 (1000 * (c + 1) + 2) p ^^^ (-1)) = x9 at hx9
  have zr : ∀ x : Zxs, zaR (ZW E sh x) (Zl E 43) (nI v) = some (Zl E (44 + v)) := fun x => ZbR b9 (by omega) (by omega) (show v < 10 by omega) rfl E x
  have L := Zl_ex (body := fX1_take_L85 (Zl E 1) (nI c) (nI v) x9) (fun i a => ∃ y, a = (ZW E sh y, nI i) ∧ y.1 = xs.1 ∧ (∀ u, u ≠ 44 + v → y.2 u = xs.2 u) ∧ ∀ k, k < 32 → y.2 (44 + v) k = if k < i ∧ Zt x9 k = true then nI c else xs.2 (44 + v) k) 32
    (fun r => ∃ y, r = ZW E sh y ∧ y.1 = xs.1 ∧ (∀ u, u ≠ 44 + v → y.2 u = xs.2 u) ∧ ∀ k, k < 32 → y.2 (44 + v) k = if Zt x9 k = true then nI c else xs.2 (44 + v) k)
    (by
      rintro i a hi ⟨y, rfl, h1, h2, h3⟩
      by_cases q : ((x9.toUInt32 >>> ((nI i).toUInt32 &&& Int32.toUInt32 31)).toInt32) = 0
      · simp only [fX1_take_L85, if_pos q]
        refine Or.inr ⟨_, rfl, y, rfl, h1, h2, fun k hk => ?_⟩
        rw [h3 k hk]
        by_cases g : k < i
        · simp only [g, true_and]
        · have : Zt x9 k = false := by
            have := Zt_eq0.mp q (k - i) (by omega)
            rw [Zt_ushr hi] at this
            rwa [show i + (k - i) = k by omega] at this
          simp [this]
      · have h32 : ¬ (32 : Int32) ≤ nI i := nI_ge (b := 32) hi (by decide)
        by_cases g : Zt x9 i = true
        · simp (disch := omega) only [fX1_take_L85, if_neg q, if_neg h32, Zhas_t hi g, Zne10, if_false, Option.bind_some, Zb0 b1, zr, ZbI a44, nI_1]
          refine Or.inl ⟨_, rfl, _, rfl, h1, fun u hu => (zua_n hu).trans (h2 u hu), fun k hk => ?_⟩
          simp only [zua_s]
          by_cases e : k = i
          · subst e
            rw [if_pos rfl, if_pos ⟨by omega, g⟩]
          · rw [if_neg e, h3 k hk]
            have : k < i ↔ k < i + 1 := by omega
            simp only [this]
        · simp (disch := omega) only [fX1_take_L85, if_neg q, if_neg h32, Zhas_f hi g, if_true, Option.bind_some, nI_1]
          refine Or.inl ⟨_, rfl, _, rfl, h1, h2, fun k hk => ?_⟩
          rw [h3 k hk]
          by_cases e : k = i
          · subst e
            simp [g]
          · have : k < i ↔ k < i + 1 := by omega
            simp only [this])
    (by
      rintro a ⟨y, rfl, h1, h2, h3⟩
      by_cases q : ((x9.toUInt32 >>> ((nI 32).toUInt32 &&& Int32.toUInt32 31)).toInt32) = 0
      · simp only [fX1_take_L85, if_pos q]
        refine ⟨_, rfl, y, rfl, h1, h2, fun k hk => ?_⟩
        rw [h3 k hk]
        simp [hk]
      · simp only [fX1_take_L85, if_neg q, if_pos (show (32 : Int32) ≤ nI 32 by decide)]
        refine ⟨_, rfl, y, rfl, h1, h2, fun k hk => ?_⟩
        rw [h3 k hk]
        simp [hk])
    N (ZW E sh xs, 0) (by omega) ⟨xs, rfl, rfl, fun _ _ => rfl, fun k hk => by simp⟩
  obtain ⟨r, e1, y, rfl, h1, h2, h3⟩ := L
  have e40 : y.2 40 = xs.2 40 := h2 40 (by omega)
  have et2 : y.2 (1000 * (c + 1) + 2) = xs.2 (1000 * (c + 1) + 2) := h2 _ (by omega)
  simp (disch := omega) only [fX1_take, ZbC d1 d2, ZbI d3, ep, Zb0 b1, hr, Option.bind_some, if_true, ZbI a40, ZbI d4, hx, e1, e40, et2]
  refine ⟨_, rfl, h1, fun u u1 u2 => (zua_n u1).trans (h2 u u2), fun w hw => ?_, fun k hk => ?_, fun k hk => ?_⟩
  · simp only [zua_sn hw, e40]
  · simp only [zua_ss]
    rw [Zt_and, Bool.and_eq_true]
  · simp only [zua_n (show 44 + v ≠ 40 by omega)]
    rw [h3 k hk]
    simp only [hx9 k hk]
/-- taking what is kept at a place: an interval -/
theorem ZX_takeR (hP : ZPok P) (hc : c < Znc P) (hb : Zbase E sh) (hv : ZXv sh xs P) (h0 : ZX0 sh xs P c) {p v : Nat} (hp : p < Zmn P c) (hpl : Zpl P c (Zpm P c p) = v) (hk : Zkd P v = 3) :
    ∀ N : Nat, 1000 ≤ N → ∃ y, fX1_take N (ZW E sh xs) (Zl E 1) (Zl E (1000 * (c + 1))) (nI p) (nI c) = some (ZW E sh y) ∧ y.1 = xs.1 ∧ (∀ u, u ≠ 41 → u ≠ 42 → y.2 u = xs.2 u) ∧ (∀ w, w ≠ v → y.2 41 w = xs.2 41 w ∧ y.2 42 w = xs.2 42 w) ∧ y.2 41 v = zmax (xs.2 (1000 * (c + 1) + 3) p) (xs.2 41 v) ∧ y.2 42 v = zmin (xs.2 (1000 * (c + 1) + 4) p) (xs.2 42 v) := by
  intro N hN
  have hC := hP.2.2.2.2.2 c hc
  have m8 := hC.2.1
  have hn10 := hP.1
  have hvl : v < Znv P := by rw [← hpl]; exact hC.2.2.1 _ (Zpm_lt hC hp)
  have hr := ZxRat hv hP hvl E
  rw [if_pos hk] at hr
  obtain ⟨ci, fs, d1, d2, d3, d4, d5, d6, d7⟩ := h0
  have ep := d7 p hp
  rw [hpl] at ep
  obtain ⟨b1, b2, b3, b4, b5, b6, b7, b8, b9, b10, b11⟩ := hb
  have a41 := b8 1 (by omega)
  have a42 := b8 2 (by omega)
  simp only [Nat.reduceAdd] at a41 a42
  simp (disch := omega) only [fX1_take, ZbC d1 d2, ZbI d3, ep, Zb0 b1, hr, Option.bind_some, Zne10, if_false, ZbI a41, ZbI a42, ZbI d5, ZbI d6, zua_n]
  refine ⟨_, rfl, rfl, fun u u1 u2 => (zua_n u2).trans (zua_n u1), fun w hw => ⟨?_, ?_⟩, ?_, ?_⟩
  · simp only [zua_n (show 41 ≠ 42 by decide), zua_sn hw]
  · simp only [zua_sn hw, zua_n (show 42 ≠ 41 by decide)]
  · simp only [zua_n (show 41 ≠ 42 by decide), zua_ss]
  · simp only [zua_ss]
end TK
