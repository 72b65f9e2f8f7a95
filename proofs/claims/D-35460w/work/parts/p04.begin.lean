/-! X: its variables, stores' beginnings -/
set_option maxRecDepth 100000
abbrev Zmain (sh : Nat → Option Zsh) : Zsh := Zo0 2 4 (Zfld sh 1 2) (Zfld sh 1 3) (Zfld sh 1 4) (Zfld sh 1 5) 14 18 23 28 32 33 34 35 36 40 41 42 43 54 58 59 60
/-- a store at t, decisions at t, trees at t -/
def ZS (sh : Nat → Option Zsh) (t : Nat) : Prop := sh t = some (Zo3 (t + 1) (t + 2) (t + 3)) ∧ sh (t + 1) = some (Zia 0 10) ∧ sh (t + 2) = some (Zia 0 10) ∧ sh (t + 3) = some (Zia 0 10)
def ZDc (sh : Nat → Option Zsh) (t : Nat) : Prop := sh t = some (Zo1 (t + 1) (t + 2) (t + 3)) ∧ sh (t + 1) = some (Zia 0 413) ∧ sh (t + 2) = some (Zia 0 413) ∧ sh (t + 3) = some (Zia 1 413)
def ZTr (sh : Nat → Option Zsh) (t : Nat) : Prop := sh t = some (Zo2 (t + 1) (t + 2) (t + 3) (t + 4)) ∧ sh (t + 1) = some (Zia 0 16) ∧ sh (t + 2) = some (Zia 0 16) ∧ sh (t + 3) = some (Zia 0 16) ∧ sh (t + 4) = some (Zia 0 16)
/-- X's variables are those of a problem -/
def ZXv (sh : Nat → Option Zsh) (xs : Zxs) (P : ZP) : Prop := sh 1 = some (Zmain sh) ∧ (∃ e, ZLi sh xs 2 e (Znv P) fun i => 100 + i) ∧ ∀ v, v < Znv P → sh (100 + v) = some Zo5 ∧ xs.1 (100 + v) 0 = nI (Zkd P v) ∧ (Zkd P v ≤ 2 → xs.1 (100 + v) 1 = Ztd P v) ∧ (Zkd P v = 3 → xs.1 (100 + v) 2 = Zfm P v ∧ xs.1 (100 + v) 3 = Zto P v)
theorem ZXv.fr {sh : Nat → Option Zsh} {xs xs' : Zxs} {P : ZP} {A : Nat → Nat → Prop} {B : Nat → Prop} (h : ZXv sh xs P) (hP : ZPok P) (hf : Zfr A B xs xs') (hA2 : ¬ A 2 2) (hA : ∀ v f, v < 10 → ¬ A (100 + v) f) : ZXv sh xs' P := by
  obtain ⟨h1, ⟨e, h2⟩, h3⟩ := h
  have hn := hP.1
  refine ⟨h1, ⟨e, hf.li hA2 h2⟩, fun v hv => ?_⟩
  have q : ∀ f, xs'.1 (100 + v) f = xs.1 (100 + v) f := fun f => hf.1 _ _ (hA v f (by omega))
  rw [q, q, q, q]
  exact h3 v hv
theorem ZxRat {sh : Nat → Option Zsh} {xs : Zxs} {P : ZP} (h : ZXv sh xs P) (hP : ZPok P) {v : Nat} (hv : v < Znv P) (E : Ze) : fX1_isRatio (ZW E sh xs) (Zl E 1) (nI v) = some (if Zkd P v = 3 then 1 else 0) := by
  obtain ⟨h1, ⟨e, h2⟩, h3⟩ := h
  obtain ⟨g1, g2, -⟩ := h3 v hv
  have hk := hP.2.2.1 v hv
  simp only [fX1_isRatio, fX6_kind, Zb0 h1, ZLis h2, ZLget h2 E hv, Zb5 g1, Option.bind_some, g2]
  by_cases q : Zkd P v = 3
  · rw [if_pos q, if_pos (by rw [q]; rfl)]
  · rw [if_neg q, if_neg (by rw [Zlit 3, nI_eq (by omega) (by omega)]; exact q)]
theorem ZxNv {sh : Nat → Option Zsh} {xs : Zxs} {P : ZP} (h : ZXv sh xs P) (E : Ze) : zgR [0] 0 (ZW E sh xs) (Zl E 1) = some (Zl E 2) ∧ zis (ZW E sh xs) (Zl E 2) 18 = some () ∧ fJ2_size (ZW E sh xs) (Zl E 2) = some (nI (Znv P)) := by
  obtain ⟨h1, ⟨e, h2⟩, h3⟩ := h
  exact ⟨by simp only [Zb0 h1], ZLis h2 E, ZLsize h2 E⟩
/-- a decision leaves a value -/
def Zdl (dk : Nat → Nat) (dh : Nat → Prop) (d k : Nat) : Prop := dh d ↔ k = dk d
/-- sets with which a store begins -/
def ZbS (P : ZP) (n : Nat) (cnt : Nat → Prop) (dv dk : Nat → Nat) (dh : Nat → Prop) (S : Nat → Int32) : Prop := ∀ v, v < Znv P → Zkd P v ≤ 2 → ∀ k, k < 32 → (Zt (S v) k = true ↔ Zt (Ztd P v) k = true ∧ ∀ d, d < n → cnt d → dv d = v → Zdl dk dh d k)
/-- decisions at t: n of them -/
def ZXd (xs : Zxs) (t n : Nat) (dv dk : Nat → Nat) (dh : Nat → Prop) : Prop := xs.1 t 3 = nI n ∧ n ≤ 413 ∧ ∀ d, d < n → xs.2 (t + 1) d = nI (dv d) ∧ xs.2 (t + 2) d = nI (dk d) ∧ dk d < 32 ∧ (xs.2 (t + 3) d = 0 ∨ xs.2 (t + 3) d = 1) ∧ (xs.2 (t + 3) d = 1 ↔ dh d)
theorem ZX_left {sh : Nat → Option Zsh} {xs : Zxs} {t n : Nat} {dv dk : Nat → Nat} {dh : Nat → Prop} (hD : ZDc sh t) (h : ZXd xs t n dv dk dh) {d : Nat} (hd : d < n) (x : Int32) (E : Ze) : ∃ y, fX2_left (ZW E sh xs) (Zl E t) (nI d) x = some y ∧ ∀ k, k < 32 → (Zt y k = true ↔ Zt x k = true ∧ Zdl dk dh d k) := by
  obtain ⟨a1, a2, a3, a4⟩ := hD
  obtain ⟨b1, b2, b3⟩ := h
  obtain ⟨c1, c2, c3, c4, c5⟩ := b3 d hd
  simp (disch := omega) only [fX2_left, Zb1 a1, ZbI a3, ZbZ a4, Option.bind_some, c2]
  by_cases q : xs.2 (t + 3) d = 0
  · rw [if_pos q]
    refine ⟨_, rfl, fun k hk => ?_⟩
    have hn : ¬ dh d := fun g => by rw [c5.mpr g] at q; cases q
    rw [Zt_and, Zt_not, Zt_one c3]
    simp [hk, Zdl, hn]
  · rw [if_neg q]
    refine ⟨_, rfl, fun k hk => ?_⟩
    have hn : dh d := c5.mp (c4.resolve_left q)
    rw [Zt_and, Zt_one c3]
    simp [Zdl, hn]
/-- a store's begin -/
theorem ZX_begin {sh : Nat → Option Zsh} {xs : Zxs} {P : ZP} {E : Ze} {ts td n : Nat} {taken : Int32} {dv dk : Nat → Nat} {dh : Nat → Prop} (hP : ZPok P) (hv : ZXv sh xs P) (hS : ZS sh ts) (hD : ZDc sh td) (hd : ZXd xs td n dv dk dh) (hdv : ∀ d, d < n → dv d < Znv P) (hap : ts + 4 ≤ td ∨ td + 4 ≤ ts) (h99 : ts + 4 ≤ 100) :
    ∀ N : Nat, 1000 ≤ N → ∃ xs', fX1_begin N (ZW E sh xs) (Zl E 1) (Zl E ts) (Zl E td) taken = some (ZW E sh xs') ∧ Zfr (fun _ _ => False) (fun t => t = ts + 1 ∨ t = ts + 2 ∨ t = ts + 3) xs xs' ∧ ZbS P n (fun d => 12 ≤ d ∨ Zt taken d = true) dv dk dh (xs'.2 (ts + 1)) ∧ ∀ v, v < Znv P → Zkd P v = 3 → xs'.2 (ts + 2) v = Zfm P v ∧ xs'.2 (ts + 3) v = Zto P v := by
  intro N hN
  have hn10 := hP.1
  obtain ⟨s1, s2, s3, s4⟩ := hS
  unfold fX1_begin
  -- the first loop
  have L1 := Zl_inv (body := fX1_begin_L3 (Zl E 1) (Zl E ts)) (fun i a => ∃ x, a = (ZW E sh x, nI i) ∧ Zfr (fun _ _ => False) (fun t => t = ts + 1 ∨ t = ts + 2 ∨ t = ts + 3) xs x ∧ ∀ v, v < i → (Zkd P v ≤ 2 → x.2 (ts + 1) v = Ztd P v) ∧ (Zkd P v = 3 → x.2 (ts + 2) v = Zfm P v ∧ x.2 (ts + 3) v = Zto P v)) (Znv P)
    (fun r => ∃ x, r = ZW E sh x ∧ Zfr (fun _ _ => False) (fun t => t = ts + 1 ∨ t = ts + 2 ∨ t = ts + 3) xs x ∧ ∀ v, v < Znv P → (Zkd P v ≤ 2 → x.2 (ts + 1) v = Ztd P v) ∧ (Zkd P v = 3 → x.2 (ts + 2) v = Zfm P v ∧ x.2 (ts + 3) v = Zto P v))
    (by
      rintro i a hi ⟨x, rfl, hf, hx⟩
      have hv' : ZXv sh x P := hv.fr hP hf (fun q => q) (fun _ _ _ q => q)
      obtain ⟨n1, n2, n3⟩ := ZxNv hv' E
      obtain ⟨h1, ⟨e, h2⟩, h3⟩ := hv'
      obtain ⟨g1, g2, g3, g4⟩ := h3 i hi
      simp (disch := omega) only [fX1_begin_L3, n1, n2, n3, Option.bind_some, if_neg (nI_ge hi (by omega)), ZLget h2 E hi, Zb5 g1, Zb3 s1, ZbI s2, ZbI s3, ZbI s4, fX6_domain, fX6_low, fX6_high, zua_n, nI_1]
      refine ⟨_, rfl, _, rfl, ((hf.arr (by omega)).arr (by omega)).arr (by omega), fun v hv => ?_⟩
      by_cases q : v = i
      · subst q
        simp only [zua_s, if_true, zua_n (show ts + 1 ≠ ts + 3 by omega), zua_n (show ts + 1 ≠ ts + 2 by omega), zua_n (show ts + 2 ≠ ts + 3 by omega)]
        exact ⟨g3, g4⟩
      · simp only [zua_s, if_neg q, zua_n (show ts + 1 ≠ ts + 3 by omega), zua_n (show ts + 1 ≠ ts + 2 by omega), zua_n (show ts + 2 ≠ ts + 3 by omega), zua_n (show ts + 2 ≠ ts + 1 by omega), zua_n (show ts + 3 ≠ ts + 1 by omega), zua_n (show ts + 3 ≠ ts + 2 by omega)]
        exact hx v (by omega))
    (by
      rintro a ⟨x, rfl, hf, hx⟩
      have hv' : ZXv sh x P := hv.fr hP hf (fun q => q) (fun _ _ _ q => q)
      obtain ⟨n1, n2, n3⟩ := ZxNv hv' E
      simp only [fX1_begin_L3, n1, n2, n3, Option.bind_some, if_pos (nI_le (Nat.le_refl _) (show Znv P < 2 ^ 31 by omega))]
      exact ⟨_, rfl, x, rfl, hf, hx⟩)
    N (ZW E sh xs, 0) (by omega) ⟨xs, rfl, Zfr.rfl, fun v hv => absurd hv (by omega)⟩
  obtain ⟨r, e1, x, rfl, hf, hx⟩ := L1
  rw [e1, Option.bind_some]
  -- the second loop
  have L2 := Zl_inv (body := fX1_begin_L78 (Zl E ts) (Zl E td) taken) (fun i a => ∃ y, a = (ZW E sh y, nI i) ∧ Zfr (fun _ _ => False) (fun t => t = ts + 1) x y ∧ ZbS P i (fun d => 12 ≤ d ∨ Zt taken d = true) dv dk dh (y.2 (ts + 1))) n
    (fun r => ∃ y, r = ZW E sh y ∧ Zfr (fun _ _ => False) (fun t => t = ts + 1) x y ∧ ZbS P n (fun d => 12 ≤ d ∨ Zt taken d = true) dv dk dh (y.2 (ts + 1)))
    (by
      rintro i a hi ⟨y, rfl, hfy, hy⟩
      have hdy : ZXd y td n dv dk dh := by
        have q : ∀ t, t ≠ ts + 1 → t ≠ ts + 2 → t ≠ ts + 3 → y.2 t = xs.2 t := fun t a b c => (hfy.2 t a).trans (hf.2 t (by omega))
        unfold ZXd
        rw [hfy.1 _ _ (fun q => q), hf.1 _ _ (fun q => q), q (td + 1) (by omega) (by omega) (by omega), q (td + 2) (by omega) (by omega) (by omega), q (td + 3) (by omega) (by omega) (by omega)]
        exact hd
      obtain ⟨z, e2, hz⟩ := ZX_left hD hdy hi (y.2 (ts + 1) (dv i)) E
      obtain ⟨d1, d2, d3⟩ := hdy
      obtain ⟨c1, c2, c3, c4, c5⟩ := d3 i hi
      have hdi := hdv i hi
      obtain ⟨a1, a2, a3, a4⟩ := hD
      have hcnt : ∃ b : Int32, (zesc (if (12 : Int32) ≤ nI i then (some (.inl ())) else ((fX1_has taken (nI i)).bind fun t23 => if t23 = 0 then (some (.inr (0 : Int32))) else (some (.inl ())))) fun t21 => some (1 : Int32)) = some b ∧ (b = 0 ∨ b = 1) ∧ (b = 1 ↔ (12 ≤ i ∨ Zt taken i = true)) := by
        by_cases q : 12 ≤ i
        · rw [if_pos (by rw [Zlit 12]; exact nI_le q (by omega))]
          exact ⟨1, rfl, Or.inr rfl, fun _ => Or.inl q, fun _ => rfl⟩
        · rw [if_neg (by rw [Zlit 12]; exact nI_ge (by omega) (by omega)), Zhas (by omega)]
          by_cases q2 : Zt taken i = true
          · rw [if_pos q2]
            exact ⟨1, rfl, Or.inr rfl, fun _ => Or.inr q2, fun _ => rfl⟩
          · rw [if_neg q2]
            exact ⟨0, rfl, Or.inl rfl, fun h => absurd h (by decide), fun h => absurd h (by simp [q, q2])⟩
      obtain ⟨b, e3, hb, hb1⟩ := hcnt
      have key : ∀ w : Int32, (∀ v, v < Znv P → Zkd P v ≤ 2 → v = dv i → ∀ k, k < 32 → (Zt w k = true ↔ Zt (y.2 (ts + 1) v) k = true ∧ ((12 ≤ i ∨ Zt taken i = true) → Zdl dk dh i k))) → ZbS P (i + 1) (fun d => 12 ≤ d ∨ Zt taken d = true) dv dk dh (zua y.2 (ts + 1) (dv i) w (ts + 1)) := by
        intro w hw v hv hk k hk32
        rw [zua_s]
        by_cases q : v = dv i
        · rw [if_pos q, hw v hv hk q k hk32, hy v hv hk k hk32]
          constructor
          · rintro ⟨⟨p1, p2⟩, p3⟩
            refine ⟨p1, fun d hd hc he => ?_⟩
            rcases Nat.lt_or_ge d i with g | g
            · exact p2 d g hc he
            · have : d = i := by omega
              subst this
              exact p3 hc
          · rintro ⟨p1, p2⟩
            exact ⟨⟨p1, fun d hd hc he => p2 d (by omega) hc he⟩, fun hc => p2 i (by omega) hc q.symm⟩
        · rw [if_neg q, hy v hv hk k hk32]
          constructor
          · rintro ⟨p1, p2⟩
            refine ⟨p1, fun d hd hc he => ?_⟩
            rcases Nat.lt_or_ge d i with g | g
            · exact p2 d g hc he
            · have : d = i := by omega
              subst this
              exact absurd he.symm q
          · rintro ⟨p1, p2⟩
            exact ⟨p1, fun d hd hc he => p2 d (by omega) hc he⟩
      simp (disch := omega) only [fX1_begin_L78, Zb1 a1, Option.bind_some, d1, if_neg (nI_ge hi (show n < 2 ^ 31 by omega)), ZbI a2, c1, e3, Zb3 s1, ZbI s2, nI_1]
      by_cases hb0 : b = 0
      · rw [if_pos hb0]
        simp (disch := omega) only [Option.bind_some, ZbI s2]
        refine ⟨_, rfl, _, rfl, hfy.arr rfl, key _ fun v hv hk hq k hk32 => ?_⟩
        have hn : ¬ (12 ≤ i ∨ Zt taken i = true) := fun q => by rw [hb1.mpr q] at hb0; cases hb0
        rw [hq]
        exact ⟨fun h => ⟨h, fun q => absurd q hn⟩, fun h => h.1⟩
      · rw [if_neg hb0]
        simp (disch := omega) only [Option.bind_some, e2, ZbI s2]
        refine ⟨_, rfl, _, rfl, hfy.arr rfl, key _ fun v hv hk hq k hk32 => ?_⟩
        have hn : (12 ≤ i ∨ Zt taken i = true) := hb1.mp (hb.resolve_left hb0)
        rw [hq, hz k hk32]
        exact ⟨fun h => ⟨h.1, fun _ => h.2⟩, fun h => ⟨h.1, h.2 hn⟩⟩)
    (by
      rintro a ⟨y, rfl, hfy, hy⟩
      have d1 : y.1 td 3 = nI n := by rw [hfy.1 _ _ (fun q => q), hf.1 _ _ (fun q => q)]; exact hd.1
      have hn := hd.2.1
      simp only [fX1_begin_L78, Zb1 hD.1, Option.bind_some, d1, if_pos (nI_le (Nat.le_refl _) (show n < 2 ^ 31 by omega))]
      exact ⟨_, rfl, y, rfl, hfy, hy⟩)
    N (ZW E sh x, 0) (by have := hd.2.1; omega) ⟨x, rfl, Zfr.rfl, fun v hv hk k hk32 => by
      rw [(hx v hv).1 hk]
      exact ⟨fun h => ⟨h, fun d hd => absurd hd (by omega)⟩, fun h => h.1⟩⟩
  obtain ⟨r, e2, y, rfl, hfy, hy⟩ := L2
  refine ⟨y, e2, hf.trans (hfy.mono (fun _ _ q => q) fun t q => Or.inl q), hy, fun v hv hk => ?_⟩
  rw [hfy.2 _ (show ts + 2 ≠ ts + 1 by omega), hfy.2 _ (show ts + 3 ≠ ts + 1 by omega)]
  exact (hx v hv).2 hk
