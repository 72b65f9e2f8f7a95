/-! relations told: X's object, checks -/
set_option maxRecDepth 100000
section SM
variable {E : Ze} {sh sh' : Nat → Option Zsh} {xs xs' : Zxs} {P P' : ZP} {L : ZL} {st w : zMS} {g : Nat} {n : Nat → Nat} {tg : Nat → Nat → Nat}
/-- X checks some variables, and their kinds -/
theorem ZX_checkAll (hP : ZPok P) (hX : ZXv sh xs P) {pa ka m : Nat} (h1 : sh pa = some (Zia 0 m)) (h2 : sh ka = some (Zia 0 m)) (hm : m ≤ 3) {y : Nat → Int32} {k : Nat → Nat} (hy : ∀ i, i < m → xs.2 pa i = y i) (hk : ∀ i, i < m → xs.2 ka i = nI (k i) ∧ k i ≤ 3) (N : Nat) :
    ((∃ i, i < m ∧ (y i < 0 ∨ nI (Znv P) ≤ y i)) → fX1_checkAll N (ZW E sh xs) (Zl E 1) (Zl E pa) (Zl E ka) = some (.inl (3, ZW E sh xs))) ∧
    (∀ v : Nat → Nat, (∀ i, i < m → y i = nI (v i) ∧ v i < Znv P) → ((∃ i, i < m ∧ Zkd P (v i) ≠ k i) → fX1_checkAll N (ZW E sh xs) (Zl E 1) (Zl E pa) (Zl E ka) = some (.inl (1, ZW E sh xs))) ∧ ((∀ i, i < m → Zkd P (v i) = k i) → fX1_checkAll N (ZW E sh xs) (Zl E 1) (Zl E pa) (Zl E ka) = some (.inr ()))) := by
  have hn := hP.1
  have ln := (ZbI h1 (by omega)).2.2.1 E xs
  have r1 : ∀ i, i < m → zaI (ZW E sh xs) (Zl E pa) (nI i) = some (y i) := fun i hi => by rw [(ZbI h1 (by omega)).1 E xs i hi, hy i hi]
  have r2 : ∀ i, i < m → zaI (ZW E sh xs) (Zl E ka) (nI i) = some (nI (k i)) := fun i hi => by rw [(ZbI h2 (by omega)).1 E xs i hi, (hk i hi).1]
  constructor
  · rintro ⟨i0, hi0, hb0⟩
    have I := Zl_ex (body := fX1_checkAll_L9 (ZW E sh xs) (Zl E 1) (Zl E pa) (nI m)) (fun i a => a = nI i ∧ ∀ j, j < i → ¬ (y j < 0 ∨ nI (Znv P) ≤ y j)) m (fun r => r = .inr (.inl (3, ZW E sh xs)))
      (by
        rintro i a hi ⟨rfl, hpre⟩
        rcases Zint_cases (y i) (show Znv P < 2 ^ 31 by omega) with ⟨v, hv, e⟩ | ⟨hx, -⟩
        · refine Or.inl ⟨nI (i + 1), ?_, rfl, fun j hj => ?_⟩
          · simp only [fX1_checkAll_L9, if_neg (nI_ge hi (show m < 2 ^ 31 by omega)), r1 i hi, Option.bind_some, Zb0 hX.1, e, ZX_var hP hX hv, Zthr_r, nI_1]
          · rcases Nat.lt_or_ge j i with q | q
            · exact hpre j q
            · have : j = i := by omega
              rw [this, e]
              rintro (c | c)
              · exact Znneg (by omega) c
              · exact nI_ge hv (by omega) c
        · refine Or.inr ⟨_, ?_, rfl⟩
          simp only [fX1_checkAll_L9, if_neg (nI_ge hi (show m < 2 ^ 31 by omega)), r1 i hi, Option.bind_some, Zb0 hX.1, ZX_var_x hX hx, Zthr_l])
      (by
        rintro a ⟨rfl, hpre⟩
        exact absurd hb0 (hpre i0 hi0))
      4 0 (by omega) ⟨rfl, fun j hj => absurd hj (by omega)⟩
    obtain ⟨r, e, rfl⟩ := I
    simp only [fX1_checkAll, ln, Option.bind_some, e, Zesc_r]
  · intro v hv
    have I1 := Zl_inv (body := fX1_checkAll_L9 (ZW E sh xs) (Zl E 1) (Zl E pa) (nI m)) (fun i a => a = nI i) m (fun r => r = .inl ())
      (by
        rintro i a hi rfl
        obtain ⟨e, hvn⟩ := hv i hi
        refine ⟨nI (i + 1), ?_, rfl⟩
        simp only [fX1_checkAll_L9, if_neg (nI_ge hi (show m < 2 ^ 31 by omega)), r1 i hi, Option.bind_some, Zb0 hX.1, e, ZX_var hP hX hvn, Zthr_r, nI_1])
      (by
        rintro a rfl
        simp only [fX1_checkAll_L9, if_pos (nI_le (Nat.le_refl _) (show m < 2 ^ 31 by omega))]
        exact ⟨_, rfl, rfl⟩)
      4 0 (by omega) rfl
    obtain ⟨r, e1, rfl⟩ := I1
    constructor
    · rintro ⟨i0, hi0, hb0⟩
      have I := Zl_ex (body := fX1_checkAll_L37 (ZW E sh xs) (Zl E 1) (Zl E pa) (Zl E ka)) (fun i a => a = nI i ∧ ∀ j, j < i → Zkd P (v j) = k j) m (fun r => r = .inl (1, ZW E sh xs))
        (by
          rintro i a hi ⟨rfl, hpre⟩
          obtain ⟨e, hvn⟩ := hv i hi
          have eo := ZX_isOf (E := E) hP hX hvn (hk i hi).2
          by_cases q : Zkd P (v i) = k i
          · rw [if_pos q] at eo
            refine Or.inl ⟨nI (i + 1), ?_, rfl, fun j hj => ?_⟩
            · simp only [fX1_checkAll_L37, ln, Option.bind_some, if_neg (nI_ge hi (show m < 2 ^ 31 by omega)), r1 i hi, r2 i hi, Zb0 hX.1, fX1_checkKind, e, eo, fX1_checkArgument, Zne10, if_false, Zthr_r, nI_1]
            · rcases Nat.lt_or_ge j i with c | c
              · exact hpre j c
              · have : j = i := by omega
                rw [this]
                exact q
          · rw [if_neg q] at eo
            refine Or.inr ⟨_, ?_, rfl⟩
            simp only [fX1_checkAll_L37, ln, Option.bind_some, if_neg (nI_ge hi (show m < 2 ^ 31 by omega)), r1 i hi, r2 i hi, Zb0 hX.1, fX1_checkKind, e, eo, fX1_checkArgument, if_true, Zthr_l])
        (by
          rintro a ⟨rfl, hpre⟩
          exact absurd (hpre i0 hi0) hb0)
        4 0 (by omega) ⟨rfl, fun j hj => absurd hj (by omega)⟩
      obtain ⟨r, e, rfl⟩ := I
      simp only [fX1_checkAll, ln, Option.bind_some, e1, Zesc_l, e]
    · intro hall
      have I := Zl_inv (body := fX1_checkAll_L37 (ZW E sh xs) (Zl E 1) (Zl E pa) (Zl E ka)) (fun i a => a = nI i) m (fun r => r = .inr ())
        (by
          rintro i a hi rfl
          obtain ⟨e, hvn⟩ := hv i hi
          have eo := ZX_isOf (E := E) hP hX hvn (hk i hi).2
          rw [if_pos (hall i hi)] at eo
          refine ⟨nI (i + 1), ?_, rfl⟩
          simp only [fX1_checkAll_L37, ln, Option.bind_some, if_neg (nI_ge hi (show m < 2 ^ 31 by omega)), r1 i hi, r2 i hi, Zb0 hX.1, fX1_checkKind, e, eo, fX1_checkArgument, Zne10, if_false, Zthr_r, nI_1])
        (by
          rintro a rfl
          simp only [fX1_checkAll_L37, ln, Option.bind_some, if_pos (nI_le (Nat.le_refl _) (show m < 2 ^ 31 by omega))]
          exact ⟨_, rfl, rfl⟩)
        4 0 (by omega) rfl
      obtain ⟨r, e, rfl⟩ := I
      simp only [fX1_checkAll, ln, Option.bind_some, e1, Zesc_l, e]
/-- X builds the object of a relation: heap, shapes, what is there -/
theorem ZX_small (hS : Zshut sh) (hs : Zsta E sh xs) {t T c0 rt pa m sz : Nat} (ht : 1000000 ≤ t) (hT : T = t + 1) (hc0 : c0 < 50000 ∨ t + 1 < c0) (free : sh t = none ∧ sh T = none ∧ ∀ i, i ≤ 4 → sh (c0 + i) = none) (hpa : sh pa = some (Zia 0 m)) (hm : m ≤ 3) {pv : Nat → Nat} (hpv : ∀ i, i < m → xs.2 pa i = nI (pv i) ∧ pv i < 128) (hrt : sh rt ≠ none) (z0 : Zl E t = sz) (z1 : Zl E T = sz + 1) (z2 : ∀ i, i ≤ 4 → Zl E (c0 + i) = sz + 2 + i) (N : Nat) (hN : 1000 ≤ N) (hm1 : 1 ≤ m) {F : List (Option Nat)} (h1 : sh 1 = some (Zob 0 F)) :
    ∃ sh3 x3, fX1_addSmall N (ZW E sh xs) sz (Zl E 1) (Zl E rt) (Zl E pa) = (zthr (fX1_add_2 (ZW E sh3 x3) (sz + 7) (Zl E 1) (Zl E c0)) (fun e13 => some (.inl e13)) fun t11 => some (.inr (t11.1, t11.2.1, t11.2.2))) ∧ Zshut sh3 ∧ (∀ u, sh u ≠ none → sh3 u = sh u ∧ x3.1 u = xs.1 u ∧ x3.2 u = xs.2 u) ∧ (∀ u, sh3 u ≠ none → sh u ≠ none ∨ u = t ∨ u = T ∨ (c0 ≤ u ∧ u ≤ c0 + 4)) ∧ sh3 c0 = some (Zo13 (c0 + 1) (c0 + 2) (c0 + 3) (c0 + 4) rt) ∧ (∀ i, 1 ≤ i → i ≤ 4 → sh3 (c0 + i) = some (Zia 0 m)) ∧ ∀ p, p < m → x3.2 (c0 + 1) p = nI (pv p) := by
  obtain ⟨f1, f2, f3⟩ := free
  obtain ⟨s0, y0, e0, b0⟩ := Zbl_0 (E := E) (x0 := xs) (val := pv) hS hs f1 f2 (by omega) (by omega)
  have pat : pa ≠ t := fun q => by rw [q, f1] at hpa; cases hpa
  have paT : pa ≠ T := fun q => by rw [q, f2] at hpa; cases hpa
  have hpak : ∀ s : Nat → Option Zsh, (∀ u, u ≠ t → u ≠ T → s u = sh u) → s pa = some (Zia 0 m) := fun s h => by rw [h pa pat paT]; exact hpa
  -- the list
  have I := Zl_inv (body := fX1_addSmall_L19 sz (Zl E pa) (nI m)) (fun i a => ∃ s y, a = (ZW E s y, (if i = 0 then sz + 1 else sz + 2), nI i) ∧ Zbl E sh xs t T i pv s y) m (fun r => ∃ s y, r = (ZW E s y, sz + 2) ∧ Zbl E sh xs t T m pv s y)
    (by
      rintro i a hi ⟨s, y, rfl, hb⟩
      obtain ⟨s', y', es, hb'⟩ := Zbl_s (E := E) (sz := sz + 1) hb hs ⟨by omega, by omega⟩ ⟨by omega, by omega⟩ z1 (by omega) (hpv i hi).2
      have kp := hpak s hb.2.2.1
      have rp : zaI (ZW E s y) (Zl E pa) (nI i) = some (nI (pv i)) := by
        rw [(ZbI kp (by omega)).1 E y i hi, hb.2.2.2.2.2, (hpv i hi).1]
      have hs' : Zsta E s y := by
        obtain ⟨⟨a1, a2⟩, ⟨a3, a4⟩, a5, a6⟩ := hs
        refine ⟨⟨a1, by rw [hb.2.2.1 _ (by omega) (by omega)]; exact a2⟩, ⟨a3, by rw [hb.2.2.1 _ (by omega) (by omega)]; exact a4⟩, fun j hj => ?_, fun j hj hj2 => ⟨(a6 j hj hj2).1, by rw [hb.2.2.1 _ (by omega) (by omega)]; exact (a6 j hj hj2).2⟩⟩
        rw [hb.2.2.1 _ (by omega) (by omega), hb.2.2.2.2.1 _ (by omega)]
        exact a5 j hj
      have ev := Zval (x := nI (pv i)) hs' (show 128 + pv i < 256 by have := (hpv i hi).2; omega) (by
        show nI (pv i) = nI (128 + pv i) - nI 128
        rw [pk_sub (by omega), Nat.add_sub_cancel_left])
      have hli := hb.1.t
      have eis := (Zb18 hli).1 E y
      rw [z0] at eis es
      have e2 : (if i = 0 then sz + 1 else sz + 1 + 1) = (if i = 0 then sz + 1 else sz + 2) := rfl
      rw [e2] at es
      simp only [fX1_addSmall_L19, if_neg (nI_ge hi (show m < 2 ^ 31 by omega)), rp, ev, eis, es, Option.bind_some, nI_1]
      exact ⟨_, rfl, s', y', by rw [if_neg (by omega)], hb'⟩)
    (by
      rintro a ⟨s, y, rfl, hb⟩
      simp only [fX1_addSmall_L19, if_pos (nI_le (Nat.le_refl _) (show m < 2 ^ 31 by omega)), if_neg (show ¬ m = 0 by omega)]
      exact ⟨_, rfl, s, y, rfl, hb⟩)
    4 (ZW E s0 y0, sz + 1, 0) (by omega) ⟨s0, y0, rfl, b0⟩
  obtain ⟨r, e1, s1, y1, rfl, b1⟩ := I
  -- the object
  have nct : ∀ i, i ≤ 4 → c0 + i ≠ t ∧ c0 + i ≠ T := fun i hi => by omega
  have f31 : ∀ i, i ≤ 4 → s1 (c0 + i) = none := fun i hi => by rw [b1.2.2.1 _ (nct i hi).1 (nct i hi).2]; exact f3 i hi
  have f0 : s1 c0 = none := f31 0 (by decide)
  have zc : Zl E c0 = sz + 2 := z2 0 (by decide)
  have hli := b1.1.li
  obtain ⟨x4, es, x41, x42, x43⟩ := ZX_super (E := E) (To := c0) (T1 := c0 + 1) (T2 := c0 + 2) (T3 := c0 + 3) (T4 := c0 + 4) (ci := 13) (sz := sz + 3) (fs := zfd13) (val := fun i => nI (pv i)) f0 (by omega) ⟨f31 1 (by decide), f31 2 (by decide), f31 3 (by decide), f31 4 (by decide)⟩ (by decide) (by decide) hli (by omega) (fun i hi => by
    obtain ⟨g1, g2⟩ := hs.2.2.1 (128 + pv i) (by have := (hpv i hi).2; omega)
    have hlt := (hpv i hi).2
    rw [b1.2.2.1 _ (by omega) (by omega), b1.2.2.2.2.1 _ (by omega), g2]
    refine ⟨g1, ?_⟩
    show nI (128 + pv i) - nI 128 = _
    rw [pk_sub (by omega), Nat.add_sub_cancel_left]) (by rw [z2 1 (by decide)]) (by rw [z2 2 (by decide)]) (by rw [z2 3 (by decide)]) (by rw [z2 4 (by decide)]) N hN
  obtain ⟨sh3, hsh3⟩ : ∃ s, s = Zadd (Zsu4 s1 (c0 + 1) (c0 + 2) (c0 + 3) (c0 + 4) m) c0 (Zo13 (c0 + 1) (c0 + 2) (c0 + 3) (c0 + 4) rt) := ⟨_, rfl⟩
  have su0 : Zsu4 s1 (c0 + 1) (c0 + 2) (c0 + 3) (c0 + 4) m c0 = none := by rw [Zsu4_o (by omega) (by omega) (by omega) (by omega)]; exact f0
  have epv : zpv [13] 4 (ZW (Zput E (Zl E c0) (.inr (13, Zf4 E zfd13 (c0 + 1) (c0 + 2) (c0 + 3) (c0 + 4)))) (Zsu4 s1 (c0 + 1) (c0 + 2) (c0 + 3) (c0 + 4) m) x4) (Zl E c0) (.ref (Zl E rt)) = some (ZW E sh3 x4) := by
    rw [Zraw_p (c := 13) (f := 4) su0 rfl (Nat.lt_of_sub_eq_succ rfl), hsh3]
    exact congrArg some (Zadopt su0 (fun _ _ => ⟨rfl, rfl⟩) rfl)
  have enew : zset (ZW E s1 y1) (sz + 2) (.inr (13, zfd13)) = ZW (Zput E (Zl E c0) (.inr (13, zfd13))) s1 y1 := by
    rw [← zc]
    exact Zput_eq f0
  have c3 : sh3 c0 = some (Zo13 (c0 + 1) (c0 + 2) (c0 + 3) (c0 + 4) rt) := by rw [hsh3]; exact Zadd_n
  have a3 : ∀ i, 1 ≤ i → i ≤ 4 → sh3 (c0 + i) = some (Zia 0 m) := fun i h1 h4 => by
    rw [hsh3, Zadd_o (by omega)]
    exact Zsu4_n _ (by omega)
  have other : ∀ u, ¬ (c0 ≤ u ∧ u ≤ c0 + 4) → sh3 u = s1 u := fun u hu => by rw [hsh3, Zadd_o (by omega), Zsu4_o (by omega) (by omega) (by omega) (by omega)]
  have nl : ∀ u, sh u ≠ none → u ≠ t ∧ u ≠ T ∧ ¬ (c0 ≤ u ∧ u ≤ c0 + 4) := fun u hu => by
    refine ⟨fun q => hu (by rw [q]; exact f1), fun q => hu (by rw [q]; exact f2), fun q => ?_⟩
    have := f3 (u - c0) (by omega)
    rw [show c0 + (u - c0) = u by omega] at this
    exact hu this
  have keep : ∀ u, sh u ≠ none → sh3 u = sh u ∧ x4.1 u = xs.1 u ∧ x4.2 u = xs.2 u := fun u hu => by
    obtain ⟨q1, q2, q3⟩ := nl u hu
    refine ⟨by rw [other u q3, b1.2.2.1 u q1 q2], by rw [x41, b1.2.2.2.2.1 u q1], ?_⟩
    rw [x42 u (by omega) (by omega) (by omega) (by omega), b1.2.2.2.2.2]
  refine ⟨sh3, x4, ?_, ?_, keep, fun u hu => ?_, c3, a3, x43⟩
  · have k1 : zis (ZW E sh3 x4) (Zl E 1) 0 = some () := by
      have h3 := (keep 1 (by rw [h1]; exact fun h => by cases h)).1
      rw [h1] at h3
      exact Zis_ h3 E x4
    have ln : zln (ZW E s0 y0) (Zl E pa) = some (nI m) := (ZbI (hpak s0 b0.2.2.1) (by omega)).2.2.1 E y0
    have es' : fX9_init N (ZW (Zput E (Zl E c0) (.inr (13, zfd13))) s1 y1) (sz + 2 + 1) (sz + 2) sz = some (ZW (Zput E (Zl E c0) (.inr (13, Zf4 E zfd13 (c0 + 1) (c0 + 2) (c0 + 3) (c0 + 4)))) (Zsu4 s1 (c0 + 1) (c0 + 2) (c0 + 3) (c0 + 4) m) x4, sz + 3 + 4) := by
      have := es
      rw [zc, z0] at this
      rw [zc]
      exact this
    have epv' : zpv [13] 4 (ZW (Zput E (Zl E c0) (.inr (13, Zf4 E zfd13 (c0 + 1) (c0 + 2) (c0 + 3) (c0 + 4)))) (Zsu4 s1 (c0 + 1) (c0 + 2) (c0 + 3) (c0 + 4) m) x4) (sz + 2) (.ref (Zl E rt)) = some (ZW E sh3 x4) := by
      have := epv
      rw [← zc]
      exact this
    rw [z0] at e0
    simp only [fX1_addSmall, e0, Option.bind_some, ln, e1, enew, fX15_init, es', epv', k1]
    rw [zc]
  · intro u s hu r hr
    have lv : ∀ v, s1 v ≠ none → sh3 v ≠ none := fun v hv => by
      have : ¬ (c0 ≤ v ∧ v ≤ c0 + 4) := fun q => by
        have := f31 (v - c0) (by omega)
        rw [show c0 + (v - c0) = v by omega] at this
        exact hv this
      rw [other v this]
      exact hv
    by_cases q0 : u = c0
    · rw [q0, c3] at hu
      cases hu
      have hr' : some r ∈ [some (c0 + 1), some (c0 + 2), some (c0 + 3), some (c0 + 4), some rt] := hr
      have : r = c0 + 1 ∨ r = c0 + 2 ∨ r = c0 + 3 ∨ r = c0 + 4 ∨ r = rt := by simpa using hr'
      rcases this with q | q | q | q | q <;> rw [q]
      · rw [a3 1 (by decide) (by decide)]; exact fun h => by cases h
      · rw [a3 2 (by decide) (by decide)]; exact fun h => by cases h
      · rw [a3 3 (by decide) (by decide)]; exact fun h => by cases h
      · rw [a3 4 (by decide) (by decide)]; exact fun h => by cases h
      · rw [(keep rt hrt).1]; exact hrt
    · by_cases q4 : c0 + 1 ≤ u ∧ u ≤ c0 + 4
      · have := a3 (u - c0) (by omega) (by omega)
        rw [show c0 + (u - c0) = u by omega, hu] at this
        cases this
        exact absurd hr (fun q => q)
      · rw [other u (by omega)] at hu
        exact lv r (b1.2.1 u s hu r hr)
  · by_cases q : c0 ≤ u ∧ u ≤ c0 + 4
    · exact Or.inr (Or.inr (Or.inr q))
    · rw [other u q] at hu
      by_cases q1 : u = t
      · exact Or.inr (Or.inl q1)
      · by_cases q2 : u = T
        · exact Or.inr (Or.inr (Or.inl q2))
        · rw [b1.2.2.1 u q1 q2] at hu
          exact Or.inl hu
end SM
