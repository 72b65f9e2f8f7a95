/-! bound and removal, of both -/
set_option maxRecDepth 100000
section QV
variable {sh : Nat → Option Zsh} {xs : Zxs} {P : ZP} {E : Ze} {st : zMS} {L : ZL}
theorem ZC_bound (hR : ZPD E sh xs st P L) (x g : Int32) (N : Nat) (hN : 5000 ≤ N) : ∃ z w, Zjo [3] (ZW E sh z) w (fX1_bound N (ZW E sh xs) (Zl E 1) x g) (fX5_bound N st x g) ∧ Zfr (ZSA P) (ZRB P 28) xs z ∧ ZfK st w ∧ ZPD E sh z w P L := by
  have hn := hR.1.1
  rcases Zint_cases x (show Znv P < 2 ^ 31 by omega) with ⟨v, hv, rfl⟩ | ⟨hx, -⟩
  · obtain ⟨z, w, e1, e2, f1, f2, hR', zst, wst⟩ := Zboth (hR.thr (x := 0)) N hN
    have w68 : w.1 68 = 0 := by
      rw [f2.1 68 (by decide)]
      simp only [zus_s]
    obtain ⟨m, l, x4, y4, hm, xtr, ytr, hl, hs, e3, q01, -⟩ := ZXM_st hR.1 zst wst
    obtain ⟨s1, s2, s3, s4⟩ := hR.2.2.1.2.2.1
    have hrat := ZxRat hR'.2.2.2.1.1 hR.1 hv E
    have ea := Zasks hR hv e2 w68
    have wk := (hR'.2.2.2.2.1.2.2.1 v hv).1
    obtain ⟨b, eb, hb, hb1⟩ := ZM_isEmpty hR.1 hR'.2.2.2.2.1 hv
    obtain ⟨a, ax, ha, ha1⟩ := ZX_isEmpty (E := E) (ts := 28) hR.1 hR'.2.2.2.1.1 hR.2.2.1.2.2.1 hv
    have hab : a = b := by
      have := Zem_sim2 hR.1 hs hv
      rcases ha with h | h <;> rcases hb with h' | h'
      · rw [h, h']
      · exact absurd (ha1.mpr (this.mpr (hb1.mp h'))) (by rw [h]; decide)
      · exact absurd (hb1.mpr (this.mp (ha1.mp h))) (by rw [h']; decide)
      · rw [h, h']
    have fin : ∀ r, fX1_bound N (ZW E sh xs) (Zl E 1) (nI v) g = some (.inr (ZW E sh z, r)) → fX5_bound N st (nI v) g = some (w, r) → ∃ z w, Zjo [3] (ZW E sh z) w (fX1_bound N (ZW E sh xs) (Zl E 1) (nI v) g) (fX5_bound N st (nI v) g) ∧ Zfr (ZSA P) (ZRB P 28) xs z ∧ ZfK st w ∧ ZPD E sh z w P L := fun r h1 h2 => ⟨z, w, Or.inl ⟨r, h1, h2, w68⟩, f1, (ZfK.thr (x := 0) ZfM.rfl).trans f2.k, hR'⟩
    subst hab
    rcases ha with rfl | rfl
    · have hne : ¬ Zem P (ZTs z 28) v := fun h => by
        have := ha1.mpr h
        cases this
      clear ha1 hb1
      by_cases hk : Zkd P v = 3
      · have h3 : nI (Zkd P v) = (3 : Int32) := by rw [hk]; rfl
        rw [if_pos hk] at hrat
        rcases (hs v hv).2 hk with ⟨g1, g2⟩ | ⟨g1, -⟩
        · have k1 : z.2 30 v = w.2 35 v := g1
          have k2 : z.2 31 v = w.2 36 v := g2
          by_cases hg : g = 0
          · refine fin (z.2 30 v) ?_ ?_
            · simp (disch := omega) only [fX1_bound, Zb0 hR.2.2.1.1, ZX_var hR.1 hR.2.2.2.1.1 hv, Zthr_r, e1, Option.bind_some, ax, if_true, hrat, Zne10, if_false, if_pos hg, Zb3 s1, ZbI s3]
            · simp (disch := omega) only [fX5_bound, ea, Option.bind_some, Zne10, if_false, eb, if_true, fX5_end, ZMA, wk, h3, if_pos hg, k1]
          · refine fin (z.2 31 v) ?_ ?_
            · simp (disch := omega) only [fX1_bound, Zb0 hR.2.2.1.1, ZX_var hR.1 hR.2.2.2.1.1 hv, Zthr_r, e1, Option.bind_some, ax, if_true, hrat, Zne10, if_false, if_neg hg, Zb3 s1, ZbI s4]
            · simp (disch := omega) only [fX5_bound, ea, Option.bind_some, Zne10, if_false, eb, if_true, fX5_end, ZMA, wk, h3, if_neg hg, k2]
        · exact absurd (show Zem P (ZTs z 28) v by unfold Zem; rw [if_pos hk]; exact g1) hne
      · have hk2 : Zkd P v ≤ 2 := by have := hR.1.2.2.1 v hv; omega
        have h3 : ¬ nI (Zkd P v) = (3 : Int32) := fun g => hk ((nI_eq (a := Zkd P v) (b := 3) (by omega) (by omega)).mp g)
        rw [if_neg hk] at hrat
        have k1 : z.2 29 v = w.2 34 v := (hs v hv).1 hk2
        by_cases hg : g = 0
        · refine fin (nI (Zfs (Zt (w.2 34 v)) 32 0)) ?_ ?_
          · simp (disch := omega) only [fX1_bound, Zb0 hR.2.2.1.1, ZX_var hR.1 hR.2.2.2.1.1 hv, Zthr_r, e1, Option.bind_some, ax, if_true, hrat, if_pos hg, Zb3 s1, ZbI s2, Zleast, k1]
          · simp (disch := omega) only [fX5_bound, ea, Option.bind_some, Zne10, if_false, eb, if_true, fX5_end, ZMA, wk, if_neg h3, if_pos hg, Zlowest _ N (show 1000 ≤ N by omega)]
        · refine fin (nI (Zla (Zt (w.2 34 v)) 32) - 1) ?_ ?_
          · simp (disch := omega) only [fX1_bound, Zb0 hR.2.2.1.1, ZX_var hR.1 hR.2.2.2.1.1 hv, Zthr_r, e1, Option.bind_some, ax, if_true, hrat, if_neg hg, Zb3 s1, ZbI s2, Zgreatest, k1]
          · simp (disch := omega) only [fX5_bound, ea, Option.bind_some, Zne10, if_false, eb, if_true, fX5_end, ZMA, wk, if_neg h3, if_neg hg, Zhighest _ N (show 1000 ≤ N by omega)]
    · clear ha1 hb1
      refine fin (-1000) ?_ ?_
      · simp (disch := omega) only [fX1_bound, Zb0 hR.2.2.1.1, ZX_var hR.1 hR.2.2.2.1.1 hv, Zthr_r, e1, Option.bind_some, ax, Zne10, if_false]
      · simp (disch := omega) only [fX5_bound, ea, Option.bind_some, Zne10, if_false, eb]
  · refine ⟨xs, (zus st.1 68 1, st.2), Or.inr ⟨0, 3, 0, rfl, ?_, ?_, ?_⟩, Zfr.rfl, ZfK.thr ZfM.rfl, hR.thr⟩
    · simp only [fX1_bound, Zb0 hR.2.2.1.1, ZX_var_x hR.2.2.2.1.1 hx, Zthr_l, Option.bind_some]
    · simp only [fX5_bound, Zasks_x hR hx, Option.bind_some, if_true]
    · simp only [zus_s]
      rfl
/-- whether an int lies from 0 to n - 1 -/
theorem Zisin_n {v n : Nat} (hv : v < n) (hn : n < 2 ^ 31) : fX5_isIn (nI v) 0 (nI n - 1) = some 1 := by
  obtain ⟨m, rfl⟩ : ∃ m, n = m + 1 := ⟨n - 1, by omega⟩
  rw [nI_pred]
  exact Zisin (Znneg (by omega)) (nI_le (by omega) (by omega))
theorem Zisin_nx {x : Int32} {n : Nat} (hx : x < 0 ∨ nI n ≤ x) (hn : n < 2 ^ 31 - 1) : fX5_isIn x 0 (nI n - 1) = some 0 := by
  refine Zisin_x ?_
  rcases hx with g | g
  · exact Or.inl g
  · refine Or.inr fun h => ?_
    rw [Int32.le_iff_toInt_le, nI_toInt (by omega)] at g
    rw [Int32.le_iff_toInt_le, Zsub_i (by rw [nI_toInt (by omega), Int32.toInt_one]; omega) (by rw [nI_toInt (by omega), Int32.toInt_one]; omega), nI_toInt (by omega), Int32.toInt_one] at h
    omega
theorem ZC_removal (hR : ZPD E sh xs st P L) (x y : Int32) (N : Nat) (hN : 5000 ≤ N) : ∃ z w, Zjo [3, 1] (ZW E sh z) w (fX1_removal N (ZW E sh xs) (Zl E 1) x y) (fX5_removal N st x y) ∧ Zfr (ZSA P) (ZRB P 28) xs z ∧ ZfK st w ∧ ZPD E sh z w P L := by
  obtain ⟨z, w, e1, e2, f1, f2, hR', zst, wst⟩ := Zboth hR N hN
  obtain ⟨m, l, x4, y4, hm, xtr, ytr, hl, hs, e3, q01, -⟩ := ZXM_st hR.1 zst wst
  have hb := hR.2.2.1
  have er : fX1_removals N (ZW E sh xs) (Zl E 1) = some (ZW E sh z, nI l.length) := by
    simp only [fX1_removals, Zb0 hb.1, e1, Option.bind_some, xtr.1]
  rcases Zint_cases x (show l.length < 2 ^ 31 by omega) with ⟨i, hi, rfl⟩ | ⟨hx, -⟩
  · obtain ⟨e, he⟩ : ∃ e, l[i]? = some e := ⟨_, List.getElem?_eq_getElem hi⟩
    obtain ⟨c1, c2, c3, c4⟩ := xtr.2 i e he
    obtain ⟨d1, d2, d3, d4⟩ := ytr.2 i e he
    have a := hb.2.2.2.2.2.2.1
    have a0 := a 0 (by omega)
    have a1 := a 1 (by omega)
    have a2 := a 2 (by omega)
    have a3 := a 3 (by omega)
    simp only [Nat.add_zero, Nat.reduceAdd] at a0 a1 a2 a3
    rcases Zint_cases y (show 4 < 2 ^ 31 by omega) with ⟨k, hk, rfl⟩ | ⟨hy, -⟩
    · have hck : fX1_check (ZW E sh z) (nI k) 0 3 = some (.inr ()) := Zck _ (Znneg (by omega)) (show nI k ≤ nI 3 from nI_le (by omega) (by omega))
      have hin : fX5_isIn (nI k) 0 3 = some 1 := Zisin (Znneg (by omega)) (show nI k ≤ nI 3 from nI_le (by omega) (by omega))
      have hM : ∀ r, w.2 40 (4 * i + k) = r → fX5_removal N st (nI i) (nI k) = some ((zus w.1 68 0, w.2), r) := by
        intro r hr
        simp (disch := omega) only [fX5_removal, e2, Option.bind_some, ytr.1, Zisin_n hi (show l.length < 2 ^ 31 by omega), Zne10, if_false, hin, zps, zus_s, if_pos (show (0 : Int32) ≤ 0 by decide), Zm4, nI_add, ZMA, hr]
      refine ⟨z, (zus w.1 68 0, w.2), Or.inl ?_, f1, ZfK.thr f2.k, hR'.thr⟩
      have hcase : k = 0 ∨ k = 1 ∨ k = 2 ∨ k = 3 := by omega
      rcases hcase with rfl | rfl | rfl | rfl
      · refine ⟨nI e.1, ?_, hM _ d1, by simp only [zus_s]⟩
        simp (disch := omega) only [fX1_removal, Zb0 hb.1, Option.bind_some, er, Zcki _ hi (show l.length < 2 ^ 31 by omega), Zthr_r, hck, if_pos (show nI 0 = (0 : Int32) from rfl), ZbI a0, c1]
      · refine ⟨nI e.2.1, ?_, hM _ d2, by simp only [zus_s]⟩
        simp (disch := omega) only [fX1_removal, Zb0 hb.1, Option.bind_some, er, Zcki _ hi (show l.length < 2 ^ 31 by omega), Zthr_r, hck, if_neg (show ¬ nI 1 = (0 : Int32) by decide), if_pos (show nI 1 = (1 : Int32) from rfl), ZbI a1, c2]
      · refine ⟨nI e.2.2.1, ?_, hM _ d3, by simp only [zus_s]⟩
        simp (disch := omega) only [fX1_removal, Zb0 hb.1, Option.bind_some, er, Zcki _ hi (show l.length < 2 ^ 31 by omega), Zthr_r, hck, if_neg (show ¬ nI 2 = (0 : Int32) by decide), if_neg (show ¬ nI 2 = (1 : Int32) by decide), if_pos (show nI 2 = (2 : Int32) from rfl), ZbI a2, c3]
      · refine ⟨nI e.2.2.2, ?_, hM _ d4, by simp only [zus_s]⟩
        simp (disch := omega) only [fX1_removal, Zb0 hb.1, Option.bind_some, er, Zcki _ hi (show l.length < 2 ^ 31 by omega), Zthr_r, hck, if_neg (show ¬ nI 3 = (0 : Int32) by decide), if_neg (show ¬ nI 3 = (1 : Int32) by decide), if_neg (show ¬ nI 3 = (2 : Int32) by decide), ZbI a3, c4]
    · have hbad : y < 0 ∨ ¬ y ≤ 3 := by
        rcases hy with g | g
        · exact Or.inl g
        · refine Or.inr fun h => ?_
          rw [Int32.le_iff_toInt_le, nI_toInt (by omega)] at g
          rw [Int32.le_iff_toInt_le] at h
          have : (3 : Int32).toInt = 3 := by decide
          omega
      refine ⟨z, (zus w.1 68 2, w.2), Or.inr ⟨1, 1, 0, rfl, ?_, ?_, ?_⟩, f1, ZfK.thr f2.k, hR'.thr⟩
      · simp (disch := omega) only [fX1_removal, Zb0 hb.1, Option.bind_some, er, Zcki _ hi (show l.length < 2 ^ 31 by omega), Zthr_r, Zck_x _ hbad, Zthr_l]
      · simp (disch := omega) only [fX5_removal, e2, Option.bind_some, ytr.1, Zisin_n hi (show l.length < 2 ^ 31 by omega), Zne10, if_false, Zisin_x hbad, if_true, zps, zus_s, if_neg (show ¬ (2 : Int32) ≤ 0 by decide)]
      · simp only [zus_s]
        rfl
  · refine ⟨z, (zus w.1 68 1, w.2), Or.inr ⟨0, 3, 0, rfl, ?_, ?_, ?_⟩, f1, ZfK.thr f2.k, hR'.thr⟩
    · simp (disch := omega) only [fX1_removal, Zb0 hb.1, Option.bind_some, er, Zcki_x _ hx, Zthr_l]
    · simp (disch := omega) only [fX5_removal, e2, Option.bind_some, ytr.1, Zisin_nx hx (show l.length < 2 ^ 31 - 1 by omega), if_true, zps, zus_s, if_neg (show ¬ (1 : Int32) ≤ 0 by decide)]
    · simp only [zus_s]
      rfl
end QV
