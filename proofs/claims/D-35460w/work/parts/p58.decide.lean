/-! decide and back, of both -/
set_option maxRecDepth 100000
theorem Znot12 {n : Nat} (h : n ≤ 12) : ((12 : Int32) ≤ nI n ↔ n = 12) ∧ (nI n = (12 : Int32) ↔ n = 12) := by
  constructor
  · constructor
    · intro g
      rcases Nat.lt_or_ge n 12 with q | q
      · exact absurd g (nI_ge (b := 12) q (by decide))
      · omega
    · rintro rfl
      decide
  · exact nI_eq (b := 12) (by omega) (by omega)
section CV
variable {sh : Nat → Option Zsh} {xs : Zxs} {P : ZP} {E : Ze} {st : zMS} {L : ZL}
theorem Zvs_le {k : Nat} : 1 ≤ Zvs k ∧ Zvs k ≤ 32 := by
  unfold Zvs
  split
  · omega
  · split <;> omega
/-- a value of a variable -/
def Zisv (P : ZP) (v : Nat) (y : Int32) : Prop := Zkd P v ≤ 2 ∧ ∃ k, k < Zvs (Zkd P v) ∧ y = nI k
theorem ZX_cv (hP : ZPok P) (hb : Zbase E sh) (hX : ZXP sh xs P) {v : Nat} (hv : v < Znv P) {y : Int32} (h : Zisv P v y) : fX1_checkValue (ZW E sh xs) (Zl E 1) (nI v) y = some (.inr ()) := by
  obtain ⟨hk, k, hk2, rfl⟩ := h
  obtain ⟨g1, g2, -⟩ := hX.1.2.2 v hv
  obtain ⟨b1, b2⟩ := hb.2.1
  have vk := (Zvs_le (k := Zkd P v)).2
  have c1 : ∀ σ, fX1_check σ (nI (Zkd P v)) 0 2 = some (.inr ()) := fun σ => Zck σ (Znneg (by omega)) (show nI (Zkd P v) ≤ nI 2 from nI_le hk (by decide))
  have eg : xs.2 50301 (Zkd P v) = nI (Zvs (Zkd P v) - 1) := by
    obtain ⟨a1, a2, a3⟩ := hX.2.2.1
    have hc : Zkd P v = 0 ∨ Zkd P v = 1 ∨ Zkd P v = 2 := by omega
    rcases hc with q | q | q
    · rw [q, a1]; rfl
    · rw [q, a2]; rfl
    · rw [q, a3]; rfl
  have c2 : ∀ σ, fX1_check σ (nI k) 0 (nI (Zvs (Zkd P v) - 1)) = some (.inr ()) := fun σ => Zck σ (Znneg (by omega)) (nI_le (by omega) (by omega))
  simp (disch := omega) only [fX1_checkValue, Zb0 hb.1, ZX_var hP hX.1 hv, Zthr_r, Zb5 g1, fX6_kind, g2, Option.bind_some, c1, fX6_greatest, ZW_fst, b1, ZbI6 b2, eg, c2]
theorem ZX_cv_x (hP : ZPok P) (hb : Zbase E sh) (hX : ZXP sh xs P) {v : Nat} (hv : v < Znv P) {y : Int32} (h : ¬ Zisv P v y) : fX1_checkValue (ZW E sh xs) (Zl E 1) (nI v) y = some (.inl (1, ZW E sh xs)) := by
  obtain ⟨g1, g2, -⟩ := hX.1.2.2 v hv
  obtain ⟨b1, b2⟩ := hb.2.1
  have k3 := hP.2.2.1 v hv
  by_cases hk : Zkd P v ≤ 2
  · have vk := Zvs_le (k := Zkd P v)
    have c1 : ∀ σ, fX1_check σ (nI (Zkd P v)) 0 2 = some (.inr ()) := fun σ => Zck σ (Znneg (by omega)) (show nI (Zkd P v) ≤ nI 2 from nI_le hk (by decide))
    have eg : xs.2 50301 (Zkd P v) = nI (Zvs (Zkd P v) - 1) := by
      obtain ⟨a1, a2, a3⟩ := hX.2.2.1
      have hc : Zkd P v = 0 ∨ Zkd P v = 1 ∨ Zkd P v = 2 := by omega
      rcases hc with q | q | q
      · rw [q, a1]; rfl
      · rw [q, a2]; rfl
      · rw [q, a3]; rfl
    have hbad : y < 0 ∨ ¬ y ≤ nI (Zvs (Zkd P v) - 1) := by
      rcases Zint_cases y (show Zvs (Zkd P v) < 2 ^ 31 by omega) with ⟨k, hk2, e⟩ | ⟨g | g, -⟩
      · exact absurd ⟨hk, k, hk2, e⟩ h
      · exact Or.inl g
      · refine Or.inr fun q => ?_
        rw [Int32.le_iff_toInt_le, nI_toInt (by omega)] at g q
        omega
    simp (disch := omega) only [fX1_checkValue, Zb0 hb.1, ZX_var hP hX.1 hv, Zthr_r, Zb5 g1, fX6_kind, g2, Option.bind_some, c1, fX6_greatest, ZW_fst, b1, ZbI6 b2, eg, Zck_x _ hbad, Zthr_l]
  · have e3 : Zkd P v = 3 := by omega
    have hbad : nI (Zkd P v) < 0 ∨ ¬ nI (Zkd P v) ≤ 2 := Or.inr (by rw [e3]; decide)
    simp (disch := omega) only [fX1_checkValue, Zb0 hb.1, ZX_var hP hX.1 hv, Zthr_r, Zb5 g1, fX6_kind, g2, Option.bind_some, Zck_x _ hbad, Zthr_l]
theorem ZX_cv_v (hb : Zbase E sh) (hX : ZXP sh xs P) {x : Int32} (hx : x < 0 ∨ nI (Znv P) ≤ x) (y : Int32) : fX1_checkValue (ZW E sh xs) (Zl E 1) x y = some (.inl (3, ZW E sh xs)) := by
  simp only [fX1_checkValue, Zb0 hb.1, ZX_var_x hX.1 hx, Zthr_l, Option.bind_some]
theorem ZM_isv (hP : ZPok P) (hM : ZMP st P) {v : Nat} (hv : v < Znv P) (y : Int32) : (Zisv P v y → fX5_isValue st (nI v) y = some 1) ∧ (¬ Zisv P v y → fX5_isValue st (nI v) y = some 0) := by
  have hn := hP.1
  have e1 := (hM.2.2.1 v hv).1
  have k3 := hP.2.2.1 v hv
  by_cases hk : Zkd P v ≤ 2
  · have vk := Zvs_le (k := Zkd P v)
    have h3 : ¬ (3 : Int32) ≤ nI (Zkd P v) := nI_ge (b := 3) (by omega) (by decide)
    have ev : fX5_values (nI (Zkd P v)) = some (nI (Zvs (Zkd P v))) := by
      have hc : Zkd P v = 0 ∨ Zkd P v = 1 ∨ Zkd P v = 2 := by omega
      rcases hc with q | q | q <;> rw [q] <;> rfl
    constructor
    · rintro ⟨-, k, hk2, rfl⟩
      simp (disch := omega) only [fX5_isValue, ZMA, e1, Option.bind_some, if_neg h3, ev, Zisin_n hk2 (show Zvs (Zkd P v) < 2 ^ 31 by omega), Zne10, if_false]
    · intro h
      have hx : y < 0 ∨ nI (Zvs (Zkd P v)) ≤ y := by
        rcases Zint_cases y (show Zvs (Zkd P v) < 2 ^ 31 by omega) with ⟨k, hk2, e⟩ | ⟨g, -⟩
        · exact absurd ⟨hk, k, hk2, e⟩ h
        · exact g
      simp (disch := omega) only [fX5_isValue, ZMA, e1, Option.bind_some, if_neg h3, ev, Zisin_nx hx (show Zvs (Zkd P v) < 2 ^ 31 - 1 by omega), if_true]
  · have e3 : Zkd P v = 3 := by omega
    refine ⟨fun h => absurd h.1 hk, fun _ => ?_⟩
    have h3 : (3 : Int32) ≤ nI (Zkd P v) := by rw [e3]; decide
    simp (disch := omega) only [fX5_isValue, ZMA, e1, Option.bind_some, if_pos h3]
/-- X's decisions: one more -/
theorem ZX_addD {t : Nat} (hD : ZDc sh t) (h : ZXl xs t L) (hl : L.length < 413) {e : Nat × Nat × Bool} (he : e.2.1 < 32) : ∃ z, fX2_add (ZW E sh xs) (Zl E t) (nI e.1) (nI e.2.1) (if e.2.2 = true then 1 else 0) = some (ZW E sh z) ∧ Zfr (fun u f => u = t ∧ f = 3) (fun u => u = t + 1 ∨ u = t + 2 ∨ u = t + 3) xs z ∧ ZXl z t (L ++ [e]) := by
  obtain ⟨a1, a2, a3, a4⟩ := hD
  obtain ⟨h1, h2, h3⟩ := h
  simp (disch := omega) only [fX2_add, Zb1 a1, ZbI a2, ZbI a3, ZbZ a4, h1, Option.bind_some, Zzb, nI_1]
  refine ⟨_, rfl, ?_, ?_, ?_, ?_⟩
  · exact Zfr.num (Zfr.arr (Zfr.arr (Zfr.arr Zfr.rfl (by omega)) (by omega)) (by omega)) ⟨rfl, rfl⟩
  · simp only [zua_ss, List.length_append, List.length_singleton]
  · simp only [List.length_append, List.length_singleton]
    omega
  · have := Zdd_app h3 (e := e) he
    simp only [zua, if_true, if_neg (show ¬ t + 1 = t + 3 by omega), if_neg (show ¬ t + 1 = t + 2 by omega), if_neg (show ¬ t + 2 = t + 3 by omega), if_neg (show ¬ t + 2 = t + 1 by omega), if_neg (show ¬ t + 3 = t + 1 by omega), if_neg (show ¬ t + 3 = t + 2 by omega)]
    exact this
/-- what decide and back change -/
abbrev ZfD (xs xs' : Zxs) : Prop := Zfr (fun u f => (u = 14 ∧ f = 3) ∨ (u = 1 ∧ f = 10)) (fun u => u = 15 ∨ u = 16 ∨ u = 17) xs xs'
abbrev ZfE (st st' : zMS) : Prop := ZfM (fun f => f = 24 ∨ f = 68) (fun f => f = 25 ∨ f = 26 ∨ f = 27) st st'
theorem ZfE.mp {st' : zMS} (hf : ZfE st st') (h : ZMP st P) : ZMP st' P := h.fr hf (fun f q => by unfold ZMf; omega) (fun f q => by unfold ZMf; omega)
theorem ZfD.xp {xs' : Zxs} (hP : ZPok P) (hf : ZfD xs xs') (h : ZXP sh xs P) : ZXP sh xs' P := h.frG hP (hf.mono (fun t f q => Or.inl (by omega)) fun u q => Or.inl (by omega))
theorem ZC_decide (hR : ZPD E sh xs st P L) (x y : Int32) (b : Bool) (N : Nat) : ∃ z w L', Zjo [3, 1, 2] (ZW E sh z) w (fX1_decide (ZW E sh xs) (Zl E 1) x y (if b = true then 1 else 0)) (fX5_decide st x y (if b = true then 1 else 0)) ∧ ZfD xs z ∧ ZfE st w ∧ ZPD E sh z w P L' := by
  obtain ⟨hP, hr, hb, hX, hM, hl, hd, hL, hk, h32⟩ := hR
  have hn := hP.1
  have thr : ∀ q, ZfE st (zus st.1 68 q, st.2) := fun q => ZfM.num ZfM.rfl (by omega)
  have keep : ∀ q, ZPD E sh xs (zus st.1 68 q, st.2) P L := fun q => ZPD.thr ⟨hP, hr, hb, hX, hM, hl, hd, hL, hk, h32⟩
  rcases Zint_cases x (show Znv P < 2 ^ 31 by omega) with ⟨v, hv, rfl⟩ | ⟨hx, -⟩
  · by_cases hy : Zisv P v y
    · have ex := ZX_cv (E := E) hP hb hX hv hy
      have em := (ZM_isv hP hM hv y).1 hy
      obtain ⟨d1, d2⟩ := Znot12 hd.2.1
      have hD := hb.2.2.2.2.1
      by_cases h12 : L.length = 12
      · refine ⟨xs, (zus st.1 68 3, st.2), L, Or.inr ⟨2, 2, 0, rfl, ?_, ?_, ?_⟩, Zfr.rfl, thr 3, keep 3⟩
        · simp only [fX1_decide, Zb0 hb.1, Option.bind_some, ex, Zthr_r, Zb1 hD.1, hl.1, if_pos (d1.mpr h12), fX1_checkState, if_true, Zthr_l]
        · simp only [fX5_decide, ZM_var hP hM hv, Option.bind_some, Zne10, if_false, em, hd.1, if_pos (d2.mpr h12), zps, zus_s, if_neg (show ¬ (3 : Int32) ≤ 0 by decide)]
        · simp only [zus_s]
          rfl
      · obtain ⟨hk2, k, hk3, rfl⟩ := hy
        have vk := Zvs_le (k := Zkd P v)
        have k32 : k < 32 := by omega
        obtain ⟨z, ez, fz, hz⟩ := ZX_addD (E := E) (e := (v, k, b)) hD hl (by have := hd.2.1; omega) k32
        have hd12 := hd.2.1
        refine ⟨(zua z.1 1 10 0, z.2), (zus (zus st.1 68 0) 24 (nI (L.length + 1)), zua (zua (zua st.2 25 L.length (nI v)) 26 L.length (nI k)) 27 L.length (if b = true then 1 else 0)), L ++ [(v, k, b)], Or.inl ⟨nI L.length, ?_, ?_, ?_⟩, ?_, ?_, ?_⟩
        · have h3 : ∀ q, (zua z.1 1 10 q) 14 3 = nI (L.length + 1) := fun q => by
            rw [zua_n (by decide), hz.1, List.length_append]
            rfl
          simp only [fX1_decide, Zb0 hb.1, Option.bind_some, ex, Zthr_r, Zb1 hD.1, hl.1, if_neg (fun g => h12 (d1.mp g)), fX1_checkState, Zne10, if_false, ez, true_or, if_true, h3, nI_pred]
        · simp (disch := omega) only [fX5_decide, ZM_var hP hM hv, Option.bind_some, Zne10, if_false, em, hd.1, if_neg (fun g => h12 (d2.mp g)), zps, zus_s, zus_n (show 24 ≠ 68 by decide), if_pos (show (0 : Int32) ≤ 0 by decide), ZMA, Zzb, nI_1, nI_pred]
        · simp only [zus_n (show 68 ≠ 24 by decide), zus_s]
        · exact Zfr.num (fz.mono (fun u f q => Or.inl q) fun u q => by omega) (Or.inr ⟨rfl, rfl⟩)
        · exact ZfM.num (ZfM.arr (ZfM.arr (ZfM.arr (ZfM.num ZfM.rfl (f := 68) (v := 0) (by omega)) (by omega)) (by omega)) (by omega)) (by omega)
        · have fD : ZfD xs (zua z.1 1 10 0, z.2) := Zfr.num (fz.mono (fun u f q => Or.inl q) fun u q => by omega) (Or.inr ⟨rfl, rfl⟩)
          have fE : ZfE st (zus (zus st.1 68 0) 24 (nI (L.length + 1)), zua (zua (zua st.2 25 L.length (nI v)) 26 L.length (nI k)) 27 L.length (if b = true then 1 else 0)) := ZfM.num (ZfM.arr (ZfM.arr (ZfM.arr (ZfM.num ZfM.rfl (f := 68) (v := 0) (by omega)) (by omega)) (by omega)) (by omega)) (by omega)
          refine ⟨hP, hr, hb, fD.xp hP hX, fE.mp hM, ?_, ⟨?_, ?_, ?_⟩, ?_, Or.inl ?_, ?_⟩
          · unfold ZXl at hz ⊢
            simp only [zua_n (show 14 ≠ 1 by decide)]
            exact hz
          · simp only [zus_s, List.length_append, List.length_singleton]
          · simp only [List.length_append, List.length_singleton]
            omega
          · have := Zdd_app hd.2.2 (e := (v, k, b)) k32
            simp only [zua, if_true, if_neg (show ¬ 25 = 27 by decide), if_neg (show ¬ 25 = 26 by decide), if_neg (show ¬ 26 = 27 by decide), if_neg (show ¬ 26 = 25 by decide), if_neg (show ¬ 27 = 25 by decide), if_neg (show ¬ 27 = 26 by decide)]
            exact this
          · intro e he
            rcases List.mem_append.mp he with g | g
            · exact hL e g
            · cases List.mem_singleton.mp g
              exact ⟨hv, hk2, k32⟩
          · simp only [zua_ss]
          · simp only [zus_n (show 32 ≠ 24 by decide), zus_n (show 32 ≠ 68 by decide)]
            exact h32
    · refine ⟨xs, (zus st.1 68 2, st.2), L, Or.inr ⟨1, 1, 0, rfl, ?_, ?_, ?_⟩, Zfr.rfl, thr 2, keep 2⟩
      · simp only [fX1_decide, Zb0 hb.1, Option.bind_some, ZX_cv_x hP hb hX hv hy, Zthr_l]
      · simp only [fX5_decide, ZM_var hP hM hv, Option.bind_some, Zne10, if_false, (ZM_isv hP hM hv y).2 hy, if_true, zps, zus_s, if_neg (show ¬ (2 : Int32) ≤ 0 by decide)]
      · simp only [zus_s]
        rfl
  · refine ⟨xs, (zus st.1 68 1, st.2), L, Or.inr ⟨0, 3, 0, rfl, ?_, ?_, ?_⟩, Zfr.rfl, thr 1, keep 1⟩
    · simp only [fX1_decide, Zb0 hb.1, Option.bind_some, ZX_cv_v hb hX hx, Zthr_l]
    · simp only [fX5_decide, ZM_var_x hP hM hx, Option.bind_some, if_true, zps, zus_s, if_neg (show ¬ (1 : Int32) ≤ 0 by decide)]
    · simp only [zus_s]
      rfl
theorem ZC_back (hR : ZPD E sh xs st P L) (x : Int32) : ∃ z w L', Zjo [1] (ZW E sh z) w (fX1_back (ZW E sh xs) (Zl E 1) x) (fX5_back st x) ∧ ZfD xs z ∧ ZfE st w ∧ ZPD E sh z w P L' := by
  obtain ⟨hP, hr, hb, hX, hM, hl, hd, hL, hk, h32⟩ := hR
  have hD := hb.2.2.2.2.1
  have h12 := hd.2.1
  rcases Zint_cases x (show L.length + 1 < 2 ^ 31 by omega) with ⟨k, hk2, rfl⟩ | ⟨hx, -⟩
  · have c1 : ∀ σ, fX1_check σ (nI k) 0 (nI L.length) = some (.inr ()) := fun σ => Zck σ (Znneg (by omega)) (nI_le (by omega) (by omega))
    have c2 : fX5_isIn (nI k) 0 (nI L.length) = some 1 := Zisin (Znneg (by omega)) (nI_le (by omega) (by omega))
    have fD : ZfD xs (zua (zua xs.1 14 3 (nI (L.length - k))) 1 10 0, xs.2) := Zfr.num (Zfr.num Zfr.rfl (t := 14) (k := 3) (v := nI (L.length - k)) (Or.inl ⟨rfl, rfl⟩)) (Or.inr ⟨rfl, rfl⟩)
    have fE : ZfE st (zus (zus st.1 68 0) 24 (nI (L.length - k)), st.2) := ZfM.num (ZfM.num ZfM.rfl (f := 68) (v := 0) (by omega)) (by omega)
    have hsub : nI L.length - nI k = nI (L.length - k) := pk_sub (by omega)
    have tl : (L.take (L.length - k)).length = L.length - k := by rw [List.length_take]; omega
    refine ⟨_, _, L.take (L.length - k), Or.inl ⟨nI (L.length - k), ?_, ?_, ?_⟩, fD, fE, hP, hr, hb, fD.xp hP hX, fE.mp hM, ⟨?_, ?_, ?_⟩, ⟨?_, ?_, ?_⟩, ?_, Or.inl ?_, ?_⟩
    · have h3 : (zua (zua xs.1 14 3 (nI (L.length - k))) 1 10 0) 14 3 = nI (L.length - k) := by
        rw [zua_n (by decide), zua_ss]
      simp only [fX1_back, Zb0 hb.1, Option.bind_some, Zb1 hD.1, hl.1, c1, Zthr_r, hsub, true_or, if_true, h3]
    · simp only [fX5_back, hd.1, c2, Option.bind_some, Zne10, if_false, zps, zus_s, if_pos (show (0 : Int32) ≤ 0 by decide), zus_n (show 24 ≠ 68 by decide), hsub]
    · simp only [zus_n (show 68 ≠ 24 by decide), zus_s]
    · rw [tl]
      show (zua (zua xs.1 14 3 (nI (L.length - k))) 1 10 0) 14 3 = _
      rw [zua_n (by decide), zua_ss]
    · rw [tl]
      omega
    · exact Zdd_take hl.2.2 _
    · rw [tl]
      simp only [zus_s]
    · rw [tl]
      omega
    · exact Zdd_take hd.2.2 _
    · exact fun e he => hL e (List.mem_of_mem_take he)
    · simp only [zua_ss]
    · simp only [zus_n (show 32 ≠ 24 by decide), zus_n (show 32 ≠ 68 by decide)]
      exact h32
  · have hbad : x < 0 ∨ ¬ x ≤ nI L.length := by
      rcases hx with g | g
      · exact Or.inl g
      · refine Or.inr fun q => ?_
        rw [Int32.le_iff_toInt_le, nI_toInt (by omega)] at g q
        omega
    refine ⟨xs, (zus st.1 68 1, st.2), L, Or.inr ⟨0, 1, 0, rfl, ?_, ?_, ?_⟩, Zfr.rfl, ZfM.num ZfM.rfl (by omega), ZPD.thr ⟨hP, hr, hb, hX, hM, hl, hd, hL, hk, h32⟩⟩
    · simp only [fX1_back, Zb0 hb.1, Option.bind_some, Zb1 hD.1, hl.1, Zck_x _ hbad, Zthr_l]
    · simp only [fX5_back, hd.1, Zisin_x hbad, Option.bind_some, if_true, zps, zus_s, if_neg (show ¬ (1 : Int32) ≤ 0 by decide)]
    · simp only [zus_s]
      rfl
end CV
