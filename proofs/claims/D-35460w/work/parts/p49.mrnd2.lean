/-! M: a round: intervals, all variables, taken over -/
set_option maxRecDepth 100000
theorem ZrA_conv {P : ZP} {T : ZT0} {v : Nat} {a b x : Int} (ha : ZrA P T v a) (hb : ZrA P T v b) (h1 : a ≤ x) (h2 : x ≤ b) : ZrA P T v x := fun c hc hs p hp hv => ZLok_conv (ha c hc hs p hp hv) (hb c hc hs p hp hv) h1 h2
section MX
variable {st : zMS} {P : ZP}
theorem ZM_low (hP : ZPok P) {T : ZT0} (hT : ZTok P T) {v : Nat} (hv : v < Znv P) (hk : Zkd P v = 3) {z : zMS} (hM : ZMP z P) (hTz : ZTm z = T) (h43 : z.2 43 v = T.2.1 v) (h44 : z.2 44 v = T.2.2 v) (q : zMS) (N : Nat) (hN : 1000 ≤ N) :
    ∃ w, zloop (fX5_round_L131 N (q, nI v)) N z = some w ∧ ZfR z w ∧ w.1 = z.1 ∧ (∀ f, f ≠ 43 → w.2 f = z.2 f) ∧ (∀ u, u ≠ v → w.2 43 u = z.2 43 u) ∧ (T.2.1 v).toInt ≤ (w.2 43 v).toInt ∧ (w.2 43 v).toInt ≤ (T.2.2 v).toInt + 1 ∧ (∀ x : Int, (T.2.1 v).toInt ≤ x → x < (w.2 43 v).toInt → ¬ ZrA P T v x) ∧ ((w.2 43 v).toInt ≤ (T.2.2 v).toInt → ZrA P T v (w.2 43 v).toInt) := by
  have hn10 := hP.1
  obtain ⟨t1, t2, t3⟩ := (hT v hv).2 hk
  have h3 : nI (Zkd P v) = (3 : Int32) := by rw [hk]; rfl
  have L := Zl_ex (body := fX5_round_L131 N (q, nI v)) (fun i w => ZfR z w ∧ w.1 = z.1 ∧ (∀ f, f ≠ 43 → w.2 f = z.2 f) ∧ (∀ u, u ≠ v → w.2 43 u = z.2 43 u) ∧ (w.2 43 v).toInt = (T.2.1 v).toInt + i ∧ (w.2 43 v).toInt ≤ (T.2.2 v).toInt + 1 ∧ (∀ x : Int, (T.2.1 v).toInt ≤ x → x < (T.2.1 v).toInt + i → ¬ ZrA P T v x)) ((T.2.2 v).toInt + 1 - (T.2.1 v).toInt).toNat
    (fun w => ZfR z w ∧ w.1 = z.1 ∧ (∀ f, f ≠ 43 → w.2 f = z.2 f) ∧ (∀ u, u ≠ v → w.2 43 u = z.2 43 u) ∧ (T.2.1 v).toInt ≤ (w.2 43 v).toInt ∧ (w.2 43 v).toInt ≤ (T.2.2 v).toInt + 1 ∧ (∀ x : Int, (T.2.1 v).toInt ≤ x → x < (w.2 43 v).toInt → ¬ ZrA P T v x) ∧ ((w.2 43 v).toInt ≤ (T.2.2 v).toInt → ZrA P T v (w.2 43 v).toInt))
    (by
      rintro i w hi ⟨fw, w1, wf, wu, wv, wh, wn⟩
      have Mw := fw.mp hM
      have Tw : ZTm w = T := (ZfR.tm fw).trans hTz
      have e1 := (Mw.2.2.1 v hv).1
      have e44 : w.2 44 v = T.2.2 v := by rw [wf 44 (by omega), h44]
      have hlt : ¬ T.2.2 v < w.2 43 v := by
        rw [Int32.lt_iff_toInt_lt]
        omega
      obtain ⟨b, eb, hb, hb1⟩ := ZM_ragr hP Mw (by rw [Tw]; exact hT) hv hk (w := w.2 43 v) rfl (by omega) (by omega) N hN
      rw [Tw] at hb1
      rcases hb with rfl | rfl
      · have hno : ¬ ZrA P T v (w.2 43 v).toInt := fun g => by
          have := hb1.mpr g
          cases this
        clear hb1
        simp (disch := omega) only [fX5_round_L131, ZMA, e1, h3, Option.bind_some, if_true, e44, if_neg hlt, eb]
        have hadd : (w.2 43 v + 1).toInt = (w.2 43 v).toInt + 1 := by
          rw [Zadd_i (by rw [Int32.toInt_one]; omega) (by rw [Int32.toInt_one]; omega), Int32.toInt_one]
        refine Or.inl ⟨_, rfl, fw.arr (by omega), w1, fun f hf => (zua_n hf).trans (wf f hf), fun u hu => (zua_sn hu).trans (wu u hu), ?_, ?_, fun x x1 x2 => ?_⟩
        · simp only [zua_ss]
          rw [hadd]
          omega
        · simp only [zua_ss]
          rw [hadd]
          omega
        · rcases Int.lt_or_le x ((T.2.1 v).toInt + i) with g | g
          · exact wn x x1 g
          · have : x = (w.2 43 v).toInt := by omega
            rw [this]
            exact hno
      · have hyes := hb1.mp rfl
        clear hb1
        simp (disch := omega) only [fX5_round_L131, ZMA, e1, h3, Option.bind_some, if_true, e44, if_neg hlt, eb, Zne10, if_false]
        exact Or.inr ⟨_, rfl, fw, w1, wf, wu, by omega, wh, fun x x1 x2 => wn x x1 (by omega), fun _ => hyes⟩)
    (by
      rintro w ⟨fw, w1, wf, wu, wv, wh, wn⟩
      have Mw := fw.mp hM
      have e1 := (Mw.2.2.1 v hv).1
      have e44 : w.2 44 v = T.2.2 v := by rw [wf 44 (by omega), h44]
      have hlt : T.2.2 v < w.2 43 v := by
        rw [Int32.lt_iff_toInt_lt]
        omega
      simp (disch := omega) only [fX5_round_L131, ZMA, e1, h3, Option.bind_some, if_true, e44, if_pos hlt]
      exact ⟨_, rfl, fw, w1, wf, wu, by omega, wh, fun x x1 x2 => wn x x1 (by omega), fun g => by omega⟩)
    N z (by omega) ⟨ZfM.rfl, rfl, fun _ _ => rfl, fun _ _ => rfl, by rw [h43]; simp, by rw [h43]; omega, fun x x1 x2 => by omega⟩
  obtain ⟨w, e, h⟩ := L
  exact ⟨w, e, h⟩
theorem ZM_high (hP : ZPok P) {T : ZT0} (hT : ZTok P T) {v : Nat} (hv : v < Znv P) (hk : Zkd P v = 3) {z : zMS} (hM : ZMP z P) (hTz : ZTm z = T) {A : Int} (h43 : (z.2 43 v).toInt = A) (hA1 : (T.2.1 v).toInt ≤ A) (hA2 : A ≤ (T.2.2 v).toInt + 1) (h44 : z.2 44 v = T.2.2 v) (q : zMS) (N : Nat) (hN : 1000 ≤ N) :
    ∃ w, zloop (fX5_round_L183 N (q, nI v)) N z = some w ∧ ZfR z w ∧ w.1 = z.1 ∧ (∀ f, f ≠ 44 → w.2 f = z.2 f) ∧ (∀ u, u ≠ v → w.2 44 u = z.2 44 u) ∧ A ≤ (w.2 44 v).toInt + 1 ∧ (w.2 44 v).toInt ≤ (T.2.2 v).toInt ∧ (∀ x : Int, (w.2 44 v).toInt < x → x ≤ (T.2.2 v).toInt → ¬ ZrA P T v x) ∧ (A ≤ (w.2 44 v).toInt → ZrA P T v (w.2 44 v).toInt) := by
  have hn10 := hP.1
  obtain ⟨t1, t2, t3⟩ := (hT v hv).2 hk
  have h3 : nI (Zkd P v) = (3 : Int32) := by rw [hk]; rfl
  have L := Zl_ex (body := fX5_round_L183 N (q, nI v)) (fun i w => ZfR z w ∧ w.1 = z.1 ∧ (∀ f, f ≠ 44 → w.2 f = z.2 f) ∧ (∀ u, u ≠ v → w.2 44 u = z.2 44 u) ∧ (w.2 44 v).toInt = (T.2.2 v).toInt - i ∧ A ≤ (w.2 44 v).toInt + 1 ∧ (∀ x : Int, (T.2.2 v).toInt - i < x → x ≤ (T.2.2 v).toInt → ¬ ZrA P T v x)) ((T.2.2 v).toInt + 1 - A).toNat
    (fun w => ZfR z w ∧ w.1 = z.1 ∧ (∀ f, f ≠ 44 → w.2 f = z.2 f) ∧ (∀ u, u ≠ v → w.2 44 u = z.2 44 u) ∧ A ≤ (w.2 44 v).toInt + 1 ∧ (w.2 44 v).toInt ≤ (T.2.2 v).toInt ∧ (∀ x : Int, (w.2 44 v).toInt < x → x ≤ (T.2.2 v).toInt → ¬ ZrA P T v x) ∧ (A ≤ (w.2 44 v).toInt → ZrA P T v (w.2 44 v).toInt))
    (by
      rintro i w hi ⟨fw, w1, wf, wu, wv, wh, wn⟩
      have Mw := fw.mp hM
      have Tw : ZTm w = T := (ZfR.tm fw).trans hTz
      have e1 := (Mw.2.2.1 v hv).1
      have e43 : (w.2 43 v).toInt = A := by rw [wf 43 (by omega), h43]
      have hlt : ¬ w.2 44 v < w.2 43 v := by
        rw [Int32.lt_iff_toInt_lt]
        omega
      obtain ⟨b, eb, hb, hb1⟩ := ZM_ragr hP Mw (by rw [Tw]; exact hT) hv hk (w := w.2 44 v) rfl (by omega) (by omega) N hN
      rw [Tw] at hb1
      rcases hb with rfl | rfl
      · have hno : ¬ ZrA P T v (w.2 44 v).toInt := fun g => by
          have := hb1.mpr g
          cases this
        clear hb1
        simp (disch := omega) only [fX5_round_L183, ZMA, e1, h3, Option.bind_some, if_true, if_neg hlt, eb]
        have hadd : (w.2 44 v - 1).toInt = (w.2 44 v).toInt - 1 := by
          rw [Zsub_i (by rw [Int32.toInt_one]; omega) (by rw [Int32.toInt_one]; omega), Int32.toInt_one]
        refine Or.inl ⟨_, rfl, fw.arr (by omega), w1, fun f hf => (zua_n hf).trans (wf f hf), fun u hu => (zua_sn hu).trans (wu u hu), ?_, ?_, fun x x1 x2 => ?_⟩
        · simp only [zua_ss]
          rw [hadd]
          omega
        · simp only [zua_ss]
          rw [hadd]
          omega
        · rcases Int.lt_or_le ((T.2.2 v).toInt - i) x with g | g
          · exact wn x g x2
          · have : x = (w.2 44 v).toInt := by omega
            rw [this]
            exact hno
      · have hyes := hb1.mp rfl
        clear hb1
        simp (disch := omega) only [fX5_round_L183, ZMA, e1, h3, Option.bind_some, if_true, if_neg hlt, eb, Zne10, if_false]
        exact Or.inr ⟨_, rfl, fw, w1, wf, wu, by omega, by omega, fun x x1 x2 => wn x (by omega) x2, fun _ => hyes⟩)
    (by
      rintro w ⟨fw, w1, wf, wu, wv, wh, wn⟩
      have Mw := fw.mp hM
      have e1 := (Mw.2.2.1 v hv).1
      have e43 : (w.2 43 v).toInt = A := by rw [wf 43 (by omega), h43]
      have hlt : w.2 44 v < w.2 43 v := by
        rw [Int32.lt_iff_toInt_lt]
        omega
      simp (disch := omega) only [fX5_round_L183, ZMA, e1, h3, Option.bind_some, if_true, if_pos hlt]
      exact ⟨_, rfl, fw, w1, wf, wu, by omega, by omega, fun x x1 x2 => wn x (by omega) x2, fun g => by omega⟩)
    N z (by omega) ⟨ZfM.rfl, rfl, fun _ _ => rfl, fun _ _ => rfl, by rw [h44]; simp, by rw [h44]; omega, fun x x1 x2 => by omega⟩
  obtain ⟨w, e, h⟩ := L
  exact ⟨w, e, h⟩
/-- what a round makes of an interval -/
def ZnI (P : ZP) (T : ZT0) (v : Nat) (a b : Int32) : Prop := ((T.2.1 v).toInt - 1 ≤ b.toInt ∧ a.toInt ≤ (T.2.2 v).toInt + 1) ∧ (
  ((∃ x : Int, (T.2.1 v).toInt ≤ x ∧ x ≤ (T.2.2 v).toInt ∧ ZrA P T v x) ∧ (T.2.1 v).toInt ≤ a.toInt ∧ a.toInt ≤ b.toInt ∧ b.toInt ≤ (T.2.2 v).toInt ∧ ∀ x : Int, (T.2.1 v).toInt ≤ x → x ≤ (T.2.2 v).toInt → (ZrA P T v x ↔ a.toInt ≤ x ∧ x ≤ b.toInt)) ∨
  ((∀ x : Int, (T.2.1 v).toInt ≤ x → x ≤ (T.2.2 v).toInt → ¬ ZrA P T v x) ∧ b.toInt < a.toInt))
theorem ZnI_of {T : ZT0} {v : Nat} {a b : Int32} (h1 : (T.2.1 v).toInt ≤ a.toInt) (h2 : a.toInt ≤ (T.2.2 v).toInt + 1) (h3 : ∀ x : Int, (T.2.1 v).toInt ≤ x → x < a.toInt → ¬ ZrA P T v x) (h4 : a.toInt ≤ (T.2.2 v).toInt → ZrA P T v a.toInt) (h5 : a.toInt ≤ b.toInt + 1) (h6 : b.toInt ≤ (T.2.2 v).toInt) (h7 : ∀ x : Int, b.toInt < x → x ≤ (T.2.2 v).toInt → ¬ ZrA P T v x) (h8 : a.toInt ≤ b.toInt → ZrA P T v b.toInt) : ZnI P T v a b := by
  unfold ZnI
  refine ⟨by omega, ?_⟩
  rcases Int.lt_or_le b.toInt a.toInt with g | g
  · refine Or.inr ⟨fun x x1 x2 => ?_, g⟩
    rcases Int.lt_or_le x a.toInt with q | q
    · exact h3 x x1 q
    · exact h7 x (by omega) x2
  · refine Or.inl ⟨⟨a.toInt, h1, by omega, h4 (by omega)⟩, h1, g, h6, fun x x1 x2 => ⟨fun h => ⟨?_, ?_⟩, fun ⟨q1, q2⟩ => ZrA_conv (h4 (by omega)) (h8 g) q1 q2⟩⟩
    · exact Int.not_lt.mp fun q => h3 x x1 q h
    · exact Int.not_lt.mp fun q => h7 x q x2 h
/-- all variables -/
def ZMn (P : ZP) (T : ZT0) (y : zMS) (v : Nat) : Prop := ∀ u, u < v → (Zkd P u ≤ 2 → y.2 42 u = Znx P T u ∧ y.2 43 u = T.2.1 u ∧ y.2 44 u = T.2.2 u) ∧ (Zkd P u = 3 → y.2 42 u = T.1 u ∧ ZnI P T u (y.2 43 u) (y.2 44 u))
theorem ZM_nexts (hP : ZPok P) {T : ZT0} (hT : ZTok P T) {y : zMS} (hM : ZMP y P) (hTy : ZTm y = T) (hsup : ∀ c, c < Znc P → ZMs P T c y) {l : List (Nat × Nat × Nat × Nat)} (ht : ZTrM y l) (hl : l.length + Zbc P T (Znv P) ≤ 320) {rd : Nat} (h38 : y.1 38 = nI rd) (N : Nat) (hN : 1000 ≤ N) :
    ∃ w, zloop (fX5_round_L25 N) N (y, (0 : Int32)) = some w ∧ ZfR y w ∧ ZMn P T w (Znv P) ∧ ZTrM w (l ++ ZtrR P T (Znx P T, T.2) (Zfcc P T) (rd + 1) (Znv P)) := by
  have hn10 := hP.1
  have hsub : ∀ v, ∀ k, k < 32 → Zt (Znx P T v) k = true → Zt (T.1 v) k = true := fun v k hk32 g => ((Znx_t hk32).mp g).1
  have L := Zl_inv (body := fX5_round_L25 N) (fun v a => ∃ w, a = (w, nI v) ∧ ZfR y w ∧ w.2 41 = y.2 41 ∧ ZMn P T w v ∧ ZTrM w (l ++ ZtrR P T (Znx P T, T.2) (Zfcc P T) (rd + 1) v)) (Znv P)
    (fun w => ZfR y w ∧ ZMn P T w (Znv P) ∧ ZTrM w (l ++ ZtrR P T (Znx P T, T.2) (Zfcc P T) (rd + 1) (Znv P)))
    (by
      rintro v a hv ⟨w, rfl, fw, w41, wn, wt⟩
      have Mw := fw.mp hM
      have Tw : ZTm w = T := (ZfR.tm fw).trans hTy
      have t34 : w.2 34 v = T.1 v := by rw [← Tw]; rfl
      have t35 : w.2 35 v = T.2.1 v := by rw [← Tw]; rfl
      have t36 : w.2 36 v = T.2.2 v := by rw [← Tw]; rfl
      obtain ⟨x, hx⟩ : ∃ x : zMS, x = (w.1, zua (zua (zua w.2 42 v (T.1 v)) 43 v (T.2.1 v)) 44 v (T.2.2 v)) := ⟨_, rfl⟩
      have fx : ZfR w x := by rw [hx]; exact ((ZfM.rfl.arr (by omega)).arr (by omega)).arr (by omega)
      have x41 : x.2 41 = y.2 41 := by
        rw [hx, ← w41]
        simp only [zua_n (show 41 ≠ 44 by decide), zua_n (show 41 ≠ 43 by decide), zua_n (show 41 ≠ 42 by decide)]
      have x1 : x.1 = w.1 := by rw [hx]
      have x40 : x.2 40 = w.2 40 := by
        rw [hx]
        simp only [zua_n (show 40 ≠ 44 by decide), zua_n (show 40 ≠ 43 by decide), zua_n (show 40 ≠ 42 by decide)]
      have xv : x.2 42 v = T.1 v ∧ x.2 43 v = T.2.1 v ∧ x.2 44 v = T.2.2 v := by
        rw [hx]
        simp only [zua_n (show 42 ≠ 44 by decide), zua_n (show 42 ≠ 43 by decide), zua_n (show 43 ≠ 44 by decide), zua_ss, and_self]
      have xu : ∀ u, u ≠ v → x.2 42 u = w.2 42 u ∧ x.2 43 u = w.2 43 u ∧ x.2 44 u = w.2 44 u := by
        intro u hu
        rw [hx]
        simp only [zua_n (show 42 ≠ 44 by decide), zua_n (show 42 ≠ 43 by decide), zua_n (show 43 ≠ 44 by decide), zua_n (show 43 ≠ 42 by decide), zua_n (show 44 ≠ 42 by decide), zua_n (show 44 ≠ 43 by decide), zua_sn hu, and_self]
      have xt : ZTrM x (l ++ ZtrR P T (Znx P T, T.2) (Zfcc P T) (rd + 1) v) := by
        unfold ZTrM at wt ⊢
        rw [x1, x40]
        exact wt
      have Mx := fx.mp Mw
      have Tx : ZTm x = T := (ZfR.tm fx).trans Tw
      have head : ∀ r, ((zloop (fX5_round_L71 N (w, nI v)) N (x, (0 : Int32))).bind fun t39 => (zloop (fX5_round_L131 N (w, nI v)) N t39).bind fun t42 => (zloop (fX5_round_L183 N (w, nI v)) N t42).bind fun t45 => some (Sum.inl (t45, nI (v + 1)))) = some r → fX5_round_L25 N (w, nI v) = some r := by
        intro r hr
        rw [hx] at hr
        simp (disch := omega) only [fX5_round_L25, Mw.1, if_neg (nI_ge hv (show Znv P < 2 ^ 31 by omega)), ZMA, t34, t35, t36, zua_n (show 35 ≠ 42 by decide), zua_n (show 36 ≠ 42 by decide), zua_n (show 36 ≠ 43 by decide), Option.bind_some, nI_1]
        exact hr
      by_cases hk : Zkd P v = 3
      · have h3 : nI (Zkd P v) = (3 : Int32) := by rw [hk]; rfl
        have c1 : zloop (fX5_round_L71 N (w, nI v)) N (x, (0 : Int32)) = some x := by
          obtain ⟨M, rfl⟩ : ∃ M, N = M + 1 := ⟨N - 1, by omega⟩
          have e1 := (Mx.2.2.1 v hv).1
          simp (disch := omega) only [zloop, fX5_round_L71, if_neg (show ¬ (32 : Int32) ≤ 0 by decide), ZMA, e1, h3, Option.bind_some, if_true]
        obtain ⟨z, c2, fz, z1, zf, zu, za, zb, zc, zd⟩ := ZM_low hP hT hv hk Mx Tx xv.2.1 xv.2.2 w N hN
        have z44 : z.2 44 v = T.2.2 v := by rw [zf 44 (by omega)]; exact xv.2.2
        obtain ⟨s, c3, fs, s1, sf, su, sa, sb, sc, sd⟩ := ZM_high hP hT hv hk (ZfR.mp fz Mx) ((ZfR.tm fz).trans Tx) rfl za zb z44 w N hN
        have s43 : s.2 43 = z.2 43 := sf 43 (by omega)
        refine ⟨_, head _ (by rw [c1, Option.bind_some, c2, Option.bind_some, c3, Option.bind_some]), s, rfl, ((fw.trans fx).trans fz).trans fs, by rw [sf 41 (by omega), zf 41 (by omega)]; exact x41, fun u hu => ?_, ?_⟩
        · by_cases g : u = v
          · subst g
            refine ⟨fun h => by omega, fun _ => ⟨by rw [sf 42 (by omega), zf 42 (by omega)]; exact xv.1, ?_⟩⟩
            refine ZnI_of ?_ ?_ ?_ ?_ ?_ sb sc ?_
            · rw [s43]; exact za
            · rw [s43]; exact zb
            · rw [s43]; exact zc
            · rw [s43]; exact zd
            · rw [s43]; exact sa
            · rw [s43]; exact sd
          · have h := wn u (by omega)
            obtain ⟨g1, g2, g3⟩ := xu u g
            rw [sf 42 (by omega), zf 42 (by omega), s43, zu u g, su u g, zf 44 (by omega), g1, g2, g3]
            exact h
        · simp only [ZtrR, if_pos hk, List.append_nil]
          unfold ZTrM at xt ⊢
          rw [s1, z1, sf 40 (by omega), zf 40 (by omega)]
          exact xt
      · have hk2 : Zkd P v ≤ 2 := by have := hP.2.2.1 v hv; omega
        have h3 : ¬ nI (Zkd P v) = (3 : Int32) := fun g => absurd ((nI_eq (a := Zkd P v) (b := 3) (by omega) (by omega)).mp g) (by omega)
        have hlen : (l ++ ZtrR P T (Znx P T, T.2) (Zfcc P T) (rd + 1) v).length + Zct (Zt (T.1 v)) 32 ≤ 320 := by
          have q1 := ZtrR_len (P := P) (T := T) (T' := (Znx P T, T.2)) (fc := Zfcc P T) (rd := rd + 1) v fun u _ _ => hsub u
          have q2 : Zbc P T (v + 1) ≤ Zbc P T (Znv P) := by
            obtain ⟨j, hj⟩ : ∃ j, Znv P = v + 1 + j := ⟨Znv P - (v + 1), by omega⟩
            rw [hj]
            clear hj
            induction j with
            | zero => exact Nat.le_refl _
            | succ j ih => exact Nat.le_trans ih (by rw [← Nat.add_assoc]; simp only [Zbc]; omega)
          simp only [Zbc, if_neg hk] at q2
          rw [List.length_append]
          omega
        obtain ⟨z, c1, fz, z43, z44, z41, zu, zv, zt⟩ := ZM_vals hP hv hk2 Mx Tx (fun c hc p hp hkp k hk32 hD => by rw [x41]; exact hsup c hc p hp hkp k hk32 hD) xv.1 xt hlen (rd := rd) (by rw [x1, fw.1 38 (by omega)]; exact h38) w N hN
        have Mz := ZfR.mp fz Mx
        have e1 := (Mz.2.2.1 v hv).1
        have c2 : zloop (fX5_round_L131 N (w, nI v)) N z = some z := by
          obtain ⟨M, rfl⟩ : ∃ M, N = M + 1 := ⟨N - 1, by omega⟩
          simp (disch := omega) only [zloop, fX5_round_L131, ZMA, e1, if_neg h3, Option.bind_some]
        have c3 : zloop (fX5_round_L183 N (w, nI v)) N z = some z := by
          obtain ⟨M, rfl⟩ : ∃ M, N = M + 1 := ⟨N - 1, by omega⟩
          simp (disch := omega) only [zloop, fX5_round_L183, ZMA, e1, if_neg h3, Option.bind_some]
        refine ⟨_, head _ (by rw [c1, Option.bind_some, c2, Option.bind_some, c3, Option.bind_some]), z, rfl, (fw.trans fx).trans fz, z41.trans x41, fun u hu => ?_, ?_⟩
        · by_cases g : u = v
          · subst g
            exact ⟨fun _ => ⟨zv, by rw [z43]; exact xv.2.1, by rw [z44]; exact xv.2.2⟩, fun h => absurd h hk⟩
          · have h := wn u (by omega)
            obtain ⟨g1, g2, g3⟩ := xu u g
            rw [zu u g, z43, z44, g1, g2, g3]
            exact h
        · simp only [ZtrR, if_neg hk]
          rw [← List.append_assoc]
          exact zt)
    (by
      rintro a ⟨w, rfl, fw, w41, wn, wt⟩
      simp only [fX5_round_L25, (fw.mp hM).1, if_pos (nI_le (Nat.le_refl _) (show Znv P < 2 ^ 31 by omega))]
      exact ⟨_, rfl, fw, wn, wt⟩)
    N (y, (0 : Int32)) (by omega) ⟨y, rfl, ZfM.rfl, rfl, fun u hu => absurd hu (by omega), by
      simp only [ZtrR, List.append_nil]
      exact ht⟩
  obtain ⟨w, e, h⟩ := L
  exact ⟨w, e, h⟩
end MX
