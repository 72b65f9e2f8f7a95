/-! X: a round, whole -/
set_option maxRecDepth 100000
/-- stores that are equal at the variables -/
def Zeq (P : ZP) (T T' : ZT0) : Prop := ∀ v, v < Znv P → T.1 v = T'.1 v ∧ T.2.1 v = T'.2.1 v ∧ T.2.2 v = T'.2.2 v
/-- a store is changed -/
def Zchg (P : ZP) (T T' : ZT0) : Prop := ∃ v, v < Znv P ∧ (T.1 v ≠ T'.1 v ∨ T.2.1 v ≠ T'.2.1 v ∨ T.2.2 v ≠ T'.2.2 v)
theorem ZnS_eq {P : ZP} {T T' T'' : ZT0} (h : ZnS P T T') (e : Zeq P T' T'') : ZnS P T T'' := fun v hv hk k hk32 => by rw [← (e v hv).1]; exact h v hv hk k hk32
theorem ZnR_eq {P : ZP} {T T' T'' : ZT0} (h : ZnR P T T') (e : Zeq P T' T'') : ZnR P T T'' := fun v hv hk => by rw [← (e v hv).2.1, ← (e v hv).2.2]; exact h v hv hk
/-- what a round keeps as it is -/
def Zkp (P : ZP) (T T' : ZT0) : Prop := ∀ v, v < Znv P → (Zkd P v ≤ 2 → T'.2.1 v = T.2.1 v ∧ T'.2.2 v = T.2.2 v) ∧ (Zkd P v = 3 → T'.1 v = T.1 v ∧ -1000 ≤ (T'.2.2 v).toInt ∧ (T'.2.1 v).toInt ≤ 1000)
/-- the first removers -/
def ZfcA (P : ZP) (T T' : ZT0) (fc : Nat → Nat → Nat) : Prop := ∀ v, v < Znv P → Zkd P v ≤ 2 → ∀ k, k < 32 → Zt (T.1 v) k = true → ¬ Zt (T'.1 v) k = true → Zfc P T v k (fc v k)
section RD
variable {sh : Nat → Option Zsh} {xs : Zxs} {P : ZP} {E : Ze} {ts : Nat}
theorem ZX_copy (hP : ZPok P) (hb : Zbase E sh) (hX : ZXP sh xs P) (hts : ts = 28 ∨ ts = 36) (hS : ZS sh ts) (N : Nat) (hN : 1000 ≤ N) :
    ∃ y, zloop (fX1_makeRound_L2 (Zl E 1) (Zl E ts)) N (ZW E sh xs, 0) = some (ZW E sh y) ∧ y.1 = xs.1 ∧ (∀ u, u ≠ 40 → u ≠ 41 → u ≠ 42 → y.2 u = xs.2 u) ∧ ∀ v, v < Znv P → y.2 40 v = xs.2 (ts + 1) v ∧ y.2 41 v = xs.2 (ts + 2) v ∧ y.2 42 v = xs.2 (ts + 3) v := by
  have hn10 := hP.1
  obtain ⟨s1, s2, s3, s4⟩ := hS
  have a0 := hb.2.2.2.2.2.2.2.1 0 (by omega)
  have a1 := hb.2.2.2.2.2.2.2.1 1 (by omega)
  have a2 := hb.2.2.2.2.2.2.2.1 2 (by omega)
  simp only [Nat.reduceAdd] at a0 a1 a2
  have L := Zl_inv (body := fX1_makeRound_L2 (Zl E 1) (Zl E ts)) (fun i a => ∃ y, a = (ZW E sh y, nI i) ∧ y.1 = xs.1 ∧ (∀ u, u ≠ 40 → u ≠ 41 → u ≠ 42 → y.2 u = xs.2 u) ∧ ∀ v, v < i → y.2 40 v = xs.2 (ts + 1) v ∧ y.2 41 v = xs.2 (ts + 2) v ∧ y.2 42 v = xs.2 (ts + 3) v) (Znv P)
    (fun r => ∃ y, r = ZW E sh y ∧ y.1 = xs.1 ∧ (∀ u, u ≠ 40 → u ≠ 41 → u ≠ 42 → y.2 u = xs.2 u) ∧ ∀ v, v < Znv P → y.2 40 v = xs.2 (ts + 1) v ∧ y.2 41 v = xs.2 (ts + 2) v ∧ y.2 42 v = xs.2 (ts + 3) v)
    (by
      rintro i a hi ⟨y, rfl, h1, h2, h3⟩
      have fy : Zfr (ZRA P ts) (ZRB P ts) xs y := Zfr_tk Zfr.rfl h1 fun u hu => h2 u (by omega) (by omega) (by omega)
      obtain ⟨n1, n2, n3⟩ := ZxNv (hX.fr hP hts fy).1 E
      have e1 := h2 (ts + 1) (by omega) (by omega) (by omega)
      have e2 := h2 (ts + 2) (by omega) (by omega) (by omega)
      have e3 := h2 (ts + 3) (by omega) (by omega) (by omega)
      simp (disch := omega) only [fX1_makeRound_L2, n1, n2, n3, Option.bind_some, if_neg (nI_ge hi (show Znv P < 2 ^ 31 by omega)), Zb0 hb.1, Zb3 s1, ZbI s2, ZbI s3, ZbI s4, ZbI a0, ZbI a1, ZbI a2, zua_n, e1, e2, e3, nI_1]
      refine ⟨_, rfl, _, rfl, h1, fun u u0 u1 u2 => (zua_n u2).trans ((zua_n u1).trans ((zua_n u0).trans (h2 u u0 u1 u2))), fun v hv => ?_⟩
      simp only [zua_n (show 40 ≠ 42 by decide), zua_n (show 40 ≠ 41 by decide), zua_n (show 41 ≠ 42 by decide), zua_n (show 41 ≠ 40 by decide), zua_n (show 42 ≠ 41 by decide), zua_n (show 42 ≠ 40 by decide), zua_s]
      by_cases q : v = i
      · subst q
        simp only [if_true, and_self]
      · simp only [if_neg q]
        exact h3 v (by omega))
    (by
      rintro a ⟨y, rfl, h1, h2, h3⟩
      have fy : Zfr (ZRA P ts) (ZRB P ts) xs y := Zfr_tk Zfr.rfl h1 fun u hu => h2 u (by omega) (by omega) (by omega)
      obtain ⟨n1, n2, n3⟩ := ZxNv (hX.fr hP hts fy).1 E
      simp only [fX1_makeRound_L2, n1, n2, n3, Option.bind_some, if_pos (nI_le (Nat.le_refl _) (show Znv P < 2 ^ 31 by omega))]
      exact ⟨_, rfl, y, rfl, h1, h2, h3⟩)
    N (ZW E sh xs, 0) (by omega) ⟨xs, rfl, rfl, fun _ _ _ _ => rfl, fun v hv => absurd hv (by omega)⟩
  obtain ⟨r, e, y, rfl, h⟩ := L
  exact ⟨y, e, h⟩
/-- some of the variables below v is changed -/
def Zcx (T : ZT0) (x : Zxs) (v : Nat) : Prop := ∃ w, w < v ∧ (T.1 w ≠ x.2 40 w ∨ T.2.1 w ≠ x.2 41 w ∨ T.2.2 w ≠ x.2 42 w)
theorem ZX_make (hP : ZPok P) (hb : Zbase E sh) (hX : ZXP sh xs P) (hts : ts = 28 ∨ ts = 36) (hS : ZS sh ts) (hT0 : ZTok P (ZTs xs ts)) {rd : Nat} (hrd : xs.1 ts 4 = nI rd) {l : List (Nat × Nat × Nat × Nat)} {tr : Int32} (htr : tr = 0 ∨ (tr = 1 ∧ ZTrc xs l ∧ l.length + Zbc P (ZTs xs ts) (Znv P) ≤ 320)) (N : Nat) (hN : 1000 ≤ N) :
    ∃ z b fc, fX1_makeRound N (ZW E sh xs) (Zl E 1) (Zl E ts) tr = some (ZW E sh z, b) ∧ Zfr (ZRA P ts) (ZRB P ts) xs z ∧ (b = 0 ∨ b = 1) ∧ ZnS P (ZTs xs ts) (ZTs z ts) ∧ ZnR P (ZTs xs ts) (ZTs z ts) ∧ Zkp P (ZTs xs ts) (ZTs z ts) ∧ (b = 1 ↔ Zchg P (ZTs xs ts) (ZTs z ts)) ∧ ZfcA P (ZTs xs ts) (ZTs z ts) fc ∧ z.1 ts = xs.1 ts ∧
      (tr = 0 → z.1 1 = xs.1 1 ∧ ∀ i, i < 4 → z.2 (32 + i) = xs.2 (32 + i)) ∧ (tr = 1 → ZTrc z (l ++ ZtrR P (ZTs xs ts) (ZTs z ts) fc (rd + 1) (Znv P))) := by
  have hn10 := hP.1
  obtain ⟨y, e1, y1, yu, yv⟩ := ZX_copy hP hb hX hts hS N hN
  have fy : Zfr (ZRA P ts) (ZRB P ts) xs y := Zfr_tk Zfr.rfl y1 fun u hu => yu u (by omega) (by omega) (by omega)
  have hTy : ZTs y ts = ZTs xs ts := by unfold ZTs; rw [yu (ts + 1) (by omega) (by omega) (by omega), yu (ts + 2) (by omega) (by omega) (by omega), yu (ts + 3) (by omega) (by omega) (by omega)]
  have hk0 : ZTk P (ZTs xs ts) 0 0 y := by
    have nR : ∀ v k, ¬ ZRm P (ZTs xs ts) 0 0 v k := by
      rintro v k (⟨c', g, -⟩ | ⟨p', g, -⟩) <;> omega
    refine ⟨fun v hv hk k hk32 => ?_, fun v hv hk k hk32 _ h => absurd h (nR v k), fun v hv hk => ⟨(yv v hv).2.1, (yv v hv).2.2⟩, fun v hv hk => ⟨(yv v hv).1, ?_⟩⟩
    · rw [(yv v hv).1]
      exact ⟨fun h => ⟨h, nR v k⟩, fun h => h.1⟩
    · rw [(yv v hv).2.1, (yv v hv).2.2]
      have o := (hT0 v hv).2 hk
      refine ⟨Int.le_refl _, ⟨Int.le_refl _, by show _ ≤ ((ZTs xs ts).2.2 v).toInt; omega, by show ((ZTs xs ts).2.1 v).toInt ≤ _; omega⟩, fun z z1 z2 => ⟨fun _ => ⟨z1, z2⟩, fun _ => ⟨fun c' hc' => absurd hc' (by omega), fun _ p' hp' => absurd hp' (by omega)⟩⟩⟩
  obtain ⟨x, e2, fx, hTx, hkx, ⟨x1, x2⟩, x3⟩ := ZX_cons hP hb hX hts hS hT0 fy hTy hk0 ⟨by rw [y1], by rw [y1]⟩ (fun i hi => yu _ (by omega) (by omega) (by omega)) N hN
  obtain ⟨hnS, hnR, hfc⟩ := ZTk_ns hkx
  obtain ⟨-, -, k3, k4⟩ := hkx
  have hXx := hX.fr hP hts fx
  obtain ⟨s1, s2, s3, s4⟩ := hS
  have a0 := hb.2.2.2.2.2.2.2.1 0 (by omega)
  have a1 := hb.2.2.2.2.2.2.2.1 1 (by omega)
  have a2 := hb.2.2.2.2.2.2.2.1 2 (by omega)
  simp only [Nat.reduceAdd] at a0 a1 a2
  let fc : Nat → Nat → Nat := fun v k => (x.2 (44 + v) k).toNatClampNeg
  have hfc1 : ∀ v, v < Znv P → Zkd P v ≤ 2 → ∀ k, k < 32 → Zt ((ZTs xs ts).1 v) k = true → ¬ Zt (x.2 40 v) k = true → x.2 (44 + v) k = nI (fc v k) ∧ Zfc P (ZTs xs ts) v k (fc v k) := by
    intro v hv hk k hk32 g1 g2
    obtain ⟨c, q1, q2⟩ := hfc v hv hk k hk32 g1 g2
    have hc := q2.1
    have hnc := hP.2.1
    have : fc v k = c := by
      show (x.2 (44 + v) k).toNatClampNeg = c
      rw [q1, Zcl (by omega)]
    rw [this]
    exact ⟨q1, q2⟩
  have hTe : ZTs xs ts = (x.2 (ts + 1), x.2 (ts + 2), x.2 (ts + 3)) := hTx.symm
  have L := Zl_inv (body := fX1_makeRound_L132 N (Zl E 1) (Zl E ts) tr) (fun v a => ∃ z b, a = (ZW E sh z, b, nI v) ∧ (b = 0 ∨ b = 1) ∧ (b = 1 ↔ Zcx (ZTs xs ts) x (v)) ∧ Zfr (fun t f => t = 1 ∧ f = 15) (fun u => u = ts + 1 ∨ u = ts + 2 ∨ u = ts + 3 ∨ (32 ≤ u ∧ u < 36)) x z ∧
      (∀ w, z.2 (ts + 1) w = (if w < v then x.2 40 w else x.2 (ts + 1) w) ∧ z.2 (ts + 2) w = (if w < v then x.2 41 w else x.2 (ts + 2) w) ∧ z.2 (ts + 3) w = (if w < v then x.2 42 w else x.2 (ts + 3) w)) ∧ (tr = 0 → z.1 1 = x.1 1 ∧ ∀ i, i < 4 → z.2 (32 + i) = x.2 (32 + i)) ∧ (tr = 1 → ZTrc z (l ++ ZtrR P (ZTs xs ts) (x.2 40, x.2 41, x.2 42) fc (rd + 1) v))) (Znv P)
    (fun r => ∃ z b, r = (ZW E sh z, b) ∧ (b = 0 ∨ b = 1) ∧ (b = 1 ↔ Zcx (ZTs xs ts) x (Znv P)) ∧ Zfr (fun t f => t = 1 ∧ f = 15) (fun u => u = ts + 1 ∨ u = ts + 2 ∨ u = ts + 3 ∨ (32 ≤ u ∧ u < 36)) x z ∧
      (∀ w, z.2 (ts + 1) w = (if w < Znv P then x.2 40 w else x.2 (ts + 1) w) ∧ z.2 (ts + 2) w = (if w < Znv P then x.2 41 w else x.2 (ts + 2) w) ∧ z.2 (ts + 3) w = (if w < Znv P then x.2 42 w else x.2 (ts + 3) w)) ∧ (tr = 0 → z.1 1 = x.1 1 ∧ ∀ i, i < 4 → z.2 (32 + i) = x.2 (32 + i)) ∧ (tr = 1 → ZTrc z (l ++ ZtrR P (ZTs xs ts) (x.2 40, x.2 41, x.2 42) fc (rd + 1) (Znv P))))
    (by
      rintro v a hv ⟨z, b, rfl, hb01, hb1, hz, hzw, ht0, ht1⟩
      have fz : Zfr (ZRA P ts) (ZRB P ts) x z := hz.mono (fun t f q => Or.inr (Or.inl q)) fun u q => by unfold ZRB; omega
      have hXz := (hXx.fr hP hts fz).1
      obtain ⟨n1, n2, n3⟩ := ZxNv hXz E
      have hrat := ZxRat hXz hP hv E
      -- the trace
      have ht : ∃ z1, (if tr = 0 then (some (ZW E sh z)) else ((zis (ZW E sh z) (Zl E 1) 0).bind fun u46 => (fX1_isRatio (ZW E sh z) (Zl E 1) (nI v)).bind fun t47 => if t47 = 0 then ((zgR [3] 0 (ZW E sh z) (Zl E ts)).bind fun r48 => (zaI (ZW E sh z) r48 (nI v)).bind fun x49 => (zgR [0] 17 (ZW E sh z) (Zl E 1)).bind fun r50 => (zaI (ZW E sh z) r50 (nI v)).bind fun x51 => (zgI [3] 4 (ZW E sh z) (Zl E ts)).bind fun x52 => (zis (ZW E sh z) (Zl E 1) 0).bind fun u53 => (fX1_trace N (ZW E sh z) (Zl E 1) (nI v) (x49 &&& (x51 ^^^ (-1 : Int32))) (x52 + (1 : Int32))).bind fun t54 => some t54) else (some (ZW E sh z)))) = some (ZW E sh z1) ∧
          Zfr (fun t f => t = 1 ∧ f = 15) (fun u => 32 ≤ u ∧ u < 36) z z1 ∧ (tr = 0 → z1 = z) ∧ (tr = 1 → ZTrc z1 (l ++ ZtrR P (ZTs xs ts) (x.2 40, x.2 41, x.2 42) fc (rd + 1) (v + 1))) := by
        rcases htr with h | ⟨h, hl, hlen⟩
        · rw [if_pos h]
          exact ⟨z, rfl, Zfr.rfl, fun _ => rfl, fun g => by rw [h] at g; cases g⟩
        · have hne : ¬ tr = 0 := by rw [h]; decide
          rw [if_neg hne]
          by_cases k : Zkd P v = 3
          · rw [if_pos k] at hrat
            simp only [Zb0 hb.1, hrat, Option.bind_some, Zne10, if_false]
            refine ⟨z, rfl, Zfr.rfl, fun g => absurd g hne, fun _ => ?_⟩
            simp only [ZtrR, if_pos k, List.append_nil]
            exact ht1 h
          · rw [if_neg k] at hrat
            have hk2 : Zkd P v ≤ 2 := by have := hP.2.2.1 v hv; omega
            have er : z.1 ts 4 = nI rd := by rw [hz.1 ts 4 (by omega), x1, hrd]
            have e40 : z.2 40 = x.2 40 := hz.2 40 (by omega)
            have ets : z.2 (ts + 1) v = x.2 (ts + 1) v := by rw [(hzw v).1, if_neg (by omega)]
            have hsub : ∀ w, w < Znv P → Zkd P w ≠ 3 → ∀ k, k < 32 → Zt (x.2 40 w) k = true → Zt ((ZTs xs ts).1 w) k = true := fun w hw hk k hk32 g => ((hnS w hw (by have := hP.2.2.1 w hw; omega) k hk32).mp g).1
            have hL : (l ++ ZtrR P (ZTs xs ts) (x.2 40, x.2 41, x.2 42) fc (rd + 1) v).length + (ZtrV (ZTs xs ts) (x.2 40, x.2 41, x.2 42) fc (rd + 1) v 32).length ≤ 320 := by
              have q1 := ZtrR_len (P := P) (T := ZTs xs ts) (T' := (x.2 40, x.2 41, x.2 42)) (fc := fc) (rd := rd + 1) (v + 1) fun w hw => hsub w (by omega)
              have q2 : Zbc P (ZTs xs ts) (v + 1) ≤ Zbc P (ZTs xs ts) (Znv P) := by
                obtain ⟨j, hj⟩ : ∃ j, Znv P = v + 1 + j := ⟨Znv P - (v + 1), by omega⟩
                rw [hj]
                clear hj
                induction j with
                | zero => exact Nat.le_refl _
                | succ j ih => exact Nat.le_trans ih (by rw [← Nat.add_assoc]; simp only [Zbc]; omega)
              simp only [ZtrR, if_neg k, List.length_append] at q1
              rw [List.length_append]
              omega
            obtain ⟨z1, e3, f1, t1⟩ := ZX_trace (E := E) hb (ht1 h) (T := ZTs xs ts) (T' := (x.2 40, x.2 41, x.2 42)) (fc := fc) (v := v) (rd := rd + 1) (by omega) (fun k hk32 g1 g2 => by
                rw [hz.2 (44 + v) (by omega)]
                exact (hfc1 v hv hk2 k hk32 g1 g2).1) (rs := x.2 (ts + 1) v &&& (x.2 40 v ^^^ (-1))) (fun k hk32 => by
                rw [Zt_and, Zt_not, hTe]
                simp [hk32]) hL N hN
            simp (disch := omega) only [Zb0 hb.1, hrat, Option.bind_some, if_true, Zb3 s1, ZbI s2, ZbI a0, ets, e40, er, nI_1, e3]
            refine ⟨z1, rfl, f1, fun g => absurd g hne, fun _ => ?_⟩
            simp only [ZtrR, if_neg k]
            rw [← List.append_assoc]
            exact t1
      obtain ⟨z1, e3, f1, t0, t1⟩ := ht
      have u40 : z1.2 40 = x.2 40 := (f1.2 40 (by omega)).trans (hz.2 40 (by omega))
      have u41 : z1.2 41 = x.2 41 := (f1.2 41 (by omega)).trans (hz.2 41 (by omega))
      have u42 : z1.2 42 = x.2 42 := (f1.2 42 (by omega)).trans (hz.2 42 (by omega))
      have v1 : z1.2 (ts + 1) v = x.2 (ts + 1) v := by rw [f1.2 _ (by omega), (hzw v).1, if_neg (by omega)]
      have v2 : z1.2 (ts + 2) v = x.2 (ts + 2) v := by rw [f1.2 _ (by omega), (hzw v).2.1, if_neg (by omega)]
      have v3 : z1.2 (ts + 3) v = x.2 (ts + 3) v := by rw [f1.2 _ (by omega), (hzw v).2.2, if_neg (by omega)]
      have key : ∀ d : Int32, (d = 0 ∨ d = 1) → (d = 1 ↔ (x.2 (ts + 1) v ≠ x.2 40 v ∨ x.2 (ts + 2) v ≠ x.2 41 v ∨ x.2 (ts + 3) v ≠ x.2 42 v)) → ∃ z' b', ((ZW E sh (z1.1, zua (zua (zua z1.2 (ts + 1) v (x.2 40 v)) (ts + 2) v (x.2 41 v)) (ts + 3) v (x.2 42 v)), b ||| d, nI (v + 1)) : zH × Int32 × Int32) = (ZW E sh z', b', nI (v + 1)) ∧ (b' = 0 ∨ b' = 1) ∧ (b' = 1 ↔ Zcx (ZTs xs ts) x (v + 1)) ∧ Zfr (fun t f => t = 1 ∧ f = 15) (fun u => u = ts + 1 ∨ u = ts + 2 ∨ u = ts + 3 ∨ (32 ≤ u ∧ u < 36)) x z' ∧
          (∀ w, z'.2 (ts + 1) w = (if w < v + 1 then x.2 40 w else x.2 (ts + 1) w) ∧ z'.2 (ts + 2) w = (if w < v + 1 then x.2 41 w else x.2 (ts + 2) w) ∧ z'.2 (ts + 3) w = (if w < v + 1 then x.2 42 w else x.2 (ts + 3) w)) ∧ (tr = 0 → z'.1 1 = x.1 1 ∧ ∀ i, i < 4 → z'.2 (32 + i) = x.2 (32 + i)) ∧ (tr = 1 → ZTrc z' (l ++ ZtrR P (ZTs xs ts) (x.2 40, x.2 41, x.2 42) fc (rd + 1) (v + 1))) := by
        intro d hd hd1
        obtain ⟨o1, o2⟩ := Zor01 hb01 hd
        have fzz : Zfr (fun t f => t = 1 ∧ f = 15) (fun u => u = ts + 1 ∨ u = ts + 2 ∨ u = ts + 3 ∨ (32 ≤ u ∧ u < 36)) x z1 := hz.trans (f1.mono (fun _ _ q => q) fun u q => Or.inr (Or.inr (Or.inr q)))
        refine ⟨_, _, rfl, o1, ?_, ((fzz.arr (by omega)).arr (by omega)).arr (by omega), fun w => ?_, fun h => ?_, fun h => ?_⟩
        · rw [o2, hb1, hd1, hTe]
          unfold Zcx
          clear hb1 hd1 o2
          constructor
          · rintro (⟨w, g1, g2⟩ | g)
            · exact ⟨w, by omega, g2⟩
            · exact ⟨v, by omega, g⟩
          · rintro ⟨w, g1, g2⟩
            by_cases g : w = v
            · subst g
              exact Or.inr g2
            · exact Or.inl ⟨w, by omega, g2⟩
        · simp only [zua_n (show ts + 1 ≠ ts + 3 by omega), zua_n (show ts + 1 ≠ ts + 2 by omega), zua_n (show ts + 2 ≠ ts + 3 by omega), zua_n (show ts + 2 ≠ ts + 1 by omega), zua_n (show ts + 3 ≠ ts + 1 by omega), zua_n (show ts + 3 ≠ ts + 2 by omega), zua_s]
          obtain ⟨w1, w2, w3⟩ := hzw w
          by_cases g : w = v
          · subst g
            simp
          · rw [if_neg g, if_neg g, if_neg g, f1.2 _ (by omega), f1.2 _ (by omega), f1.2 _ (by omega), w1, w2, w3]
            have : w < v ↔ w < v + 1 := by omega
            simp only [this, and_self]
        · have e := t0 h
          subst e
          refine ⟨(ht0 h).1, fun i hi => ?_⟩
          simp only [zua_n (show 32 + i ≠ ts + 3 by omega), zua_n (show 32 + i ≠ ts + 2 by omega), zua_n (show 32 + i ≠ ts + 1 by omega)]
          exact (ht0 h).2 i hi
        · exact (t1 h).fr (A := fun _ _ => False) (B := fun u => u = ts + 1 ∨ u = ts + 2 ∨ u = ts + 3) (((Zfr.rfl.arr (by omega)).arr (by omega)).arr (by omega)) (fun q => q) (by omega)
      by_cases q1 : x.2 (ts + 1) v = x.2 40 v
      · by_cases q2 : x.2 (ts + 2) v = x.2 41 v
        · by_cases q3 : x.2 (ts + 3) v = x.2 42 v
          · simp (disch := omega) only [fX1_makeRound_L132, n1, n2, n3, Option.bind_some, if_neg (nI_ge hv (show Znv P < 2 ^ 31 by omega))]
            rw [e3]
            simp (disch := omega) only [Option.bind_some, Zb0 hb.1, Zb3 s1, ZbI s2, ZbI s3, ZbI s4, ZbI a0, ZbI a1, ZbI a2, zua_n, u40, u41, u42, v1, v2, v3, if_pos q1, if_pos q2, if_pos q3, Zesc_r, nI_1]
            exact ⟨_, rfl, key 0 (Or.inl rfl) ⟨fun h => absurd h (by decide), fun h => by rcases h with h | h | h; exact absurd q1 h; exact absurd q2 h; exact absurd q3 h⟩⟩
          · simp (disch := omega) only [fX1_makeRound_L132, n1, n2, n3, Option.bind_some, if_neg (nI_ge hv (show Znv P < 2 ^ 31 by omega))]
            rw [e3]
            simp (disch := omega) only [Option.bind_some, Zb0 hb.1, Zb3 s1, ZbI s2, ZbI s3, ZbI s4, ZbI a0, ZbI a1, ZbI a2, zua_n, u40, u41, u42, v1, v2, v3, if_pos q1, if_pos q2, if_neg q3, Zesc_l, nI_1]
            exact ⟨_, rfl, key 1 (Or.inr rfl) ⟨fun _ => Or.inr (Or.inr q3), fun _ => rfl⟩⟩
        · simp (disch := omega) only [fX1_makeRound_L132, n1, n2, n3, Option.bind_some, if_neg (nI_ge hv (show Znv P < 2 ^ 31 by omega))]
          rw [e3]
          simp (disch := omega) only [Option.bind_some, Zb0 hb.1, Zb3 s1, ZbI s2, ZbI s3, ZbI s4, ZbI a0, ZbI a1, ZbI a2, zua_n, u40, u41, u42, v1, v2, v3, if_pos q1, if_neg q2, Zesc_l, nI_1]
          exact ⟨_, rfl, key 1 (Or.inr rfl) ⟨fun _ => Or.inr (Or.inl q2), fun _ => rfl⟩⟩
      · simp (disch := omega) only [fX1_makeRound_L132, n1, n2, n3, Option.bind_some, if_neg (nI_ge hv (show Znv P < 2 ^ 31 by omega))]
        rw [e3]
        simp (disch := omega) only [Option.bind_some, Zb0 hb.1, Zb3 s1, ZbI s2, ZbI s3, ZbI s4, ZbI a0, ZbI a1, ZbI a2, zua_n, u40, u41, u42, v1, v2, v3, if_neg q1, Zesc_l, nI_1]
        exact ⟨_, rfl, key 1 (Or.inr rfl) ⟨fun _ => Or.inl q1, fun _ => rfl⟩⟩)
    (by
      rintro a ⟨z, b, rfl, hb01, hb1, hz, h⟩
      have fz : Zfr (ZRA P ts) (ZRB P ts) x z := hz.mono (fun t f q => Or.inr (Or.inl q)) fun u q => by unfold ZRB; omega
      obtain ⟨n1, n2, n3⟩ := ZxNv (hXx.fr hP hts fz).1 E
      simp only [fX1_makeRound_L132, n1, n2, n3, Option.bind_some, if_pos (nI_le (Nat.le_refl _) (show Znv P < 2 ^ 31 by omega)), Zzq hb01]
      exact ⟨_, rfl, z, b, rfl, hb01, hb1, hz, h⟩)
    N (ZW E sh x, 0, 0) (by omega) ⟨x, 0, rfl, Or.inl rfl, ⟨fun h => absurd h (by decide), fun ⟨w, h, _⟩ => absurd h (by omega)⟩, Zfr.rfl, fun w => by simp, fun _ => ⟨rfl, fun _ _ => rfl⟩, fun h => by
      simp only [ZtrR, List.append_nil]
      rcases htr with g | ⟨-, g, -⟩
      · rw [g] at h
        cases h
      · unfold ZTrc
        have h0 := x3 0 (by omega)
        have h1 := x3 1 (by omega)
        have h2 := x3 2 (by omega)
        have h3 := x3 3 (by omega)
        simp only [Nat.reduceAdd] at h0 h1 h2 h3
        rw [x2, h0, h1, h2, h3]
        exact g⟩
  obtain ⟨r, e3, z, b, rfl, hb01, hb1, hz, hzw, ht0, ht1⟩ := L
  have fz : Zfr (ZRA P ts) (ZRB P ts) x z := hz.mono (fun t f q => Or.inr (Or.inl q)) fun u q => by unfold ZRB; omega
  have heq : Zeq P (x.2 40, x.2 41, x.2 42) (ZTs z ts) := by
    intro v hv
    obtain ⟨w1, w2, w3⟩ := hzw v
    rw [if_pos hv] at w1 w2 w3
    exact ⟨w1.symm, w2.symm, w3.symm⟩
  refine ⟨z, b, fc, ?_, fx.trans fz, hb01, ZnS_eq hnS heq, ZnR_eq hnR heq, fun v hv => ⟨fun hk => ?_, fun hk => ?_⟩, ?_, fun v hv hk k hk32 g1 g2 => ?_, ?_, fun h => ?_, fun h => ?_⟩
  · unfold fX1_makeRound
    rw [e1, Option.bind_some, e2, Option.bind_some]
    exact e3
  · rw [← (heq v hv).2.1, ← (heq v hv).2.2]
    exact k3 v hv hk
  · rw [← (heq v hv).1, ← (heq v hv).2.1, ← (heq v hv).2.2]
    have o := (k4 v hv hk).2.2.1
    exact ⟨(k4 v hv hk).1, by show _ ≤ (x.2 42 v).toInt; omega, by show (x.2 41 v).toInt ≤ _; omega⟩
  · rw [hb1]
    constructor
    · rintro ⟨w, hw, g⟩
      refine ⟨w, hw, ?_⟩
      rw [← (heq w hw).1, ← (heq w hw).2.1, ← (heq w hw).2.2]
      exact g
    · rintro ⟨w, hw, g⟩
      rw [← (heq w hw).1, ← (heq w hw).2.1, ← (heq w hw).2.2] at g
      exact ⟨w, hw, g⟩
  · rw [← (heq v hv).1] at g2
    exact (hfc1 v hv hk k hk32 g1 g2).2
  · rw [← x1]
    exact funext fun f => hz.1 ts f (by omega)
  · obtain ⟨g1, g2⟩ := ht0 h
    exact ⟨g1.trans x2, fun i hi => (g2 i hi).trans (x3 i hi)⟩
  · have := ht1 h
    rwa [ZtrR_congr (U := ZTs xs ts) (U' := ZTs z ts) (fc' := fc) (Znv P) fun v hv hk => ⟨fun _ _ => rfl, fun k _ => by rw [← (heq v hv).1], fun _ _ _ _ => rfl⟩] at this
end RD
