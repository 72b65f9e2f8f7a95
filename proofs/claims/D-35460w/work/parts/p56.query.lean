/-! checks; the queries on the store that stands, of both -/
set_option maxRecDepth 100000
/-- the intervals of a store are within bounds -/
def Zbdd (P : ZP) (T : ZT0) : Prop := ∀ v, v < Znv P → Zkd P v = 3 → (-1000 ≤ (T.2.2 v).toInt ∧ (T.2.1 v).toInt ≤ 1000) ∧ ((T.2.1 v).toInt ≤ (T.2.2 v).toInt → -120 ≤ (T.2.1 v).toInt ∧ (T.2.2 v).toInt ≤ 120)
/-- told intervals are not empty -/
def Zrok (P : ZP) : Prop := ∀ v, v < Znv P → Zkd P v = 3 → (Zfm P v).toInt ≤ (Zto P v).toInt
theorem Zint_cases (x : Int32) {n : Nat} (hn : n < 2 ^ 31) : (∃ v, v < n ∧ x = nI v) ∨ ((x < 0 ∨ nI n ≤ x) ∧ ∀ v, v < n → x ≠ nI v) := by
  by_cases h : x < 0
  · refine Or.inr ⟨Or.inl h, fun v hv e => ?_⟩
    rw [e] at h
    exact Znneg (by omega) h
  · have h0 : 0 ≤ x.toInt := by
      rw [Int32.lt_iff_toInt_lt, Int32.toInt_zero] at h
      omega
    have e : x = nI x.toInt.toNat := by
      apply Int32.toInt_inj.mp
      rw [nI_toInt (by have := Int32.toInt_lt x; omega)]
      omega
    by_cases g : x.toInt.toNat < n
    · exact Or.inl ⟨_, g, e⟩
    · refine Or.inr ⟨Or.inr ?_, fun v hv e2 => ?_⟩
      · rw [Int32.le_iff_toInt_le, nI_toInt hn]
        omega
      · rw [e2, nI_toInt (by omega)] at g
        omega
/-- a check of an index; of a number -/
theorem Zcki (σ : zH) {v n : Nat} (hv : v < n) (hn : n < 2 ^ 31) : fX1_checkIndex σ (nI v) (nI n) = some (.inr ()) := by
  simp only [fX1_checkIndex, if_neg (Znneg (show v < 2 ^ 31 by omega)), if_pos (nI_lt hv hn), Zesc_r]
theorem Zcki_x (σ : zH) {x : Int32} {n : Nat} (hx : x < 0 ∨ nI n ≤ x) : fX1_checkIndex σ x (nI n) = some (.inl (3, σ)) := by
  unfold fX1_checkIndex
  by_cases h : x < 0
  · simp only [if_pos h, Zesc_l]
  · have h2 : ¬ x < nI n := by
      have := hx.resolve_left h
      rw [Int32.le_iff_toInt_le] at this
      rw [Int32.lt_iff_toInt_lt]
      omega
    simp only [if_neg h, if_neg h2, Zesc_l]
theorem Zck (σ : zH) {x a b : Int32} (h1 : ¬ x < a) (h2 : x ≤ b) : fX1_check σ x a b = some (.inr ()) := by
  simp only [fX1_check, if_neg h1, if_pos h2, Zesc_r]
theorem Zck_x (σ : zH) {x a b : Int32} (h : x < a ∨ ¬ x ≤ b) : fX1_check σ x a b = some (.inl (1, σ)) := by
  unfold fX1_check
  by_cases h1 : x < a
  · simp only [if_pos h1, Zesc_l]
  · simp only [if_neg h1, if_neg (h.resolve_left h1), Zesc_l]
theorem Zthr_l {α γ : Type} {e : zX} {kx : zX → Option γ} {k : α → Option γ} : zthr (some (.inl e)) kx k = kx e := rfl
theorem Zthr_r {α γ : Type} {a : α} {kx : zX → Option γ} {k : α → Option γ} : zthr (some (.inr a)) kx k = k a := rfl
theorem Zisin {x a b : Int32} (h1 : ¬ x < a) (h2 : x ≤ b) : fX5_isIn x a b = some 1 := by
  have h3 : ¬ b < x := by
    rw [Int32.lt_iff_toInt_lt]
    rw [Int32.le_iff_toInt_le] at h2
    omega
  simp only [fX5_isIn, if_neg h1, if_neg h3]
theorem Zisin_x {x a b : Int32} (h : x < a ∨ ¬ x ≤ b) : fX5_isIn x a b = some 0 := by
  unfold fX5_isIn
  by_cases h1 : x < a
  · simp only [if_pos h1]
  · have h3 : b < x := by
      have := h.resolve_left h1
      rw [Int32.le_iff_toInt_le] at this
      rw [Int32.lt_iff_toInt_lt]
      omega
    simp only [if_neg h1, if_pos h3]
section CK
variable {sh : Nat → Option Zsh} {xs : Zxs} {P : ZP} {E : Ze} {st : zMS}
theorem ZX_var (hP : ZPok P) (hX : ZXv sh xs P) {v : Nat} (hv : v < Znv P) : fX1_variable_2 (ZW E sh xs) (Zl E 1) (nI v) = some (.inr (Zl E (100 + v))) := by
  have hn := hP.1
  obtain ⟨h1, ⟨e, h2⟩, h3⟩ := hX
  simp only [fX1_variable_2, Zb0 h1, ZLis h2, ZLsize h2, Zcki _ hv (show Znv P < 2 ^ 31 by omega), Zthr_r, ZLget h2 E hv, Zb5 (h3 v hv).1, Option.bind_some]
theorem ZX_var_x (hX : ZXv sh xs P) {x : Int32} (hx : x < 0 ∨ nI (Znv P) ≤ x) : fX1_variable_2 (ZW E sh xs) (Zl E 1) x = some (.inl (3, ZW E sh xs)) := by
  obtain ⟨h1, ⟨e, h2⟩, h3⟩ := hX
  simp only [fX1_variable_2, Zb0 h1, ZLis h2, ZLsize h2, Zcki_x _ hx, Zthr_l, Option.bind_some]
theorem ZM_var (hP : ZPok P) (hM : ZMP st P) {v : Nat} (hv : v < Znv P) : fX5_isVariable st (nI v) = some 1 := by
  have hn := hP.1
  have h : nI v ≤ nI (Znv P) - 1 := by
    obtain ⟨m, hm⟩ : ∃ m, Znv P = m + 1 := ⟨Znv P - 1, by omega⟩
    rw [hm, nI_pred]
    exact nI_le (by omega) (by omega)
  simp only [fX5_isVariable, hM.1, Zisin (Znneg (show v < 2 ^ 31 by omega)) h, Option.bind_some]
  rfl
theorem ZM_var_x (hP : ZPok P) (hM : ZMP st P) {x : Int32} (hx : x < 0 ∨ nI (Znv P) ≤ x) : fX5_isVariable st x = some 0 := by
  have hn := hP.1
  have h : x < 0 ∨ ¬ x ≤ nI (Znv P) - 1 := by
    rcases hx with g | g
    · exact Or.inl g
    · refine Or.inr fun h => ?_
      rw [Int32.le_iff_toInt_le, nI_toInt (by omega)] at g
      rw [Int32.le_iff_toInt_le, Zsub_i (by rw [nI_toInt (by omega), Int32.toInt_one]; omega) (by rw [nI_toInt (by omega), Int32.toInt_one]; omega), nI_toInt (by omega), Int32.toInt_one] at h
      omega
  simp only [fX5_isVariable, hM.1, Zisin_x h, Option.bind_some]
  rfl
end CK
/-- X's call and M's answer alike: σ' and st' are left; cl: the classes that the call throws -/
def Zjo (cl : List Nat) (σ' : zH) (st' : zMS) (fx : Option (zX ⊕ (zH × Int32))) (fm : Option (zMS × Int32)) : Prop := (∃ r, fx = some (.inr (σ', r)) ∧ fm = some (st', r) ∧ st'.1 68 = 0) ∨ ∃ k c r, cl[k]? = some c ∧ fx = some (.inl (c, σ')) ∧ fm = some (st', r) ∧ st'.1 68 = nI (k + 1)
/-- the frame of M's queries -/
abbrev ZfK (st st' : zMS) : Prop := ZfM (fun f => f = 28 ∨ f = 32 ∨ f = 37 ∨ f = 38 ∨ f = 39 ∨ f = 68) (fun f => f = 29 ∨ f = 30 ∨ f = 31 ∨ (34 ≤ f ∧ f ≤ 36) ∨ (40 ≤ f ∧ f ≤ 44)) st st'
theorem ZfK.mp {st st' : zMS} {P : ZP} (hf : ZfK st st') (h : ZMP st P) : ZMP st' P := h.fr hf (fun f q => by unfold ZMf; omega) (fun f q => by unfold ZMf; omega)
theorem ZfK.dc {st st' : zMS} {L : ZL} (hf : ZfK st st') (h : ZMdc st L) : ZMdc st' L := by
  unfold ZMdc at h ⊢
  rw [hf.1 24 (by omega), hf.2 25 (by omega), hf.2 26 (by omega), hf.2 27 (by omega)]
  exact h
theorem ZfN.k {st st' : zMS} (h : ZfN st st') : ZfK st st' := h.mono (fun f q => by omega) (fun f q => q)
theorem ZfK.thr {st st' : zMS} {x : Int32} (h : ZfK st st') : ZfK st (zus st'.1 68 x, st'.2) := ZfM.num h (by omega)
theorem ZMst.thr {P : ZP} {L : ZL} {st : zMS} {x : Int32} (h : ZMst P L st) : ZMst P L (zus st.1 68 x, st.2) := by
  obtain ⟨T0, m, l, h1, h2, h3, h4, h5, h6, h7, h8⟩ := h
  refine ⟨T0, m, l, h1, ?_, h3, ?_, ?_, h6, ?_, h8⟩
  · simp only [zus_n (show 38 ≠ 68 by decide)]
    exact h2
  · simp only [zus_n (show 37 ≠ 68 by decide)]
    exact h4
  · simp only [zus_n (show 37 ≠ 68 by decide)]
    exact h5
  · unfold ZTrM at h7 ⊢
    simp only [zus_n (show 39 ≠ 68 by decide)]
    exact h7
/-- what both know: a problem, decisions -/
def ZPD (E : Ze) (sh : Nat → Option Zsh) (xs : Zxs) (st : zMS) (P : ZP) (L : ZL) : Prop := ZPok P ∧ Zrok P ∧ Zbase E sh ∧ ZXP sh xs P ∧ ZMP st P ∧ ZXl xs 14 L ∧ ZMdc st L ∧ ZLv P L ∧ (xs.1 1 10 = 0 ∨ (xs.1 1 10 = 1 ∧ ZXst P L xs)) ∧ st.1 32 = -1
section QU
variable {sh : Nat → Option Zsh} {xs : Zxs} {P : ZP} {E : Ze} {st : zMS} {L : ZL}
theorem Zbdd_eq {T T' : ZT0} (h : Zbdd P T) (e : Zeq P T T') : Zbdd P T' := fun v hv hk => by
  rw [← (e v hv).2.1, ← (e v hv).2.2]
  exact h v hv hk
theorem Zbdd_step {T T' : ZT0} (h : Zbdd P T) (hf : ¬ Zfail P T) (hs : Zstep P T T') : Zbdd P T' := fun v hv hk => by
  have o := ((hs.2.2 v hv).2 hk).2
  have b := h v hv hk
  have ne : (T.2.1 v).toInt ≤ (T.2.2 v).toInt := Int.not_lt.mp fun g => hf ⟨v, hv, by unfold Zem; rw [if_pos hk]; exact g⟩
  have b2 := b.2 ne
  refine ⟨o, fun g => ?_⟩
  rcases hs.2.1 v hv hk with ⟨-, q1, q2, q3, -⟩ | ⟨-, q⟩
  · omega
  · omega
theorem ZEnd_bdd {T0 T : ZT0} {m : Nat} {l : List (Nat × Nat × Nat × Nat)} (hP : ZPok P) (hr : Zrok P) {lv lb : Nat} (hb : Zbeg P L lv lb T0) (h : ZEnd P T0 m T l) : Zbdd P T := by
  have key : ∀ m T l, ZRn P T0 m T l → Zbdd P T := by
    intro m
    induction m with
    | zero =>
      rintro T l ⟨h1, -⟩ v hv hk
      obtain ⟨e1, e2⟩ := hb.2 v hv hk
      have o := hP.2.2.2.2.1 v hv hk
      have r := hr v hv hk
      rw [← (h1 v hv).2.1, ← (h1 v hv).2.2, e1, e2]
      omega
    | succ m ih =>
      rintro T l ⟨T1, l1, fc, a1, a2, a3, a4, a5, rfl⟩
      exact Zbdd_step (ih T1 l1 a1) a2 a3
  rcases h with ⟨g, -⟩ | ⟨T1, T2, g1, g2, g3, g4, g5⟩
  · exact key _ _ _ g
  · exact Zbdd_eq (Zbdd_step (key _ _ _ g1) g2 g3) g5
/-- the stores of both, found -/
theorem Zboth (hR : ZPD E sh xs st P L) (N : Nat) (hN : 5000 ≤ N) : ∃ z w, fX1_store N (ZW E sh xs) (Zl E 1) = some (ZW E sh z, Zl E 28) ∧ fX5_now N st = some w ∧ Zfr (ZSA P) (ZRB P 28) xs z ∧ ZfN st w ∧ ZPD E sh z w P L ∧ ZXst P L z ∧ ZMst P L w := by
  obtain ⟨hP, hr, hb, hX, hM, hl, hd, hL, hk, h32⟩ := hR
  obtain ⟨z, e1, f1, z10, zst⟩ := ZX_store hP hb hX hl hd.2.1 hL hk N hN
  obtain ⟨w, e2, f2, wst, w32⟩ := ZM_now hP hM hd hL N hN
  have fG : Zfr (ZGA P) (ZGB P) xs z := f1.mono (fun _ _ q => ZSA_G q) fun _ q => ZRB_G (Or.inl rfl) q
  have hnc := hP.2.1
  refine ⟨z, w, e1, e2, f1, f2, ⟨hP, hr, hb, hX.frG hP fG, f2.mp hM, hl.fr f1 ?_ ?_ ?_ ?_, f2.dc hd, hL, Or.inr ⟨z10, zst⟩, w32⟩, zst, wst⟩
  · rintro ((q | q | ⟨c, -, q⟩) | q)
    · omega
    · omega
    · exact ZKA_no (by omega) q
    · omega
  all_goals
    rintro (q | q | q | q | q | q | q | q | ⟨c, hc, q⟩)
    any_goals omega
    exact ZKB_no (by omega) (show c < 24 by omega) q
theorem ZPD.thr {x : Int32} (h : ZPD E sh xs st P L) : ZPD E sh xs (zus st.1 68 x, st.2) P L := by
  obtain ⟨hP, hr, hb, hX, hM, hl, hd, hL, hk, h32⟩ := h
  have f : ZfK st (zus st.1 68 x, st.2) := ZfK.thr ZfM.rfl
  exact ⟨hP, hr, hb, hX, f.mp hM, hl, f.dc hd, hL, hk, by simp only [zus_n (show 32 ≠ 68 by decide)]; exact h32⟩
/-- isFailed, rounds, removals -/
theorem ZC_isFailed (hR : ZPD E sh xs st P L) (N : Nat) (hN : 5000 ≤ N) : ∃ z w r, fX1_isFailed N (ZW E sh xs) (Zl E 1) = some (ZW E sh z, r) ∧ fX5_isFailed N st = some (w, r) ∧ Zfr (ZSA P) (ZRB P 28) xs z ∧ ZfK st w ∧ ZPD E sh z w P L := by
  obtain ⟨z, w, e1, e2, f1, f2, hR', zst, wst⟩ := Zboth hR.thr N hN
  obtain ⟨m, l, x4, y4, hm, xtr, ytr, hl, hs, e3, q01, -⟩ := ZXM_st hR.1 zst wst
  refine ⟨z, w, w.1 37, ?_, ?_, f1, (ZfK.thr (x := 0) ZfM.rfl).trans f2.k, hR'⟩
  · simp only [fX1_isFailed, Zb0 hR.2.2.1.1, e1, Option.bind_some, Zb3 hR.2.2.1.2.2.1.1, e3, Zzq q01]
  · simp only [fX5_isFailed, zps, e2, Option.bind_some, Zzq q01]
theorem ZC_rounds (hR : ZPD E sh xs st P L) (N : Nat) (hN : 5000 ≤ N) : ∃ z w r, fX1_rounds N (ZW E sh xs) (Zl E 1) = some (ZW E sh z, r) ∧ fX5_rounds N st = some (w, r) ∧ Zfr (ZSA P) (ZRB P 28) xs z ∧ ZfK st w ∧ ZPD E sh z w P L := by
  obtain ⟨z, w, e1, e2, f1, f2, hR', zst, wst⟩ := Zboth hR.thr N hN
  obtain ⟨m, l, x4, y4, hm, xtr, ytr, hl, hs, e3, q01, -⟩ := ZXM_st hR.1 zst wst
  refine ⟨z, w, nI m, ?_, ?_, f1, (ZfK.thr (x := 0) ZfM.rfl).trans f2.k, hR'⟩
  · simp only [fX1_rounds, Zb0 hR.2.2.1.1, e1, Option.bind_some, Zb3 hR.2.2.1.2.2.1.1, x4]
  · simp only [fX5_rounds, zps, e2, Option.bind_some, y4]
theorem ZC_removals (hR : ZPD E sh xs st P L) (N : Nat) (hN : 5000 ≤ N) : ∃ z w r, fX1_removals N (ZW E sh xs) (Zl E 1) = some (ZW E sh z, r) ∧ fX5_removals N st = some (w, r) ∧ Zfr (ZSA P) (ZRB P 28) xs z ∧ ZfK st w ∧ ZPD E sh z w P L := by
  obtain ⟨z, w, e1, e2, f1, f2, hR', zst, wst⟩ := Zboth hR.thr N hN
  obtain ⟨m, l, x4, y4, hm, xtr, ytr, hl, hs, e3, q01, -⟩ := ZXM_st hR.1 zst wst
  refine ⟨z, w, nI l.length, ?_, ?_, f1, (ZfK.thr (x := 0) ZfM.rfl).trans f2.k, hR'⟩
  · simp only [fX1_removals, Zb0 hR.2.2.1.1, e1, Option.bind_some, xtr.1]
  · simp only [fX5_removals, zps, e2, Option.bind_some, ytr.1]
/-- a call that asks about a variable: it is none -/
theorem Zasks_x (hR : ZPD E sh xs st P L) {x : Int32} (hx : x < 0 ∨ nI (Znv P) ≤ x) (N : Nat) : fX5_asks N st x = some ((zus st.1 68 1, st.2), 0) := by
  simp only [fX5_asks, ZM_var_x hR.1 hR.2.2.2.2.1 hx, Option.bind_some, if_true, zps, zus_s, Zne10, if_false]
theorem Zasks (hR : ZPD E sh xs st P L) {v : Nat} (hv : v < Znv P) {w : zMS} {N : Nat} (h : fX5_now N (zus st.1 68 0, st.2) = some w) (hw : w.1 68 = 0) : fX5_asks N st (nI v) = some (w, 1) := by
  simp only [fX5_asks, ZM_var hR.1 hR.2.2.2.2.1 hv, Option.bind_some, Zne10, if_false, zps, zus_s, if_true, h, hw]
theorem ZC_domain (hR : ZPD E sh xs st P L) (x : Int32) (N : Nat) (hN : 5000 ≤ N) : ∃ z w, Zjo [3] (ZW E sh z) w (fX1_domain N (ZW E sh xs) (Zl E 1) x) (fX5_domain N st x) ∧ Zfr (ZSA P) (ZRB P 28) xs z ∧ ZfK st w ∧ ZPD E sh z w P L := by
  have hn := hR.1.1
  rcases Zint_cases x (show Znv P < 2 ^ 31 by omega) with ⟨v, hv, rfl⟩ | ⟨hx, -⟩
  · obtain ⟨z, w, e1, e2, f1, f2, hR', zst, wst⟩ := Zboth (hR.thr (x := 0)) N hN
    have w68 : w.1 68 = 0 := by
      rw [f2.1 68 (by decide)]
      simp only [zus_s]
    obtain ⟨m, l, x4, y4, hm, xtr, ytr, hl, hs, e3, q01, -⟩ := ZXM_st hR.1 zst wst
    obtain ⟨s1, s2, s3, s4⟩ := hR.2.2.1.2.2.1
    have hrat := ZxRat hR'.2.2.2.1.1 hR.1 hv E
    have ea := Zasks hR hv e2 w68
    have wk := (hR'.2.2.2.2.1.2.2.1 v hv).1
    by_cases hk : Zkd P v = 3
    · have h3 : nI (Zkd P v) = (3 : Int32) := by rw [hk]; rfl
      rw [if_pos hk] at hrat
      obtain ⟨b, eb, hb, hb1⟩ := ZM_isEmpty hR.1 hR'.2.2.2.2.1 hv
      unfold Zem at hb1
      rw [if_pos hk] at hb1
      obtain ⟨T0, m', l', hbeg, -, -, -, -, hend, -⟩ := zst
      have bd := ZEnd_bdd hR.1 hR.2.1 hbeg hend v hv hk
      have hz1 : (ZTs z 28).2.1 v = z.2 30 v := rfl
      have hz2 : (ZTs z 28).2.2 v = z.2 31 v := rfl
      rw [hz1, hz2] at bd
      have ex : fX1_domain N (ZW E sh xs) (Zl E 1) (nI v) = some (.inr (ZW E sh z, zmax ((z.2 31 v - z.2 30 v) + 1) 0)) := by
        simp (disch := omega) only [fX1_domain, Zb0 hR.2.2.1.1, ZX_var hR.1 hR.2.2.2.1.1 hv, Zthr_r, e1, Option.bind_some, hrat, Zne10, if_false, Zb3 s1, ZbI s3, ZbI s4]
      refine ⟨z, w, Or.inl ⟨_, ex, ?_, w68⟩, f1, (ZfK.thr (x := 0) ZfM.rfl).trans f2.k, hR'⟩
      rcases (hs v hv).2 hk with ⟨g1, g2⟩ | ⟨g1, g2⟩
      · have k1 : z.2 30 v = w.2 35 v := g1
        have k2 : z.2 31 v = w.2 36 v := g2
        by_cases ne : (z.2 30 v).toInt ≤ (z.2 31 v).toInt
        · have b2 := bd.2 ne
          have hb0 : b = 0 := hb.resolve_right fun h => by
            have := hb1.mp h
            have t1 : (ZTm w).2.2 v = z.2 31 v := g2.symm
            have t2 : (ZTm w).2.1 v = z.2 30 v := g1.symm
            rw [t1, t2] at this
            omega
          have hnn : ¬ (z.2 31 v - z.2 30 v) + 1 < 0 := by
            rw [Int32.lt_iff_toInt_lt, Int32.toInt_zero]
            have d1 : (z.2 31 v - z.2 30 v).toInt = (z.2 31 v).toInt - (z.2 30 v).toInt := Zsub_i (by omega) (by omega)
            rw [Zadd_i (by rw [d1, Int32.toInt_one]; omega) (by rw [d1, Int32.toInt_one]; omega), d1, Int32.toInt_one]
            omega
          simp (disch := omega) only [fX5_domain, ea, Option.bind_some, Zne10, if_false, ZMA, wk, h3, if_true, eb, hb0]
          rw [zmax, if_neg hnn, k1, k2]
        · have hb0 : b = 1 := hb1.mpr (by
            have t1 : (ZTm w).2.2 v = z.2 31 v := g2.symm
            have t2 : (ZTm w).2.1 v = z.2 30 v := g1.symm
            rw [t1, t2]
            omega)
          have hmx : zmax ((z.2 31 v - z.2 30 v) + 1) 0 = 0 := by
            apply Int32.toInt_inj.mp
            have d1 : (z.2 31 v - z.2 30 v).toInt = (z.2 31 v).toInt - (z.2 30 v).toInt := Zsub_i (by omega) (by omega)
            rw [Zmax_i, Zadd_i (by rw [d1, Int32.toInt_one]; omega) (by rw [d1, Int32.toInt_one]; omega), d1, Int32.toInt_one, Int32.toInt_zero]
            omega
          simp (disch := omega) only [fX5_domain, ea, Option.bind_some, Zne10, if_false, ZMA, wk, h3, if_true, eb, hb0, hmx]
      · have hb0 : b = 1 := hb1.mpr g2
        have g1' : (z.2 31 v).toInt < (z.2 30 v).toInt := g1
        have hmx : zmax ((z.2 31 v - z.2 30 v) + 1) 0 = 0 := by
          apply Int32.toInt_inj.mp
          have d1 : (z.2 31 v - z.2 30 v).toInt = (z.2 31 v).toInt - (z.2 30 v).toInt := Zsub_i (by omega) (by omega)
          rw [Zmax_i, Zadd_i (by rw [d1, Int32.toInt_one]; omega) (by rw [d1, Int32.toInt_one]; omega), d1, Int32.toInt_one, Int32.toInt_zero]
          omega
        simp (disch := omega) only [fX5_domain, ea, Option.bind_some, Zne10, if_false, ZMA, wk, h3, if_true, eb, hb0, hmx]
    · have hk2 : Zkd P v ≤ 2 := by have := hR.1.2.2.1 v hv; omega
      have h3 : ¬ nI (Zkd P v) = (3 : Int32) := fun g => hk ((nI_eq (a := Zkd P v) (b := 3) (by omega) (by omega)).mp g)
      rw [if_neg hk] at hrat
      have k1 : z.2 29 v = w.2 34 v := (hs v hv).1 hk2
      refine ⟨z, w, Or.inl ⟨z.2 29 v, ?_, ?_, w68⟩, f1, (ZfK.thr (x := 0) ZfM.rfl).trans f2.k, hR'⟩
      · simp (disch := omega) only [fX1_domain, Zb0 hR.2.2.1.1, ZX_var hR.1 hR.2.2.2.1.1 hv, Zthr_r, e1, Option.bind_some, hrat, if_true, Zb3 s1, ZbI s2]
      · simp (disch := omega) only [fX5_domain, ea, Option.bind_some, Zne10, if_false, ZMA, wk, if_neg h3, k1]
  · refine ⟨xs, (zus st.1 68 1, st.2), Or.inr ⟨0, 3, 0, rfl, ?_, ?_, ?_⟩, Zfr.rfl, ZfK.thr ZfM.rfl, hR.thr⟩
    · simp only [fX1_domain, Zb0 hR.2.2.1.1, ZX_var_x hR.2.2.2.1.1 hx, Zthr_l, Option.bind_some]
    · simp only [fX5_domain, Zasks_x hR hx, Option.bind_some, if_true]
    · simp only [zus_s]
      rfl
end QU
