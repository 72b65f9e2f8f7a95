/-! M: the store that is found -/
set_option maxRecDepth 100000
theorem Zt_low0 : ∀ b, b < 32 → ∀ k, k < 32 → Zt (((1 : Int32) <<< (nI b &&& 31)) - 1) k = decide (k < b) := by decide +kernel
/-- M's decisions that are taken -/
def ZMd (st : zMS) (n : Nat) (dv dk : Nat → Nat) (dh : Nat → Prop) : Prop := st.1 28 = nI n ∧ n ≤ 800 ∧ ∀ d, d < n → st.2 29 d = nI (dv d) ∧ st.2 30 d = nI (dk d) ∧ dk d < 32 ∧ (st.2 31 d = 0 ∨ st.2 31 d = 1) ∧ (st.2 31 d = 1 ↔ dh d)
/-- a bound on a variable: it is there, or it is not -/
def ZMl (st : zMS) (P : ZP) (lv lb : Nat) : Prop := (st.1 32 = -1 ∧ Znv P ≤ lv) ∨ (st.1 32 = nI lv ∧ lv < Znv P ∧ st.1 33 = nI lb ∧ lb < 32)
/-- the store with which all begins -/
def ZbM (P : ZP) (n : Nat) (dv dk : Nat → Nat) (dh : Nat → Prop) (lv lb : Nat) (T : ZT0) : Prop := (∀ v, v < Znv P → Zkd P v ≤ 2 → ∀ k, k < 32 → (Zt (T.1 v) k = true ↔ Zt (Ztd P v) k = true ∧ (∀ d, d < n → dv d = v → Zdl dk dh d k) ∧ (v = lv → k < lb))) ∧ ∀ v, v < Znv P → Zkd P v = 3 → T.2.1 v = Zfm P v ∧ T.2.2 v = Zto P v
theorem ZbM_in {P : ZP} {n : Nat} {dv dk : Nat → Nat} {dh : Nat → Prop} {lv lb : Nat} {T : ZT0} (hP : ZPok P) (h : ZbM P n dv dk dh lv lb T) : ZTin P T := fun v hv => ⟨fun hk k hkt => hP.2.2.2.1 v hv hk k ((h.1 v hv hk k (Zt_lt hkt)).mp hkt).1, fun hk => by
  obtain ⟨e1, e2⟩ := h.2 v hv hk
  rw [e1, e2]
  exact hP.2.2.2.2.1 v hv hk⟩
abbrev ZfB (st st' : zMS) : Prop := ZfM (fun _ => False) (fun f => 34 ≤ f ∧ f ≤ 36) st st'
theorem ZfB.mp {st st' : zMS} {P : ZP} (hf : ZfB st st') (h : ZMP st P) : ZMP st' P := h.fr hf (fun f q => absurd q (fun q => q)) (fun f q => by unfold ZMf; omega)
section MZ
variable {st : zMS} {P : ZP}
theorem ZM_copy (hP : ZPok P) (hM : ZMP st P) (N : Nat) (hN : 1000 ≤ N) : ∃ z, zloop (fX5_finds_L2) N (st, (0 : Int32)) = some z ∧ ZfB st z ∧ ∀ v, v < Znv P → (Zkd P v ≤ 2 → z.2 34 v = Ztd P v) ∧ (Zkd P v = 3 → z.2 35 v = Zfm P v ∧ z.2 36 v = Zto P v) := by
  have hn10 := hP.1
  have L := Zl_inv (body := fX5_finds_L2) (fun v a => ∃ z, a = (z, nI v) ∧ ZfB st z ∧ ∀ u, u < v → (Zkd P u ≤ 2 → z.2 34 u = Ztd P u) ∧ (Zkd P u = 3 → z.2 35 u = Zfm P u ∧ z.2 36 u = Zto P u)) (Znv P)
    (fun z => ZfB st z ∧ ∀ v, v < Znv P → (Zkd P v ≤ 2 → z.2 34 v = Ztd P v) ∧ (Zkd P v = 3 → z.2 35 v = Zfm P v ∧ z.2 36 v = Zto P v))
    (by
      rintro v a hv ⟨z, rfl, fz, zu⟩
      have Mz := fz.mp hM
      obtain ⟨-, k1, k2⟩ := Mz.2.2.1 v hv
      simp (disch := omega) only [fX5_finds_L2, Mz.1, if_neg (nI_ge hv (show Znv P < 2 ^ 31 by omega)), ZMA, Option.bind_some, zua_n (show 3 ≠ 34 by decide), zua_n (show 4 ≠ 34 by decide), zua_n (show 4 ≠ 35 by decide), nI_1]
      refine ⟨_, rfl, _, rfl, ((fz.arr (by omega)).arr (by omega)).arr (by omega), fun u hu => ?_⟩
      simp only [zua_n (show 34 ≠ 36 by decide), zua_n (show 34 ≠ 35 by decide), zua_n (show 35 ≠ 36 by decide), zua_n (show 35 ≠ 34 by decide), zua_n (show 36 ≠ 34 by decide), zua_n (show 36 ≠ 35 by decide), zua_s]
      by_cases g : u = v
      · subst g
        simp only [if_true]
        exact ⟨k1, k2⟩
      · simp only [if_neg g]
        exact zu u (by omega))
    (by
      rintro a ⟨z, rfl, fz, zu⟩
      simp only [fX5_finds_L2, (fz.mp hM).1, if_pos (nI_le (Nat.le_refl _) (show Znv P < 2 ^ 31 by omega))]
      exact ⟨_, rfl, fz, zu⟩)
    N (st, (0 : Int32)) (by omega) ⟨st, rfl, ZfM.rfl, fun u hu => absurd hu (by omega)⟩
  exact L
theorem ZM_dec (hP : ZPok P) (hM : ZMP st P) {n : Nat} {dv dk : Nat → Nat} {dh : Nat → Prop} (hd : ZMd st n dv dk dh) (hdv : ∀ d, d < n → dv d < Znv P) (N : Nat) (hN : 1000 ≤ N) : ∃ z, zloop (fX5_finds_L54) N (st, (0 : Int32)) = some z ∧ ZfM (fun _ => False) (fun f => f = 34) st z ∧ ∀ v, v < Znv P → ∀ k, k < 32 → (Zt (z.2 34 v) k = true ↔ Zt (st.2 34 v) k = true ∧ ∀ d, d < n → dv d = v → Zdl dk dh d k) := by
  have hn10 := hP.1
  obtain ⟨d1, d2, d3⟩ := hd
  have L := Zl_inv (body := fX5_finds_L54) (fun i a => ∃ z, a = (z, nI i) ∧ ZfM (fun _ => False) (fun f => f = 34) st z ∧ ∀ v, v < Znv P → ∀ k, k < 32 → (Zt (z.2 34 v) k = true ↔ Zt (st.2 34 v) k = true ∧ ∀ d, d < i → dv d = v → Zdl dk dh d k)) n
    (fun z => ZfM (fun _ => False) (fun f => f = 34) st z ∧ ∀ v, v < Znv P → ∀ k, k < 32 → (Zt (z.2 34 v) k = true ↔ Zt (st.2 34 v) k = true ∧ ∀ d, d < n → dv d = v → Zdl dk dh d k))
    (by
      rintro i a hi ⟨z, rfl, fz, zb⟩
      obtain ⟨q1, q2, q3, q4, q5⟩ := d3 i hi
      have hvi := hdv i hi
      have e28 : z.1 28 = nI n := by rw [fz.1 28 (fun q => q)]; exact d1
      have e29 : z.2 29 i = nI (dv i) := by rw [fz.2 29 (by omega)]; exact q1
      have e30 : z.2 30 i = nI (dk i) := by rw [fz.2 30 (by omega)]; exact q2
      have e31 : z.2 31 = st.2 31 := fz.2 31 (by omega)
      have key : ∀ t : Int32, (∀ k, k < 32 → (Zt t k = true ↔ Zdl dk dh i k)) → ∃ z', ((((z.1, zua z.2 34 (dv i) (z.2 34 (dv i) &&& t)) : zMS), nI (i + 1)) : zMS × Int32) = (z', nI (i + 1)) ∧ ZfM (fun _ => False) (fun f => f = 34) st z' ∧ ∀ v, v < Znv P → ∀ k, k < 32 → (Zt (z'.2 34 v) k = true ↔ Zt (st.2 34 v) k = true ∧ ∀ d, d < i + 1 → dv d = v → Zdl dk dh d k) := by
        intro t ht
        refine ⟨_, rfl, fz.arr rfl, fun v hv k hk => ?_⟩
        simp only [zua_s]
        by_cases g : v = dv i
        · rw [if_pos g, ← g, Zt_and, Bool.and_eq_true, zb v hv k hk, ht k hk]
          constructor
          · rintro ⟨⟨g1, g2⟩, g3⟩
            refine ⟨g1, fun d hd' hdv' => ?_⟩
            by_cases e : d = i
            · subst e
              exact g3
            · exact g2 d (by omega) hdv'
          · rintro ⟨g1, g2⟩
            exact ⟨⟨g1, fun d hd' => g2 d (by omega)⟩, g2 i (by omega) g.symm⟩
        · rw [if_neg g, zb v hv k hk]
          constructor
          · rintro ⟨g1, g2⟩
            refine ⟨g1, fun d hd' hdv' => ?_⟩
            by_cases e : d = i
            · subst e
              exact absurd hdv'.symm g
            · exact g2 d (by omega) hdv'
          · rintro ⟨g1, g2⟩
            exact ⟨g1, fun d hd' => g2 d (by omega)⟩
      rcases q4 with q | q
      · have hno : ¬ dh i := fun g => by
          have := q5.mpr g
          rw [q] at this
          cases this
        simp (disch := omega) only [fX5_finds_L54, e28, if_neg (nI_ge hi (show n < 2 ^ 31 by omega)), ZMA, e29, e30, e31, q, Option.bind_some, if_true, nI_1]
        refine ⟨_, rfl, key _ fun k hk => ?_⟩
        rw [Zt_not, Zt_one q3]
        unfold Zdl
        simp [hk, hno]
      · have hyes := q5.mp q
        simp (disch := omega) only [fX5_finds_L54, e28, if_neg (nI_ge hi (show n < 2 ^ 31 by omega)), ZMA, e29, e30, e31, q, Option.bind_some, Zne10, if_false, nI_1]
        refine ⟨_, rfl, key _ fun k hk => ?_⟩
        rw [Zt_one q3]
        unfold Zdl
        simp [hyes])
    (by
      rintro a ⟨z, rfl, fz, zb⟩
      have e28 : z.1 28 = nI n := by rw [fz.1 28 (fun q => q)]; exact d1
      simp only [fX5_finds_L54, e28, if_pos (nI_le (Nat.le_refl _) (show n < 2 ^ 31 by omega))]
      exact ⟨_, rfl, fz, zb⟩)
    N (st, (0 : Int32)) (by omega) ⟨st, rfl, ZfM.rfl, fun v hv k hk => ⟨fun g => ⟨g, fun d h => absurd h (by omega)⟩, fun g => g.1⟩⟩
  exact L
theorem ZM_finds (hP : ZPok P) (hM : ZMP st P) {n : Nat} {dv dk : Nat → Nat} {dh : Nat → Prop} (hd : ZMd st n dv dk dh) (hdv : ∀ d, d < n → dv d < Znv P) {lv lb : Nat} (hl : ZMl st P lv lb) (N : Nat) (hN : 5000 ≤ N) :
    ∃ z T0 m l, fX5_finds N st = some z ∧ ZfQ st z ∧ ZbM P n dv dk dh lv lb T0 ∧ z.1 38 = nI m ∧ m ≤ 2410 ∧ (z.1 37 = 0 ∨ z.1 37 = 1) ∧ (z.1 37 = 1 ↔ Zfail P (ZTm z)) ∧ ZEnd P T0 m (ZTm z) l ∧ ZTrM z l ∧ l.length ≤ 320 ∧ (¬ Zfail P (ZTm z) → ZTok P (ZTm z)) := by
  have hn10 := hP.1
  obtain ⟨x, e1, fx, xv⟩ := ZM_copy hP hM N (by omega)
  have Mx := fx.mp hM
  have dx : ZMd x n dv dk dh := by
    unfold ZMd at hd ⊢
    rw [fx.1 28 (fun q => q), fx.2 29 (by omega), fx.2 30 (by omega), fx.2 31 (by omega)]
    exact hd
  obtain ⟨y, e2, fy, yb⟩ := ZM_dec hP Mx dx hdv N (by omega)
  have fy' : ZfB x y := fy.mono (fun _ q => q) (fun f q => by omega)
  have My := fy'.mp Mx
  -- the bound
  have hlow : ∃ w, (if (y.1 32) < 0 then (some y) else ((zal y 34 (y.1 32)).bind fun x25 => (zas y 34 (y.1 32) (x25 &&& (((1 : Int32) <<< ((y.1 33) &&& 31)) - (1 : Int32)))).bind fun st26 => some st26)) = some w ∧ ZfB st w ∧ w.1 = y.1 ∧ ZbM P n dv dk dh lv lb (ZTm w) := by
    have e32 : y.1 32 = st.1 32 := by rw [fy.1 32 (fun q => q), fx.1 32 (fun q => q)]
    have e33 : y.1 33 = st.1 33 := by rw [fy.1 33 (fun q => q), fx.1 33 (fun q => q)]
    have hs : ∀ v, v < Znv P → Zkd P v ≤ 2 → ∀ k, k < 32 → (Zt (y.2 34 v) k = true ↔ Zt (Ztd P v) k = true ∧ ∀ d, d < n → dv d = v → Zdl dk dh d k) := fun v hv hk k hk32 => by rw [yb v hv k hk32, (xv v hv).1 hk]
    have hi : ∀ v, v < Znv P → Zkd P v = 3 → y.2 35 v = Zfm P v ∧ y.2 36 v = Zto P v := fun v hv hk => by
      rw [fy.2 35 (by omega), fy.2 36 (by omega)]
      exact (xv v hv).2 hk
    rcases hl with ⟨l1, l2⟩ | ⟨l1, l2, l3, l4⟩
    · rw [if_pos (by rw [e32, l1]; decide)]
      refine ⟨y, rfl, fx.trans fy', rfl, fun v hv hk k hk32 => ?_, hi⟩
      show Zt (y.2 34 v) k = true ↔ _
      rw [hs v hv hk k hk32]
      exact ⟨fun ⟨g1, g2⟩ => ⟨g1, g2, fun h => by omega⟩, fun ⟨g1, g2, _⟩ => ⟨g1, g2⟩⟩
    · rw [e32, e33, l1, l3, if_neg (Znneg (by omega))]
      simp (disch := omega) only [ZMA, Option.bind_some]
      refine ⟨_, rfl, (fx.trans fy').arr (by omega), rfl, fun v hv hk k hk32 => ?_, fun v hv hk => ?_⟩
      · simp only [ZTm, zua_s]
        by_cases g : v = lv
        · rw [if_pos g, ← g, Zt_and, Zt_low0 lb l4 k hk32, Bool.and_eq_true, decide_eq_true_eq, hs v hv hk k hk32]
          constructor
          · rintro ⟨⟨g1, g2⟩, g3⟩
            exact ⟨g1, g2, fun _ => g3⟩
          · rintro ⟨g1, g2, g3⟩
            exact ⟨⟨g1, g2⟩, g3 rfl⟩
        · rw [if_neg g, hs v hv hk k hk32]
          exact ⟨fun ⟨g1, g2⟩ => ⟨g1, g2, fun h => absurd h g⟩, fun ⟨g1, g2, _⟩ => ⟨g1, g2⟩⟩
      · simp only [ZTm, zua_n (show 35 ≠ 34 by decide), zua_n (show 36 ≠ 34 by decide)]
        exact hi v hv hk
  obtain ⟨w, e3, fw, w1, hb⟩ := hlow
  have Mw := fw.mp hM
  have hin := ZbM_in hP hb
  obtain ⟨T0, hT0⟩ : ∃ T0, T0 = ZTm w := ⟨_, rfl⟩
  rw [← hT0] at hin hb
  -- the start
  obtain ⟨s, hs⟩ : ∃ s : zMS, s = (zus (zus (zus w.1 38 0) 39 0) 37 0, w.2) := ⟨_, rfl⟩
  have fs : ZfQ st s := by
    rw [hs]
    exact ZfM.num (ZfM.num (ZfM.num (fw.mono (fun _ q => absurd q (fun q => q)) (fun f q => Or.inl q)) (by omega)) (by omega)) (by omega)
  have Ms := fs.mp hM
  have Ts : ZTm s = T0 := by rw [hs, hT0]; rfl
  have s37 : s.1 37 = 0 := by
    rw [hs]
    simp only [zus_s]
  have s38 : s.1 38 = nI 0 := by
    rw [hs]
    simp only [zus_n (show 38 ≠ 37 by decide), zus_n (show 38 ≠ 39 by decide), zus_s]
    rfl
  have s39 : s.1 39 = nI 0 := by
    rw [hs]
    simp only [zus_n (show 39 ≠ 37 by decide), zus_s]
    rfl
  obtain ⟨u, e4, fu, u01, u1⟩ := ZM_looks (F := False) hP Ms (Or.inl s37) ⟨fun g => (by rw [s37] at g; cases g), fun g => absurd g (fun q => q)⟩ N (by omega)
  have Tu : ZTm u = T0 := by
    rw [← Ts]
    unfold ZTm
    rw [fu.2 34 (fun q => q), fu.2 35 (fun q => q), fu.2 36 (fun q => q)]
  replace u1 : u.1 37 = 1 ↔ Zfail P (ZTm u) := by
    rw [u1, Ts, Tu]
    exact ⟨fun h => h.elim (fun q => absurd q (fun q => q)) id, Or.inr⟩
  have fu' : ZfQ st u := fs.trans (fu.mono (fun f q => Or.inl q) (fun _ q => absurd q (fun q => q)))
  obtain ⟨M0, hM0⟩ : ∃ M0, M0 = Zms P T0 (Znv P) := ⟨_, rfl⟩
  have hM1 : M0 ≤ 2410 := by rw [hM0]; exact Nat.le_trans (Zms_le hin (Znv P) (Nat.le_refl _)) (by omega)
  have L := Zl_meas (body := fX5_finds_L166 N) (fun a => ∃ z g m l, a = (z, g) ∧ ZfQ st z ∧ z.1 38 = nI m ∧ m + Zms P (ZTm z) (Znv P) ≤ M0 ∧ ((g = 0 ∧ z.1 37 = 1 ∧ Zfail P (ZTm z) ∧ ZRn P T0 m (ZTm z) l) ∨ (g = 1 ∧ z.1 37 = 0 ∧ ¬ Zfail P (ZTm z) ∧ ZTok P (ZTm z) ∧ ZRn P T0 m (ZTm z) l) ∨ (g = 0 ∧ z.1 37 = 0 ∧ ¬ Zfail P (ZTm z) ∧ ZTok P (ZTm z) ∧ ZEnd P T0 m (ZTm z) l)) ∧ ZTrM z l ∧ l.length + Zbc P (ZTm z) (Znv P) ≤ 320) (fun a => Zms P (ZTm a.1) (Znv P) + (if a.2 = 0 then 0 else 1))
    (fun z => ∃ m l, ZfQ st z ∧ z.1 38 = nI m ∧ m ≤ 2410 ∧ (z.1 37 = 0 ∨ z.1 37 = 1) ∧ (z.1 37 = 1 ↔ Zfail P (ZTm z)) ∧ ZEnd P T0 m (ZTm z) l ∧ ZTrM z l ∧ l.length ≤ 320 ∧ (¬ Zfail P (ZTm z) → ZTok P (ZTm z)))
    (by
      rintro a ⟨z, g, m, l, rfl, fz, z38, hms, hg, ht, hlen⟩
      rcases hg with ⟨rfl, z37, hf, hrun⟩ | ⟨rfl, z37, hnf, hok, hrun⟩ | ⟨rfl, z37, hnf, hok, hend⟩
      · simp only [fX5_finds_L166, if_true]
        exact Or.inr ⟨_, rfl, m, l, fz, z38, by omega, Or.inr z37, ⟨fun _ => hf, fun _ => z37⟩, Or.inl ⟨hrun, hf⟩, ht, by omega, fun h => absurd hf h⟩
      · obtain ⟨w, b, fc, er, fw, w37, w38, hb01, hst, hb1, hfc, wt⟩ := ZM_round hP (fz.mp hM) hok z38 ht hlen N (by omega)
        have fzw := fz.trans fw
        obtain ⟨d, hd⟩ : ∃ d : zMS, d = (zus w.1 38 (nI (if b = 0 then m else m + 1)), w.2) := ⟨_, rfl⟩
        have fd : ZfQ st d := by rw [hd]; exact fzw.num (by omega)
        have Td : ZTm d = ZTm w := by rw [hd]; rfl
        have d37 : d.1 37 = 0 := by
          rw [hd]
          simp only [zus_n (show 37 ≠ 38 by decide)]
          rw [w37, z37]
        have d38 : d.1 38 = nI (if b = 0 then m else m + 1) := by
          rw [hd]
          simp only [zus_s]
        obtain ⟨k, ek, fk, k01, k1⟩ := ZM_looks (F := False) hP (fd.mp hM) (Or.inl d37) ⟨fun g => (by rw [d37] at g; cases g), fun g => absurd g (fun q => q)⟩ N (by omega)
        have Tk : ZTm k = ZTm w := by
          rw [← Td]
          unfold ZTm
          rw [fk.2 34 (fun q => q), fk.2 35 (fun q => q), fk.2 36 (fun q => q)]
        replace k1 : k.1 37 = 1 ↔ Zfail P (ZTm w) := by
          rw [k1, Td]
          exact ⟨fun h => h.elim (fun q => absurd q (fun q => q)) id, Or.inr⟩
        have fk' : ZfQ st k := fd.trans (fk.mono (fun f q => Or.inl q) (fun _ q => absurd q (fun q => q)))
        have k38 : k.1 38 = nI (if b = 0 then m else m + 1) := by rw [fk.1 38 (by decide)]; exact d38
        have kt : ZTrM k (l ++ ZtrR P (ZTm z) (ZTm w) fc (m + 1) (Znv P)) := by
          unfold ZTrM at wt ⊢
          rw [fk.1 39 (by decide), fk.2 40 (fun q => q), hd]
          simp only [zus_n (show 39 ≠ 38 by decide)]
          exact wt
        have hbs := Zbc_step (fc := fc) (rd := m + 1) hP hst
        have hlen' : (l ++ ZtrR P (ZTm z) (ZTm w) fc (m + 1) (Znv P)).length + Zbc P (ZTm k) (Znv P) ≤ 320 := by
          rw [List.length_append, Tk]
          omega
        have hms1 := Zms_step hP hst hok (Znv P) (Nat.le_refl _)
        rcases hb01 with hb0 | hb0
        · have nch : ¬ Zchg P (ZTm z) (ZTm w) := fun h => by
            have := hb1.mpr h
            rw [hb0] at this
            cases this
          have heq := Zeq_of_nchg nch
          have hnf' : ¬ Zfail P (ZTm w) := fun h => hnf ((Zfail_eq heq).mpr h)
          have k37 : k.1 37 = 0 := k01.elim id fun h => absurd (k1.mp h) hnf'
          rw [if_pos hb0] at k38 hd
          have hz : ZtrR P (ZTm z) (ZTm w) fc (m + 1) (Znv P) = [] := by
            rw [Zbc_congr (T := ZTm w) (T' := ZTm z) (Znv P) fun v hv => (heq v hv).1.symm] at hbs
            exact List.eq_nil_of_length_eq_zero (by omega)
          rw [hz, List.append_nil] at kt hlen'
          have e38 : w.1 38 + 0 = nI m := by rw [w38, z38]; exact Int32.add_zero _
          rw [hd] at ek
          simp only [fX5_finds_L166, Zne10, if_false, er, Option.bind_some, hb0, if_true, zps, e38, ek, k37, if_pos]
          refine Or.inl ⟨_, rfl, ⟨k, 0, m, l, rfl, fk', k38, by rw [Tk]; omega, Or.inr (Or.inr ⟨rfl, k37, by rw [Tk]; exact hnf', by rw [Tk]; exact Zstep_in hst hok hnf', ?_⟩), kt, hlen'⟩, ?_⟩
          · rw [Tk]
            exact Or.inr ⟨_, _, hrun, hnf, hst, nch, Zeq.rfl⟩
          · show Zms P (ZTm k) (Znv P) + 0 < Zms P (ZTm z) (Znv P) + 1
            rw [Tk]
            omega
        · have hne : ¬ b = 0 := by rw [hb0]; decide
          have ch := hb1.mp hb0
          have hlt := hms1.2 ch
          rw [if_neg hne] at k38 hd
          have e38 : w.1 38 + 1 = nI (m + 1) := by rw [w38, z38]; exact nI_add m 1
          rw [hd] at ek
          have hrun' : ZRn P T0 (m + 1) (ZTm k) (l ++ ZtrR P (ZTm z) (ZTm w) fc (m + 1) (Znv P)) := by
            rw [Tk]
            exact ⟨_, l, fc, hrun, hnf, hst, ch, hfc, rfl⟩
          rcases k01 with k37 | k37
          · have hnf' : ¬ Zfail P (ZTm w) := fun h => by
              have := k1.mpr h
              rw [k37] at this
              cases this
            simp only [fX5_finds_L166, Zne10, if_false, er, Option.bind_some, hb0, zps, e38, ek, k37, if_true]
            refine Or.inl ⟨_, rfl, ⟨k, 1, m + 1, _, rfl, fk', k38, by rw [Tk]; omega, Or.inr (Or.inl ⟨rfl, k37, by rw [Tk]; exact hnf', by rw [Tk]; exact Zstep_in hst hok hnf', hrun'⟩), kt, hlen'⟩, ?_⟩
            show Zms P (ZTm k) (Znv P) + 1 < Zms P (ZTm z) (Znv P) + 1
            rw [Tk]
            omega
          · have hf' := k1.mp k37
            simp only [fX5_finds_L166, Zne10, if_false, er, Option.bind_some, hb0, zps, e38, ek, k37]
            refine Or.inl ⟨_, rfl, ⟨k, 0, m + 1, _, rfl, fk', k38, by rw [Tk]; omega, Or.inl ⟨rfl, k37, by rw [Tk]; exact hf', hrun'⟩, kt, hlen'⟩, ?_⟩
            show Zms P (ZTm k) (Znv P) + 0 < Zms P (ZTm z) (Znv P) + 1
            rw [Tk]
            omega
      · simp only [fX5_finds_L166, if_true]
        exact Or.inr ⟨_, rfl, m, l, fz, z38, by omega, Or.inl z37, ⟨fun h => (by rw [z37] at h; cases h), fun h => absurd h hnf⟩, hend, ht, by omega, fun _ => hok⟩)
    N (u, if u.1 37 = 0 then 1 else 0) (by
      have ut : ZTrM u [] := by
        unfold ZTrM
        rw [fu.1 39 (by decide), s39]
        exact ⟨rfl, fun i e he => by simp at he⟩
      have ul : ([] : List (Nat × Nat × Nat × Nat)).length + Zbc P (ZTm u) (Znv P) ≤ 320 := by
        have := Zbc_le (P := P) (T := ZTm u) (Znv P)
        simp
        omega
      have u38 : u.1 38 = nI 0 := by rw [fu.1 38 (by decide), s38]
      have um : 0 + Zms P (ZTm u) (Znv P) ≤ M0 := by rw [Tu, hM0]; omega
      have ur : ZRn P T0 0 (ZTm u) [] := by rw [Tu]; exact ⟨Zeq.rfl, rfl⟩
      rcases u01 with q | q
      · have hnf : ¬ Zfail P (ZTm u) := fun g => by
          have := u1.mpr g
          rw [q] at this
          cases this
        rw [if_pos q]
        exact ⟨u, 1, 0, [], rfl, fu', u38, um, Or.inr (Or.inl ⟨rfl, q, hnf, ZTok_of (by rw [Tu]; exact hin) hnf, ur⟩), ut, ul⟩
      · rw [if_neg (by rw [q]; decide)]
        exact ⟨u, 0, 0, [], rfl, fu', u38, um, Or.inl ⟨rfl, q, u1.mp q, ur⟩, ut, ul⟩) (by
      have : Zms P (ZTm u) (Znv P) ≤ M0 := by rw [Tu, hM0]; exact Nat.le_refl _
      have key : ∀ g : Int32, (if g = 0 then 0 else 1) ≤ 1 := fun g => by split <;> omega
      exact Nat.lt_of_le_of_lt (Nat.add_le_add this (key _)) (by omega))
  obtain ⟨r, e5, m, l, h⟩ := L
  refine ⟨r, T0, m, l, ?_, h.1, hb, h.2⟩
  have hite : (if u.1 37 = 0 then some (1 : Int32) else some 0) = some (if u.1 37 = 0 then 1 else 0) := by split <;> rfl
  rw [hs] at e4
  have hz0 : zpsZ (zus (zus w.1 38 0) 39 0, w.2) 37 0 = some (zus (zus (zus w.1 38 0) 39 0) 37 0, w.2) := if_pos (Or.inl rfl)
  simp only [fX5_finds, e1, Option.bind_some, e2, e3, zps, hz0, e4, hite]
  exact e5
end MZ
