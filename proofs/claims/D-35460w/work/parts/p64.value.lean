/-! values that are tried, solutions kept, paths, of both -/
set_option maxRecDepth 100000
theorem Zfs_bit {b : Nat → Bool} (h : ∃ k, k < 32 ∧ b k = true) : Zfs b 32 0 < 32 ∧ b (Zfs b 32 0) = true := by
  obtain ⟨k, hk, hb⟩ := h
  obtain ⟨-, h2, h3, h4⟩ := Zfs_spec b 32 0
  have : Zfs b 32 0 < 32 := by
    rcases Nat.lt_or_ge (Zfs b 32 0) 32 with q | q
    · exact q
    · have := h3 k (Nat.zero_le _) (by omega)
      rw [this] at hb
      cases hb
  exact ⟨this, h4 (by omega)⟩
theorem Zla_bit {b : Nat → Bool} (h : ∃ k, k < 32 ∧ b k = true) : ∃ k, k < 32 ∧ Zla b 32 = k + 1 ∧ b k = true := by
  obtain ⟨k, hk, hb⟩ := h
  obtain ⟨h1, h2, h3⟩ := Zla_spec b 32
  have h0 : 0 < Zla b 32 := by
    rcases Nat.eq_zero_or_pos (Zla b 32) with q | q
    · have := h2 k (by omega) hk
      rw [this] at hb
      cases hb
    · exact q
  exact ⟨Zla b 32 - 1, by omega, by omega, h3 h0⟩
/-- least and greatest values, of both -/
theorem Zleast_n {S : Int32} (h : ∃ k, k < 32 ∧ Zt S k = true) (N : Nat) (hN : 1000 ≤ N) : ∃ k, k < 32 ∧ Zt S k = true ∧ fX1_least S = some (nI k) ∧ fX5_lowest N S = some (nI k) := by
  obtain ⟨h1, h2⟩ := Zfs_bit h
  exact ⟨_, h1, h2, Zleast S, Zlowest S N hN⟩
theorem Zgreat_n {S : Int32} (h : ∃ k, k < 32 ∧ Zt S k = true) (N : Nat) (hN : 1000 ≤ N) : ∃ k, k < 32 ∧ Zt S k = true ∧ fX1_greatest S = some (nI k) ∧ fX5_highest N S = some (nI k) := by
  obtain ⟨k, h1, h2, h3⟩ := Zla_bit h
  exact ⟨k, h1, h3, by rw [Zgreatest, h2, nI_pred], by rw [Zhighest S N hN, h2, nI_pred]⟩
/-- the phases -/
def Zph (P : ZP) (xs : Zxs) (st : zMS) : Prop := ∀ v, v < 10 → (xs.2 58 v = -1 ∨ ∃ k, k < 32 ∧ xs.2 58 v = nI k) ∧ (v < Znv P → st.2 45 v = xs.2 58 v + 1) ∧ (Znv P ≤ v → xs.2 58 v = -1)
theorem Zph.fr {P : ZP} {xs z : Zxs} {st w : zMS} (h : Zph P xs st) (h1 : z.2 58 = xs.2 58) (h2 : w.2 45 = st.2 45) : Zph P z w := by
  unfold Zph
  rw [h1, h2]
  exact h
theorem Zph.put {P : ZP} {xs : Zxs} {st : zMS} (h : Zph P xs st) {v k : Nat} (hv : v < Znv P) (hk : k < 32) : Zph P (xs.1, zua xs.2 58 v (nI k)) (st.1, zua st.2 45 v (nI k + 1)) := by
  intro u hu
  obtain ⟨a, b, c⟩ := h u hu
  simp only [zua_s]
  by_cases q : u = v
  · subst q
    simp only [if_true]
    exact ⟨Or.inr ⟨k, hk, rfl⟩, fun _ => trivial, fun g => absurd g (by omega)⟩
  · simp only [if_neg q]
    exact ⟨a, b, c⟩
section VA
variable {sh : Nat → Option Zsh} {xs : Zxs} {P : ZP} {E : Ze} {st : zMS}
theorem ZJ_value (hb : Zbase E sh) (hph : Zph P xs st) {v : Nat} (hv : v < Znv P) (hn : Znv P ≤ 10) {S od : Int32} (hS : st.2 34 v = S) (hne : ∃ k, k < 32 ∧ Zt S k = true) (N : Nat) (hN : 1000 ≤ N) :
    ∃ k, k < 32 ∧ Zt S k = true ∧ fX1_valueOf (ZW E sh xs) (Zl E 1) (nI v) S od = some (nI k) ∧ fX5_valueBy N st (nI v) od = some (nI k) := by
  have v10 : v < 10 := by omega
  obtain ⟨l, l1, l2, l3, l4⟩ := Zleast_n hne N hN
  obtain ⟨g, g1, g2, g3, g4⟩ := Zgreat_n hne N hN
  have r1 : zgR [0] 22 (ZW E sh xs) (Zl E 1) = some (Zl E 58) := by simp only [Zb0 hb.1]
  have s58 := hb.2.2.2.2.2.2.2.2.2.2.1
  have r2 := (ZbI s58 (by omega)).1 E xs v v10
  have m1 := Zal (st := st) (show zMl 34 = 10 from rfl) (by decide) v10
  have m2 := Zal (st := st) (show zMl 45 = 10 from rfl) (by decide) v10
  rw [hS] at m1
  obtain ⟨p1, p2, -⟩ := hph v v10
  rw [p2 hv] at m2
  -- without a phase
  have rest : ∃ k, k < 32 ∧ Zt S k = true ∧ (if od = (1 : Int32) then ((fX1_greatest S).bind fun t3 => some t3) else ((fX1_least S).bind fun t2 => some t2)) = some (nI k) ∧ (if od = (1 : Int32) then ((zal st 34 (nI v)).bind fun x4 => (fX5_highest N x4).bind fun t5 => some t5) else ((zal st 34 (nI v)).bind fun x2 => (fX5_lowest N x2).bind fun t3 => some t3)) = some (nI k) := by
    by_cases q : od = 1
    · exact ⟨g, g1, g2, by rw [if_pos q, g3, Option.bind_some], by rw [if_pos q, m1, Option.bind_some, g4, Option.bind_some]⟩
    · exact ⟨l, l1, l2, by rw [if_neg q, l3, Option.bind_some], by rw [if_neg q, m1, Option.bind_some, l4, Option.bind_some]⟩
  unfold fX1_valueOf fX5_valueBy
  by_cases q : od = 2
  · rw [if_pos q, if_pos q]
    rcases p1 with e | ⟨k, hk, e⟩
    · rw [e] at r2 m2
      simp only [r1, r2, m2, Option.bind_some, if_true, if_pos (show (-1 : Int32) + 1 ≤ 0 by decide), Zesc_l]
      exact rest
    · rw [e] at r2 m2
      rw [nI_1] at m2
      have hnn : ¬ nI (k + 1) ≤ 0 := nI_ge (a := 0) (by omega) (by omega)
      by_cases c : Zt S k = true
      · simp only [r1, r2, m2, m1, Option.bind_some, if_neg (ZnI_ne (show k < 1000 by omega)), if_neg hnn, nI_pred, Zhas_t hk c, ZhasBit_t hk c, Zne10, if_false, Zesc_r]
        exact ⟨k, hk, c, rfl, rfl⟩
      · simp only [r1, r2, m2, m1, Option.bind_some, if_neg (ZnI_ne (show k < 1000 by omega)), if_neg hnn, nI_pred, Zhas_f hk c, ZhasBit_f hk c, if_true, Zesc_l]
        simp only [m1, Option.bind_some] at rest
        exact rest
  · rw [if_neg q, if_neg q, Zesc_l, Zesc_l]
    exact rest
/-- what is found -/
def Zfnd (P : ZP) (xs : Zxs) (st : zMS) : Prop := (xs.1 1 24 = -1 ∧ st.1 48 ≠ 0) ∨ ∃ m, m ≤ 10 ∧ m ≤ Znv P ∧ xs.1 1 24 = nI m ∧ st.1 48 = 0 ∧ st.1 49 = nI m ∧ ∀ v, v < m → xs.2 59 v = st.2 50 v
theorem ZJ_keep {L : ZL} (hR : ZPD E sh xs st P L) (hnode : Znode P xs st) (h0 : st.1 37 = 0) (h48 : st.1 48 = 0) (N : Nat) (hN : 1000 ≤ N) :
    ∃ z w, fX1_keepSolution N (ZW E sh xs) (Zl E 1) = some (ZW E sh z) ∧ fX5_keepsSolution N st = some w ∧ Zfr (fun t f => t = 1 ∧ f = 24) (fun u => u = 59) xs z ∧ ZfM (fun f => f = 49) (fun f => f = 50) st w ∧ Zfnd P z w := by
  obtain ⟨hP, hr, hb, hX, hM, -⟩ := hR
  obtain ⟨-, -, hn⟩ := hnode
  obtain ⟨t1, t2, hs⟩ := hn h0
  have hn10 := hP.1
  have s59 := hb.2.2.2.2.2.2.2.2.2.2.2
  obtain ⟨s1, s2, s3, s4⟩ := hb.2.2.2.1
  obtain ⟨n1, n2, n3⟩ := ZxNv hX.1 E
  obtain ⟨y, hy⟩ : ∃ y : Zxs, y = (zua xs.1 1 24 (nI (Znv P)), xs.2) := ⟨_, rfl⟩
  obtain ⟨u, hu⟩ : ∃ u : zMS, u = (zus st.1 49 (nI (Znv P)), st.2) := ⟨_, rfl⟩
  have fy : Zfr (fun t f => t = 1 ∧ f = 24) (fun u => u = 59) xs y := by rw [hy]; exact Zfr.num Zfr.rfl ⟨rfl, rfl⟩
  have fu : ZfM (fun f => f = 49) (fun f => f = 50) st u := by rw [hu]; exact ZfM.num ZfM.rfl rfl
  have y24 : y.1 1 24 = nI (Znv P) := by subst hy; simp only [zua_ss]
  have u49 : u.1 49 = nI (Znv P) := by subst hu; simp only [zus_s]
  obtain ⟨r, r', e1, e2, z, w, hr1, hr2, fz, fw, h⟩ := Zl_two (body := fX1_keepSolution_L15 (Zl E 1)) (body' := fX5_keepsSolution_L10 N)
    (fun i a b => ∃ z w, a = (ZW E sh z, nI i) ∧ b = (w, nI i) ∧ Zfr (fun _ _ => False) (fun u => u = 59) y z ∧ ZfM (fun _ => False) (fun f => f = 50) u w ∧ ∀ v, v < i → z.2 59 v = w.2 50 v) (Znv P)
    (fun r r' => ∃ z w, r = ZW E sh z ∧ r' = w ∧ Zfr (fun _ _ => False) (fun u => u = 59) y z ∧ ZfM (fun _ => False) (fun f => f = 50) u w ∧ ∀ v, v < Znv P → z.2 59 v = w.2 50 v)
    (by
      rintro i a b hi ⟨z, w, rfl, rfl, fz, fw, h⟩
      have fz' : Zfr (fun t f => t = 1 ∧ f = 24) (fun u => u = 59) xs z := fy.trans (fz.mono (fun _ _ q => absurd q (fun q => q)) (fun _ q => q))
      have fw' : ZfM (fun f => f = 49) (fun f => f = 50) st w := fu.trans (fw.mono (fun _ q => absurd q (fun q => q)) (fun _ q => q))
      have hM' : ZMP w P := hM.fr fw' (fun f q => by unfold ZMf; omega) (fun f q => by unfold ZMf; omega)
      have hX' : ZXv sh z P := hX.1.fr hP fz' (by omega) (by intros; omega)
      have z24 : z.1 1 24 = nI (Znv P) := by rw [fz.1 1 24 (fun q => q)]; exact y24
      have hrat := ZxRat hX' hP hi E
      have e1 := (hM'.2.2.1 i hi).1
      have k3 := hP.2.2.1 i hi
      have hge := nI_ge hi (show Znv P < 2 ^ 31 by omega)
      have i10 : i < 10 := by omega
      have fin : ∀ x : Int32, ∃ z' w', ((ZW E sh (z.1, zua z.2 59 i x), nI (i + 1)) : zH × Int32) = (ZW E sh z', nI (i + 1)) ∧ (((w.1, zua w.2 50 i x), nI (i + 1)) : zMS × Int32) = (w', nI (i + 1)) ∧ Zfr (fun _ _ => False) (fun u => u = 59) y z' ∧ ZfM (fun _ => False) (fun f => f = 50) u w' ∧ ∀ v, v < i + 1 → z'.2 59 v = w'.2 50 v := fun x => ⟨_, _, rfl, rfl, fz.arr rfl, fw.arr rfl, fun v hv => by
        simp only [zua_s]
        by_cases q : v = i
        · rw [if_pos q, if_pos q]
        · rw [if_neg q, if_neg q]
          exact h v (by omega)⟩
      have w34 : w.2 34 = st.2 34 := fw'.2 34 (by omega)
      have w35 : w.2 35 = st.2 35 := fw'.2 35 (by omega)
      have z37 : z.2 37 = xs.2 37 := fz'.2 37 (by omega)
      have z38 : z.2 38 = xs.2 38 := fz'.2 38 (by omega)
      by_cases hk : Zkd P i = 3
      · have h3 : nI (Zkd P i) = (3 : Int32) := by rw [hk]; rfl
        rw [if_pos hk] at hrat
        have ev : xs.2 38 i = st.2 35 i := ((hs i hi).2 hk).1
        simp (disch := omega) only [fX1_keepSolution_L15, fX5_keepsSolution_L10, fX5_end, Zb0 hb.1, z24, if_neg hge, Option.bind_some, hrat, Zne10, if_false, Zb3 s1, ZbI s3, ZbI s59, hM'.1, ZMA, e1, h3, if_true, z38, ev, w35, nI_1]
        exact Or.inl ⟨_, _, rfl, rfl, fin _⟩
      · have h3 : ¬ nI (Zkd P i) = (3 : Int32) := fun g => hk ((nI_eq (b := 3) (by omega) (by omega)).mp g)
        rw [if_neg hk] at hrat
        have ev : xs.2 37 i = st.2 34 i := (hs i hi).1 (by omega)
        simp (disch := omega) only [fX1_keepSolution_L15, fX5_keepsSolution_L10, fX5_end, Zb0 hb.1, z24, if_neg hge, Option.bind_some, hrat, if_true, Zb3 s1, ZbI s2, ZbI s59, hM'.1, ZMA, e1, if_neg h3, z37, ev, w34, Zleast, Zlowest _ N hN, nI_1]
        exact Or.inl ⟨_, _, rfl, rfl, fin _⟩)
    (by
      rintro a b ⟨z, w, rfl, rfl, fz, fw, h⟩
      have fw' : ZfM (fun f => f = 49) (fun f => f = 50) st w := fu.trans (fw.mono (fun _ q => absurd q (fun q => q)) (fun _ q => q))
      have z24 : z.1 1 24 = nI (Znv P) := by rw [fz.1 1 24 (fun q => q)]; exact y24
      have w0 : w.1 0 = nI (Znv P) := by rw [fw'.1 0 (by omega)]; exact hM.1
      simp only [fX1_keepSolution_L15, fX5_keepsSolution_L10, Zb0 hb.1, z24, w0, Option.bind_some, if_pos (nI_le (Nat.le_refl _) (show Znv P < 2 ^ 31 by omega))]
      exact ⟨_, _, rfl, rfl, z, w, rfl, rfl, fz, fw, h⟩)
    N (ZW E sh y, 0) (u, 0) (by omega) ⟨y, u, rfl, rfl, Zfr.rfl, ZfM.rfl, fun v h => absurd h (by omega)⟩
  subst hr1 hr2
  refine ⟨z, r', ?_, ?_, fy.trans (fz.mono (fun _ _ q => absurd q (fun q => q)) (fun _ q => q)), fu.trans (fw.mono (fun _ q => absurd q (fun q => q)) (fun _ q => q)), Or.inr ⟨Znv P, hn10, Nat.le_refl _, ?_, ?_, ?_, h⟩⟩
  · rw [hy] at e1
    simp only [fX1_keepSolution, n1, n2, n3, Option.bind_some, Zb0 hb.1]
    exact e1
  · rw [hu] at e2
    simp only [fX5_keepsSolution, Option.bind_some, zps, hM.1]
    exact e2
  · rw [fz.1 1 24 (fun q => q)]
    exact y24
  · rw [fw.1 48 (fun q => q), hu]
    simp only [zus_n (show 48 ≠ 49 by decide)]
    exact h48
  · rw [fw.1 49 (fun q => q)]
    exact u49
/-- back to the last decision that a variable has a value: that it has it not -/
def Zbr : ZL → Option ZL
  | [] => none
  | e :: t => if e.2.2 = true then some ((e.1, e.2.1, false) :: t) else Zbr t
def Zback (R : ZL) : Option ZL := (Zbr R.reverse).map List.reverse
theorem Zback_t {R : ZL} {v k : Nat} : Zback (R ++ [(v, k, true)]) = some (R ++ [(v, k, false)]) := by
  simp [Zback, Zbr]
theorem Zback_f {R : ZL} {v k : Nat} : Zback (R ++ [(v, k, false)]) = Zback R := by
  simp [Zback, Zbr]
theorem Zback_nil : Zback [] = none := rfl
theorem Zlast {R : ZL} (h : R ≠ []) : ∃ Q v k b, R = Q ++ [(v, k, b)] := by
  obtain ⟨Q, e, h⟩ : ∃ Q e, R = Q ++ [e] := ⟨R.dropLast, R.getLast h, (List.dropLast_concat_getLast h).symm⟩
  exact ⟨Q, e.1, e.2.1, e.2.2, h⟩
theorem Zdd_last {f g h : Nat → Int32} {Q : ZL} {v k : Nat} {b : Bool} (H : Zdd f g h (Q ++ [(v, k, b)])) : f Q.length = nI v ∧ g Q.length = nI k ∧ k < 32 ∧ h Q.length = (if b = true then 1 else 0) := H Q.length (v, k, b) (by simp)
theorem Zdd_pre {f g h : Nat → Int32} {Q Q' : ZL} (H : Zdd f g h (Q ++ Q')) : Zdd f g h Q := by
  have := Zdd_take H Q.length
  rwa [List.take_left' rfl] at this
/-- M goes back -/
theorem ZM_back {R : ZL} (h : ZMpa st R) (N : Nat) (hN : 1000 ≤ N) : ∃ w b, fX5_goesBack N st = some (w, b) ∧ ZfM (fun f => f = 51) (fun f => f = 54) st w ∧ ((Zback R = none ∧ b = 0 ∧ ZMpa w []) ∨ ∃ R', Zback R = some R' ∧ b = 1 ∧ ZMpa w R') := by
  obtain ⟨r, e, R1, fr, hp, hbk, hend⟩ := Zl_meas (body := fX5_goesBack_L0) (fun s => ∃ Q, ZfM (fun f => f = 51) (fun _ => False) st s ∧ ZMpa s Q ∧ Zback Q = Zback R) (fun s => (s.1 51).toInt.toNat) (fun s => ∃ Q, ZfM (fun f => f = 51) (fun _ => False) st s ∧ ZMpa s Q ∧ Zback Q = Zback R ∧ (Q = [] ∨ ∃ Q' v k, Q = Q' ++ [(v, k, true)]))
    (by
      rintro s ⟨Q, fs, hp, hbk⟩
      have hp0 := hp
      obtain ⟨h1, h2, h3⟩ := hp
      by_cases q : Q = []
      · subst q
        refine Or.inr ⟨s, ?_, [], fs, hp0, hbk, Or.inl rfl⟩
        simp only [fX5_goesBack_L0, h1, List.length_nil, if_pos (show nI 0 ≤ 0 from by decide)]
      · obtain ⟨Q', v, k, b, rfl⟩ := Zlast q
        have hl : (Q' ++ [(v, k, b)]).length = Q'.length + 1 := by simp
        rw [hl] at h1 h2
        obtain ⟨d1, d2, d3, d4⟩ := Zdd_last h3
        have hnn : ¬ nI (Q'.length + 1) ≤ 0 := nI_ge (a := 0) (by omega) (by omega)
        cases b with
        | true =>
          refine Or.inr ⟨s, ?_, _, fs, hp0, hbk, Or.inr ⟨Q', v, k, rfl⟩⟩
          simp (disch := omega) only [fX5_goesBack_L0, h1, if_neg hnn, nI_pred, ZMA, d4, Option.bind_some, if_true, Zne10, if_false]
        | false =>
          refine Or.inl ⟨(zus s.1 51 (nI Q'.length), s.2), ?_, ⟨Q', fs.num rfl, ⟨?_, by omega, Zdd_pre h3⟩, by rw [← hbk, Zback_f]⟩, ?_⟩
          · simp (disch := omega) only [fX5_goesBack_L0, h1, if_neg hnn, nI_pred, ZMA, d4, Option.bind_some, Bool.false_eq_true, if_false, if_true, zps]
          · simp only [zus_s]
          · simp only [zus_s, h1]
            rw [nI_toInt (by omega), nI_toInt (by omega)]
            omega)
    N st ⟨R, ZfM.rfl, h, rfl⟩ (by
      rw [h.1, nI_toInt (by have := h.2.1; omega)]
      have := h.2.1
      omega)
  have hp0 := hp
  obtain ⟨h1, h2, h3⟩ := hp
  rcases hend with rfl | ⟨Q', v, k, rfl⟩
  · refine ⟨r, 0, ?_, fr.mono (fun _ q => q) (fun _ q => absurd q (fun q => q)), Or.inl ⟨by rw [← hbk]; rfl, rfl, hp0⟩⟩
    simp only [fX5_goesBack, e, Option.bind_some, h1, List.length_nil, if_pos (show nI 0 ≤ 0 from by decide)]
  · have hl : (Q' ++ [(v, k, true)]).length = Q'.length + 1 := by simp
    rw [hl] at h1 h2
    obtain ⟨d1, d2, d3, d4⟩ := Zdd_last h3
    have hnn : ¬ nI (Q'.length + 1) ≤ 0 := nI_ge (a := 0) (by omega) (by omega)
    have hz : zb (0 : Int32) = 0 := by decide
    refine ⟨(r.1, zua r.2 54 Q'.length 0), 1, ?_, ZfM.arr (fr.mono (fun _ q => q) (fun _ q => absurd q (fun q => q))) rfl, Or.inr ⟨Q' ++ [(v, k, false)], by rw [← hbk, Zback_t], rfl, ?_, ?_, ?_⟩⟩
    · simp (disch := omega) only [fX5_goesBack, e, Option.bind_some, h1, if_neg hnn, nI_pred, ZMA, hz]
    · show r.1 51 = _
      rw [h1]
      simp
    · simp
      omega
    · have := Zdd_app (Zdd_pre h3) (e := (v, k, false)) d3
      have e1 : upd (r.2 52) Q'.length (nI v) = r.2 52 := funext fun j => by unfold upd; split <;> simp_all
      have e2 : upd (r.2 53) Q'.length (nI k) = r.2 53 := funext fun j => by unfold upd; split <;> simp_all
      simp only [e1, e2, Bool.false_eq_true, if_false] at this
      simp only [zua, if_neg (show ¬ 52 = 54 by decide), if_neg (show ¬ 53 = 54 by decide), if_true]
      exact this
/-- M goes down -/
theorem ZM_down {R : ZL} (h : ZMpa st R) (hl : R.length < 400) {v k : Nat} (hk : k < 32) : ∃ w, fX5_goesDown st (nI v) (nI k) = some w ∧ ZfM (fun f => f = 51) (fun f => f = 52 ∨ f = 53 ∨ f = 54) st w ∧ ZMpa w (R ++ [(v, k, true)]) := by
  obtain ⟨h1, h2, h3⟩ := h
  have hz : zb (1 : Int32) = 1 := by decide
  refine ⟨(zus st.1 51 (nI (R.length + 1)), zua (zua (zua st.2 52 R.length (nI v)) 53 R.length (nI k)) 54 R.length 1), ?_, ?_, ?_, ?_, ?_⟩
  · simp (disch := omega) only [fX5_goesDown, h1, ZMA, Option.bind_some, zps, hz, nI_1]
  · exact ZfM.num (ZfM.arr (ZfM.arr (ZfM.arr ZfM.rfl (by omega)) (by omega)) (by omega)) rfl
  · simp only [zus_s]
    simp
  · simp
    omega
  · have := Zdd_app h3 (e := (v, k, true)) hk
    simp only [if_true] at this
    simp only [zua, if_true, if_neg (show ¬ 52 = 54 by decide), if_neg (show ¬ 52 = 53 by decide), if_neg (show ¬ 53 = 54 by decide), if_neg (show ¬ 53 = 52 by decide), if_neg (show ¬ 54 = 52 by decide), if_neg (show ¬ 54 = 53 by decide)]
    exact this
end VA
