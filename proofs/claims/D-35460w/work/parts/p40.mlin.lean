/-! M: bits; sums -/
set_option maxRecDepth 100000
theorem Zm2 (c : Nat) : (2 : Int32) * nI c = nI (2 * c) := pk_mul 2 c
theorem Zm3 (c : Nat) : (3 : Int32) * nI c = nI (3 * c) := pk_mul 3 c
theorem Zm4 (c : Nat) : (4 : Int32) * nI c = nI (4 * c) := pk_mul 4 c
theorem Zm6 (c : Nat) : (6 : Int32) * nI c = nI (6 * c) := pk_mul 6 c
theorem Zm8 (c : Nat) : (8 : Int32) * nI c = nI (8 * c) := pk_mul 8 c
theorem Zm48 (c : Nat) : (48 : Int32) * nI c = nI (48 * c) := pk_mul 48 c
theorem Zm400 (c : Nat) : (400 : Int32) * nI c = nI (400 * c) := pk_mul 400 c
theorem Zlowest (x : Int32) (N : Nat) (hN : 1000 ≤ N) : fX5_lowest N x = some (nI (Zfs (Zt x) 32 0)) := by
  have L := Zl_ex (body := fX5_lowest_L2 x) (fun k a => a = nI k ∧ ∀ j, j < k → Zt x j = false) 32 (fun r => r = nI (Zfs (Zt x) 32 0))
    (by
      rintro k a hk ⟨rfl, h⟩
      have h32 : ¬ (32 : Int32) ≤ nI k := nI_ge (b := 32) hk (by decide)
      cases e : Zt x k with
      | false =>
        simp only [fX5_lowest_L2, if_neg h32, if_pos ((Zt_uhas0 hk).mpr e), Option.bind_some, nI_1]
        refine Or.inl ⟨_, rfl, rfl, fun j hj => ?_⟩
        by_cases q : j = k
        · rw [q]
          exact e
        · exact h j (by omega)
      | true =>
        have : ¬ ((x.toUInt32 >>> ((nI k).toUInt32 &&& Int32.toUInt32 31)).toInt32) &&& 1 = 0 := fun g => by rw [(Zt_uhas0 hk).mp g] at e; cases e
        simp only [fX5_lowest_L2, if_neg h32, if_neg this]
        refine Or.inr ⟨_, rfl, ?_⟩
        obtain ⟨a1, a2, a3, a4⟩ := Zfs_spec (Zt x) 32 0
        have c1 : Zfs (Zt x) 32 0 ≤ k := Nat.le_of_not_lt fun g => by rw [a3 k (by omega) g] at e; cases e
        have c2 : k ≤ Zfs (Zt x) 32 0 := Nat.le_of_not_lt fun g => by
          have := a4 (by omega)
          rw [h _ g] at this
          cases this
        rw [show Zfs (Zt x) 32 0 = k by omega])
    (by
      rintro a ⟨rfl, h⟩
      simp only [fX5_lowest_L2, if_pos (show (32 : Int32) ≤ nI 32 by decide)]
      refine ⟨_, rfl, ?_⟩
      obtain ⟨a1, a2, a3, a4⟩ := Zfs_spec (Zt x) 32 0
      have : Zfs (Zt x) 32 0 = 32 := by
        rcases Nat.lt_or_ge (Zfs (Zt x) 32 0) 32 with g | g
        · have := a4 (by omega)
          rw [h _ g] at this
          cases this
        · omega
      rw [this])
    N 0 (by omega) ⟨rfl, fun j hj => absurd hj (by omega)⟩
  obtain ⟨r, e, rfl⟩ := L
  exact e
theorem Zhighest (x : Int32) (N : Nat) (hN : 1000 ≤ N) : fX5_highest N x = some (nI (Zla (Zt x) 32) - 1) := by
  have L := Zl_ex (body := fX5_highest_L3 x) (fun k a => a = nI (32 - k) - 1 ∧ ∀ j, 32 - k ≤ j → j < 32 → Zt x j = false) 32 (fun r => r = nI (Zla (Zt x) 32) - 1)
    (by
      rintro k a hk ⟨rfl, h⟩
      obtain ⟨i, hi⟩ : ∃ i, 32 - k = i + 1 := ⟨31 - k, by omega⟩
      rw [hi] at h ⊢
      rw [nI_pred]
      have h0 : ¬ nI i < 0 := nI_pos (by omega)
      have hi32 : i < 32 := by omega
      cases e : Zt x i with
      | false =>
        have : nI i + (-1) = nI i - 1 := by rw [Int32.sub_eq_add_neg]
        simp only [fX5_highest_L3, if_neg h0, if_pos ((Zt_uhas0 hi32).mpr e), Option.bind_some, this]
        refine Or.inl ⟨_, rfl, by rw [show 32 - (k + 1) = i by omega], fun j h1 h2 => ?_⟩
        by_cases q : j = i
        · rw [q]
          exact e
        · exact h j (by omega) h2
      | true =>
        have : ¬ ((x.toUInt32 >>> ((nI i).toUInt32 &&& Int32.toUInt32 31)).toInt32) &&& 1 = 0 := fun g => by rw [(Zt_uhas0 hi32).mp g] at e; cases e
        simp only [fX5_highest_L3, if_neg h0, if_neg this]
        refine Or.inr ⟨_, rfl, ?_⟩
        obtain ⟨b1, b2, b3⟩ := Zla_spec (Zt x) 32
        have c2 : i < Zla (Zt x) 32 := Nat.lt_of_not_le fun g => by rw [b2 i g hi32] at e; cases e
        have c1 : Zla (Zt x) 32 ≤ i + 1 := Nat.le_of_not_lt fun g => by
          have := b3 (by omega)
          rw [h (Zla (Zt x) 32 - 1) (by omega) (by omega)] at this
          cases this
        rw [show Zla (Zt x) 32 = i + 1 by omega, nI_pred])
    (by
      rintro a ⟨rfl, h⟩
      simp only [fX5_highest_L3, Nat.sub_self, if_pos (show nI 0 - 1 < (0 : Int32) by decide)]
      refine ⟨_, rfl, ?_⟩
      obtain ⟨b1, b2, b3⟩ := Zla_spec (Zt x) 32
      have : Zla (Zt x) 32 = 0 := by
        rcases Nat.eq_zero_or_pos (Zla (Zt x) 32) with g | g
        · exact g
        · have := b3 g
          rw [h (Zla (Zt x) 32 - 1) (by omega) (by omega)] at this
          cases this
      rw [this])
    N 31 (by omega) ⟨by decide, fun j h1 h2 => absurd h1 (by omega)⟩
  obtain ⟨r, e, rfl⟩ := L
  exact e
theorem Zcount (x : Int32) (N : Nat) (hN : 1000 ≤ N) : fX5_count N x = some (nI (Zct (Zt x) 32)) := by
  refine Zl_exact (body := fX5_count_L4 x) (fun k => (nI (Zct (Zt x) k), nI k)) 32 (nI (Zct (Zt x) 32)) (fun k hk => ?_) ?_ N (by omega)
  · have h32 : ¬ (32 : Int32) ≤ nI k := nI_ge (b := 32) hk (by decide)
    have hb : ((x.toUInt32 >>> ((nI k).toUInt32 &&& Int32.toUInt32 31)).toInt32) &&& 1 = nI (if Zt x k then 1 else 0) := by
      cases e : Zt x k with
      | false => exact (Zt_uhas0 hk).mpr e
      | true => exact (Zt_uhas hk).mpr e
    simp only [fX5_count_L4, if_neg h32, Option.bind_some, nI_1, hb, nI_add, Zct]
  · simp only [fX5_count_L4, if_pos (show (32 : Int32) ≤ nI 32 by decide)]
theorem ZhasBit_t {x : Int32} {k : Nat} (hk : k < 32) (h : Zt x k = true) : fX5_hasBit x (nI k) = some 1 := by rw [ZhasBit hk, if_pos h]
theorem ZhasBit_f {x : Int32} {k : Nat} (hk : k < 32) (h : ¬ Zt x k = true) : fX5_hasBit x (nI k) = some 0 := by rw [ZhasBit hk, if_neg h]
/-- the store of M -/
def ZTm (st : zMS) : ZT0 := (st.2 34, st.2 35, st.2 36)
/-- only the supports change -/
abbrev ZfS (st st' : zMS) : Prop := ZfM (fun _ => False) (fun f => f = 41) st st'
theorem ZfS.mp {st st' : zMS} {P : ZP} (hf : ZfS st st') (h : ZMP st P) : ZMP st' P := h.fr hf (fun _ q => absurd q (fun q => q)) (fun f q => by unfold ZMf; omega)
theorem ZfS.tm {st st' : zMS} (hf : ZfS st st') : ZTm st' = ZTm st := by unfold ZTm; rw [hf.2 34 (by omega), hf.2 35 (by omega), hf.2 36 (by omega)]
section ML
variable {st : zMS} {P : ZP} {c : Nat}
theorem ZM_dom (hP : ZPok P) (hM : ZMP st P) (hc : c < Znc P) {p : Nat} (hp : p < Zmn P c) : fX5_domainAt st (nI c) (nI p) = some (ZDm P (ZTm st) c p) := by
  have hC := hP.2.2.2.2.2 c hc
  have hnc := hP.2.1
  have m8 := hC.2.1
  have hv := hC.2.2.1 p hp
  have hn10 := hP.1
  have e := (hM.2.2.2 c hc).2.2.1 p hp
  simp (disch := omega) only [fX5_domainAt, Zm8, nI_add, ZMA, e, Option.bind_some]
  rfl
theorem ZM_supp (hP : ZPok P) (hc : c < Znc P) {p k : Nat} (hp : p < 8) : fX5_supports st (nI c) (nI p) (nI k) = some (st.1, zua st.2 41 (8 * c + p) (st.2 41 (8 * c + p) ||| (1 <<< (nI k &&& 31)))) := by
  have hnc := hP.2.1
  simp (disch := omega) only [fX5_supports, Zm8, nI_add, ZMA, Option.bind_some]
theorem ZM_end (hP : ZPok P) (hM : ZMP st P) {v : Nat} (hv : v < Znv P) (g : Int32) (N : Nat) (hN : 1000 ≤ N) (hT : ZTok P (ZTm st)) (hk : Zkd P v = 0 ∨ Zkd P v = 3) : ∃ w, fX5_end N st (nI v) g = some w ∧ w.toInt = if g = 0 then Zlw P (ZTm st) v else Zhg P (ZTm st) v := by
  have hn10 := hP.1
  have e := (hM.2.2.1 v hv).1
  have b := Zlw_bnd hT hv hk
  rcases hk with k | k
  · have h3 : ¬ nI (Zkd P v) = (3 : Int32) := by rw [k]; decide
    have hl : Zlw P (ZTm st) v = (Zfs (Zt (st.2 34 v)) 32 0 : Nat) := by unfold Zlw ZTm; rw [if_neg (by omega)]
    have hh : Zhg P (ZTm st) v = (Zla (Zt (st.2 34 v)) 32 : Nat) - 1 := by unfold Zhg ZTm; rw [if_neg (by omega)]
    have hu : Zun P v = 12 := by unfold Zun; rw [if_neg (by omega)]
    rw [hu, hl, hh] at b
    have fl := (Zfs_spec (Zt (st.2 34 v)) 32 0).2.1
    have gl := (Zla_spec (Zt (st.2 34 v)) 32).1
    by_cases q : g = 0
    · simp (disch := omega) only [fX5_end, ZMA, e, Option.bind_some, if_neg h3, if_pos q, Zlowest _ N hN]
      exact ⟨_, rfl, by rw [nI_toInt (by omega), hl]⟩
    · simp (disch := omega) only [fX5_end, ZMA, e, Option.bind_some, if_neg h3, if_neg q, Zhighest _ N hN]
      refine ⟨_, rfl, ?_⟩
      have : nI (Zla (Zt (st.2 34 v)) 32) - 1 = nI (Zla (Zt (st.2 34 v)) 32 - 1) := pk_sub (b := 1) (by omega)
      rw [this, nI_toInt (by omega), hh]
      omega
  · have h3 : nI (Zkd P v) = (3 : Int32) := by rw [k]; rfl
    have hl : Zlw P (ZTm st) v = (st.2 35 v).toInt := by unfold Zlw ZTm; rw [if_pos k]
    have hh : Zhg P (ZTm st) v = (st.2 36 v).toInt := by unfold Zhg ZTm; rw [if_pos k]
    by_cases q : g = 0
    · simp (disch := omega) only [fX5_end, ZMA, e, Option.bind_some, if_pos h3, if_pos q]
      exact ⟨_, rfl, hl.symm⟩
    · simp (disch := omega) only [fX5_end, ZMA, e, Option.bind_some, if_pos h3, if_neg q]
      exact ⟨_, rfl, hh.symm⟩
theorem ZM_unit (hP : ZPok P) (hM : ZMP st P) {v : Nat} (hv : v < Znv P) : ∃ w, fX5_unit st (nI v) = some w ∧ w.toInt = Zun P v := by
  have hn10 := hP.1
  have e := (hM.2.2.1 v hv).1
  have hk := hP.2.2.1 v hv
  unfold Zun
  by_cases k : Zkd P v = 3
  · simp (disch := omega) only [fX5_unit, ZMA, e, Option.bind_some, if_pos (show nI (Zkd P v) = (3 : Int32) by rw [k]; rfl), if_pos k]
    exact ⟨_, rfl, rfl⟩
  · simp (disch := omega) only [fX5_unit, ZMA, e, Option.bind_some, if_neg (show ¬ nI (Zkd P v) = (3 : Int32) from fun h => k ((nI_eq (a := Zkd P v) (b := 3) (by omega) (by omega)).mp h)), if_neg k]
    exact ⟨_, rfl, rfl⟩
theorem ZM_most (hP : ZPok P) (hM : ZMP st P) (hc : c < Znc P) (hs : Zso P c = 0) (hT : ZTok P (ZTm st)) {p : Nat} (hp : p < Zmn P c) (N : Nat) (hN : 1000 ≤ N) : (∃ w, fX5_most N st (nI c) (nI p) 0 = some w ∧ w.toInt = Zmi P (ZTm st) c p) ∧ ∃ w, fX5_most N st (nI c) (nI p) 1 = some w ∧ w.toInt = Zma P (ZTm st) c p := by
  have hC := hP.2.2.2.2.2 c hc
  have hCl := ZCl_of hC hs
  have hnc := hP.2.1
  have m6 := hCl.2.1
  obtain ⟨g1, g2⟩ := hCl.2.2.1 p hp
  have g3 := hCl.2.2.2.1 p hp
  obtain ⟨-, -, e18, e0, -⟩ := hM.2.2.2 c hc
  have e18 := e18 p hp
  have e19 := (e0 hs).1 p hp
  obtain ⟨u, eu, hu⟩ := ZM_unit hP hM g1
  obtain ⟨lo, el, hl⟩ := ZM_end hP hM g1 0 N hN hT g2
  obtain ⟨hi, eh, hh⟩ := ZM_end hP hM g1 1 N hN hT g2
  rw [if_pos rfl] at hl
  rw [if_neg (by decide)] at hh
  have b := Zlw_bnd hT g1 g2
  have ub : Zun P (Zpl P c p) = 1 ∨ Zun P (Zpl P c p) = 12 := by unfold Zun; split <;> simp
  have q0 := ZmulB (n := 12) g3 (b := Zun P (Zpl P c p)) (by omega)
  have hby : (Zfa P c p * u).toInt = (Zfa P c p).toInt * Zun P (Zpl P c p) := by rw [Zmul_i (by rw [hu]; omega) (by rw [hu]; omega), hu]
  have ql := ZmulB (n := 180) g3 (b := Zun P (Zpl P c p) * Zlw P (ZTm st) (Zpl P c p)) ⟨by omega, by omega⟩
  have qh := ZmulB (n := 180) g3 (b := Zun P (Zpl P c p) * Zhg P (ZTm st) (Zpl P c p)) ⟨by omega, by omega⟩
  rw [← Int.mul_assoc] at ql qh
  have ml : (Zfa P c p * u * lo).toInt = (Zfa P c p).toInt * Zun P (Zpl P c p) * Zlw P (ZTm st) (Zpl P c p) := by rw [Zmul_i (by rw [hby, hl]; omega) (by rw [hby, hl]; omega), hby, hl]
  have mh : (Zfa P c p * u * hi).toInt = (Zfa P c p).toInt * Zun P (Zpl P c p) * Zhg P (ZTm st) (Zpl P c p) := by rw [Zmul_i (by rw [hby, hh]; omega) (by rw [hby, hh]; omega), hby, hh]
  have hpos : Zfa P c p * u ≤ 0 ↔ (Zfa P c p).toInt ≤ 0 := by
    rw [Int32.le_iff_toInt_le, hby, Int32.toInt_zero]
    rcases ub with h | h <;> rw [h] <;> omega
  simp (disch := omega) only [fX5_most, Zm8, Zm6, nI_add, ZMA, e18, e19, eu, Option.bind_some]
  unfold Zmi Zma
  by_cases q : Zfa P c p * u ≤ 0
  · have q' := hpos.mp q
    simp only [if_pos q, Option.bind_some, if_true, if_neg (show ¬ (0 : Int32) = 1 by decide), el, eh]
    refine ⟨⟨_, rfl, ?_⟩, _, rfl, ?_⟩
    · rw [mh]
      by_cases z : (Zfa P c p).toInt = 0
      · rw [z]
        simp
      · rw [if_neg (by omega)]
    · rw [ml]
      by_cases z : (Zfa P c p).toInt = 0
      · rw [z]
        simp
      · rw [if_neg (by omega)]
  · have q' : ¬ (Zfa P c p).toInt ≤ 0 := fun h => q (hpos.mpr h)
    simp only [if_neg q, Option.bind_some, if_true, if_neg (show ¬ (1 : Int32) = 0 by decide), el, eh]
    rw [if_pos (by omega), if_pos (by omega)]
    exact ⟨⟨_, rfl, ml⟩, _, rfl, mh⟩
theorem ZM_lin (hP : ZPok P) (hM : ZMP st P) (hc : c < Znc P) (hs : Zso P c = 0) (hT : ZTok P (ZTm st)) {p : Nat} (hp : p < Zmn P c) {w : Int32} {x : Int} (hw : w.toInt = x) (x1 : -200 ≤ Zun P (Zpl P c p) * x) (x2 : Zun P (Zpl P c p) * x ≤ 200) (N : Nat) (hN : 1000 ≤ N) : ∃ b : Int32, fX5_linearAgrees N st (nI c) (nI p) w = some b ∧ (b = 0 ∨ b = 1) ∧ (b = 1 ↔ ZLok P (ZTm st) c p x) := by
  have hC := hP.2.2.2.2.2 c hc
  have hCl := ZCl_of hC hs
  have hnc := hP.2.1
  have m6 := hCl.2.1
  obtain ⟨g1, g2⟩ := hCl.2.2.1 p hp
  have g3 := hCl.2.2.2.1 p hp
  obtain ⟨-, e17, e18, e0, -⟩ := hM.2.2.2 c hc
  have e18 := e18 p hp
  obtain ⟨e19, e20, e23⟩ := e0 hs
  have e19 := e19 p hp
  obtain ⟨u, eu, hu⟩ := ZM_unit hP hM g1
  have ub : Zun P (Zpl P c p) = 1 ∨ Zun P (Zpl P c p) = 12 := by unfold Zun; split <;> simp
  have q0 := ZmulB (n := 12) g3 (b := Zun P (Zpl P c p)) (by omega)
  have hby : (Zfa P c p * u).toInt = (Zfa P c p).toInt * Zun P (Zpl P c p) := by rw [Zmul_i (by rw [hu]; omega) (by rw [hu]; omega), hu]
  have qm := ZmulB (n := 200) g3 (b := Zun P (Zpl P c p) * x) ⟨by omega, by omega⟩
  rw [← Int.mul_assoc] at qm
  have hmine : (Zfa P c p * u * w).toInt = (Zfa P c p).toInt * Zun P (Zpl P c p) * x := by rw [Zmul_i (by rw [hby, hw]; omega) (by rw [hby, hw]; omega), hby, hw]
  have bm := fun i (hi : i ≤ Zmn P c) => Zsm_bnd (g := fun q => if q = p then 0 else Zmi P (ZTm st) c q) (B := 1620) i fun q hq => by
    have := (Zmi_bnd hT hCl (show q < Zmn P c by omega)).1
    split <;> omega
  have bM := fun i (hi : i ≤ Zmn P c) => Zsm_bnd (g := fun q => if q = p then 0 else Zma P (ZTm st) c q) (B := 1620) i fun q hq => by
    have := (Zmi_bnd hT hCl (show q < Zmn P c by omega)).2
    split <;> omega
  have L := Zl_inv (body := fX5_linearAgrees_L42 N st (nI c) (nI p)) (fun i a => ∃ l g, a = (l, g, nI i) ∧ l.toInt = (Zfa P c p).toInt * Zun P (Zpl P c p) * x + Zsm (fun q => if q = p then 0 else Zmi P (ZTm st) c q) i ∧ g.toInt = (Zfa P c p).toInt * Zun P (Zpl P c p) * x + Zsm (fun q => if q = p then 0 else Zma P (ZTm st) c q) i) (Zmn P c)
    (fun r => r.1.toInt = (Zfa P c p).toInt * Zun P (Zpl P c p) * x + Zsm (fun q => if q = p then 0 else Zmi P (ZTm st) c q) (Zmn P c) ∧ r.2.toInt = (Zfa P c p).toInt * Zun P (Zpl P c p) * x + Zsm (fun q => if q = p then 0 else Zma P (ZTm st) c q) (Zmn P c))
    (by
      rintro i a hi ⟨l, g, rfl, hl, hg⟩
      have b1 := bm i (by omega)
      have b2 := bM i (by omega)
      have hm : i * 1620 ≤ 8100 := by omega
      by_cases q : i = p
      · simp (disch := omega) only [fX5_linearAgrees_L42, ZMA, e17, Option.bind_some, if_neg (nI_ge hi (show Zmn P c < 2 ^ 31 by omega)), if_pos (show nI i = nI p by rw [q]), nI_1, Int32.add_zero]
        refine ⟨_, rfl, _, _, rfl, ?_, ?_⟩
        · rw [hl]
          simp only [Zsm, if_pos q, Int.add_zero]
        · rw [hg]
          simp only [Zsm, if_pos q, Int.add_zero]
      · obtain ⟨⟨w1, e1, k1⟩, w2, e2, k2⟩ := ZM_most hP hM hc hs hT hi N hN
        have q3 := Zmi_bnd hT hCl hi
        simp (disch := omega) only [fX5_linearAgrees_L42, ZMA, e17, Option.bind_some, if_neg (nI_ge hi (show Zmn P c < 2 ^ 31 by omega)), if_neg (show ¬ nI i = nI p from fun h => q ((nI_eq (by omega) (by omega)).mp h)), e1, e2, nI_1]
        refine ⟨_, rfl, _, _, rfl, ?_, ?_⟩
        · rw [Zadd_i (by rw [hl, k1]; omega) (by rw [hl, k1]; omega), hl, k1]
          simp only [Zsm, if_neg q]
          omega
        · rw [Zadd_i (by rw [hg, k2]; omega) (by rw [hg, k2]; omega), hg, k2]
          simp only [Zsm, if_neg q]
          omega)
    (by
      rintro a ⟨l, g, rfl, hl, hg⟩
      simp (disch := omega) only [fX5_linearAgrees_L42, ZMA, e17, Option.bind_some, if_pos (nI_le (Nat.le_refl _) (show Zmn P c < 2 ^ 31 by omega))]
      exact ⟨_, rfl, hl, hg⟩)
    N (Zfa P c p * u * w, Zfa P c p * u * w, (0 : Int32)) (by omega) ⟨_, _, rfl, by rw [hmine]; simp [Zsm], by rw [hmine]; simp [Zsm]⟩
  obtain ⟨⟨l, g⟩, el, hl, hg⟩ := L
  simp only at hl hg
  simp (disch := omega) only [fX5_linearAgrees, Zm8, Zm6, nI_add, ZMA, e18, e19, e20, e23, eu, el, Option.bind_some]
  unfold ZLok
  rw [← hl, ← hg]
  by_cases q : Zli P c < l
  · rw [if_pos q]
    rw [Int32.lt_iff_toInt_lt] at q
    exact ⟨0, rfl, Or.inl rfl, fun h => absurd h (by decide), fun h => absurd h.1 (by omega)⟩
  · rw [if_neg q]
    rw [Int32.lt_iff_toInt_lt] at q
    by_cases z : Zhs P c 0 = 0
    · rw [if_pos z, Zesc_l]
      exact ⟨1, rfl, Or.inr rfl, fun _ => ⟨by omega, Or.inl z⟩, fun _ => rfl⟩
    · rw [if_neg z]
      by_cases r : g < Zli P c
      · rw [if_pos r, Zesc_r]
        rw [Int32.lt_iff_toInt_lt] at r
        exact ⟨0, rfl, Or.inl rfl, fun h => absurd h (by decide), fun h => absurd h.2 (fun k => k.elim z (by omega))⟩
      · rw [if_neg r, Zesc_l]
        rw [Int32.lt_iff_toInt_lt] at r
        exact ⟨1, rfl, Or.inr rfl, fun _ => ⟨by omega, Or.inr (by omega)⟩, fun _ => rfl⟩
/-- what a constraint of M supports -/
def ZMs (P : ZP) (T : ZT0) (c : Nat) (st' : zMS) : Prop := ∀ p, p < Zmn P c → Zkd P (Zpl P c p) ≤ 2 → ∀ k, k < 32 → Zt (ZDm P T c p) k = true → (Zt (st'.2 41 (8 * c + p)) k = true ↔ Zsup P T c p k)
/-- the supports of the others stay -/
def ZMo (c : Nat) (st st' : zMS) : Prop := ∀ j, (j < 8 * c ∨ 8 * c + 8 ≤ j) → st'.2 41 j = st.2 41 j
end ML
