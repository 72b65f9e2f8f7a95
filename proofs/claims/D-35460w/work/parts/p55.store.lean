/-! the store that stands, of both -/
set_option maxRecDepth 100000
theorem Zt_4095 : ∀ i, i < 12 → Zt 4095 i = true := by decide
/-- what may change while the problem stays -/
def ZGA (P : ZP) (t f : Nat) : Prop := (t < 100 ∧ t ≠ 2 ∧ t ≠ 4) ∨ ∃ c, c < Znc P ∧ ZKA P c t f
def ZGB (P : ZP) (u : Nat) : Prop := (u < 100 ∧ u ≠ 19 ∧ u ≠ 20) ∨ ∃ c, c < Znc P ∧ ZKB c u
theorem ZRA_G {P : ZP} {ts t f : Nat} (hts : ts = 28 ∨ ts = 36) (h : ZRA P ts t f) : ZGA P t f := by
  rcases h with q | q | q
  · exact Or.inl (by omega)
  · exact Or.inl (by omega)
  · exact Or.inr q
theorem ZRB_G {P : ZP} {ts u : Nat} (hts : ts = 28 ∨ ts = 36) (h : ZRB P ts u) : ZGB P u := by
  rcases h with q | q | q | q | q | q | q | q | q
  · exact Or.inl (by omega)
  · exact Or.inl (by omega)
  · exact Or.inl (by omega)
  · exact Or.inl (by omega)
  · exact Or.inl (by omega)
  · exact Or.inl (by omega)
  · exact Or.inl (by omega)
  · exact Or.inl (by omega)
  · exact Or.inr q
theorem ZXP.frG {sh : Nat → Option Zsh} {xs xs' : Zxs} {P : ZP} (h : ZXP sh xs P) (hP : ZPok P) (hf : Zfr (ZGA P) (ZGB P) xs xs') : ZXP sh xs' P := by
  obtain ⟨h1, ⟨e, h2⟩, h3, h4⟩ := h
  have hnc := hP.2.1
  have nA : ∀ t f, (100 ≤ t ∨ t = 2 ∨ t = 4) → ¬ (t % 1000 = 0 ∧ 1000 ≤ t) → ¬ ZGA P t f := by
    rintro t f a d (q | ⟨c, -, q⟩)
    · omega
    · exact ZKA_no d q
  have nB : ∀ u, 100 ≤ u → u < 1000 ∨ 1000 * 25 ≤ u → ¬ ZGB P u := by
    rintro u a b (q | ⟨c, hc, q⟩)
    · omega
    · exact ZKB_no b (by omega) q
  have nB2 : ∀ u, u = 19 ∨ u = 20 → ¬ ZGB P u := by
    rintro u a (q | ⟨c, hc, q⟩)
    · omega
    · exact ZKB_no (by omega) (show c < 24 by omega) q
  have nB1 : ∀ c i, c < Znc P → i = 1 ∨ i = 5 ∨ i = 6 → ¬ ZGB P (1000 * (c + 1) + i) := by
    rintro c i hc a (q | ⟨c', hc', q⟩)
    · omega
    · unfold ZKB at q
      omega
  have nAc : ∀ c i f, c < Znc P → i < 1000 → ¬ (i = 0 ∧ (Zso P c = 1 ∧ f = 5)) → ¬ ZGA P (1000 * (c + 1) + i) f := by
    rintro c i f hc hi a (q | ⟨c', hc', q⟩)
    · omega
    · obtain ⟨q1, q2, q3⟩ := q
      have : c' = c := by omega
      subst this
      exact a ⟨by omega, q1, q3⟩
  have nAL : ∀ t f, 100000 ≤ t → ¬ ZGA P t f := by
    rintro t f a (q | ⟨c', hc', q⟩)
    · omega
    · obtain ⟨q1, q2, q3⟩ := q
      omega
  refine ⟨h1.fr hP hf (nA 2 2 (by omega) (by omega)) fun v f hv => nA _ _ (by omega) (by omega), ⟨e, hf.li (nA 4 2 (by omega) (by omega)) h2⟩, by rw [hf.2 50301 (nB _ (by omega) (by omega))]; exact h3, fun c hc => ?_⟩
  obtain ⟨c0, c1, c2, c3, c4, c5, c6, c7, c8⟩ := h4 c hc
  have hC := hP.2.2.2.2.2 c hc
  refine ⟨c0.fr hf (nB1 c 1 hc (by omega)), fun hs => (c1 hs).fr hf (fun f hf' => nAc c 0 f hc (by omega) (by omega)) ⟨nB1 c 5 hc (by omega), nB1 c 6 hc (by omega)⟩, c2, c3, fun hs => (c4 hs).fr (hC.2.2.2.2.2.2.1 hs).2.1 hf (fun i f hi hn => nAc c i f hc hi (by omega)) nAL, c5, fun hs => (c6 hs).fr hC.2.1 hf (fun i f hi hn => nAc c i f hc hi (by omega)) nAL, fun hs => ?_, fun hs => (c8 hs).fr hf (nAc c 5 0 hc (by omega) (by omega)) fun r hr => ?_⟩
  · obtain ⟨g1, g2, g3, g4⟩ := c7 hs
    refine ⟨g1, ?_, g3, ?_⟩
    · exact (hf.1 (1000 * (c + 1)) 5 (nAc c 0 5 hc (by omega) (by omega))).trans g2
    · rw [hf.2 _ (nB2 19 (by omega)), hf.2 _ (nB2 20 (by omega))]
      exact g4
  · rintro (q | ⟨c', hc', q1, q2, q3⟩)
    · omega
    · omega
def ZXst (P : ZP) (L : ZL) (xs : Zxs) : Prop := ∃ T0 m l, Zbeg P L 1000 0 T0 ∧ xs.1 28 4 = nI m ∧ m ≤ 2410 ∧ (xs.1 28 3 = 0 ∨ xs.1 28 3 = 1) ∧ (xs.1 28 3 = 1 ↔ Zfail P (ZTs xs 28)) ∧ ZEnd P T0 m (ZTs xs 28) l ∧ ZTrc xs l ∧ l.length ≤ 320 ∧ (¬ Zfail P (ZTs xs 28) → ZTok P (ZTs xs 28))
def ZMst (P : ZP) (L : ZL) (st : zMS) : Prop := ∃ T0 m l, Zbeg P L 1000 0 T0 ∧ st.1 38 = nI m ∧ m ≤ 2410 ∧ (st.1 37 = 0 ∨ st.1 37 = 1) ∧ (st.1 37 = 1 ↔ Zfail P (ZTm st)) ∧ ZEnd P T0 m (ZTm st) l ∧ ZTrM st l ∧ l.length ≤ 320 ∧ (¬ Zfail P (ZTm st) → ZTok P (ZTm st))
/-- what finding the store that stands may change -/
def ZSA (P : ZP) (t f : Nat) : Prop := ZRA P 28 t f ∨ (t = 1 ∧ f = 10)
theorem ZSA_G {P : ZP} {t f : Nat} (h : ZSA P t f) : ZGA P t f := h.elim (ZRA_G (Or.inl rfl)) fun q => Or.inl (by omega)
section ST
variable {sh : Nat → Option Zsh} {xs : Zxs} {P : ZP} {E : Ze}
theorem ZX_store {L : ZL} (hP : ZPok P) (hb : Zbase E sh) (hX : ZXP sh xs P) (hl : ZXl xs 14 L) (h12 : L.length ≤ 12) (hL : ZLv P L) (hk : xs.1 1 10 = 0 ∨ (xs.1 1 10 = 1 ∧ ZXst P L xs)) (N : Nat) (hN : 5000 ≤ N) :
    ∃ z, fX1_store N (ZW E sh xs) (Zl E 1) = some (ZW E sh z, Zl E 28) ∧ Zfr (ZSA P) (ZRB P 28) xs z ∧ z.1 1 10 = 1 ∧ ZXst P L z := by
  rcases hk with hk | ⟨hk, hst⟩
  · obtain ⟨y, e1, f1, hbeg⟩ := ZX_beginL (E := E) (ts := 28) (td := 14) (taken := -1) hP hX.1 hb.2.2.1 hb.2.2.2.2.1 hl hL (by omega) (by omega) N (by omega)
    rw [ZLf_all (fun i hi => by rw [Zt_m1]; simp; omega) L.length (Nat.le_refl _), List.take_length] at hbeg
    have f1' : Zfr (ZRA P 28) (ZRB P 28) xs y := f1.mono (fun _ _ q => absurd q (fun q => q)) fun u q => by unfold ZRB; omega
    obtain ⟨z, m, l, e2, f2, z4, hm, z01, z3, hend, htr, -, hok⟩ := ZX_solve (tr := 1) hP hb (hX.fr hP (Or.inl rfl) f1') (Or.inl rfl) (Zbeg_in hP hbeg) (Or.inr rfl) N hN
    have f2' := f1'.trans f2
    refine ⟨(zua z.1 1 10 1, z.2), ?_, ?_, ?_, ?_⟩
    · simp only [fX1_store, Zb0 hb.1, Option.bind_some, hk, if_true, e1, e2, or_true]
    · exact Zfr.num (f2'.mono (fun _ _ q => Or.inl q) fun _ q => q) (Or.inr ⟨rfl, rfl⟩)
    · simp only [zua_ss]
    · refine ⟨_, m, l, hbeg, ?_, hm, ?_, ?_, hend, ?_, (htr rfl).2, hok⟩
      · simp only [zua_n (show 28 ≠ 1 by decide)]
        exact z4
      · simp only [zua_n (show 28 ≠ 1 by decide)]
        exact z01
      · simp only [zua_n (show 28 ≠ 1 by decide)]
        exact z3
      · have := (htr rfl).1
        unfold ZTrc at this ⊢
        simp only [zua_sn (show 15 ≠ 10 by decide)]
        exact this
  · refine ⟨xs, ?_, Zfr.rfl, hk, hst⟩
    simp only [fX1_store, Zb0 hb.1, Option.bind_some, hk, Zne10, if_false]
/-- the frame of M's finding -/
abbrev ZfN (st st' : zMS) : Prop := ZfM (fun f => f = 28 ∨ f = 32 ∨ f = 37 ∨ f = 38 ∨ f = 39) (fun f => f = 29 ∨ f = 30 ∨ f = 31 ∨ (34 ≤ f ∧ f ≤ 36) ∨ (40 ≤ f ∧ f ≤ 44)) st st'
theorem ZfN.mp {st st' : zMS} {P : ZP} (hf : ZfN st st') (h : ZMP st P) : ZMP st' P := h.fr hf (fun f q => by unfold ZMf; omega) (fun f q => by unfold ZMf; omega)
theorem ZfN.dc {st st' : zMS} {L : ZL} (hf : ZfN st st') (h : ZMdc st L) : ZMdc st' L := by
  unfold ZMdc at h ⊢
  rw [hf.1 24 (by omega), hf.2 25 (by omega), hf.2 26 (by omega), hf.2 27 (by omega)]
  exact h
theorem ZM_now {st : zMS} {L : ZL} (hP : ZPok P) (hM : ZMP st P) (hd : ZMdc st L) (hL : ZLv P L) (N : Nat) (hN : 5000 ≤ N) : ∃ z, fX5_now N st = some z ∧ ZfN st z ∧ ZMst P L z ∧ z.1 32 = -1 := by
  have hn10 := hP.1
  obtain ⟨y, hy⟩ : ∃ y : zMS, y = (zus st.1 32 (-1), st.2) := ⟨_, rfl⟩
  have fy : ZfN st y := by rw [hy]; exact ZfM.num ZfM.rfl (by omega)
  obtain ⟨w, e1, fw, hw⟩ := ZM_takes (s := 4095) (fy.dc hd) N (by omega)
  have h12 := hd.2.1
  rw [ZLf_all (fun i hi => Zt_4095 i (by omega)) L.length (Nat.le_refl _), List.take_length] at hw
  have fw' : ZfN y w := fw.mono (fun f q => by omega) (fun f q => by omega)
  have w32 : w.1 32 = -1 := by
    rw [fw.1 32 (by decide), hy]
    simp only [zus_s]
  obtain ⟨z, T0, m, l, e2, fz, hbeg, h⟩ := ZM_findsL (lv := 1000) (lb := 0) hP (fw'.mp (fy.mp hM)) hw hL (Or.inl ⟨w32, by omega⟩) N hN
  refine ⟨z, ?_, (fy.trans fw').trans (fz.mono (fun f q => by omega) (fun f q => by omega)), ⟨T0, m, l, hbeg, h⟩, by rw [fz.1 32 (by omega)]; exact w32⟩
  rw [hy] at e1
  simp only [fX5_now, zps, Option.bind_some, e1, e2]
/-- both stores are alike -/
theorem ZXM_st {L : ZL} {st : zMS} (hP : ZPok P) (hx : ZXst P L xs) (hm : ZMst P L st) : ∃ m l, xs.1 28 4 = nI m ∧ st.1 38 = nI m ∧ m ≤ 2410 ∧ ZTrc xs l ∧ ZTrM st l ∧ l.length ≤ 320 ∧ Zsim2 P (ZTs xs 28) (ZTm st) ∧ xs.1 28 3 = st.1 37 ∧ (st.1 37 = 0 ∨ st.1 37 = 1) ∧ (st.1 37 = 1 ↔ Zfail P (ZTm st)) ∧ (¬ Zfail P (ZTm st) → ZTok P (ZTm st) ∧ ZTok P (ZTs xs 28) ∧ Zsim P (ZTs xs 28) (ZTm st)) := by
  obtain ⟨T0, m, l, b1, x4, hm1, x01, x3, xend, xtr, xl, xok⟩ := hx
  obtain ⟨U0, m', l', b2, y4, hm2, y01, y3, yend, ytr, yl, yok⟩ := hm
  obtain ⟨rfl, rfl, hs⟩ := ZEnd_one hP (Zbeg_sim b1 b2 fun e => Iff.rfl) xend yend
  have hf := Zfail_sim2 hP hs
  refine ⟨m, l, x4, y4, hm1, xtr, ytr, xl, hs, ?_, y01, y3, fun h => ⟨yok h, xok fun g => h (hf.mp g), hs.of_ok hP fun g => h (hf.mp g)⟩⟩
  rcases x01 with g | g <;> rcases y01 with g' | g'
  · rw [g, g']
  · exact absurd (x3.mpr (hf.mpr (y3.mp g'))) (by rw [g]; decide)
  · exact absurd (y3.mpr (hf.mp (x3.mp g))) (by rw [g']; decide)
  · rw [g, g']
end ST
