/-! a node of a search, of both -/
set_option maxRecDepth 100000
/-- what may change while both know what they know -/
def ZPA (P : ZP) (t f : Nat) : Prop := ZGA P t f ∧ ¬ (t = 14 ∧ f = 3) ∧ t ≠ 28 ∧ ¬ (t = 1 ∧ (f = 10 ∨ f = 15))
def ZPB (P : ZP) (u : Nat) : Prop := ZGB P u ∧ ¬ (15 ≤ u ∧ u ≤ 17) ∧ ¬ (29 ≤ u ∧ u ≤ 35)
/-- and of M -/
abbrev ZfU (st st' : zMS) : Prop := ZfM (fun f => ¬ ZMf f ∧ f ≠ 24) (fun f => ¬ ZMf f ∧ ¬ (25 ≤ f ∧ f ≤ 27)) st st'
section LK
variable {sh : Nat → Option Zsh} {xs : Zxs} {P : ZP} {E : Ze} {st : zMS} {L R : ZL}
theorem ZPD.gen {z : Zxs} {w : zMS} (h : ZPD E sh xs st P L) (f : Zfr (ZPA P) (ZPB P) xs z) (g : ZfU st w) (g32 : w.1 32 = -1) : ZPD E sh z w P L := by
  obtain ⟨hP, hr, hb, hX, hM, hl, hd, hL, hk, h32⟩ := h
  have fG : Zfr (ZGA P) (ZGB P) xs z := f.mono (fun _ _ q => q.1) fun _ q => q.1
  have nB : ∀ u, (15 ≤ u ∧ u ≤ 17) ∨ (29 ≤ u ∧ u ≤ 35) → ¬ ZPB P u := fun u a q => by
    have := q.2.1
    have := q.2.2
    omega
  have nA : ∀ t f, (t = 14 ∧ f = 3) ∨ t = 28 ∨ (t = 1 ∧ (f = 10 ∨ f = 15)) → ¬ ZPA P t f := fun t f a q => by
    have := q.2.1
    have := q.2.2.1
    have := q.2.2.2
    omega
  refine ⟨hP, hr, hb, hX.frG hP fG, hM.fr g (fun f q => q.1) (fun f q => q.1), hl.fr f (nA 14 3 (by omega)) (nB 15 (by omega)) (nB 16 (by omega)) (nB 17 (by omega)), ?_, hL, ?_, g32⟩
  · unfold ZMdc at hd ⊢
    rw [g.1 24 (by omega), g.2 25 (by omega), g.2 26 (by omega), g.2 27 (by omega)]
    exact hd
  rw [f.1 1 10 (nA 1 10 (by omega))]
  refine hk.imp id fun ⟨k1, k2⟩ => ⟨k1, ?_⟩
  obtain ⟨T0, m, l, b1, b2, b3, b4, b5, b6, b7, b8⟩ := k2
  have e28 : z.1 28 = xs.1 28 := funext fun f' => f.1 28 f' (nA 28 f' (by omega))
  have eT : ZTs z 28 = ZTs xs 28 := by
    unfold ZTs
    rw [f.2 29 (nB 29 (by omega)), f.2 30 (nB 30 (by omega)), f.2 31 (nB 31 (by omega))]
  refine ⟨T0, m, l, b1, by rw [e28]; exact b2, b3, by rw [e28]; exact b4, by rw [e28, eT]; exact b5, by rw [eT]; exact b6, ?_, by rw [eT]; exact b8⟩
  unfold ZTrc at b7 ⊢
  rw [f.1 1 15 (nA 1 15 (by omega)), f.2 32 (nB 32 (by omega)), f.2 33 (nB 33 (by omega)), f.2 34 (nB 34 (by omega)), f.2 35 (nB 35 (by omega))]
  exact b7
/-- the other stores of both are alike -/
def Znode (P : ZP) (z : Zxs) (w : zMS) : Prop := z.1 36 3 = w.1 37 ∧ (w.1 37 = 0 ∨ w.1 37 = 1) ∧ (w.1 37 = 0 → ZTok P (ZTs z 36) ∧ ZTok P (ZTm w) ∧ Zsim P (ZTs z 36) (ZTm w))
/-- X begins a store and solves it, M finds: by the same decisions -/
theorem ZJ_fin (hR : ZPD E sh xs st P L) {y : Zxs} (f1 : Zfr (fun _ _ => False) (fun u => u = 37 ∨ u = 38 ∨ u = 39) xs y) {D : ZL} {lv lb : Nat} (hbeg : Zbeg P D lv lb (ZTs y 36)) {t : zMS} (ft : ZfU st t) (hM : ZMP t P) (ht : ZMtk t D) (hLD : ZLv P D) (hl : ZMl t P lv lb) (N : Nat) (hN : 5000 ≤ N) :
    ∃ z w, fX1_solve N (ZW E sh y) (Zl E 1) (Zl E 36) 0 = some (ZW E sh z) ∧ fX5_finds N t = some w ∧ Zfr (ZRA P 36) (ZRB P 36) xs z ∧ z.1 1 = xs.1 1 ∧ (∀ i, i < 4 → z.2 (32 + i) = xs.2 (32 + i)) ∧ ZfQ t w ∧ Znode P z w := by
  obtain ⟨hP, hr, hb, hX, -, -, -, -, -, -⟩ := hR
  have f1' : Zfr (ZRA P 36) (ZRB P 36) xs y := f1.mono (fun _ _ q => absurd q (fun q => q)) fun u q => by unfold ZRB; omega
  obtain ⟨z, m, l, e2, f2, z4, hm, z01, z3, hend, -, htr, hok⟩ := ZX_solve (E := E) (tr := 0) hP hb (hX.fr hP (Or.inr rfl) f1') (Or.inr rfl) (Zbeg_in hP hbeg) (Or.inl rfl) N hN
  obtain ⟨w, U0, m', l', e4, fw, wbeg, w38, -, w01, w37, wend, -, -, wok⟩ := ZM_findsL hP hM ht hLD hl N hN
  obtain ⟨-, -, hs⟩ := ZEnd_one hP (Zbeg_sim hbeg wbeg fun e => Iff.rfl) hend wend
  have hf := Zfail_sim2 hP hs
  have heq : z.1 36 3 = w.1 37 := by
    rcases z01 with g | g <;> rcases w01 with g' | g'
    · rw [g, g']
    · exact absurd (z3.mpr (hf.mpr (w37.mp g'))) (by rw [g]; decide)
    · exact absurd (w37.mpr (hf.mp (z3.mp g))) (by rw [g']; decide)
    · rw [g, g']
  have y1 : y.1 = xs.1 := funext fun u => funext fun f => f1.1 u f (fun q => q)
  obtain ⟨q1, q2⟩ := htr rfl
  refine ⟨z, w, e2, e4, f1'.trans f2, by rw [q1, y1], fun i hi => (q2 i hi).trans (f1.2 _ (by omega)), fw, heq, w01, fun h0 => ?_⟩
  have nf : ¬ Zfail P (ZTm w) := fun q => by
    rw [w37.mpr q] at h0
    exact absurd h0 (by decide)
  exact ⟨hok fun g => nf (hf.mp g), wok nf, hs.of_ok hP fun g => nf (hf.mp g)⟩
theorem ZJ_look (hR : ZPD E sh xs st P L) {td : Nat} (hD : ZDc sh td) (h40 : 40 ≤ td) {D : ZL} (hl : ZXl xs td D) (hLD : ZLv P D) {t : zMS} (ft : ZfU st t) (t32 : t.1 32 = -1) (ht : ZMtk t D) (N : Nat) (hN : 5000 ≤ N) :
    ∃ z w, fX1_look N (ZW E sh xs) (Zl E 1) (Zl E td) = some (ZW E sh z) ∧ fX5_finds N t = some w ∧ Zfr (ZRA P 36) (ZRB P 36) xs z ∧ z.1 1 = xs.1 1 ∧ (∀ i, i < 4 → z.2 (32 + i) = xs.2 (32 + i)) ∧ ZfQ t w ∧ ZPD E sh z w P L ∧ Znode P z w := by
  have hR0 := hR
  obtain ⟨hP, hr, hb, hX, hM, -, -, -, -, -⟩ := hR
  have hn := hP.1
  obtain ⟨y, e1, f1, hbeg⟩ := ZX_beginL (E := E) (ts := 36) (td := td) (taken := -1) hP hX.1 hb.2.2.2.1 hD hl hLD (by omega) (by omega) N (by omega)
  rw [ZLf_all (fun i hi => by rw [Zt_m1]; simp; omega) D.length (Nat.le_refl _), List.take_length] at hbeg
  have f1' : Zfr (fun _ _ => False) (fun u => u = 37 ∨ u = 38 ∨ u = 39) xs y := f1
  obtain ⟨z, w, e2, e3, fz, h1, h2, fw, hnode⟩ := ZJ_fin hR0 f1' hbeg ft (hM.fr ft (fun f q => q.1) (fun f q => q.1)) ht hLD (Or.inl ⟨t32, by omega⟩) N hN
  have g : ZfU st w := ft.trans (fw.mono (fun f q => by unfold ZMf; omega) (fun f q => by unfold ZMf; omega))
  have w32 : w.1 32 = -1 := by rw [fw.1 32 (by omega)]; exact t32
  refine ⟨z, w, ?_, e3, fz, h1, h2, fw, ?_, hnode⟩
  · simp only [fX1_look, Zb0 hb.1, Option.bind_some, e1, e2]
  · have hnc := hP.2.1
    -- the trace and what main knows stay
    have A : Zfr (fun t f => ZRA P 36 t f ∧ t ≠ 1) (fun u => ZRB P 36 u ∧ ¬ (32 ≤ u ∧ u ≤ 35)) xs z := ⟨fun t f q => by
      by_cases g : t = 1
      · subst g
        rw [h1]
      · exact fz.1 t f fun q' => q ⟨q', g⟩, fun u q => by
      by_cases g : 32 ≤ u ∧ u ≤ 35
      · have := h2 (u - 32) (by omega)
        rwa [show 32 + (u - 32) = u by omega] at this
      · exact fz.2 u fun q' => q ⟨q', g⟩⟩
    refine ZPD.gen hR0 (A.mono (fun t f q => ⟨ZRA_G (Or.inr rfl) q.1, ?_⟩) fun u q => ⟨ZRB_G (Or.inr rfl) q.1, ?_⟩) g w32
    · obtain ⟨q | q | ⟨c, hc, q⟩, q1⟩ := q
      · omega
      · omega
      · unfold ZKA at q
        omega
    · obtain ⟨q | q | q | q | q | q | q | q | ⟨c, hc, q⟩, q1⟩ := q
      any_goals omega
      unfold ZKB at q
      omega
/-- M's path -/
def ZMpa (st : zMS) (R : ZL) : Prop := st.1 51 = nI R.length ∧ R.length ≤ 400 ∧ Zdd (st.2 52) (st.2 53) (st.2 54) R
theorem ZMpa.fr {A B : Nat → Prop} {w : zMS} (h : ZMpa st R) (f : ZfM A B st w) (hA : ¬ A 51) (hB : ∀ i, 52 ≤ i → i ≤ 54 → ¬ B i) : ZMpa w R := by
  unfold ZMpa at h ⊢
  rw [f.1 51 hA, f.2 52 (hB 52 (by omega) (by omega)), f.2 53 (hB 53 (by omega) (by omega)), f.2 54 (hB 54 (by omega) (by omega))]
  exact h
theorem ZM_path {t : zMS} {D : ZL} (hp : ZMpa t R) (ht : ZMtk t D) (h12 : D.length ≤ 12) (N : Nat) (hN : 1000 ≤ N) : ∃ z, zloop fX5_findsNode_L14 N (t, (0 : Int32)) = some z ∧ ZfT t z ∧ ZMtk z (D ++ R) := by
  obtain ⟨h1, h2, h3⟩ := hp
  have I := Zl_inv (body := fX5_findsNode_L14) (fun i a => ∃ z, a = (z, nI i) ∧ ZfT t z ∧ ZMtk z (D ++ R.take i)) R.length (fun z => ZfT t z ∧ ZMtk z (D ++ R))
    (by
      rintro i a hi ⟨z, rfl, fz, hz⟩
      have e51 : z.1 51 = nI R.length := by rw [fz.1 51 (by omega)]; exact h1
      have e52 : z.2 52 = t.2 52 := fz.2 52 (by omega)
      have e53 : z.2 53 = t.2 53 := fz.2 53 (by omega)
      have e54 : z.2 54 = t.2 54 := fz.2 54 (by omega)
      obtain ⟨e, he⟩ : ∃ e, R[i]? = some e := ⟨_, List.getElem?_eq_getElem hi⟩
      obtain ⟨d1, d2, d3, d4⟩ := h3 i e he
      obtain ⟨w, ew, fw, hw⟩ := ZM_one hz (by rw [List.length_append, List.length_take]; omega) d3
      simp (disch := omega) only [fX5_findsNode_L14, e51, if_neg (nI_ge hi (show R.length < 2 ^ 31 by omega)), ZMA, e52, e53, e54, d1, d2, d4, Option.bind_some, ew, nI_1]
      refine ⟨_, rfl, w, rfl, fz.trans fw, ?_⟩
      rw [List.take_succ, he, ← List.append_assoc]
      exact hw)
    (by
      rintro a ⟨z, rfl, fz, hz⟩
      have e51 : z.1 51 = nI R.length := by rw [fz.1 51 (by omega)]; exact h1
      simp only [fX5_findsNode_L14, e51, if_pos (nI_le (Nat.le_refl _) (show R.length < 2 ^ 31 by omega))]
      exact ⟨_, rfl, fz, by rw [List.take_length] at hz; exact hz⟩)
    N (t, 0) (by omega) ⟨t, rfl, ZfM.rfl, by simpa using ht⟩
  exact I
/-- what a node may change of M -/
abbrev ZfN2 (st st' : zMS) : Prop := ZfM (fun f => f = 28 ∨ f = 32 ∨ f = 37 ∨ f = 38 ∨ f = 39) (fun f => f = 29 ∨ f = 30 ∨ f = 31 ∨ (34 ≤ f ∧ f ≤ 36) ∨ (40 ≤ f ∧ f ≤ 44)) st st'
theorem ZJ_node (hR : ZPD E sh xs st P L) (hp : ZMpa st R) (hl : ZXl xs 54 (L ++ R)) (hLR : ZLv P R) (N : Nat) (hN : 5000 ≤ N) :
    ∃ z w, fX1_look N (ZW E sh xs) (Zl E 1) (Zl E 54) = some (ZW E sh z) ∧ fX5_findsNode N st = some w ∧ Zfr (ZRA P 36) (ZRB P 36) xs z ∧ z.1 1 = xs.1 1 ∧ ZfN2 st w ∧ ZPD E sh z w P L ∧ Znode P z w := by
  have hR0 := hR
  obtain ⟨hP, hr, hb, hX, hM, -, hd, hL, hk, h32⟩ := hR
  obtain ⟨s, hs⟩ : ∃ s : zMS, s = (zus st.1 32 (-1), st.2) := ⟨_, rfl⟩
  have fs : ZfN2 st s := by rw [hs]; exact ZfM.num ZfM.rfl (by omega)
  have hds : ZMdc s L := by
    unfold ZMdc at hd ⊢
    rw [fs.1 24 (by omega), fs.2 25 (by omega), fs.2 26 (by omega), fs.2 27 (by omega)]
    exact hd
  obtain ⟨u, e1, fu, hu⟩ := ZM_takes (s := 4095) hds N (by omega)
  have h12 := hd.2.1
  rw [ZLf_all (fun i hi => Zt_4095 i (by omega)) L.length (Nat.le_refl _), List.take_length] at hu
  have fu' : ZfN2 st u := fs.trans (fu.mono (fun f q => by omega) (fun f q => by omega))
  obtain ⟨t, e2, ft, ht⟩ := ZM_path (hp.fr fu' (by omega) (fun i h1 h2 => by omega)) hu h12 N (by omega)
  have ft' : ZfN2 st t := fu'.trans (ft.mono (fun f q => by omega) (fun f q => by omega))
  have t32 : t.1 32 = -1 := by
    rw [ft.1 32 (by omega), fu.1 32 (by omega), hs]
    simp only [zus_s]
  obtain ⟨z, w, g1, g2, g3, g4, -, g5, g6, g7⟩ := ZJ_look hR0 hb.2.2.2.2.2.1 (by omega) hl (fun e he => (List.mem_append.mp he).elim (hL e) (hLR e)) (ft'.mono (fun f q => by unfold ZMf; omega) (fun f q => by unfold ZMf; omega)) t32 ht N hN
  refine ⟨z, w, g1, ?_, g3, g4, ft'.trans (g5.mono (fun f q => by omega) (fun f q => by omega)), g6, g7⟩
  rw [hs] at e1
  simp only [fX5_findsNode, zps, Option.bind_some, e1, e2, g2]
end LK
