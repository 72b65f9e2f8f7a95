/-! variables told -/
set_option maxRecDepth 100000
/-- a problem with one more variable -/
def ZPv (P : ZP) (k : Nat) (d lo hi : Int32) : ZP := (fun i => if i = 0 then Znv P + 1 else P.1 i, fun i j => if i = 0 ∧ j = Znv P then k else P.2.1 i j, fun i j => if i = 0 ∧ j = Znv P then d else if i = 1 ∧ j = Znv P then lo else if i = 2 ∧ j = Znv P then hi else P.2.2 i j)
section PV
variable {P : ZP} {k : Nat} {d lo hi : Int32}
theorem ZPv_nv : Znv (ZPv P k d lo hi) = Znv P + 1 := by simp [Znv, ZPv]
theorem ZPv_nc : Znc (ZPv P k d lo hi) = Znc P := by simp [Znc, ZPv]
theorem ZPv_o {v : Nat} (h : v < Znv P) : Zagv P (ZPv P k d lo hi) v := by
  have : ¬ v = Znv P := by omega
  simp [Zagv, Zkd, Ztd, Zfm, Zto, ZPv, this]
theorem ZPv_n : Zkd (ZPv P k d lo hi) (Znv P) = k ∧ Ztd (ZPv P k d lo hi) (Znv P) = d ∧ Zfm (ZPv P k d lo hi) (Znv P) = lo ∧ Zto (ZPv P k d lo hi) (Znv P) = hi := by
  simp [Zkd, Ztd, Zfm, Zto, ZPv]
theorem ZPv_c (c : Nat) : Zagc P (ZPv P k d lo hi) c := by
  refine ⟨?_, ?_, ?_, ?_, fun p => ?_, fun i => ?_, fun p => ?_, ?_, fun p => ?_, fun p => ?_, fun t => ?_⟩
  · simp [Zso, ZPv]
  · simp [Zmn, ZPv]
  · simp [Zrm, ZPv]
  · simp [Ztr, ZPv]
  · simp [Zpl, ZPv]
  · simp [Zmv, ZPv]
  · simp [Zcv, ZPv]
  · simp [Zli, ZPv]
  · simp only [Zfa, ZPv]
    rw [if_neg (by omega), if_neg (by omega), if_neg (by omega)]
  · simp only [Zhs, ZPv]
    rw [if_neg (by omega), if_neg (by omega), if_neg (by omega)]
  · simp [Zsy, ZPv]
/-- what a new variable may be -/
def Zvok (k : Nat) (d lo hi : Int32) : Prop := k ≤ 3 ∧ (k ≤ 2 → ∀ j, Zt d j = true → j < Zvs k) ∧ (k = 3 → -120 ≤ lo.toInt ∧ lo.toInt ≤ hi.toInt ∧ hi.toInt ≤ 120)
theorem ZPv_ok (hP : ZPok P) (hn : Znv P < 10) (h : Zvok k d lo hi) : ZPok (ZPv P k d lo hi) := by
  obtain ⟨h1, h2, h3, h4, h5, h6⟩ := hP
  obtain ⟨a1, a2, a3⟩ := h
  obtain ⟨n1, n2, n3, n4⟩ := ZPv_n (P := P) (k := k) (d := d) (lo := lo) (hi := hi)
  have key : ∀ v, v < Znv P + 1 → (v < Znv P ∧ Zagv P (ZPv P k d lo hi) v) ∨ v = Znv P := fun v hv => by
    rcases Nat.lt_or_ge v (Znv P) with q | q
    · exact Or.inl ⟨q, ZPv_o q⟩
    · exact Or.inr (by omega)
  unfold ZPok
  rw [ZPv_nv, ZPv_nc]
  refine ⟨by omega, h2, fun v hv => ?_, fun v hv => ?_, fun v hv => ?_, fun c hc => (h6 c hc).agr (ZPv_c c) (by rw [ZPv_nv]; omega) fun v hv => (ZPv_o hv).1⟩
  · rcases key v hv with ⟨q, e, -⟩ | rfl
    · rw [e]; exact h3 v q
    · rw [n1]; exact a1
  · rcases key v hv with ⟨q, e, e2, -⟩ | rfl
    · rw [e, e2]; exact h4 v q
    · rw [n1, n2]; exact a2
  · rcases key v hv with ⟨q, e, e2, e3, e4⟩ | rfl
    · rw [e, e3, e4]; exact h5 v q
    · rw [n1, n3, n4]
      intro g
      obtain ⟨b1, b2, b3⟩ := a3 g
      exact ⟨b1, b3⟩
end PV
section VR
variable {E E' : Ze} {sh sh' : Nat → Option Zsh} {xs xs' : Zxs} {P P' : ZP} {L : ZL} {st st' : zMS} {g : Nat} {n : Nat → Nat} {tg : Nat → Nat → Nat}
theorem ZB.pr (h : ZB E sh xs P g n tg) (h1 : Znv P ≤ Znv P') (h2 : Znc P = Znc P') (h3 : ∀ c, Zso P' c = Zso P c) : ZB E sh xs P' g n tg := by
  obtain ⟨a, b, c, d, e, f⟩ := h
  refine ⟨a, fun t ht => (b t ht).up h1 (Nat.le_of_eq h2) (Nat.le_refl _), c, d, fun q hq hs => ?_, f⟩
  rw [h3] at hs
  exact e q (by omega) hs
theorem ZB.k10 (h : ZB E sh xs P g n tg) (v : Int32) : ZB E sh (zua xs.1 1 10 v, xs.2) P g n tg := by
  obtain ⟨a, b, ⟨c1, c2, c3, c4⟩, d, e, f⟩ := h
  refine ⟨a, b, ⟨c1, c2, fun i hi => ?_, c4⟩, fun i hi => ?_, e, f⟩
  · simp only [zua_n (show 60000 + i ≠ 1 by omega)]
    exact c3 i hi
  · obtain ⟨d1, d2, d3⟩ := d i hi
    have : Ztj sh i ≠ 1 := fun q => by
      have := d1.t
      rw [q, f] at this
      cases this
    refine ⟨d1.keep rfl rfl (by simp only [zua_n this]) (fun _ _ => rfl), d2, d3⟩
theorem Zext.k10 {v : Int32} : Zext sh sh xs (zua xs.1 1 10 v, xs.2) := fun u s h h1 _ => ⟨h, by simp only [zua_n h1], Eq.refl _⟩
theorem ZJ_addv (hR : ZPD E sh xs st P L) (hS : ZSr P xs st) (hB : ZB E sh xs P g n tg) (hro : ZRo sh xs st P n tg) (hnv : Znv P < 10) {k : Nat} {d lo hi dm : Int32} (hv : Zvok k d lo hi) (hdm : k ≤ 2 → dm = d) {x1 : Zxs} (hx1 : x1 = (zua (zua (zua (zua (Zs2 xs.1 (100 + Znv P) fun _ => 0) (100 + Znv P) 0 (nI k)) (100 + Znv P) 1 d) (100 + Znv P) 2 lo) (100 + Znv P) 3 hi, xs.2)) :
    ∃ sh' xs' sz' st', fX1_add (ZW E (Zadd sh (100 + Znv P) Zo5) x1) (Zl E (1000000 + 100 * g + (2 * 0 + 3))) (Zl E 1) (Zl E (100 + Znv P)) = some (.inr (ZW E sh' xs', sz', nI (Znv P))) ∧ fX5_addsVariable st (nI k) dm lo hi = some (st', nI (Znv P)) ∧ ZA E sh' xs' st' (ZPv P k d lo hi) L (g + 1) ∧ Zexo E E sh sh' xs xs' ∧ ZfTl st st' ∧ st'.1 68 = st.1 68 := by
  obtain ⟨hP, hr, hb, hX, hM, hld, hdc, hL, hk, h32⟩ := hR
  obtain ⟨T, hT⟩ : ∃ T, T = 100 + Znv P := ⟨_, rfl⟩
  rw [← hT] at hx1 ⊢
  have hTn : sh T = none := by
    cases e : sh T with
    | none => rfl
    | some s =>
      have := hB.2.1 T (by rw [e]; exact fun h => by cases h)
      unfold Zdt at this
      omega
  have hB1 : ZB E sh xs (ZPv P k d lo hi) g n tg := hB.pr (by rw [ZPv_nv]; omega) ZPv_nc.symm fun c => (ZPv_c c).1
  have xo : ∀ t, t ≠ T → x1.1 t = xs.1 t ∧ x1.2 t = xs.2 t := fun t ht => by
    rw [hx1]
    exact ⟨by simp only [zua_n ht, Zs2_o ht], rfl⟩
  have y0 : x1.1 T 0 = nI k := by subst hx1; simp only [zua_sn (show 0 ≠ 3 by decide), zua_sn (show 0 ≠ 2 by decide), zua_sn (show 0 ≠ 1 by decide), zua_ss]
  have y1 : x1.1 T 1 = d := by subst hx1; simp only [zua_sn (show 1 ≠ 3 by decide), zua_sn (show 1 ≠ 2 by decide), zua_ss]
  have y2 : x1.1 T 2 = lo := by subst hx1; simp only [zua_sn (show 2 ≠ 3 by decide), zua_ss]
  have y3 : x1.1 T 3 = hi := by subst hx1; simp only [zua_ss]
  obtain ⟨hB2, hxe2, ho2, m2, x11, hcs2, tj2⟩ := ZB_new (s := Zo5) (xs' := x1) hB1 hTn (g' := g) (by unfold Zdt; rw [ZPv_nv]; omega) (Nat.le_refl _) (Zrefs_none (m := 4)) xo
  have hel : Zel (Zadd sh T Zo5) T := ⟨5, _, Zadd_n, by decide⟩
  have n0 : n 0 = Znv P := hro.1.1
  obtain ⟨sh', xs', sz', e1, e2, hB3, hej, hxe3, m3, x13, hcs3⟩ := ZB_add (E := E) hB2 (by rw [ZPv_nc]; exact hP.2.1) (by rw [ZPv_nv]; omega) (j := 0) (by decide) hel (by omega)
  have t0 : ∀ s, Ztj s 0 = 2 := fun _ => rfl
  rw [t0] at e1
  obtain ⟨x4, hx4⟩ : ∃ x4 : Zxs, x4 = (zua xs'.1 1 10 0, xs'.2) := ⟨_, rfl⟩
  have hB4 := hB3.k10 0
  rw [← hx4] at hB4
  have hm' := hB4.2.2.2.2.2
  have hxk : Zext sh' sh' xs' x4 := by rw [hx4]; exact Zext.k10
  have hxe : Zext sh sh' xs x4 := (hxe2.trans hxe3).trans hxk
  have lv2 := (hB.2.2.2.1 0 (by decide)).1
  rw [t0] at lv2
  have l4' := (hB4.2.2.2.1 1 (by decide)).1.li
  have l2' := (hB4.2.2.2.1 0 (by decide)).1.li
  simp only [if_neg (show ¬ 1 = 0 by decide), show (1 = 0) = False from eq_false (by decide), false_and, if_false] at l4'
  simp only [if_true, true_and, n0] at l2'
  have q5 : sh' T = some Zo5 ∧ x4.1 T = x1.1 T := by
    obtain ⟨a, b⟩ := (hxe3.trans hxk).ob (show Zadd sh T Zo5 T = some (Zob 5 [none, none, none, none]) from Zadd_n) (by omega) (by decide)
    exact ⟨a, b⟩
  have x410 : x4.1 1 10 = 0 := by rw [hx4]; simp only [zua_ss]
  have x41 : ∀ f, f ≠ 10 → x4.1 1 f = xs.1 1 f := fun f hf => by
    rw [hx4]
    simp only [zua_sn hf, x13, x11]
  have hcsA : ∀ c, c < Znc P → Zso P c = 3 ∨ Zso P c = 5 → Zcls3 sh sh' xs x4 c := fun c hc hs => by
    have hs' : Zso (ZPv P k d lo hi) c = 3 ∨ Zso (ZPv P k d lo hi) c = 5 := by rw [(ZPv_c c).1]; exact hs
    obtain ⟨a1, a2, a3⟩ := hcs2 c (by rw [ZPv_nc]; exact hc) hs'
    obtain ⟨b1, b2, b3⟩ := hcs3 c (by rw [ZPv_nc]; exact hc) hs'
    have e0 : Zadd sh T Zo5 (1000 * (c + 1)) = sh (1000 * (c + 1)) := Zadd_o (by omega)
    have et : ZtL (Zadd sh T Zo5) c = ZtL sh c := by unfold ZtL; rw [Zfld_c e0]
    have et2 : Zfld (Zadd sh T Zo5) (ZtL (Zadd sh T Zo5) c) 1 = Zfld sh (ZtL sh c) 1 := by rw [et, Zfld_c a1]
    rw [et2] at b2
    rw [et] at b1 b3
    refine ⟨b1.trans a1, b2.trans a2, ?_⟩
    have : ZtL sh c ≠ 1 := by
      have := (hB.2.2.2.2.1 c hc hs).1.1
      omega
    rw [hx4]
    simp only [zua_n this]
    exact b3.trans a3
  have hbase : Zbase E sh' := hb.ext hxe hm' rfl (fun _ _ => rfl)
  obtain ⟨pn1, pn2, pn3, pn4⟩ := ZPv_n (P := P) (k := k) (d := d) (lo := lo) (hi := hi)
  have hXP : ZXP sh' x4 (ZPv P k d lo hi) := by
    refine ⟨⟨hm', ⟨Zej sh' 0, ?_⟩, fun v hv' => ?_⟩, ⟨Zej sh' 1, ?_⟩, ?_, fun c hc => ?_⟩
    · rw [ZPv_nv]
      refine (show ZLi sh' x4 2 (Zej sh' 0) (Znv P + 1) _ from l2').cut fun i hi => ?_
      by_cases q : i = Znv P
      · rw [if_pos q, hT, q]
      · rw [if_neg q, hro.1.2 i (by omega)]
    · rw [ZPv_nv] at hv'
      by_cases q : v = Znv P
      · subst q
        rw [← hT, q5.2, pn1, pn2, pn3, pn4]
        exact ⟨q5.1, y0, fun _ => y1, fun _ => ⟨y2, y3⟩⟩
      · obtain ⟨o1, o2, o3, o4⟩ := ZPv_o (P := P) (k := k) (d := d) (lo := lo) (hi := hi) (show v < Znv P by omega)
        rw [o1, o2, o3, o4]
        obtain ⟨a, b⟩ := hX.1.2.2 v (by omega)
        obtain ⟨a1, a2⟩ := hxe.ob a (by omega) (by decide)
        rw [a2]
        exact ⟨a1, b⟩
    · rw [ZPv_nc, ← hro.2.1.1]
      exact (show ZLi sh' x4 4 (Zej sh' 1) (n 1) _ from l4').cut fun i hi => (hro.2.1.2 i (by rw [← hro.2.1.1]; exact hi)).symm
    · rw [(hxe.ia hb.2.1.2 (by decide)).2]
      exact hX.2.2.1
    · rw [ZPv_nc] at hc
      refine ((hX.2.2.2 c hc).ext hxe (hcsA c hc)).agr (ZPv_c c) fun p hp => ?_
      exact (ZPv_o ((hP.2.2.2.2.2 c hc).2.2.1 p hp)).1
  -- M
  obtain ⟨w, hw⟩ : ∃ w : zMS, w = (zus st.1 0 (nI (Znv P + 1)), zua (zua (zua (zua (zua st.2 1 (Znv P) (nI k)) 2 (Znv P) dm) 3 (Znv P) lo) 4 (Znv P) hi) 45 (Znv P) 0) := ⟨_, rfl⟩
  have fw : ZfM (fun f => f = 0) (fun f => (1 ≤ f ∧ f ≤ 4) ∨ f = 45) st w := by
    rw [hw]
    exact ZfM.num (ZfM.arr (ZfM.arr (ZfM.arr (ZfM.arr (ZfM.arr ZfM.rfl (by omega)) (by omega)) (by omega)) (by omega)) (by omega)) rfl
  have w1 : ∀ v, w.2 1 v = if v = Znv P then nI k else st.2 1 v := fun v => by
    subst hw
    simp only [zua_n (show 1 ≠ 45 by decide), zua_n (show 1 ≠ 4 by decide), zua_n (show 1 ≠ 3 by decide), zua_n (show 1 ≠ 2 by decide), zua_s]
  have w2 : ∀ v, w.2 2 v = if v = Znv P then dm else st.2 2 v := fun v => by
    subst hw
    simp only [zua_n (show 2 ≠ 45 by decide), zua_n (show 2 ≠ 4 by decide), zua_n (show 2 ≠ 3 by decide), zua_n (show 2 ≠ 1 by decide), zua_s]
  have w3 : ∀ v, w.2 3 v = if v = Znv P then lo else st.2 3 v := fun v => by
    subst hw
    simp only [zua_n (show 3 ≠ 45 by decide), zua_n (show 3 ≠ 4 by decide), zua_n (show 3 ≠ 2 by decide), zua_n (show 3 ≠ 1 by decide), zua_s]
  have w4 : ∀ v, w.2 4 v = if v = Znv P then hi else st.2 4 v := fun v => by
    subst hw
    simp only [zua_n (show 4 ≠ 45 by decide), zua_n (show 4 ≠ 3 by decide), zua_n (show 4 ≠ 2 by decide), zua_n (show 4 ≠ 1 by decide), zua_s]
  have w45 : ∀ v, w.2 45 v = if v = Znv P then 0 else st.2 45 v := fun v => by
    subst hw
    simp only [zua_n (show 45 ≠ 1 by decide), zua_n (show 45 ≠ 4 by decide), zua_n (show 45 ≠ 3 by decide), zua_n (show 45 ≠ 2 by decide), zua_s]
  have w0 : w.1 0 = nI (Znv P + 1) := by subst hw; simp only [zus_s]
  have hMP : ZMP w (ZPv P k d lo hi) := by
    refine ⟨by rw [w0, ZPv_nv], by rw [fw.1 15 (by decide), ZPv_nc]; exact hM.2.1, fun v hv' => ?_, fun c hc => ?_⟩
    · rw [ZPv_nv] at hv'
      rw [w1, w2, w3, w4]
      by_cases q : v = Znv P
      · subst q
        simp only [if_true, pn1, pn2, pn3, pn4]
        exact ⟨trivial, hdm, fun _ => ⟨trivial, trivial⟩⟩
      · obtain ⟨o1, o2, o3, o4⟩ := ZPv_o (P := P) (k := k) (d := d) (lo := lo) (hi := hi) (show v < Znv P by omega)
        rw [o1, o2, o3, o4, if_neg q, if_neg q, if_neg q, if_neg q]
        exact hM.2.2.1 v (by omega)
    · rw [ZPv_nc] at hc
      have : ZMc w P c := by
        unfold ZMc
        rw [fw.2 16 (by omega), fw.2 17 (by omega), fw.2 18 (by omega), fw.2 19 (by omega), fw.2 20 (by omega), fw.2 21 (by omega), fw.2 22 (by omega), fw.2 23 (by omega), fw.2 65 (by omega), fw.2 66 (by omega)]
        exact hM.2.2.2 c hc
      exact this.agr (ZPv_c c)
  have hLv : ZLv (ZPv P k d lo hi) L := fun e he => by
    obtain ⟨a, b, c⟩ := hL e he
    exact ⟨by rw [ZPv_nv]; omega, by rw [(ZPv_o a).1]; exact b, c⟩
  refine ⟨sh', x4, sz', w, ?_, ?_, ⟨_, _, ⟨ZPv_ok hP hnv hv, fun v hv' h3 => ?_, hbase, hXP, hMP, hld.ext hb.2.2.2.2.1 hxe (by decide), ?_, hLv, Or.inl x410, by rw [fw.1 32 (by decide)]; exact h32⟩, ⟨?_, ?_, fun v hv' => ?_, ?_⟩, hB4, ?_⟩, ?_, fw.mono (fun f q => by omega) (fun f q => by omega), fw.1 68 (by decide)⟩
  · obtain ⟨a1, ⟨e, a2⟩, a3⟩ := hX.1
    have k0 : Zadd sh T Zo5 1 = some (Zmain (Zadd sh T Zo5)) := hB2.2.2.2.2.2
    have k1 : sh' 1 = some (Zmain sh') := hm'
    have s2 := Zsz hB2 (show 0 < 6 by decide) x1 rfl
    have s2' := Zsz hB3 (show 0 < 6 by decide) (zua xs'.1 1 10 0, xs'.2) (by rw [t0]; simp only [zua_n (show 2 ≠ 1 by decide)])
    rw [t0, n0] at s2
    rw [t0] at s2'
    simp only [if_true, n0] at s2'
    have o2 := (hB2.2.2.2.1 0 (by decide)).1.t
    rw [t0] at o2
    have o2' := (hB3.2.2.2.1 0 (by decide)).1.t
    rw [t0] at o2'
    simp only [fX1_add, Zb0 k0, Option.bind_some, Zb18 o2, s2, if_neg (show ¬ (10 : Int32) ≤ nI (Znv P) from nI_ge (b := 10) hnv (by decide)), fX1_checkState, Zne10, if_false, Zthr_r, e1, Zb0 k1, true_or, if_true, Zb18 o2', s2', nI_pred, hx4]
  · simp (disch := omega) only [fX5_addsVariable, hM.1, ZMA, Option.bind_some, zps, zus_s, nI_1, nI_pred, hw]
  · rw [ZPv_nv] at hv'
    by_cases q : v = Znv P
    · subst q
      rw [pn3, pn4]
      rw [pn1] at h3
      exact (hv.2.2 h3).2.1
    · obtain ⟨o1, o2, o3, o4⟩ := ZPv_o (P := P) (k := k) (d := d) (lo := lo) (hi := hi) (show v < Znv P by omega)
      rw [o3, o4]
      rw [o1] at h3
      exact hr v (by omega) h3
  · unfold ZMdc at hdc ⊢
    rw [fw.1 24 (by decide), fw.2 25 (by omega), fw.2 26 (by omega), fw.2 27 (by omega)]
    exact hdc
  · rw [x41 25 (by decide), fw.1 46 (by decide)]
    exact hS.1
  · rw [x41 26 (by decide), fw.1 47 (by decide)]
    exact hS.2.1
  · obtain ⟨p1, p2, p3⟩ := hS.2.2.1 v hv'
    rw [(hxe.ia hb.2.2.2.2.2.2.2.2.2.2.1 (by decide)).2, w45, ZPv_nv]
    refine ⟨p1, fun g => ?_, fun g => p3 (by omega)⟩
    by_cases q : v = Znv P
    · rw [if_pos q, p3 (by omega)]
      decide
    · rw [if_neg q]
      exact p2 (by omega)
  · have h4 := hS.2.2.2
    unfold Zfnd at h4 ⊢
    rw [x41 24 (by decide), fw.1 48 (by decide), fw.1 49 (by decide), (hxe.ia hb.2.2.2.2.2.2.2.2.2.2.2 (by decide)).2, fw.2 50 (by omega), ZPv_nv]
    refine h4.imp id fun ⟨m, a, b, c⟩ => ⟨m, a, by omega, c⟩
  · have hro2 := hro.mono hxe (ZfM.rfl (st := st))
    obtain ⟨⟨q0, q0'⟩, ⟨q1, q1'⟩, ⟨q2, q2', q2''⟩, q3, q4, q5a, q5b, q5c⟩ := hro2
    unfold ZRo
    rw [fw.1 5 (by decide), fw.1 7 (by decide), fw.1 9 (by decide), fw.1 11 (by decide), fw.2 6 (by omega), fw.2 8 (by omega), fw.2 10 (by omega), fw.2 12 (by omega), fw.2 13 (by omega), fw.2 14 (by omega), ZPv_nv, ZPv_nc]
    simp only [if_true, true_and, if_neg (show ¬ 2 = 0 by decide), if_neg (show ¬ 1 = 0 by decide), if_neg (show ¬ 3 = 0 by decide), if_neg (show ¬ 4 = 0 by decide), if_neg (show ¬ 5 = 0 by decide), show (1 = 0) = False from eq_false (by decide), show (2 = 0) = False from eq_false (by decide), show (3 = 0) = False from eq_false (by decide), show (4 = 0) = False from eq_false (by decide), show (5 = 0) = False from eq_false (by decide), false_and, if_false]
    refine ⟨⟨by omega, fun i hi => ?_⟩, ⟨q1, q1'⟩, ⟨q2, q2', fun i hi => ?_⟩, q3, q4, q5a, q5b, fun i hi => ?_⟩
    · by_cases q : i = n 0
      · rw [if_pos q, hT, q, n0]
      · rw [if_neg q]
        exact q0' i (by omega)
    · obtain ⟨v, a, b⟩ := q2'' i hi
      exact ⟨v, by omega, b⟩
    · obtain ⟨a, b, v, kk, bb, c1, c2, c3⟩ := q5c i hi
      exact ⟨a, b, v, kk, bb, by omega, by rw [(ZPv_o c1).1]; exact c2, c3⟩
  · refine ⟨fun u s h1 h2 h3 h4 h5 => ?_, x41, rfl, fun _ _ => rfl⟩
    obtain ⟨a1, a2, a3⟩ := ho2.1 u s h1 h2 h3 h4 h5
    obtain ⟨-, c2, -⟩ := hB2.2.2.2.1 0 (by decide)
    obtain ⟨b1, b2, b3⟩ := hej u s a1 (by rw [t0]; exact h4) (by
      rcases c2 with c2 | c2
      · exact Or.inr c2
      · exact Or.inl (by omega))
    refine ⟨b1, ?_, ?_⟩
    · rw [hx4]
      simp only [zua_n h3]
      exact b2.trans a2
    · rw [hx4]
      exact b3.trans a3
end VR
