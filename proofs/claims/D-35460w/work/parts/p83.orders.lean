/-! order and different told: the calls -/
set_option maxRecDepth 100000
section OC
variable {E E' : Ze} {sh sh' : Nat → Option Zsh} {xs xs' : Zxs} {P P' : ZP} {L : ZL} {st w : zMS} {g : Nat} {n : Nat → Nat} {tg : Nat → Nat → Nat}
theorem ZB.free (h : ZB E sh xs P g n tg) {t : Nat} (ht : ¬ Zdt P g t) : sh t = none := by
  cases e : sh t with
  | none => rfl
  | some s => exact absurd (h.2.1 t (by rw [e]; exact fun h => by cases h)) ht
/-- the place of a new constraint's object -/
def Zc0 (P : ZP) (g : Nat) : Nat := if Znc P < 24 then 1000 * (Znc P + 1) else 1000000 + 100 * (g + 1) + 50
theorem Zc0_c (P : ZP) (g : Nat) : (Zc0 P g = 1000 * (Znc P + 1) ∧ Znc P < 24) ∨ (Zc0 P g = 1000000 + 100 * (g + 1) + 50 ∧ ¬ Znc P < 24) := by
  unfold Zc0
  by_cases h : Znc P < 24
  · exact Or.inl ⟨if_pos h, h⟩
  · exact Or.inr ⟨if_neg h, h⟩
/-- names of the row -/
theorem ZRo.nm (h : ZRo sh xs st P n tg) : ∀ i, i < n 2 → tg 2 i - 60128 < Znv P ∧ tg 2 i = 60000 + (128 + (tg 2 i - 60128)) ∧ st.2 6 i = nI (tg 2 i - 60128) := fun i hi => by
  obtain ⟨-, -, ⟨-, -, h2⟩, -⟩ := h
  obtain ⟨v, a, b, c⟩ := h2 i hi
  have : tg 2 i - 60128 = v := by omega
  rw [this]
  exact ⟨a, b, c⟩
/-- the problem with one more row constraint -/
def ZPr (P : ZP) (so m : Nat) (nm : Nat → Nat) : ZP := ZPc P so m 0 0 nm (fun _ => 0) (fun _ => 0) 0 (fun _ => 0) (fun _ => 0)
/-- a row constraint in X: what object and arrays must be -/
theorem ZX_rowcon {so m : Nat} {nm : Nat → Nat} (h24 : Znc P < 24) (hso : so = 1 ∨ so = 2 ∨ so = 4) {ci : Nat} {fs : List (Option Nat)} (h1 : sh (1000 * (Znc P + 1)) = some (Zob ci (some (1000 * (Znc P + 1) + 1) :: some (1000 * (Znc P + 1) + 2) :: some (1000 * (Znc P + 1) + 3) :: some (1000 * (Znc P + 1) + 4) :: fs))) (hci : zcs.contains ci = true) (h2 : ∀ i, 1 ≤ i → i ≤ 4 → sh (1000 * (Znc P + 1) + i) = some (Zia 0 m)) (h3 : ∀ p, p < m → xs.2 (1000 * (Znc P + 1) + 1) p = nI (nm p)) (k1 : so = 1 → sh (1000 * (Znc P + 1)) = some (Zo9 (1000 * (Znc P + 1) + 1) (1000 * (Znc P + 1) + 2) (1000 * (Znc P + 1) + 3) (1000 * (Znc P + 1) + 4) (1000 * (Znc P + 1) + 8)) ∧ sh (1000 * (Znc P + 1) + 8) = some (Zia 0 32)) (k2 : so = 2 → sh (1000 * (Znc P + 1)) = some (Zo10 (1000 * (Znc P + 1) + 1) (1000 * (Znc P + 1) + 2) (1000 * (Znc P + 1) + 3) (1000 * (Znc P + 1) + 4))) (k4 : so = 4 → sh (1000 * (Znc P + 1)) = some (Zo12 (1000 * (Znc P + 1) + 1) (1000 * (Znc P + 1) + 2) (1000 * (Znc P + 1) + 3) (1000 * (Znc P + 1) + 4))) : ZXcon sh xs (ZPr P so m nm) (Znc P) := by
  obtain ⟨p1, p2, p3, p4, p5, p6, p7, p8, p9, p10⟩ := ZPc_new (P := P) h24 (so := so) (mn := m) (rm := 0) (tr := 0) (pl := nm) (mv := fun _ => 0) (cv := fun _ => 0) (li := 0) (fa := fun _ => 0) (hs := fun _ => 0)
  unfold ZPr ZXcon
  rw [p1]
  have hpm : ∀ p, Zpm (ZPc P so m 0 0 nm (fun _ => 0) (fun _ => 0) 0 (fun _ => 0) (fun _ => 0)) (Znc P) p = p := fun p => by
    unfold Zpm
    rw [p1, if_neg (by omega)]
  refine ⟨⟨ci, fs, h1, hci, ?_, ?_, ?_, ?_, fun p hp => ?_⟩, fun h => by omega, k1, k2, fun h => by omega, k4, fun h => by omega, fun h => by omega, fun h => by omega⟩
  · rw [p2]; exact h2 1 (by decide) (by decide)
  · rw [p2]; exact h2 2 (by decide) (by decide)
  · rw [p2]; exact h2 3 (by decide) (by decide)
  · rw [p2]; exact h2 4 (by decide) (by decide)
  · rw [hpm, p5]
    rw [p2] at hp
    exact h3 p hp
theorem ZPr_ok (hP : ZPok P) {so m : Nat} {nm : Nat → Nat} (h24 : Znc P < 24) (hso : so = 1 ∨ so = 2) (hm : 1 ≤ m ∧ m ≤ 6) (hn : ∀ i, i < m → nm i < Znv P ∧ Zkd P (nm i) = 0) : ZCok (ZPr P so m nm) (Znc P) := by
  obtain ⟨p1, p2, p3, p4, p5, p6, p7, p8, p9, p10⟩ := ZPc_new (P := P) h24 (so := so) (mn := m) (rm := 0) (tr := 0) (pl := nm) (mv := fun _ => 0) (cv := fun _ => 0) (li := 0) (fa := fun _ => 0) (hs := fun _ => 0)
  obtain ⟨m1, m2, m3, m4, m5⟩ := ZPc_mor (P := P) h24 (so := so) (mn := m) (rm := 0) (tr := 0) (pl := nm) (mv := fun _ => 0) (cv := fun _ => 0) (li := 0) (fa := fun _ => 0) (hs := fun _ => 0)
  unfold ZPr ZCok
  rw [p1, p2, m1]
  refine ⟨hm.1, by omega, fun p hp => by rw [p5]; exact (hn p hp).1, by omega, fun h => by omega, fun _ => hm.2, fun h => by omega, fun h => by omega, fun _ _ p hp => by rw [p5, (m3 _).1]; exact (hn p hp).2, fun h => by omega, fun h => by omega, fun h => by omega⟩
theorem ZC_order (hA : ZA E sh xs st P L g) {sz : Nat} (hf : ∀ a, sz ≤ a → (ZW E sh xs).2 a = none) (N : Nat) (hN : 5000 ≤ N) : ZTell E sh xs st P [2] (fX1_order N (ZW E sh xs) sz (Zl E 1)) (fX5_order N st) := by
  obtain ⟨n, tg, hR, hS, hB, hro⟩ := hA
  have hP := hR.1
  have hn := hP.1
  have h24 := hP.2.1
  have hM := hR.2.2.2.2.1
  have hnm := hro.nm
  have hc0 := Zc0_c P g
  obtain ⟨c0, hc0e⟩ : ∃ c, c = Zc0 P g := ⟨_, rfl⟩
  rw [← hc0e] at hc0
  obtain ⟨T0, hT0⟩ : ∃ T, T = 1000000 + 100 * g + (2 * 2 + 2) := ⟨_, rfl⟩
  obtain ⟨E1, w1, hR1, hB1, ho1, hl1⟩ := ZLay hR hB hro hf (fun i => if i = 0 then T0 else if i ≤ 5 then c0 + (i - 1) else 1000000 + 100 * (g + 2) + (2 * 1 + 3)) 7 (fun i j hi hj q => by
    split at q <;> split at q <;> (try split at q) <;> (try split at q) <;> omega) (fun i hi => by
    refine hB.free ?_
    unfold Zdt
    split
    · omega
    · split <;> omega)
  have s0 : Zl E1 T0 = sz := hl1 0 (by decide)
  have s1 : Zl E1 c0 = sz + 1 := hl1 1 (by decide)
  have s2 : Zl E1 (c0 + 1) = sz + 2 := hl1 2 (by decide)
  have s3 : Zl E1 (c0 + 2) = sz + 3 := hl1 3 (by decide)
  have s4 : Zl E1 (c0 + 3) = sz + 4 := hl1 4 (by decide)
  have s5 : Zl E1 (c0 + 4) = sz + 5 := hl1 5 (by decide)
  have s6 : Zl E1 (1000000 + 100 * (g + 2) + (2 * 1 + 3)) = sz + 6 := hl1 6 (by decide)
  have l1 : Zl E1 1 = Zl E 1 := ho1.2.2.2 1 (by rw [hB.2.2.2.2.2]; exact fun h => by cases h)
  rw [w1, ← l1]
  -- the row is taken
  obtain ⟨x, e1, e2, hR2, hS2, hB2, hlo, hxe2, ho2, keep2, tj2, hTn⟩ := ZJ_takej (E := E1) hR1 hS hB1 hro.1 hro.2.1 (j := 2) (by decide) (by decide) hT0
  obtain ⟨sh2, hsh2⟩ : ∃ s, s = Zshj sh 2 T0 := ⟨_, rfl⟩
  rw [← hsh2] at e2 hR2 hB2 hlo hxe2 ho2 keep2 tj2
  have ht2 : Ztj sh 2 = Zfld sh 1 2 := rfl
  rw [ht2] at hlo
  rw [s0] at e1 e2
  have etk : fX1_takeNames (ZW E1 sh xs) sz (Zl E1 1) = some (ZW E1 sh2 x, sz + 1, Zl E1 (Zfld sh 1 2)) := by
    have k0 : sh 1 = some (Zmain sh) := hB.2.2.2.2.2
    simp only [fX1_takeNames, Zb0 k0, Option.bind_some, e1, e2]
  have n26 := hro.2.2.1.1
  obtain ⟨b, eb, b01, hb⟩ := ZX_ints (E := E1) hP hR2.2.2.2.1.1 hB2.2.2.1 hlo.li (by omega) (fun i hi => ⟨(hnm i hi).1, (hnm i hi).2.1⟩) N (by omega)
  have hbase2 := hR2.2.2.1
  obtain ⟨mbad, mgood⟩ := ZM_rowOf (so := 2) hP hM hro.2.2.1.2.1 n26 (nm := fun i => tg 2 i - 60128) (fun i hi => ⟨(hnm i hi).1, (hnm i hi).2.2⟩) N (by omega)
  have e2so : (nI 2 : Int32) = 2 := rfl
  rw [e2so] at mbad mgood
  -- what both know when nothing is added
  obtain ⟨st', hst'⟩ : ∃ s : zMS, s = (zus (zus st.1 68 1) 5 0, st.2) := ⟨_, rfl⟩
  have fst' : ZfM (fun f => f = 5 ∨ f = 68) (fun _ => False) st st' := by rw [hst']; exact ZfM.num (ZfM.num ZfM.rfl (by omega)) (by omega)
  have st'5 : st'.1 5 = 0 := by subst hst'; simp only [zus_s]
  have st'68 : st'.1 68 = nI (0 + 1) := by
    subst hst'
    simp only [zus_n (show 68 ≠ 5 by decide), zus_s]
    rfl
  have hAx : ∀ sh3 x3 g3, ZPD E1 sh3 x3 st P L → ZSr P x3 st → ZB E1 sh3 x3 P g3 (fun i => if i = 2 then 0 else n i) tg → Zext sh sh3 xs x3 → ZA E1 sh3 x3 st' P L g3 := fun sh3 x3 g3 a1 a2 a3 a4 => by
    refine ⟨_, _, a1.gen Zfr.rfl (fst'.mono (fun f q => by unfold ZMf; omega) (fun f q => absurd q (fun q => q))) (by rw [fst'.1 32 (by omega)]; exact a1.2.2.2.2.2.2.2.2.2), a2.m (fst'.mono (fun f q => by omega) (fun f q => absurd q (fun q => q))), a3, ?_⟩
    exact hro.took a4 ⟨rfl, fun _ => ⟨rfl, rfl, rfl, rfl⟩⟩ ⟨hro.1.1, hro.1.2⟩ ⟨hro.2.1.1, hro.2.1.2⟩ rfl (fun i hi => ⟨if_neg (by omega), rfl⟩) st'5 (fun i hi => fst'.1 i (by omega)) fun i hi => fst'.2 i (fun q => q)
  have ftl : ZfTl st st' := fst'.mono (fun f q => by omega) (fun f q => absurd q (fun q => q))
  by_cases hgood : 0 < n 2 ∧ ∀ i, i < n 2 → Zkd P (tg 2 i - 60128) = 0
  · have hb1 := hb.mpr hgood
    subst hb1
    -- the object
    have free2 : ∀ i, i ≤ 4 → sh2 (c0 + i) = none := fun i hi => by
      rw [keep2 _ (by omega) (by omega)]
      refine hB.free ?_
      unfold Zdt
      omega
    have f0 : sh2 c0 = none := free2 0 (by decide)
    obtain ⟨x4, es, x41, x42, x43⟩ := ZX_super (E := E1) (xs := x) (To := c0) (T1 := c0 + 1) (T2 := c0 + 2) (T3 := c0 + 3) (T4 := c0 + 4) (ci := 10) (sz := sz + 2) (fs := zfd10) (val := fun i => nI (tg 2 i - 60128)) f0 (by omega) ⟨free2 1 (by decide), free2 2 (by decide), free2 3 (by decide), free2 4 (by decide)⟩ (by decide) (by decide) hlo.li (by omega) (fun i hi => by
      obtain ⟨q1, q2, -⟩ := hnm i hi
      obtain ⟨g1, g2⟩ := hB2.2.2.1.2.2.1 (128 + (tg 2 i - 60128)) (by omega)
      rw [← q2] at g1 g2
      refine ⟨g1, ?_⟩
      rw [g2]
      show nI (128 + (tg 2 i - 60128)) - nI 128 = _
      rw [pk_sub (by omega), Nat.add_sub_cancel_left]) s2 s3 s4 s5 N (by omega)
    obtain ⟨sh3, hsh3⟩ : ∃ s, s = Zadd (Zsu4 sh2 (c0 + 1) (c0 + 2) (c0 + 3) (c0 + 4) (n 2)) c0 (Zo10 (c0 + 1) (c0 + 2) (c0 + 3) (c0 + 4)) := ⟨_, rfl⟩
    have su0 : Zsu4 sh2 (c0 + 1) (c0 + 2) (c0 + 3) (c0 + 4) (n 2) c0 = none := by rw [Zsu4_o (by omega) (by omega) (by omega) (by omega)]; exact f0
    have ead : ZW (Zput E1 (Zl E1 c0) (.inr (10, Zf4 E1 zfd10 (c0 + 1) (c0 + 2) (c0 + 3) (c0 + 4)))) (Zsu4 sh2 (c0 + 1) (c0 + 2) (c0 + 3) (c0 + 4) (n 2)) x4 = ZW E1 sh3 x4 := by
      rw [hsh3]
      exact Zadopt su0 (fun _ _ => ⟨rfl, rfl⟩) rfl
    rw [ead] at es
    have enew : zset (ZW E1 sh2 x) (sz + 1) (.inr (10, zfd10)) = ZW (Zput E1 (Zl E1 c0) (.inr (10, zfd10))) sh2 x := by
      rw [← s1]
      exact Zput_eq f0
    -- what is there
    have c3 : sh3 c0 = some (Zo10 (c0 + 1) (c0 + 2) (c0 + 3) (c0 + 4)) := by rw [hsh3]; exact Zadd_n
    have a3 : ∀ i, 1 ≤ i → i ≤ 4 → sh3 (c0 + i) = some (Zia 0 (n 2)) := fun i h1 h4 => by
      rw [hsh3, Zadd_o (by omega)]
      exact Zsu4_n _ (by omega)
    have keep3 : ∀ u, sh2 u ≠ none → sh3 u = sh2 u ∧ x4.1 u = x.1 u ∧ x4.2 u = x.2 u := fun u hu => by
      have ne : ∀ i, i ≤ 4 → u ≠ c0 + i := fun i hi q => hu (by rw [q]; exact free2 i hi)
      have n0 : u ≠ c0 := ne 0 (by decide)
      have n1 := ne 1 (by decide)
      have n2 := ne 2 (by decide)
      have n3 := ne 3 (by decide)
      have n4 := ne 4 (by decide)
      refine ⟨by rw [hsh3, Zadd_o n0, Zsu4_o n1 n2 n3 n4], by rw [x41], x42 u n1 n2 n3 n4⟩
    have shut3 : Zshut sh3 := by
      intro t s ht r hr
      have lv : ∀ u, sh2 u ≠ none → sh3 u ≠ none := fun u hu => by rw [(keep3 u hu).1]; exact hu
      by_cases q0 : t = c0
      · rw [q0, c3] at ht
        cases ht
        have hr' : some r ∈ [some (c0 + 1), some (c0 + 2), some (c0 + 3), some (c0 + 4)] := hr
        have : r = c0 + 1 ∨ r = c0 + 2 ∨ r = c0 + 3 ∨ r = c0 + 4 := by simpa using hr'
        rcases this with q | q | q | q <;> rw [q]
        · rw [a3 1 (by decide) (by decide)]; exact fun h => by cases h
        · rw [a3 2 (by decide) (by decide)]; exact fun h => by cases h
        · rw [a3 3 (by decide) (by decide)]; exact fun h => by cases h
        · rw [a3 4 (by decide) (by decide)]; exact fun h => by cases h
      · by_cases q4 : c0 + 1 ≤ t ∧ t ≤ c0 + 4
        · have := a3 (t - c0) (by omega) (by omega)
          rw [show c0 + (t - c0) = t by omega, ht] at this
          cases this
          exact absurd hr (fun q => q)
        · have e : sh3 t = sh2 t := by rw [hsh3, Zadd_o q0, Zsu4_o (by omega) (by omega) (by omega) (by omega)]
          rw [e] at ht
          exact lv r (hB2.1 t s ht r hr)
    have dom3 : ∀ Q : ZP, Znv P ≤ Znv Q → Znc P ≤ Znc Q → (Znc P < 24 → Znc P < Znc Q) → Zdom sh3 Q (g + 2) := fun Q k1 k2 k3 t ht => by
      by_cases q : c0 ≤ t ∧ t ≤ c0 + 4
      · unfold Zdt
        omega
      · have e : sh3 t = sh2 t := by rw [hsh3, Zadd_o (by omega), Zsu4_o (by omega) (by omega) (by omega) (by omega)]
        rw [e] at ht
        exact (hB2.2.1 t ht).up k1 k2 (by omega)
    have m0 : ∀ m, (fun i => if i = 2 then 0 else n i : Nat → Nat) m = if m = 2 then 0 else n m := fun _ => rfl
    by_cases hroom : Znc P < 24
    · obtain ⟨w, ew, w68, w5, w15, w16, w17, w18, wf1, wf18, fw⟩ := mgood ⟨hgood, hroom⟩
      have hcc : c0 = 1000 * (Znc P + 1) := by omega
      have hmor : Zmor P (ZPr P 2 (n 2) fun i => tg 2 i - 60128) := ZPc_mor hroom
      obtain ⟨p1, p2, p3, p4, p5, p6, p7, p8, p9, p10⟩ := ZPc_new (P := P) hroom (so := 2) (mn := n 2) (rm := 0) (tr := 0) (pl := fun i => tg 2 i - 60128) (mv := fun _ => 0) (cv := fun _ => 0) (li := 0) (fa := fun _ => 0) (hs := fun _ => 0)
      have hok : ZCok (ZPr P 2 (n 2) fun i => tg 2 i - 60128) (Znc P) := ZPr_ok hP hroom (Or.inr rfl) ⟨hgood.1, n26⟩ fun i hi => ⟨(hnm i hi).1, hgood.2 i hi⟩
      have hBp := hB2.pr2 (P' := ZPr P 2 (n 2) fun i => tg 2 i - 60128) (Nat.le_of_eq hmor.1.symm) (by rw [hmor.2.1]; omega) (fun c hc => (hmor.2.2.2.1 c hc).1) (fun c h1 h2 => by
        rw [hmor.2.1] at h2
        have : c = Znc P := by omega
        have q1 : Zso (ZPr P 2 (n 2) fun i => tg 2 i - 60128) (Znc P) = 2 := p1
        rw [this, q1]
        decide)
      obtain ⟨hB3, hxe3, ho3, -, x13, hcs3, -⟩ := ZB_ext (sh' := sh3) (xs' := x4) hBp (g' := g + 2) keep3 shut3 (dom3 _ (Nat.le_of_eq hmor.1.symm) (by rw [hmor.2.1]; omega) (fun _ => by rw [hmor.2.1]; omega))
      have k2 := (hB3.2.2.2.1 0 (by decide)).1.li
      have k4 := (hB3.2.2.2.1 1 (by decide)).1.li
      simp only [if_neg (show ¬ 0 = 2 by decide)] at k2
      simp only [if_neg (show ¬ 1 = 2 by decide)] at k4
      rw [hro.1.1] at k2
      rw [hro.2.1.1] at k4
      have hcsP : ∀ c, c < Znc P → Zso P c = 3 ∨ Zso P c = 5 → Zcls3 sh2 sh3 x x4 c := fun c hc hs => hcs3 c (by rw [hmor.2.1]; omega) (by rw [(hmor.2.2.2.1 c hc).1]; exact hs)
      obtain ⟨hR3, hS3⟩ := ZPD_ext hR2 hS2 hxe3 hB3.2.2.2.2.2 ⟨_, k2.cut fun i hi => (hro.1.2 i hi).symm⟩ ⟨_, k4.cut fun i hi => (hro.2.1.2 i hi).symm⟩ hcsP x13
      have hel : Zel sh3 (1000 * (Znc P + 1)) := ⟨10, _, by rw [← hcc]; exact c3, by decide⟩
      rw [hcc] at c3 a3 x43
      have hcon : ZXcon sh3 x4 (ZPr P 2 (n 2) fun i => tg 2 i - 60128) (Znc P) := ZX_rowcon hroom (by omega) c3 (by decide) a3 x43 (fun h => by omega) (fun _ => c3) (fun h => by omega)
      have hMP : ZMP w (ZPr P 2 (n 2) fun i => tg 2 i - 60128) := by
        refine ZMP.more hP hM hmor (fw.1 0 (by omega)) w15 (fun i hi => fw.2 i (by omega)) (fun i c hi hc => ?_) wf18 (fun j i hj hi => by rw [fw.2 j (by omega)]) (fun i hi => by rw [fw.2 22 (by omega)]) ?_
        · have : i = 16 ∨ i = 17 ∨ (i = 20 ∨ i = 21) := by omega
          rcases this with q | q | q
          · exact wf1 i c (Or.inl q) hc
          · exact wf1 i c (Or.inr q) hc
          · rw [fw.2 i (by omega)]
        · unfold ZMc ZPr
          rw [p1, p2]
          exact ⟨w16, w17, fun p hp => by rw [p5]; exact w18 p hp, fun h => by omega, fun h => by omega, fun h => by omega, fun h => by omega⟩
      obtain ⟨sh5, x5, sz5, e5, hR5, hS5, hB5, hxe5, ho5⟩ := ZJ_addc (E := E1) hR3 hS3 hmor hB3 hroom ⟨hro.1.1, hro.1.2⟩ ⟨hro.2.1.1, hro.2.1.2⟩ hcon hok hel hMP (fw.mono (fun f q => by omega) (fun f q => by omega))
      rw [s6, ← hcc, s1] at e5
      have k3m : sh3 1 = some (Zmain sh3) := hB3.2.2.2.2.2
      refine ⟨E1, sh5, x5, w, _, L, g + 2 + 1, Or.inl ⟨sz5, nI (Znc P), ?_, ?_, w68⟩, ⟨_, _, hR5, hS5, hB5, ?_⟩, (ho1.trans (ho2.trans (ho3.trans ho5 ?_) ?_) fun _ h => h), fw.mono (fun f q => by omega) (fun f q => by omega), hmor.2.2.2.2⟩
      · have es' : fX9_init N (ZW (Zput E1 (Zl E1 c0) (.inr (10, zfd10))) sh2 x) (sz + 1 + 1) (sz + 1) (Zl E1 (Zfld sh 1 2)) = some (ZW E1 sh3 x4, sz + 2 + 4) := by
          rw [← s1]
          rw [s1]
          rw [← s1]
          have := es
          rw [s1] at this ⊢
          exact this
        have k2m : sh2 1 = some (Zmain sh2) := hB2.2.2.2.2.2
        have kmm : sh 1 = some (Zmain sh) := hB.2.2.2.2.2
        simp only [fX1_order, Zb0 kmm, etk, Option.bind_some, Zb0 k2m, eb, fX1_checkState, Zne10, if_false, Zthr_r, enew, fX12_init, es', Zb0 k3m, e5]
      · simp only [fX5_order, ew, Option.bind_some]
      · refine hro.took ((hxe2.trans hxe3).trans hxe5) ⟨hmor.1, hmor.2.2.1⟩ ⟨?_, fun i hi => ?_⟩ ⟨?_, fun c hc => ?_⟩ ?_ (fun i hi => ⟨?_, ?_⟩) w5 (fun i hi => fw.1 i (by omega)) fun i hi => fw.2 i (by omega)
        · simp only [if_neg (show ¬ 0 = 1 by decide), if_neg (show ¬ 0 = 2 by decide)]
          rw [hmor.1]
          exact hro.1.1
        · simp only [show (0 = 1) = False from eq_false (by decide), false_and, if_false]
          rw [hmor.1] at hi
          exact hro.1.2 i hi
        · simp only [if_true, if_neg (show ¬ 1 = 2 by decide)]
          rw [hmor.2.1, hro.2.1.1]
        · simp only [if_true, true_and, if_neg (show ¬ 1 = 2 by decide)]
          rw [hmor.2.1] at hc
          by_cases q : c = n 1
          · rw [if_pos q, q, hro.2.1.1]
          · rw [if_neg q]
            exact hro.2.1.2 c (by rw [← hro.2.1.1] at hc ⊢; omega)
        · simp only [if_neg (show ¬ 2 = 1 by decide), if_true]
        · simp only [if_neg (show ¬ i = 1 by omega), if_neg (show ¬ i = 2 by omega)]
        · funext k
          simp only [show (i = 1) = False from eq_false (by omega), false_and, if_false]
      · exact fun t ht => by rw [(keep3 t ht).1]; exact ht
      · exact fun t ht => by
          by_cases q : t = 1
          · rw [q, hB2.2.2.2.2.2]
            exact fun h => by cases h
          · rw [keep2 t q (fun q => ht (by rw [q]; exact hTn))]
            exact ht
    · -- no room
      have hn24 : Znc P = 24 := by omega
      obtain ⟨hB3, hxe3, ho3, -, x13, hcs3, -⟩ := ZB_ext (sh' := sh3) (xs' := x4) hB2 (g' := g + 2) keep3 shut3 (dom3 P (Nat.le_refl _) (Nat.le_refl _) (fun h => absurd h hroom))
      have k2 := (hB3.2.2.2.1 0 (by decide)).1.li
      have k4 := (hB3.2.2.2.1 1 (by decide)).1.li
      simp only [if_neg (show ¬ 0 = 2 by decide)] at k2
      simp only [if_neg (show ¬ 1 = 2 by decide)] at k4
      rw [hro.1.1] at k2
      rw [hro.2.1.1] at k4
      obtain ⟨hR3, hS3⟩ := ZPD_ext hR2 hS2 hxe3 hB3.2.2.2.2.2 ⟨_, k2.cut fun i hi => (hro.1.2 i hi).symm⟩ ⟨_, k4.cut fun i hi => (hro.2.1.2 i hi).symm⟩ hcs3 x13
      have e5 := ZX_noroom (E := E1) hB3 (by simp only [if_neg (show ¬ 1 = 2 by decide)]; rw [hro.2.1.1, hn24]) (sz + 2 + 4) (sz + 1)
      have k3m : sh3 1 = some (Zmain sh3) := hB3.2.2.2.2.2
      refine ⟨E1, sh3, x4, st', P, L, g + 2, Or.inr ⟨0, 2, 0, rfl, ?_, ?_, st'68⟩, hAx _ _ _ hR3 hS3 hB3 (hxe2.trans hxe3), (ho1.trans (ho2.trans ho3 ?_) fun _ h => h), ftl, fun _ => rfl⟩
      · have es' : fX9_init N (ZW (Zput E1 (Zl E1 c0) (.inr (10, zfd10))) sh2 x) (sz + 1 + 1) (sz + 1) (Zl E1 (Zfld sh 1 2)) = some (ZW E1 sh3 x4, sz + 2 + 4) := by
          have := es
          rw [s1] at this ⊢
          exact this
        have k2m : sh2 1 = some (Zmain sh2) := hB2.2.2.2.2.2
        have kmm : sh 1 = some (Zmain sh) := hB.2.2.2.2.2
        simp only [fX1_order, Zb0 kmm, etk, Option.bind_some, Zb0 k2m, eb, fX1_checkState, Zne10, if_false, Zthr_r, enew, fX12_init, es', Zb0 k3m, e5, Zthr_l]
      · rw [hst']
        simp only [fX5_order, mbad (fun h => hroom h.2), Option.bind_some]
      · exact fun t ht => by
          by_cases q : t = 1
          · rw [q, hB2.2.2.2.2.2]
            exact fun h => by cases h
          · rw [keep2 t q (fun q => ht (by rw [q]; exact hTn))]
            exact ht
  · have hb0 : b = 0 := b01.resolve_right fun h => hgood (hb.mp h)
    subst hb0
    refine ⟨E1, sh2, x, st', P, L, g + 1, Or.inr ⟨0, 2, 0, rfl, ?_, ?_, st'68⟩, hAx _ _ _ hR2 hS2 hB2 hxe2, ho1.trans ho2 (fun _ h => h), ftl, fun _ => rfl⟩
    · have k2m : sh2 1 = some (Zmain sh2) := hB2.2.2.2.2.2
      have kmm : sh 1 = some (Zmain sh) := hB.2.2.2.2.2
      simp only [fX1_order, Zb0 kmm, etk, Option.bind_some, Zb0 k2m, eb, fX1_checkState, if_true, Zthr_l]
    · rw [hst']
      simp only [fX5_order, mbad (fun h => hgood h.1), Option.bind_some]
theorem ZC_different (hA : ZA E sh xs st P L g) {sz : Nat} (hf : ∀ a, sz ≤ a → (ZW E sh xs).2 a = none) (N : Nat) (hN : 5000 ≤ N) : ZTell E sh xs st P [2] (fX1_different N (ZW E sh xs) sz (Zl E 1)) (fX5_different N st) := by
  obtain ⟨n, tg, hR, hS, hB, hro⟩ := hA
  have hP := hR.1
  have hn := hP.1
  have h24 := hP.2.1
  have hM := hR.2.2.2.2.1
  have hnm := hro.nm
  have hc0 := Zc0_c P g
  obtain ⟨c0, hc0e⟩ : ∃ c, c = Zc0 P g := ⟨_, rfl⟩
  rw [← hc0e] at hc0
  obtain ⟨T0, hT0⟩ : ∃ T, T = 1000000 + 100 * g + (2 * 2 + 2) := ⟨_, rfl⟩
  obtain ⟨E1, w1, hR1, hB1, ho1, hl1⟩ := ZLay hR hB hro hf (fun i => if i = 0 then T0 else if i ≤ 5 then c0 + (i - 1) else if i = 6 then c0 + 8 else 1000000 + 100 * (g + 2) + (2 * 1 + 3)) 8 (fun i j hi hj q => by
    split at q <;> split at q <;> (try split at q) <;> (try split at q) <;> (try split at q) <;> (try split at q) <;> omega) (fun i hi => by
    refine hB.free ?_
    unfold Zdt
    split
    · omega
    · split
      · omega
      · split <;> omega)
  have s0 : Zl E1 T0 = sz := hl1 0 (by decide)
  have s1 : Zl E1 c0 = sz + 1 := hl1 1 (by decide)
  have s2 : Zl E1 (c0 + 1) = sz + 2 := hl1 2 (by decide)
  have s3 : Zl E1 (c0 + 2) = sz + 3 := hl1 3 (by decide)
  have s4 : Zl E1 (c0 + 3) = sz + 4 := hl1 4 (by decide)
  have s5 : Zl E1 (c0 + 4) = sz + 5 := hl1 5 (by decide)
  have s6 : Zl E1 (c0 + 8) = sz + 6 := hl1 6 (by decide)
  have s7 : Zl E1 (1000000 + 100 * (g + 2) + (2 * 1 + 3)) = sz + 7 := hl1 7 (by decide)
  have l1 : Zl E1 1 = Zl E 1 := ho1.2.2.2 1 (by rw [hB.2.2.2.2.2]; exact fun h => by cases h)
  rw [w1, ← l1]
  -- the row is taken
  obtain ⟨x, e1, e2, hR2, hS2, hB2, hlo, hxe2, ho2, keep2, tj2, hTn⟩ := ZJ_takej (E := E1) hR1 hS hB1 hro.1 hro.2.1 (j := 2) (by decide) (by decide) hT0
  obtain ⟨sh2, hsh2⟩ : ∃ s, s = Zshj sh 2 T0 := ⟨_, rfl⟩
  rw [← hsh2] at e2 hR2 hB2 hlo hxe2 ho2 keep2 tj2
  have ht2 : Ztj sh 2 = Zfld sh 1 2 := rfl
  rw [ht2] at hlo
  rw [s0] at e1 e2
  have etk : fX1_takeNames (ZW E1 sh xs) sz (Zl E1 1) = some (ZW E1 sh2 x, sz + 1, Zl E1 (Zfld sh 1 2)) := by
    have k0 : sh 1 = some (Zmain sh) := hB.2.2.2.2.2
    simp only [fX1_takeNames, Zb0 k0, Option.bind_some, e1, e2]
  have n26 := hro.2.2.1.1
  obtain ⟨b, eb, b01, hb⟩ := ZX_ints (E := E1) hP hR2.2.2.2.1.1 hB2.2.2.1 hlo.li (by omega) (fun i hi => ⟨(hnm i hi).1, (hnm i hi).2.1⟩) N (by omega)
  have hbase2 := hR2.2.2.1
  obtain ⟨mbad, mgood⟩ := ZM_rowOf (so := 1) hP hM hro.2.2.1.2.1 n26 (nm := fun i => tg 2 i - 60128) (fun i hi => ⟨(hnm i hi).1, (hnm i hi).2.2⟩) N (by omega)
  have e2so : (nI 1 : Int32) = 1 := rfl
  rw [e2so] at mbad mgood
  -- what both know when nothing is added
  obtain ⟨st', hst'⟩ : ∃ s : zMS, s = (zus (zus st.1 68 1) 5 0, st.2) := ⟨_, rfl⟩
  have fst' : ZfM (fun f => f = 5 ∨ f = 68) (fun _ => False) st st' := by rw [hst']; exact ZfM.num (ZfM.num ZfM.rfl (by omega)) (by omega)
  have st'5 : st'.1 5 = 0 := by subst hst'; simp only [zus_s]
  have st'68 : st'.1 68 = nI (0 + 1) := by
    subst hst'
    simp only [zus_n (show 68 ≠ 5 by decide), zus_s]
    rfl
  have hAx : ∀ sh3 x3 g3, ZPD E1 sh3 x3 st P L → ZSr P x3 st → ZB E1 sh3 x3 P g3 (fun i => if i = 2 then 0 else n i) tg → Zext sh sh3 xs x3 → ZA E1 sh3 x3 st' P L g3 := fun sh3 x3 g3 a1 a2 a3 a4 => by
    refine ⟨_, _, a1.gen Zfr.rfl (fst'.mono (fun f q => by unfold ZMf; omega) (fun f q => absurd q (fun q => q))) (by rw [fst'.1 32 (by omega)]; exact a1.2.2.2.2.2.2.2.2.2), a2.m (fst'.mono (fun f q => by omega) (fun f q => absurd q (fun q => q))), a3, ?_⟩
    exact hro.took a4 ⟨rfl, fun _ => ⟨rfl, rfl, rfl, rfl⟩⟩ ⟨hro.1.1, hro.1.2⟩ ⟨hro.2.1.1, hro.2.1.2⟩ rfl (fun i hi => ⟨if_neg (by omega), rfl⟩) st'5 (fun i hi => fst'.1 i (by omega)) fun i hi => fst'.2 i (fun q => q)
  have ftl : ZfTl st st' := fst'.mono (fun f q => by omega) (fun f q => absurd q (fun q => q))
  by_cases hgood : 0 < n 2 ∧ ∀ i, i < n 2 → Zkd P (tg 2 i - 60128) = 0
  · have hb1 := hb.mpr hgood
    subst hb1
    -- the object
    have free2 : ∀ i, i ≤ 4 → sh2 (c0 + i) = none := fun i hi => by
      rw [keep2 _ (by omega) (by omega)]
      refine hB.free ?_
      unfold Zdt
      omega
    have f0 : sh2 c0 = none := free2 0 (by decide)
    have f8 : sh2 (c0 + 8) = none := by
      rw [keep2 _ (by omega) (by omega)]
      refine hB.free ?_
      unfold Zdt
      omega
    obtain ⟨x3, es, x31, x32, x33⟩ := ZX_super (E := E1) (xs := x) (To := c0) (T1 := c0 + 1) (T2 := c0 + 2) (T3 := c0 + 3) (T4 := c0 + 4) (ci := 9) (sz := sz + 2) (fs := zfd9) (val := fun i => nI (tg 2 i - 60128)) f0 (by omega) ⟨free2 1 (by decide), free2 2 (by decide), free2 3 (by decide), free2 4 (by decide)⟩ (by decide) (by decide) hlo.li (by omega) (fun i hi => by
      obtain ⟨q1, q2, -⟩ := hnm i hi
      obtain ⟨g1, g2⟩ := hB2.2.2.1.2.2.1 (128 + (tg 2 i - 60128)) (by omega)
      rw [← q2] at g1 g2
      refine ⟨g1, ?_⟩
      rw [g2]
      show nI (128 + (tg 2 i - 60128)) - nI 128 = _
      rw [pk_sub (by omega), Nat.add_sub_cancel_left]) s2 s3 s4 s5 N (by omega)
    obtain ⟨x4, hx4⟩ : ∃ x4 : Zxs, x4 = (Zs2 x3.1 c0 fun _ => 0, Zs2 x3.2 (c0 + 8) fun _ => 0) := ⟨_, rfl⟩
    have x41 : ∀ u, u ≠ c0 → x4.1 u = x.1 u := fun u hu => by
      rw [hx4]
      show Zs2 x3.1 c0 _ u = _
      rw [Zs2_o hu, x31]
    have x40 : x4.1 c0 5 = 0 := by
      rw [hx4]
      show Zs2 x3.1 c0 _ c0 5 = _
      rw [Zs2_n]
    have x42 : ∀ u, u ≠ c0 + 1 → u ≠ c0 + 2 → u ≠ c0 + 3 → u ≠ c0 + 4 → u ≠ c0 + 8 → x4.2 u = x.2 u := fun u h1 h2 h3 h4 h8 => by
      rw [hx4]
      show Zs2 x3.2 (c0 + 8) _ u = _
      rw [Zs2_o h8]
      exact x32 u h1 h2 h3 h4
    have x43 : ∀ i, i < n 2 → x4.2 (c0 + 1) i = nI (tg 2 i - 60128) := fun i hi => by
      rw [hx4]
      show Zs2 x3.2 (c0 + 8) _ (c0 + 1) i = _
      rw [Zs2_o (by omega)]
      exact x33 i hi
    obtain ⟨sh3, hsh3⟩ : ∃ s, s = Zadd (Zadd (Zsu4 sh2 (c0 + 1) (c0 + 2) (c0 + 3) (c0 + 4) (n 2)) (c0 + 8) (Zia 0 32)) c0 (Zo9 (c0 + 1) (c0 + 2) (c0 + 3) (c0 + 4) (c0 + 8)) := ⟨_, rfl⟩
    have su0 : Zadd (Zsu4 sh2 (c0 + 1) (c0 + 2) (c0 + 3) (c0 + 4) (n 2)) (c0 + 8) (Zia 0 32) c0 = none := by rw [Zadd_o (by omega), Zsu4_o (by omega) (by omega) (by omega) (by omega)]; exact f0
    have eow : znA 0 32 (ZW (Zput E1 (Zl E1 c0) (.inr (9, Zf4 E1 zfd9 (c0 + 1) (c0 + 2) (c0 + 3) (c0 + 4)))) (Zsu4 sh2 (c0 + 1) (c0 + 2) (c0 + 3) (c0 + 4) (n 2)) x3) (sz + 2 + 4) (32 : Int32) = some (ZW (Zput E1 (Zl E1 c0) (.inr (9, Zf4 E1 zfd9 (c0 + 1) (c0 + 2) (c0 + 3) (c0 + 4)))) (Zadd (Zsu4 sh2 (c0 + 1) (c0 + 2) (c0 + 3) (c0 + 4) (n 2)) (c0 + 8) (Zia 0 32)) (x3.1, Zs2 x3.2 (c0 + 8) fun _ => 0)) := by
      rw [show sz + 2 + 4 = Zl E1 (c0 + 8) from s6.symm]
      exact Znw_A (E := Zput E1 (Zl E1 c0) (.inr (9, Zf4 E1 zfd9 (c0 + 1) (c0 + 2) (c0 + 3) (c0 + 4)))) (T := c0 + 8) (n := 32) (by decide) (by decide) (by decide)
    have epo : zpv [9] 4 (ZW (Zput E1 (Zl E1 c0) (.inr (9, Zf4 E1 zfd9 (c0 + 1) (c0 + 2) (c0 + 3) (c0 + 4)))) (Zadd (Zsu4 sh2 (c0 + 1) (c0 + 2) (c0 + 3) (c0 + 4) (n 2)) (c0 + 8) (Zia 0 32)) (x3.1, Zs2 x3.2 (c0 + 8) fun _ => 0)) (Zl E1 c0) (.ref (sz + 2 + 4)) = some (ZW E1 sh3 x4) := by
      rw [show sz + 2 + 4 = Zl E1 (c0 + 8) from s6.symm, Zraw_p (c := 9) (f := 4) su0 rfl (Nat.lt_of_sub_eq_succ rfl), hsh3]
      refine congrArg some (Zadopt su0 (fun u hu => ⟨by rw [hx4]; exact Zs2_o hu, by rw [hx4]⟩) ?_)
      simp only [Zcell, Zo9, Zob, List.mapIdx_cons, List.mapIdx_nil, Zfv, Zf4, zfd9, List.set]
      rw [x40]
    have enew : zset (ZW E1 sh2 x) (sz + 1) (.inr (9, zfd9)) = ZW (Zput E1 (Zl E1 c0) (.inr (9, zfd9))) sh2 x := by
      rw [← s1]
      exact Zput_eq f0
    -- what is there
    have c3 : sh3 c0 = some (Zo9 (c0 + 1) (c0 + 2) (c0 + 3) (c0 + 4) (c0 + 8)) := by rw [hsh3]; exact Zadd_n
    have a3 : ∀ i, 1 ≤ i → i ≤ 4 → sh3 (c0 + i) = some (Zia 0 (n 2)) := fun i h1 h4 => by
      rw [hsh3, Zadd_o (by omega), Zadd_o (by omega)]
      exact Zsu4_n _ (by omega)
    have a8 : sh3 (c0 + 8) = some (Zia 0 32) := by rw [hsh3, Zadd_o (by omega), Zadd_n]
    have keep3 : ∀ u, sh2 u ≠ none → sh3 u = sh2 u ∧ x4.1 u = x.1 u ∧ x4.2 u = x.2 u := fun u hu => by
      have ne : ∀ i, i ≤ 4 → u ≠ c0 + i := fun i hi q => hu (by rw [q]; exact free2 i hi)
      have n0 : u ≠ c0 := ne 0 (by decide)
      have n1 := ne 1 (by decide)
      have n2 := ne 2 (by decide)
      have n3 := ne 3 (by decide)
      have n4 := ne 4 (by decide)
      have n8 : u ≠ c0 + 8 := fun q => hu (by rw [q]; exact f8)
      refine ⟨by rw [hsh3, Zadd_o n0, Zadd_o n8, Zsu4_o n1 n2 n3 n4], x41 u n0, x42 u n1 n2 n3 n4 n8⟩
    have shut3 : Zshut sh3 := by
      intro t s ht r hr
      have lv : ∀ u, sh2 u ≠ none → sh3 u ≠ none := fun u hu => by rw [(keep3 u hu).1]; exact hu
      by_cases q0 : t = c0
      · rw [q0, c3] at ht
        cases ht
        have hr' : some r ∈ [some (c0 + 1), some (c0 + 2), some (c0 + 3), some (c0 + 4), some (c0 + 8), none] := hr
        have : r = c0 + 1 ∨ r = c0 + 2 ∨ r = c0 + 3 ∨ r = c0 + 4 ∨ r = c0 + 8 := by simpa using hr'
        rcases this with q | q | q | q | q <;> rw [q]
        · rw [a3 1 (by decide) (by decide)]; exact fun h => by cases h
        · rw [a3 2 (by decide) (by decide)]; exact fun h => by cases h
        · rw [a3 3 (by decide) (by decide)]; exact fun h => by cases h
        · rw [a3 4 (by decide) (by decide)]; exact fun h => by cases h
        · rw [a8]; exact fun h => by cases h
      · by_cases q4 : c0 + 1 ≤ t ∧ t ≤ c0 + 4
        · have := a3 (t - c0) (by omega) (by omega)
          rw [show c0 + (t - c0) = t by omega, ht] at this
          cases this
          exact absurd hr (fun q => q)
        · by_cases q8 : t = c0 + 8
          · rw [q8, a8] at ht
            cases ht
            exact absurd hr (fun q => q)
          · have e : sh3 t = sh2 t := by rw [hsh3, Zadd_o q0, Zadd_o q8, Zsu4_o (by omega) (by omega) (by omega) (by omega)]
            rw [e] at ht
            exact lv r (hB2.1 t s ht r hr)
    have dom3 : ∀ Q : ZP, Znv P ≤ Znv Q → Znc P ≤ Znc Q → (Znc P < 24 → Znc P < Znc Q) → Zdom sh3 Q (g + 2) := fun Q k1 k2 k3 t ht => by
      by_cases q : c0 ≤ t ∧ t ≤ c0 + 8
      · unfold Zdt
        omega
      · have e : sh3 t = sh2 t := by rw [hsh3, Zadd_o (by omega), Zadd_o (by omega), Zsu4_o (by omega) (by omega) (by omega) (by omega)]
        rw [e] at ht
        exact (hB2.2.1 t ht).up k1 k2 (by omega)
    have m0 : ∀ m, (fun i => if i = 2 then 0 else n i : Nat → Nat) m = if m = 2 then 0 else n m := fun _ => rfl
    by_cases hroom : Znc P < 24
    · obtain ⟨w, ew, w68, w5, w15, w16, w17, w18, wf1, wf18, fw⟩ := mgood ⟨hgood, hroom⟩
      have hcc : c0 = 1000 * (Znc P + 1) := by omega
      have hmor : Zmor P (ZPr P 1 (n 2) fun i => tg 2 i - 60128) := ZPc_mor hroom
      obtain ⟨p1, p2, p3, p4, p5, p6, p7, p8, p9, p10⟩ := ZPc_new (P := P) hroom (so := 1) (mn := n 2) (rm := 0) (tr := 0) (pl := fun i => tg 2 i - 60128) (mv := fun _ => 0) (cv := fun _ => 0) (li := 0) (fa := fun _ => 0) (hs := fun _ => 0)
      have hok : ZCok (ZPr P 1 (n 2) fun i => tg 2 i - 60128) (Znc P) := ZPr_ok hP hroom (Or.inl rfl) ⟨hgood.1, n26⟩ fun i hi => ⟨(hnm i hi).1, hgood.2 i hi⟩
      have hBp := hB2.pr2 (P' := ZPr P 1 (n 2) fun i => tg 2 i - 60128) (Nat.le_of_eq hmor.1.symm) (by rw [hmor.2.1]; omega) (fun c hc => (hmor.2.2.2.1 c hc).1) (fun c h1 h2 => by
        rw [hmor.2.1] at h2
        have : c = Znc P := by omega
        have q1 : Zso (ZPr P 1 (n 2) fun i => tg 2 i - 60128) (Znc P) = 1 := p1
        rw [this, q1]
        decide)
      obtain ⟨hB3, hxe3, ho3, -, x13, hcs3, -⟩ := ZB_ext (sh' := sh3) (xs' := x4) hBp (g' := g + 2) keep3 shut3 (dom3 _ (Nat.le_of_eq hmor.1.symm) (by rw [hmor.2.1]; omega) (fun _ => by rw [hmor.2.1]; omega))
      have k2 := (hB3.2.2.2.1 0 (by decide)).1.li
      have k4 := (hB3.2.2.2.1 1 (by decide)).1.li
      simp only [if_neg (show ¬ 0 = 2 by decide)] at k2
      simp only [if_neg (show ¬ 1 = 2 by decide)] at k4
      rw [hro.1.1] at k2
      rw [hro.2.1.1] at k4
      have hcsP : ∀ c, c < Znc P → Zso P c = 3 ∨ Zso P c = 5 → Zcls3 sh2 sh3 x x4 c := fun c hc hs => hcs3 c (by rw [hmor.2.1]; omega) (by rw [(hmor.2.2.2.1 c hc).1]; exact hs)
      obtain ⟨hR3, hS3⟩ := ZPD_ext hR2 hS2 hxe3 hB3.2.2.2.2.2 ⟨_, k2.cut fun i hi => (hro.1.2 i hi).symm⟩ ⟨_, k4.cut fun i hi => (hro.2.1.2 i hi).symm⟩ hcsP x13
      have hel : Zel sh3 (1000 * (Znc P + 1)) := ⟨9, _, by rw [← hcc]; exact c3, by decide⟩
      rw [hcc] at c3 a3 x43 a8
      have hcon : ZXcon sh3 x4 (ZPr P 1 (n 2) fun i => tg 2 i - 60128) (Znc P) := ZX_rowcon hroom (by omega) c3 (by decide) a3 x43 (fun _ => ⟨c3, a8⟩) (fun h => by omega) (fun h => by omega)
      have hMP : ZMP w (ZPr P 1 (n 2) fun i => tg 2 i - 60128) := by
        refine ZMP.more hP hM hmor (fw.1 0 (by omega)) w15 (fun i hi => fw.2 i (by omega)) (fun i c hi hc => ?_) wf18 (fun j i hj hi => by rw [fw.2 j (by omega)]) (fun i hi => by rw [fw.2 22 (by omega)]) ?_
        · have : i = 16 ∨ i = 17 ∨ (i = 20 ∨ i = 21) := by omega
          rcases this with q | q | q
          · exact wf1 i c (Or.inl q) hc
          · exact wf1 i c (Or.inr q) hc
          · rw [fw.2 i (by omega)]
        · unfold ZMc ZPr
          rw [p1, p2]
          exact ⟨w16, w17, fun p hp => by rw [p5]; exact w18 p hp, fun h => by omega, fun h => by omega, fun h => by omega, fun h => by omega⟩
      obtain ⟨sh5, x5, sz5, e5, hR5, hS5, hB5, hxe5, ho5⟩ := ZJ_addc (E := E1) hR3 hS3 hmor hB3 hroom ⟨hro.1.1, hro.1.2⟩ ⟨hro.2.1.1, hro.2.1.2⟩ hcon hok hel hMP (fw.mono (fun f q => by omega) (fun f q => by omega))
      rw [s7, ← hcc, s1] at e5
      have k3m : sh3 1 = some (Zmain sh3) := hB3.2.2.2.2.2
      refine ⟨E1, sh5, x5, w, _, L, g + 2 + 1, Or.inl ⟨sz5, nI (Znc P), ?_, ?_, w68⟩, ⟨_, _, hR5, hS5, hB5, ?_⟩, (ho1.trans (ho2.trans (ho3.trans ho5 ?_) ?_) fun _ h => h), fw.mono (fun f q => by omega) (fun f q => by omega), hmor.2.2.2.2⟩
      · have es' : fX9_init N (ZW (Zput E1 (Zl E1 c0) (.inr (9, zfd9))) sh2 x) (sz + 1 + 1) (sz + 1) (Zl E1 (Zfld sh 1 2)) = some (ZW (Zput E1 (Zl E1 c0) (.inr (9, Zf4 E1 zfd9 (c0 + 1) (c0 + 2) (c0 + 3) (c0 + 4)))) (Zsu4 sh2 (c0 + 1) (c0 + 2) (c0 + 3) (c0 + 4) (n 2)) x3, sz + 2 + 4) := by
          rw [← s1]
          rw [s1]
          rw [← s1]
          have := es
          rw [s1] at this ⊢
          exact this
        have epo' : zpv [9] 4 (ZW (Zput E1 (Zl E1 c0) (.inr (9, Zf4 E1 zfd9 (c0 + 1) (c0 + 2) (c0 + 3) (c0 + 4)))) (Zadd (Zsu4 sh2 (c0 + 1) (c0 + 2) (c0 + 3) (c0 + 4) (n 2)) (c0 + 8) (Zia 0 32)) (x3.1, Zs2 x3.2 (c0 + 8) fun _ => 0)) (sz + 1) (.ref (sz + 2 + 4)) = some (ZW E1 sh3 x4) := by
          have := epo
          rw [← s1]
          exact this
        have k2m : sh2 1 = some (Zmain sh2) := hB2.2.2.2.2.2
        have kmm : sh 1 = some (Zmain sh) := hB.2.2.2.2.2
        simp only [fX1_different, Zb0 kmm, etk, Option.bind_some, Zb0 k2m, eb, fX1_checkState, Zne10, if_false, Zthr_r, enew, fX11_init, es', eow, epo', Zb0 k3m, e5]
      · simp only [fX5_different, ew, Option.bind_some]
      · refine hro.took ((hxe2.trans hxe3).trans hxe5) ⟨hmor.1, hmor.2.2.1⟩ ⟨?_, fun i hi => ?_⟩ ⟨?_, fun c hc => ?_⟩ ?_ (fun i hi => ⟨?_, ?_⟩) w5 (fun i hi => fw.1 i (by omega)) fun i hi => fw.2 i (by omega)
        · simp only [if_neg (show ¬ 0 = 1 by decide), if_neg (show ¬ 0 = 2 by decide)]
          rw [hmor.1]
          exact hro.1.1
        · simp only [show (0 = 1) = False from eq_false (by decide), false_and, if_false]
          rw [hmor.1] at hi
          exact hro.1.2 i hi
        · simp only [if_true, if_neg (show ¬ 1 = 2 by decide)]
          rw [hmor.2.1, hro.2.1.1]
        · simp only [if_true, true_and, if_neg (show ¬ 1 = 2 by decide)]
          rw [hmor.2.1] at hc
          by_cases q : c = n 1
          · rw [if_pos q, q, hro.2.1.1]
          · rw [if_neg q]
            exact hro.2.1.2 c (by rw [← hro.2.1.1] at hc ⊢; omega)
        · simp only [if_neg (show ¬ 2 = 1 by decide), if_true]
        · simp only [if_neg (show ¬ i = 1 by omega), if_neg (show ¬ i = 2 by omega)]
        · funext k
          simp only [show (i = 1) = False from eq_false (by omega), false_and, if_false]
      · exact fun t ht => by rw [(keep3 t ht).1]; exact ht
      · exact fun t ht => by
          by_cases q : t = 1
          · rw [q, hB2.2.2.2.2.2]
            exact fun h => by cases h
          · rw [keep2 t q (fun q => ht (by rw [q]; exact hTn))]
            exact ht
    · -- no room
      have hn24 : Znc P = 24 := by omega
      obtain ⟨hB3, hxe3, ho3, -, x13, hcs3, -⟩ := ZB_ext (sh' := sh3) (xs' := x4) hB2 (g' := g + 2) keep3 shut3 (dom3 P (Nat.le_refl _) (Nat.le_refl _) (fun h => absurd h hroom))
      have k2 := (hB3.2.2.2.1 0 (by decide)).1.li
      have k4 := (hB3.2.2.2.1 1 (by decide)).1.li
      simp only [if_neg (show ¬ 0 = 2 by decide)] at k2
      simp only [if_neg (show ¬ 1 = 2 by decide)] at k4
      rw [hro.1.1] at k2
      rw [hro.2.1.1] at k4
      obtain ⟨hR3, hS3⟩ := ZPD_ext hR2 hS2 hxe3 hB3.2.2.2.2.2 ⟨_, k2.cut fun i hi => (hro.1.2 i hi).symm⟩ ⟨_, k4.cut fun i hi => (hro.2.1.2 i hi).symm⟩ hcs3 x13
      have e5 := ZX_noroom (E := E1) hB3 (by simp only [if_neg (show ¬ 1 = 2 by decide)]; rw [hro.2.1.1, hn24]) (sz + 2 + 4 + 1) (sz + 1)
      have k3m : sh3 1 = some (Zmain sh3) := hB3.2.2.2.2.2
      refine ⟨E1, sh3, x4, st', P, L, g + 2, Or.inr ⟨0, 2, 0, rfl, ?_, ?_, st'68⟩, hAx _ _ _ hR3 hS3 hB3 (hxe2.trans hxe3), (ho1.trans (ho2.trans ho3 ?_) fun _ h => h), ftl, fun _ => rfl⟩
      · have es' : fX9_init N (ZW (Zput E1 (Zl E1 c0) (.inr (9, zfd9))) sh2 x) (sz + 1 + 1) (sz + 1) (Zl E1 (Zfld sh 1 2)) = some (ZW (Zput E1 (Zl E1 c0) (.inr (9, Zf4 E1 zfd9 (c0 + 1) (c0 + 2) (c0 + 3) (c0 + 4)))) (Zsu4 sh2 (c0 + 1) (c0 + 2) (c0 + 3) (c0 + 4) (n 2)) x3, sz + 2 + 4) := by
          have := es
          rw [s1] at this ⊢
          exact this
        have epo' : zpv [9] 4 (ZW (Zput E1 (Zl E1 c0) (.inr (9, Zf4 E1 zfd9 (c0 + 1) (c0 + 2) (c0 + 3) (c0 + 4)))) (Zadd (Zsu4 sh2 (c0 + 1) (c0 + 2) (c0 + 3) (c0 + 4) (n 2)) (c0 + 8) (Zia 0 32)) (x3.1, Zs2 x3.2 (c0 + 8) fun _ => 0)) (sz + 1) (.ref (sz + 2 + 4)) = some (ZW E1 sh3 x4) := by
          have := epo
          rw [← s1]
          exact this
        have k2m : sh2 1 = some (Zmain sh2) := hB2.2.2.2.2.2
        have kmm : sh 1 = some (Zmain sh) := hB.2.2.2.2.2
        simp only [fX1_different, Zb0 kmm, etk, Option.bind_some, Zb0 k2m, eb, fX1_checkState, Zne10, if_false, Zthr_r, enew, fX11_init, es', eow, epo', Zb0 k3m, e5, Zthr_l]
      · rw [hst']
        simp only [fX5_different, mbad (fun h => hroom h.2), Option.bind_some]
      · exact fun t ht => by
          by_cases q : t = 1
          · rw [q, hB2.2.2.2.2.2]
            exact fun h => by cases h
          · rw [keep2 t q (fun q => ht (by rw [q]; exact hTn))]
            exact ht
  · have hb0 : b = 0 := b01.resolve_right fun h => hgood (hb.mp h)
    subst hb0
    refine ⟨E1, sh2, x, st', P, L, g + 1, Or.inr ⟨0, 2, 0, rfl, ?_, ?_, st'68⟩, hAx _ _ _ hR2 hS2 hB2 hxe2, ho1.trans ho2 (fun _ h => h), ftl, fun _ => rfl⟩
    · have k2m : sh2 1 = some (Zmain sh2) := hB2.2.2.2.2.2
      have kmm : sh 1 = some (Zmain sh) := hB.2.2.2.2.2
      simp only [fX1_different, Zb0 kmm, etk, Option.bind_some, Zb0 k2m, eb, fX1_checkState, if_true, Zthr_l]
    · rw [hst']
      simp only [fX5_different, mbad (fun h => hgood h.1), Option.bind_some]
end OC
