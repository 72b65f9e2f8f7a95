/-! order and different told -/
set_option maxRecDepth 100000
section OR
variable {E E' : Ze} {sh sh' : Nat → Option Zsh} {xs xs' : Zxs} {P P' : ZP} {L : ZL} {st w : zMS} {g : Nat} {n : Nat → Nat} {tg : Nat → Nat → Nat}
theorem ZB.pr2 (h : ZB E sh xs P g n tg) (h1 : Znv P ≤ Znv P') (h2 : Znc P ≤ Znc P') (h3 : ∀ c, c < Znc P → Zso P' c = Zso P c) (h4 : ∀ c, Znc P ≤ c → c < Znc P' → ¬ (Zso P' c = 3 ∨ Zso P' c = 5)) : ZB E sh xs P' g n tg := by
  obtain ⟨a, b, c, d, e, f⟩ := h
  refine ⟨a, fun t ht => (b t ht).up h1 h2 (Nat.le_refl _), c, d, fun q hq hs => ?_, f⟩
  rcases Nat.lt_or_ge q (Znc P) with k | k
  · rw [h3 q k] at hs
    exact e q k hs
  · exact absurd hs (h4 q k hq)
/-- list j of main is taken: what both know stays -/
theorem ZJ_takej (hR : ZPD E sh xs st P L) (hS : ZSr P xs st) (hB : ZB E sh xs P g n tg) (n0 : n 0 = Znv P ∧ ∀ i, i < Znv P → tg 0 i = 100 + i) (n1 : n 1 = Znc P ∧ ∀ c, c < Znc P → tg 1 c = 1000 * (c + 1)) {j T : Nat} (h2 : 2 ≤ j) (h6 : j < 6) (hTd : T = 1000000 + 100 * g + (2 * j + 2)) :
    ∃ x : Zxs, fJ2_init (zset (ZW E sh xs) (Zl E T) (.inr (18, zfd18))) (Zl E T) = some (ZW E (Zadd sh T (Zo18 50302)) x) ∧ zpv [0] j (ZW E (Zadd sh T (Zo18 50302)) x) (Zl E 1) (.ref (Zl E T)) = some (ZW E (Zshj sh j T) x) ∧ ZPD E (Zshj sh j T) x st P L ∧ ZSr P x st ∧ ZB E (Zshj sh j T) x P (g + 1) (fun i => if i = j then 0 else n i) tg ∧ ZLj (Zshj sh j T) x (Ztj sh j) (Zej sh j) (n j) (tg j) ∧ Zext sh (Zshj sh j T) xs x ∧ Zexo E E sh (Zshj sh j T) xs x ∧ (∀ u, u ≠ 1 → u ≠ T → Zshj sh j T u = sh u) ∧ (∀ i, i < 6 → Ztj (Zshj sh j T) i = if i = j then T else Ztj sh i) ∧ sh T = none := by
  have hP := hR.1
  have hT : sh T = none := by rw [hTd]; exact hB.fresh hP.2.1 hP.1 (by omega) g (Nat.le_refl _)
  obtain ⟨x, hx⟩ : ∃ x : Zxs, x = (Zs2 xs.1 T fun _ => 0, xs.2) := ⟨_, rfl⟩
  obtain ⟨hB2, hl, hxe, ho, x1, keep, tj, hcs⟩ := ZB_take hB hP.2.1 hP.1 h2 h6 hTd hx
  have k2 := (hB2.2.2.2.1 0 (by decide)).1.li
  have k4 := (hB2.2.2.2.1 1 (by decide)).1.li
  simp only [if_neg (show ¬ 0 = j by omega)] at k2
  simp only [if_neg (show ¬ 1 = j by omega)] at k4
  rw [n0.1] at k2
  rw [n1.1] at k4
  obtain ⟨hR2, hS2⟩ := ZPD_ext hR hS hxe hB2.2.2.2.2.2 ⟨_, k2.cut fun i hi => (n0.2 i hi).symm⟩ ⟨_, k4.cut fun i hi => (n1.2 i hi).symm⟩ hcs x1
  refine ⟨x, by rw [hx]; exact ZX_nl hT hB.2.2.1.1.1, ZX_setj hB.2.2.2.2.2 hT h6, hR2, hS2, hB2, hl, hxe, ho, keep, tj, hT⟩
/-- M's row becomes a constraint, or not -/
theorem ZM_rowOf (hP : ZPok P) (hM : ZMP st P) {m so : Nat} {nm : Nat → Nat} (h5 : st.1 5 = nI m) (hm : m ≤ 6) (hn : ∀ i, i < m → nm i < Znv P ∧ st.2 6 i = nI (nm i)) (N : Nat) (hN : 1000 ≤ N) :
    (¬ ((0 < m ∧ ∀ i, i < m → Zkd P (nm i) = 0) ∧ Znc P < 24) → fX5_rowOf N st (nI so) = some ((zus (zus st.1 68 1) 5 0, st.2), 0)) ∧
    ((0 < m ∧ ∀ i, i < m → Zkd P (nm i) = 0) ∧ Znc P < 24 → ∃ w, fX5_rowOf N st (nI so) = some (w, nI (Znc P)) ∧ w.1 68 = 0 ∧ w.1 5 = 0 ∧ w.1 15 = nI (Znc P + 1) ∧ w.2 16 (Znc P) = nI so ∧ w.2 17 (Znc P) = nI m ∧ (∀ i, i < m → w.2 18 (8 * Znc P + i) = nI (nm i)) ∧ (∀ i c, i = 16 ∨ i = 17 → c < Znc P → w.2 i c = st.2 i c) ∧ (∀ i, i < 8 * Znc P → w.2 18 i = st.2 18 i) ∧ ZfM (fun f => f = 5 ∨ f = 15 ∨ f = 68) (fun f => 16 ≤ f ∧ f ≤ 18) st w) := by
  have h24 := hP.2.1
  obtain ⟨b, e1, b01, hb⟩ := ZM_row hP hM h5 hm hn (r := 0) N hN
  have hb' : b = 1 ↔ 0 < m ∧ ∀ i, i < m → Zkd P (nm i) = 0 := by
    rw [hb]
    constructor
    · rintro ⟨h1, h2⟩
      exact ⟨h1, fun i hi => (h2 i hi).resolve_right fun h => h.1 rfl⟩
    · rintro ⟨h1, h2⟩
      exact ⟨h1, fun i hi => Or.inl (h2 i hi)⟩
  have hthr : ¬ (1 : Int32) ≤ 0 := by decide
  have n10 : ¬ (1 : Int32) = 0 := by decide
  constructor
  · intro hbad
    rcases b01 with rfl | rfl
    · simp only [fX5_rowOf, e1, Option.bind_some, if_true, Zesc_l, zps, zus_s, n10, if_false, zus_n (show 68 ≠ 5 by decide), if_neg hthr]
    · have : Znc P = 24 := by
        have h := hb'.mp rfl
        have : ¬ Znc P < 24 := fun q => hbad ⟨h, q⟩
        clear h hb hb' hn
        omega
      have e24 : (24 : Int32) ≤ nI (Znc P) := by rw [this]; decide
      simp only [fX5_rowOf, e1, Option.bind_some, n10, if_false, fX5_hasRoom, hM.2.1, if_pos e24, if_true, Zesc_l, zps, zus_s, zus_n (show 68 ≠ 5 by decide), if_neg hthr]
  · rintro ⟨hgood, hlt⟩
    have hb1 := hb'.mpr hgood
    subst hb1
    have e24 : ¬ (24 : Int32) ≤ nI (Znc P) := nI_ge (b := 24) hlt (by decide)
    obtain ⟨s, hs⟩ : ∃ s : zMS, s = (zus st.1 68 0, st.2) := ⟨_, rfl⟩
    have fs : ZfM (fun f => f = 68) (fun _ => False) st s := by rw [hs]; exact ZfM.num ZfM.rfl rfl
    obtain ⟨z, ez, fz, z1, z2⟩ := ZM_takesRow (c := Znc P) (b := 0) (nm := nm) (by rw [fs.1 5 (by decide)]; exact h5) hm (by rw [fs.1 15 (by decide)]; exact hM.2.1) hlt (by decide) (fun i hi => by rw [fs.2 6 (fun q => q)]; exact (hn i hi).2) N hN
    have z15 : z.1 15 = nI (Znc P) := by rw [fz.1 15 (fun q => q), fs.1 15 (by decide)]; exact hM.2.1
    have z68 : z.1 68 = 0 := by
      rw [fz.1 68 (fun q => q)]
      subst hs
      simp only [zus_s]
    obtain ⟨w, hw⟩ : ∃ w : zMS, w = (zus (zus z.1 5 0) 15 (nI (Znc P + 1)), zua (zua z.2 16 (Znc P) (nI so)) 17 (Znc P) (nI m)) := ⟨_, rfl⟩
    have fw : ZfM (fun f => f = 5 ∨ f = 15) (fun f => f = 16 ∨ f = 17) z w := by
      rw [hw]
      exact ZfM.num (ZfM.arr (ZfM.arr (ZfM.num ZfM.rfl (f := 5) (v := 0) (by omega)) (by omega)) (by omega)) (by omega)
    have w16 : ∀ c, w.2 16 c = if c = Znc P then nI so else z.2 16 c := fun c => by
      subst hw
      simp only [zua_n (show 16 ≠ 17 by decide), zua_s]
    have w17 : ∀ c, w.2 17 c = if c = Znc P then nI m else z.2 17 c := fun c => by
      subst hw
      simp only [zua_s, zua_n (show 17 ≠ 16 by decide)]
    have z18 : w.2 18 = z.2 18 := fw.2 18 (by decide)
    refine ⟨w, ?_, ?_, ?_, ?_, by rw [w16, if_pos rfl], by rw [w17, if_pos rfl], fun i hi => ?_, fun i c hi hc => ?_, fun i hi => ?_, ?_⟩
    · rw [hs] at ez
      have ez' : fX5_takesRow N (zus st.1 68 0, st.2) 0 = some z := ez
      simp (disch := omega) only [fX5_rowOf, e1, Option.bind_some, n10, if_false, fX5_hasRoom, hM.2.1, if_neg e24, Zesc_r, zps, zus_s, zus_n (show 5 ≠ 68 by decide), h5, if_true, ez', z68, zus_n (show 68 ≠ 5 by decide), if_pos (show (0 : Int32) ≤ 0 by decide), fX5_adds, zus_n (show 15 ≠ 5 by decide), z15, ZMA, nI_1, nI_pred, hw]
    · rw [fw.1 68 (by decide)]
      exact z68
    · subst hw
      simp only [zus_n (show 5 ≠ 15 by decide), zus_s]
    · subst hw
      simp only [zus_s]
    · rw [z18]
      have := z2 i hi
      rwa [Nat.zero_add] at this
    · rcases hi with rfl | rfl
      · rw [w16, if_neg (by omega), fz.2 16 (by decide), fs.2 16 (fun q => q)]
      · rw [w17, if_neg (by omega), fz.2 17 (by decide), fs.2 17 (fun q => q)]
    · rw [z18, z1 i (by omega), fs.2 18 (fun q => q)]
    · exact (fs.mono (fun f q => by omega) (fun f q => absurd q (fun q => q))).trans ((fz.mono (fun f q => absurd q (fun q => q)) (fun f q => by omega)).trans (fw.mono (fun f q => by omega) (fun f q => by omega)))
/-- rows are as they were, but names are none -/
theorem ZRo.took (hro : ZRo sh xs st P n tg) (hx : Zext sh sh' xs xs') (hm : Znv P' = Znv P ∧ ∀ v, Zagv P P' v) {n' : Nat → Nat} {tg' : Nat → Nat → Nat} (h0 : n' 0 = Znv P' ∧ ∀ i, i < Znv P' → tg' 0 i = 100 + i) (h1 : n' 1 = Znc P' ∧ ∀ c, c < Znc P' → tg' 1 c = 1000 * (c + 1)) (h2 : n' 2 = 0) (h3 : ∀ i, 3 ≤ i → n' i = n i ∧ tg' i = tg i) (f5 : w.1 5 = 0) (f : ∀ i, i = 7 ∨ i = 9 ∨ i = 11 → w.1 i = st.1 i) (f' : ∀ i, i = 8 ∨ i = 10 ∨ (12 ≤ i ∧ i ≤ 14) → w.2 i = st.2 i) : ZRo sh' xs' w P' n' tg' := by
  have hro2 := hro.mono hx (ZfM.rfl (st := st))
  obtain ⟨-, -, -, q3, q4, q5a, q5b, q5c⟩ := hro2
  unfold ZRo
  obtain ⟨a3, b3⟩ := h3 3 (by omega)
  obtain ⟨a4, b4⟩ := h3 4 (by omega)
  obtain ⟨a5, b5⟩ := h3 5 (by omega)
  rw [h2, a3, a4, a5, b3, b4, b5, f5, f 7 (by omega), f 9 (by omega), f 11 (by omega), f' 8 (by omega), f' 10 (by omega), f' 12 (by omega), f' 13 (by omega), f' 14 (by omega), hm.1]
  rw [hm.1] at h0
  refine ⟨h0, h1, ⟨by omega, rfl, fun i hi => absurd hi (by omega)⟩, q3, q4, q5a, q5b, fun i hi => ?_⟩
  obtain ⟨a, b, v, kk, bb, c1, c2, c3⟩ := q5c i hi
  exact ⟨a, b, v, kk, bb, c1, by rw [(hm.2 v).1]; exact c2, c3⟩
end OR
