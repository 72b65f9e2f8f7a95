/-! new cells leave what both know; moves, numbers, literals told -/
set_option maxRecDepth 100000
section NW
variable {E E' : Ze} {sh sh' : Nat → Option Zsh} {xs xs' : Zxs} {P : ZP} {L : ZL} {st st' : zMS} {g : Nat} {n : Nat → Nat} {tg : Nat → Nat → Nat}
theorem ZB_new (hB : ZB E sh xs P g n tg) {T g' : Nat} {s : Zsh} (hT : sh T = none) (hd : Zdt P g' T) (hg : g ≤ g') (hrf : ∀ r, Zrefs s r → Zadd sh T s r ≠ none) (hxs : ∀ t, t ≠ T → xs'.1 t = xs.1 t ∧ xs'.2 t = xs.2 t) :
    ZB E (Zadd sh T s) xs' P g' n tg ∧ Zext sh (Zadd sh T s) xs xs' ∧ Zexo E E sh (Zadd sh T s) xs xs' ∧ Zadd sh T s 1 = sh 1 ∧ xs'.1 1 = xs.1 1 ∧ (∀ c, c < Znc P → Zso P c = 3 ∨ Zso P c = 5 → Zcls3 sh (Zadd sh T s) xs xs' c) ∧ (∀ i, i < 6 → Ztj (Zadd sh T s) i = Ztj sh i) := by
  have keep : ∀ u, sh u ≠ none → Zadd sh T s u = sh u ∧ xs'.1 u = xs.1 u ∧ xs'.2 u = xs.2 u := fun u hu => by
    have : u ≠ T := fun q => hu (by rw [q]; exact hT)
    exact ⟨Zadd_o this, hxs u this⟩
  have kp : ∀ u s', sh u = some s' → Zadd sh T s u = some s' ∧ xs'.1 u = xs.1 u ∧ xs'.2 u = xs.2 u := fun u s' hu => by
    obtain ⟨a, b⟩ := keep u (by rw [hu]; exact fun h => by cases h)
    exact ⟨a.trans hu, b⟩
  have hx : Zext sh (Zadd sh T s) xs xs' := fun u s' hu _ _ => kp u s' hu
  have hB0 := hB
  obtain ⟨b1, b2, b3, b4, b5, b6⟩ := hB
  have k1 : Zadd sh T s 1 = sh 1 := by rw [b6]; exact (kp 1 _ b6).1
  have x1 : xs'.1 1 = xs.1 1 := (kp 1 _ b6).2.1
  have tj : ∀ i, Ztj (Zadd sh T s) i = Ztj sh i := fun i => by unfold Ztj; rw [Zfld_c k1]
  have tjs : ∀ i, i < 6 → Zadd sh T s (Ztj sh i) = sh (Ztj sh i) ∧ xs'.1 (Ztj sh i) = xs.1 (Ztj sh i) := fun i hi => by
    have h := (b4 i hi).1.t
    obtain ⟨a, b, -⟩ := kp _ _ h
    exact ⟨a.trans h.symm, b⟩
  have ej : ∀ i, i < 6 → Zej (Zadd sh T s) i = Zej sh i := fun i hi => by unfold Zej; rw [tj, Zfld_c (tjs i hi).1]
  have hm : Zadd sh T s 1 = some (Zmain (Zadd sh T s)) := by
    rw [k1, b6]
    unfold Zmain
    rw [Zfld_c k1, Zfld_c k1, Zfld_c k1, Zfld_c k1]
  have hcs : ∀ c, c < Znc P → Zso P c = 3 ∨ Zso P c = 5 → Zcls3 sh (Zadd sh T s) xs xs' c := fun c hc hs => by
    obtain ⟨-, f5, f6, -⟩ := b5 c hc hs
    refine ⟨(keep _ f5).1, (keep _ ?_).1, by rw [(keep _ f5).2.1]⟩
    rcases f6 with f6 | ⟨-, -, f8, -⟩
    · rw [f6]
      exact b3.ne
    · exact f8
  have hB' : ZB E (Zadd sh T s) xs' P g' n tg := by
    refine ⟨b1.add hrf, fun t ht => ?_, ?_, fun i hi => ?_, fun c hc hs => ?_, hm⟩
    · by_cases q : t = T
      · rw [q]
        exact hd
      · rw [Zadd_o q] at ht
        exact (b2 t ht).up (Nat.le_refl _) (Nat.le_refl _) hg
    · obtain ⟨⟨s1, s2⟩, ⟨s3, s4⟩, s5, s6⟩ := b3
      refine ⟨⟨s1, (kp _ _ s2).1⟩, ⟨s3, (kp _ _ s4).1⟩, fun i hi => ?_, fun j hj hj2 => ⟨(s6 j hj hj2).1, (kp _ _ (s6 j hj hj2).2).1⟩⟩
      obtain ⟨a, b⟩ := s5 i hi
      obtain ⟨c, d, -⟩ := kp _ _ a
      exact ⟨c, by rw [d]; exact b⟩
    · obtain ⟨a, b, c⟩ := b4 i hi
      rw [tj, ej i hi]
      obtain ⟨cap, rf, he⟩ := a.e
      refine ⟨a.keep (tjs i hi).1 ((kp _ _ he).1.trans he.symm) (by rw [(tjs i hi).2]) (fun r hr => ?_), b, c⟩
      obtain ⟨ci, fs, q1, q2⟩ := hr
      exact (kp _ _ q1).1.trans q1.symm
    · obtain ⟨f1, f5, f6, f7, f8⟩ := b5 c hc hs
      obtain ⟨z1, z2, z3⟩ := hcs c hc hs
      have e0 : Zadd sh T s (1000 * (c + 1)) = sh (1000 * (c + 1)) := (keep _ f7).1
      have e1 : ZtL (Zadd sh T s) c = ZtL sh c := by unfold ZtL; rw [Zfld_c e0]
      have e2 : Zfld (Zadd sh T s) (ZtL (Zadd sh T s) c) 1 = Zfld sh (ZtL sh c) 1 := by rw [e1, Zfld_c z1]
      rw [e2, e1, z1, z2, e0, tj, tj, ej 4 (by decide), ej 5 (by decide)]
      exact ⟨f1, f5, f6, f7, f8⟩
  exact ⟨hB', hx, ⟨fun u s' h1 _ _ _ _ => kp u s' h1, fun f _ => by rw [x1], rfl, fun _ _ => rfl⟩, k1, x1, hcs, fun i _ => tj i⟩
theorem ZA_new (hR : ZPD E sh xs st P L) (hS : ZSr P xs st) (hB : ZB E sh xs P g n tg) (hro : ZRo sh xs st P n tg) {T g' : Nat} {s : Zsh} (hT : sh T = none) (hd : Zdt P g' T) (hg : g ≤ g') (hrf : ∀ r, Zrefs s r → Zadd sh T s r ≠ none) (hxs : ∀ t, t ≠ T → xs'.1 t = xs.1 t ∧ xs'.2 t = xs.2 t) :
    ZPD E (Zadd sh T s) xs' st P L ∧ ZSr P xs' st ∧ ZB E (Zadd sh T s) xs' P g' n tg ∧ ZRo (Zadd sh T s) xs' st P n tg ∧ Zext sh (Zadd sh T s) xs xs' ∧ Zexo E E sh (Zadd sh T s) xs xs' ∧ Zadd sh T s 1 = sh 1 := by
  obtain ⟨hB', hx, ho, k1, x1, hcs, -⟩ := ZB_new hB hT hd hg hrf hxs
  have hro' : ZRo (Zadd sh T s) xs' st P n tg := hro.mono hx ZfM.rfl
  obtain ⟨l2, l4⟩ := hB'.li2 hro'
  exact ⟨hR.ext rfl (fun _ _ => rfl) hx hB'.2.2.2.2.2 l2 l4 hcs (Or.inr (by rw [x1])) (fun f _ => by rw [x1]) ZfM.rfl hR.2.2.2.2.2.2.2.2.2, hS.ext hR.2.2.1 hx (fun f _ => by rw [x1]) ZfM.rfl, hB', hro', hx, ho, k1⟩
/-- a frame of M that leaves searches, and what both know but rows -/
theorem ZSr.m (h : ZSr P xs st) (gf : ZfM (fun f => f ≤ 15 ∨ f = 24 ∨ f = 28 ∨ f = 37 ∨ f = 38 ∨ f = 39 ∨ f = 32 ∨ 55 ≤ f) (fun f => f ≠ 45 ∧ f ≠ 50) st st') : ZSr P xs st' := by
  obtain ⟨a, b, c, d⟩ := h
  refine ⟨by rw [gf.1 46 (by omega)]; exact a, by rw [gf.1 47 (by omega)]; exact b, c.fr rfl (gf.2 45 (by omega)), ?_⟩
  unfold Zfnd at d ⊢
  rw [gf.1 48 (by omega), gf.1 49 (by omega), gf.2 50 (by omega)]
  exact d
/-- what is told is a row's: of field j, M's number k -/
theorem ZC_number (hA : ZA E sh xs st P L g) {sz : Nat} (hf : ∀ a, sz ≤ a → (ZW E sh xs).2 a = none) (x : Int32) : ZTell E sh xs st P [1, 2] (fX1_number (ZW E sh xs) sz (Zl E 1) x) (fX5_number st x) := by
  have hA0 := hA
  obtain ⟨n, tg, hR, hS, hB, hro⟩ := hA
  have hP := hR.1
  have hn := hP.1
  have hb := hR.2.2.1
  obtain ⟨r0, r1, r2, ⟨n6, m7, hnm⟩, r4, r5⟩ := hro
  have hro : ZRo sh xs st P n tg := ⟨r0, r1, r2, ⟨n6, m7, hnm⟩, r4, r5⟩
  have ht3 : Ztj sh 3 = Zfld sh 1 3 := rfl
  rcases Zrng x (a := -9) (b := 9) with ⟨x1, x2⟩ | hx
  · have esz := Zsz hB (show 3 < 6 by decide) xs rfl
    rw [ht3] at esz
    have k3 := (hB.2.2.2.1 3 (by decide)).1.t
    rw [ht3] at k3
    have hb1 : -9 ≤ x.toInt := by
      rw [Int32.lt_iff_toInt_lt] at x1
      have : (-9 : Int32).toInt = -9 := by decide
      omega
    have hb2 : x.toInt ≤ 9 := by
      rw [Int32.le_iff_toInt_le] at x2
      have : (9 : Int32).toInt = 9 := by decide
      omega
    obtain ⟨k, hk⟩ : ∃ k : Nat, (k : Int) = x.toInt + 128 := ⟨(x.toInt + 128).toNat, by omega⟩
    have hxk : x = nI k - 128 := by
      apply Int32.toInt_inj.mp
      show _ = (nI k - nI 128).toInt
      rw [pk_sub_toInt (by omega) (by omega)]
      omega
    by_cases h6 : n 3 = 6
    · refine ZTell_x hA0 1 2 0 rfl ?_ ?_
      · simp only [fX1_number, Zb0 hb.1, Zck _ x1 x2, Zthr_r, Option.bind_some, Zb18 k3, esz, if_pos (show (6 : Int32) ≤ nI (n 3) by rw [h6]; decide), fX1_checkState, if_true, Zthr_l]
      · simp only [fX5_number, Zisin x1 x2, Option.bind_some, Zne10, if_false, m7, if_pos (show nI (n 3) = (6 : Int32) by rw [h6]; rfl), zps, zus_s, if_neg (show ¬ (2 : Int32) ≤ 0 by decide)]
        rfl
    · obtain ⟨E1, w1, hR1, hB1, ho1, hl1⟩ := ZLay hR hB hro hf (fun _ => 1000000 + 100 * g + (2 * 3 + 3)) 1 (fun i j hi hj _ => by omega) (fun i _ => hB.fresh hP.2.1 hn (by decide) g (Nat.le_refl _))
      have hsz : Zl E1 (1000000 + 100 * g + (2 * 3 + 3)) = sz := hl1 0 (by decide)
      obtain ⟨sh', xs', sz', e1, e2, hR', hS', hB', hx', ho', m1⟩ := ZA_add hR1 hS hB1 hro (j := 3) (by decide) (by decide) (ZI_el hB1.2.2.1 (show k < 256 by omega)) (by omega)
      have eva := Zval hB1.2.2.1 (show k < 256 by omega) hxk
      have esz1 := Zsz hB1 (show 3 < 6 by decide) xs rfl
      rw [ht3] at esz1 e1
      have l1 : Zl E1 1 = Zl E 1 := ho1.2.2.2 1 (by rw [hb.1]; exact fun h => by cases h)
      have hb' := hR'.2.2.1
      have ht3' : Ztj sh' 3 = Zfld sh' 1 3 := rfl
      have esz2 := Zsz hB' (show 3 < 6 by decide) xs' rfl
      simp only [if_true] at esz2
      rw [ht3'] at esz2
      have k3' := (hB'.2.2.2.1 3 (by decide)).1.t
      rw [ht3'] at k3'
      rw [w1, ← l1]
      refine ⟨E1, sh', xs', (zus (zus st.1 68 0) 7 (nI (n 3 + 1)), zua st.2 8 (n 3) x), P, L, g + 1, Or.inl ⟨sz', nI (n 3 + 1), ?_, ?_, ?_⟩, ⟨_, _, ?_, ?_, hB', ?_⟩, ho1.trans ho' (fun _ h => h), ?_, fun _ => rfl⟩
      · simp only [fX1_number, Zb0 hR1.2.2.1.1, Zck _ x1 x2, Zthr_r, Option.bind_some, Zb18 k3, esz1, if_neg (show ¬ (6 : Int32) ≤ nI (n 3) from nI_ge (b := 6) (by omega) (by decide)), fX1_checkState, Zne10, if_false, eva, ← hsz, e1, Zb0 hb'.1, Zb18 k3', esz2]
      · simp (disch := omega) only [fX5_number, Zisin x1 x2, Option.bind_some, Zne10, if_false, m7, if_neg (show ¬ nI (n 3) = (6 : Int32) from fun q => h6 ((nI_eq (b := 6) (by omega) (by decide)).mp q)), zps, zus_s, zus_n (show 7 ≠ 68 by decide), if_pos (show (0 : Int32) ≤ 0 by decide), ZMA, nI_1]
      · simp only [zus_n (show 68 ≠ 7 by decide), zus_s]
      · refine hR'.gen Zfr.rfl (ZfM.num (ZfM.arr (ZfM.num ZfM.rfl (f := 68) (v := 0) (by unfold ZMf; omega)) (by unfold ZMf; omega)) (by unfold ZMf; omega)) ?_
        simp only [zus_n (show 32 ≠ 7 by decide), zus_n (show 32 ≠ 68 by decide)]
        exact hR.2.2.2.2.2.2.2.2.2
      · exact hS'.m (ZfM.num (ZfM.arr (ZfM.num ZfM.rfl (f := 68) (v := 0) (by omega)) (by omega)) (by omega))
      · have hro2 := hro.mono hx' (ZfM.rfl (st := st))
        obtain ⟨q0, q1, q2, -, q4, q5⟩ := hro2
        unfold ZRo
        simp only [zus_s, zus_n (show 5 ≠ 7 by decide), zus_n (show 9 ≠ 7 by decide), zus_n (show 11 ≠ 7 by decide), zus_n (show 5 ≠ 68 by decide), zus_n (show 9 ≠ 68 by decide), zus_n (show 11 ≠ 68 by decide), zua_n (show 6 ≠ 8 by decide), zua_n (show 10 ≠ 8 by decide), zua_n (show 12 ≠ 8 by decide), zua_n (show 13 ≠ 8 by decide), zua_n (show 14 ≠ 8 by decide), if_true, true_and, if_neg (show ¬ 0 = 3 by decide), if_neg (show ¬ 1 = 3 by decide), if_neg (show ¬ 2 = 3 by decide), if_neg (show ¬ 4 = 3 by decide), if_neg (show ¬ 5 = 3 by decide), show (0 = 3) = False from eq_false (by decide), show (1 = 3) = False from eq_false (by decide), show (2 = 3) = False from eq_false (by decide), show (4 = 3) = False from eq_false (by decide), show (5 = 3) = False from eq_false (by decide), false_and, if_false]
        refine ⟨q0, q1, q2, ⟨by omega, fun i hi => ?_⟩, q4, q5⟩
        by_cases qi : i = n 3
        · subst qi
          exact ⟨k, by omega, by omega, by rw [if_pos rfl], by simp only [zua_ss]; exact hxk⟩
        · rw [if_neg qi, zua_sn qi]
          exact hnm i (by omega)
      · exact ZfM.num (ZfM.arr (ZfM.num ZfM.rfl (f := 68) (v := 0) (by omega)) (by omega)) (by omega)
  · refine ZTell_x hA0 0 1 0 rfl ?_ ?_
    · simp only [fX1_number, Zck_x _ hx, Zthr_l, Option.bind_some]
    · simp only [fX5_number, Zisin_x hx, Option.bind_some, if_true, zps, zus_s, if_neg (show ¬ (1 : Int32) ≤ 0 by decide)]
      rfl
end NW
