/-! names and numbers told -/
set_option maxRecDepth 100000
/-- X's call that makes cells, and M's answer, alike -/
def Zjt (cl : List Nat) (σ' : zH) (st' : zMS) (fx : Option (zX ⊕ (zH × Nat × Int32))) (fm : Option (zMS × Int32)) : Prop := (∃ sz' r, fx = some (.inr (σ', sz', r)) ∧ fm = some (st', r) ∧ st'.1 68 = 0) ∨ ∃ k c r, cl[k]? = some c ∧ fx = some (.inl (c, σ')) ∧ fm = some (st', r) ∧ st'.1 68 = nI (k + 1)
abbrev ZfTl (st st' : zMS) : Prop := ZfM (fun f => f ≤ 39 ∨ f = 68) (fun f => f ≤ 45) st st'
/-- a call that tells something -/
def ZTell (E : Ze) (sh : Nat → Option Zsh) (xs : Zxs) (st : zMS) (P : ZP) (cl : List Nat) (fx : Option (zX ⊕ (zH × Nat × Int32))) (fm : Option (zMS × Int32)) : Prop := ∃ E' sh' xs' st' P' L' g', Zjt cl (ZW E' sh' xs') st' fx fm ∧ ZA E' sh' xs' st' P' L' g' ∧ Zexo E E' sh sh' xs xs' ∧ ZfTl st st' ∧ ∀ t, Zsy P' t = Zsy P t
section TL
variable {E E' : Ze} {sh sh' : Nat → Option Zsh} {xs xs' : Zxs} {P : ZP} {L : ZL} {st st' : zMS} {g : Nat} {n : Nat → Nat} {tg : Nat → Nat → Nat}
theorem Zexo.trans {E'' : Ze} {sh'' : Nat → Option Zsh} {xs'' : Zxs} (h : Zexo E E' sh sh' xs xs') (k : Zexo E' E'' sh' sh'' xs' xs'') (hl : ∀ t, sh t ≠ none → sh' t ≠ none) : Zexo E E'' sh sh'' xs xs'' := by
  obtain ⟨a1, a2, a3, a4⟩ := h
  obtain ⟨b1, b2, b3, b4⟩ := k
  refine ⟨fun u s h1 h2 h3 h4 h5 => ?_, fun f hf => (b2 f hf).trans (a2 f hf), b3.trans a3, fun t ht => (b4 t (hl t ht)).trans (a4 t ht)⟩
  obtain ⟨c1, c2, c3⟩ := a1 u s h1 h2 h3 h4 h5
  obtain ⟨d1, d2, d3⟩ := b1 u s c1 h2 h3 h4 h5
  exact ⟨d1, d2.trans c2, d3.trans c3⟩
theorem Zcls3.rfl {c : Nat} : Zcls3 sh sh xs xs c := ⟨Eq.refl _, Eq.refl _, Eq.refl _⟩
theorem ZSr.thr {x : Int32} (h : ZSr P xs st) : ZSr P xs (zus st.1 68 x, st.2) := by
  obtain ⟨h1, h2, h3, h4⟩ := h
  refine ⟨by simp only [zus_n (show 46 ≠ 68 by decide)]; exact h1, by simp only [zus_n (show 47 ≠ 68 by decide)]; exact h2, h3, ?_⟩
  unfold Zfnd at h4 ⊢
  simp only [zus_n (show 48 ≠ 68 by decide), zus_n (show 49 ≠ 68 by decide)]
  exact h4
theorem ZRo.thr {x : Int32} (h : ZRo sh xs st P n tg) : ZRo sh xs (zus st.1 68 x, st.2) P n tg := by
  unfold ZRo at h ⊢
  simp only [zus_n (show 5 ≠ 68 by decide), zus_n (show 7 ≠ 68 by decide), zus_n (show 9 ≠ 68 by decide), zus_n (show 11 ≠ 68 by decide)]
  exact h
theorem ZA.thr {x : Int32} (h : ZA E sh xs st P L g) : ZA E sh xs (zus st.1 68 x, st.2) P L g := by
  obtain ⟨n, tg, h1, h2, h3, h4⟩ := h
  exact ⟨n, tg, h1.thr, h2.thr, h3, h4.thr⟩
/-- nothing is told -/
theorem ZTell_x (hA : ZA E sh xs st P L g) {cl : List Nat} {fx : Option (zX ⊕ (zH × Nat × Int32))} {fm : Option (zMS × Int32)} (k c : Nat) (r : Int32) (h1 : cl[k]? = some c) (h2 : fx = some (.inl (c, ZW E sh xs))) (h3 : fm = some ((zus st.1 68 (nI (k + 1)), st.2), r)) : ZTell E sh xs st P cl fx fm :=
  ⟨E, sh, xs, _, P, L, g, Or.inr ⟨k, c, r, h1, h2, h3, by simp only [zus_s]⟩, hA.thr, Zexo.rfl, ZfM.num ZfM.rfl (by omega), fun _ => rfl⟩
theorem ZB.lay (h : ZB E sh xs P g n tg) (h1 : E'.1 = E.1) (h2 : ∀ t, sh t ≠ none → Zl E' t = Zl E t) : ZB E' sh xs P g n tg := by
  obtain ⟨a, b, ⟨⟨s1, s2⟩, ⟨s3, s4⟩, s5, s6⟩, d, e, f⟩ := h
  refine ⟨a, b, ⟨⟨by rw [h1, h2 _ (by rw [s2]; exact fun h => by cases h)]; exact s1, s2⟩, ⟨by rw [h1, h2 _ (by rw [s4]; exact fun h => by cases h)]; exact s3, s4⟩, s5, fun j hj hj2 => ?_⟩, d, e, f⟩
  obtain ⟨k1, k2⟩ := s6 j hj hj2
  exact ⟨by rw [h1, h2 _ (by rw [k2]; exact fun h => by cases h)]; exact k1, k2⟩
/-- the new cells get the tags that are wanted -/
theorem ZLay (hR : ZPD E sh xs st P L) (hB : ZB E sh xs P g n tg) (hro : ZRo sh xs st P n tg) {sz : Nat} (hf : ∀ a, sz ≤ a → (ZW E sh xs).2 a = none) (T : Nat → Nat) (k : Nat) (h1 : ∀ i j, i < k → j < k → T i = T j → i = j) (h2 : ∀ i, i < k → sh (T i) = none) : ∃ E', ZW E sh xs = ZW E' sh xs ∧ ZPD E' sh xs st P L ∧ ZB E' sh xs P g n tg ∧ Zexo E E' sh sh xs xs ∧ ∀ i, i < k → Zl E' (T i) = sz + i := by
  obtain ⟨E1, e1, e2, e3, e4⟩ := Zlay (xs := xs) hB.1 hf T k h1 h2
  obtain ⟨l2, l4⟩ := hB.li2 hro
  exact ⟨E1, e1.symm, hR.ext e2 e3 Zext.rfl hB.2.2.2.2.2 l2 l4 (fun _ _ _ => Zcls3.rfl) (Or.inr rfl) (fun _ _ => rfl) ZfM.rfl hR.2.2.2.2.2.2.2.2.2, hB.lay e2 e3, ⟨fun _ _ h _ _ _ _ => ⟨h, rfl, rfl⟩, fun _ _ => rfl, e2, e3⟩, e4⟩
theorem ZI_el {k : Nat} (hs : Zsta E sh xs) (hk : k < 256) : Zel sh (60000 + k) := ⟨19, _, (hs.2.2.1 k hk).1, by decide⟩
/-- a list's size -/
theorem Zsz (hB : ZB E sh xs P g n tg) {j : Nat} (hj : j < 6) (xs' : Zxs) (h : xs'.1 (Ztj sh j) 2 = xs.1 (Ztj sh j) 2) : fJ2_size (ZW E sh xs') (Zl E (Ztj sh j)) = some (nI (n j)) := by
  obtain ⟨a, -, -⟩ := hB.2.2.2.1 j hj
  obtain ⟨cap, rf, k1, k2, k3, -⟩ := a
  simp only [fJ2_size, Zb18 k1, Option.bind_some, h, k3]
theorem ZC_name (hA : ZA E sh xs st P L g) {sz : Nat} (hf : ∀ a, sz ≤ a → (ZW E sh xs).2 a = none) (x : Int32) : ZTell E sh xs st P [3, 2] (fX1_name (ZW E sh xs) sz (Zl E 1) x) (fX5_name st x) := by
  have hA0 := hA
  obtain ⟨n, tg, hR, hS, hB, hro⟩ := hA
  have hP := hR.1
  have hn := hP.1
  have hb := hR.2.2.1
  have hX := hR.2.2.2.1
  have hM := hR.2.2.2.2.1
  obtain ⟨r0, r1, ⟨n6, m5, hnm⟩, r3, r4, r5⟩ := hro
  have hro : ZRo sh xs st P n tg := ⟨r0, r1, ⟨n6, m5, hnm⟩, r3, r4, r5⟩
  have ht2 : Ztj sh 2 = Zfld sh 1 2 := rfl
  rcases Zint_cases x (show Znv P < 2 ^ 31 by omega) with ⟨v, hv, rfl⟩ | ⟨hx, -⟩
  · have ev := ZX_var (E := E) hP hX.1 hv
    have esz := Zsz hB (show 2 < 6 by decide) xs rfl
    rw [ht2] at esz
    have k2 := (hB.2.2.2.1 2 (by decide)).1.t
    rw [ht2] at k2
    by_cases h6 : n 2 = 6
    · refine ZTell_x hA0 1 2 0 rfl ?_ ?_
      · simp only [fX1_name, Zb0 hb.1, ev, Zthr_r, Option.bind_some, Zb18 k2, esz, if_pos (show (6 : Int32) ≤ nI (n 2) by rw [h6]; decide), fX1_checkState, if_true, Zthr_l]
      · simp only [fX5_name, ZM_var hP hM hv, Option.bind_some, Zne10, if_false, m5, if_pos (show nI (n 2) = (6 : Int32) by rw [h6]; rfl), zps, zus_s, if_neg (show ¬ (2 : Int32) ≤ 0 by decide)]
        rfl
    · obtain ⟨E1, w1, hR1, hB1, ho1, hl1⟩ := ZLay hR hB hro hf (fun _ => 1000000 + 100 * g + (2 * 2 + 3)) 1 (fun i j hi hj _ => by omega) (fun i _ => hB.fresh hP.2.1 hn (by decide) g (Nat.le_refl _))
      have hsz : Zl E1 (1000000 + 100 * g + (2 * 2 + 3)) = sz := hl1 0 (by decide)
      obtain ⟨sh', xs', sz', e1, e2, hR', hS', hB', hx', ho', m1⟩ := ZA_add hR1 hS hB1 hro (j := 2) (by decide) (by decide) (ZI_el hB1.2.2.1 (show 128 + v < 256 by omega)) (by omega)
      have eva := Zval (x := nI v) hB1.2.2.1 (show 128 + v < 256 by omega) (by
        show nI v = nI (128 + v) - nI 128
        rw [pk_sub (by omega), Nat.add_sub_cancel_left])
      have esz1 := Zsz hB1 (show 2 < 6 by decide) xs rfl
      rw [ht2] at esz1 e1
      have ev1 := ZX_var (E := E1) hP hX.1 hv
      have l1 : Zl E1 1 = Zl E 1 := ho1.2.2.2 1 (by rw [hb.1]; exact fun h => by cases h)
      have hb' := hR'.2.2.1
      have ht2' : Ztj sh' 2 = Zfld sh' 1 2 := rfl
      have esz2 := Zsz hB' (show 2 < 6 by decide) xs' rfl
      simp only [if_true] at esz2
      have hfl : Zfld sh' 1 2 = Zfld sh 1 2 := Zfld_c m1
      rw [ht2'] at esz2
      have k2' := (hB'.2.2.2.1 2 (by decide)).1.t
      rw [ht2'] at k2'
      have hsz2 : sz' = sz ∨ sz' = sz + 1 := by rw [← hsz]; exact e2
      rw [w1, ← l1]
      refine ⟨E1, sh', xs', (zus (zus st.1 68 0) 5 (nI (n 2 + 1)), zua st.2 6 (n 2) (nI v)), P, L, g + 1, Or.inl ⟨sz', nI (n 2 + 1), ?_, ?_, ?_⟩, ⟨_, _, ?_, ?_, hB', ?_⟩, ho1.trans ho' (fun _ h => h), ?_, fun _ => rfl⟩
      · simp only [fX1_name, Zb0 hR1.2.2.1.1, ev1, Zthr_r, Option.bind_some, Zb18 k2, esz1, if_neg (show ¬ (6 : Int32) ≤ nI (n 2) from nI_ge (b := 6) (by omega) (by decide)), fX1_checkState, Zne10, if_false, eva, ← hsz, e1, Zb0 hb'.1, Zb18 k2', esz2]
      · simp (disch := omega) only [fX5_name, ZM_var hP hM hv, Option.bind_some, Zne10, if_false, m5, if_neg (show ¬ nI (n 2) = (6 : Int32) from fun q => h6 ((nI_eq (b := 6) (by omega) (by decide)).mp q)), zps, zus_s, zus_n (show 5 ≠ 68 by decide), if_pos (show (0 : Int32) ≤ 0 by decide), ZMA, nI_1]
      · simp only [zus_n (show 68 ≠ 5 by decide), zus_s]
      · refine hR'.gen Zfr.rfl (ZfM.num (ZfM.arr (ZfM.num ZfM.rfl (f := 68) (v := 0) (by unfold ZMf; omega)) (by unfold ZMf; omega)) (by unfold ZMf; omega)) ?_
        simp only [zus_n (show 32 ≠ 5 by decide), zus_n (show 32 ≠ 68 by decide)]
        exact hR.2.2.2.2.2.2.2.2.2
      · exact hS'.ext hR'.2.2.1 Zext.rfl (fun _ _ => rfl) (ZfM.num (ZfM.arr (ZfM.num ZfM.rfl (f := 68) (v := 0) (by omega)) (by omega)) (by omega))
      · have hro2 := hro.mono hx' (ZfM.rfl (st := st))
        obtain ⟨q0, q1, -, q3, q4, q5⟩ := hro2
        unfold ZRo
        simp only [zus_s, zus_n (show 7 ≠ 5 by decide), zus_n (show 9 ≠ 5 by decide), zus_n (show 11 ≠ 5 by decide), zus_n (show 7 ≠ 68 by decide), zus_n (show 9 ≠ 68 by decide), zus_n (show 11 ≠ 68 by decide), zua_n (show 8 ≠ 6 by decide), zua_n (show 10 ≠ 6 by decide), zua_n (show 12 ≠ 6 by decide), zua_n (show 13 ≠ 6 by decide), zua_n (show 14 ≠ 6 by decide), if_true, true_and, if_neg (show ¬ 0 = 2 by decide), if_neg (show ¬ 1 = 2 by decide), if_neg (show ¬ 3 = 2 by decide), if_neg (show ¬ 4 = 2 by decide), if_neg (show ¬ 5 = 2 by decide), show (0 = 2) = False from eq_false (by decide), show (1 = 2) = False from eq_false (by decide), show (3 = 2) = False from eq_false (by decide), show (4 = 2) = False from eq_false (by decide), show (5 = 2) = False from eq_false (by decide), false_and, if_false]
        refine ⟨q0, q1, ⟨by omega, fun i hi => ?_⟩, q3, q4, q5⟩
        by_cases qi : i = n 2
        · subst qi
          exact ⟨v, hv, by rw [if_pos rfl], by simp only [zua_ss]⟩
        · rw [if_neg qi, zua_sn qi]
          exact hnm i (by omega)
      · exact ZfM.num (ZfM.arr (ZfM.num ZfM.rfl (f := 68) (v := 0) (by omega)) (by omega)) (by omega)
  · refine ZTell_x hA0 0 3 0 rfl ?_ ?_
    · simp only [fX1_name, Zb0 hb.1, ZX_var_x hX.1 hx, Zthr_l, Option.bind_some]
    · simp only [fX5_name, ZM_var_x hP hM hx, Option.bind_some, if_true, zps, zus_s, if_neg (show ¬ (1 : Int32) ≤ 0 by decide)]
      rfl
end TL
