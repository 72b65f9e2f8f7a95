/-! moves and literals told -/
set_option maxRecDepth 100000
section MV
variable {E E' : Ze} {sh sh' : Nat → Option Zsh} {xs xs' : Zxs} {P : ZP} {L : ZL} {st st' : zMS} {g : Nat} {n : Nat → Nat} {tg : Nat → Nat → Nat}
theorem Znw6 {T : Nat} : zset (ZW E sh xs) (Zl E T) (.inr (6, zfd6)) = ZW E (Zadd sh T Zo6) (Zs2 xs.1 T fun _ => 0, xs.2) := by
  refine Znew (fun t ht => ⟨Zs2_o ht, rfl⟩) ?_
  simp only [Zcell, Zo6, Zob, zfd6, List.mapIdx_cons, List.mapIdx_nil, Zfv, Zs2_n]
theorem Znw7 {T : Nat} : zset (ZW E sh xs) (Zl E T) (.inr (7, zfd7)) = ZW E (Zadd sh T Zo7) (Zs2 xs.1 T fun _ => 0, xs.2) := by
  refine Znew (fun t ht => ⟨Zs2_o ht, rfl⟩) ?_
  simp only [Zcell, Zo7, Zob, zfd7, List.mapIdx_cons, List.mapIdx_nil, Zfv, Zs2_n]
theorem Znw5 {T : Nat} : zset (ZW E sh xs) (Zl E T) (.inr (5, zfd5)) = ZW E (Zadd sh T Zo5) (Zs2 xs.1 T fun _ => 0, xs.2) := by
  refine Znew (fun t ht => ⟨Zs2_o ht, rfl⟩) ?_
  simp only [Zcell, Zo5, Zob, zfd5, List.mapIdx_cons, List.mapIdx_nil, Zfv, Zs2_n]
theorem Zrefs_none {c : Nat} {m : Nat} {s : Nat → Option Zsh} : ∀ r, Zrefs (Zob c (List.replicate m none)) r → s r ≠ none := fun r h => by
  have h' : some r ∈ List.replicate m (none : Option Nat) := h
  rw [List.mem_replicate] at h'
  cases h'.2
theorem ZC_move (hA : ZA E sh xs st P L g) {sz : Nat} (hf : ∀ a, sz ≤ a → (ZW E sh xs).2 a = none) (x y z : Int32) : ZTell E sh xs st P [1, 2] (fX1_move (ZW E sh xs) sz (Zl E 1) x y z) (fX5_move st x y z) := by
  have hA0 := hA
  obtain ⟨n, tg, hR, hS, hB, hro⟩ := hA
  have hP := hR.1
  have hn := hP.1
  have hb := hR.2.2.1
  have hX := hR.2.2.2.1
  obtain ⟨r0, r1, r2, r3, ⟨n6, m9, hnm⟩, r5⟩ := hro
  have hro : ZRo sh xs st P n tg := ⟨r0, r1, r2, r3, ⟨n6, m9, hnm⟩, r5⟩
  have ht4 : Ztj sh 4 = Zfld sh 1 4 := rfl
  have hthr : ¬ (1 : Int32) ≤ 0 := by decide
  have e15 : zaI (ZW E sh xs) ((ZW E sh xs).1 0) (0 : Int32) = some 15 := by
    rw [ZW_fst, hb.2.1.1]
    have := (ZbI6 hb.2.1.2 (by decide)).1 E xs 0 (by decide)
    rw [show (nI 0 : Int32) = 0 from rfl] at this
    rw [this, hX.2.2.1.1]
  rcases Zrng x (a := 0) (b := 5) with ⟨x1, x2⟩ | hx
  · rcases Zrng y (a := 0) (b := 15) with ⟨y1, y2⟩ | hy
    · rcases Zrng z (a := 0) (b := 5) with ⟨z1, z2⟩ | hz
      · obtain ⟨a, ha, rfl⟩ := Znat (b := 5) x1 x2 (by decide)
        obtain ⟨b, hb15, rfl⟩ := Znat (b := 15) y1 y2 (by decide)
        obtain ⟨d, hd, rfl⟩ := Znat (b := 5) z1 z2 (by decide)
        have esz := Zsz hB (show 4 < 6 by decide) xs rfl
        rw [ht4] at esz
        have k4 := (hB.2.2.2.1 4 (by decide)).1.t
        rw [ht4] at k4
        by_cases h6 : n 4 = 16
        · refine ZTell_x hA0 1 2 0 rfl ?_ ?_
          · simp only [fX1_move, Zb0 hb.1, Zck _ x1 x2, e15, Zck _ y1 y2, Zck _ z1 z2, Zthr_r, Option.bind_some, Zb18 k4, esz, if_pos (show (16 : Int32) ≤ nI (n 4) by rw [h6]; decide), fX1_checkState, if_true, Zthr_l]
          · simp only [fX5_move, Zisin x1 x2, Zisin y1 y2, Zisin z1 z2, Option.bind_some, Zne10, if_false, m9, if_pos (show nI (n 4) = (16 : Int32) by rw [h6]; rfl), Zesc_r, zps, zus_s, if_neg (show ¬ (2 : Int32) ≤ 0 by decide)]
            rfl
        · obtain ⟨E1, w1, hR1, hB1, ho1, hl1⟩ := ZLay hR hB hro hf (fun i => if i = 0 then 1000000 + 100 * g + 90 else 1000000 + 100 * (g + 1) + (2 * 4 + 3)) 2 (fun i j hi hj q => by
            have ci : i = 0 ∨ i = 1 := by omega
            have cj : j = 0 ∨ j = 1 := by omega
            rcases ci with rfl | rfl <;> rcases cj with rfl | rfl <;> simp at q ⊢ <;> omega) (fun i hi => by
            have ci : i = 0 ∨ i = 1 := by omega
            rcases ci with rfl | rfl
            · exact hB.fresh hP.2.1 hn (by decide) g (Nat.le_refl _)
            · exact hB.fresh hP.2.1 hn (by decide) (g + 1) (Nat.le_succ _))
          obtain ⟨T, hT⟩ : ∃ T, T = 1000000 + 100 * g + 90 := ⟨_, rfl⟩
          have hs0 : Zl E1 T = sz := by rw [hT]; exact hl1 0 (by decide)
          have hs1 : Zl E1 (1000000 + 100 * (g + 1) + (2 * 4 + 3)) = sz + 1 := hl1 1 (by decide)
          have hTn : sh T = none := by rw [hT]; exact hB.fresh hP.2.1 hn (by decide) g (Nat.le_refl _)
          obtain ⟨x', hx'⟩ : ∃ x' : Zxs, x' = (zua (zua (zua (Zs2 xs.1 T fun _ => 0) T 0 (nI a)) T 1 (nI b)) T 2 (nI d), xs.2) := ⟨_, rfl⟩
          have xo : ∀ t, t ≠ T → x'.1 t = xs.1 t ∧ x'.2 t = xs.2 t := fun t ht => by
            rw [hx']
            exact ⟨by simp only [zua_n ht, Zs2_o ht], rfl⟩
          have x0 : x'.1 T 0 = nI a := by subst hx'; simp only [zua_sn (show 0 ≠ 2 by decide), zua_sn (show 0 ≠ 1 by decide), zua_ss]
          have x1' : x'.1 T 1 = nI b := by subst hx'; simp only [zua_sn (show 1 ≠ 2 by decide), zua_ss]
          have x2' : x'.1 T 2 = nI d := by subst hx'; simp only [zua_ss]
          obtain ⟨hR2, hS2, hB2, hro2, hxe2, ho2, m2⟩ := ZA_new (E := E1) (s := Zo6) (xs' := x') hR1 hS hB1 hro hTn (g' := g + 1) (by rw [hT]; unfold Zdt; omega) (Nat.le_succ _) (Zrefs_none (m := 3)) xo
          have hel : Zel (Zadd sh T Zo6) T := ⟨6, _, Zadd_n, by decide⟩
          have ht4' : Ztj (Zadd sh T Zo6) 4 = Zfld sh 1 4 := Zfld_c m2
          obtain ⟨sh', xs', sz', e1, e2, hR', hS', hB', hxe', ho', m1⟩ := ZA_add hR2 hS2 hB2 hro2 (j := 4) (by decide) (by decide) hel (by omega)
          have esz1 := Zsz hB1 (show 4 < 6 by decide) xs rfl
          rw [ht4] at esz1
          rw [ht4'] at e1
          have l1 : Zl E1 1 = Zl E 1 := ho1.2.2.2 1 (by rw [hb.1]; exact fun h => by cases h)
          have hb1 := hR1.2.2.1
          have hb' := hR'.2.2.1
          have ht4'' : Ztj sh' 4 = Zfld sh' 1 4 := rfl
          have esz2 := Zsz hB' (show 4 < 6 by decide) xs' rfl
          simp only [if_true] at esz2
          rw [ht4''] at esz2
          have k4' := (hB'.2.2.2.1 4 (by decide)).1.t
          rw [ht4''] at k4'
          have e15' : zaI (ZW E1 sh xs) ((ZW E1 sh xs).1 0) (0 : Int32) = some 15 := by rw [← w1]; exact e15
          have k42 : Zadd sh T Zo6 (Zfld sh 1 4) = some (Zo18 (Zej sh 4)) := Zadd_k k4 hTn
          rw [w1, ← l1]
          have q6 : (Zadd sh T Zo6) T = some Zo6 := Zadd_n
          refine ⟨E1, sh', xs', (zus (zus st.1 68 0) 9 (nI (n 4 + 1)), zua (zua (zua st.2 10 (3 * n 4) (nI a)) 10 (3 * n 4 + 1) (nI b)) 10 (3 * n 4 + 2) (nI d)), P, L, g + 1 + 1, Or.inl ⟨sz', nI (n 4 + 1), ?_, ?_, ?_⟩, ⟨_, _, ?_, ?_, hB', ?_⟩, (ho1.trans ho2 (fun _ h => h)).trans ho' (fun t ht => ?_), ?_, fun _ => rfl⟩
          · have efin : fJ2_add (ZW E1 (Zadd sh T Zo6) x') (sz + 1) (Zl E1 (Zfld sh 1 4)) sz = some (ZW E1 sh' xs', sz', 1) := by
              rw [← hs1, ← hs0]
              exact e1
            have eini : fX7_init (ZW E1 (Zadd sh T Zo6) (Zs2 xs.1 T fun _ => 0, xs.2)) sz (nI a) (nI b) (nI d) = some (ZW E1 (Zadd sh T Zo6) x') := by
              rw [← hs0, hx']
              simp only [fX7_init, fJ7_init, Option.bind_some, Zb6 q6]
            have enew : zset (ZW E1 sh xs) sz (.inr (6, zfd6)) = ZW E1 (Zadd sh T Zo6) (Zs2 xs.1 T fun _ => 0, xs.2) := by
              rw [← hs0]
              exact Znw6
            simp only [fX1_move, Zb0 hb1.1, Zck _ x1 x2, e15', Zck _ y1 y2, Zck _ z1 z2, Zthr_r, Option.bind_some, Zb18 k4, esz1, if_neg (show ¬ (16 : Int32) ≤ nI (n 4) from nI_ge (b := 16) (by omega) (by decide)), fX1_checkState, Zne10, if_false, enew, eini, Zb18 k42, efin, Zb0 hb'.1, Zb18 k4', esz2]
          · have m3 : (3 : Int32) * nI (n 4) = nI (3 * n 4) := by
              show nI 3 * nI (n 4) = _
              exact pk_mul 3 (n 4)
            have m32 : nI (3 * n 4) + 2 = nI (3 * n 4 + 2) := nI_add (3 * n 4) 2
            simp (disch := omega) only [fX5_move, Zisin x1 x2, Zisin y1 y2, Zisin z1 z2, Option.bind_some, Zne10, if_false, m9, if_neg (show ¬ nI (n 4) = (16 : Int32) from fun q => h6 ((nI_eq (b := 16) (by omega) (by decide)).mp q)), Zesc_r, zps, zus_s, zus_n (show 9 ≠ 68 by decide), if_pos (show (0 : Int32) ≤ 0 by decide), m3, nI_1, m32, ZMA]
          · simp only [zus_n (show 68 ≠ 9 by decide), zus_s]
          · refine hR'.gen Zfr.rfl (ZfM.num (ZfM.arr (ZfM.arr (ZfM.arr (ZfM.num ZfM.rfl (f := 68) (v := 0) (by unfold ZMf; omega)) (by unfold ZMf; omega)) (by unfold ZMf; omega)) (by unfold ZMf; omega)) (by unfold ZMf; omega)) ?_
            simp only [zus_n (show 32 ≠ 9 by decide), zus_n (show 32 ≠ 68 by decide)]
            exact hR.2.2.2.2.2.2.2.2.2
          · exact hS'.m (ZfM.num (ZfM.arr (ZfM.arr (ZfM.arr (ZfM.num ZfM.rfl (f := 68) (v := 0) (by omega)) (by omega)) (by omega)) (by omega)) (by omega))
          · have hro3 := hro2.mono hxe' (ZfM.rfl (st := st))
            obtain ⟨q0, q1, q2, q3, ⟨-, -, qm⟩, q5⟩ := hro3
            unfold ZRo
            simp only [zus_s, zus_n (show 5 ≠ 9 by decide), zus_n (show 7 ≠ 9 by decide), zus_n (show 11 ≠ 9 by decide), zus_n (show 5 ≠ 68 by decide), zus_n (show 7 ≠ 68 by decide), zus_n (show 11 ≠ 68 by decide), zua_n (show 6 ≠ 10 by decide), zua_n (show 8 ≠ 10 by decide), zua_n (show 12 ≠ 10 by decide), zua_n (show 13 ≠ 10 by decide), zua_n (show 14 ≠ 10 by decide), if_true, true_and, if_neg (show ¬ 0 = 4 by decide), if_neg (show ¬ 1 = 4 by decide), if_neg (show ¬ 2 = 4 by decide), if_neg (show ¬ 3 = 4 by decide), if_neg (show ¬ 5 = 4 by decide), show (0 = 4) = False from eq_false (by decide), show (1 = 4) = False from eq_false (by decide), show (2 = 4) = False from eq_false (by decide), show (3 = 4) = False from eq_false (by decide), show (5 = 4) = False from eq_false (by decide), false_and, if_false]
            refine ⟨q0, q1, q2, q3, ⟨by omega, fun i hi => ?_⟩, q5⟩
            by_cases qi : i = n 4
            · subst qi
              obtain ⟨w6, w7⟩ := hxe'.ob (show Zadd sh T Zo6 T = some (Zob 6 [none, none, none]) from q6) (by omega) (by decide)
              simp only [if_true]
              rw [w7]
              refine ⟨by omega, w6, a, b, d, ha, hb15, hd, x0, x1', x2', ?_, ?_, ?_⟩
              · simp only [zua_sn (show 3 * n 4 ≠ 3 * n 4 + 2 by omega), zua_sn (show 3 * n 4 ≠ 3 * n 4 + 1 by omega), zua_ss]
              · simp only [zua_sn (show 3 * n 4 + 1 ≠ 3 * n 4 + 2 by omega), zua_ss]
              · simp only [zua_ss]
            · simp only [if_neg qi]
              have : i < n 4 := by omega
              rw [zua_sn (show 3 * i ≠ 3 * n 4 + 2 by omega), zua_sn (show 3 * i ≠ 3 * n 4 + 1 by omega), zua_sn (show 3 * i ≠ 3 * n 4 by omega), zua_sn (show 3 * i + 1 ≠ 3 * n 4 + 2 by omega), zua_sn (show 3 * i + 1 ≠ 3 * n 4 + 1 by omega), zua_sn (show 3 * i + 1 ≠ 3 * n 4 by omega), zua_sn (show 3 * i + 2 ≠ 3 * n 4 + 2 by omega), zua_sn (show 3 * i + 2 ≠ 3 * n 4 + 1 by omega), zua_sn (show 3 * i + 2 ≠ 3 * n 4 by omega)]
              exact qm i this
          · exact fun q => by
              have : t ≠ T := fun h => ht (by rw [h]; exact hTn)
              rw [Zadd_o this] at q
              exact ht q
          · exact ZfM.num (ZfM.arr (ZfM.arr (ZfM.arr (ZfM.num ZfM.rfl (f := 68) (v := 0) (by omega)) (by omega)) (by omega)) (by omega)) (by omega)
      · refine ZTell_x hA0 0 1 0 rfl ?_ ?_
        · simp only [fX1_move, Zck _ x1 x2, e15, Zck _ y1 y2, Zck_x _ hz, Zthr_r, Zthr_l, Option.bind_some]
        · simp only [fX5_move, Zisin x1 x2, Zisin y1 y2, Zisin_x hz, Option.bind_some, Zne10, if_false, if_true, Zesc_l, zps, zus_s, if_neg hthr]
          rfl
    · refine ZTell_x hA0 0 1 0 rfl ?_ ?_
      · simp only [fX1_move, Zck _ x1 x2, e15, Zck_x _ hy, Zthr_r, Zthr_l, Option.bind_some]
      · simp only [fX5_move, Zisin x1 x2, Zisin_x hy, Option.bind_some, Zne10, if_false, if_true, Zesc_l, zps, zus_s, if_neg hthr]
        rfl
  · refine ZTell_x hA0 0 1 0 rfl ?_ ?_
    · simp only [fX1_move, Zck_x _ hx, Zthr_l, Option.bind_some]
    · simp only [fX5_move, Zisin_x hx, Option.bind_some, if_true, Zesc_l, zps, zus_s, if_neg hthr]
      rfl
theorem ZC_literal (hA : ZA E sh xs st P L g) {sz : Nat} (hf : ∀ a, sz ≤ a → (ZW E sh xs).2 a = none) (x y : Int32) (bb : Bool) : ZTell E sh xs st P [3, 1, 2] (fX1_literal (ZW E sh xs) sz (Zl E 1) x y (if bb = true then 1 else 0)) (fX5_literal st x y (if bb = true then 1 else 0)) := by
  have hA0 := hA
  obtain ⟨n, tg, hR, hS, hB, hro⟩ := hA
  have hP := hR.1
  have hn := hP.1
  have hb := hR.2.2.1
  have hX := hR.2.2.2.1
  have hM := hR.2.2.2.2.1
  obtain ⟨r0, r1, r2, r3, r4, n6, m11, hnm⟩ := hro
  have hro : ZRo sh xs st P n tg := ⟨r0, r1, r2, r3, r4, n6, m11, hnm⟩
  have ht5 : Ztj sh 5 = Zfld sh 1 5 := rfl
  obtain ⟨d, hd⟩ : ∃ d : Int32, d = if bb = true then 1 else 0 := ⟨_, rfl⟩
  have hd01 : d = 0 ∨ d = 1 := by rw [hd]; cases bb <;> simp
  have hzb : zb d = d := by rw [hd]; exact Zzb
  rw [← hd]
  rcases Zint_cases x (show Znv P < 2 ^ 31 by omega) with ⟨v, hv, rfl⟩ | ⟨hx, -⟩
  · by_cases hy : Zisv P v y
    · have ex := ZX_cv (E := E) hP hb hX hv hy
      have em := (ZM_isv hP hM hv y).1 hy
      have hy0 := hy
      obtain ⟨hk2, k, hk3, rfl⟩ := hy
      have vk := Zvs_le (k := Zkd P v)
      have k32 : k < 32 := by omega
      have esz := Zsz hB (show 5 < 6 by decide) xs rfl
      rw [ht5] at esz
      have k5 := (hB.2.2.2.1 5 (by decide)).1.t
      rw [ht5] at k5
      by_cases h6 : n 5 = 6
      · refine ZTell_x hA0 2 2 0 rfl ?_ ?_
        · simp only [fX1_literal, Zb0 hb.1, ex, Zthr_r, Option.bind_some, Zb18 k5, esz, if_pos (show (6 : Int32) ≤ nI (n 5) by rw [h6]; decide), fX1_checkState, if_true, Zthr_l]
        · simp only [fX5_literal, ZM_var hP hM hv, em, Option.bind_some, Zne10, if_false, m11, if_pos (show nI (n 5) = (6 : Int32) by rw [h6]; rfl), zps, zus_s, if_neg (show ¬ (3 : Int32) ≤ 0 by decide)]
          rfl
      · obtain ⟨E1, w1, hR1, hB1, ho1, hl1⟩ := ZLay hR hB hro hf (fun i => if i = 0 then 1000000 + 100 * g + 90 else 1000000 + 100 * (g + 1) + (2 * 5 + 3)) 2 (fun i j hi hj q => by
          have ci : i = 0 ∨ i = 1 := by omega
          have cj : j = 0 ∨ j = 1 := by omega
          rcases ci with rfl | rfl <;> rcases cj with rfl | rfl <;> simp at q ⊢ <;> omega) (fun i hi => by
          have ci : i = 0 ∨ i = 1 := by omega
          rcases ci with rfl | rfl
          · exact hB.fresh hP.2.1 hn (by decide) g (Nat.le_refl _)
          · exact hB.fresh hP.2.1 hn (by decide) (g + 1) (Nat.le_succ _))
        obtain ⟨T, hT⟩ : ∃ T, T = 1000000 + 100 * g + 90 := ⟨_, rfl⟩
        have hs0 : Zl E1 T = sz := by rw [hT]; exact hl1 0 (by decide)
        have hs1 : Zl E1 (1000000 + 100 * (g + 1) + (2 * 5 + 3)) = sz + 1 := hl1 1 (by decide)
        have hTn : sh T = none := by rw [hT]; exact hB.fresh hP.2.1 hn (by decide) g (Nat.le_refl _)
        obtain ⟨x', hx'⟩ : ∃ x' : Zxs, x' = (zua (zua (zua (Zs2 xs.1 T fun _ => 0) T 0 (nI v)) T 1 (nI k)) T 2 d, xs.2) := ⟨_, rfl⟩
        have xo : ∀ t, t ≠ T → x'.1 t = xs.1 t ∧ x'.2 t = xs.2 t := fun t ht => by
          rw [hx']
          exact ⟨by simp only [zua_n ht, Zs2_o ht], rfl⟩
        have x0 : x'.1 T 0 = nI v := by subst hx'; simp only [zua_sn (show 0 ≠ 2 by decide), zua_sn (show 0 ≠ 1 by decide), zua_ss]
        have x1' : x'.1 T 1 = nI k := by subst hx'; simp only [zua_sn (show 1 ≠ 2 by decide), zua_ss]
        have x2' : x'.1 T 2 = d := by subst hx'; simp only [zua_ss]
        obtain ⟨hR2, hS2, hB2, hro2, hxe2, ho2, m2⟩ := ZA_new (E := E1) (s := Zo7) (xs' := x') hR1 hS hB1 hro hTn (g' := g + 1) (by rw [hT]; unfold Zdt; omega) (Nat.le_succ _) (Zrefs_none (m := 3)) xo
        have hel : Zel (Zadd sh T Zo7) T := ⟨7, _, Zadd_n, by decide⟩
        have ht5' : Ztj (Zadd sh T Zo7) 5 = Zfld sh 1 5 := Zfld_c m2
        obtain ⟨sh', xs', sz', e1, e2, hR', hS', hB', hxe', ho', m1⟩ := ZA_add hR2 hS2 hB2 hro2 (j := 5) (by decide) (by decide) hel (by omega)
        have esz1 := Zsz hB1 (show 5 < 6 by decide) xs rfl
        rw [ht5] at esz1
        rw [ht5'] at e1
        have l1 : Zl E1 1 = Zl E 1 := ho1.2.2.2 1 (by rw [hb.1]; exact fun h => by cases h)
        have hb1 := hR1.2.2.1
        have hb' := hR'.2.2.1
        have ht5'' : Ztj sh' 5 = Zfld sh' 1 5 := rfl
        have esz2 := Zsz hB' (show 5 < 6 by decide) xs' rfl
        simp only [if_true] at esz2
        rw [ht5''] at esz2
        have k5' := (hB'.2.2.2.1 5 (by decide)).1.t
        rw [ht5''] at k5'
        have ex1 := ZX_cv (E := E1) hP hb1 hX hv hy0
        have k52 : Zadd sh T Zo7 (Zfld sh 1 5) = some (Zo18 (Zej sh 5)) := Zadd_k k5 hTn
        rw [w1, ← l1]
        have q7 : (Zadd sh T Zo7) T = some Zo7 := Zadd_n
        refine ⟨E1, sh', xs', (zus (zus st.1 68 0) 11 (nI (n 5 + 1)), zua (zua (zua st.2 12 (n 5) (nI v)) 13 (n 5) (nI k)) 14 (n 5) d), P, L, g + 1 + 1, Or.inl ⟨sz', nI (n 5 + 1), ?_, ?_, ?_⟩, ⟨_, _, ?_, ?_, hB', ?_⟩, (ho1.trans ho2 (fun _ h => h)).trans ho' (fun t ht => ?_), ?_, fun _ => rfl⟩
        · have efin : fJ2_add (ZW E1 (Zadd sh T Zo7) x') (sz + 1) (Zl E1 (Zfld sh 1 5)) sz = some (ZW E1 sh' xs', sz', 1) := by
            rw [← hs1, ← hs0]
            exact e1
          have eini : fX8_init (ZW E1 (Zadd sh T Zo7) (Zs2 xs.1 T fun _ => 0, xs.2)) sz (nI v) (nI k) d = some (ZW E1 (Zadd sh T Zo7) x') := by
            rw [← hs0, hx']
            simp only [fX8_init, fJ7_init, Option.bind_some, Zb7 q7, if_pos hd01]
          have enew : zset (ZW E1 sh xs) sz (.inr (7, zfd7)) = ZW E1 (Zadd sh T Zo7) (Zs2 xs.1 T fun _ => 0, xs.2) := by
            rw [← hs0]
            exact Znw7
          simp only [fX1_literal, Zb0 hb1.1, ex1, Zthr_r, Option.bind_some, Zb18 k5, esz1, if_neg (show ¬ (6 : Int32) ≤ nI (n 5) from nI_ge (b := 6) (by omega) (by decide)), fX1_checkState, Zne10, if_false, enew, eini, Zb18 k52, efin, Zb0 hb'.1, Zb18 k5', esz2]
        · simp (disch := omega) only [fX5_literal, ZM_var hP hM hv, em, Option.bind_some, Zne10, if_false, m11, if_neg (show ¬ nI (n 5) = (6 : Int32) from fun q => h6 ((nI_eq (b := 6) (by omega) (by decide)).mp q)), zps, zus_s, zus_n (show 11 ≠ 68 by decide), if_pos (show (0 : Int32) ≤ 0 by decide), hzb, nI_1, ZMA]
        · simp only [zus_n (show 68 ≠ 11 by decide), zus_s]
        · refine hR'.gen Zfr.rfl (ZfM.num (ZfM.arr (ZfM.arr (ZfM.arr (ZfM.num ZfM.rfl (f := 68) (v := 0) (by unfold ZMf; omega)) (by unfold ZMf; omega)) (by unfold ZMf; omega)) (by unfold ZMf; omega)) (by unfold ZMf; omega)) ?_
          simp only [zus_n (show 32 ≠ 11 by decide), zus_n (show 32 ≠ 68 by decide)]
          exact hR.2.2.2.2.2.2.2.2.2
        · exact hS'.m (ZfM.num (ZfM.arr (ZfM.arr (ZfM.arr (ZfM.num ZfM.rfl (f := 68) (v := 0) (by omega)) (by omega)) (by omega)) (by omega)) (by omega))
        · have hro3 := hro2.mono hxe' (ZfM.rfl (st := st))
          obtain ⟨q0, q1, q2, q3, q4, -, -, qm⟩ := hro3
          unfold ZRo
          simp only [zus_s, zus_n (show 5 ≠ 11 by decide), zus_n (show 7 ≠ 11 by decide), zus_n (show 9 ≠ 11 by decide), zus_n (show 5 ≠ 68 by decide), zus_n (show 7 ≠ 68 by decide), zus_n (show 9 ≠ 68 by decide), zua_n (show 6 ≠ 12 by decide), zua_n (show 8 ≠ 12 by decide), zua_n (show 10 ≠ 12 by decide), zua_n (show 6 ≠ 13 by decide), zua_n (show 8 ≠ 13 by decide), zua_n (show 10 ≠ 13 by decide), zua_n (show 6 ≠ 14 by decide), zua_n (show 8 ≠ 14 by decide), zua_n (show 10 ≠ 14 by decide), zua_n (show 12 ≠ 13 by decide), zua_n (show 12 ≠ 14 by decide), zua_n (show 13 ≠ 14 by decide), if_true, true_and, if_neg (show ¬ 0 = 5 by decide), if_neg (show ¬ 1 = 5 by decide), if_neg (show ¬ 2 = 5 by decide), if_neg (show ¬ 3 = 5 by decide), if_neg (show ¬ 4 = 5 by decide), show (0 = 5) = False from eq_false (by decide), show (1 = 5) = False from eq_false (by decide), show (2 = 5) = False from eq_false (by decide), show (3 = 5) = False from eq_false (by decide), show (4 = 5) = False from eq_false (by decide), false_and, if_false]
          refine ⟨q0, q1, q2, q3, q4, by omega, fun i hi => ?_⟩
          by_cases qi : i = n 5
          · subst qi
            obtain ⟨w6, w7⟩ := hxe'.ob (show Zadd sh T Zo7 T = some (Zob 7 [none, none, none]) from q7) (by omega) (by decide)
            simp only [if_true]
            rw [w7]
            refine ⟨by omega, w6, v, k, d, hv, hk2, k32, hd01, x0, x1', x2', ?_, ?_, ?_⟩
            · have : zua (zua (zua st.2 12 (n 5) (nI v)) 13 (n 5) (nI k)) 14 (n 5) d 12 = zua st.2 12 (n 5) (nI v) 12 := by rw [zua_n (by decide), zua_n (by decide)]
              first | (rw [this, zua_ss]) | simp only [zua_ss]
            · first | (rw [zua_n (show 13 ≠ 14 by decide), zua_ss]) | simp only [zua_ss]
            · simp only [zua_ss]
          · simp only [if_neg qi]
            have : i < n 5 := by omega
            simp only [zua_sn qi, zua_n (show 13 ≠ 12 by decide), zua_n (show 14 ≠ 12 by decide), zua_n (show 14 ≠ 13 by decide)]
            exact qm i this
        · exact fun q => by
            have : t ≠ T := fun h => ht (by rw [h]; exact hTn)
            rw [Zadd_o this] at q
            exact ht q
        · exact ZfM.num (ZfM.arr (ZfM.arr (ZfM.arr (ZfM.num ZfM.rfl (f := 68) (v := 0) (by omega)) (by omega)) (by omega)) (by omega)) (by omega)
    · refine ZTell_x hA0 1 1 0 rfl ?_ ?_
      · simp only [fX1_literal, Zb0 hb.1, Option.bind_some, ZX_cv_x hP hb hX hv hy, Zthr_l]
      · simp only [fX5_literal, ZM_var hP hM hv, Option.bind_some, Zne10, if_false, (ZM_isv hP hM hv y).2 hy, if_true, zps, zus_s, if_neg (show ¬ (2 : Int32) ≤ 0 by decide)]
        rfl
  · refine ZTell_x hA0 0 3 0 rfl ?_ ?_
    · simp only [fX1_literal, Zb0 hb.1, Option.bind_some, ZX_cv_v hb hX hx, Zthr_l]
    · simp only [fX5_literal, ZM_var_x hP hM hx, Option.bind_some, if_true, zps, zus_s, if_neg (show ¬ (1 : Int32) ≤ 0 by decide)]
      rfl
end MV
