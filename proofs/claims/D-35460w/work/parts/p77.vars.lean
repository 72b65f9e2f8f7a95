/-! variables and ratios told -/
set_option maxRecDepth 100000
section VS
variable {E E' : Ze} {sh sh' : Nat → Option Zsh} {xs xs' : Zxs} {P P' : ZP} {L : ZL} {st st' : zMS} {g : Nat} {n : Nat → Nat} {tg : Nat → Nat → Nat}
/-- no room: the object is garbage -/
theorem ZJ_full (hR : ZPD E sh xs st P L) (hS : ZSr P xs st) (hB : ZB E sh xs P g n tg) (hro : ZRo sh xs st P n tg) (hnv : Znv P = 10) {x1 : Zxs} {T : Nat} (hT : T = 1000000 + 100 * g + 90) (xo : ∀ t, t ≠ T → x1.1 t = xs.1 t ∧ x1.2 t = xs.2 t) (sz : Nat) : fX1_add (ZW E (Zadd sh T Zo5) x1) sz (Zl E 1) (Zl E T) = some (.inl (2, ZW E (Zadd sh T Zo5) x1)) ∧ ZA E (Zadd sh T Zo5) x1 st P L (g + 1) ∧ Zexo E E sh (Zadd sh T Zo5) xs x1 := by
  have hP := hR.1
  have hTn : sh T = none := by rw [hT]; exact hB.fresh hP.2.1 hP.1 (by decide) g (Nat.le_refl _)
  obtain ⟨hR2, hS2, hB2, hro2, hxe2, ho2, m2⟩ := ZA_new (E := E) (s := Zo5) (xs' := x1) hR hS hB hro hTn (g' := g + 1) (by rw [hT]; unfold Zdt; omega) (Nat.le_succ _) (Zrefs_none (m := 4)) xo
  refine ⟨?_, ⟨n, tg, hR2, hS2, hB2, hro2⟩, ho2⟩
  have s2 := Zsz hB2 (show 0 < 6 by decide) x1 rfl
  have o2 := (hB2.2.2.2.1 0 (by decide)).1.t
  have t0 : ∀ s, Ztj s 0 = 2 := fun _ => rfl
  rw [t0, hro.1.1, hnv] at s2
  rw [t0] at o2
  simp only [fX1_add, Zb0 hR2.2.2.1.1, Option.bind_some, Zb18 o2, s2, if_pos (show (10 : Int32) ≤ nI 10 by decide), fX1_checkState, if_true, Zthr_l]
def Zallk (k : Nat) : Int32 := if k = 0 then 65535 else if k = 1 then -1 else 32767
theorem Zallk_x : ∀ k, k < 3 → ((-1 : Int32).toUInt32 >>> (((31 : Int32) - nI (Zvs k - 1)).toUInt32 &&& Int32.toUInt32 31)).toInt32 = Zallk k ∧ fX5_all (nI k) = some (Zallk k) ∧ ∀ j, j < 32 → Zt (Zallk k) j = decide (j < Zvs k) := by decide +kernel
theorem Zgrt (hb : Zbase E sh) (hX : ZXP sh xs P) {k : Nat} (hk : k < 3) : zaI (ZW E sh xs) ((ZW E sh xs).1 0) (nI k) = some (nI (Zvs k - 1)) := by
  rw [ZW_fst, hb.2.1.1, (ZbI6 hb.2.1.2 (by decide)).1 E xs k hk]
  obtain ⟨a1, a2, a3⟩ := hX.2.2.1
  have hc : k = 0 ∨ k = 1 ∨ k = 2 := by omega
  rcases hc with rfl | rfl | rfl
  · rw [a1]; rfl
  · rw [a2]; rfl
  · rw [a3]; rfl
theorem ZC_variable (hA : ZA E sh xs st P L g) {sz : Nat} (hf : ∀ a, sz ≤ a → (ZW E sh xs).2 a = none) (x y : Int32) : ZTell E sh xs st P [1, 2] (fX1_variable (ZW E sh xs) sz (Zl E 1) x y) (fX5_variable st x y) := by
  have hA0 := hA
  obtain ⟨n, tg, hR, hS, hB, hro⟩ := hA
  have hP := hR.1
  have hn := hP.1
  have hb := hR.2.2.1
  have hX := hR.2.2.2.1
  have hM := hR.2.2.2.2.1
  have hthr : ¬ (1 : Int32) ≤ 0 := by decide
  rcases Zrng x (a := 0) (b := 2) with ⟨x1, x2⟩ | hx
  · obtain ⟨k, hk, rfl⟩ := Znat (b := 2) x1 x2 (by decide)
    obtain ⟨q1, q2, q3⟩ := Zallk_x k (by omega)
    have eg := Zgrt (E := E) hb hX (show k < 3 by omega)
    by_cases hy : y &&& (Zallk k ^^^ (-1 : Int32)) = 0 ∧ ¬ y = 0
    · obtain ⟨hy1, hy2⟩ := hy
      have hok : Zvok k y 0 0 := by
        refine ⟨by omega, fun _ j hj => ?_, fun h => by omega⟩
        have hj32 := Zt_lt hj
        have h0 := Zt_eq0.mp hy1 j hj32
        rw [Zt_and, hj, Zt_not, q3 j hj32] at h0
        simpa [hj32] using h0
      by_cases h10 : Znv P = 10
      · -- full
        obtain ⟨E1, w1, hR1, hB1, ho1, hl1⟩ := ZLay hR hB hro hf (fun _ => 1000000 + 100 * g + 90) 1 (fun i j hi hj _ => by omega) (fun i _ => hB.fresh hP.2.1 hn (by decide) g (Nat.le_refl _))
        obtain ⟨T, hT⟩ : ∃ T, T = 1000000 + 100 * g + 90 := ⟨_, rfl⟩
        have hs0 : Zl E1 T = sz := by rw [hT]; exact hl1 0 (by decide)
        obtain ⟨x', hx'⟩ : ∃ x' : Zxs, x' = (zua (zua (zua (zua (Zs2 xs.1 T fun _ => 0) T 0 (nI k)) T 1 y) T 2 0) T 3 0, xs.2) := ⟨_, rfl⟩
        have xo : ∀ t, t ≠ T → x'.1 t = xs.1 t ∧ x'.2 t = xs.2 t := fun t ht => by
          rw [hx']
          exact ⟨by simp only [zua_n ht, Zs2_o ht], rfl⟩
        obtain ⟨ef, hAf, hof⟩ := ZJ_full hR1 hS hB1 hro h10 hT xo (sz + 1)
        have l1 : Zl E1 1 = Zl E 1 := ho1.2.2.2 1 (by rw [hb.1]; exact fun h => by cases h)
        rw [w1, ← l1]
        have eg1 : zaI (ZW E1 sh xs) ((ZW E1 sh xs).1 0) (nI k) = some (nI (Zvs k - 1)) := by rw [← w1]; exact eg
        have enew : zset (ZW E1 sh xs) sz (.inr (5, zfd5)) = ZW E1 (Zadd sh T Zo5) (Zs2 xs.1 T fun _ => 0, xs.2) := by rw [← hs0]; exact Znw5
        have q5 : (Zadd sh T Zo5) T = some Zo5 := Zadd_n
        have eini : fX6_init (ZW E1 (Zadd sh T Zo5) (Zs2 xs.1 T fun _ => 0, xs.2)) sz (nI k) y 0 0 = some (ZW E1 (Zadd sh T Zo5) x') := by
          rw [← hs0, hx']
          simp only [fX6_init, fJ7_init, Option.bind_some, Zb5 q5]
        rw [hs0] at ef
        have hbA : Zadd sh T Zo5 1 = some (Zmain (Zadd sh T Zo5)) := by
          obtain ⟨_, _, h, -⟩ := hAf
          exact h.2.2.1.1
        refine ⟨E1, _, x', (zus st.1 68 2, st.2), P, L, g + 1, Or.inr ⟨1, 2, 0, rfl, ?_, ?_, ?_⟩, hAf.thr, ho1.trans hof (fun _ h => h), ZfM.num ZfM.rfl (by omega), fun _ => rfl⟩
        · simp only [fX1_variable, Zck _ x1 x2, eg1, Option.bind_some, q1, Zthr_r, hy1, if_true, if_neg hy2, Zesc_r, fX1_checkArgument, Zne10, if_false, enew, eini, Zb0 hbA, ef, Zthr_l]
        · simp only [fX5_variable, Zisin x1 x2, Option.bind_some, Zne10, if_false, if_neg hy2, q2, hy1, if_true, Zesc_r, hM.1, h10, if_pos (show nI 10 = (10 : Int32) from rfl), zps, zus_s, if_neg (show ¬ (2 : Int32) ≤ 0 by decide)]
        · simp only [zus_s]
          rfl
      · obtain ⟨T, hT⟩ : ∃ T, T = 100 + Znv P := ⟨_, rfl⟩
        have hTn : sh T = none := by
          cases e : sh T with
          | none => rfl
          | some s =>
            have := hB.2.1 T (by rw [e]; exact fun h => by cases h)
            unfold Zdt at this
            omega
        obtain ⟨E1, w1, hR1, hB1, ho1, hl1⟩ := ZLay hR hB hro hf (fun i => if i = 0 then T else 1000000 + 100 * g + (2 * 0 + 3)) 2 (fun i j hi hj q => by
          have ci : i = 0 ∨ i = 1 := by omega
          have cj : j = 0 ∨ j = 1 := by omega
          rcases ci with rfl | rfl <;> rcases cj with rfl | rfl <;> simp at q ⊢ <;> omega) (fun i hi => by
          have ci : i = 0 ∨ i = 1 := by omega
          rcases ci with rfl | rfl
          · exact hTn
          · exact hB.fresh hP.2.1 hn (by decide) g (Nat.le_refl _))
        have hs0 : Zl E1 T = sz := hl1 0 (by decide)
        have hs1 : Zl E1 (1000000 + 100 * g + (2 * 0 + 3)) = sz + 1 := hl1 1 (by decide)
        obtain ⟨x', hx'⟩ : ∃ x' : Zxs, x' = (zua (zua (zua (zua (Zs2 xs.1 T fun _ => 0) T 0 (nI k)) T 1 y) T 2 0) T 3 0, xs.2) := ⟨_, rfl⟩
        have hx'' := hx'
        rw [hT] at hx''
        obtain ⟨sh', xs', sz', st', e1, e2, hA', ho', hf', h68⟩ := ZJ_addv (E := E1) (st := (zus st.1 68 0, st.2)) hR1.thr hS.thr hB1 hro.thr (by omega) hok (fun _ => rfl) hx''
        rw [hs1, ← hT, hs0] at e1
        have l1 : Zl E1 1 = Zl E 1 := ho1.2.2.2 1 (by rw [hb.1]; exact fun h => by cases h)
        rw [w1, ← l1]
        have eg1 : zaI (ZW E1 sh xs) ((ZW E1 sh xs).1 0) (nI k) = some (nI (Zvs k - 1)) := by rw [← w1]; exact eg
        have enew : zset (ZW E1 sh xs) sz (.inr (5, zfd5)) = ZW E1 (Zadd sh T Zo5) (Zs2 xs.1 T fun _ => 0, xs.2) := by rw [← hs0]; exact Znw5
        have q5 : (Zadd sh T Zo5) T = some Zo5 := Zadd_n
        have eini : fX6_init (ZW E1 (Zadd sh T Zo5) (Zs2 xs.1 T fun _ => 0, xs.2)) sz (nI k) y 0 0 = some (ZW E1 (Zadd sh T Zo5) x') := by
          rw [← hs0, hx']
          simp only [fX6_init, fJ7_init, Option.bind_some, Zb5 q5]
        have hbA : zis (ZW E1 (Zadd sh T Zo5) x') (Zl E1 1) 0 = some () := by
          have : Zadd sh T Zo5 1 = some (Zob 0 _) := Zadd_k hb.1 hTn
          exact Zis_ this E1 x'
        refine ⟨E1, sh', xs', st', _, L, g + 1, Or.inl ⟨sz', nI (Znv P), ?_, ?_, ?_⟩, hA', ho1.trans ho' (fun _ h => h), (ZfM.num ZfM.rfl (by omega) : ZfTl st (zus st.1 68 0, st.2)).trans hf', fun t => (ZPv_c 0).2.2.2.2.2.2.2.2.2.2 t⟩
        · simp only [fX1_variable, Zck _ x1 x2, eg1, Option.bind_some, q1, Zthr_r, hy1, if_true, if_neg hy2, Zesc_r, fX1_checkArgument, Zne10, if_false, enew, eini, hbA, e1]
        · have h10' : ¬ nI (Znv P) = (10 : Int32) := fun q => h10 ((nI_eq (b := 10) (by omega) (by decide)).mp q)
          simp only [fX5_variable, Zisin x1 x2, Option.bind_some, Zne10, if_false, if_neg hy2, q2, hy1, if_true, Zesc_r, hM.1, if_neg h10', zps, zus_s, if_pos (show (0 : Int32) ≤ 0 by decide), e2]
        · rw [h68]
          simp only [zus_s]
    · refine ZTell_x hA0 0 1 0 rfl ?_ ?_
      · by_cases h1 : y &&& (Zallk k ^^^ (-1 : Int32)) = 0
        · have h2 : y = 0 := Classical.not_not.mp fun q => hy ⟨h1, q⟩
          simp only [fX1_variable, Zck _ x1 x2, eg, Option.bind_some, q1, Zthr_r, h1, if_true, if_pos h2, Zesc_l, fX1_checkArgument, Zthr_l]
        · simp only [fX1_variable, Zck _ x1 x2, eg, Option.bind_some, q1, Zthr_r, if_neg h1, Zesc_l, fX1_checkArgument, if_true, Zthr_l]
      · by_cases h2 : y = 0
        · simp only [fX5_variable, Zisin x1 x2, Option.bind_some, Zne10, if_false, if_pos h2, Zesc_l, if_true, zps, zus_s, if_neg hthr]
          rfl
        · have h1 : ¬ y &&& (Zallk k ^^^ (-1 : Int32)) = 0 := fun q => hy ⟨q, h2⟩
          simp only [fX5_variable, Zisin x1 x2, Option.bind_some, Zne10, if_false, if_neg h2, q2, if_neg h1, Zesc_l, if_true, zps, zus_s, if_neg hthr]
          rfl
  · refine ZTell_x hA0 0 1 0 rfl ?_ ?_
    · simp only [fX1_variable, Zck_x _ hx, Zthr_l]
    · simp only [fX5_variable, Zisin_x hx, Option.bind_some, if_true, Zesc_l, zps, zus_s, if_neg hthr]
      rfl
theorem ZC_ratio (hA : ZA E sh xs st P L g) {sz : Nat} (hf : ∀ a, sz ≤ a → (ZW E sh xs).2 a = none) (x y : Int32) : ZTell E sh xs st P [1, 2] (fX1_ratio (ZW E sh xs) sz (Zl E 1) x y) (fX5_ratio st x y) := by
  have hA0 := hA
  obtain ⟨n, tg, hR, hS, hB, hro⟩ := hA
  have hP := hR.1
  have hn := hP.1
  have hb := hR.2.2.1
  have hX := hR.2.2.2.1
  have hM := hR.2.2.2.2.1
  have hthr : ¬ (1 : Int32) ≤ 0 := by decide
  rcases Zrng x (a := -120) (b := 120) with ⟨x1, x2⟩ | hx
  · rcases Zrng y (a := x) (b := 120) with ⟨y1, y2⟩ | hy
    · have hok : Zvok 3 0 x y := by
        refine ⟨by decide, fun h => by omega, fun _ => ?_⟩
        rw [Int32.lt_iff_toInt_lt] at x1 y1
        rw [Int32.le_iff_toInt_le] at x2 y2
        have k1 : (-120 : Int32).toInt = -120 := by decide
        have k2 : (120 : Int32).toInt = 120 := by decide
        omega
      by_cases h10 : Znv P = 10
      · obtain ⟨E1, w1, hR1, hB1, ho1, hl1⟩ := ZLay hR hB hro hf (fun _ => 1000000 + 100 * g + 90) 1 (fun i j hi hj _ => by omega) (fun i _ => hB.fresh hP.2.1 hn (by decide) g (Nat.le_refl _))
        obtain ⟨T, hT⟩ : ∃ T, T = 1000000 + 100 * g + 90 := ⟨_, rfl⟩
        have hs0 : Zl E1 T = sz := by rw [hT]; exact hl1 0 (by decide)
        obtain ⟨x', hx'⟩ : ∃ x' : Zxs, x' = (zua (zua (zua (zua (Zs2 xs.1 T fun _ => 0) T 0 3) T 1 0) T 2 x) T 3 y, xs.2) := ⟨_, rfl⟩
        have xo : ∀ t, t ≠ T → x'.1 t = xs.1 t ∧ x'.2 t = xs.2 t := fun t ht => by
          rw [hx']
          exact ⟨by simp only [zua_n ht, Zs2_o ht], rfl⟩
        obtain ⟨ef, hAf, hof⟩ := ZJ_full hR1 hS hB1 hro h10 hT xo (sz + 1)
        have l1 : Zl E1 1 = Zl E 1 := ho1.2.2.2 1 (by rw [hb.1]; exact fun h => by cases h)
        rw [w1, ← l1]
        have enew : zset (ZW E1 sh xs) sz (.inr (5, zfd5)) = ZW E1 (Zadd sh T Zo5) (Zs2 xs.1 T fun _ => 0, xs.2) := by rw [← hs0]; exact Znw5
        have q5 : (Zadd sh T Zo5) T = some Zo5 := Zadd_n
        have eini : fX6_init (ZW E1 (Zadd sh T Zo5) (Zs2 xs.1 T fun _ => 0, xs.2)) sz 3 0 x y = some (ZW E1 (Zadd sh T Zo5) x') := by
          rw [← hs0, hx']
          simp only [fX6_init, fJ7_init, Option.bind_some, Zb5 q5]
        rw [hs0] at ef
        have hbA : Zadd sh T Zo5 1 = some (Zmain (Zadd sh T Zo5)) := by
          obtain ⟨_, _, h, -⟩ := hAf
          exact h.2.2.1.1
        refine ⟨E1, _, x', (zus st.1 68 2, st.2), P, L, g + 1, Or.inr ⟨1, 2, 0, rfl, ?_, ?_, ?_⟩, hAf.thr, ho1.trans hof (fun _ h => h), ZfM.num ZfM.rfl (by omega), fun _ => rfl⟩
        · simp only [fX1_ratio, Zck _ x1 x2, Zck _ y1 y2, Option.bind_some, Zthr_r, enew, eini, Zb0 hbA, ef, Zthr_l]
        · simp only [fX5_ratio, Zisin x1 x2, Zisin y1 y2, Option.bind_some, Zne10, if_false, hM.1, h10, if_pos (show nI 10 = (10 : Int32) from rfl), Zesc_r, zps, zus_s, if_neg (show ¬ (2 : Int32) ≤ 0 by decide)]
        · simp only [zus_s]
          rfl
      · obtain ⟨T, hT⟩ : ∃ T, T = 100 + Znv P := ⟨_, rfl⟩
        have hTn : sh T = none := by
          cases e : sh T with
          | none => rfl
          | some s =>
            have := hB.2.1 T (by rw [e]; exact fun h => by cases h)
            unfold Zdt at this
            omega
        obtain ⟨E1, w1, hR1, hB1, ho1, hl1⟩ := ZLay hR hB hro hf (fun i => if i = 0 then T else 1000000 + 100 * g + (2 * 0 + 3)) 2 (fun i j hi hj q => by
          have ci : i = 0 ∨ i = 1 := by omega
          have cj : j = 0 ∨ j = 1 := by omega
          rcases ci with rfl | rfl <;> rcases cj with rfl | rfl <;> simp at q ⊢ <;> omega) (fun i hi => by
          have ci : i = 0 ∨ i = 1 := by omega
          rcases ci with rfl | rfl
          · exact hTn
          · exact hB.fresh hP.2.1 hn (by decide) g (Nat.le_refl _))
        have hs0 : Zl E1 T = sz := hl1 0 (by decide)
        have hs1 : Zl E1 (1000000 + 100 * g + (2 * 0 + 3)) = sz + 1 := hl1 1 (by decide)
        obtain ⟨x', hx'⟩ : ∃ x' : Zxs, x' = (zua (zua (zua (zua (Zs2 xs.1 T fun _ => 0) T 0 (nI 3)) T 1 0) T 2 x) T 3 y, xs.2) := ⟨_, rfl⟩
        have hx'' := hx'
        rw [hT] at hx''
        obtain ⟨sh', xs', sz', st', e1, e2, hA', ho', hf', h68⟩ := ZJ_addv (E := E1) (st := (zus st.1 68 0, st.2)) (dm := -1) hR1.thr hS.thr hB1 hro.thr (by omega) hok (fun h => by omega) hx''
        rw [hs1, ← hT, hs0] at e1
        have l1 : Zl E1 1 = Zl E 1 := ho1.2.2.2 1 (by rw [hb.1]; exact fun h => by cases h)
        rw [w1, ← l1]
        have enew : zset (ZW E1 sh xs) sz (.inr (5, zfd5)) = ZW E1 (Zadd sh T Zo5) (Zs2 xs.1 T fun _ => 0, xs.2) := by rw [← hs0]; exact Znw5
        have q5 : (Zadd sh T Zo5) T = some Zo5 := Zadd_n
        have eini : fX6_init (ZW E1 (Zadd sh T Zo5) (Zs2 xs.1 T fun _ => 0, xs.2)) sz 3 0 x y = some (ZW E1 (Zadd sh T Zo5) x') := by
          rw [← hs0, hx']
          simp only [fX6_init, fJ7_init, Option.bind_some, Zb5 q5]
          rfl
        have hbA : zis (ZW E1 (Zadd sh T Zo5) x') (Zl E1 1) 0 = some () := by
          have : Zadd sh T Zo5 1 = some (Zob 0 _) := Zadd_k hb.1 hTn
          exact Zis_ this E1 x'
        refine ⟨E1, sh', xs', st', _, L, g + 1, Or.inl ⟨sz', nI (Znv P), ?_, ?_, ?_⟩, hA', ho1.trans ho' (fun _ h => h), (ZfM.num ZfM.rfl (by omega) : ZfTl st (zus st.1 68 0, st.2)).trans hf', fun t => (ZPv_c 0).2.2.2.2.2.2.2.2.2.2 t⟩
        · simp only [fX1_ratio, Zck _ x1 x2, Zck _ y1 y2, Option.bind_some, Zthr_r, enew, eini, hbA, e1]
        · have h10' : ¬ nI (Znv P) = (10 : Int32) := fun q => h10 ((nI_eq (b := 10) (by omega) (by decide)).mp q)
          have e2' : fX5_addsVariable (zus st.1 68 0, st.2) (3 : Int32) (-1) x y = some (st', nI (Znv P)) := e2
          simp only [fX5_ratio, Zisin x1 x2, Zisin y1 y2, Option.bind_some, Zne10, if_false, hM.1, if_neg h10', Zesc_r, zps, zus_s, if_pos (show (0 : Int32) ≤ 0 by decide), e2']
        · rw [h68]
          simp only [zus_s]
    · refine ZTell_x hA0 0 1 0 rfl ?_ ?_
      · simp only [fX1_ratio, Zck _ x1 x2, Zck_x _ hy, Zthr_r, Zthr_l]
      · simp only [fX5_ratio, Zisin x1 x2, Zisin_x hy, Option.bind_some, Zne10, if_false, if_true, Zesc_l, zps, zus_s, if_neg hthr]
        rfl
  · refine ZTell_x hA0 0 1 0 rfl ?_ ?_
    · simp only [fX1_ratio, Zck_x _ hx, Zthr_l]
    · simp only [fX5_ratio, Zisin_x hx, Option.bind_some, if_true, Zesc_l, zps, zus_s, if_neg hthr]
      rfl
end VS
