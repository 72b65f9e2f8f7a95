/-! X: what Element, Clause, Symbol keep -/
set_option maxRecDepth 100000
theorem Zadd2 (i : Nat) : nI i + 2 = nI (i + 2) := nI_add i 2
theorem Zsub2 {m : Nat} (h : 2 ≤ m) : nI m - 2 = nI (m - 2) := pk_sub h
theorem Zmeet_iff {x y : Int32} : ¬ (x &&& y = 0) ↔ Zmeet x y := by
  rw [Zt_ne0]
  unfold Zmeet
  constructor
  · rintro ⟨k, hk, h⟩
    rw [Zt_and, Bool.and_eq_true] at h
    exact ⟨k, hk, h⟩
  · rintro ⟨k, hk, h⟩
    refine ⟨k, hk, ?_⟩
    rw [Zt_and, Bool.and_eq_true]
    exact h
/-- a set without a value is not empty -/
theorem Zfree_iff {x : Int32} {i : Nat} (hi : i < 32) : ¬ (x &&& ((1 <<< (nI i &&& 31)) ^^^ (-1)) = 0) ↔ ∃ j, j < 32 ∧ j ≠ i ∧ Zt x j = true := by
  rw [Zt_ne0]
  constructor
  · rintro ⟨k, hk, h⟩
    rw [Zt_and, Zt_not, Zt_one hi] at h
    simp [hk] at h
    exact ⟨k, hk, h.2, h.1⟩
  · rintro ⟨k, hk, h1, h2⟩
    refine ⟨k, hk, ?_⟩
    rw [Zt_and, Zt_not, Zt_one hi]
    simp [hk, h1, h2]
section K4
variable {sh : Nat → Option Zsh} {xs : Zxs} {P : ZP} {E : Ze} {ts c : Nat}
theorem ZX_tell (hP : ZPok P) (hC : ZCok P c) (hid : ∀ p, Zpm P c p = p) (hS : ZS sh ts) (h0 : ZX0 sh xs P c) (hcl : sh (1000 * (c + 1)) = some (Zo12 (1000 * (c + 1) + 1) (1000 * (c + 1) + 2) (1000 * (c + 1) + 3) (1000 * (c + 1) + 4))) {i : Nat} (hi : i < Zmn P c - 2) : fX14_canTell (ZW E sh xs) (Zl E (1000 * (c + 1))) (Zl E ts) (nI i) = some (if Zt (ZDm P (ZTs xs ts) c 1) i = true then 1 else 0) := by
  have m8 := hC.2.1
  have e1 := ZX0_size h0 m8 E
  have e2 := ZX0_dom (p := 1) h0 hP hC hS (by omega) E
  rw [hid, ← Zlit 1] at e2
  simp (disch := omega) only [fX14_canTell, Zb12 hcl, e1, Zsub2, Option.bind_some, if_neg (nI_ge hi (show Zmn P c - 2 < 2 ^ 31 by omega)), e2, Zhas]
  by_cases h : Zt (ZDm P (ZTs xs ts) c 1) i = true
  · simp only [if_pos h, Zne10, if_false]
  · simp only [if_neg h, if_true]
theorem ZX_keep4 (hP : ZPok P) (hc : c < Znc P) (hs : Zso P c = 4) (hS : ZS sh ts) (hts : ts + 4 ≤ 100) (h0 : ZX0 sh xs P c) (hcl : sh (1000 * (c + 1)) = some (Zo12 (1000 * (c + 1) + 1) (1000 * (c + 1) + 2) (1000 * (c + 1) + 3) (1000 * (c + 1) + 4))) :
    ∀ N : Nat, 1000 ≤ N → ∃ xs', fX14_keep N (ZW E sh xs) (Zl E (1000 * (c + 1))) (Zl E ts) = some (ZW E sh xs') ∧ Zfr (fun _ _ => False) (ZKB c) xs xs' ∧ ZKs P (ZTs xs ts) c xs' := by
  intro N hN
  have hC := hP.2.2.2.2.2 c hc
  have m8 := hC.2.1
  have m3 := hC.2.2.2.2.2.2.2.1 hs
  have hid : ∀ p, Zpm P c p = p := fun p => Zpm_id (by omega)
  have hKB : ∀ u, ZKB c u → 1000 ≤ u := by intro u h; unfold ZKB at h; omega
  have a5 : sh (1000 * (c + 1) + 2) = some (Zia 0 (Zmn P c)) := by obtain ⟨_, _, _, _, _, h, _⟩ := h0; exact h
  generalize hT : ZTs xs ts = T
  have L1 := Zl_inv (body := fX14_keep_L18 (Zl E (1000 * (c + 1))) (Zl E ts)) (fun i a => ∃ y W, a = (ZW E sh y, W, nI i) ∧ Zfr (fun _ _ => False) (ZKB c) xs y ∧ (∀ k, k < 32 → (Zt (y.2 (1000 * (c + 1) + 2) 0) k = true ↔ ∃ i', i' < i ∧ Zt (ZDm P T c 1) i' = true ∧ Zt (ZDm P T c (i' + 2)) k = true)) ∧ (∀ k, k < 32 → (Zt (y.2 (1000 * (c + 1) + 2) 1) k = true ↔ k < i ∧ Zmeet (ZDm P T c 0) (ZDm P T c (k + 2)))) ∧ (∀ k, k < 32 → (Zt W k = true ↔ k < i ∧ Zt (ZDm P T c 1) k = true ∧ Zmeet (ZDm P T c 0) (ZDm P T c (k + 2))))) (Zmn P c - 2)
    (fun r => ∃ y W, r = (ZW E sh y, W) ∧ Zfr (fun _ _ => False) (ZKB c) xs y ∧ (∀ k, k < 32 → (Zt (y.2 (1000 * (c + 1) + 2) 0) k = true ↔ ∃ i', i' < Zmn P c - 2 ∧ Zt (ZDm P T c 1) i' = true ∧ Zt (ZDm P T c (i' + 2)) k = true)) ∧ (∀ k, k < 32 → (Zt (y.2 (1000 * (c + 1) + 2) 1) k = true ↔ k < Zmn P c - 2 ∧ Zmeet (ZDm P T c 0) (ZDm P T c (k + 2)))) ∧ (∀ k, k < 32 → (Zt W k = true ↔ k < Zmn P c - 2 ∧ Zt (ZDm P T c 1) k = true ∧ Zmeet (ZDm P T c 0) (ZDm P T c (k + 2)))))
    (by
      rintro i a hi ⟨y, W, rfl, hf, hy0, hy1, hW⟩
      have dm : ∀ z : Zxs, Zfr (fun _ _ => False) (ZKB c) xs z → ∀ p, p < Zmn P c → fX9_domain (ZW E sh z) (Zl E (1000 * (c + 1))) (Zl E ts) (nI p) = some (ZDm P T c p) := by
        intro z hz p hp
        have e := ZX0_dom (h0.fr hz (by unfold ZKB; omega)) hP hC hS hp E
        rw [hid, ZTs_fr hz hKB hts, hT] at e
        exact e
      have sz : ∀ z : Zxs, Zfr (fun _ _ => False) (ZKB c) xs z → fX9_size (ZW E sh z) (Zl E (1000 * (c + 1))) = some (nI (Zmn P c)) := fun z hz => ZX0_size (h0.fr hz (by unfold ZKB; omega)) m8 E
      have tl : ∀ z : Zxs, Zfr (fun _ _ => False) (ZKB c) xs z → fX14_canTell (ZW E sh z) (Zl E (1000 * (c + 1))) (Zl E ts) (nI i) = some (if Zt (ZDm P T c 1) i = true then 1 else 0) := by
        intro z hz
        have e := ZX_tell (E := E) hP hC hid hS (h0.fr hz (by unfold ZKB; omega)) hcl hi
        rw [ZTs_fr hz hKB hts, hT] at e
        exact e
      have f1 : ∀ w, Zfr (fun _ _ => False) (ZKB c) xs (y.1, zua y.2 (1000 * (c + 1) + 2) 0 w) := fun w => hf.arr (by unfold ZKB; omega)
      have d0 := dm y hf 0 (by omega)
      have d2 := dm y hf (i + 2) (by omega)
      have d0' : ∀ w, fX9_domain (ZW E sh (y.1, zua y.2 (1000 * (c + 1) + 2) 0 w)) (Zl E (1000 * (c + 1))) (Zl E ts) (nI 0) = some (ZDm P T c 0) := fun w => dm _ (f1 w) 0 (by omega)
      have d2' : ∀ w, fX9_domain (ZW E sh (y.1, zua y.2 (1000 * (c + 1) + 2) 0 w)) (Zl E (1000 * (c + 1))) (Zl E ts) (nI (i + 2)) = some (ZDm P T c (i + 2)) := fun w => dm _ (f1 w) (i + 2) (by omega)
      rw [← Zlit 0] at d0
      simp only [← Zlit 0] at d0'
      have key : ∀ w v W' : Int32, (∀ k, k < 32 → (Zt w k = true ↔ Zt (y.2 (1000 * (c + 1) + 2) 0) k = true ∨ (Zt (ZDm P T c 1) i = true ∧ Zt (ZDm P T c (i + 2)) k = true))) → (∀ k, k < 32 → (Zt v k = true ↔ Zt (y.2 (1000 * (c + 1) + 2) 1) k = true ∨ (Zmeet (ZDm P T c 0) (ZDm P T c (i + 2)) ∧ k = i))) → (∀ k, k < 32 → (Zt W' k = true ↔ Zt W k = true ∨ (Zt (ZDm P T c 1) i = true ∧ Zmeet (ZDm P T c 0) (ZDm P T c (i + 2)) ∧ k = i))) →
          ∃ y' W'', ((ZW E sh (y.1, zua (zua y.2 (1000 * (c + 1) + 2) 0 w) (1000 * (c + 1) + 2) 1 v), W', nI (i + 1)) : zH × Int32 × Int32) = (ZW E sh y', W'', nI (i + 1)) ∧ Zfr (fun _ _ => False) (ZKB c) xs y' ∧ (∀ k, k < 32 → (Zt (y'.2 (1000 * (c + 1) + 2) 0) k = true ↔ ∃ i', i' < i + 1 ∧ Zt (ZDm P T c 1) i' = true ∧ Zt (ZDm P T c (i' + 2)) k = true)) ∧ (∀ k, k < 32 → (Zt (y'.2 (1000 * (c + 1) + 2) 1) k = true ↔ k < i + 1 ∧ Zmeet (ZDm P T c 0) (ZDm P T c (k + 2)))) ∧ (∀ k, k < 32 → (Zt W'' k = true ↔ k < i + 1 ∧ Zt (ZDm P T c 1) k = true ∧ Zmeet (ZDm P T c 0) (ZDm P T c (k + 2)))) := by
        intro w v W' hw hv hW'
        refine ⟨_, _, rfl, Zfr.arr (f1 w) (by unfold ZKB; omega), fun k hk => ?_, fun k hk => ?_, fun k hk => ?_⟩
        · simp only [zua_sn (show 0 ≠ 1 by decide), zua_ss]
          rw [hw k hk, hy0 k hk]
          constructor
          · rintro (⟨i', g1, g2⟩ | g)
            · exact ⟨i', by omega, g2⟩
            · exact ⟨i, by omega, g⟩
          · rintro ⟨i', g1, g2⟩
            rcases Nat.lt_or_ge i' i with g | g
            · exact Or.inl ⟨i', g, g2⟩
            · have : i' = i := by omega
              subst this
              exact Or.inr g2
        · simp only [zua_ss]
          rw [hv k hk, hy1 k hk]
          constructor
          · rintro (⟨g1, g2⟩ | ⟨g1, g2⟩)
            · exact ⟨by omega, g2⟩
            · subst g2
              exact ⟨by omega, g1⟩
          · rintro ⟨g1, g2⟩
            rcases Nat.lt_or_ge k i with g | g
            · exact Or.inl ⟨g, g2⟩
            · have : k = i := by omega
              subst this
              exact Or.inr ⟨g2, rfl⟩
        · rw [hW' k hk, hW k hk]
          constructor
          · rintro (⟨g1, g2⟩ | ⟨g1, g2, g3⟩)
            · exact ⟨by omega, g2⟩
            · subst g3
              exact ⟨by omega, g1, g2⟩
          · rintro ⟨g1, g2, g3⟩
            rcases Nat.lt_or_ge k i with g | g
            · exact Or.inl ⟨g, g2, g3⟩
            · have : k = i := by omega
              subst this
              exact Or.inr ⟨g2, g3, rfl⟩
      by_cases q1 : Zt (ZDm P T c 1) i = true
      · by_cases q2 : ZDm P T c 0 &&& ZDm P T c (i + 2) = 0
        · have q3 : ¬ Zmeet (ZDm P T c 0) (ZDm P T c (i + 2)) := fun h => Zmeet_iff.mpr h q2
          simp (disch := omega) only [fX14_keep_L18, Zb12 hcl, sz y hf, sz _ (f1 _), Zsub2, if_neg (nI_ge hi (show Zmn P c - 2 < 2 ^ 31 by omega)), tl y hf, q1, d0, d2, d0', d2', q2, ZbI a5, zua_sn, zua_ss, Zadd2, nI_1, Option.bind_some, Zesc_l, Zesc_r, Zne10, if_true, if_false]
          exact ⟨_, rfl, key _ _ _ (fun k hk => by rw [Zt_or, Bool.or_eq_true]; simp only [q1, true_and]) (fun k hk => by rw [Zt_or0]; simp [q3]) fun k hk => by rw [Zt_or0]; simp [q3]⟩
        · have q3 : Zmeet (ZDm P T c 0) (ZDm P T c (i + 2)) := Zmeet_iff.mp q2
          simp (disch := omega) only [fX14_keep_L18, Zb12 hcl, sz y hf, sz _ (f1 _), Zsub2, if_neg (nI_ge hi (show Zmn P c - 2 < 2 ^ 31 by omega)), tl y hf, q1, d0, d2, d0', d2', if_neg q2, ZbI a5, zua_sn, zua_ss, Zadd2, nI_1, Option.bind_some, Zesc_l, Zesc_r, Zne10, if_true, if_false]
          exact ⟨_, rfl, key _ _ _ (fun k hk => by rw [Zt_or, Bool.or_eq_true]; simp only [q1, true_and]) (fun k hk => by rw [Zt_put (by omega)]; simp [q3]) fun k hk => by rw [Zt_put (by omega)]; simp [q1, q3]⟩
      · by_cases q2 : ZDm P T c 0 &&& ZDm P T c (i + 2) = 0
        · have q3 : ¬ Zmeet (ZDm P T c 0) (ZDm P T c (i + 2)) := fun h => Zmeet_iff.mpr h q2
          simp (disch := omega) only [fX14_keep_L18, Zb12 hcl, sz y hf, sz _ (f1 _), Zsub2, if_neg (nI_ge hi (show Zmn P c - 2 < 2 ^ 31 by omega)), tl y hf, if_neg q1, d0, d2, d0', d2', q2, ZbI a5, zua_sn, zua_ss, Zadd2, nI_1, Option.bind_some, Zesc_l, Zesc_r, Zne10, if_true, if_false]
          exact ⟨_, rfl, key _ _ _ (fun k hk => by rw [Zt_or0]; simp [q1]) (fun k hk => by rw [Zt_or0]; simp [q3]) fun k hk => by rw [Zt_or0]; simp [q3]⟩
        · have q3 : Zmeet (ZDm P T c 0) (ZDm P T c (i + 2)) := Zmeet_iff.mp q2
          simp (disch := omega) only [fX14_keep_L18, Zb12 hcl, sz y hf, sz _ (f1 _), Zsub2, if_neg (nI_ge hi (show Zmn P c - 2 < 2 ^ 31 by omega)), tl y hf, if_neg q1, d0, d2, d0', d2', if_neg q2, ZbI a5, zua_sn, zua_ss, Zadd2, nI_1, Option.bind_some, Zesc_l, Zesc_r, Zne10, if_true, if_false]
          exact ⟨_, rfl, key _ _ _ (fun k hk => by rw [Zt_or0]; simp [q1]) (fun k hk => by rw [Zt_put (by omega)]; simp [q3]) fun k hk => by rw [Zt_or0]; simp [q1]⟩)
    (by
      rintro a ⟨y, W, rfl, hf, hy0, hy1, hW⟩
      have e1 := ZX0_size (h0.fr hf (by unfold ZKB; omega)) m8 E
      simp (disch := omega) only [fX14_keep_L18, Zb12 hcl, e1, Zsub2, Option.bind_some, if_pos (nI_le (Nat.le_refl _) (show Zmn P c - 2 < 2 ^ 31 by omega))]
      exact ⟨_, rfl, y, W, rfl, hf, hy0, hy1, hW⟩)
    N (ZW E sh (xs.1, zua (zua xs.2 (1000 * (c + 1) + 2) 0 0) (1000 * (c + 1) + 2) 1 0), 0, 0) (by omega) ⟨_, 0, rfl, Zfr.arr (Zfr.arr Zfr.rfl (by unfold ZKB; omega)) (by unfold ZKB; omega), fun k hk => by
      simp only [zua_sn (show 0 ≠ 1 by decide), zua_ss, Zt_0]
      exact ⟨fun h => (by cases h), fun ⟨i', h, _⟩ => absurd h (by omega)⟩, fun k hk => by
      simp only [zua_ss, Zt_0]
      exact ⟨fun h => (by cases h), fun ⟨h, _⟩ => absurd h (by omega)⟩, fun k hk => by
      rw [Zt_0]
      exact ⟨fun h => (by cases h), fun ⟨h, _⟩ => absurd h (by omega)⟩⟩
  obtain ⟨r, e1, y, W, rfl, hf, hy0, hy1, hW⟩ := L1
  have L2 := Zl_inv (body := fX14_keep_L149 (Zl E (1000 * (c + 1))) (Zl E ts) (ZW E sh y, W)) (fun i a => ∃ z, a = (ZW E sh z, nI i) ∧ Zfr (fun _ _ => False) (ZKB c) xs z ∧ z.2 (1000 * (c + 1) + 2) 0 = y.2 (1000 * (c + 1) + 2) 0 ∧ z.2 (1000 * (c + 1) + 2) 1 = y.2 (1000 * (c + 1) + 2) 1 ∧ ∀ q, q < i → ∀ k, k < 32 → (Zt (z.2 (1000 * (c + 1) + 2) (q + 2)) k = true ↔ (∃ j, j < Zmn P c - 2 ∧ j + 2 ≠ q + 2 ∧ Zt (ZDm P T c 1) j = true ∧ Zmeet (ZDm P T c 0) (ZDm P T c (j + 2))) ∨ (Zt (ZDm P T c 1) q = true ∧ Zt (ZDm P T c 0) k = true))) (Zmn P c - 2)
    (fun r => ∃ z, r = ZW E sh z ∧ Zfr (fun _ _ => False) (ZKB c) xs z ∧ z.2 (1000 * (c + 1) + 2) 0 = y.2 (1000 * (c + 1) + 2) 0 ∧ z.2 (1000 * (c + 1) + 2) 1 = y.2 (1000 * (c + 1) + 2) 1 ∧ ∀ q, q < Zmn P c - 2 → ∀ k, k < 32 → (Zt (z.2 (1000 * (c + 1) + 2) (q + 2)) k = true ↔ (∃ j, j < Zmn P c - 2 ∧ j + 2 ≠ q + 2 ∧ Zt (ZDm P T c 1) j = true ∧ Zmeet (ZDm P T c 0) (ZDm P T c (j + 2))) ∨ (Zt (ZDm P T c 1) q = true ∧ Zt (ZDm P T c 0) k = true)))
    (by
      rintro i a hi ⟨z, rfl, hfz, hz0, hz1, hz⟩
      have sz := ZX0_size (h0.fr hfz (by unfold ZKB; omega)) m8 E
      have tl := ZX_tell (E := E) hP hC hid hS (h0.fr hfz (by unfold ZKB; omega)) hcl hi
      have d0 := ZX0_dom (p := 0) (h0.fr hfz (by unfold ZKB; omega)) hP hC hS (by omega) E
      rw [ZTs_fr hfz hKB hts, hT] at tl
      rw [hid, ZTs_fr hfz hKB hts, hT, ← Zlit 0] at d0
      have hfree : ¬ (W &&& ((1 <<< (nI i &&& 31)) ^^^ (-1)) = 0) ↔ ∃ j, j < Zmn P c - 2 ∧ j + 2 ≠ i + 2 ∧ Zt (ZDm P T c 1) j = true ∧ Zmeet (ZDm P T c 0) (ZDm P T c (j + 2)) := by
        rw [Zfree_iff (by omega)]
        constructor
        · rintro ⟨j, g1, g2, g3⟩
          obtain ⟨g4, g5, g6⟩ := (hW j g1).mp g3
          exact ⟨j, g4, by omega, g5, g6⟩
        · rintro ⟨j, g1, g2, g3, g4⟩
          exact ⟨j, by omega, by omega, (hW j (by omega)).mpr ⟨g1, g3, g4⟩⟩
      have key : ∀ w : Int32, (∀ k, k < 32 → (Zt w k = true ↔ (∃ j, j < Zmn P c - 2 ∧ j + 2 ≠ i + 2 ∧ Zt (ZDm P T c 1) j = true ∧ Zmeet (ZDm P T c 0) (ZDm P T c (j + 2))) ∨ (Zt (ZDm P T c 1) i = true ∧ Zt (ZDm P T c 0) k = true))) → ∃ z', ((ZW E sh (z.1, zua z.2 (1000 * (c + 1) + 2) (i + 2) w), nI (i + 1)) : zH × Int32) = (ZW E sh z', nI (i + 1)) ∧ Zfr (fun _ _ => False) (ZKB c) xs z' ∧ z'.2 (1000 * (c + 1) + 2) 0 = y.2 (1000 * (c + 1) + 2) 0 ∧ z'.2 (1000 * (c + 1) + 2) 1 = y.2 (1000 * (c + 1) + 2) 1 ∧ ∀ q, q < i + 1 → ∀ k, k < 32 → (Zt (z'.2 (1000 * (c + 1) + 2) (q + 2)) k = true ↔ (∃ j, j < Zmn P c - 2 ∧ j + 2 ≠ q + 2 ∧ Zt (ZDm P T c 1) j = true ∧ Zmeet (ZDm P T c 0) (ZDm P T c (j + 2))) ∨ (Zt (ZDm P T c 1) q = true ∧ Zt (ZDm P T c 0) k = true)) := by
        intro w hw
        refine ⟨_, rfl, hfz.arr (by unfold ZKB; omega), (zua_sn (by omega)).trans hz0, (zua_sn (by omega)).trans hz1, fun q hq k hk => ?_⟩
        simp only [zua_s]
        by_cases g : q = i
        · rw [if_pos (by omega), g]
          exact hw k hk
        · rw [if_neg (by omega)]
          exact hz q (by omega) k hk
      by_cases q0 : W &&& ((1 <<< (nI i &&& 31)) ^^^ (-1)) = 0
      · have q1 : ¬ ∃ j, j < Zmn P c - 2 ∧ j + 2 ≠ i + 2 ∧ Zt (ZDm P T c 1) j = true ∧ Zmeet (ZDm P T c 0) (ZDm P T c (j + 2)) := fun h => hfree.mpr h q0
        by_cases q2 : Zt (ZDm P T c 1) i = true
        · simp (disch := omega) only [fX14_keep_L149, Zb12 hcl, sz, Zsub2, if_neg (nI_ge hi (show Zmn P c - 2 < 2 ^ 31 by omega)), q0, tl, q2, d0, Zadd2, ZbI a5, nI_1, Option.bind_some, Zesc_l, Zesc_r, Zne10, if_true, if_false]
          refine ⟨_, rfl, key _ fun k hk => ?_⟩
          rw [q2]
          simp only [q1, false_or, true_and]
        · simp (disch := omega) only [fX14_keep_L149, Zb12 hcl, sz, Zsub2, if_neg (nI_ge hi (show Zmn P c - 2 < 2 ^ 31 by omega)), q0, tl, if_neg q2, Zadd2, ZbI a5, nI_1, Option.bind_some, Zesc_l, Zesc_r, Zne10, if_true, if_false]
          refine ⟨_, rfl, key _ fun k hk => ?_⟩
          rw [Zt_0]
          exact ⟨fun h => (by cases h), fun h => absurd h (by rintro (h | ⟨h, _⟩); exact q1 h; exact q2 h)⟩
      · simp (disch := omega) only [fX14_keep_L149, Zb12 hcl, sz, Zsub2, if_neg (nI_ge hi (show Zmn P c - 2 < 2 ^ 31 by omega)), if_neg q0, Zadd2, ZbI a5, nI_1, Option.bind_some, Zesc_l, Zesc_r, Zne10, if_true, if_false]
        refine ⟨_, rfl, key _ fun k hk => ?_⟩
        rw [Zt_m1]
        simp only [hk, hfree.mp q0, true_or, decide_true])
    (by
      rintro a ⟨z, rfl, hfz, hz0, hz1, hz⟩
      have e1 := ZX0_size (h0.fr hfz (by unfold ZKB; omega)) m8 E
      simp (disch := omega) only [fX14_keep_L149, Zb12 hcl, e1, Zsub2, Option.bind_some, if_pos (nI_le (Nat.le_refl _) (show Zmn P c - 2 < 2 ^ 31 by omega))]
      exact ⟨_, rfl, z, rfl, hfz, hz0, hz1, hz⟩)
    N (ZW E sh y, 0) (by omega) ⟨y, rfl, hf, rfl, rfl, fun q hq => absurd hq (by omega)⟩
  obtain ⟨r, e2, z, rfl, hfz, hz0, hz1, hz⟩ := L2
  simp (disch := omega) only [fX14_keep, Zb12 hcl, ZbI a5, Option.bind_some, e1, e2]
  refine ⟨z, rfl, hfz, fun p hp _ k hk hD => ?_⟩
  rw [hid] at hD ⊢
  simp only [Zsup, hs]
  by_cases p0 : p = 0
  · rw [if_pos p0, p0, hz0]
    exact hy0 k hk
  · rw [if_neg p0]
    by_cases p1 : p = 1
    · rw [if_pos p1, p1, hz1]
      exact hy1 k hk
    · rw [if_neg p1]
      have := hz (p - 2) (by omega) k hk
      rw [show p - 2 + 2 = p by omega] at this
      exact this
end K4
