/-! X: what Linear keeps, all places -/
set_option maxRecDepth 100000
section K8
variable {sh : Nat → Option Zsh} {xs : Zxs} {P : ZP} {E : Ze} {ts c : Nat}
theorem ZX_keep0 (hP : ZPok P) (hc : c < Znc P) (hs : Zso P c = 0) (hS : ZS sh ts) (hts : ts + 4 ≤ 100) (h0 : ZX0 sh xs P c) (h8 : ZX8 sh xs P c) (hT : ZTok P (ZTs xs ts)) (hG : E.1 0 = Zl E 50301 ∧ sh 50301 = some (Zia 6 3) ∧ xs.2 50301 0 = 15) :
    ∀ N : Nat, 1000 ≤ N → ∃ xs', fX10_keep N (ZW E sh xs) (Zl E (1000 * (c + 1))) (Zl E ts) = some (ZW E sh xs') ∧ Zfr (fun _ _ => False) (ZKB c) xs xs' ∧ ZKs P (ZTs xs ts) c xs' ∧ ZKr P (ZTs xs ts) c xs' := by
  intro N hN
  have hC := hP.2.2.2.2.2 c hc
  have hCl := ZCl_of hC hs
  have m6 := hCl.2.1
  have hid : ∀ p, Zpm P c p = p := fun p => Zpm_id (by omega)
  have hKB : ∀ u, ZKB c u → 1000 ≤ u := by intro u h; unfold ZKB at h; omega
  have a1 := h8.1
  have h8' : ∀ y, Zfr (fun _ _ => False) (ZKB c) xs y → ZX8 sh y P c := fun y hy => h8.fr hy (fun _ _ q => q) ⟨by unfold ZKB; omega, by unfold ZKB; omega⟩
  have h0' : ∀ y, Zfr (fun _ _ => False) (ZKB c) xs y → ZX0 sh y P c := fun y hy => h0.fr hy (by unfold ZKB; omega)
  have hT' : ∀ y, Zfr (fun _ _ => False) (ZKB c) xs y → ZTs y ts = ZTs xs ts := fun y hy => ZTs_fr hy hKB hts
  have sz : ∀ y, Zfr (fun _ _ => False) (ZKB c) xs y → fX9_size (ZW E sh y) (Zl E (1000 * (c + 1))) = some (nI (Zmn P c)) := fun y hy => ZX0_size (h0' y hy) (by omega) E
  have bm := fun i (hi : i ≤ Zmn P c) => Zsm_bnd (g := Zmi P (ZTs xs ts) c) (B := 1620) i fun q hq => (Zmi_bnd hT hCl (show q < Zmn P c by omega)).1
  have bM := fun i (hi : i ≤ Zmn P c) => Zsm_bnd (g := Zma P (ZTs xs ts) c) (B := 1620) i fun q hq => (Zmi_bnd hT hCl (show q < Zmn P c by omega)).2
  have L1 := Zl_inv (body := fX10_keep_L7 (ZW E sh xs) (Zl E (1000 * (c + 1))) (Zl E ts)) (fun i a => ∃ l g, a = (l, g, nI i) ∧ l.toInt = Zsm (Zmi P (ZTs xs ts) c) i ∧ g.toInt = Zsm (Zma P (ZTs xs ts) c) i) (Zmn P c)
    (fun r => r.1.toInt = Zsm (Zmi P (ZTs xs ts) c) (Zmn P c) ∧ r.2.toInt = Zsm (Zma P (ZTs xs ts) c) (Zmn P c))
    (by
      rintro i a hi ⟨l, g, rfl, hl, hg⟩
      obtain ⟨⟨w, e1, w1⟩, v, e2, v1⟩ := ZX_least (E := E) hP hC hs hS h0 h8 hT hi
      simp only [fX10_keep_L7, Zb8 a1, sz xs Zfr.rfl, Option.bind_some, if_neg (nI_ge hi (show Zmn P c < 2 ^ 31 by omega)), e1, e2, nI_1]
      have q1 := bm i (by omega)
      have q2 := bM i (by omega)
      have q3 := Zmi_bnd hT hCl hi
      have hm : i * 1620 ≤ 8100 := by omega
      refine ⟨_, rfl, _, _, rfl, ?_, ?_⟩
      · rw [Zadd_i (by rw [hl, w1]; omega) (by rw [hl, w1]; omega), hl, w1]
        rfl
      · rw [Zadd_i (by rw [hg, v1]; omega) (by rw [hg, v1]; omega), hg, v1]
        rfl)
    (by
      rintro a ⟨l, g, rfl, hl, hg⟩
      simp only [fX10_keep_L7, Zb8 a1, sz xs Zfr.rfl, Option.bind_some, if_pos (nI_le (Nat.le_refl _) (show Zmn P c < 2 ^ 31 by omega))]
      exact ⟨_, rfl, hl, hg⟩)
    N ((0 : Int32), (0 : Int32), (0 : Int32)) (by omega) ⟨0, 0, rfl, rfl, rfl⟩
  obtain ⟨⟨l, g⟩, e1, hl, hg⟩ := L1
  simp only at hl hg
  have L2 := Zl_inv (body := fX10_keep_L45 N (Zl E (1000 * (c + 1))) (Zl E ts) (l, g)) (fun i a => ∃ y, a = (ZW E sh y, nI i) ∧ Zfr (fun _ _ => False) (ZKB c) xs y ∧ ∀ p, p < i → (Zkd P (Zpl P c p) = 0 → ∀ k, k < 32 → (Zt (y.2 (1000 * (c + 1) + 2) p) k = true ↔ k < 16 ∧ ZLok P (ZTs xs ts) c p (k : Nat))) ∧
      (Zkd P (Zpl P c p) = 3 → ((ZTs xs ts).2.1 (Zpl P c p)).toInt ≤ (y.2 (1000 * (c + 1) + 3) p).toInt ∧ (y.2 (1000 * (c + 1) + 4) p).toInt ≤ ((ZTs xs ts).2.2 (Zpl P c p)).toInt ∧
        (∀ x : Int, ((ZTs xs ts).2.1 (Zpl P c p)).toInt ≤ x → x ≤ ((ZTs xs ts).2.2 (Zpl P c p)).toInt → (ZLok P (ZTs xs ts) c p x ↔ (y.2 (1000 * (c + 1) + 3) p).toInt ≤ x ∧ x ≤ (y.2 (1000 * (c + 1) + 4) p).toInt)) ∧
        ((y.2 (1000 * (c + 1) + 3) p).toInt ≤ (y.2 (1000 * (c + 1) + 4) p).toInt ∨ ((y.2 (1000 * (c + 1) + 3) p).toInt = ((ZTs xs ts).2.2 (Zpl P c p)).toInt + 1 ∧ (y.2 (1000 * (c + 1) + 4) p).toInt = ((ZTs xs ts).2.2 (Zpl P c p)).toInt)))) (Zmn P c)
    (fun r => ∃ y, r = ZW E sh y ∧ Zfr (fun _ _ => False) (ZKB c) xs y ∧ ∀ p, p < Zmn P c → (Zkd P (Zpl P c p) = 0 → ∀ k, k < 32 → (Zt (y.2 (1000 * (c + 1) + 2) p) k = true ↔ k < 16 ∧ ZLok P (ZTs xs ts) c p (k : Nat))) ∧
      (Zkd P (Zpl P c p) = 3 → ((ZTs xs ts).2.1 (Zpl P c p)).toInt ≤ (y.2 (1000 * (c + 1) + 3) p).toInt ∧ (y.2 (1000 * (c + 1) + 4) p).toInt ≤ ((ZTs xs ts).2.2 (Zpl P c p)).toInt ∧
        (∀ x : Int, ((ZTs xs ts).2.1 (Zpl P c p)).toInt ≤ x → x ≤ ((ZTs xs ts).2.2 (Zpl P c p)).toInt → (ZLok P (ZTs xs ts) c p x ↔ (y.2 (1000 * (c + 1) + 3) p).toInt ≤ x ∧ x ≤ (y.2 (1000 * (c + 1) + 4) p).toInt)) ∧
        ((y.2 (1000 * (c + 1) + 3) p).toInt ≤ (y.2 (1000 * (c + 1) + 4) p).toInt ∨ ((y.2 (1000 * (c + 1) + 3) p).toInt = ((ZTs xs ts).2.2 (Zpl P c p)).toInt + 1 ∧ (y.2 (1000 * (c + 1) + 4) p).toInt = ((ZTs xs ts).2.2 (Zpl P c p)).toInt))))
    (by
      rintro i a hi ⟨y, rfl, hf, hy⟩
      have eT := hT' y hf
      obtain ⟨⟨w, e2, w1⟩, v, e3, v1⟩ := ZX_least (E := E) hP hC hs hS (h0' y hf) (h8' y hf) (by rw [eT]; exact hT) hi
      rw [eT] at w1 v1
      have q1 := bm (Zmn P c) (by omega)
      have q2 := bM (Zmn P c) (by omega)
      have q3 := Zmi_bnd hT hCl hi
      have hm : Zmn P c * 1620 ≤ 9720 := by omega
      have hl' : (l - w).toInt = Zom P (ZTs y ts) c i := by
        rw [eT, Zsub_i (by rw [hl, w1]; omega) (by rw [hl, w1]; omega), hl, w1]
        exact ((Zsm_skip (Zmn P c)).1 hi).symm
      have hg' : (g - v).toInt = ZoM P (ZTs y ts) c i := by
        rw [eT, Zsub_i (by rw [hg, v1]; omega) (by rw [hg, v1]; omega), hg, v1]
        exact ((Zsm_skip (Zmn P c)).1 hi).symm
      obtain ⟨z, e4, hz, zq, z0, z3⟩ := ZX_keepAt hP hC hs hS hts (h0' y hf) (h8' y hf) (by rw [eT]; exact hT) ⟨hG.1, hG.2.1, by rw [hf.2 50301 (by unfold ZKB; omega)]; exact hG.2.2⟩ hi hl' hg' N hN
      rw [eT] at z0 z3
      simp only [fX10_keep_L45, Zb8 a1, sz y hf, Option.bind_some, if_neg (nI_ge hi (show Zmn P c < 2 ^ 31 by omega)), e2, e3, e4, nI_1]
      refine ⟨_, rfl, z, rfl, hf.trans hz, fun p hp => ?_⟩
      by_cases q : p = i
      · rw [q]
        exact ⟨z0, z3⟩
      · obtain ⟨k1, k2, k3⟩ := zq p q
        rw [k1, k2, k3]
        exact hy p (by omega))
    (by
      rintro a ⟨y, rfl, hf, hy⟩
      simp only [fX10_keep_L45, Zb8 a1, sz y hf, Option.bind_some, if_pos (nI_le (Nat.le_refl _) (show Zmn P c < 2 ^ 31 by omega))]
      exact ⟨_, rfl, y, rfl, hf, hy⟩)
    N (ZW E sh xs, 0) (by omega) ⟨xs, rfl, Zfr.rfl, fun p hp => absurd hp (by omega)⟩
  obtain ⟨r, e2, y, rfl, hf, hy⟩ := L2
  unfold fX10_keep
  rw [e1, Option.bind_some, e2]
  refine ⟨y, rfl, hf, fun p hp hk k hk32 hD => ?_, fun _ p hp hk => (hy p hp).2 hk⟩
  rw [hid] at hk hD ⊢
  have hk0 : Zkd P (Zpl P c p) = 0 := by
    have := (hCl.2.2.1 p hp).2
    omega
  rw [(hy p hp).1 hk0 k hk32]
  simp only [Zsup, hs]
  have : k < 16 := by
    have := ((hT _ (hCl.2.2.1 p hp).1).1 (by omega)).2 k hD
    rw [hk0] at this
    exact this
  exact ⟨fun h => h.2, fun h => ⟨this, h⟩⟩
end K8
