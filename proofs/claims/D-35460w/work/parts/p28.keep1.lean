/-! X: what Different keeps -/
set_option maxRecDepth 100000
section K1
variable {sh : Nat → Option Zsh} {xs : Zxs} {P : ZP} {E : Ze} {ts c : Nat}
/-- places that can't have values of their own -/
theorem Zhall_no {T : ZT0} {val own i : Nat} {f : Nat → Int32} {s : Int32} (m6 : Zmn P c ≤ 6) (hi : i < Zmn P c) (hio : i ≠ own) (hJ : ∀ a b q, a < 32 → b < 32 → q < Zmn P c → f a = nI q → f b = nI q → a = b) (hr : ∀ j q, j < 32 → q < Zmn P c → f j = nI q → q ≠ i ∧ q ≠ own) (h1 : ∀ j, j < 32 → ZKu P T c val i j → Zt s j = true) (h2 : ∀ j, j < 32 → Zt s j = true → ∃ q, q < Zmn P c ∧ f j = nI q ∧ ∀ k, k < 32 → ZKu P T c val q k → Zt s k = true) : ¬ ZHall P T c own val := by
  intro h
  have hdec : ∀ q, Decidable (q = i ∨ ∃ j, j < 32 ∧ Zt s j = true ∧ f j = nI q) := fun q => Classical.propDecidable _
  have hF : (fun q => decide (q = i ∨ ∃ j, j < 32 ∧ Zt s j = true ∧ f j = nI q)) i = true := by simp
  have hown : (fun q => decide (q = i ∨ ∃ j, j < 32 ∧ Zt s j = true ∧ f j = nI q) && decide (q < Zmn P c)) own = false := by
    by_cases g : own < Zmn P c
    · have : ¬ (own = i ∨ ∃ j, j < 32 ∧ Zt s j = true ∧ f j = nI own) := by
        rintro (e | ⟨j, a, b, e⟩)
        · exact hio e.symm
        · exact (hr j own a g e).2 rfl
      simp [this]
    · simp [g]
  have H := h (fun q => decide (q = i ∨ ∃ j, j < 32 ∧ Zt s j = true ∧ f j = nI q) && decide (q < Zmn P c)) hown
  have hFm : ∀ q, q < Zmn P c → ((decide (q = i ∨ ∃ j, j < 32 ∧ Zt s j = true ∧ f j = nI q) && decide (q < Zmn P c)) = decide (q = i ∨ ∃ j, j < 32 ∧ Zt s j = true ∧ f j = nI q)) := fun q hq => by simp [hq]
  -- all that they have is seen
  have hu : Zuc P T c (fun q => decide (q = i ∨ ∃ j, j < 32 ∧ Zt s j = true ∧ f j = nI q) && decide (q < Zmn P c)) val ≤ Zct (Zt s) 32 := by
    refine Zct_mono 32 fun k hk hb => ?_
    simp only [Bool.and_eq_true, decide_eq_true_eq, List.any_eq_true, List.mem_range] at hb
    obtain ⟨b1, q, b2, ⟨b3, -⟩, b4⟩ := hb
    rcases b3 with rfl | ⟨j, j1, j2, j3⟩
    · exact h1 k hk ⟨b4, b1⟩
    · obtain ⟨q', q1, q2, q3⟩ := h2 j j1 j2
      have : q' = q := (nI_eq (by omega) (by omega)).mp (q2.symm.trans j3)
      subst this
      exact q3 k hk ⟨b4, b1⟩
  have hs : Zct (Zt s) 32 ≤ Zct (fun q => (decide (q = i ∨ ∃ j, j < 32 ∧ Zt s j = true ∧ f j = nI q) && decide (q < Zmn P c)) && decide (q ≠ i)) (Zmn P c) := by
    refine Zct_rel (R := fun j q => q < Zmn P c ∧ j < 32 ∧ f j = nI q) 32 _ (fun j hj hb => ?_) fun a b q ha hb _ _ e1 e2 => hJ a b q ha hb e1.1 e1.2.2 e2.2.2
    obtain ⟨q, q1, q2, -⟩ := h2 j hj hb
    refine ⟨q, q1, ?_, q1, hj, q2⟩
    have : (q = i ∨ ∃ j, j < 32 ∧ Zt s j = true ∧ f j = nI q) := Or.inr ⟨j, hj, hb, q2⟩
    simp only [Bool.and_eq_true, decide_eq_true_eq]
    exact ⟨⟨this, q1⟩, (hr j q hj q1 q2).1⟩
  have hc := (Zct_rm (b := fun q => decide (q = i ∨ ∃ j, j < 32 ∧ Zt s j = true ∧ f j = nI q) && decide (q < Zmn P c)) (k := i) (by simp [hi]) (Zmn P c)).1 hi
  omega
theorem Zhall_yes {T : ZT0} {val own : Nat} {f : Nat → Int32} (m6 : Zmn P c ≤ 6) (hr : ∀ q, q < Zmn P c → q ≠ own → ∃ j, j < 32 ∧ f j = nI q) (hv : ∀ j q, j < 32 → q < Zmn P c → f j = nI q → ZKu P T c val q j) : ZHall P T c own val := by
  intro F hF
  refine Zct_rel (R := fun q j => q < Zmn P c ∧ f j = nI q) (Zmn P c) _ (fun q hq hFq => ?_) fun a b j ha hb _ _ e1 e2 => (nI_eq (by omega) (by omega)).mp (e1.2.symm.trans e2.2)
  have hne : q ≠ own := fun e => by rw [e, hF] at hFq; cases hFq
  obtain ⟨j, j1, j2⟩ := hr q hq hne
  obtain ⟨k1, k2⟩ := hv j q j1 hq j2
  refine ⟨j, j1, ?_, hq, j2⟩
  simp only [Bool.and_eq_true, decide_eq_true_eq, List.any_eq_true, List.mem_range]
  exact ⟨k2, q, hq, hFq, k1⟩
theorem ZX_agrees1 (hP : ZPok P) (hc : c < Znc P) (hs : Zso P c = 1) (hS : ZS sh ts) (hts : ts + 4 ≤ 100) (h0 : ZX0 sh xs P c) (hcl : sh (1000 * (c + 1)) = some (Zo9 (1000 * (c + 1) + 1) (1000 * (c + 1) + 2) (1000 * (c + 1) + 3) (1000 * (c + 1) + 4) (1000 * (c + 1) + 8))) (h8 : sh (1000 * (c + 1) + 8) = some (Zia 0 32)) (hT : ZTok P (ZTs xs ts)) (hG : E.1 0 = Zl E 50301 ∧ sh 50301 = some (Zia 6 3) ∧ xs.2 50301 0 = 15) {own val : Nat} (hval : val < 32) (hown : own < Zmn P c) {x : Zxs} (hf : Zfr (ZKA P c) (ZKB c) xs x) (N : Nat) (hN : 1000 ≤ N) :
    ∃ y b, fX11_agrees N (ZW E sh x) (Zl E (1000 * (c + 1))) (Zl E ts) (nI own) (nI val) = some (ZW E sh y, b) ∧ Zfr (ZKA P c) (ZKB c) xs y ∧ (∀ u, u ≠ 1000 * (c + 1) + 8 → y.2 u = x.2 u) ∧ (b = 0 ∨ b = 1) ∧ (b = 1 ↔ ZHall P (ZTs xs ts) c own val) := by
  have hC := hP.2.2.2.2.2 c hc
  have m8 := hC.2.1
  have m6 : Zmn P c ≤ 6 := hC.2.2.2.2.2.1 (Or.inl hs)
  have hB8 : ZKB c (1000 * (c + 1) + 8) := by unfold ZKB; omega
  have sz : ∀ z, Zfr (ZKA P c) (ZKB c) xs z → fX9_size (ZW E sh z) (Zl E (1000 * (c + 1))) = some (nI (Zmn P c)) := fun z hz => ZX0_size (h0.fr hz (by unfold ZKB; omega)) m8 E
  have L1 := Zl_inv (body := fX11_agrees_L3 (Zl E (1000 * (c + 1)))) (fun i a => ∃ y, a = (ZW E sh y, nI i) ∧ Zfr (ZKA P c) (ZKB c) xs y ∧ (∀ u, u ≠ 1000 * (c + 1) + 8 → y.2 u = x.2 u) ∧ ∀ j, j < i → y.2 (1000 * (c + 1) + 8) j = -1) 32
    (fun r => ∃ y, r = ZW E sh y ∧ Zfr (ZKA P c) (ZKB c) xs y ∧ (∀ u, u ≠ 1000 * (c + 1) + 8 → y.2 u = x.2 u) ∧ ∀ j, j < 32 → y.2 (1000 * (c + 1) + 8) j = -1)
    (by
      rintro i a hi ⟨y, rfl, hy, hu, hm⟩
      simp (disch := omega) only [fX11_agrees_L3, if_neg (show ¬ (32 : Int32) ≤ nI i from nI_ge (b := 32) hi (by decide)), Zb9 hcl, Option.bind_some, ZbI h8, nI_1]
      refine ⟨_, rfl, _, rfl, hy.arr hB8, fun u q => (zua_n q).trans (hu u q), fun j hj => ?_⟩
      simp only [zua_s]
      by_cases q : j = i
      · rw [if_pos q]
      · rw [if_neg q]
        exact hm j (by omega))
    (by
      rintro a ⟨y, rfl, hy, hu, hm⟩
      simp only [fX11_agrees_L3, if_pos (show (32 : Int32) ≤ nI 32 by decide)]
      exact ⟨_, rfl, y, rfl, hy, hu, hm⟩)
    N (ZW E sh x, 0) (by omega) ⟨x, rfl, hf, fun _ _ => rfl, fun j hj => absurd hj (by omega)⟩
  obtain ⟨r, e1, y0, rfl, hy0, hu0, hm0⟩ := L1
  have L2 := Zl_ex (body := fX11_agrees_L30 N (Zl E (1000 * (c + 1))) (Zl E ts) (nI own) (nI val)) (fun i a => ∃ y b, a = (ZW E sh y, b, nI i) ∧ (b = 0 ∨ b = 1) ∧ Zfr (ZKA P c) (ZKB c) xs y ∧ (∀ u, u ≠ 1000 * (c + 1) + 8 → y.2 u = x.2 u) ∧ ((b = 0 ∧ ¬ ZHall P (ZTs xs ts) c own val) ∨ (b = 1 ∧ (∀ j, j < 32 → y.2 (1000 * (c + 1) + 8) j = -1 ∨ ∃ q, q < Zmn P c ∧ y.2 (1000 * (c + 1) + 8) j = nI q) ∧ (∀ a b q, a < 32 → b < 32 → q < Zmn P c → y.2 (1000 * (c + 1) + 8) a = nI q → y.2 (1000 * (c + 1) + 8) b = nI q → a = b) ∧ (∀ q, q < Zmn P c → ((∃ j, j < 32 ∧ y.2 (1000 * (c + 1) + 8) j = nI q) ↔ q < i ∧ q ≠ own)) ∧ ∀ j q, j < 32 → q < Zmn P c → y.2 (1000 * (c + 1) + 8) j = nI q → ZKu P (ZTs xs ts) c val q j))) (Zmn P c)
    (fun r => ∃ y b, r = (ZW E sh y, b) ∧ Zfr (ZKA P c) (ZKB c) xs y ∧ (∀ u, u ≠ 1000 * (c + 1) + 8 → y.2 u = x.2 u) ∧ (b = 0 ∨ b = 1) ∧ (b = 1 ↔ ZHall P (ZTs xs ts) c own val))
    (by
      rintro i a hi ⟨y, b, rfl, hb, hy, hu, ⟨rfl, hn⟩ | ⟨rfl, ho, hJ, hr, hv⟩⟩
      · simp only [fX11_agrees_L30, Zb9 hcl, sz y hy, Option.bind_some, if_neg (nI_ge hi (show Zmn P c < 2 ^ 31 by omega)), if_true, Zzq (Or.inl rfl)]
        exact Or.inr ⟨_, rfl, y, 0, rfl, hy, hu, Or.inl rfl, fun h => absurd h (by decide), fun h => absurd h hn⟩
      · have fz : Zfr (ZKA P c) (ZKB c) xs (zua y.1 (1000 * (c + 1)) 5 0, y.2) := hy.num ⟨hs, rfl, rfl⟩
        have z5 : zua y.1 (1000 * (c + 1)) 5 0 (1000 * (c + 1)) 5 = 0 := zua_ss
        have nz : ∀ j, ¬ Zt 0 j = true := fun j h => by rw [Zt_0] at h; cases h
        by_cases q : i = own
        · simp only [fX11_agrees_L30, Zb9 hcl, sz y hy, Option.bind_some, if_neg (nI_ge hi (show Zmn P c < 2 ^ 31 by omega)), Zne10, if_false, if_pos (show nI i = nI own by rw [q]), Zesc_l, nI_1]
          refine Or.inl ⟨_, rfl, _, 1, rfl, Or.inr rfl, fz, hu, Or.inr ⟨rfl, ho, hJ, fun q' hq' => ?_, hv⟩⟩
          rw [hr q' hq']
          omega
        · obtain ⟨w, b, e2, hw, hwu, hmono, hfo⟩ := ZX_find (E := E) hP hc hs hS hts h0 hcl h8 hT hG hval N hN 34 i (zua y.1 (1000 * (c + 1)) 5 0, y.2) hi fz
            (by simp only [z5]; exact ⟨ho, fun a b q ha hb hq _ _ => hJ a b q ha hb hq⟩)
            (by
              simp only [z5]
              intro j hj _ e
              have := (hr i hi).mp ⟨j, hj, e⟩
              omega)
            (by simp only [z5]; exact fun j q hj hq _ => hv j q hj hq)
            (by simp only [z5]; exact Nat.lt_of_le_of_lt (Zct_le _ 16) (by omega))
          simp only [z5] at hfo
          have hno : ¬ nI i = nI own := fun e => q ((nI_eq (by omega) (by omega)).mp e)
          rcases hfo with ⟨rfl, w1, w2, w3, w4⟩ | ⟨rfl, w1, w2, w3⟩
          · simp only [fX11_agrees_L30, Zb9 hcl, sz y hy, Option.bind_some, if_neg (nI_ge hi (show Zmn P c < 2 ^ 31 by omega)), Zne10, if_false, if_neg hno, e2, Zesc_l, nI_1]
            refine Or.inl ⟨_, rfl, w, 1, rfl, Or.inr rfl, hw, fun u hu' => (hwu u hu').trans (hu u hu'), Or.inr ⟨rfl, w2.1, fun a b q ha hb hq => w2.2 a b q ha hb hq (nz a) (nz b), fun q' hq' => ?_, fun j q hj hq => w4 j q hj hq (nz j)⟩⟩
            have h1 := w3 q' hq'
            have h2 := hr q' hq'
            constructor
            · rintro ⟨j, hj, e⟩
              rcases h1.mp ⟨j, hj, nz j, e⟩ with h | ⟨j', k1, -, k3⟩
              · rw [h]
                exact ⟨Nat.lt_succ_self i, q⟩
              · have := h2.mp ⟨j', k1, k3⟩
                exact ⟨by omega, this.2⟩
            · rintro ⟨k1, k2⟩
              by_cases z : q' = i
              · obtain ⟨j, j1, -, j3⟩ := h1.mpr (Or.inl z)
                exact ⟨j, j1, j3⟩
              · obtain ⟨j, j1, j2⟩ := h2.mpr ⟨by omega, k2⟩
                obtain ⟨j', j3, -, j5⟩ := h1.mpr (Or.inr ⟨j, j1, nz j, j2⟩)
                exact ⟨j', j3, j5⟩
          · simp only [fX11_agrees_L30, Zb9 hcl, sz y hy, Option.bind_some, if_neg (nI_ge hi (show Zmn P c < 2 ^ 31 by omega)), Zne10, if_false, if_neg hno, e2, if_true, Zesc_r, nI_1]
            refine Or.inl ⟨_, rfl, w, 0, rfl, Or.inl rfl, hw, fun u hu' => (hwu u hu').trans (hu u hu'), Or.inl ⟨rfl, ?_⟩⟩
            refine Zhall_no m6 hi q hJ (fun j q' hj hq' e => ?_) w2 fun j hj h => w3 j hj h (nz j)
            have := (hr q' hq').mp ⟨j, hj, e⟩
            omega)
    (by
      rintro a ⟨y, b, rfl, hb, hy, hu, h⟩
      simp only [fX11_agrees_L30, Zb9 hcl, sz y hy, Option.bind_some, if_pos (nI_le (Nat.le_refl _) (show Zmn P c < 2 ^ 31 by omega)), Zzq hb]
      refine ⟨_, rfl, y, b, rfl, hy, hu, hb, ?_⟩
      rcases h with ⟨rfl, hn⟩ | ⟨rfl, ho, hJ, hr, hv⟩
      · exact ⟨fun h => absurd h (by decide), fun h => absurd h hn⟩
      · exact ⟨fun _ => Zhall_yes m6 (fun q hq hne => (hr q hq).mpr ⟨hq, hne⟩) hv, fun _ => rfl⟩)
    N (ZW E sh y0, 1, 0) (by omega) ⟨y0, 1, rfl, Or.inr rfl, hy0, hu0, Or.inr ⟨rfl, fun j hj => Or.inl (hm0 j hj), fun a b q ha hb hq e => absurd e (by rw [hm0 a ha]; exact fun e => ZnI_ne (by omega) e.symm), fun q hq => ⟨fun ⟨j, hj, e⟩ => absurd e (by rw [hm0 j hj]; exact fun e => ZnI_ne (by omega) e.symm), fun h => absurd h.1 (by omega)⟩, fun j q hj hq e => absurd e (by rw [hm0 j hj]; exact fun e => ZnI_ne (by omega) e.symm)⟩⟩
  obtain ⟨r, e2, y, b, rfl, hy, hu, hb, hb1⟩ := L2
  refine ⟨y, b, ?_, hy, hu, hb, hb1⟩
  unfold fX11_agrees
  rw [e1, Option.bind_some]
  exact e2
theorem ZX_keep1 (hP : ZPok P) (hc : c < Znc P) (hs : Zso P c = 1) (hS : ZS sh ts) (hts : ts + 4 ≤ 100) (h0 : ZX0 sh xs P c) (hcl : sh (1000 * (c + 1)) = some (Zo9 (1000 * (c + 1) + 1) (1000 * (c + 1) + 2) (1000 * (c + 1) + 3) (1000 * (c + 1) + 4) (1000 * (c + 1) + 8))) (h8 : sh (1000 * (c + 1) + 8) = some (Zia 0 32)) (hT : ZTok P (ZTs xs ts)) (hG : E.1 0 = Zl E 50301 ∧ sh 50301 = some (Zia 6 3) ∧ xs.2 50301 0 = 15) :
    ∀ N : Nat, 1000 ≤ N → ∃ xs', fX11_keep N (ZW E sh xs) (Zl E (1000 * (c + 1))) (Zl E ts) = some (ZW E sh xs') ∧ Zfr (ZKA P c) (ZKB c) xs xs' ∧ ZKs P (ZTs xs ts) c xs' := by
  intro N hN
  have hC := hP.2.2.2.2.2 c hc
  have m8 := hC.2.1
  have m6 : Zmn P c ≤ 6 := hC.2.2.2.2.2.1 (Or.inl hs)
  have hid : ∀ p, Zpm P c p = p := fun p => Zpm_id (by omega)
  have hKB : ∀ u, ZKB c u → 1000 ≤ u := by intro u h; unfold ZKB at h; omega
  have hB2 : ZKB c (1000 * (c + 1) + 2) := by unfold ZKB; omega
  have a5 : sh (1000 * (c + 1) + 2) = some (Zia 0 (Zmn P c)) := by obtain ⟨_, _, _, _, _, h, _⟩ := h0; exact h
  have sz : ∀ z, Zfr (ZKA P c) (ZKB c) xs z → fX9_size (ZW E sh z) (Zl E (1000 * (c + 1))) = some (nI (Zmn P c)) := fun z hz => ZX0_size (h0.fr hz (by unfold ZKB; omega)) m8 E
  have dm : ∀ z, Zfr (ZKA P c) (ZKB c) xs z → ∀ p, p < Zmn P c → fX9_domain (ZW E sh z) (Zl E (1000 * (c + 1))) (Zl E ts) (nI p) = some (ZDm P (ZTs xs ts) c p) := by
    intro z hz p hp
    have e := ZX0_dom (h0.fr hz (by unfold ZKB; omega)) hP hC hS hp E
    rw [hid, ZTs_fr hz hKB hts] at e
    exact e
  have L1 := Zl_inv (body := fX11_keep_L2 N (Zl E (1000 * (c + 1))) (Zl E ts)) (fun p a => ∃ y, a = (ZW E sh y, nI p) ∧ Zfr (ZKA P c) (ZKB c) xs y ∧ ∀ q, q < p → ∀ k, k < 32 → (Zt (y.2 (1000 * (c + 1) + 2) q) k = true ↔ k < 16 ∧ Zt (ZDm P (ZTs xs ts) c q) k = true ∧ ZHall P (ZTs xs ts) c q k)) (Zmn P c)
    (fun r => ∃ y, r = ZW E sh y ∧ Zfr (ZKA P c) (ZKB c) xs y ∧ ∀ q, q < Zmn P c → ∀ k, k < 32 → (Zt (y.2 (1000 * (c + 1) + 2) q) k = true ↔ k < 16 ∧ Zt (ZDm P (ZTs xs ts) c q) k = true ∧ ZHall P (ZTs xs ts) c q k))
    (by
      rintro p a hp ⟨x, rfl, hx, hxq⟩
      have L2 := Zl_inv (body := fX11_keep_L19 N (Zl E (1000 * (c + 1))) (Zl E ts) (ZW E sh x, nI p)) (fun v a => ∃ y, a = (ZW E sh y, nI v) ∧ Zfr (ZKA P c) (ZKB c) xs y ∧ (∀ q, q ≠ p → y.2 (1000 * (c + 1) + 2) q = x.2 (1000 * (c + 1) + 2) q) ∧ ∀ k, k < 32 → (Zt (y.2 (1000 * (c + 1) + 2) p) k = true ↔ k < v ∧ Zt (ZDm P (ZTs xs ts) c p) k = true ∧ ZHall P (ZTs xs ts) c p k)) 16
        (fun r => ∃ y, r = ZW E sh y ∧ Zfr (ZKA P c) (ZKB c) xs y ∧ (∀ q, q ≠ p → y.2 (1000 * (c + 1) + 2) q = x.2 (1000 * (c + 1) + 2) q) ∧ ∀ k, k < 32 → (Zt (y.2 (1000 * (c + 1) + 2) p) k = true ↔ k < 16 ∧ Zt (ZDm P (ZTs xs ts) c p) k = true ∧ ZHall P (ZTs xs ts) c p k))
        (by
          rintro v a hv ⟨y, rfl, hy, hyq, hyp⟩
          have e15 : y.2 50301 0 = 15 := by rw [hy.2 50301 (by unfold ZKB; omega)]; exact hG.2.2
          have h15 : ¬ (15 : Int32) < nI v := nI_nlt (a := 15) (by omega) (by decide)
          have key : ∀ (z : Zxs) (w : Int32), Zfr (ZKA P c) (ZKB c) xs z → z.2 (1000 * (c + 1) + 2) = y.2 (1000 * (c + 1) + 2) → (∀ k, k < 32 → (Zt w k = true ↔ Zt (y.2 (1000 * (c + 1) + 2) p) k = true ∨ (k = v ∧ Zt (ZDm P (ZTs xs ts) c p) v = true ∧ ZHall P (ZTs xs ts) c p v))) → ∃ y', ((ZW E sh (z.1, zua z.2 (1000 * (c + 1) + 2) p w), nI (v + 1)) : zH × Int32) = (ZW E sh y', nI (v + 1)) ∧ Zfr (ZKA P c) (ZKB c) xs y' ∧ (∀ q, q ≠ p → y'.2 (1000 * (c + 1) + 2) q = x.2 (1000 * (c + 1) + 2) q) ∧ ∀ k, k < 32 → (Zt (y'.2 (1000 * (c + 1) + 2) p) k = true ↔ k < v + 1 ∧ Zt (ZDm P (ZTs xs ts) c p) k = true ∧ ZHall P (ZTs xs ts) c p k) := by
            intro z w hz ez hw
            refine ⟨_, rfl, hz.arr hB2, fun q hq => (zua_sn hq).trans (by rw [ez]; exact hyq q hq), fun k hk => ?_⟩
            simp only [zua_ss]
            rw [hw k hk, hyp k hk]
            constructor
            · rintro (⟨z1, z2⟩ | ⟨z1, z2⟩)
              · exact ⟨by omega, z2⟩
              · subst z1
                exact ⟨by omega, z2⟩
            · rintro ⟨z1, z2⟩
              by_cases g : k = v
              · subst g
                exact Or.inr ⟨rfl, z2⟩
              · exact Or.inl ⟨by omega, z2⟩
          by_cases q : Zt (ZDm P (ZTs xs ts) c p) v = true
          · obtain ⟨z, b, e2, hz, hzu, hb, hb1⟩ := ZX_agrees1 (E := E) hP hc hs hS hts h0 hcl h8 hT hG (show v < 32 by omega) hp hy N hN
            have ez := hzu (1000 * (c + 1) + 2) (by omega)
            rcases hb with rfl | rfl
            · simp (disch := omega) only [fX11_keep_L19, ZW_fst, hG.1, ZbI6 hG.2.1, e15, Option.bind_some, if_neg h15, Zb9 hcl, dm y hy p hp, Zhas_t (show v < 32 by omega) q, Zne10, if_false, e2, if_true, Zesc_l, ZbI a5, nI_1]
              refine ⟨_, rfl, key _ _ hz ez fun k hk => ?_⟩
              rw [Zt_or0, ez]
              have : ¬ ZHall P (ZTs xs ts) c p v := fun h => absurd (hb1.mpr h) (by decide)
              simp only [this, and_false, or_false]
            · simp (disch := omega) only [fX11_keep_L19, ZW_fst, hG.1, ZbI6 hG.2.1, e15, Option.bind_some, if_neg h15, Zb9 hcl, dm y hy p hp, Zhas_t (show v < 32 by omega) q, Zne10, if_false, e2, Zesc_r, ZbI a5, nI_1]
              refine ⟨_, rfl, key _ _ hz ez fun k hk => ?_⟩
              rw [Zt_put (by omega), ez]
              simp only [hb1.mp rfl, q, and_true]
          · simp (disch := omega) only [fX11_keep_L19, ZW_fst, hG.1, ZbI6 hG.2.1, e15, Option.bind_some, if_neg h15, Zb9 hcl, dm y hy p hp, Zhas_f (show v < 32 by omega) q, if_true, Zesc_l, ZbI a5, nI_1]
            refine ⟨_, rfl, key _ _ hy rfl fun k hk => ?_⟩
            rw [Zt_or0]
            simp [q])
        (by
          rintro a ⟨y, rfl, hy, hyq, hyp⟩
          have e15 : y.2 50301 0 = 15 := by rw [hy.2 50301 (by unfold ZKB; omega)]; exact hG.2.2
          simp (disch := omega) only [fX11_keep_L19, ZW_fst, hG.1, ZbI6 hG.2.1, e15, Option.bind_some, if_pos (show (15 : Int32) < nI 16 by decide)]
          exact ⟨_, rfl, y, rfl, hy, hyq, hyp⟩)
        N (ZW E sh (x.1, zua x.2 (1000 * (c + 1) + 2) p 0), 0) (by omega) ⟨_, rfl, hx.arr hB2, fun q hq => zua_sn hq, fun k hk => by
          simp only [zua_ss, Zt_0]
          exact ⟨fun h => (by cases h), fun h => absurd h.1 (by omega)⟩⟩
      obtain ⟨r, e1, y, rfl, hy, hyq, hyp⟩ := L2
      simp (disch := omega) only [fX11_keep_L2, Zb9 hcl, sz x hx, Option.bind_some, if_neg (nI_ge hp (show Zmn P c < 2 ^ 31 by omega)), ZbI a5, e1, nI_1]
      refine ⟨_, rfl, y, rfl, hy, fun q hq k hk => ?_⟩
      by_cases g : q = p
      · rw [g]
        exact hyp k hk
      · rw [hyq q g]
        exact hxq q (by omega) k hk)
    (by
      rintro a ⟨y, rfl, hy, hyq⟩
      simp only [fX11_keep_L2, Zb9 hcl, sz y hy, Option.bind_some, if_pos (nI_le (Nat.le_refl _) (show Zmn P c < 2 ^ 31 by omega))]
      exact ⟨_, rfl, y, rfl, hy, hyq⟩)
    N (ZW E sh xs, 0) (by omega) ⟨xs, rfl, Zfr.rfl, fun q hq => absurd hq (by omega)⟩
  obtain ⟨r, e1, y, rfl, hy, hyq⟩ := L1
  refine ⟨y, e1, hy, fun p hp _ k hk hD => ?_⟩
  rw [hid] at hD ⊢
  rw [hyq p hp k hk]
  simp only [Zsup, hs]
  have : k < 16 := by
    have hk0 := hC.2.2.2.2.2.2.2.2.1 (by omega) (by omega) p hp
    have := ((hT _ (hC.2.2.1 p hp)).1 (by omega)).2 k hD
    rw [hk0] at this
    exact this
  exact ⟨fun h => h.2.2, fun h => ⟨this, hD, h⟩⟩
end K1
