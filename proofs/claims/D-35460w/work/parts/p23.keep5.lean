/-! X: what Clause and Symbol keep -/
set_option maxRecDepth 100000
def ZX5 (sh : Nat → Option Zsh) (xs : Zxs) (P : ZP) (c : Nat) : Prop :=
  sh (1000 * (c + 1)) = some (Zo14 (1000 * (c + 1) + 1) (1000 * (c + 1) + 2) (1000 * (c + 1) + 3) (1000 * (c + 1) + 4) (ZtL sh c)) ∧
  (∃ e, ZLi sh xs (ZtL sh c) e (Zmn P c) (ZtE sh c)) ∧ (∀ i, i < Zmn P c → sh (ZtE sh c i) = some Zo7 ∧ xs.1 (ZtE sh c i) 1 = nI (Zcv P c i) ∧ xs.1 (ZtE sh c i) 2 = Zhs P c i) ∧ 100000 ≤ ZtL sh c ∧ ∀ i, i < Zmn P c → 100000 ≤ ZtE sh c i
theorem ZX5.fr {sh : Nat → Option Zsh} {xs xs' : Zxs} {P : ZP} {c : Nat} {A : Nat → Nat → Prop} {B : Nat → Prop} (h : ZX5 sh xs P c) (hr : Zmn P c ≤ 8) (hf : Zfr A B xs xs') (hA : ∀ i f, i < 1000 → ¬ (i = 0 ∧ f ≠ 5) → ¬ A (1000 * (c + 1) + i) f) (hA2 : ∀ t f, 100000 ≤ t → ¬ A t f) : ZX5 sh xs' P c := by
  obtain ⟨h1, ⟨e, h5⟩, h6, h7, h8⟩ := h
  refine ⟨h1, ⟨e, hf.li (hA2 _ 2 h7) h5⟩, fun i hi => ?_, h7, h8⟩
  have q : ∀ f, xs'.1 (ZtE sh c i) f = xs.1 (ZtE sh c i) f := fun f => hf.1 _ _ (hA2 _ f (h8 i hi))
  rw [q, q]
  exact h6 i hi
section K5
variable {sh : Nat → Option Zsh} {xs : Zxs} {P : ZP} {E : Ze} {ts c : Nat}
theorem ZX_hold (hC : ZCok P c) (hs : Zso P c = 5) (h5 : ZX5 sh xs P c) {p : Nat} (hp : p < Zmn P c) (E : Ze) : ∃ w, fX16_holding (ZW E sh xs) (Zl E (1000 * (c + 1))) (nI p) = some w ∧ ∀ k, k < 32 → (Zt w k = true ↔ Zhd P c p k) := by
  obtain ⟨a1, ⟨e, li⟩, mo, -⟩ := h5
  obtain ⟨b1, b2, b3⟩ := mo p hp
  obtain ⟨m6, hv⟩ := hC.2.2.2.2.2.2.2.2.2.1 hs
  obtain ⟨-, v1, v2⟩ := hv p hp
  simp (disch := omega) only [fX16_holding, Zb14 a1, ZLis li, ZLget li E hp, Zb7 b1, fX8_value, fX8_has, b2, b3, Zzq v2, Option.bind_some]
  rcases v2 with v2 | v2
  · rw [if_pos v2]
    refine ⟨_, rfl, fun k hk => ?_⟩
    rw [Zt_not, Zt_one v1]
    simp [Zhd, v2, hk]
  · rw [if_neg (by rw [v2]; decide)]
    refine ⟨_, rfl, fun k hk => ?_⟩
    rw [Zt_one v1]
    simp [Zhd, v2]
theorem ZX_keep5 (hP : ZPok P) (hc : c < Znc P) (hs : Zso P c = 5) (hS : ZS sh ts) (hts : ts + 4 ≤ 100) (h0 : ZX0 sh xs P c) (h5 : ZX5 sh xs P c) :
    ∀ N : Nat, 1000 ≤ N → ∃ xs', fX16_keep N (ZW E sh xs) (Zl E (1000 * (c + 1))) (Zl E ts) = some (ZW E sh xs') ∧ Zfr (fun _ _ => False) (ZKB c) xs xs' ∧ ZKs P (ZTs xs ts) c xs' := by
  intro N hN
  have hC := hP.2.2.2.2.2 c hc
  have m1 := hC.1
  have m8 := hC.2.1
  have hid : ∀ p, Zpm P c p = p := fun p => Zpm_id (by omega)
  have hKB : ∀ u, ZKB c u → 1000 ≤ u := by intro u h; unfold ZKB at h; omega
  have a1 := h5.1
  have a5 : sh (1000 * (c + 1) + 2) = some (Zia 0 (Zmn P c)) := by obtain ⟨_, _, _, _, _, h, _⟩ := h0; exact h
  generalize hT : ZTs xs ts = T
  have L1 := Zl_inv (body := fX16_keep_L2 N (Zl E (1000 * (c + 1))) (Zl E ts)) (fun p a => ∃ y, a = (ZW E sh y, nI p) ∧ Zfr (fun _ _ => False) (ZKB c) xs y ∧ ∀ q, q < p → ∀ k, k < 32 → (Zt (y.2 (1000 * (c + 1) + 2) q) k = true ↔ (∃ r, r < Zmn P c ∧ r ≠ q ∧ ∃ j, j < 32 ∧ Zt (ZDm P T c r) j = true ∧ Zhd P c r j) ∨ Zhd P c q k)) (Zmn P c)
    (fun r => ∃ y, r = ZW E sh y ∧ Zfr (fun _ _ => False) (ZKB c) xs y ∧ ∀ q, q < Zmn P c → ∀ k, k < 32 → (Zt (y.2 (1000 * (c + 1) + 2) q) k = true ↔ (∃ r, r < Zmn P c ∧ r ≠ q ∧ ∃ j, j < 32 ∧ Zt (ZDm P T c r) j = true ∧ Zhd P c r j) ∨ Zhd P c q k))
    (by
      rintro p a hp ⟨y, rfl, hf, hy⟩
      have sz := ZX0_size (h0.fr hf (by unfold ZKB; omega)) m8 E
      have h5' := h5.fr m8 hf (fun _ _ _ _ q => q) (fun _ _ _ q => q)
      have dm : ∀ q, q < Zmn P c → fX9_domain (ZW E sh y) (Zl E (1000 * (c + 1))) (Zl E ts) (nI q) = some (ZDm P T c q) := by
        intro q hq
        have e := ZX0_dom (h0.fr hf (by unfold ZKB; omega)) hP hC hS hq E
        rw [hid, ZTs_fr hf hKB hts, hT] at e
        exact e
      have L2 := Zl_inv (body := fX16_keep_L15 (Zl E (1000 * (c + 1))) (Zl E ts) (ZW E sh y, nI p)) (fun i a => ∃ b : Int32, a = (b, nI i) ∧ (b = 0 ∨ b = 1) ∧ (b = 1 ↔ ∃ r, r < i ∧ r ≠ p ∧ ∃ j, j < 32 ∧ Zt (ZDm P T c r) j = true ∧ Zhd P c r j)) (Zmn P c)
        (fun b => (b = 0 ∨ b = 1) ∧ (b = 1 ↔ ∃ r, r < Zmn P c ∧ r ≠ p ∧ ∃ j, j < 32 ∧ Zt (ZDm P T c r) j = true ∧ Zhd P c r j))
        (by
          rintro i a hi ⟨b, rfl, hb, hb1⟩
          have hn : nI i = nI p ↔ i = p := nI_eq (by omega) (by omega)
          have key : ∀ d : Int32, (d = 0 ∨ d = 1) → (d = 1 ↔ i ≠ p ∧ ∃ j, j < 32 ∧ Zt (ZDm P T c i) j = true ∧ Zhd P c i j) → ∃ b' : Int32, ((b ||| d, nI (i + 1)) : Int32 × Int32) = (b', nI (i + 1)) ∧ (b' = 0 ∨ b' = 1) ∧ (b' = 1 ↔ ∃ r, r < i + 1 ∧ r ≠ p ∧ ∃ j, j < 32 ∧ Zt (ZDm P T c r) j = true ∧ Zhd P c r j) := by
            intro d hd hd1
            obtain ⟨o1, o2⟩ := Zor01 hb hd
            refine ⟨_, rfl, o1, ?_⟩
            rw [o2, hb1, hd1]
            constructor
            · rintro (⟨r, g1, g2⟩ | g)
              · exact ⟨r, by omega, g2⟩
              · exact ⟨i, by omega, g⟩
            · rintro ⟨r, g1, g2⟩
              rcases Nat.lt_or_ge r i with g | g
              · exact Or.inl ⟨r, g, g2⟩
              · have : r = i := by omega
                subst this
                exact Or.inr g2
          obtain ⟨w, e2, hw⟩ := ZX_hold hC hs h5' hi E
          by_cases q : i = p
          · simp only [fX16_keep_L15, Zb14 a1, sz, Option.bind_some, if_neg (nI_ge hi (show Zmn P c < 2 ^ 31 by omega)), if_pos (hn.mpr q), Zesc_l, nI_1]
            exact ⟨_, rfl, key 0 (Or.inl rfl) ⟨fun h => absurd h (by decide), fun h => absurd q h.1⟩⟩
          · by_cases q2 : ZDm P T c i &&& w = 0
            · simp only [fX16_keep_L15, Zb14 a1, sz, Option.bind_some, if_neg (nI_ge hi (show Zmn P c < 2 ^ 31 by omega)), if_neg (fun h => q (hn.mp h)), dm i hi, e2, if_pos q2, Zesc_l, nI_1]
              refine ⟨_, rfl, key 0 (Or.inl rfl) ⟨fun h => absurd h (by decide), fun ⟨_, j, h1, h2, h3⟩ => ?_⟩⟩
              exact absurd q2 (Zmeet_iff.mpr ⟨j, h1, h2, (hw j h1).mpr h3⟩)
            · simp only [fX16_keep_L15, Zb14 a1, sz, Option.bind_some, if_neg (nI_ge hi (show Zmn P c < 2 ^ 31 by omega)), if_neg (fun h => q (hn.mp h)), dm i hi, e2, if_neg q2, Zesc_r, nI_1]
              refine ⟨_, rfl, key 1 (Or.inr rfl) ⟨fun _ => ⟨q, ?_⟩, fun _ => rfl⟩⟩
              obtain ⟨j, h1, h2, h3⟩ := Zmeet_iff.mp q2
              exact ⟨j, h1, h2, (hw j h1).mp h3⟩)
        (by
          rintro a ⟨b, rfl, hb, hb1⟩
          simp only [fX16_keep_L15, Zb14 a1, sz, Option.bind_some, if_pos (nI_le (Nat.le_refl _) (show Zmn P c < 2 ^ 31 by omega))]
          exact ⟨_, rfl, hb, hb1⟩)
        N ((0 : Int32), (0 : Int32)) (by omega) ⟨0, rfl, Or.inl rfl, fun h => absurd h (by decide), fun ⟨r, h, _⟩ => absurd h (by omega)⟩
      obtain ⟨b, e1, hb, hb1⟩ := L2
      obtain ⟨w, e2, hw⟩ := ZX_hold hC hs h5' hp E
      have key : ∀ v : Int32, (∀ k, k < 32 → (Zt v k = true ↔ (∃ r, r < Zmn P c ∧ r ≠ p ∧ ∃ j, j < 32 ∧ Zt (ZDm P T c r) j = true ∧ Zhd P c r j) ∨ Zhd P c p k)) → ∃ y', ((ZW E sh (y.1, zua y.2 (1000 * (c + 1) + 2) p v), nI (p + 1)) : zH × Int32) = (ZW E sh y', nI (p + 1)) ∧ Zfr (fun _ _ => False) (ZKB c) xs y' ∧ ∀ q, q < p + 1 → ∀ k, k < 32 → (Zt (y'.2 (1000 * (c + 1) + 2) q) k = true ↔ (∃ r, r < Zmn P c ∧ r ≠ q ∧ ∃ j, j < 32 ∧ Zt (ZDm P T c r) j = true ∧ Zhd P c r j) ∨ Zhd P c q k) := by
        intro v hv
        refine ⟨_, rfl, hf.arr (by unfold ZKB; omega), fun q hq k hk => ?_⟩
        simp only [zua_s]
        by_cases g : q = p
        · rw [if_pos g, g]
          exact hv k hk
        · rw [if_neg g]
          exact hy q (by omega) k hk
      rcases hb with hb | hb
      · simp (disch := omega) only [fX16_keep_L2, Zb14 a1, sz, Option.bind_some, if_neg (nI_ge hp (show Zmn P c < 2 ^ 31 by omega)), e1, if_pos hb, e2, ZbI a5, nI_1]
        refine ⟨_, rfl, key _ fun k hk => ?_⟩
        have : ¬ ∃ r, r < Zmn P c ∧ r ≠ p ∧ ∃ j, j < 32 ∧ Zt (ZDm P T c r) j = true ∧ Zhd P c r j := fun h => by rw [hb1.mpr h] at hb; cases hb
        rw [hw k hk]
        exact ⟨Or.inr, fun h => h.resolve_left this⟩
      · simp (disch := omega) only [fX16_keep_L2, Zb14 a1, sz, Option.bind_some, if_neg (nI_ge hp (show Zmn P c < 2 ^ 31 by omega)), e1, if_neg (show ¬ b = 0 by rw [hb]; decide), ZbI a5, nI_1]
        refine ⟨_, rfl, key _ fun k hk => ?_⟩
        rw [Zt_m1]
        simp only [hk, decide_true, true_iff]
        exact Or.inl (hb1.mp hb))
    (by
      rintro a ⟨y, rfl, hf, hy⟩
      have sz := ZX0_size (h0.fr hf (by unfold ZKB; omega)) m8 E
      simp only [fX16_keep_L2, Zb14 a1, sz, Option.bind_some, if_pos (nI_le (Nat.le_refl _) (show Zmn P c < 2 ^ 31 by omega))]
      exact ⟨_, rfl, y, rfl, hf, hy⟩)
    N (ZW E sh xs, 0) (by omega) ⟨xs, rfl, Zfr.rfl, fun q hq => absurd hq (by omega)⟩
  obtain ⟨r, e1, y, rfl, hf, hy⟩ := L1
  refine ⟨y, e1, hf, fun p hp _ k hk hD => ?_⟩
  rw [hid] at hD ⊢
  simp only [Zsup, hs]
  exact hy p hp k hk
/-- X's trees: the symbol of a tree -/
def ZX6 (sh : Nat → Option Zsh) (xs : Zxs) (P : ZP) (c : Nat) : Prop :=
  sh (1000 * (c + 1)) = some (Zo15 (1000 * (c + 1) + 1) (1000 * (c + 1) + 2) (1000 * (c + 1) + 3) (1000 * (c + 1) + 4) 18) ∧ xs.1 (1000 * (c + 1)) 5 = nI (Ztr P c) ∧ ZTr sh 18 ∧ ∃ r k, k < 16 ∧ Zrt (xs.2 19) r k (Ztr P c) ∧ xs.2 20 r = nI (Zsy P (Ztr P c)) - 1
theorem ZX_one (hT : ZTr sh 18) {r : Nat} : ∀ k t, Zrt (xs.2 19) r k t → ∀ n, k < n → fX3_one n (ZW E sh xs) (Zl E 18) (nI t) = some (nI r) := by
  obtain ⟨t1, t2, -⟩ := hT
  intro k
  induction k with
  | zero =>
    rintro t ⟨rfl, h, e⟩ n hn
    obtain ⟨n, rfl⟩ : ∃ q, n = q + 1 := ⟨n - 1, by omega⟩
    simp (disch := omega) only [fX3_one, zloop, fX3_one_L2, Zb2 t1, ZbI t2, e, Option.bind_some, if_true]
  | succ k ih =>
    rintro t ⟨h, u, hu, hne, e, h2⟩ n hn
    obtain ⟨n, rfl⟩ : ∃ q, n = q + 1 := ⟨n - 1, by omega⟩
    have g : ¬ nI u = nI t := fun q => hne ((nI_eq (by omega) (by omega)).mp q)
    simp (disch := omega) only [fX3_one, zloop, fX3_one_L2, Zb2 t1, ZbI t2, e, Option.bind_some, if_neg g]
    exact ih u h2 n (by omega)
theorem ZX_keep6 (hP : ZPok P) (hc : c < Znc P) (hs : Zso P c = 6) (h0 : ZX0 sh xs P c) (h6 : ZX6 sh xs P c) :
    ∀ N : Nat, 1000 ≤ N → ∃ xs', fX17_keep N (ZW E sh xs) (Zl E (1000 * (c + 1))) (Zl E ts) = some (ZW E sh xs') ∧ Zfr (fun _ _ => False) (ZKB c) xs xs' ∧ ZKs P (ZTs xs ts) c xs' := by
  intro N hN
  have hC := hP.2.2.2.2.2 c hc
  obtain ⟨m1, k0, t16, y6⟩ := hC.2.2.2.2.2.2.2.2.2.2.1 hs
  have hid : ∀ p, Zpm P c p = p := fun p => Zpm_id (by omega)
  have a5 : sh (1000 * (c + 1) + 2) = some (Zia 0 (Zmn P c)) := by obtain ⟨_, _, _, _, _, h, _⟩ := h0; exact h
  obtain ⟨b1, b2, b3, r, k, hk, hr, hsy⟩ := h6
  have e1 := ZX_one (E := E) b3 k _ hr N (by omega)
  have hr16 := (Zrt_lt k _ hr).2.1
  have key : ∀ v : Int32, (∀ k, k < 32 → (Zt v k = true ↔ (Zsy P (Ztr P c) = 0 ∨ k + 1 = Zsy P (Ztr P c)))) → ∃ xs', (some (ZW E sh (xs.1, zua xs.2 (1000 * (c + 1) + 2) 0 v)) : Option zH) = some (ZW E sh xs') ∧ Zfr (fun _ _ => False) (ZKB c) xs xs' ∧ ZKs P (ZTs xs ts) c xs' := by
    intro v hv
    refine ⟨_, rfl, Zfr.rfl.arr (by unfold ZKB; omega), fun p hp _ k hk _ => ?_⟩
    rw [hid]
    have : p = 0 := by omega
    rw [this]
    simp only [Zsup, hs, zua_ss]
    exact hv k hk
  have b3' := b3
  obtain ⟨t1, t2, t3, -⟩ := b3'
  rcases Nat.eq_zero_or_pos (Zsy P (Ztr P c)) with q | q
  · rw [q] at hsy
    simp (disch := omega) only [fX17_keep, fX3_symbol, Zb15 b1, b2, Zb2 t1, ZbI t3, e1, hsy, Option.bind_some, ZbI a5, if_pos (show nI 0 - 1 = (-1 : Int32) by decide)]
    refine key _ fun k hk => ?_
    rw [Zt_m1]
    simp [hk, q]
  · obtain ⟨s, es⟩ : ∃ s, Zsy P (Ztr P c) = s + 1 := ⟨_, (Nat.sub_add_cancel q).symm⟩
    rw [es, nI_pred] at hsy
    have hne : ¬ nI s = (-1 : Int32) := fun h => by
      have h1 := nI_pos (n := s) (by omega)
      rw [h] at h1
      exact h1 (by decide)
    simp (disch := omega) only [fX17_keep, fX3_symbol, Zb15 b1, b2, Zb2 t1, ZbI t3, e1, hsy, Option.bind_some, ZbI a5, if_neg hne]
    refine key _ fun k hk => ?_
    rw [Zt_one (by omega), es]
    simp
end K5
