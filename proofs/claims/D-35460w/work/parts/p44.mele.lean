/-! M: what Element, Clause and Symbol support -/
set_option maxRecDepth 100000
section ME
variable {st : zMS} {P : ZP} {c : Nat}
theorem ZM_byElement (hP : ZPok P) (hM : ZMP st P) (hc : c < Znc P) (hs : Zso P c = 4) (h0 : ∀ p, p < 8 → st.2 41 (8 * c + p) = 0) (N : Nat) (hN : 1000 ≤ N) : ∃ st', fX5_byElement N st (nI c) = some st' ∧ ZfS st st' ∧ ZMo c st st' ∧ ZMs P (ZTm st) c st' := by
  have hC := hP.2.2.2.2.2 c hc
  have hnc := hP.2.1
  have m8 := hC.2.1
  have m3 := hC.2.2.2.2.2.2.2.1 hs
  have e17 := (hM.2.2.2 c hc).2.1
  have dm : ∀ y, ZfS st y → ∀ q, q < Zmn P c → fX5_domainAt y (nI c) (nI q) = some (ZDm P (ZTm st) c q) := fun y fy q hq => by rw [← fy.tm]; exact ZM_dom hP (fy.mp hM) hc hq
  have d0 : fX5_domainAt st (nI c) 0 = some (ZDm P (ZTm st) c 0) := dm st ZfM.rfl 0 (by omega)
  have d1 : fX5_domainAt st (nI c) 1 = some (ZDm P (ZTm st) c 1) := dm st ZfM.rfl 1 (by omega)
  generalize hT : ZTm st = T at *
  have L1 := Zl_inv (body := fX5_byElement_L30 (nI c) (ZDm P T c 0) (ZDm P T c 1) (nI (Zmn P c - 2))) (fun i a => ∃ y W, a = (y, W, nI i) ∧ ZfS st y ∧ ZMo c st y ∧ (∀ k, k < 32 → (Zt (y.2 41 (8 * c)) k = true ↔ Zt (ZDm P T c 0) k = true ∧ ∃ i', i' < i ∧ Zt (ZDm P T c 1) i' = true ∧ Zt (ZDm P T c (i' + 2)) k = true)) ∧ (∀ k, k < 32 → (Zt W k = true ↔ k < i ∧ Zt (ZDm P T c 1) k = true ∧ Zmeet (ZDm P T c 0) (ZDm P T c (k + 2))))) (Zmn P c - 2)
    (fun r => ∃ y W, r = (y, W) ∧ ZfS st y ∧ ZMo c st y ∧ (∀ k, k < 32 → (Zt (y.2 41 (8 * c)) k = true ↔ Zt (ZDm P T c 0) k = true ∧ ∃ i', i' < Zmn P c - 2 ∧ Zt (ZDm P T c 1) i' = true ∧ Zt (ZDm P T c (i' + 2)) k = true)) ∧ (∀ k, k < 32 → (Zt W k = true ↔ k < Zmn P c - 2 ∧ Zt (ZDm P T c 1) k = true ∧ Zmeet (ZDm P T c 0) (ZDm P T c (k + 2)))))
    (by
      rintro i a hi ⟨y, W, rfl, fy, oy, hy0, hW⟩
      have d2 := dm y fy (i + 2) (by omega)
      have ex : ∀ (X : Nat → Prop), (∃ q, q < i + 1 ∧ X q) ↔ (∃ q, q < i ∧ X q) ∨ X i := by
        intro X
        constructor
        · rintro ⟨q, h1, h2⟩
          by_cases e : q = i
          · exact Or.inr (e ▸ h2)
          · exact Or.inl ⟨q, by omega, h2⟩
        · rintro (⟨q, h1, h2⟩ | h)
          · exact ⟨q, by omega, h2⟩
          · exact ⟨i, by omega, h⟩
      have key : ∀ w W' : Int32, (∀ k, k < 32 → (Zt w k = true ↔ Zt (y.2 41 (8 * c)) k = true ∨ (Zt (ZDm P T c 0) k = true ∧ Zt (ZDm P T c 1) i = true ∧ Zt (ZDm P T c (i + 2)) k = true))) → (∀ k, k < 32 → (Zt W' k = true ↔ Zt W k = true ∨ (Zt (ZDm P T c 1) i = true ∧ Zmeet (ZDm P T c 0) (ZDm P T c (i + 2)) ∧ k = i))) →
          ∃ y' W'', (((y.1, zua y.2 41 (8 * c) w), W', nI (i + 1)) : zMS × Int32 × Int32) = (y', W'', nI (i + 1)) ∧ ZfS st y' ∧ ZMo c st y' ∧ (∀ k, k < 32 → (Zt (y'.2 41 (8 * c)) k = true ↔ Zt (ZDm P T c 0) k = true ∧ ∃ i', i' < i + 1 ∧ Zt (ZDm P T c 1) i' = true ∧ Zt (ZDm P T c (i' + 2)) k = true)) ∧ (∀ k, k < 32 → (Zt W'' k = true ↔ k < i + 1 ∧ Zt (ZDm P T c 1) k = true ∧ Zmeet (ZDm P T c 0) (ZDm P T c (k + 2)))) := by
        intro w W' hw hW'
        refine ⟨_, _, rfl, fy.arr rfl, ZMo_put (p := 0) oy (by omega), fun k hk => ?_, fun k hk => ?_⟩
        · simp only [zua_ss]
          rw [hw k hk, hy0 k hk, ex]
          constructor
          · rintro (⟨g1, g2⟩ | ⟨g1, g2⟩)
            · exact ⟨g1, Or.inl g2⟩
            · exact ⟨g1, Or.inr g2⟩
          · rintro ⟨g1, g2 | g2⟩
            · exact Or.inl ⟨g1, g2⟩
            · exact Or.inr ⟨g1, g2⟩
        · rw [hW' k hk, hW k hk]
          constructor
          · rintro (⟨g1, g2⟩ | ⟨g1, g2, g3⟩)
            · exact ⟨by omega, g2⟩
            · subst g3
              exact ⟨by omega, g1, g2⟩
          · rintro ⟨g1, g2, g3⟩
            by_cases e : k = i
            · subst e
              exact Or.inr ⟨g2, g3, rfl⟩
            · exact Or.inl ⟨by omega, g2, g3⟩
      have hm : ¬ Zmeet (ZDm P T c 0) (ZDm P T c (i + 2)) → ∀ k, k < 32 → ¬ (Zt (ZDm P T c 0) k = true ∧ Zt (ZDm P T c 1) i = true ∧ Zt (ZDm P T c (i + 2)) k = true) := fun hn k hk h => hn ⟨k, hk, h.1, h.2.2⟩
      by_cases q1 : Zt (ZDm P T c 1) i = true
      · by_cases q2 : ZDm P T c 0 &&& ZDm P T c (i + 2) = 0
        · have q3 : ¬ Zmeet (ZDm P T c 0) (ZDm P T c (i + 2)) := fun h => Zmeet_iff.mpr h q2
          simp (disch := omega) only [fX5_byElement_L30, if_neg (nI_ge hi (show Zmn P c - 2 < 2 ^ 31 by omega)), ZhasBit_t (show i < 32 by omega) q1, Zadd2, d2, if_pos q2, Zm8, ZMA, nI_1, Option.bind_some, Zesc_l, Zesc_r, Zne10, if_true, if_false]
          exact ⟨_, rfl, key _ _ (fun k hk => by rw [Zt_or0]; exact ⟨Or.inl, fun h => h.resolve_right (hm q3 k hk)⟩) fun k hk => by rw [Zt_or0]; exact ⟨Or.inl, fun h => h.resolve_right fun h => q3 h.2.1⟩⟩
        · have q3 : Zmeet (ZDm P T c 0) (ZDm P T c (i + 2)) := Zmeet_iff.mp q2
          simp (disch := omega) only [fX5_byElement_L30, if_neg (nI_ge hi (show Zmn P c - 2 < 2 ^ 31 by omega)), ZhasBit_t (show i < 32 by omega) q1, Zadd2, d2, if_neg q2, Zm8, ZMA, nI_1, Option.bind_some, Zesc_l, Zesc_r, Zne10, if_true, if_false]
          exact ⟨_, rfl, key _ _ (fun k hk => by rw [Zt_or, Bool.or_eq_true, Zt_and, Bool.and_eq_true]; simp only [q1, true_and]) fun k hk => by rw [Zt_put (by omega)]; simp only [q1, q3, true_and]⟩
      · simp (disch := omega) only [fX5_byElement_L30, if_neg (nI_ge hi (show Zmn P c - 2 < 2 ^ 31 by omega)), ZhasBit_f (show i < 32 by omega) q1, Zm8, ZMA, nI_1, Option.bind_some, Zesc_l, Zesc_r, Zne10, if_true, if_false]
        exact ⟨_, rfl, key _ _ (fun k hk => by rw [Zt_or0]; exact ⟨Or.inl, fun h => h.resolve_right fun h => q1 h.2.1⟩) fun k hk => by rw [Zt_or0]; exact ⟨Or.inl, fun h => h.resolve_right fun h => q1 h.1⟩⟩)
    (by
      rintro a ⟨y, W, rfl, h⟩
      simp only [fX5_byElement_L30, if_pos (nI_le (Nat.le_refl _) (show Zmn P c - 2 < 2 ^ 31 by omega))]
      exact ⟨_, rfl, y, W, rfl, h⟩)
    N (st, (0 : Int32), (0 : Int32)) (by omega) ⟨st, 0, rfl, ZfM.rfl, fun _ _ => rfl, fun k hk => by
      have := h0 0 (by omega)
      rw [Nat.add_zero] at this
      rw [this, Zt_0]
      exact ⟨fun h => (by cases h), fun ⟨_, i', h, _⟩ => absurd h (by omega)⟩, fun k hk => by
      rw [Zt_0]
      exact ⟨fun h => (by cases h), fun ⟨h, _⟩ => absurd h (by omega)⟩⟩
  obtain ⟨r, e1, y, W, rfl, fy, oy, hy0, hW⟩ := L1
  have fy1 : ZfS st (y.1, zua y.2 41 (8 * c + 1) W) := fy.arr rfl
  have L2 := Zl_inv (body := fX5_byElement_L139 (nI c) (ZDm P T c 0) (ZDm P T c 1) (y, W) (nI (Zmn P c - 2))) (fun i a => ∃ z, a = (z, nI i) ∧ ZfS st z ∧ ZMo c st z ∧ z.2 41 (8 * c) = y.2 41 (8 * c) ∧ z.2 41 (8 * c + 1) = W ∧ ∀ q, q < i → ∀ k, k < 32 → (Zt (z.2 41 (8 * c + (q + 2))) k = true ↔ Zt (ZDm P T c (q + 2)) k = true ∧ ((∃ j, j < Zmn P c - 2 ∧ j + 2 ≠ q + 2 ∧ Zt (ZDm P T c 1) j = true ∧ Zmeet (ZDm P T c 0) (ZDm P T c (j + 2))) ∨ (Zt (ZDm P T c 1) q = true ∧ Zt (ZDm P T c 0) k = true)))) (Zmn P c - 2)
    (fun z => ZfS st z ∧ ZMo c st z ∧ z.2 41 (8 * c) = y.2 41 (8 * c) ∧ z.2 41 (8 * c + 1) = W ∧ ∀ q, q < Zmn P c - 2 → ∀ k, k < 32 → (Zt (z.2 41 (8 * c + (q + 2))) k = true ↔ Zt (ZDm P T c (q + 2)) k = true ∧ ((∃ j, j < Zmn P c - 2 ∧ j + 2 ≠ q + 2 ∧ Zt (ZDm P T c 1) j = true ∧ Zmeet (ZDm P T c 0) (ZDm P T c (j + 2))) ∨ (Zt (ZDm P T c 1) q = true ∧ Zt (ZDm P T c 0) k = true))))
    (by
      rintro i a hi ⟨z, rfl, fz, oz, hz0, hz1, hz⟩
      have d2 := dm z fz (i + 2) (by omega)
      have hfree : ¬ (W &&& ((1 <<< (nI i &&& 31)) ^^^ (-1)) = 0) ↔ ∃ j, j < Zmn P c - 2 ∧ j + 2 ≠ i + 2 ∧ Zt (ZDm P T c 1) j = true ∧ Zmeet (ZDm P T c 0) (ZDm P T c (j + 2)) := by
        rw [Zfree_iff (by omega)]
        constructor
        · rintro ⟨j, g1, g2, g3⟩
          obtain ⟨g4, g5, g6⟩ := (hW j g1).mp g3
          exact ⟨j, g4, by omega, g5, g6⟩
        · rintro ⟨j, g1, g2, g3, g4⟩
          exact ⟨j, by omega, by omega, (hW j (by omega)).mpr ⟨g1, g3, g4⟩⟩
      have key : ∀ w : Int32, (∀ k, k < 32 → (Zt w k = true ↔ Zt (ZDm P T c (i + 2)) k = true ∧ ((∃ j, j < Zmn P c - 2 ∧ j + 2 ≠ i + 2 ∧ Zt (ZDm P T c 1) j = true ∧ Zmeet (ZDm P T c 0) (ZDm P T c (j + 2))) ∨ (Zt (ZDm P T c 1) i = true ∧ Zt (ZDm P T c 0) k = true)))) → ∃ z', (((z.1, zua z.2 41 (8 * c + i + 2) w), nI (i + 1)) : zMS × Int32) = (z', nI (i + 1)) ∧ ZfS st z' ∧ ZMo c st z' ∧ z'.2 41 (8 * c) = y.2 41 (8 * c) ∧ z'.2 41 (8 * c + 1) = W ∧ ∀ q, q < i + 1 → ∀ k, k < 32 → (Zt (z'.2 41 (8 * c + (q + 2))) k = true ↔ Zt (ZDm P T c (q + 2)) k = true ∧ ((∃ j, j < Zmn P c - 2 ∧ j + 2 ≠ q + 2 ∧ Zt (ZDm P T c 1) j = true ∧ Zmeet (ZDm P T c 0) (ZDm P T c (j + 2))) ∨ (Zt (ZDm P T c 1) q = true ∧ Zt (ZDm P T c 0) k = true))) := by
        intro w hw
        refine ⟨_, rfl, fz.arr rfl, by rw [Nat.add_assoc]; exact ZMo_put oz (by omega), (zua_sn (by omega)).trans hz0, (zua_sn (by omega)).trans hz1, fun q hq k hk => ?_⟩
        simp only [zua_s]
        by_cases g : q = i
        · rw [if_pos (by omega), g]
          exact hw k hk
        · rw [if_neg (by omega)]
          exact hz q (by omega) k hk
      by_cases q0 : W &&& ((1 <<< (nI i &&& 31)) ^^^ (-1)) = 0
      · have q1 : ¬ ∃ j, j < Zmn P c - 2 ∧ j + 2 ≠ i + 2 ∧ Zt (ZDm P T c 1) j = true ∧ Zmeet (ZDm P T c 0) (ZDm P T c (j + 2)) := fun h => hfree.mpr h q0
        by_cases q2 : Zt (ZDm P T c 1) i = true
        · simp (disch := omega) only [fX5_byElement_L139, if_neg (nI_ge hi (show Zmn P c - 2 < 2 ^ 31 by omega)), if_pos q0, Zadd2, d2, ZhasBit_t (show i < 32 by omega) q2, Zm8, nI_add, ZMA, nI_1, Option.bind_some, Zesc_l, Zesc_r, Zne10, if_true, if_false]
          refine ⟨_, rfl, key _ fun k hk => ?_⟩
          rw [Zt_and, Bool.and_eq_true]
          exact ⟨fun h => ⟨h.1, Or.inr ⟨q2, h.2⟩⟩, fun h => ⟨h.1, (h.2.resolve_left q1).2⟩⟩
        · simp (disch := omega) only [fX5_byElement_L139, if_neg (nI_ge hi (show Zmn P c - 2 < 2 ^ 31 by omega)), if_pos q0, Zadd2, d2, ZhasBit_f (show i < 32 by omega) q2, Zm8, nI_add, ZMA, nI_1, Option.bind_some, Zesc_l, Zesc_r, Zne10, if_true, if_false]
          refine ⟨_, rfl, key _ fun k hk => ?_⟩
          rw [Zt_0]
          exact ⟨fun h => (by cases h), fun h => absurd (h.2.resolve_left q1).1 q2⟩
      · simp (disch := omega) only [fX5_byElement_L139, if_neg (nI_ge hi (show Zmn P c - 2 < 2 ^ 31 by omega)), if_neg q0, Zadd2, d2, Zm8, nI_add, ZMA, nI_1, Option.bind_some, Zesc_l, Zesc_r, Zne10, if_true, if_false]
        refine ⟨_, rfl, key _ fun k hk => ?_⟩
        exact ⟨fun h => ⟨h, Or.inl (hfree.mp q0)⟩, fun h => h.1⟩)
    (by
      rintro a ⟨z, rfl, h⟩
      simp only [fX5_byElement_L139, if_pos (nI_le (Nat.le_refl _) (show Zmn P c - 2 < 2 ^ 31 by omega))]
      exact ⟨_, rfl, h⟩)
    N ((y.1, zua y.2 41 (8 * c + 1) W), 0) (by omega) ⟨_, rfl, fy1, ZMo_put oy (by omega), by simp only [zua_sn (show 8 * c ≠ 8 * c + 1 by omega)], by simp only [zua_ss], fun q hq => absurd hq (by omega)⟩
  obtain ⟨z, e2, fz, oz, hz0, hz1, hz⟩ := L2
  refine ⟨z, ?_, fz, oz, fun p hp _ k hk hD => ?_⟩
  · simp (disch := omega) only [fX5_byElement, ZMA, e17, Option.bind_some, Zsub2, d0, d1, e1, Zm8, nI_1]
    exact e2
  · simp only [Zsup, hs]
    by_cases p0 : p = 0
    · subst p0
      rw [if_pos rfl, Nat.add_zero, hz0, hy0 k hk]
      exact ⟨fun h => h.2, fun h => ⟨hD, h⟩⟩
    · rw [if_neg p0]
      by_cases p1 : p = 1
      · subst p1
        rw [if_pos rfl, hz1, hW k hk]
        exact ⟨fun h => ⟨h.1, h.2.2⟩, fun h => ⟨h.1, hD, h.2⟩⟩
      · rw [if_neg p1]
        have := hz (p - 2) (by omega) k hk
        rw [show p - 2 + 2 = p by omega] at this
        rw [this]
        exact ⟨fun h => h.2, fun h => ⟨hD, h⟩⟩
theorem ZM_hold (hP : ZPok P) (hM : ZMP st P) (hc : c < Znc P) (hs : Zso P c = 5) {p : Nat} (hp : p < Zmn P c) : ∃ b : Int32, fX5_canHold st (nI c) (nI p) = some b ∧ (b = 0 ∨ b = 1) ∧ (b = 1 ↔ ∃ j, j < 32 ∧ Zt (ZDm P (ZTm st) c p) j = true ∧ Zhd P c p j) := by
  have hC := hP.2.2.2.2.2 c hc
  have hnc := hP.2.1
  obtain ⟨m6, hv⟩ := hC.2.2.2.2.2.2.2.2.2.1 hs
  obtain ⟨-, v1, v2⟩ := hv p hp
  obtain ⟨e19, e23⟩ := (hM.2.2.2 c hc).2.2.2.2.2.1 hs p hp
  have hb : ∀ k, k < 32 → (Zt (if Zhs P c p = 0 then (1 <<< (nI (Zcv P c p) &&& 31)) ^^^ (-1) else 1 <<< (nI (Zcv P c p) &&& 31)) k = true ↔ Zhd P c p k) := by
    intro k hk
    rcases v2 with v2 | v2
    · rw [if_pos v2, Zt_not, Zt_one v1]
      simp [Zhd, v2, hk]
    · rw [if_neg (by rw [v2]; decide), Zt_one v1]
      simp [Zhd, v2]
  have conv : ∀ w : Int32, (∀ k, k < 32 → (Zt w k = true ↔ Zhd P c p k)) → (¬ (ZDm P (ZTm st) c p &&& w = 0) ↔ ∃ j, j < 32 ∧ Zt (ZDm P (ZTm st) c p) j = true ∧ Zhd P c p j) := by
    intro w hw
    rw [Zmeet_iff]
    constructor
    · rintro ⟨j, h1, h2, h3⟩
      exact ⟨j, h1, h2, (hw j h1).mp h3⟩
    · rintro ⟨j, h1, h2, h3⟩
      exact ⟨j, h1, h2, (hw j h1).mpr h3⟩
  rcases v2 with v2 | v2
  · rw [if_pos v2] at hb
    have hcv := conv _ hb
    by_cases q : ZDm P (ZTm st) c p &&& ((1 <<< (nI (Zcv P c p) &&& 31)) ^^^ (-1)) = 0
    · simp (disch := omega) only [fX5_canHold, ZM_dom hP hM hc hp, Zm6, nI_add, ZMA, e19, e23, Option.bind_some, if_pos v2, if_pos q]
      exact ⟨0, rfl, Or.inl rfl, fun h => absurd h (by decide), fun h => absurd q (hcv.mpr h)⟩
    · simp (disch := omega) only [fX5_canHold, ZM_dom hP hM hc hp, Zm6, nI_add, ZMA, e19, e23, Option.bind_some, if_pos v2, if_neg q]
      exact ⟨1, rfl, Or.inr rfl, fun _ => hcv.mp q, fun _ => rfl⟩
  · have hne : ¬ Zhs P c p = 0 := by rw [v2]; decide
    rw [if_neg hne] at hb
    have hcv := conv _ hb
    by_cases q : ZDm P (ZTm st) c p &&& (1 <<< (nI (Zcv P c p) &&& 31)) = 0
    · simp (disch := omega) only [fX5_canHold, ZM_dom hP hM hc hp, Zm6, nI_add, ZMA, e19, e23, Option.bind_some, if_neg hne, if_pos q]
      exact ⟨0, rfl, Or.inl rfl, fun h => absurd h (by decide), fun h => absurd q (hcv.mpr h)⟩
    · simp (disch := omega) only [fX5_canHold, ZM_dom hP hM hc hp, Zm6, nI_add, ZMA, e19, e23, Option.bind_some, if_neg hne, if_neg q]
      exact ⟨1, rfl, Or.inr rfl, fun _ => hcv.mp q, fun _ => rfl⟩
theorem ZM_byClause (hP : ZPok P) (hM : ZMP st P) (hc : c < Znc P) (hs : Zso P c = 5) (N : Nat) (hN : 1000 ≤ N) : ∃ st', fX5_byClause N st (nI c) = some st' ∧ ZfS st st' ∧ ZMo c st st' ∧ ZMs P (ZTm st) c st' := by
  have hC := hP.2.2.2.2.2 c hc
  have hnc := hP.2.1
  obtain ⟨m6, hv⟩ := hC.2.2.2.2.2.2.2.2.2.1 hs
  have L := Zl_inv (body := fX5_byClause_L2 N (nI c)) (fun p a => ∃ y, a = (y, nI p) ∧ ZfS st y ∧ ZMo c st y ∧ ∀ q, q < p → ∀ k, k < 32 → (Zt (y.2 41 (8 * c + q)) k = true ↔ Zt (ZDm P (ZTm st) c q) k = true ∧ ((∃ r, r < Zmn P c ∧ r ≠ q ∧ ∃ j, j < 32 ∧ Zt (ZDm P (ZTm st) c r) j = true ∧ Zhd P c r j) ∨ Zhd P c q k))) (Zmn P c)
    (fun y => ZfS st y ∧ ZMo c st y ∧ ∀ q, q < Zmn P c → ∀ k, k < 32 → (Zt (y.2 41 (8 * c + q)) k = true ↔ Zt (ZDm P (ZTm st) c q) k = true ∧ ((∃ r, r < Zmn P c ∧ r ≠ q ∧ ∃ j, j < 32 ∧ Zt (ZDm P (ZTm st) c r) j = true ∧ Zhd P c r j) ∨ Zhd P c q k)))
    (by
      rintro p a hp ⟨y, rfl, fy, oy, hy⟩
      have My := fy.mp hM
      have Ty := fy.tm
      have e17 := (My.2.2.2 c hc).2.1
      have dp := ZM_dom hP My hc hp
      rw [Ty] at dp
      have L2 := Zl_inv (body := fX5_byClause_L17 (nI c) (y, nI p)) (fun i a => ∃ b : Int32, a = (b, nI i) ∧ (b = 0 ∨ b = 1) ∧ (b = 1 ↔ ∃ r, r < i ∧ r ≠ p ∧ ∃ j, j < 32 ∧ Zt (ZDm P (ZTm st) c r) j = true ∧ Zhd P c r j)) (Zmn P c)
        (fun b => (b = 0 ∨ b = 1) ∧ (b = 1 ↔ ∃ r, r < Zmn P c ∧ r ≠ p ∧ ∃ j, j < 32 ∧ Zt (ZDm P (ZTm st) c r) j = true ∧ Zhd P c r j))
        (by
          rintro i a hi ⟨b, rfl, hb, hb1⟩
          have hn : nI i = nI p ↔ i = p := nI_eq (by omega) (by omega)
          have key : ∀ d : Int32, (d = 0 ∨ d = 1) → (d = 1 ↔ i ≠ p ∧ ∃ j, j < 32 ∧ Zt (ZDm P (ZTm st) c i) j = true ∧ Zhd P c i j) → ∃ b' : Int32, ((b ||| d, nI (i + 1)) : Int32 × Int32) = (b', nI (i + 1)) ∧ (b' = 0 ∨ b' = 1) ∧ (b' = 1 ↔ ∃ r, r < i + 1 ∧ r ≠ p ∧ ∃ j, j < 32 ∧ Zt (ZDm P (ZTm st) c r) j = true ∧ Zhd P c r j) := by
            intro d hd hd1
            obtain ⟨o1, o2⟩ := Zor01 hb hd
            refine ⟨_, rfl, o1, ?_⟩
            rw [o2, hb1, hd1]
            constructor
            · rintro (⟨r, g1, g2⟩ | g)
              · exact ⟨r, by omega, g2⟩
              · exact ⟨i, by omega, g⟩
            · rintro ⟨r, g1, g2⟩
              rcases Nat.lt_or_ge r i with g | g
              · exact Or.inl ⟨r, g, g2⟩
              · have : r = i := by omega
                subst this
                exact Or.inr g2
          by_cases q : i = p
          · simp (disch := omega) only [fX5_byClause_L17, ZMA, e17, Option.bind_some, if_neg (nI_ge hi (show Zmn P c < 2 ^ 31 by omega)), if_pos (hn.mpr q), Zesc_l, nI_1]
            exact ⟨_, rfl, key 0 (Or.inl rfl) ⟨fun h => absurd h (by decide), fun h => absurd q h.1⟩⟩
          · obtain ⟨d, e2, hd, hd1⟩ := ZM_hold hP My hc hs hi
            rw [Ty] at hd1
            rcases hd with rfl | rfl
            · simp (disch := omega) only [fX5_byClause_L17, ZMA, e17, Option.bind_some, if_neg (nI_ge hi (show Zmn P c < 2 ^ 31 by omega)), if_neg (fun h => q (hn.mp h)), e2, if_true, Zesc_l, nI_1]
              exact ⟨_, rfl, key 0 (Or.inl rfl) ⟨fun h => absurd h (by decide), fun h => hd1.mpr h.2⟩⟩
            · simp (disch := omega) only [fX5_byClause_L17, ZMA, e17, Option.bind_some, if_neg (nI_ge hi (show Zmn P c < 2 ^ 31 by omega)), if_neg (fun h => q (hn.mp h)), e2, Zne10, if_false, Zesc_r, nI_1]
              exact ⟨_, rfl, key 1 (Or.inr rfl) ⟨fun h => ⟨q, hd1.mp h⟩, fun _ => rfl⟩⟩)
        (by
          rintro a ⟨b, rfl, hb, hb1⟩
          simp (disch := omega) only [fX5_byClause_L17, ZMA, e17, Option.bind_some, if_pos (nI_le (Nat.le_refl _) (show Zmn P c < 2 ^ 31 by omega))]
          exact ⟨_, rfl, hb, hb1⟩)
        N ((0 : Int32), (0 : Int32)) (by omega) ⟨0, rfl, Or.inl rfl, fun h => absurd h (by decide), fun ⟨r, h, _⟩ => absurd h (by omega)⟩
      obtain ⟨b, e1, hb, hb1⟩ := L2
      obtain ⟨-, v1, v2⟩ := hv p hp
      obtain ⟨e19, e23⟩ := (My.2.2.2 c hc).2.2.2.2.2.1 hs p hp
      have key : ∀ v : Int32, (∀ k, k < 32 → (Zt v k = true ↔ (∃ r, r < Zmn P c ∧ r ≠ p ∧ ∃ j, j < 32 ∧ Zt (ZDm P (ZTm st) c r) j = true ∧ Zhd P c r j) ∨ Zhd P c p k)) → ∃ y', (((y.1, zua y.2 41 (8 * c + p) (ZDm P (ZTm st) c p &&& v)), nI (p + 1)) : zMS × Int32) = (y', nI (p + 1)) ∧ ZfS st y' ∧ ZMo c st y' ∧ ∀ q, q < p + 1 → ∀ k, k < 32 → (Zt (y'.2 41 (8 * c + q)) k = true ↔ Zt (ZDm P (ZTm st) c q) k = true ∧ ((∃ r, r < Zmn P c ∧ r ≠ q ∧ ∃ j, j < 32 ∧ Zt (ZDm P (ZTm st) c r) j = true ∧ Zhd P c r j) ∨ Zhd P c q k)) := by
        intro v hv
        refine ⟨_, rfl, fy.arr rfl, ZMo_put oy (by omega), fun q hq k hk => ?_⟩
        by_cases g : q = p
        · subst g
          simp only [zua_ss]
          rw [Zt_and, Bool.and_eq_true, hv k hk]
        · simp only [zua_sn (show 8 * c + q ≠ 8 * c + p by omega)]
          exact hy q (by omega) k hk
      rcases hb with hb | hb
      · have hno : ¬ ∃ r, r < Zmn P c ∧ r ≠ p ∧ ∃ j, j < 32 ∧ Zt (ZDm P (ZTm st) c r) j = true ∧ Zhd P c r j := fun h => by rw [hb1.mpr h] at hb; cases hb
        rcases v2 with v2 | v2
        · simp (disch := omega) only [fX5_byClause_L2, ZMA, e17, Option.bind_some, if_neg (nI_ge hp (show Zmn P c < 2 ^ 31 by omega)), e1, Zm6, Zm8, nI_add, e19, e23, dp, if_pos hb, if_pos v2, nI_1]
          refine ⟨_, rfl, key _ fun k hk => ?_⟩
          rw [Zt_not, Zt_one v1]
          simp only [hno, false_or]
          simp [Zhd, v2, hk]
        · simp (disch := omega) only [fX5_byClause_L2, ZMA, e17, Option.bind_some, if_neg (nI_ge hp (show Zmn P c < 2 ^ 31 by omega)), e1, Zm6, Zm8, nI_add, e19, e23, dp, if_pos hb, if_neg (show ¬ Zhs P c p = 0 by rw [v2]; decide), nI_1]
          refine ⟨_, rfl, key _ fun k hk => ?_⟩
          rw [Zt_one v1]
          simp only [hno, false_or]
          simp [Zhd, v2]
      · simp (disch := omega) only [fX5_byClause_L2, ZMA, e17, Option.bind_some, if_neg (nI_ge hp (show Zmn P c < 2 ^ 31 by omega)), e1, Zm6, Zm8, nI_add, e19, e23, dp, if_neg (show ¬ b = 0 by rw [hb]; decide), nI_1]
        refine ⟨_, rfl, key _ fun k hk => ?_⟩
        rw [Zt_m1]
        simp only [hk, decide_true, true_iff]
        exact Or.inl (hb1.mp hb))
    (by
      rintro a ⟨y, rfl, hy⟩
      have e17 := ((hy.1.mp hM).2.2.2 c hc).2.1
      simp (disch := omega) only [fX5_byClause_L2, ZMA, e17, Option.bind_some, if_pos (nI_le (Nat.le_refl _) (show Zmn P c < 2 ^ 31 by omega))]
      exact ⟨_, rfl, hy⟩)
    N (st, 0) (by omega) ⟨st, rfl, ZfM.rfl, fun _ _ => rfl, fun q hq => absurd hq (by omega)⟩
  obtain ⟨y, e, fy, oy, hy⟩ := L
  refine ⟨y, e, fy, oy, fun p hp _ k hk hD => ?_⟩
  rw [hy p hp k hk]
  simp only [Zsup, hs, hD, true_and]
end ME
