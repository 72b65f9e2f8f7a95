/-! M: what sums, unlike values and rows that do not fall support -/
set_option maxRecDepth 100000
/-- a state while a constraint's supports are laid: places below p are done, those from p on are empty -/
def ZMi (P : ZP) (T : ZT0) (c : Nat) (S : Nat → Nat → Prop) (st : zMS) (p : Nat) (st' : zMS) : Prop := ZfS st st' ∧ ZMo c st st' ∧ (∀ q, q < p → Zkd P (Zpl P c q) ≤ 2 → ∀ k, k < 32 → (Zt (st'.2 41 (8 * c + q)) k = true ↔ S q k)) ∧ ∀ q, p ≤ q → q < 8 → st'.2 41 (8 * c + q) = 0
section MS
variable {st : zMS} {P : ZP} {c : Nat}
theorem ZMo_put {st y : zMS} {p : Nat} {v : Int32} (h : ZMo c st y) (hp : p < 8) : ZMo c st (y.1, zua y.2 41 (8 * c + p) v) := fun j hj => by
  simp only [zua_sn (show j ≠ 8 * c + p by omega)]
  exact h j hj
theorem ZM_byLinear (hP : ZPok P) (hM : ZMP st P) (hc : c < Znc P) (hs : Zso P c = 0) (hT : ZTok P (ZTm st)) (h0 : ∀ p, p < 8 → st.2 41 (8 * c + p) = 0) (N : Nat) (hN : 1000 ≤ N) : ∃ st', fX5_byLinear N st (nI c) = some st' ∧ ZfS st st' ∧ ZMo c st st' ∧ ZMs P (ZTm st) c st' := by
  have hC := hP.2.2.2.2.2 c hc
  have hCl := ZCl_of hC hs
  have hnc := hP.2.1
  have hn10 := hP.1
  have m6 := hCl.2.1
  have L := Zl_inv (body := fX5_byLinear_L2 N (nI c)) (fun p a => ∃ y, a = (y, nI p) ∧ ZMi P (ZTm st) c (fun q k => k < 16 ∧ Zt (ZDm P (ZTm st) c q) k = true ∧ ZLok P (ZTm st) c q (k : Nat)) st p y) (Zmn P c)
    (fun y => ZMi P (ZTm st) c (fun q k => k < 16 ∧ Zt (ZDm P (ZTm st) c q) k = true ∧ ZLok P (ZTm st) c q (k : Nat)) st (Zmn P c) y)
    (by
      rintro p a hp ⟨y, rfl, fy, oy, yd, y0⟩
      have My := fy.mp hM
      have Ty := fy.tm
      have e17 := (My.2.2.2 c hc).2.1
      have e18 := (My.2.2.2 c hc).2.2.1 p hp
      obtain ⟨g1, g2⟩ := hCl.2.2.1 p hp
      have inner : ∃ z, zloop (fX5_byLinear_L27 N (nI c) (y, nI p) (nI (Zpl P c p))) N (y, 0) = some z ∧ ZfS st z ∧ ZMo c st z ∧ (∀ q, q ≠ p → z.2 41 (8 * c + q) = y.2 41 (8 * c + q)) ∧ (Zkd P (Zpl P c p) ≤ 2 → ∀ k, k < 32 → (Zt (z.2 41 (8 * c + p)) k = true ↔ k < 16 ∧ Zt (ZDm P (ZTm st) c p) k = true ∧ ZLok P (ZTm st) c p (k : Nat))) := by
        have L := Zl_ex (body := fX5_byLinear_L27 N (nI c) (y, nI p) (nI (Zpl P c p))) (fun v a => ∃ z, a = (z, nI v) ∧ ZfS st z ∧ ZMo c st z ∧ (∀ q, q ≠ p → z.2 41 (8 * c + q) = y.2 41 (8 * c + q)) ∧ (Zkd P (Zpl P c p) ≤ 2 → ∀ k, k < 32 → (Zt (z.2 41 (8 * c + p)) k = true ↔ k < v ∧ Zt (ZDm P (ZTm st) c p) k = true ∧ ZLok P (ZTm st) c p (k : Nat)))) 16
          (fun z => ZfS st z ∧ ZMo c st z ∧ (∀ q, q ≠ p → z.2 41 (8 * c + q) = y.2 41 (8 * c + q)) ∧ (Zkd P (Zpl P c p) ≤ 2 → ∀ k, k < 32 → (Zt (z.2 41 (8 * c + p)) k = true ↔ k < 16 ∧ Zt (ZDm P (ZTm st) c p) k = true ∧ ZLok P (ZTm st) c p (k : Nat))))
          (by
            rintro v a hv ⟨z, rfl, fz, oz, zq, zp⟩
            have h16 : ¬ (16 : Int32) ≤ nI v := nI_ge (b := 16) hv (by decide)
            have Mz := fz.mp hM
            have Tz := fz.tm
            have e1 := (Mz.2.2.1 _ g1).1
            have e34 : z.2 34 (Zpl P c p) = ZDm P (ZTm st) c p := by rw [← Tz]; rfl
            rcases g2 with k0 | k3
            · have hk0 : nI (Zkd P (Zpl P c p)) = 0 := by rw [k0]; rfl
              have hu : Zun P (Zpl P c p) = 12 := by unfold Zun; rw [if_neg (by omega)]
              have skip : (∃ z', ((z, nI (v + 1)) : zMS × Int32) = (z', nI (v + 1)) ∧ True) := ⟨z, rfl, trivial⟩
              by_cases q : Zt (ZDm P (ZTm st) c p) v = true
              · obtain ⟨b, q1, q2, q3⟩ := ZM_lin hP Mz hc hs (by rw [Tz]; exact hT) hp (w := nI v) (x := (v : Nat)) (nI_toInt (by omega)) (by rw [hu]; omega) (by rw [hu]; omega) N hN
                rw [Tz] at q3
                rcases q2 with rfl | rfl
                · simp (disch := omega) only [fX5_byLinear_L27, if_neg h16, ZMA, e1, Option.bind_some, if_pos hk0, e34, ZhasBit_t (show v < 32 by omega) q, Zne10, if_false, q1, if_true, nI_1]
                  refine Or.inl ⟨_, rfl, z, rfl, fz, oz, zq, fun hk k hk32 => ?_⟩
                  rw [zp hk k hk32]
                  have : ¬ ZLok P (ZTm st) c p (v : Nat) := fun h => absurd (q3.mpr h) (by decide)
                  constructor
                  · rintro ⟨a1, a2⟩
                    exact ⟨by omega, a2⟩
                  · rintro ⟨a1, a2, a3⟩
                    by_cases e : k = v
                    · subst e
                      exact absurd a3 this
                    · exact ⟨by omega, a2, a3⟩
                · simp (disch := omega) only [fX5_byLinear_L27, if_neg h16, ZMA, e1, Option.bind_some, if_pos hk0, e34, ZhasBit_t (show v < 32 by omega) q, Zne10, if_false, q1, ZM_supp hP hc (show p < 8 by omega), nI_1]
                  refine Or.inl ⟨_, rfl, _, rfl, fz.arr rfl, ZMo_put oz (by omega), fun q' hq' => (zua_sn (by omega)).trans (zq q' hq'), fun hk k hk32 => ?_⟩
                  simp only [zua_ss]
                  rw [Zt_put (by omega), zp hk k hk32]
                  have := q3.mp rfl
                  constructor
                  · rintro (⟨a1, a2⟩ | a1)
                    · exact ⟨by omega, a2⟩
                    · subst a1
                      exact ⟨by omega, q, this⟩
                  · rintro ⟨a1, a2⟩
                    by_cases e : k = v
                    · exact Or.inr e
                    · exact Or.inl ⟨by omega, a2⟩
              · simp (disch := omega) only [fX5_byLinear_L27, if_neg h16, ZMA, e1, Option.bind_some, if_pos hk0, e34, ZhasBit_f (show v < 32 by omega) q, if_true, nI_1]
                refine Or.inl ⟨_, rfl, z, rfl, fz, oz, zq, fun hk k hk32 => ?_⟩
                rw [zp hk k hk32]
                constructor
                · rintro ⟨a1, a2⟩
                  exact ⟨by omega, a2⟩
                · rintro ⟨a1, a2, a3⟩
                  by_cases e : k = v
                  · subst e
                    exact absurd a2 q
                  · exact ⟨by omega, a2, a3⟩
            · have hk0 : ¬ nI (Zkd P (Zpl P c p)) = 0 := by rw [k3]; decide
              simp (disch := omega) only [fX5_byLinear_L27, if_neg h16, ZMA, e1, Option.bind_some, if_neg hk0]
              exact Or.inr ⟨_, rfl, fz, oz, zq, fun hk => absurd hk (by omega)⟩)
          (by
            rintro a ⟨z, rfl, h⟩
            simp only [fX5_byLinear_L27, if_pos (show (16 : Int32) ≤ nI 16 by decide)]
            exact ⟨_, rfl, h⟩)
          N (y, 0) (by omega) ⟨y, rfl, fy, oy, fun _ _ => rfl, fun _ k hk => by
            rw [y0 p (Nat.le_refl _) (by omega), Zt_0]
            exact ⟨fun h => (by cases h), fun h => absurd h.1 (by omega)⟩⟩
        exact L
      obtain ⟨z, ez, fz, oz, zq, zp⟩ := inner
      simp (disch := omega) only [fX5_byLinear_L2, ZMA, e17, Option.bind_some, if_neg (nI_ge hp (show Zmn P c < 2 ^ 31 by omega)), Zm8, nI_add, e18, ez, nI_1]
      refine ⟨_, rfl, z, rfl, fz, oz, fun q hq hk k hk32 => ?_, fun q h1 h2 => by rw [zq q (by omega)]; exact y0 q (by omega) h2⟩
      by_cases e : q = p
      · subst e
        exact zp hk k hk32
      · rw [zq q e]
        exact yd q (by omega) hk k hk32)
    (by
      rintro a ⟨y, rfl, hy⟩
      have e17 := ((hy.1.mp hM).2.2.2 c hc).2.1
      simp (disch := omega) only [fX5_byLinear_L2, ZMA, e17, Option.bind_some, if_pos (nI_le (Nat.le_refl _) (show Zmn P c < 2 ^ 31 by omega))]
      exact ⟨_, rfl, hy⟩)
    N (st, 0) (by omega) ⟨st, rfl, ZfM.rfl, fun _ _ => rfl, fun q hq => absurd hq (by omega), fun q _ hq => h0 q hq⟩
  obtain ⟨y, e, fy, oy, yd, -⟩ := L
  refine ⟨y, e, fy, oy, fun p hp hk k hk32 hD => ?_⟩
  rw [yd p hp hk k hk32]
  simp only [Zsup, hs]
  have : k < 16 := by
    have := ((hT _ (hCl.2.2.1 p hp).1).1 hk).2 k hD
    have hk0 := (hCl.2.2.1 p hp).2
    rw [show Zkd P (Zpl P c p) = 0 by omega] at this
    exact this
  exact ⟨fun h => h.2.2, fun h => ⟨this, hD, h⟩⟩
/-- values at least, at most -/
theorem Zatl {x : Int32} {l : Nat} (hl : l ≤ 32) : ∃ w, fX5_atLeast x (nI l) = some w ∧ ∀ k, k < 32 → Zt w k = (Zt x k && decide (l ≤ k)) := by
  unfold fX5_atLeast
  by_cases h : l < 32
  · rw [if_pos (show nI l ≤ (31 : Int32) from nI_le (b := 31) (by omega) (by decide)), if_pos (nI_pos' (by omega))]
    exact ⟨_, rfl, fun k hk => Zt_from h hk⟩
  · rw [if_neg (show ¬ nI l ≤ (31 : Int32) from nI_ge (a := 31) (by omega) (by omega))]
    refine ⟨_, rfl, fun k hk => ?_⟩
    rw [Zt_0]
    simp [show ¬ l ≤ k by omega]
theorem Zatm_all : ∀ h, h < 31 → ((1 : Int32) <<< (nI (h + 1) &&& 31)) - 1 = nI (2 ^ (h + 1) - 1) := by decide +kernel
theorem Zatm {x : Int32} {h : Nat} (hh : h ≤ 32) : ∃ w, fX5_atMost x (nI h - 1) = some w ∧ ∀ k, k < 32 → Zt w k = (Zt x k && decide (k < h)) := by
  unfold fX5_atMost
  rcases Nat.eq_zero_or_pos h with q | q
  · subst q
    rw [if_neg (by decide)]
    refine ⟨_, rfl, fun k hk => ?_⟩
    rw [Zt_0]
    simp
  · obtain ⟨g, rfl⟩ : ∃ g, h = g + 1 := ⟨h - 1, by omega⟩
    rw [nI_pred, if_pos (nI_pos' (by omega))]
    by_cases g30 : g < 31
    · rw [if_pos (show nI g ≤ (30 : Int32) from nI_le (b := 30) (by omega) (by decide)), nI_1, Zatm_all g g30]
      refine ⟨_, rfl, fun k hk => ?_⟩
      rw [Zt_and, Zt_nI' (Nat.lt_of_le_of_lt (Nat.sub_le _ _) (Nat.pow_lt_pow_right (by omega) (by omega))), Nat.testBit_two_pow_sub_one]
    · rw [if_neg (show ¬ nI g ≤ (30 : Int32) from nI_ge (a := 30) (by omega) (by omega))]
      refine ⟨_, rfl, fun k hk => ?_⟩
      simp [show k < g + 1 by omega]
theorem ZM_ordered (hP : ZPok P) (hM : ZMP st P) (hc : c < Znc P) (hs : Zso P c = 2) (hT : ZTok P (ZTm st)) (N : Nat) (hN : 1000 ≤ N) : ∃ st', fX5_ordered N st (nI c) = some st' ∧ ZfS st st' ∧ ZMo c st st' ∧ ZMs P (ZTm st) c st' := by
  have hC := hP.2.2.2.2.2 c hc
  have hnc := hP.2.1
  have m1 := hC.1
  have m6 : Zmn P c ≤ 6 := hC.2.2.2.2.2.1 (Or.inr hs)
  have hD16 : ∀ q, q < Zmn P c → ∀ j, Zt (ZDm P (ZTm st) c q) j = true → j < 16 := by
    intro q hq j hj
    have hk := hC.2.2.2.2.2.2.2.2.1 (by omega) (by omega) q hq
    have := ((hT _ (hC.2.2.1 q hq)).1 (by omega)).2 j hj
    rw [hk] at this
    exact this
  have L := Zl_inv (body := fX5_ordered_L9 N (nI c) (nI (Zmn P c))) (fun p a => ∃ y, a = (y, nI p) ∧ ZfS st y ∧ ZMo c st y ∧ ∀ q, q < p → ∀ k, k < 32 → (Zt (y.2 41 (8 * c + q)) k = true ↔ Zt (ZDm P (ZTm st) c q) k = true ∧ ZoL P (ZTm st) c q ≤ k ∧ k < ZoH P (ZTm st) c (Zmn P c - 1 - q))) (Zmn P c)
    (fun y => ZfS st y ∧ ZMo c st y ∧ ∀ q, q < Zmn P c → ∀ k, k < 32 → (Zt (y.2 41 (8 * c + q)) k = true ↔ Zt (ZDm P (ZTm st) c q) k = true ∧ ZoL P (ZTm st) c q ≤ k ∧ k < ZoH P (ZTm st) c (Zmn P c - 1 - q)))
    (by
      rintro p a hp ⟨y, rfl, fy, oy, yq⟩
      have My := fy.mp hM
      have Ty := fy.tm
      have dm : ∀ q, q < Zmn P c → fX5_domainAt y (nI c) (nI q) = some (ZDm P (ZTm st) c q) := fun q hq => by rw [← Ty]; exact ZM_dom hP My hc hq
      -- from below
      have L1 := Zl_inv (body := fX5_ordered_L20 N (nI c) (y, nI p)) (fun i a => a = (nI (ZoL P (ZTm st) c i), nI i)) p (fun r => r = nI (ZoL P (ZTm st) c p))
        (by
          rintro i a hi rfl
          obtain ⟨w, e, hw⟩ := Zatl (x := ZDm P (ZTm st) c i) (ZoL_le P (ZTm st) c i)
          have en : Zfs (Zt w) 32 0 = ZoL P (ZTm st) c (i + 1) := Zfs_congr 32 0 fun j _ hj => hw j (by omega)
          simp only [fX5_ordered_L20, if_neg (nI_ge hi (show p < 2 ^ 31 by omega)), dm i (by omega), e, Option.bind_some, Zlowest w N hN, en, nI_1]
          exact ⟨_, rfl, rfl⟩)
        (by
          rintro a rfl
          simp only [fX5_ordered_L20, if_pos (nI_le (Nat.le_refl _) (show p < 2 ^ 31 by omega))]
          exact ⟨_, rfl, rfl⟩)
        N ((0 : Int32), (0 : Int32)) (by omega) rfl
      obtain ⟨r1, e1, rfl⟩ := L1
      -- from above
      have L2 := Zl_inv (body := fX5_ordered_L58 N (nI c) (y, nI p)) (fun j a => ∃ h, a = (nI h - 1, nI (Zmn P c - 1 - j)) ∧ h ≤ 32 ∧ (h = ZoH P (ZTm st) c j ∨ (j = 0 ∧ h = 16))) (Zmn P c - 1 - p) (fun r => ∃ h, r = nI h - 1 ∧ h ≤ 32 ∧ (h = ZoH P (ZTm st) c (Zmn P c - 1 - p) ∨ (p = Zmn P c - 1 ∧ h = 16)))
        (by
          rintro j a hj ⟨h, rfl, h32, hh⟩
          obtain ⟨w, e, hw⟩ := Zatm (x := ZDm P (ZTm st) c (Zmn P c - 1 - j)) h32
          have en : Zla (Zt w) 32 = ZoH P (ZTm st) c (j + 1) := Zla_congr 32 fun k hk => by
            rw [hw k hk]
            rcases hh with hh | ⟨rfl, rfl⟩
            · rw [hh]
            · cases e : Zt (ZDm P (ZTm st) c (Zmn P c - 1 - 0)) k with
              | false => rfl
              | true =>
                have := hD16 _ (by omega) k e
                simp [this, ZoH, hk]
          have e6 : nI (Zmn P c - 1 - j) + (-1) = nI (Zmn P c - 1 - (j + 1)) := by rw [show Zmn P c - 1 - j = (Zmn P c - 1 - (j + 1)) + 1 by omega, pk_m1]
          simp only [fX5_ordered_L58, if_neg (nI_ge (show p < Zmn P c - 1 - j by omega) (by omega)), dm (Zmn P c - 1 - j) (by omega), e, Option.bind_some, Zhighest w N hN, en, e6]
          exact ⟨_, rfl, _, rfl, ZoH_le _ _ _ _, Or.inl rfl⟩)
        (by
          rintro a ⟨h, rfl, h32, hh⟩
          simp only [fX5_ordered_L58, if_pos (nI_le (show Zmn P c - 1 - (Zmn P c - 1 - p) ≤ p by omega) (show p < 2 ^ 31 by omega))]
          refine ⟨_, rfl, h, rfl, h32, ?_⟩
          rcases hh with hh | ⟨h1, h2⟩
          · exact Or.inl hh
          · exact Or.inr ⟨by omega, h2⟩)
        N ((15 : Int32), nI (Zmn P c) - 1) (by omega) ⟨16, by rw [show nI (Zmn P c) - 1 = nI (Zmn P c - 1) from pk_sub (b := 1) m1, Nat.sub_zero]; rfl, by omega, Or.inr ⟨rfl, rfl⟩⟩
      obtain ⟨r2, e2, h, rfl, h32, hh⟩ := L2
      obtain ⟨w, ew, hw⟩ := Zatl (x := ZDm P (ZTm st) c p) (ZoL_le P (ZTm st) c p)
      obtain ⟨v, ev, hv⟩ := Zatm (x := w) h32
      simp (disch := omega) only [fX5_ordered_L9, if_neg (nI_ge hp (show Zmn P c < 2 ^ 31 by omega)), e1, e2, Option.bind_some, dm p hp, ew, ev, Zm8, nI_add, ZMA, nI_1]
      refine ⟨_, rfl, _, rfl, fy.arr rfl, ZMo_put oy (by omega), fun q hq k hk => ?_⟩
      by_cases g : q = p
      · subst g
        simp only [zua_ss]
        rw [hv k hk, hw k hk]
        simp only [Bool.and_eq_true, decide_eq_true_eq]
        rcases hh with hh | ⟨h1, h2⟩
        · rw [hh]
          constructor
          · rintro ⟨⟨a1, a2⟩, a3⟩
            exact ⟨a1, a2, a3⟩
          · rintro ⟨a1, a2, a3⟩
            exact ⟨⟨a1, a2⟩, a3⟩
        · rw [h2, show Zmn P c - 1 - q = 0 by omega]
          simp only [ZoH]
          constructor
          · rintro ⟨⟨a1, a2⟩, a3⟩
            exact ⟨a1, a2, hk⟩
          · rintro ⟨a1, a2, a3⟩
            exact ⟨⟨a1, a2⟩, hD16 q hp k a1⟩
      · simp only [zua_sn (show 8 * c + q ≠ 8 * c + p by omega)]
        exact yq q (by omega) k hk)
    (by
      rintro a ⟨y, rfl, hy⟩
      simp only [fX5_ordered_L9, if_pos (nI_le (Nat.le_refl _) (show Zmn P c < 2 ^ 31 by omega))]
      exact ⟨_, rfl, hy⟩)
    N (st, 0) (by omega) ⟨st, rfl, ZfM.rfl, fun _ _ => rfl, fun q hq => absurd hq (by omega)⟩
  obtain ⟨y, e, fy, oy, yq⟩ := L
  have e17 := (hM.2.2.2 c hc).2.1
  refine ⟨y, ?_, fy, oy, fun p hp _ k hk hD => ?_⟩
  · simp (disch := omega) only [fX5_ordered, ZMA, e17, Option.bind_some]
    exact e
  · rw [yq p hp k hk]
    simp only [Zsup, hs, hD, true_and]
end MS
