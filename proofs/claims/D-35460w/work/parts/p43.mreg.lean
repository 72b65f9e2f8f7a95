/-! M: what automata support -/
set_option maxRecDepth 100000
theorem Zadd3 (i : Nat) : nI i + 3 = nI (i + 3) := nI_add i 3
section MR
variable {st : zMS} {P : ZP} {c : Nat}
theorem ZM_mv (hM : ZMP st P) (hc : c < Znc P) (hs : Zso P c = 3) {i : Nat} (hi : i < Zrm P c) : st.2 22 (48 * c + 3 * i) = nI (Zmv P c (3 * i)) ∧ st.2 22 (48 * c + 3 * i + 1) = nI (Zmv P c (3 * i + 1)) ∧ st.2 22 (48 * c + 3 * i + 2) = nI (Zmv P c (3 * i + 2)) := by
  have h := ((hM.2.2.2 c hc).2.2.2.2.1 hs).2.2
  exact ⟨h (3 * i) (by omega), by rw [Nat.add_assoc]; exact h (3 * i + 1) (by omega), by rw [Nat.add_assoc]; exact h (3 * i + 2) (by omega)⟩
/-- states behind some, or ahead of some -/
theorem ZM_stepped (hP : ZPok P) (hM : ZMP st P) (hc : c < Znc P) (hs : Zso P c = 3) (S X : Int32) (on : Bool) (N : Nat) (hN : 1000 ≤ N) : ∃ w, fX5_stepped N st (nI c) S X (if on then 1 else 0) = some w ∧ ∀ s, s < 32 → (Zt w s = true ↔ ∃ i, i < Zrm P c ∧ Zt S (Zmv P c (if on then 3 * i else 3 * i + 2)) = true ∧ Zt X (Zmv P c (3 * i + 1)) = true ∧ Zmv P c (if on then 3 * i + 2 else 3 * i) = s) := by
  have hC := hP.2.2.2.2.2 c hc
  have hnc := hP.2.1
  obtain ⟨m6, r16, hmv⟩ := hC.2.2.2.2.2.2.1 hs
  have e21 := ((hM.2.2.2 c hc).2.2.2.2.1 hs).2.1
  have L := Zl_inv (body := fX5_stepped_L9 st (nI c) S X (if on then 1 else 0)) (fun i a => ∃ w, a = (w, nI (48 * c + 3 * i)) ∧ ∀ s, s < 32 → (Zt w s = true ↔ ∃ i', i' < i ∧ Zt S (Zmv P c (if on then 3 * i' else 3 * i' + 2)) = true ∧ Zt X (Zmv P c (3 * i' + 1)) = true ∧ Zmv P c (if on then 3 * i' + 2 else 3 * i') = s)) (Zrm P c)
    (fun w => ∀ s, s < 32 → (Zt w s = true ↔ ∃ i', i' < Zrm P c ∧ Zt S (Zmv P c (if on then 3 * i' else 3 * i' + 2)) = true ∧ Zt X (Zmv P c (3 * i' + 1)) = true ∧ Zmv P c (if on then 3 * i' + 2 else 3 * i') = s))
    (by
      rintro i a hi ⟨w, rfl, hw⟩
      obtain ⟨v1, v2, v3⟩ := hmv i hi
      obtain ⟨e1, e2, e3⟩ := ZM_mv hM hc hs hi
      have hlt : ¬ nI (48 * c + 3 * Zrm P c) ≤ nI (48 * c + 3 * i) := nI_ge (by omega) (by omega)
      have nx : 48 * c + 3 * i + 3 = 48 * c + 3 * (i + 1) := by omega
      have key : ∀ w' : Int32, (∀ s, s < 32 → (Zt w' s = true ↔ Zt w s = true ∨ (Zt S (Zmv P c (if on then 3 * i else 3 * i + 2)) = true ∧ Zt X (Zmv P c (3 * i + 1)) = true ∧ Zmv P c (if on then 3 * i + 2 else 3 * i) = s))) → ∃ w'' : Int32, ((w', nI (48 * c + 3 * i + 3)) : Int32 × Int32) = (w'', nI (48 * c + 3 * (i + 1))) ∧ ∀ s, s < 32 → (Zt w'' s = true ↔ ∃ i', i' < i + 1 ∧ Zt S (Zmv P c (if on then 3 * i' else 3 * i' + 2)) = true ∧ Zt X (Zmv P c (3 * i' + 1)) = true ∧ Zmv P c (if on then 3 * i' + 2 else 3 * i') = s) := by
        intro w' hw'
        refine ⟨w', by rw [nx], fun s hs => ?_⟩
        rw [hw' s hs, hw s hs]
        constructor
        · rintro (⟨i', g1, g2⟩ | g)
          · exact ⟨i', by omega, g2⟩
          · exact ⟨i, by omega, g⟩
        · rintro ⟨i', g1, g2⟩
          by_cases z : i' = i
          · subst z
            exact Or.inr g2
          · exact Or.inl ⟨i', by omega, g2⟩
      cases on with
      | true =>
        simp only [if_true] at key ⊢
        by_cases q1 : Zt S (Zmv P c (3 * i)) = true
        · by_cases q2 : Zt X (Zmv P c (3 * i + 1)) = true
          · simp (disch := omega) only [fX5_stepped_L9, ZMA, e21, Option.bind_some, Zm48, Zm3, nI_add, if_neg hlt, Zne10, if_false, Zadd2, nI_1, e1, e2, e3, ZhasBit_t (show Zmv P c (3 * i) < 32 by omega) q1, ZhasBit_t (show Zmv P c (3 * i + 1) < 32 by omega) q2, Zesc_r, Zadd3]
            exact ⟨_, rfl, key _ fun s hs => by rw [Zt_put (by omega)]; simp only [q1, q2, true_and]; exact or_congr_right eq_comm⟩
          · simp (disch := omega) only [fX5_stepped_L9, ZMA, e21, Option.bind_some, Zm48, Zm3, nI_add, if_neg hlt, Zne10, if_false, Zadd2, nI_1, e1, e2, e3, ZhasBit_t (show Zmv P c (3 * i) < 32 by omega) q1, ZhasBit_f (show Zmv P c (3 * i + 1) < 32 by omega) q2, if_true, Zesc_l, Zadd3]
            exact ⟨_, rfl, key _ fun s hs => by rw [Zt_or0]; simp [q2]⟩
        · simp (disch := omega) only [fX5_stepped_L9, ZMA, e21, Option.bind_some, Zm48, Zm3, nI_add, if_neg hlt, Zne10, if_false, Zadd2, nI_1, e1, e2, e3, ZhasBit_f (show Zmv P c (3 * i) < 32 by omega) q1, if_true, Zesc_l, Zadd3]
          exact ⟨_, rfl, key _ fun s hs => by rw [Zt_or0]; simp [q1]⟩
      | false =>
        simp only [Bool.false_eq_true, if_false] at key ⊢
        by_cases q1 : Zt S (Zmv P c (3 * i + 2)) = true
        · by_cases q2 : Zt X (Zmv P c (3 * i + 1)) = true
          · simp (disch := omega) only [fX5_stepped_L9, ZMA, e21, Option.bind_some, Zm48, Zm3, nI_add, if_neg hlt, Zne10, if_false, Zadd2, nI_1, e1, e2, e3, ZhasBit_t (show Zmv P c (3 * i + 2) < 32 by omega) q1, ZhasBit_t (show Zmv P c (3 * i + 1) < 32 by omega) q2, if_true, Zesc_r, Zadd3]
            exact ⟨_, rfl, key _ fun s hs => by rw [Zt_put (by omega)]; simp only [q1, q2, true_and]; exact or_congr_right eq_comm⟩
          · simp (disch := omega) only [fX5_stepped_L9, ZMA, e21, Option.bind_some, Zm48, Zm3, nI_add, if_neg hlt, Zne10, if_false, Zadd2, nI_1, e1, e2, e3, ZhasBit_t (show Zmv P c (3 * i + 2) < 32 by omega) q1, ZhasBit_f (show Zmv P c (3 * i + 1) < 32 by omega) q2, if_true, Zesc_l, Zadd3]
            exact ⟨_, rfl, key _ fun s hs => by rw [Zt_or0]; simp [q2]⟩
        · simp (disch := omega) only [fX5_stepped_L9, ZMA, e21, Option.bind_some, Zm48, Zm3, nI_add, if_neg hlt, Zne10, if_false, Zadd2, nI_1, e1, e2, e3, ZhasBit_f (show Zmv P c (3 * i + 2) < 32 by omega) q1, if_true, Zesc_l, Zadd3]
          exact ⟨_, rfl, key _ fun s hs => by rw [Zt_or0]; simp [q1]⟩)
    (by
      rintro a ⟨w, rfl, hw⟩
      simp (disch := omega) only [fX5_stepped_L9, ZMA, e21, Option.bind_some, Zm48, Zm3, nI_add, if_pos (nI_le (Nat.le_refl _) (show 48 * c + 3 * Zrm P c < 2 ^ 31 by omega))]
      exact ⟨_, rfl, hw⟩)
    N ((0 : Int32), nI (48 * c)) (by omega) ⟨0, rfl, fun s hs => by
      rw [Zt_0]
      exact ⟨fun h => (by cases h), fun ⟨i, h, _⟩ => absurd h (by omega)⟩⟩
  obtain ⟨w, e, hw⟩ := L
  refine ⟨w, ?_, hw⟩
  simp only [fX5_stepped, Option.bind_some, Zm48]
  exact e
theorem ZM_byRegular (hP : ZPok P) (hM : ZMP st P) (hc : c < Znc P) (hs : Zso P c = 3) (h0 : ∀ p, p < 8 → st.2 41 (8 * c + p) = 0) (N : Nat) (hN : 1000 ≤ N) : ∃ st', fX5_byRegular N st (nI c) = some st' ∧ ZfS st st' ∧ ZMo c st st' ∧ ZMs P (ZTm st) c st' := by
  have hC := hP.2.2.2.2.2 c hc
  have hnc := hP.2.1
  have m1 := hC.1
  obtain ⟨m6, r16, hmv⟩ := hC.2.2.2.2.2.2.1 hs
  have L := Zl_inv (body := fX5_byRegular_L9 N (nI c) (nI (Zmn P c))) (fun p a => ∃ y, a = (y, nI p) ∧ ZMi P (ZTm st) c (fun q k => Zt (ZDm P (ZTm st) c q) k = true ∧ ∃ i, i < Zrm P c ∧ Zre P (ZTm st) c q (Zmv P c (3 * i)) ∧ Zld P (ZTm st) c (Zmn P c - 1 - q) (Zmv P c (3 * i + 2)) ∧ Zmv P c (3 * i + 1) = k) st p y) (Zmn P c)
    (fun y => ZMi P (ZTm st) c (fun q k => Zt (ZDm P (ZTm st) c q) k = true ∧ ∃ i, i < Zrm P c ∧ Zre P (ZTm st) c q (Zmv P c (3 * i)) ∧ Zld P (ZTm st) c (Zmn P c - 1 - q) (Zmv P c (3 * i + 2)) ∧ Zmv P c (3 * i + 1) = k) st (Zmn P c) y)
    (by
      rintro p a hp ⟨y, rfl, fy, oy, yd, y0⟩
      have My := fy.mp hM
      have Ty := fy.tm
      have e20 := ((My.2.2.2 c hc).2.2.2.2.1 hs).1
      have dm : ∀ q, q < Zmn P c → fX5_domainAt y (nI c) (nI q) = some (ZDm P (ZTm st) c q) := fun q hq => by rw [← Ty]; exact ZM_dom hP My hc hq
      have L1 := Zl_inv (body := fX5_byRegular_L20 N (nI c) (y, nI p)) (fun i a => ∃ w, a = (w, nI i) ∧ ∀ s, s < 32 → (Zt w s = true ↔ Zre P (ZTm st) c i s)) p (fun w => ∀ s, s < 32 → (Zt w s = true ↔ Zre P (ZTm st) c p s))
        (by
          rintro i a hi ⟨w, rfl, hw⟩
          obtain ⟨w', e, hw'⟩ := ZM_stepped hP My hc hs w (ZDm P (ZTm st) c i) true N hN
          simp only [if_true] at e hw'
          simp only [fX5_byRegular_L20, if_neg (nI_ge hi (show p < 2 ^ 31 by omega)), dm i (by omega), e, Option.bind_some, nI_1]
          refine ⟨_, rfl, w', rfl, fun s hs32 => ?_⟩
          rw [hw' s hs32]
          simp only [Zre]
          constructor
          · rintro ⟨j, j1, j2, j3, j4⟩
            exact ⟨j, j1, (hw _ (by have := hmv j j1; omega)).mp j2, j3, j4⟩
          · rintro ⟨j, j1, j2, j3, j4⟩
            exact ⟨j, j1, (hw _ (by have := hmv j j1; omega)).mpr j2, j3, j4⟩)
        (by
          rintro a ⟨w, rfl, hw⟩
          simp only [fX5_byRegular_L20, if_pos (nI_le (Nat.le_refl _) (show p < 2 ^ 31 by omega))]
          exact ⟨_, rfl, hw⟩)
        N ((1 : Int32), (0 : Int32)) (by omega) ⟨1, rfl, fun s _ => by rw [Zt_1]; simp [Zre]⟩
      obtain ⟨t6, e1, h6⟩ := L1
      have L2 := Zl_inv (body := fX5_byRegular_L62 N (nI c) (y, nI p)) (fun j a => ∃ w, a = (w, nI (Zmn P c - 1 - j)) ∧ ∀ s, s < 32 → (Zt w s = true ↔ Zld P (ZTm st) c j s)) (Zmn P c - 1 - p) (fun w => ∀ s, s < 32 → (Zt w s = true ↔ Zld P (ZTm st) c (Zmn P c - 1 - p) s))
        (by
          rintro j a hj ⟨w, rfl, hw⟩
          obtain ⟨w', e, hw'⟩ := ZM_stepped hP My hc hs w (ZDm P (ZTm st) c (Zmn P c - 1 - j)) false N hN
          simp only [Bool.false_eq_true, if_false] at e hw'
          have e6 : nI (Zmn P c - 1 - j) + (-1) = nI (Zmn P c - 1 - (j + 1)) := by rw [show Zmn P c - 1 - j = (Zmn P c - 1 - (j + 1)) + 1 by omega, pk_m1]
          simp only [fX5_byRegular_L62, if_neg (nI_ge (show p < Zmn P c - 1 - j by omega) (by omega)), dm (Zmn P c - 1 - j) (by omega), e, Option.bind_some, e6]
          refine ⟨_, rfl, w', rfl, fun s hs32 => ?_⟩
          rw [hw' s hs32]
          simp only [Zld]
          constructor
          · rintro ⟨i, j1, j2, j3, j4⟩
            exact ⟨i, j1, (hw _ (by have := hmv i j1; omega)).mp j2, j3, j4⟩
          · rintro ⟨i, j1, j2, j3, j4⟩
            exact ⟨i, j1, (hw _ (by have := hmv i j1; omega)).mpr j2, j3, j4⟩)
        (by
          rintro a ⟨w, rfl, hw⟩
          simp only [fX5_byRegular_L62, if_pos (nI_le (show Zmn P c - 1 - (Zmn P c - 1 - p) ≤ p by omega) (show p < 2 ^ 31 by omega))]
          exact ⟨_, rfl, hw⟩)
        N (Zli P c, nI (Zmn P c) - 1) (by omega) ⟨_, by rw [show nI (Zmn P c) - 1 = nI (Zmn P c - 1) from pk_sub (b := 1) m1, Nat.sub_zero], fun s _ => Iff.rfl⟩
      obtain ⟨t11, e2, h11⟩ := L2
      have L3 := Zl_inv (body := fX5_byRegular_L97 (nI c) (y, nI p) t11 t6) (fun i a => ∃ z, a = (z, nI (48 * c + 3 * i)) ∧ ZfS st z ∧ ZMo c st z ∧ (∀ q, q ≠ p → z.2 41 (8 * c + q) = y.2 41 (8 * c + q)) ∧ ∀ k, k < 32 → (Zt (z.2 41 (8 * c + p)) k = true ↔ Zt (ZDm P (ZTm st) c p) k = true ∧ ∃ i', i' < i ∧ Zre P (ZTm st) c p (Zmv P c (3 * i')) ∧ Zld P (ZTm st) c (Zmn P c - 1 - p) (Zmv P c (3 * i' + 2)) ∧ Zmv P c (3 * i' + 1) = k)) (Zrm P c)
        (fun z => ZfS st z ∧ ZMo c st z ∧ (∀ q, q ≠ p → z.2 41 (8 * c + q) = y.2 41 (8 * c + q)) ∧ ∀ k, k < 32 → (Zt (z.2 41 (8 * c + p)) k = true ↔ Zt (ZDm P (ZTm st) c p) k = true ∧ ∃ i', i' < Zrm P c ∧ Zre P (ZTm st) c p (Zmv P c (3 * i')) ∧ Zld P (ZTm st) c (Zmn P c - 1 - p) (Zmv P c (3 * i' + 2)) ∧ Zmv P c (3 * i' + 1) = k))
        (by
          rintro i a hi ⟨z, rfl, fz, oz, zq, zp⟩
          have Mz := fz.mp hM
          have Tz := fz.tm
          obtain ⟨v1, v2, v3⟩ := hmv i hi
          obtain ⟨f1, f2, f3⟩ := ZM_mv Mz hc hs hi
          have e21 := ((Mz.2.2.2 c hc).2.2.2.2.1 hs).2.1
          have dz := ZM_dom hP Mz hc hp
          rw [Tz] at dz
          have hlt : ¬ nI (48 * c + 3 * Zrm P c) ≤ nI (48 * c + 3 * i) := nI_ge (by omega) (by omega)
          have nx : 48 * c + 3 * i + 3 = 48 * c + 3 * (i + 1) := by omega
          have ex : ∀ (X : Nat → Prop), (∃ q, q < i + 1 ∧ X q) ↔ (∃ q, q < i ∧ X q) ∨ X i := by
            intro X
            constructor
            · rintro ⟨q, h1, h2⟩
              by_cases e : q = i
              · exact Or.inr (e ▸ h2)
              · exact Or.inl ⟨q, by omega, h2⟩
            · rintro (⟨q, h1, h2⟩ | h)
              · exact ⟨q, by omega, h2⟩
              · exact ⟨i, by omega, h⟩
          have same : (¬ (Zt (ZDm P (ZTm st) c p) (Zmv P c (3 * i + 1)) = true ∧ Zre P (ZTm st) c p (Zmv P c (3 * i)) ∧ Zld P (ZTm st) c (Zmn P c - 1 - p) (Zmv P c (3 * i + 2)))) → ∃ z', ((z, nI (48 * c + 3 * i + 3)) : zMS × Int32) = (z', nI (48 * c + 3 * (i + 1))) ∧ ZfS st z' ∧ ZMo c st z' ∧ (∀ q, q ≠ p → z'.2 41 (8 * c + q) = y.2 41 (8 * c + q)) ∧ ∀ k, k < 32 → (Zt (z'.2 41 (8 * c + p)) k = true ↔ Zt (ZDm P (ZTm st) c p) k = true ∧ ∃ i', i' < i + 1 ∧ Zre P (ZTm st) c p (Zmv P c (3 * i')) ∧ Zld P (ZTm st) c (Zmn P c - 1 - p) (Zmv P c (3 * i' + 2)) ∧ Zmv P c (3 * i' + 1) = k) := by
            intro hn
            refine ⟨z, by rw [nx], fz, oz, zq, fun k hk => ?_⟩
            rw [zp k hk, ex]
            constructor
            · rintro ⟨g1, g2⟩
              exact ⟨g1, Or.inl g2⟩
            · rintro ⟨g1, g2⟩
              refine ⟨g1, g2.resolve_right ?_⟩
              rintro ⟨g3, g4, g5⟩
              exact hn ⟨by rw [g5]; exact g1, g3, g4⟩
          by_cases q1 : Zt t6 (Zmv P c (3 * i)) = true
          · by_cases q2 : Zt t11 (Zmv P c (3 * i + 2)) = true
            · by_cases q3 : Zt (ZDm P (ZTm st) c p) (Zmv P c (3 * i + 1)) = true
              · simp (disch := omega) only [fX5_byRegular_L97, ZMA, e21, Option.bind_some, Zm48, Zm3, nI_add, if_neg hlt, f1, f2, f3, Zadd2, nI_1, Zadd3, ZhasBit_t (show Zmv P c (3 * i) < 32 by omega) q1, ZhasBit_t (show Zmv P c (3 * i + 2) < 32 by omega) q2, dz, ZhasBit_t (show Zmv P c (3 * i + 1) < 32 by omega) q3, Zne10, if_false, ZM_supp hP hc (show p < 8 by omega)]
                refine ⟨_, rfl, _, by rw [nx], fz.arr rfl, ZMo_put oz (by omega), fun q' hq' => (zua_sn (by omega)).trans (zq q' hq'), fun k hk => ?_⟩
                simp only [zua_ss]
                rw [Zt_put (by omega), zp k hk, ex]
                constructor
                · rintro (⟨g1, g2⟩ | g)
                  · exact ⟨g1, Or.inl g2⟩
                  · exact ⟨by rw [g]; exact q3, Or.inr ⟨(h6 _ (by omega)).mp q1, (h11 _ (by omega)).mp q2, g.symm⟩⟩
                · rintro ⟨g1, g2 | g2⟩
                  · exact Or.inl ⟨g1, g2⟩
                  · exact Or.inr g2.2.2.symm
              · simp (disch := omega) only [fX5_byRegular_L97, ZMA, e21, Option.bind_some, Zm48, Zm3, nI_add, if_neg hlt, f1, f2, f3, Zadd2, nI_1, Zadd3, ZhasBit_t (show Zmv P c (3 * i) < 32 by omega) q1, ZhasBit_t (show Zmv P c (3 * i + 2) < 32 by omega) q2, dz, ZhasBit_f (show Zmv P c (3 * i + 1) < 32 by omega) q3, Zne10, if_false, if_true]
                exact ⟨_, rfl, same fun h => q3 h.1⟩
            · simp (disch := omega) only [fX5_byRegular_L97, ZMA, e21, Option.bind_some, Zm48, Zm3, nI_add, if_neg hlt, f1, f2, f3, Zadd2, nI_1, Zadd3, ZhasBit_t (show Zmv P c (3 * i) < 32 by omega) q1, ZhasBit_f (show Zmv P c (3 * i + 2) < 32 by omega) q2, Zne10, if_false, if_true]
              exact ⟨_, rfl, same fun h => q2 ((h11 _ (by omega)).mpr h.2.2)⟩
          · simp (disch := omega) only [fX5_byRegular_L97, ZMA, e21, Option.bind_some, Zm48, Zm3, nI_add, if_neg hlt, f1, f2, f3, Zadd2, nI_1, Zadd3, ZhasBit_f (show Zmv P c (3 * i) < 32 by omega) q1, if_true]
            exact ⟨_, rfl, same fun h => q1 ((h6 _ (by omega)).mpr h.2.1)⟩)
        (by
          rintro a ⟨z, rfl, h⟩
          have e21 := (((h.1.mp hM).2.2.2 c hc).2.2.2.2.1 hs).2.1
          simp (disch := omega) only [fX5_byRegular_L97, ZMA, e21, Option.bind_some, Zm48, Zm3, nI_add, if_pos (nI_le (Nat.le_refl _) (show 48 * c + 3 * Zrm P c < 2 ^ 31 by omega))]
          exact ⟨_, rfl, h⟩)
        N (y, nI (48 * c)) (by omega) ⟨y, rfl, fy, oy, fun _ _ => rfl, fun k hk => by
          rw [y0 p (Nat.le_refl _) (by omega), Zt_0]
          exact ⟨fun h => (by cases h), fun ⟨_, i', h, _⟩ => absurd h (by omega)⟩⟩
      obtain ⟨z, e3, fz, oz, zq, zp⟩ := L3
      simp (disch := omega) only [fX5_byRegular_L9, if_neg (nI_ge hp (show Zmn P c < 2 ^ 31 by omega)), e1, ZMA, e20, e2, Option.bind_some, Zm48, e3, nI_1]
      refine ⟨_, rfl, z, rfl, fz, oz, fun q hq hk k hk32 => ?_, fun q h1 h2 => by rw [zq q (by omega)]; exact y0 q (by omega) h2⟩
      by_cases e : q = p
      · subst e
        exact zp k hk32
      · rw [zq q e]
        exact yd q (by omega) hk k hk32)
    (by
      rintro a ⟨y, rfl, hy⟩
      simp (disch := omega) only [fX5_byRegular_L9, if_pos (nI_le (Nat.le_refl _) (show Zmn P c < 2 ^ 31 by omega))]
      exact ⟨_, rfl, hy⟩)
    N (st, 0) (by omega) ⟨st, rfl, ZfM.rfl, fun _ _ => rfl, fun q hq => absurd hq (by omega), fun q _ hq => h0 q hq⟩
  obtain ⟨y, e, fy, oy, yd, -⟩ := L
  have e17 := (hM.2.2.2 c hc).2.1
  refine ⟨y, ?_, fy, oy, fun p hp hk k hk32 hD => ?_⟩
  · simp (disch := omega) only [fX5_byRegular, ZMA, e17, Option.bind_some]
    exact e
  · rw [yd p hp hk k hk32]
    simp only [Zsup, hs, hD, true_and]
end MR
