/-! M: pairs, symbols; all supports; a value that is not supported -/
set_option maxRecDepth 100000
section MP
variable {st : zMS} {P : ZP} {c : Nat}
theorem ZM_paired (hP : ZPok P) (hM : ZMP st P) (hc : c < Znc P) (hs : Zso P c = 11 ∨ Zso P c = 16) (h0 : ∀ p, p < 8 → st.2 41 (8 * c + p) = 0) (N : Nat) (hN : 1000 ≤ N) : ∃ st', fX5_paired N st (nI c) = some st' ∧ ZfS st st' ∧ ZMo c st st' ∧ ZMs P (ZTm st) c st' := by
  have hC := hP.2.2.2.2.2 c hc
  have hnc := hP.2.1
  obtain ⟨mr, mk⟩ := hC.2.2.2.2.2.2.2.2.2.2.2 (by omega)
  have hm : Zmn P c = 2 := by rw [mr]; rcases hs with h | h <;> rw [h] <;> rfl
  generalize hTT : ZTm st = T at *
  have dm : ∀ y, ZfS st y → ∀ q, q < Zmn P c → fX5_domainAt y (nI c) (nI q) = some (ZDm P T c q) := fun y fy q hq => by rw [← hTT, ← fy.tm]; exact ZM_dom hP (fy.mp hM) hc hq
  have d0 : ∀ y, ZfS st y → fX5_domainAt y (nI c) 0 = some (ZDm P T c 0) := fun y fy => dm y fy 0 (by omega)
  have d1 : ∀ y, ZfS st y → fX5_domainAt y (nI c) 1 = some (ZDm P T c 1) := fun y fy => dm y fy 1 (by omega)
  -- whether a pair is one
  have rel : ∀ a b, a < 32 → b < 32 → ∀ y, ZfS st y → ∃ d : Int32, ((zal y 16 (nI c)).bind fun x19 => zesc (if x19 = (11 : Int32) then (if ((nI a) &&& ((nI b) ^^^ (-1 : Int32))) = 0 then (some (.inl ())) else (some (.inr (.inl ())))) else ((fX5_begins (nI a) (nI b)).bind fun t22 => if t22 = 0 then (some (.inr (.inl ()))) else (some (.inl ())))) fun t20 => some (.inr (1 : Int32))) = some (if d = 1 then Sum.inr (1 : Int32) else Sum.inl ()) ∧ (d = 0 ∨ d = 1) ∧ (d = 1 ↔ ZR (Zso P c) a b 0) := by
    intro a b ha hb y fy
    have e16 := ((fy.mp hM).2.2.2 c hc).1
    rcases hs with h | h
    · rw [h] at e16 ⊢
      by_cases q : nI a &&& (nI b ^^^ (-1)) = 0
      · simp (disch := omega) only [ZMA, e16, Option.bind_some, if_pos (show nI 11 = (11 : Int32) from rfl), if_pos q, Zesc_l]
        exact ⟨1, rfl, Or.inr rfl, fun _ => by simp only [ZR, fX1_lambda_within_2]; rw [Zite1]; exact q, fun _ => rfl⟩
      · simp (disch := omega) only [ZMA, e16, Option.bind_some, if_pos (show nI 11 = (11 : Int32) from rfl), if_neg q, Zesc_r]
        exact ⟨0, rfl, Or.inl rfl, fun h => absurd h (by decide), fun h => by simp only [ZR, fX1_lambda_within_2] at h; rw [Zite1] at h; exact absurd h q⟩
    · rw [h] at e16 ⊢
      have hw := Zw16 a ha b hb
      have h01 := Zfh01 16 (nI a) (nI b) 0
      have h01 : fX1_lambda_prefix_5 (nI a) (nI b) 0 = some 0 ∨ fX1_lambda_prefix_5 (nI a) (nI b) 0 = some 1 := h01
      rcases h01 with g | g
      · rw [g] at hw
        simp (disch := omega) only [ZMA, e16, Option.bind_some, if_neg (show ¬ nI 16 = (11 : Int32) by decide), hw, if_true, Zesc_r]
        refine ⟨0, rfl, Or.inl rfl, fun h => absurd h (by decide), fun h => ?_⟩
        have h : fX1_lambda_prefix_5 (nI a) (nI b) 0 = some 1 := h
        rw [g] at h
        exact absurd h (by decide)
      · rw [g] at hw
        simp (disch := omega) only [ZMA, e16, Option.bind_some, if_neg (show ¬ nI 16 = (11 : Int32) by decide), hw, Zne10, if_false, Zesc_l]
        exact ⟨1, rfl, Or.inr rfl, fun _ => g, fun _ => rfl⟩
  have seen : ∀ y : zMS, (fun (pr : Nat → Nat → Prop) (y : zMS) => ZfS st y ∧ ZMo c st y ∧ (∀ k, k < 32 → (Zt (y.2 41 (8 * c)) k = true ↔ ∃ b, pr k b ∧ ZRt P T c k b 0)) ∧ (∀ k, k < 32 → (Zt (y.2 41 (8 * c + 1)) k = true ↔ ∃ a, pr a k ∧ ZRt P T c a k 0))) (fun _ _ => False) y → True := fun _ _ => trivial
  have inner : ∀ a, a < 32 → ∀ y, (ZfS st y ∧ ZMo c st y ∧ (∀ k, k < 32 → (Zt (y.2 41 (8 * c)) k = true ↔ ∃ b, Zl2 a 0 k b ∧ ZRt P T c k b 0)) ∧ (∀ k, k < 32 → (Zt (y.2 41 (8 * c + 1)) k = true ↔ ∃ x, Zl2 a 0 x k ∧ ZRt P T c x k 0))) → ∀ q : zMS,
      ∃ z, zloop (fX5_paired_L10 (nI c) (q, nI a)) N (y, 0) = some z ∧ (ZfS st z ∧ ZMo c st z ∧ (∀ k, k < 32 → (Zt (z.2 41 (8 * c)) k = true ↔ ∃ b, Zl2 (a + 1) 0 k b ∧ ZRt P T c k b 0)) ∧ (∀ k, k < 32 → (Zt (z.2 41 (8 * c + 1)) k = true ↔ ∃ x, Zl2 (a + 1) 0 x k ∧ ZRt P T c x k 0))) := by
    intro a ha y hy q0
    have conv : ∀ (pr pr' : Nat → Nat → Prop) (y : zMS), (∀ x b, ZRt P T c x b 0 → (pr x b ↔ pr' x b)) → (ZfS st y ∧ ZMo c st y ∧ (∀ k, k < 32 → (Zt (y.2 41 (8 * c)) k = true ↔ ∃ b, pr k b ∧ ZRt P T c k b 0)) ∧ (∀ k, k < 32 → (Zt (y.2 41 (8 * c + 1)) k = true ↔ ∃ x, pr x k ∧ ZRt P T c x k 0))) → (ZfS st y ∧ ZMo c st y ∧ (∀ k, k < 32 → (Zt (y.2 41 (8 * c)) k = true ↔ ∃ b, pr' k b ∧ ZRt P T c k b 0)) ∧ (∀ k, k < 32 → (Zt (y.2 41 (8 * c + 1)) k = true ↔ ∃ x, pr' x k ∧ ZRt P T c x k 0))) := by
      rintro pr pr' y hp ⟨h1, h2, h3, h4⟩
      have q : ∀ x b, (pr x b ∧ ZRt P T c x b 0) ↔ (pr' x b ∧ ZRt P T c x b 0) := fun x b => ⟨fun ⟨u, v⟩ => ⟨(hp x b v).mp u, v⟩, fun ⟨u, v⟩ => ⟨(hp x b v).mpr u, v⟩⟩
      exact ⟨h1, h2, fun k hk => by rw [h3 k hk]; simp only [q], fun k hk => by rw [h4 k hk]; simp only [q]⟩
    have L := Zl_ex (body := fX5_paired_L10 (nI c) (q0, nI a)) (fun b s => ∃ z, s = (z, nI b) ∧ (ZfS st z ∧ ZMo c st z ∧ (∀ k, k < 32 → (Zt (z.2 41 (8 * c)) k = true ↔ ∃ b', Zl2 a b k b' ∧ ZRt P T c k b' 0)) ∧ (∀ k, k < 32 → (Zt (z.2 41 (8 * c + 1)) k = true ↔ ∃ x, Zl2 a b x k ∧ ZRt P T c x k 0)))) 32
      (fun z => ZfS st z ∧ ZMo c st z ∧ (∀ k, k < 32 → (Zt (z.2 41 (8 * c)) k = true ↔ ∃ b, Zl2 (a + 1) 0 k b ∧ ZRt P T c k b 0)) ∧ (∀ k, k < 32 → (Zt (z.2 41 (8 * c + 1)) k = true ↔ ∃ x, Zl2 (a + 1) 0 x k ∧ ZRt P T c x k 0)))
      (by
        rintro b s hb ⟨z, rfl, hz⟩
        have h32 : ¬ (32 : Int32) ≤ nI b := nI_ge (b := 32) hb (by decide)
        have fz := hz.1
        by_cases hDa : Zt (ZDm P T c 0) a = true
        · -- goes on
          have nx : (¬ ZRt P T c a b 0) → ∃ z', ((z, nI (b + 1)) : zMS × Int32) = (z', nI (b + 1)) ∧ (ZfS st z' ∧ ZMo c st z' ∧ (∀ k, k < 32 → (Zt (z'.2 41 (8 * c)) k = true ↔ ∃ b', Zl2 a (b + 1) k b' ∧ ZRt P T c k b' 0)) ∧ (∀ k, k < 32 → (Zt (z'.2 41 (8 * c + 1)) k = true ↔ ∃ x, Zl2 a (b + 1) x k ∧ ZRt P T c x k 0))) := by
            intro hn
            refine ⟨z, rfl, conv _ _ z (fun x b' v => ?_) hz⟩
            unfold Zl2
            constructor
            · omega
            · intro g
              by_cases e : x = a ∧ b' = b
              · obtain ⟨rfl, rfl⟩ := e
                exact absurd v hn
              · omega
          by_cases hDb : Zt (ZDm P T c 1) b = true
          · obtain ⟨d, ed, hd, hd1⟩ := rel a b ha hb z fz
            rcases hd with rfl | rfl
            · rw [show (if (0 : Int32) = 1 then (Sum.inr (1 : Int32) : Unit ⊕ Int32) else Sum.inl ()) = Sum.inl () from rfl] at ed
              simp only [fX5_paired_L10, if_neg h32, d0 z fz, d1 z fz, ZhasBit_t ha hDa, ZhasBit_t hb hDb, Option.bind_some, Zne10, if_false]
              rw [ed]
              simp only [Zesc_l, Option.bind_some, if_true, nI_1]
              exact Or.inl ⟨_, rfl, nx fun v => absurd (hd1.mpr v.2.2.2.2.2.2) (by decide)⟩
            · rw [show (if (1 : Int32) = 1 then (Sum.inr (1 : Int32) : Unit ⊕ Int32) else Sum.inl ()) = Sum.inr 1 from rfl] at ed
              have hv : ZRt P T c a b 0 := ⟨ha, hb, by omega, hDa, hDb, by rw [if_pos hm], hd1.mp rfl⟩
              obtain ⟨-, oz, z0, z1⟩ := hz
              have sp0 : fX5_supports z (nI c) 0 (nI a) = some (z.1, zua z.2 41 (8 * c) (z.2 41 (8 * c) ||| (1 <<< (nI a &&& 31)))) := ZM_supp (st := z) (c := c) (p := 0) (k := a) hP hc (by omega)
              have sp1 : ∀ w, fX5_supports (z.1, zua z.2 41 (8 * c) w) (nI c) 1 (nI b) = some (z.1, zua (zua z.2 41 (8 * c) w) 41 (8 * c + 1) (z.2 41 (8 * c + 1) ||| (1 <<< (nI b &&& 31)))) := fun w => by
                have := ZM_supp (st := (z.1, zua z.2 41 (8 * c) w)) (c := c) (p := 1) (k := b) hP hc (by omega)
                simp only [zua_sn (show 8 * c + 1 ≠ 8 * c by omega)] at this
                exact this
              simp only [fX5_paired_L10, if_neg h32, d0 z fz, d1 z fz, ZhasBit_t ha hDa, ZhasBit_t hb hDb, Option.bind_some, Zne10, if_false]
              rw [ed]
              simp only [Zesc_r, Option.bind_some, Zne10, if_false, sp0, sp1, nI_1]
              refine Or.inl ⟨_, rfl, _, rfl, ZfM.arr (ZfM.arr fz rfl) rfl, ZMo_put (ZMo_put (p := 0) oz (by omega)) (by omega), fun k hk => ?_, fun k hk => ?_⟩
              · simp only [zua_sn (show 8 * c ≠ 8 * c + 1 by omega), zua_ss]
                rw [Zt_put ha, z0 k hk]
                constructor
                · rintro (⟨b', g1, g2⟩ | g)
                  · exact ⟨b', by unfold Zl2 at g1 ⊢; omega, g2⟩
                  · exact ⟨b, by unfold Zl2; omega, g ▸ hv⟩
                · rintro ⟨b', g1, g2⟩
                  by_cases e : k = a
                  · exact Or.inr e
                  · exact Or.inl ⟨b', by unfold Zl2 at g1 ⊢; omega, g2⟩
              · simp only [zua_ss]
                rw [Zt_put hb, z1 k hk]
                constructor
                · rintro (⟨x, g1, g2⟩ | g)
                  · exact ⟨x, by unfold Zl2 at g1 ⊢; omega, g2⟩
                  · exact ⟨a, by unfold Zl2; omega, g ▸ hv⟩
                · rintro ⟨x, g1, g2⟩
                  by_cases e : k = b
                  · exact Or.inr e
                  · exact Or.inl ⟨x, by unfold Zl2 at g1 ⊢; omega, g2⟩
          · simp only [fX5_paired_L10, if_neg h32, d0 z fz, d1 z fz, ZhasBit_t ha hDa, ZhasBit_f hb hDb, Option.bind_some, Zne10, if_false, if_true, Zesc_l, nI_1]
            exact Or.inl ⟨_, rfl, nx fun v => hDb v.2.2.2.2.1⟩
        · simp only [fX5_paired_L10, if_neg h32, d0 z fz, ZhasBit_f ha hDa, Option.bind_some, if_true]
          refine Or.inr ⟨_, rfl, conv _ _ z (fun x b' v => ?_) hz⟩
          unfold Zl2
          constructor
          · omega
          · intro g
            by_cases e : x = a
            · subst e
              exact absurd v.2.2.2.1 hDa
            · omega)
      (by
        rintro s ⟨z, rfl, hz⟩
        simp only [fX5_paired_L10, if_pos (show (32 : Int32) ≤ nI 32 by decide)]
        refine ⟨_, rfl, conv _ _ z (fun x b' v => ?_) hz⟩
        have := v.2.1
        unfold Zl2
        omega)
      N (y, 0) (by omega) ⟨y, rfl, hy⟩
    exact L
  have L := Zl_inv (body := fX5_paired_L2 N (nI c)) (fun a s => ∃ z, s = (z, nI a) ∧ (ZfS st z ∧ ZMo c st z ∧ (∀ k, k < 32 → (Zt (z.2 41 (8 * c)) k = true ↔ ∃ b, Zl2 a 0 k b ∧ ZRt P T c k b 0)) ∧ (∀ k, k < 32 → (Zt (z.2 41 (8 * c + 1)) k = true ↔ ∃ x, Zl2 a 0 x k ∧ ZRt P T c x k 0)))) 32
    (fun z => ZfS st z ∧ ZMo c st z ∧ (∀ k, k < 32 → (Zt (z.2 41 (8 * c)) k = true ↔ ∃ b, Zl2 32 0 k b ∧ ZRt P T c k b 0)) ∧ (∀ k, k < 32 → (Zt (z.2 41 (8 * c + 1)) k = true ↔ ∃ x, Zl2 32 0 x k ∧ ZRt P T c x k 0)))
    (by
      rintro a s ha ⟨z, rfl, hz⟩
      obtain ⟨w, ew, hw⟩ := inner a ha z hz z
      simp only [fX5_paired_L2, if_neg (show ¬ (32 : Int32) ≤ nI a from nI_ge (b := 32) ha (by decide)), ew, Option.bind_some, nI_1]
      exact ⟨_, rfl, w, rfl, hw⟩)
    (by
      rintro s ⟨z, rfl, hz⟩
      simp only [fX5_paired_L2, if_pos (show (32 : Int32) ≤ nI 32 by decide)]
      exact ⟨_, rfl, hz⟩)
    N (st, 0) (by omega) ⟨st, rfl, ZfM.rfl, fun _ _ => rfl, fun k hk => by
      have := h0 0 (by omega)
      rw [Nat.add_zero] at this
      rw [this, Zt_0]
      exact ⟨fun h => (by cases h), fun ⟨_, h, _⟩ => absurd h (by unfold Zl2; omega)⟩, fun k hk => by
      rw [h0 1 (by omega), Zt_0]
      exact ⟨fun h => (by cases h), fun ⟨_, h, _⟩ => absurd h (by unfold Zl2; omega)⟩⟩
  obtain ⟨z, e, fz, oz, z0, z1⟩ := L
  refine ⟨z, e, fz, oz, fun p hp _ k hk hD => ?_⟩
  have hp' : p = 0 ∨ p = 1 := by omega
  have hsup : Zsup P T c p k ↔ ∃ x y z, ZRt P T c x y z ∧ (if p = 0 then x else if p = 1 then y else z) = k := by
    rcases hs with h | h <;> simp only [Zsup, h]
  rw [hsup]
  have all : ∀ x b, ZRt P T c x b 0 → Zl2 32 0 x b := fun x b v => by have := v.1; unfold Zl2; omega
  have zz : ∀ x b z, ZRt P T c x b z → z = 0 := fun x b z v => by have := v.2.2.2.2.2.1; rwa [if_pos hm] at this
  rcases hp' with rfl | rfl
  · rw [Nat.add_zero, z0 k hk]
    constructor
    · rintro ⟨b, -, v⟩
      exact ⟨k, b, 0, v, rfl⟩
    · rintro ⟨x, a, b, v, h⟩
      have e1 : x = k := h
      have e2 := zz _ _ _ v
      subst e1 e2
      exact ⟨a, all _ _ v, v⟩
  · rw [z1 k hk]
    constructor
    · rintro ⟨x, -, v⟩
      exact ⟨x, k, 0, v, rfl⟩
    · rintro ⟨x, a, b, v, h⟩
      have e1 : a = k := h
      have e2 := zz _ _ _ v
      subst e1 e2
      exact ⟨x, all _ _ v, v⟩
/-- all that a constraint supports -/
theorem ZM_all (hP : ZPok P) (hM : ZMP st P) (hc : c < Znc P) (hT : ZTok P (ZTm st)) (N : Nat) (hN : 1000 ≤ N) : ∃ st', fX5_supportsAll N st (nI c) = some st' ∧ ZfS st st' ∧ ZMo c st st' ∧ ZMs P (ZTm st) c st' := by
  have hC := hP.2.2.2.2.2 c hc
  have hnc := hP.2.1
  have s17 := hC.2.2.2.1
  have L := Zl_inv (body := fX5_supportsAll_L2 (nI c)) (fun p a => ∃ y, a = (y, nI p) ∧ ZfS st y ∧ ZMo c st y ∧ ∀ q, q < p → y.2 41 (8 * c + q) = 0) 8 (fun y => ZfS st y ∧ ZMo c st y ∧ ∀ q, q < 8 → y.2 41 (8 * c + q) = 0)
    (by
      rintro p a hp ⟨y, rfl, fy, oy, hy⟩
      simp (disch := omega) only [fX5_supportsAll_L2, if_neg (show ¬ (8 : Int32) ≤ nI p from nI_ge (b := 8) hp (by decide)), Zm8, nI_add, ZMA, Option.bind_some, nI_1]
      refine ⟨_, rfl, _, rfl, fy.arr rfl, ZMo_put oy hp, fun q hq => ?_⟩
      by_cases e : q = p
      · subst e
        simp only [zua_ss]
      · simp only [zua_sn (show 8 * c + q ≠ 8 * c + p by omega)]
        exact hy q (by omega))
    (by
      rintro a ⟨y, rfl, h⟩
      simp only [fX5_supportsAll_L2, if_pos (show (8 : Int32) ≤ nI 8 by decide)]
      exact ⟨_, rfl, h⟩)
    N (st, 0) (by omega) ⟨st, rfl, ZfM.rfl, fun _ _ => rfl, fun q hq => absurd hq (by omega)⟩
  obtain ⟨y, e1, fy, oy, h0⟩ := L
  have My := fy.mp hM
  have Ty := fy.tm
  have e16 := (My.2.2.2 c hc).1
  have hTy : ZTok P (ZTm y) := by rw [Ty]; exact hT
  have done : ∀ {f : Option zMS}, (∃ st', f = some st' ∧ ZfS y st' ∧ ZMo c y st' ∧ ZMs P (ZTm y) c st') → ∃ st', f.bind (fun t => some t) = some st' ∧ ZfS st st' ∧ ZMo c st st' ∧ ZMs P (ZTm st) c st' := by
    rintro f ⟨z, rfl, fz, oz, hz⟩
    rw [Ty] at hz
    exact ⟨z, rfl, fy.trans fz, fun j hj => (oz j hj).trans (oy j hj), hz⟩
  have ni : ∀ {i j : Nat}, i < 100 → j < 100 → i ≠ j → ¬ nI i = nI j := fun hi hj h e => h ((nI_eq (by omega) (by omega)).mp e)
  have red : ∀ j : Nat, j < 100 → (nI (Zso P c) = nI j ↔ Zso P c = j) := fun j hj => nI_eq (by omega) (by omega)
  have r0 : nI (Zso P c) = (0 : Int32) ↔ Zso P c = 0 := red 0 (by omega)
  have r1 : nI (Zso P c) = (1 : Int32) ↔ Zso P c = 1 := red 1 (by omega)
  have r2 : nI (Zso P c) = (2 : Int32) ↔ Zso P c = 2 := red 2 (by omega)
  have r3 : nI (Zso P c) = (3 : Int32) ↔ Zso P c = 3 := red 3 (by omega)
  have r4 : nI (Zso P c) = (4 : Int32) ↔ Zso P c = 4 := red 4 (by omega)
  have r5 : nI (Zso P c) = (5 : Int32) ↔ Zso P c = 5 := red 5 (by omega)
  have r6 : nI (Zso P c) = (6 : Int32) ↔ Zso P c = 6 := red 6 (by omega)
  have r11 : nI (Zso P c) = (11 : Int32) ↔ Zso P c = 11 := red 11 (by omega)
  have r16 : nI (Zso P c) = (16 : Int32) ↔ Zso P c = 16 := red 16 (by omega)
  have ez : zal y 16 (nI c) = some (nI (Zso P c)) := by simp (disch := omega) only [ZMA, e16]
  unfold fX5_supportsAll
  rw [e1, Option.bind_some, ez, Option.bind_some]
  have hcase : Zso P c = 0 ∨ Zso P c = 1 ∨ Zso P c = 2 ∨ Zso P c = 3 ∨ Zso P c = 4 ∨ Zso P c = 5 ∨ Zso P c = 6 ∨ (Zso P c = 11 ∨ Zso P c = 16) ∨ (7 ≤ Zso P c ∧ Zso P c ≠ 11 ∧ Zso P c ≠ 16) := by omega
  rcases hcase with hs | hs | hs | hs | hs | hs | hs | hs | ⟨hs, hs1, hs2⟩
  · rw [if_pos (r0.mpr hs)]
    exact done (ZM_byLinear hP My hc hs hTy h0 N hN)
  · rw [if_neg (mt r0.mp (by omega)), if_pos (r1.mpr hs)]
    exact done (ZM_byDifferent hP My hc hs hTy h0 N hN)
  · rw [if_neg (mt r0.mp (by omega)), if_neg (mt r1.mp (by omega)), if_pos (r2.mpr hs)]
    exact done (ZM_ordered hP My hc hs hTy N hN)
  · rw [if_neg (mt r0.mp (by omega)), if_neg (mt r1.mp (by omega)), if_neg (mt r2.mp (by omega)), if_pos (r3.mpr hs)]
    exact done (ZM_byRegular hP My hc hs h0 N hN)
  · rw [if_neg (mt r0.mp (by omega)), if_neg (mt r1.mp (by omega)), if_neg (mt r2.mp (by omega)), if_neg (mt r3.mp (by omega)), if_pos (r4.mpr hs)]
    exact done (ZM_byElement hP My hc hs h0 N hN)
  · rw [if_neg (mt r0.mp (by omega)), if_neg (mt r1.mp (by omega)), if_neg (mt r2.mp (by omega)), if_neg (mt r3.mp (by omega)), if_neg (mt r4.mp (by omega)), if_pos (r5.mpr hs)]
    exact done (ZM_byClause hP My hc hs N hN)
  · rw [if_neg (mt r0.mp (by omega)), if_neg (mt r1.mp (by omega)), if_neg (mt r2.mp (by omega)), if_neg (mt r3.mp (by omega)), if_neg (mt r4.mp (by omega)), if_neg (mt r5.mp (by omega)), if_pos (r6.mpr hs)]
    obtain ⟨m1, k0, t16, y6⟩ := hC.2.2.2.2.2.2.2.2.2.2.1 hs
    obtain ⟨e20, r, kk, hk, hr, hsy⟩ := (My.2.2.2 c hc).2.2.2.2.2.2 hs
    have ef := Zfind (st := y) kk _ hr N (by omega)
    have hr16 := (Zrt_lt kk _ hr).2.1
    have key : ∀ v : Int32, (∀ k, k < 32 → (Zt v k = true ↔ (Zsy P (Ztr P c) = 0 ∨ k + 1 = Zsy P (Ztr P c)))) → ∃ st', (some (y.1, zua y.2 41 (8 * c) v) : Option zMS) = some st' ∧ ZfS st st' ∧ ZMo c st st' ∧ ZMs P (ZTm st) c st' := by
      intro v hv
      refine ⟨_, rfl, fy.arr rfl, ZMo_put (p := 0) oy (by omega), fun p hp _ k hk _ => ?_⟩
      have : p = 0 := by omega
      subst this
      simp only [Zsup, hs, Nat.add_zero, zua_ss]
      exact hv k hk
    rcases Nat.eq_zero_or_pos (Zsy P (Ztr P c)) with q | q
    · rw [q] at hsy
      simp (disch := omega) only [ZMA, e20, ef, hsy, Option.bind_some, if_pos (show nI 0 = (0 : Int32) from rfl), Zm8]
      refine key _ fun k hk => ?_
      rw [Zt_m1]
      simp [hk, q]
    · obtain ⟨s, es⟩ : ∃ s, Zsy P (Ztr P c) = s + 1 := ⟨_, (Nat.sub_add_cancel q).symm⟩
      rw [es] at hsy
      simp (disch := omega) only [ZMA, e20, ef, hsy, Option.bind_some, if_neg (nI_ne0 (Nat.succ_pos s) (show s + 1 < 2 ^ 31 by omega)), nI_pred, Zm8]
      refine key _ fun k hk => ?_
      rw [Zt_one (by omega), es]
      simp
  · rcases hs with hs | hs
    · rw [if_neg (mt r0.mp (by omega)), if_neg (mt r1.mp (by omega)), if_neg (mt r2.mp (by omega)), if_neg (mt r3.mp (by omega)), if_neg (mt r4.mp (by omega)), if_neg (mt r5.mp (by omega)), if_neg (mt r6.mp (by omega)), if_pos (r11.mpr hs)]
      exact done (ZM_paired hP My hc (Or.inl hs) h0 N hN)
    · rw [if_neg (mt r0.mp (by omega)), if_neg (mt r1.mp (by omega)), if_neg (mt r2.mp (by omega)), if_neg (mt r3.mp (by omega)), if_neg (mt r4.mp (by omega)), if_neg (mt r5.mp (by omega)), if_neg (mt r6.mp (by omega)), if_neg (mt r11.mp (by omega)), if_pos (r16.mpr hs)]
      exact done (ZM_paired hP My hc (Or.inr hs) h0 N hN)
  · rw [if_neg (mt r0.mp (by omega)), if_neg (mt r1.mp (by omega)), if_neg (mt r2.mp (by omega)), if_neg (mt r3.mp (by omega)), if_neg (mt r4.mp (by omega)), if_neg (mt r5.mp (by omega)), if_neg (mt r6.mp (by omega)), if_neg (mt r11.mp (by omega)), if_neg (mt r16.mp (by omega))]
    exact done (ZM_functional hP My hc hs ⟨hs1, hs2⟩ hTy h0 N hN)
end MP
