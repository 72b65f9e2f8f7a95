/-! the search, of both -/
set_option maxRecDepth 100000
section SF
variable {sh : Nat → Option Zsh} {xs : Zxs} {P : ZP} {E : Ze} {L : ZL} {ah ch od : Int32} {st : zMS}
/-- X's path begins with the decisions that stand -/
theorem ZX_beginPath (hb : Zbase E sh) (hl : ZXl xs 14 L) (h12 : L.length ≤ 12) (N : Nat) (hN : 1000 ≤ N) : ∃ z, fX1_beginPath N (ZW E sh xs) (Zl E 1) = some (ZW E sh z) ∧ Zfr (fun t f => t = 54 ∧ f = 3) (fun u => u = 55 ∨ u = 56 ∨ u = 57) xs z ∧ ZXl z 54 L := by
  have hD := hb.2.2.2.2.2.1
  have hD14 := hb.2.2.2.2.1
  obtain ⟨l1, l2, l3⟩ := hl
  obtain ⟨y, hy⟩ : ∃ y : Zxs, y = (zua xs.1 54 3 0, xs.2) := ⟨_, rfl⟩
  have fy : Zfr (fun t f => t = 54 ∧ f = 3) (fun u => u = 55 ∨ u = 56 ∨ u = 57) xs y := by rw [hy]; exact Zfr.num Zfr.rfl ⟨rfl, rfl⟩
  have I := Zl_inv (body := fX1_beginPath_L10 (Zl E 1)) (fun i a => ∃ z, a = (ZW E sh z, nI i) ∧ Zfr (fun t f => t = 54 ∧ f = 3) (fun u => u = 55 ∨ u = 56 ∨ u = 57) xs z ∧ ZXl z 54 (L.take i)) L.length (fun r => ∃ z, r = ZW E sh z ∧ Zfr (fun t f => t = 54 ∧ f = 3) (fun u => u = 55 ∨ u = 56 ∨ u = 57) xs z ∧ ZXl z 54 L)
    (by
      rintro i a hi ⟨z, rfl, fz, hz⟩
      have e3 : z.1 14 3 = nI L.length := by rw [fz.1 14 3 (by omega)]; exact l1
      obtain ⟨e, he⟩ : ∃ e, L[i]? = some e := ⟨_, List.getElem?_eq_getElem hi⟩
      obtain ⟨d1, d2, d3, d4⟩ := l3 i e he
      obtain ⟨w, ew, fw, hw⟩ := ZX_addD (E := E) (e := e) hD hz (by rw [List.length_take]; omega) d3
      have z15 : z.2 (14 + 1) = xs.2 (14 + 1) := fz.2 15 (by omega)
      have z16 : z.2 (14 + 2) = xs.2 (14 + 2) := fz.2 16 (by omega)
      have z17 : z.2 (14 + 3) = xs.2 (14 + 3) := fz.2 17 (by omega)
      simp (disch := omega) only [fX1_beginPath_L10, Zb0 hb.1, Zb1 hD14.1, Zb1 hD.1, e3, if_neg (nI_ge hi (show L.length < 2 ^ 31 by omega)), ZbI hD14.2.1, ZbI hD14.2.2.1, ZbZ hD14.2.2.2, z15, z16, z17, d1, d2, d4, Option.bind_some, ew, nI_1]
      refine ⟨_, rfl, w, rfl, fz.trans fw, ?_⟩
      rw [List.take_succ, he]
      exact hw)
    (by
      rintro a ⟨z, rfl, fz, hz⟩
      have e3 : z.1 14 3 = nI L.length := by rw [fz.1 14 3 (by omega)]; exact l1
      rw [List.take_length] at hz
      simp only [fX1_beginPath_L10, Zb0 hb.1, Zb1 hD14.1, e3, Option.bind_some, if_pos (nI_le (Nat.le_refl _) (show L.length < 2 ^ 31 by omega))]
      exact ⟨_, rfl, z, rfl, fz, hz⟩)
    N (ZW E sh y, 0) (by omega) ⟨y, rfl, fy, ⟨by rw [hy]; simp only [zua_ss]; rfl, by simp, fun i e he => by simp at he⟩⟩
  obtain ⟨r, e1, z, rfl, fz, hz⟩ := I
  refine ⟨z, ?_, fz, hz⟩
  rw [hy] at e1
  simp only [fX1_beginPath, Zb0 hb.1, Option.bind_some, Zb1 hD.1]
  exact e1
/-- the end of a search, of both -/
def ZSend (E : Ze) (sh : Nat → Option Zsh) (P : ZP) (L : ZL) (z : Zxs) (w : zMS) (r : Int32) : Prop := ZPD E sh z w P L ∧ z.1 1 25 = w.1 46 ∧ z.1 1 26 = w.1 47 ∧ Zph P z w ∧ w.1 48 = r ∧ 0 ≤ r ∧ Zfnd P z w
theorem Zmul2 {a : Nat} : nI a * 2 = nI (a * 2) := by
  show nI a * nI 2 = _
  exact pk_mul a 2
theorem ZJ_restarts (N : Nat) (hN : 5000 ≤ N) : ∀ (left n cut : Nat) (xs : Zxs) (st : zMS), ZSq E sh xs st P L ah ch od n cut left 0 → xs.1 1 24 = -1 → st.1 48 = -1 → ZMpa st [] → ZXl xs 54 L → 0 < cut → cut * 2 ^ left ≤ 3200 → ∀ f, left < f →
    ∃ z w r, ((fX1_searchFrom 402 N (ZW E sh xs) (Zl E 1)).bind fun t18 => zloop (fX1_search_L92 N (Zl E 1)) f (t18.1, t18.2)) = some (.inr (ZW E sh z, r)) ∧ (∃ q j, j + n ≤ 401 ∧ Zsteps (fX5_search_L111 N ah ch od) j (st, (0 : Int32), nI cut, nI left) (w, q)) ∧ Zfr (ZhA P) (ZhB P) xs z ∧ ZfH st w ∧ ZSend E sh P L z w r := by
  intro left
  induction left with
  | zero =>
    intro n cut xs st hq h24 h48 hp hl hc0 hc f hf
    obtain ⟨f, rfl⟩ : ∃ q, f = q + 1 := ⟨f - 1, by omega⟩
    have hb := hq.1.2.2.1
    obtain ⟨z, r, e1, fz, hl', w, n', sn', hq', hn', fw, hcs⟩ := ZJ_search N hN 402 n xs st [] 0 hq h24 h48 hp (by simp) (by simpa using hl) (fun e he => by cases he) (fun h => absurd h (by omega)) (by omega)
    obtain ⟨hR, p1, p2, p3, p4, p5, p6, -, p10, p11, p12, p13, p14⟩ := hq'
    have hic := (ZX_isCut (E := E) hb p4 p5 p6 (by omega) (by omega) (by omega)).2 (by omega)
    rcases hcs with ⟨rfl, c1, c2, c3, c4, c5⟩ | ⟨rfl, c1, c2, c3, c4, c5, c6, c7⟩ | ⟨rfl, q, c3, c4, c5⟩ | ⟨rfl, q, c3, c4, c5⟩
    · have w48 : w.1 48 = 1 := by
        rcases c5 with ⟨-, g⟩ | ⟨R', g, -⟩
        · exact g
        · rw [Zback_nil] at g
          cases g
      refine ⟨z, w, 1, ?_, ⟨_, _, by omega, c3⟩, fz, fw, hR, p1.trans p2.symm, p3, p10, w48, by decide, Or.inl ⟨c4, by rw [w48]; decide⟩⟩
      simp only [e1, Option.bind_some, zloop, fX1_search_L92, if_true, Zb0 hb.1, hic]
    · omega
    · refine ⟨z, w, 0, ?_, ⟨_, _, by omega, c3⟩, fz, fw, hR, p1.trans p2.symm, p3, p10, c4, by decide, c5⟩
      simp only [e1, Option.bind_some, zloop, fX1_search_L92, if_neg (show ¬ (0 : Int32) = 1 by decide)]
    · refine ⟨z, w, 2, ?_, ⟨_, _, by omega, c3⟩, fz, fw, hR, p1.trans p2.symm, p3, p10, c4, by decide, Or.inl ⟨c5, by rw [c4]; decide⟩⟩
      simp only [e1, Option.bind_some, zloop, fX1_search_L92, if_neg (show ¬ (2 : Int32) = 1 by decide)]
  | succ left ih =>
    intro n cut xs st hq h24 h48 hp hl hc0 hc f hf
    obtain ⟨f, rfl⟩ : ∃ q, f = q + 1 := ⟨f - 1, by omega⟩
    have hb := hq.1.2.2.1
    obtain ⟨z, r, e1, fz, hl', w, n', sn', hq', hn', fw, hcs⟩ := ZJ_search N hN 402 n xs st [] 0 hq h24 h48 hp (by simp) (by simpa using hl) (fun e he => by cases he) (fun h => hc0) (by omega)
    have hq0 := hq'
    obtain ⟨hR, p1, p2, p3, p4, p5, p6, ⟨p7, p8, p9⟩, p10, p11, p12, p13, p14⟩ := hq'
    obtain ⟨ic1, ic0⟩ := ZX_isCut (E := E) hb p4 p5 p6 (by omega) (by omega) (by omega)
    rcases hcs with ⟨rfl, c1, c2, c3, c4, c5⟩ | ⟨rfl, c1, c2, c3, c4, c5, c6, c7⟩ | ⟨rfl, q, c3, c4, c5⟩ | ⟨rfl, q, c3, c4, c5⟩
    · have w48 : w.1 48 = 1 := by
        rcases c5 with ⟨-, g⟩ | ⟨R', g, -⟩
        · exact g
        · rw [Zback_nil] at g
          cases g
      have hic := ic0 (by have := c2 (by omega); omega)
      refine ⟨z, w, 1, ?_, ⟨_, _, by omega, c3⟩, fz, fw, hR, p1.trans p2.symm, p3, p10, w48, by decide, Or.inl ⟨c4, by rw [w48]; decide⟩⟩
      simp only [e1, Option.bind_some, zloop, fX1_search_L92, if_true, Zb0 hb.1, hic]
    · -- a restart
      have hic := ic1 ⟨c2, c3⟩
      have hcp : cut * 2 ≤ 3200 := by
        have h1 : 1 ≤ 2 ^ left := Nat.one_le_two_pow
        rw [Nat.pow_succ] at hc
        have : cut * 2 * 1 ≤ cut * 2 * 2 ^ left := Nat.mul_le_mul_left _ h1
        rw [Nat.mul_comm (2 ^ left) 2, ← Nat.mul_assoc] at hc
        omega
      obtain ⟨y, hy⟩ : ∃ y : Zxs, y = (zua (zua (zua z.1 1 28 0) 1 27 (nI (cut * 2))) 1 29 (nI left), z.2) := ⟨_, rfl⟩
      have fy : Zfr (fun t f => t = 1 ∧ (f = 27 ∨ f = 28 ∨ f = 29)) (fun _ => False) z y := by rw [hy]; exact Zfr.num (Zfr.num (Zfr.num Zfr.rfl (by omega)) (by omega)) (by omega)
      have hRy : ZPD E sh y w P L := hR.gen (fy.mono (fun t f q => ⟨Or.inl (by omega), by omega, by omega, by omega⟩) fun u q => absurd q (fun q => q)) ZfM.rfl hR.2.2.2.2.2.2.2.2.2
      obtain ⟨x, e2, fx, hlx⟩ := ZX_beginPath hRy.2.2.1 hRy.2.2.2.2.2.1 hRy.2.2.2.2.2.2.1.2.1 N (by omega)
      have hqy : ZSq E sh y w P L ah ch od n' (cut * 2) left 0 := by
        refine ⟨hRy, by rw [fy.1 1 25 (by omega)]; exact p1, p2, by rw [fy.1 1 26 (by omega)]; exact p3, ?_, ?_, ?_, ⟨by rw [fy.1 1 30 (by omega)]; exact p7, by rw [fy.1 1 31 (by omega)]; exact p8, by rw [fy.1 1 32 (by omega)]; exact p9⟩, p10.fr (fy.2 58 (fun q => q)) rfl, by omega, by omega, hcp, by omega⟩
        · subst hy
          simp only [zua_sn (show 27 ≠ 29 by decide), zua_ss]
        · subst hy
          simp only [zua_sn (show 28 ≠ 29 by decide), zua_sn (show 28 ≠ 27 by decide), zua_ss]
          rfl
        · subst hy
          simp only [zua_ss]
      have hqx := hqy.keep (fx.mono (fun t f q => Or.inl q) fun u q => by omega) ZfM.rfl
      have hfst : ∀ k, k = 24 → x.1 1 k = z.1 1 k := fun k hk => by rw [fx.1 1 k (by omega), fy.1 1 k (by omega)]
      obtain ⟨z2, w2, r2, e3, ⟨q, j, hj, hst⟩, fz2, fw2, hend⟩ := ih n' (cut * 2) x w hqx (by rw [hfst 24 rfl]; exact c5) c6 c7 hlx (by omega) (by rw [Nat.pow_succ] at hc; rw [Nat.mul_assoc, Nat.mul_comm 2]; exact hc) f (by omega)
      rw [Zmul2, sb_m1 (by omega), show left + 1 - 1 = left by omega] at c4
      refine ⟨z2, w2, r2, ?_, ⟨q, _, ?_, Zsteps_add c4 hst rfl⟩, fz.trans ((fy.mono (fun t f q => Or.inr (by omega)) fun u q => absurd q (fun q => q)).trans ((fx.mono (fun t f q => Or.inr (by omega)) fun u q => Or.inr (by omega)).trans fz2)), fw.trans fw2, hend⟩
      · have k27 : (zua z.1 1 28 0) 1 27 = nI cut := by rw [zua_sn (by decide)]; exact p4
        have k29 : (zua (zua z.1 1 28 0) 1 27 (nI (cut * 2))) 1 29 = nI (left + 1) := by rw [zua_sn (by decide), zua_sn (by decide)]; exact p6
        rw [hy] at e2
        simp only [e1, Option.bind_some, zloop, fX1_search_L92, if_true, Zb0 hb.1, hic, Zne10, if_false, k27, Zmul2, k29, nI_pred, e2]
        cases e4 : fX1_searchFrom 402 N (ZW E sh x) (Zl E 1) with
        | none =>
          rw [e4] at e3
          cases e3
        | some t =>
          rw [e4] at e3
          simp only [Option.bind_some] at e3 ⊢
          exact e3
      · omega
    · refine ⟨z, w, 0, ?_, ⟨_, _, by omega, c3⟩, fz, fw, hR, p1.trans p2.symm, p3, p10, c4, by decide, c5⟩
      simp only [e1, Option.bind_some, zloop, fX1_search_L92, if_neg (show ¬ (0 : Int32) = 1 by decide)]
    · refine ⟨z, w, 2, ?_, ⟨_, _, by omega, c3⟩, fz, fw, hR, p1.trans p2.symm, p3, p10, c4, by decide, Or.inl ⟨c5, by rw [c4]; decide⟩⟩
      simp only [e1, Option.bind_some, zloop, fX1_search_L92, if_neg (show ¬ (2 : Int32) = 1 by decide)]
/-- what both know of searches -/
def ZSr (P : ZP) (xs : Zxs) (st : zMS) : Prop := xs.1 1 25 = st.1 46 ∧ xs.1 1 26 = st.1 47 ∧ Zph P xs st ∧ Zfnd P xs st
theorem Zrng (x : Int32) {a b : Int32} : (¬ x < a ∧ x ≤ b) ∨ (x < a ∨ ¬ x ≤ b) := by
  by_cases h : x < a
  · exact Or.inr (Or.inl h)
  · by_cases g : x ≤ b
    · exact Or.inl ⟨h, g⟩
    · exact Or.inr (Or.inr g)
theorem Znat {x : Int32} {b : Nat} (h1 : ¬ x < 0) (h2 : x ≤ nI b) (hb : b < 2 ^ 30) : ∃ k, k ≤ b ∧ x = nI k := by
  rcases Zint_cases x (show b + 1 < 2 ^ 31 by omega) with ⟨v, hv, rfl⟩ | ⟨g | g, -⟩
  · exact ⟨v, by omega, rfl⟩
  · exact absurd g h1
  · exfalso
    rw [Int32.le_iff_toInt_le, nI_toInt (by omega)] at g h2
    omega
theorem ZC_search (hR : ZPD E sh xs st P L) (hS : ZSr P xs st) (p0 p1 p2 p3 p4 : Int32) (N : Nat) (hN : 5000 ≤ N) :
    ∃ z w, Zjo [1] (ZW E sh z) w (fX1_search N (ZW E sh xs) (Zl E 1) p0 p1 p2 p3 p4) (fX5_search N st p0 p1 p2 p3 p4) ∧ Zfr (ZhA P) (ZhB P) xs z ∧ ZfM (fun f => f = 28 ∨ f = 32 ∨ f = 37 ∨ f = 38 ∨ f = 39 ∨ (46 ≤ f ∧ f ≤ 49) ∨ f = 51 ∨ f = 68) (fun f => f = 29 ∨ f = 30 ∨ f = 31 ∨ (34 ≤ f ∧ f ≤ 36) ∨ (40 ≤ f ∧ f ≤ 45) ∨ f = 50 ∨ (52 ≤ f ∧ f ≤ 54)) st w ∧ ZPD E sh z w P L ∧ ZSr P z w := by
  have hb := hR.2.2.1
  have bad : (p0 < 0 ∨ ¬ p0 ≤ 1023) ∨ (p1 < 0 ∨ ¬ p1 ≤ 1) ∨ (p2 < 0 ∨ ¬ p2 ≤ 2) ∨ (p3 < 1 ∨ ¬ p3 ≤ 100) ∨ (p4 < 0 ∨ ¬ p4 ≤ 5) → ∃ z w, Zjo [1] (ZW E sh z) w (fX1_search N (ZW E sh xs) (Zl E 1) p0 p1 p2 p3 p4) (fX5_search N st p0 p1 p2 p3 p4) ∧ Zfr (ZhA P) (ZhB P) xs z ∧ ZfM (fun f => f = 28 ∨ f = 32 ∨ f = 37 ∨ f = 38 ∨ f = 39 ∨ (46 ≤ f ∧ f ≤ 49) ∨ f = 51 ∨ f = 68) (fun f => f = 29 ∨ f = 30 ∨ f = 31 ∨ (34 ≤ f ∧ f ≤ 36) ∨ (40 ≤ f ∧ f ≤ 45) ∨ f = 50 ∨ (52 ≤ f ∧ f ≤ 54)) st w ∧ ZPD E sh z w P L ∧ ZSr P z w := by
    intro hbad
    refine ⟨xs, (zus st.1 68 1, st.2), Or.inr ⟨0, 1, 0, rfl, ?_, ?_, ?_⟩, Zfr.rfl, ZfM.num ZfM.rfl (by omega), hR.thr, ?_⟩
    · rcases Zrng p0 (a := 0) (b := 1023) with ⟨a1, a2⟩ | h0
      · rcases Zrng p1 (a := 0) (b := 1) with ⟨b1, b2⟩ | h1
        · rcases Zrng p2 (a := 0) (b := 2) with ⟨c1, c2⟩ | h2
          · rcases Zrng p3 (a := 1) (b := 100) with ⟨d1, d2⟩ | h3
            · rcases Zrng p4 (a := 0) (b := 5) with ⟨e1, e2⟩ | h4
              · exfalso
                rcases hbad with (g | g) | (g | g) | (g | g) | (g | g) | (g | g)
                all_goals first | exact absurd g a1 | exact g a2 | exact absurd g b1 | exact g b2 | exact absurd g c1 | exact g c2 | exact absurd g d1 | exact g d2 | exact absurd g e1 | exact g e2
              · simp only [fX1_search, Zck _ a1 a2, Zck _ b1 b2, Zck _ c1 c2, Zck _ d1 d2, Zck_x _ h4, Zthr_r, Zthr_l]
            · simp only [fX1_search, Zck _ a1 a2, Zck _ b1 b2, Zck _ c1 c2, Zck_x _ h3, Zthr_r, Zthr_l]
          · simp only [fX1_search, Zck _ a1 a2, Zck _ b1 b2, Zck_x _ h2, Zthr_r, Zthr_l]
        · simp only [fX1_search, Zck _ a1 a2, Zck_x _ h1, Zthr_r, Zthr_l]
      · simp only [fX1_search, Zck_x _ h0, Zthr_l]
    · have hthr : ¬ (1 : Int32) ≤ 0 := by decide
      rcases Zrng p0 (a := 0) (b := 1023) with ⟨a1, a2⟩ | h0
      · rcases Zrng p1 (a := 0) (b := 1) with ⟨b1, b2⟩ | h1
        · rcases Zrng p2 (a := 0) (b := 2) with ⟨c1, c2⟩ | h2
          · rcases Zrng p3 (a := 1) (b := 100) with ⟨d1, d2⟩ | h3
            · rcases Zrng p4 (a := 0) (b := 5) with ⟨e1, e2⟩ | h4
              · exfalso
                rcases hbad with (g | g) | (g | g) | (g | g) | (g | g) | (g | g)
                all_goals first | exact absurd g a1 | exact g a2 | exact absurd g b1 | exact g b2 | exact absurd g c1 | exact g c2 | exact absurd g d1 | exact g d2 | exact absurd g e1 | exact g e2
              · simp only [fX5_search, Zisin a1 a2, Zisin b1 b2, Zisin c1 c2, Zisin d1 d2, Zisin_x h4, Option.bind_some, Zne10, if_false, if_true, Zesc_l, zps, zus_s, if_neg hthr]
            · simp only [fX5_search, Zisin a1 a2, Zisin b1 b2, Zisin c1 c2, Zisin_x h3, Option.bind_some, Zne10, if_false, if_true, Zesc_l, zps, zus_s, if_neg hthr]
          · simp only [fX5_search, Zisin a1 a2, Zisin b1 b2, Zisin_x h2, Option.bind_some, Zne10, if_false, if_true, Zesc_l, zps, zus_s, if_neg hthr]
        · simp only [fX5_search, Zisin a1 a2, Zisin_x h1, Option.bind_some, Zne10, if_false, if_true, Zesc_l, zps, zus_s, if_neg hthr]
      · simp only [fX5_search, Zisin_x h0, Option.bind_some, if_true, Zesc_l, zps, zus_s, if_neg hthr]
    · simp only [zus_s]
      rfl
    · obtain ⟨h1, h2, h3, h4⟩ := hS
      refine ⟨by simp only [zus_n (show 46 ≠ 68 by decide)]; exact h1, by simp only [zus_n (show 47 ≠ 68 by decide)]; exact h2, h3, ?_⟩
      unfold Zfnd at h4 ⊢
      simp only [zus_n (show 48 ≠ 68 by decide), zus_n (show 49 ≠ 68 by decide)]
      exact h4
  rcases Zrng p0 (a := 0) (b := 1023) with ⟨a1, a2⟩ | h0
  · rcases Zrng p1 (a := 0) (b := 1) with ⟨b1, b2⟩ | h1
    · rcases Zrng p2 (a := 0) (b := 2) with ⟨c1, c2⟩ | h2
      · rcases Zrng p3 (a := 1) (b := 100) with ⟨d1, d2⟩ | h3
        · rcases Zrng p4 (a := 0) (b := 5) with ⟨e1, e2⟩ | h4
          · clear bad
            obtain ⟨left, hleft, rfl⟩ := Znat (b := 5) e1 e2 (by decide)
            obtain ⟨cut, hcut, rfl⟩ := Znat (b := 100) (x := p3) (fun g => d1 (by rw [Int32.lt_iff_toInt_lt, Int32.toInt_zero] at g; rw [Int32.lt_iff_toInt_lt, Int32.toInt_one]; omega)) d2 (by decide)
            have hcut0 : 0 < cut := by
              rcases Nat.eq_zero_or_pos cut with g | g
              · subst g
                exact absurd (show nI 0 < 1 by decide) d1
              · exact g
            obtain ⟨y, hy⟩ : ∃ y : Zxs, y = (zua (zua (zua (zua (zua (zua (zua (zua (zua xs.1 1 30 p0) 1 31 p1) 1 32 p2) 1 27 (nI cut)) 1 29 (nI left)) 1 24 (-1)) 1 25 0) 1 26 0) 1 28 0, xs.2) := ⟨_, rfl⟩
            obtain ⟨s, hs⟩ : ∃ s : zMS, s = (zus (zus (zus (zus (zus st.1 68 0) 46 0) 47 0) 51 0) 48 (-1), st.2) := ⟨_, rfl⟩
            have fy : Zfr (fun t f => t = 1 ∧ 24 ≤ f ∧ f ≤ 32) (fun _ => False) xs y := by
              rw [hy]
              refine Zfr.num (Zfr.num (Zfr.num (Zfr.num (Zfr.num (Zfr.num (Zfr.num (Zfr.num (Zfr.num Zfr.rfl ?_) ?_) ?_) ?_) ?_) ?_) ?_) ?_) ?_ <;> omega
            have fs : ZfM (fun f => (46 ≤ f ∧ f ≤ 48) ∨ f = 51 ∨ f = 68) (fun _ => False) st s := by
              rw [hs]
              refine ZfM.num (ZfM.num (ZfM.num (ZfM.num (ZfM.num ZfM.rfl ?_) ?_) ?_) ?_) ?_ <;> omega
            have hRy : ZPD E sh y s P L := hR.gen (fy.mono (fun t f q => ⟨Or.inl (by omega), by omega, by omega, by omega⟩) fun u q => absurd q (fun q => q)) (fs.mono (fun f q => by unfold ZMf; omega) (fun f q => absurd q (fun q => q))) (by rw [fs.1 32 (by omega)]; exact hR.2.2.2.2.2.2.2.2.2)
            obtain ⟨x, e2', fx, hlx⟩ := ZX_beginPath (E := E) hb hRy.2.2.2.2.2.1 hRy.2.2.2.2.2.2.1.2.1 N (by omega)
            have hqy : ZSq E sh y s P L p0 p1 p2 0 cut left 0 := by
              refine ⟨hRy, ?_, ?_, ?_, ?_, ?_, ?_, ⟨?_, ?_, ?_⟩, hS.2.2.1.fr (fy.2 58 (fun q => q)) (fs.2 45 (fun q => q)), Nat.le_refl _, by omega, by omega, hleft⟩
              all_goals
                subst hy
                subst hs
                simp [zua, upd, zus]
                try rfl
            have y24 : y.1 1 24 = -1 := by
              subst hy
              simp [zua, upd]
            have hqx := hqy.keep (fx.mono (fun t f q => Or.inl q) fun u q => by omega) ZfM.rfl
            have hpow : cut * 2 ^ left ≤ 3200 := by
              have h1 : 2 ^ left ≤ 2 ^ 5 := Nat.pow_le_pow_right (by decide) hleft
              calc cut * 2 ^ left ≤ 100 * 2 ^ 5 := Nat.mul_le_mul hcut h1
                _ = 3200 := by decide
            obtain ⟨z, w, r, g1, ⟨q, j, hj, hst⟩, fz, fw, hend⟩ := ZJ_restarts N hN left 0 cut x s hqx (by rw [fx.1 1 24 (by omega)]; exact y24) (by subst hs; simp [zus]) ⟨by subst hs; simp [zus]; rfl, by simp, fun i e he => by simp at he⟩ hlx hcut0 hpow N (by omega)
            obtain ⟨k1, k2, k3, k4, k5, k6, k7⟩ := hend
            have eM : zloop (fX5_search_L111 N p0 p1 p2) N (s, (0 : Int32), nI cut, nI left) = some w := by
              have := Zsteps_loop hst (N - j - 1 + 1)
              rw [show N - j - 1 + 1 + j = N by omega] at this
              rw [this]
              simp only [zloop, fX5_search_L111, k5, if_pos k6, Option.bind_some]
            have w68 : w.1 68 = 0 := by
              rw [fw.1 68 (by omega)]
              subst hs
              simp [zus]
            refine ⟨z, w, Or.inl ⟨r, ?_, ?_, w68⟩, (fy.mono (fun t f q => Or.inr (Or.inl q)) fun u q => absurd q (fun q => q)).trans ((fx.mono (fun t f q => Or.inr (by omega)) fun u q => Or.inr (by omega)).trans fz), (fs.mono (fun f q => by omega) (fun f q => absurd q (fun q => q))).trans (fw.mono (fun f q => by omega) (fun f q => q)), k1, k2, k3, k4, k7⟩
            · rw [hy] at e2'
              simp only [fX1_search, Zck _ a1 a2, Zck _ b1 b2, Zck _ c1 c2, Zck _ d1 d2, Zck _ e1 e2, Zthr_r, Zb0 hb.1, Option.bind_some, e2']
              exact g1
            · rw [hs] at eM
              simp only [fX5_search, Zisin a1 a2, Zisin b1 b2, Zisin c1 c2, Zisin d1 d2, Zisin e1 e2, Option.bind_some, Zne10, if_false, Zesc_r, zps, zus_s, if_pos (show (0 : Int32) ≤ 0 by decide), eM, k5]
          · exact bad (Or.inr (Or.inr (Or.inr (Or.inr h4))))
        · exact bad (Or.inr (Or.inr (Or.inr (Or.inl h3))))
      · exact bad (Or.inr (Or.inr (Or.inl h2)))
    · exact bad (Or.inr (Or.inl h1))
  · exact bad (Or.inl h0)
end SF
