/-! M: what unlike values and automata support -/
set_option maxRecDepth 100000
theorem ZnI_and {a b : Nat} (ha : a < 2 ^ 32) : nI a &&& nI b = nI (a &&& b) := by
  refine Zt_ext fun k hk => ?_
  rw [Zt_and, Zt_nI, Zt_nI, Zt_nI, Nat.testBit_and]
  cases a.testBit k <;> cases b.testBit k <;> simp
/-- the next smaller mask of a set's -/
theorem Zsub_all : ∀ s, s < 64 → ∀ f, f < 64 → ∀ a, a < f → f &&& s = f → a &&& s = a → a ≤ (f - 1) &&& s := by decide +kernel
theorem Zset_all : ∀ m, m < 7 → ∀ p, p < m → (((1 : Int32) <<< (nI m &&& 31)) - 1) &&& (((1 : Int32) <<< (nI p &&& 31)) ^^^ (-1)) = nI (2 ^ m - 1 - 2 ^ p) ∧ 2 ^ m - 1 - 2 ^ p < 64 ∧ ∀ q, q < 32 → ((2 ^ m - 1 - 2 ^ p).testBit q = decide (q < m ∧ q ≠ p)) := by decide +kernel
section MS
variable {st : zMS} {P : ZP} {c : Nat}
/-- a mask's places have values enough -/
def Zmk1 (P : ZP) (T : ZT0) (c v f : Nat) : Prop := Zct (fun q => f.testBit q) 32 ≤ Zct (fun j => decide (j ≠ v) && (List.range (Zmn P c)).any fun q => f.testBit q && Zt (ZDm P T c q) j) 32
theorem ZM_union (hP : ZPok P) (hM : ZMP st P) (hc : c < Znc P) {f : Nat} (hf : f < 64) (hm : Zmn P c ≤ 6) (a : Int32) (N : Nat) (hN : 1000 ≤ N) : ∃ w, zloop (fX5_canDiffer_L22 st (nI c) (a, nI f)) N ((0 : Int32), (0 : Int32)) = some w ∧ ∀ j, j < 32 → (Zt w j = true ↔ ∃ q, q < Zmn P c ∧ f.testBit q = true ∧ Zt (ZDm P (ZTm st) c q) j = true) := by
  have hnc := hP.2.1
  have e17 := (hM.2.2.2 c hc).2.1
  have L := Zl_inv (body := fX5_canDiffer_L22 st (nI c) (a, nI f)) (fun i b => ∃ w, b = (w, nI i) ∧ ∀ j, j < 32 → (Zt w j = true ↔ ∃ q, q < i ∧ f.testBit q = true ∧ Zt (ZDm P (ZTm st) c q) j = true)) (Zmn P c)
    (fun w => ∀ j, j < 32 → (Zt w j = true ↔ ∃ q, q < Zmn P c ∧ f.testBit q = true ∧ Zt (ZDm P (ZTm st) c q) j = true))
    (by
      rintro i b hi ⟨w, rfl, hw⟩
      have ex : ∀ (X : Nat → Prop), (∃ q, q < i + 1 ∧ X q) ↔ (∃ q, q < i ∧ X q) ∨ X i := by
        intro X
        constructor
        · rintro ⟨q, h1, h2⟩
          by_cases e : q = i
          · exact Or.inr (e ▸ h2)
          · exact Or.inl ⟨q, by omega, h2⟩
        · rintro (⟨q, h1, h2⟩ | h)
          · exact ⟨q, by omega, h2⟩
          · exact ⟨i, by omega, h⟩
      by_cases q : f.testBit i = true
      · have hh : (nI f >>> (nI i &&& 31)) &&& 1 = 1 := (Zt_has (by omega)).mpr (by rw [Zt_nI' (by omega)]; exact q)
        simp (disch := omega) only [fX5_canDiffer_L22, ZMA, e17, Option.bind_some, if_neg (nI_ge hi (show Zmn P c < 2 ^ 31 by omega)), if_pos hh, ZM_dom hP hM hc hi, nI_1]
        refine ⟨_, rfl, _, rfl, fun j hj => ?_⟩
        rw [Zt_or, Bool.or_eq_true, hw j hj, ex]
        simp only [q, true_and]
      · have hh : ¬ (nI f >>> (nI i &&& 31)) &&& 1 = 1 := fun g => q (by have := (Zt_has (show i < 32 by omega)).mp g; rwa [Zt_nI' (by omega)] at this)
        simp (disch := omega) only [fX5_canDiffer_L22, ZMA, e17, Option.bind_some, if_neg (nI_ge hi (show Zmn P c < 2 ^ 31 by omega)), if_neg hh, nI_1]
        refine ⟨_, rfl, _, rfl, fun j hj => ?_⟩
        rw [Zt_or0, hw j hj, ex]
        exact ⟨Or.inl, fun h => h.resolve_right fun h => q h.1⟩)
    (by
      rintro b ⟨w, rfl, hw⟩
      simp (disch := omega) only [fX5_canDiffer_L22, ZMA, e17, Option.bind_some, if_pos (nI_le (Nat.le_refl _) (show Zmn P c < 2 ^ 31 by omega))]
      exact ⟨_, rfl, hw⟩)
    N ((0 : Int32), (0 : Int32)) (by omega) ⟨0, rfl, fun j hj => by
      rw [Zt_0]
      exact ⟨fun h => (by cases h), fun ⟨q, h, _⟩ => absurd h (by omega)⟩⟩
  exact L
theorem ZM_can (hP : ZPok P) (hM : ZMP st P) (hc : c < Znc P) (hs : Zso P c = 1) {p v : Nat} (hp : p < Zmn P c) (hv : v < 32) (N : Nat) (hN : 1000 ≤ N) : ∃ b : Int32, fX5_canDiffer N st (nI c) (nI (2 ^ Zmn P c - 1 - 2 ^ p)) (nI v) = some b ∧ (b = 0 ∨ b = 1) ∧ (b = 1 ↔ ZHall P (ZTm st) c p v) := by
  have hC := hP.2.2.2.2.2 c hc
  have m6 : Zmn P c ≤ 6 := hC.2.2.2.2.2.1 (Or.inl hs)
  obtain ⟨-, s64, sb⟩ := Zset_all (Zmn P c) (by omega) p hp
  generalize hS : 2 ^ Zmn P c - 1 - 2 ^ p = S at *
  have sub_bit : ∀ f, f < 64 → f &&& S = f → ∀ q, f.testBit q = true → q < Zmn P c ∧ q ≠ p := by
    intro f hf hfs q hq
    rw [← hfs, Nat.testBit_and, Bool.and_eq_true] at hq
    have q32 : q < 32 := by
      rcases Nat.lt_or_ge q 32 with g | g
      · exact g
      · have := Nat.testBit_lt_two_pow (x := S) (i := q) (Nat.lt_of_lt_of_le s64 (Nat.le_trans (by decide : 64 ≤ 2 ^ 32) (Nat.pow_le_pow_right (by omega) g)))
        rw [this] at hq
        cases hq.2
    rw [sb q q32] at hq
    simpa using hq.2
  have L := Zl_meas (body := fX5_canDiffer_L6 N st (nI c) (nI S) (nI v)) (fun a => ∃ (b : Int32) (f : Nat), a = (b, nI f) ∧ f < 64 ∧ f &&& S = f ∧ ((b = 0 ∧ ∃ g, g < 64 ∧ g &&& S = g ∧ ¬ Zmk1 P (ZTm st) c v g) ∨ (b = 1 ∧ ∀ g, g < 64 → g &&& S = g → f < g → Zmk1 P (ZTm st) c v g))) (fun a => a.2.toNatClampNeg)
    (fun r => (r = 0 ∨ r = 1) ∧ (r = 1 ↔ ∀ g, g < 64 → g &&& S = g → Zmk1 P (ZTm st) c v g))
    (by
      rintro a ⟨b, f, rfl, hf, hfs, hb⟩
      have hb01 : b = 0 ∨ b = 1 := hb.elim (fun h => Or.inl h.1) fun h => Or.inr h.1
      rcases Nat.eq_zero_or_pos f with f0 | f0
      · subst f0
        simp only [fX5_canDiffer_L6, if_pos (show nI 0 ≤ (0 : Int32) by decide), Zzq hb01, Option.bind_some]
        refine Or.inr ⟨_, rfl, hb01, ?_⟩
        rcases hb with ⟨rfl, g, g1, g2, g3⟩ | ⟨rfl, h⟩
        · exact ⟨fun h => absurd h (by decide), fun h => absurd (h g g1 g2) g3⟩
        · refine ⟨fun _ g g1 g2 => ?_, fun _ => rfl⟩
          rcases Nat.eq_zero_or_pos g with e | e
          · subst e
            unfold Zmk1
            have : Zct (fun q => Nat.testBit 0 q) 32 = 0 := Zct_zero.mpr fun k _ => Nat.zero_testBit k
            rw [this]
            exact Nat.zero_le _
          · exact h g g1 g2 e
      · have hn0 : ¬ nI f ≤ (0 : Int32) := nI_nle f0 (by omega)
        rcases hb with ⟨rfl, g, g1, g2, g3⟩ | ⟨rfl, h⟩
        · simp only [fX5_canDiffer_L6, if_neg hn0, if_true, Zzq (Or.inl rfl), Option.bind_some]
          exact Or.inr ⟨_, rfl, Or.inl rfl, fun h => absurd h (by decide), fun h => absurd (h g g1 g2) g3⟩
        · obtain ⟨w, ew, hw⟩ := ZM_union hP hM hc hf m6 (1 : Int32) N hN
          have hu : Zct (Zt (w &&& ((1 <<< (nI v &&& 31)) ^^^ (-1)))) 32 = Zct (fun j => decide (j ≠ v) && (List.range (Zmn P c)).any fun q => f.testBit q && Zt (ZDm P (ZTm st) c q) j) 32 := by
            refine Zct_congr 32 fun k hk => ?_
            rw [Zt_and, Zt_not, Zt_one hv]
            have : Zt w k = (List.range (Zmn P c)).any fun q => f.testBit q && Zt (ZDm P (ZTm st) c q) k := by
              rw [Bool.eq_iff_iff, hw k hk, List.any_eq_true]
              simp only [List.mem_range, Bool.and_eq_true]
            rw [this]
            by_cases e : k = v
            · simp [e]
            · simp [e, hk]
          have hn : Zct (Zt (nI f)) 32 = Zct (fun q => f.testBit q) 32 := Zct_congr 32 fun k _ => Zt_nI' (by omega)
          have b1 := Zct_le (Zt (w &&& ((1 <<< (nI v &&& 31)) ^^^ (-1)))) 32
          have b2 := Zct_le (Zt (nI f)) 32
          have e1 : nI f - 1 = nI (f - 1) := pk_sub (b := 1) f0
          have hlt : (f - 1) &&& S < f := Nat.lt_of_le_of_lt Nat.and_le_left (by omega)
          have hss : ((f - 1) &&& S) &&& S = (f - 1) &&& S := by rw [Nat.and_assoc, Nat.and_self]
          have key : ∀ b' : Int32, ((b' = 0 ∧ ¬ Zmk1 P (ZTm st) c v f) ∨ (b' = 1 ∧ Zmk1 P (ZTm st) c v f)) → ∃ a' : Int32 × Int32, (some (Sum.inl (b', nI ((f - 1) &&& S))) : Option ((Int32 × Int32) ⊕ Int32)) = some (.inl a') ∧ (∃ (b : Int32) (f : Nat), a' = (b, nI f) ∧ f < 64 ∧ f &&& S = f ∧ ((b = 0 ∧ ∃ g, g < 64 ∧ g &&& S = g ∧ ¬ Zmk1 P (ZTm st) c v g) ∨ (b = 1 ∧ ∀ g, g < 64 → g &&& S = g → f < g → Zmk1 P (ZTm st) c v g))) ∧ a'.2.toNatClampNeg < (nI f).toNatClampNeg := by
            intro b' hb'
            refine ⟨_, rfl, ⟨_, _, rfl, by omega, hss, ?_⟩, by rw [Zcl (by omega), Zcl (by omega)]; exact hlt⟩
            rcases hb' with ⟨h1, h2⟩ | ⟨h1, h2⟩
            · exact Or.inl ⟨h1, f, hf, hfs, h2⟩
            · refine Or.inr ⟨h1, fun g g1 g2 g3 => ?_⟩
              rcases Nat.lt_trichotomy g f with e | e | e
              · have := Zsub_all S s64 f hf g e hfs g2
                omega
              · exact e ▸ h2
              · exact h g g1 g2 e
          by_cases q : Zmk1 P (ZTm st) c v f
          · have hq : ¬ nI (Zct (Zt (w &&& ((1 <<< (nI v &&& 31)) ^^^ (-1)))) 32) < nI (Zct (Zt (nI f)) 32) := nI_nlt (by rw [hu, hn]; exact q) (by omega)
            simp only [fX5_canDiffer_L6, if_neg hn0, Zne10, if_false, ew, Zcount _ N hN, Option.bind_some, if_neg hq, e1, ZnI_and (show f - 1 < 2 ^ 32 by omega)]
            exact Or.inl (key 1 (Or.inr ⟨rfl, q⟩))
          · have hq : nI (Zct (Zt (w &&& ((1 <<< (nI v &&& 31)) ^^^ (-1)))) 32) < nI (Zct (Zt (nI f)) 32) := nI_lt (by rw [hu, hn]; exact Nat.lt_of_not_le q) (by omega)
            simp only [fX5_canDiffer_L6, if_neg hn0, Zne10, if_false, ew, Zcount _ N hN, Option.bind_some, if_pos hq, e1, ZnI_and (show f - 1 < 2 ^ 32 by omega)]
            exact Or.inl (key 0 (Or.inl ⟨rfl, q⟩)))
    N ((1 : Int32), nI S) ⟨1, S, rfl, s64, Nat.and_self S, Or.inr ⟨rfl, fun g _ g2 g3 => by
      have : g ≤ S := by rw [← g2]; exact Nat.and_le_right
      omega⟩⟩ (by show (nI S).toNatClampNeg < N; rw [Zcl (by omega)]; omega)
  obtain ⟨b, e, hb, hb1⟩ := L
  refine ⟨b, e, hb, ?_⟩
  rw [hb1]
  constructor
  · intro h F hF
    -- the mask of the places
    have hmask : ∃ g, g < 64 ∧ g &&& S = g ∧ ∀ q, q < 32 → (g.testBit q = (decide (q < Zmn P c) && F q)) := by
      refine ⟨(Zmk (fun q => decide (q < Zmn P c) && F q) 6).toBitVec.toNat, ?_, ?_, fun q hq => ?_⟩
      · refine Nat.lt_pow_two_of_testBit (n := 6) _ fun i hi => ?_
        have := Zt_mk (fun q => decide (q < Zmn P c) && F q) 6 (by omega) i
        rw [show (Zmk (fun q => decide (q < Zmn P c) && F q) 6).toBitVec.toNat.testBit i = Zt (Zmk (fun q => decide (q < Zmn P c) && F q) 6) i from rfl, this]
        simp [show ¬ i < 6 by omega]
      · refine Nat.eq_of_testBit_eq fun i => ?_
        rw [Nat.testBit_and, show (Zmk (fun q => decide (q < Zmn P c) && F q) 6).toBitVec.toNat.testBit i = Zt (Zmk (fun q => decide (q < Zmn P c) && F q) 6) i from rfl, Zt_mk _ 6 (by omega)]
        by_cases h6 : i < 6
        · rw [sb i (by omega)]
          cases e : F i with
          | false => simp
          | true =>
            have : i ≠ p := fun z => by rw [z, hF] at e; cases e
            simp [this]
        · simp [h6]
      · rw [show (Zmk (fun q => decide (q < Zmn P c) && F q) 6).toBitVec.toNat.testBit q = Zt (Zmk (fun q => decide (q < Zmn P c) && F q) 6) q from rfl, Zt_mk _ 6 (by omega)]
        by_cases h6 : q < 6
        · simp [h6]
        · simp [h6, show ¬ q < Zmn P c by omega]
    obtain ⟨g, g1, g2, g3⟩ := hmask
    have hg := h g g1 g2
    unfold Zmk1 at hg
    have e1 : Zct (fun q => g.testBit q) 32 = Zct F (Zmn P c) := by
      have q1 : Zct (fun q => g.testBit q) 32 = Zct (fun q => decide (q < Zmn P c) && F q) 32 := Zct_congr 32 fun k hk => g3 k hk
      have q2 : ∀ n, n ≤ Zmn P c → Zct (fun q => decide (q < Zmn P c) && F q) n = Zct F n := fun n hn => Zct_congr n fun k hk => by simp [show k < Zmn P c by omega]
      have q3 : ∀ j, Zct (fun q => decide (q < Zmn P c) && F q) (Zmn P c + j) = Zct F (Zmn P c) := by
        intro j
        induction j with
        | zero => exact q2 _ (Nat.le_refl _)
        | succ j ih => rw [← Nat.add_assoc, Zct, ih]; simp [show ¬ (Zmn P c + j < Zmn P c) by omega]
      have := q3 (32 - Zmn P c)
      rw [show Zmn P c + (32 - Zmn P c) = 32 by omega] at this
      rw [q1, this]
    have e2 : Zct (fun j => decide (j ≠ v) && (List.range (Zmn P c)).any fun q => g.testBit q && Zt (ZDm P (ZTm st) c q) j) 32 = Zuc P (ZTm st) c F v := by
      refine Zct_congr 32 fun k _ => ?_
      congr 1
      rw [Bool.eq_iff_iff, List.any_eq_true, List.any_eq_true]
      constructor
      · rintro ⟨q, a1, a2⟩
        refine ⟨q, a1, ?_⟩
        have hq := List.mem_range.mp a1
        rw [g3 q (by omega)] at a2
        simpa [hq] using a2
      · rintro ⟨q, a1, a2⟩
        refine ⟨q, a1, ?_⟩
        have hq := List.mem_range.mp a1
        rw [g3 q (by omega)]
        simpa [hq] using a2
    rw [e1, e2] at hg
    exact hg
  · intro h g g1 g2
    have hgp : (fun q => g.testBit q) p = false := by
      cases e : g.testBit p with
      | false => exact e
      | true => exact absurd rfl (sub_bit g g1 g2 p e).2
    have := h _ hgp
    unfold Zmk1
    have q3 : ∀ j, Zct (fun q => g.testBit q) (Zmn P c + j) = Zct (fun q => g.testBit q) (Zmn P c) := by
      intro j
      induction j with
      | zero => rfl
      | succ j ih =>
        rw [← Nat.add_assoc, Zct, ih]
        cases e : g.testBit (Zmn P c + j) with
        | false => simp
        | true => exact absurd (sub_bit g g1 g2 _ e).1 (by omega)
    have e1 := q3 (32 - Zmn P c)
    rw [show Zmn P c + (32 - Zmn P c) = 32 by omega] at e1
    rw [e1]
    exact this
theorem ZM_byDifferent (hP : ZPok P) (hM : ZMP st P) (hc : c < Znc P) (hs : Zso P c = 1) (hT : ZTok P (ZTm st)) (h0 : ∀ p, p < 8 → st.2 41 (8 * c + p) = 0) (N : Nat) (hN : 1000 ≤ N) : ∃ st', fX5_byDifferent N st (nI c) = some st' ∧ ZfS st st' ∧ ZMo c st st' ∧ ZMs P (ZTm st) c st' := by
  have hC := hP.2.2.2.2.2 c hc
  have hnc := hP.2.1
  have m6 : Zmn P c ≤ 6 := hC.2.2.2.2.2.1 (Or.inl hs)
  have L := Zl_inv (body := fX5_byDifferent_L2 N (nI c)) (fun p a => ∃ y, a = (y, nI p) ∧ ZMi P (ZTm st) c (fun q k => k < 16 ∧ Zt (ZDm P (ZTm st) c q) k = true ∧ ZHall P (ZTm st) c q k) st p y) (Zmn P c)
    (fun y => ZMi P (ZTm st) c (fun q k => k < 16 ∧ Zt (ZDm P (ZTm st) c q) k = true ∧ ZHall P (ZTm st) c q k) st (Zmn P c) y)
    (by
      rintro p a hp ⟨y, rfl, fy, oy, yd, y0⟩
      have e17 := ((fy.mp hM).2.2.2 c hc).2.1
      have inner := Zl_inv (body := fX5_byDifferent_L14 N (nI c) (y, nI p)) (fun v a => ∃ z, a = (z, nI v) ∧ ZfS st z ∧ ZMo c st z ∧ (∀ q, q ≠ p → z.2 41 (8 * c + q) = y.2 41 (8 * c + q)) ∧ (∀ k, k < 32 → (Zt (z.2 41 (8 * c + p)) k = true ↔ k < v ∧ Zt (ZDm P (ZTm st) c p) k = true ∧ ZHall P (ZTm st) c p k))) 16
          (fun z => ZfS st z ∧ ZMo c st z ∧ (∀ q, q ≠ p → z.2 41 (8 * c + q) = y.2 41 (8 * c + q)) ∧ (∀ k, k < 32 → (Zt (z.2 41 (8 * c + p)) k = true ↔ k < 16 ∧ Zt (ZDm P (ZTm st) c p) k = true ∧ ZHall P (ZTm st) c p k)))
          (by
            rintro v a hv ⟨z, rfl, fz, oz, zq, zp⟩
            have h16 : ¬ (16 : Int32) ≤ nI v := nI_ge (b := 16) hv (by decide)
            have Mz := fz.mp hM
            have Tz := fz.tm
            have ez := (Mz.2.2.2 c hc).2.1
            have dz := ZM_dom hP Mz hc hp
            rw [Tz] at dz
            have same : (¬ (Zt (ZDm P (ZTm st) c p) v = true ∧ ZHall P (ZTm st) c p v)) → ∀ k, k < 32 → (Zt (z.2 41 (8 * c + p)) k = true ↔ k < v + 1 ∧ Zt (ZDm P (ZTm st) c p) k = true ∧ ZHall P (ZTm st) c p k) := by
              intro hn k hk32
              rw [zp k hk32]
              constructor
              · rintro ⟨a1, a2⟩
                exact ⟨by omega, a2⟩
              · rintro ⟨a1, a2⟩
                by_cases e : k = v
                · subst e
                  exact absurd a2 hn
                · exact ⟨by omega, a2⟩
            by_cases q : Zt (ZDm P (ZTm st) c p) v = true
            · obtain ⟨b, q1, q2, q3⟩ := ZM_can hP Mz hc hs hp (show v < 32 by omega) N hN
              rw [Tz] at q3
              have es := (Zset_all (Zmn P c) (by omega) p hp).1
              rcases q2 with rfl | rfl
              · simp (disch := omega) only [fX5_byDifferent_L14, if_neg h16, dz, Option.bind_some, ZhasBit_t (show v < 32 by omega) q, Zne10, if_false, ZMA, ez, es, q1, if_true, nI_1]
                exact ⟨_, rfl, z, rfl, fz, oz, zq, same fun h => absurd (q3.mpr h.2) (by decide)⟩
              · simp (disch := omega) only [fX5_byDifferent_L14, if_neg h16, dz, Option.bind_some, ZhasBit_t (show v < 32 by omega) q, Zne10, if_false, ZMA, ez, es, q1, ZM_supp hP hc (show p < 8 by omega), nI_1]
                refine ⟨_, rfl, _, rfl, fz.arr rfl, ZMo_put oz (by omega), fun q' hq' => (zua_sn (by omega)).trans (zq q' hq'), fun k hk32 => ?_⟩
                simp only [zua_ss]
                rw [Zt_put (by omega), zp k hk32]
                have := q3.mp rfl
                constructor
                · rintro (⟨a1, a2⟩ | a1)
                  · exact ⟨by omega, a2⟩
                  · subst a1
                    exact ⟨by omega, q, this⟩
                · rintro ⟨a1, a2⟩
                  by_cases e : k = v
                  · exact Or.inr e
                  · exact Or.inl ⟨by omega, a2⟩
            · simp (disch := omega) only [fX5_byDifferent_L14, if_neg h16, dz, Option.bind_some, ZhasBit_f (show v < 32 by omega) q, if_true, nI_1]
              exact ⟨_, rfl, z, rfl, fz, oz, zq, same fun h => q h.1⟩)
          (by
            rintro a ⟨z, rfl, h⟩
            simp only [fX5_byDifferent_L14, if_pos (show (16 : Int32) ≤ nI 16 by decide)]
            exact ⟨_, rfl, h⟩)
          N (y, 0) (by omega) ⟨y, rfl, fy, oy, fun _ _ => rfl, fun k hk => by
            rw [y0 p (Nat.le_refl _) (by omega), Zt_0]
            exact ⟨fun h => (by cases h), fun h => absurd h.1 (by omega)⟩⟩
      obtain ⟨z, ez, fz, oz, zq, zp⟩ := inner
      simp (disch := omega) only [fX5_byDifferent_L2, ZMA, e17, Option.bind_some, if_neg (nI_ge hp (show Zmn P c < 2 ^ 31 by omega)), ez, nI_1]
      refine ⟨_, rfl, z, rfl, fz, oz, fun q hq hk k hk32 => ?_, fun q h1 h2 => by rw [zq q (by omega)]; exact y0 q (by omega) h2⟩
      by_cases e : q = p
      · subst e
        exact zp k hk32
      · rw [zq q e]
        exact yd q (by omega) hk k hk32)
    (by
      rintro a ⟨y, rfl, hy⟩
      have e17 := ((hy.1.mp hM).2.2.2 c hc).2.1
      simp (disch := omega) only [fX5_byDifferent_L2, ZMA, e17, Option.bind_some, if_pos (nI_le (Nat.le_refl _) (show Zmn P c < 2 ^ 31 by omega))]
      exact ⟨_, rfl, hy⟩)
    N (st, 0) (by omega) ⟨st, rfl, ZfM.rfl, fun _ _ => rfl, fun q hq => absurd hq (by omega), fun q _ hq => h0 q hq⟩
  obtain ⟨y, e, fy, oy, yd, -⟩ := L
  refine ⟨y, e, fy, oy, fun p hp hk k hk32 hD => ?_⟩
  rw [yd p hp hk k hk32]
  simp only [Zsup, hs]
  have : k < 16 := by
    have hk0 := hC.2.2.2.2.2.2.2.2.1 (by omega) (by omega) p hp
    have := ((hT _ (hC.2.2.1 p hp)).1 hk).2 k hD
    rw [hk0] at this
    exact this
  exact ⟨fun h => h.2.2, fun h => ⟨this, hD, h⟩⟩
end MS
