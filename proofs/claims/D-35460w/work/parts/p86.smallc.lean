/-! relations told: what both know -/
set_option maxRecDepth 100000
section SC
variable {E : Ze} {sh sh' : Nat → Option Zsh} {xs xs' : Zxs} {P P' Q : ZP} {L : ZL} {st w : zMS} {g : Nat} {n : Nat → Nat} {tg : Nat → Nat → Nat}
/-- the problem with one more relation -/
def ZPs (P : ZP) (so : Nat) (pl : Nat → Nat) : ZP := ZPc P so (Zrn so) 0 0 pl (fun _ => 0) (fun _ => 0) 0 (fun _ => 0) (fun _ => 0)
/-- the problem while the object is made: a constraint of sort 2 stands for it -/
def ZPd (P : ZP) : ZP := ZPr P 2 0 fun _ => 0
theorem ZPd_f (h24 : Znc P < 24) : Znv (ZPd P) = Znv P ∧ Znc (ZPd P) = Znc P + 1 ∧ (∀ c, c < Znc P → Zso (ZPd P) c = Zso P c) ∧ Zso (ZPd P) (Znc P) = 2 := by
  have h := ZPc_mor (P := P) h24 (so := 2) (mn := 0) (rm := 0) (tr := 0) (pl := fun _ => 0) (mv := fun _ => 0) (cv := fun _ => 0) (li := 0) (fa := fun _ => 0) (hs := fun _ => 0)
  have k := ZPc_new (P := P) h24 (so := 2) (mn := 0) (rm := 0) (tr := 0) (pl := fun _ => 0) (mv := fun _ => 0) (cv := fun _ => 0) (li := 0) (fa := fun _ => 0) (hs := fun _ => 0)
  exact ⟨h.1, h.2.1, fun c hc => (h.2.2.2.1 c hc).1, k.1⟩
theorem ZPs_ok (h24 : Znc P < 24) {so : Nat} {pl : Nat → Nat} (hso : 7 ≤ so ∧ so ≤ 17) (hp : ∀ p, p < Zrn so → pl p < Znv P ∧ Zkd P (pl p) = Zrk so p) : ZCok (ZPs P so pl) (Znc P) := by
  obtain ⟨p1, p2, p3, p4, p5, p6, p7, p8, p9, p10⟩ := ZPc_new (P := P) h24 (so := so) (mn := Zrn so) (rm := 0) (tr := 0) (pl := pl) (mv := fun _ => 0) (cv := fun _ => 0) (li := 0) (fa := fun _ => 0) (hs := fun _ => 0)
  obtain ⟨m1, m2, m3, m4, m5⟩ := ZPc_mor (P := P) h24 (so := so) (mn := Zrn so) (rm := 0) (tr := 0) (pl := pl) (mv := fun _ => 0) (cv := fun _ => 0) (li := 0) (fa := fun _ => 0) (hs := fun _ => 0)
  have hr : Zrn so = 2 ∨ Zrn so = 3 := by unfold Zrn; split <;> simp
  unfold ZPs ZCok
  rw [p1, p2, m1]
  refine ⟨by omega, by omega, fun p hp' => by rw [p5]; exact (hp p hp').1, by omega, fun h => by omega, fun h => by omega, fun h => by omega, fun h => by omega, fun _ h => by omega, fun h => by omega, fun h => by omega, fun _ => ⟨rfl, fun p hp' => ?_⟩⟩
  rw [p5, (m3 _).1]
  exact (hp p hp').2
theorem zus_zus {f : Nat → Int32} {k : Nat} {a b : Int32} : zus (zus f k a) k b = zus f k b := by
  funext j
  unfold zus
  split <;> rfl
/-- M tells a relation -/
theorem ZM_of (hP : ZPok P) (hM : ZMP st P) {so : Nat} {y0 y1 y2 : Int32} {k0 k1 k2 m : Nat} (hm : (y2 = -2 ∧ m = 2) ∨ (y2 ≠ -2 ∧ m = 3)) (hk : k0 ≤ 3 ∧ k1 ≤ 3 ∧ k2 ≤ 3) :
    ((y0 < 0 ∨ nI (Znv P) ≤ y0) ∨ (y1 < 0 ∨ nI (Znv P) ≤ y1) ∨ (m = 3 ∧ (y2 < 0 ∨ nI (Znv P) ≤ y2)) → fX5_of st (nI so) y0 y1 y2 (nI k0) (nI k1) (nI k2) = some ((zus st.1 68 1, st.2), 0)) ∧
    (∀ v0 v1 v2, y0 = nI v0 → v0 < Znv P → y1 = nI v1 → v1 < Znv P → (m = 3 → y2 = nI v2 ∧ v2 < Znv P) →
      (¬ (Zkd P v0 = k0 ∧ Zkd P v1 = k1 ∧ (m = 3 → Zkd P v2 = k2)) → fX5_of st (nI so) y0 y1 y2 (nI k0) (nI k1) (nI k2) = some ((zus st.1 68 2, st.2), 0)) ∧
      (Zkd P v0 = k0 ∧ Zkd P v1 = k1 ∧ (m = 3 → Zkd P v2 = k2) → (Znc P = 24 → fX5_of st (nI so) y0 y1 y2 (nI k0) (nI k1) (nI k2) = some ((zus st.1 68 3, st.2), 0)) ∧
        (Znc P < 24 → fX5_of st (nI so) y0 y1 y2 (nI k0) (nI k1) (nI k2) = some ((zus (zus st.1 68 0) 15 (nI (Znc P + 1)), zua (zua (zua (zua (zua st.2 18 (8 * Znc P + 0) y0) 18 (8 * Znc P + 1) y1) 18 (8 * Znc P + 2) y2) 16 (Znc P) (nI so)) 17 (Znc P) (nI m)), nI (Znc P))))) := by
  have hn := hP.1
  have h24 := hP.2.1
  have n10 : ¬ (1 : Int32) = 0 := by decide
  have t1 : (if y2 = (-2 : Int32) then (some (1 : Int32)) else (some (0 : Int32))) = some (if m = 2 then 1 else 0) := by
    rcases hm with ⟨a, b⟩ | ⟨a, b⟩
    · rw [if_pos a, if_pos b]
    · rw [if_neg a, if_neg (by omega)]
  have thr : ∀ k : Nat, ¬ nI (k + 1) ≤ 0 ∨ ¬ k < 100 := fun k => by
    by_cases h : k < 100
    · exact Or.inl (nI_ge (a := 0) (by omega) (by omega))
    · exact Or.inr h
  have hthr1 : ¬ (1 : Int32) ≤ 0 := by decide
  have hthr2 : ¬ (2 : Int32) ≤ 0 := by decide
  have hthr3 : ¬ (3 : Int32) ≤ 0 := by decide
  have z00 : (0 : Int32) ≤ 0 := by decide
  have rd : ∀ (s : zMS) v, s.2 = st.2 → v < Znv P → zal s 1 (nI v) = some (nI (Zkd P v)) := fun s v hs hv => by
    rw [Zal (show zMl 1 = 10 from rfl) (by decide) (by omega), hs, (hM.2.2.1 v hv).1]
  have eqk : ∀ v k, v < Znv P → k ≤ 3 → (nI (Zkd P v) = nI k ↔ Zkd P v = k) := fun v k hv hk => by
    have := hP.2.2.1 v hv
    exact nI_eq (by omega) (by omega)
  constructor
  · intro hbad
    unfold fX5_of
    rw [t1, Option.bind_some]
    rcases Zint_cases y0 (show Znv P < 2 ^ 31 by omega) with ⟨v0, hv0, rfl⟩ | ⟨h0, -⟩
    · rcases Zint_cases y1 (show Znv P < 2 ^ 31 by omega) with ⟨v1, hv1, rfl⟩ | ⟨h1, -⟩
      · have hb2 : m = 3 ∧ (y2 < 0 ∨ nI (Znv P) ≤ y2) := by
          rcases hbad with (c | c) | (c | c) | c
          · exact absurd c (Znneg (by omega))
          · exact absurd c (nI_ge hv0 (by omega))
          · exact absurd c (Znneg (by omega))
          · exact absurd c (nI_ge hv1 (by omega))
          · exact c
        simp only [ZM_var hP hM hv0, ZM_var hP hM hv1, if_neg (show ¬ m = 2 by omega), ZM_var_x hP hM hb2.2, Option.bind_some, n10, if_false, if_true, Zesc_l, Zesc_r, zps, zus_s, hthr1]
      · simp only [ZM_var hP hM hv0, ZM_var_x hP hM h1, Option.bind_some, n10, if_false, if_true, Zesc_l, zps, zus_s, hthr1]
    · simp only [ZM_var_x hP hM h0, Option.bind_some, if_true, Zesc_l, zps, zus_s, hthr1, if_false]
  · rintro v0 v1 v2 rfl hv0 rfl hv1 h2
    have pre : ∀ K : zMS → Option (zMS × Int32), True := fun _ => trivial
    have c3 : ¬ m = 2 → m = 3 := fun h => by omega
    have m18 : (8 : Int32) * nI (Znc P) = nI (8 * Znc P) := pk_mul 8 (Znc P)
    have e24 : Znc P = 24 → (24 : Int32) ≤ nI (Znc P) := fun h => by rw [h]; decide
    have e24' : Znc P < 24 → ¬ (24 : Int32) ≤ nI (Znc P) := fun h => nI_ge (b := 24) h (by decide)
    have rA := rd (zus st.1 68 0, st.2) v0 rfl hv0
    have rB := rd (zus st.1 68 0, st.2) v1 rfl hv1
    have n15 : ∀ a : Int32, (zus (zus st.1 68 0) 68 a) 15 = nI (Znc P) := fun a => by
      rw [zus_n (by decide), zus_n (by decide)]
      exact hM.2.1
    have add2 : nI (8 * Znc P) + (2 : Int32) = nI (8 * Znc P + 2) := nI_add _ 2
    have add0 : nI (8 * Znc P) + (0 : Int32) = nI (8 * Znc P + 0) := nI_add _ 0
    by_cases h2m : m = 2
    · -- a pair
      have k2' : ∀ q : m = 3 → Zkd P v2 = k2, True := fun _ => trivial
      refine ⟨fun hbad => ?_, fun hgood => ⟨fun hfull => ?_, fun hroom => ?_⟩⟩
      · by_cases q0 : Zkd P v0 = k0
        · have q1 : ¬ Zkd P v1 = k1 := fun q1 => hbad ⟨q0, q1, fun h => by omega⟩
          simp only [fX5_of, t1, if_pos h2m, ZM_var hP hM hv0, ZM_var hP hM hv1, Option.bind_some, n10, if_false, if_true, Zesc_l, Zesc_r, zps, zus_s, z00, rA, rB, (eqk v0 k0 hv0 hk.1).mpr q0, if_neg (fun h => q1 ((eqk v1 k1 hv1 hk.2.1).mp h)), zus_zus, hthr2]
        · simp only [fX5_of, t1, if_pos h2m, ZM_var hP hM hv0, ZM_var hP hM hv1, Option.bind_some, n10, if_false, if_true, Zesc_l, Zesc_r, zps, zus_s, z00, rA, if_neg (fun h => q0 ((eqk v0 k0 hv0 hk.1).mp h)), zus_zus, hthr2]
      · obtain ⟨g0, g1, -⟩ := hgood
        simp only [fX5_of, t1, if_pos h2m, ZM_var hP hM hv0, ZM_var hP hM hv1, Option.bind_some, n10, if_false, if_true, Zesc_l, Zesc_r, zps, zus_s, z00, rA, rB, (eqk v0 k0 hv0 hk.1).mpr g0, (eqk v1 k1 hv1 hk.2.1).mpr g1, fX5_hasRoom, zus_n (show 15 ≠ 68 by decide), hM.2.1, if_pos (e24 hfull), zus_zus, hthr3]
      · obtain ⟨g0, g1, -⟩ := hgood
        have h2' := h2m
        subst h2'
        have eM0 : st.2 1 v0 = nI k0 := by rw [(hM.2.2.1 v0 hv0).1, g0]
        have eM1 : st.2 1 v1 = nI k1 := by rw [(hM.2.2.1 v1 hv1).1, g1]
        simp (disch := omega) only [fX5_of, t1, ZM_var hP hM hv0, ZM_var hP hM hv1, Option.bind_some, n10, if_false, if_true, Zesc_l, Zesc_r, zps, zus_s, z00, rA, rB, (eqk v0 k0 hv0 hk.1).mpr g0, (eqk v1 k1 hv1 hk.2.1).mpr g1, eM0, eM1, fX5_hasRoom, zus_n (show 15 ≠ 68 by decide), hM.2.1, if_neg (e24' hroom), zus_zus, fX5_places, m18, add0, add2, nI_1, ZMA, fX5_adds, nI_pred]
        rfl
    · have h3 := c3 h2m
      obtain ⟨rfl, hv2⟩ := h2 h3
      have rC := rd (zus st.1 68 0, st.2) v2 rfl hv2
      have h01 : ¬ (if m = 2 then (1 : Int32) else 0) = 1 := by rw [if_neg h2m]; decide
      refine ⟨fun hbad => ?_, fun hgood => ⟨fun hfull => ?_, fun hroom => ?_⟩⟩
      · by_cases q0 : Zkd P v0 = k0
        · by_cases q1 : Zkd P v1 = k1
          · have q2 : ¬ Zkd P v2 = k2 := fun q2 => hbad ⟨q0, q1, fun _ => q2⟩
            simp only [fX5_of, t1, if_neg h2m, ZM_var hP hM hv0, ZM_var hP hM hv1, ZM_var hP hM hv2, Option.bind_some, n10, if_false, if_true, Zesc_l, Zesc_r, zps, zus_s, z00, rA, rB, rC, (eqk v0 k0 hv0 hk.1).mpr q0, (eqk v1 k1 hv1 hk.2.1).mpr q1, if_neg (fun h => q2 ((eqk v2 k2 hv2 hk.2.2).mp h)), zus_zus, hthr2]
          · simp only [fX5_of, t1, if_neg h2m, ZM_var hP hM hv0, ZM_var hP hM hv1, ZM_var hP hM hv2, Option.bind_some, n10, if_false, if_true, Zesc_l, Zesc_r, zps, zus_s, z00, rA, rB, (eqk v0 k0 hv0 hk.1).mpr q0, if_neg (fun h => q1 ((eqk v1 k1 hv1 hk.2.1).mp h)), zus_zus, hthr2]
        · simp only [fX5_of, t1, if_neg h2m, ZM_var hP hM hv0, ZM_var hP hM hv1, ZM_var hP hM hv2, Option.bind_some, n10, if_false, if_true, Zesc_l, Zesc_r, zps, zus_s, z00, rA, if_neg (fun h => q0 ((eqk v0 k0 hv0 hk.1).mp h)), zus_zus, hthr2]
      · obtain ⟨g0, g1, g2⟩ := hgood
        have g2 := g2 h3
        simp only [fX5_of, t1, if_neg h2m, ZM_var hP hM hv0, ZM_var hP hM hv1, ZM_var hP hM hv2, Option.bind_some, n10, if_false, if_true, Zesc_l, Zesc_r, zps, zus_s, z00, rA, rB, rC, (eqk v0 k0 hv0 hk.1).mpr g0, (eqk v1 k1 hv1 hk.2.1).mpr g1, (eqk v2 k2 hv2 hk.2.2).mpr g2, fX5_hasRoom, zus_n (show 15 ≠ 68 by decide), hM.2.1, if_pos (e24 hfull), zus_zus, hthr3]
      · obtain ⟨g0, g1, g2⟩ := hgood
        have g2' := g2 h3
        have eM0 : st.2 1 v0 = nI k0 := by rw [(hM.2.2.1 v0 hv0).1, g0]
        have eM1 : st.2 1 v1 = nI k1 := by rw [(hM.2.2.1 v1 hv1).1, g1]
        have eM2 : st.2 1 v2 = nI k2 := by rw [(hM.2.2.1 v2 hv2).1, g2']
        clear g2
        subst h3
        simp (disch := omega) only [fX5_of, t1, if_neg h2m, ZM_var hP hM hv0, ZM_var hP hM hv1, ZM_var hP hM hv2, Option.bind_some, n10, if_false, if_true, Zesc_l, Zesc_r, zps, zus_s, z00, rA, rB, rC, (eqk v0 k0 hv0 hk.1).mpr g0, (eqk v1 k1 hv1 hk.2.1).mpr g1, (eqk v2 k2 hv2 hk.2.2).mpr g2', eM0, eM1, eM2, fX5_hasRoom, zus_n (show 15 ≠ 68 by decide), hM.2.1, if_neg (e24' hroom), zus_zus, fX5_places, m18, add0, add2, nI_1, ZMA, fX5_adds, nI_pred]
        rfl
end SC
