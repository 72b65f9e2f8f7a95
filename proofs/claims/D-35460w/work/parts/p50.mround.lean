/-! M: a round: taken over; the store that is found -/
set_option maxRecDepth 100000
/-- some of the variables below v is changed -/
def Zcm (T : ZT0) (y : zMS) (v : Nat) : Prop := ∃ w, w < v ∧ (T.1 w ≠ y.2 42 w ∨ T.2.1 w ≠ y.2 43 w ∨ T.2.2 w ≠ y.2 44 w)
/-- the frame of a round -/
abbrev ZfQ (st st' : zMS) : Prop := ZfM (fun f => f = 37 ∨ f = 38 ∨ f = 39) (fun f => (34 ≤ f ∧ f ≤ 36) ∨ (40 ≤ f ∧ f ≤ 44)) st st'
theorem ZfQ.mp {st st' : zMS} {P : ZP} (hf : ZfQ st st') (h : ZMP st P) : ZMP st' P := h.fr hf (fun f q => by unfold ZMf; omega) (fun f q => by unfold ZMf; omega)
section MY
variable {st : zMS} {P : ZP}
theorem ZM_over (hP : ZPok P) {y : zMS} (hM : ZMP y P) (N : Nat) (hN : 1000 ≤ N) :
    ∃ z b, zloop (fX5_round_L243) N (y, (0 : Int32), (0 : Int32)) = some (z, b) ∧ z.1 = y.1 ∧ (∀ f, f ≠ 34 → f ≠ 35 → f ≠ 36 → z.2 f = y.2 f) ∧ (∀ v, v < Znv P → z.2 34 v = y.2 42 v ∧ z.2 35 v = y.2 43 v ∧ z.2 36 v = y.2 44 v) ∧ (b = 0 ∨ b = 1) ∧ (b = 1 ↔ Zcm (ZTm y) y (Znv P)) := by
  have hn10 := hP.1
  have L := Zl_inv (body := fX5_round_L243) (fun v a => ∃ w b, a = (w, b, nI v) ∧ w.1 = y.1 ∧ (∀ f, f ≠ 34 → f ≠ 35 → f ≠ 36 → w.2 f = y.2 f) ∧ (∀ u, w.2 34 u = (if u < v then y.2 42 u else y.2 34 u) ∧ w.2 35 u = (if u < v then y.2 43 u else y.2 35 u) ∧ w.2 36 u = (if u < v then y.2 44 u else y.2 36 u)) ∧ (b = 0 ∨ b = 1) ∧ (b = 1 ↔ Zcm (ZTm y) y v)) (Znv P)
    (fun r => r.1.1 = y.1 ∧ (∀ f, f ≠ 34 → f ≠ 35 → f ≠ 36 → r.1.2 f = y.2 f) ∧ (∀ v, v < Znv P → r.1.2 34 v = y.2 42 v ∧ r.1.2 35 v = y.2 43 v ∧ r.1.2 36 v = y.2 44 v) ∧ (r.2 = 0 ∨ r.2 = 1) ∧ (r.2 = 1 ↔ Zcm (ZTm y) y (Znv P)))
    (by
      rintro v a hv ⟨w, b, rfl, w1, wf, wu, hb, hb1⟩
      have m1 : w.1 0 = nI (Znv P) := by rw [w1]; exact hM.1
      have e42 := wf 42 (by omega) (by omega) (by omega)
      have e43 := wf 43 (by omega) (by omega) (by omega)
      have e44 := wf 44 (by omega) (by omega) (by omega)
      obtain ⟨e34, e35, e36⟩ := wu v
      rw [if_neg (Nat.lt_irrefl v)] at e34 e35 e36
      have key : ∀ d : Int32, (d = 0 ∨ d = 1) → (d = 1 ↔ (y.2 34 v ≠ y.2 42 v ∨ y.2 35 v ≠ y.2 43 v ∨ y.2 36 v ≠ y.2 44 v)) → ∃ z b', ((((w.1, zua (zua (zua w.2 34 v (y.2 42 v)) 35 v (y.2 43 v)) 36 v (y.2 44 v)) : zMS), b ||| d, nI (v + 1)) : zMS × Int32 × Int32) = (z, b', nI (v + 1)) ∧ z.1 = y.1 ∧ (∀ f, f ≠ 34 → f ≠ 35 → f ≠ 36 → z.2 f = y.2 f) ∧ (∀ u, z.2 34 u = (if u < v + 1 then y.2 42 u else y.2 34 u) ∧ z.2 35 u = (if u < v + 1 then y.2 43 u else y.2 35 u) ∧ z.2 36 u = (if u < v + 1 then y.2 44 u else y.2 36 u)) ∧ (b' = 0 ∨ b' = 1) ∧ (b' = 1 ↔ Zcm (ZTm y) y (v + 1)) := by
        intro d hd hd1
        obtain ⟨o1, o2⟩ := Zor01 hb hd
        refine ⟨_, _, rfl, w1, fun f f1 f2 f3 => (zua_n f3).trans ((zua_n f2).trans ((zua_n f1).trans (wf f f1 f2 f3))), fun u => ?_, o1, ?_⟩
        · simp only [zua_n (show 34 ≠ 36 by decide), zua_n (show 34 ≠ 35 by decide), zua_n (show 35 ≠ 36 by decide), zua_n (show 35 ≠ 34 by decide), zua_n (show 36 ≠ 34 by decide), zua_n (show 36 ≠ 35 by decide), zua_s]
          obtain ⟨w2, w3, w4⟩ := wu u
          by_cases g : u = v
          · subst g
            simp
          · rw [if_neg g, if_neg g, if_neg g, w2, w3, w4]
            have : u < v ↔ u < v + 1 := by omega
            simp only [this, and_self]
        · rw [o2, hb1, hd1]
          unfold Zcm ZTm
          clear hb1 hd1 o2
          constructor
          · rintro (⟨u, g1, g2⟩ | g)
            · exact ⟨u, by omega, g2⟩
            · exact ⟨v, by omega, g⟩
          · rintro ⟨u, g1, g2⟩
            by_cases g : u = v
            · subst g
              exact Or.inr g2
            · exact Or.inl ⟨u, by omega, g2⟩
      by_cases q1 : y.2 42 v = y.2 34 v
      · by_cases q2 : y.2 43 v = y.2 35 v
        · by_cases q3 : y.2 44 v = y.2 36 v
          · simp (disch := omega) only [fX5_round_L243, m1, if_neg (nI_ge hv (show Znv P < 2 ^ 31 by omega)), ZMA, e42, e43, e44, e34, e35, e36, zua_n (show 43 ≠ 34 by decide), zua_n (show 44 ≠ 34 by decide), zua_n (show 44 ≠ 35 by decide), Option.bind_some, if_pos q1, if_pos q2, if_pos q3, Zesc_r, nI_1]
            exact ⟨_, rfl, key 0 (Or.inl rfl) ⟨fun h => absurd h (by decide), fun h => by
              rcases h with h | h | h
              · exact absurd q1.symm h
              · exact absurd q2.symm h
              · exact absurd q3.symm h⟩⟩
          · simp (disch := omega) only [fX5_round_L243, m1, if_neg (nI_ge hv (show Znv P < 2 ^ 31 by omega)), ZMA, e42, e43, e44, e34, e35, e36, zua_n (show 43 ≠ 34 by decide), zua_n (show 44 ≠ 34 by decide), zua_n (show 44 ≠ 35 by decide), Option.bind_some, if_pos q1, if_pos q2, if_neg q3, Zesc_l, nI_1]
            exact ⟨_, rfl, key 1 (Or.inr rfl) ⟨fun _ => Or.inr (Or.inr fun h => q3 h.symm), fun _ => rfl⟩⟩
        · simp (disch := omega) only [fX5_round_L243, m1, if_neg (nI_ge hv (show Znv P < 2 ^ 31 by omega)), ZMA, e42, e43, e44, e34, e35, e36, zua_n (show 43 ≠ 34 by decide), zua_n (show 44 ≠ 34 by decide), zua_n (show 44 ≠ 35 by decide), Option.bind_some, if_pos q1, if_neg q2, Zesc_l, nI_1]
          exact ⟨_, rfl, key 1 (Or.inr rfl) ⟨fun _ => Or.inr (Or.inl fun h => q2 h.symm), fun _ => rfl⟩⟩
      · simp (disch := omega) only [fX5_round_L243, m1, if_neg (nI_ge hv (show Znv P < 2 ^ 31 by omega)), ZMA, e42, e43, e44, e34, e35, e36, zua_n (show 43 ≠ 34 by decide), zua_n (show 44 ≠ 34 by decide), zua_n (show 44 ≠ 35 by decide), Option.bind_some, if_neg q1, Zesc_l, nI_1]
        exact ⟨_, rfl, key 1 (Or.inr rfl) ⟨fun _ => Or.inl fun h => q1 h.symm, fun _ => rfl⟩⟩)
    (by
      rintro a ⟨w, b, rfl, w1, wf, wu, hb, hb1⟩
      have m1 : w.1 0 = nI (Znv P) := by rw [w1]; exact hM.1
      simp only [fX5_round_L243, m1, if_pos (nI_le (Nat.le_refl _) (show Znv P < 2 ^ 31 by omega)), Zzq hb, Option.bind_some]
      refine ⟨_, rfl, w1, wf, fun v hv => ?_, hb, hb1⟩
      obtain ⟨g1, g2, g3⟩ := wu v
      rw [if_pos hv] at g1 g2 g3
      exact ⟨g1, g2, g3⟩)
    N (y, (0 : Int32), (0 : Int32)) (by omega) ⟨y, 0, rfl, rfl, fun _ _ _ _ => rfl, fun u => by simp only [if_neg (Nat.not_lt_zero u), and_self], Or.inl rfl, fun h => absurd h (by decide), fun ⟨u, h, _⟩ => absurd h (by omega)⟩
  obtain ⟨⟨z, b⟩, e, h⟩ := L
  exact ⟨z, b, e, h⟩
theorem ZM_round (hP : ZPok P) (hM : ZMP st P) (hT : ZTok P (ZTm st)) {rd : Nat} (h38 : st.1 38 = nI rd) {l : List (Nat × Nat × Nat × Nat)} (ht : ZTrM st l) (hl : l.length + Zbc P (ZTm st) (Znv P) ≤ 320) (N : Nat) (hN : 1000 ≤ N) :
    ∃ z b fc, fX5_round N st = some (z, b) ∧ ZfQ st z ∧ z.1 37 = st.1 37 ∧ z.1 38 = st.1 38 ∧ (b = 0 ∨ b = 1) ∧ Zstep P (ZTm st) (ZTm z) ∧ (b = 1 ↔ Zchg P (ZTm st) (ZTm z)) ∧ ZfcA P (ZTm st) (ZTm z) fc ∧ ZTrM z (l ++ ZtrR P (ZTm st) (ZTm z) fc (rd + 1) (Znv P)) := by
  obtain ⟨y, e1, fy, hy⟩ := ZM_sups hP hM hT N hN
  have My := fy.mp hM
  have Ty := fy.tm
  obtain ⟨w, e2, fw, wn, wt⟩ := ZM_nexts hP hT My Ty hy (l := l) (by
    unfold ZTrM at ht ⊢
    rw [fy.1 39 (fun q => q), fy.2 40 (by omega)]
    exact ht) hl (rd := rd) (by rw [fy.1 38 (fun q => q)]; exact h38) N hN
  have Mw := ZfR.mp fw My
  have Tw : ZTm w = ZTm st := (ZfR.tm fw).trans Ty
  obtain ⟨z, b, e3, z1, zf, zv, hb, hb1⟩ := ZM_over hP Mw N hN
  have fz : ZfQ st z := (fy.mono (fun _ q => absurd q (fun q => q)) (fun f q => by omega)).trans ((fw.mono (fun f q => by omega) (fun f q => by omega)).trans ⟨fun f _ => by rw [z1], fun f q => zf f (by omega) (by omega) (by omega)⟩)
  have hT1 : ∀ v, v < Znv P → (ZTm z).1 v = w.2 42 v ∧ (ZTm z).2.1 v = w.2 43 v ∧ (ZTm z).2.2 v = w.2 44 v := zv
  have hsets : ∀ v, v < Znv P → Zkd P v ≤ 2 → (ZTm z).1 v = Znx P (ZTm st) v := fun v hv hk => (hT1 v hv).1.trans ((wn v hv).1 hk).1
  refine ⟨z, b, Zfcc P (ZTm st), ?_, fz, ?_, ?_, hb, ⟨fun v hv hk k hk32 => ?_, fun v hv hk => ?_, fun v hv => ⟨fun hk => ?_, fun hk => ?_⟩⟩, ?_, fun v hv hk k hk32 g1 g2 => ?_, ?_⟩
  · simp only [fX5_round, e1, e2, e3, Option.bind_some]
  · rw [z1, fw.1 37 (by omega), fy.1 37 (fun q => q)]
  · rw [z1, fw.1 38 (by omega), fy.1 38 (fun q => q)]
  · rw [hsets v hv hk]
    exact Znx_t hk32
  · rw [(hT1 v hv).2.1, (hT1 v hv).2.2]
    exact ((wn v hv).2 hk).2.2
  · exact ⟨(hT1 v hv).2.1.trans ((wn v hv).1 hk).2.1, (hT1 v hv).2.2.trans ((wn v hv).1 hk).2.2⟩
  · have o := (hT v hv).2 hk
    have q := ((wn v hv).2 hk).2.1
    rw [(hT1 v hv).2.1, (hT1 v hv).2.2]
    exact ⟨(hT1 v hv).1.trans ((wn v hv).2 hk).1, by omega, by omega⟩
  · rw [hb1, Tw]
    clear hb1
    constructor
    · rintro ⟨v, hv, h⟩
      obtain ⟨q1, q2, q3⟩ := hT1 v hv
      exact ⟨v, hv, by rw [q1, q2, q3]; exact h⟩
    · rintro ⟨v, hv, h⟩
      obtain ⟨q1, q2, q3⟩ := hT1 v hv
      rw [q1, q2, q3] at h
      exact ⟨v, hv, h⟩
  · rw [hsets v hv hk, Znx_t hk32] at g2
    have : ∃ c, c < Znc P ∧ Zag P (ZTm st) c v k := Classical.byContradiction fun h => g2 ⟨g1, fun c hc ha => h ⟨c, hc, ha⟩⟩
    obtain ⟨c, hc, ha⟩ := this
    -- the first
    have first : ∀ n, (∃ c, c < n ∧ Zag P (ZTm st) c v k) → ∃ c, c < n ∧ Zag P (ZTm st) c v k ∧ ∀ c', c' < c → ¬ Zag P (ZTm st) c' v k := by
      intro n
      induction n with
      | zero => rintro ⟨c, h, -⟩; omega
      | succ n ih =>
        rintro ⟨c, h1, h2⟩
        by_cases g : ∃ c, c < n ∧ Zag P (ZTm st) c v k
        · obtain ⟨c', q1, q2, q3⟩ := ih g
          exact ⟨c', by omega, q2, q3⟩
        · refine ⟨c, h1, h2, fun c' hc' ha' => g ⟨c', by omega, ha'⟩⟩
    obtain ⟨c1, q1, q2, q3⟩ := first _ ⟨c, hc, ha⟩
    have hfc : Zfc P (ZTm st) v k c1 := ⟨q1, q2, q3⟩
    rw [Zfcc_eq hfc]
    exact hfc
  · have : ZtrR P (ZTm st) (ZTm z) (Zfcc P (ZTm st)) (rd + 1) (Znv P) = ZtrR P (ZTm st) (Znx P (ZTm st), (ZTm st).2) (Zfcc P (ZTm st)) (rd + 1) (Znv P) := ZtrR_congr (Znv P) fun v hv hk => ⟨fun _ _ => rfl, fun k _ => by rw [hsets v hv (by have := hP.2.2.1 v hv; omega)], fun _ _ _ _ => rfl⟩
    rw [this]
    unfold ZTrM at wt ⊢
    rw [z1, zf 40 (by omega) (by omega) (by omega)]
    exact wt
theorem ZM_isEmpty (hP : ZPok P) (hM : ZMP st P) {v : Nat} (hv : v < Znv P) : ∃ b : Int32, fX5_isEmpty st (nI v) = some b ∧ (b = 0 ∨ b = 1) ∧ (b = 1 ↔ Zem P (ZTm st) v) := by
  have hn10 := hP.1
  have e1 := (hM.2.2.1 v hv).1
  unfold Zem ZTm
  by_cases hk : Zkd P v = 3
  · have h3 : nI (Zkd P v) = (3 : Int32) := by rw [hk]; rfl
    rw [if_pos hk]
    by_cases g : st.2 35 v ≤ st.2 36 v
    · simp (disch := omega) only [fX5_isEmpty, ZMA, e1, h3, Option.bind_some, if_true, if_pos g]
      exact ⟨0, rfl, Or.inl rfl, fun h => absurd h (by decide), fun h => absurd (Int32.le_iff_toInt_le.mp g) (by omega)⟩
    · simp (disch := omega) only [fX5_isEmpty, ZMA, e1, h3, Option.bind_some, if_true, if_neg g]
      exact ⟨1, rfl, Or.inr rfl, fun _ => by rw [Int32.le_iff_toInt_le] at g; omega, fun _ => rfl⟩
  · have h3 : ¬ nI (Zkd P v) = (3 : Int32) := fun g => hk ((nI_eq (a := Zkd P v) (b := 3) (by have := hP.2.2.1 v hv; omega) (by omega)).mp g)
    rw [if_neg hk]
    by_cases g : st.2 34 v = 0
    · simp (disch := omega) only [fX5_isEmpty, ZMA, e1, if_neg h3, Option.bind_some, if_pos g]
      exact ⟨1, rfl, Or.inr rfl, fun _ => g, fun _ => rfl⟩
    · simp (disch := omega) only [fX5_isEmpty, ZMA, e1, if_neg h3, Option.bind_some, if_neg g]
      exact ⟨0, rfl, Or.inl rfl, fun h => absurd h (by decide), fun h => absurd h g⟩
theorem ZM_looks (hP : ZPok P) (hM : ZMP st P) {F : Prop} (h37 : (st.1 37 = 0 ∨ st.1 37 = 1)) (hF : st.1 37 = 1 ↔ F) (N : Nat) (hN : 1000 ≤ N) : ∃ z, fX5_looksForFailure N st = some z ∧ ZfM (fun f => f = 37) (fun _ => False) st z ∧ (z.1 37 = 0 ∨ z.1 37 = 1) ∧ (z.1 37 = 1 ↔ F ∨ Zfail P (ZTm st)) := by
  have hn10 := hP.1
  have L := Zl_inv (body := fX5_looksForFailure_L2) (fun v a => ∃ z, a = (z, nI v) ∧ ZfM (fun f => f = 37) (fun _ => False) st z ∧ (z.1 37 = 0 ∨ z.1 37 = 1) ∧ (z.1 37 = 1 ↔ F ∨ ∃ u, u < v ∧ Zem P (ZTm st) u)) (Znv P)
    (fun z => ZfM (fun f => f = 37) (fun _ => False) st z ∧ (z.1 37 = 0 ∨ z.1 37 = 1) ∧ (z.1 37 = 1 ↔ F ∨ Zfail P (ZTm st)))
    (by
      rintro v a hv ⟨z, rfl, fz, z01, z1⟩
      have Mz : ZMP z P := hM.fr fz (fun f q => by unfold ZMf; omega) (fun f q => absurd q (fun q => q))
      have Tz : ZTm z = ZTm st := by unfold ZTm; rw [fz.2 34 (fun q => q), fz.2 35 (fun q => q), fz.2 36 (fun q => q)]
      obtain ⟨b, eb, hb, hb1⟩ := ZM_isEmpty hP Mz hv
      rw [Tz] at hb1
      obtain ⟨o1, o2⟩ := Zor01 z01 hb
      simp only [fX5_looksForFailure_L2, Mz.1, if_neg (nI_ge hv (show Znv P < 2 ^ 31 by omega)), eb, Option.bind_some, zpsZ, if_pos o1, nI_1]
      refine ⟨_, rfl, _, rfl, fz.num rfl, ?_, ?_⟩
      · exact o1
      · show z.1 37 ||| b = 1 ↔ _
        rw [o2, z1, hb1]
        clear hb1 o2 z1
        constructor
        · rintro ((g | ⟨u, g1, g2⟩) | g)
          · exact Or.inl g
          · exact Or.inr ⟨u, by omega, g2⟩
          · exact Or.inr ⟨v, by omega, g⟩
        · rintro (g | ⟨u, g1, g2⟩)
          · exact Or.inl (Or.inl g)
          · by_cases e : u = v
            · subst e
              exact Or.inr g2
            · exact Or.inl (Or.inr ⟨u, by omega, g2⟩))
    (by
      rintro a ⟨z, rfl, fz, z01, z1⟩
      have Mz : ZMP z P := hM.fr fz (fun f q => by unfold ZMf; omega) (fun f q => absurd q (fun q => q))
      simp only [fX5_looksForFailure_L2, Mz.1, if_pos (nI_le (Nat.le_refl _) (show Znv P < 2 ^ 31 by omega))]
      exact ⟨_, rfl, fz, z01, z1⟩)
    N (st, (0 : Int32)) (by omega) ⟨st, rfl, ZfM.rfl, h37, by
      rw [hF]
      exact ⟨Or.inl, fun h => h.elim id fun ⟨u, g, _⟩ => absurd g (by omega)⟩⟩
  exact L
end MY
