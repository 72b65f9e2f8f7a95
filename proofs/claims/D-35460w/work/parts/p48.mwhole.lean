/-! M: a round, whole -/
set_option maxRecDepth 100000
theorem Znneg {k : Nat} (hk : k < 2 ^ 31) : ¬ nI k < (0 : Int32) := by
  rw [Int32.lt_iff_toInt_lt, nI_toInt hk, Int32.toInt_zero]
  omega
theorem Zct_n {b : Nat → Bool} {m n : Nat} (h : m ≤ n) : Zct b m ≤ Zct b n := by
  obtain ⟨j, rfl⟩ : ∃ j, n = m + j := ⟨n - m, by omega⟩
  clear h
  induction j with
  | zero => exact Nat.le_refl _
  | succ j ih => exact Nat.le_trans ih (by rw [← Nat.add_assoc]; simp only [Zct]; omega)
section MW
variable {st : zMS} {P : ZP}
theorem ZM_sups (hP : ZPok P) (hM : ZMP st P) (hT : ZTok P (ZTm st)) (N : Nat) (hN : 1000 ≤ N) : ∃ y, zloop (fX5_round_L4 N) N (st, (0 : Int32)) = some y ∧ ZfS st y ∧ ∀ c, c < Znc P → ZMs P (ZTm st) c y := by
  have hnc := hP.2.1
  have L := Zl_inv (body := fX5_round_L4 N) (fun c a => ∃ y, a = (y, nI c) ∧ ZfS st y ∧ ∀ c', c' < c → ZMs P (ZTm st) c' y) (Znc P) (fun y => ZfS st y ∧ ∀ c, c < Znc P → ZMs P (ZTm st) c y)
    (by
      rintro c a hc ⟨y, rfl, fy, hy⟩
      have My := fy.mp hM
      obtain ⟨z, ez, fz, oz, sz⟩ := ZM_all hP My hc (by rw [fy.tm]; exact hT) N hN
      rw [fy.tm] at sz
      simp only [fX5_round_L4, My.2.1, if_neg (nI_ge hc (show Znc P < 2 ^ 31 by omega)), ez, Option.bind_some, nI_1]
      refine ⟨_, rfl, z, rfl, fy.trans fz, fun c' hc' => ?_⟩
      by_cases q : c' = c
      · subst q
        exact sz
      · intro p hp hk k hk32 hD
        have m8 := (hP.2.2.2.2.2 c' (by omega)).2.1
        rw [oz _ (by omega)]
        exact hy c' (by omega) p hp hk k hk32 hD)
    (by
      rintro a ⟨y, rfl, fy, hy⟩
      simp only [fX5_round_L4, (fy.mp hM).2.1, if_pos (nI_le (Nat.le_refl _) (show Znc P < 2 ^ 31 by omega))]
      exact ⟨_, rfl, fy, hy⟩)
    N (st, (0 : Int32)) (by omega) ⟨st, rfl, ZfM.rfl, fun c' h => absurd h (by omega)⟩
  exact L
theorem ZM_removes {z : zMS} {l : List (Nat × Nat × Nat × Nat)} {v k c rd : Nat} (ht : ZTrM z l) (hl : l.length < 320) (hv : v < 10) (hk : k < 32) (hr : z.1 38 = nI rd) : ∃ w, fX5_removes z (nI v) (nI k) (nI c) = some w ∧ ZfR z w ∧ w.2 43 = z.2 43 ∧ w.2 44 = z.2 44 ∧ (∀ u, u ≠ v → w.2 42 u = z.2 42 u) ∧ w.2 42 v = z.2 42 v &&& ((1 <<< (nI k &&& 31)) ^^^ (-1)) ∧ w.2 41 = z.2 41 ∧ ZTrM w (l ++ [(rd + 1, v, k, c)]) := by
  simp (disch := omega) only [fX5_removes, ZMA, zps, Option.bind_some, ht.1, Zm4, nI_add, Zadd2, Zadd3, nI_1, hr]
  refine ⟨_, rfl, ?_, ?_, ?_, fun u hu => ?_, ?_, ?_, ?_⟩
  · exact ZfM.num (ZfM.arr (ZfM.arr (ZfM.arr (ZfM.arr (ZfM.arr ZfM.rfl (by omega)) (by omega)) (by omega)) (by omega)) (by omega)) rfl
  · simp only [zua_n (show 43 ≠ 40 by decide), zua_n (show 43 ≠ 42 by decide)]
  · simp only [zua_n (show 44 ≠ 40 by decide), zua_n (show 44 ≠ 42 by decide)]
  · simp only [zua_n (show 42 ≠ 40 by decide), zua_sn hu]
  · simp only [zua_n (show 42 ≠ 40 by decide), zua_ss]
  · simp only [zua_n (show 41 ≠ 40 by decide), zua_n (show 41 ≠ 42 by decide)]
  · refine ZTrM_app (e := (rd + 1, v, k, c)) ht (show zus z.1 39 (nI (l.length + 1)) 39 = nI (l.length + 1) from zus_s) ?_
    funext j
    simp only [zua, upd, if_true, if_neg (show ¬ 40 = 42 by decide)]
/-- the values of a set -/
theorem ZM_vals (hP : ZPok P) {T : ZT0} {v : Nat} (hv : v < Znv P) (hk : Zkd P v ≤ 2) {z : zMS} (hM : ZMP z P) (hTz : ZTm z = T) (hsup : ∀ c, c < Znc P → ZMs P T c z) (h42 : z.2 42 v = T.1 v) {l : List (Nat × Nat × Nat × Nat)} (ht : ZTrM z l) (hl : l.length + Zct (Zt (T.1 v)) 32 ≤ 320) {rd : Nat} (h38 : z.1 38 = nI rd) (q : zMS) (N : Nat) (hN : 1000 ≤ N) :
    ∃ w, zloop (fX5_round_L71 N (q, nI v)) N (z, (0 : Int32)) = some w ∧ ZfR z w ∧ w.2 43 = z.2 43 ∧ w.2 44 = z.2 44 ∧ w.2 41 = z.2 41 ∧ (∀ u, u ≠ v → w.2 42 u = z.2 42 u) ∧ w.2 42 v = Znx P T v ∧ ZTrM w (l ++ ZtrV T (Znx P T, T.2) (Zfcc P T) (rd + 1) v 32) := by
  have hn10 := hP.1
  have hnc := hP.2.1
  have hsub : ∀ k, k < 32 → Zt (Znx P T v) k = true → Zt (T.1 v) k = true := fun k hk32 g => ((Znx_t hk32).mp g).1
  have hlen : ∀ k, k ≤ 32 → (ZtrV T (Znx P T, T.2) (Zfcc P T) (rd + 1) v k).length ≤ Zct (Zt (T.1 v)) k := fun k hk32 => by
    have := ZtrV_len (T := T) (T' := (Znx P T, T.2)) (fc := Zfcc P T) (rd := rd + 1) (v := v) hsub k hk32
    omega
  have L := Zl_inv (body := fX5_round_L71 N (q, nI v)) (fun k a => ∃ w, a = (w, nI k) ∧ ZfR z w ∧ w.2 43 = z.2 43 ∧ w.2 44 = z.2 44 ∧ w.2 41 = z.2 41 ∧ (∀ u, u ≠ v → w.2 42 u = z.2 42 u) ∧ (∀ j, j < 32 → (Zt (w.2 42 v) j = true ↔ Zt (T.1 v) j = true ∧ (j < k → Zt (Znx P T v) j = true))) ∧ ZTrM w (l ++ ZtrV T (Znx P T, T.2) (Zfcc P T) (rd + 1) v k)) 32
    (fun w => ZfR z w ∧ w.2 43 = z.2 43 ∧ w.2 44 = z.2 44 ∧ w.2 41 = z.2 41 ∧ (∀ u, u ≠ v → w.2 42 u = z.2 42 u) ∧ w.2 42 v = Znx P T v ∧ ZTrM w (l ++ ZtrV T (Znx P T, T.2) (Zfcc P T) (rd + 1) v 32))
    (by
      rintro k a hk32 ⟨w, rfl, fw, w43, w44, w41, wu, wb, wt⟩
      have Mw := fw.mp hM
      have e1 := (Mw.2.2.1 v hv).1
      have e34 : w.2 34 v = T.1 v := by rw [fw.2 34 (by omega), ← hTz]; rfl
      have h32 : ¬ (32 : Int32) ≤ nI k := nI_ge (b := 32) hk32 (by decide)
      have h3 : ¬ nI (Zkd P v) = (3 : Int32) := fun g => absurd ((nI_eq (a := Zkd P v) (b := 3) (by omega) (by omega)).mp g) (by omega)
      by_cases hD : Zt (T.1 v) k = true
      · have hs : ∀ c, c < Znc P → ∀ p, p < Zmn P c → Zpl P c p = v → (Zt (w.2 41 (8 * c + p)) k = true ↔ Zsup P T c p k) := by
          intro c hc p hp hpv
          rw [w41]
          exact hsup c hc p hp (by rw [hpv]; exact hk) k hk32 (by unfold ZDm; rw [hpv]; exact hD)
        obtain ⟨r, er, hr⟩ := ZM_against hP Mw hv hk32 hs N hN
        rcases hr with ⟨rfl, hr⟩ | ⟨c, rfl, hr⟩
        · have hx : Zt (Znx P T v) k = true := (Znx_t hk32).mpr ⟨hD, hr⟩
          simp (disch := omega) only [fX5_round_L71, if_neg h32, ZMA, e1, Option.bind_some, if_neg h3, e34, ZhasBit_t hk32 hD, Zne10, if_false, er, if_pos (show (-1 : Int32) < 0 by decide), nI_1]
          refine ⟨_, rfl, w, rfl, fw, w43, w44, w41, wu, fun j hj => ?_, ?_⟩
          · rw [wb j hj]
            constructor
            · rintro ⟨g1, g2⟩
              refine ⟨g1, fun g => ?_⟩
              by_cases e : j = k
              · subst e
                exact hx
              · exact g2 (by omega)
            · rintro ⟨g1, g2⟩
              exact ⟨g1, fun g => g2 (by omega)⟩
          · simp only [ZtrV]
            rw [if_neg (by simp [hx]), List.append_nil]
            exact wt
        · have hx : ¬ Zt (Znx P T v) k = true := fun g => ((Znx_t hk32).mp g).2 c hr.1 hr.2.1
          have hc' := hr.1
          have hl2 : (l ++ ZtrV T (Znx P T, T.2) (Zfcc P T) (rd + 1) v k).length < 320 := by
            have g1 := hlen k (by omega)
            have g2 : Zct (Zt (T.1 v)) (k + 1) ≤ Zct (Zt (T.1 v)) 32 := Zct_n (by omega)
            have g3 : Zct (Zt (T.1 v)) (k + 1) = Zct (Zt (T.1 v)) k + 1 := by
              rw [Zct, if_pos hD]
            rw [List.length_append]
            omega
          obtain ⟨u, eu, fu, u43, u44, uu, uv, u41, ut⟩ := ZM_removes (v := v) (k := k) (c := c) (rd := rd) wt hl2 (by omega) hk32 (by rw [fw.1 38 (by omega)]; exact h38)
          simp (disch := omega) only [fX5_round_L71, if_neg h32, ZMA, e1, Option.bind_some, if_neg h3, e34, ZhasBit_t hk32 hD, Zne10, if_false, er, if_neg (Znneg (show c < 2 ^ 31 by omega)), eu, nI_1]
          refine ⟨_, rfl, u, rfl, fw.trans fu, u43.trans w43, u44.trans w44, u41.trans w41, fun j hj => (uu j hj).trans (wu j hj), fun j hj => ?_, ?_⟩
          · rw [uv, Zt_and, Zt_not, Zt_one hk32]
            by_cases e : j = k
            · subst e
              simp [hx]
            · have := wb j hj
              simp only [e, decide_false, Bool.not_false, Bool.and_true, hj, decide_true]
              rw [this]
              constructor
              · rintro ⟨g1, g2⟩
                exact ⟨g1, fun g => g2 (by omega)⟩
              · rintro ⟨g1, g2⟩
                exact ⟨g1, fun g => g2 (by omega)⟩
          · simp only [ZtrV]
            have hx' : Zt (Znx P T v) k = false := by simpa using hx
            rw [if_pos (by simp [hD, hx']), Zfcc_eq hr, ← List.append_assoc]
            exact ut
      · have hD' : Zt (T.1 v) k = false := by simpa using hD
        simp (disch := omega) only [fX5_round_L71, if_neg h32, ZMA, e1, Option.bind_some, if_neg h3, e34, ZhasBit_f hk32 hD, if_true, if_pos (show (-1 : Int32) < 0 by decide), nI_1]
        refine ⟨_, rfl, w, rfl, fw, w43, w44, w41, wu, fun j hj => ?_, ?_⟩
        · rw [wb j hj]
          constructor
          · rintro ⟨g1, g2⟩
            refine ⟨g1, fun g => ?_⟩
            by_cases e : j = k
            · subst e
              exact absurd g1 hD
            · exact g2 (by omega)
          · rintro ⟨g1, g2⟩
            exact ⟨g1, fun g => g2 (by omega)⟩
        · simp only [ZtrV]
          rw [if_neg (by simp [hD']), List.append_nil]
          exact wt)
    (by
      rintro a ⟨w, rfl, fw, w43, w44, w41, wu, wb, wt⟩
      simp only [fX5_round_L71, if_pos (nI_le (a := 32) (b := 32) (Nat.le_refl _) (by decide) : (32 : Int32) ≤ nI 32)]
      refine ⟨_, rfl, fw, w43, w44, w41, wu, Zt_ext fun j hj => ?_, wt⟩
      have := wb j hj
      rw [Bool.eq_iff_iff, this]
      exact ⟨fun g => g.2 hj, fun g => ⟨hsub j hj g, fun _ => g⟩⟩)
    N (z, (0 : Int32)) (by omega) ⟨z, rfl, ZfM.rfl, rfl, rfl, rfl, fun _ _ => rfl, fun j hj => by
      rw [h42]
      exact ⟨fun g => ⟨g, fun h => absurd h (by omega)⟩, fun g => g.1⟩, by
      simp only [ZtrV, List.append_nil]
      exact ht⟩
  obtain ⟨w, e, h⟩ := L
  exact ⟨w, e, h⟩
end MW
