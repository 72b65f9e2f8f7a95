/-! reason and failure, of both -/
set_option maxRecDepth 100000
def ZqA (P : ZP) (t f : Nat) : Prop := ZSA P t f ∨ ZRA P 36 t f
def ZqB (P : ZP) (u : Nat) : Prop := ZRB P 28 u ∨ ZRB P 36 u
section RE
variable {sh : Nat → Option Zsh} {xs : Zxs} {P : ZP} {E : Ze} {st : zMS} {L : ZL}
theorem Zfr_q1 {x y : Zxs} (h : Zfr (ZSA P) (ZRB P 28) x y) : Zfr (ZqA P) (ZqB P) x y := h.mono (fun _ _ q => Or.inl q) fun _ q => Or.inl q
theorem Zfr_q2 {x y : Zxs} (h : Zfr (ZRA P 36) (ZRB P 36) x y) : Zfr (ZqA P) (ZqB P) x y := h.mono (fun _ _ q => Or.inr q) fun _ q => Or.inr q
theorem ZC_reason (hR : ZPD E sh xs st P L) (x y : Int32) (N : Nat) (hN : 5000 ≤ N) : ∃ z w, Zjo [3, 1, 2] (ZW E sh z) w (fX1_reason N (ZW E sh xs) (Zl E 1) x y) (fX5_reason N st x y) ∧ Zfr (ZqA P) (ZqB P) xs z ∧ ZfK st w ∧ ZPD E sh z w P L := by
  have hR0 := hR
  obtain ⟨hP, hr, hb, hX, hM, hl, hd, hL, hk, h32⟩ := hR
  have hn := hP.1
  rcases Zint_cases x (show Znv P < 2 ^ 31 by omega) with ⟨v, hv, rfl⟩ | ⟨hx, -⟩
  · by_cases hy : Zisv P v y
    · have ex := ZX_cv (E := E) hP hb hX hv hy
      have em := (ZM_isv hP hM hv y).1 hy
      obtain ⟨hk2, k, hk3, rfl⟩ := hy
      have vk := Zvs_le (k := Zkd P v)
      have k32 : k < 32 := by omega
      obtain ⟨z, w, e1, e2, f1, f2, hR', zst, wst⟩ := Zboth (hR0.thr (x := 0)) N hN
      obtain ⟨m, l, x4, y4, hm, xtr, ytr, hl', hs, e3, q01, -⟩ := ZXM_st hP zst wst
      obtain ⟨s1, s2, s3, s4⟩ := hb.2.2.1
      have ev : z.2 29 v = w.2 34 v := (hs v hv).1 hk2
      by_cases hbit : Zt (w.2 34 v) k = true
      · have eh : fX1_has (w.2 34 v) (nI k) = some 1 := by rw [Zhas k32, if_pos hbit]
        refine ⟨z, (zus w.1 68 3, w.2), Or.inr ⟨2, 2, 0, rfl, ?_, ?_, ?_⟩, Zfr_q1 f1, ZfK.thr (ZfM.trans (ZfK.thr (x := 0) ZfM.rfl) f2.k), hR'.thr⟩
        · simp (disch := omega) only [fX1_reason, Zb0 hb.1, Option.bind_some, ex, Zthr_r, e1, Zb3 s1, ZbI s2, ev, eh, Zne10, if_false, fX1_checkState, if_true, Zthr_l]
        · simp (disch := omega) only [fX5_reason, ZM_var hP hM hv, Option.bind_some, Zne10, if_false, em, zps, zus_s, if_pos (show (0 : Int32) ≤ 0 by decide), e2, ZMA, ZhasBit_t k32 hbit, if_neg (show ¬ (3 : Int32) ≤ 0 by decide)]
        · simp only [zus_s]
          rfl
      · have eh : fX1_has (w.2 34 v) (nI k) = some 0 := by rw [Zhas k32, if_neg hbit]
        obtain ⟨z', w', s, g1, g2, -, g3, g4, g5⟩ := ZJ_reasonOf (hR'.thr (x := 0)) (Or.inr ⟨v, k, hv, hk2, k32, rfl, rfl, rfl, rfl⟩) N hN
        have w68 : w'.1 68 = 0 := by
          rw [g4.1 68 (by omega)]
          simp only [zus_s]
        refine ⟨z', w', Or.inl ⟨s, ?_, ?_, w68⟩, (Zfr_q1 f1).trans (Zfr_q2 g3), (ZfK.thr (ZfM.trans (ZfK.thr (x := 0) ZfM.rfl) f2.k)).trans g4.k, g5⟩
        · simp (disch := omega) only [fX1_reason, Zb0 hb.1, Option.bind_some, ex, Zthr_r, e1, Zb3 s1, ZbI s2, ev, eh, if_true, fX1_checkState, Zne10, if_false, g1]
        · simp (disch := omega) only [fX5_reason, ZM_var hP hM hv, Option.bind_some, Zne10, if_false, em, zps, zus_s, if_pos (show (0 : Int32) ≤ 0 by decide), e2, ZMA, ZhasBit_f k32 hbit, if_true, g2]
    · refine ⟨xs, (zus st.1 68 2, st.2), Or.inr ⟨1, 1, 0, rfl, ?_, ?_, ?_⟩, Zfr.rfl, ZfK.thr ZfM.rfl, hR0.thr⟩
      · simp only [fX1_reason, Zb0 hb.1, Option.bind_some, ZX_cv_x hP hb hX hv hy, Zthr_l]
      · simp only [fX5_reason, ZM_var hP hM hv, Option.bind_some, Zne10, if_false, (ZM_isv hP hM hv y).2 hy, if_true, zps, zus_s, if_neg (show ¬ (2 : Int32) ≤ 0 by decide)]
      · simp only [zus_s]
        rfl
  · refine ⟨xs, (zus st.1 68 1, st.2), Or.inr ⟨0, 3, 0, rfl, ?_, ?_, ?_⟩, Zfr.rfl, ZfK.thr ZfM.rfl, hR0.thr⟩
    · simp only [fX1_reason, Zb0 hb.1, Option.bind_some, ZX_cv_v hb hX hx, Zthr_l]
    · simp only [fX5_reason, ZM_var_x hP hM hx, Option.bind_some, if_true, zps, zus_s, if_neg (show ¬ (1 : Int32) ≤ 0 by decide)]
    · simp only [zus_s]
      rfl
theorem ZC_failure (hR : ZPD E sh xs st P L) (N : Nat) (hN : 5000 ≤ N) : ∃ z w, Zjo [2] (ZW E sh z) w (fX1_failure N (ZW E sh xs) (Zl E 1)) (fX5_failure N st) ∧ Zfr (ZqA P) (ZqB P) xs z ∧ ZfK st w ∧ ZPD E sh z w P L := by
  have hb := hR.2.2.1
  obtain ⟨z, w, e1, e2, f1, f2, hR', zst, wst⟩ := Zboth hR N hN
  obtain ⟨m, l, x4, y4, hm, xtr, ytr, hl', hs, e3, q01, -⟩ := ZXM_st hR.1 zst wst
  obtain ⟨s1, s2, s3, s4⟩ := hb.2.2.1
  rcases q01 with q | q
  · refine ⟨z, (zus w.1 68 1, w.2), Or.inr ⟨0, 2, 0, rfl, ?_, ?_, ?_⟩, Zfr_q1 f1, f2.k.thr, hR'.thr⟩
    · simp only [fX1_failure, Zb0 hb.1, Option.bind_some, e1, Zb3 s1, e3, q, fX1_checkState, if_true, Zthr_l]
    · simp only [fX5_failure, e2, Option.bind_some, q, if_true, zps, zus_s, if_neg (show ¬ (1 : Int32) ≤ 0 by decide)]
    · simp only [zus_s]
      rfl
  · obtain ⟨z', w', s, g1, g2, -, g3, g4, g5⟩ := ZJ_reasonOf (hR'.thr (x := 0)) (Or.inl ⟨rfl, rfl, rfl, rfl⟩) N hN
    have w68 : w'.1 68 = 0 := by
      rw [g4.1 68 (by omega)]
      simp only [zus_s]
    refine ⟨z', w', Or.inl ⟨s, ?_, ?_, w68⟩, (Zfr_q1 f1).trans (Zfr_q2 g3), f2.k.thr.trans g4.k, g5⟩
    · simp only [fX1_failure, Zb0 hb.1, Option.bind_some, e1, Zb3 s1, e3, q, fX1_checkState, Zne10, if_false, Zthr_r, g1]
    · simp only [fX5_failure, e2, Option.bind_some, q, Zne10, if_false, zps, zus_s, if_pos (show (0 : Int32) ≤ 0 by decide), g2]
end RE
