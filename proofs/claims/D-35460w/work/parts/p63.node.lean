/-! what both choose at a node -/
set_option maxRecDepth 100000
section CM
variable {sh : Nat → Option Zsh} {xs : Zxs} {P : ZP} {E : Ze} {st : zMS}
theorem ZM_fixed {v : Nat} (hv : v < 10) (N : Nat) (hN : 1000 ≤ N) : fX5_isFixed N st (nI v) = some (if Zct (Zt (st.2 34 v)) 32 = 1 then 1 else 0) := by
  have hle := Zct_le (Zt (st.2 34 v)) 32
  simp (disch := omega) only [fX5_isFixed, ZMA, Option.bind_some, Zcount _ N hN]
  by_cases g : Zct (Zt (st.2 34 v)) 32 = 1
  · rw [if_pos (by rw [g]; rfl), if_pos g]
  · rw [if_neg (show ¬ nI (Zct (Zt (st.2 34 v)) 32) = (1 : Int32) from fun h => g ((nI_eq (b := 1) (by omega) (by omega)).mp h)), if_neg g]
theorem ZM_open (hP : ZPok P) (hM : ZMP st P) (N : Nat) (hN : 1000 ≤ N) : ∃ o, zloop (fX5_chosen_L5 N st) N ((0 : Int32), (0 : Int32)) = some o ∧ ∀ k, Zt o k = true ↔ k < Znv P ∧ Zopn P (ZTm st) k = true := by
  have hn := hP.1
  have I := Zl_inv (body := fX5_chosen_L5 N st) (fun v a => ∃ o, a = (o, nI v) ∧ ∀ k, Zt o k = true ↔ k < v ∧ Zopn P (ZTm st) k = true) (Znv P) (fun o => ∀ k, Zt o k = true ↔ k < Znv P ∧ Zopn P (ZTm st) k = true)
    (by
      rintro v a hv ⟨o, rfl, ho⟩
      have e1 := (hM.2.2.1 v hv).1
      have hf := ZM_fixed (st := st) (v := v) (by omega) N hN
      have k3 := hP.2.2.1 v hv
      by_cases hk : Zkd P v = 3
      · have h3 : nI (Zkd P v) = (3 : Int32) := by rw [hk]; rfl
        simp (disch := omega) only [fX5_chosen_L5, hM.1, if_neg (nI_ge hv (show Znv P < 2 ^ 31 by omega)), ZMA, e1, if_pos h3, Option.bind_some, Zesc_l, nI_1]
        refine ⟨_, rfl, _, rfl, fun k => ?_⟩
        rw [Zt_or0, ho k]
        constructor
        · rintro ⟨a, b⟩
          exact ⟨by omega, b⟩
        · rintro ⟨a, b⟩
          refine ⟨?_, b⟩
          rcases Nat.lt_or_ge k v with q | q
          · exact q
          · have : k = v := by omega
            subst this
            unfold Zopn at b
            simp [hk] at b
      · have h3 : ¬ nI (Zkd P v) = (3 : Int32) := fun g => hk ((nI_eq (b := 3) (by omega) (by omega)).mp g)
        by_cases hc : Zct (Zt (st.2 34 v)) 32 = 1
        · rw [if_pos hc] at hf
          simp (disch := omega) only [fX5_chosen_L5, hM.1, if_neg (nI_ge hv (show Znv P < 2 ^ 31 by omega)), ZMA, e1, if_neg h3, hf, Option.bind_some, Zne10, if_false, Zesc_l, nI_1]
          refine ⟨_, rfl, _, rfl, fun k => ?_⟩
          rw [Zt_or0, ho k]
          constructor
          · rintro ⟨a, b⟩
            exact ⟨by omega, b⟩
          · rintro ⟨a, b⟩
            refine ⟨?_, b⟩
            rcases Nat.lt_or_ge k v with q | q
            · exact q
            · have : k = v := by omega
              subst this
              exact absurd hc (Zopn_t b).2
        · rw [if_neg hc] at hf
          simp (disch := omega) only [fX5_chosen_L5, hM.1, if_neg (nI_ge hv (show Znv P < 2 ^ 31 by omega)), ZMA, e1, if_neg h3, hf, Option.bind_some, if_true, Zesc_r, nI_1]
          refine ⟨_, rfl, _, rfl, fun k => ?_⟩
          rw [Zt_put (by omega), ho k]
          constructor
          · rintro (⟨a, b⟩ | rfl)
            · exact ⟨by omega, b⟩
            · exact ⟨Nat.lt_succ_self _, Zopn_i hk hc⟩
          · rintro ⟨a, b⟩
            rcases Nat.lt_or_ge k v with q | q
            · exact Or.inl ⟨q, b⟩
            · exact Or.inr (by omega))
    (by
      rintro a ⟨o, rfl, ho⟩
      simp only [fX5_chosen_L5, hM.1, if_pos (nI_le (Nat.le_refl _) (show Znv P < 2 ^ 31 by omega))]
      exact ⟨_, rfl, ho⟩)
    N (0, 0) (by omega) ⟨0, rfl, fun k => by rw [Zt_0]; simp⟩
  exact I
theorem ZM_less {by' : Int32} {cn : Nat → Nat} (hcn : ∀ v, cn v = Zct (Zt (st.2 34 v)) 32) {o : Option Nat} {v : Nat} (hv : v < 10) (ho : ∀ b, o = some b → b < v) (N : Nat) (hN : 1000 ≤ N) :
    (zesc (if Zenc o < 0 then (some (.inl ())) else (zesc (if by' = (1 : Int32) then ((zal st 34 (nI v)).bind fun x19 =>
(fX5_count N x19).bind fun t20 =>
(zal st 34 (Zenc o)).bind fun x21 =>
(fX5_count N x21).bind fun t22 =>
if t22 ≤ t20 then (some (.inl ())) else (some (.inr (.inl ())))) else (some (.inl ()))) fun t17 =>
some (.inr (0 : Int32)))) fun t15 =>
some (1 : Int32)) = some (Zlq cn (by' = 1) o v) := by
  cases o with
  | none => rfl
  | some b =>
    have hb := ho b rfl
    have hne : ¬ nI b < (0 : Int32) := Znneg (by omega)
    have e : Zenc (some b) = nI b := rfl
    have k1 := Zct_le (Zt (st.2 34 v)) 32
    have k2 := Zct_le (Zt (st.2 34 b)) 32
    rw [e, if_neg hne]
    by_cases hb1 : by' = 1
    · rw [if_pos hb1, Zal (show zMl 34 = 10 from rfl) (by decide) hv, Option.bind_some, Zcount _ N hN, Option.bind_some, Zal (show zMl 34 = 10 from rfl) (by decide) (show b < 10 by omega), Option.bind_some, Zcount _ N hN, Option.bind_some]
      unfold Zlq
      by_cases g : Zct (Zt (st.2 34 v)) 32 < Zct (Zt (st.2 34 b)) 32
      · rw [if_neg (nI_ge g (by omega))]
        simp only [hcn, if_pos (And.intro hb1 g)]
        rfl
      · rw [if_pos (nI_le (Nat.not_lt.mp g) (by omega))]
        simp only [hcn, if_neg (fun q : by' = 1 ∧ Zct (Zt (st.2 34 v)) 32 < Zct (Zt (st.2 34 b)) 32 => g q.2)]
        rfl
    · rw [if_neg hb1]
      unfold Zlq
      simp only [if_neg (fun q : by' = 1 ∧ cn v < cn b => hb1 q.1)]
      rfl
theorem ZM_pick (hP : ZPok P) (hM : ZMP st P) {by' o : Int32} (N : Nat) (hN : 1000 ≤ N) : zloop (fX5_chosen_L71 N st by' o) N ((-1 : Int32), (0 : Int32)) = some (Zenc (Zpick (Zt o) (Zcnt (ZTm st)) (decide (by' = 1)) (Znv P))) := by
  have hn := hP.1
  obtain ⟨cn, hcn⟩ : ∃ cn, cn = Zcnt (ZTm st) := ⟨_, rfl⟩
  have hcn' : ∀ v, cn v = Zct (Zt (st.2 34 v)) 32 := fun v => by rw [hcn]; unfold Zcnt ZTm; rfl
  rw [← hcn]
  obtain ⟨r, e, rfl⟩ := Zl_inv (body := fX5_chosen_L71 N st by' o) (fun v a => a = (Zenc (Zpick (Zt o) cn (decide (by' = 1)) v), nI v)) (Znv P) (fun r => r = Zenc (Zpick (Zt o) cn (decide (by' = 1)) (Znv P)))
    (by
      rintro v a hv rfl
      have v10 : v < 10 := by omega
      have hb := ZhasBit (x := o) (k := v) (by omega)
      have hge := nI_ge hv (show Znv P < 2 ^ 31 by omega)
      have hls := ZM_less (st := st) (by' := by') hcn' v10 (o := Zpick (Zt o) cn (decide (by' = 1)) v) (fun b e => (Zpick_lt v b e).1) N hN
      have h01 := Zlq01 (cnt := cn) (sm := by' = 1) (o := Zpick (Zt o) cn (decide (by' = 1)) v) (v := v)
      rw [Zpick_s]
      simp only [fX5_chosen_L71, hM.1, if_neg hge]
      rw [hls, Option.bind_some, hb, Option.bind_some, nI_1]
      by_cases q : Zt o v = true
      · rcases h01 with g | g
        · rw [if_pos q, if_neg (show ¬ (1 : Int32) = 0 by decide), if_pos g, if_neg (fun h => absurd h.2 (by rw [g]; decide))]
          exact ⟨_, rfl, rfl⟩
        · rw [if_pos q, if_neg (show ¬ (1 : Int32) = 0 by decide), if_neg (show ¬ Zlq cn (by' = 1) (Zpick (Zt o) cn (decide (by' = 1)) v) v = 0 by rw [g]; decide), if_pos ⟨q, g⟩]
          exact ⟨_, rfl, rfl⟩
      · rw [if_neg q, if_pos rfl, if_neg (fun h => q h.1)]
        exact ⟨_, rfl, rfl⟩)
    (by
      rintro a rfl
      simp only [fX5_chosen_L71, hM.1, if_pos (nI_le (Nat.le_refl _) (show Znv P < 2 ^ 31 by omega))]
      exact ⟨_, rfl, rfl⟩)
    N (-1, 0) (by omega) rfl
  exact e
theorem ZM_chosen (hP : ZPok P) (hM : ZMP st P) {ah by' : Int32} (N : Nat) (hN : 1000 ≤ N) : fX5_chosen N st ah by' = some (Zenc (Zchs P (ZTm st) ah (decide (by' = 1)) (Znv P))) := by
  obtain ⟨o, e, ho⟩ := ZM_open hP hM N hN
  have hS1 : ∀ v, v < Znv P → Zt (o &&& ah) v = ZS1 P (ZTm st) ah v := by
    intro v hv
    rw [Bool.eq_iff_iff, Zt_and, Bool.and_eq_true, ho v]
    unfold ZS1
    rw [Bool.and_eq_true]
    exact ⟨fun h => ⟨h.1.2, h.2⟩, fun h => ⟨⟨hv, h.1⟩, h.2⟩⟩
  have hSO : ∀ v, v < Znv P → Zt o v = Zopn P (ZTm st) v := by
    intro v hv
    rw [Bool.eq_iff_iff, ho v]
    exact ⟨fun h => h.2, fun h => ⟨hv, h⟩⟩
  unfold fX5_chosen
  rw [e, Option.bind_some]
  unfold Zchs
  by_cases q : o &&& ah = 0
  · rw [if_pos q, Option.bind_some, ZM_pick hP hM N hN, Zpick_cg (Znv P) hSO (fun _ _ _ => rfl)]
    have hn : Zpick (ZS1 P (ZTm st) ah) (Zcnt (ZTm st)) (decide (by' = 1)) (Znv P) = none := (Zpick_none _).mpr fun v hv => by
      rw [← hS1 v hv, q, Zt_0]
    rw [hn]
    rfl
  · rw [if_neg q, Option.bind_some, ZM_pick hP hM N hN, Zpick_cg (Znv P) hS1 (fun _ _ _ => rfl)]
    cases c : Zpick (ZS1 P (ZTm st) ah) (Zcnt (ZTm st)) (decide (by' = 1)) (Znv P) with
    | some b => rfl
    | none =>
      exfalso
      refine q (Zt_eq0.mpr fun k hk => ?_)
      rcases Nat.lt_or_ge k (Znv P) with g | g
      · rw [hS1 k g]
        exact (Zpick_none _).mp c k g
      · refine Bool.eq_false_iff.mpr fun h => ?_
        rw [Zt_and, Bool.and_eq_true, ho k] at h
        omega
theorem Zchs_none {T : ZT0} {ah : Int32} {small : Bool} : Zchs P T ah small (Znv P) = none ↔ ∀ v, v < Znv P → Zopn P T v = false := by
  unfold Zchs
  cases c : Zpick (ZS1 P T ah) (Zcnt T) small (Znv P) with
  | some b =>
    have h := Zpick_lt _ _ c
    have h2 : Zopn P T b = true := by
      have := h.2
      unfold ZS1 at this
      rw [Bool.and_eq_true] at this
      exact this.1
    exact ⟨fun g => (by cases g), fun g => by rw [g b h.1] at h2; cases h2⟩
  | none => exact Zpick_none (Znv P)
theorem ZM_isSol (hP : ZPok P) (hM : ZMP st P) (h0 : st.1 37 = 0) (N : Nat) (hN : 1000 ≤ N) : ∃ b, fX5_isSolution N st = some b ∧ (b = 0 ∨ b = 1) ∧ (b = 1 ↔ ∀ v, v < Znv P → Zopn P (ZTm st) v = false) := by
  have hn := hP.1
  have I := Zl_inv (body := fX5_isSolution_L15 N st) (fun i a => ∃ b : Int32, a = (b, nI i) ∧ (b = 0 ∨ b = 1) ∧ (b = 1 ↔ ∀ v, v < i → Zopn P (ZTm st) v = false)) (Znv P) (fun b => (b = 0 ∨ b = 1) ∧ (b = 1 ↔ ∀ v, v < Znv P → Zopn P (ZTm st) v = false))
    (by
      rintro v a hv ⟨b, rfl, b01, hb⟩
      have e1 := (hM.2.2.1 v hv).1
      have v10 : v < 10 := by omega
      have hf := ZM_fixed (st := st) v10 N hN
      have k3 := hP.2.2.1 v hv
      have hge := nI_ge hv (show Znv P < 2 ^ 31 by omega)
      have rd : zal st 1 (nI v) = some (nI (Zkd P v)) := by rw [Zal (show zMl 1 = 10 from rfl) (by decide) v10, e1]
      have fin : ∀ t : Int32, (t = 0 ∨ t = 1) → (t = 1 ↔ Zopn P (ZTm st) v = false) → (b &&& t = 0 ∨ b &&& t = 1) ∧ (b &&& t = 1 ↔ ∀ u, u < v + 1 → Zopn P (ZTm st) u = false) := by
        intro t t01 ht
        have key : (∀ u, u < v + 1 → Zopn P (ZTm st) u = false) ↔ (∀ u, u < v → Zopn P (ZTm st) u = false) ∧ Zopn P (ZTm st) v = false := by
          constructor
          · intro h
            exact ⟨fun u hu => h u (by omega), h v (by omega)⟩
          · rintro ⟨h1, h2⟩ u hu
            rcases Nat.lt_or_ge u v with g | g
            · exact h1 u g
            · have : u = v := by omega
              rw [this]
              exact h2
        rw [key, ← hb, ← ht]
        rcases b01 with rfl | rfl <;> rcases t01 with rfl | rfl <;> decide
      by_cases hk : Zkd P v = 3
      · have h3 : nI (Zkd P v) = (3 : Int32) := by rw [hk]; rfl
        obtain ⟨f1, f2⟩ := fin 1 (Or.inr rfl) ⟨fun _ => by
          refine Bool.eq_false_iff.mpr fun h => (Zopn_t h).1 hk, fun _ => rfl⟩
        simp only [fX5_isSolution_L15, hM.1, if_neg hge, rd, Option.bind_some, if_pos h3, Zesc_l, nI_1]
        exact ⟨_, rfl, _, rfl, f1, f2⟩
      · have h3 : ¬ nI (Zkd P v) = (3 : Int32) := fun g => hk ((nI_eq (b := 3) (by omega) (by omega)).mp g)
        by_cases hc : Zct (Zt (st.2 34 v)) 32 = 1
        · rw [if_pos hc] at hf
          obtain ⟨f1, f2⟩ := fin 1 (Or.inr rfl) ⟨fun _ => by
            refine Bool.eq_false_iff.mpr fun h => (Zopn_t h).2 hc, fun _ => rfl⟩
          simp only [fX5_isSolution_L15, hM.1, if_neg hge, rd, Option.bind_some, if_neg h3, hf, Zne10, if_false, Zesc_l, nI_1]
          exact ⟨_, rfl, _, rfl, f1, f2⟩
        · rw [if_neg hc] at hf
          obtain ⟨f1, f2⟩ := fin 0 (Or.inl rfl) ⟨fun h => absurd h (by decide), fun h => by
            rw [Zopn_i (T := ZTm st) hk hc] at h
            cases h⟩
          simp only [fX5_isSolution_L15, hM.1, if_neg hge, rd, Option.bind_some, if_neg h3, hf, if_true, Zesc_r, nI_1]
          exact ⟨_, rfl, _, rfl, f1, f2⟩)
    (by
      rintro a ⟨b, rfl, b01, hb⟩
      simp only [fX5_isSolution_L15, hM.1, if_pos (nI_le (Nat.le_refl _) (show Znv P < 2 ^ 31 by omega)), Zzq b01, Option.bind_some]
      exact ⟨_, rfl, b01, hb⟩)
    N (1, 0) (by omega) ⟨1, rfl, Or.inr rfl, ⟨fun _ v h => absurd h (by omega), fun _ => rfl⟩⟩
  unfold fX5_isSolution
  rw [if_pos h0, Option.bind_some]
  exact I
/-- what both choose at a node that is not failed -/
theorem ZJ_ch {z : Zxs} {w : zMS} {L : ZL} (hR : ZPD E sh z w P L) (hnode : Znode P z w) (h0 : w.1 37 = 0) {ah by' : Int32} (N : Nat) (hN : 1000 ≤ N) :
    ∃ o, fX1_chosen N (ZW E sh z) (Zl E 1) (Zl E 36) ah by' = some (Zenc o) ∧ fX5_isSolution N w = some (if o = none then 1 else 0) ∧ fX5_chosen N w ah by' = some (Zenc o) ∧ ∀ v, o = some v → v < Znv P ∧ Zkd P v ≤ 2 ∧ z.2 37 v = w.2 34 v ∧ ¬ Zct (Zt (w.2 34 v)) 32 = 1 ∧ ∃ k, k < 32 ∧ Zt (w.2 34 v) k = true := by
  obtain ⟨hP, hr, hb, hX, hM, -⟩ := hR
  obtain ⟨-, -, hn⟩ := hnode
  obtain ⟨t1, t2, hs⟩ := hn h0
  have hc := ZX_chosen (E := E) (ah := ah) (by' := by') hP hX.1 hb.2.2.2.1 N hN
  have hm := ZM_chosen (st := w) (ah := ah) (by' := by') hP hM N hN
  obtain ⟨e1, e2⟩ := Zchs_sim (ah := ah) (small := decide (by' = 1)) hP hs
  rw [e1] at hc
  obtain ⟨b, eb, b01, hb1⟩ := ZM_isSol hP hM h0 N hN
  refine ⟨_, hc, ?_, hm, fun v hv => ?_⟩
  · rw [eb]
    refine congrArg some ?_
    by_cases q : Zchs P (ZTm w) ah (decide (by' = 1)) (Znv P) = none
    · rw [if_pos q]
      exact hb1.mpr (Zchs_none.mp q)
    · rw [if_neg q]
      exact b01.resolve_right fun g => q (Zchs_none.mpr (hb1.mp g))
  · obtain ⟨g1, g2⟩ := Zchs_lt hv
    obtain ⟨g3, g4⟩ := Zopn_t g2
    have k2 : Zkd P v ≤ 2 := by
      have := hP.2.2.1 v g1
      omega
    refine ⟨g1, k2, (hs v g1).1 k2, g4, ?_⟩
    exact Zt_ne0.mp ((t2 v g1).1 k2).1
end CM
