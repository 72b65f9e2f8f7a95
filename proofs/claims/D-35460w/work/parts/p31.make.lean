/-! X: a round: trace, take over -/
set_option maxRecDepth 100000
theorem ZTk_ns {P : ZP} {T : ZT0} {x : Zxs} (h : ZTk P T (Znc P) 0 x) : ZnS P T (x.2 40, x.2 41, x.2 42) ∧ ZnR P T (x.2 40, x.2 41, x.2 42) ∧ ∀ v, v < Znv P → Zkd P v ≤ 2 → ∀ k, k < 32 → Zt (T.1 v) k = true → ¬ Zt (x.2 40 v) k = true → ∃ c, x.2 (44 + v) k = nI c ∧ Zfc P T v k c := by
  obtain ⟨h1, h2, h3, h4⟩ := h
  have e : ∀ v k, ZRm P T (Znc P) 0 v k ↔ ∃ c, c < Znc P ∧ Zag P T c v k := by
    intro v k
    constructor
    · rintro (g | ⟨p, g, -⟩)
      · exact g
      · omega
    · exact Or.inl
  refine ⟨fun v hv hk k hk32 => ?_, fun v hv hk => ?_, fun v hv hk k hk32 hD hn => ?_⟩
  · rw [h1 v hv hk k hk32, e]
    exact ⟨fun ⟨g1, g2⟩ => ⟨g1, fun c hc g => g2 ⟨c, hc, g⟩⟩, fun ⟨g1, g2⟩ => ⟨g1, fun ⟨c, hc, g⟩ => g2 c hc g⟩⟩
  · obtain ⟨g0, g1, g2, g3⟩ := h4 v hv hk
    have er : ∀ z, ZrAp P T (Znc P) 0 v z ↔ ZrA P T v z := fun z => ⟨fun a c hc hs p hp hv => a.1 c hc hs p hp hv, fun a => ⟨fun c hc hs p hp hv => a c hc hs p hp hv, fun _ p hp => absurd hp (by omega)⟩⟩
    simp only [er] at g3
    by_cases q : ∃ z : Int, (T.2.1 v).toInt ≤ z ∧ z ≤ (T.2.2 v).toInt ∧ ZrA P T v z
    · refine Or.inl ⟨q, g1, ?_, g2.1, g3⟩
      obtain ⟨z, z1, z2, z3⟩ := q
      have := (g3 z z1 z2).mp z3
      show (x.2 41 v).toInt ≤ (x.2 42 v).toInt
      omega
    · refine Or.inr ⟨fun z z1 z2 z3 => q ⟨z, z1, z2, z3⟩, ?_⟩
      show (x.2 42 v).toInt < (x.2 41 v).toInt
      rcases Int.lt_or_le (x.2 42 v).toInt (x.2 41 v).toInt with g | g
      · exact g
      · exact absurd ((g3 (x.2 41 v).toInt g1 (by omega)).mpr ⟨Int.le_refl _, g⟩) fun h => q ⟨_, g1, by omega, h⟩
  · have hR : ZRm P T (Znc P) 0 v k := Classical.byContradiction fun g => hn ((h1 v hv hk k hk32).mpr ⟨hD, g⟩)
    obtain ⟨c, q1, q2, q3⟩ := h2 v hv hk k hk32 hD hR
    rcases q2 with ⟨q2, q4⟩ | ⟨-, p, q2, -⟩
    · exact ⟨c, q1, q2, q4, q3⟩
    · omega
/-- what a round tells of a variable; of all -/
def ZtrV (T T' : ZT0) (fc : Nat → Nat → Nat) (rd v : Nat) : Nat → List (Nat × Nat × Nat × Nat)
  | 0 => []
  | k + 1 => ZtrV T T' fc rd v k ++ (if Zt (T.1 v) k && !Zt (T'.1 v) k then [(rd, v, k, fc v k)] else [])
def ZtrR (P : ZP) (T T' : ZT0) (fc : Nat → Nat → Nat) (rd : Nat) : Nat → List (Nat × Nat × Nat × Nat)
  | 0 => []
  | v + 1 => ZtrR P T T' fc rd v ++ (if Zkd P v = 3 then [] else ZtrV T T' fc rd v 32)
/-- X's trace is a list -/
def ZTrc (y : Zxs) (l : List (Nat × Nat × Nat × Nat)) : Prop := y.1 1 15 = nI l.length ∧ ∀ (i : Nat) (e : Nat × Nat × Nat × Nat), l[i]? = some e → y.2 32 i = nI e.1 ∧ y.2 33 i = nI e.2.1 ∧ y.2 34 i = nI e.2.2.1 ∧ y.2 35 i = nI e.2.2.2
/-- how many values there are -/
def Zbc (P : ZP) (T : ZT0) : Nat → Nat
  | 0 => 0
  | v + 1 => Zbc P T v + (if Zkd P v = 3 then 0 else Zct (Zt (T.1 v)) 32)
theorem ZtrV_len {T T' : ZT0} {fc : Nat → Nat → Nat} {rd v : Nat} (h : ∀ k, k < 32 → Zt (T'.1 v) k = true → Zt (T.1 v) k = true) : ∀ n, n ≤ 32 → (ZtrV T T' fc rd v n).length + Zct (Zt (T'.1 v)) n = Zct (Zt (T.1 v)) n := by
  intro n
  induction n with
  | zero => intro _; rfl
  | succ n ih =>
    intro hn
    have h1 := ih (by omega)
    have h2 := h n (by omega)
    simp only [ZtrV, Zct, List.length_append]
    cases e : Zt (T.1 v) n <;> cases e' : Zt (T'.1 v) n
    · simp; omega
    · rw [e, e'] at h2
      exact absurd (h2 rfl) (by decide)
    · simp; omega
    · simp; omega
theorem ZtrR_len {P : ZP} {T T' : ZT0} {fc : Nat → Nat → Nat} {rd : Nat} : ∀ n, (∀ v, v < n → Zkd P v ≠ 3 → ∀ k, k < 32 → Zt (T'.1 v) k = true → Zt (T.1 v) k = true) → (ZtrR P T T' fc rd n).length + Zbc P T' n = Zbc P T n := by
  intro n
  induction n with
  | zero => intro _; rfl
  | succ n ih =>
    intro h
    have h1 := ih fun v hv => h v (by omega)
    simp only [ZtrR, Zbc, List.length_append]
    by_cases q : Zkd P n = 3
    · rw [if_pos q, if_pos q, if_pos q]
      simp
      omega
    · rw [if_neg q, if_neg q, if_neg q]
      have := ZtrV_len (fc := fc) (rd := rd) (h n (by omega) q) 32 (by omega)
      omega
theorem Zbc_le {P : ZP} {T : ZT0} : ∀ n, Zbc P T n ≤ 32 * n := by
  intro n
  induction n with
  | zero => exact Nat.le_refl _
  | succ n ih =>
    simp only [Zbc]
    have := Zct_le (Zt (T.1 n)) 32
    split <;> omega
theorem Zbc_congr {P : ZP} {T T' : ZT0} : ∀ n, (∀ v, v < n → T.1 v = T'.1 v) → Zbc P T n = Zbc P T' n := by
  intro n
  induction n with
  | zero => intro _; rfl
  | succ n ih =>
    intro h
    simp only [Zbc]
    rw [ih fun v hv => h v (by omega), h n (by omega)]
theorem ZtrV_congr {T T' U U' : ZT0} {fc fc' : Nat → Nat → Nat} {rd v : Nat} (h1 : ∀ k, k < 32 → Zt (T.1 v) k = Zt (U.1 v) k) (h2 : ∀ k, k < 32 → Zt (T'.1 v) k = Zt (U'.1 v) k) (h3 : ∀ k, k < 32 → Zt (T.1 v) k = true → ¬ Zt (T'.1 v) k = true → fc v k = fc' v k) : ∀ n, n ≤ 32 → ZtrV T T' fc rd v n = ZtrV U U' fc' rd v n := by
  intro n
  induction n with
  | zero => intro _; rfl
  | succ n ih =>
    intro hn
    simp only [ZtrV]
    rw [ih (by omega), ← h1 n (by omega), ← h2 n (by omega)]
    cases e : Zt (T.1 v) n <;> cases e' : Zt (T'.1 v) n
    · rfl
    · rfl
    · simp only [Bool.not_false, Bool.and_self, if_true]
      rw [h3 n (by omega) e (by rw [e']; decide)]
    · rfl
theorem ZtrR_congr {P : ZP} {T T' U U' : ZT0} {fc fc' : Nat → Nat → Nat} {rd : Nat} : ∀ n, (∀ v, v < n → Zkd P v ≠ 3 → (∀ k, k < 32 → Zt (T.1 v) k = Zt (U.1 v) k) ∧ (∀ k, k < 32 → Zt (T'.1 v) k = Zt (U'.1 v) k) ∧ ∀ k, k < 32 → Zt (T.1 v) k = true → ¬ Zt (T'.1 v) k = true → fc v k = fc' v k) → ZtrR P T T' fc rd n = ZtrR P U U' fc' rd n := by
  intro n
  induction n with
  | zero => intro _; rfl
  | succ n ih =>
    intro h
    simp only [ZtrR]
    rw [ih fun v hv => h v (by omega)]
    by_cases q : Zkd P n = 3
    · rw [if_pos q, if_pos q]
    · obtain ⟨a, b, c⟩ := h n (by omega) q
      rw [if_neg q, if_neg q, ZtrV_congr a b c 32 (Nat.le_refl _)]
theorem ZTrc_app {y z : Zxs} {l : List (Nat × Nat × Nat × Nat)} {e : Nat × Nat × Nat × Nat} (h : ZTrc y l) (h1 : z.1 1 15 = nI (l.length + 1)) (h2 : z.2 32 = upd (y.2 32) l.length (nI e.1)) (h3 : z.2 33 = upd (y.2 33) l.length (nI e.2.1)) (h4 : z.2 34 = upd (y.2 34) l.length (nI e.2.2.1)) (h5 : z.2 35 = upd (y.2 35) l.length (nI e.2.2.2)) : ZTrc z (l ++ [e]) := by
  refine ⟨by rw [h1, List.length_append]; rfl, fun i e' he => ?_⟩
  rw [h2, h3, h4, h5]
  simp only [upd]
  rcases Nat.lt_trichotomy i l.length with g | g | g
  · rw [List.getElem?_append_left g] at he
    have hn : i ≠ l.length := by omega
    rw [if_neg hn, if_neg hn, if_neg hn, if_neg hn]
    exact h.2 i e' he
  · subst g
    rw [List.getElem?_append_right (Nat.le_refl _), Nat.sub_self] at he
    cases Option.some.inj he
    simp
  · rw [List.getElem?_eq_none (by rw [List.length_append]; simp; omega)] at he
    cases he
theorem ZTrc.fr {A : Nat → Nat → Prop} {B : Nat → Prop} {y z : Zxs} {l : List (Nat × Nat × Nat × Nat)} (h : ZTrc y l) (hf : Zfr A B y z) (hA : ¬ A 1 15) (hB : ∀ i, i < 4 → ¬ B (32 + i)) : ZTrc z l := by
  have e0 := hf.2 32 (hB 0 (by omega))
  have e1 := hf.2 33 (hB 1 (by omega))
  have e2 := hf.2 34 (hB 2 (by omega))
  have e3 := hf.2 35 (hB 3 (by omega))
  unfold ZTrc
  rw [hf.1 _ _ hA, e0, e1, e2, e3]
  exact h
section RD
variable {sh : Nat → Option Zsh} {xs : Zxs} {P : ZP} {E : Ze} {ts : Nat}
/-- a variable's removals are told -/
theorem ZX_trace (hb : Zbase E sh) {y : Zxs} {l : List (Nat × Nat × Nat × Nat)} (hl : ZTrc y l) {T T' : ZT0} {fc : Nat → Nat → Nat} {v rd : Nat} (hv : v < 10) (hrem : ∀ k, k < 32 → Zt (T.1 v) k = true → ¬ Zt (T'.1 v) k = true → y.2 (44 + v) k = nI (fc v k)) {rs : Int32} (hrs : ∀ k, k < 32 → (Zt rs k = true ↔ Zt (T.1 v) k = true ∧ ¬ Zt (T'.1 v) k = true)) (hlen : l.length + (ZtrV T T' fc rd v 32).length ≤ 320) (N : Nat) (hN : 1000 ≤ N) :
    ∃ z, fX1_trace N (ZW E sh y) (Zl E 1) (nI v) rs (nI rd) = some (ZW E sh z) ∧ Zfr (fun t f => t = 1 ∧ f = 15) (fun u => 32 ≤ u ∧ u < 36) y z ∧ ZTrc z (l ++ ZtrV T T' fc rd v 32) := by
  obtain ⟨b1, b2, b3, b4, b5, b6, b7, b8, b9, b10, b11⟩ := hb
  have a0 := b7 0 (by omega)
  have a1 := b7 1 (by omega)
  have a2 := b7 2 (by omega)
  have a3 := b7 3 (by omega)
  simp only [Nat.reduceAdd] at a0 a1 a2 a3
  have a44 := b10 v hv
  have zr : ∀ x : Zxs, zaR (ZW E sh x) (Zl E 43) (nI v) = some (Zl E (44 + v)) := fun x => ZbR b9 (by omega) (by omega) hv rfl E x
  have mono : ∀ k, k ≤ 32 → (ZtrV T T' fc rd v k).length ≤ (ZtrV T T' fc rd v 32).length := by
    have st : ∀ k, (ZtrV T T' fc rd v k).length ≤ (ZtrV T T' fc rd v (k + 1)).length := fun k => by simp only [ZtrV, List.length_append]; omega
    intro k hk
    obtain ⟨j, hj⟩ : ∃ j, 32 = k + j := ⟨32 - k, by omega⟩
    rw [hj]
    clear hj hk
    induction j with
    | zero => exact Nat.le_refl _
    | succ j ih => exact Nat.le_trans ih (st (k + j))
  have L := Zl_inv (body := fX1_trace_L3 (Zl E 1) (nI v) rs (nI rd)) (fun k a => ∃ z, a = (ZW E sh z, nI k) ∧ Zfr (fun t f => t = 1 ∧ f = 15) (fun u => 32 ≤ u ∧ u < 36) y z ∧ ZTrc z (l ++ ZtrV T T' fc rd v k)) 32
    (fun r => ∃ z, r = ZW E sh z ∧ Zfr (fun t f => t = 1 ∧ f = 15) (fun u => 32 ≤ u ∧ u < 36) y z ∧ ZTrc z (l ++ ZtrV T T' fc rd v 32))
    (by
      rintro k a hk ⟨z, rfl, hz, hlz⟩
      have h32 : ¬ (32 : Int32) ≤ nI k := nI_ge (b := 32) hk (by decide)
      by_cases q : Zt rs k = true
      · obtain ⟨q1, q2⟩ := (hrs k hk).mp q
        have hlt : (l ++ ZtrV T T' fc rd v k).length < 320 := by
          have h1 := mono (k + 1) hk
          have h2 : (ZtrV T T' fc rd v (k + 1)).length = (ZtrV T T' fc rd v k).length + 1 := by
            have : Zt (T'.1 v) k = false := by simpa using q2
            simp [ZtrV, q1, this]
          rw [List.length_append]
          omega
        have hn := hlz.1
        have e44 : z.2 (44 + v) k = nI (fc v k) := by rw [hz.2 (44 + v) (by omega)]; exact hrem k hk q1 q2
        simp (disch := omega) only [fX1_trace_L3, if_neg h32, Zhas_t hk q, Zne10, if_false, Option.bind_some, Zb0 b1, hn, ZbI a0, ZbI a1, ZbI a2, ZbI a3, zr, ZbI a44, zua_n, e44, nI_1]
        refine ⟨_, rfl, _, rfl, Zfr.num (Zfr.arr (Zfr.arr (Zfr.arr (Zfr.arr hz (by omega)) (by omega)) (by omega)) (by omega)) ⟨rfl, rfl⟩, ?_⟩
        have e : ZtrV T T' fc rd v (k + 1) = ZtrV T T' fc rd v k ++ [(rd, v, k, fc v k)] := by
          have : Zt (T'.1 v) k = false := by simpa using q2
          simp [ZtrV, q1, this]
        rw [e, ← List.append_assoc]
        refine ZTrc_app hlz (by simp only [zua_ss]) ?_ ?_ ?_ ?_
        · funext j
          simp only [zua_n (show 32 ≠ 35 by decide), zua_n (show 32 ≠ 34 by decide), zua_n (show 32 ≠ 33 by decide), zua_s, upd]
        · funext j
          simp only [zua_n (show 33 ≠ 35 by decide), zua_n (show 33 ≠ 34 by decide), zua_s, zua_n (show 33 ≠ 32 by decide), upd]
        · funext j
          simp only [zua_n (show 34 ≠ 35 by decide), zua_s, zua_n (show 34 ≠ 33 by decide), zua_n (show 34 ≠ 32 by decide), upd]
        · funext j
          simp only [zua_s, zua_n (show 35 ≠ 34 by decide), zua_n (show 35 ≠ 33 by decide), zua_n (show 35 ≠ 32 by decide), upd]
      · simp (disch := omega) only [fX1_trace_L3, if_neg h32, Zhas_f hk q, if_true, Option.bind_some, nI_1]
        refine ⟨_, rfl, z, rfl, hz, ?_⟩
        have e : ZtrV T T' fc rd v (k + 1) = ZtrV T T' fc rd v k := by
          have h1 : (Zt (T.1 v) k && !Zt (T'.1 v) k) = false := by
            cases e1 : Zt (T.1 v) k <;> cases e2 : Zt (T'.1 v) k <;> first | rfl | exact absurd ((hrs k hk).mpr ⟨e1, by rw [e2]; decide⟩) q
          simp [ZtrV, h1]
        rw [e]
        exact hlz)
    (by
      rintro a ⟨z, rfl, hz, hlz⟩
      simp only [fX1_trace_L3, if_pos (show (32 : Int32) ≤ nI 32 by decide)]
      exact ⟨_, rfl, z, rfl, hz, hlz⟩)
    N (ZW E sh y, 0) (by omega) ⟨y, rfl, Zfr.rfl, by simpa [ZtrV] using hl⟩
  obtain ⟨r, e, z, rfl, h⟩ := L
  exact ⟨z, e, h⟩
end RD
