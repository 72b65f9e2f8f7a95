/-! X: a store is solved -/
set_option maxRecDepth 100000
def Zfail (P : ZP) (T : ZT0) : Prop := ∃ v, v < Znv P ∧ Zem P T v
/-- within the kinds, maybe empty -/
def ZTin (P : ZP) (T : ZT0) : Prop := ∀ v, v < Znv P → (Zkd P v ≤ 2 → ∀ k, Zt (T.1 v) k = true → k < Zvs (Zkd P v)) ∧ (Zkd P v = 3 → -120 ≤ (T.2.1 v).toInt ∧ (T.2.2 v).toInt ≤ 120)
theorem ZTok_of {P : ZP} {T : ZT0} (h : ZTin P T) (hf : ¬ Zfail P T) : ZTok P T := by
  intro v hv
  have hn : ¬ Zem P T v := fun g => hf ⟨v, hv, g⟩
  unfold Zem at hn
  refine ⟨fun hk => ⟨?_, (h v hv).1 hk⟩, fun hk => ?_⟩
  · rw [if_neg (by omega)] at hn
    exact hn
  · rw [if_pos hk] at hn
    obtain ⟨a, b⟩ := (h v hv).2 hk
    exact ⟨a, by omega, b⟩
/-- one round -/
def Zstep (P : ZP) (T T' : ZT0) : Prop := ZnS P T T' ∧ ZnR P T T' ∧ Zkp P T T'
/-- m rounds -/
def ZRn (P : ZP) (T0 : ZT0) : Nat → ZT0 → List (Nat × Nat × Nat × Nat) → Prop
  | 0, T, l => Zeq P T0 T ∧ l = []
  | m + 1, T, l => ∃ T1 l1 fc, ZRn P T0 m T1 l1 ∧ ¬ Zfail P T1 ∧ Zstep P T1 T ∧ Zchg P T1 T ∧ ZfcA P T1 T fc ∧ l = l1 ++ ZtrR P T1 T fc (m + 1) (Znv P)
/-- the store that is found -/
def ZEnd (P : ZP) (T0 : ZT0) (m : Nat) (T : ZT0) (l : List (Nat × Nat × Nat × Nat)) : Prop := (ZRn P T0 m T l ∧ Zfail P T) ∨ ∃ T1 T2, ZRn P T0 m T1 l ∧ ¬ Zfail P T1 ∧ Zstep P T1 T2 ∧ ¬ Zchg P T1 T2 ∧ Zeq P T2 T
/-- how much there is to be removed -/
def Zms (P : ZP) (T : ZT0) : Nat → Nat
  | 0 => 0
  | v + 1 => Zms P T v + (if Zkd P v = 3 then ((T.2.2 v).toInt - (T.2.1 v).toInt + 1).toNat else Zct (Zt (T.1 v)) 32)
theorem Zct_lt {b c : Nat → Bool} : ∀ n, (∀ k, k < n → b k = true → c k = true) → (∃ k, k < n ∧ c k = true ∧ b k = false) → Zct b n < Zct c n := by
  intro n
  induction n with
  | zero => rintro _ ⟨k, h, _⟩; omega
  | succ n ih =>
    rintro h ⟨k, hk, h1, h2⟩
    have h3 := h n (by omega)
    simp only [Zct]
    by_cases q : k = n
    · subst q
      rw [h1, h2]
      have := Zct_mono k fun j hj => h j (by omega)
      simp
      omega
    · have := ih (fun j hj => h j (by omega)) ⟨k, by omega, h1, h2⟩
      by_cases g : b n = true
      · rw [g, h3 g]
        simp
        omega
      · rw [if_neg g]
        omega
theorem Zstep_in {P : ZP} {T T' : ZT0} (h : Zstep P T T') (hT : ZTok P T) (hf : ¬ Zfail P T') : ZTok P T' := by
  obtain ⟨h1, h2, h3⟩ := h
  intro v hv
  have hn : ¬ Zem P T' v := fun g => hf ⟨v, hv, g⟩
  unfold Zem at hn
  refine ⟨fun hk => ?_, fun hk => ?_⟩
  · rw [if_neg (by omega)] at hn
    refine ⟨hn, fun k hkt => ?_⟩
    exact ((hT v hv).1 hk).2 k ((h1 v hv hk k (Zt_lt hkt)).mp hkt).1
  · rw [if_pos hk] at hn
    obtain ⟨a, b, c⟩ := (hT v hv).2 hk
    rcases h2 v hv hk with ⟨-, q1, q2, q3, -⟩ | ⟨-, q⟩
    · omega
    · omega
theorem Zms_step {P : ZP} {T T' : ZT0} (hP : ZPok P) (h : Zstep P T T') (hT : ZTok P T) : ∀ n, n ≤ Znv P → Zms P T' n ≤ Zms P T n ∧ ((∃ v, v < n ∧ (T.1 v ≠ T'.1 v ∨ T.2.1 v ≠ T'.2.1 v ∨ T.2.2 v ≠ T'.2.2 v)) → Zms P T' n < Zms P T n) := by
  obtain ⟨h1, h2, h3⟩ := h
  intro n
  induction n with
  | zero => exact fun _ => ⟨Nat.le_refl _, fun ⟨v, h, _⟩ => absurd h (by omega)⟩
  | succ n ih =>
    intro hn
    obtain ⟨i1, i2⟩ := ih (by omega)
    have one : (if Zkd P n = 3 then ((T'.2.2 n).toInt - (T'.2.1 n).toInt + 1).toNat else Zct (Zt (T'.1 n)) 32) ≤ (if Zkd P n = 3 then ((T.2.2 n).toInt - (T.2.1 n).toInt + 1).toNat else Zct (Zt (T.1 n)) 32) ∧ ((T.1 n ≠ T'.1 n ∨ T.2.1 n ≠ T'.2.1 n ∨ T.2.2 n ≠ T'.2.2 n) → (if Zkd P n = 3 then ((T'.2.2 n).toInt - (T'.2.1 n).toInt + 1).toNat else Zct (Zt (T'.1 n)) 32) < (if Zkd P n = 3 then ((T.2.2 n).toInt - (T.2.1 n).toInt + 1).toNat else Zct (Zt (T.1 n)) 32)) := by
      by_cases q : Zkd P n = 3
      · rw [if_pos q, if_pos q]
        obtain ⟨a, b, c⟩ := (hT n (by omega)).2 q
        have e1 := ((h3 n (by omega)).2 q).1
        rcases h2 n (by omega) q with ⟨-, q1, q2, q3, -⟩ | ⟨-, q1⟩
        · refine ⟨by omega, fun g => ?_⟩
          have g' : T.2.1 n ≠ T'.2.1 n ∨ T.2.2 n ≠ T'.2.2 n := g.resolve_left fun g => g e1.symm
          have : (T.2.1 n).toInt ≠ (T'.2.1 n).toInt ∨ (T.2.2 n).toInt ≠ (T'.2.2 n).toInt := g'.elim (fun g => Or.inl fun e => g (Int32.toInt_inj.mp e)) fun g => Or.inr fun e => g (Int32.toInt_inj.mp e)
          omega
        · exact ⟨by omega, fun _ => by omega⟩
      · rw [if_neg q, if_neg q]
        have hk : Zkd P n ≤ 2 := by have := hP.2.2.1 n (by omega); omega
        · have sub : ∀ k, k < 32 → Zt (T'.1 n) k = true → Zt (T.1 n) k = true := fun k hk32 g => ((h1 n (by omega) hk k hk32).mp g).1
          obtain ⟨e1, e2⟩ := (h3 n (by omega)).1 hk
          refine ⟨Zct_mono 32 sub, fun g => Zct_lt 32 sub ?_⟩
          have g' : T.1 n ≠ T'.1 n := by
            rcases g with g | g | g
            · exact g
            · exact absurd e1.symm g
            · exact absurd e2.symm g
          refine Classical.byContradiction fun no => g' (Zt_ext fun k hk32 => ?_)
          cases a : Zt (T.1 n) k <;> cases b : Zt (T'.1 n) k
          · rfl
          · rw [sub k hk32 b] at a
            cases a
          · exact absurd ⟨k, hk32, a, b⟩ no
          · rfl
    simp only [Zms]
    refine ⟨by omega, ?_⟩
    rintro ⟨v, hv, g⟩
    by_cases e : v = n
    · subst e
      have := one.2 g
      omega
    · have := i2 ⟨v, by omega, g⟩
      omega
theorem Zms_le {P : ZP} {T : ZT0} (hT : ZTin P T) : ∀ n, n ≤ Znv P → Zms P T n ≤ 241 * n := by
  intro n
  induction n with
  | zero => exact fun _ => Nat.le_refl _
  | succ n ih =>
    intro hn
    have := ih (by omega)
    simp only [Zms]
    by_cases q : Zkd P n = 3
    · rw [if_pos q]
      have := (hT n (by omega)).2 q
      omega
    · rw [if_neg q]
      have := Zct_le (Zt (T.1 n)) 32
      omega
theorem Zeq.trans {P : ZP} {A B C : ZT0} (h : Zeq P A B) (h' : Zeq P B C) : Zeq P A C := fun v hv => ⟨(h v hv).1.trans (h' v hv).1, (h v hv).2.1.trans (h' v hv).2.1, (h v hv).2.2.trans (h' v hv).2.2⟩
theorem Zeq.symm {P : ZP} {A B : ZT0} (h : Zeq P A B) : Zeq P B A := fun v hv => ⟨(h v hv).1.symm, (h v hv).2.1.symm, (h v hv).2.2.symm⟩
theorem Zeq.rfl {P : ZP} {A : ZT0} : Zeq P A A := fun _ _ => ⟨Eq.refl _, Eq.refl _, Eq.refl _⟩
theorem Zeq_of_nchg {P : ZP} {A B : ZT0} (h : ¬ Zchg P A B) : Zeq P A B := fun v hv => ⟨Classical.byContradiction fun g => h ⟨v, hv, Or.inl g⟩, Classical.byContradiction fun g => h ⟨v, hv, Or.inr (Or.inl g)⟩, Classical.byContradiction fun g => h ⟨v, hv, Or.inr (Or.inr g)⟩⟩
theorem Zem_eq {P : ZP} {A B : ZT0} (h : Zeq P A B) {v : Nat} (hv : v < Znv P) : Zem P A v ↔ Zem P B v := by
  unfold Zem
  rw [(h v hv).1, (h v hv).2.1, (h v hv).2.2]
theorem Zfail_eq {P : ZP} {A B : ZT0} (h : Zeq P A B) : Zfail P A ↔ Zfail P B := ⟨fun ⟨v, hv, g⟩ => ⟨v, hv, (Zem_eq h hv).mp g⟩, fun ⟨v, hv, g⟩ => ⟨v, hv, (Zem_eq h hv).mpr g⟩⟩
theorem Zbc_step {P : ZP} {T T' : ZT0} {fc : Nat → Nat → Nat} {rd : Nat} (hP : ZPok P) (h : Zstep P T T') : (ZtrR P T T' fc rd (Znv P)).length + Zbc P T' (Znv P) = Zbc P T (Znv P) := ZtrR_len (Znv P) fun v hv hk k hk32 g => ((h.1 v hv (by have := hP.2.2.1 v hv; omega) k hk32).mp g).1
section SV
variable {sh : Nat → Option Zsh} {xs : Zxs} {P : ZP} {E : Ze} {ts : Nat}
theorem ZX_solve (hP : ZPok P) (hb : Zbase E sh) (hX : ZXP sh xs P) (hts : ts = 28 ∨ ts = 36) (hin : ZTin P (ZTs xs ts)) {tr : Int32} (htr : tr = 0 ∨ tr = 1) (N : Nat) (hN : 5000 ≤ N) :
    ∃ z m l, fX1_solve N (ZW E sh xs) (Zl E 1) (Zl E ts) tr = some (ZW E sh z) ∧ Zfr (ZRA P ts) (ZRB P ts) xs z ∧ z.1 ts 4 = nI m ∧ m ≤ 2410 ∧ (z.1 ts 3 = 0 ∨ z.1 ts 3 = 1) ∧ (z.1 ts 3 = 1 ↔ Zfail P (ZTs z ts)) ∧ ZEnd P (ZTs xs ts) m (ZTs z ts) l ∧ (tr = 1 → ZTrc z l ∧ l.length ≤ 320) ∧ (tr = 0 → z.1 1 = xs.1 1 ∧ ∀ i, i < 4 → z.2 (32 + i) = xs.2 (32 + i)) ∧ (¬ Zfail P (ZTs z ts) → ZTok P (ZTs z ts)) := by
  have hn10 := hP.1
  have hS : ZS sh ts := by rcases hts with rfl | rfl; exact hb.2.2.1; exact hb.2.2.2.1
  have s1 := hS.1
  have A3 : ZRA P ts ts 3 := Or.inl ⟨rfl, Or.inl rfl⟩
  have A4 : ZRA P ts ts 4 := Or.inl ⟨rfl, Or.inr rfl⟩
  have A15 : ZRA P ts 1 15 := Or.inr (Or.inl ⟨rfl, rfl⟩)
  -- the start
  have hrm : ∃ q : Int32, (if tr = 0 then ((zgI [0] 15 (ZW E sh (zua xs.1 ts 4 0, xs.2)) (Zl E 1)).bind fun x20 => some x20) else (some (0 : Int32))) = some q ∧ (tr = 0 → q = xs.1 1 15) ∧ (tr = 1 → q = 0) := by
    rcases htr with h | h
    · rw [if_pos h]
      simp only [Zb0 hb.1, Option.bind_some]
      exact ⟨_, rfl, fun _ => (by rw [zua_n (by omega)]), fun g => (by rw [h] at g; cases g)⟩
    · rw [if_neg (by rw [h]; decide)]
      exact ⟨0, rfl, fun g => (by rw [h] at g; cases g), fun _ => rfl⟩
  obtain ⟨q, e1, q0, q1⟩ := hrm
  have f1 : Zfr (ZRA P ts) (ZRB P ts) xs (zua (zua xs.1 ts 4 0) 1 15 q, xs.2) := Zfr.num (Zfr.num Zfr.rfl A4) A15
  obtain ⟨y, b, e2, fy, y3, hb01, hb1⟩ := ZX_sees (E := E) hP (hX.fr hP hts f1).1 hS (by omega) N (by omega)
  replace hb1 : b = 1 ↔ Zfail P (ZTs xs ts) := hb1
  have fy' : Zfr (ZRA P ts) (ZRB P ts) xs y := f1.trans (fy.mono (fun t f ⟨a, c⟩ => Or.inl ⟨a, Or.inl c⟩) fun _ q => absurd q (fun q => q))
  have hTy : ZTs y ts = ZTs xs ts := by unfold ZTs; rw [fy.2 _ (fun q => q), fy.2 _ (fun q => q), fy.2 _ (fun q => q)]
  have y4 : y.1 ts 4 = nI 0 := by
    rw [fy.1 ts 4 (by omega)]
    simp only [zua_n (show ts ≠ 1 by omega), zua_ss]
    rfl
  have y1 : ∀ f, y.1 1 f = if f = 15 then q else xs.1 1 f := by
    intro f
    rw [fy.1 1 f (by omega)]
    simp only [zua_s, zua_n (show 1 ≠ ts by omega)]
  have ytr : ∀ i, i < 4 → y.2 (32 + i) = xs.2 (32 + i) := fun i _ => fy.2 _ (fun q => q)
  obtain ⟨M0, hM⟩ : ∃ M0, M0 = Zms P (ZTs xs ts) (Znv P) := ⟨_, rfl⟩
  have hM0 : M0 ≤ 2410 := by rw [hM]; exact Nat.le_trans (Zms_le hin (Znv P) (Nat.le_refl _)) (by omega)
  have L := Zl_ex (body := fX1_solve_L35 N (Zl E 1) (Zl E ts) tr) (fun m a => ∃ z g l, a = (ZW E sh z, g) ∧ Zfr (ZRA P ts) (ZRB P ts) xs z ∧ z.1 ts 4 = nI m ∧ m + Zms P (ZTs z ts) (Znv P) ≤ M0 ∧ ((g = 0 ∧ z.1 ts 3 = 1 ∧ Zfail P (ZTs z ts)) ∨ (g = 1 ∧ z.1 ts 3 = 0 ∧ ¬ Zfail P (ZTs z ts) ∧ ZTok P (ZTs z ts))) ∧ ZRn P (ZTs xs ts) m (ZTs z ts) l ∧ (tr = 1 → ZTrc z l) ∧ l.length + Zbc P (ZTs z ts) (Znv P) ≤ 320 ∧ (tr = 0 → z.1 1 = xs.1 1 ∧ ∀ i, i < 4 → z.2 (32 + i) = xs.2 (32 + i))) (M0 + 1)
    (fun r => ∃ z m l, r = ZW E sh z ∧ Zfr (ZRA P ts) (ZRB P ts) xs z ∧ z.1 ts 4 = nI m ∧ m ≤ 2410 ∧ (z.1 ts 3 = 0 ∨ z.1 ts 3 = 1) ∧ (z.1 ts 3 = 1 ↔ Zfail P (ZTs z ts)) ∧ ZEnd P (ZTs xs ts) m (ZTs z ts) l ∧ (tr = 1 → ZTrc z l ∧ l.length ≤ 320) ∧ (tr = 0 → z.1 1 = xs.1 1 ∧ ∀ i, i < 4 → z.2 (32 + i) = xs.2 (32 + i)) ∧ (¬ Zfail P (ZTs z ts) → ZTok P (ZTs z ts)))
    (by
      rintro m a hm ⟨z, g, l, rfl, fz, z4, hms, hg, hrun, hl1, hlen, hl0⟩
      rcases hg with ⟨rfl, z3, hfail⟩ | ⟨rfl, z3, hnf, hok⟩
      · simp only [fX1_solve_L35, if_true]
        exact Or.inr ⟨_, rfl, z, m, l, rfl, fz, z4, by omega, Or.inr z3, ⟨fun _ => hfail, fun _ => z3⟩, Or.inl ⟨hrun, hfail⟩, fun h => ⟨hl1 h, by omega⟩, hl0, fun h => absurd hfail h⟩
      · obtain ⟨w, c, fc, e3, fw, hc01, hnS, hnR, hkp, hc1, hfc, wts, w0, w1⟩ := ZX_make (l := l) (tr := tr) hP hb (hX.fr hP hts fz) hts hS hok z4 (htr.elim Or.inl fun h => Or.inr ⟨h, hl1 h, hlen⟩) N (by omega)
        have fzw := fz.trans fw
        rcases hc01 with hc0 | hc0
        · have nch : ¬ Zchg P (ZTs z ts) (ZTs w ts) := fun h => by rw [hc1.mpr h] at hc0; cases hc0
          have heq := Zeq_of_nchg nch
          simp only [fX1_solve_L35, Zne10, if_false, Zb0 hb.1, Option.bind_some, e3, if_pos hc0]
          have w3 : w.1 ts 3 = 0 := by rw [wts]; exact z3
          have hnf' : ¬ Zfail P (ZTs w ts) := fun h => hnf ((Zfail_eq heq).mpr h)
          refine Or.inr ⟨_, rfl, w, m, l, rfl, fzw, by rw [wts]; exact z4, by omega, Or.inl w3, ⟨fun h => (by rw [w3] at h; cases h), fun h => absurd h hnf'⟩, Or.inr ⟨_, _, hrun, hnf, ⟨hnS, hnR, hkp⟩, nch, Zeq.rfl⟩, fun h => ?_, fun h => ?_, fun _ => Zstep_in ⟨hnS, hnR, hkp⟩ hok hnf'⟩
          · have := w1 h
            have hz : ZtrR P (ZTs z ts) (ZTs w ts) fc (m + 1) (Znv P) = [] := by
              have q := Zbc_step (fc := fc) (rd := m + 1) hP ⟨hnS, hnR, hkp⟩
              rw [Zbc_congr (T := ZTs w ts) (T' := ZTs z ts) (Znv P) fun v hv => (heq v hv).1.symm] at q
              exact List.eq_nil_of_length_eq_zero (by omega)
            rw [hz, List.append_nil] at this
            exact ⟨this, by omega⟩
          · obtain ⟨k1, k2⟩ := w0 h
            obtain ⟨k3, k4⟩ := hl0 h
            exact ⟨k1.trans k3, fun i hi => (k2 i hi).trans (k4 i hi)⟩
        · have hne : ¬ c = 0 := by rw [hc0]; decide
          have ch := hc1.mp hc0
          have fw2 : Zfr (ZRA P ts) (ZRB P ts) xs (zua w.1 ts 4 (nI (m + 1)), w.2) := fzw.num A4
          obtain ⟨u, d, e4, fu, u3, hd01, hd1⟩ := ZX_sees (E := E) hP (hX.fr hP hts fw2).1 hS (by omega) N (by omega)
          have hTu : ZTs u ts = ZTs w ts := by unfold ZTs; rw [fu.2 _ (fun q => q), fu.2 _ (fun q => q), fu.2 _ (fun q => q)]
          have hd1' : d = 1 ↔ Zfail P (ZTs w ts) := hd1
          clear hd1
          have w4 : w.1 ts 4 = nI m := by rw [wts]; exact z4
          have fu' : Zfr (ZRA P ts) (ZRB P ts) xs u := fw2.trans (fu.mono (fun t f ⟨a, c⟩ => Or.inl ⟨a, Or.inl c⟩) fun _ q => absurd q (fun q => q))
          have u4 : u.1 ts 4 = nI (m + 1) := by rw [fu.1 ts 4 (by omega)]; exact zua_ss
          have u1 : u.1 1 = w.1 1 := funext fun f => by rw [fu.1 1 f (by omega)]; simp only [zua_n (show 1 ≠ ts by omega)]
          have u2 : ∀ i, i < 4 → u.2 (32 + i) = w.2 (32 + i) := fun i _ => fu.2 _ (fun q => q)
          have hms' := (Zms_step hP ⟨hnS, hnR, hkp⟩ hok (Znv P) (Nat.le_refl _)).2 ch
          have hbs := Zbc_step (fc := fc) (rd := m + 1) hP ⟨hnS, hnR, hkp⟩
          have hrun' : ZRn P (ZTs xs ts) (m + 1) (ZTs u ts) (l ++ ZtrR P (ZTs z ts) (ZTs w ts) fc (m + 1) (Znv P)) := by
            rw [hTu]
            exact ⟨_, l, fc, hrun, hnf, ⟨hnS, hnR, hkp⟩, ch, hfc, rfl⟩
          have hl1' : tr = 1 → ZTrc u (l ++ ZtrR P (ZTs z ts) (ZTs w ts) fc (m + 1) (Znv P)) := by
            intro h
            have := w1 h
            unfold ZTrc at this ⊢
            have g0 := u2 0 (by omega)
            have g1 := u2 1 (by omega)
            have g2 := u2 2 (by omega)
            have g3 := u2 3 (by omega)
            simp only [Nat.reduceAdd] at g0 g1 g2 g3
            rw [u1, g0, g1, g2, g3]
            exact this
          have hl0' : tr = 0 → u.1 1 = xs.1 1 ∧ ∀ i, i < 4 → u.2 (32 + i) = xs.2 (32 + i) := by
            intro h
            obtain ⟨k1, k2⟩ := w0 h
            obtain ⟨k3, k4⟩ := hl0 h
            exact ⟨u1.trans (k1.trans k3), fun i hi => (u2 i hi).trans ((k2 i hi).trans (k4 i hi))⟩
          have hlen' : (l ++ ZtrR P (ZTs z ts) (ZTs w ts) fc (m + 1) (Znv P)).length + Zbc P (ZTs u ts) (Znv P) ≤ 320 := by
            rw [List.length_append, hTu]
            omega
          rcases hd01 with hd0 | hd0
          · have hnf' : ¬ Zfail P (ZTs u ts) := by rw [hTu]; exact fun h => by rw [hd1'.mpr h] at hd0; cases hd0
            simp only [fX1_solve_L35, Zne10, if_false, Zb0 hb.1, Option.bind_some, e3, if_neg hne, Zb3 s1, w4, nI_1, e4, if_pos hd0]
            exact Or.inl ⟨_, rfl, u, 1, _, rfl, fu', u4, by rw [hTu]; omega, Or.inr ⟨rfl, by rw [u3]; exact hd0, hnf', by rw [hTu] at hnf' ⊢; exact Zstep_in ⟨hnS, hnR, hkp⟩ hok hnf'⟩, hrun', hl1', hlen', hl0'⟩
          · simp only [fX1_solve_L35, Zne10, if_false, Zb0 hb.1, Option.bind_some, e3, if_neg hne, Zb3 s1, w4, nI_1, e4, if_neg (show ¬ d = 0 by rw [hd0]; decide)]
            exact Or.inl ⟨_, rfl, u, 0, _, rfl, fu', u4, by rw [hTu]; omega, Or.inl ⟨rfl, by rw [u3]; exact hd0, by rw [hTu]; exact hd1'.mp hd0⟩, hrun', hl1', hlen', hl0'⟩)
    (by
      rintro a ⟨z, g, l, rfl, fz, z4, hms, -⟩
      omega)
    N (ZW E sh y, if b = 0 then 1 else 0) (by omega) ⟨y, _, [], rfl, fy', y4, by rw [hTy, hM]; exact Nat.le_of_eq (Nat.zero_add _), by
      have hb1' : b = 1 ↔ Zfail P (ZTs y ts) := by rw [hTy]; exact hb1
      rcases hb01 with h | h
      · have hnf : ¬ Zfail P (ZTs y ts) := fun g => by rw [hb1'.mpr g] at h; cases h
        rw [if_pos h]
        exact Or.inr ⟨rfl, by rw [y3]; exact h, hnf, ZTok_of (by rw [hTy]; exact hin) hnf⟩
      · rw [if_neg (by rw [h]; decide)]
        exact Or.inl ⟨rfl, by rw [y3]; exact h, hb1'.mp h⟩, ⟨by rw [hTy]; exact Zeq.rfl, rfl⟩, fun h => by
      unfold ZTrc
      rw [y1 15, if_pos rfl, q1 h]
      exact ⟨rfl, fun i e he => by simp at he⟩, by
      have := Zbc_le (P := P) (T := ZTs y ts) (Znv P)
      simp
      omega, fun h => ⟨funext fun f => by
      rw [y1 f]
      split
      · rename_i g
        rw [g]
        exact q0 h
      · rfl, ytr⟩⟩
  obtain ⟨r, e3, z, m, l, rfl, h⟩ := L
  refine ⟨z, m, l, ?_, h⟩
  have hite : (if b = 0 then some (1 : Int32) else some 0) = some (if b = 0 then 1 else 0) := by split <;> rfl
  simp only [fX1_solve, Zb3 s1, Option.bind_some] at e1 ⊢
  rw [e1]
  simp only [Option.bind_some, Zb0 hb.1, e2, hite]
  exact e3
end SV
