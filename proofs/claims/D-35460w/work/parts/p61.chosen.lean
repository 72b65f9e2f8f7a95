/-! the variable that is chosen, of both -/
set_option maxRecDepth 100000
/-- it is not fixed -/
def Zopn (P : ZP) (T : ZT0) (v : Nat) : Bool := decide (Zkd P v ≠ 3) && decide (Zct (Zt (T.1 v)) 32 ≠ 1)
theorem Zopn_f {P : ZP} {T : ZT0} {v : Nat} (h : Zopn P T v = false) (hk : ¬ Zkd P v = 3) : Zct (Zt (T.1 v)) 32 = 1 := by
  generalize hz : Zct (Zt (T.1 v)) 32 = z
  unfold Zopn at h
  rw [hz] at h
  simpa [hk] using h
theorem Zopn_t {P : ZP} {T : ZT0} {v : Nat} (h : Zopn P T v = true) : ¬ Zkd P v = 3 ∧ ¬ Zct (Zt (T.1 v)) 32 = 1 := by
  generalize hz : Zct (Zt (T.1 v)) 32 = z
  unfold Zopn at h
  rw [hz] at h
  simpa using h
theorem Zopn_i {P : ZP} {T : ZT0} {v : Nat} (hk : ¬ Zkd P v = 3) (hc : ¬ Zct (Zt (T.1 v)) 32 = 1) : Zopn P T v = true := by
  generalize hz : Zct (Zt (T.1 v)) 32 = z at hc
  unfold Zopn
  rw [hz]
  simp [hk, hc]
/-- the first of some; or the first of those with the fewest values -/
def Zpick (S : Nat → Bool) (cnt : Nat → Nat) (small : Bool) : Nat → Option Nat
  | 0 => none
  | v + 1 => match Zpick S cnt small v with
    | none => if S v = true then some v else none
    | some b => if S v = true ∧ small = true ∧ cnt v < cnt b then some v else some b
def Zenc : Option Nat → Int32
  | none => -1
  | some v => nI v
def Zor2 : Option Nat → Option Nat → Option Nat
  | some a, _ => some a
  | none, b => b
def ZS1 (P : ZP) (T : ZT0) (ah : Int32) (v : Nat) : Bool := Zopn P T v && Zt ah v
def Zcnt (T : ZT0) (v : Nat) : Nat := Zct (Zt (T.1 v)) 32
def Zchs (P : ZP) (T : ZT0) (ah : Int32) (small : Bool) (n : Nat) : Option Nat := Zor2 (Zpick (ZS1 P T ah) (Zcnt T) small n) (Zpick (Zopn P T) (Zcnt T) small n)
theorem Zpick_lt {S : Nat → Bool} {cnt : Nat → Nat} {small : Bool} : ∀ n b, Zpick S cnt small n = some b → b < n ∧ S b = true := by
  intro n
  induction n with
  | zero => intro b h; cases h
  | succ n ih =>
    intro b h
    simp only [Zpick] at h
    cases e : Zpick S cnt small n with
    | none =>
      rw [e] at h
      simp only at h
      split at h
      · rename_i g
        cases h
        exact ⟨by omega, g⟩
      · cases h
    | some a =>
      rw [e] at h
      simp only at h
      have := ih a e
      split at h
      · rename_i g
        cases h
        exact ⟨by omega, g.1⟩
      · cases h
        exact ⟨by omega, this.2⟩
theorem Zpick_none {S : Nat → Bool} {cnt : Nat → Nat} {small : Bool} : ∀ n, Zpick S cnt small n = none ↔ ∀ v, v < n → S v = false := by
  intro n
  induction n with
  | zero => exact ⟨fun _ v h => absurd h (by omega), fun _ => rfl⟩
  | succ n ih =>
    simp only [Zpick]
    cases e : Zpick S cnt small n with
    | none =>
      have h := ih.mp e
      simp only
      constructor
      · intro g v hv
        split at g
        · cases g
        · rename_i q
          by_cases z : v = n
          · subst z
            simpa using q
          · exact h v (by omega)
      · intro g
        rw [if_neg (by rw [g n (by omega)]; decide)]
    | some a =>
      simp only
      constructor
      · intro g
        split at g <;> cases g
      · intro g
        have := Zpick_lt n a e
        rw [g a (by omega)] at this
        cases this.2
theorem Zfix (x : Int32) : fX1_isFixed x = some (if Zct (Zt x) 32 = 1 then 1 else 0) := by
  simp only [fX1_isFixed, ZbitCount, Option.bind_some]
  have hle := Zct_le (Zt x) 32
  by_cases g : Zct (Zt x) 32 = 1
  · rw [if_pos (by rw [g]; rfl), if_pos g]
  · rw [if_neg (show ¬ nI (Zct (Zt x) 32) = (1 : Int32) from fun h => g ((nI_eq (b := 1) (by omega) (by omega)).mp h)), if_neg g]
theorem Zfix_t {x : Int32} (h : Zct (Zt x) 32 = 1) : fX1_isFixed x = some 1 := by rw [Zfix, if_pos h]
theorem Zfix_f {x : Int32} (h : ¬ Zct (Zt x) 32 = 1) : fX1_isFixed x = some 0 := by rw [Zfix, if_neg h]
theorem Zenc_m1 {o : Option Nat} (h : ∀ v, o = some v → v < 1000) : Zenc o = -1 ↔ o = none := by
  cases o with
  | none => exact ⟨fun _ => rfl, fun _ => rfl⟩
  | some v => exact ⟨fun g => absurd g (ZnI_ne (h v rfl)), fun g => by cases g⟩
theorem Zchs_lt {P : ZP} {T : ZT0} {ah : Int32} {small : Bool} {n v : Nat} (h : Zchs P T ah small n = some v) : v < n ∧ Zopn P T v = true := by
  unfold Zchs at h
  cases e : Zpick (ZS1 P T ah) (Zcnt T) small n with
  | none =>
    rw [e] at h
    exact Zpick_lt n v h
  | some a =>
    rw [e] at h
    cases h
    have := Zpick_lt n _ e
    refine ⟨this.1, ?_⟩
    have q := this.2
    unfold ZS1 at q
    simp only [Bool.and_eq_true] at q
    exact q.1
/-- whether a variable is less than the best one up to now -/
def Zlq (cnt : Nat → Nat) (sm : Prop) [Decidable sm] (o : Option Nat) (v : Nat) : Int32 := match o with
  | none => 1
  | some b => if sm ∧ cnt v < cnt b then 1 else 0
theorem Zpick_s {S : Nat → Bool} {cnt : Nat → Nat} {sm : Prop} [Decidable sm] {v : Nat} : Zpick S cnt (decide sm) (v + 1) = if S v = true ∧ Zlq cnt sm (Zpick S cnt (decide sm) v) v = 1 then some v else Zpick S cnt (decide sm) v := by
  simp only [Zpick]
  cases Zpick S cnt (decide sm) v with
  | none =>
    by_cases h : S v = true <;> simp [h, Zlq]
  | some b =>
    by_cases h : S v = true <;> by_cases q : sm <;> by_cases g : cnt v < cnt b <;> simp [h, q, g, Zlq]
theorem Zlq01 {cnt : Nat → Nat} {sm : Prop} [Decidable sm] {o : Option Nat} {v : Nat} : Zlq cnt sm o v = 0 ∨ Zlq cnt sm o v = 1 := by
  unfold Zlq
  cases o with
  | none => exact Or.inr rfl
  | some b =>
    simp only
    split
    · exact Or.inr rfl
    · exact Or.inl rfl
theorem Zpick_cg {S S' : Nat → Bool} {cnt cnt' : Nat → Nat} {small : Bool} : ∀ n, (∀ v, v < n → S v = S' v) → (∀ v, v < n → S v = true → cnt v = cnt' v) → Zpick S cnt small n = Zpick S' cnt' small n := by
  intro n
  induction n with
  | zero => intro _ _; rfl
  | succ n ih =>
    intro h1 h2
    have e := ih (fun v hv => h1 v (by omega)) (fun v hv => h2 v (by omega))
    simp only [Zpick]
    rw [← e, ← h1 n (by omega)]
    cases q : Zpick S cnt small n with
    | none => rfl
    | some b =>
      have hb := Zpick_lt n b q
      simp only
      by_cases g : S n = true
      · rw [← h2 n (by omega) g, ← h2 b (by omega) hb.2]
      · simp [g]
theorem Zchs_sim {P : ZP} {T U : ZT0} {ah : Int32} {small : Bool} (hP : ZPok P) (h : Zsim P T U) : Zchs P T ah small (Znv P) = Zchs P U ah small (Znv P) ∧ ∀ v, v < Znv P → Zopn P T v = Zopn P U v := by
  have h1 : ∀ v, v < Znv P → Zkd P v ≠ 3 → T.1 v = U.1 v := fun v hv q => (h v hv).1 (by have := hP.2.2.1 v hv; omega)
  have ho : ∀ v, v < Znv P → Zopn P T v = Zopn P U v := by
    intro v hv
    unfold Zopn
    by_cases q : Zkd P v = 3
    · simp [q]
    · rw [h1 v hv q]
  have hc : ∀ v, v < Znv P → Zopn P T v = true → Zcnt T v = Zcnt U v := by
    intro v hv q
    unfold Zcnt
    rw [h1 v hv fun g => by unfold Zopn at q; simp [g] at q]
  refine ⟨?_, ho⟩
  unfold Zchs
  rw [Zpick_cg (Znv P) ho hc, Zpick_cg (S := ZS1 P T ah) (S' := ZS1 P U ah) (Znv P) (fun v hv => by unfold ZS1; rw [ho v hv]) (fun v hv q => hc v hv (by unfold ZS1 at q; simp at q; exact q.1))]
theorem Zcnt_ts {xs : Zxs} {ts v : Nat} : Zcnt (ZTs xs ts) v = Zct (Zt (xs.2 (ts + 1) v)) 32 := by unfold Zcnt ZTs; rfl
/-- X's way to see whether a variable is less than the best one -/
theorem ZX_less {sh : Nat → Option Zsh} {xs : Zxs} {E : Ze} {t : Nat} (s2 : sh t = some (Zia 0 10)) {by' : Int32} {cn : Nat → Nat} (hcn : ∀ v, cn v = Zct (Zt (xs.2 t v)) 32) {o : Option Nat} {v : Nat} (hv : v < 10) (ho : ∀ b, o = some b → b < v) :
    (zesc (if Zenc o = (-1 : Int32) then (some (.inl ())) else (zesc (if by' = (1 : Int32) then ((fJ18_bitCount (xs.2 t v)).bind fun t26 =>
            (zaI (ZW E sh xs) (Zl E t) (Zenc o)).bind fun x28 =>
            (fJ18_bitCount x28).bind fun t29 =>
            if t29 ≤ t26 then (some (.inl ())) else (some (.inr (.inl ())))) else (some (.inl ()))) fun t22 =>
            some (.inr (0 : Int32)))) fun t20 =>
            some (1 : Int32)) = some (Zlq cn (by' = 1) o v) := by
  cases o with
  | none => rfl
  | some b =>
    have hb := ho b rfl
    have hne : ¬ nI b = (-1 : Int32) := ZnI_ne (by omega)
    have e : Zenc (some b) = nI b := rfl
    have k1 := Zct_le (Zt (xs.2 t v)) 32
    have k2 := Zct_le (Zt (xs.2 t b)) 32
    rw [e, if_neg hne]
    by_cases hb1 : by' = 1
    · rw [if_pos hb1, (ZbI s2 (by omega)).1 E xs b (by omega), ZbitCount, Option.bind_some, Option.bind_some, ZbitCount, Option.bind_some]
      unfold Zlq
      by_cases g : Zct (Zt (xs.2 t v)) 32 < Zct (Zt (xs.2 t b)) 32
      · rw [if_neg (nI_ge g (by omega))]
        simp only [hcn, if_pos (And.intro hb1 g)]
        rfl
      · rw [if_pos (nI_le (Nat.not_lt.mp g) (by omega))]
        simp only [hcn, if_neg (fun q : by' = 1 ∧ Zct (Zt (xs.2 t v)) 32 < Zct (Zt (xs.2 t b)) 32 => g q.2)]
        rfl
    · rw [if_neg hb1]
      unfold Zlq
      simp only [if_neg (fun q : by' = 1 ∧ cn v < cn b => hb1 q.1)]
      rfl
section CH
variable {sh : Nat → Option Zsh} {xs : Zxs} {P : ZP} {E : Ze} {st : zMS} {ts : Nat}
theorem ZX_chosen (hP : ZPok P) (hX : ZXv sh xs P) (hS : ZS sh ts) {ah by' : Int32} (N : Nat) (hN : 1000 ≤ N) : fX1_chosen N (ZW E sh xs) (Zl E 1) (Zl E ts) ah by' = some (Zenc (Zchs P (ZTs xs ts) ah (decide (by' = 1)) (Znv P))) := by
  have hn := hP.1
  obtain ⟨n1, n2, n3⟩ := ZxNv hX E
  obtain ⟨s1, s2, s3, s4⟩ := hS
  obtain ⟨S1, hS1⟩ : ∃ S1, S1 = ZS1 P (ZTs xs ts) ah := ⟨_, rfl⟩
  obtain ⟨SO, hSO⟩ : ∃ SO, SO = Zopn P (ZTs xs ts) := ⟨_, rfl⟩
  obtain ⟨cn, hcn⟩ : ∃ cn, cn = Zcnt (ZTs xs ts) := ⟨_, rfl⟩
  have L := Zl_inv (body := fX1_chosen_L9 (ZW E sh xs) (Zl E 1) (Zl E ts) ah by') (fun v a => ∃ f : Int32, a = (Zenc (Zor2 (Zpick S1 cn (decide (by' = 1)) v) (Zpick SO cn (decide (by' = 1)) v)), f, nI v) ∧ (f = if (Zpick S1 cn (decide (by' = 1)) v).isSome = true then 1 else 0)) (Znv P)
    (fun r => r = Zenc (Zor2 (Zpick S1 cn (decide (by' = 1)) (Znv P)) (Zpick SO cn (decide (by' = 1)) (Znv P))))
    (by
      rintro v a hv ⟨f, rfl, hf⟩
      have hrat := ZxRat hX hP hv E
      have v10 : v < 10 := by omega
      have v32 : v < 32 := by omega
      have hge := nI_ge hv (show Znv P < 2 ^ 31 by omega)
      have rd := (ZbI s2 (by omega)).1 E xs v v10
      have ets : (ZTs xs ts).1 v = xs.2 (ts + 1) v := rfl
      by_cases ho : SO v = true
      · obtain ⟨hk, hc⟩ := Zopn_t (hSO ▸ ho)
        rw [ets] at hc
        rw [if_neg hk] at hrat
        have hS1v : S1 v = Zt ah v := by
          rw [hSO] at ho
          rw [hS1]
          unfold ZS1
          rw [ho, Bool.true_and]
        have hbl : ∀ b, Zor2 (Zpick S1 cn (decide (by' = 1)) v) (Zpick SO cn (decide (by' = 1)) v) = some b → b < v := by
          intro b hb
          cases e : Zpick S1 cn (decide (by' = 1)) v with
          | none =>
            rw [e] at hb
            simp only [Zor2] at hb
            exact (Zpick_lt v b hb).1
          | some c =>
            rw [e] at hb
            simp only [Zor2, Option.some.injEq] at hb
            subst hb
            exact (Zpick_lt v _ e).1
        have hls := ZX_less (xs := xs) (E := E) (by' := by') s2 (cn := cn) (fun v => hcn ▸ Zcnt_ts) v10 hbl
        obtain ⟨A, hA⟩ : ∃ A : Int32, A = if Zt ah v = true then 1 else 0 := ⟨_, rfl⟩
        have hA' : fX1_has ah (nI v) = some A := by rw [Zhas v32, hA]
        have fin : fX1_chosen_L9 (ZW E sh xs) (Zl E 1) (Zl E ts) ah by' (Zenc (Zor2 (Zpick S1 cn (decide (by' = 1)) v) (Zpick SO cn (decide (by' = 1)) v)), f, nI v) = ((if (if A = f then Zlq cn (by' = 1) (Zor2 (Zpick S1 cn (decide (by' = 1)) v) (Zpick SO cn (decide (by' = 1)) v)) v else A) = 0 then some (Zenc (Zor2 (Zpick S1 cn (decide (by' = 1)) v) (Zpick SO cn (decide (by' = 1)) v))) else some (nI v)).bind fun t16 => some (.inl (t16, f ||| A, nI (v + 1)))) := by
          simp only [fX1_chosen_L9, n1, n2, n3, Option.bind_some, if_neg hge, Zb0 hX.1, hrat, if_true, Zb3 s1]
          rw [rd, Option.bind_some, Zfix_f hc, Option.bind_some, if_pos rfl, hA', Option.bind_some, Option.bind_some, hls, Option.bind_some, nI_1]
          by_cases q : A = f
          · rw [if_pos q, if_pos q, Option.bind_some]
            split <;> rfl
          · rw [if_neg q, if_neg q, Option.bind_some]
            split <;> rfl
        rw [fin]
        have h01 := Zlq01 (cnt := cn) (sm := by' = 1) (o := Zor2 (Zpick S1 cn (decide (by' = 1)) v) (Zpick SO cn (decide (by' = 1)) v)) (v := v)
        have n01 : ¬ (0 : Int32) = 1 := by decide
        rw [Zpick_s, Zpick_s, hS1v, ho]
        cases e1 : Zpick S1 cn (decide (by' = 1)) v with
        | none =>
          rw [e1] at hf h01
          simp only [Option.isSome_none, Bool.false_eq_true, if_false] at hf
          subst hf
          by_cases q : Zt ah v = true
          · rw [if_pos q] at hA
            subst hA
            simp only [Zne10, if_false, Option.bind_some, q, Zlq, and_self, if_true]
            exact ⟨_, rfl, _, rfl, rfl⟩
          · rw [if_neg q] at hA
            subst hA
            simp only [if_true, q, false_and, if_false, true_and]
            rcases h01 with g | g
            · simp only [Zor2] at g ⊢
              simp only [g, if_true, Option.bind_some, n01, if_false]
              exact ⟨_, rfl, _, rfl, rfl⟩
            · simp only [Zor2] at g ⊢
              simp only [g, if_true, Option.bind_some, Zne10, if_false]
              exact ⟨_, rfl, _, rfl, rfl⟩
        | some b =>
          rw [e1] at hf h01
          simp only [Option.isSome_some, if_true] at hf
          subst hf
          by_cases q : Zt ah v = true
          · rw [if_pos q] at hA
            subst hA
            simp only [if_true, q, true_and]
            rcases h01 with g | g
            · simp only [Zor2] at g ⊢
              simp only [g, if_true, Option.bind_some, n01, if_false]
              exact ⟨_, rfl, _, rfl, rfl⟩
            · simp only [Zor2] at g ⊢
              simp only [g, if_true, Option.bind_some, Zne10, if_false]
              exact ⟨_, rfl, _, rfl, rfl⟩
          · rw [if_neg q] at hA
            subst hA
            simp only [n01, if_false, if_true, Option.bind_some, q, false_and, Zor2]
            exact ⟨_, rfl, _, rfl, rfl⟩
      · have ho' : SO v = false := by simpa using ho
        have h1 : S1 v = false := by
          rw [hSO] at ho'
          rw [hS1]
          unfold ZS1
          rw [ho']
          rfl
        have e1 : Zpick S1 cn (decide (by' = 1)) (v + 1) = Zpick S1 cn (decide (by' = 1)) v := by
          rw [Zpick_s, h1, if_neg (fun q => absurd q.1 (by decide))]
        have e2 : Zpick SO cn (decide (by' = 1)) (v + 1) = Zpick SO cn (decide (by' = 1)) v := by
          rw [Zpick_s, ho', if_neg (fun q => absurd q.1 (by decide))]
        by_cases hk : Zkd P v = 3
        · rw [if_pos hk] at hrat
          simp only [fX1_chosen_L9, n1, n2, n3, Option.bind_some, if_neg (nI_ge hv (show Znv P < 2 ^ 31 by omega)), Zb0 hX.1, hrat, Zne10, if_false, nI_1]
          exact ⟨_, rfl, f, by rw [e1, e2], by rw [e1]; exact hf⟩
        · rw [if_neg hk] at hrat
          have hc : Zct (Zt ((ZTs xs ts).1 v)) 32 = 1 := by
            rw [hSO] at ho'
            exact Zopn_f ho' hk
          rw [ets] at hc
          simp only [fX1_chosen_L9, n1, n2, n3, Option.bind_some, if_neg hge, Zb0 hX.1, hrat, if_true, Zb3 s1]
          rw [rd, Option.bind_some, Zfix_t hc, Option.bind_some, if_neg (show ¬ (1 : Int32) = 0 by decide), Option.bind_some, nI_1]
          exact ⟨_, rfl, f, by rw [e1, e2], by rw [e1]; exact hf⟩)
    (by
      rintro a ⟨f, rfl, hf⟩
      simp only [fX1_chosen_L9, n1, n2, n3, Option.bind_some, if_pos (nI_le (Nat.le_refl _) (show Znv P < 2 ^ 31 by omega))]
      exact ⟨_, rfl, rfl⟩)
    N (-1, 0, 0) (by omega) ⟨0, rfl, (if_neg (by simp [Zpick])).symm⟩
  obtain ⟨r, e, rfl⟩ := L
  rw [hS1, hSO, hcn] at e
  unfold fX1_chosen Zchs
  rw [e]
end CH
