/-! X: new cells -/
set_option maxRecDepth 100000
/-- what a shape refers to -/
def Zrefs (s : Zsh) (r : Nat) : Prop := match s with
  | .inl _ => False
  | .inr (.inl (_, _, rf)) => ∃ i, rf i = some r
  | .inr (.inr (_, fs)) => some r ∈ fs
/-- nothing refers to what is not there -/
def Zshut (sh : Nat → Option Zsh) : Prop := ∀ t s, sh t = some s → ∀ r, Zrefs s r → sh r ≠ none
theorem Zcell_cg {E E' : Ze} {xs xs' : Zxs} {t : Nat} {s : Zsh} (h : ∀ r, Zrefs s r → Zl E' r = Zl E r) (h1 : xs'.1 t = xs.1 t) (h2 : xs'.2 t = xs.2 t) : Zcell E' xs' t s = Zcell E xs t s := by
  rcases s with ⟨ty, n⟩ | ⟨ty, n, rf⟩ | ⟨c, fs⟩
  · simp only [Zcell, h2]
  · simp only [Zcell]
    refine congrArg (fun F => Sum.inl (ty, n, Sum.inr (Sum.inr (Sum.inr (Sum.inr F))))) (funext fun i => ?_)
    cases e : rf i with
    | none => rfl
    | some r => exact congrArg some (h r ⟨i, e⟩)
  · simp only [Zcell]
    refine congrArg Sum.inr (Prod.ext rfl (List.ext_getElem? fun j => ?_))
    rw [Zfv_at, Zfv_at]
    cases e : fs[j]? with
    | none => rfl
    | some o =>
      cases o with
      | none => simp only [Option.map_some, Zfv, h1]
      | some r => simp only [Option.map_some, Zfv, h r (List.mem_of_getElem? e)]
def Zsw (a b t : Nat) : Nat := if t = a then b else if t = b then a else t
theorem Zsw_sw (a b t : Nat) : Zsw a b (Zsw a b t) = t := by
  unfold Zsw
  by_cases h1 : t = a
  · subst h1
    by_cases h2 : b = t
    · simp [h2]
    · simp [h2]
  · by_cases h2 : t = b
    · subst h2
      simp [h1]
    · simp [h1, h2]
/-- two tags change their addresses -/
def Zswp (E : Ze) (a b : Nat) : Ze := (E.1, ⟨(fun t => Zl E (Zsw a b t), fun q => Zsw a b (Zow E q)), fun t => by
  show Zsw a b (Zow E (Zl E (Zsw a b t))) = t
  rw [Zow_l, Zsw_sw], fun q => by
  show Zl E (Zsw a b (Zsw a b (Zow E q))) = q
  rw [Zsw_sw, Zl_ow]⟩, E.2.2)
theorem Zswp_l (E : Ze) (a b t : Nat) : Zl (Zswp E a b) t = Zl E (Zsw a b t) := rfl
theorem Zswp_ow (E : Ze) (a b q : Nat) : Zow (Zswp E a b) q = Zsw a b (Zow E q) := rfl
theorem Zswp_W {E : Ze} {sh : Nat → Option Zsh} {xs : Zxs} {a b : Nat} (hc : Zshut sh) (ha : sh a = none) (hb : sh b = none) : ZW (Zswp E a b) sh xs = ZW E sh xs := by
  refine Prod.ext rfl (funext fun q => ?_)
  show (match sh (Zow (Zswp E a b) q) with | some s => some (Zcell (Zswp E a b) xs (Zow (Zswp E a b) q) s) | none => E.2.2 q) = (match sh (Zow E q) with | some s => some (Zcell E xs (Zow E q) s) | none => E.2.2 q)
  rw [Zswp_ow]
  by_cases h1 : Zow E q = a
  · rw [h1, show Zsw a b a = b from if_pos rfl, ha, hb]
  · by_cases h2 : Zow E q = b
    · rw [h2, show Zsw a b b = a by unfold Zsw; by_cases h : b = a <;> simp [h], ha, hb]
    · rw [show Zsw a b (Zow E q) = Zow E q by unfold Zsw; rw [if_neg h1, if_neg h2]]
      cases e : sh (Zow E q) with
      | none => rfl
      | some s =>
        refine congrArg some (Zcell_cg (fun r hr => ?_) rfl rfl)
        have hl := hc _ s e r hr
        rw [Zswp_l, show Zsw a b r = r by
          unfold Zsw
          rw [if_neg (fun g => hl (by rw [g]; exact ha)), if_neg (fun g => hl (by rw [g]; exact hb))]]
/-- new cells get the tags that are wanted -/
theorem Zlay {E : Ze} {sh : Nat → Option Zsh} {xs : Zxs} {sz : Nat} (hc : Zshut sh) (hf : ∀ a, sz ≤ a → (ZW E sh xs).2 a = none) (T : Nat → Nat) : ∀ k, (∀ i j, i < k → j < k → T i = T j → i = j) → (∀ i, i < k → sh (T i) = none) → ∃ E', ZW E' sh xs = ZW E sh xs ∧ E'.1 = E.1 ∧ (∀ t, sh t ≠ none → Zl E' t = Zl E t) ∧ ∀ i, i < k → Zl E' (T i) = sz + i := by
  intro k
  induction k with
  | zero => exact fun _ _ => ⟨E, rfl, rfl, fun _ _ => rfl, fun i h => absurd h (by omega)⟩
  | succ k ih =>
    intro h1 h2
    obtain ⟨E1, e1, e2, e3, e4⟩ := ih (fun i j hi hj => h1 i j (by omega) (by omega)) (fun i hi => h2 i (by omega))
    have hu : sh (Zow E1 (sz + k)) = none := by
      have := hf (sz + k) (by omega)
      rw [← e1] at this
      cases e : sh (Zow E1 (sz + k)) with
      | none => rfl
      | some s =>
        exfalso
        have g : (ZW E1 sh xs).2 (sz + k) = some (Zcell E1 xs (Zow E1 (sz + k)) s) := by
          show (match sh (Zow E1 (sz + k)) with | some s => some (Zcell E1 xs (Zow E1 (sz + k)) s) | none => E1.2.2 (sz + k)) = _
          rw [e]
        rw [g] at this
        cases this
    have hT := h2 k (by omega)
    refine ⟨Zswp E1 (T k) (Zow E1 (sz + k)), by rw [Zswp_W hc hT hu, e1], e2, fun t ht => ?_, fun i hi => ?_⟩
    · rw [Zswp_l, ← e3 t ht]
      congr 1
      unfold Zsw
      rw [if_neg (fun g => ht (by rw [g]; exact hT)), if_neg (fun g => ht (by rw [g]; exact hu))]
    · rw [Zswp_l]
      by_cases q : i = k
      · subst q
        rw [show Zsw (T i) (Zow E1 (sz + i)) (T i) = Zow E1 (sz + i) from if_pos rfl, Zl_ow]
      · have hik : i < k := by omega
        rw [← e4 i hik]
        congr 1
        unfold Zsw
        rw [if_neg (fun g => q (h1 i k (by omega) (by omega) g)), if_neg (fun g => by
          have := e4 i hik
          rw [g, Zl_ow] at this
          omega)]
/-- a shape more -/
def Zadd (sh : Nat → Option Zsh) (T : Nat) (s : Zsh) : Nat → Option Zsh := fun t => if t = T then some s else sh t
theorem Zadd_n {sh : Nat → Option Zsh} {T : Nat} {s : Zsh} : Zadd sh T s T = some s := if_pos rfl
theorem Zadd_o {sh : Nat → Option Zsh} {T t : Nat} {s : Zsh} (h : t ≠ T) : Zadd sh T s t = sh t := if_neg h
theorem Zadd_k {sh : Nat → Option Zsh} {T t : Nat} {s s' : Zsh} (h : sh t = some s') (hT : sh T = none) : Zadd sh T s t = some s' := by
  rw [Zadd_o (fun g => by rw [g, hT] at h; cases h), h]
theorem Zshut.add {sh : Nat → Option Zsh} (hc : Zshut sh) {T : Nat} {s : Zsh} (hr : ∀ r, Zrefs s r → Zadd sh T s r ≠ none) : Zshut (Zadd sh T s) := by
  intro t s' h r hr'
  by_cases q : t = T
  · subst q
    rw [Zadd_n] at h
    cases h
    exact hr r hr'
  · rw [Zadd_o q] at h
    unfold Zadd
    by_cases g : r = T
    · rw [if_pos g]
      exact fun h => by cases h
    · rw [if_neg g]
      exact hc t s' h r hr'
def Zs2 (f : Nat → Nat → Int32) (T : Nat) (g : Nat → Int32) : Nat → Nat → Int32 := fun u => if u = T then g else f u
theorem Zs2_n {f : Nat → Nat → Int32} {T : Nat} {g : Nat → Int32} : Zs2 f T g T = g := if_pos rfl
theorem Zs2_o {f : Nat → Nat → Int32} {T u : Nat} {g : Nat → Int32} (h : u ≠ T) : Zs2 f T g u = f u := if_neg h
theorem Znew {E : Ze} {sh : Nat → Option Zsh} {xs xs' : Zxs} {T : Nat} {s : Zsh} {e : zE} (hx : ∀ t, t ≠ T → xs'.1 t = xs.1 t ∧ xs'.2 t = xs.2 t) (he : e = Zcell E xs' T s) : zset (ZW E sh xs) (Zl E T) e = ZW E (Zadd sh T s) xs' := by
  refine Prod.ext rfl (funext fun q => ?_)
  show (if q = Zl E T then some e else (match sh (Zow E q) with | some s => some (Zcell E xs (Zow E q) s) | none => E.2.2 q)) = (match Zadd sh T s (Zow E q) with | some s => some (Zcell E xs' (Zow E q) s) | none => E.2.2 q)
  by_cases h : q = Zl E T
  · subst h
    rw [if_pos rfl, Zow_l, Zadd_n, he]
  · have hu : Zow E q ≠ T := fun g => h (by rw [← g, Zl_ow])
    rw [if_neg h, Zadd_o hu]
    cases e : sh (Zow E q) with
    | none => rfl
    | some s' =>
      obtain ⟨a, b⟩ := hx _ hu
      exact congrArg some (Zcell_cg (fun _ _ => rfl) a b).symm
/-- cells that are not yet what they shall be -/
def Zput (E : Ze) (a : Nat) (e : zE) : Ze := (E.1, E.2.1, fun q => if q = a then some e else E.2.2 q)
theorem Zput_l (E : Ze) (a : Nat) (e : zE) (t : Nat) : Zl (Zput E a e) t = Zl E t := rfl
theorem Zput_eq {E : Ze} {sh : Nat → Option Zsh} {xs : Zxs} {T : Nat} {e : zE} (h : sh T = none) : zset (ZW E sh xs) (Zl E T) e = ZW (Zput E (Zl E T) e) sh xs := by
  refine Prod.ext rfl (funext fun q => ?_)
  show (if q = Zl E T then some e else (match sh (Zow E q) with | some s => some (Zcell E xs (Zow E q) s) | none => E.2.2 q)) = (match sh (Zow E q) with | some s => some (Zcell (Zput E (Zl E T) e) xs (Zow E q) s) | none => if q = Zl E T then some e else E.2.2 q)
  by_cases g : q = Zl E T
  · subst g
    rw [if_pos rfl, Zow_l, h]
    exact (if_pos rfl).symm
  · rw [if_neg g]
    cases sh (Zow E q) with
    | none => exact (if_neg g).symm
    | some s => exact congrArg some (Zcell_cg (fun _ _ => rfl) rfl rfl).symm
theorem Zput_put {E : Ze} {a : Nat} {e e' : zE} : Zput (Zput E a e) a e' = Zput E a e' := by
  refine Prod.ext rfl (Prod.ext rfl (funext fun q => ?_))
  show (if q = a then some e' else if q = a then some e else E.2.2 q) = (if q = a then some e' else E.2.2 q)
  split <;> rfl
theorem Zput_at {E : Ze} {sh : Nat → Option Zsh} {xs : Zxs} {T : Nat} {e : zE} (h : sh T = none) : (ZW (Zput E (Zl E T) e) sh xs).2 (Zl E T) = some e := by
  show (match sh (Zow E (Zl E T)) with | some s => _ | none => if Zl E T = Zl E T then some e else E.2.2 (Zl E T)) = _
  rw [Zow_l, h]
  exact if_pos rfl
theorem Zraw_p {E : Ze} {sh : Nat → Option Zsh} {xs : Zxs} {T c f : Nat} {cs : List Nat} {fs : List Value} (h : sh T = none) (hc : cs.contains c = true) (hf : f < fs.length) (v : Value) : zpv cs f (ZW (Zput E (Zl E T) (.inr (c, fs))) sh xs) (Zl E T) v = some (ZW (Zput E (Zl E T) (.inr (c, fs.set f v))) sh xs) := by
  have e := Zput_at (E := E) (xs := xs) (e := .inr (c, fs)) h
  simp only [zpv, e, hc, hf, and_self, if_true]
  rw [show zset (ZW (Zput E (Zl E T) (.inr (c, fs))) sh xs) (Zl E T) (.inr (c, fs.set f v)) = _ from Zput_eq (E := Zput E (Zl E T) (.inr (c, fs))) (T := T) h, Zput_l, Zput_put]
theorem Zraw_g {E : Ze} {sh : Nat → Option Zsh} {xs : Zxs} {T c f r : Nat} {cs : List Nat} {fs : List Value} (h : sh T = none) (hc : cs.contains c = true) (hf : fs[f]? = some (.ref r)) : zgR cs f (ZW (Zput E (Zl E T) (.inr (c, fs))) sh xs) (Zl E T) = some r := by
  have e := Zput_at (E := E) (xs := xs) (e := .inr (c, fs)) h
  simp only [zgR, zgv, e, hc, if_true, hf, Option.bind_some, zvR]
theorem Zraw_z {E : Ze} {sh : Nat → Option Zsh} {xs : Zxs} {T c f : Nat} {cs : List Nat} {fs : List Value} (h : sh T = none) (hc : cs.contains c = true) (hf : f < fs.length) {v : Int32} (hv : v = 0 ∨ v = 1) : zpZ cs f (ZW (Zput E (Zl E T) (.inr (c, fs))) sh xs) (Zl E T) v = some (ZW (Zput E (Zl E T) (.inr (c, fs.set f (.int v)))) sh xs) := by
  unfold zpZ
  rw [if_pos hv, Zraw_p h hc hf]
theorem Zraw_is {E : Ze} {sh : Nat → Option Zsh} {xs : Zxs} {T c : Nat} {fs : List Value} (h : sh T = none) : zis (ZW (Zput E (Zl E T) (.inr (c, fs))) sh xs) (Zl E T) c = some () := by
  have e := Zput_at (E := E) (xs := xs) (e := .inr (c, fs)) h
  simp only [zis, e, if_true]
theorem Zadopt {E : Ze} {sh : Nat → Option Zsh} {xs xs' : Zxs} {T : Nat} {s : Zsh} {e : zE} (h : sh T = none) (hx : ∀ t, t ≠ T → xs'.1 t = xs.1 t ∧ xs'.2 t = xs.2 t) (he : e = Zcell E xs' T s) : ZW (Zput E (Zl E T) e) sh xs = ZW E (Zadd sh T s) xs' := by
  rw [← Zput_eq h]
  exact Znew hx he
/-- new arrays -/
theorem Znw_A {E : Ze} {sh : Nat → Option Zsh} {xs : Zxs} {T ty lim n : Nat} (hty : ty ≠ 2) (hn : n ≤ lim) (hl : lim < 2 ^ 31) : znA ty lim (ZW E sh xs) (Zl E T) (nI n) = some (ZW E (Zadd sh T (Zia ty n)) (xs.1, Zs2 xs.2 T fun _ => 0)) := by
  have h0 : (0 : Int32) ≤ nI n := nI_pos' (by omega)
  simp only [znA, h0, nI_clamp (show n < 2 ^ 31 by omega), hn, and_self, if_true, if_neg hty]
  refine congrArg some (Znew (xs' := (xs.1, Zs2 xs.2 T fun _ => 0)) (fun t ht => ⟨rfl, Zs2_o ht⟩) ?_)
  simp only [Zcell, Zia, Zs2_n]
theorem Znw_R {E : Ze} {sh : Nat → Option Zsh} {xs : Zxs} {T ty lim n : Nat} (hn : n ≤ lim) (hl : lim < 2 ^ 31) : znR ty lim (ZW E sh xs) (Zl E T) (nI n) = some (ZW E (Zadd sh T (Zra ty n fun _ => none)) xs) := by
  have h0 : (0 : Int32) ≤ nI n := nI_pos' (by omega)
  simp only [znR, h0, nI_clamp (show n < 2 ^ 31 by omega), hn, and_self, if_true]
  exact congrArg some (Znew (fun t ht => ⟨rfl, rfl⟩) rfl)
/-- a reference is put into an array -/
theorem Zsr_ {E : Ze} {sh : Nat → Option Zsh} {xs : Zxs} {t r n k : Nat} {rf : Nat → Option Nat} {c : Nat} {fs : List (Option Nat)} (h : sh t = some (Zra 3 n rf)) (hr : sh r = some (Zob c fs)) (hc : zOb.contains c = true) (hk : k < n) (hn : n ≤ 2147483648) : zsR (ZW E sh xs) (Zl E t) (nI k) (Zl E r) = some (ZW E (Zadd sh t (Zra 3 n fun i => if i = k then some r else rf i)) xs) := by
  have e1 := ZW_at h E xs
  have e2 := ZW_at hr E xs
  simp only [Zcell, Zra] at e1
  simp only [Zcell, Zob] at e2
  simp only [zsR, e1, e2, hc, Zin_nI hk hn, true_and, and_true, true_or, if_true, Zcl (show k < 2147483648 by omega)]
  refine congrArg some (Znew (fun _ _ => ⟨rfl, rfl⟩) ?_)
  simp only [Zcell, Zra]
  refine congrArg (fun F => Sum.inl (3, n, Sum.inr (Sum.inr (Sum.inr (Sum.inr F))))) (funext fun i => ?_)
  simp only [va_up]
  by_cases q : i = k
  · rw [if_pos q, if_pos q]
    rfl
  · rw [if_neg q, if_neg q]
/-- a reference is put into an object's field -/
theorem Zpr_ {E : Ze} {sh : Nat → Option Zsh} {xs : Zxs} {t r c f : Nat} {cs : List Nat} {fs : List (Option Nat)} (h : sh t = some (Zob c fs)) (hc : cs.contains c = true) (hf : f < fs.length) : zpv cs f (ZW E sh xs) (Zl E t) (.ref (Zl E r)) = some (ZW E (Zadd sh t (Zob c (fs.set f (some r)))) xs) := by
  have e1 := ZW_at h E xs
  simp only [Zcell, Zob] at e1
  simp only [zpv, e1, hc, List.length_mapIdx, hf, and_self, if_true]
  refine congrArg some (Znew (fun _ _ => ⟨rfl, rfl⟩) ?_)
  simp only [Zcell, Zob]
  refine congrArg Sum.inr (Prod.ext rfl (List.ext_getElem? fun j => ?_))
  rw [List.getElem?_set, Zfv_at, Zfv_at, List.getElem?_set]
  by_cases q : f = j
  · subst q
    simp only [List.length_mapIdx, hf, if_true, Option.map_some, Zfv]
  · simp only [if_neg q]
