/-! X builds a list of Integers -/
set_option maxRecDepth 100000
section BL
variable {E : Ze} {sh sh0 : Nat → Option Zsh} {xs x0 : Zxs} {t T e n r : Nat} {tg : Nat → Nat}
theorem ZLadd_e (hS : Zshut sh) (h : ZLj sh xs t 50302 0 tg) (hr : Zel sh r) (hT : sh T = none) (hT5 : T ≠ 50302) (h2 : E.1 2 = Zl E 50302) : ∃ sh' xs', fJ2_add (ZW E sh xs) (Zl E T) (Zl E t) (Zl E r) = some (ZW E sh' xs', Zl E T + 1, 1) ∧ ZLj sh' xs' t T 1 (fun i => if i = 0 then r else tg i) ∧ Zshut sh' ∧ (∀ u, u ≠ t → u ≠ T → sh' u = sh u) ∧ Zfr (fun u f => u = t ∧ (f = 0 ∨ f = 2)) (fun _ => False) xs xs' := by
  have h0 := h
  obtain ⟨cap, rf, h1, h2', h3, h4, h5, h6, h7⟩ := h
  have hcap : cap = 0 := h6.mpr rfl
  obtain ⟨x, hx⟩ : ∃ x : Zxs, x = (zua xs.1 t 0 (xs.1 t 0 + 1), xs.2) := ⟨_, rfl⟩
  have fx : Zfr (fun u f => u = t ∧ (f = 0 ∨ f = 2)) (fun _ => False) xs x := by rw [hx]; exact Zfr.num Zfr.rfl ⟨rfl, Or.inl rfl⟩
  have x2 : x.1 t 2 = nI 0 := by subst hx; simp only [zua_sn (show 2 ≠ 0 by decide)]; exact h3
  have hj : ZLj sh x t 50302 0 tg := ⟨cap, rf, h1, h2', x2, h4, h5, h6, h7⟩
  obtain ⟨s1, e0, j1, S1, o1, f1⟩ := ZLgrow (E := E) hS hj (by decide) (fun cap' rf' q => by rw [h2'] at q; cases q; exact hcap.symm) hT hT5 h2
  have hr1 : Zel s1 r := by
    obtain ⟨c, fs, a1, a2⟩ := hr
    refine ⟨c, fs, ?_, a2⟩
    rw [o1 r (Zel.ne_li ⟨c, fs, a1, a2⟩ h1) (fun q => by rw [q, hT] at a1; cases a1)]
    exact a1
  obtain ⟨sh', xs', H⟩ := ZLadd0 (E := E) S1 j1 hr1 f1
  obtain ⟨e1, k1, k2, k3, k4⟩ := H (Zl E T + 1)
  refine ⟨sh', xs', ?_, k1, k2, fun u a b => by rw [k3 u b, o1 u a b], fx.trans (k4.mono (fun u f q => ⟨q.1, Or.inr q.2⟩) fun _ q => q)⟩
  rw [hx] at e0 e1
  have x2' : (zua xs.1 t 0 (xs.1 t 0 + 1)) t 2 = nI 0 := by rw [zua_sn (by decide)]; exact h3
  have e1' := e1
  simp only [fJ2_add_2] at e1'
  obtain ⟨capT, rfT, -, qT, -, -, q10, -⟩ := j1
  have hlt := f1 capT rfT qT
  have hclT := Zcap_le q10
  have hne : ¬ nI 0 = nI capT := fun g => by
    have := (nI_eq (by omega) (by omega)).mp g
    omega
  simp only [Zlr_ qT, Option.bind_some, if_neg hne] at e1'
  simp only [fJ2_add, Zb18 h1, Option.bind_some, x2', fJ2_add_2, Zlr_ h2', if_pos (congrArg nI hcap.symm), e0, e1']
theorem ZLadd_r (hS : Zshut sh) (h : ZLj sh xs t e n tg) (h1 : 1 ≤ n) (h10 : n < 10) (hr : Zel sh r) : ∃ sh' xs', (∀ sz, fJ2_add (ZW E sh xs) sz (Zl E t) (Zl E r) = some (ZW E sh' xs', sz, 1)) ∧ ZLj sh' xs' t e (n + 1) (fun i => if i = n then r else tg i) ∧ Zshut sh' ∧ (∀ u, u ≠ e → sh' u = sh u) ∧ Zfr (fun u f => u = t ∧ (f = 0 ∨ f = 2)) (fun _ => False) xs xs' := by
  obtain ⟨cap, rf, q1, q2, q3, q4, q5, q6, q7⟩ := h
  obtain ⟨x, hx⟩ : ∃ x : Zxs, x = (zua xs.1 t 0 (xs.1 t 0 + 1), xs.2) := ⟨_, rfl⟩
  have fx : Zfr (fun u f => u = t ∧ (f = 0 ∨ f = 2)) (fun _ => False) xs x := by rw [hx]; exact Zfr.num Zfr.rfl ⟨rfl, Or.inl rfl⟩
  have x2 : x.1 t 2 = nI n := by subst hx; simp only [zua_sn (show 2 ≠ 0 by decide)]; exact q3
  have hj : ZLj sh x t e n tg := ⟨cap, rf, q1, q2, x2, q4, q5, q6, q7⟩
  have hlt : n < cap := by
    unfold Zcap at q5
    omega
  obtain ⟨sh', xs', H⟩ := ZLadd0 (E := E) hS hj hr (fun cap' rf' q => by rw [q2] at q; cases q; exact hlt)
  obtain ⟨-, k1, k2, k3, k4⟩ := H 0
  refine ⟨sh', xs', fun sz => ?_, k1, k2, k3, fx.trans (k4.mono (fun u f q => ⟨q.1, Or.inr q.2⟩) fun _ q => q)⟩
  obtain ⟨e1, -⟩ := H sz
  rw [hx] at e1
  have x2' : (zua xs.1 t 0 (xs.1 t 0 + 1)) t 2 = nI n := by rw [zua_sn (by decide)]; exact q3
  simp only [fJ2_add, Zb18 q1, Option.bind_some, x2', e1]
/-- a list under construction: k Integers -/
def Zbl (E : Ze) (sh0 : Nat → Option Zsh) (x0 : Zxs) (t T k : Nat) (val : Nat → Nat) (sh : Nat → Option Zsh) (x : Zxs) : Prop := ZLj sh x t (if k = 0 then 50302 else T) k (fun i => 60000 + (128 + val i)) ∧ Zshut sh ∧ (∀ u, u ≠ t → u ≠ T → sh u = sh0 u) ∧ (k = 0 → sh T = none) ∧ (∀ u, u ≠ t → x.1 u = x0.1 u) ∧ x.2 = x0.2
theorem ZLj.cg {q q' : Nat → Nat} (h : ZLj sh xs t e n q) (he : ∀ i, i < n → q' i = q i) : ZLj sh xs t e n q' := by
  obtain ⟨cap, rf, h1, h2, h3, h4, h5, h6, h7⟩ := h
  exact ⟨cap, rf, h1, h2, h3, h4, h5, h6, fun i hi => by rw [he i hi]; exact h7 i hi⟩
/-- the list is new -/
theorem Zbl_0 {val : Nat → Nat} (hS : Zshut sh0) (hs : Zsta E sh0 x0) (ht : sh0 t = none) (hT : sh0 T = none) (htT : t ≠ T) (ht5 : t ≠ 50302) : ∃ sh x, fJ2_init (zset (ZW E sh0 x0) (Zl E t) (.inr (18, zfd18))) (Zl E t) = some (ZW E sh x) ∧ Zbl E sh0 x0 t T 0 val sh x := by
  refine ⟨_, _, ZX_nl ht hs.1.1, ⟨0, fun _ => none, Zadd_n, Zadd_k hs.1.2 ht, by simp only [Zs2_n]; rfl, Nat.le_refl _, Or.inl rfl, ⟨fun _ => rfl, fun _ => rfl⟩, fun i hi => absurd hi (by omega)⟩, hS.add fun r hr => ?_, fun u a _ => Zadd_o a, fun _ => by rw [Zadd_o htT.symm]; exact hT, fun u hu => Zs2_o hu, rfl⟩
  have : r = 50302 := by
    have hr' : some r ∈ [none, some 50302, none] := hr
    simpa using hr'
  rw [this, Zadd_k hs.1.2 ht]
  exact fun h => by cases h
/-- one Integer more -/
theorem Zbl_s {k sz : Nat} {val : Nat → Nat} {x : Zxs} (h : Zbl E sh0 x0 t T k val sh x) (hs : Zsta E sh0 x0) (ht5 : t ≠ 50302 ∧ ¬ (60000 ≤ t ∧ t < 60256)) (hT5 : T ≠ 50302 ∧ ¬ (60000 ≤ T ∧ T < 60256)) (hz : Zl E T = sz) (hk : k < 10) (hv : val k < 128) : ∃ sh' x', fJ2_add (ZW E sh x) (if k = 0 then sz else sz + 1) (Zl E t) (Zl E (60000 + (128 + val k))) = some (ZW E sh' x', sz + 1, 1) ∧ Zbl E sh0 x0 t T (k + 1) val sh' x' := by
  obtain ⟨h1, h2, h3, h4, h5, h6⟩ := h
  have hel : Zel sh (60000 + (128 + val k)) := by
    obtain ⟨a, b⟩ := hs.2.2.1 (128 + val k) (by omega)
    refine ⟨19, [none], ?_, by decide⟩
    rw [h3 _ (by omega) (by omega)]
    exact a
  by_cases q : k = 0
  · subst q
    rw [if_pos rfl] at h1
    obtain ⟨sh', x', e1, k1, k2, k3, k4⟩ := ZLadd_e (E := E) h2 h1 hel (h4 rfl) hT5.1 hs.1.1
    rw [hz] at e1
    refine ⟨sh', x', by rw [if_pos rfl]; exact e1, ?_, k2, fun u a b => (k3 u a b).trans (h3 u a b), fun h => absurd h (by omega), fun u hu => (funext fun f => k4.1 u f (fun q => hu q.1)).trans (h5 u hu), (funext fun u => k4.2 u (fun q => q)).trans h6⟩
    rw [if_neg (by omega)]
    exact k1.cg fun i hi => by
      have : i = 0 := by omega
      rw [this, if_pos rfl]
  · rw [if_neg q] at h1
    obtain ⟨sh', x', e1, k1, k2, k3, k4⟩ := ZLadd_r (E := E) h2 h1 (by omega) hk hel
    refine ⟨sh', x', by rw [if_neg q]; exact e1 (sz + 1), ?_, k2, fun u a b => (k3 u b).trans (h3 u a b), fun h => absurd h (by omega), fun u hu => (funext fun f => k4.1 u f (fun q => hu q.1)).trans (h5 u hu), (funext fun u => k4.2 u (fun q => q)).trans h6⟩
    rw [if_neg (by omega)]
    exact k1.cg fun i hi => by
      by_cases c : i = k
      · rw [if_pos c, c]
      · rw [if_neg c]
end BL
