/-! X's lists, its tags -/
set_option maxRecDepth 100000
/-- the list of field j of main: variables, constraints, names, numbers, moves, literals -/
def Ztj (sh : Nat → Option Zsh) (j : Nat) : Nat := if j = 0 then 2 else if j = 1 then 4 else Zfld sh 1 j
def Zej (sh : Nat → Option Zsh) (j : Nat) : Nat := Zfld sh (Ztj sh j) 1
def ZLs (sh : Nat → Option Zsh) (xs : Zxs) (n : Nat → Nat) (tg : Nat → Nat → Nat) : Prop := ∀ j, j < 6 → ZLj sh xs (Ztj sh j) (Zej sh j) (n j) (tg j) ∧ (Zej sh j = 50302 ∨ (1000000 ≤ Zej sh j ∧ Zej sh j % 100 = 2 * j + 3)) ∧ (2 ≤ j → 1000000 ≤ Ztj sh j ∧ Ztj sh j % 100 = 2 * j + 2)
/-- all tags that are in use -/
def Zdt (P : ZP) (g t : Nat) : Prop := t < 100 ∨ (100 ≤ t ∧ t < 100 + Znv P) ∨ (1000 ≤ t ∧ t < 1000 * (Znc P + 1)) ∨ (50301 ≤ t ∧ t ≤ 50303) ∨ (50400 ≤ t ∧ t < 50500) ∨ (60000 ≤ t ∧ t < 60256) ∨ (1000000 ≤ t ∧ t < 1000000 + 100 * g)
def Zdom (sh : Nat → Option Zsh) (P : ZP) (g : Nat) : Prop := ∀ t, sh t ≠ none → Zdt P g t
/-- the JDK's cells: the empty array, Integers; objects of lambdas that capture nothing -/
def Zsta (E : Ze) (sh : Nat → Option Zsh) (xs : Zxs) : Prop := (E.1 2 = Zl E 50302 ∧ sh 50302 = some (Zra 3 0 fun _ => none)) ∧ (E.1 1 = Zl E 50303 ∧ sh 50303 = some (Zra 7 256 fun i => some (60000 + i))) ∧ (∀ i, i < 256 → sh (60000 + i) = some Zo19 ∧ xs.1 (60000 + i) 0 = nI i - 128) ∧ ∀ j, j < 8 → (j = 2 ∨ 4 ≤ j) → E.1 (10 + j) = Zl E (50400 + j) ∧ sh (50400 + j) = some (Zob (100 + j) [])
theorem Zsta.ne {E : Ze} {sh : Nat → Option Zsh} {xs : Zxs} (h : Zsta E sh xs) : sh 50302 ≠ none := by
  rw [h.1.2]
  exact fun h => by cases h
/-- lists that constraints hold are none of main's -/
def ZFz (sh : Nat → Option Zsh) (P : ZP) : Prop := ∀ c, c < Znc P → Zso P c = 3 ∨ Zso P c = 5 → (1000000 ≤ ZtL sh c ∧ (ZtL sh c % 100 = 10 ∨ ZtL sh c % 100 = 12) ∧ ZtL sh c ≠ Ztj sh 4 ∧ ZtL sh c ≠ Ztj sh 5) ∧ sh (ZtL sh c) ≠ none ∧ (Zfld sh (ZtL sh c) 1 = 50302 ∨ (1000000 ≤ Zfld sh (ZtL sh c) 1 ∧ (Zfld sh (ZtL sh c) 1 % 100 = 11 ∨ Zfld sh (ZtL sh c) 1 % 100 = 13) ∧ sh (Zfld sh (ZtL sh c) 1) ≠ none ∧ Zfld sh (ZtL sh c) 1 ≠ Zej sh 4 ∧ Zfld sh (ZtL sh c) 1 ≠ Zej sh 5)) ∧ (sh (1000 * (c + 1)) ≠ none ∧ ∀ e, sh (1000 * (c + 1)) ≠ some (Zo18 e) ∧ ∀ m rf, sh (1000 * (c + 1)) ≠ some (Zra 3 m rf))
def ZB (E : Ze) (sh : Nat → Option Zsh) (xs : Zxs) (P : ZP) (g : Nat) (n : Nat → Nat) (tg : Nat → Nat → Nat) : Prop := Zshut sh ∧ Zdom sh P g ∧ Zsta E sh xs ∧ ZLs sh xs n tg ∧ ZFz sh P ∧ sh 1 = some (Zmain sh)
/-- all stays but the list j -/
def Zexj (j : Nat) (sh sh' : Nat → Option Zsh) (xs xs' : Zxs) : Prop := ∀ u s, sh u = some s → u ≠ Ztj sh j → (u ≠ Zej sh j ∨ Zej sh j = 50302) → sh' u = some s ∧ xs'.1 u = xs.1 u ∧ xs'.2 u = xs.2 u
section LS
variable {E : Ze} {sh sh' : Nat → Option Zsh} {xs xs' : Zxs} {P : ZP} {g : Nat} {n : Nat → Nat} {tg : Nat → Nat → Nat}
theorem ZLj.t {t e m : Nat} {q : Nat → Nat} (h : ZLj sh xs t e m q) : sh t = some (Zo18 e) := by
  obtain ⟨cap, rf, h1, -⟩ := h
  exact h1
theorem ZLj.e {t e m : Nat} {q : Nat → Nat} (h : ZLj sh xs t e m q) : ∃ cap rf, sh e = some (Zra 3 cap rf) := by
  obtain ⟨cap, rf, -, h2, -⟩ := h
  exact ⟨cap, rf, h2⟩
theorem Zfld_o {t e : Nat} (h : sh t = some (Zo18 e)) : Zfld sh t 1 = e := by
  unfold Zfld
  rw [h]
  rfl
theorem Zfld_c {t k : Nat} (h : sh' t = sh t) : Zfld sh' t k = Zfld sh t k := by
  unfold Zfld
  rw [h]
/-- lists of different places are not one -/
theorem ZLs.ne (h : ZLs sh xs n tg) {i j : Nat} (hi : i < 6) (hj : j < 6) (hij : i ≠ j) : Ztj sh i ≠ Ztj sh j ∧ (Zej sh i ≠ Zej sh j ∨ Zej sh j = 50302) ∧ Ztj sh i ≠ Zej sh j := by
  obtain ⟨a1, a2, a3⟩ := h i hi
  obtain ⟨b1, b2, b3⟩ := h j hj
  have t0 : Ztj sh 0 = 2 := rfl
  have t1 : Ztj sh 1 = 4 := rfl
  refine ⟨?_, by omega, fun q => ?_⟩
  · have ci : i = 0 ∨ i = 1 ∨ 2 ≤ i := by omega
    have cj : j = 0 ∨ j = 1 ∨ 2 ≤ j := by omega
    rcases ci with rfl | rfl | ci <;> rcases cj with rfl | rfl | cj
    · omega
    · omega
    · have := b3 cj
      omega
    · omega
    · omega
    · have := b3 cj
      omega
    · have := a3 ci
      omega
    · have := a3 ci
      omega
    · have := a3 ci
      have := b3 cj
      omega
  · have k1 := a1.t
    obtain ⟨cap, rf, k2⟩ := b1.e
    rw [q, k2] at k1
    cases k1
theorem ZLj.keep {t e m : Nat} {q : Nat → Nat} (h : ZLj sh xs t e m q) (h1 : sh' t = sh t) (h2 : sh' e = sh e) (h3 : xs'.1 t 2 = xs.1 t 2) (h4 : ∀ r, Zel sh r → sh' r = sh r) : ZLj sh' xs' t e m q := by
  obtain ⟨cap, rf, k1, k2, k3, k4, k5, k6, k7⟩ := h
  exact ⟨cap, rf, h1.trans k1, h2.trans k2, h3.trans k3, k4, k5, k6, fun i hi => ⟨(k7 i hi).1, (k7 i hi).2.keep (h4 _ (k7 i hi).2)⟩⟩
theorem Zdt.up {P' : ZP} {g' t : Nat} (h : Zdt P g t) (h1 : Znv P ≤ Znv P') (h2 : Znc P ≤ Znc P') (h3 : g ≤ g') : Zdt P' g' t := by
  unfold Zdt at h ⊢
  omega
theorem ZB.fresh (h : ZB E sh xs P g n tg) (hnc : Znc P ≤ 24) (hnv : Znv P ≤ 10) {k : Nat} (hk : k < 100) (g' : Nat) (hg : g ≤ g') : sh (1000000 + 100 * g' + k) = none := by
  cases e : sh (1000000 + 100 * g' + k) with
  | none => rfl
  | some s =>
    have := h.2.1 _ (show sh (1000000 + 100 * g' + k) ≠ none by rw [e]; exact fun h => by cases h)
    unfold Zdt at this
    omega
/-- the list j gets one more -/
theorem ZB_add (h : ZB E sh xs P g n tg) (hnc : Znc P ≤ 24) (hnv : Znv P ≤ 10) {j r : Nat} (hj : j < 6) (hr : Zel sh r) (hn : n j < 366) : ∃ sh' xs' sz', fJ2_add (ZW E sh xs) (Zl E (1000000 + 100 * g + (2 * j + 3))) (Zl E (Ztj sh j)) (Zl E r) = some (ZW E sh' xs', sz', 1) ∧ (sz' = Zl E (1000000 + 100 * g + (2 * j + 3)) ∨ sz' = Zl E (1000000 + 100 * g + (2 * j + 3)) + 1) ∧ ZB E sh' xs' P (g + 1) (fun i => if i = j then n j + 1 else n i) (fun i k => if i = j ∧ k = n j then r else tg i k) ∧ Zexj j sh sh' xs xs' ∧ Zext sh sh' xs xs' ∧ sh' 1 = sh 1 ∧ xs'.1 1 = xs.1 1 ∧ (∀ c, c < Znc P → Zso P c = 3 ∨ Zso P c = 5 → Zcls3 sh sh' xs xs' c) := by
  obtain ⟨hS, hD, hst, hL, hF, hm⟩ := h
  obtain ⟨T, hTd⟩ : ∃ T, T = 1000000 + 100 * g + (2 * j + 3) := ⟨_, rfl⟩
  have hT : sh T = none := by
    rw [hTd]
    exact ZB.fresh ⟨hS, hD, hst, hL, hF, hm⟩ hnc hnv (by omega) g (Nat.le_refl _)
  rw [← hTd]
  obtain ⟨a1, a2, a3⟩ := hL j hj
  obtain ⟨sh', xs', e', sz', e1, e2, e3, e4, k1, k2, k3, k4⟩ := ZLadd (E := E) hS a1 hn hr hT (by omega) hst.1.1
  obtain ⟨t, ht⟩ : ∃ t, t = Ztj sh j := ⟨_, rfl⟩
  obtain ⟨e, he⟩ : ∃ e, e = Zej sh j := ⟨_, rfl⟩
  rw [← ht] at a1 a3 e1 k1 k3 k4 ⊢
  rw [← he] at a1 a2 e2 k3
  have shT := a1.t
  obtain ⟨cap, rf, shE⟩ := a1.e
  have live : ∀ {u s}, sh u = some s → u ≠ T := fun h g => by rw [g, hT] at h; cases h
  -- what stays
  have keep : ∀ u s, sh u = some s → u ≠ t → (u ≠ e ∨ e = 50302) → sh' u = some s := fun u s h1 h2 h3 => by
    rw [k3 u h2 (live h1) h3]
    exact h1
  have xk1 : ∀ u, u ≠ t → xs'.1 u = xs.1 u := fun u hu => funext fun f => k4.1 u f (fun q => hu q.1)
  have xk2 : xs'.2 = xs.2 := funext fun u => k4.2 u (fun q => q)
  have hex : Zext sh sh' xs xs' := fun u s h1 h2 h3 => by
    have ut : u ≠ t := fun q => by
      rw [q, shT] at h1
      cases h1
      exact h3 rfl
    have ue : u ≠ e := fun q => by
      rw [q, shE] at h1
      cases h1
      exact h3 rfl
    exact ⟨keep u s h1 ut (Or.inl ue), xk1 u ut, by rw [xk2]⟩
  have tne1 : (1 : Nat) ≠ t := fun q => by
    rw [← q, hm] at shT
    cases shT
  have ene1 : (1 : Nat) ≠ e := fun q => by
    rw [← q, hm] at shE
    cases shE
  have m1 : sh' 1 = sh 1 := by
    rw [hm]
    exact keep 1 _ hm tne1 (Or.inl ene1)
  have tj' : ∀ i, Ztj sh' i = Ztj sh i := fun i => by
    unfold Ztj
    rw [Zfld_c m1]
  have elk : ∀ r, Zel sh r → sh' r = sh r := fun r hr => by
    obtain ⟨c, fs, q1, q2⟩ := hr
    rw [q1]
    exact keep r _ q1 (Zel.ne_li ⟨c, fs, q1, q2⟩ shT) (Or.inl (Zel.ne_arr ⟨c, fs, q1, q2⟩ shE))
  have ejj : Zej sh' j = e' := by
    unfold Zej
    rw [tj', ← ht]
    exact Zfld_o k1.t
  have others : ∀ i, i < 6 → i ≠ j → sh' (Ztj sh i) = sh (Ztj sh i) ∧ Zej sh' i = Zej sh i ∧ sh' (Zej sh i) = sh (Zej sh i) ∧ xs'.1 (Ztj sh i) 2 = xs.1 (Ztj sh i) 2 := fun i hi hij => by
    obtain ⟨n1, n2, n3⟩ := hL.ne hi hj hij
    obtain ⟨m1', m2', m3'⟩ := hL.ne hj hi (fun q => hij q.symm)
    rw [← ht] at n1 m1' m3'
    rw [← he] at n2 n3 m2'
    obtain ⟨b1, b2, b3⟩ := hL i hi
    have s1 := b1.t
    obtain ⟨cap', rf', s2⟩ := b1.e
    have q1 : sh' (Ztj sh i) = sh (Ztj sh i) := by rw [s1]; exact keep _ _ s1 n1 (Or.inl n3)
    refine ⟨q1, ?_, ?_, by rw [xk1 _ n1]⟩
    · unfold Zej
      rw [tj', Zfld_c q1]
    · rw [s2]
      exact keep _ _ s2 (fun q => m3' q.symm) n2
  have fz : ∀ c, c < Znc P → Zso P c = 3 ∨ Zso P c = 5 → Zcls3 sh sh' xs xs' c := fun c hc hs => by
    obtain ⟨⟨f1, f2, f3, f4⟩, f5, f6, -⟩ := hF c hc hs
    have ct : ZtL sh c ≠ t := fun q => by
      have c6 : j = 0 ∨ j = 1 ∨ j = 2 ∨ j = 3 ∨ j = 4 ∨ j = 5 := by omega
      rcases c6 with rfl | rfl | rfl | rfl | rfl | rfl
      · rw [q, ht] at f1
        have : Ztj sh 0 = 2 := rfl
        omega
      · rw [q, ht] at f1
        have : Ztj sh 1 = 4 := rfl
        omega
      · have := a3 (by omega)
        omega
      · have := a3 (by omega)
        omega
      · exact f3 (q.trans ht)
      · exact f4 (q.trans ht)
    have ce : ZtL sh c ≠ e := fun q => by
      rcases a2 with a2 | a2
      · omega
      · omega
    have hlv : ∀ u, sh u ≠ none → ∃ s, sh u = some s := fun u hu => by
      cases q : sh u with
      | none => exact absurd q hu
      | some s => exact ⟨s, rfl⟩
    obtain ⟨s, hs1⟩ := hlv _ f5
    have q1 : sh' (ZtL sh c) = sh (ZtL sh c) := by rw [hs1]; exact keep _ _ hs1 ct (Or.inl ce)
    refine ⟨q1, ?_, by rw [xk1 _ ct]⟩
    rcases f6 with f6 | ⟨f6, f7, f8, f9, f10⟩
    · rw [f6]
      obtain ⟨s5, hs5⟩ := hlv _ hst.ne
      rw [hs5]
      refine keep _ _ hs5 (fun q => ?_) ?_
      · have c6 : j = 0 ∨ j = 1 ∨ 2 ≤ j := by omega
        rcases c6 with rfl | rfl | c6
        · have : Ztj sh 0 = 2 := rfl
          omega
        · have : Ztj sh 1 = 4 := rfl
          omega
        · have := a3 c6
          omega
      · by_cases q : e = 50302
        · exact Or.inr q
        · exact Or.inl fun h => q h.symm
    · obtain ⟨s5, hs5⟩ := hlv _ f8
      rw [hs5]
      refine keep _ _ hs5 (fun q => ?_) (Or.inl fun q => ?_)
      · have c6 : j = 0 ∨ j = 1 ∨ 2 ≤ j := by omega
        rcases c6 with rfl | rfl | c6
        · have : Ztj sh 0 = 2 := rfl
          omega
        · have : Ztj sh 1 = 4 := rfl
          omega
        · have := a3 c6
          omega
      · have c6 : j = 4 ∨ j = 5 ∨ (j ≠ 4 ∧ j ≠ 5) := by omega
        rcases c6 with rfl | rfl | c6
        · exact f9 (q.trans he)
        · exact f10 (q.trans he)
        · rcases a2 with a2 | a2 <;> omega
  refine ⟨sh', xs', sz', e1, e3, ⟨k2, fun u hu => ?_, ?_, fun i hi => ?_, fun c hc hs => ?_, ?_⟩, ?_, hex, m1, xk1 1 tne1, fz⟩
  · by_cases q : u = T
    · rw [q, hTd]
      unfold Zdt
      omega
    · refine (hD u ?_).up (Nat.le_refl _) (Nat.le_refl _) (Nat.le_succ _)
      by_cases q1 : u = t
      · rw [q1, shT]
        exact fun h => by cases h
      · by_cases q2 : u = e
        · rw [q2, shE]
          exact fun h => by cases h
        · rw [← k3 u q1 q (Or.inl q2)]
          exact hu
  · obtain ⟨⟨s1, s2⟩, ⟨s3, s4⟩, s5, s6⟩ := hst
    refine ⟨⟨s1, keep 50302 _ s2 (fun q => ?_) ?_⟩, ⟨s3, hex.ra s4 (by decide) (by decide)⟩, fun i hi => ?_, fun i hi hi2 => ⟨(s6 i hi hi2).1, (hex.ob (s6 i hi hi2).2 (by omega) (by omega)).1⟩⟩
    · rw [← q, s2] at shT
      cases shT
    · by_cases q2 : e = 50302
      · exact Or.inr q2
      · exact Or.inl fun h => q2 h.symm
    · obtain ⟨b1, b2⟩ := s5 i hi
      obtain ⟨b3, b4⟩ := hex.ob b1 (by omega) (by decide)
      exact ⟨b3, by rw [b4]; exact b2⟩
  · rw [tj']
    by_cases q : i = j
    · subst q
      rw [ejj, ← ht]
      refine ⟨?_, ?_, a3⟩
      · simp only [if_true, true_and]
        exact k1
      · rcases e2 with e2 | e2
        · rw [e2]
          exact a2
        · right
          omega
    · obtain ⟨o1, o2, o3, o4⟩ := others i hi q
      obtain ⟨b1, b2, b3⟩ := hL i hi
      rw [o2]
      refine ⟨?_, b2, b3⟩
      simp only [if_neg q, q, false_and, if_false]
      exact b1.keep o1 o3 o4 elk
  · obtain ⟨⟨f1, f2, f3, f4⟩, f5, f6, f7, f8⟩ := hF c hc hs
    obtain ⟨z1, z2, z3⟩ := fz c hc hs
    have hcs : sh' (1000 * (c + 1)) = sh (1000 * (c + 1)) := by
      cases q : sh (1000 * (c + 1)) with
      | none => exact absurd q f7
      | some s =>
        refine keep _ _ q (fun q1 => ?_) (Or.inl fun q1 => ?_)
        · rw [← q1] at shT
          exact (f8 _).1 shT
        · rw [← q1] at shE
          exact (f8 0).2 _ _ shE
    have hl : ZtL sh' c = ZtL sh c := by unfold ZtL; rw [Zfld_c hcs]
    have hl2 : Zfld sh' (ZtL sh' c) 1 = Zfld sh (ZtL sh c) 1 := by rw [hl, Zfld_c z1]
    rw [hl2, hl, z1, z2, hcs, tj', tj']
    refine ⟨⟨f1, f2, f3, f4⟩, f5, ?_, f7, f8⟩
    rcases f6 with f6 | ⟨f6, f7, f8, f9, f10⟩
    · exact Or.inl f6
    · refine Or.inr ⟨f6, f7, f8, ?_, ?_⟩
      · by_cases q : (4 : Nat) = j
        · rw [q, ejj]
          rcases e2 with e2 | e2
          · rw [e2, he, ← q]
            exact f9
          · rw [e2]
            intro q2
            rw [q2] at f8
            exact f8 hT
        · rw [(others 4 (by omega) q).2.1]
          exact f9
      · by_cases q : (5 : Nat) = j
        · rw [q, ejj]
          rcases e2 with e2 | e2
          · rw [e2, he, ← q]
            exact f10
          · rw [e2]
            intro q2
            rw [q2] at f8
            exact f8 hT
        · rw [(others 5 (by omega) q).2.1]
          exact f10
  · rw [m1, hm]
    unfold Zmain
    rw [Zfld_c m1, Zfld_c m1, Zfld_c m1, Zfld_c m1]
  · intro u s h1 h2 h3
    rw [← ht] at h2
    rw [← he] at h3
    exact ⟨keep u s h1 h2 h3, xk1 u h2, by rw [xk2]⟩
end LS
