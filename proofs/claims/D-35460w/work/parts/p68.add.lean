/-! X: a list gets one more -/
set_option maxRecDepth 100000
def Zcap (c : Nat) : Prop := c = 0 ∨ c = 10 ∨ c = 15 ∨ c = 22 ∨ c = 33 ∨ c = 49 ∨ c = 73 ∨ c = 109 ∨ c = 163 ∨ c = 244 ∨ c = 366
/-- an object that a list may hold -/
def Zel (sh : Nat → Option Zsh) (r : Nat) : Prop := ∃ c fs, sh r = some (Zob c fs) ∧ zOb.contains c = true
theorem Zel.keep {sh sh' : Nat → Option Zsh} {r : Nat} (h : Zel sh r) (e : sh' r = sh r) : Zel sh' r := by
  obtain ⟨c, fs, h1, h2⟩ := h
  exact ⟨c, fs, e.trans h1, h2⟩
/-- a list, as it may grow -/
def ZLj (sh : Nat → Option Zsh) (xs : Zxs) (t e n : Nat) (tg : Nat → Nat) : Prop := ∃ (cap : Nat) (rf : Nat → Option Nat), sh t = some (Zo18 e) ∧ sh e = some (Zra 3 cap rf) ∧ xs.1 t 2 = nI n ∧ n ≤ cap ∧ Zcap cap ∧ (cap = 0 ↔ e = 50302) ∧ ∀ i, i < n → rf i = some (tg i) ∧ Zel sh (tg i)
theorem Zcap_le {c : Nat} (h : Zcap c) : c ≤ 366 := by unfold Zcap at h; omega
theorem ZLj.li {sh : Nat → Option Zsh} {xs : Zxs} {t e n : Nat} {tg : Nat → Nat} (h : ZLj sh xs t e n tg) : ZLi sh xs t e n tg := by
  obtain ⟨cap, rf, h1, h2, h3, h4, h5, h6, h7⟩ := h
  exact ⟨cap, rf, h1, h2, h3, h4, Zcap_le h5, fun i hi => (h7 i hi).1⟩
/-- shapes stay, but at a list that grows -/
def Zstay (t e T : Nat) (sh sh' : Nat → Option Zsh) : Prop := ∀ u, u ≠ t → u ≠ T → (u ≠ e ∨ e = 50302) → sh' u = sh u
theorem Zcp_ {E : Ze} {sh : Nat → Option Zsh} {xs : Zxs} {a b n0 n1 d n : Nat} {f g : Nat → Option Nat} (ha : sh a = some (Zra 3 n0 f)) (hb : sh b = some (Zra 3 n1 g)) (h0 : n ≤ n0) (h1 : d + n ≤ n1) (hn : n1 < 2 ^ 31) (hf : ∀ i, i < n → ∀ r, f i = some r → Zel sh r) : zcp (ZW E sh xs) (Zl E a) 0 (Zl E b) (nI d) (nI n) = some (ZW E (Zadd sh b (Zra 3 n1 fun i => if d ≤ i ∧ i < d + n then f (i - d) else g i)) xs) := by
  have e1 := ZW_at ha E xs
  have e2 := ZW_at hb E xs
  simp only [Zcell, Zra] at e1 e2
  have c0 : (0 : Int32).toNatClampNeg = 0 := rfl
  have hall : ((List.range n).all fun j => match (fun i => (f i).map (Zl E)) (0 + j) with | none => true | some y => (match (ZW E sh xs).2 y with | some (.inr (c, _)) => zOb.contains c | _ => false)) = true := by
    rw [List.all_eq_true]
    intro j hj
    have hj := List.mem_range.mp hj
    simp only [Nat.zero_add]
    cases e : f j with
    | none => rfl
    | some r =>
      obtain ⟨c, fs, k1, k2⟩ := hf j hj r e
      have e3 := ZW_at k1 E xs
      simp only [Zcell, Zob] at e3
      simp only [Option.map_some, e3, k2]
  simp only [zcp, e1, e2, c0, nI_clamp (show d < 2 ^ 31 by omega), nI_clamp (show n < 2 ^ 31 by omega)]
  rw [if_pos ⟨by decide, nI_pos' (by omega), nI_pos' (by omega), by omega, h1, hall⟩]
  refine congrArg some (Znew (fun _ _ => ⟨rfl, rfl⟩) ?_)
  simp only [Zcell, Zra]
  refine congrArg (fun F => Sum.inl (3, n1, Sum.inr (Sum.inr (Sum.inr (Sum.inr F))))) (funext fun i => ?_)
  simp only [va_cpy]
  by_cases q : d ≤ i ∧ i < d + n
  · rw [if_pos q, if_pos q, Nat.zero_add]
  · rw [if_neg q, if_neg q]
theorem Zarr_ {E : Ze} {sh : Nat → Option Zsh} {xs : Zxs} {t ty n : Nat} {rf : Nat → Option Nat} (h : sh t = some (Zra ty n rf)) : zarr (ZW E sh xs) (Zl E t) ty = some () := by
  have e1 := ZW_at h E xs
  simp only [Zcell, Zra] at e1
  simp only [zarr, e1, if_true]
/-- how a list's array grows -/
def Zgrw (c : Nat) : Nat := c + max 1 (c / 2)
theorem Znewlen : ∀ c, Zcap c → 0 < c → c < 366 → fJ9_newLength (nI c) (nI (c + 1) - nI c) (nI c >>> ((1 : Int32) &&& 31)) = some (nI (Zgrw c)) ∧ zmin (nI c) (nI (Zgrw c)) = nI c ∧ Zcap (Zgrw c) ∧ c < Zgrw c ∧ Zgrw c ≤ 366 := by
  intro c hc h0 h1
  unfold Zcap at hc
  rcases hc with rfl | rfl | rfl | rfl | rfl | rfl | rfl | rfl | rfl | rfl | rfl
  · omega
  all_goals first
    | (refine ⟨by decide +kernel, by decide +kernel, ?_, by decide, by decide⟩; unfold Zcap Zgrw; decide)
    | omega
section AD
variable {E : Ze} {sh : Nat → Option Zsh} {xs : Zxs} {t e n T r c : Nat} {tg : Nat → Nat} {fs : List (Option Nat)}
theorem Zel.ne_arr {u ty m : Nat} {rf : Nat → Option Nat} (h : Zel sh r) (hu : sh u = some (Zra ty m rf)) : r ≠ u := by
  obtain ⟨c, fs, h1, -⟩ := h
  intro g
  rw [g, hu] at h1
  cases h1
theorem Zel.ne_li {u e : Nat} (h : Zel sh r) (hu : sh u = some (Zo18 e)) : r ≠ u := by
  obtain ⟨c, fs, h1, h2⟩ := h
  intro g
  rw [g, hu] at h1
  cases h1
  exact absurd h2 (by decide)
/-- the array has room -/
theorem ZLadd0 (hS : Zshut sh) (h : ZLj sh xs t e n tg) (hr : Zel sh r) (hfree : ∀ cap rf, sh e = some (Zra 3 cap rf) → n < cap) : ∃ sh' xs', ∀ sz, fJ2_add_2 (ZW E sh xs) sz (Zl E t) (Zl E r) (Zl E e) (nI n) = some (ZW E sh' xs', sz) ∧ ZLj sh' xs' t e (n + 1) (fun i => if i = n then r else tg i) ∧ Zshut sh' ∧ (∀ u, u ≠ e → sh' u = sh u) ∧ Zfr (fun u f => u = t ∧ f = 2) (fun _ => False) xs xs' := by
  obtain ⟨cap, rf, h1, h2, h3, h4, h5, h6, h7⟩ := h
  have hlt := hfree cap rf h2
  have hcl := Zcap_le h5
  have hte : t ≠ e := fun g => by rw [g, h2] at h1; cases h1
  obtain ⟨c, fs, k1, k2⟩ := hr
  have hr : Zel sh r := ⟨c, fs, k1, k2⟩
  obtain ⟨sh', hsh⟩ : ∃ sh', sh' = Zadd sh e (Zra 3 cap fun i => if i = n then some r else rf i) := ⟨_, rfl⟩
  have q1 : sh' t = some (Zo18 e) := by rw [hsh, Zadd_o hte]; exact h1
  have ko : ∀ u, u ≠ e → sh' u = sh u := fun u hu => by rw [hsh, Zadd_o hu]
  refine ⟨sh', (zua xs.1 t 2 (nI (n + 1)), xs.2), fun sz => ⟨?_, ⟨cap, fun i => if i = n then some r else rf i, q1, by rw [hsh]; exact Zadd_n, by simp only [zua_ss], by omega, h5, h6, fun i hi => ?_⟩, ?_, ko, Zfr.num Zfr.rfl ⟨rfl, rfl⟩⟩⟩
  · have hne : ¬ nI n = nI cap := fun g => by
      have := (nI_eq (by omega) (by omega)).mp g
      omega
    simp only [fJ2_add_2, Zlr_ h2, Option.bind_some, if_neg hne, Zsr_ h2 k1 k2 hlt (by omega), ← hsh, Zb18 q1, nI_1]
  · by_cases q : i = n
    · simp only [if_pos q]
      exact ⟨trivial, hr.keep (ko _ (hr.ne_arr h2))⟩
    · simp only [if_neg q]
      obtain ⟨a1, a2⟩ := h7 i (by omega)
      exact ⟨a1, a2.keep (ko _ (a2.ne_arr h2))⟩
  · rw [hsh]
    refine hS.add fun u hu => ?_
    obtain ⟨i, hi⟩ := hu
    unfold Zadd
    by_cases g : u = e
    · rw [if_pos g]
      exact fun h => by cases h
    · rw [if_neg g]
      by_cases q : i = n
      · simp only [if_pos q] at hi
        cases hi
        rw [k1]
        exact fun h => by cases h
      · simp only [if_neg q] at hi
        exact hS e _ h2 u ⟨i, hi⟩
/-- the array grows -/
theorem ZLgrow (hS : Zshut sh) (h : ZLj sh xs t e n tg) (hn : n < 366) (hfull : ∀ cap rf, sh e = some (Zra 3 cap rf) → n = cap) (hT : sh T = none) (hT5 : T ≠ 50302) (h2 : E.1 2 = Zl E 50302) : ∃ sh', fJ2_grow (ZW E sh xs) (Zl E T) (Zl E t) = some (ZW E sh' xs, Zl E T + 1, Zl E T) ∧ ZLj sh' xs t T n tg ∧ Zshut sh' ∧ (∀ u, u ≠ t → u ≠ T → sh' u = sh u) ∧ ∀ cap rf, sh' T = some (Zra 3 cap rf) → n < cap := by
  obtain ⟨cap, rf, h1, h2', h3, h4, h5, h6, h7⟩ := h
  have hnc := hfull cap rf h2'
  subst hnc
  have hte : t ≠ e := fun g => by rw [g, h2'] at h1; cases h1
  have htT : t ≠ T := fun g => by rw [g, hT] at h1; cases h1
  have heT : e ≠ T := fun g => by rw [g, hT] at h2'; cases h2'
  by_cases h0 : n = 0
  · subst h0
    have he := h6.mp rfl
    obtain ⟨s1, hs1⟩ : ∃ s1, s1 = Zadd sh T (Zra 3 10 fun _ => none) := ⟨_, rfl⟩
    obtain ⟨s2, hs2⟩ : ∃ s2, s2 = Zadd s1 t (Zo18 T) := ⟨_, rfl⟩
    have q1 : s1 t = some (Zo18 e) := by rw [hs1, Zadd_o htT]; exact h1
    have ko : ∀ u, u ≠ t → u ≠ T → s2 u = sh u := fun u a b => by rw [hs2, Zadd_o a, hs1, Zadd_o b]
    have qT : s2 T = some (Zra 3 10 fun _ => none) := by rw [hs2, Zadd_o htT.symm, hs1, Zadd_n]
    refine ⟨s2, ?_, ⟨10, fun _ => none, by rw [hs2]; exact Zadd_n, qT, h3, by omega, by unfold Zcap; omega, ⟨fun h => absurd h (by decide), fun h => by rw [h, ← he] at heT; exact absurd rfl heT⟩, fun i hi => absurd hi (by omega)⟩, ?_, ko, fun cap rf h => by rw [qT] at h; cases h; omega⟩
    · have z1 : ¬ (0 : Int32) < nI 0 := by decide
      have z2 : zmax (10 : Int32) (nI 0 + 1) = nI 10 := by decide
      have e1 : znR 3 10 (ZW E sh xs) (Zl E T) (nI 10) = some (ZW E s1 xs) := by rw [hs1]; exact Znw_R (by decide) (by decide)
      have e2 : zpv [18] 1 (ZW E s1 xs) (Zl E t) (.ref (Zl E T)) = some (ZW E s2 xs) := by
        rw [hs2]
        exact Zpr_ (fs := [none, some e, none]) q1 rfl (Nat.lt_of_sub_eq_succ rfl)
      rw [he] at h1 h2'
      simp only [fJ2_grow, fJ2_grow_2, Zb18 h1, Option.bind_some, h3, Zlr_ h2', if_neg z1, ZW_fst, h2, if_true, z2, e1, e2, Zesc_r]
    · rw [hs2]
      refine Zshut.add ?_ fun u hu => ?_
      · rw [hs1]
        exact hS.add fun u hu => by obtain ⟨i, hi⟩ := hu; cases hi
      · have : u = T := by
          have hu' : some u ∈ [none, some T, none] := hu
          simpa using hu'
        rw [this, Zadd_o htT.symm, hs1, Zadd_n]
        exact fun h => by cases h
  · obtain ⟨n1, n2, n3, n4, n5⟩ := Znewlen n h5 (by omega) hn
    obtain ⟨s1, hs1⟩ : ∃ s1, s1 = Zadd sh T (Zra 3 (Zgrw n) fun _ => none) := ⟨_, rfl⟩
    obtain ⟨s3, hs3⟩ : ∃ s3, s3 = Zadd s1 T (Zra 3 (Zgrw n) fun i => if 0 ≤ i ∧ i < 0 + n then rf (i - 0) else none) := ⟨_, rfl⟩
    obtain ⟨s2, hs2⟩ : ∃ s2, s2 = Zadd s3 t (Zo18 T) := ⟨_, rfl⟩
    have q1 : s1 e = some (Zra 3 n rf) := by rw [hs1, Zadd_o heT]; exact h2'
    have q2 : s1 T = some (Zra 3 (Zgrw n) fun _ => none) := by rw [hs1, Zadd_n]
    have q3 : s3 t = some (Zo18 e) := by rw [hs3, Zadd_o htT, hs1, Zadd_o htT]; exact h1
    have ko : ∀ u, u ≠ t → u ≠ T → s2 u = sh u := fun u a b => by rw [hs2, Zadd_o a, hs3, Zadd_o b, hs1, Zadd_o b]
    have qT : s2 T = some (Zra 3 (Zgrw n) fun i => if 0 ≤ i ∧ i < 0 + n then rf (i - 0) else none) := by rw [hs2, Zadd_o htT.symm, hs3, Zadd_n]
    have hel : ∀ i, i < n → ∀ r, rf i = some r → Zel s1 r := fun i hi r hr => by
      obtain ⟨a1, a2⟩ := h7 i hi
      rw [a1] at hr
      cases hr
      obtain ⟨a, b, b1, b2⟩ := a2
      refine ⟨a, b, ?_, b2⟩
      rw [hs1]
      exact Zadd_k b1 hT
    refine ⟨s2, ?_, ⟨Zgrw n, _, by rw [hs2]; exact Zadd_n, qT, h3, by omega, n3, ⟨fun h => by omega, fun h => ?_⟩, fun i hi => ?_⟩, ?_, ko, fun cap rf h => by rw [qT] at h; cases h; omega⟩
    · have z1 : (0 : Int32) < nI n := nI_lt (a := 0) (by omega) (by omega)
      have e1 : znR 3 366 (ZW E sh xs) (Zl E T) (nI (Zgrw n)) = some (ZW E s1 xs) := by rw [hs1]; exact Znw_R n5 (by decide)
      have e2 : zcp (ZW E s1 xs) (Zl E e) (0 : Int32) (Zl E T) (0 : Int32) (nI n) = some (ZW E s3 xs) := by
        rw [hs3]
        exact Zcp_ (d := 0) q1 q2 (Nat.le_refl _) (by omega) (by omega) hel
      have e3 : zpv [18] 1 (ZW E s3 xs) (Zl E t) (.ref (Zl E T)) = some (ZW E s2 xs) := by
        rw [hs2]
        exact Zpr_ (fs := [none, some e, none]) q3 rfl (Nat.lt_of_sub_eq_succ rfl)
      simp only [fJ2_grow, fJ2_grow_2, Zb18 h1, Option.bind_some, h3, Zlr_ h2', if_pos z1, Zesc_l, nI_1, n1, fJ11_copyOf, Zarr_ h2', fJ11_copyOf_2, if_true, e1, Zlr_ q1, n2, e2, e3]
    · exact absurd h hT5
    · obtain ⟨a1, a2⟩ := h7 i hi
      refine ⟨by rw [if_pos ⟨Nat.zero_le _, by omega⟩]; exact a1, ?_⟩
      refine a2.keep (ko _ (a2.ne_li h1) fun g => ?_)
      obtain ⟨a, b, b1, b2⟩ := a2
      rw [g, hT] at b1
      cases b1
    · rw [hs2]
      refine Zshut.add ?_ fun u hu => ?_
      · rw [hs3]
        refine Zshut.add ?_ fun u hu => ?_
        · rw [hs1]
          exact hS.add fun u hu => by obtain ⟨i, hi⟩ := hu; cases hi
        · obtain ⟨i, hi⟩ := hu
          simp only at hi
          split at hi
          · unfold Zadd
            split
            · exact fun h => by cases h
            · rename_i g
              rw [hs1, Zadd_o g]
              exact hS e _ h2' u ⟨_, hi⟩
          · cases hi
      · have : u = T := by
          have hu' : some u ∈ [none, some T, none] := hu
          simpa using hu'
        rw [this, Zadd_o htT.symm, hs3, Zadd_n]
        exact fun h => by cases h
/-- one more -/
theorem ZLadd (hS : Zshut sh) (h : ZLj sh xs t e n tg) (hn : n < 366) (hr : Zel sh r) (hT : sh T = none) (hT5 : T ≠ 50302) (h2 : E.1 2 = Zl E 50302) : ∃ sh' xs' e' sz', fJ2_add (ZW E sh xs) (Zl E T) (Zl E t) (Zl E r) = some (ZW E sh' xs', sz', 1) ∧ (e' = e ∨ e' = T) ∧ (sz' = Zl E T ∨ sz' = Zl E T + 1) ∧ (sz' = Zl E T → sh' T = none) ∧ ZLj sh' xs' t e' (n + 1) (fun i => if i = n then r else tg i) ∧ Zshut sh' ∧ Zstay t e T sh sh' ∧ Zfr (fun u f => u = t ∧ (f = 0 ∨ f = 2)) (fun _ => False) xs xs' := by
  have hr0 := hr
  obtain ⟨cap, rf, h1, h2', h3, h4, h5, h6, h7⟩ := h
  obtain ⟨x, hx⟩ : ∃ x : Zxs, x = (zua xs.1 t 0 (xs.1 t 0 + 1), xs.2) := ⟨_, rfl⟩
  have fx : Zfr (fun u f => u = t ∧ (f = 0 ∨ f = 2)) (fun _ => False) xs x := by rw [hx]; exact Zfr.num Zfr.rfl ⟨rfl, Or.inl rfl⟩
  have x2 : x.1 t 2 = nI n := by subst hx; simp only [zua_sn (show 2 ≠ 0 by decide)]; exact h3
  have hj : ZLj sh x t e n tg := ⟨cap, rf, h1, h2', x2, h4, h5, h6, h7⟩
  by_cases g : n < cap
  · obtain ⟨sh', xs', H⟩ := ZLadd0 (E := E) hS hj hr0 (fun cap' rf' q => by rw [h2'] at q; cases q; exact g)
    obtain ⟨e1, k1, k2, k3, k4⟩ := H (Zl E T)
    have hT' : sh' T = none := by
      rw [k3 T (fun q => by rw [q, h2'] at hT; cases hT)]
      exact hT
    refine ⟨sh', xs', e, Zl E T, ?_, Or.inl rfl, Or.inl rfl, fun _ => hT', k1, k2, fun u a b d => ?_, fx.trans (k4.mono (fun u f q => ⟨q.1, Or.inr q.2⟩) fun _ q => q)⟩
    · rw [hx] at e1
      have x2' : (zua xs.1 t 0 (xs.1 t 0 + 1)) t 2 = nI n := by rw [zua_sn (by decide)]; exact h3
      simp only [fJ2_add, Zb18 h1, Option.bind_some, x2', e1]
    · rcases d with d | d
      · exact k3 u d
      · have := h6.mpr d
        omega
  · have hfull : n = cap := by omega
    obtain ⟨s1, e0, j1, S1, o1, f1⟩ := ZLgrow (E := E) hS hj hn (fun cap' rf' q => by rw [h2'] at q; cases q; exact hfull) hT hT5 h2
    have hr1 : Zel s1 r := by
      obtain ⟨c, fs, a1, a2⟩ := hr0
      refine ⟨c, fs, ?_, a2⟩
      rw [o1 r (Zel.ne_li ⟨c, fs, a1, a2⟩ h1) (fun q => by rw [q, hT] at a1; cases a1)]
      exact a1
    obtain ⟨sh', xs', H⟩ := ZLadd0 (E := E) S1 j1 hr1 f1
    obtain ⟨e1, k1, k2, k3, k4⟩ := H (Zl E T + 1)
    refine ⟨sh', xs', T, Zl E T + 1, ?_, Or.inr rfl, Or.inr rfl, fun q => by omega, k1, k2, fun u a b d => by rw [k3 u b, o1 u a b], fx.trans (k4.mono (fun u f q => ⟨q.1, Or.inr q.2⟩) fun _ q => q)⟩
    rw [hx] at e0 e1
    have x2' : (zua xs.1 t 0 (xs.1 t 0 + 1)) t 2 = nI n := by rw [zua_sn (by decide)]; exact h3
    have e1' := e1
    simp only [fJ2_add_2] at e1'
    obtain ⟨capT, rfT, -, qT, -, -, q10, -⟩ := j1
    have hlt := f1 capT rfT qT
    have hclT : capT ≤ 366 := Zcap_le q10
    have hne : ¬ nI n = nI capT := fun g => by
      have := (nI_eq (by omega) (by omega)).mp g
      omega
    simp only [Zlr_ qT, Option.bind_some, if_neg hne] at e1'
    simp only [fJ2_add, Zb18 h1, Option.bind_some, x2', fJ2_add_2, Zlr_ h2', if_pos (congrArg nI hfull), e0, e1']
end AD
