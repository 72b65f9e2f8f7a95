/-! a row is taken: main gets a new list -/
set_option maxRecDepth 100000
def Zmn4 (a b c d : Nat) : Zsh := Zo0 2 4 a b c d 14 18 23 28 32 33 34 35 36 40 41 42 43 54 58 59 60
def ZmnF (a b c d : Nat) : List (Option Nat) := match Zmn4 a b c d with
  | .inr (.inr (_, fs)) => fs
  | _ => []
theorem Zmn4_F (a b c d : Nat) : Zmn4 a b c d = Zob 0 (ZmnF a b c d) := rfl
theorem ZmnF_len (a b c d : Nat) : (ZmnF a b c d).length = 36 := rfl
theorem Zmn4_set {a b c d j T : Nat} (h2 : 2 ≤ j) (h6 : j < 6) : Zob 0 ((ZmnF a b c d).set j (some T)) = Zmn4 (if j = 2 then T else a) (if j = 3 then T else b) (if j = 4 then T else c) (if j = 5 then T else d) := by
  have hj : j = 2 ∨ j = 3 ∨ j = 4 ∨ j = 5 := by omega
  rcases hj with rfl | rfl | rfl | rfl <;> rfl
theorem Zmn4_fld {sh : Nat → Option Zsh} {a b c d : Nat} (h : sh 1 = some (Zmn4 a b c d)) : Zfld sh 1 2 = a ∧ Zfld sh 1 3 = b ∧ Zfld sh 1 4 = c ∧ Zfld sh 1 5 = d := by
  unfold Zfld
  rw [h]
  exact ⟨rfl, rfl, rfl, rfl⟩
section TA
variable {E E' : Ze} {sh sh' : Nat → Option Zsh} {xs xs' : Zxs} {P P' : ZP} {L : ZL} {st st' : zMS} {g : Nat} {n : Nat → Nat} {tg : Nat → Nat → Nat}
/-- a new list -/
theorem ZX_nl {T : Nat} (hT : sh T = none) (h2 : E.1 2 = Zl E 50302) : fJ2_init (zset (ZW E sh xs) (Zl E T) (.inr (18, zfd18))) (Zl E T) = some (ZW E (Zadd sh T (Zo18 50302)) (Zs2 xs.1 T fun _ => 0, xs.2)) := by
  rw [Zput_eq hT]
  have e1 := Zraw_p (E := E) (xs := xs) (cs := [18]) (c := 18) (f := 0) (fs := zfd18) hT rfl (by decide) (.int 0)
  have e2 := Zraw_p (E := E) (xs := xs) (cs := [18]) (c := 18) (f := 1) (fs := zfd18.set 0 (.int 0)) hT rfl (by decide) (.ref (Zl E 50302))
  have e3 : ∀ F : Ze, F.1 = E.1 → ∀ s x, (ZW F s x).1 2 = Zl E 50302 := fun F hF s x => by
    rw [ZW_fst, hF]
    exact h2
  simp only [fJ2_init, fJ1_init, fJ0_init, Option.bind_some, e1]
  rw [e3 (Zput E (Zl E T) (.inr (18, zfd18.set 0 (.int 0)))) rfl, e2]
  refine congrArg some (Zadopt (xs' := (Zs2 xs.1 T fun _ => 0, xs.2)) hT (fun t ht => ⟨Zs2_o ht, rfl⟩) ?_)
  simp only [Zcell, Zo18, Zob, zfd18, List.mapIdx_cons, List.mapIdx_nil, Zfv, Zs2_n, List.set]
/-- main's shape after list j is new -/
def Zshj (sh : Nat → Option Zsh) (j T : Nat) : Nat → Option Zsh := Zadd (Zadd sh T (Zo18 50302)) 1 (Zob 0 ((ZmnF (Zfld sh 1 2) (Zfld sh 1 3) (Zfld sh 1 4) (Zfld sh 1 5)).set j (some T)))
theorem ZX_setj {j T : Nat} (hm : sh 1 = some (Zmain sh)) (hT : sh T = none) (h6 : j < 6) {x : Zxs} : zpv [0] j (ZW E (Zadd sh T (Zo18 50302)) x) (Zl E 1) (.ref (Zl E T)) = some (ZW E (Zshj sh j T) x) := by
  have h1 : Zadd sh T (Zo18 50302) 1 = some (Zob 0 (ZmnF (Zfld sh 1 2) (Zfld sh 1 3) (Zfld sh 1 4) (Zfld sh 1 5))) := by
    rw [Zadd_k hm hT]
    rfl
  exact Zpr_ h1 rfl (by rw [ZmnF_len]; omega)
/-- list j is taken -/
theorem ZB_take (hB : ZB E sh xs P g n tg) (hnc : Znc P ≤ 24) (hnv : Znv P ≤ 10) {j T : Nat} (h2 : 2 ≤ j) (h6 : j < 6) (hTd : T = 1000000 + 100 * g + (2 * j + 2)) {x : Zxs} (hx : x = (Zs2 xs.1 T fun _ => 0, xs.2)) :
    ZB E (Zshj sh j T) x P (g + 1) (fun i => if i = j then 0 else n i) tg ∧ ZLj (Zshj sh j T) x (Ztj sh j) (Zej sh j) (n j) (tg j) ∧ Zext sh (Zshj sh j T) xs x ∧ Zexo E E sh (Zshj sh j T) xs x ∧ x.1 1 = xs.1 1 ∧ (∀ u, u ≠ 1 → u ≠ T → Zshj sh j T u = sh u) ∧ (∀ i, i < 6 → Ztj (Zshj sh j T) i = if i = j then T else Ztj sh i) ∧ (∀ c, c < Znc P → Zso P c = 3 ∨ Zso P c = 5 → Zcls3 sh (Zshj sh j T) xs x c) := by
  obtain ⟨b1, b2, b3, b4, b5, b6⟩ := hB
  have hT : sh T = none := by
    rw [hTd]
    exact ZB.fresh ⟨b1, b2, b3, b4, b5, b6⟩ hnc hnv (by omega) g (Nat.le_refl _)
  have hT1 : (1 : Nat) ≠ T := by omega
  obtain ⟨sh2, hsh2⟩ : ∃ s, s = Zshj sh j T := ⟨_, rfl⟩
  have m2 : sh2 1 = some (Zmn4 (if j = 2 then T else Zfld sh 1 2) (if j = 3 then T else Zfld sh 1 3) (if j = 4 then T else Zfld sh 1 4) (if j = 5 then T else Zfld sh 1 5)) := by
    rw [hsh2, ← Zmn4_set h2 h6]
    exact Zadd_n
  have keep : ∀ u, u ≠ 1 → u ≠ T → sh2 u = sh u := fun u a b => by
    rw [hsh2]
    show Zadd (Zadd sh T (Zo18 50302)) 1 _ u = _
    rw [Zadd_o a, Zadd_o b]
  have sT : sh2 T = some (Zo18 50302) := by
    rw [hsh2]
    show Zadd (Zadd sh T (Zo18 50302)) 1 _ T = _
    rw [Zadd_o hT1.symm, Zadd_n]
  have live : ∀ {u s}, sh u = some s → u ≠ T := fun h q => by rw [q, hT] at h; cases h
  have kp : ∀ u s, sh u = some s → u ≠ 1 → sh2 u = some s ∧ x.1 u = xs.1 u ∧ x.2 u = xs.2 u := fun u s h h1 => by
    have := live h
    refine ⟨by rw [keep u h1 this]; exact h, ?_, ?_⟩
    · rw [hx]
      exact Zs2_o this
    · rw [hx]
  have x1 : x.1 1 = xs.1 1 := by rw [hx]; exact Zs2_o hT1
  have hex : Zext sh sh2 xs x := fun u s h h1 _ => kp u s h h1
  obtain ⟨f2, f3, f4, f5⟩ := Zmn4_fld m2
  have tj : ∀ i, i < 6 → Ztj sh2 i = if i = j then T else Ztj sh i := fun i hi => by
    have ci : i = 0 ∨ i = 1 ∨ i = 2 ∨ i = 3 ∨ i = 4 ∨ i = 5 := by omega
    rcases ci with rfl | rfl | rfl | rfl | rfl | rfl
    · rw [if_neg (by omega)]
      rfl
    · rw [if_neg (by omega)]
      rfl
    · show Zfld sh2 1 2 = _
      rw [f2]
      by_cases q : j = 2
      · rw [if_pos q, if_pos q.symm]
      · rw [if_neg q, if_neg (fun h => q h.symm)]
        rfl
    · show Zfld sh2 1 3 = _
      rw [f3]
      by_cases q : j = 3
      · rw [if_pos q, if_pos q.symm]
      · rw [if_neg q, if_neg (fun h => q h.symm)]
        rfl
    · show Zfld sh2 1 4 = _
      rw [f4]
      by_cases q : j = 4
      · rw [if_pos q, if_pos q.symm]
      · rw [if_neg q, if_neg (fun h => q h.symm)]
        rfl
    · show Zfld sh2 1 5 = _
      rw [f5]
      by_cases q : j = 5
      · rw [if_pos q, if_pos q.symm]
      · rw [if_neg q, if_neg (fun h => q h.symm)]
        rfl
  have hne1 : ∀ i, i < 6 → Ztj sh i ≠ 1 ∧ Zej sh i ≠ 1 := fun i hi => by
    have k1 := (b4 i hi).1.t
    obtain ⟨cap, rf, k2⟩ := (b4 i hi).1.e
    refine ⟨fun q => ?_, fun q => ?_⟩
    · rw [q, b6] at k1
      cases k1
    · rw [q, b6] at k2
      cases k2
  have tjs : ∀ i, i < 6 → sh2 (Ztj sh i) = sh (Ztj sh i) ∧ sh2 (Zej sh i) = sh (Zej sh i) ∧ x.1 (Ztj sh i) = xs.1 (Ztj sh i) := fun i hi => by
    have k1 := (b4 i hi).1.t
    obtain ⟨cap, rf, k2⟩ := (b4 i hi).1.e
    obtain ⟨q1, q2⟩ := hne1 i hi
    exact ⟨keep _ q1 (live k1), keep _ q2 (live k2), (kp _ _ k1 q1).2.1⟩
  have elk : ∀ r, Zel sh r → r ≠ 1 → sh2 r = sh r := fun r hr h1 => by
    obtain ⟨c, fs, q1, q2⟩ := hr
    exact keep r h1 (live q1)
  have oldl : ∀ i, i < 6 → ZLj sh2 x (Ztj sh i) (Zej sh i) (n i) (tg i) := fun i hi => by
    obtain ⟨a1, a2, a3⟩ := tjs i hi
    refine (b4 i hi).1.keep a1 a2 (by rw [a3]) fun r hr => elk r hr fun q => ?_
    obtain ⟨c, fs, q1, q2⟩ := hr
    rw [q, b6] at q1
    cases q1
    exact absurd q2 (by decide)
  have ej : ∀ i, i < 6 → Zej sh2 i = if i = j then 50302 else Zej sh i := fun i hi => by
    unfold Zej
    rw [tj i hi]
    by_cases q : i = j
    · rw [if_pos q, if_pos q]
      exact Zfld_o sT
    · rw [if_neg q, if_neg q]
      exact Zfld_c (tjs i hi).1
  have hcs : ∀ c, c < Znc P → Zso P c = 3 ∨ Zso P c = 5 → Zcls3 sh sh2 xs x c := fun c hc hs => by
    obtain ⟨⟨f1, -, -, -⟩, f5, f6, -⟩ := b5 c hc hs
    have hlv : ∀ u, sh u ≠ none → ∃ s, sh u = some s := fun u hu => by
      cases q : sh u with
      | none => exact absurd q hu
      | some s => exact ⟨s, rfl⟩
    obtain ⟨s, hs1⟩ := hlv _ f5
    obtain ⟨k1, k2, -⟩ := kp _ _ hs1 (by omega)
    refine ⟨k1.trans hs1.symm, ?_, by rw [k2]⟩
    have : sh (Zfld sh (ZtL sh c) 1) ≠ none ∧ Zfld sh (ZtL sh c) 1 ≠ 1 := by
      rcases f6 with f6 | ⟨f6, -, f8, -⟩
      · rw [f6]
        exact ⟨b3.ne, by decide⟩
      · exact ⟨f8, by omega⟩
    obtain ⟨s', hs2⟩ := hlv _ this.1
    exact (kp _ _ hs2 this.2).1.trans hs2.symm
  rw [← hsh2]
  refine ⟨⟨?_, fun t ht => ?_, ?_, fun i hi => ?_, fun c hc hs => ?_, ?_⟩, oldl j h6, hex, ⟨fun u s h _ h1 _ _ => kp u s h h1, fun f _ => by rw [x1], rfl, fun _ _ => rfl⟩, x1, keep, tj, hcs⟩
  · intro t s h r hr
    have lv : ∀ u, sh u ≠ none → sh2 u ≠ none := fun u hu => by
      by_cases q : u = 1
      · rw [q, m2]
        exact fun h => by cases h
      · rw [keep u q (fun q => hu (by rw [q]; exact hT))]
        exact hu
    by_cases q : t = 1
    · rw [q, m2] at h
      cases h
      have hm1 := b6
      have : r = T ∨ sh r ≠ none := by
        by_cases q2 : r = T
        · exact Or.inl q2
        · right
          rw [← Zmn4_set h2 h6] at hr
          have hr' : some r ∈ (ZmnF (Zfld sh 1 2) (Zfld sh 1 3) (Zfld sh 1 4) (Zfld sh 1 5)).set j (some T) := hr
          rcases List.mem_or_eq_of_mem_set hr' with q3 | q3
          · exact b1 1 _ hm1 r q3
          · cases q3
            exact absurd rfl q2
      rcases this with q2 | q2
      · rw [q2, sT]
        exact fun h => by cases h
      · exact lv r q2
    · by_cases q2 : t = T
      · rw [q2, sT] at h
        cases h
        have : r = 50302 := by
          have hr' : some r ∈ [none, some 50302, none] := hr
          simpa using hr'
        rw [this]
        exact lv _ b3.ne
      · rw [keep t q q2] at h
        exact lv r (b1 t s h r hr)
  · by_cases q : t = T
    · rw [q, hTd]
      unfold Zdt
      omega
    · by_cases q1 : t = 1
      · rw [q1]
        unfold Zdt
        omega
      · rw [keep t q1 q] at ht
        exact (b2 t ht).up (Nat.le_refl _) (Nat.le_refl _) (Nat.le_succ _)
  · obtain ⟨⟨s1, s2⟩, ⟨s3, s4⟩, s5, s6⟩ := b3
    refine ⟨⟨s1, (kp _ _ s2 (by decide)).1⟩, ⟨s3, (kp _ _ s4 (by decide)).1⟩, fun i hi => ?_, fun i hi hi2 => ⟨(s6 i hi hi2).1, (kp _ _ (s6 i hi hi2).2 (by omega)).1⟩⟩
    · obtain ⟨a, b⟩ := s5 i hi
      obtain ⟨c, d, -⟩ := kp _ _ a (by omega)
      exact ⟨c, by rw [d]; exact b⟩
  · rw [tj i hi, ej i hi]
    by_cases q : i = j
    · subst q
      rw [if_pos rfl, if_pos rfl]
      simp only [if_true]
      exact ⟨⟨0, fun _ => none, sT, (kp _ _ b3.1.2 (by decide)).1, by rw [hx]; simp only [Zs2_n]; rfl, Nat.le_refl _, Or.inl rfl, ⟨fun _ => rfl, fun _ => rfl⟩, fun k hk => absurd hk (by omega)⟩, Or.inl trivial, fun _ => by omega⟩
    · rw [if_neg q, if_neg q]
      simp only [if_neg q]
      obtain ⟨a1, a2, a3⟩ := b4 i hi
      exact ⟨oldl i hi, a2, a3⟩
  · obtain ⟨⟨f1, f2', f3', f4'⟩, f5', f6, f7, f8⟩ := b5 c hc hs
    obtain ⟨z1, z2, z3⟩ := hcs c hc hs
    have c1 : 1000 * (c + 1) ≠ T := fun q => f7 (by rw [q]; exact hT)
    have e0 : sh2 (1000 * (c + 1)) = sh (1000 * (c + 1)) := keep _ (by omega) c1
    have e1 : ZtL sh2 c = ZtL sh c := by unfold ZtL; rw [Zfld_c e0]
    have e2 : Zfld sh2 (ZtL sh2 c) 1 = Zfld sh (ZtL sh c) 1 := by rw [e1, Zfld_c z1]
    rw [e2, e1, z1, z2, e0, tj 4 (by decide), tj 5 (by decide), ej 4 (by decide), ej 5 (by decide)]
    have nT : ZtL sh c ≠ T := fun q => f5' (by rw [q]; exact hT)
    refine ⟨⟨f1, f2', ?_, ?_⟩, f5', ?_, f7, f8⟩
    · split
      · exact nT
      · exact f3'
    · split
      · exact nT
      · exact f4'
    · refine f6.imp id fun ⟨g1, g2, g3, g4, g5⟩ => ⟨g1, g2, g3, ?_, ?_⟩
      · split
        · omega
        · exact g4
      · split
        · omega
        · exact g5
  · rw [m2]
    have : Zmain sh2 = Zmn4 (Zfld sh2 1 2) (Zfld sh2 1 3) (Zfld sh2 1 4) (Zfld sh2 1 5) := rfl
    rw [this, f2, f3, f4, f5]
end TA
