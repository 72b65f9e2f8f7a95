/-! X: a constraint's object, its first half -/
set_option maxRecDepth 100000
def Zsu4 (sh : Nat → Option Zsh) (T1 T2 T3 T4 m : Nat) : Nat → Option Zsh := Zadd (Zadd (Zadd (Zadd sh T1 (Zia 0 m)) T2 (Zia 0 m)) T3 (Zia 0 m)) T4 (Zia 0 m)
theorem Zsu4_o {sh : Nat → Option Zsh} {T1 T2 T3 T4 m u : Nat} (h1 : u ≠ T1) (h2 : u ≠ T2) (h3 : u ≠ T3) (h4 : u ≠ T4) : Zsu4 sh T1 T2 T3 T4 m u = sh u := by
  unfold Zsu4
  rw [Zadd_o h4, Zadd_o h3, Zadd_o h2, Zadd_o h1]
theorem Zsu4_n {sh : Nat → Option Zsh} {T1 T2 T3 T4 m : Nat} : ∀ u, u = T1 ∨ u = T2 ∨ u = T3 ∨ u = T4 → Zsu4 sh T1 T2 T3 T4 m u = some (Zia 0 m) := by
  intro u h
  unfold Zsu4 Zadd
  split
  · rfl
  · split
    · rfl
    · split
      · rfl
      · split
        · rfl
        · rename_i a b c d
          exfalso
          rcases h with h | h | h | h
          · exact d h
          · exact c h
          · exact b h
          · exact a h
/-- a constraint under construction: its fields, four arrays -/
def Zf4 (E : Ze) (fs : List Value) (T1 T2 T3 T4 : Nat) : List Value := (((fs.set 0 (.ref (Zl E T1))).set 1 (.ref (Zl E T2))).set 2 (.ref (Zl E T3))).set 3 (.ref (Zl E T4))
section SU
variable {E : Ze} {sh : Nat → Option Zsh} {xs : Zxs}
theorem ZX_super {To T1 T2 T3 T4 t e m ci sz : Nat} {tg : Nat → Nat} {val : Nat → Int32} {fs : List Value} (hTo : sh To = none) (hd : To ≠ T1 ∧ To ≠ T2 ∧ To ≠ T3 ∧ To ≠ T4 ∧ T1 ≠ T2 ∧ T1 ≠ T3 ∧ T1 ≠ T4 ∧ T2 ≠ T3 ∧ T2 ≠ T4 ∧ T3 ≠ T4) (hn : sh T1 = none ∧ sh T2 = none ∧ sh T3 = none ∧ sh T4 = none) (hci : zcs.contains ci = true) (hfs : 4 ≤ fs.length) (hl : ZLi sh xs t e m tg) (hm : m ≤ 8) (hv : ∀ i, i < m → sh (tg i) = some Zo19 ∧ xs.1 (tg i) 0 = val i) (s1 : Zl E T1 = sz) (s2 : Zl E T2 = sz + 1) (s3 : Zl E T3 = sz + 2) (s4 : Zl E T4 = sz + 3) (N : Nat) (hN : 1000 ≤ N) :
    ∃ xs', fX9_init N (ZW (Zput E (Zl E To) (.inr (ci, fs))) sh xs) sz (Zl E To) (Zl E t) = some (ZW (Zput E (Zl E To) (.inr (ci, Zf4 E fs T1 T2 T3 T4))) (Zsu4 sh T1 T2 T3 T4 m) xs', sz + 4) ∧ xs'.1 = xs.1 ∧ (∀ u, u ≠ T1 → u ≠ T2 → u ≠ T3 → u ≠ T4 → xs'.2 u = xs.2 u) ∧ ∀ i, i < m → xs'.2 T1 i = val i := by
  obtain ⟨d1, d2, d3, d4, d5, d6, d7, d8, d9, d10⟩ := hd
  obtain ⟨g1, g2, g3, g4⟩ := hn
  obtain ⟨cap, rf, l1, l2, l3, l4, l5, l6⟩ := hl
  have hl : ZLi sh xs t e m tg := ⟨cap, rf, l1, l2, l3, l4, l5, l6⟩
  have tn : ∀ u s, sh u = some s → u ≠ T1 ∧ u ≠ T2 ∧ u ≠ T3 ∧ u ≠ T4 := fun u s h => ⟨fun q => (by rw [q, g1] at h; cases h), fun q => (by rw [q, g2] at h; cases h), fun q => (by rw [q, g3] at h; cases h), fun q => (by rw [q, g4] at h; cases h)⟩
  -- one array
  have step : ∀ (s : Nat → Option Zsh) (x : Zxs) (f : List Value) (k T : Nat), s To = none → To ≠ T → k < f.length → (znA 0 8 (ZW (Zput E (Zl E To) (.inr (ci, f))) s x) (Zl E T) (nI m)) = some (ZW (Zput E (Zl E To) (.inr (ci, f))) (Zadd s T (Zia 0 m)) (x.1, Zs2 x.2 T fun _ => 0)) ∧ zpv zcs k (ZW (Zput E (Zl E To) (.inr (ci, f))) (Zadd s T (Zia 0 m)) (x.1, Zs2 x.2 T fun _ => 0)) (Zl E To) (.ref (Zl E T)) = some (ZW (Zput E (Zl E To) (.inr (ci, f.set k (.ref (Zl E T))))) (Zadd s T (Zia 0 m)) (x.1, Zs2 x.2 T fun _ => 0)) := fun s x f k T h0 h1 hk => by
    refine ⟨Znw_A (E := Zput E (Zl E To) (.inr (ci, f))) (T := T) (by decide) hm (by decide), ?_⟩
    exact Zraw_p (by rw [Zadd_o h1]; exact h0) hci hk _
  obtain ⟨x1, hx1⟩ : ∃ x : Zxs, x = (xs.1, Zs2 xs.2 T1 fun _ => 0) := ⟨_, rfl⟩
  obtain ⟨x2, hx2⟩ : ∃ x : Zxs, x = (x1.1, Zs2 x1.2 T2 fun _ => 0) := ⟨_, rfl⟩
  obtain ⟨x3, hx3⟩ : ∃ x : Zxs, x = (x2.1, Zs2 x2.2 T3 fun _ => 0) := ⟨_, rfl⟩
  obtain ⟨x4, hx4⟩ : ∃ x : Zxs, x = (x3.1, Zs2 x3.2 T4 fun _ => 0) := ⟨_, rfl⟩
  obtain ⟨h1, hh1⟩ : ∃ s, s = Zadd sh T1 (Zia 0 m) := ⟨_, rfl⟩
  obtain ⟨h2, hh2⟩ : ∃ s, s = Zadd h1 T2 (Zia 0 m) := ⟨_, rfl⟩
  obtain ⟨h3, hh3⟩ : ∃ s, s = Zadd h2 T3 (Zia 0 m) := ⟨_, rfl⟩
  obtain ⟨h4, hh4⟩ : ∃ s, s = Zadd h3 T4 (Zia 0 m) := ⟨_, rfl⟩
  obtain ⟨f1, hf1⟩ : ∃ f, f = fs.set 0 (.ref (Zl E T1)) := ⟨_, rfl⟩
  obtain ⟨f2, hf2⟩ : ∃ f, f = f1.set 1 (.ref (Zl E T2)) := ⟨_, rfl⟩
  obtain ⟨f3, hf3⟩ : ∃ f, f = f2.set 2 (.ref (Zl E T3)) := ⟨_, rfl⟩
  obtain ⟨f4, hf4⟩ : ∃ f, f = f3.set 3 (.ref (Zl E T4)) := ⟨_, rfl⟩
  have n1 : f1.length = fs.length := by rw [hf1, List.length_set]
  have n2 : f2.length = fs.length := by rw [hf2, List.length_set, n1]
  have n3 : f3.length = fs.length := by rw [hf3, List.length_set, n2]
  have o1 : h1 To = none := by rw [hh1, Zadd_o d1]; exact hTo
  have o2 : h2 To = none := by rw [hh2, Zadd_o d2]; exact o1
  have o3 : h3 To = none := by rw [hh3, Zadd_o d3]; exact o2
  have o4 : h4 To = none := by rw [hh4, Zadd_o d4]; exact o3
  obtain ⟨a1, b1⟩ := step sh xs fs 0 T1 hTo d1 (by omega)
  obtain ⟨a2, b2⟩ := step h1 x1 f1 1 T2 o1 d2 (by omega)
  obtain ⟨a3, b3⟩ := step h2 x2 f2 2 T3 o2 d3 (by omega)
  obtain ⟨a4, b4⟩ := step h3 x3 f3 3 T4 o3 d4 (by omega)
  rw [← hh1, ← hx1] at a1 b1
  rw [← hh2, ← hx2] at a2 b2
  rw [← hh3, ← hx3] at a3 b3
  rw [← hh4, ← hx4] at a4 b4
  rw [← hf1] at b1
  rw [← hf2] at b2
  rw [← hf3] at b3
  rw [← hf4] at b4
  have e0 : ∀ (s : Nat → Option Zsh) (x : Zxs) (f : List Value), s To = none → f[0]? = some (.ref (Zl E T1)) → zgR zcs 0 (ZW (Zput E (Zl E To) (.inr (ci, f))) s x) (Zl E To) = some (Zl E T1) := fun s x f a b => Zraw_g a hci b
  have z1 : f1[0]? = some (.ref (Zl E T1)) := by rw [hf1, List.getElem?_set_self (by omega)]
  have z2 : f2[0]? = some (.ref (Zl E T1)) := by rw [hf2, List.getElem?_set_ne (by decide)]; exact z1
  have z3 : f3[0]? = some (.ref (Zl E T1)) := by rw [hf3, List.getElem?_set_ne (by decide)]; exact z2
  have z4 : f4[0]? = some (.ref (Zl E T1)) := by rw [hf4, List.getElem?_set_ne (by decide)]; exact z3
  have t1 : h1 T1 = some (Zia 0 m) := by rw [hh1]; exact Zadd_n
  have t2 : h2 T1 = some (Zia 0 m) := by rw [hh2, Zadd_o d5]; exact t1
  have t3 : h3 T1 = some (Zia 0 m) := by rw [hh3, Zadd_o d6]; exact t2
  have t4 : h4 T1 = some (Zia 0 m) := by rw [hh4, Zadd_o d7]; exact t3
  have ln : ∀ (s : Nat → Option Zsh) (x : Zxs) (f : List Value), s T1 = some (Zia 0 m) → zln (ZW (Zput E (Zl E To) (.inr (ci, f))) s x) (Zl E T1) = some (nI m) := fun s x f h => Zln_ h (Zput E (Zl E To) (.inr (ci, f))) x
  have kh4 : ∀ u s, sh u = some s → h4 u = some s := fun u s h => by
    obtain ⟨q1, q2, q3, q4⟩ := tn u s h
    rw [hh4, Zadd_o q4, hh3, Zadd_o q3, hh2, Zadd_o q2, hh1, Zadd_o q1]
    exact h
  have x41 : x4.1 = xs.1 := by rw [hx4, hx3, hx2, hx1]
  have x42 : ∀ u, u ≠ T1 → u ≠ T2 → u ≠ T3 → u ≠ T4 → x4.2 u = xs.2 u := fun u q1 q2 q3 q4 => by
    rw [hx4, hx3, hx2, hx1]
    show Zs2 (Zs2 (Zs2 (Zs2 xs.2 T1 _) T2 _) T3 _) T4 _ u = _
    rw [Zs2_o q4, Zs2_o q3, Zs2_o q2, Zs2_o q1]
  have I := Zl_inv (body := fX9_init_L51 sz (Zl E To) (Zl E t)) (fun i a => ∃ y : Zxs, a = (ZW (Zput E (Zl E To) (.inr (ci, f4))) h4 y, nI i) ∧ y.1 = x4.1 ∧ (∀ u, u ≠ T1 → y.2 u = x4.2 u) ∧ ∀ k, k < i → y.2 T1 k = val k) m (fun r => ∃ y : Zxs, r = (ZW (Zput E (Zl E To) (.inr (ci, f4))) h4 y, sz + 4) ∧ y.1 = x4.1 ∧ (∀ u, u ≠ T1 → y.2 u = x4.2 u) ∧ ∀ k, k < m → y.2 T1 k = val k)
    (by
      rintro i a hi ⟨y, rfl, y1, y2, y3⟩
      have hl4 : ZLi h4 y t e m tg := ⟨cap, rf, kh4 _ _ l1, kh4 _ _ l2, by rw [y1, x41]; exact l3, l4, l5, l6⟩
      obtain ⟨v1, v2⟩ := hv i hi
      have k19 := kh4 _ _ v1
      have eg := ZLget hl4 (Zput E (Zl E To) (.inr (ci, f4))) hi
      have ei := ZLis hl4 (Zput E (Zl E To) (.inr (ci, f4)))
      have es := (ZbI t4 (by omega)).2.1 (Zput E (Zl E To) (.inr (ci, f4))) y i (val i) hi
      have e19 := (Zb19 k19).1 (Zput E (Zl E To) (.inr (ci, f4))) y
      have e19' := (Zb19 k19).2 (Zput E (Zl E To) (.inr (ci, f4))) y
      have yv : y.1 (tg i) 0 = val i := by rw [y1, x41]; exact v2
      simp only [Zput_l] at eg ei es e19 e19'
      simp only [fX9_init_L51, e0 h4 y f4 o4 z4, ln h4 y f4 t4, Option.bind_some, if_neg (nI_ge hi (show m < 2 ^ 31 by omega)), ei, eg, e19, fJ18_intValue, e19', yv, es, nI_1]
      refine ⟨_, rfl, _, rfl, y1, fun u hu => ?_, fun k hk => ?_⟩
      · simp only [zua_n hu]
        exact y2 u hu
      · simp only [zua_s]
        by_cases q : k = i
        · rw [if_pos q, q]
        · rw [if_neg q]
          exact y3 k (by omega))
    (by
      rintro a ⟨y, rfl, y1, y2, y3⟩
      simp only [fX9_init_L51, e0 h4 y f4 o4 z4, ln h4 y f4 t4, Option.bind_some, if_pos (nI_le (Nat.le_refl _) (show m < 2 ^ 31 by omega))]
      exact ⟨_, rfl, y, rfl, y1, y2, y3⟩)
    N (ZW (Zput E (Zl E To) (.inr (ci, f4))) h4 x4, 0) (by omega) ⟨x4, rfl, rfl, fun _ _ => rfl, fun k hk => absurd hk (by omega)⟩
  obtain ⟨r, e1, y, rfl, y1, y2, y3⟩ := I
  have hsu : Zsu4 sh T1 T2 T3 T4 m = h4 := by rw [hh4, hh3, hh2, hh1]; rfl
  have hf : Zf4 E fs T1 T2 T3 T4 = f4 := by rw [hf4, hf3, hf2, hf1]; rfl
  rw [hsu, hf]
  refine ⟨y, ?_, y1.trans x41, fun u q1 q2 q3 q4 => (y2 u q1).trans (x42 u q1 q2 q3 q4), y3⟩
  have ei := ZLis hl (Zput E (Zl E To) (.inr (ci, fs)))
  have es := ZLsize hl (Zput E (Zl E To) (.inr (ci, fs)))
  simp only [Zput_l] at ei es
  rw [s1] at a1 b1 e0 ln
  rw [s2] at a2 b2
  rw [s3] at a3 b3
  rw [s4] at a4 b4
  have y1' := e0 h1 x1 f1 o1 (by rw [← s1]; exact z1)
  have y2' := e0 h2 x2 f2 o2 (by rw [← s1]; exact z2)
  have y3' := e0 h3 x3 f3 o3 (by rw [← s1]; exact z3)
  simp only [fX9_init, ei, es, Option.bind_some, a1, b1, y1', ln h1 x1 f1 t1, a2, b2, y2', ln h2 x2 f2 t2, a3, b3, y3', ln h3 x3 f3 t3, a4, b4, e1]
end SU
