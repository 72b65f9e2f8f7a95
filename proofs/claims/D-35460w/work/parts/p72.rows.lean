/-! what both know; names and numbers told -/
set_option maxRecDepth 100000
/-- the rows -/
def ZRo (sh : Nat → Option Zsh) (xs : Zxs) (st : zMS) (P : ZP) (n : Nat → Nat) (tg : Nat → Nat → Nat) : Prop :=
  (n 0 = Znv P ∧ ∀ i, i < Znv P → tg 0 i = 100 + i) ∧ (n 1 = Znc P ∧ ∀ c, c < Znc P → tg 1 c = 1000 * (c + 1)) ∧
  (n 2 ≤ 6 ∧ st.1 5 = nI (n 2) ∧ ∀ i, i < n 2 → ∃ v, v < Znv P ∧ tg 2 i = 60000 + (128 + v) ∧ st.2 6 i = nI v) ∧
  (n 3 ≤ 6 ∧ st.1 7 = nI (n 3) ∧ ∀ i, i < n 3 → ∃ k, 119 ≤ k ∧ k ≤ 137 ∧ tg 3 i = 60000 + k ∧ st.2 8 i = nI k - 128) ∧
  (n 4 ≤ 16 ∧ st.1 9 = nI (n 4) ∧ ∀ i, i < n 4 → 1000000 ≤ tg 4 i ∧ sh (tg 4 i) = some Zo6 ∧ ∃ a b d, a ≤ 5 ∧ b ≤ 15 ∧ d ≤ 5 ∧ xs.1 (tg 4 i) 0 = nI a ∧ xs.1 (tg 4 i) 1 = nI b ∧ xs.1 (tg 4 i) 2 = nI d ∧ st.2 10 (3 * i) = nI a ∧ st.2 10 (3 * i + 1) = nI b ∧ st.2 10 (3 * i + 2) = nI d) ∧
  (n 5 ≤ 6 ∧ st.1 11 = nI (n 5) ∧ ∀ i, i < n 5 → 1000000 ≤ tg 5 i ∧ sh (tg 5 i) = some Zo7 ∧ ∃ v k, ∃ b : Int32, v < Znv P ∧ Zkd P v ≤ 2 ∧ k < 32 ∧ (b = 0 ∨ b = 1) ∧ xs.1 (tg 5 i) 0 = nI v ∧ xs.1 (tg 5 i) 1 = nI k ∧ xs.1 (tg 5 i) 2 = b ∧ st.2 12 i = nI v ∧ st.2 13 i = nI k ∧ st.2 14 i = b)
/-- what both know -/
def ZA (E : Ze) (sh : Nat → Option Zsh) (xs : Zxs) (st : zMS) (P : ZP) (L : ZL) (g : Nat) : Prop := ∃ n tg, ZPD E sh xs st P L ∧ ZSr P xs st ∧ ZB E sh xs P g n tg ∧ ZRo sh xs st P n tg
/-- what telling leaves as it is, of X -/
def Zexo (E E' : Ze) (sh sh' : Nat → Option Zsh) (xs xs' : Zxs) : Prop := (∀ u s, sh u = some s → (u < 1000000 ∨ 20 ≤ u % 100) → u ≠ 1 → u ≠ 2 → u ≠ 4 → sh' u = some s ∧ xs'.1 u = xs.1 u ∧ xs'.2 u = xs.2 u) ∧ (∀ f, f ≠ 10 → xs'.1 1 f = xs.1 1 f) ∧ E'.1 = E.1 ∧ ∀ t, sh t ≠ none → Zl E' t = Zl E t
theorem Zexo.rfl {E : Ze} {sh : Nat → Option Zsh} {xs : Zxs} : Zexo E E sh sh xs xs := ⟨fun _ _ h _ _ _ _ => ⟨h, Eq.refl _, Eq.refl _⟩, fun _ _ => Eq.refl _, Eq.refl _, fun _ _ => Eq.refl _⟩
section RO
variable {E E' : Ze} {sh sh' : Nat → Option Zsh} {xs xs' : Zxs} {P : ZP} {L : ZL} {st st' : zMS} {g : Nat} {n : Nat → Nat} {tg : Nat → Nat → Nat}
theorem ZPD.ext (h : ZPD E sh xs st P L) (hE : E'.1 = E.1) (hZ : ∀ t, sh t ≠ none → Zl E' t = Zl E t) (hx : Zext sh sh' xs xs') (hm : sh' 1 = some (Zmain sh')) (h2 : ∃ e, ZLi sh' xs' 2 e (Znv P) fun i => 100 + i) (h4 : ∃ e, ZLi sh' xs' 4 e (Znc P) fun c => 1000 * (c + 1)) (hl : ∀ c, c < Znc P → Zso P c = 3 ∨ Zso P c = 5 → Zcls3 sh sh' xs xs' c) (h1 : xs'.1 1 10 = 0 ∨ xs'.1 1 10 = xs.1 1 10) (h1' : ∀ f, f ≠ 10 → xs'.1 1 f = xs.1 1 f) (gf : ZfU st st') (g32 : st'.1 32 = -1) : ZPD E' sh' xs' st' P L := by
  obtain ⟨hP, hr, hb, hX, hM, hld, hd, hL, hk, h32⟩ := h
  refine ⟨hP, hr, hb.ext hx hm hE hZ, hX.ext hb hx hm h2 h4 hl, hM.fr gf (fun f q => q.1) (fun f q => q.1), hld.ext hb.2.2.2.2.1 hx (by decide), ?_, hL, ?_, g32⟩
  · unfold ZMdc at hd ⊢
    rw [gf.1 24 (by omega), gf.2 25 (by omega), gf.2 26 (by omega), gf.2 27 (by omega)]
    exact hd
  · rcases h1 with h1 | h1
    · exact Or.inl h1
    · rw [h1]
      exact hk.imp id fun ⟨k1, k2⟩ => ⟨k1, k2.ext hb hx (h1' 15 (by decide))⟩
theorem ZSr.ext (h : ZSr P xs st) (hb : Zbase E sh) (hx : Zext sh sh' xs xs') (h1' : ∀ f, f ≠ 10 → xs'.1 1 f = xs.1 1 f) (gf : ZfM (fun f => f ≤ 15 ∨ f = 24 ∨ f = 28 ∨ f = 37 ∨ f = 38 ∨ f = 39 ∨ f = 32 ∨ 55 ≤ f) (fun f => f ≠ 45 ∧ f ≠ 50) st st') : ZSr P xs' st' := by
  obtain ⟨a, b, c, d⟩ := h
  have e58 := (hx.ia hb.2.2.2.2.2.2.2.2.2.2.1 (by decide)).2
  have e59 := (hx.ia hb.2.2.2.2.2.2.2.2.2.2.2 (by decide)).2
  refine ⟨by rw [h1' 25 (by decide), gf.1 46 (by omega)]; exact a, by rw [h1' 26 (by decide), gf.1 47 (by omega)]; exact b, c.fr e58 (gf.2 45 (by omega)), ?_⟩
  unfold Zfnd at d ⊢
  rw [h1' 24 (by decide), gf.1 48 (by omega), gf.1 49 (by omega), e59, gf.2 50 (by omega)]
  exact d
theorem Zval {k : Nat} (hs : Zsta E sh xs) (hk : k < 256) {x : Int32} (hx : x = nI k - 128) : fJ18_valueOf (ZW E sh xs) x = some (Zl E (60000 + k)) := by
  obtain ⟨-, ⟨h1, h2⟩, -⟩ := hs
  subst hx
  have e1 : (nI k - 128).toInt = (k : Int) - 128 := pk_sub_toInt (b := 128) (by omega) (by omega)
  have a1 : ¬ nI k - 128 < (-128 : Int32) := by
    rw [Int32.lt_iff_toInt_lt, e1]
    show ¬ (k : Int) - 128 < -128
    omega
  have a2 : ¬ (127 : Int32) < nI k - 128 := by
    rw [Int32.lt_iff_toInt_lt, e1]
    show ¬ (127 : Int) < (k : Int) - 128
    omega
  have a3 : nI k - 128 + 128 = nI k := by
    rw [Int32.sub_eq_add_neg, Int32.add_assoc]
    have : -(128 : Int32) + 128 = 0 := by decide
    rw [this, Int32.add_zero]
  have a4 := ZbR h2 (by omega) (by omega) hk rfl E xs
  simp only [fJ18_valueOf, if_neg a1, if_neg a2, ZW_fst, h1, a3, a4, Option.bind_some, Zesc_r]
theorem ZRo.mono (h : ZRo sh xs st P n tg) (hx : Zext sh sh' xs xs') (gf : ZfM (fun f => ¬ (f = 5 ∨ f = 7 ∨ f = 9 ∨ f = 11)) (fun f => ¬ (f = 6 ∨ f = 8 ∨ f = 10 ∨ (12 ≤ f ∧ f ≤ 14))) st st') : ZRo sh' xs' st' P n tg := by
  obtain ⟨h0, h1, h2, h3, ⟨h4a, h4b, h4c⟩, h5a, h5b, h5c⟩ := h
  unfold ZRo
  rw [gf.1 5 (by omega), gf.1 7 (by omega), gf.1 9 (by omega), gf.1 11 (by omega), gf.2 6 (by omega), gf.2 8 (by omega), gf.2 10 (by omega), gf.2 12 (by omega), gf.2 13 (by omega), gf.2 14 (by omega)]
  refine ⟨h0, h1, h2, h3, ⟨h4a, h4b, fun i hi => ?_⟩, h5a, h5b, fun i hi => ?_⟩
  · obtain ⟨a, b, c⟩ := h4c i hi
    obtain ⟨d, e⟩ := hx.ob b (by omega) (by decide)
    rw [e]
    exact ⟨a, d, c⟩
  · obtain ⟨a, b, c⟩ := h5c i hi
    obtain ⟨d, e⟩ := hx.ob b (by omega) (by decide)
    rw [e]
    exact ⟨a, d, c⟩
theorem ZLi.cut {t e m : Nat} {q q' : Nat → Nat} (h : ZLi sh xs t e m q) (e1 : ∀ i, i < m → q' i = q i) : ZLi sh xs t e m q' := by
  obtain ⟨cap, rf, k1, k2, k3, k4, k5, k6⟩ := h
  exact ⟨cap, rf, k1, k2, k3, k4, k5, fun i hi => by rw [k6 i hi, e1 i hi]⟩
theorem ZB.li2 (h : ZB E sh xs P g n tg) (hr : ZRo sh xs st P n tg) : (∃ e, ZLi sh xs 2 e (Znv P) fun i => 100 + i) ∧ ∃ e, ZLi sh xs 4 e (Znc P) fun c => 1000 * (c + 1) := by
  obtain ⟨-, -, -, hL, -⟩ := h
  obtain ⟨⟨a1, a2⟩, ⟨b1, b2⟩, -⟩ := hr
  have k2 := (hL 0 (by decide)).1.li
  have k4 := (hL 1 (by decide)).1.li
  rw [a1] at k2
  rw [b1] at k4
  exact ⟨⟨_, k2.cut fun i hi => (a2 i hi).symm⟩, ⟨_, k4.cut fun i hi => (b2 i hi).symm⟩⟩
/-- a row's list gets one more: all that both know stays -/
theorem ZA_add (hR : ZPD E sh xs st P L) (hS : ZSr P xs st) (hB : ZB E sh xs P g n tg) (hro : ZRo sh xs st P n tg) {j r : Nat} (hj2 : 2 ≤ j) (hj : j < 6) (hr : Zel sh r) (hn : n j < 366) :
    ∃ sh' xs' sz', fJ2_add (ZW E sh xs) (Zl E (1000000 + 100 * g + (2 * j + 3))) (Zl E (Ztj sh j)) (Zl E r) = some (ZW E sh' xs', sz', 1) ∧ (sz' = Zl E (1000000 + 100 * g + (2 * j + 3)) ∨ sz' = Zl E (1000000 + 100 * g + (2 * j + 3)) + 1) ∧ ZPD E sh' xs' st P L ∧ ZSr P xs' st ∧ ZB E sh' xs' P (g + 1) (fun i => if i = j then n j + 1 else n i) (fun i k => if i = j ∧ k = n j then r else tg i k) ∧ Zext sh sh' xs xs' ∧ Zexo E E sh sh' xs xs' ∧ sh' 1 = sh 1 := by
  obtain ⟨sh', xs', sz', e1, e2, hB', hej, hx, m1, x1, hc⟩ := ZB_add (E := E) hB hR.1.2.1 hR.1.1 hj hr hn
  have hB'' := hB'
  obtain ⟨b1, b2, b3, hL, b5, hm⟩ := hB'
  obtain ⟨⟨a1, a2⟩, ⟨c1, c2⟩, -⟩ := hro
  have l2 : ∃ e, ZLi sh' xs' 2 e (Znv P) fun i => 100 + i := by
    have k := (hL 0 (by decide)).1.li
    simp only [if_neg (show ¬ 0 = j by omega), a1] at k
    exact ⟨_, k.cut fun i hi => by rw [if_neg (by omega)]; exact (a2 i hi).symm⟩
  have l4 : ∃ e, ZLi sh' xs' 4 e (Znc P) fun c => 1000 * (c + 1) := by
    have k := (hL 1 (by decide)).1.li
    simp only [if_neg (show ¬ 1 = j by omega), c1] at k
    exact ⟨_, k.cut fun i hi => by rw [if_neg (by omega)]; exact (c2 i hi).symm⟩
  obtain ⟨-, k2, k3⟩ := hB.2.2.2.1 j hj
  refine ⟨sh', xs', sz', e1, e2, hR.ext rfl (fun _ _ => rfl) hx hm l2 l4 hc (Or.inr (by rw [x1])) (fun f _ => by rw [x1]) ZfM.rfl hR.2.2.2.2.2.2.2.2.2, hS.ext hR.2.2.1 hx (fun f _ => by rw [x1]) ZfM.rfl, hB'', hx, ⟨fun u s h1 h2 h3 h4 h5 => ?_, fun f _ => by rw [x1], rfl, fun _ _ => rfl⟩, m1⟩
  have := k3 hj2
  refine hej u s h1 (by omega) ?_
  rcases k2 with k2 | k2
  · exact Or.inr k2
  · exact Or.inl (by omega)
end RO
