/-! X grows: what was there stays -/
set_option maxRecDepth 100000
/-- all but lists and their arrays -/
def Zstb (s : Zsh) : Prop := match s with
  | .inl _ => True
  | .inr (.inl (ty, _, _)) => ty ≠ 3
  | .inr (.inr (c, _)) => c ≠ 18
/-- shapes stay, and their numbers; but main, lists and their arrays -/
def Zext (sh sh' : Nat → Option Zsh) (xs xs' : Zxs) : Prop := ∀ u s, sh u = some s → u ≠ 1 → Zstb s → sh' u = some s ∧ xs'.1 u = xs.1 u ∧ xs'.2 u = xs.2 u
theorem Zext.rfl {sh : Nat → Option Zsh} {xs : Zxs} : Zext sh sh xs xs := fun _ _ h _ _ => ⟨h, Eq.refl _, Eq.refl _⟩
theorem Zext.trans {s1 s2 s3 : Nat → Option Zsh} {x1 x2 x3 : Zxs} (h : Zext s1 s2 x1 x2) (g : Zext s2 s3 x2 x3) : Zext s1 s3 x1 x3 := fun u s h1 h2 h3 => by
  obtain ⟨a, b, c⟩ := h u s h1 h2 h3
  obtain ⟨a', b', c'⟩ := g u s a h2 h3
  exact ⟨a', b'.trans b, c'.trans c⟩
theorem Zext.ob {sh sh' : Nat → Option Zsh} {xs xs' : Zxs} (h : Zext sh sh' xs xs') {u c : Nat} {fs : List (Option Nat)} (hu : sh u = some (Zob c fs)) (h1 : u ≠ 1) (hc : c ≠ 18) : sh' u = some (Zob c fs) ∧ xs'.1 u = xs.1 u := ⟨(h u _ hu h1 hc).1, (h u _ hu h1 hc).2.1⟩
theorem Zext.ia {sh sh' : Nat → Option Zsh} {xs xs' : Zxs} (h : Zext sh sh' xs xs') {u ty n : Nat} (hu : sh u = some (Zia ty n)) (h1 : u ≠ 1) : sh' u = some (Zia ty n) ∧ xs'.2 u = xs.2 u := ⟨(h u _ hu h1 trivial).1, (h u _ hu h1 trivial).2.2⟩
theorem Zext.ra {sh sh' : Nat → Option Zsh} {xs xs' : Zxs} (h : Zext sh sh' xs xs') {u ty n : Nat} {rf : Nat → Option Nat} (hu : sh u = some (Zra ty n rf)) (h1 : u ≠ 1) (ht : ty ≠ 3) : sh' u = some (Zra ty n rf) := (h u _ hu h1 ht).1
section EX
variable {sh sh' : Nat → Option Zsh} {xs xs' : Zxs} {P : ZP} {c : Nat}
theorem ZX0.ext (h : ZX0 sh xs P c) (hx : Zext sh sh' xs xs') : ZX0 sh' xs' P c := by
  obtain ⟨ci, fs, h1, h2, h3, h4, h5, h6, h7⟩ := h
  have hc : ci ≠ 18 := fun g => by rw [g] at h2; exact absurd h2 (by decide)
  refine ⟨ci, fs, (hx.ob h1 (by omega) hc).1, h2, (hx.ia h3 (by omega)).1, (hx.ia h4 (by omega)).1, (hx.ia h5 (by omega)).1, (hx.ia h6 (by omega)).1, ?_⟩
  rw [(hx.ia h3 (by omega)).2]
  exact h7
/-- a constraint's own list stays -/
def Zcls3 (sh sh' : Nat → Option Zsh) (xs xs' : Zxs) (c : Nat) : Prop := sh' (ZtL sh c) = sh (ZtL sh c) ∧ sh' (Zfld sh (ZtL sh c) 1) = sh (Zfld sh (ZtL sh c) 1) ∧ xs'.1 (ZtL sh c) 2 = xs.1 (ZtL sh c) 2
theorem ZtL_ext (h : sh' (1000 * (c + 1)) = sh (1000 * (c + 1))) (hl : Zcls3 sh sh' xs xs' c) : ZtL sh' c = ZtL sh c ∧ ∀ i, ZtE sh' c i = ZtE sh c i := by
  have e1 : ZtL sh' c = ZtL sh c := by unfold ZtL Zfld; rw [h]
  refine ⟨e1, fun i => ?_⟩
  have e2 : Zfld sh' (ZtL sh' c) 1 = Zfld sh (ZtL sh c) 1 := by
    rw [e1]
    conv => lhs; unfold Zfld
    rw [hl.1]
    rfl
  unfold ZtE
  rw [e2]
  conv => lhs; unfold Zaref
  rw [hl.2.1]
  rfl
theorem ZLi.ext {t e n : Nat} {tg tg' : Nat → Nat} (h : ZLi sh xs t e n tg) (h1 : sh' t = sh t) (h2 : sh' e = sh e) (h3 : xs'.1 t 2 = xs.1 t 2) (h4 : ∀ i, i < n → tg' i = tg i) : ZLi sh' xs' t e n tg' := by
  obtain ⟨cap, rf, k1, k2, k3, k4, k5, k6⟩ := h
  exact ⟨cap, rf, h1.trans k1, h2.trans k2, h3.trans k3, k4, k5, fun i hi => by rw [h4 i hi]; exact k6 i hi⟩
theorem ZLi.arr {t e n : Nat} {tg : Nat → Nat} (h : ZLi sh xs t e n tg) : Zfld sh t 1 = e := by
  obtain ⟨cap, rf, k1, -⟩ := h
  unfold Zfld
  rw [k1]
  rfl
theorem ZX8.ext (h : ZX8 sh xs P c) (hx : Zext sh sh' xs xs') : ZX8 sh' xs' P c := by
  obtain ⟨h1, h2, h3, h4, h5, h6⟩ := h
  obtain ⟨a1, a2⟩ := hx.ob h1 (by omega) (by decide)
  obtain ⟨b1, b2⟩ := hx.ia h2 (by omega)
  obtain ⟨c1, c2⟩ := hx.ia h3 (by omega)
  refine ⟨a1, b1, c1, by rw [a2]; exact h4, by rw [a2]; exact h5, ?_⟩
  rw [b2, c2]
  exact h6
theorem ZX3.ext (h : ZX3 sh xs P c) (hx : Zext sh sh' xs xs') (hl : Zcls3 sh sh' xs xs' c) : ZX3 sh' xs' P c := by
  obtain ⟨h1, h2, h3, h4, ⟨e, h5⟩, h6, h7, h8⟩ := h
  obtain ⟨a1, a2⟩ := hx.ob h1 (by omega) (by decide)
  obtain ⟨e1, e2⟩ := ZtL_ext (a1.trans h1.symm) hl
  have ea := h5.arr
  unfold ZX3
  rw [e1]
  refine ⟨a1, (hx.ia h2 (by omega)).1, (hx.ia h3 (by omega)).1, by rw [a2]; exact h4, ⟨e, h5.ext hl.1 (ea ▸ hl.2.1) hl.2.2 fun i _ => e2 i⟩, fun i hi => ?_, h7, fun i hi => by rw [e2]; exact h8 i hi⟩
  obtain ⟨m1, m2⟩ := h6 i hi
  obtain ⟨b1, b2⟩ := hx.ob m1 (by have := h8 i hi; omega) (by decide)
  rw [e2, b2]
  exact ⟨b1, m2⟩
theorem ZX5.ext (h : ZX5 sh xs P c) (hx : Zext sh sh' xs xs') (hl : Zcls3 sh sh' xs xs' c) : ZX5 sh' xs' P c := by
  obtain ⟨h1, ⟨e, h5⟩, h6, h7, h8⟩ := h
  obtain ⟨a1, a2⟩ := hx.ob h1 (by omega) (by decide)
  obtain ⟨e1, e2⟩ := ZtL_ext (a1.trans h1.symm) hl
  have ea := h5.arr
  unfold ZX5
  rw [e1]
  refine ⟨a1, ⟨e, h5.ext hl.1 (ea ▸ hl.2.1) hl.2.2 fun i _ => e2 i⟩, fun i hi => ?_, h7, fun i hi => by rw [e2]; exact h8 i hi⟩
  obtain ⟨m1, m2⟩ := h6 i hi
  obtain ⟨b1, b2⟩ := hx.ob m1 (by have := h8 i hi; omega) (by decide)
  rw [e2, b2]
  exact ⟨b1, m2⟩
theorem ZTr.ext {t : Nat} (h : ZTr sh t) (hx : Zext sh sh' xs xs') (ht : 2 ≤ t) : ZTr sh' t ∧ xs'.1 t = xs.1 t ∧ ∀ i, 1 ≤ i → i ≤ 4 → xs'.2 (t + i) = xs.2 (t + i) := by
  obtain ⟨h1, h2, h3, h4, h5⟩ := h
  obtain ⟨a1, a2⟩ := hx.ob h1 (by omega) (by decide)
  obtain ⟨b1, b2⟩ := hx.ia h2 (by omega)
  obtain ⟨c1, c2⟩ := hx.ia h3 (by omega)
  obtain ⟨d1, d2⟩ := hx.ia h4 (by omega)
  obtain ⟨e1, e2⟩ := hx.ia h5 (by omega)
  refine ⟨⟨a1, b1, c1, d1, e1⟩, a2, fun i g1 g2 => ?_⟩
  have : i = 1 ∨ i = 2 ∨ i = 3 ∨ i = 4 := by omega
  rcases this with rfl | rfl | rfl | rfl <;> assumption
theorem ZX6.ext (h : ZX6 sh xs P c) (hx : Zext sh sh' xs xs') : ZX6 sh' xs' P c := by
  obtain ⟨h1, h2, h3, r, k, h4, h5, h6⟩ := h
  obtain ⟨a1, a2⟩ := hx.ob h1 (by omega) (by decide)
  obtain ⟨t1, t2, t3⟩ := h3.ext hx (by decide)
  have e19 : xs'.2 19 = xs.2 19 := t3 1 (by decide) (by decide)
  have e20 : xs'.2 20 = xs.2 20 := t3 2 (by decide) (by decide)
  exact ⟨a1, by rw [a2]; exact h2, t1, r, k, h4, by rw [e19]; exact h5, by rw [e20]; exact h6⟩
theorem Zrc_le (s : Nat) : 100 ≤ (Zrc s).1 := by unfold Zrc; split <;> decide
theorem ZX7.ext (h : ZX7 sh xs P c) (hx : Zext sh sh' xs xs') : ZX7 sh' xs' P c := by
  obtain ⟨rt, h1, h2, h3⟩ := h
  refine ⟨rt, (hx.ob h1 (by omega) (by decide)).1, ?_, h3⟩
  have hz := Zrc_le (Zso P c)
  unfold ZXrel at h2 ⊢
  split
  · rename_i f hf
    rw [hf] at h2
    obtain ⟨b1, b2⟩ := hx.ob h2.1 (by omega) (by omega)
    exact ⟨b1, by rw [b2]; exact h2.2⟩
  · rename_i hf
    rw [hf] at h2
    exact (hx.ob h2 (by omega) (by omega)).1
theorem ZXcon.ext (h : ZXcon sh xs P c) (hx : Zext sh sh' xs xs') (hl : Zso P c = 3 ∨ Zso P c = 5 → Zcls3 sh sh' xs xs' c) : ZXcon sh' xs' P c := by
  obtain ⟨c0, c1, c2, c3, c4, c5, c6, c7, c8⟩ := h
  exact ⟨c0.ext hx, fun hs => (c1 hs).ext hx, fun hs => ⟨(hx.ob (c2 hs).1 (by omega) (by decide)).1, (hx.ia (c2 hs).2 (by omega)).1⟩, fun hs => (hx.ob (c3 hs) (by omega) (by decide)).1, fun hs => (c4 hs).ext hx (hl (Or.inl hs)), fun hs => (hx.ob (c5 hs) (by omega) (by decide)).1, fun hs => (c6 hs).ext hx (hl (Or.inr hs)), fun hs => (c7 hs).ext hx, fun hs => (c8 hs).ext hx⟩
theorem ZXv.ext (h : ZXv sh xs P) (hx : Zext sh sh' xs xs') (hm : sh' 1 = some (Zmain sh')) (h2 : ∃ e, ZLi sh' xs' 2 e (Znv P) fun i => 100 + i) : ZXv sh' xs' P := by
  obtain ⟨-, -, h3⟩ := h
  refine ⟨hm, h2, fun v hv => ?_⟩
  obtain ⟨a, b⟩ := h3 v hv
  obtain ⟨a1, a2⟩ := hx.ob a (by omega) (by decide)
  rw [a2]
  exact ⟨a1, b⟩
theorem ZXP.ext {E : Ze} (h : ZXP sh xs P) (hb : Zbase E sh) (hx : Zext sh sh' xs xs') (hm : sh' 1 = some (Zmain sh')) (h2 : ∃ e, ZLi sh' xs' 2 e (Znv P) fun i => 100 + i) (h4 : ∃ e, ZLi sh' xs' 4 e (Znc P) fun c => 1000 * (c + 1)) (hl : ∀ c, c < Znc P → Zso P c = 3 ∨ Zso P c = 5 → Zcls3 sh sh' xs xs' c) : ZXP sh' xs' P := by
  obtain ⟨g1, -, g3, g4⟩ := h
  refine ⟨g1.ext hx hm h2, h4, ?_, fun c hc => (g4 c hc).ext hx (hl c hc)⟩
  rw [(hx.ia hb.2.1.2 (by decide)).2]
  exact g3
theorem ZS.ext {t : Nat} (h : ZS sh t) (hx : Zext sh sh' xs xs') (ht : 2 ≤ t) : ZS sh' t ∧ xs'.1 t = xs.1 t ∧ ∀ i, 1 ≤ i → i ≤ 3 → xs'.2 (t + i) = xs.2 (t + i) := by
  obtain ⟨h1, h2, h3, h4⟩ := h
  obtain ⟨a1, a2⟩ := hx.ob h1 (by omega) (by decide)
  obtain ⟨b1, b2⟩ := hx.ia h2 (by omega)
  obtain ⟨c1, c2⟩ := hx.ia h3 (by omega)
  obtain ⟨d1, d2⟩ := hx.ia h4 (by omega)
  refine ⟨⟨a1, b1, c1, d1⟩, a2, fun i g1 g2 => ?_⟩
  have : i = 1 ∨ i = 2 ∨ i = 3 := by omega
  rcases this with rfl | rfl | rfl <;> assumption
theorem ZDc.ext {t : Nat} (h : ZDc sh t) (hx : Zext sh sh' xs xs') (ht : 2 ≤ t) : ZDc sh' t ∧ xs'.1 t = xs.1 t ∧ ∀ i, 1 ≤ i → i ≤ 3 → xs'.2 (t + i) = xs.2 (t + i) := by
  obtain ⟨h1, h2, h3, h4⟩ := h
  obtain ⟨a1, a2⟩ := hx.ob h1 (by omega) (by decide)
  obtain ⟨b1, b2⟩ := hx.ia h2 (by omega)
  obtain ⟨c1, c2⟩ := hx.ia h3 (by omega)
  obtain ⟨d1, d2⟩ := hx.ia h4 (by omega)
  refine ⟨⟨a1, b1, c1, d1⟩, a2, fun i g1 g2 => ?_⟩
  have : i = 1 ∨ i = 2 ∨ i = 3 := by omega
  rcases this with rfl | rfl | rfl <;> assumption
theorem ZXl.ext {t : Nat} {L : ZL} (h : ZXl xs t L) (hD : ZDc sh t) (hx : Zext sh sh' xs xs') (ht : 2 ≤ t) : ZXl xs' t L := by
  obtain ⟨-, a, b⟩ := hD.ext hx ht
  unfold ZXl at h ⊢
  rw [a, b 1 (by decide) (by decide), b 2 (by decide) (by decide), b 3 (by decide) (by decide)]
  exact h
theorem Zbase.ext {E E' : Ze} (h : Zbase E sh) (hx : Zext sh sh' xs xs') (hm : sh' 1 = some (Zmain sh')) (hE : E'.1 = E.1) (hZ : ∀ t, sh t ≠ none → Zl E' t = Zl E t) : Zbase E' sh' := by
  obtain ⟨-, ⟨b1, b2⟩, b3, b4, b5, b6, b7, b8, b9, b10, b11, b12⟩ := h
  refine ⟨hm, ⟨?_, (hx.ia b2 (by decide)).1⟩, (b3.ext hx (by decide)).1, (b4.ext hx (by decide)).1, (b5.ext hx (by decide)).1, (b6.ext hx (by decide)).1, fun i hi => (hx.ia (b7 i hi) (by omega)).1, fun i hi => (hx.ia (b8 i hi) (by omega)).1, hx.ra b9 (by decide) (by decide), fun i hi => (hx.ia (b10 i hi) (by omega)).1, (hx.ia b11 (by decide)).1, (hx.ia b12 (by decide)).1⟩
  rw [hE, hZ 50301 (by rw [b2]; exact fun h => by cases h)]
  exact b1
theorem ZXst.ext {E : Ze} {L : ZL} (h : ZXst P L xs) (hb : Zbase E sh) (hx : Zext sh sh' xs xs') (h15 : xs'.1 1 15 = xs.1 1 15) : ZXst P L xs' := by
  obtain ⟨-, -, b3, -, -, -, b7, -⟩ := hb
  obtain ⟨-, e28, e2⟩ := b3.ext hx (by decide)
  have eT : ZTs xs' 28 = ZTs xs 28 := by
    unfold ZTs
    rw [e2 1 (by decide) (by decide), e2 2 (by decide) (by decide), e2 3 (by decide) (by decide)]
  obtain ⟨T0, m, l, a1, a2, a3, a4, a5, a6, a7, a8⟩ := h
  refine ⟨T0, m, l, a1, by rw [e28]; exact a2, a3, by rw [e28]; exact a4, by rw [e28, eT]; exact a5, by rw [eT]; exact a6, ?_, by rw [eT]; exact a8⟩
  have g0 := (hx.ia (b7 0 (by decide)) (by decide)).2
  have g1 := (hx.ia (b7 1 (by decide)) (by decide)).2
  have g2 := (hx.ia (b7 2 (by decide)) (by decide)).2
  have g3 := (hx.ia (b7 3 (by decide)) (by decide)).2
  simp only [Nat.reduceAdd, Nat.add_zero] at g0 g1 g2 g3
  unfold ZTrc at a7 ⊢
  rw [h15, g0, g1, g2, g3]
  exact a7
end EX
