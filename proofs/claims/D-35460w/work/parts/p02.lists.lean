/-! LISTS by tags; frames -/
set_option maxRecDepth 100000
/-- what an object's field, an array's place refers to -/
def Zfld (sh : Nat → Option Zsh) (t k : Nat) : Nat := match sh t with
  | some (.inr (.inr (_, fs))) => (fs.getD k none).getD 0
  | _ => 0
def Zaref (sh : Nat → Option Zsh) (t i : Nat) : Nat := match sh t with
  | some (.inr (.inl (_, _, rf))) => (rf i).getD 0
  | _ => 0
/-- the list that a constraint holds, what is in it -/
def ZtL (sh : Nat → Option Zsh) (c : Nat) : Nat := Zfld sh (1000 * (c + 1)) 4
def ZtE (sh : Nat → Option Zsh) (c i : Nat) : Nat := Zaref sh (Zfld sh (ZtL sh c) 1) i
/-- a list at t, its array at e: n elements, their tags tg -/
def ZLi (sh : Nat → Option Zsh) (xs : Zxs) (t e n : Nat) (tg : Nat → Nat) : Prop := ∃ (cap : Nat) (rf : Nat → Option Nat), sh t = some (Zo18 e) ∧ sh e = some (Zra 3 cap rf) ∧ xs.1 t 2 = nI n ∧ n ≤ cap ∧ cap ≤ 366 ∧ ∀ i, i < n → rf i = some (tg i)
theorem Zchk {i n : Nat} (h : i < n) (hn : n < 2147483648) : fJ15_checkIndex (nI i) (nI n) = some (nI i) := by
  unfold fJ15_checkIndex fJ16_checkIndex
  rw [if_neg (nI_pos (by omega)), if_pos (nI_lt h (by omega))]
  rfl
theorem ZLsize {sh : Nat → Option Zsh} {xs : Zxs} {t e n : Nat} {tg : Nat → Nat} (h : ZLi sh xs t e n tg) (E : Ze) : fJ2_size (ZW E sh xs) (Zl E t) = some (nI n) := by
  obtain ⟨cap, rf, h1, h2, h3, h4, h5, h6⟩ := h
  simp only [fJ2_size, Zb18 h1, Option.bind_some, h3]
theorem ZLis {sh : Nat → Option Zsh} {xs : Zxs} {t e n : Nat} {tg : Nat → Nat} (h : ZLi sh xs t e n tg) (E : Ze) : zis (ZW E sh xs) (Zl E t) 18 = some () := by
  obtain ⟨cap, rf, h1, h2, h3, h4, h5, h6⟩ := h
  exact Zis_ h1 E xs
theorem ZLempty {sh : Nat → Option Zsh} {xs : Zxs} {t e n : Nat} {tg : Nat → Nat} (h : ZLi sh xs t e n tg) (E : Ze) : fJ2_isEmpty (ZW E sh xs) (Zl E t) = some (if n = 0 then 1 else 0) := by
  obtain ⟨cap, rf, h1, h2, h3, h4, h5, h6⟩ := h
  simp only [fJ2_isEmpty, Zb18 h1, Option.bind_some, h3]
  by_cases hn : n = 0
  · subst hn
    rfl
  · rw [if_neg hn, if_neg (nI_ne0 (by omega) (by omega))]
theorem ZLget {sh : Nat → Option Zsh} {xs : Zxs} {t e n : Nat} {tg : Nat → Nat} (h : ZLi sh xs t e n tg) (E : Ze) {i : Nat} (hi : i < n) : fJ2_get (ZW E sh xs) (Zl E t) (nI i) = some (Zl E (tg i)) := by
  obtain ⟨cap, rf, h1, h2, h3, h4, h5, h6⟩ := h
  simp only [fJ2_get, fJ2_elementData, Zb18 h1, Option.bind_some, h3, Zchk hi (by omega), ZbR h2 (Or.inl rfl) (by omega) (Nat.lt_of_lt_of_le hi h4) (h6 i hi)]
/-- nothing changes but the numbers in A and the arrays in B -/
def Zfr (A : Nat → Nat → Prop) (B : Nat → Prop) (xs xs' : Zxs) : Prop := (∀ t f, ¬ A t f → xs'.1 t f = xs.1 t f) ∧ ∀ t, ¬ B t → xs'.2 t = xs.2 t
theorem Zfr.rfl {A : Nat → Nat → Prop} {B : Nat → Prop} {xs : Zxs} : Zfr A B xs xs := ⟨fun _ _ _ => Eq.refl _, fun _ _ => Eq.refl _⟩
theorem Zfr.trans {A : Nat → Nat → Prop} {B : Nat → Prop} {x y z : Zxs} (h : Zfr A B x y) (h' : Zfr A B y z) : Zfr A B x z := ⟨fun t f q => (h'.1 t f q).trans (h.1 t f q), fun t q => (h'.2 t q).trans (h.2 t q)⟩
theorem Zfr.mono {A A' : Nat → Nat → Prop} {B B' : Nat → Prop} {x y : Zxs} (h : Zfr A B x y) (hA : ∀ t f, A t f → A' t f) (hB : ∀ t, B t → B' t) : Zfr A' B' x y := ⟨fun t f q => h.1 t f fun g => q (hA t f g), fun t q => h.2 t fun g => q (hB t g)⟩
theorem Zfr.arr {A : Nat → Nat → Prop} {B : Nat → Prop} {x y : Zxs} {t k : Nat} {v : Int32} (h : Zfr A B x y) (hB : B t) : Zfr A B x (y.1, zua y.2 t k v) := ⟨h.1, fun u q => by
  have : u ≠ t := fun e => q (by rw [e]; exact hB)
  simp only [zua, if_neg this]
  exact h.2 u q⟩
theorem Zfr.num {A : Nat → Nat → Prop} {B : Nat → Prop} {x y : Zxs} {t k : Nat} {v : Int32} (h : Zfr A B x y) (hA : A t k) : Zfr A B x (zua y.1 t k v, y.2) := ⟨fun u f q => by
  have e : zua y.1 t k v u f = y.1 u f := by
    by_cases hu : u = t
    · subst hu
      have hf : f ≠ k := fun e => q (by rw [e]; exact hA)
      simp only [zua, if_true, upd, if_neg hf]
    · simp only [zua, if_neg hu]
  rw [show (zua y.1 t k v, y.2).1 u f = zua y.1 t k v u f from Eq.refl _, e]
  exact h.1 u f q, h.2⟩
theorem zua_s {f : Nat → Nat → Int32} {t k : Nat} {v : Int32} (j : Nat) : zua f t k v t j = if j = k then v else f t j := by
  simp only [zua, if_true, upd]
theorem zua_ss {f : Nat → Nat → Int32} {t k : Nat} {v : Int32} : zua f t k v t k = v := by
  simp only [zua, if_true, upd]
theorem zua_sn {f : Nat → Nat → Int32} {t k j : Nat} {v : Int32} (h : j ≠ k) : zua f t k v t j = f t j := by
  simp only [zua, if_true, upd, if_neg h]
theorem zua_n {f : Nat → Nat → Int32} {t k u : Nat} {v : Int32} (h : u ≠ t) : zua f t k v u = f u := by
  simp only [zua, if_neg h]
theorem Zfr.li {A : Nat → Nat → Prop} {B : Nat → Prop} {x y : Zxs} {sh : Nat → Option Zsh} {t e n : Nat} {tg : Nat → Nat} (h : Zfr A B x y) (hA : ¬ A t 2) (hl : ZLi sh x t e n tg) : ZLi sh y t e n tg := by
  obtain ⟨cap, rf, h1, h2, h3, h4, h5, h6⟩ := hl
  exact ⟨cap, rf, h1, h2, by rw [h.1 t 2 hA]; exact h3, h4, h5, h6⟩
