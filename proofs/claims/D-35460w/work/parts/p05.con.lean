/-! X: failures; constraints -/
set_option maxRecDepth 100000
/-- the store of the arrays behind ts -/
def ZTs (xs : Zxs) (ts : Nat) : ZT0 := (xs.2 (ts + 1), xs.2 (ts + 2), xs.2 (ts + 3))
/-- a domain is empty -/
def Zem (P : ZP) (T : ZT0) (v : Nat) : Prop := if Zkd P v = 3 then (T.2.2 v).toInt < (T.2.1 v).toInt else T.1 v = 0
theorem ZX_isEmpty {sh : Nat → Option Zsh} {xs : Zxs} {P : ZP} {E : Ze} {ts v : Nat} (hP : ZPok P) (hx : ZXv sh xs P) (hS : ZS sh ts) (hv : v < Znv P) : ∃ b : Int32, fX1_isEmpty (ZW E sh xs) (Zl E 1) (Zl E ts) (nI v) = some b ∧ (b = 0 ∨ b = 1) ∧ (b = 1 ↔ Zem P (ZTs xs ts) v) := by
  have hr := ZxRat hx hP hv E
  have h1 := hx.1
  have hn := hP.1
  obtain ⟨s1, s2, s3, s4⟩ := hS
  unfold fX1_isEmpty Zem ZTs
  by_cases q : Zkd P v = 3
  · rw [if_pos q] at hr
    rw [if_pos q]
    simp (disch := omega) only [hr, Zb0 h1, Option.bind_some, if_neg (show ¬ (1 : Int32) = 0 by decide), Zb3 s1, ZbI s3, ZbI s4]
    by_cases g : xs.2 (ts + 2) v ≤ xs.2 (ts + 3) v
    · rw [if_pos g]
      exact ⟨0, rfl, Or.inl rfl, fun h => absurd h (by decide), fun h => absurd (Int32.le_iff_toInt_le.mp g) (by omega)⟩
    · rw [if_neg g]
      exact ⟨1, rfl, Or.inr rfl, fun _ => by rw [Int32.le_iff_toInt_le] at g; omega, fun _ => rfl⟩
  · rw [if_neg q] at hr
    rw [if_neg q]
    simp (disch := omega) only [hr, Zb0 h1, Option.bind_some, if_true, Zb3 s1, ZbI s2]
    by_cases g : xs.2 (ts + 1) v = 0
    · rw [if_pos g]
      exact ⟨1, rfl, Or.inr rfl, fun _ => g, fun _ => rfl⟩
    · rw [if_neg g]
      exact ⟨0, rfl, Or.inl rfl, fun h => absurd h (by decide), fun h => absurd h g⟩
theorem Zor01 {a b : Int32} (ha : a = 0 ∨ a = 1) (hb : b = 0 ∨ b = 1) : (a ||| b = 0 ∨ a ||| b = 1) ∧ (a ||| b = 1 ↔ a = 1 ∨ b = 1) := by
  rcases ha with rfl | rfl <;> rcases hb with rfl | rfl <;> decide
theorem Zzq {a : Int32} (ha : a = 0 ∨ a = 1) : zq a = some a := if_pos ha
theorem ZX_sees {sh : Nat → Option Zsh} {xs : Zxs} {P : ZP} {E : Ze} {ts : Nat} (hP : ZPok P) (hx : ZXv sh xs P) (hS : ZS sh ts) (hts : 3 ≤ ts ∧ ts + 4 ≤ 100) :
    ∀ N : Nat, 1000 ≤ N → ∃ xs' b, fX1_seesFailure N (ZW E sh xs) (Zl E 1) (Zl E ts) = some (ZW E sh xs', b) ∧ Zfr (fun t f => t = ts ∧ f = 3) (fun _ => False) xs xs' ∧ xs'.1 ts 3 = b ∧ (b = 0 ∨ b = 1) ∧ (b = 1 ↔ ∃ v, v < Znv P ∧ Zem P (ZTs xs ts) v) := by
  intro N hN
  have hn10 := hP.1
  have s1 := hS.1
  unfold fX1_seesFailure
  simp only [Zb3 s1, true_or, if_true, Option.bind_some]
  have f0 : Zfr (fun t f => t = ts ∧ f = 3) (fun _ => False) xs (zua xs.1 ts 3 0, xs.2) := Zfr.rfl.num ⟨rfl, rfl⟩
  have L1 := Zl_inv (body := fX1_seesFailure_L7 (Zl E 1) (Zl E ts)) (fun i a => ∃ x b, a = (ZW E sh x, nI i) ∧ Zfr (fun t f => t = ts ∧ f = 3) (fun _ => False) xs x ∧ x.1 ts 3 = b ∧ (b = 0 ∨ b = 1) ∧ (b = 1 ↔ ∃ v, v < i ∧ Zem P (ZTs xs ts) v)) (Znv P)
    (fun r => ∃ x b, r = ZW E sh x ∧ Zfr (fun t f => t = ts ∧ f = 3) (fun _ => False) xs x ∧ x.1 ts 3 = b ∧ (b = 0 ∨ b = 1) ∧ (b = 1 ↔ ∃ v, v < Znv P ∧ Zem P (ZTs xs ts) v))
    (by
      rintro i a hi ⟨x, b, rfl, hf, hb, hb01, hb1⟩
      have hv' : ZXv sh x P := hx.fr hP hf (by omega) (by intros; omega)
      obtain ⟨n1, n2, n3⟩ := ZxNv hv' E
      obtain ⟨c, e1, hc01, hc1⟩ := ZX_isEmpty (E := E) hP hv' hS hi
      have hT : ZTs x ts = ZTs xs ts := by unfold ZTs; rw [hf.2 _ (fun q => q), hf.2 _ (fun q => q), hf.2 _ (fun q => q)]
      rw [hT] at hc1
      obtain ⟨o1, o2⟩ := Zor01 hb01 hc01
      simp only [fX1_seesFailure_L7, n1, n2, n3, Option.bind_some, if_neg (nI_ge hi (show Znv P < 2 ^ 31 by omega)), Zb3 s1, hb, Zb0 hx.1, e1, if_pos o1, nI_1]
      refine ⟨_, rfl, _, b ||| c, rfl, hf.num ⟨rfl, rfl⟩, zua_ss, o1, ?_⟩
      rw [o2, hb1, hc1]
      constructor
      · rintro (⟨v, h1, h2⟩ | h)
        · exact ⟨v, by omega, h2⟩
        · exact ⟨i, by omega, h⟩
      · rintro ⟨v, h1, h2⟩
        rcases Nat.lt_or_ge v i with g | g
        · exact Or.inl ⟨v, g, h2⟩
        · have : v = i := by omega
          exact Or.inr (this ▸ h2))
    (by
      rintro a ⟨x, b, rfl, hf, hb, hb01, hb1⟩
      have hv' : ZXv sh x P := hx.fr hP hf (by omega) (by intros; omega)
      obtain ⟨n1, n2, n3⟩ := ZxNv hv' E
      simp only [fX1_seesFailure_L7, n1, n2, n3, Option.bind_some, if_pos (nI_le (Nat.le_refl _) (show Znv P < 2 ^ 31 by omega))]
      exact ⟨_, rfl, x, b, rfl, hf, hb, hb01, hb1⟩)
    N (ZW E sh (zua xs.1 ts 3 0, xs.2), 0) (by omega) ⟨_, 0, rfl, f0, zua_ss, Or.inl rfl, fun h => absurd h (by decide), fun ⟨v, h, _⟩ => absurd h (by omega)⟩
  obtain ⟨r, e1, x, b, rfl, hf, hb, hb01, hb1⟩ := L1
  rw [e1, Option.bind_some]
  simp only [Zb3 s1, hb, Option.bind_some, Zzq hb01]
  exact ⟨x, b, rfl, hf, hb, hb01, hb1⟩
/-- X's places of a constraint: the two of a measure stand the other way round -/
def Zpm (P : ZP) (c p : Nat) : Nat := if Zso P c = 12 ∨ Zso P c = 13 then 1 - p else p
/-- what all constraints have: an object of a class, places, what is kept -/
def ZX0 (sh : Nat → Option Zsh) (xs : Zxs) (P : ZP) (c : Nat) : Prop := ∃ (ci : Nat) (fs : List (Option Nat)), sh (1000 * (c + 1)) = some (Zob ci (some (1000 * (c + 1) + 1) :: some (1000 * (c + 1) + 2) :: some (1000 * (c + 1) + 3) :: some (1000 * (c + 1) + 4) :: fs)) ∧ zcs.contains ci = true ∧
  sh (1000 * (c + 1) + 1) = some (Zia 0 (Zmn P c)) ∧ sh (1000 * (c + 1) + 2) = some (Zia 0 (Zmn P c)) ∧ sh (1000 * (c + 1) + 3) = some (Zia 0 (Zmn P c)) ∧ sh (1000 * (c + 1) + 4) = some (Zia 0 (Zmn P c)) ∧ ∀ p, p < Zmn P c → xs.2 (1000 * (c + 1) + 1) p = nI (Zpl P c (Zpm P c p))
theorem ZbC {sh : Nat → Option Zsh} {t ci a b c d : Nat} {fs : List (Option Nat)} (h : sh t = some (Zob ci (some a :: some b :: some c :: some d :: fs))) (hc : zcs.contains ci = true) : (∀ (E : Ze) (xs : Zxs), zgR zcs 0 (ZW E sh xs) (Zl E t) = some (Zl E a)) ∧ (∀ (E : Ze) (xs : Zxs), zgR zcs 1 (ZW E sh xs) (Zl E t) = some (Zl E b)) ∧ (∀ (E : Ze) (xs : Zxs), zgR zcs 2 (ZW E sh xs) (Zl E t) = some (Zl E c)) ∧ (∀ (E : Ze) (xs : Zxs), zgR zcs 3 (ZW E sh xs) (Zl E t) = some (Zl E d)) ∧ (∀ (E : Ze) (xs : Zxs), zcls (ZW E sh xs) (Zl E t) = some ci) ∧ (∀ (E : Ze) (xs : Zxs), zcon (ZW E sh xs) (Zl E t) = some ()) := ⟨Zgr h hc rfl, Zgr h hc rfl, Zgr h hc rfl, Zgr h hc rfl, Zcls_ h, Zcon_ h hc⟩
theorem ZX0_size {sh : Nat → Option Zsh} {xs : Zxs} {P : ZP} {c : Nat} (h : ZX0 sh xs P c) (hm : Zmn P c ≤ 8) (E : Ze) : fX9_size (ZW E sh xs) (Zl E (1000 * (c + 1))) = some (nI (Zmn P c)) := by
  obtain ⟨ci, fs, h1, h2, h3, h4, h5, h6, h7⟩ := h
  simp only [fX9_size, ZbC h1 h2, Option.bind_some, ZbI h3 (by omega)]
theorem Zpm_lt {P : ZP} {c p : Nat} (hC : ZCok P c) (hp : p < Zmn P c) : Zpm P c p < Zmn P c := by
  unfold Zpm
  split
  · rename_i g
    have h := hC.2.2.2.2.2.2.2.2.2.2.2 (by omega)
    have : Zmn P c = 2 := by rw [h.1]; rcases g with g | g <;> rw [g] <;> rfl
    omega
  · exact hp
theorem ZX0_dom {sh : Nat → Option Zsh} {xs : Zxs} {P : ZP} {c ts p : Nat} (h : ZX0 sh xs P c) (hP : ZPok P) (hC : ZCok P c) (hS : ZS sh ts) (hp : p < Zmn P c) (E : Ze) : fX9_domain (ZW E sh xs) (Zl E (1000 * (c + 1))) (Zl E ts) (nI p) = some (ZDm P (ZTs xs ts) c (Zpm P c p)) := by
  obtain ⟨ci, fs, h1, h2, h3, h4, h5, h6, h7⟩ := h
  have h8 := hC.2.2.1 _ (Zpm_lt hC hp)
  have h9 := hC.2.1
  have h10 := hP.1
  simp (disch := omega) only [fX9_domain, Zb3 hS.1, ZbC h1 h2, Option.bind_some, ZbI h3, h7 p hp, ZbI hS.2.1]
  rfl
theorem ZX0.fr {sh : Nat → Option Zsh} {xs xs' : Zxs} {P : ZP} {c : Nat} {A : Nat → Nat → Prop} {B : Nat → Prop} (h : ZX0 sh xs P c) (hf : Zfr A B xs xs') (hB : ¬ B (1000 * (c + 1) + 1)) : ZX0 sh xs' P c := by
  obtain ⟨ci, fs, h1, h2, h3, h4, h5, h6, h7⟩ := h
  exact ⟨ci, fs, h1, h2, h3, h4, h5, h6, by rw [hf.2 _ hB]; exact h7⟩
