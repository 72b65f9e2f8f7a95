/-! X: what Regular keeps -/
set_option maxRecDepth 100000
theorem Zesc_l {α β : Type} (a : α) (f : α → Option β) : zesc (some (.inl a) : Option (α ⊕ β)) f = f a := rfl
theorem Zesc_r {α β : Type} (b : β) (f : α → Option β) : zesc (some (.inr b) : Option (α ⊕ β)) f = some b := rfl
theorem Zne10 : ((1 : Int32) = 0) = False := eq_false (by decide)
theorem Zhas_t {x : Int32} {k : Nat} (hk : k < 32) (h : Zt x k = true) : fX1_has x (nI k) = some 1 := by rw [Zhas hk, if_pos h]
theorem Zhas_f {x : Int32} {k : Nat} (hk : k < 32) (h : ¬ Zt x k = true) : fX1_has x (nI k) = some 0 := by rw [Zhas hk, if_neg h]
def ZX3 (sh : Nat → Option Zsh) (xs : Zxs) (P : ZP) (c : Nat) : Prop :=
  sh (1000 * (c + 1)) = some (Zo11 (1000 * (c + 1) + 1) (1000 * (c + 1) + 2) (1000 * (c + 1) + 3) (1000 * (c + 1) + 4) (ZtL sh c) (1000 * (c + 1) + 8) (1000 * (c + 1) + 9)) ∧ sh (1000 * (c + 1) + 8) = some (Zia 0 7) ∧ sh (1000 * (c + 1) + 9) = some (Zia 0 7) ∧ xs.1 (1000 * (c + 1)) 5 = Zli P c ∧
  (∃ e, ZLi sh xs (ZtL sh c) e (Zrm P c) (ZtE sh c)) ∧ (∀ i, i < Zrm P c → sh (ZtE sh c i) = some Zo6 ∧ xs.1 (ZtE sh c i) 0 = nI (Zmv P c (3 * i)) ∧ xs.1 (ZtE sh c i) 1 = nI (Zmv P c (3 * i + 1)) ∧ xs.1 (ZtE sh c i) 2 = nI (Zmv P c (3 * i + 2))) ∧ 100000 ≤ ZtL sh c ∧ ∀ i, i < Zrm P c → 100000 ≤ ZtE sh c i
theorem ZX3.fr {sh : Nat → Option Zsh} {xs xs' : Zxs} {P : ZP} {c : Nat} {A : Nat → Nat → Prop} {B : Nat → Prop} (h : ZX3 sh xs P c) (hr : Zrm P c ≤ 16) (hf : Zfr A B xs xs') (hA : ∀ i f, i < 1000 → ¬ (i = 0 ∧ f ≠ 5) → ¬ A (1000 * (c + 1) + i) f) (hA2 : ∀ t f, 100000 ≤ t → ¬ A t f) : ZX3 sh xs' P c := by
  obtain ⟨h1, h2, h3, h4, ⟨e, h5⟩, h6, h7, h8⟩ := h
  refine ⟨h1, h2, h3, (hf.1 (1000 * (c + 1)) 5 (hA 0 5 (by omega) (by omega))).trans h4, ⟨e, hf.li (hA2 _ 2 h7) h5⟩, fun i hi => ?_, h7, h8⟩
  have q : ∀ f, xs'.1 (ZtE sh c i) f = xs.1 (ZtE sh c i) f := fun f => hf.1 _ _ (hA2 _ f (h8 i hi))
  rw [q, q, q]
  exact h6 i hi
/-- a bit is put in, if something holds -/
theorem Zt_put {x : Int32} {j k : Nat} (hj : j < 32) : Zt (x ||| (1 <<< (nI j &&& 31))) k = true ↔ Zt x k = true ∨ k = j := by
  rw [Zt_or, Zt_one hj]
  simp
theorem Zt_or0 {x : Int32} {k : Nat} : Zt (x ||| 0) k = true ↔ Zt x k = true := by
  rw [Zt_or, Zt_0]
  simp
section K3
variable {sh : Nat → Option Zsh} {xs : Zxs} {P : ZP} {E : Ze} {ts c : Nat}
theorem ZX_keep3a (hP : ZPok P) (hc : c < Znc P) (hs : Zso P c = 3) (hS : ZS sh ts) (hts : ts + 4 ≤ 100) (h0 : ZX0 sh xs P c) (h3 : ZX3 sh xs P c) {p : Nat} (hp : p < Zmn P c) {x : Zxs} (hf : Zfr (fun _ _ => False) (ZKB c) xs x) (hx : ∀ q, q ≤ p → ∀ s, s < 32 → (Zt (x.2 (1000 * (c + 1) + 8) q) s = true ↔ Zre P (ZTs xs ts) c q s)) (hfin : x.2 (1000 * (c + 1) + 9) (Zmn P c) = Zli P c) :
    ∀ N : Nat, 1000 ≤ N → ∃ y, fX13_keep_L22 N (Zl E (1000 * (c + 1))) (Zl E ts) (ZW E sh x, nI p) = some (.inl (ZW E sh y, nI (p + 1))) ∧ Zfr (fun _ _ => False) (ZKB c) xs y ∧ (∀ q, q ≤ p + 1 → ∀ s, s < 32 → (Zt (y.2 (1000 * (c + 1) + 8) q) s = true ↔ Zre P (ZTs xs ts) c q s)) ∧ y.2 (1000 * (c + 1) + 9) (Zmn P c) = Zli P c := by
  intro N hN
  have hC := hP.2.2.2.2.2 c hc
  have m8 := hC.2.1
  obtain ⟨m6, r16, hmv⟩ := hC.2.2.2.2.2.2.1 hs
  have hid : ∀ p, Zpm P c p = p := fun p => Zpm_id (by omega)
  have hKB : ∀ u, ZKB c u → 1000 ≤ u := by intro u h; unfold ZKB at h; omega
  have h3' := h3
  obtain ⟨a1, a2, a3, -, -, -⟩ := h3'
  have e1 := ZX0_size (h0.fr hf (by unfold ZKB; omega)) m8 E
  have L := Zl_inv (body := fX13_keep_L41 (Zl E (1000 * (c + 1))) (Zl E ts) (ZW E sh x, nI p)) (fun i a => ∃ y, a = (ZW E sh y, nI i) ∧ Zfr (fun _ _ => False) (ZKB c) xs y ∧ (∀ q, q ≠ p + 1 → y.2 (1000 * (c + 1) + 8) q = x.2 (1000 * (c + 1) + 8) q) ∧ y.2 (1000 * (c + 1) + 9) = x.2 (1000 * (c + 1) + 9) ∧ ∀ s, s < 32 → (Zt (y.2 (1000 * (c + 1) + 8) (p + 1)) s = true ↔ ∃ i', i' < i ∧ Zre P (ZTs xs ts) c p (Zmv P c (3 * i')) ∧ Zt (ZDm P (ZTs xs ts) c p) (Zmv P c (3 * i' + 1)) = true ∧ Zmv P c (3 * i' + 2) = s)) (Zrm P c)
    (fun r => ∃ y, r = ZW E sh y ∧ Zfr (fun _ _ => False) (ZKB c) xs y ∧ (∀ q, q ≠ p + 1 → y.2 (1000 * (c + 1) + 8) q = x.2 (1000 * (c + 1) + 8) q) ∧ y.2 (1000 * (c + 1) + 9) = x.2 (1000 * (c + 1) + 9) ∧ ∀ s, s < 32 → (Zt (y.2 (1000 * (c + 1) + 8) (p + 1)) s = true ↔ ∃ i', i' < Zrm P c ∧ Zre P (ZTs xs ts) c p (Zmv P c (3 * i')) ∧ Zt (ZDm P (ZTs xs ts) c p) (Zmv P c (3 * i' + 1)) = true ∧ Zmv P c (3 * i' + 2) = s))
    (by
      rintro i a hi ⟨y, rfl, hfy, hq, h9, hy⟩
      obtain ⟨-, -, -, -, ⟨e, li⟩, mo, -⟩ := h3.fr r16 hfy (fun _ _ _ _ q => q) (fun _ _ _ q => q)
      obtain ⟨b1, b2, b3, b4⟩ := mo i hi
      obtain ⟨v1, v2, v3⟩ := hmv i hi
      have hT := ZTs_fr hfy hKB hts
      have e2 := ZX0_dom (h0.fr hfy (by unfold ZKB; omega)) hP hC hS hp E
      rw [hid, hT] at e2
      have key : ∀ w : Int32, (∀ s, s < 32 → (Zt w s = true ↔ Zt (y.2 (1000 * (c + 1) + 8) (p + 1)) s = true ∨ (Zre P (ZTs xs ts) c p (Zmv P c (3 * i)) ∧ Zt (ZDm P (ZTs xs ts) c p) (Zmv P c (3 * i + 1)) = true ∧ s = Zmv P c (3 * i + 2)))) → ∃ a', (some (Sum.inl (ZW E sh (y.1, zua y.2 (1000 * (c + 1) + 8) (p + 1) w), nI (i + 1))) : Option ((zH × Int32) ⊕ zH)) = some (.inl a') ∧ ∃ y, a' = (ZW E sh y, nI (i + 1)) ∧ Zfr (fun _ _ => False) (ZKB c) xs y ∧ (∀ q, q ≠ p + 1 → y.2 (1000 * (c + 1) + 8) q = x.2 (1000 * (c + 1) + 8) q) ∧ y.2 (1000 * (c + 1) + 9) = x.2 (1000 * (c + 1) + 9) ∧ ∀ s, s < 32 → (Zt (y.2 (1000 * (c + 1) + 8) (p + 1)) s = true ↔ ∃ i', i' < i + 1 ∧ Zre P (ZTs xs ts) c p (Zmv P c (3 * i')) ∧ Zt (ZDm P (ZTs xs ts) c p) (Zmv P c (3 * i' + 1)) = true ∧ Zmv P c (3 * i' + 2) = s) := by
        intro w hw
        refine ⟨_, rfl, _, rfl, hfy.arr (by unfold ZKB; omega), fun q hq' => ?_, ?_, fun s hs => ?_⟩
        · simp only [zua_sn hq']
          exact hq q hq'
        · exact (zua_n (show 1000 * (c + 1) + 9 ≠ 1000 * (c + 1) + 8 by omega)).trans h9
        · simp only [zua_ss]
          rw [hw s hs, hy s hs]
          constructor
          · rintro (⟨i', g1, g2⟩ | ⟨g1, g2, g3⟩)
            · exact ⟨i', by omega, g2⟩
            · exact ⟨i, by omega, g1, g2, g3.symm⟩
          · rintro ⟨i', g1, g2, g3, g4⟩
            rcases Nat.lt_or_ge i' i with g | g
            · exact Or.inl ⟨i', g, g2, g3, g4⟩
            · have : i' = i := by omega
              subst this
              exact Or.inr ⟨g2, g3, g4.symm⟩
      have hre : Zt (y.2 (1000 * (c + 1) + 8) p) (Zmv P c (3 * i)) = true ↔ Zre P (ZTs xs ts) c p (Zmv P c (3 * i)) := by
        rw [hq p (by omega)]
        exact hx p (Nat.le_refl _) _ (by omega)
      by_cases q1 : Zt (y.2 (1000 * (c + 1) + 8) p) (Zmv P c (3 * i)) = true
      · by_cases q2 : Zt (ZDm P (ZTs xs ts) c p) (Zmv P c (3 * i + 1)) = true
        · simp (disch := omega) only [fX13_keep_L41, Zb11 a1, ZLis li, ZLsize li, ZLget li E hi, Zb6 b1, fX7_state, fX7_value, fX7_next, if_neg (nI_ge hi (show Zrm P c < 2 ^ 31 by omega)), ZbI a2, b2, b3, b4, Zhas_t (show Zmv P c (3 * i) < 32 by omega) q1, e2, Zhas_t (show Zmv P c (3 * i + 1) < 32 by omega) q2, nI_1, Option.bind_some, Zesc_l, Zesc_r, Zne10, if_true, if_false]
          exact key _ fun s hs => by rw [Zt_put (by omega)]; simp only [hre.mp q1, q2, true_and]
        · simp (disch := omega) only [fX13_keep_L41, Zb11 a1, ZLis li, ZLsize li, ZLget li E hi, Zb6 b1, fX7_state, fX7_value, fX7_next, if_neg (nI_ge hi (show Zrm P c < 2 ^ 31 by omega)), ZbI a2, b2, b3, b4, Zhas_t (show Zmv P c (3 * i) < 32 by omega) q1, e2, Zhas_f (show Zmv P c (3 * i + 1) < 32 by omega) q2, nI_1, Option.bind_some, Zesc_l, Zesc_r, Zne10, if_true, if_false]
          exact key _ fun s hs => by rw [Zt_or0]; simp [q2]
      · simp (disch := omega) only [fX13_keep_L41, Zb11 a1, ZLis li, ZLsize li, ZLget li E hi, Zb6 b1, fX7_state, fX7_value, fX7_next, if_neg (nI_ge hi (show Zrm P c < 2 ^ 31 by omega)), ZbI a2, b2, b3, b4, Zhas_f (show Zmv P c (3 * i) < 32 by omega) q1, nI_1, Option.bind_some, Zesc_l, Zesc_r, Zne10, if_true, if_false]
        exact key _ fun s hs => by rw [Zt_or0]; simp [show ¬ Zre P (ZTs xs ts) c p (Zmv P c (3 * i)) from fun g => q1 (hre.mpr g)])
    (by
      rintro a ⟨y, rfl, hfy, hq, h9, hy⟩
      obtain ⟨-, -, -, -, ⟨e, li⟩, mo, -⟩ := h3.fr r16 hfy (fun _ _ _ _ q => q) (fun _ _ _ q => q)
      simp only [fX13_keep_L41, Zb11 a1, ZLis li, ZLsize li, Option.bind_some, if_pos (nI_le (Nat.le_refl _) (show Zrm P c < 2 ^ 31 by omega))]
      exact ⟨_, rfl, y, rfl, hfy, hq, h9, hy⟩)
    N (ZW E sh (x.1, zua x.2 (1000 * (c + 1) + 8) (p + 1) 0), 0) (by omega) ⟨_, rfl, hf.arr (by unfold ZKB; omega), fun q hq => by simp only [zua_sn hq], zua_n (by omega), fun s hs => by
      simp only [zua_ss, Zt_0]
      exact ⟨fun h => (by cases h), fun ⟨i', h, _⟩ => absurd h (by omega)⟩⟩
  obtain ⟨r, e2, y, rfl, hfy, hq, h9, hy⟩ := L
  simp (disch := omega) only [fX13_keep_L22, Zb11 a1, e1, Option.bind_some, if_neg (nI_ge hp (show Zmn P c < 2 ^ 31 by omega)), nI_1, ZbI a2, e2]
  refine ⟨y, rfl, hfy, fun q hqp s hs => ?_, by rw [h9]; exact hfin⟩
  by_cases g : q = p + 1
  · rw [g, hy s hs]
    rfl
  · rw [hq q g]
    exact hx q (by omega) s hs
/-- the second loop's state: the places from p on are done -/
def ZK3i (xs : Zxs) (P : ZP) (ts c p : Nat) (y : Zxs) : Prop := Zfr (fun _ _ => False) (ZKB c) xs y ∧ (∀ q, q ≤ Zmn P c → ∀ s, s < 32 → (Zt (y.2 (1000 * (c + 1) + 8) q) s = true ↔ Zre P (ZTs xs ts) c q s)) ∧ (∀ q, p ≤ q → q ≤ Zmn P c → ∀ s, s < 32 → (Zt (y.2 (1000 * (c + 1) + 9) q) s = true ↔ Zld P (ZTs xs ts) c (Zmn P c - q) s)) ∧
  ∀ q, p ≤ q → q < Zmn P c → ∀ k, k < 32 → (Zt (y.2 (1000 * (c + 1) + 2) q) k = true ↔ ∃ i, i < Zrm P c ∧ Zre P (ZTs xs ts) c q (Zmv P c (3 * i)) ∧ Zld P (ZTs xs ts) c (Zmn P c - 1 - q) (Zmv P c (3 * i + 2)) ∧ Zt (ZDm P (ZTs xs ts) c q) (Zmv P c (3 * i + 1)) = true ∧ Zmv P c (3 * i + 1) = k)
theorem ZX_keep3b (hP : ZPok P) (hc : c < Znc P) (hs : Zso P c = 3) (hS : ZS sh ts) (hts : ts + 4 ≤ 100) (h0 : ZX0 sh xs P c) (h3 : ZX3 sh xs P c) {p : Nat} (hp : p < Zmn P c) {x : Zxs} (hI : ZK3i xs P ts c (p + 1) x) :
    ∀ N : Nat, 1000 ≤ N → ∃ y, fX13_keep_L174 N (Zl E (1000 * (c + 1))) (Zl E ts) (ZW E sh x, nI p) = some (.inl (ZW E sh y, if p = 0 then -1 else nI (p - 1))) ∧ ZK3i xs P ts c p y := by
  intro N hN
  have hC := hP.2.2.2.2.2 c hc
  have m8 := hC.2.1
  obtain ⟨m6, r16, hmv⟩ := hC.2.2.2.2.2.2.1 hs
  have hid : ∀ p, Zpm P c p = p := fun p => Zpm_id (by omega)
  have hKB : ∀ u, ZKB c u → 1000 ≤ u := by intro u h; unfold ZKB at h; omega
  have h3' := h3
  obtain ⟨a1, a2, a3, -, -, -⟩ := h3'
  have a5 : sh (1000 * (c + 1) + 2) = some (Zia 0 (Zmn P c)) := by obtain ⟨_, _, _, _, _, h, _⟩ := h0; exact h
  obtain ⟨hf, hx8, hx9, hx2⟩ := hI
  have L := Zl_inv (body := fX13_keep_L194 (Zl E (1000 * (c + 1))) (Zl E ts) (ZW E sh x, nI p)) (fun i a => ∃ y, a = (ZW E sh y, nI i) ∧ Zfr (fun _ _ => False) (ZKB c) xs y ∧ y.2 (1000 * (c + 1) + 8) = x.2 (1000 * (c + 1) + 8) ∧ (∀ q, q ≠ p → y.2 (1000 * (c + 1) + 9) q = x.2 (1000 * (c + 1) + 9) q) ∧ (∀ q, q ≠ p → y.2 (1000 * (c + 1) + 2) q = x.2 (1000 * (c + 1) + 2) q) ∧ (∀ s, s < 32 → (Zt (y.2 (1000 * (c + 1) + 9) p) s = true ↔ ∃ i', i' < i ∧ Zld P (ZTs xs ts) c (Zmn P c - 1 - p) (Zmv P c (3 * i' + 2)) ∧ Zt (ZDm P (ZTs xs ts) c p) (Zmv P c (3 * i' + 1)) = true ∧ Zmv P c (3 * i') = s)) ∧
      (∀ k, k < 32 → (Zt (y.2 (1000 * (c + 1) + 2) p) k = true ↔ ∃ i', i' < i ∧ Zre P (ZTs xs ts) c p (Zmv P c (3 * i')) ∧ Zld P (ZTs xs ts) c (Zmn P c - 1 - p) (Zmv P c (3 * i' + 2)) ∧ Zt (ZDm P (ZTs xs ts) c p) (Zmv P c (3 * i' + 1)) = true ∧ Zmv P c (3 * i' + 1) = k))) (Zrm P c)
    (fun r => ∃ y, r = ZW E sh y ∧ ZK3i xs P ts c p y)
    (by
      rintro i a hi ⟨y, rfl, hfy, h8, h9, h2, hy9, hy2⟩
      obtain ⟨-, -, -, -, ⟨e, li⟩, mo, -⟩ := h3.fr r16 hfy (fun _ _ _ _ q => q) (fun _ _ _ q => q)
      obtain ⟨b1, b2, b3, b4⟩ := mo i hi
      obtain ⟨v1, v2, v3⟩ := hmv i hi
      have hT := ZTs_fr hfy hKB hts
      have e2 := ZX0_dom (h0.fr hfy (by unfold ZKB; omega)) hP hC hS hp E
      rw [hid, hT] at e2
      have key : ∀ w v : Int32, (∀ s, s < 32 → (Zt w s = true ↔ Zt (y.2 (1000 * (c + 1) + 9) p) s = true ∨ (Zld P (ZTs xs ts) c (Zmn P c - 1 - p) (Zmv P c (3 * i + 2)) ∧ Zt (ZDm P (ZTs xs ts) c p) (Zmv P c (3 * i + 1)) = true ∧ s = Zmv P c (3 * i)))) →
          (∀ s, s < 32 → (Zt v s = true ↔ Zt (y.2 (1000 * (c + 1) + 2) p) s = true ∨ (Zre P (ZTs xs ts) c p (Zmv P c (3 * i)) ∧ Zld P (ZTs xs ts) c (Zmn P c - 1 - p) (Zmv P c (3 * i + 2)) ∧ Zt (ZDm P (ZTs xs ts) c p) (Zmv P c (3 * i + 1)) = true ∧ s = Zmv P c (3 * i + 1)))) →
          ∃ y', ((ZW E sh (y.1, zua (zua y.2 (1000 * (c + 1) + 9) p w) (1000 * (c + 1) + 2) p v), nI (i + 1)) : zH × Int32) = (ZW E sh y', nI (i + 1)) ∧ Zfr (fun _ _ => False) (ZKB c) xs y' ∧ y'.2 (1000 * (c + 1) + 8) = x.2 (1000 * (c + 1) + 8) ∧ (∀ q, q ≠ p → y'.2 (1000 * (c + 1) + 9) q = x.2 (1000 * (c + 1) + 9) q) ∧ (∀ q, q ≠ p → y'.2 (1000 * (c + 1) + 2) q = x.2 (1000 * (c + 1) + 2) q) ∧ (∀ s, s < 32 → (Zt (y'.2 (1000 * (c + 1) + 9) p) s = true ↔ ∃ i', i' < i + 1 ∧ Zld P (ZTs xs ts) c (Zmn P c - 1 - p) (Zmv P c (3 * i' + 2)) ∧ Zt (ZDm P (ZTs xs ts) c p) (Zmv P c (3 * i' + 1)) = true ∧ Zmv P c (3 * i') = s)) ∧
      (∀ k, k < 32 → (Zt (y'.2 (1000 * (c + 1) + 2) p) k = true ↔ ∃ i', i' < i + 1 ∧ Zre P (ZTs xs ts) c p (Zmv P c (3 * i')) ∧ Zld P (ZTs xs ts) c (Zmn P c - 1 - p) (Zmv P c (3 * i' + 2)) ∧ Zt (ZDm P (ZTs xs ts) c p) (Zmv P c (3 * i' + 1)) = true ∧ Zmv P c (3 * i' + 1) = k)) := by
        intro w v hw hv
        refine ⟨_, rfl, (Zfr.arr (Zfr.arr hfy (by unfold ZKB; omega)) (by unfold ZKB; omega)), ?_, fun q hq => ?_, fun q hq => ?_, fun s hs => ?_, fun s hs => ?_⟩
        · exact (zua_n (show 1000 * (c + 1) + 8 ≠ 1000 * (c + 1) + 2 by omega)).trans ((zua_n (show 1000 * (c + 1) + 8 ≠ 1000 * (c + 1) + 9 by omega)).trans h8)
        · simp only [zua_n (show 1000 * (c + 1) + 9 ≠ 1000 * (c + 1) + 2 by omega), zua_sn hq]
          exact h9 q hq
        · simp only [zua_sn hq, zua_n (show 1000 * (c + 1) + 2 ≠ 1000 * (c + 1) + 9 by omega)]
          exact h2 q hq
        · simp only [zua_n (show 1000 * (c + 1) + 9 ≠ 1000 * (c + 1) + 2 by omega), zua_ss]
          rw [hw s hs, hy9 s hs]
          constructor
          · rintro (⟨i', g1, g2⟩ | ⟨g1, g2, g3⟩)
            · exact ⟨i', by omega, g2⟩
            · exact ⟨i, by omega, g1, g2, g3.symm⟩
          · rintro ⟨i', g1, g2, g3, g4⟩
            rcases Nat.lt_or_ge i' i with g | g
            · exact Or.inl ⟨i', g, g2, g3, g4⟩
            · have : i' = i := by omega
              subst this
              exact Or.inr ⟨g2, g3, g4.symm⟩
        · simp only [zua_ss]
          rw [hv s hs, hy2 s hs]
          constructor
          · rintro (⟨i', g1, g2⟩ | ⟨g1, g2, g3, g4⟩)
            · exact ⟨i', by omega, g2⟩
            · exact ⟨i, by omega, g1, g2, g3, g4.symm⟩
          · rintro ⟨i', g1, g2, g3, g4, g5⟩
            rcases Nat.lt_or_ge i' i with g | g
            · exact Or.inl ⟨i', g, g2, g3, g4, g5⟩
            · have : i' = i := by omega
              subst this
              exact Or.inr ⟨g2, g3, g4, g5.symm⟩
      have hld : Zt (y.2 (1000 * (c + 1) + 9) (p + 1)) (Zmv P c (3 * i + 2)) = true ↔ Zld P (ZTs xs ts) c (Zmn P c - 1 - p) (Zmv P c (3 * i + 2)) := by
        rw [h9 (p + 1) (by omega), show Zmn P c - 1 - p = Zmn P c - (p + 1) by omega]
        exact hx9 (p + 1) (Nat.le_refl _) (by omega) _ (by omega)
      have hre : Zt (y.2 (1000 * (c + 1) + 8) p) (Zmv P c (3 * i)) = true ↔ Zre P (ZTs xs ts) c p (Zmv P c (3 * i)) := by
        rw [h8]
        exact hx8 p (by omega) _ (by omega)
      by_cases q1 : Zt (y.2 (1000 * (c + 1) + 9) (p + 1)) (Zmv P c (3 * i + 2)) = true
      · by_cases q2 : Zt (ZDm P (ZTs xs ts) c p) (Zmv P c (3 * i + 1)) = true
        · by_cases q3 : Zt (y.2 (1000 * (c + 1) + 8) p) (Zmv P c (3 * i)) = true
          · simp (disch := omega) only [fX13_keep_L194, Zb11 a1, ZLis li, ZLsize li, ZLget li E hi, Zb6 b1, fX7_state, fX7_value, fX7_next, if_neg (nI_ge hi (show Zrm P c < 2 ^ 31 by omega)), ZbI a2, ZbI a3, ZbI a5, zua_n, b2, b3, b4, Zhas_t (show Zmv P c (3 * i + 2) < 32 by omega) q1, e2, Zhas_t (show Zmv P c (3 * i + 1) < 32 by omega) q2, Zhas_t (show Zmv P c (3 * i) < 32 by omega) q3, nI_1, Option.bind_some, Zesc_l, Zesc_r, Zne10, if_true, if_false]
            exact ⟨_, rfl, key _ _ (fun s hs => by rw [Zt_put (by omega)]; simp only [hld.mp q1, q2, true_and]) fun s hs => by rw [Zt_put (by omega)]; simp only [hld.mp q1, q2, hre.mp q3, true_and]⟩
          · simp (disch := omega) only [fX13_keep_L194, Zb11 a1, ZLis li, ZLsize li, ZLget li E hi, Zb6 b1, fX7_state, fX7_value, fX7_next, if_neg (nI_ge hi (show Zrm P c < 2 ^ 31 by omega)), ZbI a2, ZbI a3, ZbI a5, zua_n, b2, b3, b4, Zhas_t (show Zmv P c (3 * i + 2) < 32 by omega) q1, e2, Zhas_t (show Zmv P c (3 * i + 1) < 32 by omega) q2, Zhas_f (show Zmv P c (3 * i) < 32 by omega) q3, nI_1, Option.bind_some, Zesc_l, Zesc_r, Zne10, if_true, if_false]
            exact ⟨_, rfl, key _ _ (fun s hs => by rw [Zt_put (by omega)]; simp only [hld.mp q1, q2, true_and]) fun s hs => by rw [Zt_or0]; simp [show ¬ Zre P (ZTs xs ts) c p (Zmv P c (3 * i)) from fun g => q3 (hre.mpr g)]⟩
        · simp (disch := omega) only [fX13_keep_L194, Zb11 a1, ZLis li, ZLsize li, ZLget li E hi, Zb6 b1, fX7_state, fX7_value, fX7_next, if_neg (nI_ge hi (show Zrm P c < 2 ^ 31 by omega)), ZbI a2, ZbI a3, ZbI a5, zua_n, b2, b3, b4, Zhas_t (show Zmv P c (3 * i + 2) < 32 by omega) q1, e2, Zhas_f (show Zmv P c (3 * i + 1) < 32 by omega) q2, nI_1, Option.bind_some, Zesc_l, Zesc_r, Zne10, if_true, if_false]
          exact ⟨_, rfl, key _ _ (fun s hs => by rw [Zt_or0]; simp [q2]) fun s hs => by rw [Zt_or0]; simp [q2]⟩
      · simp (disch := omega) only [fX13_keep_L194, Zb11 a1, ZLis li, ZLsize li, ZLget li E hi, Zb6 b1, fX7_state, fX7_value, fX7_next, if_neg (nI_ge hi (show Zrm P c < 2 ^ 31 by omega)), ZbI a2, ZbI a3, ZbI a5, zua_n, b2, b3, b4, Zhas_f (show Zmv P c (3 * i + 2) < 32 by omega) q1, nI_1, Option.bind_some, Zesc_l, Zesc_r, Zne10, if_true, if_false]
        have hn : ¬ Zld P (ZTs xs ts) c (Zmn P c - 1 - p) (Zmv P c (3 * i + 2)) := fun g => q1 (hld.mpr g)
        exact ⟨_, rfl, key _ _ (fun s hs => by rw [Zt_or0]; simp [hn]) fun s hs => by rw [Zt_or0]; simp [hn]⟩)
    (by
      rintro a ⟨y, rfl, hfy, h8, h9, h2, hy9, hy2⟩
      obtain ⟨-, -, -, -, ⟨e, li⟩, mo, -⟩ := h3.fr r16 hfy (fun _ _ _ _ q => q) (fun _ _ _ q => q)
      simp only [fX13_keep_L194, Zb11 a1, ZLis li, ZLsize li, Option.bind_some, if_pos (nI_le (Nat.le_refl _) (show Zrm P c < 2 ^ 31 by omega))]
      refine ⟨_, rfl, y, rfl, hfy, fun q hq s hs => by rw [h8]; exact hx8 q hq s hs, fun q hpq hq s hs => ?_, fun q hpq hq k hk => ?_⟩
      · by_cases g : q = p
        · rw [g, hy9 s hs, show Zmn P c - p = (Zmn P c - 1 - p) + 1 by omega, Zld, show Zmn P c - 1 - (Zmn P c - 1 - p) = p by omega]
        · rw [h9 q g]
          exact hx9 q (by omega) hq s hs
      · by_cases g : q = p
        · rw [g]
          exact hy2 k hk
        · rw [h2 q g]
          exact hx2 q (by omega) hq k hk)
    N (ZW E sh (x.1, zua (zua x.2 (1000 * (c + 1) + 9) p 0) (1000 * (c + 1) + 2) p 0), 0) (by omega) ⟨_, rfl, (Zfr.arr (Zfr.arr hf (by unfold ZKB; omega)) (by unfold ZKB; omega)), (zua_n (show 1000 * (c + 1) + 8 ≠ 1000 * (c + 1) + 2 by omega)).trans (zua_n (show 1000 * (c + 1) + 8 ≠ 1000 * (c + 1) + 9 by omega)), fun q hq => by simp only [zua_n (show 1000 * (c + 1) + 9 ≠ 1000 * (c + 1) + 2 by omega), zua_sn hq], fun q hq => by simp only [zua_sn hq, zua_n (show 1000 * (c + 1) + 2 ≠ 1000 * (c + 1) + 9 by omega)], fun s hs => by
        simp only [zua_n (show 1000 * (c + 1) + 9 ≠ 1000 * (c + 1) + 2 by omega), zua_ss, Zt_0]
        exact ⟨fun h => (by cases h), fun ⟨i', h, _⟩ => absurd h (by omega)⟩, fun s hs => by
        simp only [zua_ss, Zt_0]
        exact ⟨fun h => (by cases h), fun ⟨i', h, _⟩ => absurd h (by omega)⟩⟩
  obtain ⟨r, e2, y, rfl, hy⟩ := L
  have e6 : nI p + (-1) = if p = 0 then (-1 : Int32) else nI (p - 1) := by
    by_cases q : p = 0
    · rw [if_pos q, q]
      decide
    · rw [if_neg q, sb_m1 (by omega)]
  simp (disch := omega) only [fX13_keep_L174, if_neg (nI_pos (show p < 2 ^ 31 by omega)), Zb11 a1, Option.bind_some, ZbI a3, ZbI a5, e2, e6]
  exact ⟨y, rfl, hy⟩
theorem ZX_keep3 (hP : ZPok P) (hc : c < Znc P) (hs : Zso P c = 3) (hS : ZS sh ts) (hts : ts + 4 ≤ 100) (h0 : ZX0 sh xs P c) (h3 : ZX3 sh xs P c) :
    ∀ N : Nat, 1000 ≤ N → ∃ xs', fX13_keep N (ZW E sh xs) (Zl E (1000 * (c + 1))) (Zl E ts) = some (ZW E sh xs') ∧ Zfr (fun _ _ => False) (ZKB c) xs xs' ∧ ZKs P (ZTs xs ts) c xs' := by
  intro N hN
  have hC := hP.2.2.2.2.2 c hc
  have m1 := hC.1
  have m8 := hC.2.1
  obtain ⟨m6, r16, hmv⟩ := hC.2.2.2.2.2.2.1 hs
  have hid : ∀ p, Zpm P c p = p := fun p => Zpm_id (by omega)
  have h3' := h3
  obtain ⟨a1, a2, a3, a4, -, -⟩ := h3'
  have f1 : Zfr (fun _ _ => False) (ZKB c) xs (xs.1, zua (zua xs.2 (1000 * (c + 1) + 8) 0 1) (1000 * (c + 1) + 9) (Zmn P c) (Zli P c)) := Zfr.arr (Zfr.arr Zfr.rfl (by unfold ZKB; omega)) (by unfold ZKB; omega)
  have L1 := Zl_inv (body := fX13_keep_L22 N (Zl E (1000 * (c + 1))) (Zl E ts)) (fun p a => ∃ x, a = (ZW E sh x, nI p) ∧ Zfr (fun _ _ => False) (ZKB c) xs x ∧ (∀ q, q ≤ p → ∀ s, s < 32 → (Zt (x.2 (1000 * (c + 1) + 8) q) s = true ↔ Zre P (ZTs xs ts) c q s)) ∧ x.2 (1000 * (c + 1) + 9) (Zmn P c) = Zli P c) (Zmn P c)
    (fun r => ∃ x, r = ZW E sh x ∧ ZK3i xs P ts c (Zmn P c) x)
    (by
      rintro p a hp ⟨x, rfl, hf, hx, hfin⟩
      obtain ⟨y, e1, hy⟩ := ZX_keep3a (E := E) hP hc hs hS hts h0 h3 hp hf hx hfin N hN
      exact ⟨_, e1, y, rfl, hy⟩)
    (by
      rintro a ⟨x, rfl, hf, hx, hfin⟩
      have e1 := ZX0_size (h0.fr hf (by unfold ZKB; omega)) m8 E
      simp only [fX13_keep_L22, Zb11 a1, e1, Option.bind_some, if_pos (nI_le (Nat.le_refl _) (show Zmn P c < 2 ^ 31 by omega))]
      refine ⟨_, rfl, x, rfl, hf, hx, fun q h1 h2 s _ => ?_, fun q h1 h2 => absurd h1 (by omega)⟩
      have : q = Zmn P c := by omega
      rw [this, hfin, Nat.sub_self]
      rfl)
    N (ZW E sh (xs.1, zua (zua xs.2 (1000 * (c + 1) + 8) 0 1) (1000 * (c + 1) + 9) (Zmn P c) (Zli P c)), 0) (by omega) ⟨_, rfl, f1, fun q hq s hs => by
      have : q = 0 := by omega
      rw [this]
      simp only [zua_n (show 1000 * (c + 1) + 8 ≠ 1000 * (c + 1) + 9 by omega), zua_ss, Zt_1, Zre, decide_eq_true_eq], zua_ss⟩
  obtain ⟨r, e1, x, rfl, hI⟩ := L1
  have es0 : fX9_size (ZW E sh (xs.1, zua xs.2 (1000 * (c + 1) + 8) 0 1)) (Zl E (1000 * (c + 1))) = some (nI (Zmn P c)) := ZX0_size (h0.fr (A := fun _ _ => False) (B := ZKB c) (Zfr.arr Zfr.rfl (by unfold ZKB; omega)) (by unfold ZKB; omega)) m8 E
  have es := ZX0_size (h0.fr hI.1 (by unfold ZKB; omega)) m8 E
  have L2 := Zl_inv (body := fX13_keep_L174 N (Zl E (1000 * (c + 1))) (Zl E ts)) (fun j a => ∃ y, a = (ZW E sh y, if j = Zmn P c then -1 else nI (Zmn P c - 1 - j)) ∧ ZK3i xs P ts c (Zmn P c - j) y) (Zmn P c)
    (fun r => ∃ y, r = ZW E sh y ∧ ZK3i xs P ts c 0 y)
    (by
      rintro j a hj ⟨y, rfl, hI⟩
      rw [show Zmn P c - j = Zmn P c - 1 - j + 1 by omega] at hI
      obtain ⟨z, e2, hz⟩ := ZX_keep3b (E := E) hP hc hs hS hts h0 h3 (show Zmn P c - 1 - j < Zmn P c by omega) hI N hN
      rw [if_neg (show ¬ j = Zmn P c by omega), e2]
      refine ⟨_, rfl, z, ?_, ?_⟩
      · by_cases q : j + 1 = Zmn P c
        · rw [if_pos q, if_pos (by omega)]
        · rw [if_neg q, if_neg (by omega), show Zmn P c - 1 - j - 1 = Zmn P c - 1 - (j + 1) by omega]
      · rw [show Zmn P c - (j + 1) = Zmn P c - 1 - j by omega]
        exact hz)
    (by
      rintro a ⟨y, rfl, hI⟩
      simp only [fX13_keep_L174, if_true, if_pos (show (-1 : Int32) < 0 by decide)]
      rw [Nat.sub_self] at hI
      exact ⟨_, rfl, y, rfl, hI⟩)
    N (ZW E sh x, nI (Zmn P c) - 1) (by omega) ⟨x, by rw [if_neg (by omega), Zlit 1, pk_sub m1]; rfl, hI⟩
  obtain ⟨r, e2, y, rfl, hfy, hy8, hy9, hy2⟩ := L2
  simp (disch := omega) only [fX13_keep, Zb11 a1, ZbI a2, ZbI a3, Option.bind_some, a4, es0, e1, es, e2]
  refine ⟨y, rfl, hfy, fun p hp _ k hk hD => ?_⟩
  rw [hid] at hD ⊢
  rw [hy2 p (Nat.zero_le _) hp k hk]
  simp only [Zsup, hs]
  constructor
  · rintro ⟨i, g1, g2, g3, g4, g5⟩
    exact ⟨i, g1, g2, g3, g5⟩
  · rintro ⟨i, g1, g2, g3, g5⟩
    exact ⟨i, g1, g2, g3, by rw [g5]; exact hD, g5⟩
end K3
