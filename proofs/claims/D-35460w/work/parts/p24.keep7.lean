/-! X: what Small keeps -/
set_option maxRecDepth 100000
/-- the relation's object by the sort -/
def Zfh (s : Nat) (a b c : Int32) : Option Int32 := match s with
  | 7 => fX1_lambda_when_0 1 a b c
  | 8 => fX1_lambda_when_0 0 a b c
  | 9 => fX1_lambda_sets_1 1 a b c
  | 10 => fX1_lambda_sets_1 0 a b c
  | 11 => fX1_lambda_within_2 a b c
  | 12 => fX1_lambda_measure_3 1 a b c
  | 13 => fX1_lambda_measure_3 0 a b c
  | 14 => fX1_lambda_member_4 a b c
  | 15 => fX1_isJoined a b c
  | 16 => fX1_lambda_prefix_5 a b c
  | _ => fX1_isLetter a b c
/-- the class of the relation's object, and its flag -/
def Zrc (s : Nat) : Nat × Option Int32 := match s with
  | 7 => (100, some 1)
  | 8 => (100, some 0)
  | 9 => (101, some 1)
  | 10 => (101, some 0)
  | 11 => (102, none)
  | 12 => (103, some 1)
  | 13 => (103, some 0)
  | 14 => (104, none)
  | 15 => (105, none)
  | 16 => (106, none)
  | _ => (107, none)
def ZXrel (sh : Nat → Option Zsh) (xs : Zxs) (s rt : Nat) : Prop := match (Zrc s).2 with
  | some f => sh rt = some (Zob (Zrc s).1 [none]) ∧ xs.1 rt 0 = f
  | none => sh rt = some (Zob (Zrc s).1 [])
theorem ZXrel_holds {sh : Nat → Option Zsh} {xs : Zxs} {s rt : Nat} (h : ZXrel sh xs s rt) (hs : 7 ≤ s ∧ s ≤ 17) (E : Ze) (a b c : Int32) : fholds (ZW E sh xs) (Zl E rt) a b c = Zfh s a b c := by
  have k1 : ∀ ci : Nat, sh rt = some (Zob ci [none]) → (ZW E sh xs).2 (Zl E rt) = some (.inr (ci, [.int (xs.1 rt 0)])) := fun ci hc => ZW_at hc E xs
  have k0 : ∀ ci : Nat, sh rt = some (Zob ci []) → (ZW E sh xs).2 (Zl E rt) = some (.inr (ci, [])) := fun ci hc => ZW_at hc E xs
  have hc : s = 7 ∨ s = 8 ∨ s = 9 ∨ s = 10 ∨ s = 11 ∨ s = 12 ∨ s = 13 ∨ s = 14 ∨ s = 15 ∨ s = 16 ∨ s = 17 := by omega
  unfold fholds
  rcases hc with rfl | rfl | rfl | rfl | rfl | rfl | rfl | rfl | rfl | rfl | rfl
  · obtain ⟨h1, h2⟩ := h
    rw [k1 100 h1, h2]
    rfl
  · obtain ⟨h1, h2⟩ := h
    rw [k1 100 h1, h2]
    rfl
  · obtain ⟨h1, h2⟩ := h
    rw [k1 101 h1, h2]
    rfl
  · obtain ⟨h1, h2⟩ := h
    rw [k1 101 h1, h2]
    rfl
  · rw [k0 102 h]
    rfl
  · obtain ⟨h1, h2⟩ := h
    rw [k1 103 h1, h2]
    rfl
  · obtain ⟨h1, h2⟩ := h
    rw [k1 103 h1, h2]
    rfl
  · rw [k0 104 h]
    rfl
  · rw [k0 105 h]
    rfl
  · rw [k0 106 h]
    rfl
  · rw [k0 107 h]
    rfl
theorem Zite01 {p : Prop} [Decidable p] : (if p then some (1 : Int32) else some 0) = some 0 ∨ (if p then some (1 : Int32) else some 0) = some 1 := by
  by_cases h : p
  · exact Or.inr (if_pos h)
  · exact Or.inl (if_neg h)
theorem Zlen_some (a : Int32) : ∃ l, fX1_length a = some l := by
  unfold fX1_length
  split
  · exact ⟨_, rfl⟩
  · split
    · split
      · exact ⟨_, rfl⟩
      · exact ⟨_, rfl⟩
    · exact ⟨_, rfl⟩
theorem Zlet_some (a : Int32) : ∃ l, fX1_letters a = some l := by
  obtain ⟨l, h⟩ := Zlen_some a
  exact ⟨_, by unfold fX1_letters; rw [h, Option.bind_some]⟩
theorem Zhas01 (x y : Int32) : fX1_has x y = some 0 ∨ fX1_has x y = some 1 := Zite01
theorem Zbc_some (a : Int32) : ∃ l, fJ18_bitCount a = some l := ⟨_, rfl⟩
theorem Zfh01 (s : Nat) (a b c : Int32) : Zfh s a b c = some 0 ∨ Zfh s a b c = some 1 := by
  obtain ⟨la, ea⟩ := Zlen_some a
  obtain ⟨lb, eb⟩ := Zlen_some b
  obtain ⟨lc, ec⟩ := Zlen_some c
  obtain ⟨ma, fa⟩ := Zlet_some a
  obtain ⟨mb, fb⟩ := Zlet_some b
  obtain ⟨mc, fc⟩ := Zlet_some c
  obtain ⟨na, ga⟩ := Zbc_some a
  have w : ∀ z, fX1_lambda_when_0 z a b c = some 0 ∨ fX1_lambda_when_0 z a b c = some 1 := by
    intro z
    unfold fX1_lambda_when_0
    have : ∃ t : Int32, (zesc (zesc (if z = 0 then (if b = c then (some (.inr (.inl ()))) else (some (.inl ()))) else (if c ≤ b then (some (.inl ())) else (some (.inr (.inl ()))))) fun t5 => some (.inr (0 : Int32))) fun t3 => some (1 : Int32)) = some t := by
      by_cases q : z = 0
      · rw [if_pos q]
        by_cases q2 : b = c
        · rw [if_pos q2]
          exact ⟨_, rfl⟩
        · rw [if_neg q2]
          exact ⟨_, rfl⟩
      · rw [if_neg q]
        by_cases q2 : c ≤ b
        · rw [if_pos q2]
          exact ⟨_, rfl⟩
        · rw [if_neg q2]
          exact ⟨_, rfl⟩
    obtain ⟨t, e⟩ := this
    rw [e, Option.bind_some]
    exact Zite01
  have u : ∀ z, fX1_lambda_sets_1 z a b c = some 0 ∨ fX1_lambda_sets_1 z a b c = some 1 := by
    intro z
    unfold fX1_lambda_sets_1
    by_cases q : z = 0
    · rw [if_pos q, Option.bind_some]
      exact Zite01
    · rw [if_neg q, Option.bind_some]
      exact Zite01
  have me : ∀ z, fX1_lambda_measure_3 z a b c = some 0 ∨ fX1_lambda_measure_3 z a b c = some 1 := by
    intro z
    unfold fX1_lambda_measure_3
    rw [ea, ga]
    by_cases q : z = 0
    · rw [if_pos q]
      exact Zite01
    · rw [if_neg q]
      exact Zite01
  unfold Zfh
  split
  · exact w 1
  · exact w 0
  · exact u 1
  · exact u 0
  · exact Zite01
  · exact me 1
  · exact me 0
  · unfold fX1_lambda_member_4
    rcases Zhas01 c b with h | h
    · rw [h]
      exact Zite01
    · rw [h]
      exact Zite01
  · unfold fX1_isJoined
    rw [ea, eb, ec, fa, fb, fc]
    simp only [Option.bind_some]
    by_cases q : la = lb + lc
    · rw [if_pos q]
      exact Zite01
    · rw [if_neg q]
      exact Or.inl rfl
  · unfold fX1_lambda_prefix_5
    have : fX1_begins a b = some 0 ∨ fX1_begins a b = some 1 := by
      unfold fX1_begins
      rw [ea, eb, fa, fb]
      simp only [Option.bind_some]
      by_cases q : lb - la < 0
      · rw [if_pos q]
        exact Or.inl rfl
      · rw [if_neg q]
        exact Zite01
    rcases this with h | h
    · rw [h]
      exact Or.inl rfl
    · rw [h]
      exact Or.inr rfl
  · unfold fX1_isLetter
    rw [eb, fb]
    simp only [Option.bind_some]
    by_cases q : lb ≤ c
    · rw [if_pos q]
      exact Or.inl rfl
    · rw [if_neg q]
      exact Zite01
def ZX7 (sh : Nat → Option Zsh) (xs : Zxs) (P : ZP) (c : Nat) : Prop := ∃ rt, sh (1000 * (c + 1)) = some (Zo13 (1000 * (c + 1) + 1) (1000 * (c + 1) + 2) (1000 * (c + 1) + 3) (1000 * (c + 1) + 4) rt) ∧ ZXrel sh xs (Zso P c) rt ∧ (rt = 1000 * (c + 1) + 5 ∨ 50400 ≤ rt)
theorem ZX7.fr {sh : Nat → Option Zsh} {xs xs' : Zxs} {P : ZP} {c : Nat} {A : Nat → Nat → Prop} {B : Nat → Prop} (h : ZX7 sh xs P c) (hf : Zfr A B xs xs') (hA : ¬ A (1000 * (c + 1) + 5) 0) (hA' : ∀ r, 50400 ≤ r → ¬ A r 0) : ZX7 sh xs' P c := by
  obtain ⟨rt, h1, h2, h3⟩ := h
  refine ⟨rt, h1, ?_, h3⟩
  have e : xs'.1 rt 0 = xs.1 rt 0 := hf.1 _ _ (by
    rcases h3 with h3 | h3
    · rw [h3]
      exact hA
    · exact hA' _ h3)
  unfold ZXrel at h2 ⊢
  rw [e]
  exact h2
section K7
variable {sh : Nat → Option Zsh} {xs : Zxs} {P : ZP} {E : Ze} {ts c : Nat}
/-- values at X's places that the relation has -/
def ZV7 (P : ZP) (T : ZT0) (c a b e : Nat) : Prop := a < 32 ∧ b < 32 ∧ e < 32 ∧ Zt (ZDm P T c (Zpm P c 0)) a = true ∧ Zt (ZDm P T c (Zpm P c 1)) b = true ∧ (if Zmn P c = 2 then e = 0 else Zt (ZDm P T c (Zpm P c 2)) e = true) ∧ Zfh (Zso P c) (nI a) (nI b) (nI e) = some 1
/-- what is laid of the values that were seen -/
def ZP7 (xs : Zxs) (P : ZP) (T : ZT0) (c : Nat) (pr : Nat → Nat → Nat → Prop) (y : Zxs) : Prop := Zfr (fun _ _ => False) (ZKB c) xs y ∧ (∀ k, k < 32 → (Zt (y.2 (1000 * (c + 1) + 2) 0) k = true ↔ ∃ b e, pr k b e ∧ ZV7 P T c k b e)) ∧ (∀ k, k < 32 → (Zt (y.2 (1000 * (c + 1) + 2) 1) k = true ↔ ∃ a e, pr a k e ∧ ZV7 P T c a k e)) ∧ (2 < Zmn P c → ∀ k, k < 32 → (Zt (y.2 (1000 * (c + 1) + 2) 2) k = true ↔ ∃ a b, pr a b k ∧ ZV7 P T c a b k))
theorem ZP7.iff {T : ZT0} {pr pr' : Nat → Nat → Nat → Prop} {y : Zxs} (h : ZP7 xs P T c pr y) (hp : ∀ a b e, ZV7 P T c a b e → (pr a b e ↔ pr' a b e)) : ZP7 xs P T c pr' y := by
  obtain ⟨h1, h2, h3, h4⟩ := h
  have q : ∀ a b e, (pr a b e ∧ ZV7 P T c a b e) ↔ (pr' a b e ∧ ZV7 P T c a b e) := fun a b e => ⟨fun ⟨x, v⟩ => ⟨(hp a b e v).mp x, v⟩, fun ⟨x, v⟩ => ⟨(hp a b e v).mpr x, v⟩⟩
  exact ⟨h1, fun k hk => by rw [h2 k hk]; simp only [q], fun k hk => by rw [h3 k hk]; simp only [q], fun hm k hk => by rw [h4 hm k hk]; simp only [q]⟩
def Zlx (a b e a' b' e' : Nat) : Prop := a' < a ∨ (a' = a ∧ (b' < b ∨ (b' = b ∧ e' < e)))
theorem ZX_keep7a (hm : 2 ≤ Zmn P c ∧ Zmn P c ≤ 3) (hs : 7 ≤ Zso P c ∧ Zso P c ≤ 17) (h0 : ZX0 sh xs P c) (h7 : ZX7 sh xs P c) {T : ZT0} {a b e : Nat} (ha : a < 32) (hb : b < 32) (he : e < 32) {y : Zxs} (hy : ZP7 xs P T c (Zlx a b e) y) (h1 : Zt (ZDm P T c (Zpm P c 0)) a = true) (h2 : Zt (ZDm P T c (Zpm P c 1)) b = true) (h3 : if Zmn P c = 2 then e = 0 else Zt (ZDm P T c (Zpm P c 2)) e = true) :
    ∃ z, fX15_keep_2 (ZW E sh y) (Zl E (1000 * (c + 1))) (nI a) (nI b) (nI e) = some (ZW E sh z) ∧ ZP7 xs P T c (Zlx a b (e + 1)) z := by
  have a5 : sh (1000 * (c + 1) + 2) = some (Zia 0 (Zmn P c)) := by obtain ⟨_, _, _, _, _, h, _⟩ := h0; exact h
  have hf := hy.1
  obtain ⟨rt, r1, r2, -⟩ := h7.fr hf (fun q => q) (fun _ _ q => q)
  have ho := ZXrel_holds r2 hs E (nI a) (nI b) (nI e)
  rcases Zfh01 (Zso P c) (nI a) (nI b) (nI e) with q | q
  · rw [q] at ho
    simp only [fX15_keep_2, Zb13 r1, Option.bind_some, ho, if_true]
    refine ⟨y, rfl, hy.iff fun a' b' e' v => ?_⟩
    unfold Zlx
    constructor
    · omega
    · intro g
      by_cases z : a' = a ∧ b' = b ∧ e' = e
      · obtain ⟨rfl, rfl, rfl⟩ := z
        exact absurd (q.symm.trans v.2.2.2.2.2.2) (by decide)
      · omega
  · rw [q] at ho
    have hv : ZV7 P T c a b e := ⟨ha, hb, he, h1, h2, h3, q⟩
    have sz : ∀ z : Zxs, Zfr (fun _ _ => False) (ZKB c) xs z → fX9_size (ZW E sh z) (Zl E (1000 * (c + 1))) = some (nI (Zmn P c)) := fun z hz => ZX0_size (h0.fr hz (by unfold ZKB; omega)) (by omega) E
    have f1 : ∀ w v, Zfr (fun _ _ => False) (ZKB c) xs (y.1, zua (zua y.2 (1000 * (c + 1) + 2) 0 w) (1000 * (c + 1) + 2) 1 v) := fun w v => Zfr.arr (Zfr.arr hf (by unfold ZKB; omega)) (by unfold ZKB; omega)
    obtain ⟨-, hy0, hy1, hy2⟩ := hy
    have g0 : ∀ k, k < 32 → (Zt (y.2 (1000 * (c + 1) + 2) 0 ||| (1 <<< (nI a &&& 31))) k = true ↔ ∃ b' e', Zlx a b (e + 1) k b' e' ∧ ZV7 P T c k b' e') := by
      intro k hk
      rw [Zt_put ha, hy0 k hk]
      constructor
      · rintro (⟨b', e', g1, g2⟩ | g)
        · exact ⟨b', e', by unfold Zlx at g1 ⊢; omega, g2⟩
        · exact ⟨b, e, by unfold Zlx; omega, g ▸ hv⟩
      · rintro ⟨b', e', g1, g2⟩
        by_cases z : k = a
        · exact Or.inr z
        · exact Or.inl ⟨b', e', by unfold Zlx at g1 ⊢; omega, g2⟩
    have g1 : ∀ k, k < 32 → (Zt (y.2 (1000 * (c + 1) + 2) 1 ||| (1 <<< (nI b &&& 31))) k = true ↔ ∃ a' e', Zlx a b (e + 1) a' k e' ∧ ZV7 P T c a' k e') := by
      intro k hk
      rw [Zt_put hb, hy1 k hk]
      constructor
      · rintro (⟨b', e', g1, g2⟩ | g)
        · exact ⟨b', e', by unfold Zlx at g1 ⊢; omega, g2⟩
        · exact ⟨a, e, by unfold Zlx; omega, g ▸ hv⟩
      · rintro ⟨b', e', g1, g2⟩
        by_cases z : k = b
        · exact Or.inr z
        · exact Or.inl ⟨b', e', by unfold Zlx at g1 ⊢; omega, g2⟩
    have g2 : 2 < Zmn P c → ∀ k, k < 32 → (Zt (y.2 (1000 * (c + 1) + 2) 2 ||| (1 <<< (nI e &&& 31))) k = true ↔ ∃ a' b', Zlx a b (e + 1) a' b' k ∧ ZV7 P T c a' b' k) := by
      intro hm k hk
      rw [Zt_put he, hy2 hm k hk]
      constructor
      · rintro (⟨b', e', g1, g2⟩ | g)
        · exact ⟨b', e', by unfold Zlx at g1 ⊢; omega, g2⟩
        · exact ⟨a, b, by unfold Zlx; omega, g ▸ hv⟩
      · rintro ⟨b', e', g1, g2⟩
        by_cases z : k = e
        · exact Or.inr z
        · exact Or.inl ⟨b', e', by unfold Zlx at g1 ⊢; omega, g2⟩
    by_cases m2 : Zmn P c = 2
    · simp (disch := omega) only [fX15_keep_2, Zb13 r1, Option.bind_some, ho, Zne10, if_false, ZbI a5, zua_sn, zua_ss, sz _ (f1 _ _), if_pos (show nI (Zmn P c) ≤ (2 : Int32) by rw [m2]; decide)]
      refine ⟨_, rfl, f1 _ _, fun k hk => ?_, fun k hk => ?_, fun h => absurd h (by omega)⟩
      · simp only [zua_sn (show 0 ≠ 1 by decide), zua_ss]
        exact g0 k hk
      · simp only [zua_ss]
        exact g1 k hk
    · simp (disch := omega) only [fX15_keep_2, Zb13 r1, Option.bind_some, ho, Zne10, if_false, ZbI a5, zua_sn, zua_ss, sz _ (f1 _ _), if_neg (show ¬ nI (Zmn P c) ≤ (2 : Int32) by rw [show Zmn P c = 3 by omega]; decide)]
      refine ⟨_, rfl, Zfr.arr (f1 _ _) (by unfold ZKB; omega), fun k hk => ?_, fun k hk => ?_, fun h k hk => ?_⟩
      · simp only [zua_sn (show 0 ≠ 1 by decide), zua_sn (show 0 ≠ 2 by decide), zua_ss]
        exact g0 k hk
      · simp only [zua_sn (show 1 ≠ 2 by decide), zua_ss]
        exact g1 k hk
      · simp only [zua_ss]
        exact g2 h k hk
theorem ZX_keep7 (hP : ZPok P) (hc : c < Znc P) (hs : 7 ≤ Zso P c) (hS : ZS sh ts) (hts : ts + 4 ≤ 100) (h0 : ZX0 sh xs P c) (h7 : ZX7 sh xs P c) :
    ∀ N : Nat, 1000 ≤ N → ∃ xs', fX15_keep N (ZW E sh xs) (Zl E (1000 * (c + 1))) (Zl E ts) = some (ZW E sh xs') ∧ Zfr (fun _ _ => False) (ZKB c) xs xs' ∧ ZKs P (ZTs xs ts) c xs' := by
  intro N hN
  have hC := hP.2.2.2.2.2 c hc
  have s17 := hC.2.2.2.1
  obtain ⟨mr, -⟩ := hC.2.2.2.2.2.2.2.2.2.2.2 hs
  have hm : 2 ≤ Zmn P c ∧ Zmn P c ≤ 3 := by rw [mr]; unfold Zrn; split <;> omega
  have hKB : ∀ u, ZKB c u → 1000 ≤ u := by intro u h; unfold ZKB at h; omega
  have a5 : sh (1000 * (c + 1) + 2) = some (Zia 0 (Zmn P c)) := by obtain ⟨_, _, _, _, _, h, _⟩ := h0; exact h
  have hcl : ∃ rt, sh (1000 * (c + 1)) = some (Zo13 (1000 * (c + 1) + 1) (1000 * (c + 1) + 2) (1000 * (c + 1) + 3) (1000 * (c + 1) + 4) rt) := by
    obtain ⟨rt, h, -⟩ := h7
    exact ⟨rt, h⟩
  obtain ⟨rt, a1⟩ := hcl
  generalize hT : ZTs xs ts = T
  have sz : ∀ z : Zxs, Zfr (fun _ _ => False) (ZKB c) xs z → fX9_size (ZW E sh z) (Zl E (1000 * (c + 1))) = some (nI (Zmn P c)) := fun z hz => ZX0_size (h0.fr hz (by unfold ZKB; omega)) (by omega) E
  have dm : ∀ z : Zxs, Zfr (fun _ _ => False) (ZKB c) xs z → ∀ p, p < Zmn P c → fX9_domain (ZW E sh z) (Zl E (1000 * (c + 1))) (Zl E ts) (nI p) = some (ZDm P T c (Zpm P c p)) := by
    intro z hz p hp
    have e := ZX0_dom (h0.fr hz (by unfold ZKB; omega)) hP hC hS hp E
    rw [ZTs_fr hz hKB hts, hT] at e
    exact e
  have d0 : ∀ z : Zxs, Zfr (fun _ _ => False) (ZKB c) xs z → fX9_domain (ZW E sh z) (Zl E (1000 * (c + 1))) (Zl E ts) 0 = some (ZDm P T c (Zpm P c 0)) := fun z hz => dm z hz 0 (by omega)
  have d1 : ∀ z : Zxs, Zfr (fun _ _ => False) (ZKB c) xs z → fX9_domain (ZW E sh z) (Zl E (1000 * (c + 1))) (Zl E ts) 1 = some (ZDm P T c (Zpm P c 1)) := fun z hz => dm z hz 1 (by omega)
  -- the first loop: all is empty
  have L1 := Zl_inv (body := fX15_keep_L2 (Zl E (1000 * (c + 1)))) (fun p a => ∃ y, a = (ZW E sh y, nI p) ∧ Zfr (fun _ _ => False) (ZKB c) xs y ∧ ∀ q, q < p → y.2 (1000 * (c + 1) + 2) q = 0) (Zmn P c)
    (fun r => ∃ y, r = ZW E sh y ∧ Zfr (fun _ _ => False) (ZKB c) xs y ∧ ∀ q, q < Zmn P c → y.2 (1000 * (c + 1) + 2) q = 0)
    (by
      rintro p a hp ⟨y, rfl, hf, hy⟩
      simp (disch := omega) only [fX15_keep_L2, Zb13 a1, sz y hf, Option.bind_some, if_neg (nI_ge hp (show Zmn P c < 2 ^ 31 by omega)), ZbI a5, nI_1]
      refine ⟨_, rfl, _, rfl, hf.arr (by unfold ZKB; omega), fun q hq => ?_⟩
      simp only [zua_s]
      by_cases g : q = p
      · rw [if_pos g]
      · rw [if_neg g]
        exact hy q (by omega))
    (by
      rintro a ⟨y, rfl, hf, hy⟩
      simp only [fX15_keep_L2, Zb13 a1, sz y hf, Option.bind_some, if_pos (nI_le (Nat.le_refl _) (show Zmn P c < 2 ^ 31 by omega))]
      exact ⟨_, rfl, y, rfl, hf, hy⟩)
    N (ZW E sh xs, 0) (by omega) ⟨xs, rfl, Zfr.rfl, fun q hq => absurd hq (by omega)⟩
  obtain ⟨r, e1, y0, rfl, hf0, hy0⟩ := L1
  have hz : ∀ q, q < Zmn P c → ∀ k, Zt (y0.2 (1000 * (c + 1) + 2) q) k = false := fun q hq k => by rw [hy0 q hq, Zt_0]
  have st : ZP7 xs P T c (Zlx 0 0 0) y0 := ⟨hf0, fun k hk => by
    rw [hz 0 (by omega)]
    exact ⟨fun h => (by cases h), fun ⟨_, _, h, _⟩ => absurd h (by unfold Zlx; omega)⟩, fun k hk => by
    rw [hz 1 (by omega)]
    exact ⟨fun h => (by cases h), fun ⟨_, _, h, _⟩ => absurd h (by unfold Zlx; omega)⟩, fun h2 k hk => by
    rw [hz 2 (by omega)]
    exact ⟨fun h => (by cases h), fun ⟨_, _, h, _⟩ => absurd h (by unfold Zlx; omega)⟩⟩
  -- the thirds
  have ht : ∃ t6 : Int32, (if nI (Zmn P c) ≤ (2 : Int32) then (some (1 : Int32)) else ((zis (ZW E sh y0) (Zl E (1000 * (c + 1))) 13).bind fun u34 => (fX9_domain (ZW E sh y0) (Zl E (1000 * (c + 1))) (Zl E ts) (2 : Int32)).bind fun t35 => some t35)) = some t6 ∧ ∀ e, e < 32 → (Zt t6 e = true ↔ if Zmn P c = 2 then e = 0 else Zt (ZDm P T c (Zpm P c 2)) e = true) := by
    by_cases m2 : Zmn P c = 2
    · refine ⟨1, if_pos (by rw [m2]; decide), fun e he => ?_⟩
      rw [if_pos m2, Zt_1]
      simp
    · have d2 : fX9_domain (ZW E sh y0) (Zl E (1000 * (c + 1))) (Zl E ts) 2 = some (ZDm P T c (Zpm P c 2)) := dm y0 hf0 2 (by omega)
      refine ⟨ZDm P T c (Zpm P c 2), ?_, fun e he => by rw [if_neg m2]⟩
      rw [if_neg (by rw [show Zmn P c = 3 by omega]; decide)]
      simp only [Zb13 a1, Option.bind_some, d2]
  obtain ⟨t6, e6, h6⟩ := ht
  -- the innermost loop
  have I3 : ∀ a b, a < 32 → b < 32 → ∀ y, ZP7 xs P T c (Zlx a b 0) y → Zt (ZDm P T c (Zpm P c 0)) a = true → ∀ (q q' : zH), ∃ z, zloop (fX15_keep_L76 (Zl E (1000 * (c + 1))) (Zl E ts) (q, nI a) (q', nI b) t6) N (ZW E sh y, 0) = some (ZW E sh z) ∧ ZP7 xs P T c (Zlx a (b + 1) 0) z := by
    intro a b ha hb y hy hDa q q'
    have L := Zl_ex (body := fX15_keep_L76 (Zl E (1000 * (c + 1))) (Zl E ts) (q, nI a) (q', nI b) t6) (fun e s => ∃ z, s = (ZW E sh z, nI e) ∧ ZP7 xs P T c (Zlx a b e) z) 32 (fun r => ∃ z, r = ZW E sh z ∧ ZP7 xs P T c (Zlx a (b + 1) 0) z)
      (by
        rintro e s he ⟨z, rfl, hz⟩
        have h32 : ¬ (32 : Int32) ≤ nI e := nI_ge (b := 32) he (by decide)
        by_cases hDb : Zt (ZDm P T c (Zpm P c 1)) b = true
        · by_cases hDe : Zt t6 e = true
          · obtain ⟨w, e2, hw⟩ := ZX_keep7a (E := E) hm ⟨hs, s17⟩ h0 h7 ha hb he hz hDa hDb ((h6 e he).mp hDe)
            simp only [fX15_keep_L76, if_neg h32, Zb13 a1, d1 z hz.1, Zhas_t hb hDb, Zhas_t he hDe, Option.bind_some, Zne10, if_false, e2, nI_1]
            exact Or.inl ⟨_, rfl, w, rfl, hw⟩
          · simp only [fX15_keep_L76, if_neg h32, Zb13 a1, d1 z hz.1, Zhas_t hb hDb, Zhas_f he hDe, Option.bind_some, Zne10, if_false, if_true, nI_1]
            refine Or.inl ⟨_, rfl, z, rfl, hz.iff fun a' b' e' v => ?_⟩
            unfold Zlx
            constructor
            · omega
            · intro g
              by_cases k : a' = a ∧ b' = b ∧ e' = e
              · obtain ⟨rfl, rfl, rfl⟩ := k
                exact absurd ((h6 e' he).mpr v.2.2.2.2.2.1) hDe
              · omega
        · simp only [fX15_keep_L76, if_neg h32, Zb13 a1, d1 z hz.1, Zhas_f hb hDb, Option.bind_some, if_true]
          refine Or.inr ⟨_, rfl, z, rfl, hz.iff fun a' b' e' v => ?_⟩
          unfold Zlx
          constructor
          · omega
          · intro g
            by_cases k : a' = a ∧ b' = b
            · obtain ⟨rfl, rfl⟩ := k
              exact absurd v.2.2.2.2.1 hDb
            · omega)
      (by
        rintro s ⟨z, rfl, hz⟩
        simp only [fX15_keep_L76, if_pos (show (32 : Int32) ≤ nI 32 by decide)]
        refine ⟨_, rfl, z, rfl, hz.iff fun a' b' e' v => ?_⟩
        have := v.2.2.1
        unfold Zlx
        omega)
      N (ZW E sh y, 0) (by omega) ⟨y, rfl, hy⟩
    obtain ⟨r, e2, z, rfl, hz⟩ := L
    exact ⟨z, e2, hz⟩
  -- the middle loop
  have I2 : ∀ a, a < 32 → ∀ y, ZP7 xs P T c (Zlx a 0 0) y → ∀ (q : zH), ∃ z, zloop (fX15_keep_L53 N (Zl E (1000 * (c + 1))) (Zl E ts) (q, nI a) t6) N (ZW E sh y, 0) = some (ZW E sh z) ∧ ZP7 xs P T c (Zlx (a + 1) 0 0) z := by
    intro a ha y hy q
    have L := Zl_ex (body := fX15_keep_L53 N (Zl E (1000 * (c + 1))) (Zl E ts) (q, nI a) t6) (fun b s => ∃ z, s = (ZW E sh z, nI b) ∧ ZP7 xs P T c (Zlx a b 0) z) 32 (fun r => ∃ z, r = ZW E sh z ∧ ZP7 xs P T c (Zlx (a + 1) 0 0) z)
      (by
        rintro b s hb ⟨z, rfl, hz⟩
        have h32 : ¬ (32 : Int32) ≤ nI b := nI_ge (b := 32) hb (by decide)
        by_cases hDa : Zt (ZDm P T c (Zpm P c 0)) a = true
        · obtain ⟨w, e2, hw⟩ := I3 a b ha hb z hz hDa q (ZW E sh z)
          simp only [fX15_keep_L53, if_neg h32, Zb13 a1, d0 z hz.1, Zhas_t ha hDa, Option.bind_some, Zne10, if_false, e2, nI_1]
          exact Or.inl ⟨_, rfl, w, rfl, hw⟩
        · simp only [fX15_keep_L53, if_neg h32, Zb13 a1, d0 z hz.1, Zhas_f ha hDa, Option.bind_some, if_true]
          refine Or.inr ⟨_, rfl, z, rfl, hz.iff fun a' b' e' v => ?_⟩
          unfold Zlx
          constructor
          · omega
          · intro g
            by_cases k : a' = a
            · subst k
              exact absurd v.2.2.2.1 hDa
            · omega)
      (by
        rintro s ⟨z, rfl, hz⟩
        simp only [fX15_keep_L53, if_pos (show (32 : Int32) ≤ nI 32 by decide)]
        refine ⟨_, rfl, z, rfl, hz.iff fun a' b' e' v => ?_⟩
        have := v.2.1
        unfold Zlx
        omega)
      N (ZW E sh y, 0) (by omega) ⟨y, rfl, hy⟩
    obtain ⟨r, e2, z, rfl, hz⟩ := L
    exact ⟨z, e2, hz⟩
  have L2 := Zl_inv (body := fX15_keep_L44 N (Zl E (1000 * (c + 1))) (Zl E ts) t6) (fun a s => ∃ z, s = (ZW E sh z, nI a) ∧ ZP7 xs P T c (Zlx a 0 0) z) 32 (fun r => ∃ z, r = ZW E sh z ∧ ZP7 xs P T c (Zlx 32 0 0) z)
    (by
      rintro a s ha ⟨z, rfl, hz⟩
      obtain ⟨w, e2, hw⟩ := I2 a ha z hz (ZW E sh z)
      simp only [fX15_keep_L44, if_neg (show ¬ (32 : Int32) ≤ nI a from nI_ge (b := 32) ha (by decide)), Option.bind_some, e2, nI_1]
      exact ⟨_, rfl, w, rfl, hw⟩)
    (by
      rintro s ⟨z, rfl, hz⟩
      simp only [fX15_keep_L44, if_pos (show (32 : Int32) ≤ nI 32 by decide)]
      exact ⟨_, rfl, z, rfl, hz⟩)
    N (ZW E sh y0, 0) (by omega) ⟨y0, rfl, st⟩
  obtain ⟨r, e2, z, rfl, hz⟩ := L2
  simp only [fX15_keep, e1, Option.bind_some, Zb13 a1, sz y0 hf0]
  simp only [Zb13 a1, Option.bind_some] at e6
  rw [e6, Option.bind_some]
  refine ⟨z, e2, hz.1, fun p hp _ k hk hD => ?_⟩
  have all : ∀ a b e, ZV7 P T c a b e → Zlx 32 0 0 a b e := fun a b e v => by have := v.1; unfold Zlx; omega
  obtain ⟨-, z0, z1, z2⟩ := hz
  have hss : Zso P c = 7 ∨ Zso P c = 8 ∨ Zso P c = 9 ∨ Zso P c = 10 ∨ Zso P c = 11 ∨ Zso P c = 12 ∨ Zso P c = 13 ∨ Zso P c = 14 ∨ Zso P c = 15 ∨ Zso P c = 16 ∨ Zso P c = 17 := by omega
  have hsup : ∀ p k, Zsup P T c p k ↔ ∃ x y z, ZRt P T c x y z ∧ (if p = 0 then x else if p = 1 then y else z) = k := by
    intro p k
    rcases hss with h | h | h | h | h | h | h | h | h | h | h <;> simp only [Zsup, h]
  rw [hsup]
  by_cases h12 : Zso P c = 12 ∨ Zso P c = 13
  · have m2 : Zmn P c = 2 := by rw [mr]; rcases h12 with h | h <;> rw [h] <;> rfl
    have q0 : Zpm P c 0 = 1 := by unfold Zpm; rw [if_pos h12]
    have q1 : Zpm P c 1 = 0 := by unfold Zpm; rw [if_pos h12]
    have hvr : ∀ a b e, ZV7 P T c a b e ↔ ZRt P T c b a e := by
      intro a b e
      unfold ZV7 ZRt
      rw [q0, q1, if_pos m2, if_pos m2]
      rcases h12 with h | h
      · rw [h]
        simp only [Zfh, ZR]
        exact ⟨fun ⟨h1, h2, h3, h4, h5, h6, h7⟩ => ⟨h2, h1, h3, h5, h4, h6, h7⟩, fun ⟨h1, h2, h3, h4, h5, h6, h7⟩ => ⟨h2, h1, h3, h5, h4, h6, h7⟩⟩
      · rw [h]
        simp only [Zfh, ZR]
        exact ⟨fun ⟨h1, h2, h3, h4, h5, h6, h7⟩ => ⟨h2, h1, h3, h5, h4, h6, h7⟩, fun ⟨h1, h2, h3, h4, h5, h6, h7⟩ => ⟨h2, h1, h3, h5, h4, h6, h7⟩⟩
    have hp' : p = 0 ∨ p = 1 := by omega
    rcases hp' with rfl | rfl
    · rw [q0, z0 k hk]
      constructor
      · rintro ⟨b, e, -, v⟩
        exact ⟨b, k, e, (hvr k b e).mp v, rfl⟩
      · rintro ⟨x, y, z, v, h⟩
        have : y = k := h
        subst this
        exact ⟨x, z, all _ _ _ ((hvr y x z).mpr v), (hvr y x z).mpr v⟩
    · rw [q1, z1 k hk]
      constructor
      · rintro ⟨b, e, -, v⟩
        exact ⟨k, b, e, (hvr b k e).mp v, rfl⟩
      · rintro ⟨x, y, z, v, h⟩
        have : x = k := h
        subst this
        exact ⟨y, z, all _ _ _ ((hvr y x z).mpr v), (hvr y x z).mpr v⟩
  · have hid : ∀ p, Zpm P c p = p := fun p => Zpm_id (by omega)
    have hvr : ∀ a b e, ZV7 P T c a b e ↔ ZRt P T c a b e := by
      intro a b e
      unfold ZV7 ZRt
      rw [hid, hid, hid]
      have : Zfh (Zso P c) (nI a) (nI b) (nI e) = some 1 ↔ ZR (Zso P c) a b e := by
        rcases hss with h | h | h | h | h | h | h | h | h | h | h <;> first | (exact absurd h (fun g => h12 (Or.inl g))) | (exact absurd h (fun g => h12 (Or.inr g))) | simp only [Zfh, ZR, h]
      rw [this]
    rw [hid]
    have hp' : p = 0 ∨ p = 1 ∨ p = 2 := by omega
    rcases hp' with rfl | rfl | rfl
    · rw [z0 k hk]
      constructor
      · rintro ⟨b, e, -, v⟩
        exact ⟨k, b, e, (hvr k b e).mp v, rfl⟩
      · rintro ⟨x, y, z, v, h⟩
        have : x = k := h
        subst this
        exact ⟨y, z, all _ _ _ ((hvr x y z).mpr v), (hvr x y z).mpr v⟩
    · rw [z1 k hk]
      constructor
      · rintro ⟨b, e, -, v⟩
        exact ⟨b, k, e, (hvr b k e).mp v, rfl⟩
      · rintro ⟨x, y, z, v, h⟩
        have : y = k := h
        subst this
        exact ⟨x, z, all _ _ _ ((hvr x y z).mpr v), (hvr x y z).mpr v⟩
    · rw [z2 hp k hk]
      constructor
      · rintro ⟨b, e, -, v⟩
        exact ⟨b, e, k, (hvr b e k).mp v, rfl⟩
      · rintro ⟨x, y, z, v, h⟩
        have : z = k := h
        subst this
        exact ⟨x, y, all _ _ _ ((hvr x y z).mpr v), (hvr x y z).mpr v⟩
end K7
