/-! X: Different: places are given values of their own, others giving way -/
set_option maxRecDepth 100000
theorem Zct_rm {b : Nat → Bool} {k : Nat} (hb : b k = true) : ∀ n, (k < n → Zct b n = Zct (fun j => b j && decide (j ≠ k)) n + 1) ∧ (n ≤ k → Zct b n = Zct (fun j => b j && decide (j ≠ k)) n) := by
  intro n
  induction n with
  | zero => exact ⟨fun h => absurd h (by omega), fun _ => rfl⟩
  | succ n ih =>
    simp only [Zct]
    constructor
    · intro h
      by_cases q : n = k
      · subst q
        rw [ih.2 (Nat.le_refl _)]
        simp [hb]
      · rw [ih.1 (by omega)]
        simp [q]
        omega
    · intro h
      rw [ih.2 (by omega)]
      have : n ≠ k := by omega
      simp [this]
/-- as many as are related to others -/
theorem Zct_rel {R : Nat → Nat → Prop} {F : Nat → Bool} {n : Nat} : ∀ (m : Nat) (B : Nat → Bool), (∀ q, q < m → F q = true → ∃ j, j < n ∧ B j = true ∧ R q j) → (∀ q q' j, q < m → q' < m → F q = true → F q' = true → R q j → R q' j → q = q') → Zct F m ≤ Zct B n := by
  intro m
  induction m with
  | zero => intro B _ _; exact Nat.zero_le _
  | succ m ih =>
    intro B h1 h2
    simp only [Zct]
    by_cases hF : F m = true
    · rw [if_pos hF]
      obtain ⟨j0, g1, g2, g3⟩ := h1 m (by omega) hF
      rw [(Zct_rm g2 n).1 g1]
      refine Nat.succ_le_succ (ih (fun j => B j && decide (j ≠ j0)) (fun q hq hFq => ?_) fun q q' j a1 a2 => h2 q q' j (by omega) (by omega))
      obtain ⟨j, k1, k2, k3⟩ := h1 q (by omega) hFq
      refine ⟨j, k1, ?_, k3⟩
      have : j ≠ j0 := fun e => by
        subst e
        have := h2 q m j (by omega) (by omega) hFq hF k3 g3
        omega
      simp [k2, this]
    · rw [if_neg hF]
      exact ih B (fun q hq => h1 q (by omega)) fun q q' j a1 a2 => h2 q q' j (by omega) (by omega)
theorem ZnI_ne {q : Nat} (h : q < 1000) : ¬ nI q = (-1 : Int32) := fun e => by
  have h1 := nI_pos (n := q) (by omega)
  rw [e] at h1
  exact h1 (by decide)
/-- a place may have a value, but one -/
def ZKu (P : ZP) (T : ZT0) (c val q j : Nat) : Prop := Zt (ZDm P T c q) j = true ∧ j ≠ val
/-- owners -/
def ZJ (m : Nat) (f : Nat → Int32) (S : Nat → Prop) : Prop := (∀ j, j < 32 → f j = -1 ∨ ∃ q, q < m ∧ f j = nI q) ∧ ∀ i j q, i < 32 → j < 32 → q < m → ¬ S i → ¬ S j → f i = nI q → f j = nI q → i = j
section KU
variable {sh : Nat → Option Zsh} {xs : Zxs} {P : ZP} {E : Ze} {ts c val : Nat}
def Zcu (s : Int32) : Nat := Zct (fun j => !Zt s j) 16
theorem Zcu_put {s : Int32} {v : Nat} (hv : v < 16) (h : Zt s v = false) : Zcu (s ||| (1 <<< (nI v &&& 31))) + 1 = Zcu s := by
  unfold Zcu
  rw [(Zct_rm (b := fun j => !Zt s j) (k := v) (by simp [h]) 16).1 hv]
  congr 1
  refine Zct_congr 16 fun k hk => ?_
  rw [Zt_or, Zt_one (by omega)]
  cases Zt s k <;> simp
theorem Zcu_le {s s' : Int32} (h : ∀ k, k < 32 → Zt s k = true → Zt s' k = true) : Zcu s' ≤ Zcu s := by
  refine Zct_mono 16 fun k hk hb => ?_
  cases e : Zt s k with
  | false => rfl
  | true =>
    rw [h k (by omega) e] at hb
    cases hb
/-- found, or not: then the values that were seen are closed -/
def ZFo (P : ZP) (T : ZT0) (c val p : Nat) (f : Nat → Int32) (s : Int32) (f' : Nat → Int32) (s' b : Int32) : Prop :=
  (∀ k, k < 32 → Zt s k = true → Zt s' k = true) ∧
  ((b = 1 ∧ (∀ j, j < 32 → Zt s j = true → f' j = f j) ∧ ZJ (Zmn P c) f' (fun j => Zt s j = true) ∧ (∀ q, q < Zmn P c → ((∃ j, j < 32 ∧ ¬ Zt s j = true ∧ f' j = nI q) ↔ q = p ∨ ∃ j, j < 32 ∧ ¬ Zt s j = true ∧ f j = nI q)) ∧ (∀ j q, j < 32 → q < Zmn P c → ¬ Zt s j = true → f' j = nI q → ZKu P T c val q j)) ∨
   (b = 0 ∧ f' = f ∧ (∀ j, j < 32 → ZKu P T c val p j → Zt s' j = true) ∧ ∀ j, j < 32 → Zt s' j = true → ¬ Zt s j = true → ∃ q, q < Zmn P c ∧ f j = nI q ∧ ∀ i, i < 32 → ZKu P T c val q i → Zt s' i = true))
theorem ZX_find (hP : ZPok P) (hc : c < Znc P) (hs : Zso P c = 1) (hS : ZS sh ts) (hts : ts + 4 ≤ 100) (h0 : ZX0 sh xs P c) (hcl : sh (1000 * (c + 1)) = some (Zo9 (1000 * (c + 1) + 1) (1000 * (c + 1) + 2) (1000 * (c + 1) + 3) (1000 * (c + 1) + 4) (1000 * (c + 1) + 8))) (h8 : sh (1000 * (c + 1) + 8) = some (Zia 0 32)) (hT : ZTok P (ZTs xs ts)) (hG : E.1 0 = Zl E 50301 ∧ sh 50301 = some (Zia 6 3) ∧ xs.2 50301 0 = 15) (hval : val < 32) (N : Nat) (hN : 1000 ≤ N) :
    ∀ (d : Nat) (p : Nat) (y : Zxs), p < Zmn P c → Zfr (ZKA P c) (ZKB c) xs y → ZJ (Zmn P c) (y.2 (1000 * (c + 1) + 8)) (fun j => Zt (y.1 (1000 * (c + 1)) 5) j = true) → (∀ j, j < 32 → ¬ Zt (y.1 (1000 * (c + 1)) 5) j = true → ¬ y.2 (1000 * (c + 1) + 8) j = nI p) → (∀ j q, j < 32 → q < Zmn P c → ¬ Zt (y.1 (1000 * (c + 1)) 5) j = true → y.2 (1000 * (c + 1) + 8) j = nI q → ZKu P (ZTs xs ts) c val q j) → Zcu (y.1 (1000 * (c + 1)) 5) < d →
    ∃ y' b, fX11_findFor d N (ZW E sh y) (Zl E (1000 * (c + 1))) (Zl E ts) (nI p) (1 <<< (nI val &&& 31)) = some (ZW E sh y', b) ∧ Zfr (ZKA P c) (ZKB c) xs y' ∧ (∀ u, u ≠ 1000 * (c + 1) + 8 → y'.2 u = y.2 u) ∧ ZFo P (ZTs xs ts) c val p (y.2 (1000 * (c + 1) + 8)) (y.1 (1000 * (c + 1)) 5) (y'.2 (1000 * (c + 1) + 8)) (y'.1 (1000 * (c + 1)) 5) b := by
  have hC := hP.2.2.2.2.2 c hc
  have m6 : Zmn P c ≤ 6 := hC.2.2.2.2.2.1 (Or.inl hs)
  have hid : ∀ p, Zpm P c p = p := fun p => Zpm_id (by omega)
  have hKB : ∀ u, ZKB c u → 1000 ≤ u := by intro u h; unfold ZKB at h; omega
  have hA5 : ZKA P c (1000 * (c + 1)) 5 := ⟨hs, rfl, rfl⟩
  have hB8 : ZKB c (1000 * (c + 1) + 8) := by unfold ZKB; omega
  have hD16 : ∀ q, q < Zmn P c → ∀ j, Zt (ZDm P (ZTs xs ts) c q) j = true → j < 16 := by
    intro q hq j hj
    have hk := hC.2.2.2.2.2.2.2.2.1 (by omega) (by omega) q hq
    have := ((hT _ (hC.2.2.1 q hq)).1 (by omega)).2 j hj
    rw [hk] at this
    exact this
  intro d
  induction d with
  | zero => intro p y _ _ _ _ _ h; omega
  | succ d ih =>
    intro p y hp hf hJ hpn hv hcu
    have dm : ∀ z, Zfr (ZKA P c) (ZKB c) xs z → fX9_domain (ZW E sh z) (Zl E (1000 * (c + 1))) (Zl E ts) (nI p) = some (ZDm P (ZTs xs ts) c p) := by
      intro z hz
      have e := ZX0_dom (h0.fr hz (by unfold ZKB; omega)) hP hC hS hp E
      rw [hid, ZTs_fr hz hKB hts] at e
      exact e
    have hx3 : ∀ j, j < 32 → (Zt (ZDm P (ZTs xs ts) c p &&& ((1 <<< (nI val &&& 31)) ^^^ (-1))) j = true ↔ ZKu P (ZTs xs ts) c val p j) := by
      intro j hj
      rw [Zt_and, Zt_not, Zt_one hval]
      unfold ZKu
      simp [hj]
    generalize hx : ZDm P (ZTs xs ts) c p &&& ((1 <<< (nI val &&& 31)) ^^^ (-1)) = x3 at hx3
    generalize hfy : y.2 (1000 * (c + 1) + 8) = f at *
    generalize hsy : y.1 (1000 * (c + 1)) 5 = s at *
    have L := Zl_ex (body := fX11_findFor_L15 N (Zl E (1000 * (c + 1))) (Zl E ts) (1 <<< (nI val &&& 31)) (fX11_findFor d) x3) (fun v a => ∃ z, a = (ZW E sh z, nI v) ∧ Zfr (ZKA P c) (ZKB c) xs z ∧ (∀ u, u ≠ 1000 * (c + 1) + 8 → z.2 u = y.2 u) ∧ z.2 (1000 * (c + 1) + 8) = f ∧ (∀ k, k < 32 → Zt s k = true → Zt (z.1 (1000 * (c + 1)) 5) k = true) ∧ (∀ j, j < v → ZKu P (ZTs xs ts) c val p j → Zt (z.1 (1000 * (c + 1)) 5) j = true) ∧ ∀ j, j < 32 → Zt (z.1 (1000 * (c + 1)) 5) j = true → ¬ Zt s j = true → ∃ q, q < Zmn P c ∧ f j = nI q ∧ ∀ i, i < 32 → ZKu P (ZTs xs ts) c val q i → Zt (z.1 (1000 * (c + 1)) 5) i = true) 16
      (fun r => (∃ z, r = .inr (ZW E sh z, 0) ∧ Zfr (ZKA P c) (ZKB c) xs z ∧ (∀ u, u ≠ 1000 * (c + 1) + 8 → z.2 u = y.2 u) ∧ ZFo P (ZTs xs ts) c val p f s (z.2 (1000 * (c + 1) + 8)) (z.1 (1000 * (c + 1)) 5) 0) ∨
        (∃ z v, r = .inl (ZW E sh z, nI v) ∧ v < 32 ∧ Zfr (ZKA P c) (ZKB c) xs z ∧ (∀ u, u ≠ 1000 * (c + 1) + 8 → z.2 u = y.2 u) ∧ ZFo P (ZTs xs ts) c val p f s (upd (z.2 (1000 * (c + 1) + 8)) v (nI p)) (z.1 (1000 * (c + 1)) 5) 1))
      (by
        rintro v a hv16 ⟨z, rfl, hz, hzu, hz8, zs, zd, zc⟩
        have e15 : z.2 50301 0 = 15 := by rw [hz.2 50301 (by unfold ZKB; omega)]; exact hG.2.2
        have h15 : ¬ (15 : Int32) < nI v := nI_nlt (a := 15) (by omega) (by decide)
        have hcond : ∀ k, k < 32 → (Zt (x3 &&& (z.1 (1000 * (c + 1)) 5 ^^^ (-1))) k = true ↔ ZKu P (ZTs xs ts) c val p k ∧ ¬ Zt (z.1 (1000 * (c + 1)) 5) k = true) := by
          intro k hk
          rw [Zt_and, Bool.and_eq_true, hx3 k hk, Zt_not]
          simp [hk]
        by_cases q : Zt (x3 &&& (z.1 (1000 * (c + 1)) 5 ^^^ (-1))) v = true
        · obtain ⟨q1, q2⟩ := (hcond v (by omega)).mp q
          have hvs : ¬ Zt s v = true := fun g => q2 (zs v (by omega) g)
          -- the state behind the mark
          have fz2 : Zfr (ZKA P c) (ZKB c) xs (zua z.1 (1000 * (c + 1)) 5 (z.1 (1000 * (c + 1)) 5 ||| (1 <<< (nI v &&& 31))), z.2) := hz.num hA5
          have s2 : zua z.1 (1000 * (c + 1)) 5 (z.1 (1000 * (c + 1)) 5 ||| (1 <<< (nI v &&& 31))) (1000 * (c + 1)) 5 = z.1 (1000 * (c + 1)) 5 ||| (1 <<< (nI v &&& 31)) := zua_ss
          have s2b : ∀ k, Zt (z.1 (1000 * (c + 1)) 5 ||| (1 <<< (nI v &&& 31))) k = true ↔ Zt (z.1 (1000 * (c + 1)) 5) k = true ∨ k = v := fun k => Zt_put (by omega)
          rcases hJ.1 v (by omega) with g | ⟨q0, hq0, g⟩
          · -- nobody owns it
            simp (disch := omega) only [fX11_findFor_L15, ZW_fst, hG.1, ZbI6 hG.2.1, e15, Option.bind_some, if_neg h15, Zb9 hcl, Zhas_t (show v < 32 by omega) q, Zne10, if_false, ZbI h8, hz8, g, if_true, Zesc_r]
            refine Or.inr ⟨_, rfl, Or.inr ⟨_, v, rfl, by omega, fz2, hzu, ?_⟩⟩
            simp only [s2, hz8]
            refine ⟨fun k hk h => (s2b k).mpr (Or.inl (zs k hk h)), Or.inl ⟨rfl, fun j hj h => ?_, ⟨fun j hj => ?_, fun i j q' hi hj hq' n1 n2 e1 e2 => ?_⟩, fun q' hq' => ?_, fun j q' hj hq' n1 e1 => ?_⟩⟩
            · simp only [upd]
              rw [if_neg (fun e => hvs (by rw [← e]; exact h))]
            · simp only [upd]
              split
              · exact Or.inr ⟨p, hp, rfl⟩
              · exact hJ.1 j hj
            · simp only [upd] at e1 e2
              by_cases a1 : i = v
              · by_cases a2 : j = v
                · omega
                · rw [if_pos a1] at e1
                  rw [if_neg a2] at e2
                  have : p = q' := (nI_eq (by omega) (by omega)).mp e1
                  subst this
                  exact absurd e2 (hpn j hj n2)
              · by_cases a2 : j = v
                · rw [if_neg a1] at e1
                  rw [if_pos a2] at e2
                  have : p = q' := (nI_eq (by omega) (by omega)).mp e2
                  subst this
                  exact absurd e1 (hpn i hi n1)
                · rw [if_neg a1] at e1
                  rw [if_neg a2] at e2
                  exact hJ.2 i j q' hi hj hq' n1 n2 e1 e2
            · constructor
              · rintro ⟨j, hj, n1, e1⟩
                simp only [upd] at e1
                by_cases a1 : j = v
                · rw [if_pos a1] at e1
                  exact Or.inl ((nI_eq (by omega) (by omega)).mp e1).symm
                · rw [if_neg a1] at e1
                  exact Or.inr ⟨j, hj, n1, e1⟩
              · rintro (rfl | ⟨j, hj, n1, e1⟩)
                · exact ⟨v, by omega, hvs, by simp only [upd, if_true]⟩
                · refine ⟨j, hj, n1, ?_⟩
                  simp only [upd]
                  rw [if_neg (fun e => by rw [e, g] at e1; exact ZnI_ne (by omega) e1.symm)]
                  exact e1
            · simp only [upd] at e1
              by_cases a1 : j = v
              · rw [if_pos a1] at e1
                have : p = q' := (nI_eq (by omega) (by omega)).mp e1
                subst this
                rw [a1]
                exact q1
              · rw [if_neg a1] at e1
                exact hv j q' hj hq' n1 e1
          · -- its owner looks for another one
            have hqp : q0 ≠ p := fun e => hpn v (by omega) hvs (by rw [← e]; exact g)
            have hnm : ¬ nI q0 = (-1 : Int32) := ZnI_ne (by omega)
            have cu2 : Zcu (z.1 (1000 * (c + 1)) 5 ||| (1 <<< (nI v &&& 31))) < d := by
              have h1 := Zcu_put hv16 (show Zt (z.1 (1000 * (c + 1)) 5) v = false by simpa using q2)
              have h2 := Zcu_le zs
              omega
            have up : ∀ k, ¬ Zt (z.1 (1000 * (c + 1)) 5 ||| (1 <<< (nI v &&& 31))) k = true → k < 32 → ¬ Zt s k = true := fun k h hk g => h ((s2b k).mpr (Or.inl (zs k hk g)))
            obtain ⟨w, b, e2, fw, hwu, wmono, wb⟩ := ih q0 (zua z.1 (1000 * (c + 1)) 5 (z.1 (1000 * (c + 1)) 5 ||| (1 <<< (nI v &&& 31))), z.2) hq0 fz2
              (by
                simp only [s2, hz8]
                exact ⟨hJ.1, fun i j q' hi hj hq' n1 n2 => hJ.2 i j q' hi hj hq' (up i n1 hi) (up j n2 hj)⟩)
              (by
                simp only [s2, hz8]
                intro j hj n1 e1
                have := hJ.2 j v q0 hj (by omega) hq0 (up j n1 hj) hvs e1 g
                exact n1 ((s2b j).mpr (Or.inr this)))
              (by
                simp only [s2, hz8]
                exact fun j q' hj hq' n1 e1 => hv j q' hj hq' (up j n1 hj) e1)
              (by simp only [s2]; exact cu2)
            simp only [s2, hz8] at wmono wb
            rcases wb with ⟨rfl, w1, w2, w3, w4⟩ | ⟨rfl, w1, w2, w3⟩
            · -- it found one
              simp (disch := omega) only [fX11_findFor_L15, ZW_fst, hG.1, ZbI6 hG.2.1, e15, Option.bind_some, if_neg h15, Zb9 hcl, Zhas_t (show v < 32 by omega) q, Zne10, if_false, ZbI h8, hz8, g, if_neg hnm, e2, Zesc_r]
              refine Or.inr ⟨_, rfl, Or.inr ⟨w, v, rfl, by omega, fw, fun u hu => (hwu u hu).trans (hzu u hu), ?_⟩⟩
              have wv : w.2 (1000 * (c + 1) + 8) v = nI q0 := (w1 v (by omega) ((s2b v).mpr (Or.inr rfl))).trans g
              have eq2 : ∀ j, j < 32 → Zt (z.1 (1000 * (c + 1)) 5) j = true → w.2 (1000 * (c + 1) + 8) j = f j := fun j hj h => w1 j hj ((s2b j).mpr (Or.inl h))
              -- where a place is behind: outside of v
              have loc : ∀ j q', j < 32 → q' < Zmn P c → ¬ Zt s j = true → j ≠ v → w.2 (1000 * (c + 1) + 8) j = nI q' → q' = q0 ∨ ∃ i, i < 32 ∧ ¬ Zt s i = true ∧ i ≠ v ∧ f i = nI q' ∧ (Zt (z.1 (1000 * (c + 1)) 5) i = true ↔ Zt (z.1 (1000 * (c + 1)) 5) j = true) := by
                intro j q' hj hq' n1 n2 e1
                by_cases a1 : Zt (z.1 (1000 * (c + 1)) 5) j = true
                · exact Or.inr ⟨j, hj, n1, n2, (eq2 j hj a1).symm.trans e1, Iff.rfl⟩
                · have n3 : ¬ Zt (z.1 (1000 * (c + 1)) 5 ||| (1 <<< (nI v &&& 31))) j = true := fun h => (s2b j).mp h |>.elim a1 n2
                  rcases (w3 q' hq').mp ⟨j, hj, n3, e1⟩ with h | ⟨i, i1, i2, i3⟩
                  · exact Or.inl h
                  · exact Or.inr ⟨i, i1, up i i2 i1, fun e => i2 ((s2b i).mpr (Or.inr e)), i3, fun h => absurd ((s2b i).mpr (Or.inl h)) i2, fun h => absurd h a1⟩
              refine ⟨fun k hk h => wmono k hk ((s2b k).mpr (Or.inl (zs k hk h))), Or.inl ⟨rfl, fun j hj h => ?_, ⟨fun j hj => ?_, fun i j q' hi hj hq' n1 n2 e1 e2 => ?_⟩, fun q' hq' => ?_, fun j q' hj hq' n1 e1 => ?_⟩⟩
              · simp only [upd]
                rw [if_neg (fun e => hvs (by rw [← e]; exact h))]
                exact eq2 j hj (zs j hj h)
              · simp only [upd]
                split
                · exact Or.inr ⟨p, hp, rfl⟩
                · exact w2.1 j hj
              · simp only [upd] at e1 e2
                by_cases a1 : i = v
                · by_cases a2 : j = v
                  · omega
                  · rw [if_pos a1] at e1
                    rw [if_neg a2] at e2
                    have : p = q' := (nI_eq (by omega) (by omega)).mp e1
                    subst this
                    rcases loc j p hj hq' n2 a2 e2 with h | ⟨i', i1, i2, i3, i4, -⟩
                    · exact absurd h.symm hqp
                    · exact absurd i4 (hpn i' i1 i2)
                · by_cases a2 : j = v
                  · rw [if_neg a1] at e1
                    rw [if_pos a2] at e2
                    have : p = q' := (nI_eq (by omega) (by omega)).mp e2
                    subst this
                    rcases loc i p hi hq' n1 a1 e1 with h | ⟨i', i1, i2, i3, i4, -⟩
                    · exact absurd h.symm hqp
                    · exact absurd i4 (hpn i' i1 i2)
                  · rw [if_neg a1] at e1
                    rw [if_neg a2] at e2
                    by_cases b1 : Zt (z.1 (1000 * (c + 1)) 5) i = true
                    · have fi := (eq2 i hi b1).symm.trans e1
                      rcases loc j q' hj hq' n2 a2 e2 with h | ⟨i', i1, i2, i3, i4, i5⟩
                      · rw [h] at fi
                        exact absurd (hJ.2 i v q0 hi (by omega) hq0 n1 hvs fi g) a1
                      · have e5 := hJ.2 i i' q' hi i1 hq' n1 i2 fi i4
                        have b2 := i5.mp (by rw [← e5]; exact b1)
                        exact hJ.2 i j q' hi hj hq' n1 n2 fi ((eq2 j hj b2).symm.trans e2)
                    · by_cases b2 : Zt (z.1 (1000 * (c + 1)) 5) j = true
                      · have fj := (eq2 j hj b2).symm.trans e2
                        rcases loc i q' hi hq' n1 a1 e1 with h | ⟨i', i1, i2, i3, i4, i5⟩
                        · rw [h] at fj
                          exact absurd (hJ.2 j v q0 hj (by omega) hq0 n2 hvs fj g) a2
                        · have e5 := hJ.2 j i' q' hj i1 hq' n2 i2 fj i4
                          exact absurd (i5.mp (by rw [← e5]; exact b2)) b1
                      · exact w2.2 i j q' hi hj hq' (fun h => (s2b i).mp h |>.elim b1 a1) (fun h => (s2b j).mp h |>.elim b2 a2) e1 e2
              · constructor
                · rintro ⟨j, hj, n1, e1⟩
                  simp only [upd] at e1
                  by_cases a1 : j = v
                  · rw [if_pos a1] at e1
                    exact Or.inl ((nI_eq (by omega) (by omega)).mp e1).symm
                  · rw [if_neg a1] at e1
                    rcases loc j q' hj hq' n1 a1 e1 with h | ⟨i', i1, i2, i3, i4, -⟩
                    · exact Or.inr ⟨v, by omega, hvs, by rw [h]; exact g⟩
                    · exact Or.inr ⟨i', i1, i2, i4⟩
                · rintro (rfl | ⟨j, hj, n1, e1⟩)
                  · exact ⟨v, by omega, hvs, by simp only [upd, if_true]⟩
                  · by_cases a1 : j = v
                    · -- q' is q0: it has found another one
                      have : q' = q0 := by
                        rw [a1, g] at e1
                        exact ((nI_eq (by omega) (by omega)).mp e1).symm
                      obtain ⟨i, i1, i2, i3⟩ := (w3 q' hq').mpr (Or.inl this)
                      refine ⟨i, i1, up i i2 i1, ?_⟩
                      simp only [upd]
                      rw [if_neg (fun e => i2 ((s2b i).mpr (Or.inr e)))]
                      exact i3
                    · by_cases b1 : Zt (z.1 (1000 * (c + 1)) 5) j = true
                      · refine ⟨j, hj, n1, ?_⟩
                        simp only [upd]
                        rw [if_neg a1, eq2 j hj b1]
                        exact e1
                      · obtain ⟨i, i1, i2, i3⟩ := (w3 q' hq').mpr (Or.inr ⟨j, hj, fun h => (s2b j).mp h |>.elim b1 a1, e1⟩)
                        refine ⟨i, i1, up i i2 i1, ?_⟩
                        simp only [upd]
                        rw [if_neg (fun e => i2 ((s2b i).mpr (Or.inr e)))]
                        exact i3
              · simp only [upd] at e1
                by_cases a1 : j = v
                · rw [if_pos a1] at e1
                  have : p = q' := (nI_eq (by omega) (by omega)).mp e1
                  subst this
                  rw [a1]
                  exact q1
                · rw [if_neg a1] at e1
                  by_cases b1 : Zt (z.1 (1000 * (c + 1)) 5) j = true
                  · exact hv j q' hj hq' n1 ((eq2 j hj b1).symm.trans e1)
                  · exact w4 j q' hj hq' (fun h => (s2b j).mp h |>.elim b1 a1) e1
            · -- it found none
              simp (disch := omega) only [fX11_findFor_L15, ZW_fst, hG.1, ZbI6 hG.2.1, e15, Option.bind_some, if_neg h15, Zb9 hcl, Zhas_t (show v < 32 by omega) q, Zne10, if_false, ZbI h8, hz8, g, if_neg hnm, e2, if_true, Zesc_l, nI_1]
              refine Or.inl ⟨_, rfl, w, rfl, fw, fun u hu => (hwu u hu).trans (hzu u hu), w1, fun k hk h => wmono k hk ((s2b k).mpr (Or.inl (zs k hk h))), fun j hj h => ?_, fun j hj h1 h2 => ?_⟩
              · by_cases a1 : j = v
                · exact wmono j (by omega) ((s2b j).mpr (Or.inr a1))
                · exact wmono j (by omega) ((s2b j).mpr (Or.inl (zd j (by omega) h)))
              · by_cases a1 : j = v
                · exact ⟨q0, hq0, by rw [a1]; exact g, w2⟩
                · by_cases b1 : Zt (z.1 (1000 * (c + 1)) 5) j = true
                  · obtain ⟨q', k1, k2, k3⟩ := zc j hj b1 h2
                    exact ⟨q', k1, k2, fun i hi h => wmono i hi ((s2b i).mpr (Or.inl (k3 i hi h)))⟩
                  · exact w3 j hj h1 (fun h => (s2b j).mp h |>.elim b1 a1)
        · simp (disch := omega) only [fX11_findFor_L15, ZW_fst, hG.1, ZbI6 hG.2.1, e15, Option.bind_some, if_neg h15, Zb9 hcl, Zhas_f (show v < 32 by omega) q, if_true, Zesc_l, nI_1]
          refine Or.inl ⟨_, rfl, z, rfl, hz, hzu, hz8, zs, fun j hj h => ?_, zc⟩
          by_cases a1 : j = v
          · subst a1
            exact Classical.byContradiction fun n => q ((hcond j (by omega)).mpr ⟨h, n⟩)
          · exact zd j (by omega) h)
      (by
        rintro a ⟨z, rfl, hz, hzu, hz8, zs, zd, zc⟩
        have e15 : z.2 50301 0 = 15 := by rw [hz.2 50301 (by unfold ZKB; omega)]; exact hG.2.2
        simp (disch := omega) only [fX11_findFor_L15, ZW_fst, hG.1, ZbI6 hG.2.1, e15, Option.bind_some, if_pos (show (15 : Int32) < nI 16 by decide)]
        refine ⟨_, rfl, Or.inl ⟨z, rfl, hz, hzu, zs, Or.inr ⟨rfl, hz8, fun j hj h => zd j (hD16 p hp j h.1) h, zc⟩⟩⟩)
      N (ZW E sh y, 0) (by omega) ⟨y, rfl, hf, fun _ _ => rfl, hfy, fun k _ h => by rw [hsy]; exact h, fun j hj => absurd hj (by omega), fun j hj h1 h2 => absurd (by rw [hsy] at h1; exact h1) h2⟩
    show ∃ y' b, fX11_findFor_B (fX11_findFor d) N (ZW E sh y) (Zl E (1000 * (c + 1))) (Zl E ts) (nI p) (1 <<< (nI val &&& 31)) = some (ZW E sh y', b) ∧ _
    obtain ⟨r, e1, ⟨z, rfl, hz, hzu, ho⟩ | ⟨z, v, rfl, hv32, hz, hzu, ho⟩⟩ := L
    · simp only [fX11_findFor_B, Zb9 hcl, dm y hf, Option.bind_some, hx, e1, Zesc_r]
      exact ⟨z, 0, rfl, hz, hzu, ho⟩
    · simp (disch := omega) only [fX11_findFor_B, Zb9 hcl, dm y hf, Option.bind_some, hx, e1, Zesc_l, ZbI h8]
      refine ⟨_, 1, rfl, hz.arr hB8, fun u hu => (zua_n hu).trans (hzu u hu), ?_⟩
      have : zua z.2 (1000 * (c + 1) + 8) v (nI p) (1000 * (c + 1) + 8) = upd (z.2 (1000 * (c + 1) + 8)) v (nI p) := by simp only [zua, if_true]
      simp only [this]
      exact ho
end KU
