/-! X: what Order keeps; tools of the keeps -/
set_option maxRecDepth 100000
/-- what a constraint of X keeps of sets is what it supports -/
def ZKs (P : ZP) (T : ZT0) (c : Nat) (xs' : Zxs) : Prop := ∀ p, p < Zmn P c → Zkd P (Zpl P c (Zpm P c p)) ≤ 2 → ∀ k, k < 32 → Zt (ZDm P T c (Zpm P c p)) k = true → (Zt (xs'.2 (1000 * (c + 1) + 2) p) k = true ↔ Zsup P T c (Zpm P c p) k)
/-- the arrays that a constraint lays -/
def ZKB (c u : Nat) : Prop := u = 1000 * (c + 1) + 2 ∨ u = 1000 * (c + 1) + 3 ∨ u = 1000 * (c + 1) + 4 ∨ u = 1000 * (c + 1) + 8 ∨ u = 1000 * (c + 1) + 9
/-- and the one number -/
def ZKA (P : ZP) (c t f : Nat) : Prop := Zso P c = 1 ∧ t = 1000 * (c + 1) ∧ f = 5
theorem Zfs_congr {b c : Nat → Bool} : ∀ m k, (∀ j, k ≤ j → j < k + m → b j = c j) → Zfs b m k = Zfs c m k := by
  intro m
  induction m with
  | zero => intro k _; rfl
  | succ m ih => intro k h; simp only [Zfs]; rw [h k (Nat.le_refl _) (by omega), ih (k + 1) fun j h1 h2 => h j (by omega) (by omega)]
theorem Zla_congr {b c : Nat → Bool} : ∀ n, (∀ j, j < n → b j = c j) → Zla b n = Zla c n := by
  intro n
  induction n with
  | zero => intro _; rfl
  | succ n ih => intro h; simp only [Zla]; rw [h n (by omega), ih fun j hj => h j (by omega)]
theorem ZoL_le (P : ZP) (T : ZT0) (c p : Nat) : ZoL P T c p ≤ 32 := by
  cases p with
  | zero => exact Nat.zero_le _
  | succ p => exact (Zfs_spec _ 32 0).2.1
theorem ZoH_le (P : ZP) (T : ZT0) (c p : Nat) : ZoH P T c p ≤ 32 := by
  cases p with
  | zero => exact Nat.le_refl _
  | succ p => exact (Zla_spec _ 32).1
theorem Zt_from {x : Int32} {l k : Nat} (hl : l < 32) (hk : k < 32) : Zt (x &&& ((-1) <<< (nI l &&& 31))) k = (Zt x k && decide (l ≤ k)) := by
  rw [Zt_and, Zt_shl hl, Zt_m1]
  by_cases h : l ≤ k
  · simp [h, hk, Nat.not_lt.mpr h, show k - l < 32 by omega]
  · simp [h, show k < l by omega]
theorem Zt_upto {x : Int32} {h k : Nat} (hh : h < 32) (hk : k < 32) : Zt (x &&& (((-1 : Int32).toUInt32 >>> (((31 : Int32) - nI h).toUInt32 &&& Int32.toUInt32 31)).toInt32)) k = (Zt x k && decide (k < h + 1)) := by
  rw [Zlit 31, pk_sub (by omega), Zt_and, ← Zlit 31, Zt_ushr (by omega), Zt_m1]
  congr 1
  by_cases g : k < h + 1
  · simp [g, show 31 - h + k < 32 by omega]
  · simp [g, show ¬ 31 - h + k < 32 by omega]
theorem Zpm_id {P : ZP} {c p : Nat} (h : Zso P c ≠ 12 ∧ Zso P c ≠ 13) : Zpm P c p = p := by
  unfold Zpm
  rw [if_neg (by omega)]
/-- the store stays when a constraint lays -/
theorem ZTs_fr {xs x : Zxs} {ts : Nat} {A : Nat → Nat → Prop} {B : Nat → Prop} (hf : Zfr A B xs x) (hB : ∀ u, B u → 1000 ≤ u) (hts : ts + 4 ≤ 100) : ZTs x ts = ZTs xs ts := by
  unfold ZTs
  rw [hf.2 _ (fun q => by have := hB _ q; omega), hf.2 _ (fun q => by have := hB _ q; omega), hf.2 _ (fun q => by have := hB _ q; omega)]
theorem ZX_keep2 {sh : Nat → Option Zsh} {xs : Zxs} {P : ZP} {E : Ze} {ts c : Nat} (hP : ZPok P) (hc : c < Znc P) (hs : Zso P c = 2) (hS : ZS sh ts) (hts : ts + 4 ≤ 100) (h0 : ZX0 sh xs P c) (hcl : sh (1000 * (c + 1)) = some (Zo10 (1000 * (c + 1) + 1) (1000 * (c + 1) + 2) (1000 * (c + 1) + 3) (1000 * (c + 1) + 4))) :
    ∀ N : Nat, 1000 ≤ N → ∃ xs', fX12_keep N (ZW E sh xs) (Zl E (1000 * (c + 1))) (Zl E ts) = some (ZW E sh xs') ∧ Zfr (fun _ _ => False) (fun u => u = 1000 * (c + 1) + 2) xs xs' ∧ ZKs P (ZTs xs ts) c xs' := by
  intro N hN
  have hC := hP.2.2.2.2.2 c hc
  obtain ⟨m1, m8, -⟩ := hC
  have hm6 : Zmn P c ≤ 6 := (hP.2.2.2.2.2 c hc).2.2.2.2.2.1 (Or.inr hs)
  have hC := hP.2.2.2.2.2 c hc
  have hid : ∀ p, Zpm P c p = p := fun p => Zpm_id (by omega)
  have harr : sh (1000 * (c + 1) + 2) = some (Zia 0 (Zmn P c)) := by obtain ⟨_, _, _, _, _, h, _⟩ := h0; exact h
  have f1000 : ∀ u, u = 1000 * (c + 1) + 2 → 1000 ≤ u := by omega
  unfold fX12_keep
  have L1 := Zl_inv (body := fX12_keep_L4 (Zl E (1000 * (c + 1))) (Zl E ts)) (fun i a => ∃ x, a = (ZW E sh x, nI (ZoL P (ZTs xs ts) c i), nI i) ∧ Zfr (fun _ _ => False) (fun u => u = 1000 * (c + 1) + 2) xs x ∧ ∀ p, p < i → ∀ k, k < 32 → Zt (x.2 (1000 * (c + 1) + 2) p) k = (Zt (ZDm P (ZTs xs ts) c p) k && decide (ZoL P (ZTs xs ts) c p ≤ k))) (Zmn P c)
    (fun r => ∃ x, r = ZW E sh x ∧ Zfr (fun _ _ => False) (fun u => u = 1000 * (c + 1) + 2) xs x ∧ ∀ p, p < Zmn P c → ∀ k, k < 32 → Zt (x.2 (1000 * (c + 1) + 2) p) k = (Zt (ZDm P (ZTs xs ts) c p) k && decide (ZoL P (ZTs xs ts) c p ≤ k)))
    (by
      rintro i a hi ⟨x, rfl, hf, hx⟩
      have h0' := h0.fr hf (by omega)
      have hT := ZTs_fr hf f1000 hts
      have e1 := ZX0_size h0' m8 E
      have e2 := ZX0_dom h0' hP hC hS hi E
      rw [hid, hT] at e2
      have hL := ZoL_le P (ZTs xs ts) c i
      have hw : ∃ w : Int32, (if nI (ZoL P (ZTs xs ts) c i) < (32 : Int32) then some (ZDm P (ZTs xs ts) c i &&& ((-1 : Int32) <<< (nI (ZoL P (ZTs xs ts) c i) &&& 31))) else some (0 : Int32)) = some w ∧ ∀ k, k < 32 → Zt w k = (Zt (ZDm P (ZTs xs ts) c i) k && decide (ZoL P (ZTs xs ts) c i ≤ k)) := by
        by_cases q : ZoL P (ZTs xs ts) c i < 32
        · exact ⟨_, if_pos (nI_lt (b := 32) q (by decide)), fun k hk => Zt_from q hk⟩
        · refine ⟨_, if_neg (nI_nlt (b := 32) (by omega) (by omega)), fun k hk => ?_⟩
          rw [Zt_0]
          simp [show ¬ ZoL P (ZTs xs ts) c i ≤ k by omega]
      obtain ⟨w, e3, hw⟩ := hw
      have hn : (if w = 0 then some (32 : Int32) else ((fX1_least w).bind fun t32 => some t32)) = some (nI (ZoL P (ZTs xs ts) c (i + 1))) := by
        have e : ZoL P (ZTs xs ts) c (i + 1) = Zfs (Zt w) 32 0 := Zfs_congr 32 0 fun j _ hj => (hw j (by omega)).symm
        rw [e]
        by_cases q : w = 0
        · rw [if_pos q, q]
          decide
        · rw [if_neg q, Zleast]
          rfl
      simp (disch := omega) only [fX12_keep_L4, Zb10 hcl, e1, Option.bind_some, if_neg (nI_ge hi (show Zmn P c < 2 ^ 31 by omega)), e2, e3, ZbI harr, zua_ss, hn, nI_1]
      refine ⟨_, rfl, _, rfl, hf.arr rfl, fun p hp k hk => ?_⟩
      simp only [zua_s]
      by_cases q : p = i
      · rw [if_pos q, hw k hk, q]
      · rw [if_neg q]
        exact hx p (by omega) k hk)
    (by
      rintro a ⟨x, rfl, hf, hx⟩
      have e1 := ZX0_size (h0.fr hf (by omega)) m8 E
      simp only [fX12_keep_L4, Zb10 hcl, e1, Option.bind_some, if_pos (nI_le (Nat.le_refl _) (show Zmn P c < 2 ^ 31 by omega))]
      exact ⟨_, rfl, x, rfl, hf, hx⟩)
    N (ZW E sh xs, 0, 0) (by omega) ⟨xs, rfl, Zfr.rfl, fun p hp => absurd hp (by omega)⟩
  obtain ⟨r, e1, x, rfl, hf, hx⟩ := L1
  have es := ZX0_size (h0.fr hf (by omega)) m8 E
  simp only [e1, Option.bind_some, Zb10 hcl, es]
  have L2 := Zl_inv (body := fX12_keep_L79 (Zl E (1000 * (c + 1))) (Zl E ts)) (fun j a => ∃ y, a = (ZW E sh y, nI (ZoH P (ZTs xs ts) c j) - 1, if j = Zmn P c then -1 else nI (Zmn P c - 1 - j)) ∧ Zfr (fun _ _ => False) (fun u => u = 1000 * (c + 1) + 2) xs y ∧ ∀ p, p < Zmn P c → ∀ k, k < 32 → Zt (y.2 (1000 * (c + 1) + 2) p) k = (Zt (ZDm P (ZTs xs ts) c p) k && decide (ZoL P (ZTs xs ts) c p ≤ k) && (decide (p < Zmn P c - j) || decide (k < ZoH P (ZTs xs ts) c (Zmn P c - 1 - p))))) (Zmn P c)
    (fun r => ∃ y, r = ZW E sh y ∧ Zfr (fun _ _ => False) (fun u => u = 1000 * (c + 1) + 2) xs y ∧ ∀ p, p < Zmn P c → ∀ k, k < 32 → Zt (y.2 (1000 * (c + 1) + 2) p) k = (Zt (ZDm P (ZTs xs ts) c p) k && decide (ZoL P (ZTs xs ts) c p ≤ k) && decide (k < ZoH P (ZTs xs ts) c (Zmn P c - 1 - p))))
    (by
      rintro j a hj ⟨y, rfl, hfy, hy⟩
      have h0' := h0.fr hfy (by omega)
      have hT := ZTs_fr hfy f1000 hts
      have hp : Zmn P c - 1 - j < Zmn P c := by omega
      have e2 := ZX0_dom h0' hP hC hS hp E
      rw [hid, hT] at e2
      have hH := ZoH_le P (ZTs xs ts) c j
      have hw : ∃ w : Int32, (if 0 ≤ nI (ZoH P (ZTs xs ts) c j) - 1 then some (ZDm P (ZTs xs ts) c (Zmn P c - 1 - j) &&& (((-1 : Int32).toUInt32 >>> (((31 : Int32) - (nI (ZoH P (ZTs xs ts) c j) - 1)).toUInt32 &&& Int32.toUInt32 31)).toInt32)) else some (0 : Int32)) = some w ∧ ∀ k, k < 32 → Zt w k = (Zt (ZDm P (ZTs xs ts) c (Zmn P c - 1 - j)) k && decide (k < ZoH P (ZTs xs ts) c j)) := by
        rcases Nat.eq_zero_or_pos (ZoH P (ZTs xs ts) c j) with q | q
        · rw [q]
          refine ⟨0, if_neg (by decide), fun k hk => ?_⟩
          rw [Zt_0]
          simp
        · obtain ⟨h, eh⟩ : ∃ h, ZoH P (ZTs xs ts) c j = h + 1 := ⟨_, (Nat.sub_add_cancel q).symm⟩
          rw [eh, nI_pred, if_pos (nI_pos' (by omega))]
          exact ⟨_, rfl, fun k hk => Zt_upto (by omega) hk⟩
      obtain ⟨w, e3, hw⟩ := hw
      have hn : (if w = 0 then some (-1 : Int32) else ((fX1_greatest w).bind fun t15 => some t15)) = some (nI (ZoH P (ZTs xs ts) c (j + 1)) - 1) := by
        have e : ZoH P (ZTs xs ts) c (j + 1) = Zla (Zt w) 32 := Zla_congr 32 fun i hi => (hw i hi).symm
        rw [e]
        by_cases q : w = 0
        · rw [if_pos q, q]
          decide
        · rw [if_neg q, Zgreatest]
          rfl
      have e5 : (if j = Zmn P c then (-1 : Int32) else nI (Zmn P c - 1 - j)) = nI (Zmn P c - 1 - j) := if_neg (by omega)
      have e6 : nI (Zmn P c - 1 - j) + (-1) = if j + 1 = Zmn P c then (-1 : Int32) else nI (Zmn P c - 1 - (j + 1)) := by
        by_cases q : j + 1 = Zmn P c
        · rw [if_pos q, show Zmn P c - 1 - j = 0 by omega]
          decide
        · rw [if_neg q, show Zmn P c - 1 - j = (Zmn P c - 1 - (j + 1)) + 1 by omega, pk_m1]
      rw [e5]
      simp (disch := omega) only [fX12_keep_L79, if_neg (nI_pos (show Zmn P c - 1 - j < 2 ^ 31 by omega)), Zb10 hcl, e2, Option.bind_some, e3, hn, ZbI harr, e6]
      refine ⟨_, rfl, _, rfl, hfy.arr rfl, fun p hp k hk => ?_⟩
      simp only [zua_s]
      by_cases q : p = Zmn P c - 1 - j
      · rw [if_pos q, Zt_and, hw k hk, hy _ (by omega) k hk, q, show Zmn P c - 1 - (Zmn P c - 1 - j) = j by omega]
        cases Zt (ZDm P (ZTs xs ts) c (Zmn P c - 1 - j)) k <;> simp [show Zmn P c - 1 - j < Zmn P c - j by omega, show ¬ (Zmn P c - 1 - j < Zmn P c - (j + 1)) by omega]
      · rw [if_neg q, hy p hp k hk]
        have : decide (p < Zmn P c - j) = decide (p < Zmn P c - (j + 1)) := by
          rw [decide_eq_decide]
          omega
        rw [this])
    (by
      rintro a ⟨y, rfl, hfy, hy⟩
      simp only [fX12_keep_L79, if_true, if_pos (show (-1 : Int32) < 0 by decide)]
      refine ⟨_, rfl, y, rfl, hfy, fun p hp k hk => ?_⟩
      rw [hy p hp k hk]
      simp)
    N (ZW E sh x, 31, nI (Zmn P c) - 1) (by omega) ⟨x, by
      have : (if 0 = Zmn P c then (-1 : Int32) else nI (Zmn P c - 1 - 0)) = nI (Zmn P c) - 1 := by
        rw [if_neg (by omega), Zlit 1, pk_sub m1]
        rfl
      have e31 : nI (ZoH P (ZTs xs ts) c 0) - 1 = 31 := (by decide : nI 32 - 1 = (31 : Int32))
      rw [this, e31], hf, fun p hp k hk => by
      rw [hx p hp k hk]
      simp [hp]⟩
  obtain ⟨r, e2, y, rfl, hfy, hy⟩ := L2
  refine ⟨y, e2, hfy, fun p hp _ k hk hD => ?_⟩
  rw [hid] at hD ⊢
  rw [hy p hp k hk, hD]
  simp [Zsup, hs]
