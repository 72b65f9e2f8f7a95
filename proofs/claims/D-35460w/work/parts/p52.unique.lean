/-! the store that is found is one -/
set_option maxRecDepth 100000
/-- stores that are alike where it matters -/
def Zsim (P : ZP) (T U : ZT0) : Prop := ∀ v, v < Znv P → (Zkd P v ≤ 2 → T.1 v = U.1 v) ∧ (Zkd P v = 3 → T.2.1 v = U.2.1 v ∧ T.2.2 v = U.2.2 v)
theorem Zsim.symm {P : ZP} {T U : ZT0} (h : Zsim P T U) : Zsim P U T := fun v hv => ⟨fun hk => ((h v hv).1 hk).symm, fun hk => ⟨((h v hv).2 hk).1.symm, ((h v hv).2 hk).2.symm⟩⟩
theorem Zsim.trans {P : ZP} {T U W : ZT0} (h : Zsim P T U) (h' : Zsim P U W) : Zsim P T W := fun v hv => ⟨fun hk => ((h v hv).1 hk).trans ((h' v hv).1 hk), fun hk => ⟨((h v hv).2 hk).1.trans ((h' v hv).2 hk).1, ((h v hv).2 hk).2.trans ((h' v hv).2 hk).2⟩⟩
theorem Zsim.of_eq {P : ZP} {T U : ZT0} (h : Zeq P T U) : Zsim P T U := fun v hv => ⟨fun _ => (h v hv).1, fun _ => (h v hv).2⟩
theorem Zsm_cg {f g : Nat → Int} : ∀ n, (∀ q, q < n → f q = g q) → Zsm f n = Zsm g n := by
  intro n
  induction n with
  | zero => intro _; rfl
  | succ n ih =>
    intro h
    simp only [Zsm]
    rw [ih fun q hq => h q (by omega), h n (by omega)]
section UQ
variable {P : ZP} {T U : ZT0} {c : Nat}
theorem Zlw_sim (hP : ZPok P) (h : Zsim P T U) {v : Nat} (hv : v < Znv P) : Zlw P T v = Zlw P U v ∧ Zhg P T v = Zhg P U v := by
  unfold Zlw Zhg
  by_cases k : Zkd P v = 3
  · simp only [if_pos k, ((h v hv).2 k).1, ((h v hv).2 k).2, and_self]
  · simp only [if_neg k, (h v hv).1 (by have := hP.2.2.1 v hv; omega), and_self]
theorem ZLok_sim (hP : ZPok P) (h : Zsim P T U) (hc : c < Znc P) (p : Nat) (x : Int) : ZLok P T c p x ↔ ZLok P U c p x := by
  have hC := hP.2.2.2.2.2 c hc
  have e1 : ∀ q, q < Zmn P c → Zmi P T c q = Zmi P U c q ∧ Zma P T c q = Zma P U c q := fun q hq => by
    obtain ⟨a, b⟩ := Zlw_sim hP h (hC.2.2.1 q hq)
    unfold Zmi Zma
    rw [a, b]
    exact ⟨rfl, rfl⟩
  unfold ZLok
  rw [Zsm_cg (f := fun q => if q = p then 0 else Zmi P T c q) (g := fun q => if q = p then 0 else Zmi P U c q) _ fun q hq => by rw [(e1 q hq).1], Zsm_cg (f := fun q => if q = p then 0 else Zma P T c q) (g := fun q => if q = p then 0 else Zma P U c q) _ fun q hq => by rw [(e1 q hq).2]]
theorem Zall_cg {α : Type} {l : List α} {f g : α → Bool} (h : ∀ a, a ∈ l → f a = g a) : l.any f = l.any g := by
  induction l with
  | nil => rfl
  | cons a l ih =>
    simp only [List.any_cons]
    rw [h a (by simp), ih fun b hb => h b (by simp [hb])]
theorem Zsup_sim1 (hD : ∀ q, q < Zmn P c → ZDm P T c q = ZDm P U c q) (p k : Nat) : ZHall P T c p k ↔ ZHall P U c p k := by
  have e : ∀ F, Zuc P T c F k = Zuc P U c F k := fun F => by
    unfold Zuc
    refine Zct_congr 32 fun j _ => ?_
    rw [Zall_cg (f := fun q => F q && Zt (ZDm P T c q) j) (g := fun q => F q && Zt (ZDm P U c q) j) fun q hq => by rw [hD q (List.mem_range.mp hq)]]
  unfold ZHall
  simp only [e]
theorem Zfs_cg {b d : Nat → Bool} (h : ∀ k, b k = d k) (m k : Nat) : Zfs b m k = Zfs d m k := by
  rw [show b = d from funext h]
theorem ZoL_sim (hD : ∀ q, q < Zmn P c → ZDm P T c q = ZDm P U c q) : ∀ p, p ≤ Zmn P c → ZoL P T c p = ZoL P U c p := by
  intro p
  induction p with
  | zero => intro _; rfl
  | succ p ih =>
    intro h
    simp only [ZoL]
    rw [ih (by omega), hD p (by omega)]
theorem ZoH_sim (hD : ∀ q, q < Zmn P c → ZDm P T c q = ZDm P U c q) (h1 : 1 ≤ Zmn P c) : ∀ j, j ≤ Zmn P c → ZoH P T c j = ZoH P U c j := by
  intro j
  induction j with
  | zero => intro _; rfl
  | succ j ih =>
    intro h
    simp only [ZoH]
    rw [ih (by omega), hD (Zmn P c - 1 - j) (by omega)]
theorem Zre_sim (hD : ∀ q, q < Zmn P c → ZDm P T c q = ZDm P U c q) : ∀ p, p ≤ Zmn P c → ∀ s, Zre P T c p s ↔ Zre P U c p s := by
  intro p
  induction p with
  | zero => intro _ s; exact Iff.rfl
  | succ p ih =>
    intro h s
    simp only [Zre, ih (by omega), hD p (by omega)]
theorem Zld_sim (hD : ∀ q, q < Zmn P c → ZDm P T c q = ZDm P U c q) (h1 : 1 ≤ Zmn P c) : ∀ j, j ≤ Zmn P c → ∀ s, Zld P T c j s ↔ Zld P U c j s := by
  intro j
  induction j with
  | zero => intro _ s; exact Iff.rfl
  | succ j ih =>
    intro h s
    simp only [Zld, ih (by omega), hD (Zmn P c - 1 - j) (by omega)]
theorem Zsup_sim (hP : ZPok P) (h : Zsim P T U) (hc : c < Znc P) {p : Nat} (hp : p < Zmn P c) (k : Nat) : Zsup P T c p k ↔ Zsup P U c p k := by
  have hC := hP.2.2.2.2.2 c hc
  by_cases s0 : Zso P c = 0
  · simp only [Zsup, s0]
    exact ZLok_sim hP h hc p _
  have hk : ∀ q, q < Zmn P c → Zkd P (Zpl P c q) ≤ 2 := by
    intro q hq
    obtain ⟨m1, m8, pl, s17, c0, c12, c3, c4, c14, c5, c6, c7⟩ := hC
    have hs : (1 ≤ Zso P c ∧ Zso P c ≤ 4) ∨ Zso P c = 5 ∨ Zso P c = 6 ∨ 7 ≤ Zso P c := by omega
    rcases hs with g | g | g | g
    · rw [c14 g.1 g.2 q hq]
      omega
    · exact ((c5 g).2 q hq).1
    · obtain ⟨g1, g2, -⟩ := c6 g
      have : q = 0 := by omega
      rw [this, g2]
      omega
    · rw [(c7 g).2 q hq]
      exact Zrk_le _ _
  have hD : ∀ q, q < Zmn P c → ZDm P T c q = ZDm P U c q := fun q hq => (h _ (hC.2.2.1 q hq)).1 (hk q hq)
  have m1 := hC.1
  have s17 := hC.2.2.2.1
  have hcase : Zso P c = 1 ∨ Zso P c = 2 ∨ Zso P c = 3 ∨ Zso P c = 4 ∨ Zso P c = 5 ∨ Zso P c = 6 ∨ 7 ≤ Zso P c := by omega
  rcases hcase with g | g | g | g | g | g | g
  · simp only [Zsup, g]
    exact Zsup_sim1 hD p k
  · simp only [Zsup, g]
    rw [ZoL_sim hD p (by omega), ZoH_sim hD m1 (Zmn P c - 1 - p) (by omega)]
  · simp only [Zsup, g, Zre_sim hD p (by omega), Zld_sim hD m1 (Zmn P c - 1 - p) (by omega)]
  · have m3 := hC.2.2.2.2.2.2.2.1 g
    simp only [Zsup, g]
    have d0 := hD 0 (by omega)
    have d1 := hD 1 (by omega)
    have e1 : (∃ i, i < Zmn P c - 2 ∧ Zt (ZDm P T c 1) i = true ∧ Zt (ZDm P T c (i + 2)) k = true) ↔ (∃ i, i < Zmn P c - 2 ∧ Zt (ZDm P U c 1) i = true ∧ Zt (ZDm P U c (i + 2)) k = true) := by
      rw [d1]
      constructor
      · rintro ⟨i, a1, a2, a3⟩
        exact ⟨i, a1, a2, by rw [← hD (i + 2) (by omega)]; exact a3⟩
      · rintro ⟨i, a1, a2, a3⟩
        exact ⟨i, a1, a2, by rw [hD (i + 2) (by omega)]; exact a3⟩
    have e2 : (k < Zmn P c - 2 ∧ Zmeet (ZDm P T c 0) (ZDm P T c (k + 2))) ↔ (k < Zmn P c - 2 ∧ Zmeet (ZDm P U c 0) (ZDm P U c (k + 2))) := by
      rw [d0]
      constructor
      · rintro ⟨a1, a2⟩
        exact ⟨a1, by rw [← hD (k + 2) (by omega)]; exact a2⟩
      · rintro ⟨a1, a2⟩
        exact ⟨a1, by rw [hD (k + 2) (by omega)]; exact a2⟩
    have e3 : (∃ j, j < Zmn P c - 2 ∧ j + 2 ≠ p ∧ Zt (ZDm P T c 1) j = true ∧ Zmeet (ZDm P T c 0) (ZDm P T c (j + 2))) ↔ (∃ j, j < Zmn P c - 2 ∧ j + 2 ≠ p ∧ Zt (ZDm P U c 1) j = true ∧ Zmeet (ZDm P U c 0) (ZDm P U c (j + 2))) := by
      rw [d0, d1]
      constructor
      · rintro ⟨j, a1, a2, a3, a4⟩
        exact ⟨j, a1, a2, a3, by rw [← hD (j + 2) (by omega)]; exact a4⟩
      · rintro ⟨j, a1, a2, a3, a4⟩
        exact ⟨j, a1, a2, a3, by rw [hD (j + 2) (by omega)]; exact a4⟩
    rw [e1, e2, e3, d0, d1]
  · simp only [Zsup, g]
    have e1 : (∃ q, q < Zmn P c ∧ q ≠ p ∧ ∃ j, j < 32 ∧ Zt (ZDm P T c q) j = true ∧ Zhd P c q j) ↔ (∃ q, q < Zmn P c ∧ q ≠ p ∧ ∃ j, j < 32 ∧ Zt (ZDm P U c q) j = true ∧ Zhd P c q j) := by
      constructor
      · rintro ⟨q, a1, a2, a3⟩
        exact ⟨q, a1, a2, by rw [← hD q a1]; exact a3⟩
      · rintro ⟨q, a1, a2, a3⟩
        exact ⟨q, a1, a2, by rw [hD q a1]; exact a3⟩
    rw [e1]
  · simp only [Zsup, g]
  · have hR : ∀ x y z, ZRt P T c x y z ↔ ZRt P U c x y z := by
      intro x y z
      have m := (hC.2.2.2.2.2.2.2.2.2.2.2 g).1
      have m23 : Zmn P c = 2 ∨ Zmn P c = 3 := by
        rw [m]
        unfold Zrn
        split <;> omega
      unfold ZRt
      rw [hD 0 (by omega), hD 1 (by omega)]
      rcases m23 with q | q
      · simp only [q, if_true]
      · rw [hD 2 (by omega)]
    obtain ⟨s, hs⟩ : ∃ s, Zso P c = s + 7 := ⟨Zso P c - 7, by omega⟩
    simp only [Zsup, hs, hR]
theorem Zag_sim (hP : ZPok P) (h : Zsim P T U) (hc : c < Znc P) (v k : Nat) : Zag P T c v k ↔ Zag P U c v k := by
  unfold Zag
  constructor
  · rintro ⟨p, h1, h2, h3⟩
    exact ⟨p, h1, h2, fun g => h3 ((Zsup_sim hP h hc h1 k).mpr g)⟩
  · rintro ⟨p, h1, h2, h3⟩
    exact ⟨p, h1, h2, fun g => h3 ((Zsup_sim hP h hc h1 k).mp g)⟩
theorem Zfc_sim (hP : ZPok P) (h : Zsim P T U) {v k c c' : Nat} (h1 : Zfc P T v k c) (h2 : Zfc P U v k c') : c = c' := by
  obtain ⟨a1, a2, a3⟩ := h1
  obtain ⟨b1, b2, b3⟩ := h2
  rcases Nat.lt_trichotomy c c' with g | g | g
  · exact absurd ((Zag_sim hP h a1 v k).mp a2) (b3 c g)
  · exact g
  · exact absurd ((Zag_sim hP h b1 v k).mpr b2) (a3 c' g)
theorem ZrA_sim (hP : ZPok P) (h : Zsim P T U) (v : Nat) (x : Int) : ZrA P T v x ↔ ZrA P U v x := by
  unfold ZrA
  constructor
  · intro g c hc hs p hp hv
    exact (ZLok_sim hP h hc p x).mp (g c hc hs p hp hv)
  · intro g c hc hs p hp hv
    exact (ZLok_sim hP h hc p x).mpr (g c hc hs p hp hv)
/-- alike, or both have the same empty intervals -/
def Zsim2 (P : ZP) (T U : ZT0) : Prop := ∀ v, v < Znv P → (Zkd P v ≤ 2 → T.1 v = U.1 v) ∧ (Zkd P v = 3 → (T.2.1 v = U.2.1 v ∧ T.2.2 v = U.2.2 v) ∨ ((T.2.2 v).toInt < (T.2.1 v).toInt ∧ (U.2.2 v).toInt < (U.2.1 v).toInt))
theorem Zsim.to2 (h : Zsim P T U) : Zsim2 P T U := fun v hv => ⟨(h v hv).1, fun hk => Or.inl ((h v hv).2 hk)⟩
theorem Zem_sim2 (hP : ZPok P) (h : Zsim2 P T U) {v : Nat} (hv : v < Znv P) : Zem P T v ↔ Zem P U v := by
  unfold Zem
  by_cases k : Zkd P v = 3
  · rw [if_pos k, if_pos k]
    rcases (h v hv).2 k with ⟨g1, g2⟩ | ⟨g1, g2⟩
    · rw [g1, g2]
    · exact ⟨fun _ => g2, fun _ => g1⟩
  · rw [if_neg k, if_neg k, (h v hv).1 (by have := hP.2.2.1 v hv; omega)]
theorem Zfail_sim2 (hP : ZPok P) (h : Zsim2 P T U) : Zfail P T ↔ Zfail P U := ⟨fun ⟨v, hv, g⟩ => ⟨v, hv, (Zem_sim2 hP h hv).mp g⟩, fun ⟨v, hv, g⟩ => ⟨v, hv, (Zem_sim2 hP h hv).mpr g⟩⟩
theorem Zsim2.of_ok (hP : ZPok P) (h : Zsim2 P T U) (hf : ¬ Zfail P T) : Zsim P T U := fun v hv => ⟨(h v hv).1, fun hk => by
  rcases (h v hv).2 hk with g | ⟨g1, g2⟩
  · exact g
  · exact absurd ⟨v, hv, by unfold Zem; rw [if_pos hk]; exact g1⟩ hf⟩
/-- a round -/
theorem Zstep_sim (hP : ZPok P) {T' U' : ZT0} (h : Zsim P T U) (hT : Zstep P T T') (hU : Zstep P U U') : Zsim2 P T' U' := by
  intro v hv
  refine ⟨fun hk => Zt_ext fun k hk32 => ?_, fun hk => ?_⟩
  · rw [Bool.eq_iff_iff, hT.1 v hv hk k hk32, hU.1 v hv hk k hk32, (h v hv).1 hk]
    constructor
    · rintro ⟨g1, g2⟩
      exact ⟨g1, fun c hc g => g2 c hc ((Zag_sim hP h hc v k).mpr g)⟩
    · rintro ⟨g1, g2⟩
      exact ⟨g1, fun c hc g => g2 c hc ((Zag_sim hP h hc v k).mp g)⟩
  · obtain ⟨e1, e2⟩ := (h v hv).2 hk
    rcases hT.2.1 v hv hk with ⟨⟨x, x1, x2, x3⟩, a1, a2, a3, a4⟩ | ⟨a1, a2⟩
    · rcases hU.2.1 v hv hk with ⟨-, b1, b2, b3, b4⟩ | ⟨b1, b2⟩
      · refine Or.inl ?_
        rw [← e1] at b1
        rw [← e2] at b3
        rw [← e1, ← e2] at b4
        have f : ∀ x : Int, (T.2.1 v).toInt ≤ x → x ≤ (T.2.2 v).toInt → ((T'.2.1 v).toInt ≤ x ∧ x ≤ (T'.2.2 v).toInt ↔ (U'.2.1 v).toInt ≤ x ∧ x ≤ (U'.2.2 v).toInt) := fun x x1 x2 => by rw [← a4 x x1 x2, ← b4 x x1 x2, ZrA_sim hP h]
        have f1 := (f (T'.2.1 v).toInt a1 (by omega)).mp ⟨by omega, a2⟩
        have f2 := (f (T'.2.2 v).toInt (by omega) a3).mp ⟨a2, by omega⟩
        have f3 := (f (U'.2.1 v).toInt b1 (by omega)).mpr ⟨by omega, b2⟩
        have f4 := (f (U'.2.2 v).toInt (by omega) b3).mpr ⟨b2, by omega⟩
        exact ⟨Int32.toInt_inj.mp (by omega), Int32.toInt_inj.mp (by omega)⟩
      · exact absurd ((ZrA_sim hP h v x).mp x3) (b1 x (by rw [← e1]; exact x1) (by rw [← e2]; exact x2))
    · rcases hU.2.1 v hv hk with ⟨⟨x, x1, x2, x3⟩, -⟩ | ⟨b1, b2⟩
      · exact absurd ((ZrA_sim hP h v x).mpr x3) (a1 x (by rw [e1]; exact x1) (by rw [e2]; exact x2))
      · exact Or.inr ⟨a2, b2⟩
theorem Zchg_sim (hP : ZPok P) {T' U' : ZT0} (h : Zsim P T U) (hT : Zstep P T T') (hU : Zstep P U U') (hf : ¬ Zfail P T) : Zchg P T T' ↔ Zchg P U U' := by
  have h2 := Zstep_sim hP h hT hU
  have key : ∀ {T U T' U' : ZT0}, Zsim P T U → Zkp P T T' → Zkp P U U' → Zsim2 P T' U' → ¬ Zfail P T → Zchg P T T' → Zchg P U U' := by
    intro T U T' U' h kT kU h2 hf ⟨v, hv, g⟩
    by_cases k : Zkd P v = 3
    · obtain ⟨e1, e2⟩ := (h v hv).2 k
      rcases (h2 v hv).2 k with ⟨g1, g2⟩ | ⟨g1, g2⟩
      · refine ⟨v, hv, Or.inr ?_⟩
        rcases g with g | g | g
        · exact absurd ((kT v hv).2 k).1.symm g
        · exact Or.inl (by rw [← e1, ← g1]; exact g)
        · exact Or.inr (by rw [← e2, ← g2]; exact g)
      · refine Classical.byContradiction fun hno => hf ⟨v, hv, ?_⟩
        have q := Zeq_of_nchg hno v hv
        unfold Zem
        rw [if_pos k, e1, e2, q.2.1, q.2.2]
        exact g2
    · have k2 : Zkd P v ≤ 2 := by have := hP.2.2.1 v hv; omega
      refine ⟨v, hv, Or.inl ?_⟩
      rcases g with g | g | g
      · rw [← (h v hv).1 k2, ← (h2 v hv).1 k2]
        exact g
      · exact absurd ((kT v hv).1 k2).1.symm g
      · exact absurd ((kT v hv).1 k2).2.symm g
  have hf' : ¬ Zfail P U := fun g => hf ((Zfail_sim2 hP h.to2).mpr g)
  have h2' : Zsim2 P U' T' := fun v hv => ⟨fun k => ((h2 v hv).1 k).symm, fun k => ((h2 v hv).2 k).elim (fun g => Or.inl ⟨g.1.symm, g.2.symm⟩) fun g => Or.inr ⟨g.2, g.1⟩⟩
  exact ⟨key h hT.2.2 hU.2.2 h2 hf, key h.symm hU.2.2 hT.2.2 h2' hf'⟩
theorem ZtrR_sim (hP : ZPok P) {T' U' : ZT0} {fc fc' : Nat → Nat → Nat} (h : Zsim P T U) (h2 : Zsim2 P T' U') (hf : ZfcA P T T' fc) (hf' : ZfcA P U U' fc') (rd : Nat) : ZtrR P T T' fc rd (Znv P) = ZtrR P U U' fc' rd (Znv P) := ZtrR_congr (Znv P) fun v hv k => by
  have k2 : Zkd P v ≤ 2 := by have := hP.2.2.1 v hv; omega
  have e1 := (h v hv).1 k2
  have e2 := (h2 v hv).1 k2
  refine ⟨fun j _ => by rw [e1], fun j _ => by rw [e2], fun j hj g1 g2 => ?_⟩
  exact Zfc_sim hP h (hf v hv k2 j hj g1 g2) (hf' v hv k2 j hj (by rw [← e1]; exact g1) (by rw [← e2]; exact g2))
theorem ZRn_sim (hP : ZPok P) {T0 U0 : ZT0} (h : Zsim P T0 U0) : ∀ m T U l l', ZRn P T0 m T l → ZRn P U0 m U l' → Zsim2 P T U ∧ l = l' := by
  intro m
  induction m with
  | zero =>
    rintro T U l l' ⟨h1, rfl⟩ ⟨h2, rfl⟩
    exact ⟨(((Zsim.of_eq h1).symm.trans h).trans (Zsim.of_eq h2)).to2, rfl⟩
  | succ m ih =>
    rintro T U l l' ⟨T1, l1, fc, a1, a2, a3, a4, a5, rfl⟩ ⟨U1, k1, fc', b1, b2, b3, b4, b5, rfl⟩
    obtain ⟨g1, g2⟩ := ih T1 U1 l1 k1 a1 b1
    have g3 := g1.of_ok hP a2
    have g4 := Zstep_sim hP g3 a3 b3
    exact ⟨g4, by rw [g2, ZtrR_sim hP g3 g4 a5 b5]⟩
/-- fewer rounds: the store is not failed and changes still -/
theorem ZRn_pre (hP : ZPok P) {T0 : ZT0} : ∀ d m T l, ZRn P T0 (m + (d + 1)) T l → ∃ T1 T2 l1, ZRn P T0 m T1 l1 ∧ ¬ Zfail P T1 ∧ Zstep P T1 T2 ∧ Zchg P T1 T2 := by
  intro d
  induction d with
  | zero =>
    rintro m T l ⟨T1, l1, fc, a1, a2, a3, a4, a5, rfl⟩
    exact ⟨T1, T, l1, a1, a2, a3, a4⟩
  | succ d ih =>
    rintro m T l ⟨T1, l1, fc, a1, a2, a3, a4, a5, rfl⟩
    exact ih m T1 l1 a1
theorem ZEnd_le (hP : ZPok P) {T0 U0 : ZT0} (h : Zsim P T0 U0) {m m' : Nat} {T U : ZT0} {l l' : List (Nat × Nat × Nat × Nat)} (hT : ZEnd P T0 m T l) (hU : ZEnd P U0 m' U l') : ¬ m < m' := by
  intro hm
  obtain ⟨d, rfl⟩ : ∃ d, m' = m + (d + 1) := ⟨m' - m - 1, by omega⟩
  have hrun : ∃ W k, ZRn P U0 (m + (d + 1)) W k := by
    rcases hU with ⟨g, -⟩ | ⟨U1, U2, g, -⟩
    · exact ⟨_, _, g⟩
    · exact ⟨_, _, g⟩
  obtain ⟨W, k, hW⟩ := hrun
  obtain ⟨U1, U2, l1, b1, b2, b3, b4⟩ := ZRn_pre hP d m W k hW
  rcases hT with ⟨g1, g2⟩ | ⟨T1, T2, g1, g2, g3, g4, g5⟩
  · exact b2 ((Zfail_sim2 hP (ZRn_sim hP h m _ _ _ _ g1 b1).1).mp g2)
  · have q := (ZRn_sim hP h m _ _ _ _ g1 b1).1.of_ok hP g2
    exact g4 ((Zchg_sim hP q g3 b3 g2).mpr b4)
theorem ZEnd_one (hP : ZPok P) {T0 U0 : ZT0} (h : Zsim P T0 U0) {m m' : Nat} {T U : ZT0} {l l' : List (Nat × Nat × Nat × Nat)} (hT : ZEnd P T0 m T l) (hU : ZEnd P U0 m' U l') : m = m' ∧ l = l' ∧ Zsim2 P T U := by
  have hm : m = m' := by
    have := ZEnd_le hP h hT hU
    have := ZEnd_le hP h.symm hU hT
    omega
  subst hm
  rcases hT with ⟨g1, g2⟩ | ⟨T1, T2, g1, g2, g3, g4, g5⟩
  · rcases hU with ⟨b1, b2⟩ | ⟨U1, U2, b1, b2, b3, b4, b5⟩
    · obtain ⟨q1, q2⟩ := ZRn_sim hP h m _ _ _ _ g1 b1
      exact ⟨rfl, q2, q1⟩
    · exact absurd ((Zfail_sim2 hP (ZRn_sim hP h m _ _ _ _ g1 b1).1).mp g2) b2
  · rcases hU with ⟨b1, b2⟩ | ⟨U1, U2, b1, b2, b3, b4, b5⟩
    · exact absurd ((Zfail_sim2 hP (ZRn_sim hP h m _ _ _ _ g1 b1).1).mpr b2) g2
    · obtain ⟨q1, q2⟩ := ZRn_sim hP h m _ _ _ _ g1 b1
      have q3 := q1.of_ok hP g2
      have e1 : Zsim P T1 T := Zsim.of_eq ((Zeq_of_nchg g4).trans g5)
      have e2 : Zsim P U1 U := Zsim.of_eq ((Zeq_of_nchg b4).trans b5)
      exact ⟨rfl, q2, ((e1.symm.trans q3).trans e2).to2⟩
end UQ
