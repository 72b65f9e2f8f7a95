/-! X: a round: what all constraints keep is taken -/
set_option maxRecDepth 100000
theorem Zpm_pm {P : ZP} {c p : Nat} (hC : ZCok P c) (hp : p < Zmn P c) : Zpm P c (Zpm P c p) = p := by
  unfold Zpm
  split
  · rename_i g
    have h := hC.2.2.2.2.2.2.2.2.2.2.2 (by omega)
    have : Zmn P c = 2 := by rw [h.1]; rcases g with g | g <;> rw [g] <;> rfl
    omega
  · rfl
theorem Zrk_le (s p : Nat) : Zrk s p ≤ 2 := by
  unfold Zrk
  split <;> first | omega | (split <;> omega)
/-- a value is removed by the constraints before c, or at the first p places of c -/
def ZRmp (P : ZP) (T : ZT0) (c p v k : Nat) : Prop := ∃ p', p' < p ∧ Zpl P c (Zpm P c p') = v ∧ ¬ Zsup P T c (Zpm P c p') k
def ZRm (P : ZP) (T : ZT0) (c p v k : Nat) : Prop := (∃ c', c' < c ∧ Zag P T c' v k) ∨ ZRmp P T c p v k
theorem ZRmp_all {P : ZP} {T : ZT0} {c v k : Nat} (hC : ZCok P c) : ZRmp P T c (Zmn P c) v k ↔ Zag P T c v k := by
  constructor
  · rintro ⟨p', h1, h2, h3⟩
    exact ⟨_, Zpm_lt hC h1, h2, h3⟩
  · rintro ⟨p, h1, h2, h3⟩
    exact ⟨Zpm P c p, Zpm_lt hC h1, by rw [Zpm_pm hC h1]; exact h2, by rw [Zpm_pm hC h1]; exact h3⟩
def ZrAp (P : ZP) (T : ZT0) (c p v : Nat) (z : Int) : Prop := (∀ c', c' < c → Zso P c' = 0 → ∀ p', p' < Zmn P c' → Zpl P c' p' = v → ZLok P T c' p' z) ∧ (Zso P c = 0 → ∀ p', p' < p → Zpl P c p' = v → ZLok P T c p' z)
/-- what is taken so far -/
def ZTk (P : ZP) (T : ZT0) (c p : Nat) (x : Zxs) : Prop :=
  (∀ v, v < Znv P → Zkd P v ≤ 2 → ∀ k, k < 32 → (Zt (x.2 40 v) k = true ↔ Zt (T.1 v) k = true ∧ ¬ ZRm P T c p v k)) ∧
  (∀ v, v < Znv P → Zkd P v ≤ 2 → ∀ k, k < 32 → Zt (T.1 v) k = true → ZRm P T c p v k → ∃ c', x.2 (44 + v) k = nI c' ∧ ((c' < c ∧ Zag P T c' v k) ∨ (c' = c ∧ ZRmp P T c p v k)) ∧ ∀ c'', c'' < c' → ¬ Zag P T c'' v k) ∧
  (∀ v, v < Znv P → Zkd P v ≤ 2 → x.2 41 v = T.2.1 v ∧ x.2 42 v = T.2.2 v) ∧
  ∀ v, v < Znv P → Zkd P v = 3 → x.2 40 v = T.1 v ∧ (T.2.1 v).toInt ≤ (x.2 41 v).toInt ∧ ((x.2 42 v).toInt ≤ (T.2.2 v).toInt ∧ -121 ≤ (x.2 42 v).toInt ∧ (x.2 41 v).toInt ≤ 121) ∧ ∀ z : Int, (T.2.1 v).toInt ≤ z → z ≤ (T.2.2 v).toInt → (ZrAp P T c p v z ↔ (x.2 41 v).toInt ≤ z ∧ z ≤ (x.2 42 v).toInt)
theorem ZTk_next {P : ZP} {T : ZT0} {c : Nat} {x : Zxs} (hC : ZCok P c) (h : ZTk P T c (Zmn P c) x) : ZTk P T (c + 1) 0 x := by
  obtain ⟨h1, h2, h3, h4⟩ := h
  have e : ∀ v k, ZRm P T c (Zmn P c) v k ↔ ZRm P T (c + 1) 0 v k := by
    intro v k
    unfold ZRm
    rw [ZRmp_all hC]
    constructor
    · rintro (⟨c', g1, g2⟩ | g)
      · exact Or.inl ⟨c', by omega, g2⟩
      · exact Or.inl ⟨c, by omega, g⟩
    · rintro (⟨c', g1, g2⟩ | ⟨p', g, -⟩)
      · rcases Nat.lt_or_ge c' c with q | q
        · exact Or.inl ⟨c', q, g2⟩
        · have : c' = c := by omega
          subst this
          exact Or.inr g2
      · omega
  have e2 : ∀ v z, ZrAp P T c (Zmn P c) v z ↔ ZrAp P T (c + 1) 0 v z := by
    intro v z
    unfold ZrAp
    constructor
    · rintro ⟨g1, g2⟩
      refine ⟨fun c' hc' hs p' hp' hv => ?_, fun _ p' hp' => absurd hp' (by omega)⟩
      rcases Nat.lt_or_ge c' c with q | q
      · exact g1 c' q hs p' hp' hv
      · have : c' = c := by omega
        subst this
        exact g2 hs p' hp' hv
    · rintro ⟨g1, -⟩
      exact ⟨fun c' hc' => g1 c' (by omega), fun hs => g1 c (by omega) hs⟩
  refine ⟨fun v hv hk k hk32 => by rw [h1 v hv hk k hk32, e], fun v hv hk k hk32 hD hR => ?_, h3, fun v hv hk => ?_⟩
  · obtain ⟨c', g1, g2, g3⟩ := h2 v hv hk k hk32 hD ((e v k).mpr hR)
    refine ⟨c', g1, Or.inl ?_, g3⟩
    rcases g2 with ⟨q1, q2⟩ | ⟨q1, q2⟩
    · exact ⟨by omega, q2⟩
    · subst q1
      exact ⟨by omega, (ZRmp_all hC).mp q2⟩
  · obtain ⟨g0, g1, g2, g3⟩ := h4 v hv hk
    exact ⟨g0, g1, g2, fun z z1 z2 => by rw [← e2]; exact g3 z z1 z2⟩
theorem Zmax_i (x y : Int32) : (zmax x y).toInt = max x.toInt y.toInt := by
  unfold zmax
  split
  · rename_i h
    rw [Int32.lt_iff_toInt_lt] at h
    omega
  · rename_i h
    rw [Int32.lt_iff_toInt_lt] at h
    omega
theorem Zmin_i (x y : Int32) : (zmin x y).toInt = min x.toInt y.toInt := by
  unfold zmin
  split
  · rename_i h
    rw [Int32.lt_iff_toInt_lt] at h
    omega
  · rename_i h
    rw [Int32.lt_iff_toInt_lt] at h
    omega
section RD
variable {sh : Nat → Option Zsh} {xs : Zxs} {P : ZP} {E : Ze} {ts : Nat}
theorem ZRB_tk {u : Nat} (h : u = 40 ∨ u = 41 ∨ u = 42 ∨ (44 ≤ u ∧ u < 54)) : ZRB P ts u := by unfold ZRB; omega
theorem Zfr_tk {x y z : Zxs} (h : Zfr (ZRA P ts) (ZRB P ts) x y) (h1 : z.1 = y.1) (h2 : ∀ u, ¬ (u = 40 ∨ u = 41 ∨ u = 42 ∨ (44 ≤ u ∧ u < 54)) → z.2 u = y.2 u) : Zfr (ZRA P ts) (ZRB P ts) x z := ⟨fun t f q => by rw [h1]; exact h.1 t f q, fun u q => (h2 u fun g => q (ZRB_tk g)).trans (h.2 u q)⟩
/-- one constraint's places are taken -/
theorem ZX_places (hP : ZPok P) (hb : Zbase E sh) (hX : ZXP sh xs P) (hts : ts = 28 ∨ ts = 36) {c : Nat} (hc : c < Znc P) {y : Zxs} (hf : Zfr (ZRA P ts) (ZRB P ts) xs y) (hT : ZTs y ts = ZTs xs ts) (hT0 : ZTok P (ZTs xs ts)) (hks : ZKs P (ZTs xs ts) c y) (hkr : ZKr P (ZTs xs ts) c y) (h0 : ZTk P (ZTs xs ts) c 0 y) (q : zH) (N : Nat) (hN : 1000 ≤ N) :
    ∃ z, zloop (fX1_makeRound_L96 N (Zl E 1) (q, nI c) (Zl E (1000 * (c + 1)))) N (ZW E sh y, 0) = some (ZW E sh z) ∧ Zfr (ZRA P ts) (ZRB P ts) xs z ∧ ZTs z ts = ZTs xs ts ∧ ZTk P (ZTs xs ts) (c + 1) 0 z ∧ z.1 = y.1 ∧ ∀ u, ¬ (u = 40 ∨ u = 41 ∨ u = 42 ∨ (44 ≤ u ∧ u < 54)) → z.2 u = y.2 u := by
  have hC := hP.2.2.2.2.2 c hc
  have m8 := hC.2.1
  have hn10 := hP.1
  have hnc := hP.2.1
  have L := Zl_inv (body := fX1_makeRound_L96 N (Zl E 1) (q, nI c) (Zl E (1000 * (c + 1)))) (fun p a => ∃ z, a = (ZW E sh z, nI p) ∧ z.1 = y.1 ∧ (∀ u, ¬ (u = 40 ∨ u = 41 ∨ u = 42 ∨ (44 ≤ u ∧ u < 54)) → z.2 u = y.2 u) ∧ ZTk P (ZTs xs ts) c p z) (Zmn P c)
    (fun r => ∃ z, r = ZW E sh z ∧ z.1 = y.1 ∧ (∀ u, ¬ (u = 40 ∨ u = 41 ∨ u = 42 ∨ (44 ≤ u ∧ u < 54)) → z.2 u = y.2 u) ∧ ZTk P (ZTs xs ts) c (Zmn P c) z)
    (by
      rintro p a hp ⟨z, rfl, z1, z2, k1, k2, k3, k4⟩
      have fz := Zfr_tk hf z1 z2
      have hXz := hX.fr hP hts fz
      have h0z := (hXz.2.2.2 c hc).1
      have e1 := ZX0_size h0z m8 E
      have hvl := hC.2.2.1 _ (Zpm_lt hC hp)
      -- the places before and this one
      have step : ∀ v k, ZRmp P (ZTs xs ts) c (p + 1) v k ↔ ZRmp P (ZTs xs ts) c p v k ∨ (Zpl P c (Zpm P c p) = v ∧ ¬ Zsup P (ZTs xs ts) c (Zpm P c p) k) := by
        intro v k
        constructor
        · rintro ⟨p', g1, g2, g3⟩
          rcases Nat.lt_or_ge p' p with g | g
          · exact Or.inl ⟨p', g, g2, g3⟩
          · have : p' = p := by omega
            subst this
            exact Or.inr ⟨g2, g3⟩
        · rintro (⟨p', g1, g2, g3⟩ | ⟨g2, g3⟩)
          · exact ⟨p', by omega, g2, g3⟩
          · exact ⟨p, by omega, g2, g3⟩
      have stepR : ∀ v k, ZRm P (ZTs xs ts) c (p + 1) v k ↔ ZRm P (ZTs xs ts) c p v k ∨ (Zpl P c (Zpm P c p) = v ∧ ¬ Zsup P (ZTs xs ts) c (Zpm P c p) k) := by
        intro v k
        unfold ZRm
        rw [step]
        constructor
        · rintro (g | g | g)
          · exact Or.inl (Or.inl g)
          · exact Or.inl (Or.inr g)
          · exact Or.inr g
        · rintro ((g | g) | g)
          · exact Or.inl g
          · exact Or.inr (Or.inl g)
          · exact Or.inr (Or.inr g)
      by_cases hk : Zkd P (Zpl P c (Zpm P c p)) ≤ 2
      · -- a set
        obtain ⟨w, e2, w1, wu, w40, wb, wr⟩ := ZX_takeS hP hc hb hXz.1 h0z hp rfl hk N hN
        simp only [fX1_makeRound_L96, e1, Option.bind_some, if_neg (nI_ge hp (show Zmn P c < 2 ^ 31 by omega)), Zb0 hb.1, e2, nI_1]
        have et2 : z.2 (1000 * (c + 1) + 2) = y.2 (1000 * (c + 1) + 2) := z2 _ (by omega)
        rw [et2] at wb wr
        have hsup : ∀ k, k < 32 → Zt ((ZTs xs ts).1 (Zpl P c (Zpm P c p))) k = true → (Zt (y.2 (1000 * (c + 1) + 2) p) k = true ↔ Zsup P (ZTs xs ts) c (Zpm P c p) k) := fun k hk32 hD => hks p hp hk k hk32 hD
        refine ⟨_, rfl, w, rfl, w1.trans z1, fun u hu => (wu u (by omega) (by omega)).trans (z2 u hu), fun v hv hkv k hk32 => ?_, fun v hv hkv k hk32 hD hR => ?_, fun v hv hkv => ?_, fun v hv hkv => ?_⟩
        · rw [stepR]
          by_cases g : v = Zpl P c (Zpm P c p)
          · subst g
            rw [wb k hk32, k1 _ hv hkv k hk32]
            constructor
            · rintro ⟨⟨g1, g2⟩, g3⟩
              exact ⟨g1, fun h => h.elim g2 fun h => h.2 ((hsup k hk32 g1).mp g3)⟩
            · rintro ⟨g1, g2⟩
              exact ⟨⟨g1, fun h => g2 (Or.inl h)⟩, (hsup k hk32 g1).mpr (Classical.byContradiction fun h => g2 (Or.inr ⟨rfl, h⟩))⟩
          · rw [w40 v g, k1 v hv hkv k hk32]
            constructor
            · rintro ⟨g1, g2⟩
              exact ⟨g1, fun h => h.elim g2 fun h => g h.1.symm⟩
            · rintro ⟨g1, g2⟩
              exact ⟨g1, fun h => g2 (Or.inl h)⟩
        · by_cases g : v = Zpl P c (Zpm P c p)
          · subst g
            rw [wr k hk32]
            by_cases r1 : ZRm P (ZTs xs ts) c p (Zpl P c (Zpm P c p)) k
            · rw [if_neg (fun h => ((k1 _ hv hkv k hk32).mp h.1).2 r1)]
              obtain ⟨c', q1, q2, q3⟩ := k2 _ hv hkv k hk32 hD r1
              refine ⟨c', q1, ?_, q3⟩
              rcases q2 with q2 | ⟨q2, q4⟩
              · exact Or.inl q2
              · exact Or.inr ⟨q2, (step _ _).mpr (Or.inl q4)⟩
            · have hn : ¬ Zsup P (ZTs xs ts) c (Zpm P c p) k := (((stepR _ _).mp hR).resolve_left r1).2
              rw [if_pos ⟨(k1 _ hv hkv k hk32).mpr ⟨hD, r1⟩, fun h => hn ((hsup k hk32 hD).mp h)⟩]
              exact ⟨c, rfl, Or.inr ⟨rfl, (step _ _).mpr (Or.inr ⟨rfl, hn⟩)⟩, fun c'' hc'' ha => r1 (Or.inl ⟨c'', hc'', ha⟩)⟩
          · rw [wu (44 + v) (by omega) (by omega)]
            have r1 : ZRm P (ZTs xs ts) c p v k := ((stepR v k).mp hR).resolve_right fun h => g h.1.symm
            obtain ⟨c', q1, q2, q3⟩ := k2 v hv hkv k hk32 hD r1
            refine ⟨c', q1, ?_, q3⟩
            rcases q2 with q2 | ⟨q2, q4⟩
            · exact Or.inl q2
            · exact Or.inr ⟨q2, (step _ _).mpr (Or.inl q4)⟩
        · rw [wu 41 (by omega) (by omega), wu 42 (by omega) (by omega)]
          exact k3 v hv hkv
        · have g : v ≠ Zpl P c (Zpm P c p) := fun e => by rw [← e] at hk; omega
          rw [w40 v g, wu 41 (by omega) (by omega), wu 42 (by omega) (by omega)]
          obtain ⟨h0', h1', h2', h3'⟩ := k4 v hv hkv
          refine ⟨h0', h1', h2', fun x x1 x2 => ?_⟩
          rw [← h3' x x1 x2]
          unfold ZrAp
          constructor
          · rintro ⟨g1, g2⟩
            exact ⟨g1, fun hs p' hp' => g2 hs p' (by omega)⟩
          · rintro ⟨g1, g2⟩
            refine ⟨g1, fun hs p' hp' hv' => ?_⟩
            by_cases e : p' = p
            · subst e
              rw [Zpm_id (by omega)] at g
              exact absurd hv'.symm g
            · exact g2 hs p' (by omega) hv'
      · -- an interval
        have hk3 : Zkd P (Zpl P c (Zpm P c p)) = 3 := by
          have := hP.2.2.1 _ hvl
          omega
        have hs0 : Zso P c = 0 := by
          obtain ⟨_, _, _, s17, _, _, _, _, s4, s5, s6, s7⟩ := hC
          have hpl := Zpm_lt (hP.2.2.2.2.2 c hc) hp
          rcases Nat.eq_zero_or_pos (Zso P c) with g | g
          · exact g
          · exfalso
            have cs : Zso P c ≤ 4 ∨ Zso P c = 5 ∨ Zso P c = 6 ∨ 7 ≤ Zso P c := by omega
            rcases cs with h | h | h | h
            · have := s4 g h _ hpl
              omega
            · have := ((s5 h).2 _ hpl).1
              omega
            · obtain ⟨a1, a2, -⟩ := s6 h
              have : Zpm P c p = 0 := by omega
              rw [this] at hk3
              omega
            · have := (s7 h).2 _ hpl
              have hr := Zrk_le (Zso P c) (Zpm P c p)
              omega
        have hpm : Zpm P c p = p := Zpm_id (by omega)
        rw [hpm] at hk3 hvl
        obtain ⟨w, e2, w1, wu, wq, w41, w42⟩ := ZX_takeR hP hc hb hXz.1 h0z hp (by rw [hpm]) hk3 N hN
        simp only [fX1_makeRound_L96, e1, Option.bind_some, if_neg (nI_ge hp (show Zmn P c < 2 ^ 31 by omega)), Zb0 hb.1, e2, nI_1]
        obtain ⟨r1, r2, r3, r4⟩ := hkr hs0 p hp hk3
        rw [← z2 (1000 * (c + 1) + 3) (by omega), ← z2 (1000 * (c + 1) + 4) (by omega)] at r3
        rw [← z2 (1000 * (c + 1) + 3) (by omega)] at r1
        rw [← z2 (1000 * (c + 1) + 4) (by omega)] at r2
        rw [← z2 (1000 * (c + 1) + 3) (by omega), ← z2 (1000 * (c + 1) + 4) (by omega)] at r4
        obtain ⟨o1, o2, o3⟩ := (hT0 _ hvl).2 hk3
        have eR : ∀ v k, v < Znv P → Zkd P v ≤ 2 → (ZRm P (ZTs xs ts) c (p + 1) v k ↔ ZRm P (ZTs xs ts) c p v k) := by
          intro v k hv hkv
          rw [stepR]
          refine ⟨fun h => h.resolve_right fun h => ?_, Or.inl⟩
          rw [hpm] at h
          rw [← h.1] at hkv
          omega
        have eP : ∀ v k, v < Znv P → Zkd P v ≤ 2 → (ZRmp P (ZTs xs ts) c (p + 1) v k ↔ ZRmp P (ZTs xs ts) c p v k) := by
          intro v k hv hkv
          rw [step]
          refine ⟨fun h => h.resolve_right fun h => ?_, Or.inl⟩
          rw [hpm] at h
          rw [← h.1] at hkv
          omega
        refine ⟨_, rfl, w, rfl, w1.trans z1, fun u hu => (wu u (by omega) (by omega)).trans (z2 u hu), fun v hv hkv k hk32 => ?_, fun v hv hkv k hk32 hD hR => ?_, fun v hv hkv => ?_, fun v hv hkv => ?_⟩
        · rw [wu 40 (by omega) (by omega), eR v k hv hkv]
          exact k1 v hv hkv k hk32
        · rw [wu (44 + v) (by omega) (by omega)]
          obtain ⟨c', q1, q2, q3⟩ := k2 v hv hkv k hk32 hD ((eR v k hv hkv).mp hR)
          refine ⟨c', q1, ?_, q3⟩
          rw [eP v k hv hkv]
          exact q2
        · have g : v ≠ Zpl P c p := fun e => by rw [← e] at hk3; omega
          rw [(wq v g).1, (wq v g).2]
          exact k3 v hv hkv
        · obtain ⟨h0', h1', h2', h3'⟩ := k4 v hv hkv
          rw [wu 40 (by omega) (by omega)]
          by_cases g : v = Zpl P c p
          · subst g
            rw [w41, w42, Zmax_i, Zmin_i]
            refine ⟨h0', by omega, by omega, fun x x1 x2 => ?_⟩
            have a := h3' x x1 x2
            have b := r3 x x1 x2
            have e : ZrAp P (ZTs xs ts) c (p + 1) (Zpl P c p) x ↔ ZrAp P (ZTs xs ts) c p (Zpl P c p) x ∧ ZLok P (ZTs xs ts) c p x := by
              unfold ZrAp
              constructor
              · rintro ⟨g1, g2⟩
                exact ⟨⟨g1, fun hs p' hp' => g2 hs p' (by omega)⟩, g2 hs0 p (by omega) rfl⟩
              · rintro ⟨⟨g1, g2⟩, g3⟩
                refine ⟨g1, fun hs p' hp' hv' => ?_⟩
                by_cases e : p' = p
                · subst e
                  exact g3
                · exact g2 hs p' (by omega) hv'
            rw [e, a, b]
            omega
          · rw [(wq v g).1, (wq v g).2]
            refine ⟨h0', h1', h2', fun x x1 x2 => ?_⟩
            rw [← h3' x x1 x2]
            unfold ZrAp
            constructor
            · rintro ⟨g1, g2⟩
              exact ⟨g1, fun hs p' hp' => g2 hs p' (by omega)⟩
            · rintro ⟨g1, g2⟩
              refine ⟨g1, fun hs p' hp' hv' => ?_⟩
              by_cases e : p' = p
              · subst e
                exact absurd hv'.symm g
              · exact g2 hs p' (by omega) hv')
    (by
      rintro a ⟨z, rfl, z1, z2, k⟩
      have e1 := ZX0_size (((hX.fr hP hts (Zfr_tk hf z1 z2)).2.2.2 c hc).1) m8 E
      simp only [fX1_makeRound_L96, e1, Option.bind_some, if_pos (nI_le (Nat.le_refl _) (show Zmn P c < 2 ^ 31 by omega))]
      exact ⟨_, rfl, z, rfl, z1, z2, k⟩)
    N (ZW E sh y, 0) (by omega) ⟨y, rfl, rfl, fun _ _ => rfl, h0⟩
  obtain ⟨r, e, z, rfl, z1, z2, hk⟩ := L
  refine ⟨z, e, Zfr_tk hf z1 z2, ?_, ZTk_next hC hk, z1, z2⟩
  rw [← hT]
  unfold ZTs
  rw [z2 (ts + 1) (by omega), z2 (ts + 2) (by omega), z2 (ts + 3) (by omega)]
/-- all constraints -/
theorem ZX_cons (hP : ZPok P) (hb : Zbase E sh) (hX : ZXP sh xs P) (hts : ts = 28 ∨ ts = 36) (hS : ZS sh ts) (hT0 : ZTok P (ZTs xs ts)) {y : Zxs} (hf : Zfr (ZRA P ts) (ZRB P ts) xs y) (hT : ZTs y ts = ZTs xs ts) (h0 : ZTk P (ZTs xs ts) 0 0 y) (hrd : y.1 ts = xs.1 ts ∧ y.1 1 = xs.1 1) (htr : ∀ i, i < 4 → y.2 (32 + i) = xs.2 (32 + i)) (N : Nat) (hN : 1000 ≤ N) :
    ∃ z, zloop (fX1_makeRound_L59 N (Zl E 1) (Zl E ts)) N (ZW E sh y, 0) = some (ZW E sh z) ∧ Zfr (ZRA P ts) (ZRB P ts) xs z ∧ ZTs z ts = ZTs xs ts ∧ ZTk P (ZTs xs ts) (Znc P) 0 z ∧ (z.1 ts = xs.1 ts ∧ z.1 1 = xs.1 1) ∧ ∀ i, i < 4 → z.2 (32 + i) = xs.2 (32 + i) := by
  have hnc := hP.2.1
  have L := Zl_inv (body := fX1_makeRound_L59 N (Zl E 1) (Zl E ts)) (fun c a => ∃ z, a = (ZW E sh z, nI c) ∧ Zfr (ZRA P ts) (ZRB P ts) xs z ∧ ZTs z ts = ZTs xs ts ∧ ZTk P (ZTs xs ts) c 0 z ∧ (z.1 ts = xs.1 ts ∧ z.1 1 = xs.1 1) ∧ ∀ i, i < 4 → z.2 (32 + i) = xs.2 (32 + i)) (Znc P)
    (fun r => ∃ z, r = ZW E sh z ∧ Zfr (ZRA P ts) (ZRB P ts) xs z ∧ ZTs z ts = ZTs xs ts ∧ ZTk P (ZTs xs ts) (Znc P) 0 z ∧ (z.1 ts = xs.1 ts ∧ z.1 1 = xs.1 1) ∧ ∀ i, i < 4 → z.2 (32 + i) = xs.2 (32 + i))
    (by
      rintro c a hc ⟨z, rfl, hz, hTz, hk, hr, ht⟩
      have hXz := hX.fr hP hts hz
      have hXz' := hXz
      obtain ⟨hv, ⟨e, li⟩, h15, hcon⟩ := hXz'
      obtain ⟨w, e1, fw, ws, wr⟩ := ZX_fkeep (E := E) hP hc hS (by omega) hb.2.1 h15.1 (hcon c hc) (by rw [hTz]; exact hT0) N hN
      rw [hTz] at ws wr
      have hKB : ∀ u, ZKB c u → 1000 ≤ u := by intro u h; unfold ZKB at h; omega
      have hTw : ZTs w ts = ZTs xs ts := by rw [ZTs_fr fw hKB (by omega)]; exact hTz
      have fw' : Zfr (ZRA P ts) (ZRB P ts) xs w := hz.trans (fw.mono (fun t f q => Or.inr (Or.inr ⟨c, hc, q⟩)) fun u q => by unfold ZRB; exact Or.inr (Or.inr (Or.inr (Or.inr (Or.inr (Or.inr (Or.inr (Or.inr ⟨c, hc, q⟩))))))))
      have e2 : ∀ u, u < 1000 → w.2 u = z.2 u := fun u hu => fw.2 u fun q => absurd (hKB u q) (by omega)
      have hk' : ZTk P (ZTs xs ts) c 0 w := by
        obtain ⟨k1, k2, k3, k4⟩ := hk
        refine ⟨fun v hv => by rw [e2 40 (by omega)]; exact k1 v hv, fun v hv => by rw [e2 (44 + v) (by have := hP.1; omega)]; exact k2 v hv, fun v hv => by rw [e2 41 (by omega), e2 42 (by omega)]; exact k3 v hv, fun v hv => by rw [e2 40 (by omega), e2 41 (by omega), e2 42 (by omega)]; exact k4 v hv⟩
      obtain ⟨s, e3, fs, hTs, hks, s1, s2⟩ := ZX_places hP hb hX hts hc fw' hTw hT0 ws wr hk' (ZW E sh z) N hN
      have g1 : zgR [0] 1 (ZW E sh z) (Zl E 1) = some (Zl E 4) := by simp only [Zb0 hb.1]
      have gc : zcon (ZW E sh z) (Zl E (1000 * (c + 1))) = some () := by
        obtain ⟨⟨ci, fs', d1, d2, -⟩, -⟩ := hcon c hc
        exact Zcon_ d1 d2 E z
      simp only [fX1_makeRound_L59, g1, ZLis li, ZLsize li, ZLget li E hc, gc, Option.bind_some, if_neg (nI_ge hc (show Znc P < 2 ^ 31 by omega)), e1, e3, nI_1]
      refine ⟨_, rfl, s, rfl, fs, hTs, hks, ?_, ?_⟩
      · have a : ∀ t, t < 1000 → w.1 t = z.1 t := fun t ht' => funext fun f => fw.1 t f (ZKA_no (by omega))
        rw [s1, a ts (by omega), a 1 (by omega)]
        exact hr
      · intro i hi
        rw [s2 _ (by omega), e2 _ (by omega)]
        exact ht i hi)
    (by
      rintro a ⟨z, rfl, hz, hTz, hk, hr, ht⟩
      obtain ⟨hv, ⟨e, li⟩, h15, hcon⟩ := hX.fr hP hts hz
      have g1 : zgR [0] 1 (ZW E sh z) (Zl E 1) = some (Zl E 4) := by simp only [Zb0 hb.1]
      simp only [fX1_makeRound_L59, g1, ZLis li, ZLsize li, Option.bind_some, if_pos (nI_le (Nat.le_refl _) (show Znc P < 2 ^ 31 by omega))]
      exact ⟨_, rfl, z, rfl, hz, hTz, hk, hr, ht⟩)
    N (ZW E sh y, 0) (by omega) ⟨y, rfl, hf, hT, h0, hrd, htr⟩
  obtain ⟨r, e, z, rfl, h⟩ := L
  exact ⟨z, e, h⟩
end RD
