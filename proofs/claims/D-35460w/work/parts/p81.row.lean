/-! rows of variables, of both; M adds a constraint -/
set_option maxRecDepth 100000
section RW
variable {E E' : Ze} {sh sh' : Nat → Option Zsh} {xs xs' : Zxs} {P P' : ZP} {L : ZL} {st w : zMS} {g : Nat} {n : Nat → Nat} {tg : Nat → Nat → Nat}
/-- new cells, many -/
theorem ZB_ext (hB : ZB E sh xs P g n tg) {g' : Nat} (hk : ∀ u, sh u ≠ none → sh' u = sh u ∧ xs'.1 u = xs.1 u ∧ xs'.2 u = xs.2 u) (hS : Zshut sh') (hD : Zdom sh' P g') :
    ZB E sh' xs' P g' n tg ∧ Zext sh sh' xs xs' ∧ Zexo E E sh sh' xs xs' ∧ sh' 1 = sh 1 ∧ xs'.1 1 = xs.1 1 ∧ (∀ c, c < Znc P → Zso P c = 3 ∨ Zso P c = 5 → Zcls3 sh sh' xs xs' c) ∧ (∀ i, i < 6 → Ztj sh' i = Ztj sh i) := by
  have kp : ∀ u s', sh u = some s' → sh' u = some s' ∧ xs'.1 u = xs.1 u ∧ xs'.2 u = xs.2 u := fun u s' hu => by
    obtain ⟨a, b⟩ := hk u (by rw [hu]; exact fun h => by cases h)
    exact ⟨a.trans hu, b⟩
  have hx : Zext sh sh' xs xs' := fun u s' hu _ _ => kp u s' hu
  have hB0 := hB
  obtain ⟨b1, b2, b3, b4, b5, b6⟩ := hB
  have k1 : sh' 1 = sh 1 := by rw [b6]; exact (kp 1 _ b6).1
  have x1 : xs'.1 1 = xs.1 1 := (kp 1 _ b6).2.1
  have tj : ∀ i, Ztj sh' i = Ztj sh i := fun i => by unfold Ztj; rw [Zfld_c k1]
  have tjs : ∀ i, i < 6 → sh' (Ztj sh i) = sh (Ztj sh i) ∧ xs'.1 (Ztj sh i) = xs.1 (Ztj sh i) := fun i hi => by
    have h := (b4 i hi).1.t
    obtain ⟨a, b, -⟩ := kp _ _ h
    exact ⟨a.trans h.symm, b⟩
  have ej : ∀ i, i < 6 → Zej sh' i = Zej sh i := fun i hi => by unfold Zej; rw [tj, Zfld_c (tjs i hi).1]
  have hm : sh' 1 = some (Zmain sh') := by
    rw [k1, b6]
    unfold Zmain
    rw [Zfld_c k1, Zfld_c k1, Zfld_c k1, Zfld_c k1]
  have hcs : ∀ c, c < Znc P → Zso P c = 3 ∨ Zso P c = 5 → Zcls3 sh sh' xs xs' c := fun c hc hs => by
    obtain ⟨-, f5, f6, -⟩ := b5 c hc hs
    refine ⟨(hk _ f5).1, (hk _ ?_).1, by rw [(hk _ f5).2.1]⟩
    rcases f6 with f6 | ⟨-, -, f8, -⟩
    · rw [f6]
      exact b3.ne
    · exact f8
  refine ⟨⟨hS, hD, ?_, fun i hi => ?_, fun c hc hs => ?_, hm⟩, hx, ⟨fun u s' h1 _ _ _ _ => kp u s' h1, fun f _ => by rw [x1], rfl, fun _ _ => rfl⟩, k1, x1, hcs, fun i _ => tj i⟩
  · obtain ⟨⟨s1, s2⟩, ⟨s3, s4⟩, s5, s6⟩ := b3
    refine ⟨⟨s1, (kp _ _ s2).1⟩, ⟨s3, (kp _ _ s4).1⟩, fun i hi => ?_, fun j hj hj2 => ⟨(s6 j hj hj2).1, (kp _ _ (s6 j hj hj2).2).1⟩⟩
    obtain ⟨a, b⟩ := s5 i hi
    obtain ⟨c, d, -⟩ := kp _ _ a
    exact ⟨c, by rw [d]; exact b⟩
  · obtain ⟨a, b, c⟩ := b4 i hi
    rw [tj, ej i hi]
    obtain ⟨cap, rf, he⟩ := a.e
    refine ⟨a.keep (tjs i hi).1 ((kp _ _ he).1.trans he.symm) (by rw [(tjs i hi).2]) (fun r hr => ?_), b, c⟩
    obtain ⟨ci, fs, q1, q2⟩ := hr
    exact (kp _ _ q1).1.trans q1.symm
  · obtain ⟨f1, f5, f6, f7, f8⟩ := b5 c hc hs
    obtain ⟨z1, z2, z3⟩ := hcs c hc hs
    have e0 : sh' (1000 * (c + 1)) = sh (1000 * (c + 1)) := (hk _ f7).1
    have e1 : ZtL sh' c = ZtL sh c := by unfold ZtL; rw [Zfld_c e0]
    have e2 : Zfld sh' (ZtL sh' c) 1 = Zfld sh (ZtL sh c) 1 := by rw [e1, Zfld_c z1]
    rw [e2, e1, z1, z2, e0, tj, tj, ej 4 (by decide), ej 5 (by decide)]
    exact ⟨f1, f5, f6, f7, f8⟩
/-- the same for all that both know but the tags' domain -/
theorem ZPD_ext (hR : ZPD E sh xs st P L) (hS : ZSr P xs st) (hx : Zext sh sh' xs xs') (hm : sh' 1 = some (Zmain sh')) (l2 : ∃ e, ZLi sh' xs' 2 e (Znv P) fun i => 100 + i) (l4 : ∃ e, ZLi sh' xs' 4 e (Znc P) fun c => 1000 * (c + 1)) (hc : ∀ c, c < Znc P → Zso P c = 3 ∨ Zso P c = 5 → Zcls3 sh sh' xs xs' c) (x1 : xs'.1 1 = xs.1 1) : ZPD E sh' xs' st P L ∧ ZSr P xs' st := ⟨hR.ext rfl (fun _ _ => rfl) hx hm l2 l4 hc (Or.inr (by rw [x1])) (fun f _ => by rw [x1]) ZfM.rfl hR.2.2.2.2.2.2.2.2.2, hS.ext hR.2.2.1 hx (fun f _ => by rw [x1]) ZfM.rfl⟩
theorem ZX_isOf (hP : ZPok P) (hX : ZXv sh xs P) {v : Nat} (hv : v < Znv P) {k : Nat} (hk : k ≤ 3) : fX1_isOf (ZW E sh xs) (Zl E 1) (nI v) (nI k) = some (if Zkd P v = k then 1 else 0) := by
  obtain ⟨h1, ⟨e, h2⟩, h3⟩ := hX
  obtain ⟨g1, g2, -⟩ := h3 v hv
  have k3 := hP.2.2.1 v hv
  simp only [fX1_isOf, Zb0 h1, ZLis h2, ZLget h2 E hv, Zb5 g1, fX6_kind, g2, Option.bind_some]
  by_cases q : Zkd P v = k
  · rw [if_pos q, if_pos (by rw [q])]
  · rw [if_neg q, if_neg fun h => q ((nI_eq (by omega) (by omega)).mp h)]
/-- the variable at a place of the row -/
def Znm (tg : Nat → Nat → Nat) (i : Nat) : Nat := tg 2 i - 60128
theorem Zan01 {a b : Int32} (ha : a = 0 ∨ a = 1) (hb : b = 0 ∨ b = 1) : (a &&& b = 0 ∨ a &&& b = 1) ∧ (a &&& b = 1 ↔ a = 1 ∧ b = 1) := by
  rcases ha with rfl | rfl <;> rcases hb with rfl | rfl <;> decide
theorem Zall_s {Q : Nat → Prop} {i : Nat} : (∀ k, k < i + 1 → Q k) ↔ (∀ k, k < i → Q k) ∧ Q i := by
  constructor
  · intro h
    exact ⟨fun k hk => h k (by omega), h i (by omega)⟩
  · rintro ⟨h1, h2⟩ k hk
    rcases Nat.lt_or_ge k i with q | q
    · exact h1 k q
    · have : k = i := by omega
      rw [this]
      exact h2
/-- X's row of INTs -/
theorem ZX_ints (hP : ZPok P) (hX : ZXv sh xs P) (hs : Zsta E sh xs) {t e m : Nat} {q : Nat → Nat} (hl : ZLi sh xs t e m q) (hm : m ≤ 8) (hq : ∀ i, i < m → q i - 60128 < Znv P ∧ q i = 60000 + (128 + (q i - 60128))) (N : Nat) (hN : 1000 ≤ N) : ∃ b, fX1_areInts N (ZW E sh xs) (Zl E 1) (Zl E t) = some b ∧ (b = 0 ∨ b = 1) ∧ (b = 1 ↔ 0 < m ∧ ∀ i, i < m → Zkd P (q i - 60128) = 0) := by
  have hn := hP.1
  have I := Zl_inv (body := fX1_areInts_L17 (ZW E sh xs) (Zl E 1) (Zl E t)) (fun i a => ∃ b : Int32, a = (b, nI i) ∧ (b = 0 ∨ b = 1) ∧ (b = 1 ↔ 0 < m ∧ ∀ k, k < i → Zkd P (q k - 60128) = 0)) m (fun b => (b = 0 ∨ b = 1) ∧ (b = 1 ↔ 0 < m ∧ ∀ i, i < m → Zkd P (q i - 60128) = 0))
    (by
      rintro i a hi ⟨b, rfl, b01, hb⟩
      obtain ⟨hv, hqi⟩ := hq i hi
      obtain ⟨g1, g2⟩ := hs.2.2.1 (128 + (q i - 60128)) (by omega)
      rw [← hqi] at g1 g2
      have ev : xs.1 (q i) 0 = nI (q i - 60128) := by
        rw [g2]
        show nI (128 + (q i - 60128)) - nI 128 = _
        rw [pk_sub (by omega), Nat.add_sub_cancel_left]
      have eo := ZX_isOf (E := E) hP hX hv (k := 0) (by decide)
      rw [show (nI 0 : Int32) = 0 from rfl] at eo
      simp only [fX1_areInts_L17, ZLis hl, ZLsize hl, Option.bind_some, if_neg (nI_ge hi (show m < 2 ^ 31 by omega)), ZLget hl E hi, Zb19 g1, fJ18_intValue, ev, Zb0 hX.1, eo, nI_1]
      have h01 : (if Zkd P (q i - 60128) = 0 then (1 : Int32) else 0) = 0 ∨ (if Zkd P (q i - 60128) = 0 then (1 : Int32) else 0) = 1 := by
        split
        · exact Or.inr rfl
        · exact Or.inl rfl
      obtain ⟨a1, a2⟩ := Zan01 b01 h01
      refine ⟨_, rfl, _, rfl, a1, ?_⟩
      rw [a2, hb, Zall_s]
      have : (if Zkd P (q i - 60128) = 0 then (1 : Int32) else 0) = 1 ↔ Zkd P (q i - 60128) = 0 := by
        split
        · exact ⟨fun _ => by assumption, fun _ => rfl⟩
        · exact ⟨fun h => absurd h (by decide), fun h => by contradiction⟩
      rw [this]
      exact ⟨fun h => ⟨h.1.1, h.1.2, h.2⟩, fun h => ⟨⟨h.1, h.2.1⟩, h.2.2⟩⟩)
    (by
      rintro a ⟨b, rfl, b01, hb⟩
      simp only [fX1_areInts_L17, ZLis hl, ZLsize hl, Option.bind_some, if_pos (nI_le (Nat.le_refl _) (show m < 2 ^ 31 by omega)), Zzq b01]
      exact ⟨_, rfl, b01, hb⟩)
    N ((if m = 0 then (0 : Int32) else 1), 0) (by omega) ⟨_, rfl, by split <;> simp, by
      by_cases h : m = 0
      · rw [if_pos h]
        exact ⟨fun g => absurd g (by decide), fun g => by omega⟩
      · rw [if_neg h]
        exact ⟨fun _ => ⟨by omega, fun k hk => absurd hk (by omega)⟩, fun _ => rfl⟩⟩
  obtain ⟨b, e1, hb⟩ := I
  refine ⟨b, ?_, hb⟩
  simp only [fX1_areInts, ZLis hl, ZLempty hl, Option.bind_some]
  by_cases h : m = 0
  · rw [if_pos h] at e1 ⊢
    simp only [Zne10, if_false, Option.bind_some]
    exact e1
  · rw [if_neg h] at e1 ⊢
    simp only [if_true, Option.bind_some]
    exact e1
/-- M's row -/
theorem ZM_row (hP : ZPok P) (hM : ZMP st P) {m : Nat} {nm : Nat → Nat} (h5 : st.1 5 = nI m) (hm : m ≤ 6) (hn : ∀ i, i < m → nm i < Znv P ∧ st.2 6 i = nI (nm i)) {r : Int32} (N : Nat) (hN : 1000 ≤ N) : ∃ b, fX5_isRow N st r = some b ∧ (b = 0 ∨ b = 1) ∧ (b = 1 ↔ 0 < m ∧ ∀ i, i < m → Zkd P (nm i) = 0 ∨ (r ≠ 0 ∧ Zkd P (nm i) = 3)) := by
  have hn10 := hP.1
  have I := Zl_inv (body := fX5_isRow_L15 st r) (fun i a => ∃ b : Int32, a = (b, nI i) ∧ (b = 0 ∨ b = 1) ∧ (b = 1 ↔ 0 < m ∧ ∀ k, k < i → Zkd P (nm k) = 0 ∨ (r ≠ 0 ∧ Zkd P (nm k) = 3))) m (fun b => (b = 0 ∨ b = 1) ∧ (b = 1 ↔ 0 < m ∧ ∀ i, i < m → Zkd P (nm i) = 0 ∨ (r ≠ 0 ∧ Zkd P (nm i) = 3)))
    (by
      rintro i a hi ⟨b, rfl, b01, hb⟩
      obtain ⟨hv, e6⟩ := hn i hi
      have ek := (hM.2.2.1 _ hv).1
      have k3 := hP.2.2.1 _ hv
      have r6 : zal st 6 (nI i) = some (nI (nm i)) := by rw [Zal (show zMl 6 = 6 from rfl) (by decide) (by omega), e6]
      have r1 : zal st 1 (nI (nm i)) = some (nI (Zkd P (nm i))) := by rw [Zal (show zMl 1 = 10 from rfl) (by decide) (by omega), ek]
      have fin : ∀ t : Int32, (t = 0 ∨ t = 1) → (t = 1 ↔ Zkd P (nm i) = 0 ∨ (r ≠ 0 ∧ Zkd P (nm i) = 3)) → (b &&& t = 0 ∨ b &&& t = 1) ∧ (b &&& t = 1 ↔ 0 < m ∧ ∀ k, k < i + 1 → Zkd P (nm k) = 0 ∨ (r ≠ 0 ∧ Zkd P (nm k) = 3)) := fun t t01 ht => by
        obtain ⟨a1, a2⟩ := Zan01 b01 t01
        refine ⟨a1, ?_⟩
        rw [a2, hb, Zall_s, ht]
        exact ⟨fun h => ⟨h.1.1, h.1.2, h.2⟩, fun h => ⟨⟨h.1, h.2.1⟩, h.2.2⟩⟩
      by_cases q0 : Zkd P (nm i) = 0
      · have z0 : nI (Zkd P (nm i)) = (0 : Int32) := by rw [q0]; rfl
        obtain ⟨f1, f2⟩ := fin 1 (Or.inr rfl) ⟨fun _ => Or.inl q0, fun _ => rfl⟩
        simp only [fX5_isRow_L15, h5, if_neg (nI_ge hi (show m < 2 ^ 31 by omega)), r6, r1, Option.bind_some, if_pos z0, Zesc_l, nI_1]
        exact ⟨_, rfl, _, rfl, f1, f2⟩
      · have z0 : ¬ nI (Zkd P (nm i)) = (0 : Int32) := fun h => q0 ((nI_eq (b := 0) (by omega) (by omega)).mp h)
        by_cases qr : r = 0
        · obtain ⟨f1, f2⟩ := fin 0 (Or.inl rfl) ⟨fun h => absurd h (by decide), fun h => by
            rcases h with h | ⟨h, -⟩
            · exact absurd h q0
            · exact absurd qr h⟩
          simp only [fX5_isRow_L15, h5, if_neg (nI_ge hi (show m < 2 ^ 31 by omega)), r6, r1, Option.bind_some, if_neg z0, if_pos qr, Zesc_l, Zesc_r, nI_1]
          exact ⟨_, rfl, _, rfl, f1, f2⟩
        · by_cases q3 : Zkd P (nm i) = 3
          · have z3 : nI (Zkd P (nm i)) = (3 : Int32) := by rw [q3]; rfl
            obtain ⟨f1, f2⟩ := fin 1 (Or.inr rfl) ⟨fun _ => Or.inr ⟨qr, q3⟩, fun _ => rfl⟩
            simp only [fX5_isRow_L15, h5, if_neg (nI_ge hi (show m < 2 ^ 31 by omega)), r6, r1, Option.bind_some, if_neg z0, if_neg qr, if_pos z3, Zesc_l, Zesc_r, nI_1]
            exact ⟨_, rfl, _, rfl, f1, f2⟩
          · have z3 : ¬ nI (Zkd P (nm i)) = (3 : Int32) := fun h => q3 ((nI_eq (b := 3) (by omega) (by omega)).mp h)
            obtain ⟨f1, f2⟩ := fin 0 (Or.inl rfl) ⟨fun h => absurd h (by decide), fun h => by
              rcases h with h | ⟨-, h⟩
              · exact absurd h q0
              · exact absurd h q3⟩
            simp only [fX5_isRow_L15, h5, if_neg (nI_ge hi (show m < 2 ^ 31 by omega)), r6, r1, Option.bind_some, if_neg z0, if_neg qr, if_neg z3, Zesc_l, Zesc_r, nI_1]
            exact ⟨_, rfl, _, rfl, f1, f2⟩)
    (by
      rintro a ⟨b, rfl, b01, hb⟩
      simp only [fX5_isRow_L15, h5, if_pos (nI_le (Nat.le_refl _) (show m < 2 ^ 31 by omega)), Zzq b01, Option.bind_some]
      exact ⟨_, rfl, b01, hb⟩)
    N ((if m = 0 then (0 : Int32) else 1), 0) (by omega) ⟨_, rfl, by split <;> simp, by
      by_cases h : m = 0
      · rw [if_pos h]
        exact ⟨fun g => absurd g (by decide), fun g => by omega⟩
      · rw [if_neg h]
        exact ⟨fun _ => ⟨by omega, fun k hk => absurd hk (by omega)⟩, fun _ => rfl⟩⟩
  obtain ⟨b, e1, hb⟩ := I
  refine ⟨b, ?_, hb⟩
  unfold fX5_isRow
  rw [h5]
  by_cases h : m = 0
  · rw [if_pos h] at e1
    rw [if_pos (show nI m ≤ 0 by rw [h]; decide), Option.bind_some]
    exact e1
  · rw [if_neg h] at e1
    rw [if_neg (show ¬ nI m ≤ 0 from nI_ge (a := 0) (by omega) (by omega)), Option.bind_some]
    exact e1
/-- M takes a row -/
theorem ZM_takesRow {m c b : Nat} {nm : Nat → Nat} (h5 : st.1 5 = nI m) (hm : m ≤ 6) (h15 : st.1 15 = nI c) (hc : c < 24) (hb : b ≤ 2) (hn : ∀ i, i < m → st.2 6 i = nI (nm i)) (N : Nat) (hN : 1000 ≤ N) : ∃ z, fX5_takesRow N st (nI b) = some z ∧ ZfM (fun _ => False) (fun f => f = 18) st z ∧ (∀ i, i < 8 * c + b ∨ 8 * c + b + m ≤ i → z.2 18 i = st.2 18 i) ∧ ∀ i, i < m → z.2 18 (8 * c + (b + i)) = nI (nm i) := by
  have I := Zl_inv (body := fX5_takesRow_L2 (nI b)) (fun i a => ∃ z : zMS, a = (z, nI i) ∧ ZfM (fun _ => False) (fun f => f = 18) st z ∧ (∀ k, k < 8 * c + b ∨ 8 * c + b + i ≤ k → z.2 18 k = st.2 18 k) ∧ ∀ k, k < i → z.2 18 (8 * c + (b + k)) = nI (nm k)) m (fun z => ZfM (fun _ => False) (fun f => f = 18) st z ∧ (∀ i, i < 8 * c + b ∨ 8 * c + b + m ≤ i → z.2 18 i = st.2 18 i) ∧ ∀ i, i < m → z.2 18 (8 * c + (b + i)) = nI (nm i))
    (by
      rintro i a hi ⟨z, rfl, fz, h1, h2⟩
      have e5 : z.1 5 = nI m := by rw [fz.1 5 (fun q => q)]; exact h5
      have e15 : z.1 15 = nI c := by rw [fz.1 15 (fun q => q)]; exact h15
      have e6 : z.2 6 i = nI (nm i) := by rw [fz.2 6 (by omega)]; exact hn i hi
      have m8 : (8 : Int32) * nI c = nI (8 * c) := pk_mul 8 c
      simp (disch := omega) only [fX5_takesRow_L2, fX5_places, e5, if_neg (nI_ge hi (show m < 2 ^ 31 by omega)), ZMA, e6, e15, m8, nI_add, Option.bind_some, nI_1]
      refine ⟨_, rfl, _, rfl, fz.arr rfl, fun k hk => ?_, fun k hk => ?_⟩
      · simp only [zua_sn (show k ≠ 8 * c + (b + i) by omega)]
        exact h1 k (by omega)
      · simp only [zua_s]
        by_cases q : k = i
        · rw [if_pos (by omega), q]
        · rw [if_neg (by omega)]
          exact h2 k (by omega))
    (by
      rintro a ⟨z, rfl, fz, h1, h2⟩
      have e5 : z.1 5 = nI m := by rw [fz.1 5 (fun q => q)]; exact h5
      simp only [fX5_takesRow_L2, e5, if_pos (nI_le (Nat.le_refl _) (show m < 2 ^ 31 by omega))]
      exact ⟨_, rfl, fz, h1, h2⟩)
    N (st, 0) (by omega) ⟨st, rfl, ZfM.rfl, fun _ _ => rfl, fun k hk => absurd hk (by omega)⟩
  obtain ⟨z, e, h⟩ := I
  exact ⟨z, e, h⟩
/-- M's problem grows -/
theorem ZMP.more (hP : ZPok P) (hM : ZMP st P) (hm : Zmor P P') (w0 : w.1 0 = st.1 0) (w15 : w.1 15 = nI (Znc P + 1)) (f : ∀ i, i ≤ 4 ∨ i = 65 ∨ i = 66 → w.2 i = st.2 i) (f1 : ∀ i c, i = 16 ∨ i = 17 ∨ i = 20 ∨ i = 21 → c < Znc P → w.2 i c = st.2 i c) (f18 : ∀ i, i < 8 * Znc P → w.2 18 i = st.2 18 i) (f6 : ∀ j i, j = 19 ∨ j = 23 → i < 6 * Znc P → w.2 j i = st.2 j i) (f22 : ∀ i, i < 48 * Znc P → w.2 22 i = st.2 22 i) (hnew : ZMc w P' (Znc P)) : ZMP w P' := by
  obtain ⟨m1, m2, m3, m4, m5⟩ := hm
  refine ⟨by rw [w0, m1]; exact hM.1, by rw [w15, m2], fun v hv => ?_, fun c hc => ?_⟩
  · obtain ⟨o1, o2, o3, o4⟩ := m3 v
    rw [m1] at hv
    rw [f 1 (by omega), f 2 (by omega), f 3 (by omega), f 4 (by omega), o1, o2, o3, o4]
    exact hM.2.2.1 v hv
  · rw [m2] at hc
    rcases Nat.lt_or_ge c (Znc P) with q | q
    · have hC := hP.2.2.2.2.2 c q
      have h8 := hC.2.1
      have : ZMc w P c := by
        obtain ⟨a1, a2, a3, a4, a5, a6, a7⟩ := hM.2.2.2 c q
        refine ⟨by rw [f1 16 c (by omega) q]; exact a1, by rw [f1 17 c (by omega) q]; exact a2, fun p hp => by rw [f18 _ (by omega)]; exact a3 p hp, fun hs => ?_, fun hs => ?_, fun hs => ?_, fun hs => ?_⟩
        · obtain ⟨b1, b2, b3⟩ := a4 hs
          have h6 := (hC.2.2.2.2.1 hs).1
          exact ⟨fun p hp => by rw [f6 19 _ (by omega) (by omega)]; exact b1 p hp, by rw [f1 20 c (by omega) q]; exact b2, by rw [f6 23 _ (by omega) (by omega)]; exact b3⟩
        · obtain ⟨b1, b2, b3⟩ := a5 hs
          have h16 := (hC.2.2.2.2.2.2.1 hs).2.1
          exact ⟨by rw [f1 20 c (by omega) q]; exact b1, by rw [f1 21 c (by omega) q]; exact b2, fun i hi => by rw [f22 _ (by omega)]; exact b3 i hi⟩
        · have h6 := (hC.2.2.2.2.2.2.2.2.2.1 hs).1
          exact fun p hp => by rw [f6 19 _ (by omega) (by omega), f6 23 _ (by omega) (by omega)]; exact a6 hs p hp
        · obtain ⟨b1, b2⟩ := a7 hs
          refine ⟨by rw [f1 20 c (by omega) q]; exact b1, ?_⟩
          rw [f 65 (by omega), f 66 (by omega)]
          exact b2
      exact this.agr (m4 c q)
    · have : c = Znc P := by omega
      rw [this]
      exact hnew
end RW
