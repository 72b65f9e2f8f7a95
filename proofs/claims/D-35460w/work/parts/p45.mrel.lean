/-! M: what relations support -/
set_option maxRecDepth 100000
theorem ZnI_or {a b : Nat} : nI a ||| nI b = nI (a ||| b) := by
  refine Zt_ext fun k hk => ?_
  rw [Zt_or, Zt_nI, Zt_nI, Zt_nI, Nat.testBit_or]
  cases a.testBit k <;> cases b.testBit k <;> simp
theorem Zw15 : ∀ a, a < 15 → ∀ b, b < 15 → ∃ k, k < 21 ∧ fX5_joinedWord (nI a) (nI b) = some (if k = 20 then -1 else nI k) ∧ ∀ x, x < 15 → (fX1_isJoined (nI x) (nI a) (nI b) = some 1 ↔ x = k) := by decide +kernel
theorem Zw17 : ∀ a, a < 15 → ∀ b, b < 16 → ∃ k, k < 21 ∧ fX5_letterOf (nI a) (nI b) = some (if k = 20 then -1 else nI k) ∧ ∀ x, x < 16 → (fX1_isLetter (nI x) (nI a) (nI b) = some 1 ↔ x = k) := by decide +kernel
theorem Zw12 : ∀ a, a < 32 → fJ18_bitCount (nI a) = some (nI (Zct (Zt (nI a)) 32)) := by decide +kernel
theorem Zw13 : ∀ a, a < 32 → ∃ l, l < 4 ∧ fX1_length (nI a) = some (nI l) := by decide +kernel
theorem Zw16 : ∀ a, a < 32 → ∀ b, b < 32 → fX5_begins (nI a) (nI b) = fX1_lambda_prefix_5 (nI a) (nI b) 0 := by decide +kernel
theorem Zite1 {p : Prop} [Decidable p] : (if p then some (1 : Int32) else some 0) = some 1 ↔ p := by
  by_cases h : p
  · simp [h]
  · simp [h]
/-- the one value of the first place -/
theorem ZM_first {s a b : Nat} (hs : s = 7 ∨ s = 8 ∨ s = 9 ∨ s = 10 ∨ s = 12 ∨ s = 13 ∨ s = 14 ∨ s = 15 ∨ s = 17) (ha : a < 32) (hb : b < 32) (ha' : (s = 15 ∨ s = 17) → a < 15) (hb' : (s = 15 → b < 15) ∧ (s = 17 → b < 16)) (N : Nat) (hN : 1000 ≤ N) : ∃ its : Int32, fX5_first N (nI s) (nI a) (nI b) = some its ∧ (its = -1 ∨ ∃ x, x < 32 ∧ its = nI x) ∧ ∀ x, x < 32 → (s = 15 → x < 15) → (s = 17 → x < 16) → (ZR s x a b ↔ its = nI x) := by
  have ne : ∀ {i j : Nat}, i < 100 → j < 100 → i ≠ j → ¬ nI i = nI j := fun hi hj h e => h ((nI_eq (by omega) (by omega)).mp e)
  rcases hs with rfl | rfl | rfl | rfl | rfl | rfl | rfl | rfl | rfl
  · simp only [fX5_first, if_pos (show nI 7 = (7 : Int32) from rfl)]
    by_cases q : nI b ≤ nI a
    · rw [if_pos q]
      refine ⟨0, rfl, Or.inr ⟨0, by omega, rfl⟩, fun x hx _ _ => ?_⟩
      simp only [ZR, fX1_lambda_when_0, Zne10, if_false, if_pos q, Zesc_l, Zesc_r, Option.bind_some]
      rw [Zite1]
      exact eq_comm
    · rw [if_neg q]
      refine ⟨1, rfl, Or.inr ⟨1, by omega, rfl⟩, fun x hx _ _ => ?_⟩
      simp only [ZR, fX1_lambda_when_0, Zne10, if_false, if_neg q, Zesc_l, Zesc_r, Option.bind_some]
      rw [Zite1]
      exact eq_comm
  · simp only [fX5_first, if_neg (show ¬ nI 8 = (7 : Int32) by decide), if_pos (show nI 8 = (8 : Int32) from rfl)]
    by_cases q : nI a = nI b
    · rw [if_pos q]
      refine ⟨1, rfl, Or.inr ⟨1, by omega, rfl⟩, fun x hx _ _ => ?_⟩
      simp only [ZR, fX1_lambda_when_0, if_true, if_pos q, Zesc_l, Zesc_r, Option.bind_some]
      rw [Zite1]
      exact eq_comm
    · rw [if_neg q]
      refine ⟨0, rfl, Or.inr ⟨0, by omega, rfl⟩, fun x hx _ _ => ?_⟩
      simp only [ZR, fX1_lambda_when_0, if_true, if_neg q, Zesc_l, Zesc_r, Option.bind_some]
      rw [Zite1]
      exact eq_comm
  · simp only [fX5_first, if_neg (show ¬ nI 9 = (7 : Int32) by decide), if_neg (show ¬ nI 9 = (8 : Int32) by decide), if_pos (show nI 9 = (9 : Int32) from rfl)]
    refine ⟨_, rfl, Or.inr ⟨a ||| b, Nat.or_lt_two_pow (n := 5) ha hb, ZnI_or⟩, fun x hx _ _ => ?_⟩
    simp only [ZR, fX1_lambda_sets_1, Zne10, if_false, Option.bind_some]
    rw [Zite1]
    exact eq_comm
  · simp only [fX5_first, if_neg (show ¬ nI 10 = (7 : Int32) by decide), if_neg (show ¬ nI 10 = (8 : Int32) by decide), if_neg (show ¬ nI 10 = (9 : Int32) by decide), if_pos (show nI 10 = (10 : Int32) from rfl)]
    refine ⟨_, rfl, Or.inr ⟨a &&& b, Nat.lt_of_le_of_lt Nat.and_le_left ha, ZnI_and (by omega)⟩, fun x hx _ _ => ?_⟩
    simp only [ZR, fX1_lambda_sets_1, if_true, Option.bind_some]
    rw [Zite1]
    exact eq_comm
  · simp only [fX5_first, if_neg (show ¬ nI 12 = (7 : Int32) by decide), if_neg (show ¬ nI 12 = (8 : Int32) by decide), if_neg (show ¬ nI 12 = (9 : Int32) by decide), if_neg (show ¬ nI 12 = (10 : Int32) by decide), if_pos (show nI 12 = (12 : Int32) from rfl), Zcount _ N hN, Option.bind_some]
    have h5 : Zct (Zt (nI a)) 32 < 32 := by
      have : ∀ a, a < 32 → Zct (Zt (nI a)) 32 < 32 := by decide +kernel
      exact this a ha
    refine ⟨_, rfl, Or.inr ⟨_, h5, rfl⟩, fun x hx _ _ => ?_⟩
    simp only [ZR, fX1_lambda_measure_3, Zne10, if_false, Zw12 a ha, Option.bind_some]
    rw [Zite1]
    exact eq_comm
  · obtain ⟨l, hl, el⟩ := Zw13 a ha
    have el' : fX5_lengthOf (nI a) = some (nI l) := el
    simp only [fX5_first, if_neg (show ¬ nI 13 = (7 : Int32) by decide), if_neg (show ¬ nI 13 = (8 : Int32) by decide), if_neg (show ¬ nI 13 = (9 : Int32) by decide), if_neg (show ¬ nI 13 = (10 : Int32) by decide), if_neg (show ¬ nI 13 = (12 : Int32) by decide), if_pos (show nI 13 = (13 : Int32) from rfl), el', Option.bind_some]
    refine ⟨_, rfl, Or.inr ⟨l, by omega, rfl⟩, fun x hx _ _ => ?_⟩
    simp only [ZR, fX1_lambda_measure_3, if_true, el, Option.bind_some]
    rw [Zite1]
    exact eq_comm
  · simp only [fX5_first, if_neg (show ¬ nI 14 = (7 : Int32) by decide), if_neg (show ¬ nI 14 = (8 : Int32) by decide), if_neg (show ¬ nI 14 = (9 : Int32) by decide), if_neg (show ¬ nI 14 = (10 : Int32) by decide), if_neg (show ¬ nI 14 = (12 : Int32) by decide), if_neg (show ¬ nI 14 = (13 : Int32) by decide), if_pos (show nI 14 = (14 : Int32) from rfl)]
    by_cases q : Zt (nI b) a = true
    · simp only [ZhasBit_t ha q, Option.bind_some, Zne10, if_false]
      refine ⟨1, rfl, Or.inr ⟨1, by omega, rfl⟩, fun x hx _ _ => ?_⟩
      simp only [ZR, fX1_lambda_member_4, Zhas_t ha q, Option.bind_some, Zne10, if_false]
      rw [Zite1]
      exact eq_comm
    · simp only [ZhasBit_f ha q, Option.bind_some, if_true]
      refine ⟨0, rfl, Or.inr ⟨0, by omega, rfl⟩, fun x hx _ _ => ?_⟩
      simp only [ZR, fX1_lambda_member_4, Zhas_f ha q, Option.bind_some, if_true]
      rw [Zite1]
      exact eq_comm
  · have h := Zw15 a (ha' (Or.inl rfl)) b (hb'.1 rfl)
    simp only [fX5_first, if_neg (show ¬ nI 15 = (7 : Int32) by decide), if_neg (show ¬ nI 15 = (8 : Int32) by decide), if_neg (show ¬ nI 15 = (9 : Int32) by decide), if_neg (show ¬ nI 15 = (10 : Int32) by decide), if_neg (show ¬ nI 15 = (12 : Int32) by decide), if_neg (show ¬ nI 15 = (13 : Int32) by decide), if_neg (show ¬ nI 15 = (14 : Int32) by decide), if_pos (show nI 15 = (15 : Int32) from rfl)]
    obtain ⟨k, hk, e, h2⟩ := h
    rw [e]
    simp only [Option.bind_some]
    refine ⟨_, rfl, ?_, fun x hx h15 _ => ?_⟩
    · split
      · exact Or.inl rfl
      · exact Or.inr ⟨k, by omega, rfl⟩
    · have hx' : x < 15 := h15 (by first | trivial | rfl)
      refine (h2 x hx').trans ?_
      split
      · rename_i g
        exact ⟨fun q => absurd q (by omega), fun q => absurd q.symm (ZnI_ne (by omega))⟩
      · exact ⟨fun q => by rw [q], fun q => ((nI_eq (by omega) (by omega)).mp q).symm⟩
  · have h := Zw17 a (ha' (Or.inr rfl)) b (hb'.2 rfl)
    simp only [fX5_first, if_neg (show ¬ nI 17 = (7 : Int32) by decide), if_neg (show ¬ nI 17 = (8 : Int32) by decide), if_neg (show ¬ nI 17 = (9 : Int32) by decide), if_neg (show ¬ nI 17 = (10 : Int32) by decide), if_neg (show ¬ nI 17 = (12 : Int32) by decide), if_neg (show ¬ nI 17 = (13 : Int32) by decide), if_neg (show ¬ nI 17 = (14 : Int32) by decide), if_neg (show ¬ nI 17 = (15 : Int32) by decide)]
    obtain ⟨k, hk, e, h2⟩ := h
    rw [e]
    simp only [Option.bind_some]
    refine ⟨_, rfl, ?_, fun x hx _ h17 => ?_⟩
    · split
      · exact Or.inl rfl
      · exact Or.inr ⟨k, by omega, rfl⟩
    · have hx' : x < 16 := h17 (by first | trivial | rfl)
      refine (h2 x hx').trans ?_
      split
      · rename_i g
        exact ⟨fun q => absurd q (by omega), fun q => absurd q.symm (ZnI_ne (by omega))⟩
      · exact ⟨fun q => by rw [q], fun q => ((nI_eq (by omega) (by omega)).mp q).symm⟩
section MF
variable {st : zMS} {P : ZP} {c : Nat}
/-- what is supported by the pairs that were seen -/
def ZQ (P : ZP) (T : ZT0) (c : Nat) (st : zMS) (pr : Nat → Nat → Prop) (y : zMS) : Prop := ZfS st y ∧ ZMo c st y ∧ (∀ k, k < 32 → (Zt (y.2 41 (8 * c)) k = true ↔ ∃ a b, pr a b ∧ ZRt P T c k a b)) ∧ (∀ k, k < 32 → (Zt (y.2 41 (8 * c + 1)) k = true ↔ ∃ x b, pr k b ∧ ZRt P T c x k b)) ∧ (Zmn P c = 3 → ∀ k, k < 32 → (Zt (y.2 41 (8 * c + 2)) k = true ↔ ∃ x a, pr a k ∧ ZRt P T c x a k))
theorem ZQ.iff {T : ZT0} {pr pr' : Nat → Nat → Prop} {y : zMS} (h : ZQ P T c st pr y) (hp : ∀ x a b, ZRt P T c x a b → (pr a b ↔ pr' a b)) : ZQ P T c st pr' y := by
  obtain ⟨h1, h2, h3, h4, h5⟩ := h
  have q : ∀ x a b, (pr a b ∧ ZRt P T c x a b) ↔ (pr' a b ∧ ZRt P T c x a b) := fun x a b => ⟨fun ⟨u, v⟩ => ⟨(hp x a b v).mp u, v⟩, fun ⟨u, v⟩ => ⟨(hp x a b v).mpr u, v⟩⟩
  exact ⟨h1, h2, fun k hk => by rw [h3 k hk]; simp only [q], fun k hk => by rw [h4 k hk]; simp only [q], fun hm k hk => by rw [h5 hm k hk]; simp only [q]⟩
def Zl2 (a b a' b' : Nat) : Prop := a' < a ∨ (a' = a ∧ b' < b)
theorem ZM_functional (hP : ZPok P) (hM : ZMP st P) (hc : c < Znc P) (hs : 7 ≤ Zso P c) (hs' : Zso P c ≠ 11 ∧ Zso P c ≠ 16) (hT : ZTok P (ZTm st)) (h0 : ∀ p, p < 8 → st.2 41 (8 * c + p) = 0) (N : Nat) (hN : 1000 ≤ N) : ∃ st', fX5_functional N st (nI c) = some st' ∧ ZfS st st' ∧ ZMo c st st' ∧ ZMs P (ZTm st) c st' := by
  have hC := hP.2.2.2.2.2 c hc
  have hnc := hP.2.1
  have s17 := hC.2.2.2.1
  obtain ⟨mr, mk⟩ := hC.2.2.2.2.2.2.2.2.2.2.2 hs
  have hm : Zmn P c = 2 ∨ Zmn P c = 3 := by rw [mr]; unfold Zrn; split <;> omega
  have e17 := (hM.2.2.2 c hc).2.1
  have hss : Zso P c = 7 ∨ Zso P c = 8 ∨ Zso P c = 9 ∨ Zso P c = 10 ∨ Zso P c = 12 ∨ Zso P c = 13 ∨ Zso P c = 14 ∨ Zso P c = 15 ∨ Zso P c = 17 := by omega
  -- values by the kinds
  have kv : ∀ p, p < Zmn P c → ∀ k, Zt (ZDm P (ZTm st) c p) k = true → k < Zvs (Zrk (Zso P c) p) := by
    intro p hp k hk
    have h1 := mk p hp
    have h2 := ((hT _ (hC.2.2.1 p hp)).1 (by rw [h1]; exact Zrk_le _ _)).2 k hk
    rwa [h1] at h2
  have kv1 : (Zso P c = 15 ∨ Zso P c = 17) → ∀ k, Zt (ZDm P (ZTm st) c 1) k = true → k < 15 := by
    intro h k hk
    have := kv 1 (by omega) k hk
    rcases h with h | h <;> rw [h] at this <;> exact this
  have m3 : (Zso P c = 15 ∨ Zso P c = 17) → Zmn P c = 3 := by
    intro h
    rw [mr]
    rcases h with h | h <;> rw [h] <;> rfl
  have kv2 : (Zso P c = 15 → ∀ k, Zt (ZDm P (ZTm st) c 2) k = true → k < 15) ∧ (Zso P c = 17 → ∀ k, Zt (ZDm P (ZTm st) c 2) k = true → k < 16) := by
    refine ⟨fun h k hk => ?_, fun h k hk => ?_⟩
    · have := kv 2 (by have := m3 (Or.inl h); omega) k hk
      rw [h] at this
      exact this
    · have := kv 2 (by have := m3 (Or.inr h); omega) k hk
      rw [h] at this
      exact this
  have kv0 : (Zso P c = 15 → ∀ k, Zt (ZDm P (ZTm st) c 0) k = true → k < 15) ∧ (Zso P c = 17 → ∀ k, Zt (ZDm P (ZTm st) c 0) k = true → k < 16) := by
    refine ⟨fun h k hk => ?_, fun h k hk => ?_⟩
    · have := kv 0 (by omega) k hk
      rw [h] at this
      exact this
    · have := kv 0 (by omega) k hk
      rw [h] at this
      exact this
  generalize hTT : ZTm st = T at *
  have dm : ∀ y, ZfS st y → ∀ q, q < Zmn P c → fX5_domainAt y (nI c) (nI q) = some (ZDm P T c q) := fun y fy q hq => by rw [← hTT, ← fy.tm]; exact ZM_dom hP (fy.mp hM) hc hq
  have d0 : ∀ y, ZfS st y → fX5_domainAt y (nI c) 0 = some (ZDm P T c 0) := fun y fy => dm y fy 0 (by omega)
  have d1 : ∀ y, ZfS st y → fX5_domainAt y (nI c) 1 = some (ZDm P T c 1) := fun y fy => dm y fy 1 (by omega)
  obtain ⟨t2, et2, ht2⟩ : ∃ t2 : Int32, (if nI (Zmn P c) = (3 : Int32) then some (1 : Int32) else some 0) = some t2 ∧ ((t2 = 0 ∧ Zmn P c = 2) ∨ (t2 = 1 ∧ Zmn P c = 3)) := by
    rcases hm with h | h
    · exact ⟨0, by rw [h]; rfl, Or.inl ⟨rfl, h⟩⟩
    · exact ⟨1, by rw [h]; rfl, Or.inr ⟨rfl, h⟩⟩
  -- a pair
  have step : ∀ a b, a < 32 → b < 32 → Zt (ZDm P T c 1) a = true → (if Zmn P c = 2 then b = 0 else Zt (ZDm P T c 2) b = true) → ∀ y, ZQ P T c st (Zl2 a b) y →
      ∃ z, ((zal y 16 (nI c)).bind fun x15 => (fX5_first N x15 (nI a) (nI b)).bind fun t16 => (fX5_domainAt y (nI c) (0 : Int32)).bind fun t17 => (fX5_hasBit t17 t16).bind fun t18 => if t18 = 0 then (some y) else ((fX5_supports y (nI c) (0 : Int32) t16).bind fun t19 => (fX5_supports t19 (nI c) (1 : Int32) (nI a)).bind fun t20 => (zal t20 41 (((8 : Int32) * (nI c)) + (2 : Int32))).bind fun x21 => (if t2 = 0 then (some (0 : Int32)) else (some ((1 : Int32) <<< (nI b &&& 31)))).bind fun t22 => (zas t20 41 (((8 : Int32) * (nI c)) + (2 : Int32)) (x21 ||| t22)).bind fun st23 => some st23)) = some z ∧ ZQ P T c st (Zl2 a (b + 1)) z := by
    intro a b ha hb hDa hDb y hy
    have fy := hy.1
    have e16 := ((fy.mp hM).2.2.2 c hc).1
    obtain ⟨its, ei, hi, hR⟩ := ZM_first (s := Zso P c) (a := a) (b := b) hss ha hb (fun h => kv1 h a hDa) ⟨fun h => by
      have m := m3 (Or.inl h)
      rw [if_neg (by omega)] at hDb
      exact kv2.1 h b hDb, fun h => by
      have m := m3 (Or.inr h)
      rw [if_neg (by omega)] at hDb
      exact kv2.2 h b hDb⟩ N hN
    -- no value: nothing changes
    have none_ : (∀ x, ¬ ZRt P T c x a b) → ZQ P T c st (Zl2 a (b + 1)) y := fun hn => hy.iff fun x a' b' v => by
      unfold Zl2
      constructor
      · omega
      · intro g
        by_cases e : a' = a ∧ b' = b
        · obtain ⟨rfl, rfl⟩ := e
          exact absurd v (hn x)
        · omega
    rcases hi with rfl | ⟨x, hx, rfl⟩
    · have hb0 : fX5_hasBit (ZDm P T c 0) (-1) = some 0 := by unfold fX5_hasBit; rw [if_pos (by decide)]
      simp (disch := omega) only [ZMA, e16, Option.bind_some, ei, d0 y fy, hb0, if_true]
      refine ⟨y, rfl, none_ fun x v => ?_⟩
      have := (hR x v.1 (fun h => kv0.1 h x v.2.2.2.1) (fun h => kv0.2 h x v.2.2.2.1)).mp v.2.2.2.2.2.2
      exact ZnI_ne (by have := v.1; omega) this.symm
    · by_cases q : Zt (ZDm P T c 0) x = true
      · have hv : ZRt P T c x a b := ⟨hx, ha, hb, q, hDa, hDb, (hR x hx (fun h => kv0.1 h x q) (fun h => kv0.2 h x q)).mpr rfl⟩
        have hun : ∀ x', ZRt P T c x' a b → x' = x := fun x' v => by
          have := (hR x' v.1 (fun h => kv0.1 h x' v.2.2.2.1) (fun h => kv0.2 h x' v.2.2.2.1)).mp v.2.2.2.2.2.2
          exact ((nI_eq (by omega) (by have := v.1; omega)).mp this).symm
        obtain ⟨-, oy, hy0, hy1, hy2⟩ := hy
        have sp0 := ZM_supp (st := y) (c := c) (p := 0) (k := x) hP hc (by omega)
        have sp1 := fun w => ZM_supp (st := (y.1, zua y.2 41 (8 * c + 0) w)) (c := c) (p := 1) (k := a) hP hc (by omega)
        have g0 : ∀ k, k < 32 → (Zt (y.2 41 (8 * c) ||| (1 <<< (nI x &&& 31))) k = true ↔ ∃ a' b', Zl2 a (b + 1) a' b' ∧ ZRt P T c k a' b') := by
          intro k hk
          rw [Zt_put hx, hy0 k hk]
          constructor
          · rintro (⟨a', b', g1, g2⟩ | g)
            · exact ⟨a', b', by unfold Zl2 at g1 ⊢; omega, g2⟩
            · exact ⟨a, b, by unfold Zl2; omega, g ▸ hv⟩
          · rintro ⟨a', b', g1, g2⟩
            by_cases e : a' = a ∧ b' = b
            · obtain ⟨rfl, rfl⟩ := e
              exact Or.inr (hun k g2)
            · exact Or.inl ⟨a', b', by unfold Zl2 at g1 ⊢; omega, g2⟩
        have g1 : ∀ k, k < 32 → (Zt (y.2 41 (8 * c + 1) ||| (1 <<< (nI a &&& 31))) k = true ↔ ∃ x' b', Zl2 a (b + 1) k b' ∧ ZRt P T c x' k b') := by
          intro k hk
          rw [Zt_put ha, hy1 k hk]
          constructor
          · rintro (⟨a', b', g1, g2⟩ | g)
            · exact ⟨a', b', by unfold Zl2 at g1 ⊢; omega, g2⟩
            · exact ⟨x, b, by unfold Zl2; omega, g ▸ hv⟩
          · rintro ⟨x', b', g1, g2⟩
            by_cases e : k = a
            · exact Or.inr e
            · exact Or.inl ⟨x', b', by unfold Zl2 at g1 ⊢; omega, g2⟩
        have g2 : Zmn P c = 3 → ∀ k, k < 32 → (Zt (y.2 41 (8 * c + 2) ||| (1 <<< (nI b &&& 31))) k = true ↔ ∃ x' a', Zl2 a (b + 1) a' k ∧ ZRt P T c x' a' k) := by
          intro hm k hk
          rw [Zt_put hb, hy2 hm k hk]
          constructor
          · rintro (⟨a', b', g1, g2⟩ | g)
            · exact ⟨a', b', by unfold Zl2 at g1 ⊢; omega, g2⟩
            · exact ⟨x, a, by unfold Zl2; omega, g ▸ hv⟩
          · rintro ⟨x', a', g1, g2⟩
            by_cases e : k = b
            · exact Or.inr e
            · exact Or.inl ⟨x', a', by unfold Zl2 at g1 ⊢; omega, g2⟩
        have sp0' : fX5_supports y (nI c) 0 (nI x) = some (y.1, zua y.2 41 (8 * c) (y.2 41 (8 * c) ||| (1 <<< (nI x &&& 31)))) := sp0
        have sp1' : ∀ w, fX5_supports (y.1, zua y.2 41 (8 * c) w) (nI c) 1 (nI a) = some (y.1, zua (zua y.2 41 (8 * c) w) 41 (8 * c + 1) (y.2 41 (8 * c + 1) ||| (1 <<< (nI a &&& 31)))) := fun w => by
          have := sp1 w
          simp only [Nat.add_zero, zua_sn (show 8 * c + 1 ≠ 8 * c by omega)] at this
          exact this
        have ff : ∀ u v w, ZfS st (y.1, zua (zua (zua y.2 41 (8 * c) u) 41 (8 * c + 1) v) 41 (8 * c + 2) w) := fun u v w => ZfM.arr (ZfM.arr (ZfM.arr fy rfl) rfl) rfl
        have oo : ∀ u v w, ZMo c st (y.1, zua (zua (zua y.2 41 (8 * c) u) 41 (8 * c + 1) v) 41 (8 * c + 2) w) := fun u v w => ZMo_put (ZMo_put (ZMo_put (p := 0) oy (by omega)) (by omega)) (by omega)
        rcases ht2 with ⟨rfl, m2⟩ | ⟨rfl, m3⟩
        · simp (disch := omega) only [ZMA, e16, Option.bind_some, ei, d0 y fy, ZhasBit_t hx q, Zne10, if_false, sp0', sp1', Zm8, Zadd2, zua_sn, if_true]
          refine ⟨_, rfl, ff _ _ _, oo _ _ _, fun k hk => ?_, fun k hk => ?_, fun h => absurd h (by omega)⟩
          · simp only [zua_sn (show 8 * c ≠ 8 * c + 2 by omega), zua_sn (show 8 * c ≠ 8 * c + 1 by omega), zua_ss]
            exact g0 k hk
          · simp only [zua_sn (show 8 * c + 1 ≠ 8 * c + 2 by omega), zua_ss]
            exact g1 k hk
        · simp (disch := omega) only [ZMA, e16, Option.bind_some, ei, d0 y fy, ZhasBit_t hx q, Zne10, if_false, sp0', sp1', Zm8, Zadd2, zua_sn]
          refine ⟨_, rfl, ff _ _ _, oo _ _ _, fun k hk => ?_, fun k hk => ?_, fun h k hk => ?_⟩
          · simp only [zua_sn (show 8 * c ≠ 8 * c + 2 by omega), zua_sn (show 8 * c ≠ 8 * c + 1 by omega), zua_ss]
            exact g0 k hk
          · simp only [zua_sn (show 8 * c + 1 ≠ 8 * c + 2 by omega), zua_ss]
            exact g1 k hk
          · simp only [zua_ss]
            exact g2 h k hk
      · simp (disch := omega) only [ZMA, e16, Option.bind_some, ei, d0 y fy, ZhasBit_f hx q, if_true]
        refine ⟨y, rfl, none_ fun x' v => ?_⟩
        have := (hR x' v.1 (fun h => kv0.1 h x' v.2.2.2.1) (fun h => kv0.2 h x' v.2.2.2.1)).mp v.2.2.2.2.2.2
        have e := (nI_eq (by omega) (by have := v.1; omega)).mp this
        rw [e] at q
        exact q v.2.2.2.1
  -- all seconds
  have inner : ∀ a, a < 32 → ∀ y, ZQ P T c st (Zl2 a 0) y → ∀ (q : zMS), ∃ z, zloop (fX5_functional_L27 N (nI c) (q, nI a) t2) N (y, 0) = some z ∧ ZQ P T c st (Zl2 (a + 1) 0) z := by
    intro a ha y hy q0
    have L := Zl_ex (body := fX5_functional_L27 N (nI c) (q0, nI a) t2) (fun b s => ∃ z, s = (z, nI b) ∧ ZQ P T c st (Zl2 a b) z) (if Zmn P c = 2 then 1 else 32) (fun z => ZQ P T c st (Zl2 (a + 1) 0) z)
      (by
        rintro b s hb ⟨z, rfl, hz⟩
        have hb32 : b < 32 := by split at hb <;> omega
        by_cases hDa : Zt (ZDm P T c 1) a = true
        · rcases ht2 with ⟨rfl, m2⟩ | ⟨rfl, m3⟩
          · rw [if_pos m2] at hb
            have b0 : b = 0 := by omega
            subst b0
            obtain ⟨w, ew, hw⟩ := step a 0 ha (by omega) hDa (by rw [if_pos m2]) z hz
            simp only [Option.bind_some] at ew
            simp only [fX5_functional_L27, if_true, Option.bind_some, if_neg (show ¬ (1 : Int32) ≤ nI 0 by decide), d1 z hz.1, ZhasBit_t ha hDa, Zne10, if_false, Zesc_l, nI_1]
            simp only [if_true, Option.bind_some] at ew
            rw [ew]
            exact Or.inl ⟨_, rfl, w, rfl, hw⟩
          · rw [if_neg (by omega)] at hb
            have d2 : fX5_domainAt z (nI c) 2 = some (ZDm P T c 2) := dm z hz.1 2 (by omega)
            by_cases hDb : Zt (ZDm P T c 2) b = true
            · obtain ⟨w, ew, hw⟩ := step a b ha hb32 hDa (by rw [if_neg (by omega)]; exact hDb) z hz
              simp only [fX5_functional_L27, Zne10, if_false, Option.bind_some, if_neg (show ¬ (32 : Int32) ≤ nI b from nI_ge (b := 32) hb (by decide)), d1 z hz.1, ZhasBit_t ha hDa, d2, ZhasBit_t hb32 hDb, Zesc_l, nI_1]
              simp only [Zne10, if_false, Option.bind_some] at ew
              rw [ew]
              exact Or.inl ⟨_, rfl, w, rfl, hw⟩
            · simp only [fX5_functional_L27, Zne10, if_false, Option.bind_some, if_neg (show ¬ (32 : Int32) ≤ nI b from nI_ge (b := 32) hb (by decide)), d1 z hz.1, ZhasBit_t ha hDa, d2, ZhasBit_f hb32 hDb, if_true, Zesc_r, nI_1]
              refine Or.inl ⟨_, rfl, z, rfl, hz.iff fun x a' b' v => ?_⟩
              unfold Zl2
              constructor
              · omega
              · intro g
                by_cases e : a' = a ∧ b' = b
                · obtain ⟨rfl, rfl⟩ := e
                  have := v.2.2.2.2.2.1
                  rw [if_neg (by omega)] at this
                  exact absurd this hDb
                · omega
        · have hlim : ∃ t9 : Int32, (if t2 = 0 then some (1 : Int32) else some 32) = some t9 ∧ ¬ t9 ≤ nI b := by
            rcases ht2 with ⟨rfl, m2⟩ | ⟨rfl, m3⟩
            · rw [if_pos m2] at hb
              exact ⟨1, rfl, nI_ge (b := 1) hb (by decide)⟩
            · exact ⟨32, rfl, nI_ge (b := 32) hb32 (by decide)⟩
          obtain ⟨t9, e9, h9⟩ := hlim
          simp only [fX5_functional_L27, e9, Option.bind_some, if_neg h9, d1 z hz.1, ZhasBit_f ha hDa, if_true]
          refine Or.inr ⟨_, rfl, hz.iff fun x a' b' v => ?_⟩
          unfold Zl2
          constructor
          · omega
          · intro g
            by_cases e : a' = a
            · subst e
              exact absurd v.2.2.2.2.1 hDa
            · omega)
      (by
        rintro s ⟨z, rfl, hz⟩
        have fin : ZQ P T c st (Zl2 (a + 1) 0) z := hz.iff fun x a' b' v => by
          have h1 := v.2.2.1
          have h2 := v.2.2.2.2.2.1
          unfold Zl2
          split at h2
          · rename_i m
            rw [if_pos m]
            omega
          · rename_i m
            rw [if_neg m]
            omega
        rcases ht2 with ⟨rfl, m2⟩ | ⟨rfl, m3⟩
        · simp only [fX5_functional_L27, if_true, Option.bind_some, if_pos m2, if_pos (show (1 : Int32) ≤ nI 1 by decide)]
          exact ⟨_, rfl, fin⟩
        · simp only [fX5_functional_L27, Zne10, if_false, Option.bind_some, if_neg (show ¬ Zmn P c = 2 by omega), if_pos (show (32 : Int32) ≤ nI 32 by decide)]
          exact ⟨_, rfl, fin⟩)
      N (y, 0) (by split <;> omega) ⟨y, rfl, hy⟩
    exact L
  have L := Zl_inv (body := fX5_functional_L18 N (nI c) t2) (fun a s => ∃ z, s = (z, nI a) ∧ ZQ P T c st (Zl2 a 0) z) 32 (fun z => ZQ P T c st (Zl2 32 0) z)
    (by
      rintro a s ha ⟨z, rfl, hz⟩
      obtain ⟨w, ew, hw⟩ := inner a ha z hz z
      simp only [fX5_functional_L18, if_neg (show ¬ (32 : Int32) ≤ nI a from nI_ge (b := 32) ha (by decide)), ew, Option.bind_some, nI_1]
      exact ⟨_, rfl, w, rfl, hw⟩)
    (by
      rintro s ⟨z, rfl, hz⟩
      simp only [fX5_functional_L18, if_pos (show (32 : Int32) ≤ nI 32 by decide)]
      exact ⟨_, rfl, hz⟩)
    N (st, 0) (by omega) ⟨st, rfl, ZfM.rfl, fun _ _ => rfl, fun k hk => by
      have := h0 0 (by omega)
      rw [Nat.add_zero] at this
      rw [this, Zt_0]
      exact ⟨fun h => (by cases h), fun ⟨_, _, h, _⟩ => absurd h (by unfold Zl2; omega)⟩, fun k hk => by
      rw [h0 1 (by omega), Zt_0]
      exact ⟨fun h => (by cases h), fun ⟨_, _, h, _⟩ => absurd h (by unfold Zl2; omega)⟩, fun _ k hk => by
      rw [h0 2 (by omega), Zt_0]
      exact ⟨fun h => (by cases h), fun ⟨_, _, h, _⟩ => absurd h (by unfold Zl2; omega)⟩⟩
  obtain ⟨z, e, fz, oz, z0, z1, z2⟩ := L
  refine ⟨z, ?_, fz, oz, fun p hp _ k hk hD => ?_⟩
  · simp (disch := omega) only [fX5_functional, ZMA, e17, Option.bind_some]
    rw [et2, Option.bind_some]
    exact e
  · have hp' : p = 0 ∨ p = 1 ∨ (p = 2 ∧ Zmn P c = 3) := by omega
    have hsup : Zsup P T c p k ↔ ∃ x y z, ZRt P T c x y z ∧ (if p = 0 then x else if p = 1 then y else z) = k := by
      rcases hss with h | h | h | h | h | h | h | h | h <;> simp only [Zsup, h]
    rw [hsup]
    have all : ∀ x a b, ZRt P T c x a b → Zl2 32 0 a b := fun x a b v => by have := v.2.1; unfold Zl2; omega
    rcases hp' with rfl | rfl | ⟨rfl, m3⟩
    · rw [Nat.add_zero, z0 k hk]
      constructor
      · rintro ⟨a, b, -, v⟩
        exact ⟨k, a, b, v, rfl⟩
      · rintro ⟨x, a, b, v, h⟩
        have : x = k := h
        subst this
        exact ⟨a, b, all _ _ _ v, v⟩
    · rw [z1 k hk]
      constructor
      · rintro ⟨x, b, -, v⟩
        exact ⟨x, k, b, v, rfl⟩
      · rintro ⟨x, a, b, v, h⟩
        have : a = k := h
        subst this
        exact ⟨x, b, all _ _ _ v, v⟩
    · rw [z2 m3 k hk]
      constructor
      · rintro ⟨x, a, -, v⟩
        exact ⟨x, a, k, v, rfl⟩
      · rintro ⟨x, a, b, v, h⟩
        have : b = k := h
        subst this
        exact ⟨x, a, all _ _ _ v, v⟩
end MF
