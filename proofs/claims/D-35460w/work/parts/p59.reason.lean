/-! reasons, of both -/
set_option maxRecDepth 100000
/-- two loops side by side -/
theorem Zl_two {α β α' β' : Type} {body : α → Option (α ⊕ β)} {body' : α' → Option (α' ⊕ β')} (I : Nat → α → α' → Prop) (N : Nat) (E : β → β' → Prop) (hs : ∀ k a a', k < N → I k a a' → (∃ b b', body a = some (.inl b) ∧ body' a' = some (.inl b') ∧ I (k + 1) b b') ∨ ∃ r r', body a = some (.inr r) ∧ body' a' = some (.inr r') ∧ E r r') (hr : ∀ a a', I N a a' → ∃ r r', body a = some (.inr r) ∧ body' a' = some (.inr r') ∧ E r r') : ∀ n a a', N < n → I 0 a a' → ∃ r r', zloop body n a = some r ∧ zloop body' n a' = some r' ∧ E r r' := by
  have key : ∀ m k, k + m = N → ∀ n a a', m < n → I k a a' → ∃ r r', zloop body n a = some r ∧ zloop body' n a' = some r' ∧ E r r' := by
    intro m
    induction m with
    | zero =>
      intro k hk n a a' hn h
      obtain ⟨n, rfl⟩ : ∃ q, n = q + 1 := ⟨n - 1, by omega⟩
      have e : k = N := by omega
      subst e
      obtain ⟨r, r', h1, h2, h3⟩ := hr a a' h
      exact ⟨r, r', by simp only [zloop, h1, Option.bind_some], by simp only [zloop, h2, Option.bind_some], h3⟩
    | succ m ih =>
      intro k hk n a a' hn h
      obtain ⟨n, rfl⟩ : ∃ q, n = q + 1 := ⟨n - 1, by omega⟩
      rcases hs k a a' (by omega) h with ⟨b, b', h1, h2, h3⟩ | ⟨r, r', h1, h2, h3⟩
      · obtain ⟨r, r', g1, g2, g3⟩ := ih (k + 1) (by omega) n b b' (by omega) h3
        exact ⟨r, r', by simp only [zloop, h1, Option.bind_some]; exact g1, by simp only [zloop, h2, Option.bind_some]; exact g2, g3⟩
      · exact ⟨r, r', by simp only [zloop, h1, Option.bind_some], by simp only [zloop, h2, Option.bind_some], h3⟩
  intro n a a' hn h
  exact key N 0 (by omega) n a a' hn h
theorem ZLf_cg {b c : Nat → Bool} {L : ZL} : ∀ n, (∀ i, i < n → b i = c i) → ZLf b L n = ZLf c L n := by
  intro n
  induction n with
  | zero => intro _; rfl
  | succ n ih =>
    intro h
    simp only [ZLf]
    rw [ih fun i hi => h i (by omega), h n (by omega)]
/-- the frame of M's other stores -/
abbrev ZfO (st st' : zMS) : Prop := ZfM (fun f => f = 28 ∨ f = 37 ∨ f = 38 ∨ f = 39) (fun f => f = 29 ∨ f = 30 ∨ f = 31 ∨ (34 ≤ f ∧ f ≤ 36) ∨ (40 ≤ f ∧ f ≤ 44)) st st'
theorem ZfO.k {st st' : zMS} (h : ZfO st st') : ZfK st st' := h.mono (fun f q => by omega) (fun f q => q)
section RS
variable {sh : Nat → Option Zsh} {xs : Zxs} {P : ZP} {E : Ze} {st : zMS} {L : ZL}
/-- what finding another store may change -/
theorem ZPD.other {z : Zxs} {w : zMS} (h : ZPD E sh xs st P L) (f : Zfr (ZRA P 36) (ZRB P 36) xs z) (h1 : z.1 1 = xs.1 1) (h2 : ∀ i, i < 4 → z.2 (32 + i) = xs.2 (32 + i)) (g : ZfK st w) (g32 : w.1 32 = -1) : ZPD E sh z w P L := by
  obtain ⟨hP, hr, hb, hX, hM, hl, hd, hL, hk, h32⟩ := h
  have hnc := hP.2.1
  have nB : ∀ u, (u = 15 ∨ u = 16 ∨ u = 17 ∨ u = 29 ∨ u = 30 ∨ u = 31) → ¬ ZRB P 36 u := by
    rintro u a (q | q | q | q | q | q | q | q | ⟨c, hc, q⟩)
    any_goals omega
    exact ZKB_no (by omega) (show c < 24 by omega) q
  have nA : ∀ t f, t = 14 ∨ t = 28 → ¬ ZRA P 36 t f := by
    rintro t f a (q | q | ⟨c, -, q⟩)
    · omega
    · omega
    · exact ZKA_no (by omega) q
  refine ⟨hP, hr, hb, hX.fr hP (Or.inr rfl) f, g.mp hM, hl.fr f (nA 14 3 (Or.inl rfl)) (nB 15 (by omega)) (nB 16 (by omega)) (nB 17 (by omega)), g.dc hd, hL, ?_, g32⟩
  rw [h1]
  refine hk.imp id fun ⟨k1, k2⟩ => ⟨k1, ?_⟩
  obtain ⟨T0, m, l, b1, b2, b3, b4, b5, b6, b7, b8⟩ := k2
  have e28 : z.1 28 = xs.1 28 := funext fun f' => f.1 28 f' (nA 28 f' (Or.inr rfl))
  have eT : ZTs z 28 = ZTs xs 28 := by
    unfold ZTs
    rw [f.2 29 (nB 29 (by omega)), f.2 30 (nB 30 (by omega)), f.2 31 (nB 31 (by omega))]
  refine ⟨T0, m, l, b1, by rw [e28]; exact b2, b3, by rw [e28]; exact b4, by rw [e28, eT]; exact b5, by rw [eT]; exact b6, ?_, by rw [eT]; exact b8⟩
  have g0 := h2 0 (by omega)
  have g1 := h2 1 (by omega)
  have g2 := h2 2 (by omega)
  have g3 := h2 3 (by omega)
  simp only [Nat.reduceAdd, Nat.add_zero] at g0 g1 g2 g3
  unfold ZTrc at b7 ⊢
  rw [h1, g0, g1, g2, g3]
  exact b7
/-- what is asked for: a failure, or a value of a variable -/
def Zwh (P : ZP) (a b c d : Int32) : Prop := (a = -1 ∧ b = 0 ∧ c = 0 ∧ d = -1) ∨ ∃ v k, v < Znv P ∧ Zkd P v ≤ 2 ∧ k < 32 ∧ a = nI v ∧ b = nI k ∧ c = nI v ∧ d = nI k
theorem ZJ_so (hR : ZPD E sh xs st P L) {a b c d : Int32} (hw : Zwh P a b c d) (s : Int32) (N : Nat) (hN : 5000 ≤ N) :
    ∃ z t w r, fX1_isSo N (ZW E sh xs) (Zl E 1) s a b = some (ZW E sh z, r) ∧ fX5_takesDecisions N st s = some t ∧ fX5_finds N t = some w ∧
      ((zesc (if (w.1 37) = 0 then (zesc (if d < 0 then (some (.inl ())) else ((zal w 34 c).bind fun x16 => (fX5_hasBit x16 d).bind fun t17 => if t17 = 0 then (some (.inr (.inl ()))) else (some (.inl ())))) fun t14 => some (.inr (0 : Int32))) else (some (.inl ()))) fun t12 => some (1 : Int32)) = some r) ∧ (r = 0 ∨ r = 1) ∧
      Zfr (ZRA P 36) (ZRB P 36) xs z ∧ ZfO st w ∧ ZPD E sh z w P L := by
  have hR0 := hR
  obtain ⟨hP, hr, hb, hX, hM, hl, hd, hL, hk, h32⟩ := hR
  have hn := hP.1
  have h12 := hd.2.1
  have hS := hb.2.2.2.1
  obtain ⟨y, e1, f1, hbeg⟩ := ZX_beginL (E := E) (ts := 36) (td := 14) (taken := s) hP hX.1 hS hb.2.2.2.2.1 hl hL (by omega) (by omega) N (by omega)
  rw [ZLf_cg (c := Zt s) L.length fun i hi => by simp; omega] at hbeg
  have f1' : Zfr (ZRA P 36) (ZRB P 36) xs y := f1.mono (fun _ _ q => absurd q (fun q => q)) fun u q => by unfold ZRB; omega
  obtain ⟨z, m, l, e2, f2, z4, hm, z01, z3, hend, -, htr, hok⟩ := ZX_solve (tr := 0) hP hb (hX.fr hP (Or.inr rfl) f1') (Or.inr rfl) (Zbeg_in hP hbeg) (Or.inl rfl) N hN
  obtain ⟨t, e3, ft, ht⟩ := ZM_takes (s := s) hd N (by omega)
  have ft' : ZfO st t := ft.mono (fun f q => by omega) (fun f q => by omega)
  have hLf : ZLv P (ZLf (Zt s) L L.length) := fun e he => by
    obtain ⟨i, h1, h2, h3⟩ := (ZLf_mem _).mp he
    exact hL e (List.mem_of_getElem? h3)
  have t32 : t.1 32 = -1 := by rw [ft.1 32 (by decide)]; exact h32
  obtain ⟨w, U0, m', l', e4, fw, wbeg, w38, -, w01, w37, wend, -, -, wok⟩ := ZM_findsL (lv := 1000) (lb := 0) hP (ft'.k.mp hM) ht hLf (Or.inl ⟨t32, by omega⟩) N hN
  obtain ⟨-, -, hs⟩ := ZEnd_one hP (Zbeg_sim hbeg wbeg fun e => Iff.rfl) hend wend
  have hf := Zfail_sim2 hP hs
  have heq : z.1 36 3 = w.1 37 := by
    rcases z01 with g | g <;> rcases w01 with g' | g'
    · rw [g, g']
    · exact absurd (z3.mpr (hf.mpr (w37.mp g'))) (by rw [g]; decide)
    · exact absurd (w37.mpr (hf.mp (z3.mp g))) (by rw [g']; decide)
    · rw [g, g']
  have fz := f1'.trans f2
  have fk : ZfO st w := ft'.trans (fw.mono (fun f q => by omega) (fun f q => by omega))
  have y1 : y.1 = xs.1 := funext fun u => funext fun f => f1.1 u f (fun q => q)
  obtain ⟨q1, q2⟩ := htr rfl
  have hR' : ZPD E sh z w P L := hR0.other fz (by rw [q1, y1]) (fun i hi => (q2 i hi).trans (f1.2 _ (by omega))) fk.k (by rw [fw.1 32 (by omega)]; exact t32)
  obtain ⟨s1, s2, s3, s4⟩ := hS
  suffices hx : ∃ r : Int32, (r = 0 ∨ r = 1) ∧ fX1_isSo N (ZW E sh xs) (Zl E 1) s a b = some (ZW E sh z, r) ∧ ((zesc (if (w.1 37) = 0 then (zesc (if d < 0 then (some (.inl ())) else ((zal w 34 c).bind fun x16 => (fX5_hasBit x16 d).bind fun t17 => if t17 = 0 then (some (.inr (.inl ()))) else (some (.inl ())))) fun t14 => some (.inr (0 : Int32))) else (some (.inl ()))) fun t12 => some (1 : Int32)) = some r) by
    obtain ⟨r, h0, h1, h2⟩ := hx
    exact ⟨z, t, w, r, h1, e3, e4, h2, h0, fz, fk, hR'⟩
  rcases w01 with g | g
  · have g' : z.1 36 3 = 0 := heq.trans g
    rcases hw with ⟨rfl, rfl, rfl, rfl⟩ | ⟨v, k, hv, hk2, hk32, rfl, rfl, rfl, rfl⟩
    · refine ⟨0, Or.inl rfl, ?_, ?_⟩
      · simp only [fX1_isSo, Zb0 hb.1, Option.bind_some, e1, e2, Zb3 s1, g', if_true, Zesc_r]
      · simp only [g, if_true, if_pos (show (-1 : Int32) < 0 by decide), Zesc_l, Zesc_r]
    · have hne : ¬ nI v = (-1 : Int32) := ZnI_ne (by omega)
      have ev : z.2 37 v = w.2 34 v := (hs v hv).1 hk2
      by_cases hbit : Zt (w.2 34 v) k = true
      · refine ⟨0, Or.inl rfl, ?_, ?_⟩
        · have eh : fX1_has (w.2 34 v) (nI k) = some 1 := by rw [Zhas hk32, if_pos hbit]
          simp (disch := omega) only [fX1_isSo, Zb0 hb.1, Option.bind_some, e1, e2, Zb3 s1, g', if_true, if_neg hne, ZbI s2, ev, eh, Zne10, if_false, Zesc_r]
        · simp (disch := omega) only [g, if_true, if_neg (Znneg (show k < 2 ^ 31 by omega)), ZMA, Option.bind_some, ZhasBit_t hk32 hbit, Zne10, if_false, Zesc_l, Zesc_r]
      · refine ⟨1, Or.inr rfl, ?_, ?_⟩
        · have eh : fX1_has (w.2 34 v) (nI k) = some 0 := by rw [Zhas hk32, if_neg hbit]
          simp (disch := omega) only [fX1_isSo, Zb0 hb.1, Option.bind_some, e1, e2, Zb3 s1, g', if_true, if_neg hne, ZbI s2, ev, eh, Zesc_l]
        · simp (disch := omega) only [g, if_true, if_neg (Znneg (show k < 2 ^ 31 by omega)), ZMA, Option.bind_some, ZhasBit_f hk32 hbit, Zesc_l, Zesc_r]
  · have g' : z.1 36 3 = 1 := heq.trans g
    refine ⟨1, Or.inr rfl, ?_, ?_⟩
    · simp only [fX1_isSo, Zb0 hb.1, Option.bind_some, e1, e2, Zb3 s1, g', Zne10, if_false, Zesc_l]
    · simp only [g, Zne10, if_false, Zesc_l]
theorem Zand_m1 (s : Int32) : s &&& (-1) = s := Zt_ext fun k hk => by rw [Zt_and, Zt_m1]; simp [hk]
theorem ZJ_reasonOf (hR : ZPD E sh xs st P L) {a b c d : Int32} (hw : Zwh P a b c d) (N : Nat) (hN : 5000 ≤ N) :
    ∃ z w s, fX1_reasonOf N (ZW E sh xs) (Zl E 1) a b = some (ZW E sh z, s) ∧ fX5_reasonOf N st c d = some (w, s) ∧ (∀ i, Zt s i = true → i < L.length) ∧ Zfr (ZRA P 36) (ZRB P 36) xs z ∧ ZfO st w ∧ ZPD E sh z w P L := by
  have hR0 := hR
  obtain ⟨hP, hr, hb, hX, hM, hl, hd, hL, hk, h32⟩ := hR
  have h12 := hd.2.1
  have hD := hb.2.2.2.2.1
  obtain ⟨r, r', e1, e2, E0⟩ := Zl_two (body := fX1_reasonOf_L23 N (Zl E 1) a b) (body' := fX5_reasonOf_L17 N c d)
    (fun k p q => ∃ z w s, p = (ZW E sh z, s, nI (L.length - k) - 1) ∧ q = (w, s, nI (L.length - k) - 1) ∧ (∀ i, Zt s i = true → i < L.length) ∧ Zfr (ZRA P 36) (ZRB P 36) xs z ∧ ZfO st w ∧ ZPD E sh z w P L) L.length
    (fun r r' => ∃ z w s, r = (ZW E sh z, s) ∧ r' = (w, s) ∧ (∀ i, Zt s i = true → i < L.length) ∧ Zfr (ZRA P 36) (ZRB P 36) xs z ∧ ZfO st w ∧ ZPD E sh z w P L)
    (by
      rintro k p q hk' ⟨z, w, s, rfl, rfl, hs, fz, fw, hR'⟩
      obtain ⟨j, hj⟩ : ∃ j, L.length - k = j + 1 := ⟨L.length - k - 1, by omega⟩
      have hj2 : L.length - (k + 1) = j := by omega
      rw [hj, nI_pred]
      obtain ⟨y, t, u, o, g1, g2, g3, g4, g5, g6, g7, g8⟩ := ZJ_so hR' hw (s &&& ((1 <<< (nI j &&& 31)) ^^^ (-1))) N hN
      have hnn := Znneg (show j < 2 ^ 31 by omega)
      have em1 : nI j + (-1) = nI j - 1 := by
        rw [Int32.sub_eq_add_neg]
      rcases g5 with rfl | rfl
      · simp only [fX1_reasonOf_L23, fX5_reasonOf_L17, if_neg hnn, Option.bind_some, Zb0 hb.1, g1, g2, g3, g4, if_true, em1, Zand_m1]
        refine Or.inl ⟨_, _, rfl, rfl, y, u, s, ?_, ?_, hs, fz.trans g6, fw.trans g7, g8⟩
        · rw [hj2]
        · rw [hj2]
      · simp only [fX1_reasonOf_L23, fX5_reasonOf_L17, if_neg hnn, Option.bind_some, Zb0 hb.1, g1, g2, g3, g4, Zne10, if_false, em1]
        refine Or.inl ⟨_, _, rfl, rfl, y, u, s &&& ((1 <<< (nI j &&& 31)) ^^^ (-1)), ?_, ?_, fun i hi => ?_, fz.trans g6, fw.trans g7, g8⟩
        · rw [hj2]
        · rw [hj2]
        · rw [Zt_and, Bool.and_eq_true] at hi
          exact hs i hi.1)
    (by
      rintro p q ⟨z, w, s, rfl, rfl, h⟩
      have hneg : nI (L.length - L.length) - 1 < (0 : Int32) := by
        rw [Nat.sub_self]
        decide
      simp only [fX1_reasonOf_L23, fX5_reasonOf_L17, if_pos hneg]
      exact ⟨_, _, rfl, rfl, z, w, s, rfl, rfl, h⟩)
    N (ZW E sh xs, (1 <<< (nI L.length &&& 31)) - 1, nI L.length - 1) (st, (1 <<< (nI L.length &&& 31)) - 1, nI L.length - 1) (by omega) ⟨xs, st, _, rfl, rfl, fun i hi => by
      rw [Zt_low0 _ (by omega) i (Zt_lt hi)] at hi
      simpa using hi, Zfr.rfl, ZfM.rfl, hR0⟩
  obtain ⟨z, w, s, rfl, rfl, h⟩ := E0
  refine ⟨z, w, s, ?_, ?_, h⟩
  · simp only [fX1_reasonOf, Zb0 hb.1, Option.bind_some, Zb1 hD.1, hl.1]
    exact e1
  · simp only [fX5_reasonOf, Option.bind_some, hd.1]
    exact e2
end RS
