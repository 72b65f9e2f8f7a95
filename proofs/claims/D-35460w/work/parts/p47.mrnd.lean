/-! M: a round -/
set_option maxRecDepth 100000
theorem Zand01 {a b : Int32} (ha : a = 0 ∨ a = 1) (hb : b = 0 ∨ b = 1) : (a &&& b = 0 ∨ a &&& b = 1) ∧ (a &&& b = 1 ↔ a = 1 ∧ b = 1) := by
  rcases ha with rfl | rfl <;> rcases hb with rfl | rfl <;> decide
/-- what a round leaves of a set; the first remover -/
noncomputable def Znx (P : ZP) (T : ZT0) (v : Nat) : Int32 := Zmk (fun k => Zt (T.1 v) k && @decide (∀ c, c < Znc P → ¬ Zag P T c v k) (Classical.propDecidable _)) 32
noncomputable def Zfcc (P : ZP) (T : ZT0) (v k : Nat) : Nat := @dite _ (∃ c, Zfc P T v k c) (Classical.propDecidable _) (fun h => h.choose) (fun _ => 0)
theorem Znx_t {P : ZP} {T : ZT0} {v k : Nat} (hk : k < 32) : Zt (Znx P T v) k = true ↔ Zt (T.1 v) k = true ∧ ∀ c, c < Znc P → ¬ Zag P T c v k := by
  unfold Znx
  rw [Zt_mk _ 32 (Nat.le_refl _)]
  simp only [hk, decide_true, Bool.true_and, Bool.and_eq_true, decide_eq_true_eq]
theorem Zfcc_eq {P : ZP} {T : ZT0} {v k c : Nat} (h : Zfc P T v k c) : Zfcc P T v k = c := by
  have hx : ∃ c, Zfc P T v k c := ⟨c, h⟩
  unfold Zfcc
  rw [dif_pos hx]
  have h2 := hx.choose_spec
  rcases Nat.lt_trichotomy hx.choose c with g | g | g
  · exact absurd h2.2.1 (h.2.2 _ g)
  · exact g
  · exact absurd h.2.1 (h2.2.2 _ g)
/-- M's trace is a list -/
def ZTrM (st : zMS) (l : List (Nat × Nat × Nat × Nat)) : Prop := st.1 39 = nI l.length ∧ ∀ (i : Nat) (e : Nat × Nat × Nat × Nat), l[i]? = some e → st.2 40 (4 * i) = nI e.1 ∧ st.2 40 (4 * i + 1) = nI e.2.1 ∧ st.2 40 (4 * i + 2) = nI e.2.2.1 ∧ st.2 40 (4 * i + 3) = nI e.2.2.2
section MR
variable {st : zMS} {P : ZP}
theorem ZM_against (hP : ZPok P) (hM : ZMP st P) {T : ZT0} {v k : Nat} (hv : v < Znv P) (hk : k < 32) (hsup : ∀ c, c < Znc P → ∀ p, p < Zmn P c → Zpl P c p = v → (Zt (st.2 41 (8 * c + p)) k = true ↔ Zsup P T c p k)) (N : Nat) (hN : 1000 ≤ N) : ∃ r, fX5_against N st (nI v) (nI k) = some r ∧ ((r = -1 ∧ ∀ c, c < Znc P → ¬ Zag P T c v k) ∨ ∃ c, r = nI c ∧ Zfc P T v k c) := by
  have hnc := hP.2.1
  have hn10 := hP.1
  have L := Zl_ex (body := fX5_against_L2 N st (nI v) (nI k)) (fun c a => a = nI c ∧ ∀ c', c' < c → ¬ Zag P T c' v k) (Znc P) (fun r => (r = -1 ∧ ∀ c, c < Znc P → ¬ Zag P T c v k) ∨ ∃ c, r = nI c ∧ Zfc P T v k c)
    (by
      rintro c a hc ⟨rfl, hno⟩
      have hC := hP.2.2.2.2.2 c hc
      have m8 := hC.2.1
      obtain ⟨-, e17, e18, -⟩ := hM.2.2.2 c hc
      have I := Zl_ex (body := fX5_against_L13 st (nI v) (nI k) (nI c)) (fun p a => a = nI p ∧ ∀ p', p' < p → ¬ (Zpl P c p' = v ∧ ¬ Zsup P T c p' k)) (Zmn P c) (fun r => (r = Sum.inl () ∧ ¬ Zag P T c v k) ∨ (r = Sum.inr (Sum.inr (nI c)) ∧ Zag P T c v k))
        (by
          rintro p a hp ⟨rfl, hq⟩
          have hpl := hC.2.2.1 p hp
          have e18 := e18 p hp
          by_cases q : Zpl P c p = v
          · have hs := hsup c hc p hp q
            cases e : Zt (st.2 41 (8 * c + p)) k with
            | false =>
              have hz := (Zt_uhas0 hk).mpr e
              simp (disch := omega) only [fX5_against_L13, ZMA, e17, Option.bind_some, if_neg (nI_ge hp (show Zmn P c < 2 ^ 31 by omega)), Zm8, nI_add, e18, if_pos (show nI (Zpl P c p) = nI v by rw [q]), if_pos hz, Zesc_r]
              exact Or.inr ⟨_, rfl, Or.inr ⟨rfl, p, hp, q, fun h => by rw [hs.mpr h] at e; cases e⟩⟩
            | true =>
              have hz : ¬ ((st.2 41 (8 * c + p)).toUInt32 >>> ((nI k).toUInt32 &&& Int32.toUInt32 31)).toInt32 &&& 1 = 0 := fun h => by rw [(Zt_uhas0 hk).mp h] at e; cases e
              simp (disch := omega) only [fX5_against_L13, ZMA, e17, Option.bind_some, if_neg (nI_ge hp (show Zmn P c < 2 ^ 31 by omega)), Zm8, nI_add, e18, if_pos (show nI (Zpl P c p) = nI v by rw [q]), if_neg hz, Zesc_l, nI_1]
              refine Or.inl ⟨_, rfl, rfl, fun p' hp' => ?_⟩
              by_cases z : p' = p
              · subst z
                exact fun h => h.2 (hs.mp e)
              · exact hq p' (by omega)
          · have hne : ¬ nI (Zpl P c p) = nI v := fun h => q ((nI_eq (by omega) (by omega)).mp h)
            simp (disch := omega) only [fX5_against_L13, ZMA, e17, Option.bind_some, if_neg (nI_ge hp (show Zmn P c < 2 ^ 31 by omega)), Zm8, nI_add, e18, if_neg hne, Zesc_l, nI_1]
            refine Or.inl ⟨_, rfl, rfl, fun p' hp' => ?_⟩
            by_cases z : p' = p
            · subst z
              exact fun h => q h.1
            · exact hq p' (by omega))
        (by
          rintro a ⟨rfl, hq⟩
          simp (disch := omega) only [fX5_against_L13, ZMA, e17, Option.bind_some, if_pos (nI_le (Nat.le_refl _) (show Zmn P c < 2 ^ 31 by omega))]
          exact ⟨_, rfl, Or.inl ⟨rfl, fun ⟨p, h1, h2, h3⟩ => hq p h1 ⟨h2, h3⟩⟩⟩)
        N (0 : Int32) (by omega) ⟨rfl, fun p' h => absurd h (by omega)⟩
      obtain ⟨r, er, hr⟩ := I
      simp only [fX5_against_L2, hM.2.1, if_neg (nI_ge hc (show Znc P < 2 ^ 31 by omega)), er]
      rcases hr with ⟨rfl, hr⟩ | ⟨rfl, hr⟩
      · simp only [Zesc_l, Option.bind_some, nI_1]
        refine Or.inl ⟨_, rfl, rfl, fun c' hc' => ?_⟩
        by_cases z : c' = c
        · subst z
          exact hr
        · exact hno c' (by omega)
      · simp only [Zesc_r]
        exact Or.inr ⟨_, rfl, Or.inr ⟨c, rfl, hc, hr, hno⟩⟩)
    (by
      rintro a ⟨rfl, hno⟩
      simp only [fX5_against_L2, hM.2.1, if_pos (nI_le (Nat.le_refl _) (show Znc P < 2 ^ 31 by omega))]
      exact ⟨_, rfl, Or.inl ⟨rfl, hno⟩⟩)
    N (0 : Int32) (by omega) ⟨rfl, fun c' h => absurd h (by omega)⟩
  exact L
theorem ZM_ragr (hP : ZPok P) (hM : ZMP st P) (hT : ZTok P (ZTm st)) {v : Nat} (hv : v < Znv P) (hk : Zkd P v = 3) {w : Int32} {x : Int} (hw : w.toInt = x) (x1 : -200 ≤ x) (x2 : x ≤ 200) (N : Nat) (hN : 1000 ≤ N) : ∃ b : Int32, fX5_ratioAgrees N st (nI v) w = some b ∧ (b = 0 ∨ b = 1) ∧ (b = 1 ↔ ZrA P (ZTm st) v x) := by
  have hnc := hP.2.1
  have hn10 := hP.1
  have L := Zl_inv (body := fX5_ratioAgrees_L5 N st (nI v) w) (fun c a => ∃ b : Int32, a = (b, nI c) ∧ (b = 0 ∨ b = 1) ∧ (b = 1 ↔ ∀ c', c' < c → Zso P c' = 0 → ∀ p, p < Zmn P c' → Zpl P c' p = v → ZLok P (ZTm st) c' p x)) (Znc P) (fun b => (b = 0 ∨ b = 1) ∧ (b = 1 ↔ ZrA P (ZTm st) v x))
    (by
      rintro c a hc ⟨b, rfl, hb, hb1⟩
      have hC := hP.2.2.2.2.2 c hc
      have m8 := hC.2.1
      have s17 := hC.2.2.2.1
      obtain ⟨e16, e17, e18, -⟩ := hM.2.2.2 c hc
      have I := Zl_inv (body := fX5_ratioAgrees_L17 N st (nI v) w (b, nI c)) (fun p a => ∃ d : Int32, a = (d, nI p) ∧ (d = 0 ∨ d = 1) ∧ (d = 1 ↔ b = 1 ∧ (Zso P c = 0 → ∀ p', p' < p → Zpl P c p' = v → ZLok P (ZTm st) c p' x))) (Zmn P c) (fun d => (d = 0 ∨ d = 1) ∧ (d = 1 ↔ b = 1 ∧ (Zso P c = 0 → ∀ p', p' < Zmn P c → Zpl P c p' = v → ZLok P (ZTm st) c p' x)))
        (by
          rintro p a hp ⟨d, rfl, hd, hd1⟩
          have hpl := hC.2.2.1 p hp
          have e18 := e18 p hp
          have key : ∀ t : Int32, (t = 0 ∨ t = 1) → (t = 1 ↔ (Zso P c = 0 → Zpl P c p = v → ZLok P (ZTm st) c p x)) → ∃ d' : Int32, ((d &&& t, nI (p + 1)) : Int32 × Int32) = (d', nI (p + 1)) ∧ (d' = 0 ∨ d' = 1) ∧ (d' = 1 ↔ b = 1 ∧ (Zso P c = 0 → ∀ p', p' < p + 1 → Zpl P c p' = v → ZLok P (ZTm st) c p' x)) := by
            intro t ht ht1
            obtain ⟨o1, o2⟩ := Zand01 hd ht
            refine ⟨_, rfl, o1, ?_⟩
            rw [o2, hd1, ht1]
            constructor
            · rintro ⟨⟨g1, g2⟩, g3⟩
              refine ⟨g1, fun hs p' hp' hv' => ?_⟩
              by_cases z : p' = p
              · subst z
                exact g3 hs hv'
              · exact g2 hs p' (by omega) hv'
            · rintro ⟨g1, g2⟩
              exact ⟨⟨g1, fun hs p' hp' => g2 hs p' (by omega)⟩, fun hs hv' => g2 hs p (by omega) hv'⟩
          by_cases hs : Zso P c = 0
          · by_cases q : Zpl P c p = v
            · obtain ⟨t, et, ht, ht1⟩ := ZM_lin hP hM hc hs hT hp hw (by rw [q]; unfold Zun; rw [if_pos hk]; omega) (by rw [q]; unfold Zun; rw [if_pos hk]; omega) N hN
              have k := key t ht ⟨fun h _ _ => ht1.mp h, fun h => ht1.mpr (h hs q)⟩
              rcases ht with rfl | rfl
              · simp (disch := omega) only [fX5_ratioAgrees_L17, ZMA, e17, e16, Option.bind_some, if_neg (nI_ge hp (show Zmn P c < 2 ^ 31 by omega)), if_pos (show nI (Zso P c) = 0 by rw [hs]; rfl), Zm8, nI_add, e18, if_pos (show nI (Zpl P c p) = nI v by rw [q]), et, if_true, Zesc_r, nI_1]
                exact ⟨_, rfl, k⟩
              · simp (disch := omega) only [fX5_ratioAgrees_L17, ZMA, e17, e16, Option.bind_some, if_neg (nI_ge hp (show Zmn P c < 2 ^ 31 by omega)), if_pos (show nI (Zso P c) = 0 by rw [hs]; rfl), Zm8, nI_add, e18, if_pos (show nI (Zpl P c p) = nI v by rw [q]), et, Zne10, if_false, Zesc_l, nI_1]
                exact ⟨_, rfl, k⟩
            · have hne : ¬ nI (Zpl P c p) = nI v := fun h => q ((nI_eq (by omega) (by omega)).mp h)
              simp (disch := omega) only [fX5_ratioAgrees_L17, ZMA, e17, e16, Option.bind_some, if_neg (nI_ge hp (show Zmn P c < 2 ^ 31 by omega)), if_pos (show nI (Zso P c) = 0 by rw [hs]; rfl), Zm8, nI_add, e18, if_neg hne, Zesc_l, nI_1]
              exact ⟨_, rfl, key 1 (Or.inr rfl) ⟨fun _ _ h => absurd h q, fun _ => rfl⟩⟩
          · have hne : ¬ nI (Zso P c) = 0 := fun h => hs ((nI_eq (a := Zso P c) (b := 0) (by omega) (by omega)).mp h)
            simp (disch := omega) only [fX5_ratioAgrees_L17, ZMA, e17, e16, Option.bind_some, if_neg (nI_ge hp (show Zmn P c < 2 ^ 31 by omega)), if_neg hne, Zesc_l, nI_1]
            exact ⟨_, rfl, key 1 (Or.inr rfl) ⟨fun _ h => absurd h hs, fun _ => rfl⟩⟩)
        (by
          rintro a ⟨d, rfl, h⟩
          simp (disch := omega) only [fX5_ratioAgrees_L17, ZMA, e17, Option.bind_some, if_pos (nI_le (Nat.le_refl _) (show Zmn P c < 2 ^ 31 by omega))]
          exact ⟨_, rfl, h⟩)
        N (b, (0 : Int32)) (by omega) ⟨b, rfl, hb, fun h => ⟨h, fun _ p' hp' => absurd hp' (by omega)⟩, fun h => h.1⟩
      obtain ⟨d, ed, hd, hd1⟩ := I
      simp only [fX5_ratioAgrees_L5, hM.2.1, if_neg (nI_ge hc (show Znc P < 2 ^ 31 by omega)), ed, Option.bind_some, nI_1]
      refine ⟨_, rfl, d, rfl, hd, ?_⟩
      rw [hd1, hb1]
      constructor
      · rintro ⟨g1, g2⟩ c' hc' hs p hp hv'
        by_cases z : c' = c
        · subst z
          exact g2 hs p hp hv'
        · exact g1 c' (by omega) hs p hp hv'
      · intro h
        exact ⟨fun c' hc' => h c' (by omega), fun hs p hp hv' => h c (by omega) hs p hp hv'⟩)
    (by
      rintro a ⟨b, rfl, hb, hb1⟩
      simp only [fX5_ratioAgrees_L5, hM.2.1, if_pos (nI_le (Nat.le_refl _) (show Znc P < 2 ^ 31 by omega)), Zzq hb, Option.bind_some]
      exact ⟨_, rfl, hb, hb1⟩)
    N ((1 : Int32), (0 : Int32)) (by omega) ⟨1, rfl, Or.inr rfl, fun _ c' hc' => absurd hc' (by omega), fun _ => rfl⟩
  exact L
/-- the frame of a round before it is taken over -/
abbrev ZfR (st st' : zMS) : Prop := ZfM (fun f => f = 39) (fun f => 40 ≤ f ∧ f ≤ 44) st st'
theorem ZfR.mp {st st' : zMS} {P : ZP} (hf : ZfR st st') (h : ZMP st P) : ZMP st' P := h.fr hf (fun f q => by unfold ZMf; omega) (fun f q => by unfold ZMf; omega)
theorem ZfR.tm {st st' : zMS} (hf : ZfR st st') : ZTm st' = ZTm st := by unfold ZTm; rw [hf.2 34 (by omega), hf.2 35 (by omega), hf.2 36 (by omega)]
theorem ZTrM_app {y z : zMS} {l : List (Nat × Nat × Nat × Nat)} {e : Nat × Nat × Nat × Nat} (h : ZTrM y l) (h1 : z.1 39 = nI (l.length + 1)) (h2 : z.2 40 = upd (upd (upd (upd (y.2 40) (4 * l.length) (nI e.1)) (4 * l.length + 1) (nI e.2.1)) (4 * l.length + 2) (nI e.2.2.1)) (4 * l.length + 3) (nI e.2.2.2)) : ZTrM z (l ++ [e]) := by
  refine ⟨by rw [h1, List.length_append]; rfl, fun i e' he => ?_⟩
  rw [h2]
  simp only [upd]
  rcases Nat.lt_trichotomy i l.length with g | g | g
  · rw [List.getElem?_append_left g] at he
    obtain ⟨q1, q2, q3, q4⟩ := h.2 i e' he
    refine ⟨?_, ?_, ?_, ?_⟩
    · rw [if_neg (by omega), if_neg (by omega), if_neg (by omega), if_neg (by omega)]
      exact q1
    · rw [if_neg (by omega), if_neg (by omega), if_neg (by omega), if_neg (by omega)]
      exact q2
    · rw [if_neg (by omega), if_neg (by omega), if_neg (by omega), if_neg (by omega)]
      exact q3
    · rw [if_neg (by omega), if_neg (by omega), if_neg (by omega), if_neg (by omega)]
      exact q4
  · subst g
    rw [List.getElem?_append_right (Nat.le_refl _), Nat.sub_self] at he
    cases Option.some.inj he
    refine ⟨?_, ?_, ?_, ?_⟩
    · rw [if_neg (by omega), if_neg (by omega), if_neg (by omega), if_pos rfl]
    · rw [if_neg (by omega), if_neg (by omega), if_pos rfl]
    · rw [if_neg (by omega), if_pos rfl]
    · rw [if_pos rfl]
  · rw [List.getElem?_eq_none (by rw [List.length_append]; simp; omega)] at he
    cases he
end MR
