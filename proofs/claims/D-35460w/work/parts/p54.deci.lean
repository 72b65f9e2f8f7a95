/-! decisions as lists; the store by a list of decisions -/
set_option maxRecDepth 100000
abbrev ZL : Type := List (Nat × Nat × Bool)
/-- the store with which all begins -/
def Zbeg (P : ZP) (L : ZL) (lv lb : Nat) (T : ZT0) : Prop := (∀ v, v < Znv P → Zkd P v ≤ 2 → ∀ k, k < 32 → (Zt (T.1 v) k = true ↔ Zt (Ztd P v) k = true ∧ (∀ e, e ∈ L → e.1 = v → (e.2.2 = true ↔ k = e.2.1)) ∧ (v = lv → k < lb))) ∧ ∀ v, v < Znv P → Zkd P v = 3 → T.2.1 v = Zfm P v ∧ T.2.2 v = Zto P v
theorem Zbeg_in {P : ZP} {L : ZL} {lv lb : Nat} {T : ZT0} (hP : ZPok P) (h : Zbeg P L lv lb T) : ZTin P T := fun v hv => ⟨fun hk k hkt => hP.2.2.2.1 v hv hk k ((h.1 v hv hk k (Zt_lt hkt)).mp hkt).1, fun hk => by
  obtain ⟨e1, e2⟩ := h.2 v hv hk
  rw [e1, e2]
  exact hP.2.2.2.2.1 v hv hk⟩
theorem Zbeg_sim {P : ZP} {L L' : ZL} {lv lb : Nat} {T U : ZT0} (h : Zbeg P L lv lb T) (h' : Zbeg P L' lv lb U) (hL : ∀ e, e ∈ L ↔ e ∈ L') : Zsim P T U := fun v hv => ⟨fun hk => Zt_ext fun k hk32 => by
  rw [Bool.eq_iff_iff, h.1 v hv hk k hk32, h'.1 v hv hk k hk32]
  simp only [hL], fun hk => by
  obtain ⟨a, b⟩ := h.2 v hv hk
  obtain ⟨a', b'⟩ := h'.2 v hv hk
  exact ⟨a.trans a'.symm, b.trans b'.symm⟩⟩
/-- decisions lie in three arrays -/
def Zdd (f g h : Nat → Int32) (L : ZL) : Prop := ∀ (i : Nat) (e : Nat × Nat × Bool), L[i]? = some e → f i = nI e.1 ∧ g i = nI e.2.1 ∧ e.2.1 < 32 ∧ h i = (if e.2.2 = true then 1 else 0)
theorem Zdd_app {f g h : Nat → Int32} {L : ZL} {e : Nat × Nat × Bool} (H : Zdd f g h L) (h1 : e.2.1 < 32) : Zdd (upd f L.length (nI e.1)) (upd g L.length (nI e.2.1)) (upd h L.length (if e.2.2 = true then 1 else 0)) (L ++ [e]) := by
  intro i e' he
  simp only [upd]
  rcases Nat.lt_trichotomy i L.length with q | q | q
  · rw [List.getElem?_append_left q] at he
    rw [if_neg (by omega), if_neg (by omega), if_neg (by omega)]
    exact H i e' he
  · subst q
    rw [List.getElem?_append_right (Nat.le_refl _), Nat.sub_self] at he
    cases Option.some.inj he
    rw [if_pos rfl, if_pos rfl, if_pos rfl]
    exact ⟨rfl, rfl, h1, rfl⟩
  · rw [List.getElem?_eq_none (by rw [List.length_append]; simp; omega)] at he
    cases he
theorem Zdd_take {f g h : Nat → Int32} {L : ZL} (H : Zdd f g h L) (n : Nat) : Zdd f g h (L.take n) := by
  intro i e he
  rw [List.getElem?_take] at he
  split at he
  · exact H i e he
  · cases he
/-- all are of variables with sets -/
def ZLv (P : ZP) (L : ZL) : Prop := ∀ e, e ∈ L → e.1 < Znv P ∧ Zkd P e.1 ≤ 2 ∧ e.2.1 < 32
/-- those of the first n that count -/
def ZLf (b : Nat → Bool) (L : ZL) : Nat → ZL
  | 0 => []
  | n + 1 => ZLf b L n ++ (if b n then (L[n]?).toList else [])
theorem ZLf_mem {b : Nat → Bool} {L : ZL} {e : Nat × Nat × Bool} : ∀ n, e ∈ ZLf b L n ↔ ∃ i, i < n ∧ b i = true ∧ L[i]? = some e := by
  intro n
  induction n with
  | zero => exact ⟨fun h => absurd h (by simp [ZLf]), fun ⟨i, h, _⟩ => absurd h (by omega)⟩
  | succ n ih =>
    simp only [ZLf, List.mem_append, ih]
    constructor
    · rintro (⟨i, h1, h2, h3⟩ | h)
      · exact ⟨i, by omega, h2, h3⟩
      · split at h
        · rename_i hb
          exact ⟨n, by omega, hb, by simpa using h⟩
        · cases h
    · rintro ⟨i, h1, h2, h3⟩
      by_cases q : i = n
      · subst q
        refine Or.inr ?_
        rw [if_pos h2, h3]
        simp
      · exact Or.inl ⟨i, by omega, h2, h3⟩
theorem ZLf_len {b : Nat → Bool} {L : ZL} : ∀ n, (ZLf b L n).length ≤ n := by
  intro n
  induction n with
  | zero => exact Nat.le_refl _
  | succ n ih =>
    simp only [ZLf, List.length_append]
    split
    · cases L[n]? <;> simp <;> omega
    · simp
      omega
theorem ZLf_all {b : Nat → Bool} {L : ZL} (h : ∀ i, i < L.length → b i = true) : ∀ n, n ≤ L.length → ZLf b L n = L.take n := by
  intro n
  induction n with
  | zero => intro _; rfl
  | succ n ih =>
    intro hn
    simp only [ZLf]
    rw [ih (by omega), if_pos (h n (by omega)), List.take_succ]
/-- X's decisions at a tag -/
def ZXl (xs : Zxs) (t : Nat) (L : ZL) : Prop := xs.1 t 3 = nI L.length ∧ L.length ≤ 413 ∧ Zdd (xs.2 (t + 1)) (xs.2 (t + 2)) (xs.2 (t + 3)) L
theorem ZXl.fr {A : Nat → Nat → Prop} {B : Nat → Prop} {x y : Zxs} {t : Nat} {L : ZL} (h : ZXl x t L) (hf : Zfr A B x y) (hA : ¬ A t 3) (h1 : ¬ B (t + 1)) (h2 : ¬ B (t + 2)) (h3 : ¬ B (t + 3)) : ZXl y t L := by
  unfold ZXl at h ⊢
  rw [hf.1 t 3 hA, hf.2 _ h1, hf.2 _ h2, hf.2 _ h3]
  exact h
theorem ZX_beginL {sh : Nat → Option Zsh} {xs : Zxs} {P : ZP} {E : Ze} {ts td : Nat} {taken : Int32} {L : ZL} (hP : ZPok P) (hv : ZXv sh xs P) (hS : ZS sh ts) (hD : ZDc sh td) (hd : ZXl xs td L) (hL : ZLv P L) (hap : ts + 4 ≤ td ∨ td + 4 ≤ ts) (h99 : ts + 4 ≤ 100) (N : Nat) (hN : 1000 ≤ N) :
    ∃ xs', fX1_begin N (ZW E sh xs) (Zl E 1) (Zl E ts) (Zl E td) taken = some (ZW E sh xs') ∧ Zfr (fun _ _ => False) (fun t => t = ts + 1 ∨ t = ts + 2 ∨ t = ts + 3) xs xs' ∧ Zbeg P (ZLf (fun d => decide (12 ≤ d) || Zt taken d) L L.length) 1000 0 (ZTs xs' ts) := by
  have hn10 := hP.1
  obtain ⟨d1, d2, d3⟩ := hd
  have hget : ∀ d, d < L.length → ∃ e, L[d]? = some e := fun d hd => ⟨_, List.getElem?_eq_getElem hd⟩
  obtain ⟨dv, hdv⟩ : ∃ dv : Nat → Nat, ∀ d e, L[d]? = some e → dv d = e.1 := ⟨fun d => ((L[d]?).getD (0, 0, false)).1, fun d e h => by simp [h]⟩
  obtain ⟨dk, hdk⟩ : ∃ dk : Nat → Nat, ∀ d e, L[d]? = some e → dk d = e.2.1 := ⟨fun d => ((L[d]?).getD (0, 0, false)).2.1, fun d e h => by simp [h]⟩
  obtain ⟨dh, hdh⟩ : ∃ dh : Nat → Prop, ∀ d e, L[d]? = some e → (dh d ↔ e.2.2 = true) := ⟨fun d => ((L[d]?).getD (0, 0, false)).2.2 = true, fun d e h => by simp [h]⟩
  have hXd : ZXd xs td L.length dv dk dh := by
    refine ⟨d1, d2, fun d hd => ?_⟩
    obtain ⟨e, he⟩ := hget d hd
    obtain ⟨q1, q2, q3, q4⟩ := d3 d e he
    rw [hdv d e he, hdk d e he, q4]
    refine ⟨q1, q2, q3, ?_, ?_⟩
    · split
      · exact Or.inr rfl
      · exact Or.inl rfl
    · rw [hdh d e he]
      split
      · rename_i g
        exact ⟨fun _ => g, fun _ => rfl⟩
      · rename_i g
        exact ⟨fun h => absurd h (by decide), fun h => absurd h g⟩
  obtain ⟨xs', e1, f1, b1, b2⟩ := ZX_begin (E := E) (taken := taken) hP hv hS hD hXd (fun d hd => by
    obtain ⟨e, he⟩ := hget d hd
    rw [hdv d e he]
    exact (hL e (List.mem_of_getElem? he)).1) hap h99 N hN
  refine ⟨xs', e1, f1, fun v hv' hk k hk32 => ?_, b2⟩
  have q : Zt ((ZTs xs' ts).1 v) k = true ↔ _ := b1 v hv' hk k hk32
  rw [q]
  constructor
  · rintro ⟨g1, g2⟩
    refine ⟨g1, fun e he hev => ?_, fun h => by omega⟩
    obtain ⟨d, h1, h2, h3⟩ := (ZLf_mem _).mp he
    have := g2 d h1 (by simpa using h2) (by rw [hdv d e h3]; exact hev)
    unfold Zdl at this
    rw [hdh d e h3, hdk d e h3] at this
    exact this
  · rintro ⟨g1, g2, -⟩
    refine ⟨g1, fun d hd hc hdv' => ?_⟩
    obtain ⟨e, he⟩ := hget d hd
    have := g2 e ((ZLf_mem _).mpr ⟨d, hd, by simpa using hc, he⟩) (by rw [← hdv d e he]; exact hdv')
    unfold Zdl
    rw [hdh d e he, hdk d e he]
    exact this
/-- M's decisions that stand; those that are taken -/
def ZMdc (st : zMS) (L : ZL) : Prop := st.1 24 = nI L.length ∧ L.length ≤ 12 ∧ Zdd (st.2 25) (st.2 26) (st.2 27) L
def ZMtk (st : zMS) (L : ZL) : Prop := st.1 28 = nI L.length ∧ L.length ≤ 800 ∧ Zdd (st.2 29) (st.2 30) (st.2 31) L
theorem Zzb {b : Bool} : zb (if b = true then 1 else 0) = if b = true then 1 else 0 := by cases b <;> decide
/-- the frame of decisions that are taken -/
abbrev ZfT (st st' : zMS) : Prop := ZfM (fun f => f = 28) (fun f => f = 29 ∨ f = 30 ∨ f = 31) st st'
theorem ZM_one {st : zMS} {L : ZL} {e : Nat × Nat × Bool} (h : ZMtk st L) (hl : L.length < 800) (he : e.2.1 < 32) : ∃ z, fX5_takesOne st (nI e.1) (nI e.2.1) (if e.2.2 = true then 1 else 0) = some z ∧ ZfT st z ∧ ZMtk z (L ++ [e]) := by
  obtain ⟨h1, h2, h3⟩ := h
  simp (disch := omega) only [fX5_takesOne, h1, ZMA, Option.bind_some, zps, Zzb, nI_1]
  refine ⟨_, rfl, ZfM.num (ZfM.arr (ZfM.arr (ZfM.arr ZfM.rfl (by omega)) (by omega)) (by omega)) rfl, ?_, ?_, ?_⟩
  · simp only [zus_s, List.length_append, List.length_singleton]
  · simp only [List.length_append, List.length_singleton]
    omega
  · have := Zdd_app h3 (e := e) he
    simp only [zua, if_true, if_neg (show ¬ 29 = 31 by decide), if_neg (show ¬ 29 = 30 by decide), if_neg (show ¬ 30 = 31 by decide), if_neg (show ¬ 30 = 29 by decide), if_neg (show ¬ 31 = 29 by decide), if_neg (show ¬ 31 = 30 by decide)]
    exact this
theorem ZM_takes {st : zMS} {L : ZL} {s : Int32} (h : ZMdc st L) (N : Nat) (hN : 1000 ≤ N) : ∃ z, fX5_takesDecisions N st s = some z ∧ ZfT st z ∧ ZMtk z (ZLf (Zt s) L L.length) := by
  obtain ⟨h1, h2, h3⟩ := h
  have I := Zl_inv (body := fX5_takesDecisions_L7 s) (fun i a => ∃ z, a = (z, nI i) ∧ ZfT st z ∧ ZMtk z (ZLf (Zt s) L i)) L.length (fun z => ZfT st z ∧ ZMtk z (ZLf (Zt s) L L.length))
    (by
      rintro i a hi ⟨z, rfl, fz, hz⟩
      have e24 : z.1 24 = nI L.length := by rw [fz.1 24 (by omega)]; exact h1
      have e25 : z.2 25 = st.2 25 := fz.2 25 (by omega)
      have e26 : z.2 26 = st.2 26 := fz.2 26 (by omega)
      have e27 : z.2 27 = st.2 27 := fz.2 27 (by omega)
      by_cases q : Zt s i = true
      · have q1 := (Zt_has (x := s) (k := i) (by omega)).mpr q
        obtain ⟨e, he⟩ : ∃ e, L[i]? = some e := ⟨_, List.getElem?_eq_getElem hi⟩
        obtain ⟨d1, d2, d3, d4⟩ := h3 i e he
        obtain ⟨w, ew, fw, hw⟩ := ZM_one hz (by have := ZLf_len (b := Zt s) (L := L) i; omega) d3
        simp (disch := omega) only [fX5_takesDecisions_L7, e24, if_neg (nI_ge hi (show L.length < 2 ^ 31 by omega)), if_pos q1, ZMA, e25, e26, e27, d1, d2, d4, Option.bind_some, ew, nI_1]
        refine ⟨_, rfl, w, rfl, fz.trans fw, ?_⟩
        simp only [ZLf, if_pos q, he]
        exact hw
      · have q1 : ¬ (s >>> (nI i &&& 31)) &&& 1 = 1 := fun g => q ((Zt_has (by omega)).mp g)
        simp only [fX5_takesDecisions_L7, e24, if_neg (nI_ge hi (show L.length < 2 ^ 31 by omega)), if_neg q1, Option.bind_some, nI_1]
        refine ⟨_, rfl, z, rfl, fz, ?_⟩
        simp only [ZLf, if_neg q, List.append_nil]
        exact hz)
    (by
      rintro a ⟨z, rfl, fz, hz⟩
      have e24 : z.1 24 = nI L.length := by rw [fz.1 24 (by omega)]; exact h1
      simp only [fX5_takesDecisions_L7, e24, if_pos (nI_le (Nat.le_refl _) (show L.length < 2 ^ 31 by omega))]
      exact ⟨_, rfl, fz, hz⟩)
    N ((zus st.1 28 0, st.2), (0 : Int32)) (by omega) ⟨_, rfl, ZfM.num ZfM.rfl rfl, by
      refine ⟨?_, by simp [ZLf], fun i e he => by simp [ZLf] at he⟩
      simp only [zus_s, ZLf]
      rfl⟩
  obtain ⟨z, e, f, hz⟩ := I
  refine ⟨z, ?_, f, hz⟩
  simp only [fX5_takesDecisions, Option.bind_some, zps]
  exact e
/-- M's store by what is taken -/
theorem ZM_findsL {st : zMS} {P : ZP} {L : ZL} (hP : ZPok P) (hM : ZMP st P) (hd : ZMtk st L) (hL : ZLv P L) {lv lb : Nat} (hl : ZMl st P lv lb) (N : Nat) (hN : 5000 ≤ N) :
    ∃ z T0 m l, fX5_finds N st = some z ∧ ZfQ st z ∧ Zbeg P L lv lb T0 ∧ z.1 38 = nI m ∧ m ≤ 2410 ∧ (z.1 37 = 0 ∨ z.1 37 = 1) ∧ (z.1 37 = 1 ↔ Zfail P (ZTm z)) ∧ ZEnd P T0 m (ZTm z) l ∧ ZTrM z l ∧ l.length ≤ 320 ∧ (¬ Zfail P (ZTm z) → ZTok P (ZTm z)) := by
  obtain ⟨d1, d2, d3⟩ := hd
  have hget : ∀ d, d < L.length → ∃ e, L[d]? = some e := fun d hd => ⟨_, List.getElem?_eq_getElem hd⟩
  obtain ⟨dv, hdv⟩ : ∃ dv : Nat → Nat, ∀ d e, L[d]? = some e → dv d = e.1 := ⟨fun d => ((L[d]?).getD (0, 0, false)).1, fun d e h => by simp [h]⟩
  obtain ⟨dk, hdk⟩ : ∃ dk : Nat → Nat, ∀ d e, L[d]? = some e → dk d = e.2.1 := ⟨fun d => ((L[d]?).getD (0, 0, false)).2.1, fun d e h => by simp [h]⟩
  obtain ⟨dh, hdh⟩ : ∃ dh : Nat → Prop, ∀ d e, L[d]? = some e → (dh d ↔ e.2.2 = true) := ⟨fun d => ((L[d]?).getD (0, 0, false)).2.2 = true, fun d e h => by simp [h]⟩
  have hMd : ZMd st L.length dv dk dh := by
    refine ⟨d1, d2, fun d hd => ?_⟩
    obtain ⟨e, he⟩ := hget d hd
    obtain ⟨q1, q2, q3, q4⟩ := d3 d e he
    rw [hdv d e he, hdk d e he, q4]
    refine ⟨q1, q2, q3, ?_, ?_⟩
    · split
      · exact Or.inr rfl
      · exact Or.inl rfl
    · rw [hdh d e he]
      split
      · rename_i g
        exact ⟨fun _ => g, fun _ => rfl⟩
      · rename_i g
        exact ⟨fun h => absurd h (by decide), fun h => absurd h g⟩
  obtain ⟨z, T0, m, l, e1, f1, hb, h⟩ := ZM_finds hP hM hMd (fun d hd => by
    obtain ⟨e, he⟩ := hget d hd
    rw [hdv d e he]
    exact (hL e (List.mem_of_getElem? he)).1) hl N hN
  refine ⟨z, T0, m, l, e1, f1, ⟨fun v hv hk k hk32 => ?_, hb.2⟩, h⟩
  rw [hb.1 v hv hk k hk32]
  constructor
  · rintro ⟨g1, g2, g3⟩
    refine ⟨g1, fun e he hev => ?_, g3⟩
    obtain ⟨d, hd⟩ := List.getElem?_of_mem he
    have hdl : d < L.length := by
      rcases Nat.lt_or_ge d L.length with q | q
      · exact q
      · rw [List.getElem?_eq_none q] at hd
        cases hd
    have := g2 d hdl (by rw [hdv d e hd]; exact hev)
    unfold Zdl at this
    rw [hdh d e hd, hdk d e hd] at this
    exact this
  · rintro ⟨g1, g2, g3⟩
    refine ⟨g1, fun d hd hdv' => ?_, g3⟩
    obtain ⟨e, he⟩ := hget d hd
    have := g2 e (List.mem_of_getElem? he) (by rw [← hdv d e he]; exact hdv')
    unfold Zdl
    rw [hdh d e he, hdk d e he]
    exact this
