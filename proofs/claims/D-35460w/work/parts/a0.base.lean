/-! BASE: the abstract heap, M's state, the operations of the functions (no machine) -/
set_option maxRecDepth 100000
abbrev zE : Type := (Nat × vp_A) ⊕ (Nat × List Value)
abbrev zH : Type := (Nat → Nat) × (Nat → Option zE)
def zset (σ : zH) (a : Nat) (e : zE) : zH := (σ.1, fun q => if q = a then some e else σ.2 q)
theorem bnd {α β : Type} {a : Option α} {f : α → Option β} {b : β} (h : a.bind f = some b) : ∃ x, a = some x ∧ f x = some b := Option.bind_eq_some_iff.mp h
/-- loops: the body says to go on (inl) or to leave (inr) -/
def zloop {α β : Type} (body : α → Option (α ⊕ β)) : Nat → α → Option β
  | 0, _ => none
  | n + 1, a => (body a).bind fun o => match o with
    | .inl a' => zloop body n a'
    | .inr b => some b
theorem zloop_walk {α β : Type} {body : α → Option (α ⊕ β)} {V : α → Prop} {E : β → Prop} (hb : ∀ a o, body a = some o → (∀ a', o = .inl a' → V a') → (∀ b, o = .inr b → E b) → V a) : ∀ (n : Nat) (a : α) (b : β), zloop body n a = some b → E b → V a := by
  intro n
  induction n with
  | zero => intro a b h; cases h
  | succ n ih =>
    intro a b h hE
    simp only [zloop] at h
    obtain ⟨o, h1, h2⟩ := bnd h
    refine hb a o h1 (fun a' e => ?_) (fun b' e => ?_)
    · subst e
      exact ih a' b h2 hE
    · subst e
      cases Option.some.inj h2
      exact hE
def zin (i : Int32) (n : Nat) : Bool := !(decide (i < 0) || decide (n ≤ i.toNatClampNeg))
theorem zin_vp {i : Int32} {n : Nat} (h : zin i n = true) : vp_in i n := by
  intro q
  rcases q with q | q <;> simp [zin, q] at h
def zb (x : Int32) : Int32 := vp_nar .boolean x
/-- what a boolean answer must be -/
def zq (x : Int32) : Option Int32 := if x = 0 ∨ x = 1 then some x else none
theorem zq_spec {x y : Int32} (h : zq x = some y) : y = x ∧ (x = 0 ∨ x = 1) := by
  unfold zq at h
  split at h
  · rename_i g
    exact ⟨(Option.some.inj h).symm, g⟩
  · cases h
/-- the same, with the fuel that is left in the judgement -/
theorem zloop_walkN {α β : Type} {body : α → Option (α ⊕ β)} {V : Nat → α → Prop} {E : β → Prop} (hb : ∀ n a o, body a = some o → (∀ a', o = .inl a' → V n a') → (∀ b, o = .inr b → E b) → V (n + 1) a) : ∀ (n : Nat) (a : α) (b : β), zloop body n a = some b → E b → V n a := by
  intro n
  induction n with
  | zero => intro a b h; cases h
  | succ n ih =>
    intro a b h hE
    simp only [zloop] at h
    obtain ⟨o, h1, h2⟩ := bnd h
    refine hb n a o h1 (fun a' e => ?_) (fun b' e => ?_)
    · subst e
      exact ih a' b h2 hE
    · subst e
      cases Option.some.inj h2
      exact hE
/-- a piece of code that goes on (inl) or leaves what is around it (inr) -/
def zesc {α β : Type} (r : Option (α ⊕ β)) (f : α → Option β) : Option β := r.bind fun u => match u with
  | .inl a => f a
  | .inr b => some b
theorem zesc_bnd {α β : Type} {r : Option (α ⊕ β)} {f : α → Option β} {o : β} (h : zesc r f = some o) : ∃ u, r = some u ∧ (∀ t, u = .inl t → f t = some o) ∧ (∀ b, u = .inr b → b = o) := by
  obtain ⟨u, h1, h2⟩ := bnd h
  refine ⟨u, h1, fun t e => ?_, fun b e => ?_⟩
  · subst e
    exact h2
  · subst e
    exact Option.some.inj h2
abbrev zMS : Type := (Nat → Int32) × (Nat → Nat → Int32)
def zMoL : List Nat := [0, 1, 2, 3, 4, 0, 5, 0, 6, 0, 7, 0, 8, 9, 10, 0, 11, 12, 13, 14, 15, 16, 17, 18, 0, 19, 20, 21, 0, 22, 23, 24, 0, 0, 25, 26, 27, 0, 0, 0, 28, 29, 30, 31, 32, 33, 0, 0, 0, 0, 34, 0, 35, 36, 37, 0, 0, 38, 39, 40, 41, 42, 43, 44, 0, 45, 46, 47, 0, 48, 49, 50]
def zMiL : List Nat := [0, 1, 2, 3, 4, 6, 8, 10, 12, 13, 14, 16, 17, 18, 19, 20, 21, 22, 23, 25, 26, 27, 29, 30, 31, 34, 35, 36, 40, 41, 42, 43, 44, 45, 50, 52, 53, 54, 57, 58, 59, 60, 61, 62, 63, 65, 66, 67, 69, 70, 71]
def zMlL : List Nat := [0, 10, 10, 10, 10, 0, 6, 0, 6, 0, 48, 0, 6, 6, 6, 0, 24, 24, 192, 144, 24, 24, 1152, 144, 0, 12, 12, 12, 0, 800, 800, 800, 0, 0, 10, 10, 10, 0, 0, 0, 1280, 192, 10, 10, 10, 10, 0, 0, 0, 0, 10, 0, 400, 400, 400, 0, 0, 2, 2, 2, 2, 800, 800, 800, 0, 16, 16, 32, 0, 16, 80, 256]
def zMtL : List Nat := [0, 0, 0, 0, 0, 0, 0, 0, 0, 0, 0, 0, 0, 0, 1, 0, 0, 0, 0, 0, 0, 0, 0, 1, 0, 0, 0, 1, 0, 0, 0, 1, 0, 0, 0, 0, 0, 0, 0, 0, 0, 0, 0, 0, 0, 0, 0, 0, 0, 0, 0, 0, 0, 0, 1, 0, 0, 0, 0, 1, 0, 0, 0, 1, 0, 0, 0, 0, 0, 0, 0, 1]
/-- the place behind the object at which the array of field k lies (0: no array); the field of a place; an array's length; its tag -/
def zMo (k : Nat) : Nat := zMoL.getD k 0
def zMi (k : Nat) : Nat := zMiL.getD k 0
def zMl (k : Nat) : Nat := zMlL.getD k 0
def zMt (k : Nat) : Nat := zMtL.getD k 0
def zMn : Nat := 50
def zMv (am : Nat) (st : zMS) (f : Nat) : Value := if zMo f = 0 then .int (st.1 f) else .ref (am + zMo f)
def zMF (am : Nat) (st : zMS) : List Value := (List.range 72).map (zMv am st)
def zMw (am : Nat) (st : zMS) (b : zH) : zH := (b.1, fun a => if a = am then some (.inr (4, zMF am st)) else if am < a ∧ a ≤ am + zMn then some (.inl (zMt (zMi (a - am)), zMl (zMi (a - am)), .inl (st.2 (zMi (a - am))))) else b.2 a)
theorem zMw_obj (am : Nat) (st : zMS) (b : zH) : (zMw am st b).2 am = some (.inr (4, zMF am st)) := by simp [zMw]
theorem zMF_at (am : Nat) (st : zMS) {f : Nat} (h : f < 72) : (zMF am st)[f]? = some (zMv am st f) := by simp [zMF, h]
theorem zMF_len (am : Nat) (st : zMS) : (zMF am st).length = 72 := by simp [zMF]
theorem zMo_ok : ∀ f, f < 72 → zMo f ≠ 0 → zMo f ≤ zMn ∧ zMi (zMo f) = f := by decide +kernel
theorem zMi_ok : ∀ i, i < zMn + 1 → i ≠ 0 → zMo (zMi i) = i := by decide +kernel
theorem zMw_arr (am : Nat) (st : zMS) (b : zH) {f : Nat} (hf : f < 72) (h : zMo f ≠ 0) : (zMw am st b).2 (am + zMo f) = some (.inl (zMt f, zMl f, .inl (st.2 f))) := by
  obtain ⟨h1, h2⟩ := zMo_ok f hf h
  have e : am + zMo f - am = zMo f := by omega
  have g : ¬ am + zMo f = am := by omega
  have g2 : am < am + zMo f ∧ am + zMo f ≤ am + zMn := by omega
  simp only [zMw, if_neg g, if_pos g2, e, h2]
def zus (f : Nat → Int32) (k : Nat) (v : Int32) : Nat → Int32 := fun j => if j = k then v else f j
def zua (f : Nat → Nat → Int32) (k i : Nat) (v : Int32) : Nat → Nat → Int32 := fun j => if j = k then upd (f k) i v else f j
theorem zMw_put (am : Nat) (st : zMS) (b : zH) {f : Nat} (hf : f < 72) (h : zMo f = 0) (v : Int32) : zset (zMw am st b) am (.inr (4, (zMF am st).set f (.int v))) = zMw am (zus st.1 f v, st.2) b := by
  have e : (zMF am st).set f (.int v) = zMF am (zus st.1 f v, st.2) := by
    apply List.ext_getElem?
    intro j
    by_cases hj : j < 72
    · rw [zMF_at _ _ hj]
      by_cases hjf : f = j
      · subst hjf
        rw [List.getElem?_set_self (by rw [zMF_len]; exact hf)]
        simp [zMv, h, zus]
      · rw [List.getElem?_set_ne hjf, zMF_at _ _ hj]
        simp [zMv, zus, Ne.symm hjf]
    · rw [List.getElem?_eq_none (by rw [List.length_set, zMF_len]; omega), List.getElem?_eq_none (by rw [zMF_len]; omega)]
  rw [e]
  refine Prod.ext rfl (funext fun a => ?_)
  by_cases ha : a = am <;> simp [zset, zMw, ha]
theorem zMw_ast (am : Nat) (st : zMS) (b : zH) {f : Nat} (hf : f < 72) (h : zMo f ≠ 0) (i : Nat) (v : Int32) : zset (zMw am st b) (am + zMo f) (.inl (zMt f, zMl f, .inl (upd (st.2 f) i v))) = zMw am (st.1, zua st.2 f i v) b := by
  obtain ⟨h1, h2⟩ := zMo_ok f hf h
  refine Prod.ext rfl (funext fun a => ?_)
  by_cases ha : a = am + zMo f
  · subst ha
    have e : am + zMo f - am = zMo f := by omega
    have g : ¬ am + zMo f = am := by omega
    have g2 : am < am + zMo f ∧ am + zMo f ≤ am + zMn := by omega
    simp only [zset, zMw, if_neg g, if_pos g2, e, h2, zua, if_true]
  · simp only [zset, if_neg ha]
    by_cases h3 : a = am
    · subst h3
      simp [zMw, zMF, zMv]
    · by_cases h4 : am < a ∧ a ≤ am + zMn
      · have h5 : ¬ zMi (a - am) = f := fun q => by
          have := zMi_ok (a - am) (by omega) (by omega)
          rw [q] at this
          omega
        simp only [zMw, if_neg h3, if_pos h4, zua, if_neg h5]
      · simp only [zMw, if_neg h3, if_neg h4]
/-- reads and writes of M's arrays -/
def zal (st : zMS) (f : Nat) (i : Int32) : Option Int32 := if zin i (zMl f) then some (st.2 f i.toNatClampNeg) else none
def zas (st : zMS) (f : Nat) (i v : Int32) : Option zMS := if zin i (zMl f) then some (st.1, zua st.2 f i.toNatClampNeg v) else none
theorem zal_spec {st : zMS} {f : Nat} {i x : Int32} (h : zal st f i = some x) : zin i (zMl f) = true ∧ x = st.2 f i.toNatClampNeg := by
  unfold zal at h
  split at h
  · rename_i g
    exact ⟨g, (Option.some.inj h).symm⟩
  · cases h
theorem zas_spec {st st' : zMS} {f : Nat} {i v : Int32} (h : zas st f i v = some st') : zin i (zMl f) = true ∧ st' = (st.1, zua st.2 f i.toNatClampNeg v) := by
  unfold zas at h
  split at h
  · rename_i g
    exact ⟨g, (Option.some.inj h).symm⟩
  · cases h
def zps (st : zMS) (f : Nat) (v : Int32) : zMS := (zus st.1 f v, st.2)
def zpsZ (st : zMS) (f : Nat) (v : Int32) : Option zMS := if v = 0 ∨ v = 1 then some (zus st.1 f v, st.2) else none
theorem zpsZ_spec {st st' : zMS} {f : Nat} {v : Int32} (h : zpsZ st f v = some st') : (v = 0 ∨ v = 1) ∧ st' = (zus st.1 f v, st.2) := by
  unfold zpsZ at h
  split at h
  · rename_i g
    exact ⟨g, (Option.some.inj h).symm⟩
  · cases h
def zgv (cs : List Nat) (f : Nat) (σ : zH) (a : Nat) : Option Value := match σ.2 a with
  | some (.inr (c, fs)) => if cs.contains c = true then fs[f]? else none
  | _ => none
def zvI (v : Value) : Option Int32 := match v with
  | .int x => some x
  | _ => none
def zvR (v : Value) : Option Nat := match v with
  | .ref x => some x
  | _ => none
def zgI (cs : List Nat) (f : Nat) (σ : zH) (a : Nat) : Option Int32 := (zgv cs f σ a).bind zvI
def zgR (cs : List Nat) (f : Nat) (σ : zH) (a : Nat) : Option Nat := (zgv cs f σ a).bind zvR
def zpv (cs : List Nat) (f : Nat) (σ : zH) (a : Nat) (v : Value) : Option zH := match σ.2 a with
  | some (.inr (c, fs)) => if cs.contains c = true ∧ f < fs.length then some (zset σ a (.inr (c, fs.set f v))) else none
  | _ => none
def zpZ (cs : List Nat) (f : Nat) (σ : zH) (a : Nat) (x : Int32) : Option zH := if x = 0 ∨ x = 1 then zpv cs f σ a (.int x) else none
theorem zgv_spec {cs : List Nat} {f : Nat} {σ : zH} {a : Nat} {v : Value} (h : zgv cs f σ a = some v) : ∃ c fs, σ.2 a = some (.inr (c, fs)) ∧ c ∈ cs ∧ fs[f]? = some v := by
  unfold zgv at h
  split at h
  · rename_i c fs e
    split at h
    · rename_i g
      exact ⟨c, fs, e, by simpa using g, h⟩
    · cases h
  · cases h
theorem zgI_spec {cs : List Nat} {f : Nat} {σ : zH} {a : Nat} {x : Int32} (h : zgI cs f σ a = some x) : zgv cs f σ a = some (.int x) := by
  obtain ⟨v, h1, h2⟩ := bnd h
  cases v <;> simp [zvI] at h2
  rw [h1, h2]
theorem zgR_spec {cs : List Nat} {f : Nat} {σ : zH} {a x : Nat} (h : zgR cs f σ a = some x) : zgv cs f σ a = some (.ref x) := by
  obtain ⟨v, h1, h2⟩ := bnd h
  cases v <;> simp [zvR] at h2
  rw [h1, h2]
theorem zpv_spec {cs : List Nat} {f : Nat} {σ σ' : zH} {a : Nat} {v : Value} (h : zpv cs f σ a v = some σ') : ∃ c fs, σ.2 a = some (.inr (c, fs)) ∧ c ∈ cs ∧ f < fs.length ∧ σ' = zset σ a (.inr (c, fs.set f v)) := by
  unfold zpv at h
  split at h
  · rename_i c fs e
    split at h
    · rename_i g
      exact ⟨c, fs, e, by simpa using g.1, g.2, (Option.some.inj h).symm⟩
    · cases h
  · cases h
theorem zpZ_spec {cs : List Nat} {f : Nat} {σ σ' : zH} {a : Nat} {x : Int32} (h : zpZ cs f σ a x = some σ') : (x = 0 ∨ x = 1) ∧ zpv cs f σ a (.int x) = some σ' := by
  unfold zpZ at h
  split at h
  · rename_i g
    exact ⟨g, h⟩
  · cases h
def zaI (σ : zH) (a : Nat) (i : Int32) : Option Int32 := match σ.2 a with
  | some (.inl (t, n, .inl f)) => if (t = 0 ∨ t = 6) ∧ zin i n = true then some (f i.toNatClampNeg) else none
  | _ => none
def zaZ (σ : zH) (a : Nat) (i : Int32) : Option Int32 := match σ.2 a with
  | some (.inl (t, n, .inl f)) => if t = 1 ∧ zin i n = true then some (f i.toNatClampNeg) else none
  | _ => none
def zaR (σ : zH) (a : Nat) (i : Int32) : Option Nat := match σ.2 a with
  | some (.inl (t, n, .inr (.inr (.inr (.inr f))))) => if (t = 3 ∨ t = 4 ∨ t = 5 ∨ t = 7) ∧ zin i n = true then f i.toNatClampNeg else none
  | _ => none
def zsI (σ : zH) (a : Nat) (i x : Int32) : Option zH := match σ.2 a with
  | some (.inl (t, n, .inl f)) => if t = 0 ∧ zin i n = true then some (zset σ a (.inl (t, n, .inl (upd f i.toNatClampNeg x)))) else none
  | _ => none
def zsZ (σ : zH) (a : Nat) (i x : Int32) : Option zH := match σ.2 a with
  | some (.inl (t, n, .inl f)) => if t = 1 ∧ zin i n = true then some (zset σ a (.inl (t, n, .inl (upd f i.toNatClampNeg (zb x))))) else none
  | _ => none
/-- the classes whose objects the tables say are of type Object -/
def zOb : List Nat := [5, 6, 7, 8, 9, 10, 11, 12, 13, 14, 15, 17, 19]
def zsR (σ : zH) (a : Nat) (i : Int32) (r : Nat) : Option zH := match σ.2 a, σ.2 r with
  | some (.inl (t, n, .inr (.inr (.inr (.inr f))))), some (.inr (c, _)) => if ((t = 3 ∧ zOb.contains c = true) ∨ (t = 5 ∧ c = 16)) ∧ zin i n = true then some (zset σ a (.inl (t, n, .inr (.inr (.inr (.inr (va_up f i.toNatClampNeg (some r)))))))) else none
  | _, _ => none
def zsN (σ : zH) (a : Nat) (i : Int32) : Option zH := match σ.2 a with
  | some (.inl (t, n, .inr (.inr (.inr (.inr f))))) => if t = 3 ∧ zin i n = true then some (zset σ a (.inl (t, n, .inr (.inr (.inr (.inr (va_up f i.toNatClampNeg none))))))) else none
  | _ => none
def zln (σ : zH) (a : Nat) : Option Int32 := match σ.2 a with
  | some (.inl (_, n, _)) => some (Int32.ofNat n)
  | _ => none
def zis (σ : zH) (a c : Nat) : Option Unit := match σ.2 a with
  | some (.inr (c', _)) => if c' = c then some () else none
  | _ => none
theorem zaI_spec {σ : zH} {a : Nat} {i x : Int32} (h : zaI σ a i = some x) : ∃ t n f, σ.2 a = some (.inl (t, n, .inl f)) ∧ (t = 0 ∨ t = 6) ∧ zin i n = true ∧ x = f i.toNatClampNeg := by
  unfold zaI at h
  split at h
  · rename_i t n f e
    split at h
    · rename_i g
      exact ⟨t, n, f, e, g.1, g.2, (Option.some.inj h).symm⟩
    · cases h
  · cases h
theorem zaZ_spec {σ : zH} {a : Nat} {i x : Int32} (h : zaZ σ a i = some x) : ∃ n f, σ.2 a = some (.inl (1, n, .inl f)) ∧ zin i n = true ∧ x = f i.toNatClampNeg := by
  unfold zaZ at h
  split at h
  · rename_i t n f e
    split at h
    · rename_i g
      obtain ⟨rfl, g⟩ := g
      exact ⟨n, f, e, g, (Option.some.inj h).symm⟩
    · cases h
  · cases h
theorem zaR_spec {σ : zH} {a x : Nat} {i : Int32} (h : zaR σ a i = some x) : ∃ t n f, σ.2 a = some (.inl (t, n, .inr (.inr (.inr (.inr f))))) ∧ (t = 3 ∨ t = 4 ∨ t = 5 ∨ t = 7) ∧ zin i n = true ∧ f i.toNatClampNeg = some x := by
  unfold zaR at h
  split at h
  · rename_i t n f e
    split at h
    · rename_i g
      exact ⟨t, n, f, e, g.1, g.2, h⟩
    · cases h
  · cases h
theorem zsI_spec {σ σ' : zH} {a : Nat} {i x : Int32} (h : zsI σ a i x = some σ') : ∃ n f, σ.2 a = some (.inl (0, n, .inl f)) ∧ zin i n = true ∧ σ' = zset σ a (.inl (0, n, .inl (upd f i.toNatClampNeg x))) := by
  unfold zsI at h
  split at h
  · rename_i t n f e
    split at h
    · rename_i g
      obtain ⟨rfl, g⟩ := g
      exact ⟨n, f, e, g, (Option.some.inj h).symm⟩
    · cases h
  · cases h
theorem zsZ_spec {σ σ' : zH} {a : Nat} {i x : Int32} (h : zsZ σ a i x = some σ') : ∃ n f, σ.2 a = some (.inl (1, n, .inl f)) ∧ zin i n = true ∧ σ' = zset σ a (.inl (1, n, .inl (upd f i.toNatClampNeg (zb x)))) := by
  unfold zsZ at h
  split at h
  · rename_i t n f e
    split at h
    · rename_i g
      obtain ⟨rfl, g⟩ := g
      exact ⟨n, f, e, g, (Option.some.inj h).symm⟩
    · cases h
  · cases h
theorem zsN_spec {σ σ' : zH} {a : Nat} {i : Int32} (h : zsN σ a i = some σ') : ∃ n f, σ.2 a = some (.inl (3, n, .inr (.inr (.inr (.inr f))))) ∧ zin i n = true ∧ σ' = zset σ a (.inl (3, n, .inr (.inr (.inr (.inr (va_up f i.toNatClampNeg none)))))) := by
  unfold zsN at h
  split at h
  · rename_i t n f e
    split at h
    · rename_i g
      obtain ⟨rfl, g⟩ := g
      exact ⟨n, f, e, g, (Option.some.inj h).symm⟩
    · cases h
  · cases h
theorem zsR_spec {σ σ' : zH} {a r : Nat} {i : Int32} (h : zsR σ a i r = some σ') : ∃ t n f c fs, σ.2 a = some (.inl (t, n, .inr (.inr (.inr (.inr f))))) ∧ σ.2 r = some (.inr (c, fs)) ∧ ((t = 3 ∧ c ∈ zOb) ∨ (t = 5 ∧ c = 16)) ∧ zin i n = true ∧ σ' = zset σ a (.inl (t, n, .inr (.inr (.inr (.inr (va_up f i.toNatClampNeg (some r))))))) := by
  unfold zsR at h
  split at h
  · rename_i t n f c fs e1 e2
    split at h
    · rename_i g
      exact ⟨t, n, f, c, fs, e1, e2, by simpa using g.1, g.2, (Option.some.inj h).symm⟩
    · cases h
  · cases h
theorem zln_spec {σ : zH} {a : Nat} {x : Int32} (h : zln σ a = some x) : ∃ t n f, σ.2 a = some (.inl (t, n, f)) ∧ x = Int32.ofNat n := by
  unfold zln at h
  split at h
  · rename_i t n f e
    exact ⟨t, n, f, e, (Option.some.inj h).symm⟩
  · cases h
theorem zis_spec {σ : zH} {a c : Nat} {u : Unit} (h : zis σ a c = some u) : ∃ fs, σ.2 a = some (.inr (c, fs)) := by
  unfold zis at h
  split at h
  · rename_i c' fs e
    split at h
    · rename_i g
      subst g
      exact ⟨fs, e⟩
    · cases h
  · cases h
/-- a new array of numbers, its length at most lim -/
def znA (t lim : Nat) (σ : zH) (sz : Nat) (n : Int32) : Option zH := if 0 ≤ n ∧ n.toNatClampNeg ≤ lim then some (zset σ sz (.inl (t, n.toNatClampNeg, if t = 2 then .inr (.inl (fun _ => 0)) else .inl (fun _ => 0)))) else none
def znR (t lim : Nat) (σ : zH) (sz : Nat) (n : Int32) : Option zH := if 0 ≤ n ∧ n.toNatClampNeg ≤ lim then some (zset σ sz (.inl (t, n.toNatClampNeg, .inr (.inr (.inr (.inr (fun _ => none))))))) else none
theorem znA_spec {t lim : Nat} {σ σ' : zH} {sz : Nat} {n : Int32} (h : znA t lim σ sz n = some σ') : ¬ n < 0 ∧ n.toNatClampNeg ≤ lim ∧ σ' = zset σ sz (.inl (t, n.toNatClampNeg, if t = 2 then .inr (.inl (fun _ => 0)) else .inl (fun _ => 0))) := by
  unfold znA at h
  split at h
  · rename_i g
    exact ⟨fun q => Int32.not_lt.mpr g.1 q, g.2, (Option.some.inj h).symm⟩
  · cases h
theorem znR_spec {t lim : Nat} {σ σ' : zH} {sz : Nat} {n : Int32} (h : znR t lim σ sz n = some σ') : ¬ n < 0 ∧ n.toNatClampNeg ≤ lim ∧ σ' = zset σ sz (.inl (t, n.toNatClampNeg, .inr (.inr (.inr (.inr (fun _ => none)))))) := by
  unfold znR at h
  split at h
  · rename_i g
    exact ⟨fun q => Int32.not_lt.mpr g.1 q, g.2, (Option.some.inj h).symm⟩
  · cases h
/-- System.arraycopy of references between arrays of objects -/
def zcp (σ : zH) (a : Nat) (sp : Int32) (b : Nat) (dp n : Int32) : Option zH := match σ.2 a, σ.2 b with
  | some (.inl (3, n0, .inr (.inr (.inr (.inr f))))), some (.inl (3, n1, .inr (.inr (.inr (.inr g))))) =>
    if 0 ≤ sp ∧ 0 ≤ dp ∧ 0 ≤ n ∧ sp.toNatClampNeg + n.toNatClampNeg ≤ n0 ∧ dp.toNatClampNeg + n.toNatClampNeg ≤ n1 ∧ ((List.range n.toNatClampNeg).all fun j => match f (sp.toNatClampNeg + j) with | none => true | some y => (match σ.2 y with | some (.inr (c, _)) => zOb.contains c | _ => false)) = true then some (zset σ b (.inl (3, n1, .inr (.inr (.inr (.inr (va_cpy f g sp.toNatClampNeg dp.toNatClampNeg n.toNatClampNeg))))))) else none
  | _, _ => none
/-- a call that answers or throws -/
abbrev zX : Type := Nat × zH
def zthr {α γ : Type} (r : Option (zX ⊕ α)) (kx : zX → Option γ) (k : α → Option γ) : Option γ := r.bind fun u => match u with
  | .inl e => kx e
  | .inr a => k a
theorem zthr_bnd {α γ : Type} {r : Option (zX ⊕ α)} {kx : zX → Option γ} {k : α → Option γ} {o : γ} (h : zthr r kx k = some o) : ∃ u, r = some u ∧ (∀ e, u = .inl e → kx e = some o) ∧ (∀ a, u = .inr a → k a = some o) := by
  obtain ⟨u, h1, h2⟩ := bnd h
  refine ⟨u, h1, fun t e => ?_, fun b e => ?_⟩
  · subst e
    exact h2
  · subst e
    exact h2
def zarr (σ : zH) (a t : Nat) : Option Unit := match σ.2 a with
  | some (.inl (t', _)) => if t' = t then some () else none
  | _ => none
def zcs : List Nat := [8, 9, 10, 11, 12, 13, 14, 15]
def zcls (σ : zH) (c : Nat) : Option Nat := match σ.2 c with
  | some (.inr (ci, _)) => some ci
  | _ => none
def zcon (σ : zH) (a : Nat) : Option Unit := (zcls σ a).bind fun ci => if zcs.contains ci = true then some () else none
/-- new int[10][32]: the outer array lies at sz, the rows behind it -/
def zmul (σ : zH) (sz : Nat) : zH := (σ.1, fun q => if q = sz then some (.inl (4, 10, .inr (.inr (.inr (.inr (fun j => some (sz + 1 + j))))))) else if sz < q ∧ q ≤ sz + 10 then some (.inl (0, 32, .inl (fun _ => 0))) else σ.2 q)
def zmax (x y : Int32) : Int32 := if x < y then y else x
def zmin (x y : Int32) : Int32 := if y < x then y else x
def zfd1 : List Value := [.null, .null, .null, .int 0]
def zfd2 : List Value := [.null, .null, .null, .null, .int 0]
def zfd3 : List Value := [.null, .null, .null, .int 0, .int 0]
def zfd5 : List Value := [.int 0, .int 0, .int 0, .int 0]
def zfd6 : List Value := [.int 0, .int 0, .int 0]
def zfd7 : List Value := [.int 0, .int 0, .int 0]
def zfd8 : List Value := [.null, .null, .null, .null, .null, .null, .int 0, .int 0]
def zfd9 : List Value := [.null, .null, .null, .null, .null, .int 0]
def zfd10 : List Value := [.null, .null, .null, .null]
def zfd11 : List Value := [.null, .null, .null, .null, .null, .int 0, .null, .null]
def zfd12 : List Value := [.null, .null, .null, .null]
def zfd13 : List Value := [.null, .null, .null, .null, .null]
def zfd14 : List Value := [.null, .null, .null, .null, .null]
def zfd15 : List Value := [.null, .null, .null, .null, .null, .int 0]
def zfd16 : List Value := [.int 0, .int 0, .null, .null]
def zfd17 : List Value := [.int 0, .int 0, .int 0, .int 0]
def zdiv (x y : Int32) : Option Int32 := if y = 0 then none else some (x / y)
def zrem (x y : Int32) : Option Int32 := if y = 0 then none else some (x - x / y * y)
def zfd18 : List Value := [.int 0, .null, .int 0]
