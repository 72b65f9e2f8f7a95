/-! SPEC: a problem (variables, constraints), stores, what a round does -/
set_option maxRecDepth 100000
/-- a problem: numbers, tables of numbers, tables of ints -/
abbrev ZP : Type := (Nat → Nat) × (Nat → Nat → Nat) × (Nat → Nat → Int32)
def Znv (P : ZP) : Nat := P.1 0
def Znc (P : ZP) : Nat := P.1 1
/-- kind of a variable; sort, many, moves, tree of a constraint; symbol (and 1) of a tree -/
def Zkd (P : ZP) (v : Nat) : Nat := P.2.1 0 v
def Zso (P : ZP) (c : Nat) : Nat := P.2.1 1 c
def Zmn (P : ZP) (c : Nat) : Nat := P.2.1 2 c
def Zrm (P : ZP) (c : Nat) : Nat := P.2.1 3 c
def Zsy (P : ZP) (t : Nat) : Nat := P.2.1 4 t
def Ztr (P : ZP) (c : Nat) : Nat := P.2.1 5 c
def Zpl (P : ZP) (c p : Nat) : Nat := P.2.1 (10 + c) p
def Zmv (P : ZP) (c i : Nat) : Nat := P.2.1 (40 + c) i
/-- the value of a clause's literal -/
def Zcv (P : ZP) (c p : Nat) : Nat := P.2.1 (70 + c) p
def Ztd (P : ZP) (v : Nat) : Int32 := P.2.2 0 v
def Zfm (P : ZP) (v : Nat) : Int32 := P.2.2 1 v
def Zto (P : ZP) (v : Nat) : Int32 := P.2.2 2 v
def Zli (P : ZP) (c : Nat) : Int32 := P.2.2 3 c
def Zfa (P : ZP) (c p : Nat) : Int32 := P.2.2 (10 + c) p
def Zhs (P : ZP) (c p : Nat) : Int32 := P.2.2 (40 + c) p
/-- the greatest value of a kind, and 1 -/
def Zvs (k : Nat) : Nat := if k = 0 then 16 else if k = 1 then 32 else 15
/-- kinds at the places of the constraints of relations -/
def Zrk (s p : Nat) : Nat := match s with
  | 7 => 0
  | 8 => 0
  | 9 => 1
  | 10 => 1
  | 11 => 1
  | 12 => if p = 0 then 0 else 1
  | 13 => if p = 0 then 0 else 2
  | 14 => if p = 2 then 1 else 0
  | 15 => 2
  | 16 => 2
  | _ => if p = 1 then 2 else 0
def Zrn (s : Nat) : Nat := if s = 11 ∨ s = 12 ∨ s = 13 ∨ s = 16 then 2 else 3
/-- a constraint is as it may be -/
def ZCok (P : ZP) (c : Nat) : Prop :=
  1 ≤ Zmn P c ∧ Zmn P c ≤ 8 ∧ (∀ p, p < Zmn P c → Zpl P c p < Znv P) ∧ Zso P c ≤ 17 ∧
  (Zso P c = 0 → Zmn P c ≤ 6 ∧ (∀ p, p < Zmn P c → Zkd P (Zpl P c p) = 0 ∨ Zkd P (Zpl P c p) = 3) ∧ (∀ p, p < Zmn P c → -9 ≤ (Zfa P c p).toInt ∧ (Zfa P c p).toInt ≤ 9) ∧ -2000 ≤ (Zli P c).toInt ∧ (Zli P c).toInt ≤ 2000 ∧ (Zhs P c 0 = 0 ∨ Zhs P c 0 = 1)) ∧
  (Zso P c = 1 ∨ Zso P c = 2 → Zmn P c ≤ 6) ∧
  (Zso P c = 3 → Zmn P c ≤ 6 ∧ Zrm P c ≤ 16 ∧ (∀ i, i < Zrm P c → Zmv P c (3 * i) ≤ 5 ∧ Zmv P c (3 * i + 1) ≤ 15 ∧ Zmv P c (3 * i + 2) ≤ 5)) ∧
  (Zso P c = 4 → 3 ≤ Zmn P c) ∧
  (1 ≤ Zso P c → Zso P c ≤ 4 → ∀ p, p < Zmn P c → Zkd P (Zpl P c p) = 0) ∧
  (Zso P c = 5 → Zmn P c ≤ 6 ∧ ∀ p, p < Zmn P c → Zkd P (Zpl P c p) ≤ 2 ∧ Zcv P c p < 32 ∧ (Zhs P c p = 0 ∨ Zhs P c p = 1)) ∧
  (Zso P c = 6 → Zmn P c = 1 ∧ Zkd P (Zpl P c 0) = 0 ∧ Ztr P c < 16 ∧ Zsy P (Ztr P c) ≤ 6) ∧
  (7 ≤ Zso P c → Zmn P c = Zrn (Zso P c) ∧ ∀ p, p < Zmn P c → Zkd P (Zpl P c p) = Zrk (Zso P c) p)
def ZPok (P : ZP) : Prop := Znv P ≤ 10 ∧ Znc P ≤ 24 ∧ (∀ v, v < Znv P → Zkd P v ≤ 3) ∧ (∀ v, v < Znv P → Zkd P v ≤ 2 → ∀ k, Zt (Ztd P v) k = true → k < Zvs (Zkd P v)) ∧ (∀ v, v < Znv P → Zkd P v = 3 → -120 ≤ (Zfm P v).toInt ∧ (Zto P v).toInt ≤ 120) ∧ ∀ c, c < Znc P → ZCok P c
/-- a store: sets, lows, highs -/
abbrev ZT0 : Type := (Nat → Int32) × (Nat → Int32) × (Nat → Int32)
/-- none of its domains is empty, and all are within their kinds -/
def ZTok (P : ZP) (T : ZT0) : Prop := ∀ v, v < Znv P → (Zkd P v ≤ 2 → ¬ T.1 v = 0 ∧ ∀ k, Zt (T.1 v) k = true → k < Zvs (Zkd P v)) ∧ (Zkd P v = 3 → -120 ≤ (T.2.1 v).toInt ∧ (T.2.1 v).toInt ≤ (T.2.2 v).toInt ∧ (T.2.2 v).toInt ≤ 120)
/-- the domain at a place -/
def ZDm (P : ZP) (T : ZT0) (c p : Nat) : Int32 := T.1 (Zpl P c p)
def Zsm (g : Nat → Int) : Nat → Int
  | 0 => 0
  | n + 1 => Zsm g n + g n
def Zun (P : ZP) (v : Nat) : Int := if Zkd P v = 3 then 1 else 12
def Zlw (P : ZP) (T : ZT0) (v : Nat) : Int := if Zkd P v = 3 then (T.2.1 v).toInt else (Zfs (Zt (T.1 v)) 32 0 : Nat)
def Zhg (P : ZP) (T : ZT0) (v : Nat) : Int := if Zkd P v = 3 then (T.2.2 v).toInt else (Zla (Zt (T.1 v)) 32 : Nat) - 1
/-- the least and the greatest that a place gives to a sum -/
def Zmi (P : ZP) (T : ZT0) (c q : Nat) : Int := (Zfa P c q).toInt * Zun P (Zpl P c q) * (if 0 ≤ (Zfa P c q).toInt then Zlw P T (Zpl P c q) else Zhg P T (Zpl P c q))
def Zma (P : ZP) (T : ZT0) (c q : Nat) : Int := (Zfa P c q).toInt * Zun P (Zpl P c q) * (if 0 ≤ (Zfa P c q).toInt then Zhg P T (Zpl P c q) else Zlw P T (Zpl P c q))
/-- a sum's place agrees with a number -/
def ZLok (P : ZP) (T : ZT0) (c p : Nat) (x : Int) : Prop :=
  (Zfa P c p).toInt * Zun P (Zpl P c p) * x + Zsm (fun q => if q = p then 0 else Zmi P T c q) (Zmn P c) ≤ (Zli P c).toInt ∧
  (Zhs P c 0 = 0 ∨ (Zli P c).toInt ≤ (Zfa P c p).toInt * Zun P (Zpl P c p) * x + Zsm (fun q => if q = p then 0 else Zma P T c q) (Zmn P c))
/-- how many values some places have but one -/
def Zuc (P : ZP) (T : ZT0) (c : Nat) (F : Nat → Bool) (k : Nat) : Nat := Zct (fun j => decide (j ≠ k) && (List.range (Zmn P c)).any fun q => F q && Zt (ZDm P T c q) j) 32
/-- any places but one have as many values but one as they are -/
def ZHall (P : ZP) (T : ZT0) (c p k : Nat) : Prop := ∀ F : Nat → Bool, F p = false → Zct F (Zmn P c) ≤ Zuc P T c F k
def ZoL (P : ZP) (T : ZT0) (c : Nat) : Nat → Nat
  | 0 => 0
  | p + 1 => Zfs (fun k => Zt (ZDm P T c p) k && decide (ZoL P T c p ≤ k)) 32 0
def ZoH (P : ZP) (T : ZT0) (c : Nat) : Nat → Nat
  | 0 => 32
  | j + 1 => Zla (fun k => Zt (ZDm P T c (Zmn P c - 1 - j)) k && decide (k < ZoH P T c j)) 32
def Zre (P : ZP) (T : ZT0) (c : Nat) : Nat → Nat → Prop
  | 0, s => s = 0
  | p + 1, s => ∃ i, i < Zrm P c ∧ Zre P T c p (Zmv P c (3 * i)) ∧ Zt (ZDm P T c p) (Zmv P c (3 * i + 1)) = true ∧ Zmv P c (3 * i + 2) = s
def Zld (P : ZP) (T : ZT0) (c : Nat) : Nat → Nat → Prop
  | 0, s => Zt (Zli P c) s = true
  | j + 1, s => ∃ i, i < Zrm P c ∧ Zld P T c j (Zmv P c (3 * i + 2)) ∧ Zt (ZDm P T c (Zmn P c - 1 - j)) (Zmv P c (3 * i + 1)) = true ∧ Zmv P c (3 * i) = s
/-- two domains have a value in common -/
def Zmeet (x y : Int32) : Prop := ∃ j, j < 32 ∧ Zt x j = true ∧ Zt y j = true
/-- a literal holds for a value -/
def Zhd (P : ZP) (c p k : Nat) : Prop := (k = Zcv P c p ↔ Zhs P c p = 1)
/-- the relations: by the class' own methods -/
def ZR (s x y z : Nat) : Prop := match s with
  | 7 => fX1_lambda_when_0 1 (nI x) (nI y) (nI z) = some 1
  | 8 => fX1_lambda_when_0 0 (nI x) (nI y) (nI z) = some 1
  | 9 => fX1_lambda_sets_1 1 (nI x) (nI y) (nI z) = some 1
  | 10 => fX1_lambda_sets_1 0 (nI x) (nI y) (nI z) = some 1
  | 11 => fX1_lambda_within_2 (nI x) (nI y) (nI z) = some 1
  | 12 => fX1_lambda_measure_3 1 (nI y) (nI x) (nI z) = some 1
  | 13 => fX1_lambda_measure_3 0 (nI y) (nI x) (nI z) = some 1
  | 14 => fX1_lambda_member_4 (nI x) (nI y) (nI z) = some 1
  | 15 => fX1_isJoined (nI x) (nI y) (nI z) = some 1
  | 16 => fX1_lambda_prefix_5 (nI x) (nI y) (nI z) = some 1
  | _ => fX1_isLetter (nI x) (nI y) (nI z) = some 1
/-- values at the places of a relation's constraint -/
def ZRt (P : ZP) (T : ZT0) (c x y z : Nat) : Prop := x < 32 ∧ y < 32 ∧ z < 32 ∧ Zt (ZDm P T c 0) x = true ∧ Zt (ZDm P T c 1) y = true ∧ (if Zmn P c = 2 then z = 0 else Zt (ZDm P T c 2) z = true) ∧ ZR (Zso P c) x y z
/-- a constraint supports a value at a place -/
def Zsup (P : ZP) (T : ZT0) (c p k : Nat) : Prop := match Zso P c with
  | 0 => ZLok P T c p (k : Nat)
  | 1 => ZHall P T c p k
  | 2 => ZoL P T c p ≤ k ∧ k < ZoH P T c (Zmn P c - 1 - p)
  | 3 => ∃ i, i < Zrm P c ∧ Zre P T c p (Zmv P c (3 * i)) ∧ Zld P T c (Zmn P c - 1 - p) (Zmv P c (3 * i + 2)) ∧ Zmv P c (3 * i + 1) = k
  | 4 => if p = 0 then ∃ i, i < Zmn P c - 2 ∧ Zt (ZDm P T c 1) i = true ∧ Zt (ZDm P T c (i + 2)) k = true
    else if p = 1 then k < Zmn P c - 2 ∧ Zmeet (ZDm P T c 0) (ZDm P T c (k + 2))
    else (∃ j, j < Zmn P c - 2 ∧ j + 2 ≠ p ∧ Zt (ZDm P T c 1) j = true ∧ Zmeet (ZDm P T c 0) (ZDm P T c (j + 2))) ∨ (Zt (ZDm P T c 1) (p - 2) = true ∧ Zt (ZDm P T c 0) k = true)
  | 5 => (∃ q, q < Zmn P c ∧ q ≠ p ∧ ∃ j, j < 32 ∧ Zt (ZDm P T c q) j = true ∧ Zhd P c q j) ∨ Zhd P c p k
  | 6 => Zsy P (Ztr P c) = 0 ∨ k + 1 = Zsy P (Ztr P c)
  | _ => ∃ x y z, ZRt P T c x y z ∧ (if p = 0 then x else if p = 1 then y else z) = k
/-- a value is removed: a constraint does not support it at a place -/
def Zag (P : ZP) (T : ZT0) (c v k : Nat) : Prop := ∃ p, p < Zmn P c ∧ Zpl P c p = v ∧ ¬ Zsup P T c p k
/-- what a round leaves of the sets -/
def ZnS (P : ZP) (T T' : ZT0) : Prop := ∀ v, v < Znv P → Zkd P v ≤ 2 → ∀ k, k < 32 → (Zt (T'.1 v) k = true ↔ Zt (T.1 v) k = true ∧ ∀ c, c < Znc P → ¬ Zag P T c v k)
/-- a number of a RATIO meets all sums -/
def ZrA (P : ZP) (T : ZT0) (v : Nat) (x : Int) : Prop := ∀ c, c < Znc P → Zso P c = 0 → ∀ p, p < Zmn P c → Zpl P c p = v → ZLok P T c p x
/-- what a round leaves of the intervals: they are as they should be, or both empty -/
def ZnR (P : ZP) (T T' : ZT0) : Prop := ∀ v, v < Znv P → Zkd P v = 3 →
  ((∃ x : Int, (T.2.1 v).toInt ≤ x ∧ x ≤ (T.2.2 v).toInt ∧ ZrA P T v x) ∧ (T.2.1 v).toInt ≤ (T'.2.1 v).toInt ∧ (T'.2.1 v).toInt ≤ (T'.2.2 v).toInt ∧ (T'.2.2 v).toInt ≤ (T.2.2 v).toInt ∧ ∀ x : Int, (T.2.1 v).toInt ≤ x → x ≤ (T.2.2 v).toInt → (ZrA P T v x ↔ (T'.2.1 v).toInt ≤ x ∧ x ≤ (T'.2.2 v).toInt)) ∨
  ((∀ x : Int, (T.2.1 v).toInt ≤ x → x ≤ (T.2.2 v).toInt → ¬ ZrA P T v x) ∧ (T'.2.2 v).toInt < (T'.2.1 v).toInt)
/-- the first constraint that removes a value -/
def Zfc (P : ZP) (T : ZT0) (v k c : Nat) : Prop := c < Znc P ∧ Zag P T c v k ∧ ∀ c', c' < c → ¬ Zag P T c' v k
