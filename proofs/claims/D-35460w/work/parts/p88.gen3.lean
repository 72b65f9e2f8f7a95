/-! relations of three variables told: X's calls in one form -/
set_option maxRecDepth 100000
/-- a lambda's object: a constant one, or one that holds a boolean -/
def Zlam (lm : Nat ⊕ (Nat × Int32)) (σ : zH) (sz : Nat) : Option (zH × Nat × Nat) := match lm with
  | .inl j => some (σ, sz, σ.1 j)
  | .inr (c, f) => some (zset σ sz (.inr (c, [.int (zb f)])), sz + 1, sz)
def Zg3 (lm : Nat ⊕ (Nat × Int32)) (k0 k1 k2 : Int32) (n : Nat) (σ : zH) (sz : Nat) (th : Nat) (p0 : Int32) (p1 : Int32) (p2 : Int32) : Option (zX ⊕ (zH × Nat × Int32)) :=
(znA 0 3 σ sz (3 : Int32)).bind fun σ1 =>
(zsI σ1 sz (0 : Int32) p0).bind fun σ2 =>
(zsI σ2 sz (1 : Int32) p1).bind fun σ3 =>
(zsI σ3 sz (2 : Int32) p2).bind fun σ4 =>
(znA 0 3 σ4 (sz + 1) (3 : Int32)).bind fun σ5 =>
(zsI σ5 (sz + 1) (0 : Int32) k0).bind fun σ6 =>
(zsI σ6 (sz + 1) (1 : Int32) k1).bind fun σ7 =>
(zsI σ7 (sz + 1) (2 : Int32) k2).bind fun σ8 =>
(zis σ8 th 0).bind fun u9 =>
zthr (fX1_checkAll n σ8 th sz (sz + 1)) (fun e21 => some (.inl e21)) fun t10 =>
(Zlam lm σ8 (sz + 2)).bind fun l =>
(znA 0 3 l.1 l.2.1 (3 : Int32)).bind fun σ12 =>
(zsI σ12 l.2.1 (0 : Int32) p0).bind fun σ13 =>
(zsI σ13 l.2.1 (1 : Int32) p1).bind fun σ14 =>
(zsI σ14 l.2.1 (2 : Int32) p2).bind fun σ15 =>
(zis σ15 th 0).bind fun u16 =>
zthr (fX1_addSmall n σ15 (l.2.1 + 1) th l.2.2 l.2.1) (fun e19 => some (.inl e19)) fun t17 =>
some (.inr (t17.1, t17.2.1, t17.2.2))
theorem Zg3_when (n : Nat) (σ : zH) (sz th : Nat) (p0 p1 p2 p3 : Int32) : fX1_when n σ sz th p0 p1 p2 p3 = Zg3 (.inr (100, p3)) 0 0 0 n σ sz th p0 p1 p2 := rfl
theorem Zg3_sets (n : Nat) (σ : zH) (sz th : Nat) (p0 p1 p2 p3 : Int32) : fX1_sets n σ sz th p0 p1 p2 p3 = Zg3 (.inr (101, p0)) 1 1 1 n σ sz th p1 p2 p3 := rfl
theorem Zg3_member (n : Nat) (σ : zH) (sz th : Nat) (p0 p1 p2 : Int32) : fX1_member n σ sz th p0 p1 p2 = Zg3 (.inl 14) 0 0 1 n σ sz th p0 p1 p2 := rfl
theorem Zg3_joined (n : Nat) (σ : zH) (sz th : Nat) (p0 p1 p2 : Int32) : fX1_joined n σ sz th p0 p1 p2 = Zg3 (.inl 15) 2 2 2 n σ sz th p0 p1 p2 := rfl
theorem Zg3_letter (n : Nat) (σ : zH) (sz th : Nat) (p0 p1 p2 : Int32) : fX1_letter n σ sz th p0 p1 p2 = Zg3 (.inl 17) 0 2 0 n σ sz th p0 p1 p2 := rfl
def Zgp2 (j : Nat) (k0 k1 : Int32) (n : Nat) (σ : zH) (sz : Nat) (th : Nat) (p0 : Int32) (p1 : Int32) : Option (zX ⊕ (zH × Nat × Int32)) :=
(znA 0 2 σ sz (2 : Int32)).bind fun σ1 =>
(zsI σ1 sz (0 : Int32) p0).bind fun σ2 =>
(zsI σ2 sz (1 : Int32) p1).bind fun σ3 =>
(znA 0 2 σ3 (sz + 1) (2 : Int32)).bind fun σ4 =>
(zsI σ4 (sz + 1) (0 : Int32) k0).bind fun σ5 =>
(zsI σ5 (sz + 1) (1 : Int32) k1).bind fun σ6 =>
(zis σ6 th 0).bind fun u7 =>
zthr (fX1_checkAll n σ6 th sz (sz + 1)) (fun e17 => some (.inl e17)) fun t8 =>
(znA 0 2 σ6 (sz + 2) (2 : Int32)).bind fun σ9 =>
(zsI σ9 (sz + 2) (0 : Int32) p0).bind fun σ10 =>
(zsI σ10 (sz + 2) (1 : Int32) p1).bind fun σ11 =>
(zis σ11 th 0).bind fun u12 =>
zthr (fX1_addSmall n σ11 (sz + 3) th (σ6.1 j) (sz + 2)) (fun e15 => some (.inl e15)) fun t13 =>
some (.inr (t13.1, t13.2.1, t13.2.2))
theorem Zgp2_within (n : Nat) (σ : zH) (sz th : Nat) (p0 p1 : Int32) : fX1_within n σ sz th p0 p1 = Zgp2 12 1 1 n σ sz th p0 p1 := rfl
theorem Zgp2_prefix (n : Nat) (σ : zH) (sz th : Nat) (p0 p1 : Int32) : fX1_prefix n σ sz th p0 p1 = Zgp2 16 2 2 n σ sz th p0 p1 := rfl
/-- three values -/
def Zv3 (a b c : Int32) (i : Nat) : Int32 := if i = 0 then a else if i = 1 then b else if i = 2 then c else 0
def Zv2 (a b : Int32) (i : Nat) : Int32 := if i = 0 then a else if i = 1 then b else 0
section G3
variable {E : Ze} {sh : Nat → Option Zsh} {xs : Zxs}
theorem ZX_a3 {T : Nat} {a b c : Int32} {β : Type} (K : zH → Option β) : ((znA 0 3 (ZW E sh xs) (Zl E T) (3 : Int32)).bind fun σ1 => (zsI σ1 (Zl E T) (0 : Int32) a).bind fun σ2 => (zsI σ2 (Zl E T) (1 : Int32) b).bind fun σ3 => (zsI σ3 (Zl E T) (2 : Int32) c).bind K) = K (ZW E (Zadd sh T (Zia 0 3)) (xs.1, Zs2 xs.2 T (Zv3 a b c))) := by
  have e1 : znA 0 3 (ZW E sh xs) (Zl E T) (3 : Int32) = some (ZW E (Zadd sh T (Zia 0 3)) (xs.1, Zs2 xs.2 T fun _ => 0)) := Znw_A (n := 3) (by decide) (by decide) (by decide)
  have h : Zadd sh T (Zia 0 3) T = some (Zia 0 3) := Zadd_n
  have e2 := (ZbI h (by decide)).2.1 E
  have w0 : ∀ (x : Zxs) v, zsI (ZW E (Zadd sh T (Zia 0 3)) x) (Zl E T) (0 : Int32) v = some (ZW E (Zadd sh T (Zia 0 3)) (x.1, zua x.2 T 0 v)) := fun x v => e2 x 0 v (by decide)
  have w1 : ∀ (x : Zxs) v, zsI (ZW E (Zadd sh T (Zia 0 3)) x) (Zl E T) (1 : Int32) v = some (ZW E (Zadd sh T (Zia 0 3)) (x.1, zua x.2 T 1 v)) := fun x v => e2 x 1 v (by decide)
  have w2 : ∀ (x : Zxs) v, zsI (ZW E (Zadd sh T (Zia 0 3)) x) (Zl E T) (2 : Int32) v = some (ZW E (Zadd sh T (Zia 0 3)) (x.1, zua x.2 T 2 v)) := fun x v => e2 x 2 v (by decide)
  have e : zua (zua (zua (Zs2 xs.2 T fun _ => 0) T 0 a) T 1 b) T 2 c = Zs2 xs.2 T (Zv3 a b c) := by
    funext u i
    by_cases q : u = T
    · rw [q]
      simp only [zua_s, Zs2_n, Zv3]
      by_cases q2 : i = 2
      · subst q2
        rfl
      · by_cases q1 : i = 1
        · subst q1
          rfl
        · by_cases q0 : i = 0
          · subst q0
            rfl
          · simp only [q0, q1, q2, if_false]
    · simp only [zua_n q, Zs2_o q]
  simp only [e1, Option.bind_some, w0, w1, w2, e]
theorem ZX_a2 {T : Nat} {a b : Int32} {β : Type} (K : zH → Option β) : ((znA 0 2 (ZW E sh xs) (Zl E T) (2 : Int32)).bind fun σ1 => (zsI σ1 (Zl E T) (0 : Int32) a).bind fun σ2 => (zsI σ2 (Zl E T) (1 : Int32) b).bind K) = K (ZW E (Zadd sh T (Zia 0 2)) (xs.1, Zs2 xs.2 T (Zv2 a b))) := by
  have e1 : znA 0 2 (ZW E sh xs) (Zl E T) (2 : Int32) = some (ZW E (Zadd sh T (Zia 0 2)) (xs.1, Zs2 xs.2 T fun _ => 0)) := Znw_A (n := 2) (by decide) (by decide) (by decide)
  have h : Zadd sh T (Zia 0 2) T = some (Zia 0 2) := Zadd_n
  have e2 := (ZbI h (by decide)).2.1 E
  have w0 : ∀ (x : Zxs) v, zsI (ZW E (Zadd sh T (Zia 0 2)) x) (Zl E T) (0 : Int32) v = some (ZW E (Zadd sh T (Zia 0 2)) (x.1, zua x.2 T 0 v)) := fun x v => e2 x 0 v (by decide)
  have w1 : ∀ (x : Zxs) v, zsI (ZW E (Zadd sh T (Zia 0 2)) x) (Zl E T) (1 : Int32) v = some (ZW E (Zadd sh T (Zia 0 2)) (x.1, zua x.2 T 1 v)) := fun x v => e2 x 1 v (by decide)
  have e : zua (zua (Zs2 xs.2 T fun _ => 0) T 0 a) T 1 b = Zs2 xs.2 T (Zv2 a b) := by
    funext u i
    by_cases q : u = T
    · rw [q]
      simp only [zua_s, Zs2_n, Zv2]
      by_cases q1 : i = 1
      · subst q1
        rfl
      · by_cases q0 : i = 0
        · subst q0
          rfl
        · simp only [q0, q1, if_false]
    · simp only [zua_n q, Zs2_o q]
  simp only [e1, Option.bind_some, w0, w1, e]
/-- an object that holds a boolean -/
theorem ZX_lamc {T c : Nat} {f : Int32} : zset (ZW E sh xs) (Zl E T) (.inr (c, [.int (zb f)])) = ZW E (Zadd sh T (Zob c [none])) (Zs2 xs.1 T fun _ => zb f, xs.2) := by
  refine Znew (fun t ht => ⟨Zs2_o ht, rfl⟩) ?_
  simp only [Zcell, Zob, List.mapIdx_cons, List.mapIdx_nil, Zfv, Zs2_n]
end G3
