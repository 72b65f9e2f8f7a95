/-! X and the JDK: the functions over the abstract heap (printed by gen/gens.py) -/
set_option maxRecDepth 100000
def fJ0_init (th : Nat) : Option Unit :=
some ()
def fJ1_init (σ : zH) (th : Nat) : Option zH :=
(fJ0_init th).bind fun t1 =>
(zpv [18] 0 σ th (.int (0 : Int32))).bind fun σ2 =>
some σ2
def fJ11_copyOf_2 (σ : zH) (sz : Nat) (p0 : Nat) (p1 : Int32) (p2 : Nat) : Option (zH × Nat × Nat) :=
if p2 = (σ.1 3) then ((znR 3 366 σ sz p1).bind fun σ1 =>
(zln σ1 p0).bind fun x2 =>
(zcp σ1 p0 (0 : Int32) sz (0 : Int32) (zmin x2 p1)).bind fun σ3 =>
some (σ3, sz + 1, sz)) else (none)
def fJ11_copyOf (σ : zH) (sz : Nat) (p0 : Nat) (p1 : Int32) : Option (zH × Nat × Nat) :=
(zarr σ p0 3).bind fun u1 =>
(fJ11_copyOf_2 σ sz p0 p1 (σ.1 3)).bind fun t2 =>
some (t2.1, t2.2.1, t2.2.2)
def fJ16_checkIndex (p0 : Int32) (p1 : Int32) : Option Int32 :=
zesc (if p0 < 0 then (some (.inl ())) else (if p0 < p1 then (some (.inr p0)) else (some (.inl ())))) fun t1 =>
none
def fJ15_checkIndex (p0 : Int32) (p1 : Int32) : Option Int32 :=
(fJ16_checkIndex p0 p1).bind fun t1 =>
some t1
def fJ17_init (th : Nat) : Option Unit :=
some ()
def fJ18_numberOfTrailingZeros (p0 : Int32) : Option Int32 :=
(some ((p0 ^^^ (-1 : Int32)) &&& (p0 - (1 : Int32)))).bind fun x1 =>
if 0 < x1 then ((if x1 ≤ (65536 : Int32) then (some (x1, (1 : Int32))) else ((some ((1 : Int32) + (16 : Int32))).bind fun x15 =>
(some ((x1.toUInt32 >>> ((16 : Int32).toUInt32 &&& Int32.toUInt32 31)).toInt32)).bind fun x16 =>
some (x16, x15))).bind fun t2 =>
(if t2.1 ≤ (256 : Int32) then (some (t2.1, t2.2)) else ((some (t2.2 + (8 : Int32))).bind fun x12 =>
(some ((t2.1.toUInt32 >>> ((8 : Int32).toUInt32 &&& Int32.toUInt32 31)).toInt32)).bind fun x13 =>
some (x13, x12))).bind fun t3 =>
(if t3.1 ≤ (16 : Int32) then (some (t3.1, t3.2)) else ((some (t3.2 + (4 : Int32))).bind fun x9 =>
(some ((t3.1.toUInt32 >>> ((4 : Int32).toUInt32 &&& Int32.toUInt32 31)).toInt32)).bind fun x10 =>
some (x10, x9))).bind fun t4 =>
(if t4.1 ≤ (4 : Int32) then (some (t4.1, t4.2)) else ((some (t4.2 + (2 : Int32))).bind fun x6 =>
(some ((t4.1.toUInt32 >>> ((2 : Int32).toUInt32 &&& Int32.toUInt32 31)).toInt32)).bind fun x7 =>
some (x7, x6))).bind fun t5 =>
some (t5.2 + ((t5.1.toUInt32 >>> ((1 : Int32).toUInt32 &&& Int32.toUInt32 31)).toInt32))) else (some (x1 &&& (32 : Int32)))
def fJ18_numberOfLeadingZeros (p0 : Int32) : Option Int32 :=
if 0 < p0 then ((if p0 < (65536 : Int32) then (some (p0, (31 : Int32))) else ((some ((31 : Int32) + (-16 : Int32))).bind fun x14 =>
(some ((p0.toUInt32 >>> ((16 : Int32).toUInt32 &&& Int32.toUInt32 31)).toInt32)).bind fun x15 =>
some (x15, x14))).bind fun t1 =>
(if t1.1 < (256 : Int32) then (some (t1.1, t1.2)) else ((some (t1.2 + (-8 : Int32))).bind fun x11 =>
(some ((t1.1.toUInt32 >>> ((8 : Int32).toUInt32 &&& Int32.toUInt32 31)).toInt32)).bind fun x12 =>
some (x12, x11))).bind fun t2 =>
(if t2.1 < (16 : Int32) then (some (t2.1, t2.2)) else ((some (t2.2 + (-4 : Int32))).bind fun x8 =>
(some ((t2.1.toUInt32 >>> ((4 : Int32).toUInt32 &&& Int32.toUInt32 31)).toInt32)).bind fun x9 =>
some (x9, x8))).bind fun t3 =>
(if t3.1 < (4 : Int32) then (some (t3.1, t3.2)) else ((some (t3.2 + (-2 : Int32))).bind fun x5 =>
(some ((t3.1.toUInt32 >>> ((2 : Int32).toUInt32 &&& Int32.toUInt32 31)).toInt32)).bind fun x6 =>
some (x6, x5))).bind fun t4 =>
some (t4.2 - ((t4.1.toUInt32 >>> ((1 : Int32).toUInt32 &&& Int32.toUInt32 31)).toInt32))) else (if p0 = 0 then (some (32 : Int32)) else (some (0 : Int32)))
def fJ18_valueOf (σ : zH) (p0 : Int32) : Option Nat :=
zesc (if p0 < (-128 : Int32) then (some (.inl ())) else (if (127 : Int32) < p0 then (some (.inl ())) else ((zaR σ (σ.1 1) (p0 + (128 : Int32))).bind fun r3 =>
some (.inr r3)))) fun t1 =>
none
def fJ18_intValue (σ : zH) (th : Nat) : Option Int32 :=
(zgI [19] 0 σ th).bind fun x1 =>
some x1
def fJ18_bitCount (p0 : Int32) : Option Int32 :=
(some (p0 - (((p0.toUInt32 >>> ((1 : Int32).toUInt32 &&& Int32.toUInt32 31)).toInt32) &&& (1431655765 : Int32)))).bind fun x1 =>
(some ((x1 &&& (858993459 : Int32)) + (((x1.toUInt32 >>> ((2 : Int32).toUInt32 &&& Int32.toUInt32 31)).toInt32) &&& (858993459 : Int32)))).bind fun x2 =>
(some ((x2 + ((x2.toUInt32 >>> ((4 : Int32).toUInt32 &&& Int32.toUInt32 31)).toInt32)) &&& (252645135 : Int32))).bind fun x3 =>
(some (x3 + ((x3.toUInt32 >>> ((8 : Int32).toUInt32 &&& Int32.toUInt32 31)).toInt32))).bind fun x4 =>
(some (x4 + ((x4.toUInt32 >>> ((16 : Int32).toUInt32 &&& Int32.toUInt32 31)).toInt32))).bind fun x5 =>
some (x5 &&& (63 : Int32))
def fJ18_highestOneBit (p0 : Int32) : Option Int32 :=
(fJ18_numberOfLeadingZeros p0).bind fun t1 =>
some (p0 &&& (((-2147483648 : Int32).toUInt32 >>> (t1.toUInt32 &&& Int32.toUInt32 31)).toInt32))
def fJ2_init (σ : zH) (th : Nat) : Option zH :=
(fJ1_init σ th).bind fun t1 =>
(zpv [18] 1 t1 th (.ref (t1.1 2))).bind fun σ2 =>
some σ2
def fJ2_size (σ : zH) (th : Nat) : Option Int32 :=
(zgI [18] 2 σ th).bind fun x1 =>
some x1
def fJ2_elementData (σ : zH) (th : Nat) (p0 : Int32) : Option Nat :=
(zgR [18] 1 σ th).bind fun r1 =>
(zaR σ r1 p0).bind fun r2 =>
some r2
def fJ2_get (σ : zH) (th : Nat) (p0 : Int32) : Option Nat :=
(zgI [18] 2 σ th).bind fun x1 =>
(fJ15_checkIndex p0 x1).bind fun t2 =>
(zis σ th 18).bind fun u3 =>
(fJ2_elementData σ th p0).bind fun t4 =>
some t4
def fJ9_hugeLength (p0 : Int32) (p1 : Int32) : Option Int32 :=
(some (p0 + p1)).bind fun x1 =>
if 0 ≤ x1 then (if (2147483639 : Int32) < x1 then (some x1) else (some (2147483639 : Int32))) else (none)
def fJ9_newLength (p0 : Int32) (p1 : Int32) (p2 : Int32) : Option Int32 :=
(some (p0 + (zmax p1 p2))).bind fun x1 =>
zesc (if x1 ≤ (0 : Int32) then (some (.inl ())) else (if (2147483639 : Int32) < x1 then (some (.inl ())) else (some (.inr x1)))) fun t2 =>
(fJ9_hugeLength p0 p1).bind fun t3 =>
some t3
def fJ2_grow_2 (σ : zH) (sz : Nat) (th : Nat) (p0 : Int32) : Option (zH × Nat × Nat) :=
(zgR [18] 1 σ th).bind fun r1 =>
(zln σ r1).bind fun x2 =>
zesc (if 0 < x2 then (some (.inl (σ, sz))) else ((zgR [18] 1 σ th).bind fun r9 =>
if r9 = (σ.1 2) then ((znR 3 10 σ sz (zmax (10 : Int32) p0)).bind fun σ10 =>
(zpv [18] 1 σ10 th (.ref sz)).bind fun σ11 =>
some (.inr (σ11, sz + 1, sz))) else (some (.inl (σ, sz))))) fun t3 =>
(fJ9_newLength x2 (p0 - x2) (x2 >>> ((1 : Int32) &&& 31))).bind fun t4 =>
(zgR [18] 1 t3.1 th).bind fun r5 =>
(fJ11_copyOf t3.1 t3.2 r5 t4).bind fun t6 =>
(zpv [18] 1 t6.1 th (.ref t6.2.2)).bind fun σ7 =>
some (σ7, t6.2.1, t6.2.2)
def fJ2_grow (σ : zH) (sz : Nat) (th : Nat) : Option (zH × Nat × Nat) :=
(zgI [18] 2 σ th).bind fun x1 =>
(zis σ th 18).bind fun u2 =>
(fJ2_grow_2 σ sz th (x1 + (1 : Int32))).bind fun t3 =>
some (t3.1, t3.2.1, t3.2.2)
def fJ2_add_2 (σ : zH) (sz : Nat) (th : Nat) (p0 : Nat) (p1 : Nat) (p2 : Int32) : Option (zH × Nat) :=
(zln σ p1).bind fun x1 =>
(if p2 = x1 then ((zis σ th 18).bind fun u5 =>
(fJ2_grow σ sz th).bind fun t6 =>
some (t6.1, t6.2.1, t6.2.2)) else (some (σ, sz, p1))).bind fun t2 =>
(zsR t2.1 t2.2.2 p2 p0).bind fun σ3 =>
(zpv [18] 2 σ3 th (.int (p2 + (1 : Int32)))).bind fun σ4 =>
some (σ4, t2.2.1)
def fJ2_add (σ : zH) (sz : Nat) (th : Nat) (p0 : Nat) : Option (zH × Nat × Int32) :=
(zgI [18] 0 σ th).bind fun x1 =>
(zpv [18] 0 σ th (.int (x1 + (1 : Int32)))).bind fun σ2 =>
(zgR [18] 1 σ2 th).bind fun r3 =>
(zgI [18] 2 σ2 th).bind fun x4 =>
(zis σ2 th 18).bind fun u5 =>
(fJ2_add_2 σ2 sz th p0 r3 x4).bind fun t6 =>
some (t6.1, t6.2, (1 : Int32))
def fJ2_isEmpty (σ : zH) (th : Nat) : Option Int32 :=
(zgI [18] 2 σ th).bind fun x1 =>
if x1 = 0 then (some (1 : Int32)) else (some (0 : Int32))
def fJ2_toArray (σ : zH) (sz : Nat) (th : Nat) : Option (zH × Nat × Nat) :=
(zgR [18] 1 σ th).bind fun r1 =>
(zgI [18] 2 σ th).bind fun x2 =>
(fJ11_copyOf σ sz r1 x2).bind fun t3 =>
some (t3.1, t3.2.1, t3.2.2)
def fJ2_addAll (σ : zH) (sz : Nat) (th : Nat) (p0 : Nat) : Option (zH × Nat × Int32) :=
(zis σ p0 18).bind fun u1 =>
(fJ2_toArray σ sz p0).bind fun t2 =>
(zgI [18] 0 t2.1 th).bind fun x3 =>
(zpv [18] 0 t2.1 th (.int (x3 + (1 : Int32)))).bind fun σ4 =>
(zln σ4 t2.2.2).bind fun x5 =>
if x5 = 0 then (some (σ4, t2.2.1, (0 : Int32))) else ((zgR [18] 1 σ4 th).bind fun r6 =>
(zln σ4 r6).bind fun x7 =>
(zgI [18] 2 σ4 th).bind fun x8 =>
(if x5 ≤ (x7 - x8) then (some (σ4, t2.2.1, r6)) else ((zis σ4 th 18).bind fun u12 =>
(fJ2_grow_2 σ4 t2.2.1 th (x8 + x5)).bind fun t13 =>
some (t13.1, t13.2.1, t13.2.2))).bind fun t9 =>
(zcp t9.1 t2.2.2 (0 : Int32) t9.2.2 x8 x5).bind fun σ10 =>
(zpv [18] 2 σ10 th (.int (x8 + x5))).bind fun σ11 =>
some (σ11, t9.2.1, (1 : Int32)))
def fJ2_fastRemove (σ : zH) (th : Nat) (p0 : Nat) (p1 : Int32) : Option zH :=
(zgI [18] 0 σ th).bind fun x1 =>
(zpv [18] 0 σ th (.int (x1 + (1 : Int32)))).bind fun σ2 =>
(zgI [18] 2 σ2 th).bind fun x3 =>
(some (x3 - (1 : Int32))).bind fun x4 =>
(if (x3 - (1 : Int32)) ≤ p1 then (some σ2) else ((zcp σ2 p0 (p1 + (1 : Int32)) p0 p1 (x4 - p1)).bind fun σ8 =>
some σ8)).bind fun t5 =>
(zpv [18] 2 t5 th (.int x4)).bind fun σ6 =>
(zsN σ6 p0 x4).bind fun σ7 =>
some σ7
def fJ2_remove (σ : zH) (th : Nat) (p0 : Int32) : Option (zH × Nat) :=
(zgI [18] 2 σ th).bind fun x1 =>
(fJ15_checkIndex p0 x1).bind fun t2 =>
(zgR [18] 1 σ th).bind fun r3 =>
(zaR σ r3 p0).bind fun r4 =>
(zis σ th 18).bind fun u5 =>
(fJ2_fastRemove σ th r3 p0).bind fun t6 =>
some (t6, r4)
def fJ7_init (th : Nat) : Option Unit :=
some ()
def fX1_lambda_when_0 (p0 : Int32) (p1 : Int32) (p2 : Int32) (p3 : Int32) : Option Int32 :=
(zesc (zesc (if p0 = 0 then (if p2 = p3 then (some (.inr (.inl ()))) else (some (.inl ()))) else (if p3 ≤ p2 then (some (.inl ())) else (some (.inr (.inl ()))))) fun t5 =>
some (.inr (0 : Int32))) fun t3 =>
some (1 : Int32)).bind fun t1 =>
if p1 = t1 then (some (1 : Int32)) else (some (0 : Int32))
def fX1_lambda_sets_1 (p0 : Int32) (p1 : Int32) (p2 : Int32) (p3 : Int32) : Option Int32 :=
(if p0 = 0 then (some (p2 &&& p3)) else (some (p2 ||| p3))).bind fun t1 =>
if p1 = t1 then (some (1 : Int32)) else (some (0 : Int32))
def fX1_lambda_within_2 (p0 : Int32) (p1 : Int32) (p2 : Int32) : Option Int32 :=
if (p0 &&& (p1 ^^^ (-1 : Int32))) = 0 then (some (1 : Int32)) else (some (0 : Int32))
def fX1_length (p0 : Int32) : Option Int32 :=
if p0 = 0 then (some (0 : Int32)) else (if (3 : Int32) ≤ p0 then (if (7 : Int32) ≤ p0 then (some (3 : Int32)) else (some (2 : Int32))) else (some (1 : Int32)))
def fX1_lambda_measure_3 (p0 : Int32) (p1 : Int32) (p2 : Int32) (p3 : Int32) : Option Int32 :=
(if p0 = 0 then ((fX1_length p1).bind fun t3 =>
some t3) else ((fJ18_bitCount p1).bind fun t4 =>
some t4)).bind fun t1 =>
if p2 = t1 then (some (1 : Int32)) else (some (0 : Int32))
def fX1_has (p0 : Int32) (p1 : Int32) : Option Int32 :=
if ((p0 >>> (p1 &&& 31)) &&& (1 : Int32)) = (1 : Int32) then (some (1 : Int32)) else (some (0 : Int32))
def fX1_lambda_member_4 (p0 : Int32) (p1 : Int32) (p2 : Int32) : Option Int32 :=
(fX1_has p2 p1).bind fun t1 =>
(if t1 = 0 then (some (0 : Int32)) else (some (1 : Int32))).bind fun t2 =>
if p0 = t2 then (some (1 : Int32)) else (some (0 : Int32))
def fX1_letters (p0 : Int32) : Option Int32 :=
(fX1_length p0).bind fun t1 =>
some ((p0 - ((1 : Int32) <<< (t1 &&& 31))) + (1 : Int32))
def fX1_isJoined (p0 : Int32) (p1 : Int32) (p2 : Int32) : Option Int32 :=
(fX1_length p2).bind fun t1 =>
(fX1_length p0).bind fun t2 =>
(fX1_length p1).bind fun t3 =>
(if t2 = (t3 + t1) then (some (1 : Int32)) else (some (0 : Int32))).bind fun t4 =>
if t4 = 0 then (some (0 : Int32)) else ((fX1_letters p0).bind fun t5 =>
(fX1_letters p1).bind fun t6 =>
(fX1_letters p2).bind fun t7 =>
if t5 = ((t6 <<< (t1 &&& 31)) ||| t7) then (some (1 : Int32)) else (some (0 : Int32)))
def fX1_begins (p0 : Int32) (p1 : Int32) : Option Int32 :=
(fX1_length p1).bind fun t1 =>
(fX1_length p0).bind fun t2 =>
(some (t1 - t2)).bind fun x3 =>
if x3 < 0 then (some (0 : Int32)) else ((fX1_letters p1).bind fun t4 =>
(fX1_letters p0).bind fun t5 =>
if (t4 >>> (x3 &&& 31)) = t5 then (some (1 : Int32)) else (some (0 : Int32)))
def fX1_lambda_prefix_5 (p0 : Int32) (p1 : Int32) (p2 : Int32) : Option Int32 :=
(fX1_begins p0 p1).bind fun t1 =>
(zq t1).bind fun x2 =>
some x2
def fX1_isLetter (p0 : Int32) (p1 : Int32) (p2 : Int32) : Option Int32 :=
(fX1_length p1).bind fun t1 =>
if t1 ≤ p2 then (some (0 : Int32)) else ((fX1_letters p1).bind fun t2 =>
(fX1_length p1).bind fun t3 =>
if ((t2 >>> (((t3 - (1 : Int32)) - p2) &&& 31)) &&& (1 : Int32)) = p0 then (some (1 : Int32)) else (some (0 : Int32)))
def fX2_init (σ : zH) (sz : Nat) (th : Nat) : Option (zH × Nat) :=
(znA 0 413 σ sz (413 : Int32)).bind fun σ1 =>
(zpv [1] 0 σ1 th (.ref sz)).bind fun σ2 =>
(znA 0 413 σ2 (sz + 1) (413 : Int32)).bind fun σ3 =>
(zpv [1] 1 σ3 th (.ref (sz + 1))).bind fun σ4 =>
(znA 1 413 σ4 (sz + 2) (413 : Int32)).bind fun σ5 =>
(zpv [1] 2 σ5 th (.ref (sz + 2))).bind fun σ6 =>
some (σ6, sz + 3)
def fX3_init (σ : zH) (sz : Nat) (th : Nat) : Option (zH × Nat) :=
(znA 0 16 σ sz (16 : Int32)).bind fun σ1 =>
(zpv [2] 0 σ1 th (.ref sz)).bind fun σ2 =>
(znA 0 16 σ2 (sz + 1) (16 : Int32)).bind fun σ3 =>
(zpv [2] 1 σ3 th (.ref (sz + 1))).bind fun σ4 =>
(znA 0 16 σ4 (sz + 2) (16 : Int32)).bind fun σ5 =>
(zpv [2] 2 σ5 th (.ref (sz + 2))).bind fun σ6 =>
(znA 0 16 σ6 (sz + 3) (16 : Int32)).bind fun σ7 =>
(zpv [2] 3 σ7 th (.ref (sz + 3))).bind fun σ8 =>
some (σ8, sz + 4)
def fX4_init (σ : zH) (sz : Nat) (th : Nat) : Option (zH × Nat) :=
(znA 0 10 σ sz (10 : Int32)).bind fun σ1 =>
(zpv [3] 0 σ1 th (.ref sz)).bind fun σ2 =>
(znA 0 10 σ2 (sz + 1) (10 : Int32)).bind fun σ3 =>
(zpv [3] 1 σ3 th (.ref (sz + 1))).bind fun σ4 =>
(znA 0 10 σ4 (sz + 2) (10 : Int32)).bind fun σ5 =>
(zpv [3] 2 σ5 th (.ref (sz + 2))).bind fun σ6 =>
some (σ6, sz + 3)
def fX1_init_L244 (th : Nat) (t51 : zH × Nat) (a61 : zH × Int32) : Option ((zH × Int32) ⊕ ((zH × Nat))) :=
if (10 : Int32) ≤ a61.2 then (some (.inr (a61.1, t51.2 + 3))) else ((zgR [0] 22 a61.1 th).bind fun r63 =>
(zsI a61.1 r63 a61.2 (-1 : Int32)).bind fun σ64 =>
(some (a61.2 + (1 : Int32))).bind fun x65 =>
some (.inl (σ64, x65)))
def fX1_init (n : Nat) (σ : zH) (sz : Nat) (th : Nat) : Option (zH × Nat) :=
(some (zset σ sz (.inr (18, zfd18)))).bind fun σ1 =>
(fJ2_init σ1 sz).bind fun t2 =>
(zpv [0] 0 t2 th (.ref sz)).bind fun σ3 =>
(some (zset σ3 (sz + 1) (.inr (18, zfd18)))).bind fun σ4 =>
(fJ2_init σ4 (sz + 1)).bind fun t5 =>
(zpv [0] 1 t5 th (.ref (sz + 1))).bind fun σ6 =>
(some (zset σ6 (sz + 2) (.inr (18, zfd18)))).bind fun σ7 =>
(fJ2_init σ7 (sz + 2)).bind fun t8 =>
(zpv [0] 2 t8 th (.ref (sz + 2))).bind fun σ9 =>
(some (zset σ9 (sz + 3) (.inr (18, zfd18)))).bind fun σ10 =>
(fJ2_init σ10 (sz + 3)).bind fun t11 =>
(zpv [0] 3 t11 th (.ref (sz + 3))).bind fun σ12 =>
(some (zset σ12 (sz + 4) (.inr (18, zfd18)))).bind fun σ13 =>
(fJ2_init σ13 (sz + 4)).bind fun t14 =>
(zpv [0] 4 t14 th (.ref (sz + 4))).bind fun σ15 =>
(some (zset σ15 (sz + 5) (.inr (18, zfd18)))).bind fun σ16 =>
(fJ2_init σ16 (sz + 5)).bind fun t17 =>
(zpv [0] 5 t17 th (.ref (sz + 5))).bind fun σ18 =>
(some (zset σ18 (sz + 6) (.inr (1, zfd1)))).bind fun σ19 =>
(fX2_init σ19 (sz + 7) (sz + 6)).bind fun t20 =>
(zpv [0] 6 t20.1 th (.ref (sz + 6))).bind fun σ21 =>
(some (zset σ21 t20.2 (.inr (2, zfd2)))).bind fun σ22 =>
(fX3_init σ22 (t20.2 + 1) t20.2).bind fun t23 =>
(zpv [0] 7 t23.1 th (.ref t20.2)).bind fun σ24 =>
(some (zset σ24 t23.2 (.inr (2, zfd2)))).bind fun σ25 =>
(fX3_init σ25 (t23.2 + 1) t23.2).bind fun t26 =>
(zpv [0] 8 t26.1 th (.ref t23.2)).bind fun σ27 =>
(some (zset σ27 t26.2 (.inr (3, zfd3)))).bind fun σ28 =>
(fX4_init σ28 (t26.2 + 1) t26.2).bind fun t29 =>
(zpv [0] 9 t29.1 th (.ref t26.2)).bind fun σ30 =>
(znA 0 320 σ30 t29.2 (320 : Int32)).bind fun σ31 =>
(zpv [0] 11 σ31 th (.ref t29.2)).bind fun σ32 =>
(znA 0 320 σ32 (t29.2 + 1) (320 : Int32)).bind fun σ33 =>
(zpv [0] 12 σ33 th (.ref (t29.2 + 1))).bind fun σ34 =>
(znA 0 320 σ34 (t29.2 + 2) (320 : Int32)).bind fun σ35 =>
(zpv [0] 13 σ35 th (.ref (t29.2 + 2))).bind fun σ36 =>
(znA 0 320 σ36 (t29.2 + 3) (320 : Int32)).bind fun σ37 =>
(zpv [0] 14 σ37 th (.ref (t29.2 + 3))).bind fun σ38 =>
(some (zset σ38 (t29.2 + 4) (.inr (3, zfd3)))).bind fun σ39 =>
(fX4_init σ39 (t29.2 + 5) (t29.2 + 4)).bind fun t40 =>
(zpv [0] 16 t40.1 th (.ref (t29.2 + 4))).bind fun σ41 =>
(znA 0 10 σ41 t40.2 (10 : Int32)).bind fun σ42 =>
(zpv [0] 17 σ42 th (.ref t40.2)).bind fun σ43 =>
(znA 0 10 σ43 (t40.2 + 1) (10 : Int32)).bind fun σ44 =>
(zpv [0] 18 σ44 th (.ref (t40.2 + 1))).bind fun σ45 =>
(znA 0 10 σ45 (t40.2 + 2) (10 : Int32)).bind fun σ46 =>
(zpv [0] 19 σ46 th (.ref (t40.2 + 2))).bind fun σ47 =>
(some (zmul σ47 (t40.2 + 3))).bind fun σ48 =>
(zpv [0] 20 σ48 th (.ref (t40.2 + 3))).bind fun σ49 =>
(some (zset σ49 (t40.2 + 14) (.inr (1, zfd1)))).bind fun σ50 =>
(fX2_init σ50 (t40.2 + 15) (t40.2 + 14)).bind fun t51 =>
(zpv [0] 21 t51.1 th (.ref (t40.2 + 14))).bind fun σ52 =>
(znA 0 10 σ52 t51.2 (10 : Int32)).bind fun σ53 =>
(zpv [0] 22 σ53 th (.ref t51.2)).bind fun σ54 =>
(znA 0 10 σ54 (t51.2 + 1) (10 : Int32)).bind fun σ55 =>
(zpv [0] 23 σ55 th (.ref (t51.2 + 1))).bind fun σ56 =>
(zpv [0] 24 σ56 th (.int (-1 : Int32))).bind fun σ57 =>
(zpv [0] 33 σ57 th (.int (-1 : Int32))).bind fun σ58 =>
(znR 5 2 σ58 (t51.2 + 2) (2 : Int32)).bind fun σ59 =>
(zpv [0] 35 σ59 th (.ref (t51.2 + 2))).bind fun σ60 =>
zloop (fX1_init_L244 th t51) n (σ60, (0 : Int32))
def fX1_constraints (σ : zH) (th : Nat) : Option Int32 :=
(zgR [0] 1 σ th).bind fun r1 =>
(zis σ r1 18).bind fun u2 =>
(fJ2_size σ r1).bind fun t3 =>
some t3
def fX6_domain (σ : zH) (th : Nat) : Option Int32 :=
(zgI [5] 1 σ th).bind fun x1 =>
some x1
def fX6_low (σ : zH) (th : Nat) : Option Int32 :=
(zgI [5] 2 σ th).bind fun x1 =>
some x1
def fX6_high (σ : zH) (th : Nat) : Option Int32 :=
(zgI [5] 3 σ th).bind fun x1 =>
some x1
def fX2_left (σ : zH) (th : Nat) (p0 : Int32) (p1 : Int32) : Option Int32 :=
(zgR [1] 1 σ th).bind fun r1 =>
(zaI σ r1 p0).bind fun x2 =>
(some ((1 : Int32) <<< (x2 &&& 31))).bind fun x3 =>
(zgR [1] 2 σ th).bind fun r4 =>
(zaZ σ r4 p0).bind fun x5 =>
if x5 = 0 then (some (p1 &&& (x3 ^^^ (-1 : Int32)))) else (some (p1 &&& x3))
def fX1_begin_L78 (p0 : Nat) (p1 : Nat) (p2 : Int32) (a4 : zH × Int32) : Option ((zH × Int32) ⊕ (zH)) :=
(zgI [1] 3 a4.1 p1).bind fun x6 =>
if x6 ≤ a4.2 then (some (.inr a4.1)) else ((zgR [1] 0 a4.1 p1).bind fun r7 =>
(zaI a4.1 r7 a4.2).bind fun x8 =>
(zesc (if (12 : Int32) ≤ a4.2 then (some (.inl ())) else ((fX1_has p2 a4.2).bind fun t23 =>
if t23 = 0 then (some (.inr (0 : Int32))) else (some (.inl ())))) fun t21 =>
some (1 : Int32)).bind fun t9 =>
(zgR [3] 0 a4.1 p0).bind fun r10 =>
(if t9 = 0 then ((zgR [3] 0 a4.1 p0).bind fun r14 =>
(zaI a4.1 r14 x8).bind fun x15 =>
some x15) else ((zgR [3] 0 a4.1 p0).bind fun r16 =>
(zaI a4.1 r16 x8).bind fun x17 =>
(zis a4.1 p1 1).bind fun u18 =>
(fX2_left a4.1 p1 a4.2 x17).bind fun t19 =>
some t19)).bind fun t11 =>
(zsI a4.1 r10 x8 t11).bind fun σ12 =>
(some (a4.2 + (1 : Int32))).bind fun x13 =>
some (.inl (σ12, x13)))
def fX1_begin_L3 (th : Nat) (p0 : Nat) (a1 : zH × Int32) : Option ((zH × Int32) ⊕ (zH)) :=
(zgR [0] 0 a1.1 th).bind fun r27 =>
(zis a1.1 r27 18).bind fun u28 =>
(fJ2_size a1.1 r27).bind fun t29 =>
if t29 ≤ a1.2 then (some (.inr a1.1)) else ((zgR [0] 0 a1.1 th).bind fun r30 =>
(zis a1.1 r30 18).bind fun u31 =>
(fJ2_get a1.1 r30 a1.2).bind fun t32 =>
(zis a1.1 t32 5).bind fun u33 =>
(zgR [3] 0 a1.1 p0).bind fun r34 =>
(zis a1.1 t32 5).bind fun u35 =>
(fX6_domain a1.1 t32).bind fun t36 =>
(zsI a1.1 r34 a1.2 t36).bind fun σ37 =>
(zgR [3] 1 σ37 p0).bind fun r38 =>
(zis σ37 t32 5).bind fun u39 =>
(fX6_low σ37 t32).bind fun t40 =>
(zsI σ37 r38 a1.2 t40).bind fun σ41 =>
(zgR [3] 2 σ41 p0).bind fun r42 =>
(zis σ41 t32 5).bind fun u43 =>
(fX6_high σ41 t32).bind fun t44 =>
(zsI σ41 r42 a1.2 t44).bind fun σ45 =>
(some (a1.2 + (1 : Int32))).bind fun x46 =>
some (.inl (σ45, x46)))
def fX1_begin (n : Nat) (σ : zH) (th : Nat) (p0 : Nat) (p1 : Nat) (p2 : Int32) : Option zH :=
(zloop (fX1_begin_L3 th p0) n (σ, (0 : Int32))).bind fun t3 =>
zloop (fX1_begin_L78 p0 p1 p2) n (t3, (0 : Int32))
def fX6_kind (σ : zH) (th : Nat) : Option Int32 :=
(zgI [5] 0 σ th).bind fun x1 =>
some x1
def fX1_isRatio (σ : zH) (th : Nat) (p0 : Int32) : Option Int32 :=
(zgR [0] 0 σ th).bind fun r1 =>
(zis σ r1 18).bind fun u2 =>
(fJ2_get σ r1 p0).bind fun t3 =>
(zis σ t3 5).bind fun u4 =>
(zis σ t3 5).bind fun u5 =>
(fX6_kind σ t3).bind fun t6 =>
if t6 = (3 : Int32) then (some (1 : Int32)) else (some (0 : Int32))
def fX1_isEmpty (σ : zH) (th : Nat) (p0 : Nat) (p1 : Int32) : Option Int32 :=
(zis σ th 0).bind fun u1 =>
(fX1_isRatio σ th p1).bind fun t2 =>
if t2 = 0 then ((zgR [3] 0 σ p0).bind fun r3 =>
(zaI σ r3 p1).bind fun x4 =>
if x4 = 0 then (some (1 : Int32)) else (some (0 : Int32))) else ((zgR [3] 1 σ p0).bind fun r6 =>
(zaI σ r6 p1).bind fun x7 =>
(zgR [3] 2 σ p0).bind fun r8 =>
(zaI σ r8 p1).bind fun x9 =>
if x7 ≤ x9 then (some (0 : Int32)) else (some (1 : Int32)))
def fX1_seesFailure_L7 (th : Nat) (p0 : Nat) (a2 : zH × Int32) : Option ((zH × Int32) ⊕ (zH)) :=
(zgR [0] 0 a2.1 th).bind fun r7 =>
(zis a2.1 r7 18).bind fun u8 =>
(fJ2_size a2.1 r7).bind fun t9 =>
if t9 ≤ a2.2 then (some (.inr a2.1)) else ((zgI [3] 3 a2.1 p0).bind fun x10 =>
(zis a2.1 th 0).bind fun u11 =>
(fX1_isEmpty a2.1 th p0 a2.2).bind fun t12 =>
(zpZ [3] 3 a2.1 p0 (x10 ||| t12)).bind fun σ13 =>
(some (a2.2 + (1 : Int32))).bind fun x14 =>
some (.inl (σ13, x14)))
def fX1_seesFailure (n : Nat) (σ : zH) (th : Nat) (p0 : Nat) : Option (zH × Int32) :=
(zpZ [3] 3 σ p0 (0 : Int32)).bind fun σ1 =>
(zloop (fX1_seesFailure_L7 th p0) n (σ1, (0 : Int32))).bind fun t4 =>
(zgI [3] 3 t4 p0).bind fun x5 =>
(zq x5).bind fun x6 =>
some (t4, x6)
def fX9_size (σ : zH) (th : Nat) : Option Int32 :=
(zgR zcs 0 σ th).bind fun r1 =>
(zln σ r1).bind fun x2 =>
some x2
def fX9_domain (σ : zH) (th : Nat) (p0 : Nat) (p1 : Int32) : Option Int32 :=
(zgR [3] 0 σ p0).bind fun r1 =>
(zgR zcs 0 σ th).bind fun r2 =>
(zaI σ r2 p1).bind fun x3 =>
(zaI σ r1 x3).bind fun x4 =>
some x4
def fX1_least (p0 : Int32) : Option Int32 :=
(fJ18_numberOfTrailingZeros p0).bind fun t1 =>
some t1
def fX10_low (σ : zH) (th : Nat) (p0 : Nat) (p1 : Int32) : Option Int32 :=
(zgR [8] 5 σ th).bind fun r1 =>
(zaZ σ r1 p1).bind fun x2 =>
if x2 = 0 then ((zis σ th 8).bind fun u3 =>
(fX9_domain σ th p0 p1).bind fun t4 =>
(fX1_least t4).bind fun t5 =>
some ((12 : Int32) * t5)) else ((zgR [3] 1 σ p0).bind fun r6 =>
(zgR [8] 0 σ th).bind fun r7 =>
(zaI σ r7 p1).bind fun x8 =>
(zaI σ r6 x8).bind fun x9 =>
some x9)
def fX1_greatest (p0 : Int32) : Option Int32 :=
(fJ18_numberOfLeadingZeros p0).bind fun t1 =>
some ((31 : Int32) - t1)
def fX10_high (σ : zH) (th : Nat) (p0 : Nat) (p1 : Int32) : Option Int32 :=
(zgR [8] 5 σ th).bind fun r1 =>
(zaZ σ r1 p1).bind fun x2 =>
if x2 = 0 then ((zis σ th 8).bind fun u3 =>
(fX9_domain σ th p0 p1).bind fun t4 =>
(fX1_greatest t4).bind fun t5 =>
some ((12 : Int32) * t5)) else ((zgR [3] 2 σ p0).bind fun r6 =>
(zgR [8] 0 σ th).bind fun r7 =>
(zaI σ r7 p1).bind fun x8 =>
(zaI σ r6 x8).bind fun x9 =>
some x9)
def fX10_least (σ : zH) (th : Nat) (p0 : Nat) (p1 : Int32) : Option Int32 :=
(zgR [8] 4 σ th).bind fun r1 =>
(zaI σ r1 p1).bind fun x2 =>
(zgR [8] 4 σ th).bind fun r3 =>
(zaI σ r3 p1).bind fun x4 =>
(if x4 < 0 then ((zis σ th 8).bind fun u6 =>
(fX10_high σ th p0 p1).bind fun t7 =>
some t7) else ((zis σ th 8).bind fun u8 =>
(fX10_low σ th p0 p1).bind fun t9 =>
some t9)).bind fun t5 =>
some (x2 * t5)
def fX10_greatest (σ : zH) (th : Nat) (p0 : Nat) (p1 : Int32) : Option Int32 :=
(zgR [8] 4 σ th).bind fun r1 =>
(zaI σ r1 p1).bind fun x2 =>
(zgR [8] 4 σ th).bind fun r3 =>
(zaI σ r3 p1).bind fun x4 =>
(if x4 < 0 then ((zis σ th 8).bind fun u6 =>
(fX10_low σ th p0 p1).bind fun t7 =>
some t7) else ((zis σ th 8).bind fun u8 =>
(fX10_high σ th p0 p1).bind fun t9 =>
some t9)).bind fun t5 =>
some (x2 * t5)
def fX10_agrees (σ : zH) (th : Nat) (p0 : Int32) (p1 : Int32) (p2 : Int32) : Option Int32 :=
(zgI [8] 7 σ th).bind fun x1 =>
if x1 < (p0 + p1) then (some (0 : Int32)) else ((zgI [8] 6 σ th).bind fun x2 =>
zesc (if x2 = 0 then (some (.inl ())) else ((zgI [8] 7 σ th).bind fun x5 =>
if (p0 + p2) < x5 then (some (.inr (0 : Int32))) else (some (.inl ())))) fun t3 =>
some (1 : Int32))
def fX10_keepAt_L145 (th : Nat) (p1 : Int32) (p2 : Int32) (p3 : Int32) (a5 : zH × Int32) : Option ((zH × Int32) ⊕ (zH)) :=
(zaI a5.1 (a5.1.1 0) (0 : Int32)).bind fun x7 =>
if x7 < a5.2 then (some (.inr a5.1)) else ((zgR [8] 1 a5.1 th).bind fun r8 =>
(zaI a5.1 r8 p1).bind fun x9 =>
(zgR [8] 4 a5.1 th).bind fun r10 =>
(zaI a5.1 r10 p1).bind fun x11 =>
(zis a5.1 th 8).bind fun u12 =>
(fX10_agrees a5.1 th ((x11 * (12 : Int32)) * a5.2) p2 p3).bind fun t13 =>
(if t13 = 0 then (some (0 : Int32)) else (some ((1 : Int32) <<< (a5.2 &&& 31)))).bind fun t14 =>
(zsI a5.1 r8 p1 (x9 ||| t14)).bind fun σ15 =>
(some (a5.2 + (1 : Int32))).bind fun x16 =>
some (.inl (σ15, x16)))
def fX10_keepAt_L84 (th : Nat) (p1 : Int32) (p2 : Int32) (p3 : Int32) (a30 : zH) : Option ((zH) ⊕ (zH)) :=
(zgR [8] 2 a30 th).bind fun r32 =>
(zaI a30 r32 p1).bind fun x33 =>
(zgR [8] 3 a30 th).bind fun r34 =>
(zaI a30 r34 p1).bind fun x35 =>
if x35 < x33 then (some (.inr a30)) else ((zgR [8] 4 a30 th).bind fun r36 =>
(zaI a30 r36 p1).bind fun x37 =>
(zgR [8] 3 a30 th).bind fun r38 =>
(zaI a30 r38 p1).bind fun x39 =>
(zis a30 th 8).bind fun u40 =>
(fX10_agrees a30 th (x37 * x39) p2 p3).bind fun t41 =>
if t41 = 0 then ((zgR [8] 3 a30 th).bind fun r42 =>
(zaI a30 r42 p1).bind fun x43 =>
(zsI a30 r42 p1 (x43 - (1 : Int32))).bind fun σ44 =>
some (.inl σ44)) else (some (.inr a30)))
def fX10_keepAt_L33 (th : Nat) (p1 : Int32) (p2 : Int32) (p3 : Int32) (a27 : zH) : Option ((zH) ⊕ (zH)) :=
(zgR [8] 2 a27 th).bind fun r47 =>
(zaI a27 r47 p1).bind fun x48 =>
(zgR [8] 3 a27 th).bind fun r49 =>
(zaI a27 r49 p1).bind fun x50 =>
if x50 < x48 then (some (.inr a27)) else ((zgR [8] 4 a27 th).bind fun r51 =>
(zaI a27 r51 p1).bind fun x52 =>
(zgR [8] 2 a27 th).bind fun r53 =>
(zaI a27 r53 p1).bind fun x54 =>
(zis a27 th 8).bind fun u55 =>
(fX10_agrees a27 th (x52 * x54) p2 p3).bind fun t56 =>
if t56 = 0 then ((zgR [8] 2 a27 th).bind fun r57 =>
(zaI a27 r57 p1).bind fun x58 =>
(zsI a27 r57 p1 (x58 + (1 : Int32))).bind fun σ59 =>
some (.inl σ59)) else (some (.inr a27)))
def fX10_keepAt (n : Nat) (σ : zH) (th : Nat) (p0 : Nat) (p1 : Int32) (p2 : Int32) (p3 : Int32) : Option zH :=
(zgR [8] 5 σ th).bind fun r1 =>
(zaZ σ r1 p1).bind fun x2 =>
if x2 = 0 then ((zgR [8] 1 σ th).bind fun r3 =>
(zsI σ r3 p1 (0 : Int32)).bind fun σ4 =>
zloop (fX10_keepAt_L145 th p1 p2 p3) n (σ4, (0 : Int32))) else ((zgR [8] 2 σ th).bind fun r19 =>
(zis σ th 8).bind fun u20 =>
(fX10_low σ th p0 p1).bind fun t21 =>
(zsI σ r19 p1 t21).bind fun σ22 =>
(zgR [8] 3 σ22 th).bind fun r23 =>
(zis σ22 th 8).bind fun u24 =>
(fX10_high σ22 th p0 p1).bind fun t25 =>
(zsI σ22 r23 p1 t25).bind fun σ26 =>
(zloop (fX10_keepAt_L33 th p1 p2 p3) n σ26).bind fun t29 =>
zloop (fX10_keepAt_L84 th p1 p2 p3) n t29)
def fX10_keep_L45 (n : Nat) (th : Nat) (p0 : Nat) (t3 : Int32 × Int32) (a4 : zH × Int32) : Option ((zH × Int32) ⊕ (zH)) :=
(zis a4.1 th 8).bind fun u6 =>
(fX9_size a4.1 th).bind fun t7 =>
if t7 ≤ a4.2 then (some (.inr a4.1)) else ((zis a4.1 th 8).bind fun u8 =>
(fX10_least a4.1 th p0 a4.2).bind fun t9 =>
(zis a4.1 th 8).bind fun u10 =>
(fX10_greatest a4.1 th p0 a4.2).bind fun t11 =>
(zis a4.1 th 8).bind fun u12 =>
(fX10_keepAt n a4.1 th p0 a4.2 (t3.1 - t9) (t3.2 - t11)).bind fun t13 =>
(some (a4.2 + (1 : Int32))).bind fun x14 =>
some (.inl (t13, x14)))
def fX10_keep_L7 (σ : zH) (th : Nat) (p0 : Nat) (a1 : Int32 × Int32 × Int32) : Option ((Int32 × Int32 × Int32) ⊕ (Int32 × Int32)) :=
(zis σ th 8).bind fun u16 =>
(fX9_size σ th).bind fun t17 =>
if t17 ≤ a1.2.2 then (some (.inr (a1.1, a1.2.1))) else ((zis σ th 8).bind fun u18 =>
(fX10_least σ th p0 a1.2.2).bind fun t19 =>
(some (a1.1 + t19)).bind fun x20 =>
(zis σ th 8).bind fun u21 =>
(fX10_greatest σ th p0 a1.2.2).bind fun t22 =>
(some (a1.2.1 + t22)).bind fun x23 =>
(some (a1.2.2 + (1 : Int32))).bind fun x24 =>
some (.inl (x20, x23, x24)))
def fX10_keep (n : Nat) (σ : zH) (th : Nat) (p0 : Nat) : Option zH :=
(zloop (fX10_keep_L7 σ th p0) n ((0 : Int32), (0 : Int32), (0 : Int32))).bind fun t3 =>
zloop (fX10_keep_L45 n th p0 t3) n (σ, (0 : Int32))
def fX11_findFor_L15 (n : Nat) (th : Nat) (p0 : Nat) (p2 : Int32) (rec : Nat → zH → Nat → Nat → Int32 → Int32 → Option (zH × Int32)) (x3 : Int32) (a4 : zH × Int32) : Option ((zH × Int32) ⊕ ((zH × Int32) ⊕ ((zH × Int32)))) :=
(zaI a4.1 (a4.1.1 0) (0 : Int32)).bind fun x10 =>
if x10 < a4.2 then (some (.inr (.inr (a4.1, (0 : Int32))))) else ((zgI [9] 5 a4.1 th).bind fun x11 =>
(fX1_has (x3 &&& (x11 ^^^ (-1 : Int32))) a4.2).bind fun t12 =>
zesc (if t12 = 0 then (some (.inl a4.1)) else ((zgI [9] 5 a4.1 th).bind fun x16 =>
(zpv [9] 5 a4.1 th (.int (x16 ||| ((1 : Int32) <<< (a4.2 &&& 31))))).bind fun σ17 =>
(zgR [9] 4 σ17 th).bind fun r18 =>
(zaI σ17 r18 a4.2).bind fun x19 =>
if x19 = (-1 : Int32) then (some (.inr (.inr (.inl (σ17, a4.2))))) else ((zgR [9] 4 σ17 th).bind fun r20 =>
(zaI σ17 r20 a4.2).bind fun x21 =>
(zis σ17 th 9).bind fun u22 =>
(rec n σ17 th p0 x21 p2).bind fun t23 =>
if t23.2 = 0 then (some (.inl t23.1)) else (some (.inr (.inr (.inl (t23.1, a4.2)))))))) fun t13 =>
(some (a4.2 + (1 : Int32))).bind fun x14 =>
some (.inl (t13, x14)))
def fX11_findFor_B (rec : Nat → zH → Nat → Nat → Int32 → Int32 → Option (zH × Int32)) (n : Nat) (σ : zH) (th : Nat) (p0 : Nat) (p1 : Int32) (p2 : Int32) : Option (zH × Int32) :=
(zis σ th 9).bind fun u1 =>
(fX9_domain σ th p0 p1).bind fun t2 =>
(some (t2 &&& (p2 ^^^ (-1 : Int32)))).bind fun x3 =>
zesc (zloop (fX11_findFor_L15 n th p0 p2 rec x3) n (σ, (0 : Int32))) fun t6 =>
(zgR [9] 4 t6.1 th).bind fun r7 =>
(zsI t6.1 r7 t6.2 p1).bind fun σ8 =>
some (σ8, (1 : Int32))
def fX11_findFor : Nat → Nat → zH → Nat → Nat → Int32 → Int32 → Option (zH × Int32)
  | 0 => fun _ _ _ _ _ _ => none
  | d + 1 => fX11_findFor_B (fX11_findFor d)
def fX11_agrees_L30 (n : Nat) (th : Nat) (p0 : Nat) (p1 : Int32) (p2 : Int32) (a4 : zH × Int32 × Int32) : Option ((zH × Int32 × Int32) ⊕ ((zH × Int32))) :=
(zis a4.1 th 9).bind fun u6 =>
(fX9_size a4.1 th).bind fun t7 =>
if t7 ≤ a4.2.2 then ((zq a4.2.1).bind fun x8 =>
some (.inr (a4.1, x8))) else (if a4.2.1 = 0 then ((zq a4.2.1).bind fun x9 =>
some (.inr (a4.1, x9))) else ((zpv [9] 5 a4.1 th (.int (0 : Int32))).bind fun σ10 =>
(zesc (if a4.2.2 = p1 then (some (.inl σ10)) else ((zis σ10 th 9).bind fun u15 =>
(fX11_findFor 34 n σ10 th p0 a4.2.2 ((1 : Int32) <<< (p2 &&& 31))).bind fun t16 =>
if t16.2 = 0 then (some (.inr (t16.1, (0 : Int32)))) else (some (.inl t16.1)))) fun t13 =>
some (t13, (1 : Int32))).bind fun t11 =>
(some (a4.2.2 + (1 : Int32))).bind fun x12 =>
some (.inl (t11.1, t11.2, x12))))
def fX11_agrees_L3 (th : Nat) (a1 : zH × Int32) : Option ((zH × Int32) ⊕ (zH)) :=
if (32 : Int32) ≤ a1.2 then (some (.inr a1.1)) else ((zgR [9] 4 a1.1 th).bind fun r21 =>
(zsI a1.1 r21 a1.2 (-1 : Int32)).bind fun σ22 =>
(some (a1.2 + (1 : Int32))).bind fun x23 =>
some (.inl (σ22, x23)))
def fX11_agrees (n : Nat) (σ : zH) (th : Nat) (p0 : Nat) (p1 : Int32) (p2 : Int32) : Option (zH × Int32) :=
(zloop (fX11_agrees_L3 th) n (σ, (0 : Int32))).bind fun t3 =>
zloop (fX11_agrees_L30 n th p0 p1 p2) n (t3, (1 : Int32), (0 : Int32))
def fX11_keep_L19 (n : Nat) (th : Nat) (p0 : Nat) (a1 : zH × Int32) (a7 : zH × Int32) : Option ((zH × Int32) ⊕ (zH)) :=
(zaI a7.1 (a7.1.1 0) (0 : Int32)).bind fun x11 =>
if x11 < a7.2 then (some (.inr a7.1)) else ((zis a7.1 th 9).bind fun u12 =>
(fX9_domain a7.1 th p0 a1.2).bind fun t13 =>
(fX1_has t13 a7.2).bind fun t14 =>
(zesc (if t14 = 0 then (some (.inl a7.1)) else ((zis a7.1 th 9).bind fun u24 =>
(fX11_agrees n a7.1 th p0 a1.2 a7.2).bind fun t25 =>
if t25.2 = 0 then (some (.inl t25.1)) else (some (.inr (t25.1, (1 : Int32)))))) fun t22 =>
some (t22, (0 : Int32))).bind fun t15 =>
(zgR [9] 1 t15.1 th).bind fun r16 =>
(zaI t15.1 r16 a1.2).bind fun x17 =>
(if t15.2 = 0 then (some (0 : Int32)) else (some ((1 : Int32) <<< (a7.2 &&& 31)))).bind fun t18 =>
(zsI t15.1 r16 a1.2 (x17 ||| t18)).bind fun σ19 =>
(some (a7.2 + (1 : Int32))).bind fun x20 =>
some (.inl (σ19, x20)))
def fX11_keep_L2 (n : Nat) (th : Nat) (p0 : Nat) (a1 : zH × Int32) : Option ((zH × Int32) ⊕ (zH)) :=
(zis a1.1 th 9).bind fun u3 =>
(fX9_size a1.1 th).bind fun t4 =>
if t4 ≤ a1.2 then (some (.inr a1.1)) else ((zgR [9] 1 a1.1 th).bind fun r5 =>
(zsI a1.1 r5 a1.2 (0 : Int32)).bind fun σ6 =>
(zloop (fX11_keep_L19 n th p0 a1) n (σ6, (0 : Int32))).bind fun t9 =>
(some (a1.2 + (1 : Int32))).bind fun x10 =>
some (.inl (t9, x10)))
def fX11_keep (n : Nat) (σ : zH) (th : Nat) (p0 : Nat) : Option zH :=
zloop (fX11_keep_L2 n th p0) n (σ, (0 : Int32))
def fX12_keep_L79 (th : Nat) (p0 : Nat) (a7 : zH × Int32 × Int32) : Option ((zH × Int32 × Int32) ⊕ (zH)) :=
if a7.2.2 < 0 then (some (.inr a7.1)) else ((if 0 ≤ a7.2.1 then ((zis a7.1 th 10).bind fun u17 =>
(fX9_domain a7.1 th p0 a7.2.2).bind fun t18 =>
some (t18 &&& (((-1 : Int32).toUInt32 >>> (((31 : Int32) - a7.2.1).toUInt32 &&& Int32.toUInt32 31)).toInt32))) else (some (0 : Int32))).bind fun t9 =>
(if t9 = 0 then (some (-1 : Int32)) else ((fX1_greatest t9).bind fun t15 =>
some t15)).bind fun t10 =>
(zgR [10] 1 a7.1 th).bind fun r11 =>
(zaI a7.1 r11 a7.2.2).bind fun x12 =>
(zsI a7.1 r11 a7.2.2 (x12 &&& t9)).bind fun σ13 =>
(some (a7.2.2 + (-1 : Int32))).bind fun x14 =>
some (.inl (σ13, t10, x14)))
def fX12_keep_L4 (th : Nat) (p0 : Nat) (a1 : zH × Int32 × Int32) : Option ((zH × Int32 × Int32) ⊕ (zH)) :=
(zis a1.1 th 10).bind fun u21 =>
(fX9_size a1.1 th).bind fun t22 =>
if t22 ≤ a1.2.2 then (some (.inr a1.1)) else ((zgR [10] 1 a1.1 th).bind fun r23 =>
(if a1.2.1 < (32 : Int32) then ((zis a1.1 th 10).bind fun u34 =>
(fX9_domain a1.1 th p0 a1.2.2).bind fun t35 =>
some (t35 &&& ((-1 : Int32) <<< (a1.2.1 &&& 31)))) else (some (0 : Int32))).bind fun t24 =>
(zsI a1.1 r23 a1.2.2 t24).bind fun σ25 =>
(zgR [10] 1 σ25 th).bind fun r26 =>
(zaI σ25 r26 a1.2.2).bind fun x27 =>
(if x27 = 0 then (some (32 : Int32)) else ((zgR [10] 1 σ25 th).bind fun r30 =>
(zaI σ25 r30 a1.2.2).bind fun x31 =>
(fX1_least x31).bind fun t32 =>
some t32)).bind fun t28 =>
(some (a1.2.2 + (1 : Int32))).bind fun x29 =>
some (.inl (σ25, t28, x29)))
def fX12_keep (n : Nat) (σ : zH) (th : Nat) (p0 : Nat) : Option zH :=
(zloop (fX12_keep_L4 th p0) n (σ, (0 : Int32), (0 : Int32))).bind fun t3 =>
(zis t3 th 10).bind fun u4 =>
(fX9_size t3 th).bind fun t5 =>
(some (t5 - (1 : Int32))).bind fun x6 =>
zloop (fX12_keep_L79 th p0) n (t3, (31 : Int32), x6)
def fX7_state (σ : zH) (th : Nat) : Option Int32 :=
(zgI [6] 0 σ th).bind fun x1 =>
some x1
def fX7_value (σ : zH) (th : Nat) : Option Int32 :=
(zgI [6] 1 σ th).bind fun x1 =>
some x1
def fX7_next (σ : zH) (th : Nat) : Option Int32 :=
(zgI [6] 2 σ th).bind fun x1 =>
some x1
def fX13_keep_L194 (th : Nat) (p0 : Nat) (a14 : zH × Int32) (a20 : zH × Int32) : Option ((zH × Int32) ⊕ (zH)) :=
(zgR [11] 4 a20.1 th).bind fun r24 =>
(zis a20.1 r24 18).bind fun u25 =>
(fJ2_size a20.1 r24).bind fun t26 =>
if t26 ≤ a20.2 then (some (.inr a20.1)) else ((zgR [11] 4 a20.1 th).bind fun r27 =>
(zis a20.1 r27 18).bind fun u28 =>
(fJ2_get a20.1 r27 a20.2).bind fun t29 =>
(zis a20.1 t29 6).bind fun u30 =>
(zgR [11] 7 a20.1 th).bind fun r31 =>
(zaI a20.1 r31 (a14.2 + (1 : Int32))).bind fun x32 =>
(zis a20.1 t29 6).bind fun u33 =>
(fX7_next a20.1 t29).bind fun t34 =>
(fX1_has x32 t34).bind fun t35 =>
(zesc (if t35 = 0 then (some (.inl ())) else ((zis a20.1 th 11).bind fun u62 =>
(fX9_domain a20.1 th p0 a14.2).bind fun t63 =>
(zis a20.1 t29 6).bind fun u64 =>
(fX7_value a20.1 t29).bind fun t65 =>
(fX1_has t63 t65).bind fun t66 =>
if t66 = 0 then (some (.inl ())) else (some (.inr (1 : Int32))))) fun t60 =>
some (0 : Int32)).bind fun t36 =>
(zgR [11] 7 a20.1 th).bind fun r37 =>
(zaI a20.1 r37 a14.2).bind fun x38 =>
(if t36 = 0 then (some (0 : Int32)) else ((zis a20.1 t29 6).bind fun u57 =>
(fX7_state a20.1 t29).bind fun t58 =>
some ((1 : Int32) <<< (t58 &&& 31)))).bind fun t39 =>
(zsI a20.1 r37 a14.2 (x38 ||| t39)).bind fun σ40 =>
(zgR [11] 1 σ40 th).bind fun r41 =>
(zaI σ40 r41 a14.2).bind fun x42 =>
(zesc (if t36 = 0 then (some (.inl ())) else ((zgR [11] 6 σ40 th).bind fun r48 =>
(zaI σ40 r48 a14.2).bind fun x49 =>
(zis σ40 t29 6).bind fun u50 =>
(fX7_state σ40 t29).bind fun t51 =>
(fX1_has x49 t51).bind fun t52 =>
if t52 = 0 then (some (.inl ())) else ((zis σ40 t29 6).bind fun u53 =>
(fX7_value σ40 t29).bind fun t54 =>
some (.inr ((1 : Int32) <<< (t54 &&& 31)))))) fun t46 =>
some (0 : Int32)).bind fun t43 =>
(zsI σ40 r41 a14.2 (x42 ||| t43)).bind fun σ44 =>
(some (a20.2 + (1 : Int32))).bind fun x45 =>
some (.inl (σ44, x45)))
def fX13_keep_L174 (n : Nat) (th : Nat) (p0 : Nat) (a14 : zH × Int32) : Option ((zH × Int32) ⊕ (zH)) :=
if a14.2 < 0 then (some (.inr a14.1)) else ((zgR [11] 7 a14.1 th).bind fun r16 =>
(zsI a14.1 r16 a14.2 (0 : Int32)).bind fun σ17 =>
(zgR [11] 1 σ17 th).bind fun r18 =>
(zsI σ17 r18 a14.2 (0 : Int32)).bind fun σ19 =>
(zloop (fX13_keep_L194 th p0 a14) n (σ19, (0 : Int32))).bind fun t22 =>
(some (a14.2 + (-1 : Int32))).bind fun x23 =>
some (.inl (t22, x23)))
def fX13_keep_L41 (th : Nat) (p0 : Nat) (a8 : zH × Int32) (a75 : zH × Int32) : Option ((zH × Int32) ⊕ (zH)) :=
(zgR [11] 4 a75.1 th).bind fun r79 =>
(zis a75.1 r79 18).bind fun u80 =>
(fJ2_size a75.1 r79).bind fun t81 =>
if t81 ≤ a75.2 then (some (.inr a75.1)) else ((zgR [11] 6 a75.1 th).bind fun r82 =>
(zaI a75.1 r82 a8.2).bind fun x83 =>
(zgR [11] 4 a75.1 th).bind fun r84 =>
(zis a75.1 r84 18).bind fun u85 =>
(fJ2_get a75.1 r84 a75.2).bind fun t86 =>
(zis a75.1 t86 6).bind fun u87 =>
(zis a75.1 t86 6).bind fun u88 =>
(fX7_state a75.1 t86).bind fun t89 =>
(fX1_has x83 t89).bind fun t90 =>
(zesc (if t90 = 0 then (some (.inl ())) else ((zis a75.1 th 11).bind fun u106 =>
(fX9_domain a75.1 th p0 a8.2).bind fun t107 =>
(zgR [11] 4 a75.1 th).bind fun r108 =>
(zis a75.1 r108 18).bind fun u109 =>
(fJ2_get a75.1 r108 a75.2).bind fun t110 =>
(zis a75.1 t110 6).bind fun u111 =>
(zis a75.1 t110 6).bind fun u112 =>
(fX7_value a75.1 t110).bind fun t113 =>
(fX1_has t107 t113).bind fun t114 =>
if t114 = 0 then (some (.inl ())) else (some (.inr (1 : Int32))))) fun t104 =>
some (0 : Int32)).bind fun t91 =>
(zgR [11] 6 a75.1 th).bind fun r92 =>
(zaI a75.1 r92 (a8.2 + (1 : Int32))).bind fun x93 =>
(if t91 = 0 then (some (0 : Int32)) else ((zgR [11] 4 a75.1 th).bind fun r97 =>
(zis a75.1 r97 18).bind fun u98 =>
(fJ2_get a75.1 r97 a75.2).bind fun t99 =>
(zis a75.1 t99 6).bind fun u100 =>
(zis a75.1 t99 6).bind fun u101 =>
(fX7_next a75.1 t99).bind fun t102 =>
some ((1 : Int32) <<< (t102 &&& 31)))).bind fun t94 =>
(zsI a75.1 r92 (a8.2 + (1 : Int32)) (x93 ||| t94)).bind fun σ95 =>
(some (a75.2 + (1 : Int32))).bind fun x96 =>
some (.inl (σ95, x96)))
def fX13_keep_L22 (n : Nat) (th : Nat) (p0 : Nat) (a8 : zH × Int32) : Option ((zH × Int32) ⊕ (zH)) :=
(zis a8.1 th 11).bind fun u71 =>
(fX9_size a8.1 th).bind fun t72 =>
if t72 ≤ a8.2 then (some (.inr a8.1)) else ((zgR [11] 6 a8.1 th).bind fun r73 =>
(zsI a8.1 r73 (a8.2 + (1 : Int32)) (0 : Int32)).bind fun σ74 =>
(zloop (fX13_keep_L41 th p0 a8) n (σ74, (0 : Int32))).bind fun t77 =>
(some (a8.2 + (1 : Int32))).bind fun x78 =>
some (.inl (t77, x78)))
def fX13_keep (n : Nat) (σ : zH) (th : Nat) (p0 : Nat) : Option zH :=
(zgR [11] 6 σ th).bind fun r1 =>
(zsI σ r1 (0 : Int32) (1 : Int32)).bind fun σ2 =>
(zgR [11] 7 σ2 th).bind fun r3 =>
(zis σ2 th 11).bind fun u4 =>
(fX9_size σ2 th).bind fun t5 =>
(zgI [11] 5 σ2 th).bind fun x6 =>
(zsI σ2 r3 t5 x6).bind fun σ7 =>
(zloop (fX13_keep_L22 n th p0) n (σ7, (0 : Int32))).bind fun t10 =>
(zis t10 th 11).bind fun u11 =>
(fX9_size t10 th).bind fun t12 =>
(some (t12 - (1 : Int32))).bind fun x13 =>
zloop (fX13_keep_L174 n th p0) n (t10, x13)
def fX14_canTell (σ : zH) (th : Nat) (p0 : Nat) (p1 : Int32) : Option Int32 :=
(zis σ th 12).bind fun u1 =>
(fX9_size σ th).bind fun t2 =>
if (t2 - (2 : Int32)) ≤ p1 then (some (0 : Int32)) else ((zis σ th 12).bind fun u3 =>
(fX9_domain σ th p0 (1 : Int32)).bind fun t4 =>
(fX1_has t4 p1).bind fun t5 =>
if t5 = 0 then (some (0 : Int32)) else (some (1 : Int32)))
def fX14_keep_L149 (th : Nat) (p0 : Nat) (t7 : zH × Int32) (a8 : zH × Int32) : Option ((zH × Int32) ⊕ (zH)) :=
(zis a8.1 th 12).bind fun u10 =>
(fX9_size a8.1 th).bind fun t11 =>
if (t11 - (2 : Int32)) ≤ a8.2 then (some (.inr a8.1)) else ((if (t7.2 &&& (((1 : Int32) <<< (a8.2 &&& 31)) ^^^ (-1 : Int32))) = 0 then (some (0 : Int32)) else (some (1 : Int32))).bind fun t12 =>
(zgR [12] 1 a8.1 th).bind fun r13 =>
(if t12 = 0 then ((zis a8.1 th 12).bind fun u17 =>
(fX14_canTell a8.1 th p0 a8.2).bind fun t18 =>
if t18 = 0 then (some (0 : Int32)) else ((zis a8.1 th 12).bind fun u19 =>
(fX9_domain a8.1 th p0 (0 : Int32)).bind fun t20 =>
some t20)) else (some (-1 : Int32))).bind fun t14 =>
(zsI a8.1 r13 (a8.2 + (2 : Int32)) t14).bind fun σ15 =>
(some (a8.2 + (1 : Int32))).bind fun x16 =>
some (.inl (σ15, x16)))
def fX14_keep_L18 (th : Nat) (p0 : Nat) (a5 : zH × Int32 × Int32) : Option ((zH × Int32 × Int32) ⊕ (zH × Int32)) :=
(zis a5.1 th 12).bind fun u25 =>
(fX9_size a5.1 th).bind fun t26 =>
if (t26 - (2 : Int32)) ≤ a5.2.2 then (some (.inr (a5.1, a5.2.1))) else ((zis a5.1 th 12).bind fun u27 =>
(fX14_canTell a5.1 th p0 a5.2.2).bind fun t28 =>
(zesc (if t28 = 0 then (some (.inl ())) else ((zis a5.1 th 12).bind fun u54 =>
(fX9_domain a5.1 th p0 (0 : Int32)).bind fun t55 =>
(zis a5.1 th 12).bind fun u56 =>
(fX9_domain a5.1 th p0 (a5.2.2 + (2 : Int32))).bind fun t57 =>
if (t55 &&& t57) = 0 then (some (.inl ())) else (some (.inr (1 : Int32))))) fun t52 =>
some (0 : Int32)).bind fun t29 =>
(zgR [12] 1 a5.1 th).bind fun r30 =>
(zaI a5.1 r30 (0 : Int32)).bind fun x31 =>
(zis a5.1 th 12).bind fun u32 =>
(fX14_canTell a5.1 th p0 a5.2.2).bind fun t33 =>
(if t33 = 0 then (some (0 : Int32)) else ((zis a5.1 th 12).bind fun u49 =>
(fX9_domain a5.1 th p0 (a5.2.2 + (2 : Int32))).bind fun t50 =>
some t50)).bind fun t34 =>
(zsI a5.1 r30 (0 : Int32) (x31 ||| t34)).bind fun σ35 =>
(zgR [12] 1 σ35 th).bind fun r36 =>
(zaI σ35 r36 (1 : Int32)).bind fun x37 =>
(zis σ35 th 12).bind fun u38 =>
(fX9_domain σ35 th p0 (0 : Int32)).bind fun t39 =>
(zis σ35 th 12).bind fun u40 =>
(fX9_domain σ35 th p0 (a5.2.2 + (2 : Int32))).bind fun t41 =>
(if (t39 &&& t41) = 0 then (some (0 : Int32)) else (some ((1 : Int32) <<< (a5.2.2 &&& 31)))).bind fun t42 =>
(zsI σ35 r36 (1 : Int32) (x37 ||| t42)).bind fun σ43 =>
(if t29 = 0 then (some (0 : Int32)) else (some ((1 : Int32) <<< (a5.2.2 &&& 31)))).bind fun t44 =>
(some (a5.2.1 ||| t44)).bind fun x45 =>
(some (a5.2.2 + (1 : Int32))).bind fun x46 =>
some (.inl (σ43, x45, x46)))
def fX14_keep (n : Nat) (σ : zH) (th : Nat) (p0 : Nat) : Option zH :=
(zgR [12] 1 σ th).bind fun r1 =>
(zsI σ r1 (0 : Int32) (0 : Int32)).bind fun σ2 =>
(zgR [12] 1 σ2 th).bind fun r3 =>
(zsI σ2 r3 (1 : Int32) (0 : Int32)).bind fun σ4 =>
(zloop (fX14_keep_L18 th p0) n (σ4, (0 : Int32), (0 : Int32))).bind fun t7 =>
zloop (fX14_keep_L149 th p0 t7) n (t7.1, (0 : Int32))
/-- an object of a lambda is asked -/
def fholds (σ : zH) (r : Nat) (p0 p1 p2 : Int32) : Option Int32 := match σ.2 r with
  | some (.inr (100, [.int z])) => fX1_lambda_when_0 z p0 p1 p2
  | some (.inr (101, [.int z])) => fX1_lambda_sets_1 z p0 p1 p2
  | some (.inr (102, [])) => fX1_lambda_within_2 p0 p1 p2
  | some (.inr (103, [.int z])) => fX1_lambda_measure_3 z p0 p1 p2
  | some (.inr (104, [])) => fX1_lambda_member_4 p0 p1 p2
  | some (.inr (105, [])) => fX1_isJoined p0 p1 p2
  | some (.inr (106, [])) => fX1_lambda_prefix_5 p0 p1 p2
  | some (.inr (107, [])) => fX1_isLetter p0 p1 p2
  | _ => none
def fX15_keep_2 (σ : zH) (th : Nat) (p0 : Int32) (p1 : Int32) (p2 : Int32) : Option zH :=
(zgR [13] 4 σ th).bind fun r1 =>
(fholds σ r1 p0 p1 p2).bind fun x2 =>
if x2 = 0 then (some σ) else ((zgR [13] 1 σ th).bind fun r3 =>
(zaI σ r3 (0 : Int32)).bind fun x4 =>
(zsI σ r3 (0 : Int32) (x4 ||| ((1 : Int32) <<< (p0 &&& 31)))).bind fun σ5 =>
(zgR [13] 1 σ5 th).bind fun r6 =>
(zaI σ5 r6 (1 : Int32)).bind fun x7 =>
(zsI σ5 r6 (1 : Int32) (x7 ||| ((1 : Int32) <<< (p1 &&& 31)))).bind fun σ8 =>
(zis σ8 th 13).bind fun u9 =>
(fX9_size σ8 th).bind fun t10 =>
if t10 ≤ (2 : Int32) then (some σ8) else ((zgR [13] 1 σ8 th).bind fun r11 =>
(zaI σ8 r11 (2 : Int32)).bind fun x12 =>
(zsI σ8 r11 (2 : Int32) (x12 ||| ((1 : Int32) <<< (p2 &&& 31)))).bind fun σ13 =>
some σ13))
def fX15_keep_L76 (th : Nat) (p0 : Nat) (a7 : zH × Int32) (a9 : zH × Int32) (t6 : Int32) (a16 : zH × Int32) : Option ((zH × Int32) ⊕ (zH)) :=
if (32 : Int32) ≤ a16.2 then (some (.inr a16.1)) else ((zis a16.1 th 13).bind fun u20 =>
(fX9_domain a16.1 th p0 (1 : Int32)).bind fun t21 =>
(fX1_has t21 a9.2).bind fun t22 =>
if t22 = 0 then (some (.inr a16.1)) else ((fX1_has t6 a16.2).bind fun t23 =>
(if t23 = 0 then (some a16.1) else ((zis a16.1 th 13).bind fun u26 =>
(fX15_keep_2 a16.1 th a7.2 a9.2 a16.2).bind fun t27 =>
some t27)).bind fun t24 =>
(some (a16.2 + (1 : Int32))).bind fun x25 =>
some (.inl (t24, x25))))
def fX15_keep_L53 (n : Nat) (th : Nat) (p0 : Nat) (a7 : zH × Int32) (t6 : Int32) (a9 : zH × Int32) : Option ((zH × Int32) ⊕ (zH)) :=
if (32 : Int32) ≤ a9.2 then (some (.inr a9.1)) else ((zis a9.1 th 13).bind fun u13 =>
(fX9_domain a9.1 th p0 (0 : Int32)).bind fun t14 =>
(fX1_has t14 a7.2).bind fun t15 =>
if t15 = 0 then (some (.inr a9.1)) else ((zloop (fX15_keep_L76 th p0 a7 a9 t6) n (a9.1, (0 : Int32))).bind fun t18 =>
(some (a9.2 + (1 : Int32))).bind fun x19 =>
some (.inl (t18, x19))))
def fX15_keep_L44 (n : Nat) (th : Nat) (p0 : Nat) (t6 : Int32) (a7 : zH × Int32) : Option ((zH × Int32) ⊕ (zH)) :=
if (32 : Int32) ≤ a7.2 then (some (.inr a7.1)) else ((zloop (fX15_keep_L53 n th p0 a7 t6) n (a7.1, (0 : Int32))).bind fun t11 =>
(some (a7.2 + (1 : Int32))).bind fun x12 =>
some (.inl (t11, x12)))
def fX15_keep_L2 (th : Nat) (a1 : zH × Int32) : Option ((zH × Int32) ⊕ (zH)) :=
(zis a1.1 th 13).bind fun u37 =>
(fX9_size a1.1 th).bind fun t38 =>
if t38 ≤ a1.2 then (some (.inr a1.1)) else ((zgR [13] 1 a1.1 th).bind fun r39 =>
(zsI a1.1 r39 a1.2 (0 : Int32)).bind fun σ40 =>
(some (a1.2 + (1 : Int32))).bind fun x41 =>
some (.inl (σ40, x41)))
def fX15_keep (n : Nat) (σ : zH) (th : Nat) (p0 : Nat) : Option zH :=
(zloop (fX15_keep_L2 th) n (σ, (0 : Int32))).bind fun t3 =>
(zis t3 th 13).bind fun u4 =>
(fX9_size t3 th).bind fun t5 =>
(if t5 ≤ (2 : Int32) then (some (1 : Int32)) else ((zis t3 th 13).bind fun u34 =>
(fX9_domain t3 th p0 (2 : Int32)).bind fun t35 =>
some t35)).bind fun t6 =>
zloop (fX15_keep_L44 n th p0 t6) n (t3, (0 : Int32))
def fX8_value (σ : zH) (th : Nat) : Option Int32 :=
(zgI [7] 1 σ th).bind fun x1 =>
some x1
def fX8_has (σ : zH) (th : Nat) : Option Int32 :=
(zgI [7] 2 σ th).bind fun x1 =>
(zq x1).bind fun x2 =>
some x2
def fX16_holding (σ : zH) (th : Nat) (p0 : Int32) : Option Int32 :=
(zgR [14] 4 σ th).bind fun r1 =>
(zis σ r1 18).bind fun u2 =>
(fJ2_get σ r1 p0).bind fun t3 =>
(zis σ t3 7).bind fun u4 =>
(zis σ t3 7).bind fun u5 =>
(fX8_value σ t3).bind fun t6 =>
(some ((1 : Int32) <<< (t6 &&& 31))).bind fun x7 =>
(zgR [14] 4 σ th).bind fun r8 =>
(zis σ r8 18).bind fun u9 =>
(fJ2_get σ r8 p0).bind fun t10 =>
(zis σ t10 7).bind fun u11 =>
(zis σ t10 7).bind fun u12 =>
(fX8_has σ t10).bind fun t13 =>
if t13 = 0 then (some (x7 ^^^ (-1 : Int32))) else (some x7)
def fX16_keep_L15 (th : Nat) (p0 : Nat) (a1 : zH × Int32) (a5 : Int32 × Int32) : Option ((Int32 × Int32) ⊕ (Int32)) :=
(zis a1.1 th 14).bind fun u15 =>
(fX9_size a1.1 th).bind fun t16 =>
if t16 ≤ a5.2 then (some (.inr a5.1)) else ((zesc (if a5.2 = a1.2 then (some (.inl ())) else ((zis a1.1 th 14).bind fun u22 =>
(fX9_domain a1.1 th p0 a5.2).bind fun t23 =>
(zis a1.1 th 14).bind fun u24 =>
(fX16_holding a1.1 th a5.2).bind fun t25 =>
if (t23 &&& t25) = 0 then (some (.inl ())) else (some (.inr (1 : Int32))))) fun t20 =>
some (0 : Int32)).bind fun t17 =>
(some (a5.1 ||| t17)).bind fun x18 =>
(some (a5.2 + (1 : Int32))).bind fun x19 =>
some (.inl (x18, x19)))
def fX16_keep_L2 (n : Nat) (th : Nat) (p0 : Nat) (a1 : zH × Int32) : Option ((zH × Int32) ⊕ (zH)) :=
(zis a1.1 th 14).bind fun u3 =>
(fX9_size a1.1 th).bind fun t4 =>
if t4 ≤ a1.2 then (some (.inr a1.1)) else ((zloop (fX16_keep_L15 th p0 a1) n ((0 : Int32), (0 : Int32))).bind fun t7 =>
(zgR [14] 1 a1.1 th).bind fun r8 =>
(if t7 = 0 then ((zis a1.1 th 14).bind fun u12 =>
(fX16_holding a1.1 th a1.2).bind fun t13 =>
some t13) else (some (-1 : Int32))).bind fun t9 =>
(zsI a1.1 r8 a1.2 t9).bind fun σ10 =>
(some (a1.2 + (1 : Int32))).bind fun x11 =>
some (.inl (σ10, x11)))
def fX16_keep (n : Nat) (σ : zH) (th : Nat) (p0 : Nat) : Option zH :=
zloop (fX16_keep_L2 n th p0) n (σ, (0 : Int32))
def fX3_one_L2 (σ : zH) (th : Nat) (a1 : Int32) : Option ((Int32) ⊕ (Int32)) :=
(zgR [2] 0 σ th).bind fun r3 =>
(zaI σ r3 a1).bind fun x4 =>
if x4 = a1 then (some (.inr a1)) else ((zgR [2] 0 σ th).bind fun r5 =>
(zaI σ r5 a1).bind fun x6 =>
some (.inl x6))
def fX3_one (n : Nat) (σ : zH) (th : Nat) (p0 : Int32) : Option Int32 :=
zloop (fX3_one_L2 σ th) n p0
def fX3_symbol (n : Nat) (σ : zH) (th : Nat) (p0 : Int32) : Option Int32 :=
(zgR [2] 1 σ th).bind fun r1 =>
(zis σ th 2).bind fun u2 =>
(fX3_one n σ th p0).bind fun t3 =>
(zaI σ r1 t3).bind fun x4 =>
some x4
def fX17_keep (n : Nat) (σ : zH) (th : Nat) (p0 : Nat) : Option zH :=
(zgR [15] 4 σ th).bind fun r1 =>
(zgI [15] 5 σ th).bind fun x2 =>
(zis σ r1 2).bind fun u3 =>
(fX3_symbol n σ r1 x2).bind fun t4 =>
(zgR [15] 1 σ th).bind fun r5 =>
(if t4 = (-1 : Int32) then (some (-1 : Int32)) else (some ((1 : Int32) <<< (t4 &&& 31)))).bind fun t6 =>
(zsI σ r5 (0 : Int32) t6).bind fun σ7 =>
some σ7
def fX1_take_L85 (th : Nat) (p2 : Int32) (x2 : Int32) (x9 : Int32) (a10 : zH × Int32) : Option ((zH × Int32) ⊕ (zH)) :=
if ((x9.toUInt32 >>> (a10.2.toUInt32 &&& Int32.toUInt32 31)).toInt32) = 0 then (some (.inr a10.1)) else (if (32 : Int32) ≤ a10.2 then (some (.inr a10.1)) else ((fX1_has x9 a10.2).bind fun t18 =>
(if t18 = 0 then (some a10.1) else ((zgR [0] 20 a10.1 th).bind fun r21 =>
(zaR a10.1 r21 x2).bind fun r22 =>
(zsI a10.1 r22 a10.2 p2).bind fun σ23 =>
some σ23)).bind fun t19 =>
(some (a10.2 + (1 : Int32))).bind fun x20 =>
some (.inl (t19, x20))))
def fX1_take (n : Nat) (σ : zH) (th : Nat) (p0 : Nat) (p1 : Int32) (p2 : Int32) : Option zH :=
(zgR zcs 0 σ p0).bind fun r1 =>
(zaI σ r1 p1).bind fun x2 =>
(zis σ th 0).bind fun u3 =>
(fX1_isRatio σ th x2).bind fun t4 =>
if t4 = 0 then ((zgR [0] 17 σ th).bind fun r5 =>
(zaI σ r5 x2).bind fun x6 =>
(zgR zcs 1 σ p0).bind fun r7 =>
(zaI σ r7 p1).bind fun x8 =>
(some (x6 &&& (x8 ^^^ (-1 : Int32)))).bind fun x9 =>
(zloop (fX1_take_L85 th p2 x2 x9) n (σ, (0 : Int32))).bind fun t12 =>
(zgR [0] 17 t12 th).bind fun r13 =>
(zaI t12 r13 x2).bind fun x14 =>
(zgR zcs 1 t12 p0).bind fun r15 =>
(zaI t12 r15 p1).bind fun x16 =>
(zsI t12 r13 x2 (x14 &&& x16)).bind fun σ17 =>
some σ17) else ((zgR [0] 18 σ th).bind fun r27 =>
(zgR zcs 2 σ p0).bind fun r28 =>
(zaI σ r28 p1).bind fun x29 =>
(zgR [0] 18 σ th).bind fun r30 =>
(zaI σ r30 x2).bind fun x31 =>
(zsI σ r27 x2 (zmax x29 x31)).bind fun σ32 =>
(zgR [0] 19 σ32 th).bind fun r33 =>
(zgR zcs 3 σ32 p0).bind fun r34 =>
(zaI σ32 r34 p1).bind fun x35 =>
(zgR [0] 19 σ32 th).bind fun r36 =>
(zaI σ32 r36 x2).bind fun x37 =>
(zsI σ32 r33 x2 (zmin x35 x37)).bind fun σ38 =>
some σ38)
def fX1_trace_L3 (th : Nat) (p0 : Int32) (p1 : Int32) (p2 : Int32) (a1 : zH × Int32) : Option ((zH × Int32) ⊕ (zH)) :=
if (32 : Int32) ≤ a1.2 then (some (.inr a1.1)) else ((fX1_has p1 a1.2).bind fun t3 =>
(if t3 = 0 then (some a1.1) else ((zgR [0] 11 a1.1 th).bind fun r6 =>
(zgI [0] 15 a1.1 th).bind fun x7 =>
(zsI a1.1 r6 x7 p2).bind fun σ8 =>
(zgR [0] 12 σ8 th).bind fun r9 =>
(zgI [0] 15 σ8 th).bind fun x10 =>
(zsI σ8 r9 x10 p0).bind fun σ11 =>
(zgR [0] 13 σ11 th).bind fun r12 =>
(zgI [0] 15 σ11 th).bind fun x13 =>
(zsI σ11 r12 x13 a1.2).bind fun σ14 =>
(zgR [0] 14 σ14 th).bind fun r15 =>
(zgI [0] 15 σ14 th).bind fun x16 =>
(zgR [0] 20 σ14 th).bind fun r17 =>
(zaR σ14 r17 p0).bind fun r18 =>
(zaI σ14 r18 a1.2).bind fun x19 =>
(zsI σ14 r15 x16 x19).bind fun σ20 =>
(zgI [0] 15 σ20 th).bind fun x21 =>
(zpv [0] 15 σ20 th (.int (x21 + (1 : Int32)))).bind fun σ22 =>
some σ22)).bind fun t4 =>
(some (a1.2 + (1 : Int32))).bind fun x5 =>
some (.inl (t4, x5)))
def fX1_trace (n : Nat) (σ : zH) (th : Nat) (p0 : Int32) (p1 : Int32) (p2 : Int32) : Option zH :=
zloop (fX1_trace_L3 th p0 p1 p2) n (σ, (0 : Int32))
/-- a constraint lays what it keeps: by its class -/
def fkeep (n : Nat) (σ : zH) (c st : Nat) : Option zH := (zcls σ c).bind fun ci =>
  if ci = 8 then fX10_keep n σ c st else
  if ci = 9 then fX11_keep n σ c st else
  if ci = 10 then fX12_keep n σ c st else
  if ci = 11 then fX13_keep n σ c st else
  if ci = 12 then fX14_keep n σ c st else
  if ci = 13 then fX15_keep n σ c st else
  if ci = 14 then fX16_keep n σ c st else
  if ci = 15 then fX17_keep n σ c st else
  none
def fX1_makeRound_L132 (n : Nat) (th : Nat) (p0 : Nat) (p1 : Int32) (a7 : zH × Int32 × Int32) : Option ((zH × Int32 × Int32) ⊕ ((zH × Int32))) :=
(zgR [0] 0 a7.1 th).bind fun r9 =>
(zis a7.1 r9 18).bind fun u10 =>
(fJ2_size a7.1 r9).bind fun t11 =>
if t11 ≤ a7.2.2 then ((zq a7.2.1).bind fun x12 =>
some (.inr (a7.1, x12))) else ((if p1 = 0 then (some a7.1) else ((zis a7.1 th 0).bind fun u46 =>
(fX1_isRatio a7.1 th a7.2.2).bind fun t47 =>
if t47 = 0 then ((zgR [3] 0 a7.1 p0).bind fun r48 =>
(zaI a7.1 r48 a7.2.2).bind fun x49 =>
(zgR [0] 17 a7.1 th).bind fun r50 =>
(zaI a7.1 r50 a7.2.2).bind fun x51 =>
(zgI [3] 4 a7.1 p0).bind fun x52 =>
(zis a7.1 th 0).bind fun u53 =>
(fX1_trace n a7.1 th a7.2.2 (x49 &&& (x51 ^^^ (-1 : Int32))) (x52 + (1 : Int32))).bind fun t54 =>
some t54) else (some a7.1))).bind fun t13 =>
(zgR [3] 0 t13 p0).bind fun r14 =>
(zaI t13 r14 a7.2.2).bind fun x15 =>
(zgR [0] 17 t13 th).bind fun r16 =>
(zaI t13 r16 a7.2.2).bind fun x17 =>
(zesc (if x15 = x17 then ((zgR [3] 1 t13 p0).bind fun r35 =>
(zaI t13 r35 a7.2.2).bind fun x36 =>
(zgR [0] 18 t13 th).bind fun r37 =>
(zaI t13 r37 a7.2.2).bind fun x38 =>
if x36 = x38 then ((zgR [3] 2 t13 p0).bind fun r39 =>
(zaI t13 r39 a7.2.2).bind fun x40 =>
(zgR [0] 19 t13 th).bind fun r41 =>
(zaI t13 r41 a7.2.2).bind fun x42 =>
if x40 = x42 then (some (.inr (0 : Int32))) else (some (.inl ()))) else (some (.inl ()))) else (some (.inl ()))) fun t33 =>
some (1 : Int32)).bind fun t18 =>
(some (a7.2.1 ||| t18)).bind fun x19 =>
(zgR [3] 0 t13 p0).bind fun r20 =>
(zgR [0] 17 t13 th).bind fun r21 =>
(zaI t13 r21 a7.2.2).bind fun x22 =>
(zsI t13 r20 a7.2.2 x22).bind fun σ23 =>
(zgR [3] 1 σ23 p0).bind fun r24 =>
(zgR [0] 18 σ23 th).bind fun r25 =>
(zaI σ23 r25 a7.2.2).bind fun x26 =>
(zsI σ23 r24 a7.2.2 x26).bind fun σ27 =>
(zgR [3] 2 σ27 p0).bind fun r28 =>
(zgR [0] 19 σ27 th).bind fun r29 =>
(zaI σ27 r29 a7.2.2).bind fun x30 =>
(zsI σ27 r28 a7.2.2 x30).bind fun σ31 =>
(some (a7.2.2 + (1 : Int32))).bind fun x32 =>
some (.inl (σ31, x19, x32)))
def fX1_makeRound_L96 (n : Nat) (th : Nat) (a4 : zH × Int32) (t63 : Nat) (a66 : zH × Int32) : Option ((zH × Int32) ⊕ (zH)) :=
(fX9_size a66.1 t63).bind fun t70 =>
if t70 ≤ a66.2 then (some (.inr a66.1)) else ((zis a66.1 th 0).bind fun u71 =>
(fX1_take n a66.1 th t63 a66.2 a4.2).bind fun t72 =>
(some (a66.2 + (1 : Int32))).bind fun x73 =>
some (.inl (t72, x73)))
def fX1_makeRound_L59 (n : Nat) (th : Nat) (p0 : Nat) (a4 : zH × Int32) : Option ((zH × Int32) ⊕ (zH)) :=
(zgR [0] 1 a4.1 th).bind fun r58 =>
(zis a4.1 r58 18).bind fun u59 =>
(fJ2_size a4.1 r58).bind fun t60 =>
if t60 ≤ a4.2 then (some (.inr a4.1)) else ((zgR [0] 1 a4.1 th).bind fun r61 =>
(zis a4.1 r61 18).bind fun u62 =>
(fJ2_get a4.1 r61 a4.2).bind fun t63 =>
(zcon a4.1 t63).bind fun u64 =>
(fkeep n a4.1 t63 p0).bind fun σ65 =>
(zloop (fX1_makeRound_L96 n th a4 t63) n (σ65, (0 : Int32))).bind fun t68 =>
(some (a4.2 + (1 : Int32))).bind fun x69 =>
some (.inl (t68, x69)))
def fX1_makeRound_L2 (th : Nat) (p0 : Nat) (a1 : zH × Int32) : Option ((zH × Int32) ⊕ (zH)) :=
(zgR [0] 0 a1.1 th).bind fun r76 =>
(zis a1.1 r76 18).bind fun u77 =>
(fJ2_size a1.1 r76).bind fun t78 =>
if t78 ≤ a1.2 then (some (.inr a1.1)) else ((zgR [0] 17 a1.1 th).bind fun r79 =>
(zgR [3] 0 a1.1 p0).bind fun r80 =>
(zaI a1.1 r80 a1.2).bind fun x81 =>
(zsI a1.1 r79 a1.2 x81).bind fun σ82 =>
(zgR [0] 18 σ82 th).bind fun r83 =>
(zgR [3] 1 σ82 p0).bind fun r84 =>
(zaI σ82 r84 a1.2).bind fun x85 =>
(zsI σ82 r83 a1.2 x85).bind fun σ86 =>
(zgR [0] 19 σ86 th).bind fun r87 =>
(zgR [3] 2 σ86 p0).bind fun r88 =>
(zaI σ86 r88 a1.2).bind fun x89 =>
(zsI σ86 r87 a1.2 x89).bind fun σ90 =>
(some (a1.2 + (1 : Int32))).bind fun x91 =>
some (.inl (σ90, x91)))
def fX1_makeRound (n : Nat) (σ : zH) (th : Nat) (p0 : Nat) (p1 : Int32) : Option (zH × Int32) :=
(zloop (fX1_makeRound_L2 th p0) n (σ, (0 : Int32))).bind fun t3 =>
(zloop (fX1_makeRound_L59 n th p0) n (t3, (0 : Int32))).bind fun t6 =>
zloop (fX1_makeRound_L132 n th p0 p1) n (t6, (0 : Int32), (0 : Int32))
def fX1_solve_L35 (n : Nat) (th : Nat) (p0 : Nat) (p1 : Int32) (a7 : zH × Int32) : Option ((zH × Int32) ⊕ (zH)) :=
if a7.2 = 0 then (some (.inr a7.1)) else ((zis a7.1 th 0).bind fun u9 =>
(fX1_makeRound n a7.1 th p0 p1).bind fun t10 =>
if t10.2 = 0 then (some (.inr t10.1)) else ((zgI [3] 4 t10.1 p0).bind fun x11 =>
(zpv [3] 4 t10.1 p0 (.int (x11 + (1 : Int32)))).bind fun σ12 =>
(zis σ12 th 0).bind fun u13 =>
(fX1_seesFailure n σ12 th p0).bind fun t14 =>
(if t14.2 = 0 then (some (1 : Int32)) else (some (0 : Int32))).bind fun t15 =>
some (.inl (t14.1, t15))))
def fX1_solve (n : Nat) (σ : zH) (th : Nat) (p0 : Nat) (p1 : Int32) : Option zH :=
(zpv [3] 4 σ p0 (.int (0 : Int32))).bind fun σ1 =>
(if p1 = 0 then ((zgI [0] 15 σ1 th).bind fun x20 =>
some x20) else (some (0 : Int32))).bind fun t2 =>
(zpv [0] 15 σ1 th (.int t2)).bind fun σ3 =>
(zis σ3 th 0).bind fun u4 =>
(fX1_seesFailure n σ3 th p0).bind fun t5 =>
(if t5.2 = 0 then (some (1 : Int32)) else (some (0 : Int32))).bind fun t6 =>
zloop (fX1_solve_L35 n th p0 p1) n (t5.1, t6)
def fX1_store (n : Nat) (σ : zH) (th : Nat) : Option (zH × Nat) :=
(zgI [0] 10 σ th).bind fun x1 =>
(if x1 = 0 then ((zgR [0] 9 σ th).bind fun r4 =>
(zgR [0] 6 σ th).bind fun r5 =>
(zis σ th 0).bind fun u6 =>
(fX1_begin n σ th r4 r5 (-1 : Int32)).bind fun t7 =>
(zgR [0] 9 t7 th).bind fun r8 =>
(zis t7 th 0).bind fun u9 =>
(fX1_solve n t7 th r8 (1 : Int32)).bind fun t10 =>
(zpZ [0] 10 t10 th (1 : Int32)).bind fun σ11 =>
some σ11) else (some σ)).bind fun t2 =>
(zgR [0] 9 t2 th).bind fun r3 =>
some (t2, r3)
def fX1_isFailed (n : Nat) (σ : zH) (th : Nat) : Option (zH × Int32) :=
(zis σ th 0).bind fun u1 =>
(fX1_store n σ th).bind fun t2 =>
(zgI [3] 3 t2.1 t2.2).bind fun x3 =>
(zq x3).bind fun x4 =>
some (t2.1, x4)
def fX1_rounds (n : Nat) (σ : zH) (th : Nat) : Option (zH × Int32) :=
(zis σ th 0).bind fun u1 =>
(fX1_store n σ th).bind fun t2 =>
(zgI [3] 4 t2.1 t2.2).bind fun x3 =>
some (t2.1, x3)
def fX1_removals (n : Nat) (σ : zH) (th : Nat) : Option (zH × Int32) :=
(zis σ th 0).bind fun u1 =>
(fX1_store n σ th).bind fun t2 =>
(zgI [0] 15 t2.1 th).bind fun x3 =>
some (t2.1, x3)
def fX1_nodes (σ : zH) (th : Nat) : Option Int32 :=
(zgI [0] 25 σ th).bind fun x1 =>
some x1
def fX1_failures (σ : zH) (th : Nat) : Option Int32 :=
(zgI [0] 26 σ th).bind fun x1 =>
some x1
def fX1_best (σ : zH) (th : Nat) : Option Int32 :=
(zgI [0] 33 σ th).bind fun x1 =>
if x1 = (-1 : Int32) then (some (-1 : Int32)) else ((zgI [0] 34 σ th).bind fun x2 =>
some x2)
def fX1_check (σ : zH) (p0 : Int32) (p1 : Int32) (p2 : Int32) : Option (zX ⊕ Unit) :=
zesc (if p0 < p1 then (some (.inl ())) else (if p0 ≤ p2 then (some (.inr (.inr ()))) else (some (.inl ())))) fun t1 =>
some (.inl (1, σ))
def fX1_checkArgument (σ : zH) (p0 : Int32) : Option (zX ⊕ Unit) :=
if p0 = 0 then (some (.inl (1, σ))) else (some (.inr ()))
def fX6_init (σ : zH) (th : Nat) (p0 : Int32) (p1 : Int32) (p2 : Int32) (p3 : Int32) : Option zH :=
(fJ7_init th).bind fun t1 =>
(zpv [5] 0 σ th (.int p0)).bind fun σ2 =>
(zpv [5] 1 σ2 th (.int p1)).bind fun σ3 =>
(zpv [5] 2 σ3 th (.int p2)).bind fun σ4 =>
(zpv [5] 3 σ4 th (.int p3)).bind fun σ5 =>
some σ5
def fX1_checkState (σ : zH) (p0 : Int32) : Option (zX ⊕ Unit) :=
if p0 = 0 then (some (.inl (2, σ))) else (some (.inr ()))
def fX1_add (σ : zH) (sz : Nat) (th : Nat) (p0 : Nat) : Option (zX ⊕ (zH × Nat × Int32)) :=
(zgR [0] 0 σ th).bind fun r1 =>
(zis σ r1 18).bind fun u2 =>
(fJ2_size σ r1).bind fun t3 =>
(if (10 : Int32) ≤ t3 then (some (0 : Int32)) else (some (1 : Int32))).bind fun t4 =>
zthr (fX1_checkState σ t4) (fun e14 => some (.inl e14)) fun t5 =>
(zgR [0] 0 σ th).bind fun r6 =>
(zis σ r6 18).bind fun u7 =>
(fJ2_add σ sz r6 p0).bind fun t8 =>
(zpZ [0] 10 t8.1 th (0 : Int32)).bind fun σ9 =>
(zgR [0] 0 σ9 th).bind fun r10 =>
(zis σ9 r10 18).bind fun u11 =>
(fJ2_size σ9 r10).bind fun t12 =>
some (.inr (σ9, t8.2.1, t12 - (1 : Int32)))
def fX1_variable (σ : zH) (sz : Nat) (th : Nat) (p0 : Int32) (p1 : Int32) : Option (zX ⊕ (zH × Nat × Int32)) :=
zthr (fX1_check σ p0 (0 : Int32) (2 : Int32)) (fun e19 => some (.inl e19)) fun t1 =>
(zaI σ (σ.1 0) p0).bind fun x2 =>
(some (((-1 : Int32).toUInt32 >>> (((31 : Int32) - x2).toUInt32 &&& Int32.toUInt32 31)).toInt32)).bind fun x3 =>
(zesc (if (p1 &&& (x3 ^^^ (-1 : Int32))) = 0 then (if p1 = 0 then (some (.inl ())) else (some (.inr (1 : Int32)))) else (some (.inl ()))) fun t14 =>
some (0 : Int32)).bind fun t4 =>
zthr (fX1_checkArgument σ t4) (fun e13 => some (.inl e13)) fun t5 =>
(some (zset σ sz (.inr (5, zfd5)))).bind fun σ6 =>
(fX6_init σ6 sz p0 p1 (0 : Int32) (0 : Int32)).bind fun t7 =>
(zis t7 th 0).bind fun u8 =>
zthr (fX1_add t7 (sz + 1) th sz) (fun e11 => some (.inl e11)) fun t9 =>
some (.inr (t9.1, t9.2.1, t9.2.2))
def fX1_ratio (σ : zH) (sz : Nat) (th : Nat) (p0 : Int32) (p1 : Int32) : Option (zX ⊕ (zH × Nat × Int32)) :=
zthr (fX1_check σ p0 (-120 : Int32) (120 : Int32)) (fun e12 => some (.inl e12)) fun t1 =>
zthr (fX1_check σ p1 p0 (120 : Int32)) (fun e10 => some (.inl e10)) fun t2 =>
(some (zset σ sz (.inr (5, zfd5)))).bind fun σ3 =>
(fX6_init σ3 sz (3 : Int32) (0 : Int32) p0 p1).bind fun t4 =>
(zis t4 th 0).bind fun u5 =>
zthr (fX1_add t4 (sz + 1) th sz) (fun e8 => some (.inl e8)) fun t6 =>
some (.inr (t6.1, t6.2.1, t6.2.2))
def fX1_checkIndex (σ : zH) (p0 : Int32) (p1 : Int32) : Option (zX ⊕ Unit) :=
zesc (if p0 < 0 then (some (.inl ())) else (if p0 < p1 then (some (.inr (.inr ()))) else (some (.inl ())))) fun t1 =>
some (.inl (3, σ))
def fX1_variable_2 (σ : zH) (th : Nat) (p0 : Int32) : Option (zX ⊕ Nat) :=
(zgR [0] 0 σ th).bind fun r1 =>
(zis σ r1 18).bind fun u2 =>
(fJ2_size σ r1).bind fun t3 =>
zthr (fX1_checkIndex σ p0 t3) (fun e10 => some (.inl e10)) fun t4 =>
(zgR [0] 0 σ th).bind fun r5 =>
(zis σ r5 18).bind fun u6 =>
(fJ2_get σ r5 p0).bind fun t7 =>
(zis σ t7 5).bind fun u8 =>
some (.inr t7)
def fX1_name (σ : zH) (sz : Nat) (th : Nat) (p0 : Int32) : Option (zX ⊕ (zH × Nat × Int32)) :=
(zis σ th 0).bind fun u1 =>
zthr (fX1_variable_2 σ th p0) (fun e19 => some (.inl e19)) fun t2 =>
(zgR [0] 2 σ th).bind fun r3 =>
(zis σ r3 18).bind fun u4 =>
(fJ2_size σ r3).bind fun t5 =>
(if (6 : Int32) ≤ t5 then (some (0 : Int32)) else (some (1 : Int32))).bind fun t6 =>
zthr (fX1_checkState σ t6) (fun e16 => some (.inl e16)) fun t7 =>
(zgR [0] 2 σ th).bind fun r8 =>
(fJ18_valueOf σ p0).bind fun t9 =>
(zis σ r8 18).bind fun u10 =>
(fJ2_add σ sz r8 t9).bind fun t11 =>
(zgR [0] 2 t11.1 th).bind fun r12 =>
(zis t11.1 r12 18).bind fun u13 =>
(fJ2_size t11.1 r12).bind fun t14 =>
some (.inr (t11.1, t11.2.1, t14))
def fX1_number (σ : zH) (sz : Nat) (th : Nat) (p0 : Int32) : Option (zX ⊕ (zH × Nat × Int32)) :=
zthr (fX1_check σ p0 (-9 : Int32) (9 : Int32)) (fun e18 => some (.inl e18)) fun t1 =>
(zgR [0] 3 σ th).bind fun r2 =>
(zis σ r2 18).bind fun u3 =>
(fJ2_size σ r2).bind fun t4 =>
(if (6 : Int32) ≤ t4 then (some (0 : Int32)) else (some (1 : Int32))).bind fun t5 =>
zthr (fX1_checkState σ t5) (fun e15 => some (.inl e15)) fun t6 =>
(zgR [0] 3 σ th).bind fun r7 =>
(fJ18_valueOf σ p0).bind fun t8 =>
(zis σ r7 18).bind fun u9 =>
(fJ2_add σ sz r7 t8).bind fun t10 =>
(zgR [0] 3 t10.1 th).bind fun r11 =>
(zis t10.1 r11 18).bind fun u12 =>
(fJ2_size t10.1 r11).bind fun t13 =>
some (.inr (t10.1, t10.2.1, t13))
def fX7_init (σ : zH) (th : Nat) (p0 : Int32) (p1 : Int32) (p2 : Int32) : Option zH :=
(fJ7_init th).bind fun t1 =>
(zpv [6] 0 σ th (.int p0)).bind fun σ2 =>
(zpv [6] 1 σ2 th (.int p1)).bind fun σ3 =>
(zpv [6] 2 σ3 th (.int p2)).bind fun σ4 =>
some σ4
def fX1_move (σ : zH) (sz : Nat) (th : Nat) (p0 : Int32) (p1 : Int32) (p2 : Int32) : Option (zX ⊕ (zH × Nat × Int32)) :=
zthr (fX1_check σ p0 (0 : Int32) (5 : Int32)) (fun e26 => some (.inl e26)) fun t1 =>
(zaI σ (σ.1 0) (0 : Int32)).bind fun x2 =>
zthr (fX1_check σ p1 (0 : Int32) x2) (fun e24 => some (.inl e24)) fun t3 =>
zthr (fX1_check σ p2 (0 : Int32) (5 : Int32)) (fun e22 => some (.inl e22)) fun t4 =>
(zgR [0] 4 σ th).bind fun r5 =>
(zis σ r5 18).bind fun u6 =>
(fJ2_size σ r5).bind fun t7 =>
(if (16 : Int32) ≤ t7 then (some (0 : Int32)) else (some (1 : Int32))).bind fun t8 =>
zthr (fX1_checkState σ t8) (fun e19 => some (.inl e19)) fun t9 =>
(zgR [0] 4 σ th).bind fun r10 =>
(some (zset σ sz (.inr (6, zfd6)))).bind fun σ11 =>
(fX7_init σ11 sz p0 p1 p2).bind fun t12 =>
(zis t12 r10 18).bind fun u13 =>
(fJ2_add t12 (sz + 1) r10 sz).bind fun t14 =>
(zgR [0] 4 t14.1 th).bind fun r15 =>
(zis t14.1 r15 18).bind fun u16 =>
(fJ2_size t14.1 r15).bind fun t17 =>
some (.inr (t14.1, t14.2.1, t17))
def fX6_greatest (σ : zH) (th : Nat) : Option Int32 :=
(zgI [5] 0 σ th).bind fun x1 =>
(zaI σ (σ.1 0) x1).bind fun x2 =>
some x2
def fX1_checkValue (σ : zH) (th : Nat) (p0 : Int32) (p1 : Int32) : Option (zX ⊕ Unit) :=
(zis σ th 0).bind fun u1 =>
zthr (fX1_variable_2 σ th p0) (fun e14 => some (.inl e14)) fun t2 =>
(zis σ t2 5).bind fun u3 =>
(fX6_kind σ t2).bind fun t4 =>
zthr (fX1_check σ t4 (0 : Int32) (2 : Int32)) (fun e12 => some (.inl e12)) fun t5 =>
(zis σ t2 5).bind fun u6 =>
(fX6_greatest σ t2).bind fun t7 =>
zthr (fX1_check σ p1 (0 : Int32) t7) (fun e10 => some (.inl e10)) fun t8 =>
some (.inr ())
def fX8_init (σ : zH) (th : Nat) (p0 : Int32) (p1 : Int32) (p2 : Int32) : Option zH :=
(fJ7_init th).bind fun t1 =>
(zpv [7] 0 σ th (.int p0)).bind fun σ2 =>
(zpv [7] 1 σ2 th (.int p1)).bind fun σ3 =>
(zpZ [7] 2 σ3 th p2).bind fun σ4 =>
some σ4
def fX1_literal (σ : zH) (sz : Nat) (th : Nat) (p0 : Int32) (p1 : Int32) (p2 : Int32) : Option (zX ⊕ (zH × Nat × Int32)) :=
(zis σ th 0).bind fun u1 =>
zthr (fX1_checkValue σ th p0 p1) (fun e20 => some (.inl e20)) fun t2 =>
(zgR [0] 5 σ th).bind fun r3 =>
(zis σ r3 18).bind fun u4 =>
(fJ2_size σ r3).bind fun t5 =>
(if (6 : Int32) ≤ t5 then (some (0 : Int32)) else (some (1 : Int32))).bind fun t6 =>
zthr (fX1_checkState σ t6) (fun e17 => some (.inl e17)) fun t7 =>
(zgR [0] 5 σ th).bind fun r8 =>
(some (zset σ sz (.inr (7, zfd7)))).bind fun σ9 =>
(fX8_init σ9 sz p0 p1 p2).bind fun t10 =>
(zis t10 r8 18).bind fun u11 =>
(fJ2_add t10 (sz + 1) r8 sz).bind fun t12 =>
(zgR [0] 5 t12.1 th).bind fun r13 =>
(zis t12.1 r13 18).bind fun u14 =>
(fJ2_size t12.1 r13).bind fun t15 =>
some (.inr (t12.1, t12.2.1, t15))
def fX1_takeNames (σ : zH) (sz : Nat) (th : Nat) : Option (zH × Nat × Nat) :=
(zgR [0] 2 σ th).bind fun r1 =>
(some (zset σ sz (.inr (18, zfd18)))).bind fun σ2 =>
(fJ2_init σ2 sz).bind fun t3 =>
(zpv [0] 2 t3 th (.ref sz)).bind fun σ4 =>
some (σ4, sz + 1, r1)
def fX1_isOf (σ : zH) (th : Nat) (p0 : Int32) (p1 : Int32) : Option Int32 :=
(zgR [0] 0 σ th).bind fun r1 =>
(zis σ r1 18).bind fun u2 =>
(fJ2_get σ r1 p0).bind fun t3 =>
(zis σ t3 5).bind fun u4 =>
(zis σ t3 5).bind fun u5 =>
(fX6_kind σ t3).bind fun t6 =>
if t6 = p1 then (some (1 : Int32)) else (some (0 : Int32))
def fX9_init_L51 (sz : Nat) (th : Nat) (p0 : Nat) (a17 : zH × Int32) : Option ((zH × Int32) ⊕ ((zH × Nat))) :=
(zgR zcs 0 a17.1 th).bind fun r19 =>
(zln a17.1 r19).bind fun x20 =>
if x20 ≤ a17.2 then (some (.inr (a17.1, sz + 4))) else ((zgR zcs 0 a17.1 th).bind fun r21 =>
(zis a17.1 p0 18).bind fun u22 =>
(fJ2_get a17.1 p0 a17.2).bind fun t23 =>
(zis a17.1 t23 19).bind fun u24 =>
(zis a17.1 t23 19).bind fun u25 =>
(fJ18_intValue a17.1 t23).bind fun t26 =>
(zsI a17.1 r21 a17.2 t26).bind fun σ27 =>
(some (a17.2 + (1 : Int32))).bind fun x28 =>
some (.inl (σ27, x28)))
def fX9_init (n : Nat) (σ : zH) (sz : Nat) (th : Nat) (p0 : Nat) : Option (zH × Nat) :=
(zis σ p0 18).bind fun u1 =>
(fJ2_size σ p0).bind fun t2 =>
(znA 0 8 σ sz t2).bind fun σ3 =>
(zpv zcs 0 σ3 th (.ref sz)).bind fun σ4 =>
(zgR zcs 0 σ4 th).bind fun r5 =>
(zln σ4 r5).bind fun x6 =>
(znA 0 8 σ4 (sz + 1) x6).bind fun σ7 =>
(zpv zcs 1 σ7 th (.ref (sz + 1))).bind fun σ8 =>
(zgR zcs 0 σ8 th).bind fun r9 =>
(zln σ8 r9).bind fun x10 =>
(znA 0 8 σ8 (sz + 2) x10).bind fun σ11 =>
(zpv zcs 2 σ11 th (.ref (sz + 2))).bind fun σ12 =>
(zgR zcs 0 σ12 th).bind fun r13 =>
(zln σ12 r13).bind fun x14 =>
(znA 0 8 σ12 (sz + 3) x14).bind fun σ15 =>
(zpv zcs 3 σ15 th (.ref (sz + 3))).bind fun σ16 =>
zloop (fX9_init_L51 sz th p0) n (σ16, (0 : Int32))
def fX10_init_L35 (th : Nat) (p1 : Nat) (t1 : zH × Nat) (a9 : zH × Int32) : Option ((zH × Int32) ⊕ ((zH × Nat))) :=
(zgR [8] 4 a9.1 th).bind fun r11 =>
(zln a9.1 r11).bind fun x12 =>
if x12 ≤ a9.2 then (some (.inr (a9.1, t1.2 + 1))) else ((zgR [8] 4 a9.1 th).bind fun r13 =>
(zis a9.1 p1 18).bind fun u14 =>
(fJ2_get a9.1 p1 a9.2).bind fun t15 =>
(zis a9.1 t15 19).bind fun u16 =>
(zis a9.1 t15 19).bind fun u17 =>
(fJ18_intValue a9.1 t15).bind fun t18 =>
(zsI a9.1 r13 a9.2 t18).bind fun σ19 =>
(some (a9.2 + (1 : Int32))).bind fun x20 =>
some (.inl (σ19, x20)))
def fX10_init (n : Nat) (σ : zH) (sz : Nat) (th : Nat) (p0 : Nat) (p1 : Nat) (p2 : Nat) (p3 : Int32) (p4 : Int32) : Option (zH × Nat) :=
(fX9_init n σ sz th p0).bind fun t1 =>
(zpv [8] 5 t1.1 th (.ref p2)).bind fun σ2 =>
(zpZ [8] 6 σ2 th p3).bind fun σ3 =>
(zpv [8] 7 σ3 th (.int p4)).bind fun σ4 =>
(zis σ4 th 8).bind fun u5 =>
(fX9_size σ4 th).bind fun t6 =>
(znA 0 8 σ4 t1.2 t6).bind fun σ7 =>
(zpv [8] 4 σ7 th (.ref t1.2)).bind fun σ8 =>
zloop (fX10_init_L35 th p1 t1) n (σ8, (0 : Int32))
def fX1_hasRoom (σ : zH) (th : Nat) : Option Int32 :=
(zgR [0] 1 σ th).bind fun r1 =>
(zis σ r1 18).bind fun u2 =>
(fJ2_size σ r1).bind fun t3 =>
if (24 : Int32) ≤ t3 then (some (0 : Int32)) else (some (1 : Int32))
def fX1_add_2 (σ : zH) (sz : Nat) (th : Nat) (p0 : Nat) : Option (zX ⊕ (zH × Nat × Int32)) :=
(zis σ th 0).bind fun u1 =>
(fX1_hasRoom σ th).bind fun t2 =>
zthr (fX1_checkState σ t2) (fun e12 => some (.inl e12)) fun t3 =>
(zgR [0] 1 σ th).bind fun r4 =>
(zis σ r4 18).bind fun u5 =>
(fJ2_add σ sz r4 p0).bind fun t6 =>
(zpZ [0] 10 t6.1 th (0 : Int32)).bind fun σ7 =>
(zgR [0] 1 σ7 th).bind fun r8 =>
(zis σ7 r8 18).bind fun u9 =>
(fJ2_size σ7 r8).bind fun t10 =>
some (.inr (σ7, t6.2.1, t10 - (1 : Int32)))
def fX1_linear_L77 (th : Nat) (t3 : zH × Nat × Nat) (a14 : zH × Int32 × Int32) : Option ((zH × Int32 × Int32) ⊕ (zH × Int32)) :=
(zis a14.1 t3.2.2 18).bind fun u26 =>
(fJ2_size a14.1 t3.2.2).bind fun t27 =>
if t27 ≤ a14.2.2 then (some (.inr (a14.1, a14.2.1))) else ((zis a14.1 t3.2.2 18).bind fun u28 =>
(fJ2_get a14.1 t3.2.2 a14.2.2).bind fun t29 =>
(zis a14.1 t29 19).bind fun u30 =>
(zis a14.1 t29 19).bind fun u31 =>
(fJ18_intValue a14.1 t29).bind fun t32 =>
(zis a14.1 th 0).bind fun u33 =>
(fX1_isOf a14.1 th t32 (3 : Int32)).bind fun t34 =>
(zsZ a14.1 (t3.2.1 + 1) a14.2.2 t34).bind fun σ35 =>
(zaZ σ35 (t3.2.1 + 1) a14.2.2).bind fun x36 =>
(zesc (if x36 = 0 then ((zis σ35 t3.2.2 18).bind fun u42 =>
(fJ2_get σ35 t3.2.2 a14.2.2).bind fun t43 =>
(zis σ35 t43 19).bind fun u44 =>
(zis σ35 t43 19).bind fun u45 =>
(fJ18_intValue σ35 t43).bind fun t46 =>
(zis σ35 th 0).bind fun u47 =>
(fX1_isOf σ35 th t46 (0 : Int32)).bind fun t48 =>
if t48 = 0 then (some (.inr (0 : Int32))) else (some (.inl ()))) else (some (.inl ()))) fun t40 =>
some (1 : Int32)).bind fun t37 =>
(some (a14.2.1 &&& t37)).bind fun x38 =>
(some (a14.2.2 + (1 : Int32))).bind fun x39 =>
some (.inl (σ35, x38, x39)))
def fX1_linear (n : Nat) (σ : zH) (sz : Nat) (th : Nat) (p0 : Int32) (p1 : Int32) : Option (zX ⊕ (zH × Nat × Int32)) :=
zthr (fX1_check σ p1 (-2000 : Int32) (2000 : Int32)) (fun e61 => some (.inl e61)) fun t1 =>
(zis σ th 0).bind fun u2 =>
(fX1_takeNames σ sz th).bind fun t3 =>
(zgR [0] 3 t3.1 th).bind fun r4 =>
(some (zset t3.1 t3.2.1 (.inr (18, zfd18)))).bind fun σ5 =>
(fJ2_init σ5 t3.2.1).bind fun t6 =>
(zpv [0] 3 t6 th (.ref t3.2.1)).bind fun σ7 =>
(zis σ7 t3.2.2 18).bind fun u8 =>
(fJ2_size σ7 t3.2.2).bind fun t9 =>
(znA 1 8 σ7 (t3.2.1 + 1) t9).bind fun σ10 =>
(zis σ10 t3.2.2 18).bind fun u11 =>
(fJ2_isEmpty σ10 t3.2.2).bind fun t12 =>
(zesc (if t12 = 0 then ((zis σ10 t3.2.2 18).bind fun u54 =>
(fJ2_size σ10 t3.2.2).bind fun t55 =>
(zis σ10 r4 18).bind fun u56 =>
(fJ2_size σ10 r4).bind fun t57 =>
if t55 = t57 then (some (.inr (1 : Int32))) else (some (.inl ()))) else (some (.inl ()))) fun t52 =>
some (0 : Int32)).bind fun t13 =>
(zloop (fX1_linear_L77 th t3) n (σ10, t13, (0 : Int32))).bind fun t16 =>
zthr (fX1_checkState t16.1 t16.2) (fun e25 => some (.inl e25)) fun t17 =>
(some (zset t16.1 (t3.2.1 + 2) (.inr (8, zfd8)))).bind fun σ18 =>
(fX10_init n σ18 (t3.2.1 + 3) (t3.2.1 + 2) t3.2.2 r4 (t3.2.1 + 1) p0 p1).bind fun t19 =>
(zis t19.1 th 0).bind fun u20 =>
zthr (fX1_add_2 t19.1 t19.2 th (t3.2.1 + 2)) (fun e23 => some (.inl e23)) fun t21 =>
some (.inr (t21.1, t21.2.1, t21.2.2))
def fX1_areInts_L17 (σ : zH) (th : Nat) (p0 : Nat) (a4 : Int32 × Int32) : Option ((Int32 × Int32) ⊕ (Int32)) :=
(zis σ p0 18).bind fun u6 =>
(fJ2_size σ p0).bind fun t7 =>
if t7 ≤ a4.2 then ((zq a4.1).bind fun x8 =>
some (.inr x8)) else ((zis σ p0 18).bind fun u9 =>
(fJ2_get σ p0 a4.2).bind fun t10 =>
(zis σ t10 19).bind fun u11 =>
(zis σ t10 19).bind fun u12 =>
(fJ18_intValue σ t10).bind fun t13 =>
(zis σ th 0).bind fun u14 =>
(fX1_isOf σ th t13 (0 : Int32)).bind fun t15 =>
(some (a4.1 &&& t15)).bind fun x16 =>
(some (a4.2 + (1 : Int32))).bind fun x17 =>
some (.inl (x16, x17)))
def fX1_areInts (n : Nat) (σ : zH) (th : Nat) (p0 : Nat) : Option Int32 :=
(zis σ p0 18).bind fun u1 =>
(fJ2_isEmpty σ p0).bind fun t2 =>
(if t2 = 0 then (some (1 : Int32)) else (some (0 : Int32))).bind fun t3 =>
zloop (fX1_areInts_L17 σ th p0) n (t3, (0 : Int32))
def fX11_init (n : Nat) (σ : zH) (sz : Nat) (th : Nat) (p0 : Nat) : Option (zH × Nat) :=
(fX9_init n σ sz th p0).bind fun t1 =>
(znA 0 32 t1.1 t1.2 (32 : Int32)).bind fun σ2 =>
(zpv [9] 4 σ2 th (.ref t1.2)).bind fun σ3 =>
some (σ3, t1.2 + 1)
def fX1_different (n : Nat) (σ : zH) (sz : Nat) (th : Nat) : Option (zX ⊕ (zH × Nat × Int32)) :=
(zis σ th 0).bind fun u1 =>
(fX1_takeNames σ sz th).bind fun t2 =>
(zis t2.1 th 0).bind fun u3 =>
(fX1_areInts n t2.1 th t2.2.2).bind fun t4 =>
zthr (fX1_checkState t2.1 t4) (fun e13 => some (.inl e13)) fun t5 =>
(some (zset t2.1 t2.2.1 (.inr (9, zfd9)))).bind fun σ6 =>
(fX11_init n σ6 (t2.2.1 + 1) t2.2.1 t2.2.2).bind fun t7 =>
(zis t7.1 th 0).bind fun u8 =>
zthr (fX1_add_2 t7.1 t7.2 th t2.2.1) (fun e11 => some (.inl e11)) fun t9 =>
some (.inr (t9.1, t9.2.1, t9.2.2))
def fX12_init (n : Nat) (σ : zH) (sz : Nat) (th : Nat) (p0 : Nat) : Option (zH × Nat) :=
(fX9_init n σ sz th p0).bind fun t1 =>
some (t1.1, t1.2)
def fX1_order (n : Nat) (σ : zH) (sz : Nat) (th : Nat) : Option (zX ⊕ (zH × Nat × Int32)) :=
(zis σ th 0).bind fun u1 =>
(fX1_takeNames σ sz th).bind fun t2 =>
(zis t2.1 th 0).bind fun u3 =>
(fX1_areInts n t2.1 th t2.2.2).bind fun t4 =>
zthr (fX1_checkState t2.1 t4) (fun e13 => some (.inl e13)) fun t5 =>
(some (zset t2.1 t2.2.1 (.inr (10, zfd10)))).bind fun σ6 =>
(fX12_init n σ6 (t2.2.1 + 1) t2.2.1 t2.2.2).bind fun t7 =>
(zis t7.1 th 0).bind fun u8 =>
zthr (fX1_add_2 t7.1 t7.2 th t2.2.1) (fun e11 => some (.inl e11)) fun t9 =>
some (.inr (t9.1, t9.2.1, t9.2.2))
def fX13_init (n : Nat) (σ : zH) (sz : Nat) (th : Nat) (p0 : Nat) (p1 : Nat) (p2 : Int32) : Option (zH × Nat) :=
(fX9_init n σ sz th p0).bind fun t1 =>
(znA 0 7 t1.1 t1.2 (7 : Int32)).bind fun σ2 =>
(zpv [11] 6 σ2 th (.ref t1.2)).bind fun σ3 =>
(znA 0 7 σ3 (t1.2 + 1) (7 : Int32)).bind fun σ4 =>
(zpv [11] 7 σ4 th (.ref (t1.2 + 1))).bind fun σ5 =>
(zpv [11] 4 σ5 th (.ref p1)).bind fun σ6 =>
(zpv [11] 5 σ6 th (.int p2)).bind fun σ7 =>
some (σ7, t1.2 + 2)
def fX1_regular (n : Nat) (σ : zH) (sz : Nat) (th : Nat) (p0 : Int32) : Option (zX ⊕ (zH × Nat × Int32)) :=
zthr (fX1_check σ p0 (0 : Int32) (63 : Int32)) (fun e20 => some (.inl e20)) fun t1 =>
(zis σ th 0).bind fun u2 =>
(fX1_takeNames σ sz th).bind fun t3 =>
(zgR [0] 4 t3.1 th).bind fun r4 =>
(some (zset t3.1 t3.2.1 (.inr (18, zfd18)))).bind fun σ5 =>
(fJ2_init σ5 t3.2.1).bind fun t6 =>
(zpv [0] 4 t6 th (.ref t3.2.1)).bind fun σ7 =>
(zis σ7 th 0).bind fun u8 =>
(fX1_areInts n σ7 th t3.2.2).bind fun t9 =>
zthr (fX1_checkState σ7 t9) (fun e18 => some (.inl e18)) fun t10 =>
(some (zset σ7 (t3.2.1 + 1) (.inr (11, zfd11)))).bind fun σ11 =>
(fX13_init n σ11 (t3.2.1 + 2) (t3.2.1 + 1) t3.2.2 r4 p0).bind fun t12 =>
(zis t12.1 th 0).bind fun u13 =>
zthr (fX1_add_2 t12.1 t12.2 th (t3.2.1 + 1)) (fun e16 => some (.inl e16)) fun t14 =>
some (.inr (t14.1, t14.2.1, t14.2.2))
def fX1_checkKind (σ : zH) (th : Nat) (p0 : Int32) (p1 : Int32) : Option (zX ⊕ Unit) :=
(zis σ th 0).bind fun u1 =>
(fX1_isOf σ th p0 p1).bind fun t2 =>
zthr (fX1_checkArgument σ t2) (fun e5 => some (.inl e5)) fun t3 =>
some (.inr ())
def fX14_init (n : Nat) (σ : zH) (sz : Nat) (th : Nat) (p0 : Nat) : Option (zH × Nat) :=
(fX9_init n σ sz th p0).bind fun t1 =>
some (t1.1, t1.2)
def fX1_element (n : Nat) (σ : zH) (sz : Nat) (th : Nat) (p0 : Int32) (p1 : Int32) : Option (zX ⊕ (zH × Nat × Int32)) :=
(zis σ th 0).bind fun u1 =>
zthr (fX1_variable_2 σ th p0) (fun e39 => some (.inl e39)) fun t2 =>
(zis σ th 0).bind fun u3 =>
zthr (fX1_variable_2 σ th p1) (fun e37 => some (.inl e37)) fun t4 =>
(zis σ th 0).bind fun u5 =>
zthr (fX1_checkKind σ th p0 (0 : Int32)) (fun e35 => some (.inl e35)) fun t6 =>
(zis σ th 0).bind fun u7 =>
zthr (fX1_checkKind σ th p1 (0 : Int32)) (fun e33 => some (.inl e33)) fun t8 =>
(zis σ th 0).bind fun u9 =>
(fX1_takeNames σ sz th).bind fun t10 =>
(zis t10.1 th 0).bind fun u11 =>
(fX1_areInts n t10.1 th t10.2.2).bind fun t12 =>
zthr (fX1_checkState t10.1 t12) (fun e31 => some (.inl e31)) fun t13 =>
(some (zset t10.1 t10.2.1 (.inr (18, zfd18)))).bind fun σ14 =>
(fJ2_init σ14 t10.2.1).bind fun t15 =>
(fJ18_valueOf t15 p0).bind fun t16 =>
(zis t15 t10.2.1 18).bind fun u17 =>
(fJ2_add t15 (t10.2.1 + 1) t10.2.1 t16).bind fun t18 =>
(fJ18_valueOf t18.1 p1).bind fun t19 =>
(zis t18.1 t10.2.1 18).bind fun u20 =>
(fJ2_add t18.1 t18.2.1 t10.2.1 t19).bind fun t21 =>
(zis t21.1 t10.2.1 18).bind fun u22 =>
(fJ2_addAll t21.1 t21.2.1 t10.2.1 t10.2.2).bind fun t23 =>
(some (zset t23.1 t23.2.1 (.inr (12, zfd12)))).bind fun σ24 =>
(fX14_init n σ24 (t23.2.1 + 1) t23.2.1 t10.2.1).bind fun t25 =>
(zis t25.1 th 0).bind fun u26 =>
zthr (fX1_add_2 t25.1 t25.2 th t23.2.1) (fun e29 => some (.inl e29)) fun t27 =>
some (.inr (t27.1, t27.2.1, t27.2.2))
def fX1_checkAll_L37 (σ : zH) (th : Nat) (p0 : Nat) (p1 : Nat) (a6 : Int32) : Option ((Int32) ⊕ ((zX ⊕ Unit))) :=
(zln σ p0).bind fun x9 =>
if x9 ≤ a6 then (some (.inr (.inr ()))) else ((zaI σ p0 a6).bind fun x10 =>
(zaI σ p1 a6).bind fun x11 =>
(zis σ th 0).bind fun u12 =>
zthr (fX1_checkKind σ th x10 x11) (fun e16 => some (.inr (.inl e16))) fun t13 =>
(some (a6 + (1 : Int32))).bind fun x14 =>
some (.inl x14))
def fX1_checkAll_L9 (σ : zH) (th : Nat) (p0 : Nat) (x1 : Int32) (a2 : Int32) : Option ((Int32) ⊕ ((Unit) ⊕ ((zX ⊕ Unit)))) :=
if x1 ≤ a2 then (some (.inr (.inl ()))) else ((zaI σ p0 a2).bind fun x19 =>
(zis σ th 0).bind fun u20 =>
zthr (fX1_variable_2 σ th x19) (fun e24 => some (.inr (.inr (.inl e24)))) fun t21 =>
(some (a2 + (1 : Int32))).bind fun x22 =>
some (.inl x22))
def fX1_checkAll (n : Nat) (σ : zH) (th : Nat) (p0 : Nat) (p1 : Nat) : Option (zX ⊕ Unit) :=
(zln σ p0).bind fun x1 =>
zesc (zloop (fX1_checkAll_L9 σ th p0 x1) 4 (0 : Int32)) fun t5 =>
zloop (fX1_checkAll_L37 σ th p0 p1) 4 (0 : Int32)
def fX15_init (n : Nat) (σ : zH) (sz : Nat) (th : Nat) (p0 : Nat) (p1 : Nat) : Option (zH × Nat) :=
(fX9_init n σ sz th p0).bind fun t1 =>
(zpv [13] 4 t1.1 th (.ref p1)).bind fun σ2 =>
some (σ2, t1.2)
def fX1_addSmall_L19 (sz : Nat) (p1 : Nat) (x3 : Int32) (a4 : zH × Nat × Int32) : Option ((zH × Nat × Int32) ⊕ (zH × Nat)) :=
if x3 ≤ a4.2.2 then (some (.inr (a4.1, a4.2.1))) else ((zaI a4.1 p1 a4.2.2).bind fun x14 =>
(fJ18_valueOf a4.1 x14).bind fun t15 =>
(zis a4.1 sz 18).bind fun u16 =>
(fJ2_add a4.1 a4.2.1 sz t15).bind fun t17 =>
(some (a4.2.2 + (1 : Int32))).bind fun x18 =>
some (.inl (t17.1, t17.2.1, x18)))
def fX1_addSmall (n : Nat) (σ : zH) (sz : Nat) (th : Nat) (p0 : Nat) (p1 : Nat) : Option (zX ⊕ (zH × Nat × Int32)) :=
(some (zset σ sz (.inr (18, zfd18)))).bind fun σ1 =>
(fJ2_init σ1 sz).bind fun t2 =>
(zln t2 p1).bind fun x3 =>
(zloop (fX1_addSmall_L19 sz p1 x3) 4 (t2, sz + 1, (0 : Int32))).bind fun t7 =>
(some (zset t7.1 t7.2 (.inr (13, zfd13)))).bind fun σ8 =>
(fX15_init n σ8 (t7.2 + 1) t7.2 sz p0).bind fun t9 =>
(zis t9.1 th 0).bind fun u10 =>
zthr (fX1_add_2 t9.1 t9.2 th t7.2) (fun e13 => some (.inl e13)) fun t11 =>
some (.inr (t11.1, t11.2.1, t11.2.2))
def fX1_when (n : Nat) (σ : zH) (sz : Nat) (th : Nat) (p0 : Int32) (p1 : Int32) (p2 : Int32) (p3 : Int32) : Option (zX ⊕ (zH × Nat × Int32)) :=
(znA 0 3 σ sz (3 : Int32)).bind fun σ1 =>
(zsI σ1 sz (0 : Int32) p0).bind fun σ2 =>
(zsI σ2 sz (1 : Int32) p1).bind fun σ3 =>
(zsI σ3 sz (2 : Int32) p2).bind fun σ4 =>
(znA 0 3 σ4 (sz + 1) (3 : Int32)).bind fun σ5 =>
(zsI σ5 (sz + 1) (0 : Int32) (0 : Int32)).bind fun σ6 =>
(zsI σ6 (sz + 1) (1 : Int32) (0 : Int32)).bind fun σ7 =>
(zsI σ7 (sz + 1) (2 : Int32) (0 : Int32)).bind fun σ8 =>
(zis σ8 th 0).bind fun u9 =>
zthr (fX1_checkAll n σ8 th sz (sz + 1)) (fun e21 => some (.inl e21)) fun t10 =>
(some (zset σ8 (sz + 2) (.inr (100, [.int (zb p3)])))).bind fun σ11 =>
(znA 0 3 σ11 (sz + 3) (3 : Int32)).bind fun σ12 =>
(zsI σ12 (sz + 3) (0 : Int32) p0).bind fun σ13 =>
(zsI σ13 (sz + 3) (1 : Int32) p1).bind fun σ14 =>
(zsI σ14 (sz + 3) (2 : Int32) p2).bind fun σ15 =>
(zis σ15 th 0).bind fun u16 =>
zthr (fX1_addSmall n σ15 (sz + 4) th (sz + 2) (sz + 3)) (fun e19 => some (.inl e19)) fun t17 =>
some (.inr (t17.1, t17.2.1, t17.2.2))
def fX1_sets (n : Nat) (σ : zH) (sz : Nat) (th : Nat) (p0 : Int32) (p1 : Int32) (p2 : Int32) (p3 : Int32) : Option (zX ⊕ (zH × Nat × Int32)) :=
(znA 0 3 σ sz (3 : Int32)).bind fun σ1 =>
(zsI σ1 sz (0 : Int32) p1).bind fun σ2 =>
(zsI σ2 sz (1 : Int32) p2).bind fun σ3 =>
(zsI σ3 sz (2 : Int32) p3).bind fun σ4 =>
(znA 0 3 σ4 (sz + 1) (3 : Int32)).bind fun σ5 =>
(zsI σ5 (sz + 1) (0 : Int32) (1 : Int32)).bind fun σ6 =>
(zsI σ6 (sz + 1) (1 : Int32) (1 : Int32)).bind fun σ7 =>
(zsI σ7 (sz + 1) (2 : Int32) (1 : Int32)).bind fun σ8 =>
(zis σ8 th 0).bind fun u9 =>
zthr (fX1_checkAll n σ8 th sz (sz + 1)) (fun e21 => some (.inl e21)) fun t10 =>
(some (zset σ8 (sz + 2) (.inr (101, [.int (zb p0)])))).bind fun σ11 =>
(znA 0 3 σ11 (sz + 3) (3 : Int32)).bind fun σ12 =>
(zsI σ12 (sz + 3) (0 : Int32) p1).bind fun σ13 =>
(zsI σ13 (sz + 3) (1 : Int32) p2).bind fun σ14 =>
(zsI σ14 (sz + 3) (2 : Int32) p3).bind fun σ15 =>
(zis σ15 th 0).bind fun u16 =>
zthr (fX1_addSmall n σ15 (sz + 4) th (sz + 2) (sz + 3)) (fun e19 => some (.inl e19)) fun t17 =>
some (.inr (t17.1, t17.2.1, t17.2.2))
def fX1_within (n : Nat) (σ : zH) (sz : Nat) (th : Nat) (p0 : Int32) (p1 : Int32) : Option (zX ⊕ (zH × Nat × Int32)) :=
(znA 0 2 σ sz (2 : Int32)).bind fun σ1 =>
(zsI σ1 sz (0 : Int32) p0).bind fun σ2 =>
(zsI σ2 sz (1 : Int32) p1).bind fun σ3 =>
(znA 0 2 σ3 (sz + 1) (2 : Int32)).bind fun σ4 =>
(zsI σ4 (sz + 1) (0 : Int32) (1 : Int32)).bind fun σ5 =>
(zsI σ5 (sz + 1) (1 : Int32) (1 : Int32)).bind fun σ6 =>
(zis σ6 th 0).bind fun u7 =>
zthr (fX1_checkAll n σ6 th sz (sz + 1)) (fun e17 => some (.inl e17)) fun t8 =>
(znA 0 2 σ6 (sz + 2) (2 : Int32)).bind fun σ9 =>
(zsI σ9 (sz + 2) (0 : Int32) p0).bind fun σ10 =>
(zsI σ10 (sz + 2) (1 : Int32) p1).bind fun σ11 =>
(zis σ11 th 0).bind fun u12 =>
zthr (fX1_addSmall n σ11 (sz + 3) th (σ6.1 12) (sz + 2)) (fun e15 => some (.inl e15)) fun t13 =>
some (.inr (t13.1, t13.2.1, t13.2.2))
def fX1_measure (n : Nat) (σ : zH) (sz : Nat) (th : Nat) (p0 : Int32) (p1 : Int32) : Option (zX ⊕ (zH × Nat × Int32)) :=
(zis σ th 0).bind fun u1 =>
zthr (fX1_variable_2 σ th p0) (fun e32 => some (.inl e32)) fun t2 =>
(zis σ th 0).bind fun u3 =>
zthr (fX1_variable_2 σ th p1) (fun e30 => some (.inl e30)) fun t4 =>
(zis σ th 0).bind fun u5 =>
(fX1_isOf σ th p0 (1 : Int32)).bind fun t6 =>
(zesc (if t6 = 0 then ((zis σ th 0).bind fun u25 =>
(fX1_isOf σ th p0 (2 : Int32)).bind fun t26 =>
if t26 = 0 then (some (.inr (0 : Int32))) else (some (.inl ()))) else (some (.inl ()))) fun t23 =>
some (1 : Int32)).bind fun t7 =>
zthr (fX1_checkArgument σ t7) (fun e22 => some (.inl e22)) fun t8 =>
(zis σ th 0).bind fun u9 =>
zthr (fX1_checkKind σ th p1 (0 : Int32)) (fun e20 => some (.inl e20)) fun t10 =>
(some (zset σ sz (.inr (103, [.int (zb t6)])))).bind fun σ11 =>
(znA 0 2 σ11 (sz + 1) (2 : Int32)).bind fun σ12 =>
(zsI σ12 (sz + 1) (0 : Int32) p0).bind fun σ13 =>
(zsI σ13 (sz + 1) (1 : Int32) p1).bind fun σ14 =>
(zis σ14 th 0).bind fun u15 =>
zthr (fX1_addSmall n σ14 (sz + 2) th sz (sz + 1)) (fun e18 => some (.inl e18)) fun t16 =>
some (.inr (t16.1, t16.2.1, t16.2.2))
def fX1_member (n : Nat) (σ : zH) (sz : Nat) (th : Nat) (p0 : Int32) (p1 : Int32) (p2 : Int32) : Option (zX ⊕ (zH × Nat × Int32)) :=
(znA 0 3 σ sz (3 : Int32)).bind fun σ1 =>
(zsI σ1 sz (0 : Int32) p0).bind fun σ2 =>
(zsI σ2 sz (1 : Int32) p1).bind fun σ3 =>
(zsI σ3 sz (2 : Int32) p2).bind fun σ4 =>
(znA 0 3 σ4 (sz + 1) (3 : Int32)).bind fun σ5 =>
(zsI σ5 (sz + 1) (0 : Int32) (0 : Int32)).bind fun σ6 =>
(zsI σ6 (sz + 1) (1 : Int32) (0 : Int32)).bind fun σ7 =>
(zsI σ7 (sz + 1) (2 : Int32) (1 : Int32)).bind fun σ8 =>
(zis σ8 th 0).bind fun u9 =>
zthr (fX1_checkAll n σ8 th sz (sz + 1)) (fun e20 => some (.inl e20)) fun t10 =>
(znA 0 3 σ8 (sz + 2) (3 : Int32)).bind fun σ11 =>
(zsI σ11 (sz + 2) (0 : Int32) p0).bind fun σ12 =>
(zsI σ12 (sz + 2) (1 : Int32) p1).bind fun σ13 =>
(zsI σ13 (sz + 2) (2 : Int32) p2).bind fun σ14 =>
(zis σ14 th 0).bind fun u15 =>
zthr (fX1_addSmall n σ14 (sz + 3) th (σ8.1 14) (sz + 2)) (fun e18 => some (.inl e18)) fun t16 =>
some (.inr (t16.1, t16.2.1, t16.2.2))
def fX1_joined (n : Nat) (σ : zH) (sz : Nat) (th : Nat) (p0 : Int32) (p1 : Int32) (p2 : Int32) : Option (zX ⊕ (zH × Nat × Int32)) :=
(znA 0 3 σ sz (3 : Int32)).bind fun σ1 =>
(zsI σ1 sz (0 : Int32) p0).bind fun σ2 =>
(zsI σ2 sz (1 : Int32) p1).bind fun σ3 =>
(zsI σ3 sz (2 : Int32) p2).bind fun σ4 =>
(znA 0 3 σ4 (sz + 1) (3 : Int32)).bind fun σ5 =>
(zsI σ5 (sz + 1) (0 : Int32) (2 : Int32)).bind fun σ6 =>
(zsI σ6 (sz + 1) (1 : Int32) (2 : Int32)).bind fun σ7 =>
(zsI σ7 (sz + 1) (2 : Int32) (2 : Int32)).bind fun σ8 =>
(zis σ8 th 0).bind fun u9 =>
zthr (fX1_checkAll n σ8 th sz (sz + 1)) (fun e20 => some (.inl e20)) fun t10 =>
(znA 0 3 σ8 (sz + 2) (3 : Int32)).bind fun σ11 =>
(zsI σ11 (sz + 2) (0 : Int32) p0).bind fun σ12 =>
(zsI σ12 (sz + 2) (1 : Int32) p1).bind fun σ13 =>
(zsI σ13 (sz + 2) (2 : Int32) p2).bind fun σ14 =>
(zis σ14 th 0).bind fun u15 =>
zthr (fX1_addSmall n σ14 (sz + 3) th (σ8.1 15) (sz + 2)) (fun e18 => some (.inl e18)) fun t16 =>
some (.inr (t16.1, t16.2.1, t16.2.2))
def fX1_prefix (n : Nat) (σ : zH) (sz : Nat) (th : Nat) (p0 : Int32) (p1 : Int32) : Option (zX ⊕ (zH × Nat × Int32)) :=
(znA 0 2 σ sz (2 : Int32)).bind fun σ1 =>
(zsI σ1 sz (0 : Int32) p0).bind fun σ2 =>
(zsI σ2 sz (1 : Int32) p1).bind fun σ3 =>
(znA 0 2 σ3 (sz + 1) (2 : Int32)).bind fun σ4 =>
(zsI σ4 (sz + 1) (0 : Int32) (2 : Int32)).bind fun σ5 =>
(zsI σ5 (sz + 1) (1 : Int32) (2 : Int32)).bind fun σ6 =>
(zis σ6 th 0).bind fun u7 =>
zthr (fX1_checkAll n σ6 th sz (sz + 1)) (fun e17 => some (.inl e17)) fun t8 =>
(znA 0 2 σ6 (sz + 2) (2 : Int32)).bind fun σ9 =>
(zsI σ9 (sz + 2) (0 : Int32) p0).bind fun σ10 =>
(zsI σ10 (sz + 2) (1 : Int32) p1).bind fun σ11 =>
(zis σ11 th 0).bind fun u12 =>
zthr (fX1_addSmall n σ11 (sz + 3) th (σ6.1 16) (sz + 2)) (fun e15 => some (.inl e15)) fun t13 =>
some (.inr (t13.1, t13.2.1, t13.2.2))
def fX1_letter (n : Nat) (σ : zH) (sz : Nat) (th : Nat) (p0 : Int32) (p1 : Int32) (p2 : Int32) : Option (zX ⊕ (zH × Nat × Int32)) :=
(znA 0 3 σ sz (3 : Int32)).bind fun σ1 =>
(zsI σ1 sz (0 : Int32) p0).bind fun σ2 =>
(zsI σ2 sz (1 : Int32) p1).bind fun σ3 =>
(zsI σ3 sz (2 : Int32) p2).bind fun σ4 =>
(znA 0 3 σ4 (sz + 1) (3 : Int32)).bind fun σ5 =>
(zsI σ5 (sz + 1) (0 : Int32) (0 : Int32)).bind fun σ6 =>
(zsI σ6 (sz + 1) (1 : Int32) (2 : Int32)).bind fun σ7 =>
(zsI σ7 (sz + 1) (2 : Int32) (0 : Int32)).bind fun σ8 =>
(zis σ8 th 0).bind fun u9 =>
zthr (fX1_checkAll n σ8 th sz (sz + 1)) (fun e20 => some (.inl e20)) fun t10 =>
(znA 0 3 σ8 (sz + 2) (3 : Int32)).bind fun σ11 =>
(zsI σ11 (sz + 2) (0 : Int32) p0).bind fun σ12 =>
(zsI σ12 (sz + 2) (1 : Int32) p1).bind fun σ13 =>
(zsI σ13 (sz + 2) (2 : Int32) p2).bind fun σ14 =>
(zis σ14 th 0).bind fun u15 =>
zthr (fX1_addSmall n σ14 (sz + 3) th (σ8.1 17) (sz + 2)) (fun e18 => some (.inl e18)) fun t16 =>
some (.inr (t16.1, t16.2.1, t16.2.2))
def fX8_variable (σ : zH) (th : Nat) : Option Int32 :=
(zgI [7] 0 σ th).bind fun x1 =>
some x1
def fX16_init (n : Nat) (σ : zH) (sz : Nat) (th : Nat) (p0 : Nat) (p1 : Nat) : Option (zH × Nat) :=
(fX9_init n σ sz th p0).bind fun t1 =>
(zpv [14] 4 t1.1 th (.ref p1)).bind fun σ2 =>
some (σ2, t1.2)
def fX1_addClause_L10 (sz : Nat) (p0 : Nat) (a3 : zH × Nat × Int32) : Option ((zH × Nat × Int32) ⊕ (zH × Nat)) :=
(zis a3.1 p0 18).bind fun u13 =>
(fJ2_size a3.1 p0).bind fun t14 =>
if t14 ≤ a3.2.2 then (some (.inr (a3.1, a3.2.1))) else ((zis a3.1 p0 18).bind fun u15 =>
(fJ2_get a3.1 p0 a3.2.2).bind fun t16 =>
(zis a3.1 t16 7).bind fun u17 =>
(zis a3.1 t16 7).bind fun u18 =>
(fX8_variable a3.1 t16).bind fun t19 =>
(fJ18_valueOf a3.1 t19).bind fun t20 =>
(zis a3.1 sz 18).bind fun u21 =>
(fJ2_add a3.1 a3.2.1 sz t20).bind fun t22 =>
(some (a3.2.2 + (1 : Int32))).bind fun x23 =>
some (.inl (t22.1, t22.2.1, x23)))
def fX1_addClause (n : Nat) (σ : zH) (sz : Nat) (th : Nat) (p0 : Nat) : Option (zX ⊕ (zH × Nat × Int32)) :=
(some (zset σ sz (.inr (18, zfd18)))).bind fun σ1 =>
(fJ2_init σ1 sz).bind fun t2 =>
(zloop (fX1_addClause_L10 sz p0) 7 (t2, sz + 1, (0 : Int32))).bind fun t6 =>
(some (zset t6.1 t6.2 (.inr (14, zfd14)))).bind fun σ7 =>
(fX16_init n σ7 (t6.2 + 1) t6.2 sz p0).bind fun t8 =>
(zis t8.1 th 0).bind fun u9 =>
zthr (fX1_add_2 t8.1 t8.2 th t6.2) (fun e12 => some (.inl e12)) fun t10 =>
some (.inr (t10.1, t10.2.1, t10.2.2))
def fX1_clause (n : Nat) (σ : zH) (sz : Nat) (th : Nat) : Option (zX ⊕ (zH × Nat × Int32)) :=
(zgR [0] 5 σ th).bind fun r1 =>
(some (zset σ sz (.inr (18, zfd18)))).bind fun σ2 =>
(fJ2_init σ2 sz).bind fun t3 =>
(zpv [0] 5 t3 th (.ref sz)).bind fun σ4 =>
(zis σ4 r1 18).bind fun u5 =>
(fJ2_isEmpty σ4 r1).bind fun t6 =>
(if t6 = 0 then (some (1 : Int32)) else (some (0 : Int32))).bind fun t7 =>
zthr (fX1_checkState σ4 t7) (fun e14 => some (.inl e14)) fun t8 =>
(zis σ4 th 0).bind fun u9 =>
zthr (fX1_addClause n σ4 (sz + 1) th r1) (fun e12 => some (.inl e12)) fun t10 =>
some (.inr (t10.1, t10.2.1, t10.2.2))
def fX17_init (n : Nat) (σ : zH) (sz : Nat) (th : Nat) (p0 : Nat) (p1 : Nat) (p2 : Int32) : Option (zH × Nat) :=
(fX9_init n σ sz th p0).bind fun t1 =>
(zpv [15] 4 t1.1 th (.ref p1)).bind fun σ2 =>
(zpv [15] 5 σ2 th (.int p2)).bind fun σ3 =>
some (σ3, t1.2)
def fX1_symbol (n : Nat) (σ : zH) (sz : Nat) (th : Nat) (p0 : Int32) (p1 : Int32) : Option (zX ⊕ (zH × Nat × Int32)) :=
(zgR [0] 7 σ th).bind fun r1 =>
(zgI [2] 4 σ r1).bind fun x2 =>
zthr (fX1_checkIndex σ p0 x2) (fun e25 => some (.inl e25)) fun t3 =>
(zis σ th 0).bind fun u4 =>
zthr (fX1_variable_2 σ th p1) (fun e23 => some (.inl e23)) fun t5 =>
(zis σ th 0).bind fun u6 =>
zthr (fX1_checkKind σ th p1 (0 : Int32)) (fun e21 => some (.inl e21)) fun t7 =>
(some (zset σ sz (.inr (18, zfd18)))).bind fun σ8 =>
(fJ2_init σ8 sz).bind fun t9 =>
(fJ18_valueOf t9 p1).bind fun t10 =>
(zis t9 sz 18).bind fun u11 =>
(fJ2_add t9 (sz + 1) sz t10).bind fun t12 =>
(some (zset t12.1 t12.2.1 (.inr (15, zfd15)))).bind fun σ13 =>
(zgR [0] 7 σ13 th).bind fun r14 =>
(fX17_init n σ13 (t12.2.1 + 1) t12.2.1 sz r14 p0).bind fun t15 =>
(zis t15.1 th 0).bind fun u16 =>
zthr (fX1_add_2 t15.1 t15.2 th t12.2.1) (fun e19 => some (.inl e19)) fun t17 =>
some (.inr (t17.1, t17.2.1, t17.2.2))
def fX2_add (σ : zH) (th : Nat) (p0 : Int32) (p1 : Int32) (p2 : Int32) : Option zH :=
(zgR [1] 0 σ th).bind fun r1 =>
(zgI [1] 3 σ th).bind fun x2 =>
(zsI σ r1 x2 p0).bind fun σ3 =>
(zgR [1] 1 σ3 th).bind fun r4 =>
(zgI [1] 3 σ3 th).bind fun x5 =>
(zsI σ3 r4 x5 p1).bind fun σ6 =>
(zgR [1] 2 σ6 th).bind fun r7 =>
(zgI [1] 3 σ6 th).bind fun x8 =>
(zsZ σ6 r7 x8 p2).bind fun σ9 =>
(zgI [1] 3 σ9 th).bind fun x10 =>
(zpv [1] 3 σ9 th (.int (x10 + (1 : Int32)))).bind fun σ11 =>
some σ11
def fX1_decide (σ : zH) (th : Nat) (p0 : Int32) (p1 : Int32) (p2 : Int32) : Option (zX ⊕ (zH × Int32)) :=
(zis σ th 0).bind fun u1 =>
zthr (fX1_checkValue σ th p0 p1) (fun e17 => some (.inl e17)) fun t2 =>
(zgR [0] 6 σ th).bind fun r3 =>
(zgI [1] 3 σ r3).bind fun x4 =>
(if (12 : Int32) ≤ x4 then (some (0 : Int32)) else (some (1 : Int32))).bind fun t5 =>
zthr (fX1_checkState σ t5) (fun e14 => some (.inl e14)) fun t6 =>
(zgR [0] 6 σ th).bind fun r7 =>
(zis σ r7 1).bind fun u8 =>
(fX2_add σ r7 p0 p1 p2).bind fun t9 =>
(zpZ [0] 10 t9 th (0 : Int32)).bind fun σ10 =>
(zgR [0] 6 σ10 th).bind fun r11 =>
(zgI [1] 3 σ10 r11).bind fun x12 =>
some (.inr (σ10, x12 - (1 : Int32)))
def fX1_back (σ : zH) (th : Nat) (p0 : Int32) : Option (zX ⊕ (zH × Int32)) :=
(zgR [0] 6 σ th).bind fun r1 =>
(zgI [1] 3 σ r1).bind fun x2 =>
zthr (fX1_check σ p0 (0 : Int32) x2) (fun e11 => some (.inl e11)) fun t3 =>
(zgR [0] 6 σ th).bind fun r4 =>
(zgI [1] 3 σ r4).bind fun x5 =>
(zpv [1] 3 σ r4 (.int (x5 - p0))).bind fun σ6 =>
(zpZ [0] 10 σ6 th (0 : Int32)).bind fun σ7 =>
(zgR [0] 6 σ7 th).bind fun r8 =>
(zgI [1] 3 σ7 r8).bind fun x9 =>
some (.inr (σ7, x9))
def fX1_domain (n : Nat) (σ : zH) (th : Nat) (p0 : Int32) : Option (zX ⊕ (zH × Int32)) :=
(zis σ th 0).bind fun u1 =>
zthr (fX1_variable_2 σ th p0) (fun e15 => some (.inl e15)) fun t2 =>
(zis σ th 0).bind fun u3 =>
(fX1_store n σ th).bind fun t4 =>
(zis t4.1 th 0).bind fun u5 =>
(fX1_isRatio t4.1 th p0).bind fun t6 =>
if t6 = 0 then ((zgR [3] 0 t4.1 t4.2).bind fun r7 =>
(zaI t4.1 r7 p0).bind fun x8 =>
some (.inr (t4.1, x8))) else ((zgR [3] 2 t4.1 t4.2).bind fun r9 =>
(zaI t4.1 r9 p0).bind fun x10 =>
(zgR [3] 1 t4.1 t4.2).bind fun r11 =>
(zaI t4.1 r11 p0).bind fun x12 =>
some (.inr (t4.1, zmax ((x10 - x12) + (1 : Int32)) (0 : Int32))))
def fX1_bound (n : Nat) (σ : zH) (th : Nat) (p0 : Int32) (p1 : Int32) : Option (zX ⊕ (zH × Int32)) :=
(zis σ th 0).bind fun u1 =>
zthr (fX1_variable_2 σ th p0) (fun e24 => some (.inl e24)) fun t2 =>
(zis σ th 0).bind fun u3 =>
(fX1_store n σ th).bind fun t4 =>
(zis t4.1 th 0).bind fun u5 =>
(fX1_isEmpty t4.1 th t4.2 p0).bind fun t6 =>
if t6 = 0 then ((zis t4.1 th 0).bind fun u7 =>
(fX1_isRatio t4.1 th p0).bind fun t8 =>
if t8 = 0 then (if p1 = 0 then ((zgR [3] 0 t4.1 t4.2).bind fun r9 =>
(zaI t4.1 r9 p0).bind fun x10 =>
(fX1_least x10).bind fun t11 =>
some (.inr (t4.1, t11))) else ((zgR [3] 0 t4.1 t4.2).bind fun r12 =>
(zaI t4.1 r12 p0).bind fun x13 =>
(fX1_greatest x13).bind fun t14 =>
some (.inr (t4.1, t14)))) else (if p1 = 0 then ((zgR [3] 1 t4.1 t4.2).bind fun r16 =>
(zaI t4.1 r16 p0).bind fun x17 =>
some (.inr (t4.1, x17))) else ((zgR [3] 2 t4.1 t4.2).bind fun r18 =>
(zaI t4.1 r18 p0).bind fun x19 =>
some (.inr (t4.1, x19))))) else (some (.inr (t4.1, (-1000 : Int32))))
def fX1_removal (n : Nat) (σ : zH) (th : Nat) (p0 : Int32) (p1 : Int32) : Option (zX ⊕ (zH × Int32)) :=
(zis σ th 0).bind fun u1 =>
(fX1_removals n σ th).bind fun t2 =>
zthr (fX1_checkIndex t2.1 p0 t2.2) (fun e17 => some (.inl e17)) fun t3 =>
zthr (fX1_check t2.1 p1 (0 : Int32) (3 : Int32)) (fun e15 => some (.inl e15)) fun t4 =>
if p1 = (0 : Int32) then ((zgR [0] 11 t2.1 th).bind fun r6 =>
(zaI t2.1 r6 p0).bind fun x7 =>
some (.inr (t2.1, x7))) else (if p1 = (1 : Int32) then ((zgR [0] 12 t2.1 th).bind fun r8 =>
(zaI t2.1 r8 p0).bind fun x9 =>
some (.inr (t2.1, x9))) else (if p1 = (2 : Int32) then ((zgR [0] 13 t2.1 th).bind fun r10 =>
(zaI t2.1 r10 p0).bind fun x11 =>
some (.inr (t2.1, x11))) else ((zgR [0] 14 t2.1 th).bind fun r12 =>
(zaI t2.1 r12 p0).bind fun x13 =>
some (.inr (t2.1, x13)))))
def fX1_isSo (n : Nat) (σ : zH) (th : Nat) (p0 : Int32) (p1 : Int32) (p2 : Int32) : Option (zH × Int32) :=
(zgR [0] 16 σ th).bind fun r1 =>
(zgR [0] 6 σ th).bind fun r2 =>
(zis σ th 0).bind fun u3 =>
(fX1_begin n σ th r1 r2 p0).bind fun t4 =>
(zgR [0] 16 t4 th).bind fun r5 =>
(zis t4 th 0).bind fun u6 =>
(fX1_solve n t4 th r5 (0 : Int32)).bind fun t7 =>
(zgR [0] 16 t7 th).bind fun r8 =>
(zgI [3] 3 t7 r8).bind fun x9 =>
zesc (if x9 = 0 then (if p1 = (-1 : Int32) then (some (.inr (t7, (0 : Int32)))) else ((zgR [0] 16 t7 th).bind fun r12 =>
(zgR [3] 0 t7 r12).bind fun r13 =>
(zaI t7 r13 p1).bind fun x14 =>
(fX1_has x14 p2).bind fun t15 =>
if t15 = 0 then (some (.inl ())) else (some (.inr (t7, (0 : Int32)))))) else (some (.inl ()))) fun t10 =>
some (t7, (1 : Int32))
def fX1_reasonOf_L23 (n : Nat) (th : Nat) (p0 : Int32) (p1 : Int32) (a7 : zH × Int32 × Int32) : Option ((zH × Int32 × Int32) ⊕ ((zH × Int32))) :=
if a7.2.2 < 0 then (some (.inr (a7.1, a7.2.1))) else ((some (a7.2.1 &&& (((1 : Int32) <<< (a7.2.2 &&& 31)) ^^^ (-1 : Int32)))).bind fun x9 =>
(zis a7.1 th 0).bind fun u10 =>
(fX1_isSo n a7.1 th x9 p0 p1).bind fun t11 =>
(if t11.2 = 0 then (some a7.2.1) else (some x9)).bind fun t12 =>
(some (a7.2.2 + (-1 : Int32))).bind fun x13 =>
some (.inl (t11.1, t12, x13)))
def fX1_reasonOf (n : Nat) (σ : zH) (th : Nat) (p0 : Int32) (p1 : Int32) : Option (zH × Int32) :=
(zgR [0] 6 σ th).bind fun r1 =>
(zgI [1] 3 σ r1).bind fun x2 =>
(some (((1 : Int32) <<< (x2 &&& 31)) - (1 : Int32))).bind fun x3 =>
(zgR [0] 6 σ th).bind fun r4 =>
(zgI [1] 3 σ r4).bind fun x5 =>
(some (x5 - (1 : Int32))).bind fun x6 =>
zloop (fX1_reasonOf_L23 n th p0 p1) n (σ, x3, x6)
def fX1_reason (n : Nat) (σ : zH) (th : Nat) (p0 : Int32) (p1 : Int32) : Option (zX ⊕ (zH × Int32)) :=
(zis σ th 0).bind fun u1 =>
zthr (fX1_checkValue σ th p0 p1) (fun e16 => some (.inl e16)) fun t2 =>
(zis σ th 0).bind fun u3 =>
(fX1_store n σ th).bind fun t4 =>
(zgR [3] 0 t4.1 t4.2).bind fun r5 =>
(zaI t4.1 r5 p0).bind fun x6 =>
(fX1_has x6 p1).bind fun t7 =>
(if t7 = 0 then (some (1 : Int32)) else (some (0 : Int32))).bind fun t8 =>
zthr (fX1_checkState t4.1 t8) (fun e13 => some (.inl e13)) fun t9 =>
(zis t4.1 th 0).bind fun u10 =>
(fX1_reasonOf n t4.1 th p0 p1).bind fun t11 =>
some (.inr (t11.1, t11.2))
def fX1_failure (n : Nat) (σ : zH) (th : Nat) : Option (zX ⊕ (zH × Int32)) :=
(zis σ th 0).bind fun u1 =>
(fX1_store n σ th).bind fun t2 =>
(zgI [3] 3 t2.1 t2.2).bind fun x3 =>
zthr (fX1_checkState t2.1 x3) (fun e8 => some (.inl e8)) fun t4 =>
(zis t2.1 th 0).bind fun u5 =>
(fX1_reasonOf n t2.1 th (-1 : Int32) (0 : Int32)).bind fun t6 =>
some (.inr (t6.1, t6.2))
def fX1_learn_L73 (sz : Nat) (th : Nat) (t7 : zH × Int32) (a12 : zH × Nat × Int32) : Option ((zH × Nat × Int32) ⊕ (zH × Nat)) :=
(zgR [0] 6 a12.1 th).bind fun r29 =>
(zgI [1] 3 a12.1 r29).bind fun x30 =>
if x30 ≤ a12.2.2 then (some (.inr (a12.1, a12.2.1))) else ((fX1_has t7.2 a12.2.2).bind fun t31 =>
(if t31 = 0 then (some (a12.1, a12.2.1)) else ((some (zset a12.1 a12.2.1 (.inr (7, zfd7)))).bind fun σ34 =>
(zgR [0] 6 σ34 th).bind fun r35 =>
(zgR [1] 0 σ34 r35).bind fun r36 =>
(zaI σ34 r36 a12.2.2).bind fun x37 =>
(zgR [0] 6 σ34 th).bind fun r38 =>
(zgR [1] 1 σ34 r38).bind fun r39 =>
(zaI σ34 r39 a12.2.2).bind fun x40 =>
(zgR [0] 6 σ34 th).bind fun r41 =>
(zgR [1] 2 σ34 r41).bind fun r42 =>
(zaZ σ34 r42 a12.2.2).bind fun x43 =>
(if x43 = 0 then (some (1 : Int32)) else (some (0 : Int32))).bind fun t44 =>
(fX8_init σ34 a12.2.1 x37 x40 t44).bind fun t45 =>
(zis t45 sz 18).bind fun u46 =>
(fJ2_add t45 (a12.2.1 + 1) sz a12.2.1).bind fun t47 =>
some (t47.1, t47.2.1))).bind fun t32 =>
(some (a12.2.2 + (1 : Int32))).bind fun x33 =>
some (.inl (t32.1, t32.2, x33)))
def fX1_learn (n : Nat) (σ : zH) (sz : Nat) (th : Nat) : Option (zX ⊕ (zH × Nat × Int32)) :=
(zis σ th 0).bind fun u1 =>
(fX1_store n σ th).bind fun t2 =>
(zgI [3] 3 t2.1 t2.2).bind fun x3 =>
(zesc (if x3 = 0 then (some (.inl ())) else ((zgR [0] 6 t2.1 th).bind fun r62 =>
(zgI [1] 3 t2.1 r62).bind fun x63 =>
if x63 ≤ 0 then (some (.inl ())) else ((zis t2.1 th 0).bind fun u64 =>
(fX1_hasRoom t2.1 th).bind fun t65 =>
if t65 = 0 then (some (.inl ())) else (some (.inr (1 : Int32)))))) fun t60 =>
some (0 : Int32)).bind fun t4 =>
zthr (fX1_checkState t2.1 t4) (fun e59 => some (.inl e59)) fun t5 =>
(zis t2.1 th 0).bind fun u6 =>
(fX1_reasonOf n t2.1 th (-1 : Int32) (0 : Int32)).bind fun t7 =>
(zesc (if t7.2 = 0 then (some (.inl ())) else ((fJ18_bitCount t7.2).bind fun t55 =>
if (6 : Int32) < t55 then (some (.inl ())) else (some (.inr (1 : Int32))))) fun t53 =>
some (0 : Int32)).bind fun t8 =>
zthr (fX1_checkState t7.1 t8) (fun e52 => some (.inl e52)) fun t9 =>
(some (zset t7.1 sz (.inr (18, zfd18)))).bind fun σ10 =>
(fJ2_init σ10 sz).bind fun t11 =>
(zloop (fX1_learn_L73 sz th t7) 13 (t11, sz + 1, (0 : Int32))).bind fun t15 =>
(zis t15.1 th 0).bind fun u16 =>
zthr (fX1_addClause n t15.1 t15.2 th sz) (fun e28 => some (.inl e28)) fun t17 =>
(fJ18_highestOneBit t7.2).bind fun t18 =>
(some (t7.2 &&& (t18 ^^^ (-1 : Int32)))).bind fun x19 =>
(zgR [0] 6 t17.1 th).bind fun r20 =>
(if x19 = 0 then (some (0 : Int32)) else ((fX1_greatest x19).bind fun t25 =>
some (t25 + (1 : Int32)))).bind fun t21 =>
(zpv [1] 3 t17.1 r20 (.int t21)).bind fun σ22 =>
(zgR [0] 6 σ22 th).bind fun r23 =>
(zgI [1] 3 σ22 r23).bind fun x24 =>
some (.inr (σ22, t17.2.1, x24))
def fX1_beginPath_L10 (th : Nat) (a3 : zH × Int32) : Option ((zH × Int32) ⊕ (zH)) :=
(zgR [0] 6 a3.1 th).bind fun r5 =>
(zgI [1] 3 a3.1 r5).bind fun x6 =>
if x6 ≤ a3.2 then (some (.inr a3.1)) else ((zgR [0] 21 a3.1 th).bind fun r7 =>
(zgR [0] 6 a3.1 th).bind fun r8 =>
(zgR [1] 0 a3.1 r8).bind fun r9 =>
(zaI a3.1 r9 a3.2).bind fun x10 =>
(zgR [0] 6 a3.1 th).bind fun r11 =>
(zgR [1] 1 a3.1 r11).bind fun r12 =>
(zaI a3.1 r12 a3.2).bind fun x13 =>
(zgR [0] 6 a3.1 th).bind fun r14 =>
(zgR [1] 2 a3.1 r14).bind fun r15 =>
(zaZ a3.1 r15 a3.2).bind fun x16 =>
(zis a3.1 r7 1).bind fun u17 =>
(fX2_add a3.1 r7 x10 x13 x16).bind fun t18 =>
(some (a3.2 + (1 : Int32))).bind fun x19 =>
some (.inl (t18, x19)))
def fX1_beginPath (n : Nat) (σ : zH) (th : Nat) : Option zH :=
(zgR [0] 21 σ th).bind fun r1 =>
(zpv [1] 3 σ r1 (.int (0 : Int32))).bind fun σ2 =>
zloop (fX1_beginPath_L10 th) n (σ2, (0 : Int32))
def fX1_look (n : Nat) (σ : zH) (th : Nat) (p0 : Nat) : Option zH :=
(zgR [0] 16 σ th).bind fun r1 =>
(zis σ th 0).bind fun u2 =>
(fX1_begin n σ th r1 p0 (-1 : Int32)).bind fun t3 =>
(zgR [0] 16 t3 th).bind fun r4 =>
(zis t3 th 0).bind fun u5 =>
(fX1_solve n t3 th r4 (0 : Int32)).bind fun t6 =>
some t6
def fX1_isFixed (p0 : Int32) : Option Int32 :=
(fJ18_bitCount p0).bind fun t1 =>
if t1 = (1 : Int32) then (some (1 : Int32)) else (some (0 : Int32))
def fX1_chosen_L9 (σ : zH) (th : Nat) (p0 : Nat) (p1 : Int32) (p2 : Int32) (a1 : Int32 × Int32 × Int32) : Option ((Int32 × Int32 × Int32) ⊕ (Int32)) :=
(zgR [0] 0 σ th).bind fun r3 =>
(zis σ r3 18).bind fun u4 =>
(fJ2_size σ r3).bind fun t5 =>
if t5 ≤ a1.2.2 then (some (.inr a1.1)) else ((zis σ th 0).bind fun u6 =>
(fX1_isRatio σ th a1.2.2).bind fun t7 =>
(if t7 = 0 then ((zgR [3] 0 σ p0).bind fun r10 =>
(zaI σ r10 a1.2.2).bind fun x11 =>
(fX1_isFixed x11).bind fun t12 =>
if t12 = 0 then ((fX1_has p1 a1.2.2).bind fun t13 =>
(zesc (if a1.1 = (-1 : Int32) then (some (.inl ())) else (zesc (if p2 = (1 : Int32) then ((zgR [3] 0 σ p0).bind fun r24 =>
(zaI σ r24 a1.2.2).bind fun x25 =>
(fJ18_bitCount x25).bind fun t26 =>
(zgR [3] 0 σ p0).bind fun r27 =>
(zaI σ r27 a1.1).bind fun x28 =>
(fJ18_bitCount x28).bind fun t29 =>
if t29 ≤ t26 then (some (.inl ())) else (some (.inr (.inl ())))) else (some (.inl ()))) fun t22 =>
some (.inr (0 : Int32)))) fun t20 =>
some (1 : Int32)).bind fun t14 =>
(if t13 = a1.2.1 then (some t14) else (some t13)).bind fun t15 =>
(if t15 = 0 then (some a1.1) else (some a1.2.2)).bind fun t16 =>
(some (a1.2.1 ||| t13)).bind fun x17 =>
some (t16, x17)) else (some (a1.1, a1.2.1))) else (some (a1.1, a1.2.1))).bind fun t8 =>
(some (a1.2.2 + (1 : Int32))).bind fun x9 =>
some (.inl (t8.1, t8.2, x9)))
def fX1_chosen (n : Nat) (σ : zH) (th : Nat) (p0 : Nat) (p1 : Int32) (p2 : Int32) : Option Int32 :=
zloop (fX1_chosen_L9 σ th p0 p1 p2) n ((-1 : Int32), (0 : Int32), (0 : Int32))
def fX1_keepSolution_L15 (th : Nat) (a5 : zH × Int32) : Option ((zH × Int32) ⊕ (zH)) :=
(zgI [0] 24 a5.1 th).bind fun x7 =>
if x7 ≤ a5.2 then (some (.inr a5.1)) else ((zgR [0] 23 a5.1 th).bind fun r8 =>
(zis a5.1 th 0).bind fun u9 =>
(fX1_isRatio a5.1 th a5.2).bind fun t10 =>
(if t10 = 0 then ((zgR [0] 16 a5.1 th).bind fun r14 =>
(zgR [3] 0 a5.1 r14).bind fun r15 =>
(zaI a5.1 r15 a5.2).bind fun x16 =>
(fX1_least x16).bind fun t17 =>
some t17) else ((zgR [0] 16 a5.1 th).bind fun r18 =>
(zgR [3] 1 a5.1 r18).bind fun r19 =>
(zaI a5.1 r19 a5.2).bind fun x20 =>
some x20)).bind fun t11 =>
(zsI a5.1 r8 a5.2 t11).bind fun σ12 =>
(some (a5.2 + (1 : Int32))).bind fun x13 =>
some (.inl (σ12, x13)))
def fX1_keepSolution (n : Nat) (σ : zH) (th : Nat) : Option zH :=
(zgR [0] 0 σ th).bind fun r1 =>
(zis σ r1 18).bind fun u2 =>
(fJ2_size σ r1).bind fun t3 =>
(zpv [0] 24 σ th (.int t3)).bind fun σ4 =>
zloop (fX1_keepSolution_L15 th) n (σ4, (0 : Int32))
def fX1_valueOf (σ : zH) (th : Nat) (p0 : Int32) (p1 : Int32) (p2 : Int32) : Option Int32 :=
zesc (if p2 = (2 : Int32) then ((zgR [0] 22 σ th).bind fun r6 =>
(zaI σ r6 p0).bind fun x7 =>
if x7 = (-1 : Int32) then (some (.inl ())) else ((zgR [0] 22 σ th).bind fun r8 =>
(zaI σ r8 p0).bind fun x9 =>
(fX1_has p1 x9).bind fun t10 =>
if t10 = 0 then (some (.inl ())) else ((zgR [0] 22 σ th).bind fun r11 =>
(zaI σ r11 p0).bind fun x12 =>
some (.inr x12)))) else (some (.inl ()))) fun t1 =>
if p2 = (1 : Int32) then ((fX1_greatest p1).bind fun t3 =>
some t3) else ((fX1_least p1).bind fun t2 =>
some t2)
def fX1_isCut (σ : zH) (th : Nat) : Option Int32 :=
(zgI [0] 29 σ th).bind fun x1 =>
if x1 ≤ 0 then (some (0 : Int32)) else ((zgI [0] 28 σ th).bind fun x2 =>
(zgI [0] 27 σ th).bind fun x3 =>
if x2 < x3 then (some (0 : Int32)) else (some (1 : Int32)))
def fX1_searchFrom_B (rec : Nat → zH → Nat → Option (zH × Int32)) (n : Nat) (σ : zH) (th : Nat) : Option (zH × Int32) :=
(zgI [0] 25 σ th).bind fun x1 =>
if x1 = (400 : Int32) then (some (σ, (2 : Int32))) else ((zgI [0] 25 σ th).bind fun x2 =>
(zpv [0] 25 σ th (.int (x2 + (1 : Int32)))).bind fun σ3 =>
(zgR [0] 21 σ3 th).bind fun r4 =>
(zis σ3 th 0).bind fun u5 =>
(fX1_look n σ3 th r4).bind fun t6 =>
(zgR [0] 16 t6 th).bind fun r7 =>
(zgI [3] 3 t6 r7).bind fun x8 =>
if x8 = 0 then ((zgR [0] 16 t6 th).bind fun r9 =>
(zgI [0] 30 t6 th).bind fun x10 =>
(zgI [0] 31 t6 th).bind fun x11 =>
(zis t6 th 0).bind fun u12 =>
(fX1_chosen n t6 th r9 x10 x11).bind fun t13 =>
if t13 = (-1 : Int32) then ((zis t6 th 0).bind fun u42 =>
(fX1_keepSolution n t6 th).bind fun t43 =>
some (t43, (0 : Int32))) else ((zgR [0] 16 t6 th).bind fun r14 =>
(zgR [3] 0 t6 r14).bind fun r15 =>
(zaI t6 r15 t13).bind fun x16 =>
(zgI [0] 32 t6 th).bind fun x17 =>
(zis t6 th 0).bind fun u18 =>
(fX1_valueOf t6 th t13 x16 x17).bind fun t19 =>
(zgR [0] 22 t6 th).bind fun r20 =>
(zsI t6 r20 t13 t19).bind fun σ21 =>
(zgR [0] 21 σ21 th).bind fun r22 =>
(zgI [1] 3 σ21 r22).bind fun x23 =>
(zgR [0] 21 σ21 th).bind fun r24 =>
(zis σ21 r24 1).bind fun u25 =>
(fX2_add σ21 r24 t13 t19 (1 : Int32)).bind fun t26 =>
(zis t26 th 0).bind fun u27 =>
(rec n t26 th).bind fun t28 =>
(zgR [0] 21 t28.1 th).bind fun r29 =>
(zpv [1] 3 t28.1 r29 (.int x23)).bind fun σ30 =>
if t28.2 = (1 : Int32) then ((zis σ30 th 0).bind fun u31 =>
(fX1_isCut σ30 th).bind fun t32 =>
if t32 = 0 then ((zgR [0] 21 σ30 th).bind fun r33 =>
(zis σ30 r33 1).bind fun u34 =>
(fX2_add σ30 r33 t13 t19 (0 : Int32)).bind fun t35 =>
(zis t35 th 0).bind fun u36 =>
(rec n t35 th).bind fun t37 =>
(zgR [0] 21 t37.1 th).bind fun r38 =>
(zpv [1] 3 t37.1 r38 (.int x23)).bind fun σ39 =>
some (σ39, t37.2)) else (some (σ30, t28.2))) else (some (σ30, t28.2)))) else ((zgI [0] 26 t6 th).bind fun x45 =>
(zpv [0] 26 t6 th (.int (x45 + (1 : Int32)))).bind fun σ46 =>
(zgI [0] 28 σ46 th).bind fun x47 =>
(zpv [0] 28 σ46 th (.int (x47 + (1 : Int32)))).bind fun σ48 =>
some (σ48, (1 : Int32))))
def fX1_searchFrom : Nat → Nat → zH → Nat → Option (zH × Int32)
  | 0 => fun _ _ _ => none
  | d + 1 => fX1_searchFrom_B (fX1_searchFrom d)
def fX1_search_L92 (n : Nat) (th : Nat) (a19 : zH × Int32) : Option ((zH × Int32) ⊕ ((zX ⊕ (zH × Int32)))) :=
if a19.2 = (1 : Int32) then ((zis a19.1 th 0).bind fun u21 =>
(fX1_isCut a19.1 th).bind fun t22 =>
if t22 = 0 then (some (.inr (.inr (a19.1, a19.2)))) else ((zpv [0] 28 a19.1 th (.int (0 : Int32))).bind fun σ23 =>
(zgI [0] 27 σ23 th).bind fun x24 =>
(zpv [0] 27 σ23 th (.int (x24 * (2 : Int32)))).bind fun σ25 =>
(zgI [0] 29 σ25 th).bind fun x26 =>
(zpv [0] 29 σ25 th (.int (x26 - (1 : Int32)))).bind fun σ27 =>
(zis σ27 th 0).bind fun u28 =>
(fX1_beginPath n σ27 th).bind fun t29 =>
(zis t29 th 0).bind fun u30 =>
(fX1_searchFrom 402 n t29 th).bind fun t31 =>
some (.inl (t31.1, t31.2)))) else (some (.inr (.inr (a19.1, a19.2))))
def fX1_search (n : Nat) (σ : zH) (th : Nat) (p0 : Int32) (p1 : Int32) (p2 : Int32) (p3 : Int32) (p4 : Int32) : Option (zX ⊕ (zH × Int32)) :=
zthr (fX1_check σ p0 (0 : Int32) (1023 : Int32)) (fun e43 => some (.inl e43)) fun t1 =>
zthr (fX1_check σ p1 (0 : Int32) (1 : Int32)) (fun e41 => some (.inl e41)) fun t2 =>
zthr (fX1_check σ p2 (0 : Int32) (2 : Int32)) (fun e39 => some (.inl e39)) fun t3 =>
zthr (fX1_check σ p3 (1 : Int32) (100 : Int32)) (fun e37 => some (.inl e37)) fun t4 =>
zthr (fX1_check σ p4 (0 : Int32) (5 : Int32)) (fun e35 => some (.inl e35)) fun t5 =>
(zpv [0] 30 σ th (.int p0)).bind fun σ6 =>
(zpv [0] 31 σ6 th (.int p1)).bind fun σ7 =>
(zpv [0] 32 σ7 th (.int p2)).bind fun σ8 =>
(zpv [0] 27 σ8 th (.int p3)).bind fun σ9 =>
(zpv [0] 29 σ9 th (.int p4)).bind fun σ10 =>
(zpv [0] 24 σ10 th (.int (-1 : Int32))).bind fun σ11 =>
(zpv [0] 25 σ11 th (.int (0 : Int32))).bind fun σ12 =>
(zpv [0] 26 σ12 th (.int (0 : Int32))).bind fun σ13 =>
(zpv [0] 28 σ13 th (.int (0 : Int32))).bind fun σ14 =>
(zis σ14 th 0).bind fun u15 =>
(fX1_beginPath n σ14 th).bind fun t16 =>
(zis t16 th 0).bind fun u17 =>
(fX1_searchFrom 402 n t16 th).bind fun t18 =>
zloop (fX1_search_L92 n th) n (t18.1, t18.2)
def fX1_solution (σ : zH) (th : Nat) (p0 : Int32) : Option (zX ⊕ Int32) :=
(zis σ th 0).bind fun u1 =>
zthr (fX1_variable_2 σ th p0) (fun e12 => some (.inl e12)) fun t2 =>
(zgI [0] 24 σ th).bind fun x3 =>
(if x3 ≤ p0 then (some (0 : Int32)) else (some (1 : Int32))).bind fun t4 =>
zthr (fX1_checkState σ t4) (fun e9 => some (.inl e9)) fun t5 =>
(zgR [0] 23 σ th).bind fun r6 =>
(zaI σ r6 p0).bind fun x7 =>
some (.inr x7)
def fX1_countFrom_B (rec : Nat → zH → Nat → Nat → Option (zH × Int32)) (n : Nat) (σ : zH) (th : Nat) (p0 : Nat) : Option (zH × Int32) :=
(zaI σ p0 (0 : Int32)).bind fun x1 =>
if x1 = (400 : Int32) then (some (σ, (-1 : Int32))) else ((zaI σ p0 (0 : Int32)).bind fun x2 =>
(zsI σ p0 (0 : Int32) (x2 + (1 : Int32))).bind fun σ3 =>
(zgR [0] 21 σ3 th).bind fun r4 =>
(zis σ3 th 0).bind fun u5 =>
(fX1_look n σ3 th r4).bind fun t6 =>
(zgR [0] 16 t6 th).bind fun r7 =>
(zgI [3] 3 t6 r7).bind fun x8 =>
(if x8 = 0 then ((zgR [0] 16 t6 th).bind fun r37 =>
(zis t6 th 0).bind fun u38 =>
(fX1_chosen n t6 th r37 (0 : Int32) (0 : Int32)).bind fun t39 =>
some t39) else (some (-1 : Int32))).bind fun t9 =>
if t9 = (-1 : Int32) then ((zgR [0] 16 t6 th).bind fun r33 =>
(zgI [3] 3 t6 r33).bind fun x34 =>
if x34 = 0 then (some (t6, (1 : Int32))) else (some (t6, (0 : Int32)))) else ((zgR [0] 16 t6 th).bind fun r10 =>
(zgR [3] 0 t6 r10).bind fun r11 =>
(zaI t6 r11 t9).bind fun x12 =>
(fX1_least x12).bind fun t13 =>
(zgR [0] 21 t6 th).bind fun r14 =>
(zgI [1] 3 t6 r14).bind fun x15 =>
(zgR [0] 21 t6 th).bind fun r16 =>
(zis t6 r16 1).bind fun u17 =>
(fX2_add t6 r16 t9 t13 (1 : Int32)).bind fun t18 =>
(zis t18 th 0).bind fun u19 =>
(rec n t18 th p0).bind fun t20 =>
(zgR [0] 21 t20.1 th).bind fun r21 =>
(zpv [1] 3 t20.1 r21 (.int x15)).bind fun σ22 =>
(zgR [0] 21 σ22 th).bind fun r23 =>
(zis σ22 r23 1).bind fun u24 =>
(fX2_add σ22 r23 t9 t13 (0 : Int32)).bind fun t25 =>
(if t20.2 = (-1 : Int32) then (some (t25, (-1 : Int32))) else ((zis t25 th 0).bind fun u30 =>
(rec n t25 th p0).bind fun t31 =>
some (t31.1, t31.2))).bind fun t26 =>
(zgR [0] 21 t26.1 th).bind fun r27 =>
(zpv [1] 3 t26.1 r27 (.int x15)).bind fun σ28 =>
if t26.2 = (-1 : Int32) then (some (σ28, (-1 : Int32))) else (some (σ28, t20.2 + t26.2))))
def fX1_countFrom : Nat → Nat → zH → Nat → Nat → Option (zH × Int32)
  | 0 => fun _ _ _ _ => none
  | d + 1 => fX1_countFrom_B (fX1_countFrom d)
def fX1_solutions (n : Nat) (σ : zH) (sz : Nat) (th : Nat) : Option (zX ⊕ (zH × Nat × Int32)) :=
(zis σ th 0).bind fun u1 =>
(fX1_beginPath n σ th).bind fun t2 =>
(znA 0 1 t2 sz (1 : Int32)).bind fun σ3 =>
(zis σ3 th 0).bind fun u4 =>
(fX1_countFrom 402 n σ3 th sz).bind fun t5 =>
(if t5.2 = (-1 : Int32) then (some (0 : Int32)) else (some (1 : Int32))).bind fun t6 =>
zthr (fX1_checkState t5.1 t6) (fun e9 => some (.inl e9)) fun t7 =>
some (.inr (t5.1, sz + 1, t5.2))
def fX1_choices_L4 (σ : zH) (th : Nat) (a1 : Int64 × Int32) : Option ((Int64 × Int32) ⊕ (Int64)) :=
(zgR [0] 0 σ th).bind fun r4 =>
(zis σ r4 18).bind fun u5 =>
(fJ2_size σ r4).bind fun t6 =>
if t6 ≤ a1.2 then (some (.inr a1.1)) else ((zis σ th 0).bind fun u7 =>
(fX1_isRatio σ th a1.2).bind fun t8 =>
(if t8 = 0 then ((zgR [0] 0 σ th).bind fun r12 =>
(zis σ r12 18).bind fun u13 =>
(fJ2_get σ r12 a1.2).bind fun t14 =>
(zis σ t14 5).bind fun u15 =>
(zis σ t14 5).bind fun u16 =>
(fX6_domain σ t14).bind fun t17 =>
(fJ18_bitCount t17).bind fun t18 =>
some t18.toInt64) else (some (1 : Int64))).bind fun t9 =>
(some (a1.1 * t9)).bind fun w10 =>
(some (a1.2 + (1 : Int32))).bind fun x11 =>
some (.inl (w10, x11)))
def fX1_choices (n : Nat) (σ : zH) (th : Nat) : Option Int64 :=
(zloop (fX1_choices_L4 σ th) n ((1 : Int64), (0 : Int32))).bind fun t3 =>
some t3
def fX1_countChoices_L66 (n : Nat) (th : Nat) (p0 : Int32) (rec : Nat → zH → Nat → Int32 → Option (zH × Int32)) (x7 : Int32) (a8 : zH × Int32 × Int32) : Option ((zH × Int32 × Int32) ⊕ ((zH × Int32))) :=
if (32 : Int32) ≤ a8.2.2 then (some (.inr (a8.1, a8.2.1))) else ((zgR [0] 0 a8.1 th).bind fun r10 =>
(zis a8.1 r10 18).bind fun u11 =>
(fJ2_get a8.1 r10 p0).bind fun t12 =>
(zis a8.1 t12 5).bind fun u13 =>
(zis a8.1 t12 5).bind fun u14 =>
(fX6_domain a8.1 t12).bind fun t15 =>
(fX1_has t15 a8.2.2).bind fun t16 =>
(if t16 = 0 then (some (a8.1, a8.2.1)) else ((zgR [0] 21 a8.1 th).bind fun r19 =>
(zis a8.1 r19 1).bind fun u20 =>
(fX2_add a8.1 r19 p0 a8.2.2 (1 : Int32)).bind fun t21 =>
(zis t21 th 0).bind fun u22 =>
(rec n t21 th (p0 + (1 : Int32))).bind fun t23 =>
(some (a8.2.1 + t23.2)).bind fun x24 =>
(zgR [0] 21 t23.1 th).bind fun r25 =>
(zpv [1] 3 t23.1 r25 (.int x7)).bind fun σ26 =>
some (σ26, x24))).bind fun t17 =>
(some (a8.2.2 + (1 : Int32))).bind fun x18 =>
some (.inl (t17.1, t17.2, x18)))
def fX1_countChoices_B (rec : Nat → zH → Nat → Int32 → Option (zH × Int32)) (n : Nat) (σ : zH) (th : Nat) (p0 : Int32) : Option (zH × Int32) :=
(zgR [0] 0 σ th).bind fun r1 =>
(zis σ r1 18).bind fun u2 =>
(fJ2_size σ r1).bind fun t3 =>
if p0 = t3 then ((zgR [0] 21 σ th).bind fun r32 =>
(zis σ th 0).bind fun u33 =>
(fX1_look n σ th r32).bind fun t34 =>
(zgR [0] 16 t34 th).bind fun r35 =>
(zgI [3] 3 t34 r35).bind fun x36 =>
if x36 = 0 then (some (t34, (1 : Int32))) else (some (t34, (0 : Int32)))) else ((zis σ th 0).bind fun u4 =>
(fX1_isRatio σ th p0).bind fun t5 =>
if t5 = 0 then ((zgR [0] 21 σ th).bind fun r6 =>
(zgI [1] 3 σ r6).bind fun x7 =>
zloop (fX1_countChoices_L66 n th p0 rec x7) n (σ, (0 : Int32), (0 : Int32))) else ((zis σ th 0).bind fun u29 =>
(rec n σ th (p0 + (1 : Int32))).bind fun t30 =>
some (t30.1, t30.2)))
def fX1_countChoices : Nat → Nat → zH → Nat → Int32 → Option (zH × Int32)
  | 0 => fun _ _ _ _ => none
  | d + 1 => fX1_countChoices_B (fX1_countChoices d)
def fX1_solutionsByAll (n : Nat) (σ : zH) (th : Nat) : Option (zX ⊕ (zH × Int32)) :=
(zis σ th 0).bind fun u1 =>
(fX1_choices n σ th).bind fun t2 =>
(if 0 < (lg_cmp t2 (2000 : Int64)) then (some (0 : Int32)) else (some (1 : Int32))).bind fun t3 =>
zthr (fX1_checkState σ t3) (fun e10 => some (.inl e10)) fun t4 =>
(zis σ th 0).bind fun u5 =>
(fX1_beginPath n σ th).bind fun t6 =>
(zis t6 th 0).bind fun u7 =>
(fX1_countChoices 12 n t6 th (0 : Int32)).bind fun t8 =>
some (.inr (t8.1, t8.2))
def fX19_init (σ : zH) (th : Nat) (p0 : Int32) (p1 : Int32) (p2 : Int32) (p3 : Int32) : Option zH :=
(fJ7_init th).bind fun t1 =>
(zpv [17] 0 σ th (.int p0)).bind fun σ2 =>
(zpv [17] 1 σ2 th (.int p1)).bind fun σ3 =>
(zpv [17] 2 σ3 th (.int p2)).bind fun σ4 =>
(zpZ [17] 3 σ4 th p3).bind fun σ5 =>
some σ5
def fX18_init (σ : zH) (sz : Nat) (th : Nat) (p0 : Int32) (p1 : Int32) : Option (zH × Nat) :=
(some (zset σ sz (.inr (1, zfd1)))).bind fun σ1 =>
(fX2_init σ1 (sz + 1) sz).bind fun t2 =>
(zpv [16] 2 t2.1 th (.ref sz)).bind fun σ3 =>
(some (zset σ3 t2.2 (.inr (18, zfd18)))).bind fun σ4 =>
(fJ2_init σ4 t2.2).bind fun t5 =>
(zpv [16] 3 t5 th (.ref t2.2)).bind fun σ6 =>
(zpv [16] 0 σ6 th (.int p0)).bind fun σ7 =>
(zpv [16] 1 σ7 th (.int p1)).bind fun σ8 =>
(zgR [16] 3 σ8 th).bind fun r9 =>
(some (zset σ8 (t2.2 + 1) (.inr (17, zfd17)))).bind fun σ10 =>
(fX19_init σ10 (t2.2 + 1) (0 : Int32) (-1 : Int32) (0 : Int32) (0 : Int32)).bind fun t11 =>
(zis t11 r9 18).bind fun u12 =>
(fJ2_add t11 (t2.2 + 2) r9 (t2.2 + 1)).bind fun t13 =>
some (t13.1, t13.2.1)
def fX1_minimise (σ : zH) (sz : Nat) (th : Nat) (p0 : Int32) (p1 : Int32) (p2 : Int32) (p3 : Int32) (p4 : Int32) : Option (zX ⊕ (zH × Nat)) :=
(zis σ th 0).bind fun u1 =>
zthr (fX1_variable_2 σ th p0) (fun e30 => some (.inl e30)) fun t2 =>
(zis σ th 0).bind fun u3 =>
zthr (fX1_checkKind σ th p0 (0 : Int32)) (fun e28 => some (.inl e28)) fun t4 =>
zthr (fX1_check σ p1 (0 : Int32) (1 : Int32)) (fun e26 => some (.inl e26)) fun t5 =>
zthr (fX1_check σ p2 (0 : Int32) (2 : Int32)) (fun e24 => some (.inl e24)) fun t6 =>
zthr (fX1_check σ p3 (0 : Int32) (1 : Int32)) (fun e22 => some (.inl e22)) fun t7 =>
zthr (fX1_check σ p4 (0 : Int32) (2 : Int32)) (fun e20 => some (.inl e20)) fun t8 =>
(zpv [0] 33 σ th (.int p0)).bind fun σ9 =>
(zpv [0] 34 σ9 th (.int (16 : Int32))).bind fun σ10 =>
(zgR [0] 35 σ10 th).bind fun r11 =>
(some (zset σ10 sz (.inr (16, zfd16)))).bind fun σ12 =>
(fX18_init σ12 (sz + 1) sz p1 p2).bind fun t13 =>
(zsR t13.1 r11 (0 : Int32) sz).bind fun σ14 =>
(zgR [0] 35 σ14 th).bind fun r15 =>
(some (zset σ14 t13.2 (.inr (16, zfd16)))).bind fun σ16 =>
(fX18_init σ16 (t13.2 + 1) t13.2 p3 p4).bind fun t17 =>
(zsR t17.1 r15 (1 : Int32) t13.2).bind fun σ18 =>
some (.inr (σ18, t17.2))
def fX19_stay (σ : zH) (th : Nat) : Option Int32 :=
(zgI [17] 0 σ th).bind fun x1 =>
some x1
def fX19_variable (σ : zH) (th : Nat) : Option Int32 :=
(zgI [17] 1 σ th).bind fun x1 =>
some x1
def fX19_value (σ : zH) (th : Nat) : Option Int32 :=
(zgI [17] 2 σ th).bind fun x1 =>
some x1
def fX19_has (σ : zH) (th : Nat) : Option Int32 :=
(zgI [17] 3 σ th).bind fun x1 =>
(zq x1).bind fun x2 =>
some x2
def fX1_step (n : Nat) (σ : zH) (sz : Nat) (th : Nat) (p0 : Nat) : Option (zH × Nat) :=
(zgR [16] 3 σ p0).bind fun r1 =>
(zgR [16] 3 σ p0).bind fun r2 =>
(zis σ r2 18).bind fun u3 =>
(fJ2_size σ r2).bind fun t4 =>
(zis σ r1 18).bind fun u5 =>
(fJ2_remove σ r1 (t4 - (1 : Int32))).bind fun t6 =>
(zis t6.1 t6.2 17).bind fun u7 =>
(zgR [16] 2 t6.1 p0).bind fun r8 =>
(zis t6.1 t6.2 17).bind fun u9 =>
(fX19_stay t6.1 t6.2).bind fun t10 =>
(zpv [1] 3 t6.1 r8 (.int t10)).bind fun σ11 =>
(zis σ11 t6.2 17).bind fun u12 =>
(fX19_variable σ11 t6.2).bind fun t13 =>
(if t13 = (-1 : Int32) then (some σ11) else ((zgR [16] 2 σ11 p0).bind fun r71 =>
(zis σ11 t6.2 17).bind fun u72 =>
(fX19_variable σ11 t6.2).bind fun t73 =>
(zis σ11 t6.2 17).bind fun u74 =>
(fX19_value σ11 t6.2).bind fun t75 =>
(zis σ11 t6.2 17).bind fun u76 =>
(fX19_has σ11 t6.2).bind fun t77 =>
(zis σ11 r71 1).bind fun u78 =>
(fX2_add σ11 r71 t73 t75 t77).bind fun t79 =>
some t79)).bind fun t14 =>
(zgR [0] 16 t14 th).bind fun r15 =>
(zgR [16] 2 t14 p0).bind fun r16 =>
(zis t14 th 0).bind fun u17 =>
(fX1_begin n t14 th r15 r16 (-1 : Int32)).bind fun t18 =>
(zgR [0] 16 t18 th).bind fun r19 =>
(zgR [3] 0 t18 r19).bind fun r20 =>
(zgI [0] 33 t18 th).bind fun x21 =>
(zaI t18 r20 x21).bind fun x22 =>
(zgI [0] 34 t18 th).bind fun x23 =>
(zsI t18 r20 x21 (x22 &&& (((1 : Int32) <<< (x23 &&& 31)) - (1 : Int32)))).bind fun σ24 =>
(zgR [0] 16 σ24 th).bind fun r25 =>
(zis σ24 th 0).bind fun u26 =>
(fX1_solve n σ24 th r25 (0 : Int32)).bind fun t27 =>
(zgR [0] 16 t27 th).bind fun r28 =>
(zgI [3] 3 t27 r28).bind fun x29 =>
(if x29 = 0 then ((zgR [0] 16 t27 th).bind fun r66 =>
(zgI [16] 0 t27 p0).bind fun x67 =>
(zis t27 th 0).bind fun u68 =>
(fX1_chosen n t27 th r66 (0 : Int32) x67).bind fun t69 =>
some t69) else (some (-1 : Int32))).bind fun t30 =>
if t30 = (-1 : Int32) then ((zgR [0] 16 t27 th).bind fun r31 =>
(zgI [3] 3 t27 r31).bind fun x32 =>
if x32 = 0 then ((zgR [0] 16 t27 th).bind fun r33 =>
(zgR [3] 0 t27 r33).bind fun r34 =>
(zgI [0] 33 t27 th).bind fun x35 =>
(zaI t27 r34 x35).bind fun x36 =>
(fX1_least x36).bind fun t37 =>
(zpv [0] 34 t27 th (.int t37)).bind fun σ38 =>
some (σ38, sz)) else (some (t27, sz))) else ((zgI [16] 1 t27 p0).bind fun x40 =>
(if x40 = (1 : Int32) then ((zgR [0] 16 t27 th).bind fun r60 =>
(zgR [3] 0 t27 r60).bind fun r61 =>
(zaI t27 r61 t30).bind fun x62 =>
(fX1_greatest x62).bind fun t63 =>
some t63) else ((zgR [0] 16 t27 th).bind fun r56 =>
(zgR [3] 0 t27 r56).bind fun r57 =>
(zaI t27 r57 t30).bind fun x58 =>
(fX1_least x58).bind fun t59 =>
some t59)).bind fun t41 =>
(zgR [16] 3 t27 p0).bind fun r42 =>
(some (zset t27 sz (.inr (17, zfd17)))).bind fun σ43 =>
(zgR [16] 2 σ43 p0).bind fun r44 =>
(zgI [1] 3 σ43 r44).bind fun x45 =>
(fX19_init σ43 sz x45 t30 t41 (0 : Int32)).bind fun t46 =>
(zis t46 r42 18).bind fun u47 =>
(fJ2_add t46 (sz + 1) r42 sz).bind fun t48 =>
(zgR [16] 3 t48.1 p0).bind fun r49 =>
(some (zset t48.1 t48.2.1 (.inr (17, zfd17)))).bind fun σ50 =>
(zgR [16] 2 σ50 p0).bind fun r51 =>
(zgI [1] 3 σ50 r51).bind fun x52 =>
(fX19_init σ50 t48.2.1 x52 t30 t41 (1 : Int32)).bind fun t53 =>
(zis t53 r49 18).bind fun u54 =>
(fJ2_add t53 (t48.2.1 + 1) r49 t48.2.1).bind fun t55 =>
some (t55.1, t55.2.1))
def fX1_goOn_L31 (n : Nat) (th : Nat) (p0 : Int32) (p1 : Int32) (a6 : zH × Nat × Int32) : Option ((zH × Nat × Int32) ⊕ ((zX ⊕ (zH × Nat × Int32)))) :=
if p1 ≤ a6.2.2 then (some (.inr (.inr (a6.1, a6.2.1, a6.2.2)))) else ((zgR [0] 35 a6.1 th).bind fun r9 =>
(zaR a6.1 r9 p0).bind fun r10 =>
(zgR [16] 3 a6.1 r10).bind fun r11 =>
(zis a6.1 r11 18).bind fun u12 =>
(fJ2_isEmpty a6.1 r11).bind fun t13 =>
if t13 = 0 then ((zgR [0] 35 a6.1 th).bind fun r14 =>
(zaR a6.1 r14 p0).bind fun r15 =>
(zis a6.1 th 0).bind fun u16 =>
(fX1_step n a6.1 a6.2.1 th r15).bind fun t17 =>
(some (a6.2.2 + (1 : Int32))).bind fun x18 =>
some (.inl (t17.1, t17.2, x18))) else (some (.inr (.inr (a6.1, a6.2.1, a6.2.2)))))
def fX1_goOn (n : Nat) (σ : zH) (sz : Nat) (th : Nat) (p0 : Int32) (p1 : Int32) : Option (zX ⊕ (zH × Nat × Int32)) :=
zthr (fX1_check σ p0 (0 : Int32) (1 : Int32)) (fun e27 => some (.inl e27)) fun t1 =>
zthr (fX1_check σ p1 (1 : Int32) (100 : Int32)) (fun e25 => some (.inl e25)) fun t2 =>
(zgI [0] 33 σ th).bind fun x3 =>
(if x3 = (-1 : Int32) then (some (0 : Int32)) else (some (1 : Int32))).bind fun t4 =>
zthr (fX1_checkState σ t4) (fun e22 => some (.inl e22)) fun t5 =>
zloop (fX1_goOn_L31 n th p0 p1) 101 (σ, sz, (0 : Int32))
def fX3_add (σ : zH) (th : Nat) (p0 : Int32) (p1 : Int32) (p2 : Int32) : Option zH :=
(zgR [2] 0 σ th).bind fun r1 =>
(zgI [2] 4 σ th).bind fun x2 =>
(zgI [2] 4 σ th).bind fun x3 =>
(zsI σ r1 x2 x3).bind fun σ4 =>
(zgR [2] 1 σ4 th).bind fun r5 =>
(zgI [2] 4 σ4 th).bind fun x6 =>
(zsI σ4 r5 x6 p0).bind fun σ7 =>
(zgR [2] 2 σ7 th).bind fun r8 =>
(zgI [2] 4 σ7 th).bind fun x9 =>
(zsI σ7 r8 x9 p1).bind fun σ10 =>
(zgR [2] 3 σ10 th).bind fun r11 =>
(zgI [2] 4 σ10 th).bind fun x12 =>
(zsI σ10 r11 x12 p2).bind fun σ13 =>
(zgI [2] 4 σ13 th).bind fun x14 =>
(zpv [2] 4 σ13 th (.int (x14 + (1 : Int32)))).bind fun σ15 =>
some σ15
def fX1_tree (σ : zH) (th : Nat) : Option (zX ⊕ (zH × Int32)) :=
(zgR [0] 7 σ th).bind fun r1 =>
(zgI [2] 4 σ r1).bind fun x2 =>
(if (16 : Int32) ≤ x2 then (some (0 : Int32)) else (some (1 : Int32))).bind fun t3 =>
zthr (fX1_checkState σ t3) (fun e11 => some (.inl e11)) fun t4 =>
(zgR [0] 7 σ th).bind fun r5 =>
(zis σ r5 2).bind fun u6 =>
(fX3_add σ r5 (-1 : Int32) (-1 : Int32) (-1 : Int32)).bind fun t7 =>
(zgR [0] 7 t7 th).bind fun r8 =>
(zgI [2] 4 t7 r8).bind fun x9 =>
some (.inr (t7, x9 - (1 : Int32)))
def fX1_checkChild (σ : zH) (th : Nat) (p0 : Int32) (p1 : Int32) : Option (zX ⊕ Unit) :=
if p1 = 0 then (some (.inr ())) else ((zgR [0] 7 σ th).bind fun r1 =>
(zgI [2] 4 σ r1).bind fun x2 =>
zthr (fX1_checkIndex σ p0 x2) (fun e5 => some (.inl e5)) fun t3 =>
some (.inr ()))
def fX1_term (σ : zH) (th : Nat) (p0 : Int32) (p1 : Int32) (p2 : Int32) : Option (zX ⊕ (zH × Int32)) :=
zthr (fX1_check σ p0 (0 : Int32) (5 : Int32)) (fun e41 => some (.inl e41)) fun t1 =>
(if p0 < (2 : Int32) then (some (0 : Int32)) else (some (1 : Int32))).bind fun t2 =>
(zis σ th 0).bind fun u3 =>
zthr (fX1_checkChild σ th p1 t2) (fun e38 => some (.inl e38)) fun t4 =>
(if p0 < (4 : Int32) then (some (0 : Int32)) else (some (1 : Int32))).bind fun t5 =>
(zis σ th 0).bind fun u6 =>
zthr (fX1_checkChild σ th p2 t5) (fun e35 => some (.inl e35)) fun t7 =>
(zesc (zesc (if (2 : Int32) ≤ p0 then (some (.inl ())) else (if p1 = (-1 : Int32) then (some (.inl ())) else (some (.inr (.inl ()))))) fun t26 =>
zesc (if (4 : Int32) ≤ p0 then (some (.inl ())) else (if p2 = (-1 : Int32) then (some (.inl ())) else (some (.inr (.inl ()))))) fun t27 =>
some (.inr (1 : Int32))) fun t24 =>
some (0 : Int32)).bind fun t8 =>
zthr (fX1_checkArgument σ t8) (fun e23 => some (.inl e23)) fun t9 =>
(zgR [0] 7 σ th).bind fun r10 =>
(zgI [2] 4 σ r10).bind fun x11 =>
(if (16 : Int32) ≤ x11 then (some (0 : Int32)) else (some (1 : Int32))).bind fun t12 =>
zthr (fX1_checkState σ t12) (fun e20 => some (.inl e20)) fun t13 =>
(zgR [0] 7 σ th).bind fun r14 =>
(zis σ r14 2).bind fun u15 =>
(fX3_add σ r14 p0 p1 p2).bind fun t16 =>
(zgR [0] 7 t16 th).bind fun r17 =>
(zgI [2] 4 t16 r17).bind fun x18 =>
some (.inr (t16, x18 - (1 : Int32)))
def fX3_copy_L10 (th : Nat) (p0 : Nat) (a3 : zH × Int32) : Option ((zH × Int32) ⊕ (zH)) :=
(zgI [2] 4 a3.1 th).bind fun x5 =>
if x5 ≤ a3.2 then (some (.inr a3.1)) else ((zgR [2] 0 a3.1 th).bind fun r6 =>
(zgR [2] 0 a3.1 p0).bind fun r7 =>
(zaI a3.1 r7 a3.2).bind fun x8 =>
(zsI a3.1 r6 a3.2 x8).bind fun σ9 =>
(zgR [2] 1 σ9 th).bind fun r10 =>
(zgR [2] 1 σ9 p0).bind fun r11 =>
(zaI σ9 r11 a3.2).bind fun x12 =>
(zsI σ9 r10 a3.2 x12).bind fun σ13 =>
(zgR [2] 2 σ13 th).bind fun r14 =>
(zgR [2] 2 σ13 p0).bind fun r15 =>
(zaI σ13 r15 a3.2).bind fun x16 =>
(zsI σ13 r14 a3.2 x16).bind fun σ17 =>
(zgR [2] 3 σ17 th).bind fun r18 =>
(zgR [2] 3 σ17 p0).bind fun r19 =>
(zaI σ17 r19 a3.2).bind fun x20 =>
(zsI σ17 r18 a3.2 x20).bind fun σ21 =>
(some (a3.2 + (1 : Int32))).bind fun x22 =>
some (.inl (σ21, x22)))
def fX3_copy (n : Nat) (σ : zH) (th : Nat) (p0 : Nat) : Option zH :=
(zgI [2] 4 σ p0).bind fun x1 =>
(zpv [2] 4 σ th (.int x1)).bind fun σ2 =>
zloop (fX3_copy_L10 th p0) n (σ2, (0 : Int32))
def fX3_unify_B (rec : Nat → zH → Nat → Int32 → Int32 → Option (zH × Int32)) (n : Nat) (σ : zH) (th : Nat) (p0 : Int32) (p1 : Int32) : Option (zH × Int32) :=
(zis σ th 2).bind fun u1 =>
(fX3_one n σ th p0).bind fun t2 =>
(zis σ th 2).bind fun u3 =>
(fX3_one n σ th p1).bind fun t4 =>
(some (zmin t2 t4)).bind fun x5 =>
(zis σ th 2).bind fun u6 =>
(fX3_one n σ th p0).bind fun t7 =>
(zis σ th 2).bind fun u8 =>
(fX3_one n σ th p1).bind fun t9 =>
(some (zmax t7 t9)).bind fun x10 =>
if x5 = x10 then (some (σ, (1 : Int32))) else ((zgR [2] 1 σ th).bind fun r11 =>
(zaI σ r11 x5).bind fun x12 =>
(zesc (if x12 = (-1 : Int32) then (some (.inl ())) else ((zgR [2] 1 σ th).bind fun r66 =>
(zaI σ r66 x10).bind fun x67 =>
if x67 = (-1 : Int32) then (some (.inl ())) else (some (.inr (1 : Int32))))) fun t64 =>
some (0 : Int32)).bind fun t13 =>
zesc (if t13 = 0 then (some (.inl ())) else ((zgR [2] 1 σ th).bind fun r58 =>
(zaI σ r58 x5).bind fun x59 =>
(zgR [2] 1 σ th).bind fun r60 =>
(zaI σ r60 x10).bind fun x61 =>
if x59 = x61 then (some (.inl ())) else (some (.inr (σ, (0 : Int32)))))) fun t14 =>
(zgR [2] 2 σ th).bind fun r15 =>
(zaI σ r15 x5).bind fun x16 =>
(zgR [2] 3 σ th).bind fun r17 =>
(zaI σ r17 x5).bind fun x18 =>
(zgR [2] 0 σ th).bind fun r19 =>
(zsI σ r19 x10 x5).bind fun σ20 =>
(zgR [2] 1 σ20 th).bind fun r21 =>
(zaI σ20 r21 x5).bind fun x22 =>
(if x22 = (-1 : Int32) then ((zgR [2] 1 σ20 th).bind fun r44 =>
(zgR [2] 1 σ20 th).bind fun r45 =>
(zaI σ20 r45 x10).bind fun x46 =>
(zsI σ20 r44 x5 x46).bind fun σ47 =>
(zgR [2] 2 σ47 th).bind fun r48 =>
(zgR [2] 2 σ47 th).bind fun r49 =>
(zaI σ47 r49 x10).bind fun x50 =>
(zsI σ47 r48 x5 x50).bind fun σ51 =>
(zgR [2] 3 σ51 th).bind fun r52 =>
(zgR [2] 3 σ51 th).bind fun r53 =>
(zaI σ51 r53 x10).bind fun x54 =>
(zsI σ51 r52 x5 x54).bind fun σ55 =>
some σ55) else (some σ20)).bind fun t23 =>
(zesc (if t13 = 0 then (some (.inl t23)) else (if x16 = (-1 : Int32) then (some (.inl t23)) else ((zgR [2] 2 t23 th).bind fun r37 =>
(zaI t23 r37 x10).bind fun x38 =>
(zis t23 th 2).bind fun u39 =>
(rec n t23 th x16 x38).bind fun t40 =>
if t40.2 = 0 then (some (.inr (t40.1, (0 : Int32)))) else (some (.inl t40.1))))) fun t35 =>
some (t35, (1 : Int32))).bind fun t24 =>
if t24.2 = 0 then (some (t24.1, (0 : Int32))) else (zesc (if t13 = 0 then (some (.inl t24.1)) else (if x18 = (-1 : Int32) then (some (.inl t24.1)) else ((zgR [2] 3 t24.1 th).bind fun r27 =>
(zaI t24.1 r27 x10).bind fun x28 =>
(zis t24.1 th 2).bind fun u29 =>
(rec n t24.1 th x18 x28).bind fun t30 =>
if t30.2 = 0 then (some (.inr (t30.1, (0 : Int32)))) else (some (.inl t30.1))))) fun t25 =>
some (t25, (1 : Int32))))
def fX3_unify : Nat → Nat → zH → Nat → Int32 → Int32 → Option (zH × Int32)
  | 0 => fun _ _ _ _ _ => none
  | d + 1 => fX3_unify_B (fX3_unify d)
def fX1_unify_L66 (n : Nat) (th : Nat) (σ19 : zH) (a20 : Int32 × Int32) : Option ((Int32 × Int32) ⊕ ((zX ⊕ (zH × Int32)))) :=
(zgR [0] 7 σ19 th).bind fun r22 =>
(zgI [2] 4 σ19 r22).bind fun x23 =>
if x23 ≤ a20.2 then (some (.inr (.inr (σ19, a20.1)))) else ((zgR [0] 7 σ19 th).bind fun r24 =>
(zis σ19 r24 2).bind fun u25 =>
(fX3_one n σ19 r24 a20.2).bind fun t26 =>
(if t26 = a20.2 then (some (1 : Int32)) else (some (0 : Int32))).bind fun t27 =>
(some (a20.1 + t27)).bind fun x28 =>
(some (a20.2 + (1 : Int32))).bind fun x29 =>
some (.inl (x28, x29)))
def fX1_unify (n : Nat) (σ : zH) (th : Nat) (p0 : Int32) (p1 : Int32) : Option (zX ⊕ (zH × Int32)) :=
(zgR [0] 7 σ th).bind fun r1 =>
(zgI [2] 4 σ r1).bind fun x2 =>
zthr (fX1_checkIndex σ p0 x2) (fun e37 => some (.inl e37)) fun t3 =>
(zgR [0] 7 σ th).bind fun r4 =>
(zgI [2] 4 σ r4).bind fun x5 =>
zthr (fX1_checkIndex σ p1 x5) (fun e35 => some (.inl e35)) fun t6 =>
(zgR [0] 8 σ th).bind fun r7 =>
(zgR [0] 7 σ th).bind fun r8 =>
(zis σ r7 2).bind fun u9 =>
(fX3_copy n σ r7 r8).bind fun t10 =>
(zgR [0] 8 t10 th).bind fun r11 =>
(zis t10 r11 2).bind fun u12 =>
(fX3_unify 34 n t10 r11 p0 p1).bind fun t13 =>
zthr (fX1_checkState t13.1 t13.2) (fun e33 => some (.inl e33)) fun t14 =>
(zgR [0] 7 t13.1 th).bind fun r15 =>
(zgR [0] 8 t13.1 th).bind fun r16 =>
(zis t13.1 r15 2).bind fun u17 =>
(fX3_copy n t13.1 r15 r16).bind fun t18 =>
(zpZ [0] 10 t18 th (0 : Int32)).bind fun σ19 =>
zloop (fX1_unify_L66 n th σ19) n ((0 : Int32), (0 : Int32))
def fX3_child (n : Nat) (σ : zH) (th : Nat) (p0 : Int32) (p1 : Int32) : Option Int32 :=
(zis σ th 2).bind fun u1 =>
(fX3_one n σ th p0).bind fun t2 =>
(if p1 = 0 then ((zgR [2] 2 σ th).bind fun r7 =>
(zaI σ r7 t2).bind fun x8 =>
some x8) else ((zgR [2] 3 σ th).bind fun r9 =>
(zaI σ r9 t2).bind fun x10 =>
some x10)).bind fun t3 =>
if t3 = (-1 : Int32) then (some (-1 : Int32)) else ((zis σ th 2).bind fun u4 =>
(fX3_one n σ th t3).bind fun t5 =>
some t5)
def fX1_areAlike_2_B (rec : Nat → zH → Nat → Int32 → Int32 → Nat → Option (zH × Int32)) (n : Nat) (σ : zH) (th : Nat) (p0 : Int32) (p1 : Int32) (p2 : Nat) : Option (zH × Int32) :=
(zgR [0] 7 σ th).bind fun r1 =>
(zis σ r1 2).bind fun u2 =>
(fX3_one n σ r1 p0).bind fun t3 =>
(zgR [0] 7 σ th).bind fun r4 =>
(zis σ r4 2).bind fun u5 =>
(fX3_one n σ r4 p1).bind fun t6 =>
if t3 = t6 then (some (σ, (1 : Int32))) else ((zaI σ p2 t3).bind fun x7 =>
(fX1_has x7 t6).bind fun t8 =>
if t8 = 0 then ((zaI σ p2 t3).bind fun x9 =>
(zsI σ p2 t3 (x9 ||| ((1 : Int32) <<< (t6 &&& 31)))).bind fun σ10 =>
(zgR [0] 7 σ10 th).bind fun r11 =>
(zis σ10 r11 2).bind fun u12 =>
(fX3_symbol n σ10 r11 t3).bind fun t13 =>
(zesc (if t13 = (-1 : Int32) then (some (.inl ())) else ((zgR [0] 7 σ10 th).bind fun r46 =>
(zis σ10 r46 2).bind fun u47 =>
(fX3_symbol n σ10 r46 t6).bind fun t48 =>
if t13 = t48 then (some (.inr (1 : Int32))) else (some (.inl ())))) fun t44 =>
some (0 : Int32)).bind fun t14 =>
(zesc (if t14 = 0 then (some (.inl σ10)) else (zesc (if t13 < (2 : Int32) then (some (.inl σ10)) else ((zgR [0] 7 σ10 th).bind fun r33 =>
(zis σ10 r33 2).bind fun u34 =>
(fX3_child n σ10 r33 t3 (0 : Int32)).bind fun t35 =>
(zgR [0] 7 σ10 th).bind fun r36 =>
(zis σ10 r36 2).bind fun u37 =>
(fX3_child n σ10 r36 t6 (0 : Int32)).bind fun t38 =>
(zis σ10 th 0).bind fun u39 =>
(rec n σ10 th t35 t38 p2).bind fun t40 =>
if t40.2 = 0 then (some (.inr (.inl t40.1))) else (some (.inl t40.1)))) fun t31 =>
some (.inr (t31, (1 : Int32))))) fun t29 =>
some (t29, (0 : Int32))).bind fun t15 =>
if t15.2 = 0 then (some (t15.1, (0 : Int32))) else (zesc (if t13 < (4 : Int32) then (some (.inl t15.1)) else ((zgR [0] 7 t15.1 th).bind fun r18 =>
(zis t15.1 r18 2).bind fun u19 =>
(fX3_child n t15.1 r18 t3 (1 : Int32)).bind fun t20 =>
(zgR [0] 7 t15.1 th).bind fun r21 =>
(zis t15.1 r21 2).bind fun u22 =>
(fX3_child n t15.1 r21 t6 (1 : Int32)).bind fun t23 =>
(zis t15.1 th 0).bind fun u24 =>
(rec n t15.1 th t20 t23 p2).bind fun t25 =>
if t25.2 = 0 then (some (.inr (t25.1, (0 : Int32)))) else (some (.inl t25.1)))) fun t16 =>
some (t16, (1 : Int32)))) else (some (σ, (1 : Int32))))
def fX1_areAlike_2 : Nat → Nat → zH → Nat → Int32 → Int32 → Nat → Option (zH × Int32)
  | 0 => fun _ _ _ _ _ _ => none
  | d + 1 => fX1_areAlike_2_B (fX1_areAlike_2 d)
def fX1_areAlike (n : Nat) (σ : zH) (sz : Nat) (th : Nat) (p0 : Int32) (p1 : Int32) : Option (zX ⊕ (zH × Nat × Int32)) :=
(zgR [0] 7 σ th).bind fun r1 =>
(zgI [2] 4 σ r1).bind fun x2 =>
zthr (fX1_checkIndex σ p0 x2) (fun e14 => some (.inl e14)) fun t3 =>
(zgR [0] 7 σ th).bind fun r4 =>
(zgI [2] 4 σ r4).bind fun x5 =>
zthr (fX1_checkIndex σ p1 x5) (fun e12 => some (.inl e12)) fun t6 =>
(znA 0 16 σ sz (16 : Int32)).bind fun σ7 =>
(zis σ7 th 0).bind fun u8 =>
(fX1_areAlike_2 260 n σ7 th p0 p1 sz).bind fun t9 =>
(zq t9.2).bind fun x10 =>
some (.inr (t9.1, sz + 1, x10))
def fX1_symbolAt_L41 (n : Nat) (σ : zH) (th : Nat) (p1 : Int32) (p2 : Int32) (a9 : Int32 × Int32) : Option ((Int32 × Int32) ⊕ (Int32)) :=
if p2 ≤ a9.2 then (some (.inr a9.1)) else (if a9.1 = (-1 : Int32) then (some (.inr a9.1)) else ((zgR [0] 7 σ th).bind fun r16 =>
(fX1_has p1 a9.2).bind fun t17 =>
(zis σ r16 2).bind fun u18 =>
(fX3_child n σ r16 a9.1 t17).bind fun t19 =>
(some (a9.2 + (1 : Int32))).bind fun x20 =>
some (.inl (t19, x20))))
def fX1_symbolAt (n : Nat) (σ : zH) (th : Nat) (p0 : Int32) (p1 : Int32) (p2 : Int32) : Option (zX ⊕ Int32) :=
(zgR [0] 7 σ th).bind fun r1 =>
(zgI [2] 4 σ r1).bind fun x2 =>
zthr (fX1_checkIndex σ p0 x2) (fun e28 => some (.inl e28)) fun t3 =>
zthr (fX1_check σ p2 (0 : Int32) (20 : Int32)) (fun e26 => some (.inl e26)) fun t4 =>
zthr (fX1_check σ p1 (0 : Int32) (((1 : Int32) <<< (p2 &&& 31)) - (1 : Int32))) (fun e24 => some (.inl e24)) fun t5 =>
(zgR [0] 7 σ th).bind fun r6 =>
(zis σ r6 2).bind fun u7 =>
(fX3_one n σ r6 p0).bind fun t8 =>
(zloop (fX1_symbolAt_L41 n σ th p1 p2) n (t8, (0 : Int32))).bind fun t11 =>
if t11 = (-1 : Int32) then (some (.inr (-1 : Int32))) else ((zgR [0] 7 σ th).bind fun r12 =>
(zis σ r12 2).bind fun u13 =>
(fX3_symbol n σ r12 t11).bind fun t14 =>
some (.inr t14))
def fX1_isEndless_2_B (rec : Nat → zH → Nat → Int32 → Int32 → Option Int32) (n : Nat) (σ : zH) (th : Nat) (p0 : Int32) (p1 : Int32) : Option Int32 :=
(zgR [0] 7 σ th).bind fun r1 =>
(zis σ r1 2).bind fun u2 =>
(fX3_one n σ r1 p0).bind fun t3 =>
(fX1_has p1 t3).bind fun t4 =>
if t4 = 0 then ((zgR [0] 7 σ th).bind fun r5 =>
(zis σ r5 2).bind fun u6 =>
(fX3_child n σ r5 t3 (0 : Int32)).bind fun t7 =>
(zgR [0] 7 σ th).bind fun r8 =>
(zis σ r8 2).bind fun u9 =>
(fX3_child n σ r8 t3 (1 : Int32)).bind fun t10 =>
zesc (zesc (if t7 = (-1 : Int32) then (some (.inl ())) else ((zis σ th 0).bind fun u19 =>
(rec n σ th t7 (p1 ||| ((1 : Int32) <<< (t3 &&& 31)))).bind fun t20 =>
if t20 = 0 then (some (.inl ())) else (some (.inr (.inl ()))))) fun t13 =>
if t10 = (-1 : Int32) then (some (.inr (0 : Int32))) else ((zis σ th 0).bind fun u14 =>
(rec n σ th t10 (p1 ||| ((1 : Int32) <<< (t3 &&& 31)))).bind fun t15 =>
if t15 = 0 then (some (.inr (0 : Int32))) else (some (.inl ())))) fun t11 =>
some (1 : Int32)) else (some (1 : Int32))
def fX1_isEndless_2 : Nat → Nat → zH → Nat → Int32 → Int32 → Option Int32
  | 0 => fun _ _ _ _ _ => none
  | d + 1 => fX1_isEndless_2_B (fX1_isEndless_2 d)
def fX1_isEndless (n : Nat) (σ : zH) (th : Nat) (p0 : Int32) : Option (zX ⊕ Int32) :=
(zgR [0] 7 σ th).bind fun r1 =>
(zgI [2] 4 σ r1).bind fun x2 =>
zthr (fX1_checkIndex σ p0 x2) (fun e8 => some (.inl e8)) fun t3 =>
(zis σ th 0).bind fun u4 =>
(fX1_isEndless_2 18 n σ th p0 (0 : Int32)).bind fun t5 =>
(zq t5).bind fun x6 =>
some (.inr x6)
