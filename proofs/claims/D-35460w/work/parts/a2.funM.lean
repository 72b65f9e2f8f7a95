/-! M: the functions (printed by gen/genm.py) -/
set_option maxRecDepth 100000
def fX5_thrown (st : zMS) : Option Int32 :=
some (st.1 68)
def fX5_isIn (p0 : Int32) (p1 : Int32) (p2 : Int32) : Option Int32 :=
if p0 < p1 then (some (0 : Int32)) else (if p2 < p0 then (some (0 : Int32)) else (some (1 : Int32)))
def fX5_all (p0 : Int32) : Option Int32 :=
if p0 = 0 then (some (65535 : Int32)) else (if p0 = (1 : Int32) then (some (-1 : Int32)) else (some (32767 : Int32)))
def fX5_addsVariable (st : zMS) (p0 : Int32) (p1 : Int32) (p2 : Int32) (p3 : Int32) : Option (zMS × Int32) :=
(zas st 1 (st.1 0) p0).bind fun st1 =>
(zas st1 2 (st1.1 0) p1).bind fun st2 =>
(zas st2 3 (st2.1 0) p2).bind fun st3 =>
(zas st3 4 (st3.1 0) p3).bind fun st4 =>
(zas st4 45 (st4.1 0) (0 : Int32)).bind fun st5 =>
(some (zps st5 0 ((st5.1 0) + (1 : Int32)))).bind fun st6 =>
some (st6, (st6.1 0) - (1 : Int32))
def fX5_variable (st : zMS) (p0 : Int32) (p1 : Int32) : Option (zMS × Int32) :=
(fX5_isIn p0 (0 : Int32) (2 : Int32)).bind fun t1 =>
(zesc (if t1 = 0 then (some (.inl ())) else (if p1 = 0 then (some (.inl ())) else ((fX5_all p0).bind fun t11 =>
if (p1 &&& (t11 ^^^ (-1 : Int32))) = 0 then (some (.inr (1 : Int32))) else (some (.inl ()))))) fun t9 =>
some (0 : Int32)).bind fun t2 =>
(if t2 = 0 then (some (1 : Int32)) else (if (st.1 0) = (10 : Int32) then (some (2 : Int32)) else (some (0 : Int32)))).bind fun t3 =>
(some (zps st 68 t3)).bind fun st4 =>
if (st4.1 68) ≤ 0 then ((fX5_addsVariable st4 p0 p1 (0 : Int32) (0 : Int32)).bind fun t5 =>
some (t5.1, t5.2)) else (some (st4, (0 : Int32)))
def fX5_ratio (st : zMS) (p0 : Int32) (p1 : Int32) : Option (zMS × Int32) :=
(fX5_isIn p0 (-120 : Int32) (120 : Int32)).bind fun t1 =>
(zesc (if t1 = 0 then (some (.inl ())) else ((fX5_isIn p1 p0 (120 : Int32)).bind fun t8 =>
if t8 = 0 then (some (.inl ())) else (if (st.1 0) = (10 : Int32) then (some (.inr (2 : Int32))) else (some (.inr (0 : Int32)))))) fun t6 =>
some (1 : Int32)).bind fun t2 =>
(some (zps st 68 t2)).bind fun st3 =>
if (st3.1 68) ≤ 0 then ((fX5_addsVariable st3 (3 : Int32) (-1 : Int32) p0 p1).bind fun t4 =>
some (t4.1, t4.2)) else (some (st3, (0 : Int32)))
def fX5_isVariable (st : zMS) (p0 : Int32) : Option Int32 :=
(fX5_isIn p0 (0 : Int32) ((st.1 0) - (1 : Int32))).bind fun t1 =>
(zq t1).bind fun x2 =>
some x2
def fX5_name (st : zMS) (p0 : Int32) : Option (zMS × Int32) :=
(fX5_isVariable st p0).bind fun t1 =>
(if t1 = 0 then (some (1 : Int32)) else (if (st.1 5) = (6 : Int32) then (some (2 : Int32)) else (some (0 : Int32)))).bind fun t2 =>
(some (zps st 68 t2)).bind fun st3 =>
if (st3.1 68) ≤ 0 then ((zas st3 6 (st3.1 5) p0).bind fun st4 =>
(some (zps st4 5 ((st4.1 5) + (1 : Int32)))).bind fun st5 =>
some (st5, st5.1 5)) else (some (st3, (0 : Int32)))
def fX5_number (st : zMS) (p0 : Int32) : Option (zMS × Int32) :=
(fX5_isIn p0 (-9 : Int32) (9 : Int32)).bind fun t1 =>
(if t1 = 0 then (some (1 : Int32)) else (if (st.1 7) = (6 : Int32) then (some (2 : Int32)) else (some (0 : Int32)))).bind fun t2 =>
(some (zps st 68 t2)).bind fun st3 =>
if (st3.1 68) ≤ 0 then ((zas st3 8 (st3.1 7) p0).bind fun st4 =>
(some (zps st4 7 ((st4.1 7) + (1 : Int32)))).bind fun st5 =>
some (st5, st5.1 7)) else (some (st3, (0 : Int32)))
def fX5_move (st : zMS) (p0 : Int32) (p1 : Int32) (p2 : Int32) : Option (zMS × Int32) :=
(fX5_isIn p0 (0 : Int32) (5 : Int32)).bind fun t1 =>
(zesc (if t1 = 0 then (some (.inl ())) else ((fX5_isIn p1 (0 : Int32) (15 : Int32)).bind fun t11 =>
if t11 = 0 then (some (.inl ())) else ((fX5_isIn p2 (0 : Int32) (5 : Int32)).bind fun t12 =>
if t12 = 0 then (some (.inl ())) else (if (st.1 9) = (16 : Int32) then (some (.inr (2 : Int32))) else (some (.inr (0 : Int32))))))) fun t9 =>
some (1 : Int32)).bind fun t2 =>
(some (zps st 68 t2)).bind fun st3 =>
if (st3.1 68) ≤ 0 then ((zas st3 10 ((3 : Int32) * (st3.1 9)) p0).bind fun st4 =>
(zas st4 10 (((3 : Int32) * (st4.1 9)) + (1 : Int32)) p1).bind fun st5 =>
(zas st5 10 (((3 : Int32) * (st5.1 9)) + (2 : Int32)) p2).bind fun st6 =>
(some (zps st6 9 ((st6.1 9) + (1 : Int32)))).bind fun st7 =>
some (st7, st7.1 9)) else (some (st3, (0 : Int32)))
def fX5_values (p0 : Int32) : Option Int32 :=
if p0 = 0 then (some (16 : Int32)) else (if p0 = (1 : Int32) then (some (32 : Int32)) else (some (15 : Int32)))
def fX5_isValue (st : zMS) (p0 : Int32) (p1 : Int32) : Option Int32 :=
(zal st 1 p0).bind fun x1 =>
if (3 : Int32) ≤ x1 then (some (0 : Int32)) else ((zal st 1 p0).bind fun x2 =>
(fX5_values x2).bind fun t3 =>
(fX5_isIn p1 (0 : Int32) (t3 - (1 : Int32))).bind fun t4 =>
if t4 = 0 then (some (0 : Int32)) else (some (1 : Int32)))
def fX5_literal (st : zMS) (p0 : Int32) (p1 : Int32) (p2 : Int32) : Option (zMS × Int32) :=
(fX5_isVariable st p0).bind fun t1 =>
(if t1 = 0 then (some (1 : Int32)) else ((fX5_isValue st p0 p1).bind fun t9 =>
if t9 = 0 then (some (2 : Int32)) else (if (st.1 11) = (6 : Int32) then (some (3 : Int32)) else (some (0 : Int32))))).bind fun t2 =>
(some (zps st 68 t2)).bind fun st3 =>
if (st3.1 68) ≤ 0 then ((zas st3 12 (st3.1 11) p0).bind fun st4 =>
(zas st4 13 (st4.1 11) p1).bind fun st5 =>
(zas st5 14 (st5.1 11) (zb p2)).bind fun st6 =>
(some (zps st6 11 ((st6.1 11) + (1 : Int32)))).bind fun st7 =>
some (st7, st7.1 11)) else (some (st3, (0 : Int32)))
def fX5_isRow_L15 (st : zMS) (p0 : Int32) (a2 : Int32 × Int32) : Option ((Int32 × Int32) ⊕ (Int32)) :=
if (st.1 5) ≤ a2.2 then ((zq a2.1).bind fun x4 =>
some (.inr x4)) else ((zal st 6 a2.2).bind fun x5 =>
(zal st 1 x5).bind fun x6 =>
(zesc (if x6 = 0 then (some (.inl ())) else (zesc (if p0 = 0 then (some (.inl ())) else ((zal st 6 a2.2).bind fun x14 =>
(zal st 1 x14).bind fun x15 =>
if x15 = (3 : Int32) then (some (.inr (.inl ()))) else (some (.inl ())))) fun t12 =>
some (.inr (0 : Int32)))) fun t10 =>
some (1 : Int32)).bind fun t7 =>
(some (a2.1 &&& t7)).bind fun x8 =>
(some (a2.2 + (1 : Int32))).bind fun x9 =>
some (.inl (x8, x9)))
def fX5_isRow (n : Nat) (st : zMS) (p0 : Int32) : Option Int32 :=
(if (st.1 5) ≤ 0 then (some (0 : Int32)) else (some (1 : Int32))).bind fun t1 =>
zloop (fX5_isRow_L15 st p0) n (t1, (0 : Int32))
def fX5_hasRoom (st : zMS) : Option Int32 :=
if (24 : Int32) ≤ (st.1 15) then (some (0 : Int32)) else (some (1 : Int32))
def fX5_places (st : zMS) (p0 : Int32) (p1 : Int32) : Option zMS :=
(zas st 18 (((8 : Int32) * (st.1 15)) + p0) p1).bind fun st1 =>
some st1
def fX5_takesRow_L2 (p0 : Int32) (a1 : zMS × Int32) : Option ((zMS × Int32) ⊕ (zMS)) :=
if (a1.1.1 5) ≤ a1.2 then (some (.inr a1.1)) else ((zal a1.1 6 a1.2).bind fun x3 =>
(fX5_places a1.1 (p0 + a1.2) x3).bind fun t4 =>
(some (a1.2 + (1 : Int32))).bind fun x5 =>
some (.inl (t4, x5)))
def fX5_takesRow (n : Nat) (st : zMS) (p0 : Int32) : Option zMS :=
zloop (fX5_takesRow_L2 p0) n (st, (0 : Int32))
def fX5_adds (st : zMS) (p0 : Int32) (p1 : Int32) : Option (zMS × Int32) :=
(zas st 16 (st.1 15) p0).bind fun st1 =>
(zas st1 17 (st1.1 15) p1).bind fun st2 =>
(some (zps st2 15 ((st2.1 15) + (1 : Int32)))).bind fun st3 =>
some (st3, (st3.1 15) - (1 : Int32))
def fX5_linear_L86 (x7 : Int32) (a14 : zMS × Int32) : Option ((zMS × Int32) ⊕ (zMS)) :=
if x7 ≤ a14.2 then (some (.inr a14.1)) else ((zal a14.1 8 a14.2).bind fun x19 =>
(zas a14.1 19 (((6 : Int32) * (a14.1.1 15)) + a14.2) x19).bind fun st20 =>
(some (a14.2 + (1 : Int32))).bind fun x21 =>
some (.inl (st20, x21)))
def fX5_linear (n : Nat) (st : zMS) (p0 : Int32) (p1 : Int32) : Option (zMS × Int32) :=
(fX5_isIn p1 (-2000 : Int32) (2000 : Int32)).bind fun t1 =>
(if t1 = 0 then (some (1 : Int32)) else (some (0 : Int32))).bind fun t2 =>
(some (zps st 68 t2)).bind fun st3 =>
if (st3.1 68) ≤ 0 then ((fX5_isRow n st3 (1 : Int32)).bind fun t4 =>
(zesc (if t4 = 0 then (some (.inl ())) else (if (st3.1 5) = (st3.1 7) then ((fX5_hasRoom st3).bind fun t26 =>
if t26 = 0 then (some (.inl ())) else (some (.inr (0 : Int32)))) else (some (.inl ())))) fun t24 =>
some (2 : Int32)).bind fun t5 =>
(some (zps st3 68 t5)).bind fun st6 =>
(some (st6.1 5)).bind fun x7 =>
(if (st6.1 68) = 0 then ((fX5_takesRow n st6 (0 : Int32)).bind fun t13 =>
(zloop (fX5_linear_L86 x7) n (t13, (0 : Int32))).bind fun t16 =>
(zas t16 23 ((6 : Int32) * (t16.1 15)) (zb p0)).bind fun st17 =>
(zas st17 20 (st17.1 15) p1).bind fun st18 =>
some st18) else (some st6)).bind fun t8 =>
(some (zps t8 5 (0 : Int32))).bind fun st9 =>
(some (zps st9 7 (0 : Int32))).bind fun st10 =>
if (st10.1 68) ≤ 0 then ((fX5_adds st10 (0 : Int32) x7).bind fun t11 =>
some (t11.1, t11.2)) else (some (st10, (0 : Int32)))) else (some (st3, (0 : Int32)))
def fX5_rowOf (n : Nat) (st : zMS) (p0 : Int32) : Option (zMS × Int32) :=
(fX5_isRow n st (0 : Int32)).bind fun t1 =>
(zesc (if t1 = 0 then (some (.inl ())) else ((fX5_hasRoom st).bind fun t13 =>
if t13 = 0 then (some (.inl ())) else (some (.inr (0 : Int32))))) fun t11 =>
some (1 : Int32)).bind fun t2 =>
(some (zps st 68 t2)).bind fun st3 =>
(some (st3.1 5)).bind fun x4 =>
(if (st3.1 68) = 0 then ((fX5_takesRow n st3 (0 : Int32)).bind fun t9 =>
some t9) else (some st3)).bind fun t5 =>
(some (zps t5 5 (0 : Int32))).bind fun st6 =>
if (st6.1 68) ≤ 0 then ((fX5_adds st6 p0 x4).bind fun t7 =>
some (t7.1, t7.2)) else (some (st6, (0 : Int32)))
def fX5_different (n : Nat) (st : zMS) : Option (zMS × Int32) :=
(fX5_rowOf n st (1 : Int32)).bind fun t1 =>
some (t1.1, t1.2)
def fX5_order (n : Nat) (st : zMS) : Option (zMS × Int32) :=
(fX5_rowOf n st (2 : Int32)).bind fun t1 =>
some (t1.1, t1.2)
def fX5_regular_L94  (a16 : zMS × Int32) : Option ((zMS × Int32) ⊕ (zMS)) :=
if ((3 : Int32) * (a16.1.1 9)) ≤ a16.2 then (some (.inr a16.1)) else ((zal a16.1 10 a16.2).bind fun x18 =>
(zas a16.1 22 (((48 : Int32) * (a16.1.1 15)) + a16.2) x18).bind fun st19 =>
(some (a16.2 + (1 : Int32))).bind fun x20 =>
some (.inl (st19, x20)))
def fX5_regular (n : Nat) (st : zMS) (p0 : Int32) : Option (zMS × Int32) :=
(fX5_isIn p0 (0 : Int32) (63 : Int32)).bind fun t1 =>
(if t1 = 0 then (some (1 : Int32)) else (some (0 : Int32))).bind fun t2 =>
(some (zps st 68 t2)).bind fun st3 =>
if (st3.1 68) ≤ 0 then ((fX5_isRow n st3 (0 : Int32)).bind fun t4 =>
(zesc (if t4 = 0 then (some (.inl ())) else ((fX5_hasRoom st3).bind fun t25 =>
if t25 = 0 then (some (.inl ())) else (some (.inr (0 : Int32))))) fun t23 =>
some (2 : Int32)).bind fun t5 =>
(some (zps st3 68 t5)).bind fun st6 =>
(some (st6.1 5)).bind fun x7 =>
(if (st6.1 68) = 0 then ((fX5_takesRow n st6 (0 : Int32)).bind fun t13 =>
(zas t13 20 (t13.1 15) p0).bind fun st14 =>
(zas st14 21 (st14.1 15) (st14.1 9)).bind fun st15 =>
zloop (fX5_regular_L94) n (st15, (0 : Int32))) else (some st6)).bind fun t8 =>
(some (zps t8 5 (0 : Int32))).bind fun st9 =>
(some (zps st9 9 (0 : Int32))).bind fun st10 =>
if (st10.1 68) ≤ 0 then ((fX5_adds st10 (3 : Int32) x7).bind fun t11 =>
some (t11.1, t11.2)) else (some (st10, (0 : Int32)))) else (some (st3, (0 : Int32)))
def fX5_element (n : Nat) (st : zMS) (p0 : Int32) (p1 : Int32) : Option (zMS × Int32) :=
(fX5_isVariable st p0).bind fun t1 =>
(zesc (if t1 = 0 then (some (.inl ())) else ((fX5_isVariable st p1).bind fun t24 =>
if t24 = 0 then (some (.inl ())) else ((zal st 1 p0).bind fun x25 =>
zesc (if x25 = 0 then ((zal st 1 p1).bind fun x28 =>
if x28 = 0 then (some (.inr (.inr (0 : Int32)))) else (some (.inl ()))) else (some (.inl ()))) fun t26 =>
some (.inr (2 : Int32))))) fun t22 =>
some (1 : Int32)).bind fun t2 =>
(some (zps st 68 t2)).bind fun st3 =>
if (st3.1 68) ≤ 0 then ((fX5_isRow n st3 (0 : Int32)).bind fun t4 =>
(zesc (if t4 = 0 then (some (.inl ())) else ((fX5_hasRoom st3).bind fun t18 =>
if t18 = 0 then (some (.inl ())) else (some (.inr (0 : Int32))))) fun t16 =>
some (3 : Int32)).bind fun t5 =>
(some (zps st3 68 t5)).bind fun st6 =>
(some (st6.1 5)).bind fun x7 =>
(if (st6.1 68) = 0 then ((fX5_places st6 (0 : Int32) p0).bind fun t12 =>
(fX5_places t12 (1 : Int32) p1).bind fun t13 =>
(fX5_takesRow n t13 (2 : Int32)).bind fun t14 =>
some t14) else (some st6)).bind fun t8 =>
(some (zps t8 5 (0 : Int32))).bind fun st9 =>
if (st9.1 68) ≤ 0 then ((fX5_adds st9 (4 : Int32) (x7 + (2 : Int32))).bind fun t10 =>
some (t10.1, t10.2)) else (some (st9, (0 : Int32)))) else (some (st3, (0 : Int32)))
def fX5_third (p0 : Int32) : Option Int32 :=
if p0 = (-2 : Int32) then (some (-1 : Int32)) else (some p0)
def fX5_of (st : zMS) (p0 : Int32) (p1 : Int32) (p2 : Int32) (p3 : Int32) (p4 : Int32) (p5 : Int32) (p6 : Int32) : Option (zMS × Int32) :=
(if p3 = (-2 : Int32) then (some (1 : Int32)) else (some (0 : Int32))).bind fun t1 =>
(fX5_isVariable st p1).bind fun t2 =>
(zesc (if t2 = 0 then (some (.inl ())) else ((fX5_isVariable st p2).bind fun t32 =>
if t32 = 0 then (some (.inl ())) else (zesc (if t1 = 0 then ((fX5_isVariable st p3).bind fun t35 =>
if t35 = 0 then (some (.inr (.inl ()))) else (some (.inl ()))) else (some (.inl ()))) fun t33 =>
some (.inr (0 : Int32))))) fun t30 =>
some (1 : Int32)).bind fun t3 =>
(some (zps st 68 t3)).bind fun st4 =>
if (st4.1 68) ≤ 0 then ((zal st4 1 p1).bind fun x5 =>
(zesc (if x5 = p4 then ((zal st4 1 p2).bind fun x21 =>
if x21 = p5 then (zesc (if t1 = 0 then ((zal st4 1 p3).bind fun x24 =>
if x24 = p6 then (some (.inl ())) else (some (.inr (.inl ())))) else (some (.inl ()))) fun t22 =>
some (.inr (1 : Int32))) else (some (.inl ()))) else (some (.inl ()))) fun t19 =>
some (0 : Int32)).bind fun t6 =>
(if t6 = 0 then (some (2 : Int32)) else ((fX5_hasRoom st4).bind fun t16 =>
if t16 = 0 then (some (3 : Int32)) else (some (0 : Int32)))).bind fun t7 =>
(some (zps st4 68 t7)).bind fun st8 =>
if (st8.1 68) ≤ 0 then ((fX5_places st8 (0 : Int32) p1).bind fun t9 =>
(fX5_places t9 (1 : Int32) p2).bind fun t10 =>
(fX5_places t10 (2 : Int32) p3).bind fun t11 =>
(if t1 = 0 then (some (3 : Int32)) else (some (2 : Int32))).bind fun t12 =>
(fX5_adds t11 p0 t12).bind fun t13 =>
some (t13.1, t13.2)) else (some (st8, (0 : Int32)))) else (some (st4, (0 : Int32)))
def fX5_when (st : zMS) (p0 : Int32) (p1 : Int32) (p2 : Int32) (p3 : Int32) : Option (zMS × Int32) :=
(if p3 = 0 then (some (8 : Int32)) else (some (7 : Int32))).bind fun t1 =>
(fX5_third p2).bind fun t2 =>
(fX5_of st t1 p0 p1 t2 (0 : Int32) (0 : Int32) (0 : Int32)).bind fun t3 =>
some (t3.1, t3.2)
def fX5_sets (st : zMS) (p0 : Int32) (p1 : Int32) (p2 : Int32) (p3 : Int32) : Option (zMS × Int32) :=
(if p0 = 0 then (some (10 : Int32)) else (some (9 : Int32))).bind fun t1 =>
(fX5_third p3).bind fun t2 =>
(fX5_of st t1 p1 p2 t2 (1 : Int32) (1 : Int32) (1 : Int32)).bind fun t3 =>
some (t3.1, t3.2)
def fX5_within (st : zMS) (p0 : Int32) (p1 : Int32) : Option (zMS × Int32) :=
(fX5_of st (11 : Int32) p0 p1 (-2 : Int32) (1 : Int32) (1 : Int32) (0 : Int32)).bind fun t1 =>
some (t1.1, t1.2)
def fX5_measure (st : zMS) (p0 : Int32) (p1 : Int32) : Option (zMS × Int32) :=
(fX5_isVariable st p0).bind fun t1 =>
(zesc (if t1 = 0 then (some (.inl ())) else ((zal st 1 p0).bind fun x10 =>
if x10 = (2 : Int32) then (some (.inr (1 : Int32))) else (some (.inl ())))) fun t8 =>
some (0 : Int32)).bind fun t2 =>
(if t2 = 0 then (some (12 : Int32)) else (some (13 : Int32))).bind fun t3 =>
(if t2 = 0 then (some (1 : Int32)) else (some (2 : Int32))).bind fun t4 =>
(fX5_of st t3 p1 p0 (-2 : Int32) (0 : Int32) t4 (0 : Int32)).bind fun t5 =>
some (t5.1, t5.2)
def fX5_member (st : zMS) (p0 : Int32) (p1 : Int32) (p2 : Int32) : Option (zMS × Int32) :=
(fX5_third p2).bind fun t1 =>
(fX5_of st (14 : Int32) p0 p1 t1 (0 : Int32) (0 : Int32) (1 : Int32)).bind fun t2 =>
some (t2.1, t2.2)
def fX5_joined (st : zMS) (p0 : Int32) (p1 : Int32) (p2 : Int32) : Option (zMS × Int32) :=
(fX5_third p2).bind fun t1 =>
(fX5_of st (15 : Int32) p0 p1 t1 (2 : Int32) (2 : Int32) (2 : Int32)).bind fun t2 =>
some (t2.1, t2.2)
def fX5_prefix (st : zMS) (p0 : Int32) (p1 : Int32) : Option (zMS × Int32) :=
(fX5_of st (16 : Int32) p0 p1 (-2 : Int32) (2 : Int32) (2 : Int32) (0 : Int32)).bind fun t1 =>
some (t1.1, t1.2)
def fX5_letter (st : zMS) (p0 : Int32) (p1 : Int32) (p2 : Int32) : Option (zMS × Int32) :=
(fX5_third p2).bind fun t1 =>
(fX5_of st (17 : Int32) p0 p1 t1 (0 : Int32) (2 : Int32) (0 : Int32)).bind fun t2 =>
some (t2.1, t2.2)
def fX5_takesLiterals_L2 (p0 : Int32) (a1 : zMS × Int32) : Option ((zMS × Int32) ⊕ (zMS)) :=
if p0 ≤ a1.2 then (some (.inr a1.1)) else ((zal a1.1 12 a1.2).bind fun x3 =>
(fX5_places a1.1 a1.2 x3).bind fun t4 =>
(zal t4 13 a1.2).bind fun x5 =>
(zas t4 19 (((6 : Int32) * (t4.1 15)) + a1.2) x5).bind fun st6 =>
(zal st6 14 a1.2).bind fun x7 =>
(zas st6 23 (((6 : Int32) * (st6.1 15)) + a1.2) (zb x7)).bind fun st8 =>
(some (a1.2 + (1 : Int32))).bind fun x9 =>
some (.inl (st8, x9)))
def fX5_takesLiterals (n : Nat) (st : zMS) (p0 : Int32) : Option zMS :=
zloop (fX5_takesLiterals_L2 p0) n (st, (0 : Int32))
def fX5_clause (n : Nat) (st : zMS) : Option (zMS × Int32) :=
(zesc (if (st.1 11) ≤ 0 then (some (.inl ())) else ((fX5_hasRoom st).bind fun t10 =>
if t10 = 0 then (some (.inl ())) else (some (.inr (0 : Int32))))) fun t8 =>
some (1 : Int32)).bind fun t1 =>
(some (zps st 68 t1)).bind fun st2 =>
(some (st2.1 11)).bind fun x3 =>
(some (zps st2 11 (0 : Int32))).bind fun st4 =>
if (st4.1 68) ≤ 0 then ((fX5_takesLiterals n st4 x3).bind fun t5 =>
(fX5_adds t5 (5 : Int32) x3).bind fun t6 =>
some (t6.1, t6.2)) else (some (st4, (0 : Int32)))
def fX5_isTree (st : zMS) (p0 : Int32) : Option Int32 :=
(fX5_isIn p0 (0 : Int32) ((st.1 64) - (1 : Int32))).bind fun t1 =>
(zq t1).bind fun x2 =>
some x2
def fX5_symbol (st : zMS) (p0 : Int32) (p1 : Int32) : Option (zMS × Int32) :=
(fX5_isTree st p0).bind fun t1 =>
(zesc (if t1 = 0 then (some (.inl ())) else ((fX5_isVariable st p1).bind fun t10 =>
if t10 = 0 then (some (.inl ())) else ((zal st 1 p1).bind fun x11 =>
if x11 = 0 then ((fX5_hasRoom st).bind fun t12 =>
if t12 = 0 then (some (.inr (3 : Int32))) else (some (.inr (0 : Int32)))) else (some (.inr (2 : Int32)))))) fun t8 =>
some (1 : Int32)).bind fun t2 =>
(some (zps st 68 t2)).bind fun st3 =>
if (st3.1 68) ≤ 0 then ((fX5_places st3 (0 : Int32) p1).bind fun t4 =>
(zas t4 20 (t4.1 15) p0).bind fun st5 =>
(fX5_adds st5 (6 : Int32) (1 : Int32)).bind fun t6 =>
some (t6.1, t6.2)) else (some (st3, (0 : Int32)))
def fX5_constraints (st : zMS) : Option (zMS × Int32) :=
(some (zps st 68 (0 : Int32))).bind fun st1 =>
some (st1, st1.1 15)
def fX5_decide (st : zMS) (p0 : Int32) (p1 : Int32) (p2 : Int32) : Option (zMS × Int32) :=
(fX5_isVariable st p0).bind fun t1 =>
(if t1 = 0 then (some (1 : Int32)) else ((fX5_isValue st p0 p1).bind fun t9 =>
if t9 = 0 then (some (2 : Int32)) else (if (st.1 24) = (12 : Int32) then (some (3 : Int32)) else (some (0 : Int32))))).bind fun t2 =>
(some (zps st 68 t2)).bind fun st3 =>
if (st3.1 68) ≤ 0 then ((zas st3 25 (st3.1 24) p0).bind fun st4 =>
(zas st4 26 (st4.1 24) p1).bind fun st5 =>
(zas st5 27 (st5.1 24) (zb p2)).bind fun st6 =>
(some (zps st6 24 ((st6.1 24) + (1 : Int32)))).bind fun st7 =>
some (st7, (st7.1 24) - (1 : Int32))) else (some (st3, (0 : Int32)))
def fX5_back (st : zMS) (p0 : Int32) : Option (zMS × Int32) :=
(fX5_isIn p0 (0 : Int32) (st.1 24)).bind fun t1 =>
(if t1 = 0 then (some (1 : Int32)) else (some (0 : Int32))).bind fun t2 =>
(some (zps st 68 t2)).bind fun st3 =>
if (st3.1 68) ≤ 0 then ((some (zps st3 24 ((st3.1 24) - p0))).bind fun st4 =>
some (st4, st4.1 24)) else (some (st3, (0 : Int32)))
def fX5_takesOne (st : zMS) (p0 : Int32) (p1 : Int32) (p2 : Int32) : Option zMS :=
(zas st 29 (st.1 28) p0).bind fun st1 =>
(zas st1 30 (st1.1 28) p1).bind fun st2 =>
(zas st2 31 (st2.1 28) (zb p2)).bind fun st3 =>
(some (zps st3 28 ((st3.1 28) + (1 : Int32)))).bind fun st4 =>
some st4
def fX5_takesDecisions_L7 (p0 : Int32) (a2 : zMS × Int32) : Option ((zMS × Int32) ⊕ (zMS)) :=
if (a2.1.1 24) ≤ a2.2 then (some (.inr a2.1)) else ((if ((p0 >>> (a2.2 &&& 31)) &&& (1 : Int32)) = (1 : Int32) then ((zal a2.1 25 a2.2).bind fun x6 =>
(zal a2.1 26 a2.2).bind fun x7 =>
(zal a2.1 27 a2.2).bind fun x8 =>
(fX5_takesOne a2.1 x6 x7 x8).bind fun t9 =>
some t9) else (some a2.1)).bind fun t4 =>
(some (a2.2 + (1 : Int32))).bind fun x5 =>
some (.inl (t4, x5)))
def fX5_takesDecisions (n : Nat) (st : zMS) (p0 : Int32) : Option zMS :=
(some (zps st 28 (0 : Int32))).bind fun st1 =>
zloop (fX5_takesDecisions_L7 p0) n (st1, (0 : Int32))
def fX5_isEmpty (st : zMS) (p0 : Int32) : Option Int32 :=
(zal st 1 p0).bind fun x1 =>
if x1 = (3 : Int32) then ((zal st 35 p0).bind fun x4 =>
(zal st 36 p0).bind fun x5 =>
if x4 ≤ x5 then (some (0 : Int32)) else (some (1 : Int32))) else ((zal st 34 p0).bind fun x2 =>
if x2 = 0 then (some (1 : Int32)) else (some (0 : Int32)))
def fX5_looksForFailure_L2  (a1 : zMS × Int32) : Option ((zMS × Int32) ⊕ (zMS)) :=
if (a1.1.1 0) ≤ a1.2 then (some (.inr a1.1)) else ((fX5_isEmpty a1.1 a1.2).bind fun t3 =>
(zpsZ a1.1 37 ((a1.1.1 37) ||| t3)).bind fun st4 =>
(some (a1.2 + (1 : Int32))).bind fun x5 =>
some (.inl (st4, x5)))
def fX5_looksForFailure (n : Nat) (st : zMS) : Option zMS :=
zloop (fX5_looksForFailure_L2) n (st, (0 : Int32))
def fX5_hasBit (p0 : Int32) (p1 : Int32) : Option Int32 :=
if p1 < 0 then (some (0 : Int32)) else (if (32 : Int32) ≤ p1 then (some (0 : Int32)) else (if (((p0.toUInt32 >>> (p1.toUInt32 &&& Int32.toUInt32 31)).toInt32) &&& (1 : Int32)) = (1 : Int32) then (some (1 : Int32)) else (some (0 : Int32))))
def fX5_unit (st : zMS) (p0 : Int32) : Option Int32 :=
(zal st 1 p0).bind fun x1 =>
if x1 = (3 : Int32) then (some (1 : Int32)) else (some (12 : Int32))
def fX5_highest_L3 (p0 : Int32) (a1 : Int32) : Option ((Int32) ⊕ (Int32)) :=
if a1 < 0 then (some (.inr a1)) else (if (((p0.toUInt32 >>> (a1.toUInt32 &&& Int32.toUInt32 31)).toInt32) &&& (1 : Int32)) = 0 then ((some (a1 + (-1 : Int32))).bind fun x3 =>
some (.inl x3)) else (some (.inr a1)))
def fX5_highest (n : Nat) (p0 : Int32) : Option Int32 :=
zloop (fX5_highest_L3 p0) n (31 : Int32)
def fX5_lowest_L2 (p0 : Int32) (a1 : Int32) : Option ((Int32) ⊕ (Int32)) :=
if (32 : Int32) ≤ a1 then (some (.inr a1)) else (if (((p0.toUInt32 >>> (a1.toUInt32 &&& Int32.toUInt32 31)).toInt32) &&& (1 : Int32)) = 0 then ((some (a1 + (1 : Int32))).bind fun x3 =>
some (.inl x3)) else (some (.inr a1)))
def fX5_lowest (n : Nat) (p0 : Int32) : Option Int32 :=
zloop (fX5_lowest_L2 p0) n (0 : Int32)
def fX5_end (n : Nat) (st : zMS) (p0 : Int32) (p1 : Int32) : Option Int32 :=
(zal st 1 p0).bind fun x1 =>
if x1 = (3 : Int32) then (if p1 = 0 then ((zal st 35 p0).bind fun x7 =>
some x7) else ((zal st 36 p0).bind fun x8 =>
some x8)) else (if p1 = 0 then ((zal st 34 p0).bind fun x2 =>
(fX5_lowest n x2).bind fun t3 =>
some t3) else ((zal st 34 p0).bind fun x4 =>
(fX5_highest n x4).bind fun t5 =>
some t5))
def fX5_most (n : Nat) (st : zMS) (p0 : Int32) (p1 : Int32) (p2 : Int32) : Option Int32 :=
(zal st 18 (((8 : Int32) * p0) + p1)).bind fun x1 =>
(zal st 19 (((6 : Int32) * p0) + p1)).bind fun x2 =>
(fX5_unit st x1).bind fun t3 =>
(some (x2 * t3)).bind fun x4 =>
(if x4 ≤ 0 then (some (0 : Int32)) else (some (1 : Int32))).bind fun t5 =>
(if t5 = p2 then (some (1 : Int32)) else (some (0 : Int32))).bind fun t6 =>
(fX5_end n st x1 t6).bind fun t7 =>
some (x4 * t7)
def fX5_linearAgrees_L42 (n : Nat) (st : zMS) (p0 : Int32) (p1 : Int32) (a5 : Int32 × Int32 × Int32) : Option ((Int32 × Int32 × Int32) ⊕ (Int32 × Int32)) :=
(zal st 17 p0).bind fun x16 =>
if x16 ≤ a5.2.2 then (some (.inr (a5.1, a5.2.1))) else ((if a5.2.2 = p1 then (some (0 : Int32)) else ((fX5_most n st p0 a5.2.2 (0 : Int32)).bind fun t24 =>
some t24)).bind fun t17 =>
(some (a5.1 + t17)).bind fun x18 =>
(if a5.2.2 = p1 then (some (0 : Int32)) else ((fX5_most n st p0 a5.2.2 (1 : Int32)).bind fun t22 =>
some t22)).bind fun t19 =>
(some (a5.2.1 + t19)).bind fun x20 =>
(some (a5.2.2 + (1 : Int32))).bind fun x21 =>
some (.inl (x18, x20, x21)))
def fX5_linearAgrees (n : Nat) (st : zMS) (p0 : Int32) (p1 : Int32) (p2 : Int32) : Option Int32 :=
(zal st 19 (((6 : Int32) * p0) + p1)).bind fun x1 =>
(zal st 18 (((8 : Int32) * p0) + p1)).bind fun x2 =>
(fX5_unit st x2).bind fun t3 =>
(some ((x1 * t3) * p2)).bind fun x4 =>
(zloop (fX5_linearAgrees_L42 n st p0 p1) n (x4, x4, (0 : Int32))).bind fun t7 =>
(zal st 20 p0).bind fun x8 =>
if x8 < t7.1 then (some (0 : Int32)) else ((zal st 23 ((6 : Int32) * p0)).bind fun x9 =>
zesc (if x9 = 0 then (some (.inl ())) else ((zal st 20 p0).bind fun x12 =>
if t7.2 < x12 then (some (.inr (0 : Int32))) else (some (.inl ())))) fun t10 =>
some (1 : Int32))
def fX5_supports (st : zMS) (p0 : Int32) (p1 : Int32) (p2 : Int32) : Option zMS :=
(zal st 41 (((8 : Int32) * p0) + p1)).bind fun x1 =>
(zas st 41 (((8 : Int32) * p0) + p1) (x1 ||| ((1 : Int32) <<< (p2 &&& 31)))).bind fun st2 =>
some st2
def fX5_byLinear_L27 (n : Nat) (p0 : Int32) (a1 : zMS × Int32) (x4 : Int32) (a5 : zMS × Int32) : Option ((zMS × Int32) ⊕ (zMS)) :=
if (16 : Int32) ≤ a5.2 then (some (.inr a5.1)) else ((zal a5.1 1 x4).bind fun x9 =>
if x9 = 0 then ((zal a5.1 34 x4).bind fun x10 =>
(fX5_hasBit x10 a5.2).bind fun t11 =>
(if t11 = 0 then (some a5.1) else ((fX5_linearAgrees n a5.1 p0 a1.2 a5.2).bind fun t14 =>
if t14 = 0 then (some a5.1) else ((fX5_supports a5.1 p0 a1.2 a5.2).bind fun t15 =>
some t15))).bind fun t12 =>
(some (a5.2 + (1 : Int32))).bind fun x13 =>
some (.inl (t12, x13))) else (some (.inr a5.1)))
def fX5_byLinear_L2 (n : Nat) (p0 : Int32) (a1 : zMS × Int32) : Option ((zMS × Int32) ⊕ (zMS)) :=
(zal a1.1 17 p0).bind fun x3 =>
if x3 ≤ a1.2 then (some (.inr a1.1)) else ((zal a1.1 18 (((8 : Int32) * p0) + a1.2)).bind fun x4 =>
(zloop (fX5_byLinear_L27 n p0 a1 x4) n (a1.1, (0 : Int32))).bind fun t7 =>
(some (a1.2 + (1 : Int32))).bind fun x8 =>
some (.inl (t7, x8)))
def fX5_byLinear (n : Nat) (st : zMS) (p0 : Int32) : Option zMS :=
zloop (fX5_byLinear_L2 n p0) n (st, (0 : Int32))
def fX5_domainAt (st : zMS) (p0 : Int32) (p1 : Int32) : Option Int32 :=
(zal st 18 (((8 : Int32) * p0) + p1)).bind fun x1 =>
(zal st 34 x1).bind fun x2 =>
some x2
def fX5_count_L4 (p0 : Int32) (a1 : Int32 × Int32) : Option ((Int32 × Int32) ⊕ (Int32)) :=
if (32 : Int32) ≤ a1.2 then (some (.inr a1.1)) else ((some (a1.1 + (((p0.toUInt32 >>> (a1.2.toUInt32 &&& Int32.toUInt32 31)).toInt32) &&& (1 : Int32)))).bind fun x3 =>
(some (a1.2 + (1 : Int32))).bind fun x4 =>
some (.inl (x3, x4)))
def fX5_count (n : Nat) (p0 : Int32) : Option Int32 :=
zloop (fX5_count_L4 p0) n ((0 : Int32), (0 : Int32))
def fX5_canDiffer_L22 (st : zMS) (p0 : Int32) (a1 : Int32 × Int32) (a5 : Int32 × Int32) : Option ((Int32 × Int32) ⊕ (Int32)) :=
(zal st 17 p0).bind fun x13 =>
if x13 ≤ a5.2 then (some (.inr a5.1)) else ((if ((a1.2 >>> (a5.2 &&& 31)) &&& (1 : Int32)) = (1 : Int32) then ((fX5_domainAt st p0 a5.2).bind fun t17 =>
some t17) else (some (0 : Int32))).bind fun t14 =>
(some (a5.1 ||| t14)).bind fun x15 =>
(some (a5.2 + (1 : Int32))).bind fun x16 =>
some (.inl (x15, x16)))
def fX5_canDiffer_L6 (n : Nat) (st : zMS) (p0 : Int32) (p1 : Int32) (p2 : Int32) (a1 : Int32 × Int32) : Option ((Int32 × Int32) ⊕ (Int32)) :=
if a1.2 ≤ 0 then ((zq a1.1).bind fun x3 =>
some (.inr x3)) else (if a1.1 = 0 then ((zq a1.1).bind fun x4 =>
some (.inr x4)) else ((zloop (fX5_canDiffer_L22 st p0 a1) n ((0 : Int32), (0 : Int32))).bind fun t7 =>
(fX5_count n (t7 &&& (((1 : Int32) <<< (p2 &&& 31)) ^^^ (-1 : Int32)))).bind fun t8 =>
(fX5_count n a1.2).bind fun t9 =>
(if t8 < t9 then (some (0 : Int32)) else (some (1 : Int32))).bind fun t10 =>
(some ((a1.2 - (1 : Int32)) &&& p1)).bind fun x11 =>
some (.inl (t10, x11))))
def fX5_canDiffer (n : Nat) (st : zMS) (p0 : Int32) (p1 : Int32) (p2 : Int32) : Option Int32 :=
zloop (fX5_canDiffer_L6 n st p0 p1 p2) n ((1 : Int32), p1)
def fX5_byDifferent_L14 (n : Nat) (p0 : Int32) (a1 : zMS × Int32) (a4 : zMS × Int32) : Option ((zMS × Int32) ⊕ (zMS)) :=
if (16 : Int32) ≤ a4.2 then (some (.inr a4.1)) else ((fX5_domainAt a4.1 p0 a1.2).bind fun t8 =>
(fX5_hasBit t8 a4.2).bind fun t9 =>
(if t9 = 0 then (some a4.1) else ((zal a4.1 17 p0).bind fun x12 =>
(fX5_canDiffer n a4.1 p0 ((((1 : Int32) <<< (x12 &&& 31)) - (1 : Int32)) &&& (((1 : Int32) <<< (a1.2 &&& 31)) ^^^ (-1 : Int32))) a4.2).bind fun t13 =>
if t13 = 0 then (some a4.1) else ((fX5_supports a4.1 p0 a1.2 a4.2).bind fun t14 =>
some t14))).bind fun t10 =>
(some (a4.2 + (1 : Int32))).bind fun x11 =>
some (.inl (t10, x11)))
def fX5_byDifferent_L2 (n : Nat) (p0 : Int32) (a1 : zMS × Int32) : Option ((zMS × Int32) ⊕ (zMS)) :=
(zal a1.1 17 p0).bind fun x3 =>
if x3 ≤ a1.2 then (some (.inr a1.1)) else ((zloop (fX5_byDifferent_L14 n p0 a1) n (a1.1, (0 : Int32))).bind fun t6 =>
(some (a1.2 + (1 : Int32))).bind fun x7 =>
some (.inl (t6, x7)))
def fX5_byDifferent (n : Nat) (st : zMS) (p0 : Int32) : Option zMS :=
zloop (fX5_byDifferent_L2 n p0) n (st, (0 : Int32))
def fX5_atLeast (p0 : Int32) (p1 : Int32) : Option Int32 :=
if p1 ≤ (31 : Int32) then (if 0 ≤ p1 then (some (p0 &&& ((-1 : Int32) <<< (p1 &&& 31)))) else (some p0)) else (some (0 : Int32))
def fX5_atMost (p0 : Int32) (p1 : Int32) : Option Int32 :=
if 0 ≤ p1 then (if p1 ≤ (30 : Int32) then (some (p0 &&& (((1 : Int32) <<< ((p1 + (1 : Int32)) &&& 31)) - (1 : Int32)))) else (some p0)) else (some (0 : Int32))
def fX5_ordered_L58 (n : Nat) (p0 : Int32) (a2 : zMS × Int32) (a8 : Int32 × Int32) : Option ((Int32 × Int32) ⊕ (Int32)) :=
if a8.2 ≤ a2.2 then (some (.inr a8.1)) else ((fX5_domainAt a2.1 p0 a8.2).bind fun t16 =>
(fX5_atMost t16 a8.1).bind fun t17 =>
(fX5_highest n t17).bind fun t18 =>
(some (a8.2 + (-1 : Int32))).bind fun x19 =>
some (.inl (t18, x19)))
def fX5_ordered_L20 (n : Nat) (p0 : Int32) (a2 : zMS × Int32) (a4 : Int32 × Int32) : Option ((Int32 × Int32) ⊕ (Int32)) :=
if a2.2 ≤ a4.2 then (some (.inr a4.1)) else ((fX5_domainAt a2.1 p0 a4.2).bind fun t21 =>
(fX5_atLeast t21 a4.1).bind fun t22 =>
(fX5_lowest n t22).bind fun t23 =>
(some (a4.2 + (1 : Int32))).bind fun x24 =>
some (.inl (t23, x24)))
def fX5_ordered_L9 (n : Nat) (p0 : Int32) (x1 : Int32) (a2 : zMS × Int32) : Option ((zMS × Int32) ⊕ (zMS)) :=
if x1 ≤ a2.2 then (some (.inr a2.1)) else ((zloop (fX5_ordered_L20 n p0 a2) n ((0 : Int32), (0 : Int32))).bind fun t6 =>
(some (x1 - (1 : Int32))).bind fun x7 =>
(zloop (fX5_ordered_L58 n p0 a2) n ((15 : Int32), x7)).bind fun t10 =>
(fX5_domainAt a2.1 p0 a2.2).bind fun t11 =>
(fX5_atLeast t11 t6).bind fun t12 =>
(fX5_atMost t12 t10).bind fun t13 =>
(zas a2.1 41 (((8 : Int32) * p0) + a2.2) t13).bind fun st14 =>
(some (a2.2 + (1 : Int32))).bind fun x15 =>
some (.inl (st14, x15)))
def fX5_ordered (n : Nat) (st : zMS) (p0 : Int32) : Option zMS :=
(zal st 17 p0).bind fun x1 =>
zloop (fX5_ordered_L9 n p0 x1) n (st, (0 : Int32))
def fX5_stepped_L9 (st : zMS) (p0 : Int32) (p1 : Int32) (p2 : Int32) (p3 : Int32) (a2 : Int32 × Int32) : Option ((Int32 × Int32) ⊕ (Int32)) :=
(zal st 21 p0).bind fun x4 =>
if (((48 : Int32) * p0) + ((3 : Int32) * x4)) ≤ a2.2 then (some (.inr a2.1)) else ((if p3 = 0 then (some (a2.2 + (2 : Int32))) else (some a2.2)).bind fun t5 =>
(zal st 22 t5).bind fun x6 =>
(if p3 = 0 then (some a2.2) else (some (a2.2 + (2 : Int32)))).bind fun t7 =>
(zal st 22 t7).bind fun x8 =>
(fX5_hasBit p1 x6).bind fun t9 =>
(zesc (if t9 = 0 then (some (.inl ())) else ((zal st 22 (a2.2 + (1 : Int32))).bind fun x15 =>
(fX5_hasBit p2 x15).bind fun t16 =>
if t16 = 0 then (some (.inl ())) else (some (.inr ((1 : Int32) <<< (x8 &&& 31)))))) fun t13 =>
some (0 : Int32)).bind fun t10 =>
(some (a2.1 ||| t10)).bind fun x11 =>
(some (a2.2 + (3 : Int32))).bind fun x12 =>
some (.inl (x11, x12)))
def fX5_stepped (n : Nat) (st : zMS) (p0 : Int32) (p1 : Int32) (p2 : Int32) (p3 : Int32) : Option Int32 :=
(some ((48 : Int32) * p0)).bind fun x1 =>
zloop (fX5_stepped_L9 st p0 p1 p2 p3) n ((0 : Int32), x1)
def fX5_byRegular_L97 (p0 : Int32) (a2 : zMS × Int32) (t11 : Int32) (t6 : Int32) (a13 : zMS × Int32) : Option ((zMS × Int32) ⊕ (zMS)) :=
(zal a13.1 21 p0).bind fun x17 =>
if (((48 : Int32) * p0) + ((3 : Int32) * x17)) ≤ a13.2 then (some (.inr a13.1)) else ((zal a13.1 22 a13.2).bind fun x18 =>
(fX5_hasBit t6 x18).bind fun t19 =>
(if t19 = 0 then (some a13.1) else ((zal a13.1 22 (a13.2 + (2 : Int32))).bind fun x22 =>
(fX5_hasBit t11 x22).bind fun t23 =>
if t23 = 0 then (some a13.1) else ((fX5_domainAt a13.1 p0 a2.2).bind fun t24 =>
(zal a13.1 22 (a13.2 + (1 : Int32))).bind fun x25 =>
(fX5_hasBit t24 x25).bind fun t26 =>
if t26 = 0 then (some a13.1) else ((zal a13.1 22 (a13.2 + (1 : Int32))).bind fun x27 =>
(fX5_supports a13.1 p0 a2.2 x27).bind fun t28 =>
some t28)))).bind fun t20 =>
(some (a13.2 + (3 : Int32))).bind fun x21 =>
some (.inl (t20, x21)))
def fX5_byRegular_L62 (n : Nat) (p0 : Int32) (a2 : zMS × Int32) (a9 : Int32 × Int32) : Option ((Int32 × Int32) ⊕ (Int32)) :=
if a9.2 ≤ a2.2 then (some (.inr a9.1)) else ((fX5_domainAt a2.1 p0 a9.2).bind fun t33 =>
(fX5_stepped n a2.1 p0 a9.1 t33 (0 : Int32)).bind fun t34 =>
(some (a9.2 + (-1 : Int32))).bind fun x35 =>
some (.inl (t34, x35)))
def fX5_byRegular_L20 (n : Nat) (p0 : Int32) (a2 : zMS × Int32) (a4 : Int32 × Int32) : Option ((Int32 × Int32) ⊕ (Int32)) :=
if a2.2 ≤ a4.2 then (some (.inr a4.1)) else ((fX5_domainAt a2.1 p0 a4.2).bind fun t37 =>
(fX5_stepped n a2.1 p0 a4.1 t37 (1 : Int32)).bind fun t38 =>
(some (a4.2 + (1 : Int32))).bind fun x39 =>
some (.inl (t38, x39)))
def fX5_byRegular_L9 (n : Nat) (p0 : Int32) (x1 : Int32) (a2 : zMS × Int32) : Option ((zMS × Int32) ⊕ (zMS)) :=
if x1 ≤ a2.2 then (some (.inr a2.1)) else ((zloop (fX5_byRegular_L20 n p0 a2) n ((1 : Int32), (0 : Int32))).bind fun t6 =>
(zal a2.1 20 p0).bind fun x7 =>
(some (x1 - (1 : Int32))).bind fun x8 =>
(zloop (fX5_byRegular_L62 n p0 a2) n (x7, x8)).bind fun t11 =>
(some ((48 : Int32) * p0)).bind fun x12 =>
(zloop (fX5_byRegular_L97 p0 a2 t11 t6) n (a2.1, x12)).bind fun t15 =>
(some (a2.2 + (1 : Int32))).bind fun x16 =>
some (.inl (t15, x16)))
def fX5_byRegular (n : Nat) (st : zMS) (p0 : Int32) : Option zMS :=
(zal st 17 p0).bind fun x1 =>
zloop (fX5_byRegular_L9 n p0 x1) n (st, (0 : Int32))
def fX5_byElement_L139 (p0 : Int32) (t3 : Int32) (t4 : Int32) (t7 : zMS × Int32) (x2 : Int32) (a9 : zMS × Int32) : Option ((zMS × Int32) ⊕ (zMS)) :=
if x2 ≤ a9.2 then (some (.inr a9.1)) else ((if (t7.2 &&& (((1 : Int32) <<< (a9.2 &&& 31)) ^^^ (-1 : Int32))) = 0 then (some (0 : Int32)) else (some (1 : Int32))).bind fun t11 =>
(fX5_domainAt a9.1 p0 (a9.2 + (2 : Int32))).bind fun t12 =>
(if t11 = 0 then ((fX5_hasBit t4 a9.2).bind fun t16 =>
if t16 = 0 then (some (0 : Int32)) else (some (t12 &&& t3))) else (some t12)).bind fun t13 =>
(zas a9.1 41 ((((8 : Int32) * p0) + a9.2) + (2 : Int32)) t13).bind fun st14 =>
(some (a9.2 + (1 : Int32))).bind fun x15 =>
some (.inl (st14, x15)))
def fX5_byElement_L30 (p0 : Int32) (t3 : Int32) (t4 : Int32) (x2 : Int32) (a5 : zMS × Int32 × Int32) : Option ((zMS × Int32 × Int32) ⊕ (zMS × Int32)) :=
if x2 ≤ a5.2.2 then (some (.inr (a5.1, a5.2.1))) else ((fX5_hasBit t4 a5.2.2).bind fun t21 =>
(zesc (if t21 = 0 then (some (.inl ())) else ((fX5_domainAt a5.1 p0 (a5.2.2 + (2 : Int32))).bind fun t34 =>
if (t3 &&& t34) = 0 then (some (.inl ())) else (some (.inr (1 : Int32))))) fun t32 =>
some (0 : Int32)).bind fun t22 =>
(if t22 = 0 then (some (0 : Int32)) else (some ((1 : Int32) <<< (a5.2.2 &&& 31)))).bind fun t23 =>
(some (a5.2.1 ||| t23)).bind fun x24 =>
(zal a5.1 41 ((8 : Int32) * p0)).bind fun x25 =>
(if t22 = 0 then (some (0 : Int32)) else ((fX5_domainAt a5.1 p0 (a5.2.2 + (2 : Int32))).bind fun t29 =>
some (t3 &&& t29))).bind fun t26 =>
(zas a5.1 41 ((8 : Int32) * p0) (x25 ||| t26)).bind fun st27 =>
(some (a5.2.2 + (1 : Int32))).bind fun x28 =>
some (.inl (st27, x24, x28)))
def fX5_byElement (n : Nat) (st : zMS) (p0 : Int32) : Option zMS :=
(zal st 17 p0).bind fun x1 =>
(some (x1 - (2 : Int32))).bind fun x2 =>
(fX5_domainAt st p0 (0 : Int32)).bind fun t3 =>
(fX5_domainAt st p0 (1 : Int32)).bind fun t4 =>
(zloop (fX5_byElement_L30 p0 t3 t4 x2) n (st, (0 : Int32), (0 : Int32))).bind fun t7 =>
(zas t7.1 41 (((8 : Int32) * p0) + (1 : Int32)) t7.2).bind fun st8 =>
zloop (fX5_byElement_L139 p0 t3 t4 t7 x2) n (st8, (0 : Int32))
def fX5_canHold (st : zMS) (p0 : Int32) (p1 : Int32) : Option Int32 :=
(fX5_domainAt st p0 p1).bind fun t1 =>
(zal st 19 (((6 : Int32) * p0) + p1)).bind fun x2 =>
(some ((1 : Int32) <<< (x2 &&& 31))).bind fun x3 =>
(zal st 23 (((6 : Int32) * p0) + p1)).bind fun x4 =>
if x4 = 0 then (if (t1 &&& (x3 ^^^ (-1 : Int32))) = 0 then (some (0 : Int32)) else (some (1 : Int32))) else (if (t1 &&& x3) = 0 then (some (0 : Int32)) else (some (1 : Int32)))
def fX5_byClause_L17 (p0 : Int32) (a1 : zMS × Int32) (a4 : Int32 × Int32) : Option ((Int32 × Int32) ⊕ (Int32)) :=
(zal a1.1 17 p0).bind fun x16 =>
if x16 ≤ a4.2 then (some (.inr a4.1)) else ((zesc (if a4.2 = a1.2 then (some (.inl ())) else ((fX5_canHold a1.1 p0 a4.2).bind fun t22 =>
if t22 = 0 then (some (.inl ())) else (some (.inr (1 : Int32))))) fun t20 =>
some (0 : Int32)).bind fun t17 =>
(some (a4.1 ||| t17)).bind fun x18 =>
(some (a4.2 + (1 : Int32))).bind fun x19 =>
some (.inl (x18, x19)))
def fX5_byClause_L2 (n : Nat) (p0 : Int32) (a1 : zMS × Int32) : Option ((zMS × Int32) ⊕ (zMS)) :=
(zal a1.1 17 p0).bind fun x3 =>
if x3 ≤ a1.2 then (some (.inr a1.1)) else ((zloop (fX5_byClause_L17 p0 a1) n ((0 : Int32), (0 : Int32))).bind fun t6 =>
(zal a1.1 19 (((6 : Int32) * p0) + a1.2)).bind fun x7 =>
(some ((1 : Int32) <<< (x7 &&& 31))).bind fun x8 =>
(fX5_domainAt a1.1 p0 a1.2).bind fun t9 =>
(if t6 = 0 then ((zal a1.1 23 (((6 : Int32) * p0) + a1.2)).bind fun x13 =>
if x13 = 0 then (some (x8 ^^^ (-1 : Int32))) else (some x8)) else (some (-1 : Int32))).bind fun t10 =>
(zas a1.1 41 (((8 : Int32) * p0) + a1.2) (t9 &&& t10)).bind fun st11 =>
(some (a1.2 + (1 : Int32))).bind fun x12 =>
some (.inl (st11, x12)))
def fX5_byClause (n : Nat) (st : zMS) (p0 : Int32) : Option zMS :=
zloop (fX5_byClause_L2 n p0) n (st, (0 : Int32))
def fX5_find_L2 (st : zMS) (a1 : Int32) : Option ((Int32) ⊕ (Int32)) :=
(zal st 65 a1).bind fun x3 =>
if x3 = a1 then (some (.inr a1)) else ((zal st 65 a1).bind fun x4 =>
some (.inl x4))
def fX5_find (n : Nat) (st : zMS) (p0 : Int32) : Option Int32 :=
zloop (fX5_find_L2 st) n p0
def fX5_lengthOf (p0 : Int32) : Option Int32 :=
if p0 = 0 then (some (0 : Int32)) else (if (3 : Int32) ≤ p0 then (if (7 : Int32) ≤ p0 then (some (3 : Int32)) else (some (2 : Int32))) else (some (1 : Int32)))
def fX5_bitsOf (p0 : Int32) : Option Int32 :=
(fX5_lengthOf p0).bind fun t1 =>
some ((p0 + (1 : Int32)) - ((1 : Int32) <<< (t1 &&& 31)))
def fX5_begins (p0 : Int32) (p1 : Int32) : Option Int32 :=
(fX5_lengthOf p1).bind fun t1 =>
(fX5_lengthOf p0).bind fun t2 =>
(some (t1 - t2)).bind fun x3 =>
if x3 < 0 then (some (0 : Int32)) else ((fX5_bitsOf p1).bind fun t4 =>
(fX5_bitsOf p0).bind fun t5 =>
if (t4 >>> (x3 &&& 31)) = t5 then (some (1 : Int32)) else (some (0 : Int32)))
def fX5_paired_L10 (p0 : Int32) (a1 : zMS × Int32) (a3 : zMS × Int32) : Option ((zMS × Int32) ⊕ (zMS)) :=
if (32 : Int32) ≤ a3.2 then (some (.inr a3.1)) else ((fX5_domainAt a3.1 p0 (0 : Int32)).bind fun t7 =>
(fX5_hasBit t7 a1.2).bind fun t8 =>
if t8 = 0 then (some (.inr a3.1)) else ((fX5_domainAt a3.1 p0 (1 : Int32)).bind fun t9 =>
(fX5_hasBit t9 a3.2).bind fun t10 =>
(zesc (if t10 = 0 then (some (.inl ())) else ((zal a3.1 16 p0).bind fun x19 =>
zesc (if x19 = (11 : Int32) then (if (a1.2 &&& (a3.2 ^^^ (-1 : Int32))) = 0 then (some (.inl ())) else (some (.inr (.inl ())))) else ((fX5_begins a1.2 a3.2).bind fun t22 =>
if t22 = 0 then (some (.inr (.inl ()))) else (some (.inl ())))) fun t20 =>
some (.inr (1 : Int32)))) fun t17 =>
some (0 : Int32)).bind fun t11 =>
(if t11 = 0 then (some a3.1) else ((fX5_supports a3.1 p0 (0 : Int32) a1.2).bind fun t14 =>
(fX5_supports t14 p0 (1 : Int32) a3.2).bind fun t15 =>
some t15)).bind fun t12 =>
(some (a3.2 + (1 : Int32))).bind fun x13 =>
some (.inl (t12, x13))))
def fX5_paired_L2 (n : Nat) (p0 : Int32) (a1 : zMS × Int32) : Option ((zMS × Int32) ⊕ (zMS)) :=
if (32 : Int32) ≤ a1.2 then (some (.inr a1.1)) else ((zloop (fX5_paired_L10 p0 a1) n (a1.1, (0 : Int32))).bind fun t5 =>
(some (a1.2 + (1 : Int32))).bind fun x6 =>
some (.inl (t5, x6)))
def fX5_paired (n : Nat) (st : zMS) (p0 : Int32) : Option zMS :=
zloop (fX5_paired_L2 n p0) n (st, (0 : Int32))
def fX5_wordOf (p0 : Int32) (p1 : Int32) : Option Int32 :=
if p0 ≤ (3 : Int32) then (some ((p1 + ((1 : Int32) <<< (p0 &&& 31))) - (1 : Int32))) else (some (-1 : Int32))
def fX5_joinedWord (p0 : Int32) (p1 : Int32) : Option Int32 :=
(fX5_lengthOf p0).bind fun t1 =>
(fX5_lengthOf p1).bind fun t2 =>
(some (t1 + t2)).bind fun x3 =>
(fX5_bitsOf p0).bind fun t4 =>
(fX5_lengthOf p1).bind fun t5 =>
(fX5_bitsOf p1).bind fun t6 =>
(fX5_wordOf x3 ((t4 <<< (t5 &&& 31)) ||| t6)).bind fun t7 =>
some t7
def fX5_letterOf (p0 : Int32) (p1 : Int32) : Option Int32 :=
(fX5_lengthOf p0).bind fun t1 =>
if t1 ≤ p1 then (some (-1 : Int32)) else ((fX5_bitsOf p0).bind fun t2 =>
(fX5_lengthOf p0).bind fun t3 =>
some ((t2 >>> (((t3 - (1 : Int32)) - p1) &&& 31)) &&& (1 : Int32)))
def fX5_first (n : Nat) (p0 : Int32) (p1 : Int32) (p2 : Int32) : Option Int32 :=
if p0 = (7 : Int32) then (if p2 ≤ p1 then (some (0 : Int32)) else (some (1 : Int32))) else (if p0 = (8 : Int32) then (if p1 = p2 then (some (1 : Int32)) else (some (0 : Int32))) else (if p0 = (9 : Int32) then (some (p1 ||| p2)) else (if p0 = (10 : Int32) then (some (p1 &&& p2)) else (if p0 = (12 : Int32) then ((fX5_count n p1).bind fun t4 =>
some t4) else (if p0 = (13 : Int32) then ((fX5_lengthOf p1).bind fun t5 =>
some t5) else (if p0 = (14 : Int32) then ((fX5_hasBit p2 p1).bind fun t6 =>
if t6 = 0 then (some (0 : Int32)) else (some (1 : Int32))) else (if p0 = (15 : Int32) then ((fX5_joinedWord p1 p2).bind fun t8 =>
some t8) else ((fX5_letterOf p1 p2).bind fun t9 =>
some t9))))))))
def fX5_functional_L27 (n : Nat) (p0 : Int32) (a3 : zMS × Int32) (t2 : Int32) (a5 : zMS × Int32) : Option ((zMS × Int32) ⊕ (zMS)) :=
(if t2 = 0 then (some (1 : Int32)) else (some (32 : Int32))).bind fun t9 =>
if t9 ≤ a5.2 then (some (.inr a5.1)) else ((fX5_domainAt a5.1 p0 (1 : Int32)).bind fun t10 =>
(fX5_hasBit t10 a3.2).bind fun t11 =>
if t11 = 0 then (some (.inr a5.1)) else ((zesc (if t2 = 0 then (some (.inl ())) else ((fX5_domainAt a5.1 p0 (2 : Int32)).bind fun t27 =>
(fX5_hasBit t27 a5.2).bind fun t28 =>
if t28 = 0 then (some (.inr a5.1)) else (some (.inl ())))) fun t14 =>
(zal a5.1 16 p0).bind fun x15 =>
(fX5_first n x15 a3.2 a5.2).bind fun t16 =>
(fX5_domainAt a5.1 p0 (0 : Int32)).bind fun t17 =>
(fX5_hasBit t17 t16).bind fun t18 =>
if t18 = 0 then (some a5.1) else ((fX5_supports a5.1 p0 (0 : Int32) t16).bind fun t19 =>
(fX5_supports t19 p0 (1 : Int32) a3.2).bind fun t20 =>
(zal t20 41 (((8 : Int32) * p0) + (2 : Int32))).bind fun x21 =>
(if t2 = 0 then (some (0 : Int32)) else (some ((1 : Int32) <<< (a5.2 &&& 31)))).bind fun t22 =>
(zas t20 41 (((8 : Int32) * p0) + (2 : Int32)) (x21 ||| t22)).bind fun st23 =>
some st23)).bind fun t12 =>
(some (a5.2 + (1 : Int32))).bind fun x13 =>
some (.inl (t12, x13))))
def fX5_functional_L18 (n : Nat) (p0 : Int32) (t2 : Int32) (a3 : zMS × Int32) : Option ((zMS × Int32) ⊕ (zMS)) :=
if (32 : Int32) ≤ a3.2 then (some (.inr a3.1)) else ((zloop (fX5_functional_L27 n p0 a3 t2) n (a3.1, (0 : Int32))).bind fun t7 =>
(some (a3.2 + (1 : Int32))).bind fun x8 =>
some (.inl (t7, x8)))
def fX5_functional (n : Nat) (st : zMS) (p0 : Int32) : Option zMS :=
(zal st 17 p0).bind fun x1 =>
(if x1 = (3 : Int32) then (some (1 : Int32)) else (some (0 : Int32))).bind fun t2 =>
zloop (fX5_functional_L18 n p0 t2) n (st, (0 : Int32))
def fX5_supportsAll_L2 (p0 : Int32) (a1 : zMS × Int32) : Option ((zMS × Int32) ⊕ (zMS)) :=
if (8 : Int32) ≤ a1.2 then (some (.inr a1.1)) else ((zas a1.1 41 (((8 : Int32) * p0) + a1.2) (0 : Int32)).bind fun st22 =>
(some (a1.2 + (1 : Int32))).bind fun x23 =>
some (.inl (st22, x23)))
def fX5_supportsAll (n : Nat) (st : zMS) (p0 : Int32) : Option zMS :=
(zloop (fX5_supportsAll_L2 p0) n (st, (0 : Int32))).bind fun t3 =>
(zal t3 16 p0).bind fun x4 =>
if x4 = (0 : Int32) then ((fX5_byLinear n t3 p0).bind fun t6 =>
some t6) else (if x4 = (1 : Int32) then ((fX5_byDifferent n t3 p0).bind fun t7 =>
some t7) else (if x4 = (2 : Int32) then ((fX5_ordered n t3 p0).bind fun t8 =>
some t8) else (if x4 = (3 : Int32) then ((fX5_byRegular n t3 p0).bind fun t9 =>
some t9) else (if x4 = (4 : Int32) then ((fX5_byElement n t3 p0).bind fun t10 =>
some t10) else (if x4 = (5 : Int32) then ((fX5_byClause n t3 p0).bind fun t11 =>
some t11) else (if x4 = (6 : Int32) then ((zal t3 20 p0).bind fun x12 =>
(fX5_find n t3 x12).bind fun t13 =>
(zal t3 66 t13).bind fun x14 =>
(if x14 = 0 then (some (-1 : Int32)) else ((zal t3 66 t13).bind fun x17 =>
some ((1 : Int32) <<< ((x17 - (1 : Int32)) &&& 31)))).bind fun t15 =>
(zas t3 41 ((8 : Int32) * p0) t15).bind fun st16 =>
some st16) else (if x4 = (11 : Int32) then ((fX5_paired n t3 p0).bind fun t19 =>
some t19) else (if x4 = (16 : Int32) then ((fX5_paired n t3 p0).bind fun t20 =>
some t20) else ((fX5_functional n t3 p0).bind fun t21 =>
some t21)))))))))
def fX5_against_L13 (st : zMS) (p0 : Int32) (p1 : Int32) (a1 : Int32) (a3 : Int32) : Option ((Int32) ⊕ ((Unit) ⊕ (((Int32) ⊕ (Int32))))) :=
(zal st 17 a1).bind fun x8 =>
if x8 ≤ a3 then (some (.inr (.inl ()))) else ((zal st 18 (((8 : Int32) * a1) + a3)).bind fun x9 =>
zesc (if x9 = p0 then ((zal st 41 (((8 : Int32) * a1) + a3)).bind fun x13 =>
if (((x13.toUInt32 >>> (p1.toUInt32 &&& Int32.toUInt32 31)).toInt32) &&& (1 : Int32)) = 0 then (some (.inr (.inr (.inr (.inr a1))))) else (some (.inl ()))) else (some (.inl ()))) fun t10 =>
(some (a3 + (1 : Int32))).bind fun x11 =>
some (.inl x11))
def fX5_against_L2 (n : Nat) (st : zMS) (p0 : Int32) (p1 : Int32) (a1 : Int32) : Option ((Int32) ⊕ (Int32)) :=
if (st.1 15) ≤ a1 then (some (.inr (-1 : Int32))) else (zesc (zloop (fX5_against_L13 st p0 p1 a1) n (0 : Int32)) fun t5 =>
(some (a1 + (1 : Int32))).bind fun x6 =>
some (.inl x6))
def fX5_against (n : Nat) (st : zMS) (p0 : Int32) (p1 : Int32) : Option Int32 :=
zloop (fX5_against_L2 n st p0 p1) n (0 : Int32)
def fX5_removes (st : zMS) (p0 : Int32) (p1 : Int32) (p2 : Int32) : Option zMS :=
(zal st 42 p0).bind fun x1 =>
(zas st 42 p0 (x1 &&& (((1 : Int32) <<< (p1 &&& 31)) ^^^ (-1 : Int32)))).bind fun st2 =>
(zas st2 40 ((4 : Int32) * (st2.1 39)) ((st2.1 38) + (1 : Int32))).bind fun st3 =>
(zas st3 40 (((4 : Int32) * (st3.1 39)) + (1 : Int32)) p0).bind fun st4 =>
(zas st4 40 (((4 : Int32) * (st4.1 39)) + (2 : Int32)) p1).bind fun st5 =>
(zas st5 40 (((4 : Int32) * (st5.1 39)) + (3 : Int32)) p2).bind fun st6 =>
(some (zps st6 39 ((st6.1 39) + (1 : Int32)))).bind fun st7 =>
some st7
def fX5_ratioAgrees_L17 (n : Nat) (st : zMS) (p0 : Int32) (p1 : Int32) (a1 : Int32 × Int32) (a4 : Int32 × Int32) : Option ((Int32 × Int32) ⊕ (Int32)) :=
(zal st 17 a1.2).bind fun x8 =>
if x8 ≤ a4.2 then (some (.inr a4.1)) else ((zal st 16 a1.2).bind fun x9 =>
(zesc (if x9 = 0 then ((zal st 18 (((8 : Int32) * a1.2) + a4.2)).bind fun x15 =>
if x15 = p0 then ((fX5_linearAgrees n st a1.2 a4.2 p1).bind fun t16 =>
if t16 = 0 then (some (.inr (0 : Int32))) else (some (.inl ()))) else (some (.inl ()))) else (some (.inl ()))) fun t13 =>
some (1 : Int32)).bind fun t10 =>
(some (a4.1 &&& t10)).bind fun x11 =>
(some (a4.2 + (1 : Int32))).bind fun x12 =>
some (.inl (x11, x12)))
def fX5_ratioAgrees_L5 (n : Nat) (st : zMS) (p0 : Int32) (p1 : Int32) (a1 : Int32 × Int32) : Option ((Int32 × Int32) ⊕ (Int32)) :=
if (st.1 15) ≤ a1.2 then ((zq a1.1).bind fun x3 =>
some (.inr x3)) else ((zloop (fX5_ratioAgrees_L17 n st p0 p1 a1) n (a1.1, (0 : Int32))).bind fun t6 =>
(some (a1.2 + (1 : Int32))).bind fun x7 =>
some (.inl (t6, x7)))
def fX5_ratioAgrees (n : Nat) (st : zMS) (p0 : Int32) (p1 : Int32) : Option Int32 :=
zloop (fX5_ratioAgrees_L5 n st p0 p1) n ((1 : Int32), (0 : Int32))
def fX5_round_L243  (a7 : zMS × Int32 × Int32) : Option ((zMS × Int32 × Int32) ⊕ (zMS × Int32)) :=
if (a7.1.1 0) ≤ a7.2.2 then ((zq a7.2.1).bind fun x9 =>
some (.inr (a7.1, x9))) else ((zal a7.1 42 a7.2.2).bind fun x10 =>
(zal a7.1 34 a7.2.2).bind fun x11 =>
(zesc (if x10 = x11 then ((zal a7.1 43 a7.2.2).bind fun x23 =>
(zal a7.1 35 a7.2.2).bind fun x24 =>
if x23 = x24 then ((zal a7.1 44 a7.2.2).bind fun x25 =>
(zal a7.1 36 a7.2.2).bind fun x26 =>
if x25 = x26 then (some (.inr (0 : Int32))) else (some (.inl ()))) else (some (.inl ()))) else (some (.inl ()))) fun t21 =>
some (1 : Int32)).bind fun t12 =>
(some (a7.2.1 ||| t12)).bind fun x13 =>
(zal a7.1 42 a7.2.2).bind fun x14 =>
(zas a7.1 34 a7.2.2 x14).bind fun st15 =>
(zal st15 43 a7.2.2).bind fun x16 =>
(zas st15 35 a7.2.2 x16).bind fun st17 =>
(zal st17 44 a7.2.2).bind fun x18 =>
(zas st17 36 a7.2.2 x18).bind fun st19 =>
(some (a7.2.2 + (1 : Int32))).bind fun x20 =>
some (.inl (st19, x13, x20)))
def fX5_round_L183 (n : Nat) (a4 : zMS × Int32) (a43 : zMS) : Option ((zMS) ⊕ (zMS)) :=
(zal a43 1 a4.2).bind fun x47 =>
if x47 = (3 : Int32) then ((zal a43 43 a4.2).bind fun x48 =>
(zal a43 44 a4.2).bind fun x49 =>
if x49 < x48 then (some (.inr a43)) else ((zal a43 44 a4.2).bind fun x50 =>
(fX5_ratioAgrees n a43 a4.2 x50).bind fun t51 =>
if t51 = 0 then ((zal a43 44 a4.2).bind fun x52 =>
(zas a43 44 a4.2 (x52 - (1 : Int32))).bind fun st53 =>
some (.inl st53)) else (some (.inr a43)))) else (some (.inr a43))
def fX5_round_L131 (n : Nat) (a4 : zMS × Int32) (a40 : zMS) : Option ((zMS) ⊕ (zMS)) :=
(zal a40 1 a4.2).bind fun x57 =>
if x57 = (3 : Int32) then ((zal a40 43 a4.2).bind fun x58 =>
(zal a40 44 a4.2).bind fun x59 =>
if x59 < x58 then (some (.inr a40)) else ((zal a40 43 a4.2).bind fun x60 =>
(fX5_ratioAgrees n a40 a4.2 x60).bind fun t61 =>
if t61 = 0 then ((zal a40 43 a4.2).bind fun x62 =>
(zas a40 43 a4.2 (x62 + (1 : Int32))).bind fun st63 =>
some (.inl st63)) else (some (.inr a40)))) else (some (.inr a40))
def fX5_round_L71 (n : Nat) (a4 : zMS × Int32) (a37 : zMS × Int32) : Option ((zMS × Int32) ⊕ (zMS)) :=
if (32 : Int32) ≤ a37.2 then (some (.inr a37.1)) else ((zal a37.1 1 a4.2).bind fun x67 =>
if x67 = (3 : Int32) then (some (.inr a37.1)) else ((zal a37.1 34 a4.2).bind fun x68 =>
(fX5_hasBit x68 a37.2).bind fun t69 =>
(if t69 = 0 then (some (-1 : Int32)) else ((fX5_against n a37.1 a4.2 a37.2).bind fun t75 =>
some t75)).bind fun t70 =>
(if t70 < 0 then (some a37.1) else ((fX5_removes a37.1 a4.2 a37.2 t70).bind fun t73 =>
some t73)).bind fun t71 =>
(some (a37.2 + (1 : Int32))).bind fun x72 =>
some (.inl (t71, x72))))
def fX5_round_L25 (n : Nat) (a4 : zMS × Int32) : Option ((zMS × Int32) ⊕ (zMS)) :=
if (a4.1.1 0) ≤ a4.2 then (some (.inr a4.1)) else ((zal a4.1 34 a4.2).bind fun x31 =>
(zas a4.1 42 a4.2 x31).bind fun st32 =>
(zal st32 35 a4.2).bind fun x33 =>
(zas st32 43 a4.2 x33).bind fun st34 =>
(zal st34 36 a4.2).bind fun x35 =>
(zas st34 44 a4.2 x35).bind fun st36 =>
(zloop (fX5_round_L71 n a4) n (st36, (0 : Int32))).bind fun t39 =>
(zloop (fX5_round_L131 n a4) n t39).bind fun t42 =>
(zloop (fX5_round_L183 n a4) n t42).bind fun t45 =>
(some (a4.2 + (1 : Int32))).bind fun x46 =>
some (.inl (t45, x46)))
def fX5_round_L4 (n : Nat) (a1 : zMS × Int32) : Option ((zMS × Int32) ⊕ (zMS)) :=
if (a1.1.1 15) ≤ a1.2 then (some (.inr a1.1)) else ((fX5_supportsAll n a1.1 a1.2).bind fun t80 =>
(some (a1.2 + (1 : Int32))).bind fun x81 =>
some (.inl (t80, x81)))
def fX5_round (n : Nat) (st : zMS) : Option (zMS × Int32) :=
(zloop (fX5_round_L4 n) n (st, (0 : Int32))).bind fun t3 =>
(zloop (fX5_round_L25 n) n (t3, (0 : Int32))).bind fun t6 =>
zloop (fX5_round_L243) n (t6, (0 : Int32), (0 : Int32))
def fX5_finds_L166 (n : Nat) (a13 : zMS × Int32) : Option ((zMS × Int32) ⊕ (zMS)) :=
if a13.2 = 0 then (some (.inr a13.1)) else ((fX5_round n a13.1).bind fun t15 =>
(if t15.2 = 0 then (some (0 : Int32)) else (some (1 : Int32))).bind fun t16 =>
(some (zps t15.1 38 ((t15.1.1 38) + t16))).bind fun st17 =>
(fX5_looksForFailure n st17).bind fun t18 =>
(if (t18.1 37) = 0 then (some (1 : Int32)) else (some (0 : Int32))).bind fun t19 =>
(some (t15.2 &&& t19)).bind fun x20 =>
some (.inl (t18, x20)))
def fX5_finds_L54  (a4 : zMS × Int32) : Option ((zMS × Int32) ⊕ (zMS)) :=
if (a4.1.1 28) ≤ a4.2 then (some (.inr a4.1)) else ((zal a4.1 30 a4.2).bind fun x28 =>
(some ((1 : Int32) <<< (x28 &&& 31))).bind fun x29 =>
(zal a4.1 29 a4.2).bind fun x30 =>
(zal a4.1 34 x30).bind fun x31 =>
(zal a4.1 31 a4.2).bind fun x32 =>
(if x32 = 0 then (some (x29 ^^^ (-1 : Int32))) else (some x29)).bind fun t33 =>
(zas a4.1 34 x30 (x31 &&& t33)).bind fun st34 =>
(some (a4.2 + (1 : Int32))).bind fun x35 =>
some (.inl (st34, x35)))
def fX5_finds_L2  (a1 : zMS × Int32) : Option ((zMS × Int32) ⊕ (zMS)) :=
if (a1.1.1 0) ≤ a1.2 then (some (.inr a1.1)) else ((zal a1.1 2 a1.2).bind fun x38 =>
(zas a1.1 34 a1.2 x38).bind fun st39 =>
(zal st39 3 a1.2).bind fun x40 =>
(zas st39 35 a1.2 x40).bind fun st41 =>
(zal st41 4 a1.2).bind fun x42 =>
(zas st41 36 a1.2 x42).bind fun st43 =>
(some (a1.2 + (1 : Int32))).bind fun x44 =>
some (.inl (st43, x44)))
def fX5_finds (n : Nat) (st : zMS) : Option zMS :=
(zloop (fX5_finds_L2) n (st, (0 : Int32))).bind fun t3 =>
(zloop (fX5_finds_L54) n (t3, (0 : Int32))).bind fun t6 =>
(if (t6.1 32) < 0 then (some t6) else ((zal t6 34 (t6.1 32)).bind fun x25 =>
(zas t6 34 (t6.1 32) (x25 &&& (((1 : Int32) <<< ((t6.1 33) &&& 31)) - (1 : Int32)))).bind fun st26 =>
some st26)).bind fun t7 =>
(some (zps t7 38 (0 : Int32))).bind fun st8 =>
(some (zps st8 39 (0 : Int32))).bind fun st9 =>
(zpsZ st9 37 (0 : Int32)).bind fun st10 =>
(fX5_looksForFailure n st10).bind fun t11 =>
(if (t11.1 37) = 0 then (some (1 : Int32)) else (some (0 : Int32))).bind fun t12 =>
zloop (fX5_finds_L166 n) n (t11, t12)
def fX5_now (n : Nat) (st : zMS) : Option zMS :=
(some (zps st 32 (-1 : Int32))).bind fun st1 =>
(fX5_takesDecisions n st1 (4095 : Int32)).bind fun t2 =>
(fX5_finds n t2).bind fun t3 =>
some t3
def fX5_isFailed (n : Nat) (st : zMS) : Option (zMS × Int32) :=
(some (zps st 68 (0 : Int32))).bind fun st1 =>
(fX5_now n st1).bind fun t2 =>
(zq (t2.1 37)).bind fun x3 =>
some (t2, x3)
def fX5_asks (n : Nat) (st : zMS) (p0 : Int32) : Option (zMS × Int32) :=
(fX5_isVariable st p0).bind fun t1 =>
(if t1 = 0 then (some (1 : Int32)) else (some (0 : Int32))).bind fun t2 =>
(some (zps st 68 t2)).bind fun st3 =>
(if (st3.1 68) = 0 then ((fX5_now n st3).bind fun t6 =>
some t6) else (some st3)).bind fun t4 =>
if (t4.1 68) = 0 then (some (t4, (1 : Int32))) else (some (t4, (0 : Int32)))
def fX5_domain (n : Nat) (st : zMS) (p0 : Int32) : Option (zMS × Int32) :=
(fX5_asks n st p0).bind fun t1 =>
if t1.2 = 0 then (some (t1.1, (0 : Int32))) else ((zal t1.1 1 p0).bind fun x2 =>
if x2 = (3 : Int32) then ((fX5_isEmpty t1.1 p0).bind fun t4 =>
if t4 = 0 then ((zal t1.1 36 p0).bind fun x5 =>
(zal t1.1 35 p0).bind fun x6 =>
some (t1.1, (x5 - x6) + (1 : Int32))) else (some (t1.1, (0 : Int32)))) else ((zal t1.1 34 p0).bind fun x3 =>
some (t1.1, x3)))
def fX5_bound (n : Nat) (st : zMS) (p0 : Int32) (p1 : Int32) : Option (zMS × Int32) :=
(fX5_asks n st p0).bind fun t1 =>
if t1.2 = 0 then (some (t1.1, (0 : Int32))) else ((fX5_isEmpty t1.1 p0).bind fun t2 =>
if t2 = 0 then ((fX5_end n t1.1 p0 p1).bind fun t3 =>
some (t1.1, t3)) else (some (t1.1, (-1000 : Int32))))
def fX5_rounds (n : Nat) (st : zMS) : Option (zMS × Int32) :=
(some (zps st 68 (0 : Int32))).bind fun st1 =>
(fX5_now n st1).bind fun t2 =>
some (t2, t2.1 38)
def fX5_removals (n : Nat) (st : zMS) : Option (zMS × Int32) :=
(some (zps st 68 (0 : Int32))).bind fun st1 =>
(fX5_now n st1).bind fun t2 =>
some (t2, t2.1 39)
def fX5_removal (n : Nat) (st : zMS) (p0 : Int32) (p1 : Int32) : Option (zMS × Int32) :=
(fX5_now n st).bind fun t1 =>
(fX5_isIn p0 (0 : Int32) ((t1.1 39) - (1 : Int32))).bind fun t2 =>
(if t2 = 0 then (some (1 : Int32)) else ((fX5_isIn p1 (0 : Int32) (3 : Int32)).bind fun t7 =>
if t7 = 0 then (some (2 : Int32)) else (some (0 : Int32)))).bind fun t3 =>
(some (zps t1 68 t3)).bind fun st4 =>
if (st4.1 68) ≤ 0 then ((zal st4 40 (((4 : Int32) * p0) + p1)).bind fun x5 =>
some (st4, x5)) else (some (st4, (0 : Int32)))
def fX5_reasonOf_L17 (n : Nat) (p0 : Int32) (p1 : Int32) (a3 : zMS × Int32 × Int32) : Option ((zMS × Int32 × Int32) ⊕ (zMS × Int32)) :=
if a3.2.2 < 0 then (some (.inr (a3.1, a3.2.1))) else ((fX5_takesDecisions n a3.1 (a3.2.1 &&& (((1 : Int32) <<< (a3.2.2 &&& 31)) ^^^ (-1 : Int32)))).bind fun t5 =>
(fX5_finds n t5).bind fun t6 =>
(zesc (if (t6.1 37) = 0 then (zesc (if p1 < 0 then (some (.inl ())) else ((zal t6 34 p0).bind fun x16 =>
(fX5_hasBit x16 p1).bind fun t17 =>
if t17 = 0 then (some (.inr (.inl ()))) else (some (.inl ())))) fun t14 =>
some (.inr (0 : Int32))) else (some (.inl ()))) fun t12 =>
some (1 : Int32)).bind fun t7 =>
(if t7 = 0 then (some (-1 : Int32)) else (some (((1 : Int32) <<< (a3.2.2 &&& 31)) ^^^ (-1 : Int32)))).bind fun t8 =>
(some (a3.2.1 &&& t8)).bind fun x9 =>
(some (a3.2.2 + (-1 : Int32))).bind fun x10 =>
some (.inl (t6, x9, x10)))
def fX5_reasonOf (n : Nat) (st : zMS) (p0 : Int32) (p1 : Int32) : Option (zMS × Int32) :=
(some (((1 : Int32) <<< ((st.1 24) &&& 31)) - (1 : Int32))).bind fun x1 =>
(some ((st.1 24) - (1 : Int32))).bind fun x2 =>
zloop (fX5_reasonOf_L17 n p0 p1) n (st, x1, x2)
def fX5_reason (n : Nat) (st : zMS) (p0 : Int32) (p1 : Int32) : Option (zMS × Int32) :=
(fX5_isVariable st p0).bind fun t1 =>
(if t1 = 0 then (some (1 : Int32)) else ((fX5_isValue st p0 p1).bind fun t13 =>
if t13 = 0 then (some (2 : Int32)) else (some (0 : Int32)))).bind fun t2 =>
(some (zps st 68 t2)).bind fun st3 =>
if (st3.1 68) ≤ 0 then ((fX5_now n st3).bind fun t4 =>
(zal t4 34 p0).bind fun x5 =>
(fX5_hasBit x5 p1).bind fun t6 =>
(if t6 = 0 then (some (0 : Int32)) else (some (3 : Int32))).bind fun t7 =>
(some (zps t4 68 t7)).bind fun st8 =>
if (st8.1 68) ≤ 0 then ((fX5_reasonOf n st8 p0 p1).bind fun t9 =>
some (t9.1, t9.2)) else (some (st8, (0 : Int32)))) else (some (st3, (0 : Int32)))
def fX5_failure (n : Nat) (st : zMS) : Option (zMS × Int32) :=
(fX5_now n st).bind fun t1 =>
(if (t1.1 37) = 0 then (some (1 : Int32)) else (some (0 : Int32))).bind fun t2 =>
(some (zps t1 68 t2)).bind fun st3 =>
if (st3.1 68) ≤ 0 then ((fX5_reasonOf n st3 (0 : Int32) (-1 : Int32)).bind fun t4 =>
some (t4.1, t4.2)) else (some (st3, (0 : Int32)))
def fX5_learn_L175 (x13 : Int32) (a14 : zMS) : Option ((zMS) ⊕ (zMS)) :=
if (a14.1 24) ≤ 0 then (some (.inr a14)) else (if ((x13 >>> (((a14.1 24) - (1 : Int32)) &&& 31)) &&& (1 : Int32)) = 0 then ((some (zps a14 24 ((a14.1 24) - (1 : Int32)))).bind fun st17 =>
some (.inl st17)) else (some (.inr a14)))
def fX5_learn_L64 (t2 : zMS × Int32) (a7 : zMS × Int32 × Int32) : Option ((zMS × Int32 × Int32) ⊕ (zMS × Int32)) :=
if (a7.1.1 24) ≤ a7.2.2 then (some (.inr (a7.1, a7.2.1))) else ((if ((t2.2 >>> (a7.2.2 &&& 31)) &&& (1 : Int32)) = (1 : Int32) then ((zal a7.1 25 a7.2.2).bind fun x22 =>
(fX5_places a7.1 a7.2.1 x22).bind fun t23 =>
(zal t23 26 a7.2.2).bind fun x24 =>
(zas t23 19 (((6 : Int32) * (t23.1 15)) + a7.2.1) x24).bind fun st25 =>
(zal st25 27 a7.2.2).bind fun x26 =>
(if x26 = 0 then (some (1 : Int32)) else (some (0 : Int32))).bind fun t27 =>
(zas st25 23 (((6 : Int32) * (st25.1 15)) + a7.2.1) (zb t27)).bind fun st28 =>
(some (a7.2.1 + (1 : Int32))).bind fun x29 =>
some (st28, x29)) else (some (a7.1, a7.2.1))).bind fun t20 =>
(some (a7.2.2 + (1 : Int32))).bind fun x21 =>
some (.inl (t20.1, t20.2, x21)))
def fX5_learn (n : Nat) (st : zMS) : Option (zMS × Int32) :=
(fX5_now n st).bind fun t1 =>
(if (t1.1 37) = 0 then (some (t1, (0 : Int32))) else ((fX5_reasonOf n t1 (0 : Int32) (-1 : Int32)).bind fun t39 =>
some (t39.1, t39.2))).bind fun t2 =>
(fX5_count n t2.2).bind fun t3 =>
(fX5_isIn t3 (1 : Int32) (6 : Int32)).bind fun t4 =>
(zesc (if t4 = 0 then (some (.inl ())) else ((fX5_hasRoom t2.1).bind fun t36 =>
if t36 = 0 then (some (.inl ())) else (some (.inr (0 : Int32))))) fun t34 =>
some (1 : Int32)).bind fun t5 =>
(some (zps t2.1 68 t5)).bind fun st6 =>
if (st6.1 68) ≤ 0 then ((zloop (fX5_learn_L64 t2) n (st6, (0 : Int32), (0 : Int32))).bind fun t9 =>
(fX5_adds t9.1 (5 : Int32) t9.2).bind fun t10 =>
(fX5_highest n t2.2).bind fun t11 =>
(some (zps t10.1 24 t11)).bind fun st12 =>
(some (t2.2 &&& (((1 : Int32) <<< ((st12.1 24) &&& 31)) ^^^ (-1 : Int32)))).bind fun x13 =>
(zloop (fX5_learn_L175 x13) n st12).bind fun t16 =>
some (t16, t16.1 24)) else (some (st6, (0 : Int32)))
def fX5_findsNode_L14  (a3 : zMS × Int32) : Option ((zMS × Int32) ⊕ (zMS)) :=
if (a3.1.1 51) ≤ a3.2 then (some (.inr a3.1)) else ((zal a3.1 52 a3.2).bind fun x7 =>
(zal a3.1 53 a3.2).bind fun x8 =>
(zal a3.1 54 a3.2).bind fun x9 =>
(fX5_takesOne a3.1 x7 x8 x9).bind fun t10 =>
(some (a3.2 + (1 : Int32))).bind fun x11 =>
some (.inl (t10, x11)))
def fX5_findsNode (n : Nat) (st : zMS) : Option zMS :=
(some (zps st 32 (-1 : Int32))).bind fun st1 =>
(fX5_takesDecisions n st1 (4095 : Int32)).bind fun t2 =>
(zloop (fX5_findsNode_L14) n (t2, (0 : Int32))).bind fun t5 =>
(fX5_finds n t5).bind fun t6 =>
some t6
def fX5_goesBack_L0  (a1 : zMS) : Option ((zMS) ⊕ (zMS)) :=
if (a1.1 51) ≤ 0 then (some (.inr a1)) else ((zal a1 54 ((a1.1 51) - (1 : Int32))).bind fun x8 =>
if x8 = 0 then ((some (zps a1 51 ((a1.1 51) - (1 : Int32)))).bind fun st9 =>
some (.inl st9)) else (some (.inr a1)))
def fX5_goesBack (n : Nat) (st : zMS) : Option (zMS × Int32) :=
(zloop (fX5_goesBack_L0) n st).bind fun t3 =>
(if (t3.1 51) ≤ 0 then (some t3) else ((zas t3 54 ((t3.1 51) - (1 : Int32)) (zb (0 : Int32))).bind fun st6 =>
some st6)).bind fun t4 =>
if (t4.1 51) ≤ 0 then (some (t4, (0 : Int32))) else (some (t4, (1 : Int32)))
def fX5_isFixed (n : Nat) (st : zMS) (p0 : Int32) : Option Int32 :=
(zal st 34 p0).bind fun x1 =>
(fX5_count n x1).bind fun t2 =>
if t2 = (1 : Int32) then (some (1 : Int32)) else (some (0 : Int32))
def fX5_isSolution_L15 (n : Nat) (st : zMS) (a2 : Int32 × Int32) : Option ((Int32 × Int32) ⊕ (Int32)) :=
if (st.1 0) ≤ a2.2 then ((zq a2.1).bind fun x4 =>
some (.inr x4)) else ((zal st 1 a2.2).bind fun x5 =>
(zesc (if x5 = (3 : Int32) then (some (.inl ())) else ((fX5_isFixed n st a2.2).bind fun t11 =>
if t11 = 0 then (some (.inr (0 : Int32))) else (some (.inl ())))) fun t9 =>
some (1 : Int32)).bind fun t6 =>
(some (a2.1 &&& t6)).bind fun x7 =>
(some (a2.2 + (1 : Int32))).bind fun x8 =>
some (.inl (x7, x8)))
def fX5_isSolution (n : Nat) (st : zMS) : Option Int32 :=
(if (st.1 37) = 0 then (some (1 : Int32)) else (some (0 : Int32))).bind fun t1 =>
zloop (fX5_isSolution_L15 n st) n (t1, (0 : Int32))
def fX5_keepsSolution_L10 (n : Nat) (a2 : zMS × Int32) : Option ((zMS × Int32) ⊕ (zMS)) :=
if (a2.1.1 0) ≤ a2.2 then (some (.inr a2.1)) else ((fX5_end n a2.1 a2.2 (0 : Int32)).bind fun t4 =>
(zas a2.1 50 a2.2 t4).bind fun st5 =>
(some (a2.2 + (1 : Int32))).bind fun x6 =>
some (.inl (st5, x6)))
def fX5_keepsSolution (n : Nat) (st : zMS) : Option zMS :=
(some (zps st 49 (st.1 0))).bind fun st1 =>
zloop (fX5_keepsSolution_L10 n) n (st1, (0 : Int32))
def fX5_chosen_L71 (n : Nat) (st : zMS) (p1 : Int32) (t4 : Int32) (a5 : Int32 × Int32) : Option ((Int32 × Int32) ⊕ (Int32)) :=
if (st.1 0) ≤ a5.2 then (some (.inr a5.1)) else ((zesc (if a5.1 < 0 then (some (.inl ())) else (zesc (if p1 = (1 : Int32) then ((zal st 34 a5.2).bind fun x19 =>
(fX5_count n x19).bind fun t20 =>
(zal st 34 a5.1).bind fun x21 =>
(fX5_count n x21).bind fun t22 =>
if t22 ≤ t20 then (some (.inl ())) else (some (.inr (.inl ())))) else (some (.inl ()))) fun t17 =>
some (.inr (0 : Int32)))) fun t15 =>
some (1 : Int32)).bind fun t7 =>
(fX5_hasBit t4 a5.2).bind fun t8 =>
(zesc (if t8 = 0 then (some (.inl ())) else (if t7 = 0 then (some (.inl ())) else (some (.inr a5.2)))) fun t11 =>
some a5.1).bind fun t9 =>
(some (a5.2 + (1 : Int32))).bind fun x10 =>
some (.inl (t9, x10)))
def fX5_chosen_L5 (n : Nat) (st : zMS) (a1 : Int32 × Int32) : Option ((Int32 × Int32) ⊕ (Int32)) :=
if (st.1 0) ≤ a1.2 then (some (.inr a1.1)) else ((zal st 1 a1.2).bind fun x28 =>
(zesc (if x28 = (3 : Int32) then (some (.inl ())) else ((fX5_isFixed n st a1.2).bind fun t34 =>
if t34 = 0 then (some (.inr ((1 : Int32) <<< (a1.2 &&& 31)))) else (some (.inl ())))) fun t32 =>
some (0 : Int32)).bind fun t29 =>
(some (a1.1 ||| t29)).bind fun x30 =>
(some (a1.2 + (1 : Int32))).bind fun x31 =>
some (.inl (x30, x31)))
def fX5_chosen (n : Nat) (st : zMS) (p0 : Int32) (p1 : Int32) : Option Int32 :=
(zloop (fX5_chosen_L5 n st) n ((0 : Int32), (0 : Int32))).bind fun t3 =>
(if (t3 &&& p0) = 0 then (some t3) else (some (t3 &&& p0))).bind fun t4 =>
zloop (fX5_chosen_L71 n st p1 t4) n ((-1 : Int32), (0 : Int32))
def fX5_valueBy (n : Nat) (st : zMS) (p0 : Int32) (p1 : Int32) : Option Int32 :=
zesc (if p1 = (2 : Int32) then ((zal st 45 p0).bind fun x8 =>
if x8 ≤ 0 then (some (.inl ())) else ((zal st 34 p0).bind fun x9 =>
(zal st 45 p0).bind fun x10 =>
(fX5_hasBit x9 (x10 - (1 : Int32))).bind fun t11 =>
if t11 = 0 then (some (.inl ())) else ((zal st 45 p0).bind fun x12 =>
some (.inr (x12 - (1 : Int32)))))) else (some (.inl ()))) fun t1 =>
if p1 = (1 : Int32) then ((zal st 34 p0).bind fun x4 =>
(fX5_highest n x4).bind fun t5 =>
some t5) else ((zal st 34 p0).bind fun x2 =>
(fX5_lowest n x2).bind fun t3 =>
some t3)
def fX5_goesDown (st : zMS) (p0 : Int32) (p1 : Int32) : Option zMS :=
(zas st 52 (st.1 51) p0).bind fun st1 =>
(zas st1 53 (st1.1 51) p1).bind fun st2 =>
(zas st2 54 (st2.1 51) (zb (1 : Int32))).bind fun st3 =>
(some (zps st3 51 ((st3.1 51) + (1 : Int32)))).bind fun st4 =>
some st4
def fX5_search_L111 (n : Nat) (p0 : Int32) (p1 : Int32) (p2 : Int32) (a9 : zMS × Int32 × Int32 × Int32) : Option ((zMS × Int32 × Int32 × Int32) ⊕ (zMS)) :=
if 0 ≤ (a9.1.1 48) then (some (.inr a9.1)) else (if (a9.1.1 46) = (400 : Int32) then ((some (zps a9.1 48 (2 : Int32))).bind fun st35 =>
some (.inl (st35, a9.2.1, a9.2.2.1, a9.2.2.2))) else ((some (zps a9.1 46 ((a9.1.1 46) + (1 : Int32)))).bind fun st12 =>
(fX5_findsNode n st12).bind fun t13 =>
if (t13.1 37) = 0 then ((fX5_isSolution n t13).bind fun t14 =>
if t14 = 0 then ((fX5_chosen n t13 p0 p1).bind fun t15 =>
(fX5_valueBy n t13 t15 p2).bind fun t16 =>
(zas t13 45 t15 (t16 + (1 : Int32))).bind fun st17 =>
(fX5_goesDown st17 t15 t16).bind fun t18 =>
some (.inl (t18, a9.2.1, a9.2.2.1, a9.2.2.2))) else ((some (zps t13 48 (0 : Int32))).bind fun st19 =>
(fX5_keepsSolution n st19).bind fun t20 =>
some (.inl (t20, a9.2.1, a9.2.2.1, a9.2.2.2)))) else ((some (zps t13 47 ((t13.1 47) + (1 : Int32)))).bind fun st22 =>
(some (a9.2.1 + (1 : Int32))).bind fun x23 =>
zesc (if x23 = a9.2.2.1 then (if a9.2.2.2 ≤ 0 then (some (.inl (st22, x23, a9.2.2.1, a9.2.2.2))) else ((some (a9.2.2.2 + (-1 : Int32))).bind fun x29 =>
(some (a9.2.2.1 * (2 : Int32))).bind fun x30 =>
(some (zps st22 51 (0 : Int32))).bind fun st31 =>
some (.inr (.inl (st31, (0 : Int32), x30, x29))))) else (some (.inl (st22, x23, a9.2.2.1, a9.2.2.2)))) fun t24 =>
(fX5_goesBack n t24.1).bind fun t25 =>
if t25.2 = 0 then ((some (zps t25.1 48 (1 : Int32))).bind fun st26 =>
some (.inl (st26, t24.2.1, t24.2.2.1, t24.2.2.2))) else (some (.inl (t25.1, t24.2.1, t24.2.2.1, t24.2.2.2))))))
def fX5_search (n : Nat) (st : zMS) (p0 : Int32) (p1 : Int32) (p2 : Int32) (p3 : Int32) (p4 : Int32) : Option (zMS × Int32) :=
(fX5_isIn p0 (0 : Int32) (1023 : Int32)).bind fun t1 =>
(zesc (if t1 = 0 then (some (.inl ())) else ((fX5_isIn p1 (0 : Int32) (1 : Int32)).bind fun t42 =>
if t42 = 0 then (some (.inl ())) else ((fX5_isIn p2 (0 : Int32) (2 : Int32)).bind fun t43 =>
if t43 = 0 then (some (.inl ())) else ((fX5_isIn p3 (1 : Int32) (100 : Int32)).bind fun t44 =>
if t44 = 0 then (some (.inl ())) else ((fX5_isIn p4 (0 : Int32) (5 : Int32)).bind fun t45 =>
if t45 = 0 then (some (.inl ())) else (some (.inr (1 : Int32)))))))) fun t40 =>
some (0 : Int32)).bind fun t2 =>
(if t2 = 0 then (some (1 : Int32)) else (some (0 : Int32))).bind fun t3 =>
(some (zps st 68 t3)).bind fun st4 =>
if (st4.1 68) ≤ 0 then ((some (zps st4 46 (0 : Int32))).bind fun st5 =>
(some (zps st5 47 (0 : Int32))).bind fun st6 =>
(some (zps st6 51 (0 : Int32))).bind fun st7 =>
(some (zps st7 48 (-1 : Int32))).bind fun st8 =>
(zloop (fX5_search_L111 n p0 p1 p2) n (st8, (0 : Int32), p3, p4)).bind fun t11 =>
some (t11, t11.1 48)) else (some (st4, (0 : Int32)))
def fX5_nodes (st : zMS) : Option (zMS × Int32) :=
(some (zps st 68 (0 : Int32))).bind fun st1 =>
some (st1, st1.1 46)
def fX5_failures (st : zMS) : Option (zMS × Int32) :=
(some (zps st 68 (0 : Int32))).bind fun st1 =>
some (st1, st1.1 47)
def fX5_solution (st : zMS) (p0 : Int32) : Option (zMS × Int32) :=
(fX5_isVariable st p0).bind fun t1 =>
(if t1 = 0 then (some (1 : Int32)) else (zesc (if (st.1 48) = 0 then (if p0 < (st.1 49) then (some (.inr (0 : Int32))) else (some (.inl ()))) else (some (.inl ()))) fun t6 =>
some (2 : Int32))).bind fun t2 =>
(some (zps st 68 t2)).bind fun st3 =>
if (st3.1 68) ≤ 0 then ((zal st3 50 p0).bind fun x4 =>
some (st3, x4)) else (some (st3, (0 : Int32)))
def fX5_solutions_L11 (n : Nat) (a2 : zMS × Int32 × Int32 × Int32) : Option ((zMS × Int32 × Int32 × Int32) ⊕ (zMS × Int32 × Int32)) :=
if a2.2.2.2 = 0 then (some (.inr (a2.1, a2.2.1, a2.2.2.1))) else (if (400 : Int32) < a2.2.2.1 then (some (.inr (a2.1, a2.2.1, a2.2.2.1))) else ((some (a2.2.2.1 + (1 : Int32))).bind fun x9 =>
if (400 : Int32) < x9 then (some (.inl (a2.1, a2.2.1, x9, a2.2.2.2))) else ((fX5_findsNode n a2.1).bind fun t10 =>
zesc (if (t10.1 37) = 0 then ((fX5_isSolution n t10).bind fun t17 =>
if t17 = 0 then ((fX5_chosen n t10 (0 : Int32) (0 : Int32)).bind fun t18 =>
(zal t10 34 t18).bind fun x19 =>
(fX5_lowest n x19).bind fun t20 =>
(fX5_goesDown t10 t18 t20).bind fun t21 =>
some (.inr (.inl (t21, a2.2.1, x9, a2.2.2.2)))) else (some (.inl t10))) else (some (.inl t10))) fun t11 =>
(if (t11.1 37) = 0 then (some (1 : Int32)) else (some (0 : Int32))).bind fun t12 =>
(some (a2.2.1 + t12)).bind fun x13 =>
(fX5_goesBack n t11).bind fun t14 =>
some (.inl (t14.1, x13, x9, t14.2)))))
def fX5_solutions (n : Nat) (st : zMS) : Option (zMS × Int32) :=
(some (zps st 51 (0 : Int32))).bind fun st1 =>
(zloop (fX5_solutions_L11 n) n (st1, (0 : Int32), (0 : Int32), (1 : Int32))).bind fun t4 =>
(if t4.2.2 ≤ (400 : Int32) then (some (0 : Int32)) else (some (1 : Int32))).bind fun t5 =>
(some (zps t4.1 68 t5)).bind fun st6 =>
if (st6.1 68) ≤ 0 then (some (st6, t4.2.1)) else (some (st6, (0 : Int32)))
def fX5_nth_L4 (p1 : Int32) (a1 : Int32 × Int32) : Option ((Int32 × Int32) ⊕ (Int32)) :=
if p1 ≤ a1.2 then (some (.inr a1.1)) else ((some (a1.1 &&& (a1.1 - (1 : Int32)))).bind fun x5 =>
(some (a1.2 + (1 : Int32))).bind fun x6 =>
some (.inl (x5, x6)))
def fX5_nth (n : Nat) (p0 : Int32) (p1 : Int32) : Option Int32 :=
(zloop (fX5_nth_L4 p1) n (p0, (0 : Int32))).bind fun t3 =>
(fX5_lowest n t3).bind fun t4 =>
some t4
def fX5_solutionsByAll_L109 (n : Nat) (a10 : zMS × Int32 × Int32) : Option ((zMS × Int32 × Int32) ⊕ (zMS)) :=
if (a10.1.1 0) ≤ a10.2.2 then (some (.inr a10.1)) else ((zal a10.1 1 a10.2.2).bind fun x18 =>
(if x18 = (3 : Int32) then (some (a10.1, a10.2.1)) else ((zal a10.1 2 a10.2.2).bind fun x21 =>
(fX5_count n x21).bind fun t22 =>
(zal a10.1 2 a10.2.2).bind fun x23 =>
(zrem a10.2.1 t22).bind fun x24 =>
(fX5_nth n x23 x24).bind fun t25 =>
(fX5_takesOne a10.1 a10.2.2 t25 (1 : Int32)).bind fun t26 =>
(zdiv a10.2.1 t22).bind fun x27 =>
some (t26, x27))).bind fun t19 =>
(some (a10.2.2 + (1 : Int32))).bind fun x20 =>
some (.inl (t19.1, t19.2, x20)))
def fX5_solutionsByAll_L75 (n : Nat) (t3 : Int64) (a6 : zMS × Int32 × Int32) : Option ((zMS × Int32 × Int32) ⊕ (zMS × Int32)) :=
if 0 ≤ (lg_cmp a6.2.2.toInt64 t3) then (some (.inr (a6.1, a6.2.1))) else (if (a6.1.1 68) = 0 then ((some (zps a6.1 32 (-1 : Int32))).bind fun st8 =>
(fX5_takesDecisions n st8 (4095 : Int32)).bind fun t9 =>
(zloop (fX5_solutionsByAll_L109 n) n (t9, a6.2.2, (0 : Int32))).bind fun t12 =>
(fX5_finds n t12).bind fun t13 =>
(if (t13.1 37) = 0 then (some (1 : Int32)) else (some (0 : Int32))).bind fun t14 =>
(some (a6.2.1 + t14)).bind fun x15 =>
(some (a6.2.2 + (1 : Int32))).bind fun x16 =>
some (.inl (t13, x15, x16))) else (some (.inr (a6.1, a6.2.1))))
def fX5_solutionsByAll_L4 (n : Nat) (st : zMS) (a1 : Int64 × Int32) : Option ((Int64 × Int32) ⊕ (Int64)) :=
if (st.1 0) ≤ a1.2 then (some (.inr a1.1)) else (if 0 < (lg_cmp a1.1 (2000 : Int64)) then (some (.inr a1.1)) else ((zal st 1 a1.2).bind fun x33 =>
(if x33 = (3 : Int32) then (some (1 : Int64)) else ((zal st 2 a1.2).bind fun x37 =>
(fX5_count n x37).bind fun t38 =>
some t38.toInt64)).bind fun t34 =>
(some (a1.1 * t34)).bind fun w35 =>
(some (a1.2 + (1 : Int32))).bind fun x36 =>
some (.inl (w35, x36))))
def fX5_solutionsByAll (n : Nat) (st : zMS) : Option (zMS × Int32) :=
(zloop (fX5_solutionsByAll_L4 n st) n ((1 : Int64), (0 : Int32))).bind fun t3 =>
(if (lg_cmp t3 (2000 : Int64)) ≤ 0 then (some (0 : Int32)) else (some (1 : Int32))).bind fun t4 =>
(some (zps st 68 t4)).bind fun st5 =>
zloop (fX5_solutionsByAll_L75 n t3) n (st5, (0 : Int32), (0 : Int32))
def fX5_minimise_L132  (a12 : zMS × Int32) : Option ((zMS × Int32) ⊕ (zMS)) :=
if (2 : Int32) ≤ a12.2 then (some (.inr a12.1)) else ((zas a12.1 59 a12.2 (zb (0 : Int32))).bind fun st14 =>
(zas st14 60 a12.2 (0 : Int32)).bind fun st15 =>
(some (a12.2 + (1 : Int32))).bind fun x16 =>
some (.inl (st15, x16)))
def fX5_minimise (n : Nat) (st : zMS) (p0 : Int32) (p1 : Int32) (p2 : Int32) (p3 : Int32) (p4 : Int32) : Option zMS :=
(fX5_isIn p1 (0 : Int32) (1 : Int32)).bind fun t1 =>
(zesc (if t1 = 0 then (some (.inl ())) else ((fX5_isIn p2 (0 : Int32) (2 : Int32)).bind fun t27 =>
if t27 = 0 then (some (.inl ())) else ((fX5_isIn p3 (0 : Int32) (1 : Int32)).bind fun t28 =>
if t28 = 0 then (some (.inl ())) else ((fX5_isIn p4 (0 : Int32) (2 : Int32)).bind fun t29 =>
if t29 = 0 then (some (.inl ())) else (some (.inr (1 : Int32))))))) fun t25 =>
some (0 : Int32)).bind fun t2 =>
(fX5_isVariable st p0).bind fun t3 =>
(if t3 = 0 then (some (1 : Int32)) else ((zal st 1 p0).bind fun x19 =>
zesc (if x19 = 0 then (if t2 = 0 then (some (.inl ())) else (some (.inr (0 : Int32)))) else (some (.inl ()))) fun t20 =>
some (2 : Int32))).bind fun t4 =>
(some (zps st 68 t4)).bind fun st5 =>
if (st5.1 68) ≤ 0 then ((some (zps st5 55 p0)).bind fun st6 =>
(some (zps st6 56 (16 : Int32))).bind fun st7 =>
(zas st7 57 (0 : Int32) p1).bind fun st8 =>
(zas st8 57 (1 : Int32) p3).bind fun st9 =>
(zas st9 58 (0 : Int32) p2).bind fun st10 =>
(zas st10 58 (1 : Int32) p4).bind fun st11 =>
zloop (fX5_minimise_L132) n (st11, (0 : Int32))) else (some st5)
def fX5_steps_L122 (p0 : Int32) (x2 : Int32) (a13 : zMS) : Option ((zMS) ⊕ (zMS)) :=
(zal a13 60 p0).bind fun x24 =>
if x24 ≤ 0 then (some (.inr a13)) else ((zal a13 60 p0).bind fun x25 =>
(zal a13 63 ((x2 + x25) - (1 : Int32))).bind fun x26 =>
if x26 = 0 then ((zal a13 60 p0).bind fun x27 =>
(zas a13 60 p0 (x27 - (1 : Int32))).bind fun st28 =>
some (.inl st28)) else (some (.inr a13)))
def fX5_steps_L13 (p0 : Int32) (x2 : Int32) (a3 : zMS × Int32) : Option ((zMS × Int32) ⊕ (zMS)) :=
(zal a3.1 60 p0).bind fun x55 =>
if (x2 + x55) ≤ a3.2 then (some (.inr a3.1)) else ((zal a3.1 61 a3.2).bind fun x56 =>
(zal a3.1 62 a3.2).bind fun x57 =>
(zal a3.1 63 a3.2).bind fun x58 =>
(fX5_takesOne a3.1 x56 x57 x58).bind fun t59 =>
(some (a3.2 + (1 : Int32))).bind fun x60 =>
some (.inl (t59, x60)))
def fX5_steps (n : Nat) (st : zMS) (p0 : Int32) : Option zMS :=
(some (zps st 28 (0 : Int32))).bind fun st1 =>
(some ((400 : Int32) * p0)).bind fun x2 =>
(zloop (fX5_steps_L13 p0 x2) n (st1, x2)).bind fun t5 =>
(some (zps t5 32 (t5.1 55))).bind fun st6 =>
(some (zps st6 33 (st6.1 56))).bind fun st7 =>
(fX5_finds n st7).bind fun t8 =>
(some (zps t8 32 (-1 : Int32))).bind fun st9 =>
zesc (if (st9.1 37) = 0 then ((fX5_isSolution n st9).bind fun t35 =>
if t35 = 0 then ((zal st9 57 p0).bind fun x36 =>
(fX5_chosen n st9 (0 : Int32) x36).bind fun t37 =>
(zal st9 60 p0).bind fun x38 =>
(zas st9 61 (x2 + x38) t37).bind fun st39 =>
(zal st39 60 p0).bind fun x40 =>
(zal st39 58 p0).bind fun x41 =>
(if x41 = (1 : Int32) then ((zal st39 34 t37).bind fun x50 =>
(fX5_highest n x50).bind fun t51 =>
some t51) else ((zal st39 34 t37).bind fun x48 =>
(fX5_lowest n x48).bind fun t49 =>
some t49)).bind fun t42 =>
(zas st39 62 (x2 + x40) t42).bind fun st43 =>
(zal st43 60 p0).bind fun x44 =>
(zas st43 63 (x2 + x44) (zb (1 : Int32))).bind fun st45 =>
(zal st45 60 p0).bind fun x46 =>
(zas st45 60 p0 (x46 + (1 : Int32))).bind fun st47 =>
some (.inr st47)) else (some (.inl st9))) else (some (.inl st9))) fun t10 =>
(if (t10.1 37) = 0 then ((zal t10 34 (t10.1 55)).bind fun x31 =>
(fX5_lowest n x31).bind fun t32 =>
some t32) else (some (t10.1 56))).bind fun t11 =>
(some (zps t10 56 t11)).bind fun st12 =>
(zloop (fX5_steps_L122 p0 x2) n st12).bind fun t15 =>
(zal t15 60 p0).bind fun x16 =>
(if x16 = 0 then (some (1 : Int32)) else (some (0 : Int32))).bind fun t17 =>
(zas t15 59 p0 (zb t17)).bind fun st18 =>
(zal st18 59 p0).bind fun x19 =>
if x19 = 0 then ((zal st18 60 p0).bind fun x20 =>
(zas st18 63 ((x2 + x20) - (1 : Int32)) (zb (0 : Int32))).bind fun st21 =>
some st21) else (some st18)
def fX5_goOn_L41 (n : Nat) (p0 : Int32) (p1 : Int32) (a4 : zMS × Int32) : Option ((zMS × Int32) ⊕ (zMS × Int32)) :=
if (a4.1.1 68) = 0 then (if p1 ≤ a4.2 then (some (.inr (a4.1, a4.2))) else ((zal a4.1 59 p0).bind fun x6 =>
if x6 = 0 then ((fX5_steps n a4.1 p0).bind fun t7 =>
(some (a4.2 + (1 : Int32))).bind fun x8 =>
some (.inl (t7, x8))) else (some (.inr (a4.1, a4.2))))) else (some (.inr (a4.1, a4.2)))
def fX5_goOn (n : Nat) (st : zMS) (p0 : Int32) (p1 : Int32) : Option (zMS × Int32) :=
(fX5_isIn p0 (0 : Int32) (1 : Int32)).bind fun t1 =>
(zesc (if t1 = 0 then (some (.inl ())) else ((fX5_isIn p1 (1 : Int32) (100 : Int32)).bind fun t14 =>
if t14 = 0 then (some (.inl ())) else (if 0 ≤ (st.1 55) then (some (.inr (0 : Int32))) else (some (.inr (2 : Int32)))))) fun t12 =>
some (1 : Int32)).bind fun t2 =>
(some (zps st 68 t2)).bind fun st3 =>
zloop (fX5_goOn_L41 n p0 p1) n (st3, (0 : Int32))
def fX5_best (st : zMS) : Option (zMS × Int32) :=
(some (zps st 68 (0 : Int32))).bind fun st1 =>
if 0 ≤ (st1.1 55) then (some (st1, st1.1 56)) else (some (st1, (-1 : Int32)))
def fX5_addsTree (st : zMS) (p0 : Int32) (p1 : Int32) (p2 : Int32) : Option (zMS × Int32) :=
(zas st 65 (st.1 64) (st.1 64)).bind fun st1 =>
(zas st1 66 (st1.1 64) p0).bind fun st2 =>
(zas st2 67 ((2 : Int32) * (st2.1 64)) p1).bind fun st3 =>
(zas st3 67 (((2 : Int32) * (st3.1 64)) + (1 : Int32)) p2).bind fun st4 =>
(some (zps st4 64 ((st4.1 64) + (1 : Int32)))).bind fun st5 =>
some (st5, (st5.1 64) - (1 : Int32))
def fX5_tree (st : zMS) : Option (zMS × Int32) :=
(if (st.1 64) = (16 : Int32) then (some (1 : Int32)) else (some (0 : Int32))).bind fun t1 =>
(some (zps st 68 t1)).bind fun st2 =>
if (st2.1 68) ≤ 0 then ((fX5_addsTree st2 (0 : Int32) (-1 : Int32) (-1 : Int32)).bind fun t3 =>
some (t3.1, t3.2)) else (some (st2, (0 : Int32)))
def fX5_term (st : zMS) (p0 : Int32) (p1 : Int32) (p2 : Int32) : Option (zMS × Int32) :=
(fX5_isIn p0 (0 : Int32) (5 : Int32)).bind fun t1 =>
(zesc (if p0 < (2 : Int32) then (some (.inl ())) else ((fX5_isTree st p1).bind fun t24 =>
zesc (if t24 = 0 then (some (.inl ())) else (if p0 < (4 : Int32) then (some (.inr (.inl ()))) else ((fX5_isTree st p2).bind fun t27 =>
if t27 = 0 then (some (.inl ())) else (some (.inr (.inl ())))))) fun t25 =>
some (.inr (0 : Int32)))) fun t22 =>
some (1 : Int32)).bind fun t2 =>
(zesc (zesc (if (1 : Int32) < p0 then (some (.inl ())) else (if p1 = (-1 : Int32) then (some (.inl ())) else (some (.inr (.inl ()))))) fun t14 =>
zesc (if (3 : Int32) < p0 then (some (.inl ())) else (if p2 = (-1 : Int32) then (some (.inl ())) else (some (.inr (.inl ()))))) fun t15 =>
some (.inr (1 : Int32))) fun t12 =>
some (0 : Int32)).bind fun t3 =>
(if t1 = 0 then (some (2 : Int32)) else (if t2 = 0 then (some (1 : Int32)) else (if t3 = 0 then (some (2 : Int32)) else (if (st.1 64) = (16 : Int32) then (some (3 : Int32)) else (some (0 : Int32)))))).bind fun t4 =>
(some (zps st 68 t4)).bind fun st5 =>
if (st5.1 68) ≤ 0 then ((fX5_addsTree st5 (p0 + (1 : Int32)) p1 p2).bind fun t6 =>
some (t6.1, t6.2)) else (some (st5, (0 : Int32)))
def fX5_unify_L376 (t11 : zMS × Int32) (a12 : Int32 × Int32) : Option ((Int32 × Int32) ⊕ (zMS × Int32)) :=
if (t11.1.1 64) ≤ a12.2 then (some (.inr (t11.1, a12.1))) else ((zal t11.1 65 a12.2).bind fun x14 =>
(if x14 = a12.2 then (some (1 : Int32)) else (some (0 : Int32))).bind fun t15 =>
(some (a12.1 + t15)).bind fun x16 =>
(some (a12.2 + (1 : Int32))).bind fun x17 =>
some (.inl (x16, x17)))
def fX5_unify_L336  (a20 : zMS × Int32) : Option ((zMS × Int32) ⊕ (zMS)) :=
if (16 : Int32) ≤ a20.2 then (some (.inr a20.1)) else ((zal a20.1 69 a20.2).bind fun x24 =>
(zas a20.1 65 a20.2 x24).bind fun st25 =>
(some (a20.2 + (1 : Int32))).bind fun x26 =>
some (.inl (st25, x26)))
def fX5_unify_L206 (t30 : Int32) (t32 : Int32) (t36 : Int32) (t38 : Int32) (a39 : zMS × Int32 × Int32) : Option ((zMS × Int32 × Int32) ⊕ (zMS × Int32)) :=
(zal a39.1 66 t30).bind fun x49 =>
(zdiv (x49 - (1 : Int32)) (2 : Int32)).bind fun x50 =>
if x50 ≤ a39.2.2 then (some (.inr (a39.1, a39.2.1))) else (if t38 = 0 then (some (.inr (a39.1, a39.2.1))) else (if t36 = 0 then (some (.inr (a39.1, a39.2.1))) else ((zal a39.1 67 (((2 : Int32) * t30) + a39.2.2)).bind fun x51 =>
(zas a39.1 70 ((2 : Int32) * a39.2.1) x51).bind fun st52 =>
(zal st52 67 (((2 : Int32) * t32) + a39.2.2)).bind fun x53 =>
(zas st52 70 (((2 : Int32) * a39.2.1) + (1 : Int32)) x53).bind fun st54 =>
(some (a39.2.1 + (1 : Int32))).bind fun x55 =>
(some (a39.2.2 + (1 : Int32))).bind fun x56 =>
some (.inl (st54, x55, x56)))))
def fX5_unify_L82 (n : Nat) (a9 : zMS × Int32 × Int32 × Int32) : Option ((zMS × Int32 × Int32 × Int32) ⊕ (zMS × Int32)) :=
if a9.2.1 ≤ a9.2.2.2 then (some (.inr (a9.1, a9.2.2.1))) else (if a9.2.2.1 = 0 then (some (.inr (a9.1, a9.2.2.1))) else ((zal a9.1 70 ((2 : Int32) * a9.2.2.2)).bind fun x29 =>
(fX5_find n a9.1 x29).bind fun t30 =>
(zal a9.1 70 (((2 : Int32) * a9.2.2.2) + (1 : Int32))).bind fun x31 =>
(fX5_find n a9.1 x31).bind fun t32 =>
(if t30 = t32 then (some (a9.1, a9.2.1, a9.2.2.1)) else ((zal a9.1 66 t30).bind fun x35 =>
(zesc (if x35 = 0 then (some (.inl ())) else ((zal a9.1 66 t32).bind fun x67 =>
if x67 = 0 then (some (.inl ())) else ((zal a9.1 66 t30).bind fun x68 =>
(zal a9.1 66 t32).bind fun x69 =>
if x68 = x69 then (some (.inl ())) else (some (.inr (0 : Int32)))))) fun t65 =>
some (1 : Int32)).bind fun t36 =>
(zal a9.1 66 t30).bind fun x37 =>
(zesc (if x37 ≤ 0 then (some (.inl ())) else ((zal a9.1 66 t32).bind fun x62 =>
if x62 ≤ 0 then (some (.inl ())) else (some (.inr (1 : Int32))))) fun t60 =>
some (0 : Int32)).bind fun t38 =>
(zloop (fX5_unify_L206 t30 t32 t36 t38) n (a9.1, a9.2.1, (0 : Int32))).bind fun t41 =>
(zal t41.1 66 t30).bind fun x42 =>
(if x42 ≤ 0 then (some t30) else (some t32)).bind fun t43 =>
(zal t41.1 66 t30).bind fun x44 =>
(if x44 ≤ 0 then (some t32) else (some t30)).bind fun t45 =>
(zas t41.1 65 t43 t45).bind fun st46 =>
some (st46, t41.2, t36))).bind fun t33 =>
(some (a9.2.2.2 + (1 : Int32))).bind fun x34 =>
some (.inl (t33.1, t33.2.1, t33.2.2, x34))))
def fX5_unify_L36  (a4 : zMS × Int32) : Option ((zMS × Int32) ⊕ (zMS)) :=
if (16 : Int32) ≤ a4.2 then (some (.inr a4.1)) else ((zal a4.1 65 a4.2).bind fun x76 =>
(zas a4.1 69 a4.2 x76).bind fun st77 =>
(some (a4.2 + (1 : Int32))).bind fun x78 =>
some (.inl (st77, x78)))
def fX5_unify (n : Nat) (st : zMS) (p0 : Int32) (p1 : Int32) : Option (zMS × Int32) :=
(fX5_isTree st p0).bind fun t1 =>
(zesc (if t1 = 0 then (some (.inl ())) else ((fX5_isTree st p1).bind fun t83 =>
if t83 = 0 then (some (.inl ())) else (some (.inr (0 : Int32))))) fun t81 =>
some (1 : Int32)).bind fun t2 =>
(some (zps st 68 t2)).bind fun st3 =>
if (st3.1 68) ≤ 0 then ((zloop (fX5_unify_L36) n (st3, (0 : Int32))).bind fun t6 =>
(zas t6 70 (0 : Int32) p0).bind fun st7 =>
(zas st7 70 (1 : Int32) p1).bind fun st8 =>
(zloop (fX5_unify_L82 n) n (st8, (1 : Int32), (1 : Int32), (0 : Int32))).bind fun t11 =>
if t11.2 = 0 then ((zloop (fX5_unify_L336) n (t11.1, (0 : Int32))).bind fun t22 =>
(some (zps t22 68 (2 : Int32))).bind fun st23 =>
some (st23, (0 : Int32))) else (zloop (fX5_unify_L376 t11) n ((0 : Int32), (0 : Int32)))) else (some (st3, (0 : Int32)))
def fX5_children (p0 : Int32) : Option Int32 :=
if p0 = 0 then (some (0 : Int32)) else ((zdiv (p0 - (1 : Int32)) (2 : Int32)).bind fun x1 =>
some x1)
def fX5_childOf (n : Nat) (st : zMS) (p0 : Int32) (p1 : Int32) : Option Int32 :=
(zal st 67 (((2 : Int32) * p0) + p1)).bind fun x1 =>
(fX5_find n st x1).bind fun t2 =>
some t2
def fX5_differ_L38 (n : Nat) (st : zMS) (p0 : Int32) (p1 : Int32) (a2 : Int32 × Int32) : Option ((Int32 × Int32) ⊕ (Int32)) :=
(zal st 66 p0).bind fun x4 =>
(fX5_children x4).bind fun t5 =>
if t5 ≤ a2.2 then ((zq a2.1).bind fun x6 =>
some (.inr x6)) else (if a2.1 = 0 then (if p0 = p1 then ((zq a2.1).bind fun x8 =>
some (.inr x8)) else ((fX5_childOf n st p0 a2.2).bind fun t9 =>
(fX5_childOf n st p1 a2.2).bind fun t10 =>
(zal st 71 (((16 : Int32) * t9) + t10)).bind fun x11 =>
(some (a2.2 + (1 : Int32))).bind fun x12 =>
some (.inl (x11, x12)))) else ((zq a2.1).bind fun x7 =>
some (.inr x7)))
def fX5_differ (n : Nat) (st : zMS) (p0 : Int32) (p1 : Int32) : Option Int32 :=
(zesc (if p0 = p1 then (some (.inl ())) else ((zal st 66 p0).bind fun x18 =>
zesc (if x18 = 0 then (some (.inl ())) else ((zal st 66 p0).bind fun x21 =>
(zal st 66 p1).bind fun x22 =>
if x21 = x22 then (some (.inr (.inl ()))) else (some (.inl ())))) fun t19 =>
some (.inr (1 : Int32)))) fun t16 =>
some (0 : Int32)).bind fun t1 =>
zloop (fX5_differ_L38 n st p0 p1) n (t1, (0 : Int32))
def fX5_areAlike_L79 (n : Nat) (a14 : zMS × Int32 × Int32) (a17 : zMS × Int32 × Int32) : Option ((zMS × Int32 × Int32) ⊕ (zMS × Int32)) :=
if (a17.1.1 64) ≤ a17.2.2 then (some (.inr (a17.1, a17.2.1))) else ((zal a17.1 65 a14.2.2).bind fun x21 =>
(zesc (if x21 = a14.2.2 then ((zal a17.1 65 a17.2.2).bind fun x29 =>
if x29 = a17.2.2 then ((zal a17.1 71 (((16 : Int32) * a14.2.2) + a17.2.2)).bind fun x30 =>
if x30 = 0 then ((fX5_differ n a17.1 a14.2.2 a17.2.2).bind fun t31 =>
if t31 = 0 then (some (.inl ())) else (some (.inr (1 : Int32)))) else (some (.inl ()))) else (some (.inl ()))) else (some (.inl ()))) fun t27 =>
some (0 : Int32)).bind fun t22 =>
(zal a17.1 71 (((16 : Int32) * a14.2.2) + a17.2.2)).bind fun x23 =>
(zas a17.1 71 (((16 : Int32) * a14.2.2) + a17.2.2) (zb (x23 ||| t22))).bind fun st24 =>
(some (a17.2.1 ||| t22)).bind fun x25 =>
(some (a17.2.2 + (1 : Int32))).bind fun x26 =>
some (.inl (st24, x25, x26)))
def fX5_areAlike_L67 (n : Nat) (a14 : zMS × Int32 × Int32) : Option ((zMS × Int32 × Int32) ⊕ (zMS × Int32)) :=
if (a14.1.1 64) ≤ a14.2.2 then (some (.inr (a14.1, a14.2.1))) else ((zloop (fX5_areAlike_L79 n a14) n (a14.1, a14.2.1, (0 : Int32))).bind fun t19 =>
(some (a14.2.2 + (1 : Int32))).bind fun x20 =>
some (.inl (t19.1, t19.2, x20)))
def fX5_areAlike_L58 (n : Nat) (a7 : zMS × Int32) : Option ((zMS × Int32) ⊕ (zMS)) :=
if a7.2 = 0 then (some (.inr a7.1)) else ((zloop (fX5_areAlike_L67 n) n (a7.1, (0 : Int32), (0 : Int32))).bind fun t16 =>
some (.inl (t16.1, t16.2)))
def fX5_areAlike_L36  (a4 : zMS × Int32) : Option ((zMS × Int32) ⊕ (zMS)) :=
if (256 : Int32) ≤ a4.2 then (some (.inr a4.1)) else ((zas a4.1 71 a4.2 (zb (0 : Int32))).bind fun st39 =>
(some (a4.2 + (1 : Int32))).bind fun x40 =>
some (.inl (st39, x40)))
def fX5_areAlike (n : Nat) (st : zMS) (p0 : Int32) (p1 : Int32) : Option (zMS × Int32) :=
(fX5_isTree st p0).bind fun t1 =>
(zesc (if t1 = 0 then (some (.inl ())) else ((fX5_isTree st p1).bind fun t45 =>
if t45 = 0 then (some (.inl ())) else (some (.inr (0 : Int32))))) fun t43 =>
some (1 : Int32)).bind fun t2 =>
(some (zps st 68 t2)).bind fun st3 =>
if (st3.1 68) ≤ 0 then ((zloop (fX5_areAlike_L36) n (st3, (0 : Int32))).bind fun t6 =>
(zloop (fX5_areAlike_L58 n) n (t6, (1 : Int32))).bind fun t9 =>
(fX5_find n t9 p0).bind fun t10 =>
(fX5_find n t9 p1).bind fun t11 =>
(zal t9 71 (((16 : Int32) * t10) + t11)).bind fun x12 =>
if x12 = 0 then (some (t9, (1 : Int32))) else (some (t9, (0 : Int32)))) else (some (st3, (0 : Int32)))
def fX5_symbolAt_L63 (n : Nat) (p1 : Int32) (p2 : Int32) (st3 : zMS) (a5 : Int32 × Int32) : Option ((Int32 × Int32) ⊕ ((Int32) ⊕ (zMS × Int32))) :=
if p2 ≤ a5.2 then (some (.inr (.inl a5.1))) else ((some ((p1 >>> (a5.2 &&& 31)) &&& (1 : Int32))).bind fun x10 =>
(zal st3 66 a5.1).bind fun x11 =>
(fX5_children x11).bind fun t12 =>
if x10 < t12 then ((fX5_childOf n st3 a5.1 x10).bind fun t13 =>
(some (a5.2 + (1 : Int32))).bind fun x14 =>
some (.inl (t13, x14))) else (some (.inr (.inr (st3, (-1 : Int32))))))
def fX5_symbolAt (n : Nat) (st : zMS) (p0 : Int32) (p1 : Int32) (p2 : Int32) : Option (zMS × Int32) :=
(fX5_isTree st p0).bind fun t1 =>
(if t1 = 0 then (some (1 : Int32)) else ((fX5_isIn p2 (0 : Int32) (20 : Int32)).bind fun t18 =>
zesc (if t18 = 0 then (some (.inl ())) else ((fX5_isIn p1 (0 : Int32) (((1 : Int32) <<< (p2 &&& 31)) - (1 : Int32))).bind fun t21 =>
if t21 = 0 then (some (.inl ())) else (some (.inr (0 : Int32))))) fun t19 =>
some (2 : Int32))).bind fun t2 =>
(some (zps st 68 t2)).bind fun st3 =>
if (st3.1 68) ≤ 0 then ((fX5_find n st3 p0).bind fun t4 =>
zesc (zloop (fX5_symbolAt_L63 n p1 p2 st3) n (t4, (0 : Int32))) fun t7 =>
(zal st3 66 t7).bind fun x8 =>
some (st3, x8 - (1 : Int32))) else (some (st3, (0 : Int32)))
def fX5_isEndless_L71 (n : Nat) (a9 : Int32 × Int32) (st3 : zMS) (a14 : Int32 × Int32) : Option ((Int32 × Int32) ⊕ (Int32)) :=
(zal st3 66 a9.2).bind fun x21 =>
(fX5_children x21).bind fun t22 =>
if t22 ≤ a14.2 then (some (.inr a14.1)) else (if a14.1 = 0 then (some (.inr a14.1)) else ((fX5_childOf n st3 a9.2 a14.2).bind fun t23 =>
(if ((a9.1 >>> (t23 &&& 31)) &&& (1 : Int32)) = (1 : Int32) then (some (1 : Int32)) else (some (0 : Int32))).bind fun t24 =>
(some (a14.2 + (1 : Int32))).bind fun x25 =>
some (.inl (t24, x25))))
def fX5_isEndless_L40 (n : Nat) (st3 : zMS) (a9 : Int32 × Int32) : Option ((Int32 × Int32) ⊕ (Int32)) :=
if (st3.1 64) ≤ a9.2 then (some (.inr a9.1)) else ((zal st3 65 a9.2).bind fun x12 =>
(if x12 = a9.2 then (some (1 : Int32)) else (some (0 : Int32))).bind fun t13 =>
(zloop (fX5_isEndless_L71 n a9 st3) n (t13, (0 : Int32))).bind fun t16 =>
(if t16 = 0 then (some (0 : Int32)) else (some ((1 : Int32) <<< (a9.2 &&& 31)))).bind fun t17 =>
(some (a9.1 ||| t17)).bind fun x18 =>
(some (a9.2 + (1 : Int32))).bind fun x19 =>
some (.inl (x18, x19)))
def fX5_isEndless_L30 (n : Nat) (st3 : zMS) (a4 : Int32 × Int32) : Option ((Int32 × Int32) ⊕ (Int32)) :=
if a4.2 = a4.1 then (some (.inr a4.1)) else ((zloop (fX5_isEndless_L40 n st3) n (a4.1, (0 : Int32))).bind fun t11 =>
some (.inl (t11, a4.1)))
def fX5_isEndless (n : Nat) (st : zMS) (p0 : Int32) : Option (zMS × Int32) :=
(fX5_isTree st p0).bind fun t1 =>
(if t1 = 0 then (some (1 : Int32)) else (some (0 : Int32))).bind fun t2 =>
(some (zps st 68 t2)).bind fun st3 =>
if (st3.1 68) ≤ 0 then ((zloop (fX5_isEndless_L30 n st3) n ((0 : Int32), (-1 : Int32))).bind fun t6 =>
(fX5_find n st3 p0).bind fun t7 =>
if ((t6 >>> (t7 &&& 31)) &&& (1 : Int32)) = 0 then (some (st3, (1 : Int32))) else (some (st3, (0 : Int32)))) else (some (st3, (0 : Int32)))
