/-! SPECIAL: a lambda's object is asked (its walk: to be proved) -/
set_option maxRecDepth 100000
theorem zr_holds {K : zC} {cc : ByteArray} {ret : Option FieldType} {nL fr lo mc ms : Nat} {σ : zH} {sz k n pc index count : Nat} {lv : List (Nat × Value)} {rest : List Value} (hX : zOk K RX15 cc ret nL fr lo mc ms) {r : Nat} {a b c x : Int32} (h : fholds σ r a b c = some x) (hR : (Nat.ble 8 fr && Nat.ble 400 lo) = true) (hcat : Nat.ble ((rest.map fun v => v.category).sum) 8 = true) (hd : decode cc pc = .ok (.invokeinterface index count, 5)) (kk : VW K σ sz k n (pc + 5) lv (.int x :: rest)) : VW K σ sz k n pc lv (.int c :: .int b :: .int a :: .ref r :: rest) := by
  sorry
