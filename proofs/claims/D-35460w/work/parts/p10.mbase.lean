/-! M: reads and writes (printed by gen/mbase.py) -/
set_option maxRecDepth 100000
theorem Zal {st : zMS} {f n k : Nat} (hl : zMl f = n) (hn : n ≤ 2147483648) (h : k < n) : zal st f (nI k) = some (st.2 f k) := by
  subst hl
  unfold zal
  rw [if_pos (Zin_nI h hn), Zcl (by omega)]
theorem Zas {st : zMS} {f n k : Nat} {v : Int32} (hl : zMl f = n) (hn : n ≤ 2147483648) (h : k < n) : zas st f (nI k) v = some (st.1, zua st.2 f k v) := by
  subst hl
  unfold zas
  rw [if_pos (Zin_nI h hn), Zcl (by omega)]
/-- all arrays -/
theorem ZMA : (∀ (st : zMS) (k : Nat), k < 10 → zal st 1 (nI k) = some (st.2 1 k)) ∧
  (∀ (st : zMS) (k : Nat) (v : Int32), k < 10 → zas st 1 (nI k) v = some (st.1, zua st.2 1 k v)) ∧
  (∀ (st : zMS) (k : Nat), k < 10 → zal st 2 (nI k) = some (st.2 2 k)) ∧
  (∀ (st : zMS) (k : Nat) (v : Int32), k < 10 → zas st 2 (nI k) v = some (st.1, zua st.2 2 k v)) ∧
  (∀ (st : zMS) (k : Nat), k < 10 → zal st 3 (nI k) = some (st.2 3 k)) ∧
  (∀ (st : zMS) (k : Nat) (v : Int32), k < 10 → zas st 3 (nI k) v = some (st.1, zua st.2 3 k v)) ∧
  (∀ (st : zMS) (k : Nat), k < 10 → zal st 4 (nI k) = some (st.2 4 k)) ∧
  (∀ (st : zMS) (k : Nat) (v : Int32), k < 10 → zas st 4 (nI k) v = some (st.1, zua st.2 4 k v)) ∧
  (∀ (st : zMS) (k : Nat), k < 6 → zal st 6 (nI k) = some (st.2 6 k)) ∧
  (∀ (st : zMS) (k : Nat) (v : Int32), k < 6 → zas st 6 (nI k) v = some (st.1, zua st.2 6 k v)) ∧
  (∀ (st : zMS) (k : Nat), k < 6 → zal st 8 (nI k) = some (st.2 8 k)) ∧
  (∀ (st : zMS) (k : Nat) (v : Int32), k < 6 → zas st 8 (nI k) v = some (st.1, zua st.2 8 k v)) ∧
  (∀ (st : zMS) (k : Nat), k < 48 → zal st 10 (nI k) = some (st.2 10 k)) ∧
  (∀ (st : zMS) (k : Nat) (v : Int32), k < 48 → zas st 10 (nI k) v = some (st.1, zua st.2 10 k v)) ∧
  (∀ (st : zMS) (k : Nat), k < 6 → zal st 12 (nI k) = some (st.2 12 k)) ∧
  (∀ (st : zMS) (k : Nat) (v : Int32), k < 6 → zas st 12 (nI k) v = some (st.1, zua st.2 12 k v)) ∧
  (∀ (st : zMS) (k : Nat), k < 6 → zal st 13 (nI k) = some (st.2 13 k)) ∧
  (∀ (st : zMS) (k : Nat) (v : Int32), k < 6 → zas st 13 (nI k) v = some (st.1, zua st.2 13 k v)) ∧
  (∀ (st : zMS) (k : Nat), k < 6 → zal st 14 (nI k) = some (st.2 14 k)) ∧
  (∀ (st : zMS) (k : Nat) (v : Int32), k < 6 → zas st 14 (nI k) v = some (st.1, zua st.2 14 k v)) ∧
  (∀ (st : zMS) (k : Nat), k < 24 → zal st 16 (nI k) = some (st.2 16 k)) ∧
  (∀ (st : zMS) (k : Nat) (v : Int32), k < 24 → zas st 16 (nI k) v = some (st.1, zua st.2 16 k v)) ∧
  (∀ (st : zMS) (k : Nat), k < 24 → zal st 17 (nI k) = some (st.2 17 k)) ∧
  (∀ (st : zMS) (k : Nat) (v : Int32), k < 24 → zas st 17 (nI k) v = some (st.1, zua st.2 17 k v)) ∧
  (∀ (st : zMS) (k : Nat), k < 192 → zal st 18 (nI k) = some (st.2 18 k)) ∧
  (∀ (st : zMS) (k : Nat) (v : Int32), k < 192 → zas st 18 (nI k) v = some (st.1, zua st.2 18 k v)) ∧
  (∀ (st : zMS) (k : Nat), k < 144 → zal st 19 (nI k) = some (st.2 19 k)) ∧
  (∀ (st : zMS) (k : Nat) (v : Int32), k < 144 → zas st 19 (nI k) v = some (st.1, zua st.2 19 k v)) ∧
  (∀ (st : zMS) (k : Nat), k < 24 → zal st 20 (nI k) = some (st.2 20 k)) ∧
  (∀ (st : zMS) (k : Nat) (v : Int32), k < 24 → zas st 20 (nI k) v = some (st.1, zua st.2 20 k v)) ∧
  (∀ (st : zMS) (k : Nat), k < 24 → zal st 21 (nI k) = some (st.2 21 k)) ∧
  (∀ (st : zMS) (k : Nat) (v : Int32), k < 24 → zas st 21 (nI k) v = some (st.1, zua st.2 21 k v)) ∧
  (∀ (st : zMS) (k : Nat), k < 1152 → zal st 22 (nI k) = some (st.2 22 k)) ∧
  (∀ (st : zMS) (k : Nat) (v : Int32), k < 1152 → zas st 22 (nI k) v = some (st.1, zua st.2 22 k v)) ∧
  (∀ (st : zMS) (k : Nat), k < 144 → zal st 23 (nI k) = some (st.2 23 k)) ∧
  (∀ (st : zMS) (k : Nat) (v : Int32), k < 144 → zas st 23 (nI k) v = some (st.1, zua st.2 23 k v)) ∧
  (∀ (st : zMS) (k : Nat), k < 12 → zal st 25 (nI k) = some (st.2 25 k)) ∧
  (∀ (st : zMS) (k : Nat) (v : Int32), k < 12 → zas st 25 (nI k) v = some (st.1, zua st.2 25 k v)) ∧
  (∀ (st : zMS) (k : Nat), k < 12 → zal st 26 (nI k) = some (st.2 26 k)) ∧
  (∀ (st : zMS) (k : Nat) (v : Int32), k < 12 → zas st 26 (nI k) v = some (st.1, zua st.2 26 k v)) ∧
  (∀ (st : zMS) (k : Nat), k < 12 → zal st 27 (nI k) = some (st.2 27 k)) ∧
  (∀ (st : zMS) (k : Nat) (v : Int32), k < 12 → zas st 27 (nI k) v = some (st.1, zua st.2 27 k v)) ∧
  (∀ (st : zMS) (k : Nat), k < 800 → zal st 29 (nI k) = some (st.2 29 k)) ∧
  (∀ (st : zMS) (k : Nat) (v : Int32), k < 800 → zas st 29 (nI k) v = some (st.1, zua st.2 29 k v)) ∧
  (∀ (st : zMS) (k : Nat), k < 800 → zal st 30 (nI k) = some (st.2 30 k)) ∧
  (∀ (st : zMS) (k : Nat) (v : Int32), k < 800 → zas st 30 (nI k) v = some (st.1, zua st.2 30 k v)) ∧
  (∀ (st : zMS) (k : Nat), k < 800 → zal st 31 (nI k) = some (st.2 31 k)) ∧
  (∀ (st : zMS) (k : Nat) (v : Int32), k < 800 → zas st 31 (nI k) v = some (st.1, zua st.2 31 k v)) ∧
  (∀ (st : zMS) (k : Nat), k < 10 → zal st 34 (nI k) = some (st.2 34 k)) ∧
  (∀ (st : zMS) (k : Nat) (v : Int32), k < 10 → zas st 34 (nI k) v = some (st.1, zua st.2 34 k v)) ∧
  (∀ (st : zMS) (k : Nat), k < 10 → zal st 35 (nI k) = some (st.2 35 k)) ∧
  (∀ (st : zMS) (k : Nat) (v : Int32), k < 10 → zas st 35 (nI k) v = some (st.1, zua st.2 35 k v)) ∧
  (∀ (st : zMS) (k : Nat), k < 10 → zal st 36 (nI k) = some (st.2 36 k)) ∧
  (∀ (st : zMS) (k : Nat) (v : Int32), k < 10 → zas st 36 (nI k) v = some (st.1, zua st.2 36 k v)) ∧
  (∀ (st : zMS) (k : Nat), k < 1280 → zal st 40 (nI k) = some (st.2 40 k)) ∧
  (∀ (st : zMS) (k : Nat) (v : Int32), k < 1280 → zas st 40 (nI k) v = some (st.1, zua st.2 40 k v)) ∧
  (∀ (st : zMS) (k : Nat), k < 192 → zal st 41 (nI k) = some (st.2 41 k)) ∧
  (∀ (st : zMS) (k : Nat) (v : Int32), k < 192 → zas st 41 (nI k) v = some (st.1, zua st.2 41 k v)) ∧
  (∀ (st : zMS) (k : Nat), k < 10 → zal st 42 (nI k) = some (st.2 42 k)) ∧
  (∀ (st : zMS) (k : Nat) (v : Int32), k < 10 → zas st 42 (nI k) v = some (st.1, zua st.2 42 k v)) ∧
  (∀ (st : zMS) (k : Nat), k < 10 → zal st 43 (nI k) = some (st.2 43 k)) ∧
  (∀ (st : zMS) (k : Nat) (v : Int32), k < 10 → zas st 43 (nI k) v = some (st.1, zua st.2 43 k v)) ∧
  (∀ (st : zMS) (k : Nat), k < 10 → zal st 44 (nI k) = some (st.2 44 k)) ∧
  (∀ (st : zMS) (k : Nat) (v : Int32), k < 10 → zas st 44 (nI k) v = some (st.1, zua st.2 44 k v)) ∧
  (∀ (st : zMS) (k : Nat), k < 10 → zal st 45 (nI k) = some (st.2 45 k)) ∧
  (∀ (st : zMS) (k : Nat) (v : Int32), k < 10 → zas st 45 (nI k) v = some (st.1, zua st.2 45 k v)) ∧
  (∀ (st : zMS) (k : Nat), k < 10 → zal st 50 (nI k) = some (st.2 50 k)) ∧
  (∀ (st : zMS) (k : Nat) (v : Int32), k < 10 → zas st 50 (nI k) v = some (st.1, zua st.2 50 k v)) ∧
  (∀ (st : zMS) (k : Nat), k < 400 → zal st 52 (nI k) = some (st.2 52 k)) ∧
  (∀ (st : zMS) (k : Nat) (v : Int32), k < 400 → zas st 52 (nI k) v = some (st.1, zua st.2 52 k v)) ∧
  (∀ (st : zMS) (k : Nat), k < 400 → zal st 53 (nI k) = some (st.2 53 k)) ∧
  (∀ (st : zMS) (k : Nat) (v : Int32), k < 400 → zas st 53 (nI k) v = some (st.1, zua st.2 53 k v)) ∧
  (∀ (st : zMS) (k : Nat), k < 400 → zal st 54 (nI k) = some (st.2 54 k)) ∧
  (∀ (st : zMS) (k : Nat) (v : Int32), k < 400 → zas st 54 (nI k) v = some (st.1, zua st.2 54 k v)) ∧
  (∀ (st : zMS) (k : Nat), k < 2 → zal st 57 (nI k) = some (st.2 57 k)) ∧
  (∀ (st : zMS) (k : Nat) (v : Int32), k < 2 → zas st 57 (nI k) v = some (st.1, zua st.2 57 k v)) ∧
  (∀ (st : zMS) (v : Int32), zas st 57 0 v = some (st.1, zua st.2 57 0 v)) ∧
  (∀ (st : zMS) (v : Int32), zas st 57 1 v = some (st.1, zua st.2 57 1 v)) ∧
  (∀ (st : zMS) (k : Nat), k < 2 → zal st 58 (nI k) = some (st.2 58 k)) ∧
  (∀ (st : zMS) (k : Nat) (v : Int32), k < 2 → zas st 58 (nI k) v = some (st.1, zua st.2 58 k v)) ∧
  (∀ (st : zMS) (v : Int32), zas st 58 0 v = some (st.1, zua st.2 58 0 v)) ∧
  (∀ (st : zMS) (v : Int32), zas st 58 1 v = some (st.1, zua st.2 58 1 v)) ∧
  (∀ (st : zMS) (k : Nat), k < 2 → zal st 59 (nI k) = some (st.2 59 k)) ∧
  (∀ (st : zMS) (k : Nat) (v : Int32), k < 2 → zas st 59 (nI k) v = some (st.1, zua st.2 59 k v)) ∧
  (∀ (st : zMS) (v : Int32), zas st 59 0 v = some (st.1, zua st.2 59 0 v)) ∧
  (∀ (st : zMS) (v : Int32), zas st 59 1 v = some (st.1, zua st.2 59 1 v)) ∧
  (∀ (st : zMS) (k : Nat), k < 2 → zal st 60 (nI k) = some (st.2 60 k)) ∧
  (∀ (st : zMS) (k : Nat) (v : Int32), k < 2 → zas st 60 (nI k) v = some (st.1, zua st.2 60 k v)) ∧
  (∀ (st : zMS) (v : Int32), zas st 60 0 v = some (st.1, zua st.2 60 0 v)) ∧
  (∀ (st : zMS) (v : Int32), zas st 60 1 v = some (st.1, zua st.2 60 1 v)) ∧
  (∀ (st : zMS) (k : Nat), k < 800 → zal st 61 (nI k) = some (st.2 61 k)) ∧
  (∀ (st : zMS) (k : Nat) (v : Int32), k < 800 → zas st 61 (nI k) v = some (st.1, zua st.2 61 k v)) ∧
  (∀ (st : zMS) (k : Nat), k < 800 → zal st 62 (nI k) = some (st.2 62 k)) ∧
  (∀ (st : zMS) (k : Nat) (v : Int32), k < 800 → zas st 62 (nI k) v = some (st.1, zua st.2 62 k v)) ∧
  (∀ (st : zMS) (k : Nat), k < 800 → zal st 63 (nI k) = some (st.2 63 k)) ∧
  (∀ (st : zMS) (k : Nat) (v : Int32), k < 800 → zas st 63 (nI k) v = some (st.1, zua st.2 63 k v)) ∧
  (∀ (st : zMS) (k : Nat), k < 16 → zal st 65 (nI k) = some (st.2 65 k)) ∧
  (∀ (st : zMS) (k : Nat) (v : Int32), k < 16 → zas st 65 (nI k) v = some (st.1, zua st.2 65 k v)) ∧
  (∀ (st : zMS) (k : Nat), k < 16 → zal st 66 (nI k) = some (st.2 66 k)) ∧
  (∀ (st : zMS) (k : Nat) (v : Int32), k < 16 → zas st 66 (nI k) v = some (st.1, zua st.2 66 k v)) ∧
  (∀ (st : zMS) (k : Nat), k < 32 → zal st 67 (nI k) = some (st.2 67 k)) ∧
  (∀ (st : zMS) (k : Nat) (v : Int32), k < 32 → zas st 67 (nI k) v = some (st.1, zua st.2 67 k v)) ∧
  (∀ (st : zMS) (k : Nat), k < 16 → zal st 69 (nI k) = some (st.2 69 k)) ∧
  (∀ (st : zMS) (k : Nat) (v : Int32), k < 16 → zas st 69 (nI k) v = some (st.1, zua st.2 69 k v)) ∧
  (∀ (st : zMS) (k : Nat), k < 80 → zal st 70 (nI k) = some (st.2 70 k)) ∧
  (∀ (st : zMS) (k : Nat) (v : Int32), k < 80 → zas st 70 (nI k) v = some (st.1, zua st.2 70 k v)) ∧
  (∀ (st : zMS) (v : Int32), zas st 70 0 v = some (st.1, zua st.2 70 0 v)) ∧
  (∀ (st : zMS) (v : Int32), zas st 70 1 v = some (st.1, zua st.2 70 1 v)) ∧
  (∀ (st : zMS) (k : Nat), k < 256 → zal st 71 (nI k) = some (st.2 71 k)) ∧
  (∀ (st : zMS) (k : Nat) (v : Int32), k < 256 → zas st 71 (nI k) v = some (st.1, zua st.2 71 k v)) :=
  ⟨fun _ _ h => Zal rfl (by decide) h, fun _ _ _ h => Zas rfl (by decide) h, fun _ _ h => Zal rfl (by decide) h, fun _ _ _ h => Zas rfl (by decide) h, fun _ _ h => Zal rfl (by decide) h, fun _ _ _ h => Zas rfl (by decide) h, fun _ _ h => Zal rfl (by decide) h, fun _ _ _ h => Zas rfl (by decide) h, fun _ _ h => Zal rfl (by decide) h, fun _ _ _ h => Zas rfl (by decide) h, fun _ _ h => Zal rfl (by decide) h, fun _ _ _ h => Zas rfl (by decide) h, fun _ _ h => Zal rfl (by decide) h, fun _ _ _ h => Zas rfl (by decide) h, fun _ _ h => Zal rfl (by decide) h, fun _ _ _ h => Zas rfl (by decide) h, fun _ _ h => Zal rfl (by decide) h, fun _ _ _ h => Zas rfl (by decide) h, fun _ _ h => Zal rfl (by decide) h, fun _ _ _ h => Zas rfl (by decide) h, fun _ _ h => Zal rfl (by decide) h, fun _ _ _ h => Zas rfl (by decide) h, fun _ _ h => Zal rfl (by decide) h, fun _ _ _ h => Zas rfl (by decide) h, fun _ _ h => Zal rfl (by decide) h, fun _ _ _ h => Zas rfl (by decide) h, fun _ _ h => Zal rfl (by decide) h, fun _ _ _ h => Zas rfl (by decide) h, fun _ _ h => Zal rfl (by decide) h, fun _ _ _ h => Zas rfl (by decide) h, fun _ _ h => Zal rfl (by decide) h, fun _ _ _ h => Zas rfl (by decide) h, fun _ _ h => Zal rfl (by decide) h, fun _ _ _ h => Zas rfl (by decide) h, fun _ _ h => Zal rfl (by decide) h, fun _ _ _ h => Zas rfl (by decide) h, fun _ _ h => Zal rfl (by decide) h, fun _ _ _ h => Zas rfl (by decide) h, fun _ _ h => Zal rfl (by decide) h, fun _ _ _ h => Zas rfl (by decide) h, fun _ _ h => Zal rfl (by decide) h, fun _ _ _ h => Zas rfl (by decide) h, fun _ _ h => Zal rfl (by decide) h, fun _ _ _ h => Zas rfl (by decide) h, fun _ _ h => Zal rfl (by decide) h, fun _ _ _ h => Zas rfl (by decide) h, fun _ _ h => Zal rfl (by decide) h, fun _ _ _ h => Zas rfl (by decide) h, fun _ _ h => Zal rfl (by decide) h, fun _ _ _ h => Zas rfl (by decide) h, fun _ _ h => Zal rfl (by decide) h, fun _ _ _ h => Zas rfl (by decide) h, fun _ _ h => Zal rfl (by decide) h, fun _ _ _ h => Zas rfl (by decide) h, fun _ _ h => Zal rfl (by decide) h, fun _ _ _ h => Zas rfl (by decide) h, fun _ _ h => Zal rfl (by decide) h, fun _ _ _ h => Zas rfl (by decide) h, fun _ _ h => Zal rfl (by decide) h, fun _ _ _ h => Zas rfl (by decide) h, fun _ _ h => Zal rfl (by decide) h, fun _ _ _ h => Zas rfl (by decide) h, fun _ _ h => Zal rfl (by decide) h, fun _ _ _ h => Zas rfl (by decide) h, fun _ _ h => Zal rfl (by decide) h, fun _ _ _ h => Zas rfl (by decide) h, fun _ _ h => Zal rfl (by decide) h, fun _ _ _ h => Zas rfl (by decide) h, fun _ _ h => Zal rfl (by decide) h, fun _ _ _ h => Zas rfl (by decide) h, fun _ _ h => Zal rfl (by decide) h, fun _ _ _ h => Zas rfl (by decide) h, fun _ _ h => Zal rfl (by decide) h, fun _ _ _ h => Zas rfl (by decide) h, fun _ _ h => Zal rfl (by decide) h, fun _ _ _ h => Zas rfl (by decide) h, fun st v => Zas (st := st) (f := 57) (k := 0) (v := v) rfl (by decide) (by decide), fun st v => Zas (st := st) (f := 57) (k := 1) (v := v) rfl (by decide) (by decide), fun _ _ h => Zal rfl (by decide) h, fun _ _ _ h => Zas rfl (by decide) h, fun st v => Zas (st := st) (f := 58) (k := 0) (v := v) rfl (by decide) (by decide), fun st v => Zas (st := st) (f := 58) (k := 1) (v := v) rfl (by decide) (by decide), fun _ _ h => Zal rfl (by decide) h, fun _ _ _ h => Zas rfl (by decide) h, fun st v => Zas (st := st) (f := 59) (k := 0) (v := v) rfl (by decide) (by decide), fun st v => Zas (st := st) (f := 59) (k := 1) (v := v) rfl (by decide) (by decide), fun _ _ h => Zal rfl (by decide) h, fun _ _ _ h => Zas rfl (by decide) h, fun st v => Zas (st := st) (f := 60) (k := 0) (v := v) rfl (by decide) (by decide), fun st v => Zas (st := st) (f := 60) (k := 1) (v := v) rfl (by decide) (by decide), fun _ _ h => Zal rfl (by decide) h, fun _ _ _ h => Zas rfl (by decide) h, fun _ _ h => Zal rfl (by decide) h, fun _ _ _ h => Zas rfl (by decide) h, fun _ _ h => Zal rfl (by decide) h, fun _ _ _ h => Zas rfl (by decide) h, fun _ _ h => Zal rfl (by decide) h, fun _ _ _ h => Zas rfl (by decide) h, fun _ _ h => Zal rfl (by decide) h, fun _ _ _ h => Zas rfl (by decide) h, fun _ _ h => Zal rfl (by decide) h, fun _ _ _ h => Zas rfl (by decide) h, fun _ _ h => Zal rfl (by decide) h, fun _ _ _ h => Zas rfl (by decide) h, fun _ _ h => Zal rfl (by decide) h, fun _ _ _ h => Zas rfl (by decide) h, fun st v => Zas (st := st) (f := 70) (k := 0) (v := v) rfl (by decide) (by decide), fun st v => Zas (st := st) (f := 70) (k := 1) (v := v) rfl (by decide) (by decide), fun _ _ h => Zal rfl (by decide) h, fun _ _ _ h => Zas rfl (by decide) h⟩
/-- nothing of M changes but the numbers in A and the arrays in B -/
def ZfM (A B : Nat → Prop) (st st' : zMS) : Prop := (∀ f, ¬ A f → st'.1 f = st.1 f) ∧ ∀ f, ¬ B f → st'.2 f = st.2 f
theorem ZfM.rfl {A B : Nat → Prop} {st : zMS} : ZfM A B st st := ⟨fun _ _ => Eq.refl _, fun _ _ => Eq.refl _⟩
theorem ZfM.trans {A B : Nat → Prop} {x y z : zMS} (h : ZfM A B x y) (h' : ZfM A B y z) : ZfM A B x z := ⟨fun f q => (h'.1 f q).trans (h.1 f q), fun f q => (h'.2 f q).trans (h.2 f q)⟩
theorem ZfM.mono {A A' B B' : Nat → Prop} {x y : zMS} (h : ZfM A B x y) (hA : ∀ f, A f → A' f) (hB : ∀ f, B f → B' f) : ZfM A' B' x y := ⟨fun f q => h.1 f fun g => q (hA f g), fun f q => h.2 f fun g => q (hB f g)⟩
theorem ZfM.arr {A B : Nat → Prop} {x y : zMS} {f k : Nat} {v : Int32} (h : ZfM A B x y) (hB : B f) : ZfM A B x (y.1, zua y.2 f k v) := ⟨h.1, fun u q => by
  have : u ≠ f := fun e => q (by rw [e]; exact hB)
  rw [show (y.1, zua y.2 f k v).2 u = zua y.2 f k v u from Eq.refl _, zua_n this]
  exact h.2 u q⟩
theorem ZfM.num {A B : Nat → Prop} {x y : zMS} {f : Nat} {v : Int32} (h : ZfM A B x y) (hA : A f) : ZfM A B x (zus y.1 f v, y.2) := ⟨fun u q => by
  have : u ≠ f := fun e => q (by rw [e]; exact hA)
  rw [show (zus y.1 f v, y.2).1 u = if u = f then v else y.1 u from Eq.refl _, if_neg this]
  exact h.1 u q, h.2⟩
theorem zus_s {f : Nat → Int32} {k : Nat} {v : Int32} : zus f k v k = v := if_pos (Eq.refl _)
theorem zus_n {f : Nat → Int32} {k j : Nat} {v : Int32} (h : j ≠ k) : zus f k v j = f j := if_neg h
/-- the one of a tree, by the array of ones -/
def Zrt (one : Nat → Int32) (r : Nat) : Nat → Nat → Prop
  | 0, t => t = r ∧ t < 16 ∧ one t = nI t
  | k + 1, t => t < 16 ∧ ∃ u, u < 16 ∧ u ≠ t ∧ one t = nI u ∧ Zrt one r k u
theorem Zrt_lt {one : Nat → Int32} {r : Nat} : ∀ k t, Zrt one r k t → t < 16 ∧ r < 16 ∧ one r = nI r := by
  intro k
  induction k with
  | zero => rintro t ⟨rfl, h, e⟩; exact ⟨h, h, e⟩
  | succ k ih =>
    rintro t ⟨h, u, hu, -, -, h2⟩
    exact ⟨h, (ih u h2).2⟩
theorem Zfind {st : zMS} {r : Nat} : ∀ k t, Zrt (st.2 65) r k t → ∀ n, k < n → fX5_find n st (nI t) = some (nI r) := by
  intro k
  induction k with
  | zero =>
    rintro t ⟨rfl, h, e⟩ n hn
    obtain ⟨n, rfl⟩ : ∃ q, n = q + 1 := ⟨n - 1, by omega⟩
    simp (disch := omega) only [fX5_find, zloop, fX5_find_L2, ZMA, e, Option.bind_some, if_true]
  | succ k ih =>
    rintro t ⟨h, u, hu, hne, e, h2⟩ n hn
    obtain ⟨n, rfl⟩ : ∃ q, n = q + 1 := ⟨n - 1, by omega⟩
    have g : ¬ nI u = nI t := fun q => hne ((nI_eq (by omega) (by omega)).mp q)
    simp (disch := omega) only [fX5_find, zloop, fX5_find_L2, ZMA, e, Option.bind_some, if_neg g]
    exact ih u h2 n (by omega)
/-- M holds a problem -/
def ZMP (st : zMS) (P : ZP) : Prop :=
  st.1 0 = nI (Znv P) ∧ st.1 15 = nI (Znc P) ∧
  (∀ v, v < Znv P → st.2 1 v = nI (Zkd P v) ∧ (Zkd P v ≤ 2 → st.2 2 v = Ztd P v) ∧ (Zkd P v = 3 → st.2 3 v = Zfm P v ∧ st.2 4 v = Zto P v)) ∧
  ∀ c, c < Znc P → st.2 16 c = nI (Zso P c) ∧ st.2 17 c = nI (Zmn P c) ∧ (∀ p, p < Zmn P c → st.2 18 (8 * c + p) = nI (Zpl P c p)) ∧
    (Zso P c = 0 → (∀ p, p < Zmn P c → st.2 19 (6 * c + p) = Zfa P c p) ∧ st.2 20 c = Zli P c ∧ st.2 23 (6 * c) = Zhs P c 0) ∧
    (Zso P c = 3 → st.2 20 c = Zli P c ∧ st.2 21 c = nI (Zrm P c) ∧ ∀ i, i < 3 * Zrm P c → st.2 22 (48 * c + i) = nI (Zmv P c i)) ∧
    (Zso P c = 5 → ∀ p, p < Zmn P c → st.2 19 (6 * c + p) = nI (Zcv P c p) ∧ st.2 23 (6 * c + p) = Zhs P c p) ∧
    (Zso P c = 6 → st.2 20 c = nI (Ztr P c) ∧ ∃ r k, k < 16 ∧ Zrt (st.2 65) r k (Ztr P c) ∧ st.2 66 r = nI (Zsy P (Ztr P c)))
/-- the fields of M that hold the problem -/
def ZMf (f : Nat) : Prop := f ≤ 4 ∨ (15 ≤ f ∧ f ≤ 23) ∨ f = 65 ∨ f = 66
theorem ZMP.fr {st st' : zMS} {P : ZP} {A B : Nat → Prop} (h : ZMP st P) (hf : ZfM A B st st') (hA : ∀ f, A f → ¬ ZMf f) (hB : ∀ f, B f → ¬ ZMf f) : ZMP st' P := by
  have a : ∀ f, ZMf f → st'.1 f = st.1 f := fun f q => hf.1 f fun g => hA f g q
  have b : ∀ f, ZMf f → st'.2 f = st.2 f := fun f q => hf.2 f fun g => hB f g q
  unfold ZMP
  rw [a 0 (by unfold ZMf; omega), a 15 (by unfold ZMf; omega), b 1 (by unfold ZMf; omega), b 2 (by unfold ZMf; omega), b 3 (by unfold ZMf; omega), b 4 (by unfold ZMf; omega), b 16 (by unfold ZMf; omega), b 17 (by unfold ZMf; omega), b 18 (by unfold ZMf; omega), b 19 (by unfold ZMf; omega), b 20 (by unfold ZMf; omega), b 21 (by unfold ZMf; omega), b 22 (by unfold ZMf; omega), b 23 (by unfold ZMf; omega), b 65 (by unfold ZMf; omega), b 66 (by unfold ZMf; omega)]
  exact h
