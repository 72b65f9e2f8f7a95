/-! MADE: the class files that the rule writes for the lambdas (decided) -/
set_option maxRecDepth 100000
def zmD (j : Nat) : ClassFile := ((zsh j).file "DomainLinks").getD { minorVersion := 0, majorVersion := 0, constantPool := #[], accessFlags := 0, thisClass := 0, superClass := 0, interfaces := #[], fields := #[], methods := #[], attributes := #[] }
def zmF (j : Nat) : Method := ((layoutMethods (zmD j)).bind (·[1]?)).getD default
def zmL (j : Nat) : Array Field × Array FieldType × Array FieldType := (layoutFields (zmD j) 0).getD (#[], #[], #[])
def zmI (j : Nat) : Nat := if (zls j).2.2.2 then 23 else 17
def zmC (j : Nat) : Nat := if (zls j).2.2.2 then 19 else 14
def zmN (j : Nat) : Nat := if (zls j).2.2.2 then 22 else 16
def zmB (j : Nat) : ByteArray := if (zls j).2.2.2 then ⟨#[0x2a, 0xb4, 0x00, 0x0f, 0x1b, 0x1c, 0x1d, 0xb8, 0x00, 0x17, 0xac]⟩ else ⟨#[0x1b, 0x1c, 0x1d, 0xb8, 0x00, 0x11, 0xac]⟩
def zmd (j : Nat) : String := if (zls j).2.2.2 then "(ZIII)Z" else "(III)Z"
theorem zm_all {p : Nat → Prop} (h0 : p 0) (h1 : p 1) (h2 : p 2) (h3 : p 3) (h4 : p 4) (h5 : p 5) (h6 : p 6) (h7 : p 7) : ∀ j, j < 8 → p j := by
  intro j hj
  match j, hj with
  | 0, _ => exact h0
  | 1, _ => exact h1
  | 2, _ => exact h2
  | 3, _ => exact h3
  | 4, _ => exact h4
  | 5, _ => exact h5
  | 6, _ => exact h6
  | 7, _ => exact h7
  | j + 8, hj => exact absurd hj (by omega)
theorem zm_isfile : ∀ j, j < 8 → ((zsh j).file "DomainLinks").isSome = true := zm_all (by decide +kernel) (by decide +kernel) (by decide +kernel) (by decide +kernel) (by decide +kernel) (by decide +kernel) (by decide +kernel) (by decide +kernel)
theorem zm_issec : ∀ j, j < 8 → ((layoutMethods (zmD j)).bind (·[1]?)).isSome = true := zm_all (by decide +kernel) (by decide +kernel) (by decide +kernel) (by decide +kernel) (by decide +kernel) (by decide +kernel) (by decide +kernel) (by decide +kernel)
theorem zm_islaid : ∀ j, j < 8 → (layoutFields (zmD j) 0).isSome = true := zm_all (by decide +kernel) (by decide +kernel) (by decide +kernel) (by decide +kernel) (by decide +kernel) (by decide +kernel) (by decide +kernel) (by decide +kernel)
theorem zm_code : ∀ j, j < 8 → ((zmF j).code.map fun c => (c.code.data, c.maxLocals)) = some ((zmB j).data, 4) := zm_all (by decide +kernel) (by decide +kernel) (by decide +kernel) (by decide +kernel) (by decide +kernel) (by decide +kernel) (by decide +kernel) (by decide +kernel)
theorem zm_flags : ∀ j, j < 8 → ((zmF j).accessFlags, (zmF j).name, (zmF j).sig.returnType) = (0x0001, "holds", some FieldType.boolean) := zm_all (by decide +kernel) (by decide +kernel) (by decide +kernel) (by decide +kernel) (by decide +kernel) (by decide +kernel) (by decide +kernel) (by decide +kernel)
theorem zm_eM : ∀ j, j < 8 → (zmD j).constantPool[zmI j]? = some (.methodref (zmC j) (zmN j)) ∧ (zmD j).constantPool.className? (zmC j) = some "DomainLinks" ∧ (zmD j).constantPool.nameAndType? (zmN j) = some (zlsn j, zmd j) := zm_all (by decide +kernel) (by decide +kernel) (by decide +kernel) (by decide +kernel) (by decide +kernel) (by decide +kernel) (by decide +kernel) (by decide +kernel)
theorem zm_eC : ∀ j, j < 8 → (zmD j).constantPool[zmC j]? = some (.class_ (zmC j - 1)) ∧ (zmD j).constantPool.string? (zmC j - 1) = some "DomainLinks" ∧ zmC j ≠ (zmD j).thisClass := zm_all (by decide +kernel) (by decide +kernel) (by decide +kernel) (by decide +kernel) (by decide +kernel) (by decide +kernel) (by decide +kernel) (by decide +kernel)
def zmE (j : Nat) : Prop := (zmD j).constantPool[15]? = some (.fieldref 2 14) ∧ (zmD j).constantPool.nameAndType? 14 = some ("arg$1", "Z") ∧ (zmL j).1.findIdx? (·.name == "arg$1") = some 0 ∧ ((zmL j).1[0]?).map (fun f => (f.isStatic, f.slot)) = some (false, 0)
theorem zm_eF0 : zmE 0 := by unfold zmE; decide +kernel
theorem zm_eF1 : zmE 1 := by unfold zmE; decide +kernel
theorem zm_eF3 : zmE 3 := by unfold zmE; decide +kernel
theorem zm_desc : ∀ j, j < 8 → (zsh j).implDesc.toString = zmd j := zm_all (by decide +kernel) (by decide +kernel) (by decide +kernel) (by decide +kernel) (by decide +kernel) (by decide +kernel) (by decide +kernel) (by decide +kernel)
theorem zm_file {j : Nat} (hj : j < 8) : (zsh j).file "DomainLinks" = some (zmD j) := by
  obtain ⟨x, hx⟩ := Option.isSome_iff_exists.mp (zm_isfile j hj)
  simp [zmD, hx]
theorem zm_second {j : Nat} (hj : j < 8) : ∀ ms, layoutMethods (zmD j) = some ms → ms[1]? = some (zmF j) := by
  intro ms hms
  obtain ⟨x, hx⟩ := Option.isSome_iff_exists.mp (zm_issec j hj)
  have hf : zmF j = x := by simp [zmF, hx]
  rw [hms] at hx
  rw [hf]
  exact hx
theorem zm_laid {j : Nat} (hj : j < 8) : layoutFields (zmD j) 0 = some (zmL j) := by
  obtain ⟨x, hx⟩ := Option.isSome_iff_exists.mp (zm_islaid j hj)
  simp [zmL, hx]
theorem zm_facts {e : Jvm.Setting} {vm : Vm} {d c : ClassId} {dk : Class} {j : Nat} (hj : j < 8) (hd : vm.classes[d]? = some dk) (hname : dk.name = "DomainLinks") (h : Jvm.Lambda.isMade e vm d (zsh j) c = true) (hO : ∀ o ok, vm.findClass "java/lang/Object" = some o → vm.classes[o]? = some ok → ok.instanceTypes.size = 0) :
    ∃ (k tk : Class) (file : ClassFile) (methk : Method) (ck : Code) (dl : ClassId) (t : MethodId), vm.classes[c]? = some k ∧ k.name = "DomainLinks$$Lambda" ∧ k.cf = some file ∧ file.constantPool = (zmD j).constantPool ∧
      vm.method? ⟨c, 1⟩ = some methk ∧ methk.code = some ck ∧ ck.code = zmB j ∧ ck.maxLocals = 4 ∧ methk.locks = false ∧ methk.accessFlags = 0x0001 ∧ methk.sig.returnType = some .boolean ∧
      vm.findClass "DomainLinks" = some dl ∧ vm.classes[dl]? = some tk ∧ tk.isInterface = false ∧ ((Jvm.methodIn dl (zlsn j) (zmd j) tk.isInterface none).ask e vm).1 = .ok t ∧
      vm.methodReady c (zmI j) t ∧ vm.classReady c (zmC j) dl ∧ (zmE j → ∃ f0, vm.fieldReady c 15 c f0 ∧ f0.isStatic = false ∧ f0.slot = 0) := by
  obtain ⟨dk', k, ok, tk, file, cf, object, iface, dl, lay, methods, target, found, hd', hk, hfile, hcf, hobj, -, hok, hlay, hms, ht, htk, hg, -, hrec, -, -, -, hitf, hpool, hmeth, hfields, -, hres, -⟩ := Jvm.Lambda.isMade_spec h
  cases hd.symm.trans hd'
  rw [hname, zm_file hj] at hcf
  cases hcf
  rw [hO object ok hobj hok, zm_laid hj] at hlay
  cases hlay
  obtain ⟨b, hb, hsame⟩ := hmeth 1 (zmF j) (zm_second hj methods hms)
  obtain ⟨hn, hde, hsig, hfl, x, y, hfc, hbc, -, hml, hcd, -⟩ := Jvm.Lambda.sameMethod_spec hsame
  have fc := zm_code j hj
  have ff := zm_flags j hj
  simp only [Prod.mk.injEq] at ff
  rw [hfc] at fc
  simp only [Option.map_some, Option.some.injEq, Prod.mk.injEq] at fc
  rw [zm_desc j hj] at hg
  have eM := zm_eM j hj
  have eC := zm_eC j hj
  refine ⟨k, tk, file, b, y, dl, target, hk, by rw [hrec.1, hname]; rfl, hfile, hpool.2.1, by simp [Vm.method?, hk, hb], hbc, ?_, by rw [hml]; exact fc.2, ?_, by rw [hfl]; exact ff.1, by rw [hsig]; exact ff.2.2, ht, htk, hitf, hg,
    ⟨k, hk, hres (zmI j) _ (Jvm.Lambda.resolvedOf_method eM.1 eM.2.1 ht htk eM.2.2 hg)⟩, ⟨k, hk, hres (zmC j) _ (Jvm.Lambda.resolvedOf_class eC.1 eC.2.2 eC.2.1 ht)⟩, fun hE => ?_⟩
  · rw [hcd]
    exact ByteArray.ext fc.1
  · simp [Method.locks, Method.isSynchronized, hfl, ff.1, hasFlag, Acc.synchronized]
  · obtain ⟨g0, hg0, hp0⟩ := Option.map_eq_some_iff.mp hE.2.2.2
    simp only [Prod.mk.injEq] at hp0
    exact ⟨g0, ⟨k, 0, k, hk, hres 15 _ (Jvm.Lambda.resolvedOf_field hE.1 hE.2.1 hE.2.2.1), hk, hfields 0 _ hg0⟩, hp0.1, hp0.2⟩
