/-! CORE: the abstract heap, the judgement VW over it, its rows. Class numbers are places in zcl; array tags are places in zTy. -/
set_option maxRecDepth 100000
/-- class numbers, field places; the statics' addresses -/
abbrev zD : Type := va_G × (Nat → Nat)
def zTy (k : Nat) : FieldType := match k with
  | 0 => .int
  | 1 => .boolean
  | 2 => .long
  | 3 => .object "java/lang/Object"
  | 4 => .array .int
  | 5 => .object "DomainLinks$Shared"
  | 6 => .int
  | 7 => .object "java/lang/Integer"
  | _ => .int
abbrev zcl : List vw_C := [(RX1, TX1, 36), (RX2, TX2, 4), (RX3, TX3, 5), (RX4, TX4, 5), (RX5, TX5, 72), (RX6, TX6, 4), (RX7, TX7, 3), (RX8, TX8, 3), (RX10, TX10, 8), (RX11, TX11, 6), (RX12, TX12, 4), (RX13, TX13, 8), (RX14, TX14, 4), (RX15, TX15, 5), (RX16, TX16, 5), (RX17, TX17, 6), (RX18, TX18, 4), (RX19, TX19, 4), (RJ2, TJ2, 3), (RJ18, TJ18, 1)]
/-- read-only cells: static arrays, small Integers -/
def zRO : zE → Bool
  | .inl (t, _) => decide (6 ≤ t)
  | .inr (c, _) => decide (c = 19 ∨ 100 ≤ c)
def zat (s0 : State) (D : zD) (a : Nat) (e : zE) (H : Heap) : Prop := match e with
  | .inl (t, x) => ∃ cA : ClassId, ArrOfT s0 cA (zTy t) ∧ va_RA s0 cA (zTy t) ∧ H[a]? = some (vp_cell cA x)
  | .inr o => (100 ≤ o.1 → t_OB a (D.1.1 o.1) o.2.length id H (vp_V o.2)) ∧ (o.1 < 100 → va_at D.1 zcl (a, .inr o) H)
theorem zat.kept {s0 : State} {D : zD} {a : Nat} {e : zE} {H H1 : Heap} (h : zat s0 D a e H) (hq : H1[a]? = H[a]?) : zat s0 D a e H1 := by
  cases e with
  | inl x =>
    obtain ⟨t, x⟩ := x
    obtain ⟨cA, h1, h2, h3⟩ := h
    exact ⟨cA, h1, h2, hq.trans h3⟩
  | inr o => exact ⟨fun g => (h.1 g).kept hq, fun g => (h.2 g).kept hq⟩
theorem zat.lt {s0 : State} {D : zD} {a : Nat} {e : zE} {H : Heap} (h : zat s0 D a e H) : a < H.size := by
  cases e with
  | inl x =>
    obtain ⟨t, x⟩ := x
    obtain ⟨cA, h1, h2, h3⟩ := h
    exact (Array.getElem?_eq_some_iff.mp h3).1
  | inr o =>
    rcases Nat.lt_or_ge o.1 100 with g | g
    · exact (h.2 g).lt
    · obtain ⟨cell, q, -⟩ := h.1 g
      exact (Array.getElem?_eq_some_iff.mp q).1
def zP (s0 : State) (D : zD) (σ : zH) (H : Heap) : Prop := (∀ a e, σ.2 a = some e → zat s0 D a e H ∧ (zRO e = false → s0.heap.size ≤ a)) ∧ s0.heap.size ≤ H.size ∧ (∀ q : Nat, q < s0.heap.size → H[q]? = s0.heap[q]?) ∧ σ.1 = D.2
theorem zP.set {s0 : State} {D : zD} {σ : zH} {H H1 : Heap} {a : Nat} {e : zE} (h : zP s0 D σ H) (ha : s0.heap.size ≤ a) (he : zat s0 D a e H1) (hz : H1.size = H.size) (oq : ∀ q : Nat, q ≠ a → H1[q]? = H[q]?) : zP s0 D (zset σ a e) H1 := by
  refine ⟨fun b e' hb => ?_, by rw [hz]; exact h.2.1, fun q hq => ?_, h.2.2.2⟩
  · by_cases hba : b = a
    · subst hba
      simp [zset] at hb
      subst hb
      exact ⟨he, fun _ => ha⟩
    · simp [zset, hba] at hb
      exact ⟨(h.1 b e' hb).1.kept (oq b hba), (h.1 b e' hb).2⟩
  · rw [oq q (by omega)]
    exact h.2.2.1 q hq
theorem zP.push {s0 : State} {D : zD} {σ : zH} {H H1 : Heap} {a : Nat} {e : zE} (h : zP s0 D σ H) (ha : a = H.size) (he : zat s0 D a e H1) (hz : H1.size = H.size + 1) (oq : ∀ q : Nat, q < H.size → H1[q]? = H[q]?) : zP s0 D (zset σ a e) H1 := by
  have h0 := h.2.1
  refine ⟨fun b e' hb => ?_, by omega, fun q hq => ?_, h.2.2.2⟩
  · by_cases hba : b = a
    · subst hba
      simp [zset] at hb
      subst hb
      exact ⟨he, fun _ => by omega⟩
    · simp [zset, hba] at hb
      exact ⟨(h.1 b e' hb).1.kept (oq b (h.1 b e' hb).1.lt), (h.1 b e' hb).2⟩
  · rw [oq q (by omega)]
    exact h.2.2.1 q hq
/-- the words that don't ride in the lists: links of nest mates and the like -/
def zNw (w : Cond) : Bool := match w with
  | .fieldLinkNest .. => true
  | .methodLinkNest .. => true
  | .castable .. => true
  | .declares .. => true
  | _ => false
def zA (s0 : State) : Nat → Prop := fun q => s0.heap.size ≤ q
def zly (n d : String) : MethodName := ⟨"java/util/List", n, d⟩
def zay (n d : String) : MethodName := ⟨"java/util/ArrayList", n, d⟩
/-- the interface's methods that are called, with ArrayList's -/
def zIfs : List (MethodName × MethodName) := [(zly "size" "()I", zay "size" "()I"), (zly "get" "(I)Ljava/lang/Object;", zay "get" "(I)Ljava/lang/Object;"), (zly "add" "(Ljava/lang/Object;)Z", zay "add" "(Ljava/lang/Object;)Z"), (zly "isEmpty" "()Z", zay "isEmpty" "()Z"), (zly "addAll" "(Ljava/util/Collection;)Z", zay "addAll" "(Ljava/util/Collection;)Z"), (zly "remove" "(I)Ljava/lang/Object;", zay "remove" "(I)Ljava/lang/Object;"), (⟨"java/util/Collection", "toArray", "()[Ljava/lang/Object;"⟩, zay "toArray" "()[Ljava/lang/Object;")]
/-- statics, class objects, arrays of references, the interface List -/
def zSt (s0 : State) (G : Nat → Nat) (U : State) : Prop :=
  va_Z "DomainLinks" "GREATEST_VALUES" "[I" (.ref (G 0)) (zA s0) U s0.heap ∧ va_Z "java/lang/Integer$IntegerCache" "cache" "[Ljava/lang/Integer;" (.ref (G 1)) (zA s0) U s0.heap ∧ va_Z "java/util/ArrayList" "DEFAULTCAPACITY_EMPTY_ELEMENTDATA" "[Ljava/lang/Object;" (.ref (G 2)) (zA s0) U s0.heap ∧ va_Z "java/lang/Integer$IntegerCache" "high" "I" (.int 127) (zA s0) U s0.heap ∧
  vx_Zq Bundle.tN "UNASSIGNED_STACK" Bundle.steD (zA s0) U s0.heap ∧ vx_Zq Bundle.tN "SUPPRESSED_SENTINEL" Bundle.listD (zA s0) U s0.heap ∧ va_Mi "[Ljava/lang/Object;" (G 3) U ∧ va_Dc U ∧ va_AO "java/lang/Object" U ∧ va_AO "DomainLinks$Shared" U ∧ ∀ q ∈ zIfs, va_Fw "java/util/ArrayList" q.1 q.2 U
theorem zIfs_ok : ∀ q ∈ zIfs, q.1.cls ≠ "java/lang/invoke/MethodHandle" ∧ q.1.cls ≠ "java/lang/invoke/VarHandle" := by decide
theorem zSt.moved {s0 : State} {G : Nat → Nat} {u U : State} (hvm : u.vm.Alike U.vm) (h : zSt s0 G u) : zSt s0 G U := by
  obtain ⟨h1, h2, h3, h4, h5, h6, h7, h8, h9, h10, h11⟩ := h
  exact ⟨h1.moved hvm, h2.moved hvm, h3.moved hvm, h4.moved hvm, h5.moved hvm, h6.moved hvm, h7.moved hvm, h8.moved hvm, h9.moved hvm, h10.moved hvm, fun q hq => (h11 q hq).moved (zIfs_ok q hq) hvm⟩
/-- the call sites of lambdas: their method, place, pool entry, whether they capture a boolean -/
def zls (j : Nat) : MethodName × Nat × Nat × Bool := match j with
  | 0 => (yX1_when, 37, 263, true)
  | 1 => (yX1_sets, 37, 271, true)
  | 2 => (yX1_within, 27, 272, false)
  | 3 => (yX1_measure, 48, 275, true)
  | 4 => (yX1_member, 35, 276, false)
  | 5 => (yX1_joined, 35, 277, false)
  | 6 => (yX1_prefix, 27, 278, false)
  | _ => (yX1_letter, 35, 279, false)
def zlsn (j : Nat) : String := match j with
  | 0 => "lambda$when$0"
  | 1 => "lambda$sets$1"
  | 2 => "lambda$within$2"
  | 3 => "lambda$measure$3"
  | 4 => "lambda$member$4"
  | 5 => "isJoined"
  | 6 => "lambda$prefix$5"
  | _ => "isLetter"
def zlsc (j : Nat) : List FieldType := if (zls j).2.2.2 then [.boolean] else []
/-- their shapes -/
def zsh (j : Nat) : Jvm.Lambda.Shape := { iface := "DomainLinks$Relation", name := "holds", sam := ⟨[.int, .int, .int], some .boolean⟩, captured := zlsc j, kind := 6, implClass := "DomainLinks", implName := zlsn j, implDesc := ⟨zlsc j ++ [.int, .int, .int], some .boolean⟩, implItf := false, inst := ⟨[.int, .int, .int], some .boolean⟩ }
/-- a site is linked to a class of the rule's making -/
def zLs (D : zD) (j : Nat) (U : State) : Prop := ∃ (m : MethodId) (k : Class) (cf : ClassFile) (i0 p0 : Nat), U.methodNamed? (zls j).1 = some m ∧ U.vm.classes[m.cls]? = some k ∧ k.name = "DomainLinks" ∧ k.cf = some cf ∧ Jvm.Lambda.shapeOf? cf (zls j).2.2.1 = some (zsh j) ∧
  (k.callSites.find? fun y => y.1 == m.idx && y.2.1 == (zls j).2.1) = some (i0, p0, if (zls j).2.2.2 then .makes (D.1.1 (100 + j)) else .constant (D.2 (10 + j))) ∧ Jvm.Lambda.isMade { classPath := fun _ => none } U.vm m.cls (zsh j) (D.1.1 (100 + j)) = true ∧ U.lambdaCallable (zsh j) (D.1.1 (100 + j)) = true
/-- the interface's method that a lambda's object is asked by -/
def zLw (U : State) : Prop := (Cond.declares ⟨"DomainLinks$Relation", "holds", "(III)Z"⟩).before #[] U = true ∧ (Cond.interfaceMethod "DomainLinks$Relation" "DomainLinks$Relation" "holds" "(III)Z").before #[] U = true ∧
  ∃ (cur : ClassId) (ck : Class) (cf : ClassFile) (ci nt : Nat), U.vm.findClass "DomainLinks$Small" = some cur ∧ U.vm.classes[cur]? = some ck ∧ ck.cf = some cf ∧ cf.constantPool[15]? = some (.interfaceMethodref ci nt)
theorem zLw.moved {u U : State} (hvm : u.vm.Alike U.vm) (h : zLw u) : zLw U := by
  obtain ⟨h1, h2, cur, ck, cf, ci, nt, g1, g2, g3, g4⟩ := h
  obtain ⟨r, meth, hn, -⟩ := Cond.declares_spec h1
  have tr : ∀ {c : Cond}, c.onTables = true → c.before #[] (u.setVm U.vm) = true → c.before #[] U = true := by
    intro c hc h
    have e := Cond.onTables_vm (A := #[]) (A' := #[]) (U := u) (U' := U) U.vm c hc
    have hU : U.setVm U.vm = U := rfl
    rw [hU] at e
    rw [← e]
    exact h
  obtain ⟨ck', q1, q2⟩ := hvm.2.2 _ _ g2
  exact ⟨tr rfl (by rw [Cond.declares_setVm hvm]; exact h1), tr rfl (by rw [Cond.interfaceMethod_setVm hvm (r := r) hn (by decide)]; exact h2), cur, ck', cf, ci, nt, by rw [hvm.findClass]; exact g1, q1, by rw [q2]; exact g3, g4⟩
def zLm (D : zD) (U : State) : Prop := (Cond.arrayOver (.array .int)).before #[] U = true ∧ (∀ j, j < 8 → zLs D j U) ∧ zLw U
theorem zLs.warm {D : zD} {j : Nat} {s U : State} (hW : s.WarmedH U.vm) (h : zLs D j s) : zLs D j U := by
  obtain ⟨m, k, cf, i0, p0, h1, h2, h3, h4, h5, h6, h7, h8⟩ := h
  obtain ⟨k', hk', he⟩ := hW.alike.2.2 _ _ h2
  refine ⟨m, k', cf, i0, p0, ?_, hk', by rw [he]; exact h3, by rw [he]; exact h4, h5, by rw [he]; exact h6, Jvm.Lambda.isMade_warmer hW h7, ?_⟩
  · have := State.methodNamed?_setVm (s := s) hW.alike (zls j).1
    rw [h1] at this
    exact this
  · have hA := hW.alike
    simp only [State.lambdaCallable, hA.findClass, hA.assignable, hA.superclasses, hA.declaredIn] at h8 ⊢
    exact h8
theorem zAO_moved {u U : State} (hvm : u.vm.Alike U.vm) (h : (Cond.arrayOver (.array .int)).before #[] u = true) : (Cond.arrayOver (.array .int)).before #[] U = true := by
  have hs : ∃ comp c k, u.vm.findClass (FieldType.array .int).toString = some comp ∧ (u.vm.classes.findIdx? fun (x : Class) => match x.kind with | .array component _ => component == comp | _ => false) = some c ∧ u.vm.classes[c]? = some k ∧ k.kind = .array comp (.array .int) ∧ u.vm.findClass ("[" ++ (FieldType.array .int).toString) = some c := by
    unfold Cond.before Cond.holds at h
    simp only [Cond.value, beq_iff_eq] at h
    cases hc : u.vm.findClass (FieldType.array .int).toString with
    | none => simp [hc] at h
    | some comp =>
      simp only [hc, Option.bind_some, Option.bind_eq_some_iff, Option.map_eq_some_iff] at h
      obtain ⟨c, hi, k, hk, hb⟩ := h
      obtain ⟨hlt, hp, -⟩ := Array.findIdx?_eq_some_iff_getElem.mp hi
      have hkk : u.vm.classes[c] = k := (Array.getElem?_eq_some_iff.mp hk).2
      rw [hkk] at hp
      cases hkind : k.kind with
      | array component ty =>
        rw [hkind] at hb hp
        simp at hb hp
        exact ⟨comp, c, k, rfl, hi, hk, by rw [hkind, hp, hb.1], hb.2⟩
      | _ => rw [hkind] at hb; simp at hb
  obtain ⟨comp, c, k, h1, h2, h3, h4, h5⟩ := hs
  obtain ⟨k', hk', he⟩ := hvm.2.2 _ _ h3
  have hi : (U.vm.classes.findIdx? fun (x : Class) => match x.kind with | .array component _ => component == comp | _ => false) = some c := by
    refine (va_idx_bare U.vm comp).symm.trans ?_
    first | rw [hvm.bare_eq] | rw [← hvm.bare_eq]
    exact (va_idx_bare u.vm comp).trans h2
  have hkind : k'.kind = .array comp (.array .int) := by rw [he]; exact h4
  have f1 : U.vm.findClass (FieldType.array .int).toString = some comp := by rw [hvm.findClass]; exact h1
  have f2 : U.vm.findClass ("[" ++ (FieldType.array .int).toString) = some c := by rw [hvm.findClass]; exact h5
  unfold Cond.before Cond.holds
  simp only [Cond.value]
  rw [f1, Option.bind_some]
  refine (congrArg (fun o : Option Nat => (o.bind (fun c => (U.vm.classes[c]?).map fun (k : Class) => match k.kind with | .array _ ty => decide (ty = FieldType.array .int) && decide (U.vm.findClass ("[" ++ (FieldType.array .int).toString) = some c) | _ => false) == some true)) hi).trans ?_
  simp [hk', hkind, f2]
theorem zLm.warm {D : zD} {s U : State} (hW : s.WarmedH U.vm) (h : zLm D s) : zLm D U := ⟨zAO_moved hW.alike h.1, fun j hj => (h.2.1 j hj).warm hW, h.2.2.moved hW.alike⟩
theorem zLm.same {D : zD} {s U : State} (e : s.vm = U.vm) (h : zLm D s) : zLm D U := h.warm (by rw [← e]; exact State.WarmedH.refl s)
/-- what every method is told of the tables -/
def zCtx (s0 : State) (D : zD) (U : State) : Prop := s0.vm.Alike U.vm ∧ va_K D.1 zcl [] U ∧ (∀ w ∈ lw_tbl, zNw w = true → va_Nw w U) ∧ zSt s0 D.2 U ∧ zLm D U
abbrev zC : Type := (State × zD) × (Program × Launch × Env × Room × State × MethodId) × (Array Value × List Frame × Method × Code) × (State → Prop) × Nat
def zOk (K : zC) (own : String) (cc : ByteArray) (ret : Option FieldType) (nL fr lo mc ms : Nat) : Prop := match K with
  | ((s0, D), (p, _, _, R, s, m), (args, _, meth, c), _, nL0) => p.tables.exec = Jvm.exec ∧ c.code = cc ∧ meth.sig.returnType = ret ∧ c.maxLocals = nL ∧ s.vm.findClass own = some m.cls ∧ (∀ w ∈ lw_all, w.before args s = true) ∧ meth.locks = false ∧ zCtx s0 D s ∧ nL0 = nL ∧ R = { frames := fr, cells := mc, slots := ms, locals := lo } ∧ s0.heap.size ≤ s.heap.size ∧ (∀ q : Nat, q < s0.heap.size → s.heap[q]? = s0.heap[q]?)
/-- the judgement: from pc, with the locals lv and the stack stk, the heap sigma, its size sz, with k cells of n slots made so far -/
def VW (K : zC) (σ : zH) (sz k n pc : Nat) (lv : List (Nat × Value)) (stk : List Value) : Prop := match K with
  | ((s0, D), (p, l, e, R, s, m), (args, below, meth, c), Q, nL) => ∀ (H : Heap) (locs : List Loc) (ls : Array Slot), zP s0 D σ H → (H.size = sz ∧ s.heap.size ≤ sz) → (∀ q ∈ locs, s0.heap.size ≤ q.base) → lv_has ls nL lv → W p l e R s m args below meth c H locs k n Q (F0 m pc ls stk)
theorem VW.sub {K : zC} {σ : zH} {sz k n pc : Nat} {lv lv' : List (Nat × Value)} {stk : List Value} (h : VW K σ sz k n pc lv' stk) (is : List Nat) (hs : lv_pick lv is = lv') : VW K σ sz k n pc lv stk := by
  obtain ⟨⟨s0, D⟩, ⟨p, l, e, R, s, m⟩, ⟨args, below, meth, c⟩, Q, nL⟩ := K
  exact fun H locs ls hP hz hlo hl => h H locs ls hP hz hlo (lv_sub hl is hs)
theorem VW.widen {K : zC} {σ : zH} {sz k n pc : Nat} {lv : List (Nat × Value)} {stk : List Value} (k' n' : Nat) (h : VW K σ sz k' n' pc lv stk) (hk : k ≤ k') (hn : n ≤ n') : VW K σ sz k n pc lv stk := by
  obtain ⟨⟨s0, D⟩, ⟨p, l, e, R, s, m⟩, ⟨args, below, meth, c⟩, Q, nL⟩ := K
  exact fun H locs ls hP hz hlo hl => W.widen hk hn (h H locs ls hP hz hlo hl)
theorem zble2 {a b c d : Nat} (h1 : a ≤ b) (h2 : c ≤ d) : (Nat.ble a b && Nat.ble c d) = true := by
  rw [Bool.and_eq_true, Nat.ble_eq, Nat.ble_eq]
  exact ⟨h1, h2⟩