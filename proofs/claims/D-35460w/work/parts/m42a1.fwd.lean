/-! FWD: the made class's method: it calls the lambda's own -/
set_option maxRecDepth 100000
def zB0 : ByteArray := ⟨#[0x1b, 0x1c, 0x1d, 0xb8, 0x00, 0x11, 0xac]⟩
theorem zB0_0 : decode zB0 0 = .ok (.iload_n 1, 1) := by decide +kernel
theorem zB0_1 : decode zB0 1 = .ok (.iload_n 2, 1) := by decide +kernel
theorem zB0_2 : decode zB0 2 = .ok (.iload_n 3, 1) := by decide +kernel
theorem zB0_3 : decode zB0 3 = .ok (.invokestatic 17, 3) := by decide +kernel
theorem zB0_6 : decode zB0 6 = .ok (.ireturn, 1) := by decide +kernel
def zB1 : ByteArray := ⟨#[0x2a, 0xb4, 0x00, 0x0f, 0x1b, 0x1c, 0x1d, 0xb8, 0x00, 0x17, 0xac]⟩
theorem zB1_0 : decode zB1 0 = .ok (.aload_n 0, 1) := by decide +kernel
theorem zB1_1 : decode zB1 1 = .ok (.getfield 15, 3) := by decide +kernel
theorem zB1_4 : decode zB1 4 = .ok (.iload_n 1, 1) := by decide +kernel
theorem zB1_5 : decode zB1 5 = .ok (.iload_n 2, 1) := by decide +kernel
theorem zB1_6 : decode zB1 6 = .ok (.iload_n 3, 1) := by decide +kernel
theorem zB1_7 : decode zB1 7 = .ok (.invokestatic 23, 3) := by decide +kernel
theorem zB1_10 : decode zB1 10 = .ok (.ireturn, 1) := by decide +kernel
section ZF
variable {p : Program} {l : Launch} {e : Env} {R : Room} {s : State} {m : MethodId} {args : Array Value} {below : List Frame} {meth : Method} {c : Code} {T : State} {locs : List Loc} {cells slots : Nat}
theorem zfwd0 (X : Stand p l e R s m args below meth c T locs cells slots) (hexec : p.tables.exec = Jvm.exec) {g : JFrame} (hg : g.method = m) (hsize : g.locals.size = c.maxLocals) {ig : Instr} {len : Nat} (hdg : decode c.code g.pc = .ok (ig, len))
    {mk : MethodId} {methk : Method} {ck : Code} (hmk : T.vm.method? mk = some methk) (hck : methk.code = some ck) (hbytes : ck.code = zB0) (hml : ck.maxLocals = 4) (hlk : methk.locks = false) (hpk : T.plainMethod mk) (hretk : methk.sig.returnType = some .boolean)
    {t : MethodId} {kt : Class} {metht : Method} (href : plainRef T e mk.cls 17) (hready : T.vm.methodReady mk.cls 17 t) (hkt : T.vm.classes[t.cls]? = some kt) (hmt : T.vm.method? t = some metht)
    (hpoly : signaturePolymorphic kt metht = false) (hstatic : metht.isStatic = true) (hinit : kt.init = .initialized) (hpar : metht.sig.parameters.length = 3)
    {a : Addr} {x y z r : Int32} (hr : r = 0 ∨ r = 1) {R' : Room} {yn : MethodName} (hnm : T.methodNamed? yn = some t) {Pre : Jvm.Free.Pt → Array Value → Prop} {Post : Jvm.Free.Pt → Array Value → Option Value → Jvm.Free.Pt → Prop}
    (hK : Jvm.Free.Back l R' p e (.java g :: below) (T.calling g mk #[.ref a, .int x, .int y, .int z]) #[.ref a, .int x, .int y, .int z] yn 3 8 Pre Post)
    (hpre : ∀ U : State, U.heap = T.heap → U.vm = T.vm → Pre ⟨U, [], 0, 0⟩ #[.int x, .int y, .int z])
    {P : Heap → List Loc → Prop} (hpost : ∀ A v B, A.locs = [] → A.cells = 0 → A.slots = 0 → Post A #[.int x, .int y, .int z] v B → v = some (.int r) ∧ P B.U.heap B.locs ∧ B.cells = 0 ∧ B.slots = 0)
    (hframes : R'.frames + 1 ≤ R.frames) (hlocals : 2 * g.monitorRoom + (g.stack.map fun v => v.category).sum + (ck.maxLocals + 11) + R'.locals ≤ R.locals) (hcells : cells + R'.cells ≤ R.cells) (hslots : slots + R'.slots ≤ R.slots) :
    ∃ (T' : State) (L : List Loc), Stand p l e R s m args below meth c T' (locs ++ L) (cells + 0) (slots + 0) ∧ P T'.heap L ∧
      ∀ acts, Steps p.tables e below (doInvoke e (T.setTop g) acts mk #[.ref a, .int x, .int y, .int z]).1 (T'.setTop { g with pc := g.pc + len, stack := [.int r] ++ g.stack }) := by
  obtain ⟨Y₀, hin⟩ := X.into hg hsize hdg #[.ref a, .int x, .int y, .int z] (R' := R') hmk hck hlk hpk hframes hlocals hcells hslots
  generalize hU : (T.setTop g).pushFrame (.java (entryFrame mk #[.ref a, .int x, .int y, .int z] ck.maxLocals)) = U at Y₀ hin
  have hvm : U.vm = T.vm := by rw [← hU]; rfl
  have hheap : U.heap = T.heap := by rw [← hU]; rfl
  obtain ⟨v, B, Y₁, hq, hsteps⟩ := hK mk methk ck ⟨U, [], 0, 0⟩ { method := mk, pc := 3, locals := #[.val (.ref a), .val (.int x), .val (.int y), .val (.int z)], stack := [], locked := none } (.invokestatic 17) t #[.int x, .int y, .int z] Y₀ rfl (by rw [hml]; rfl) (by rw [hbytes]; exact zB0_3) (by show 2 * 0 + 0 ≤ 8; omega) (by rw [← hU]; exact hnm) (hpre U hheap hvm)
  obtain ⟨rfl, hP, hc0, hs0⟩ := hpost _ _ _ rfl rfl rfl hq
  obtain ⟨fs, hleave, -, hended, hWe, hsame⟩ := Y₁.leave (v := some (.int r)) (fun h => by rw [hretk] at h; cases h) hlk
  obtain ⟨T', X', hW', -, ht⟩ := X.outOf hg hdg hended hWe hsame
  rw [hc0, hs0] at X'
  have hh : T'.heap = B.U.heap := by
    have := congrArg State.heap ht
    exact this.symm
  refine ⟨T', B.locs, X', by rw [hh]; exact hP, fun acts => ?_⟩
  rw [hin acts]
  show Steps p.tables e below _ (T'.setTop { g with pc := g.pc + len, stack := (some (Value.int r)).toList ++ g.stack })
  rw [← ht]
  refine Jvm.Steps.weaken (mid := [.java g]) ?_
  have hloc : entryFrame mk #[.ref a, .int x, .int y, .int z] ck.maxLocals = { method := mk, pc := 0, locals := #[.val (.ref a), .val (.int x), .val (.int y), .val (.int z)], stack := [], locked := none } := by rw [hml]; rfl
  rw [hloc]
  have hs : U.topJava?.isSome := Y₀.here.top
  jvm_step Y₀.here [hexec, hbytes, zB0_0]
  jvm_step Y₀.here [hexec, hbytes, zB0_1]
  jvm_step Y₀.here [hexec, hbytes, zB0_2]
  jvm_step Y₀.here [hexec, hbytes, zB0_3, invokestatic.wp_ready (e := e) (s := U) (m := t) (k := kt) (meth := metht) (args := [.int x, .int y, .int z]) (rest := [])
    (f := { method := mk, pc := 3, locals := #[.val (.ref a), .val (.int x), .val (.int y), .val (.int z)], stack := [.int z, .int y, .int x], locked := none }) hs (by rw [← hU]; exact href) (by rw [hvm]; exact hready) (by rw [hvm]; exact hkt) (by rw [hvm]; exact hmt) hpoly hstatic hinit hpar.symm rfl]
  intro acts'
  rw [doInvoke_state]
  refine hsteps.trans ?_
  have hn : narrow .boolean (.int r) = .int r := by rcases hr with rfl | rfl <;> rfl
  show Steps p.tables e (.java g :: below) (B.U.setTop { method := mk, pc := 6, locals := #[.val (.ref a), .val (.int x), .val (.int y), .val (.int z)], stack := [.int r], locked := none }) _
  jvm_step Y₁.here [Y₁.here.top, hexec, hbytes, zB0_6, Y₁.method', hretk, hn]
  intro acts''
  rw [hleave { method := mk, pc := 6, locals := #[.val (.ref a), .val (.int x), .val (.int y), .val (.int z)], stack := [], locked := none } acts'' rfl rfl rfl]
  exact Steps.refl _
theorem zfwd1 (X : Stand p l e R s m args below meth c T locs cells slots) (hexec : p.tables.exec = Jvm.exec) {g : JFrame} (hg : g.method = m) (hsize : g.locals.size = c.maxLocals) {ig : Instr} {len : Nat} (hdg : decode c.code g.pc = .ok (ig, len))
    {mk : MethodId} {methk : Method} {ck : Code} (hmk : T.vm.method? mk = some methk) (hck : methk.code = some ck) (hbytes : ck.code = zB1) (hml : ck.maxLocals = 4) (hlk : methk.locks = false) (hpk : T.plainMethod mk) (hretk : methk.sig.returnType = some .boolean)
    {t : MethodId} {kt : Class} {metht : Method} (href : plainRef T e mk.cls 23) (hready : T.vm.methodReady mk.cls 23 t) (hkt : T.vm.classes[t.cls]? = some kt) (hmt : T.vm.method? t = some metht)
    (hpoly : signaturePolymorphic kt metht = false) (hstatic : metht.isStatic = true) (hinit : kt.init = .initialized) (hpar : metht.sig.parameters.length = 4)
    {a : Addr} {cellK : Cell} {f1 : Field} (hcellK : T.heap[a]? = some cellK) (hknown : cellK.vm ≠ .unknown) (hf1 : T.vm.fieldReady mk.cls 15 mk.cls f1) (hf1s : f1.isStatic = false) {w : Int32} (hslot1 : cellK.slots[f1.slot]? = some (.int w)) {x y z r : Int32} (hr : r = 0 ∨ r = 1) {R' : Room} {yn : MethodName} (hnm : T.methodNamed? yn = some t) {Pre : Jvm.Free.Pt → Array Value → Prop} {Post : Jvm.Free.Pt → Array Value → Option Value → Jvm.Free.Pt → Prop}
    (hK : Jvm.Free.Back l R' p e (.java g :: below) (T.calling g mk #[.ref a, .int x, .int y, .int z]) #[.ref a, .int x, .int y, .int z] yn 3 8 Pre Post)
    (hpre : ∀ U : State, U.heap = T.heap → U.vm = T.vm → Pre ⟨U, [], 0, 0⟩ #[.int w, .int x, .int y, .int z])
    {P : Heap → List Loc → Prop} (hpost : ∀ A v B, A.locs = [] → A.cells = 0 → A.slots = 0 → Post A #[.int w, .int x, .int y, .int z] v B → v = some (.int r) ∧ P B.U.heap B.locs ∧ B.cells = 0 ∧ B.slots = 0)
    (hframes : R'.frames + 1 ≤ R.frames) (hlocals : 2 * g.monitorRoom + (g.stack.map fun v => v.category).sum + (ck.maxLocals + 11) + R'.locals ≤ R.locals) (hcells : cells + R'.cells ≤ R.cells) (hslots : slots + R'.slots ≤ R.slots) :
    ∃ (T' : State) (L : List Loc), Stand p l e R s m args below meth c T' (locs ++ L) (cells + 0) (slots + 0) ∧ P T'.heap L ∧
      ∀ acts, Steps p.tables e below (doInvoke e (T.setTop g) acts mk #[.ref a, .int x, .int y, .int z]).1 (T'.setTop { g with pc := g.pc + len, stack := [.int r] ++ g.stack }) := by
  obtain ⟨Y₀, hin⟩ := X.into hg hsize hdg #[.ref a, .int x, .int y, .int z] (R' := R') hmk hck hlk hpk hframes hlocals hcells hslots
  generalize hU : (T.setTop g).pushFrame (.java (entryFrame mk #[.ref a, .int x, .int y, .int z] ck.maxLocals)) = U at Y₀ hin
  have hvm : U.vm = T.vm := by rw [← hU]; rfl
  have hheap : U.heap = T.heap := by rw [← hU]; rfl
  obtain ⟨v, B, Y₁, hq, hsteps⟩ := hK mk methk ck ⟨U, [], 0, 0⟩ { method := mk, pc := 7, locals := #[.val (.ref a), .val (.int x), .val (.int y), .val (.int z)], stack := [], locked := none } (.invokestatic 23) t #[.int w, .int x, .int y, .int z] Y₀ rfl (by rw [hml]; rfl) (by rw [hbytes]; exact zB1_7) (by show 2 * 0 + 0 ≤ 8; omega) (by rw [← hU]; exact hnm) (hpre U hheap hvm)
  obtain ⟨rfl, hP, hc0, hs0⟩ := hpost _ _ _ rfl rfl rfl hq
  obtain ⟨fs, hleave, -, hended, hWe, hsame⟩ := Y₁.leave (v := some (.int r)) (fun h => by rw [hretk] at h; cases h) hlk
  obtain ⟨T', X', hW', -, ht⟩ := X.outOf hg hdg hended hWe hsame
  rw [hc0, hs0] at X'
  have hh : T'.heap = B.U.heap := by
    have := congrArg State.heap ht
    exact this.symm
  refine ⟨T', B.locs, X', by rw [hh]; exact hP, fun acts => ?_⟩
  rw [hin acts]
  show Steps p.tables e below _ (T'.setTop { g with pc := g.pc + len, stack := (some (Value.int r)).toList ++ g.stack })
  rw [← ht]
  refine Jvm.Steps.weaken (mid := [.java g]) ?_
  have hloc : entryFrame mk #[.ref a, .int x, .int y, .int z] ck.maxLocals = { method := mk, pc := 0, locals := #[.val (.ref a), .val (.int x), .val (.int y), .val (.int z)], stack := [], locked := none } := by rw [hml]; rfl
  rw [hloc]
  have hs : U.topJava?.isSome := Y₀.here.top
  jvm_step Y₀.here [hexec, hbytes, zB1_0, Value.isRef]
  jvm_step Y₀.here [hexec, hbytes, zB1_1, getfield.wp_ready (e := e) (s := U) (c := mk.cls) (field := f1) (a := a) (rest := []) (cell := cellK) (v := .int w)
    (f := { method := mk, pc := 1, locals := #[.val (.ref a), .val (.int x), .val (.int y), .val (.int z)], stack := [.ref a], locked := none }) hs (by rw [hvm]; exact hf1) hf1s rfl (by rw [hheap]; exact hcellK) hknown hslot1]
  jvm_step Y₀.here [hexec, hbytes, zB1_4]
  jvm_step Y₀.here [hexec, hbytes, zB1_5]
  jvm_step Y₀.here [hexec, hbytes, zB1_6]
  jvm_step Y₀.here [hexec, hbytes, zB1_7, invokestatic.wp_ready (e := e) (s := U) (m := t) (k := kt) (meth := metht) (args := [.int w, .int x, .int y, .int z]) (rest := [])
    (f := { method := mk, pc := 7, locals := #[.val (.ref a), .val (.int x), .val (.int y), .val (.int z)], stack := [.int z, .int y, .int x, .int w], locked := none }) hs (by rw [← hU]; exact href) (by rw [hvm]; exact hready) (by rw [hvm]; exact hkt) (by rw [hvm]; exact hmt) hpoly hstatic hinit hpar.symm rfl]
  intro acts'
  rw [doInvoke_state]
  refine hsteps.trans ?_
  have hn : narrow .boolean (.int r) = .int r := by rcases hr with rfl | rfl <;> rfl
  show Steps p.tables e (.java g :: below) (B.U.setTop { method := mk, pc := 10, locals := #[.val (.ref a), .val (.int x), .val (.int y), .val (.int z)], stack := [.int r], locked := none }) _
  jvm_step Y₁.here [Y₁.here.top, hexec, hbytes, zB1_10, Y₁.method', hretk, hn]
  intro acts''
  rw [hleave { method := mk, pc := 10, locals := #[.val (.ref a), .val (.int x), .val (.int y), .val (.int z)], stack := [], locked := none } acts'' rfl rfl rfl]
  exact Steps.refl _
end ZF
