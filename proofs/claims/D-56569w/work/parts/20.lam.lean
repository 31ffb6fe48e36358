theorem lm_weaken {tb : Tables} {e : Env} {mid below : List Frame} {a b : State} (h : Steps tb e (mid ++ below) a b) : Steps tb e below a b := by
  obtain ⟨n, hn, w⟩ := h
  exact ⟨n, hn, fun k hk => (w k hk).weaken⟩
theorem lm_nest {p : Program} {l : Launch} {e : Env} {R : Room} {s : State} {m : MethodId} {args : Array Value} {below : List Frame} {meth : Method} {c : Code} {T : State} {locs : List Loc} {cells slots : Nat}
    (X : Stand p l e R s m args below meth c T locs cells slots) (hexec : p.tables.exec = Jvm.exec) {g : JFrame} (hg : g.method = m) (hsize : g.locals.size = c.maxLocals) {ig : Instr} {len : Nat} (hdg : decode c.code g.pc = .ok (ig, len))
    {mk : MethodId} {methk : Method} {ck : Code} (hmk : T.vm.method? mk = some methk) (hck : methk.code = some ck) (hlk : methk.locks = false) (hpk : T.plainMethod mk) (hretk : methk.sig.returnType = some .int)
    {a : Array Value} {R' : Room} (hframes : R'.frames + 1 ≤ R.frames) (hlocals : 2 * g.monitorRoom + (g.stack.map fun v => v.category).sum + (ck.maxLocals + 11) + R'.locals ≤ R.locals) (hcells : cells + R'.cells ≤ R.cells) (hslots : slots + R'.slots ≤ R.slots)
    {Post : State → List Loc → Nat → Nat → Int32 → Prop}
    (hrun : ∀ U, Stand p l e R' (T.calling g mk a) mk a (.java g :: below) methk ck U [] 0 0 → U = (T.setTop g).pushFrame (.java (entryFrame mk a ck.maxLocals)) →
      ∃ (V : State) (L : List Loc) (k n : Nat) (r : Int32) (pc : Nat) (ls : Array Slot), Stand p l e R' (T.calling g mk a) mk a (.java g :: below) methk ck V L k n ∧ Post V L k n r ∧ decode ck.code pc = .ok (.ireturn, 1) ∧
        Steps p.tables e (.java g :: below) (U.setTop (entryFrame mk a ck.maxLocals)) (V.setTop { method := mk, pc := pc, locals := ls, stack := [.int r], locked := none })) :
    ∃ (V T' : State) (L : List Loc) (k n : Nat) (r : Int32), Post V L k n r ∧ Stand p l e R s m args below meth c T' (locs ++ L) (cells + k) (slots + n) ∧ T.WarmedH T'.vm ∧ T'.heap = V.heap ∧ T'.vm = V.vm ∧
      ∀ acts, Steps p.tables e below (doInvoke e (T.setTop g) acts mk a).1 (T'.setTop { g with pc := g.pc + len, stack := .int r :: g.stack }) := by
  obtain ⟨Y₀, hin⟩ := X.into hg hsize hdg a (R' := R') hmk hck hlk hpk hframes hlocals hcells hslots
  obtain ⟨V, L, k, n, r, pc, ls, Y₁, hpost, hd, hsteps⟩ := hrun _ Y₀ rfl
  obtain ⟨fs, hleave, -, hended, hWe, hsame⟩ := Y₁.leave (v := some (.int r)) (fun h => by rw [hretk] at h; cases h) hlk
  obtain ⟨T', X', hW', -, ht⟩ := X.outOf hg hdg hended hWe hsame
  have hheap : T'.heap = V.heap := by
    have h1 := congrArg State.heap ht
    exact (State.heap_setTop T' _).symm.trans (h1.symm.trans rfl)
  have hvm : T'.vm = V.vm := by
    have h1 := congrArg State.vm ht
    exact (State.vm_setTop T' _).symm.trans (h1.symm.trans rfl)
  refine ⟨V, T', L, k, n, r, hpost, X', hW', hheap, hvm, fun acts => ?_⟩
  rw [hin acts]
  show Steps p.tables e below _ (T'.setTop { g with pc := g.pc + len, stack := (some (Value.int r)).toList ++ g.stack })
  rw [← ht]
  refine lm_weaken (mid := [.java g]) (hsteps.trans ?_)
  jvm_step Y₁.here [Y₁.here.top, hexec, hd, Y₁.method', hretk, narrow]
  intro acts'
  rw [hleave { method := mk, pc := pc, locals := ls, stack := [], locked := none } acts' rfl rfl rfl]
  exact Steps.refl _
theorem lm_d00 : decode lm_c0 0 = .ok (.aload_n 1, 1) := by decide +kernel
theorem lm_d01 : decode lm_c0 1 = .ok (.invokestatic 17, 3) := by decide +kernel
theorem lm_d04 : decode lm_c0 4 = .ok (.ireturn, 1) := by decide +kernel
theorem lm_runS {p : Program} {l : Launch} {e : Env} {R : Room} {s : State} {mk : MethodId} {below : List Frame} {methk : Method} {ck : Code} {U : State} {b : Addr} {v1 : Value} (hv1 : v1.isRef = true)
    (Y : Stand p l e R s mk #[.ref b, v1] below methk ck U [] 0 0) (hexec : p.tables.exec = Jvm.exec) (hbytes : ck.code = lm_c0) (hml : ck.maxLocals = 2)
    {t : MethodId} {kt : Class} {metht : Method} (href : plainRef U e mk.cls 17) (hready : U.vm.methodReady mk.cls 17 t) (hkt : U.vm.classes[t.cls]? = some kt) (hmt : U.vm.method? t = some metht)
    (hpoly : signaturePolymorphic kt metht = false) (hstatic : metht.isStatic = true) (hinit : kt.init = .initialized) (hpar : metht.sig.parameters.length = 1)
    {y : MethodName} (hnamed : U.methodNamed? y = some t) {Pre : Pt → Array Value → Prop} {Post : Pt → Array Value → Option Value → Pt → Prop} (hK : Back l R p e below s #[.ref b, v1] y 3 0 Pre Post) (hpre : Pre ⟨U, [], 0, 0⟩ #[v1])
    (hint : ∀ v B, Post ⟨U, [], 0, 0⟩ #[v1] v B → ∃ r : Int32, v = some (.int r)) :
      ∃ (V : State) (L : List Loc) (k n : Nat) (r : Int32) (pc : Nat) (ls : Array Slot), Stand p l e R s mk #[.ref b, v1] below methk ck V L k n ∧ Post ⟨U, [], 0, 0⟩ #[v1] (some (.int r)) ⟨V, L, k, n⟩ ∧ decode ck.code pc = .ok (.ireturn, 1) ∧
        Steps p.tables e below (U.setTop (entryFrame mk #[.ref b, v1] ck.maxLocals)) (V.setTop { method := mk, pc := pc, locals := ls, stack := [.int r], locked := none }) := by
  obtain ⟨v, ⟨V, L, k, n⟩, Y₁, hpost, hsteps⟩ := hK mk methk ck ⟨U, [], 0, 0⟩ { method := mk, pc := 1, locals := #[.val (.ref b), .val v1], stack := [], locked := none } (.invokestatic 17) t #[v1] Y rfl (by rw [hml]; rfl) (by rw [hbytes]; exact lm_d01) (by show 2 * 0 + 0 ≤ 0; omega) hnamed hpre
  obtain ⟨r, rfl⟩ := hint _ _ hpost
  refine ⟨V, L, k, n, r, 4, #[.val (.ref b), .val v1], Y₁, hpost, by rw [hbytes]; exact lm_d04, ?_⟩
  have hs : U.topJava?.isSome := Y.here.top
  have hcat : v1.category = 1 := by cases v1 <;> simp [Value.isRef] at hv1 <;> rfl
  have hloc : entryFrame mk #[.ref b, v1] ck.maxLocals = { method := mk, pc := 0, locals := #[.val (.ref b), .val v1], stack := [], locked := none } := by
    rw [hml]
    cases v1 <;> simp [Value.isRef] at hv1 <;> rfl
  rw [hloc]
  jvm_step Y.here [hexec, hbytes, lm_d00, hv1]
  jvm_step Y.here [hexec, hbytes, lm_d01, invokestatic.wp_ready (e := e) (s := U) (m := t) (k := kt) (meth := metht) (args := [v1]) (rest := [])
    (f := { method := mk, pc := 1, locals := #[.val (.ref b), .val v1], stack := [v1], locked := none }) hs href hready hkt hmt hpoly hstatic hinit hpar.symm rfl]
  intro acts'
  rw [doInvoke_state]
  exact hsteps
theorem lm_d10 : decode lm_c1 0 = .ok (.aload_n 0, 1) := by decide +kernel
theorem lm_d11 : decode lm_c1 1 = .ok (.getfield 15, 3) := by decide +kernel
theorem lm_d14 : decode lm_c1 4 = .ok (.aload_n 1, 1) := by decide +kernel
theorem lm_d15 : decode lm_c1 5 = .ok (.invokevirtual 22, 3) := by decide +kernel
theorem lm_d18 : decode lm_c1 8 = .ok (.ireturn, 1) := by decide +kernel
theorem lm_runC {p : Program} {l : Launch} {e : Env} {R : Room} {s : State} {mk : MethodId} {below : List Frame} {methk : Method} {ck : Code} {U : State} {b b2 : Addr} {v1 : Value} (hv1 : v1.isRef = true)
    (Y : Stand p l e R s mk #[.ref b, v1] below methk ck U [] 0 0) (hexec : p.tables.exec = Jvm.exec) (hbytes : ck.code = lm_c1) (hml : ck.maxLocals = 2)
    {f0 : Field} {cf0 : ClassId} {cell cell2 : Cell} (hf : U.vm.fieldReady mk.cls 15 cf0 f0) (hfs : f0.isStatic = false) (hcell : U.heap[b]? = some cell) (hkn : cell.vm ≠ .unknown) (hsl : cell.slots[f0.slot]? = some (.ref b2))
    {t : MethodId} {kt : Class} {metht : Method} (hcn : namesAClass U mk.cls 22) (hready : U.vm.methodReady mk.cls 22 t) (hkt : U.vm.classes[t.cls]? = some kt) (hmt : U.vm.method? t = some metht)
    (hpoly : signaturePolymorphic kt metht = false) (hstatic : metht.isStatic = false) (hpar : metht.sig.parameters.length = 1)
    (hcell2 : U.heap[b2]? = some cell2) (hobj2 : ∀ c, cell2.vm ≠ .statics c) (hsel : selectMethod e.platform U.vm cell2.cls t = .method t) (habs : metht.isAbstract = false) (hitf : kt.isInterface = false)
    {y : MethodName} (hnamed : U.methodNamed? y = some t) {Pre : Pt → Array Value → Prop} {Post : Pt → Array Value → Option Value → Pt → Prop} (hK : Back l R p e below s #[.ref b, v1] y 3 0 Pre Post) (hpre : Pre ⟨U, [], 0, 0⟩ #[.ref b2, v1])
    (hint : ∀ v B, Post ⟨U, [], 0, 0⟩ #[.ref b2, v1] v B → ∃ r : Int32, v = some (.int r)) :
      ∃ (V : State) (L : List Loc) (k n : Nat) (r : Int32) (pc : Nat) (ls : Array Slot), Stand p l e R s mk #[.ref b, v1] below methk ck V L k n ∧ Post ⟨U, [], 0, 0⟩ #[.ref b2, v1] (some (.int r)) ⟨V, L, k, n⟩ ∧ decode ck.code pc = .ok (.ireturn, 1) ∧
        Steps p.tables e below (U.setTop (entryFrame mk #[.ref b, v1] ck.maxLocals)) (V.setTop { method := mk, pc := pc, locals := ls, stack := [.int r], locked := none }) := by
  obtain ⟨v, ⟨V, L, k, n⟩, Y₁, hpost, hsteps⟩ := hK mk methk ck ⟨U, [], 0, 0⟩ { method := mk, pc := 5, locals := #[.val (.ref b), .val v1], stack := [], locked := none } (.invokevirtual 22) t #[.ref b2, v1] Y rfl (by rw [hml]; rfl) (by rw [hbytes]; exact lm_d15) (by show 2 * 0 + 0 ≤ 0; omega) hnamed hpre
  obtain ⟨r, rfl⟩ := hint _ _ hpost
  refine ⟨V, L, k, n, r, 8, #[.val (.ref b), .val v1], Y₁, hpost, by rw [hbytes]; exact lm_d18, ?_⟩
  have hs : U.topJava?.isSome := Y.here.top
  have hloc : entryFrame mk #[.ref b, v1] ck.maxLocals = { method := mk, pc := 0, locals := #[.val (.ref b), .val v1], stack := [], locked := none } := by
    rw [hml]
    cases v1 <;> simp [Value.isRef] at hv1 <;> rfl
  rw [hloc]
  jvm_step Y.here [hexec, hbytes, lm_d10, Value.isRef]
  jvm_step Y.here [hexec, hbytes, lm_d11, getfield.wp_ready (e := e) (s := U) (f := { method := mk, pc := 1, locals := #[.val (.ref b), .val v1], stack := [.ref b], locked := none }) hs hf hfs rfl hcell hkn hsl]
  jvm_step Y.here [hexec, hbytes, lm_d14, hv1]
  jvm_step Y.here [hexec, hbytes, lm_d15, invokevirtual.wp_ready (e := e) (s := U) (r := t) (m := t) (k := kt) (mk := kt) (rmeth := metht) (meth := metht) (a := b2) (args := [v1]) (rest := []) (cell := cell2)
    (f := { method := mk, pc := 5, locals := #[.val (.ref b), .val v1], stack := [v1, .ref b2], locked := none }) hs hcn hready hkt hmt hpoly hstatic hpar.symm rfl hcell2 hobj2 hsel hmt habs hkt hitf]
  intro acts'
  rw [doInvoke_state]
  exact hsteps
abbrev lm_x : MethodName := ⟨"Plugboard$Asked", "of", "(LPlugboard$Shape;)I"⟩
theorem lm_call5 {p : Program} {l : Launch} {e : Env} {R : Room} {s : State} {m : MethodId} {args : Array Value} {below : List Frame} {meth : Method} {c : Code} {T : State} {locs : List Loc} {cells slots : Nat}
    (X : Stand p l e R s m args below meth c T locs cells slots) (hexec : p.tables.exec = Jvm.exec) {own : String} {index count : Nat} (hown : s.vm.findClass own = some m.cls) (hlink : (Cond.methodLink own index lm_x).before args s = true)
    (hdecl : (Cond.declares lm_x).before args s = true) (hface : (Cond.interfaceMethod lm_x.cls lm_x.cls lm_x.name lm_x.desc).before args s = true) {pc idx : Nat} {σ : Lambda.Shape} {cK : ClassId} {lk : Linked} (hlm : lm_at pc idx σ cK lk s)
    (hσ : σ.iface = "Plugboard$Asked" ∧ σ.name = "of" ∧ σ.sam.toString = "(LPlugboard$Shape;)I") {b : Addr} {cell : Cell} (hcell : T.heap[b]? = some cell) (hcls : cell.cls = cK) (hobj : ∀ z, cell.vm ≠ .statics z)
    {kK : Class} {methk : Method} (hkK : s.vm.classes[cK]? = some kK) (hmk : s.vm.method? ⟨cK, 1⟩ = some methk) (hfl : methk.accessFlags = 0x0001)
    {g : JFrame} (hg : g.method = m) {v1 : Value} {rest : List Value} (hstack : g.stack = v1 :: .ref b :: rest) (hdg : decode c.code g.pc = .ok (.invokeinterface index count, 5)) :
    ∃ vm', Stand p l e R s m args below meth c (T.setVm vm') locs cells slots ∧
      ∀ target, (∀ acts, Steps p.tables e below (doInvoke e ((T.setVm vm').setTop { g with stack := rest }) acts ⟨cK, 1⟩ #[.ref b, v1]).1 target) → Steps p.tables e below (T.setTop g) target := by
  obtain ⟨mD, kD, cfD, i0, p0, hmD, hkD, -, -, -, hmade, hcan⟩ := hlm
  subst hcls
  obtain ⟨r0, r, hn, hrm, hstR, hsigR⟩ := Cond.declares_spec hdecl
  obtain ⟨cL, kL, r1, hcL, hkL, hiL, hfoundL, hn1⟩ := Cond.interfaceMethod_spec hface
  cases hn.symm.trans hn1
  have hr0cls : r0.cls = cL := Option.some.inj ((findClass_of_methodNamed hn).symm.trans hcL)
  obtain ⟨hnameR, hdescR⟩ := name_of_methodNamed hn hrm
  obtain ⟨-, -, -, -, -, -, -, iface', -, -, -, -, found, -, -, -, -, -, hi', -, -, -, -, -, -, hfound', -, -, -, -, -, -, -, -, -, -, hsel⟩ := Lambda.isMade_spec hmade
  rw [hσ.1] at hi'
  cases hcL.symm.trans hi'
  have hfr : found = r0 := by
    have h1 : s.methodFound? "Plugboard$Asked" "of" "(LPlugboard$Shape;)I" = some r0 := hfoundL
    have hcL' : s.vm.findClass "Plugboard$Asked" = some cL := hcL
    simp only [State.methodFound?, hcL', hkL, hiL, Option.bind_eq_bind, Option.bind_some] at h1
    have h2 : ((methodIn cL "of" "(LPlugboard$Shape;)I" true none).ask { classPath := fun _ => none } s.vm).1 = .ok found := by
      have h3 := hfound'
      rw [hσ.2.1, hσ.2.2] at h3
      exact h3
    rw [h2] at h1
    exact Option.some.inj h1
  subst hfr
  obtain ⟨i2, hi2, hasg, hway⟩ := State.lambdaCallable_spec hcan
  rw [hσ.1] at hi2
  cases hcL.symm.trans hi2
  have hsigI : r.sig = ⟨[.object "Plugboard$Shape"], some .int⟩ := (Option.some.inj ((by decide +kernel : parseMethodDescriptor "(LPlugboard$Shape;)I" = some ⟨[.object "Plugboard$Shape"], some .int⟩).symm.trans hsigR)).symm
  exact X.invokeinterface hexec hown hlink hn hrm hstR (by rw [hr0cls]; exact hkL) hiL (by decide) (a := b) (cell := cell) (kcell := kK) hcell hobj hkK (by rw [hr0cls]; exact hasg)
    (m' := ⟨cell.cls, 1⟩) (meth' := methk) (by rw [Launch.admits_selectMethod X.admits]; exact hsel) hmk (by rw [hnameR, hdescR]; rw [hσ.2.1, hσ.2.2] at hway; exact hway) (by rw [hfl]; decide) (by simp [Method.isAbstract, hfl, hasFlag, Acc.abstract])
    (g := g) hg (argsL := [v1]) (rest := rest) (by rw [hsigI]; rfl) (by rw [hstack]; rfl) hdg
theorem lm_poly {kt : Class} (h : kt.name = "Plugboard$Board") (y : Method) : signaturePolymorphic kt y = false := by
  have h1 : kt.name ≠ "java/lang/invoke/MethodHandle" ∧ kt.name ≠ "java/lang/invoke/VarHandle" := by rw [h]; decide
  simp [signaturePolymorphic, h1.1, h1.2]
theorem lm_in0 {p : Program} {l : Launch} {e : Env} {R : Room} {s : State} {m : MethodId} {args : Array Value} {below : List Frame} {meth : Method} {c : Code} {T : State} {locs : List Loc} {cells slots : Nat}
    (X : Stand p l e R s m args below meth c T locs cells slots) (hexec : p.tables.exec = Jvm.exec) {d : ClassId} {dk : Class} {cK : ClassId} (hd : T.vm.classes[d]? = some dk) (hname : dk.name = "Plugboard$Board") (hmade : Lambda.isMade { classPath := fun _ => none } T.vm d lm_s0 cK = true)
    (hO : (Cond.instantiable "java/lang/Object" 0).before args T = true) {R' rm : Room} {mc ms maxL : Nat} {bytes : ByteArray} {ws : List Cond} {Pc : Array Value → State → Prop} {Qc : Array Value → State → Outcome → State → Prop} {free : Addr → Prop} {b : Addr} {v1 : Value} (hv1 : v1.isRef = true)
    (hM : Met l ⟨"Plugboard$Board", "lambda$outcome$0", "(LPlugboard$Shape;)I"⟩ ws rm Pc Qc mc ms free) (hblind : FrameBlind Pc) (hrc : rm.cells = mc) (hrs : rm.slots = ms) (hws : ∀ w ∈ ws, ∀ a' U, T.WarmedH U.vm → w.before a' U = true)
    (hcode : Cond.code ⟨"Plugboard$Board", "lambda$outcome$0", "(LPlugboard$Shape;)I"⟩ bytes maxL (some .int) ∈ ws) (hinit : ∀ a' U, T.WarmedH U.vm → (Cond.initialized "Plugboard$Board").before a' U = true) (hfr : rm.frames + 1 ≤ R'.frames) (hlo : 0 + (maxL + 11) + rm.locals ≤ R'.locals)
    (s' : State) (hs' : s'.WarmedH T.vm) (hs'' : ∀ U : State, s'.WarmedH U.vm → T.WarmedH U.vm) (below' : List Frame) (a : Array Value) :
    Back l R' p e below' s' a ⟨"Plugboard$Board", "lambda$outcome$0", "(LPlugboard$Shape;)I"⟩ 3 0 (PreOf R' mc ms Pc) (PostOf Qc mc ms free) :=
  back_of (bytes := bytes) (maxL := maxL) (ret := some .int) hM hblind hrc hrs hfr hlo (fun w hw a' U hW => hws w hw a' U (hs'' U hW)) hcode (fun a' U hW => hinit a' U (hs'' U hW))
