/-! Math.max(FF)F: the machine's own entry runs in the body's place -/
abbrev mf_y : MethodName := ⟨"java/lang/Math", "max", "(FF)F"⟩
def mf_row : NativeRow := (NativeRow.find? Native.java_lang_Math.nans.rows "java/lang/Math" "max" "(FF)F").get (by decide +kernel)
set_option maxRecDepth 100000 in
theorem mf_at (p : Program) : NativeRow.find? p.tables.natives "java/lang/Math" "max" "(FF)F" = some mf_row := by
  cases p <;> rfl
def mf_pick (a b : UInt32) : UInt32 := Native.java_lang_Math.nans.pick32 true a b
theorem mf_sem {a b : UInt32} (ha : FP.fIsNaN a = false) (hb : FP.fIsNaN b = false) (e : Env) (S : State) : ∃ acts, (mf_row.sem #[.float a, .float b]).run e S = .ok (some (.float (mf_pick a b))) S acts := by
  have hw : wpRun (mf_row.sem #[.float a, .float b]) (fun v t _ => v = some (.float (mf_pick a b)) ∧ t = S) (fun _ _ _ => False) e S := by
    rw [show mf_row.sem #[.float a, .float b] = (do
      let r ← if FP.fIsNaN a then anyNaN32 a else if FP.fIsNaN b then anyNaN32 b else Pure.pure (mf_pick a b)
      mark "nat.java_lang_Math.max/float"
      Pure.pure (some (.float r))) from rfl]
    simp [jvm, wpRun, ha, hb]
  have h2 := (wpRun_iff_run _ _ _ _ _).mp hw
  cases hr : (mf_row.sem #[.float a, .float b]).run e S with
  | ok v t acts => rw [hr] at h2; exact ⟨acts, by rw [h2.1, h2.2]⟩
  | ctl x t acts => rw [hr] at h2; cases x <;> exact h2.elim
theorem mf_over {tb : Tables} {e : Env} {s : State} {f : JFrame} {k : Class} {x : Method} {row : NativeRow} (h0 : f.pc = 0) (hk : s.vm.classes[f.method.cls]? = some k) (hin : k.name ∈ overriddenIn) (hb : k.loader = none) (hx : k.methods[f.method.idx]? = some x) (hr : NativeRow.find? tb.natives k.name x.name x.desc = some row) : overridden tb e s f = some row := by
  unfold overridden
  simp [h0, hk, hb, hx, hr]
  exact fun h => absurd hin h
section MF
variable {p : Program} {l : Launch} {e : Env} {R : Room} {s : State} {m : MethodId} {args : Array Value} {below : List Frame} {meth : Method} {c : Code} {locs : List Loc} {cells slots : Nat}
theorem mf_steps {T : State} (X : Stand p l e R s m args below meth c T locs cells slots) {g : JFrame} (hg : g.method = m) (hsize : g.locals.size = c.maxLocals) {mk : MethodId} {mm : Method} {cm : Code} {k : Class} {a b : UInt32} (ha : FP.fIsNaN a = false) (hb : FP.fIsNaN b = false)
    (hk : T.vm.classes[mk.cls]? = some k) (hx : k.methods[mk.idx]? = some mm) (hbt : k.loader = none) (hkn : k.name = "java/lang/Math") (hmn : mm.name = "max") (hmd : mm.desc = "(FF)F") (hn2 : mm.sig.parameters.length = 2) (hc : mm.code = some cm) (hml : cm.maxLocals = 2) (hlk : mm.locks = false)
    (hframes : 1 ≤ R.frames) (hlocals : 2 * g.monitorRoom + (g.stack.map fun v => v.category).sum + 13 ≤ R.locals) {ig : Instr} {len : Nat} (hdg : decode c.code g.pc = .ok (ig, len)) (acts : List Action) {target : State}
    (k9 : Steps p.tables e below (T.setTop { g with pc := g.pc + len, stack := .float (mf_pick a b) :: g.stack }) target) : Steps p.tables e below (doInvoke e (T.setTop g) acts mk #[.float a, .float b]).1 target := by
  subst hg
  obtain ⟨g0, h0⟩ := Option.isSome_iff_exists.mp X.here.top
  obtain ⟨r, hr⟩ := State.topJava?_eq_some.mp h0
  obtain ⟨mid, hmid⟩ := X.here.above
  have hcur : T.cur < T.threads.size := State.cur_lt_of_frames hr
  have hmeth : T.vm.method? mk = some mm := by simp [Vm.method?, hk, hx]
  have htop : T.setTop g = T.setFrames (.java g :: r) := State.setTop_of_frames _ hr
  have hfull := X.notFull (g := g) hsize (vars := cm.maxLocals) hframes (by rw [hml]; omega)
  rw [(doInvoke_java (s := T.setTop g) (e := e) (acts := acts) (args := #[.float a, .float b]) (meth := mm) (code := cm) hmeth hc hlk hfull).1, hml]
  rw [show (T.setTop g).pushFrame (.java { method := mk, pc := 0, locals := argsToLocals #[.float a, .float b] 2, stack := [], locked := none }) = T.setFrames (.java (entryFrame mk #[.float a, .float b] 2) :: .java g :: r) by
    rw [State.pushFrame, State.frames_setTop _ hr, htop, State.setFrames_setFrames]; rfl]
  have hf1 : (T.setFrames (.java (entryFrame mk #[.float a, .float b] 2) :: .java g :: r)).frames = .java (entryFrame mk #[.float a, .float b] 2) :: .java g :: r := State.frames_setFrames _ hcur
  have hov : overridden p.tables e (T.setFrames (.java (entryFrame mk #[.float a, .float b] 2) :: .java g :: r)) (entryFrame mk #[.float a, .float b] 2) = some mf_row := by
    exact mf_over rfl (by exact hk) (by rw [hkn]; decide) hbt (by exact hx) (by rw [hkn, hmn, hmd]; exact mf_at p)
  have hb2 : ∀ F : List Frame, ((T.setFrames F).vm.classes[mk.cls]?.bind fun y => y.methods[mk.idx]?) = some mm := by
    intro F
    show (T.vm.classes[mk.cls]?.bind fun y => y.methods[mk.idx]?) = some mm
    simp [hk, hx]
  have hb3 : (T.vm.classes[mk.cls]?.bind fun y => y.methods[mk.idx]?) = some mm := by simp [hk, hx]
  have htake : ∀ n : Nat, List.take (2 + n) [Value.float a, Value.float b] = [Value.float a, Value.float b] := fun n => List.take_of_length_le (Nat.le_add_right 2 n)
  obtain ⟨acts2, hr2⟩ := mf_sem ha hb e (T.setFrames (.native { method := mk, args := #[.float a, .float b] } :: .java g :: r))
  have hcode : ∀ F : List Frame, (T.setFrames F).code? g.method = some c := by
    intro F
    have h3 := X.here.code
    rw [State.code?_eq] at h3 ⊢
    simpa [State.setFrames] using h3
  have hfs : handOver (T.setFrames (.native { method := mk, args := #[.float a, .float b] } :: .java g :: r)) (some (.float (mf_pick a b))) (.java g :: r) = some (.java { g with pc := g.pc + len, stack := .float (mf_pick a b) :: g.stack } :: r) := by
    simp [handOver, hcode, hdg, Except.toOption]
  have hst : (stepThread p.tables e (T.setFrames (.java (entryFrame mk #[.float a, .float b] 2) :: .java g :: r))).1 = T.setTop { g with pc := g.pc + len, stack := .float (mf_pick a b) :: g.stack } := by
    unfold stepThread
    simp only [hf1, hov]
    simp [entryFrame, argsToLocals, Value.category, argCount, hb2, hb3, hn2, htake, hr2, afterNative]
    rw [doReturn_native (f := { method := mk, args := #[.float a, .float b] }) (below := .java g :: r) (State.frames_setFrames _ hcur) rfl hfs, State.setFrames_setFrames, ← State.setTop_of_frames _ hr]
  refine Steps.head ⟨X.here.running, by simpa using X.here.runnable, by simpa using X.here.alone⟩ ⟨.java (entryFrame mk #[.float a, .float b] 2) :: .java g :: mid, by rw [hf1]; rw [hr] at hmid; simp at hmid; simp [hmid], by simp, by simp⟩ ?_
  rw [hst]
  exact k9
theorem mf_max0 {T : State} (X : Stand p l e R s m args below meth c T locs cells slots) (hexec : p.tables.exec = Jvm.exec) {own : String} {index : Nat} {bytes : ByteArray} (hown : s.vm.findClass own = some m.cls) (hlink : (Cond.methodLink own index mf_y).before args s = true) (hstat : (Cond.static mf_y).before args s = true) (hinit : (Cond.initialized "java/lang/Math").before args s = true) (hcode : (Cond.code mf_y bytes 2 (some .float)).before args s = true)
    {g : JFrame} (hg : g.method = m) (hsize : g.locals.size = c.maxLocals) {rest : List Value} {a b : UInt32} (ha : FP.fIsNaN a = false) (hb : FP.fIsNaN b = false) (hstack : g.stack = .float b :: .float a :: rest) (hdg : decode c.code g.pc = .ok (.invokestatic index, 3)) (hframes : 1 ≤ R.frames) (hlocals : 2 * g.monitorRoom + (rest.map fun v => v.category).sum + 13 ≤ R.locals) :
    ∃ vm', Stand p l e R s m args below meth c (T.setVm vm') locs cells slots ∧ ∀ target, Steps p.tables e below ((T.setVm vm').setTop { g with pc := g.pc + 3, stack := .float (mf_pick a b) :: rest }) target → Steps p.tables e below (T.setTop g) target := by
  obtain ⟨mk, hn⟩ := Cond.code_named hcode
  obtain ⟨mm, cm, hm, hcm, -, hml, -, hlk, -, hsig⟩ := Cond.code_spec hn hcode
  obtain ⟨kP, hkP, hkn⟩ := className_of_methodNamed hn
  obtain ⟨hmn, hmd⟩ := name_of_methodNamed hn hm
  have hsig2 : parseMethodDescriptor mf_y.desc = some { parameters := [.float, .float], returnType := some .float } := by decide +kernel
  have hps : mm.sig.parameters.length = 2 := by
    rw [hsig2] at hsig
    rw [← Option.some.inj hsig]
    rfl
  have hini : kP.init = .initialized := Cond.initialized_spec (findClass_of_methodNamed hn) hkP hinit
  obtain ⟨vm', X', step⟩ := X.invokestatic hexec hown hlink hn hm (Cond.static_spec hn hm hstat) hkP hini (by decide) hg (argsL := [.float a, .float b]) (rest := rest) (by rw [hps]; rfl) hstack hdg
  refine ⟨vm', X', fun target hrest => step target fun acts => ?_⟩
  have hn' := X'.named hn
  have hcode' : (Cond.code mf_y bytes 2 (some .float)).before args (T.setVm vm') = true := Cond.tabsOnly_warm (args' := args) (T := T.setVm vm') X'.warmed _ rfl hcode
  obtain ⟨mm', cm', hm', hcm', -, hml', -, hlk', -, hsig'⟩ := Cond.code_spec hn' hcode'
  obtain ⟨kP', hkP', hkn'⟩ := className_of_methodNamed hn'
  obtain ⟨hmn', hmd'⟩ := name_of_methodNamed hn' hm'
  have hps' : mm'.sig.parameters.length = 2 := by
    rw [hsig2] at hsig'
    rw [← Option.some.inj hsig']
    rfl
  exact mf_steps X' (g := { g with stack := rest }) hg hsize ha hb hkP' (by have h9 : vm'.classes[mk.cls]? = some kP' := hkP'; simpa [Vm.method?, h9] using hm') (Vm.bootOf_findClass (findClass_of_methodNamed hn') hkP') hkn' hmn' hmd' hps' hcm' hml' hlk' hframes hlocals hdg acts hrest
end MF
theorem j_mmaxF {x : CX} {cc : ByteArray} {own : String} {rm : Room} {n9 : Nat} (X : Ok x cc own rm n9) {h : AH} {u v pc : Nat} {lv : List (Nat × TV)} {st : List TV} {index : Nat} {bytes : ByteArray} {a b : UInt32} {K : Prop} (q1 : Cond.methodLink own index mf_y ∈ lw_all) (q2 : Cond.static mf_y ∈ lw_all) (q3 : Cond.initialized "java/lang/Math" ∈ lw_all) (q4 : Cond.code mf_y bytes 2 (some .float) ∈ lw_all) (hR : 1 ≤ rm.frames ∧ (st.map tvc).sum + 13 ≤ rm.locals) (d : decode cc pc = .ok (.invokestatic index, 3)) (hw : (FP.fIsNaN a = false ∧ FP.fIsNaN b = false) ∧ K) (kk : K → J x h u v (pc + 3) lv (vF (mf_pick a b) :: st)) : J x h u v pc lv (vF b :: vF a :: st) := by
  obtain ⟨p, l, e, R, s, m, args, below, meth, c, Q, G, nL⟩ := x
  intro H locs ls hh hS hl
  obtain rfl : R = rm := X.2.2.2.2.2.2.1
  have hsz : ls.size = nL := hl.1
  have hb : c.code = cc := X.2.1
  intro T hT Y
  obtain ⟨vm', X', st9⟩ := mf_max0 Y X.1 X.2.2.1 (X.2.2.2.1 _ q1) (X.2.2.2.1 _ q2) (X.2.2.2.1 _ q3) (X.2.2.2.1 _ q4) (g := F0 m pc ls (.float b :: .float a :: stm st)) rfl (by rw [X.2.2.2.2.2.1]; exact hsz) hw.1.1 hw.1.2 rfl (by rw [hb]; exact d) hR.1 (by show 2 * 0 + ((stm st).map fun v => v.category).sum + 13 ≤ _; rw [stm_cat]; have := hR.2; omega)
  obtain ⟨t, a1, b1⟩ := kk hw.2 H locs ls hh hS hl (T.setVm vm') hT X'
  exact ⟨t, st9 t a1, b1⟩
theorem mf_wpF {s : State} {f : JFrame} {Q : Unit → Bool → List Action → State → Prop} {index : Nat} {k : Class} {cf : ClassFile} {b : UInt32} {d : Bool} {acts : List Action} {e : Env} {E : _} (hs : s.topJava?.isSome) (hk : s.vm.classes[f.method.cls]? = some k) (hcf : k.cf = some cf) (hc : cf.constantPool[index]? = some (.float b)) : wp (ldc_w.sem index) Q E e d acts (s.setTop f) ↔ Q () true acts (s.setTop { f with stack := .float b :: f.stack }) := ldc.wp_float hs hk hcf hc
theorem mf_ldcwF {p : Program} {l : Launch} {e : Env} {R : Room} {s : State} {m : MethodId} {args : Array Value} {below : List Frame} {meth : Method} {c : Code} {locs : List Loc} {cells slots : Nat} {T : State} (X : Stand p l e R s m args below meth c T locs cells slots) (hexec : p.tables.exec = Jvm.exec) {own : String} {index : Nat} {v : UInt32} (hown : s.vm.findClass own = some m.cls) (hconst : (Cond.constantFloat own index v).before args s = true) {g : JFrame} (hg : g.method = m) (hdg : decode c.code g.pc = .ok (.ldc_w index, 3)) :
    ∀ target, Steps p.tables e below (T.setTop { g with pc := g.pc + 3, stack := .float v :: g.stack }) target → Steps p.tables e below (T.setTop g) target := by
  obtain ⟨k, cf, hk, hcf, hcp⟩ := Cond.constantFloat_spec hown hconst
  obtain ⟨k', hk', he⟩ := X.warmed.alike.2.2 _ _ hk
  intro target hrest
  subst hg
  jvm_step X.here [hexec, hdg, mf_wpF (s := T) (f := g) X.here.top hk' (by rw [he]; exact hcf) hcp]
  exact hrest
theorem j_ldcwf {x : CX} {cc : ByteArray} {own : String} {rm : Room} {n9 : Nat} (X : Ok x cc own rm n9) {h : AH} {u v pc : Nat} {lv : List (Nat × TV)} {st : List TV} {i : Nat} {w : UInt32} (d : decode cc pc = .ok (.ldc_w i, 3)) (q : Jvm.Cond.constantFloat own i w ∈ lw_all) (k : J x h u v (pc + 3) lv (vF w :: st)) : J x h u v pc lv (st) := by
  obtain ⟨p, l, e, R, s, m, args, below, meth, c, Q, G, nL⟩ := x
  intro H locs ls hh hS hl T hT Y
  obtain ⟨t, a, b⟩ := k H locs ls hh hS hl T hT Y
  exact ⟨t, mf_ldcwF Y X.1 X.2.2.1 (X.2.2.2.1 _ q) (g := F0 m pc ls (stm st)) rfl (by rw [show c.code = cc from X.2.1]; exact d) t a, b⟩
/-! Math.min(FF)F: the machine's own entry runs in the body's place -/
abbrev ni_y : MethodName := ⟨"java/lang/Math", "min", "(FF)F"⟩
def ni_row : NativeRow := (NativeRow.find? Native.java_lang_Math.nans.rows "java/lang/Math" "min" "(FF)F").get (by decide +kernel)
set_option maxRecDepth 100000 in
theorem ni_at (p : Program) : NativeRow.find? p.tables.natives "java/lang/Math" "min" "(FF)F" = some ni_row := by
  cases p <;> rfl
def ni_pick (a b : UInt32) : UInt32 := Native.java_lang_Math.nans.pick32 false a b
theorem ni_sem {a b : UInt32} (ha : FP.fIsNaN a = false) (hb : FP.fIsNaN b = false) (e : Env) (S : State) : ∃ acts, (ni_row.sem #[.float a, .float b]).run e S = .ok (some (.float (ni_pick a b))) S acts := by
  have hw : wpRun (ni_row.sem #[.float a, .float b]) (fun v t _ => v = some (.float (ni_pick a b)) ∧ t = S) (fun _ _ _ => False) e S := by
    rw [show ni_row.sem #[.float a, .float b] = (do
      let r ← if FP.fIsNaN a then anyNaN32 a else if FP.fIsNaN b then anyNaN32 b else Pure.pure (ni_pick a b)
      mark "nat.java_lang_Math.min/float"
      Pure.pure (some (.float r))) from rfl]
    simp [jvm, wpRun, ha, hb]
  have h2 := (wpRun_iff_run _ _ _ _ _).mp hw
  cases hr : (ni_row.sem #[.float a, .float b]).run e S with
  | ok v t acts => rw [hr] at h2; exact ⟨acts, by rw [h2.1, h2.2]⟩
  | ctl x t acts => rw [hr] at h2; cases x <;> exact h2.elim
section MF
variable {p : Program} {l : Launch} {e : Env} {R : Room} {s : State} {m : MethodId} {args : Array Value} {below : List Frame} {meth : Method} {c : Code} {locs : List Loc} {cells slots : Nat}
theorem ni_steps {T : State} (X : Stand p l e R s m args below meth c T locs cells slots) {g : JFrame} (hg : g.method = m) (hsize : g.locals.size = c.maxLocals) {mk : MethodId} {mm : Method} {cm : Code} {k : Class} {a b : UInt32} (ha : FP.fIsNaN a = false) (hb : FP.fIsNaN b = false)
    (hk : T.vm.classes[mk.cls]? = some k) (hx : k.methods[mk.idx]? = some mm) (hbt : k.loader = none) (hkn : k.name = "java/lang/Math") (hmn : mm.name = "min") (hmd : mm.desc = "(FF)F") (hn2 : mm.sig.parameters.length = 2) (hc : mm.code = some cm) (hml : cm.maxLocals = 2) (hlk : mm.locks = false)
    (hframes : 1 ≤ R.frames) (hlocals : 2 * g.monitorRoom + (g.stack.map fun v => v.category).sum + 13 ≤ R.locals) {ig : Instr} {len : Nat} (hdg : decode c.code g.pc = .ok (ig, len)) (acts : List Action) {target : State}
    (k9 : Steps p.tables e below (T.setTop { g with pc := g.pc + len, stack := .float (ni_pick a b) :: g.stack }) target) : Steps p.tables e below (doInvoke e (T.setTop g) acts mk #[.float a, .float b]).1 target := by
  subst hg
  obtain ⟨g0, h0⟩ := Option.isSome_iff_exists.mp X.here.top
  obtain ⟨r, hr⟩ := State.topJava?_eq_some.mp h0
  obtain ⟨mid, hmid⟩ := X.here.above
  have hcur : T.cur < T.threads.size := State.cur_lt_of_frames hr
  have hmeth : T.vm.method? mk = some mm := by simp [Vm.method?, hk, hx]
  have htop : T.setTop g = T.setFrames (.java g :: r) := State.setTop_of_frames _ hr
  have hfull := X.notFull (g := g) hsize (vars := cm.maxLocals) hframes (by rw [hml]; omega)
  rw [(doInvoke_java (s := T.setTop g) (e := e) (acts := acts) (args := #[.float a, .float b]) (meth := mm) (code := cm) hmeth hc hlk hfull).1, hml]
  rw [show (T.setTop g).pushFrame (.java { method := mk, pc := 0, locals := argsToLocals #[.float a, .float b] 2, stack := [], locked := none }) = T.setFrames (.java (entryFrame mk #[.float a, .float b] 2) :: .java g :: r) by
    rw [State.pushFrame, State.frames_setTop _ hr, htop, State.setFrames_setFrames]; rfl]
  have hf1 : (T.setFrames (.java (entryFrame mk #[.float a, .float b] 2) :: .java g :: r)).frames = .java (entryFrame mk #[.float a, .float b] 2) :: .java g :: r := State.frames_setFrames _ hcur
  have hov : overridden p.tables e (T.setFrames (.java (entryFrame mk #[.float a, .float b] 2) :: .java g :: r)) (entryFrame mk #[.float a, .float b] 2) = some ni_row := by
    exact mf_over rfl (by exact hk) (by rw [hkn]; decide) hbt (by exact hx) (by rw [hkn, hmn, hmd]; exact ni_at p)
  have hb2 : ∀ F : List Frame, ((T.setFrames F).vm.classes[mk.cls]?.bind fun y => y.methods[mk.idx]?) = some mm := by
    intro F
    show (T.vm.classes[mk.cls]?.bind fun y => y.methods[mk.idx]?) = some mm
    simp [hk, hx]
  have hb3 : (T.vm.classes[mk.cls]?.bind fun y => y.methods[mk.idx]?) = some mm := by simp [hk, hx]
  have htake : ∀ n : Nat, List.take (2 + n) [Value.float a, Value.float b] = [Value.float a, Value.float b] := fun n => List.take_of_length_le (Nat.le_add_right 2 n)
  obtain ⟨acts2, hr2⟩ := ni_sem ha hb e (T.setFrames (.native { method := mk, args := #[.float a, .float b] } :: .java g :: r))
  have hcode : ∀ F : List Frame, (T.setFrames F).code? g.method = some c := by
    intro F
    have h3 := X.here.code
    rw [State.code?_eq] at h3 ⊢
    simpa [State.setFrames] using h3
  have hfs : handOver (T.setFrames (.native { method := mk, args := #[.float a, .float b] } :: .java g :: r)) (some (.float (ni_pick a b))) (.java g :: r) = some (.java { g with pc := g.pc + len, stack := .float (ni_pick a b) :: g.stack } :: r) := by
    simp [handOver, hcode, hdg, Except.toOption]
  have hst : (stepThread p.tables e (T.setFrames (.java (entryFrame mk #[.float a, .float b] 2) :: .java g :: r))).1 = T.setTop { g with pc := g.pc + len, stack := .float (ni_pick a b) :: g.stack } := by
    unfold stepThread
    simp only [hf1, hov]
    simp [entryFrame, argsToLocals, Value.category, argCount, hb2, hb3, hn2, htake, hr2, afterNative]
    rw [doReturn_native (f := { method := mk, args := #[.float a, .float b] }) (below := .java g :: r) (State.frames_setFrames _ hcur) rfl hfs, State.setFrames_setFrames, ← State.setTop_of_frames _ hr]
  refine Steps.head ⟨X.here.running, by simpa using X.here.runnable, by simpa using X.here.alone⟩ ⟨.java (entryFrame mk #[.float a, .float b] 2) :: .java g :: mid, by rw [hf1]; rw [hr] at hmid; simp at hmid; simp [hmid], by simp, by simp⟩ ?_
  rw [hst]
  exact k9
theorem ni_min0 {T : State} (X : Stand p l e R s m args below meth c T locs cells slots) (hexec : p.tables.exec = Jvm.exec) {own : String} {index : Nat} {bytes : ByteArray} (hown : s.vm.findClass own = some m.cls) (hlink : (Cond.methodLink own index ni_y).before args s = true) (hstat : (Cond.static ni_y).before args s = true) (hinit : (Cond.initialized "java/lang/Math").before args s = true) (hcode : (Cond.code ni_y bytes 2 (some .float)).before args s = true)
    {g : JFrame} (hg : g.method = m) (hsize : g.locals.size = c.maxLocals) {rest : List Value} {a b : UInt32} (ha : FP.fIsNaN a = false) (hb : FP.fIsNaN b = false) (hstack : g.stack = .float b :: .float a :: rest) (hdg : decode c.code g.pc = .ok (.invokestatic index, 3)) (hframes : 1 ≤ R.frames) (hlocals : 2 * g.monitorRoom + (rest.map fun v => v.category).sum + 13 ≤ R.locals) :
    ∃ vm', Stand p l e R s m args below meth c (T.setVm vm') locs cells slots ∧ ∀ target, Steps p.tables e below ((T.setVm vm').setTop { g with pc := g.pc + 3, stack := .float (ni_pick a b) :: rest }) target → Steps p.tables e below (T.setTop g) target := by
  obtain ⟨mk, hn⟩ := Cond.code_named hcode
  obtain ⟨mm, cm, hm, hcm, -, hml, -, hlk, -, hsig⟩ := Cond.code_spec hn hcode
  obtain ⟨kP, hkP, hkn⟩ := className_of_methodNamed hn
  obtain ⟨hmn, hmd⟩ := name_of_methodNamed hn hm
  have hsig2 : parseMethodDescriptor ni_y.desc = some { parameters := [.float, .float], returnType := some .float } := by decide +kernel
  have hps : mm.sig.parameters.length = 2 := by
    rw [hsig2] at hsig
    rw [← Option.some.inj hsig]
    rfl
  have hini : kP.init = .initialized := Cond.initialized_spec (findClass_of_methodNamed hn) hkP hinit
  obtain ⟨vm', X', step⟩ := X.invokestatic hexec hown hlink hn hm (Cond.static_spec hn hm hstat) hkP hini (by decide) hg (argsL := [.float a, .float b]) (rest := rest) (by rw [hps]; rfl) hstack hdg
  refine ⟨vm', X', fun target hrest => step target fun acts => ?_⟩
  have hn' := X'.named hn
  have hcode' : (Cond.code ni_y bytes 2 (some .float)).before args (T.setVm vm') = true := Cond.tabsOnly_warm (args' := args) (T := T.setVm vm') X'.warmed _ rfl hcode
  obtain ⟨mm', cm', hm', hcm', -, hml', -, hlk', -, hsig'⟩ := Cond.code_spec hn' hcode'
  obtain ⟨kP', hkP', hkn'⟩ := className_of_methodNamed hn'
  obtain ⟨hmn', hmd'⟩ := name_of_methodNamed hn' hm'
  have hps' : mm'.sig.parameters.length = 2 := by
    rw [hsig2] at hsig'
    rw [← Option.some.inj hsig']
    rfl
  exact ni_steps X' (g := { g with stack := rest }) hg hsize ha hb hkP' (by have h9 : vm'.classes[mk.cls]? = some kP' := hkP'; simpa [Vm.method?, h9] using hm') (Vm.bootOf_findClass (findClass_of_methodNamed hn') hkP') hkn' hmn' hmd' hps' hcm' hml' hlk' hframes hlocals hdg acts hrest
end MF
theorem j_mminF {x : CX} {cc : ByteArray} {own : String} {rm : Room} {n9 : Nat} (X : Ok x cc own rm n9) {h : AH} {u v pc : Nat} {lv : List (Nat × TV)} {st : List TV} {index : Nat} {bytes : ByteArray} {a b : UInt32} {K : Prop} (q1 : Cond.methodLink own index ni_y ∈ lw_all) (q2 : Cond.static ni_y ∈ lw_all) (q3 : Cond.initialized "java/lang/Math" ∈ lw_all) (q4 : Cond.code ni_y bytes 2 (some .float) ∈ lw_all) (hR : 1 ≤ rm.frames ∧ (st.map tvc).sum + 13 ≤ rm.locals) (d : decode cc pc = .ok (.invokestatic index, 3)) (hw : (FP.fIsNaN a = false ∧ FP.fIsNaN b = false) ∧ K) (kk : K → J x h u v (pc + 3) lv (vF (ni_pick a b) :: st)) : J x h u v pc lv (vF b :: vF a :: st) := by
  obtain ⟨p, l, e, R, s, m, args, below, meth, c, Q, G, nL⟩ := x
  intro H locs ls hh hS hl
  obtain rfl : R = rm := X.2.2.2.2.2.2.1
  have hsz : ls.size = nL := hl.1
  have hb : c.code = cc := X.2.1
  intro T hT Y
  obtain ⟨vm', X', st9⟩ := ni_min0 Y X.1 X.2.2.1 (X.2.2.2.1 _ q1) (X.2.2.2.1 _ q2) (X.2.2.2.1 _ q3) (X.2.2.2.1 _ q4) (g := F0 m pc ls (.float b :: .float a :: stm st)) rfl (by rw [X.2.2.2.2.2.1]; exact hsz) hw.1.1 hw.1.2 rfl (by rw [hb]; exact d) hR.1 (by show 2 * 0 + ((stm st).map fun v => v.category).sum + 13 ≤ _; rw [stm_cat]; have := hR.2; omega)
  obtain ⟨t, a1, b1⟩ := kk hw.2 H locs ls hh hS hl (T.setVm vm') hT X'
  exact ⟨t, st9 t a1, b1⟩
