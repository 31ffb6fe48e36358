/-! methods with handlers -/
theorem j_startWi {l : Launch} (hlt : l.stackTraces = false) {y : MethodName} {cc : ByteArray} {maxL : Nat} {ret : Option FieldType} {rm : Room} {G : GG} {h : AH} {av : List TV} {P : Int32 → AH → Prop} {hs : List (Nat × Nat × Nat × Nat)} (lv : List (Nat × TV)) (hy : plainName y.cls = true) (hav : Nat.ble (av.map tvc).sum maxL = true) (hlv : lvT 0 av = lv)
    (body : ∀ x : CX, Ok x cc y.cls rm maxL → xG x = G → xrt x = ret → xnm x = y.name → xr_i x P → (x.2.2.2.2.2.2.2.2.2.1.exceptionTable.toList = tableOf hs) → J x h 0 0 0 lv []) : ct_i l y (wsW_ y cc maxL ret hs) rm G h av P := by
  refine va_MetW (hh := hs) (cc := cc) (maxL := maxL) (ret := ret) hy rfl ?_
  intro p e s m args below meth c s₁ B hml hv
  obtain ⟨rfl, hK, hb, hh⟩ := hv
  have hts0 := atoms_spec (ws := wsW_ y cc maxL ret hs) B.pre
  have hts : ∀ w ∈ lw_all, w.before _ s = true := fun w h => hts0 w (List.mem_cons_of_mem _ h)
  have hex := vx_table (x := y) B (hts0 _ List.mem_cons_self)
  have hk := body (p, l, e, rm, s, m, (stm av).toArray, below, meth, c, MQ below (va_Qi P (ah_B G) (ah_A G)) (stm av).toArray s rm.cells rm.slots (ah_A G), G, maxL) ⟨B.exec, B.bytes, findClass_of_methodNamed B.named, hts, hK, hml, rfl, hb, hlt, B.notSynchronized, rfl⟩ rfl B.returns (name_of_methodNamed B.named B.method).1 (Or.inl rfl) hex
  rw [lg_entry_eq]
  refine hk s.heap [] _ hh va_S.rf ?_
  have hl := lv_entry (stm av) (n := maxL) (by rw [lg_len]; exact Nat.le_of_ble_eq_true hav)
  rw [lvT_eq, hlv] at hl
  exact hl
theorem j_startNi {l : Launch} (hlt : l.stackTraces = false) {y : MethodName} {cc : ByteArray} {maxL : Nat} {ret : Option FieldType} {rm : Room} {G : GG} {h : AH} {av : List TV} {P : Int32 → AH → Prop} (lv : List (Nat × TV)) (hy : plainFor y = true) (hav : Nat.ble (av.map tvc).sum maxL = true) (hlv : lvT 0 av = lv)
    (body : ∀ x : CX, Ok x cc y.cls rm maxL → xG x = G → xrt x = ret → xnm x = y.name → xr_i x P → (x.2.2.2.2.1.methodNamed? y = some x.2.2.2.2.2.1) → J x h 0 0 0 lv []) : ct_i l y (ws_ y cc maxL ret) rm G h av P := by
  refine va_MetF (cc := cc) (maxL := maxL) (ret := ret) hy rfl ?_
  intro p e s m args below meth c s₁ B hml hv
  obtain ⟨rfl, hK, hb, hh⟩ := hv
  have hts0 := atoms_spec (ws := ws_ y cc maxL ret) B.pre
  have hts : ∀ w ∈ lw_all, w.before _ s = true := fun w h => hts0 w (List.mem_cons_of_mem _ h)
  have hk := body (p, l, e, rm, s, m, (stm av).toArray, below, meth, c, MQ below (va_Qi P (ah_B G) (ah_A G)) (stm av).toArray s rm.cells rm.slots (ah_A G), G, maxL) ⟨B.exec, B.bytes, findClass_of_methodNamed B.named, hts, hK, hml, rfl, hb, hlt, B.notSynchronized, rfl⟩ rfl B.returns (name_of_methodNamed B.named B.method).1 (Or.inl rfl) B.named
  rw [lg_entry_eq]
  refine hk s.heap [] _ hh va_S.rf ?_
  have hl := lv_entry (stm av) (n := maxL) (by rw [lg_len]; exact Nat.le_of_ble_eq_true hav)
  rw [lvT_eq, hlv] at hl
  exact hl
theorem j_runSW {x : CX} {cc : ByteArray} {own : String} {rm : Room} {n9 : Nat} (X : Ok x cc own rm n9) {h : AH} {u v pc : Nat} {lv : List (Nat × TV)} {n8 : Nat} {y : MethodName} {cy : ByteArray} {ny : Nat} {ry : Option FieldType} {rmy : Room} {As rest : List TV} {Qc : Array Value → State → Outcome → State → Prop} {index : Nat} {hs : List (Nat × Nat × Nat × Nat)} (hM : Met (xl x) y (wsW_ y cy ny ry hs) rmy (ct_pre (xG x) h (As)) Qc rmy.cells rmy.slots (ah_A (xG x))) (q1 : Cond.methodLink own index y ∈ lw_all) (q2 : Cond.static y ∈ lw_all) (q4 : Cond.initialized y.cls ∈ lw_all) (q5 : Cond.codeWith y cy ny ry hs ∈ lw_all) (hd : y.cls ≠ "java/lang/invoke/MethodHandle" ∧ y.cls ≠ "java/lang/invoke/VarHandle" ∧ (parseMethodDescriptor y.desc).map (fun d => d.parameters.length) = some n8) (d : decode cc pc = .ok (.invokestatic index, 3)) (hn8 : As.length = n8) (hR : rmy.frames + 1 ≤ rm.frames ∧ 8 + (ny + 11) + rmy.locals ≤ rm.locals) (hW : (rest.map tvc).sum ≤ 8) (hf : u + rmy.cells ≤ rm.cells ∧ v + rmy.slots ≤ rm.slots) : RunJ x h u v rmy.cells rmy.slots pc lv (As.reverse ++ rest) rest (Qc (stm (As)).toArray) := by
  obtain ⟨p, l, e, R, s, m, args, below, meth, c, Q, G, nL⟩ := x
  intro H locs ls hh hS hl
  obtain rfl : R = rm := X.2.2.2.2.2.2.1
  have hsz : ls.size = nL := hl.1
  exact vx_runSW (nL := nL) (As := stm As) (rest := stm rest) ⟨X.1, X.2.1, X.2.2.2.2.2.1, X.2.2.1, X.2.2.2.1⟩ hM (vx_cwSW n8 X.2.2.2.1 (lw_SW q1 q2 q4 q5) rfl rfl rfl hd hR) ⟨ct_blind _ _ _, fun U hU hW9 => ct_at X.2.2.2.2.1 X.2.2.2.2.2.2.2.1 hh hS U hU hW9⟩ rfl ((List.length_map (as := As) (f := tv)).trans hn8) hsz (stm_rev0 As rest) (by show 2 * 0 + ((stm rest).map fun v => v.category).sum ≤ 8; rw [stm_cat]; omega) d hf
theorem j_catch {x : CX} {cc : ByteArray} {own : String} {rm : Room} {n9 : Nat} (X : Ok x cc own rm n9) {h : AH} {u v pc : Nat} {lv : List (Nat × TV)} {st : List TV} {E : String} (nm : String) {hs : List (Nat × Nat × Nat × Nat)} (hex : x.2.2.2.2.2.2.2.2.2.1.exceptionTable.toList = tableOf hs) (pre suf : List ExceptionTableEntry) (z : ExceptionTableEntry) (hsp : tableOf hs = pre ++ z :: suf) (hpass : ∀ y ∈ pre, covers y pc = false ∨ (y.catchType ≠ 0 ∧ ∃ n, Cond.classLink own y.catchType n ∈ lw_all ∧ (E, n) ∈ ah_nc)) (hcov : covers z pc = true) (h0 : z.catchType ≠ 0) (q1 : Cond.classLink own z.catchType nm ∈ lw_all) (q2 : Cond.castable E nm ∈ lw_tbl) (kk : ∀ q, J x h u v z.handlerPc lv [vR (some q)]) : JX x E h u v pc lv st := by
  obtain ⟨p, l, e, R, s, m, args, below, meth, c, Q, G, nL⟩ := x
  intro H locs ls q ce hh hS hl g1 g2 g3
  refine vx_catch X.2.2.1 pre z suf (hex.trans hsp) (fun y hy => ?_) hcov h0 (X.2.2.2.1 _ q1) (va_Nw.use rfl (X.2.2.2.2.1.1.2.1 _ q2 rfl)) g1 g2 g3 (kk q H locs ls hh hS hl)
  rcases hpass y hy with hy1 | ⟨hy1, n, hy2, hy3⟩
  · exact Or.inl hy1
  · exact Or.inr ⟨hy1, n, X.2.2.2.1 _ hy2, kt_N X.2.2.2.2.1.1 _ hy3⟩
