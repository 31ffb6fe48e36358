/-! frames that hold a monitor -/
abbrev FL (lk : Nat) (m : MethodId) (pc : Nat) (ls : Array Slot) (st : List Value) : JFrame := { method := m, pc := pc, locals := ls, stack := st, locked := some lk, monitorRoom := 1 }
section LKR
variable {p : Program} {l : Launch} {e : Env} {R : Room} {s : State} {m : MethodId} {args : Array Value} {below : List Frame} {meth : Method} {c : Code} {H : Heap} {locs : List Loc} {cells slots : Nat} {Q : State → Prop} {cc : ByteArray} {pc : Nat} {ls : Array Slot} {rest : List Value} {lk : Nat}
theorem lk_iconst (hexec : p.tables.exec = Jvm.exec) (hb : c.code = cc) {n : Int} {v : Int32} (hdg : decode cc pc = .ok (.iconst n, 1)) (hv : Int32.ofInt n = v) (k : W p l e R s m args below meth c H locs cells slots Q (FL lk m (pc + 1) ls (.int v :: rest))) : W p l e R s m args below meth c H locs cells slots Q (FL lk m pc ls rest) := by
  intro T hT X
  obtain ⟨t, a, b⟩ := k T hT X
  refine ⟨t, ?_, b⟩
  jvm_step X.here [X.here.top, hexec, hb, hdg, hv]
  exact a
theorem lk_iload (hexec : p.tables.exec = Jvm.exec) (hb : c.code = cc) {i : Nat} {x : Int32} (hdg : decode cc pc = .ok (.iload i, 2)) (hl : ls[i]? = some (.val (.int x))) (k : W p l e R s m args below meth c H locs cells slots Q (FL lk m (pc + 2) ls (.int x :: rest))) : W p l e R s m args below meth c H locs cells slots Q (FL lk m pc ls rest) := by
  intro T hT X
  obtain ⟨t, a, b⟩ := k T hT X
  refine ⟨t, ?_, b⟩
  jvm_step X.here [X.here.top, hexec, hb, hdg, hl]
  exact a
theorem lk_iload_n (hexec : p.tables.exec = Jvm.exec) (hb : c.code = cc) {kk : Fin 4} {i : Nat} {x : Int32} (hdg : decode cc pc = .ok (.iload_n kk, 1)) (hi : (kk : Nat) = i) (hl : ls[i]? = some (.val (.int x))) (k : W p l e R s m args below meth c H locs cells slots Q (FL lk m (pc + 1) ls (.int x :: rest))) : W p l e R s m args below meth c H locs cells slots Q (FL lk m pc ls rest) := by
  subst hi
  intro T hT X
  obtain ⟨t, a, b⟩ := k T hT X
  refine ⟨t, ?_, b⟩
  jvm_step X.here [X.here.top, hexec, hb, hdg, hl]
  exact a
theorem lk_aload (hexec : p.tables.exec = Jvm.exec) (hb : c.code = cc) {i : Nat} {x : Nat} (hdg : decode cc pc = .ok (.aload i, 2)) (hl : ls[i]? = some (.val (.ref x))) (k : W p l e R s m args below meth c H locs cells slots Q (FL lk m (pc + 2) ls (.ref x :: rest))) : W p l e R s m args below meth c H locs cells slots Q (FL lk m pc ls rest) := by
  intro T hT X
  obtain ⟨t, a, b⟩ := k T hT X
  refine ⟨t, ?_, b⟩
  jvm_step X.here [X.here.top, hexec, hb, hdg, hl, Value.isRef]
  exact a
theorem lk_aload_n (hexec : p.tables.exec = Jvm.exec) (hb : c.code = cc) {kk : Fin 4} {i : Nat} {x : Nat} (hdg : decode cc pc = .ok (.aload_n kk, 1)) (hi : (kk : Nat) = i) (hl : ls[i]? = some (.val (.ref x))) (k : W p l e R s m args below meth c H locs cells slots Q (FL lk m (pc + 1) ls (.ref x :: rest))) : W p l e R s m args below meth c H locs cells slots Q (FL lk m pc ls rest) := by
  subst hi
  intro T hT X
  obtain ⟨t, a, b⟩ := k T hT X
  refine ⟨t, ?_, b⟩
  jvm_step X.here [X.here.top, hexec, hb, hdg, hl, Value.isRef]
  exact a
theorem lk_aloadN (hexec : p.tables.exec = Jvm.exec) (hb : c.code = cc) {i : Nat} (hdg : decode cc pc = .ok (.aload i, 2)) (hl : ls[i]? = some (.val (.null))) (k : W p l e R s m args below meth c H locs cells slots Q (FL lk m (pc + 2) ls (.null :: rest))) : W p l e R s m args below meth c H locs cells slots Q (FL lk m pc ls rest) := by
  intro T hT X
  obtain ⟨t, a, b⟩ := k T hT X
  refine ⟨t, ?_, b⟩
  jvm_step X.here [X.here.top, hexec, hb, hdg, hl, Value.isRef]
  exact a
theorem lk_aload_nN (hexec : p.tables.exec = Jvm.exec) (hb : c.code = cc) {kk : Fin 4} {i : Nat} (hdg : decode cc pc = .ok (.aload_n kk, 1)) (hi : (kk : Nat) = i) (hl : ls[i]? = some (.val (.null))) (k : W p l e R s m args below meth c H locs cells slots Q (FL lk m (pc + 1) ls (.null :: rest))) : W p l e R s m args below meth c H locs cells slots Q (FL lk m pc ls rest) := by
  subst hi
  intro T hT X
  obtain ⟨t, a, b⟩ := k T hT X
  refine ⟨t, ?_, b⟩
  jvm_step X.here [X.here.top, hexec, hb, hdg, hl, Value.isRef]
  exact a
theorem lk_iadd (hexec : p.tables.exec = Jvm.exec) (hb : c.code = cc) {x y : Int32} (hdg : decode cc pc = .ok (.iadd, 1)) (k : W p l e R s m args below meth c H locs cells slots Q (FL lk m (pc + 1) ls (.int (x + y) :: rest))) : W p l e R s m args below meth c H locs cells slots Q (FL lk m pc ls (.int y :: .int x :: rest)) := by
  intro T hT X
  obtain ⟨t, a, b⟩ := k T hT X
  refine ⟨t, ?_, b⟩
  jvm_step X.here [X.here.top, hexec, hb, hdg]
  exact a
theorem lk_dup (hexec : p.tables.exec = Jvm.exec) (hb : c.code = cc) {va : Value} (hdg : decode cc pc = .ok (.dup, 1)) (hva : va.category = 1) (k : W p l e R s m args below meth c H locs cells slots Q (FL lk m (pc + 1) ls (va :: va :: rest))) : W p l e R s m args below meth c H locs cells slots Q (FL lk m pc ls (va :: rest)) := by
  intro T hT X
  obtain ⟨t, a, b⟩ := k T hT X
  refine ⟨t, ?_, b⟩
  jvm_step X.here [X.here.top, hexec, hb, hdg, hva]
  exact a
theorem lk_goto (hexec : p.tables.exec = Jvm.exec) (hb : c.code = cc) {off : Int} {tgt : Nat} (hdg : decode cc pc = .ok (.goto off, 3)) (ht : (pc : Int) + off = (tgt : Int)) (k : W p l e R s m args below meth c H locs cells slots Q (FL lk m tgt ls rest)) : W p l e R s m args below meth c H locs cells slots Q (FL lk m pc ls rest) := by
  intro T hT X
  obtain ⟨t, a, b⟩ := k T hT X
  refine ⟨t, ?_, b⟩
  jvm_step X.here [X.here.top, hexec, hb, hdg, ht]
  exact a
theorem lk_istore (hexec : p.tables.exec = Jvm.exec) (hb : c.code = cc) {i nL : Nat} {x : Int32} {lv lv' : List (Nat × Value)} (hdg : decode cc pc = .ok (.istore i, 2)) (h : lv_has ls nL lv) (hn : i < nL) (hl : (i, Value.int x) :: lv.filter (fun q => !(q.1 == i) && !(q.1 + 1 == i && q.2.category == 2)) = lv') (kk9 : ∀ ls' : Array Slot, lv_has ls' nL lv' → W p l e R s m args below meth c H locs cells slots Q (FL lk m (pc + 2) ls' rest)) : W p l e R s m args below meth c H locs cells slots Q (FL lk m pc ls (Value.int x :: rest)) := by
  obtain ⟨ls', e', h'⟩ := lv_store1 (v := Value.int x) h hn rfl
  intro T hT X
  obtain ⟨t, a, b⟩ := kk9 ls' (hl ▸ h') T hT X
  refine ⟨t, ?_, b⟩
  jvm_step X.here [X.here.top, ↓top_set X.here.top, hexec, hb, hdg, e']
  exact a
theorem lk_istore_n (hexec : p.tables.exec = Jvm.exec) (hb : c.code = cc) {kk : Fin 4} {i nL : Nat} {x : Int32} {lv lv' : List (Nat × Value)} (hdg : decode cc pc = .ok (.istore_n kk, 1)) (hi : (kk : Nat) = i) (h : lv_has ls nL lv) (hn : i < nL) (hl : (i, Value.int x) :: lv.filter (fun q => !(q.1 == i) && !(q.1 + 1 == i && q.2.category == 2)) = lv') (kk9 : ∀ ls' : Array Slot, lv_has ls' nL lv' → W p l e R s m args below meth c H locs cells slots Q (FL lk m (pc + 1) ls' rest)) : W p l e R s m args below meth c H locs cells slots Q (FL lk m pc ls (Value.int x :: rest)) := by
  subst hi
  obtain ⟨ls', e', h'⟩ := lv_store1 (v := Value.int x) h hn rfl
  intro T hT X
  obtain ⟨t, a, b⟩ := kk9 ls' (hl ▸ h') T hT X
  refine ⟨t, ?_, b⟩
  jvm_step X.here [X.here.top, ↓top_set X.here.top, hexec, hb, hdg, e']
  exact a
theorem lk_astore (hexec : p.tables.exec = Jvm.exec) (hb : c.code = cc) {i nL : Nat} {x : Nat} {lv lv' : List (Nat × Value)} (hdg : decode cc pc = .ok (.astore i, 2)) (h : lv_has ls nL lv) (hn : i < nL) (hl : (i, Value.ref x) :: lv.filter (fun q => !(q.1 == i) && !(q.1 + 1 == i && q.2.category == 2)) = lv') (kk9 : ∀ ls' : Array Slot, lv_has ls' nL lv' → W p l e R s m args below meth c H locs cells slots Q (FL lk m (pc + 2) ls' rest)) : W p l e R s m args below meth c H locs cells slots Q (FL lk m pc ls (Value.ref x :: rest)) := by
  obtain ⟨ls', e', h'⟩ := lv_store1 (v := Value.ref x) h hn rfl
  intro T hT X
  obtain ⟨t, a, b⟩ := kk9 ls' (hl ▸ h') T hT X
  refine ⟨t, ?_, b⟩
  jvm_step X.here [X.here.top, ↓top_set X.here.top, hexec, hb, hdg, e', Value.isRef]
  exact a
theorem lk_astore_n (hexec : p.tables.exec = Jvm.exec) (hb : c.code = cc) {kk : Fin 4} {i nL : Nat} {x : Nat} {lv lv' : List (Nat × Value)} (hdg : decode cc pc = .ok (.astore_n kk, 1)) (hi : (kk : Nat) = i) (h : lv_has ls nL lv) (hn : i < nL) (hl : (i, Value.ref x) :: lv.filter (fun q => !(q.1 == i) && !(q.1 + 1 == i && q.2.category == 2)) = lv') (kk9 : ∀ ls' : Array Slot, lv_has ls' nL lv' → W p l e R s m args below meth c H locs cells slots Q (FL lk m (pc + 1) ls' rest)) : W p l e R s m args below meth c H locs cells slots Q (FL lk m pc ls (Value.ref x :: rest)) := by
  subst hi
  obtain ⟨ls', e', h'⟩ := lv_store1 (v := Value.ref x) h hn rfl
  intro T hT X
  obtain ⟨t, a, b⟩ := kk9 ls' (hl ▸ h') T hT X
  refine ⟨t, ?_, b⟩
  jvm_step X.here [X.here.top, ↓top_set X.here.top, hexec, hb, hdg, e', Value.isRef]
  exact a
theorem lk_astoreN (hexec : p.tables.exec = Jvm.exec) (hb : c.code = cc) {i nL : Nat} {lv lv' : List (Nat × Value)} (hdg : decode cc pc = .ok (.astore i, 2)) (h : lv_has ls nL lv) (hn : i < nL) (hl : (i, Value.null) :: lv.filter (fun q => !(q.1 == i) && !(q.1 + 1 == i && q.2.category == 2)) = lv') (kk9 : ∀ ls' : Array Slot, lv_has ls' nL lv' → W p l e R s m args below meth c H locs cells slots Q (FL lk m (pc + 2) ls' rest)) : W p l e R s m args below meth c H locs cells slots Q (FL lk m pc ls (Value.null :: rest)) := by
  obtain ⟨ls', e', h'⟩ := lv_store1 (v := Value.null) h hn rfl
  intro T hT X
  obtain ⟨t, a, b⟩ := kk9 ls' (hl ▸ h') T hT X
  refine ⟨t, ?_, b⟩
  jvm_step X.here [X.here.top, ↓top_set X.here.top, hexec, hb, hdg, e', Value.isRef]
  exact a
theorem lk_astore_nN (hexec : p.tables.exec = Jvm.exec) (hb : c.code = cc) {kk : Fin 4} {i nL : Nat} {lv lv' : List (Nat × Value)} (hdg : decode cc pc = .ok (.astore_n kk, 1)) (hi : (kk : Nat) = i) (h : lv_has ls nL lv) (hn : i < nL) (hl : (i, Value.null) :: lv.filter (fun q => !(q.1 == i) && !(q.1 + 1 == i && q.2.category == 2)) = lv') (kk9 : ∀ ls' : Array Slot, lv_has ls' nL lv' → W p l e R s m args below meth c H locs cells slots Q (FL lk m (pc + 1) ls' rest)) : W p l e R s m args below meth c H locs cells slots Q (FL lk m pc ls (Value.null :: rest)) := by
  subst hi
  obtain ⟨ls', e', h'⟩ := lv_store1 (v := Value.null) h hn rfl
  intro T hT X
  obtain ⟨t, a, b⟩ := kk9 ls' (hl ▸ h') T hT X
  refine ⟨t, ?_, b⟩
  jvm_step X.here [X.here.top, ↓top_set X.here.top, hexec, hb, hdg, e', Value.isRef]
  exact a
theorem lk_iinc (hexec : p.tables.exec = Jvm.exec) (hb : c.code = cc) {i nL k : Nat} {n : Int} {x v : Int32} {lv lv' : List (Nat × Value)} (hdg : decode cc pc = .ok (.iinc i n, 3)) (h : lv_has ls nL lv) (hk : lv[k]? = some (i, .int x)) (hv : x + Int32.ofInt n = v) (hn : i < nL) (hl : (i, Value.int v) :: lv.filter (fun q => !(q.1 == i) && !(q.1 + 1 == i && q.2.category == 2)) = lv') (kk9 : ∀ ls' : Array Slot, lv_has ls' nL lv' → W p l e R s m args below meth c H locs cells slots Q (FL lk m (pc + 3) ls' rest)) : W p l e R s m args below meth c H locs cells slots Q (FL lk m pc ls rest) := by
  subst hv
  have hg := lv_at h k hk
  obtain ⟨ls', e', h'⟩ := lv_store1 (v := .int (x + Int32.ofInt n)) h hn rfl
  intro T hT X
  obtain ⟨t, a, b⟩ := kk9 ls' (hl ▸ h') T hT X
  refine ⟨t, ?_, b⟩
  jvm_step X.here [X.here.top, ↓top_set X.here.top, hexec, hb, hdg, hg, e']
  exact a
theorem lk_if_eq (hexec : p.tables.exec = Jvm.exec) (hb : c.code = cc) {x : Int32} {off : Int} {tgt : Nat} (hdg : decode cc pc = .ok (.ifCond .eq off, 3)) (ht : (pc : Int) + off = (tgt : Int)) (kt : x = 0 → W p l e R s m args below meth c H locs cells slots Q (FL lk m tgt ls rest)) (kf : ¬ x = 0 → W p l e R s m args below meth c H locs cells slots Q (FL lk m (pc + 3) ls rest)) : W p l e R s m args below meth c H locs cells slots Q (FL lk m pc ls (.int x :: rest)) := by
  intro T hT X
  by_cases hP : x = 0
  · obtain ⟨t, a, b⟩ := kt hP T hT X
    refine ⟨t, ?_, b⟩
    jvm_step X.here [X.here.top, hexec, hb, hdg, Op.ifCond.holds, hP, ht]
    exact a
  · obtain ⟨t, a, b⟩ := kf hP T hT X
    refine ⟨t, ?_, b⟩
    jvm_step X.here [X.here.top, hexec, hb, hdg, Op.ifCond.holds, hP, ht]
    exact a
theorem lk_if_ne (hexec : p.tables.exec = Jvm.exec) (hb : c.code = cc) {x : Int32} {off : Int} {tgt : Nat} (hdg : decode cc pc = .ok (.ifCond .ne off, 3)) (ht : (pc : Int) + off = (tgt : Int)) (kt : ¬ x = 0 → W p l e R s m args below meth c H locs cells slots Q (FL lk m tgt ls rest)) (kf : x = 0 → W p l e R s m args below meth c H locs cells slots Q (FL lk m (pc + 3) ls rest)) : W p l e R s m args below meth c H locs cells slots Q (FL lk m pc ls (.int x :: rest)) := by
  intro T hT X
  by_cases hP : x = 0
  · obtain ⟨t, a, b⟩ := kf hP T hT X
    refine ⟨t, ?_, b⟩
    jvm_step X.here [X.here.top, hexec, hb, hdg, Op.ifCond.holds, hP, ht]
    exact a
  · obtain ⟨t, a, b⟩ := kt hP T hT X
    refine ⟨t, ?_, b⟩
    jvm_step X.here [X.here.top, hexec, hb, hdg, Op.ifCond.holds, hP, ht]
    exact a
theorem lk_icmp_eq (hexec : p.tables.exec = Jvm.exec) (hb : c.code = cc) {x y : Int32} {off : Int} {tgt : Nat} (hdg : decode cc pc = .ok (.if_icmp .eq off, 3)) (ht : (pc : Int) + off = (tgt : Int)) (kt : x = y → W p l e R s m args below meth c H locs cells slots Q (FL lk m tgt ls rest)) (kf : ¬ x = y → W p l e R s m args below meth c H locs cells slots Q (FL lk m (pc + 3) ls rest)) : W p l e R s m args below meth c H locs cells slots Q (FL lk m pc ls (.int y :: .int x :: rest)) := by
  intro T hT X
  by_cases hP : x = y
  · obtain ⟨t, a, b⟩ := kt hP T hT X
    refine ⟨t, ?_, b⟩
    jvm_step X.here [X.here.top, hexec, hb, hdg, Op.if_icmp.holds, hP, ht]
    exact a
  · obtain ⟨t, a, b⟩ := kf hP T hT X
    refine ⟨t, ?_, b⟩
    jvm_step X.here [X.here.top, hexec, hb, hdg, Op.if_icmp.holds, hP, ht]
    exact a
theorem lk_icmp_ge (hexec : p.tables.exec = Jvm.exec) (hb : c.code = cc) {x y : Int32} {off : Int} {tgt : Nat} (hdg : decode cc pc = .ok (.if_icmp .ge off, 3)) (ht : (pc : Int) + off = (tgt : Int)) (kt : y ≤ x → W p l e R s m args below meth c H locs cells slots Q (FL lk m tgt ls rest)) (kf : ¬ y ≤ x → W p l e R s m args below meth c H locs cells slots Q (FL lk m (pc + 3) ls rest)) : W p l e R s m args below meth c H locs cells slots Q (FL lk m pc ls (.int y :: .int x :: rest)) := by
  intro T hT X
  by_cases hP : y ≤ x
  · obtain ⟨t, a, b⟩ := kt hP T hT X
    refine ⟨t, ?_, b⟩
    jvm_step X.here [X.here.top, hexec, hb, hdg, Op.if_icmp.holds, hP, ht]
    exact a
  · obtain ⟨t, a, b⟩ := kf hP T hT X
    refine ⟨t, ?_, b⟩
    jvm_step X.here [X.here.top, hexec, hb, hdg, Op.if_icmp.holds, hP, ht]
    exact a
end LKR
def JK (lk : Nat) (x : CX) (h : AH) (u v pc : Nat) (lv : List (Nat × TV)) (st : List TV) : Prop :=
  match x with
  | (p, l, e, R, s, m, args, below, meth, c, Q, G, nL) => ∀ (H : Heap) (locs : List Loc) (ls : Array Slot), ah_P G h H → va_S (ah_A G) s.heap H locs → lv_has ls nL (lvm lv) → W p l e R s m args below meth c H locs u v Q (FL lk m pc ls (stm st))
def OkS (x : CX) (cc : ByteArray) (own : String) (rm : Room) (n9 : Nat) : Prop :=
  match x with
  | (p, l, e, R, s, m, args, below, meth, c, Q, G, nL) => p.tables.exec = Jvm.exec ∧ c.code = cc ∧ s.vm.findClass own = some m.cls ∧ (∀ w ∈ lw_all, w.before args s = true) ∧ ah_K G s s.heap ∧ c.maxLocals = nL ∧ R = rm ∧ G.2.1 ≤ s.heap.size ∧ l.stackTraces = false ∧ meth.locks = true ∧ nL = n9
theorem OkS.hl {x : CX} {cc : ByteArray} {own : String} {rm : Room} {n9 : Nat} (X : OkS x cc own rm n9) : (xl x).stackTraces = false := X.2.2.2.2.2.2.2.2.1
theorem k_iconst {x : CX} {cc : ByteArray} {own : String} {rm : Room} {n9 : Nat} {lk : Nat} (X : OkS x cc own rm n9) {h : AH} {u v pc : Nat} {lv : List (Nat × TV)} {st : List TV} {n : Int} (w : Int32) (d : decode cc pc = .ok (.iconst n, 1)) (hw : Int32.ofInt n = w) (k : JK lk x h u v (pc + 1) lv (vI w :: st)) : JK lk x h u v pc lv (st) := by
  obtain ⟨p, l, e, R, s, m, args, below, meth, c, Q, G, nL⟩ := x
  intro H locs ls hh hS hl
  exact lk_iconst X.1 X.2.1 d hw (k H locs ls hh hS hl)
theorem k_iload_n {x : CX} {cc : ByteArray} {own : String} {rm : Room} {n9 : Nat} {lk : Nat} (X : OkS x cc own rm n9) {h : AH} {u v pc : Nat} {lv : List (Nat × TV)} {st : List TV} {kk : Fin 4} {i : Nat} (q : Nat) {z : Int32} (d : decode cc pc = .ok (.iload_n kk, 1)) (hi : (kk : Nat) = i) (hq : lv[q]? = some (i, vI z)) (k : JK lk x h u v (pc + 1) lv (vI z :: st)) : JK lk x h u v pc lv (st) := by
  obtain ⟨p, l, e, R, s, m, args, below, meth, c, Q, G, nL⟩ := x
  intro H locs ls hh hS hl
  exact lk_iload_n X.1 X.2.1 d hi (lv_at hl q (lvm_at hq)) (k H locs ls hh hS hl)
theorem k_iload {x : CX} {cc : ByteArray} {own : String} {rm : Room} {n9 : Nat} {lk : Nat} (X : OkS x cc own rm n9) {h : AH} {u v pc : Nat} {lv : List (Nat × TV)} {st : List TV} {i : Nat} (q : Nat) {z : Int32} (d : decode cc pc = .ok (.iload i, 2)) (hq : lv[q]? = some (i, vI z)) (k : JK lk x h u v (pc + 2) lv (vI z :: st)) : JK lk x h u v pc lv (st) := by
  obtain ⟨p, l, e, R, s, m, args, below, meth, c, Q, G, nL⟩ := x
  intro H locs ls hh hS hl
  exact lk_iload X.1 X.2.1 d (lv_at hl q (lvm_at hq)) (k H locs ls hh hS hl)
theorem k_aload_n {x : CX} {cc : ByteArray} {own : String} {rm : Room} {n9 : Nat} {lk : Nat} (X : OkS x cc own rm n9) {h : AH} {u v pc : Nat} {lv : List (Nat × TV)} {st : List TV} {kk : Fin 4} {i : Nat} (q : Nat) {z : Option Nat} (d : decode cc pc = .ok (.aload_n kk, 1)) (hi : (kk : Nat) = i) (hq : lv[q]? = some (i, vR z)) (k : JK lk x h u v (pc + 1) lv (vR z :: st)) : JK lk x h u v pc lv (st) := by
  obtain ⟨p, l, e, R, s, m, args, below, meth, c, Q, G, nL⟩ := x
  intro H locs ls hh hS hl
  cases z with
  | none => exact lk_aload_nN X.1 X.2.1 d hi (lv_at hl q (lvm_at hq)) (k H locs ls hh hS hl)
  | some z => exact lk_aload_n X.1 X.2.1 d hi (lv_at hl q (lvm_at hq)) (k H locs ls hh hS hl)
theorem k_aload {x : CX} {cc : ByteArray} {own : String} {rm : Room} {n9 : Nat} {lk : Nat} (X : OkS x cc own rm n9) {h : AH} {u v pc : Nat} {lv : List (Nat × TV)} {st : List TV} {i : Nat} (q : Nat) {z : Option Nat} (d : decode cc pc = .ok (.aload i, 2)) (hq : lv[q]? = some (i, vR z)) (k : JK lk x h u v (pc + 2) lv (vR z :: st)) : JK lk x h u v pc lv (st) := by
  obtain ⟨p, l, e, R, s, m, args, below, meth, c, Q, G, nL⟩ := x
  intro H locs ls hh hS hl
  cases z with
  | none => exact lk_aloadN X.1 X.2.1 d (lv_at hl q (lvm_at hq)) (k H locs ls hh hS hl)
  | some z => exact lk_aload X.1 X.2.1 d (lv_at hl q (lvm_at hq)) (k H locs ls hh hS hl)
theorem k_istore {x : CX} {cc : ByteArray} {own : String} {rm : Room} {n9 : Nat} {lk : Nat} (X : OkS x cc own rm n9) {h : AH} {u v pc : Nat} {lv : List (Nat × TV)} {st : List TV} {i : Nat} {z : Int32} (lv' : List (Nat × TV)) (d : decode cc pc = .ok (.istore i, 2)) (hn : i < n9) (hlv : (i, vI z) :: lv.filter (fun q => !(q.1 == i) && !(q.1 + 1 == i && tvc q.2 == 2)) = lv') (k : JK lk x h u v (pc + 2) lv' (st)) : JK lk x h u v pc lv (vI z :: st) := by
  obtain ⟨p, l, e, R, s, m, args, below, meth, c, Q, G, nL⟩ := x
  intro H locs ls hh hS hl
  exact lk_istore X.1 X.2.1 d hl (by rw [X.2.2.2.2.2.2.2.2.2.2]; exact hn) rfl (fun ls' hl' => k H locs ls' hh hS (by rw [← hlv]; rw [lvm_f1] at hl'; exact hl'))
theorem k_istore_n {x : CX} {cc : ByteArray} {own : String} {rm : Room} {n9 : Nat} {lk : Nat} (X : OkS x cc own rm n9) {h : AH} {u v pc : Nat} {lv : List (Nat × TV)} {st : List TV} {kk : Fin 4} {i : Nat} {z : Int32} (lv' : List (Nat × TV)) (d : decode cc pc = .ok (.istore_n kk, 1)) (hi : (kk : Nat) = i) (hn : i < n9) (hlv : (i, vI z) :: lv.filter (fun q => !(q.1 == i) && !(q.1 + 1 == i && tvc q.2 == 2)) = lv') (k : JK lk x h u v (pc + 1) lv' (st)) : JK lk x h u v pc lv (vI z :: st) := by
  obtain ⟨p, l, e, R, s, m, args, below, meth, c, Q, G, nL⟩ := x
  intro H locs ls hh hS hl
  exact lk_istore_n X.1 X.2.1 d hi hl (by rw [X.2.2.2.2.2.2.2.2.2.2]; exact hn) rfl (fun ls' hl' => k H locs ls' hh hS (by rw [← hlv]; rw [lvm_f1] at hl'; exact hl'))
theorem k_astore {x : CX} {cc : ByteArray} {own : String} {rm : Room} {n9 : Nat} {lk : Nat} (X : OkS x cc own rm n9) {h : AH} {u v pc : Nat} {lv : List (Nat × TV)} {st : List TV} {i : Nat} {z : Option Nat} (lv' : List (Nat × TV)) (d : decode cc pc = .ok (.astore i, 2)) (hn : i < n9) (hlv : (i, vR z) :: lv.filter (fun q => !(q.1 == i) && !(q.1 + 1 == i && tvc q.2 == 2)) = lv') (k : JK lk x h u v (pc + 2) lv' (st)) : JK lk x h u v pc lv (vR z :: st) := by
  obtain ⟨p, l, e, R, s, m, args, below, meth, c, Q, G, nL⟩ := x
  intro H locs ls hh hS hl
  cases z with
  | none => exact lk_astoreN X.1 X.2.1 d hl (by rw [X.2.2.2.2.2.2.2.2.2.2]; exact hn) rfl (fun ls' hl' => k H locs ls' hh hS (by rw [← hlv]; rw [lvm_f1] at hl'; exact hl'))
  | some z => exact lk_astore X.1 X.2.1 d hl (by rw [X.2.2.2.2.2.2.2.2.2.2]; exact hn) rfl (fun ls' hl' => k H locs ls' hh hS (by rw [← hlv]; rw [lvm_f1] at hl'; exact hl'))
theorem k_astore_n {x : CX} {cc : ByteArray} {own : String} {rm : Room} {n9 : Nat} {lk : Nat} (X : OkS x cc own rm n9) {h : AH} {u v pc : Nat} {lv : List (Nat × TV)} {st : List TV} {kk : Fin 4} {i : Nat} {z : Option Nat} (lv' : List (Nat × TV)) (d : decode cc pc = .ok (.astore_n kk, 1)) (hi : (kk : Nat) = i) (hn : i < n9) (hlv : (i, vR z) :: lv.filter (fun q => !(q.1 == i) && !(q.1 + 1 == i && tvc q.2 == 2)) = lv') (k : JK lk x h u v (pc + 1) lv' (st)) : JK lk x h u v pc lv (vR z :: st) := by
  obtain ⟨p, l, e, R, s, m, args, below, meth, c, Q, G, nL⟩ := x
  intro H locs ls hh hS hl
  cases z with
  | none => exact lk_astore_nN X.1 X.2.1 d hi hl (by rw [X.2.2.2.2.2.2.2.2.2.2]; exact hn) rfl (fun ls' hl' => k H locs ls' hh hS (by rw [← hlv]; rw [lvm_f1] at hl'; exact hl'))
  | some z => exact lk_astore_n X.1 X.2.1 d hi hl (by rw [X.2.2.2.2.2.2.2.2.2.2]; exact hn) rfl (fun ls' hl' => k H locs ls' hh hS (by rw [← hlv]; rw [lvm_f1] at hl'; exact hl'))
theorem k_iinc {x : CX} {cc : ByteArray} {own : String} {rm : Room} {n9 : Nat} {lk : Nat} (X : OkS x cc own rm n9) {h : AH} {u v pc : Nat} {lv : List (Nat × TV)} {st : List TV} {i : Nat} {n : Int} (q : Nat) {z : Int32} (w : Int32) (lv' : List (Nat × TV)) (d : decode cc pc = .ok (.iinc i n, 3)) (hq : lv[q]? = some (i, vI z)) (hw : z + Int32.ofInt n = w) (hn : i < n9) (hlv : (i, vI w) :: lv.filter (fun q => !(q.1 == i) && !(q.1 + 1 == i && tvc q.2 == 2)) = lv') (k : JK lk x h u v (pc + 3) lv' (st)) : JK lk x h u v pc lv (st) := by
  obtain ⟨p, l, e, R, s, m, args, below, meth, c, Q, G, nL⟩ := x
  intro H locs ls hh hS hl
  exact lk_iinc X.1 X.2.1 d hl (lvm_at hq) hw (by rw [X.2.2.2.2.2.2.2.2.2.2]; exact hn) rfl (fun ls' hl' => k H locs ls' hh hS (by rw [← hlv]; rw [lvm_f1] at hl'; exact hl'))
theorem k_iadd {x : CX} {cc : ByteArray} {own : String} {rm : Room} {n9 : Nat} {lk : Nat} (X : OkS x cc own rm n9) {h : AH} {u v pc : Nat} {lv : List (Nat × TV)} {st : List TV} {a b : Int32} (d : decode cc pc = .ok (.iadd, 1)) (k : JK lk x h u v (pc + 1) lv (vI (a + b) :: st)) : JK lk x h u v pc lv (vI b :: vI a :: st) := by
  obtain ⟨p, l, e, R, s, m, args, below, meth, c, Q, G, nL⟩ := x
  intro H locs ls hh hS hl
  exact lk_iadd X.1 X.2.1 d (k H locs ls hh hS hl)
theorem k_dup {x : CX} {cc : ByteArray} {own : String} {rm : Room} {n9 : Nat} {lk : Nat} (X : OkS x cc own rm n9) {h : AH} {u v pc : Nat} {lv : List (Nat × TV)} {st : List TV} {z : TV} (d : decode cc pc = .ok (.dup, 1)) (hz : tvc z = 1) (k : JK lk x h u v (pc + 1) lv (z :: z :: st)) : JK lk x h u v pc lv (z :: st) := by
  obtain ⟨p, l, e, R, s, m, args, below, meth, c, Q, G, nL⟩ := x
  intro H locs ls hh hS hl
  exact lk_dup X.1 X.2.1 d ((tv_cat z).trans hz) (k H locs ls hh hS hl)
theorem k_if_eq {x : CX} {cc : ByteArray} {own : String} {rm : Room} {n9 : Nat} {lk : Nat} (X : OkS x cc own rm n9) {h : AH} {u v pc : Nat} {lv : List (Nat × TV)} {st : List TV} {a : Int32} {off : Int} (tgt : Nat) {A B : Prop} (d : decode cc pc = .ok (.ifCond .eq off, 3)) (ht : (pc : Int) + off = (tgt : Int)) (hw : (a = 0 → A) ∧ (¬ a = 0 → B)) (kt : A → JK lk x h u v (tgt) lv (st)) (kf : B → JK lk x h u v (pc + 3) lv (st)) : JK lk x h u v pc lv (vI a :: st) := by
  obtain ⟨p, l, e, R, s, m, args, below, meth, c, Q, G, nL⟩ := x
  intro H locs ls hh hS hl
  exact lk_if_eq X.1 X.2.1 d ht (fun c9 => kt (hw.1 c9) H locs ls hh hS hl) (fun c9 => kf (hw.2 c9) H locs ls hh hS hl)
theorem k_if_ne {x : CX} {cc : ByteArray} {own : String} {rm : Room} {n9 : Nat} {lk : Nat} (X : OkS x cc own rm n9) {h : AH} {u v pc : Nat} {lv : List (Nat × TV)} {st : List TV} {a : Int32} {off : Int} (tgt : Nat) {A B : Prop} (d : decode cc pc = .ok (.ifCond .ne off, 3)) (ht : (pc : Int) + off = (tgt : Int)) (hw : (a = 0 → A) ∧ (¬ a = 0 → B)) (kf : A → JK lk x h u v (pc + 3) lv (st)) (kt : B → JK lk x h u v (tgt) lv (st)) : JK lk x h u v pc lv (vI a :: st) := by
  obtain ⟨p, l, e, R, s, m, args, below, meth, c, Q, G, nL⟩ := x
  intro H locs ls hh hS hl
  exact lk_if_ne X.1 X.2.1 d ht (fun c9 => kt (hw.2 c9) H locs ls hh hS hl) (fun c9 => kf (hw.1 c9) H locs ls hh hS hl)
theorem k_icmp_eq {x : CX} {cc : ByteArray} {own : String} {rm : Room} {n9 : Nat} {lk : Nat} (X : OkS x cc own rm n9) {h : AH} {u v pc : Nat} {lv : List (Nat × TV)} {st : List TV} {a b : Int32} {off : Int} (tgt : Nat) {A B : Prop} (d : decode cc pc = .ok (.if_icmp .eq off, 3)) (ht : (pc : Int) + off = (tgt : Int)) (hw : (a = b → A) ∧ (¬ a = b → B)) (kt : A → JK lk x h u v (tgt) lv (st)) (kf : B → JK lk x h u v (pc + 3) lv (st)) : JK lk x h u v pc lv (vI b :: vI a :: st) := by
  obtain ⟨p, l, e, R, s, m, args, below, meth, c, Q, G, nL⟩ := x
  intro H locs ls hh hS hl
  exact lk_icmp_eq X.1 X.2.1 d ht (fun c9 => kt (hw.1 c9) H locs ls hh hS hl) (fun c9 => kf (hw.2 c9) H locs ls hh hS hl)
theorem k_icmp_ge {x : CX} {cc : ByteArray} {own : String} {rm : Room} {n9 : Nat} {lk : Nat} (X : OkS x cc own rm n9) {h : AH} {u v pc : Nat} {lv : List (Nat × TV)} {st : List TV} {a b : Int32} {off : Int} (tgt : Nat) {A B : Prop} (d : decode cc pc = .ok (.if_icmp .ge off, 3)) (ht : (pc : Int) + off = (tgt : Int)) (hw : (b ≤ a → A) ∧ (¬ b ≤ a → B)) (kt : A → JK lk x h u v (tgt) lv (st)) (kf : B → JK lk x h u v (pc + 3) lv (st)) : JK lk x h u v pc lv (vI b :: vI a :: st) := by
  obtain ⟨p, l, e, R, s, m, args, below, meth, c, Q, G, nL⟩ := x
  intro H locs ls hh hS hl
  exact lk_icmp_ge X.1 X.2.1 d ht (fun c9 => kt (hw.1 c9) H locs ls hh hS hl) (fun c9 => kf (hw.2 c9) H locs ls hh hS hl)
theorem k_goto {x : CX} {cc : ByteArray} {own : String} {rm : Room} {n9 : Nat} {lk : Nat} (X : OkS x cc own rm n9) {h : AH} {u v pc : Nat} {lv : List (Nat × TV)} {st : List TV} {off : Int} (tgt : Nat) (d : decode cc pc = .ok (.goto off, 3)) (ht : (pc : Int) + off = (tgt : Int)) (k : JK lk x h u v (tgt) lv (st)) : JK lk x h u v pc lv (st) := by
  obtain ⟨p, l, e, R, s, m, args, below, meth, c, Q, G, nL⟩ := x
  intro H locs ls hh hS hl
  exact lk_goto X.1 X.2.1 d ht (k H locs ls hh hS hl)
theorem k_lv {x : CX} {lk : Nat} {h : AH} {u v pc : Nat} {lv : List (Nat × TV)} {st : List TV} (lv' : List (Nat × TV)) (ks : List Nat) (hk : ks.filterMap (fun k => lv[k]?) = lv') (k : JK lk x h u v pc lv' st) : JK lk x h u v pc lv st := by
  obtain ⟨p, l, e, R, s, m, args, below, meth, c, Q, G, nL⟩ := x
  intro H locs ls hh hS hl
  exact k H locs ls hh hS (lv_sub hl ks (lvm_pick ks hk))
