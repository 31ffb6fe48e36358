/-! ends, contracts, calls -/
def xl (x : CX) : Launch := x.2.1
def xG (x : CX) : GG := x.2.2.2.2.2.2.2.2.2.2.2.1
def xrt (x : CX) : Option FieldType := x.2.2.2.2.2.2.2.2.1.sig.returnType
def xnm (x : CX) : String := x.2.2.2.2.2.2.2.2.1.name
theorem Ok.hl {x : CX} {cc : ByteArray} {own : String} {rm : Room} {n9 : Nat} (X : Ok x cc own rm n9) : (xl x).stackTraces = false := by
  obtain ⟨p, l, e, R, s, m, args, below, meth, c, Q, G, nL⟩ := x
  exact X.2.2.2.2.2.2.2.2.1
def ah_B (G : GG) (h : AH) (t : State) : Prop := ah_P G h t.heap
/-- a contract's start: the tables, the abstract heap -/
def ct_pre (G : GG) (h : AH) (av : List TV) : Array Value → State → Prop := va_Pc (stm av) (fun U => ah_K G U U.heap ∧ G.2.1 ≤ U.heap.size ∧ ah_P G h U.heap)
def ct_X (G : GG) (PX : String → AH → Prop) : String → State → State → Prop := vx_X (fun _ : AH => True) (fun E h t => PX E h ∧ ah_P G h t.heap) (ah_A G)
theorem ct_blind (G : GG) (h : AH) (av : List TV) : FrameBlind (ct_pre G h av) := fun a U g mk q => by
  obtain ⟨q0, q1, q2, q3⟩ := q
  exact ⟨q0, ah_K.warm (s := U) (U := U.calling g mk a) (State.WarmedH.refl U) q1, q2, q3⟩
theorem ct_at {G : GG} {h : AH} {av : List TV} {s : State} {H : Heap} {locs : List Loc} (hK : ah_K G s s.heap) (hb : G.2.1 ≤ s.heap.size) (hh : ah_P G h H) (hS : va_S (ah_A G) s.heap H locs) (U : State) (hU : U.heap = H) (hW : s.WarmedH U.vm) : ct_pre G h av (stm av).toArray U :=
  ⟨rfl, by rw [hU]; exact (hK.kept hS.2.1).warm hW, by rw [hU]; exact Nat.le_trans hb hS.1, by rw [hU]; exact hh⟩
def lvT : Nat → List TV → List (Nat × TV)
  | _, [] => []
  | i, v :: vs => (i, v) :: lvT (i + tvc v) vs
theorem lvT_eq (av : List TV) : ∀ i : Nat, lv_args i (stm av) = lvm (lvT i av) := by
  induction av with
  | nil => intro i; rfl
  | cons v vs ih =>
    intro i
    have e : (if (tv v).category = 2 then i + 2 else i + 1) = i + tvc v := by
      rw [tv_cat]
      rcases v with v | r | v | v | v <;> rfl
    show (i, tv v) :: lv_args (if (tv v).category = 2 then i + 2 else i + 1) (stm vs) = (i, tv v) :: lvm (lvT (i + tvc v) vs)
    rw [e, ih]
theorem lg_len (av : List TV) : (lg_sl (stm av)).length = (av.map tvc).sum := by
  induction av with
  | nil => rfl
  | cons v vs ih =>
    have e : (lg_sl (stm (v :: vs))) = (if (tv v).category = 2 then [Slot.val (tv v), Slot.second] else [Slot.val (tv v)]) ++ lg_sl (stm vs) := rfl
    rw [e, List.length_append, ih, List.map_cons, List.sum_cons, tv_cat]
    rcases v with v | r | v | v | v <;> rfl
def ct_i (l : Launch) (y : MethodName) (ws : List Cond) (rm : Room) (G : GG) (h : AH) (av : List TV) (P : Int32 → AH → Prop) : Prop := Met l y ws rm (ct_pre G h av) (va_Qi P (ah_B G) (ah_A G)) rm.cells rm.slots (ah_A G)
def cx_i (l : Launch) (y : MethodName) (ws : List Cond) (rm : Room) (G : GG) (h : AH) (av : List TV) (P : Int32 → AH → Prop) (PX : String → AH → Prop) : Prop := vx_Met l y ws rm (ct_pre G h av) (va_Qi P (ah_B G) (ah_A G)) (ct_X G PX) rm.cells rm.slots (ah_A G)
def xr_i (x : CX) (P : Int32 → AH → Prop) : Prop := match x with
  | (p, l, e, R, s, m, args, below, meth, c, Q, G, nL) => Q = MQ below (va_Qi P (ah_B G) (ah_A G)) args s R.cells R.slots (ah_A G) ∨ ∃ XC, Q = vx_MQ below (va_Qi P (ah_B G) (ah_A G)) XC args s R.cells R.slots (ah_A G)
def ct_l (l : Launch) (y : MethodName) (ws : List Cond) (rm : Room) (G : GG) (h : AH) (av : List TV) (P : Int64 → AH → Prop) : Prop := Met l y ws rm (ct_pre G h av) (va_Ql P (ah_B G) (ah_A G)) rm.cells rm.slots (ah_A G)
def cx_l (l : Launch) (y : MethodName) (ws : List Cond) (rm : Room) (G : GG) (h : AH) (av : List TV) (P : Int64 → AH → Prop) (PX : String → AH → Prop) : Prop := vx_Met l y ws rm (ct_pre G h av) (va_Ql P (ah_B G) (ah_A G)) (ct_X G PX) rm.cells rm.slots (ah_A G)
def xr_l (x : CX) (P : Int64 → AH → Prop) : Prop := match x with
  | (p, l, e, R, s, m, args, below, meth, c, Q, G, nL) => Q = MQ below (va_Ql P (ah_B G) (ah_A G)) args s R.cells R.slots (ah_A G) ∨ ∃ XC, Q = vx_MQ below (va_Ql P (ah_B G) (ah_A G)) XC args s R.cells R.slots (ah_A G)
def ct_f (l : Launch) (y : MethodName) (ws : List Cond) (rm : Room) (G : GG) (h : AH) (av : List TV) (P : UInt32 → AH → Prop) : Prop := Met l y ws rm (ct_pre G h av) (va_Qf P (ah_B G) (ah_A G)) rm.cells rm.slots (ah_A G)
def cx_f (l : Launch) (y : MethodName) (ws : List Cond) (rm : Room) (G : GG) (h : AH) (av : List TV) (P : UInt32 → AH → Prop) (PX : String → AH → Prop) : Prop := vx_Met l y ws rm (ct_pre G h av) (va_Qf P (ah_B G) (ah_A G)) (ct_X G PX) rm.cells rm.slots (ah_A G)
def xr_f (x : CX) (P : UInt32 → AH → Prop) : Prop := match x with
  | (p, l, e, R, s, m, args, below, meth, c, Q, G, nL) => Q = MQ below (va_Qf P (ah_B G) (ah_A G)) args s R.cells R.slots (ah_A G) ∨ ∃ XC, Q = vx_MQ below (va_Qf P (ah_B G) (ah_A G)) XC args s R.cells R.slots (ah_A G)
def ct_d (l : Launch) (y : MethodName) (ws : List Cond) (rm : Room) (G : GG) (h : AH) (av : List TV) (P : UInt64 → AH → Prop) : Prop := Met l y ws rm (ct_pre G h av) (va_Qd P (ah_B G) (ah_A G)) rm.cells rm.slots (ah_A G)
def cx_d (l : Launch) (y : MethodName) (ws : List Cond) (rm : Room) (G : GG) (h : AH) (av : List TV) (P : UInt64 → AH → Prop) (PX : String → AH → Prop) : Prop := vx_Met l y ws rm (ct_pre G h av) (va_Qd P (ah_B G) (ah_A G)) (ct_X G PX) rm.cells rm.slots (ah_A G)
def xr_d (x : CX) (P : UInt64 → AH → Prop) : Prop := match x with
  | (p, l, e, R, s, m, args, below, meth, c, Q, G, nL) => Q = MQ below (va_Qd P (ah_B G) (ah_A G)) args s R.cells R.slots (ah_A G) ∨ ∃ XC, Q = vx_MQ below (va_Qd P (ah_B G) (ah_A G)) XC args s R.cells R.slots (ah_A G)
def ct_q (l : Launch) (y : MethodName) (ws : List Cond) (rm : Room) (G : GG) (h : AH) (av : List TV) (P : Option Nat → AH → Prop) : Prop := Met l y ws rm (ct_pre G h av) (va_Qq P (ah_B G) (ah_A G)) rm.cells rm.slots (ah_A G)
def cx_q (l : Launch) (y : MethodName) (ws : List Cond) (rm : Room) (G : GG) (h : AH) (av : List TV) (P : Option Nat → AH → Prop) (PX : String → AH → Prop) : Prop := vx_Met l y ws rm (ct_pre G h av) (va_Qq P (ah_B G) (ah_A G)) (ct_X G PX) rm.cells rm.slots (ah_A G)
def xr_q (x : CX) (P : Option Nat → AH → Prop) : Prop := match x with
  | (p, l, e, R, s, m, args, below, meth, c, Q, G, nL) => Q = MQ below (va_Qq P (ah_B G) (ah_A G)) args s R.cells R.slots (ah_A G) ∨ ∃ XC, Q = vx_MQ below (va_Qq P (ah_B G) (ah_A G)) XC args s R.cells R.slots (ah_A G)
def ct_v (l : Launch) (y : MethodName) (ws : List Cond) (rm : Room) (G : GG) (h : AH) (av : List TV) (P : AH → Prop) : Prop := Met l y ws rm (ct_pre G h av) (va_Qv P (ah_B G) (ah_A G)) rm.cells rm.slots (ah_A G)
def cx_v (l : Launch) (y : MethodName) (ws : List Cond) (rm : Room) (G : GG) (h : AH) (av : List TV) (P : AH → Prop) (PX : String → AH → Prop) : Prop := vx_Met l y ws rm (ct_pre G h av) (va_Qv P (ah_B G) (ah_A G)) (ct_X G PX) rm.cells rm.slots (ah_A G)
def xr_v (x : CX) (P : AH → Prop) : Prop := match x with
  | (p, l, e, R, s, m, args, below, meth, c, Q, G, nL) => Q = MQ below (va_Qv P (ah_B G) (ah_A G)) args s R.cells R.slots (ah_A G) ∨ ∃ XC, Q = vx_MQ below (va_Qv P (ah_B G) (ah_A G)) XC args s R.cells R.slots (ah_A G)
def xt_ (x : CX) (PX : String → AH → Prop) : Prop := match x with
  | (p, l, e, R, s, m, args, below, meth, c, Q, G, nL) => ∃ Qc, Q = vx_MQ below Qc (ct_X G PX) args s R.cells R.slots (ah_A G)
theorem j_iret {x : CX} {cc : ByteArray} {own : String} {rm : Room} {n9 : Nat} (X : Ok x cc own rm n9) {h : AH} {u v pc : Nat} {lv : List (Nat × TV)} {P : Int32 → AH → Prop} {a : Int32} (hQ : xr_i x P) (hr : xrt x = some .int) (hu : u ≤ rm.cells) (hv : v ≤ rm.slots) (d : decode cc pc = .ok (.ireturn, 1)) (hw : P a h) : J x h u v pc lv ([vI a]) := by
  obtain ⟨p, l, e, R, s, m, args, below, meth, c, Q, G, nL⟩ := x
  intro H locs ls hh hS hl
  obtain rfl : R = rm := X.2.2.2.2.2.2.1
  refine W.widen hu hv ?_
  have hk : W p l e R s m args below meth c H locs R.cells R.slots (MQ below (va_Qi P (ah_B G) (ah_A G)) args s R.cells R.slots (ah_A G)) (F0 m pc ls (stm [vI a])) :=
    W.iret (v := a) X.1 X.2.1 hr (fun t ht hW => ⟨⟨a, h, rfl, hw, (by show ah_P G h t.heap; rw [ht]; exact hh)⟩, hS.F ht⟩) hS.2.2 d (hlocks := X.2.2.2.2.2.2.2.2.2.1)
  rcases hQ with rfl | ⟨XC, rfl⟩
  · exact hk
  · exact vx_ret hk
theorem j_zret {x : CX} {cc : ByteArray} {own : String} {rm : Room} {n9 : Nat} (X : Ok x cc own rm n9) {h : AH} {u v pc : Nat} {lv : List (Nat × TV)} {ty : FieldType} {P : Int32 → AH → Prop} {a : Int32} (hQ : xr_i x P) (hr : xrt x = some ty) (hn9 : narrow ty (.int a) = .int a) (hu : u ≤ rm.cells) (hv : v ≤ rm.slots) (d : decode cc pc = .ok (.ireturn, 1)) (hw : P a h) : J x h u v pc lv ([vI a]) := by
  obtain ⟨p, l, e, R, s, m, args, below, meth, c, Q, G, nL⟩ := x
  intro H locs ls hh hS hl
  obtain rfl : R = rm := X.2.2.2.2.2.2.1
  refine W.widen hu hv ?_
  have hk : W p l e R s m args below meth c H locs R.cells R.slots (MQ below (va_Qi P (ah_B G) (ah_A G)) args s R.cells R.slots (ah_A G)) (F0 m pc ls (stm [vI a])) :=
    W.zret (v := a) (ty := ty) X.1 X.2.1 hr hn9 (fun t ht hW => ⟨⟨a, h, rfl, hw, (by show ah_P G h t.heap; rw [ht]; exact hh)⟩, hS.F ht⟩) hS.2.2 d (hlocks := X.2.2.2.2.2.2.2.2.2.1)
  rcases hQ with rfl | ⟨XC, rfl⟩
  · exact hk
  · exact vx_ret hk
theorem j_lret {x : CX} {cc : ByteArray} {own : String} {rm : Room} {n9 : Nat} (X : Ok x cc own rm n9) {h : AH} {u v pc : Nat} {lv : List (Nat × TV)} {P : Int64 → AH → Prop} {a : Int64} (hQ : xr_l x P) (hr : xrt x = some .long) (hu : u ≤ rm.cells) (hv : v ≤ rm.slots) (d : decode cc pc = .ok (.lreturn, 1)) (hw : P a h) : J x h u v pc lv ([vL a]) := by
  obtain ⟨p, l, e, R, s, m, args, below, meth, c, Q, G, nL⟩ := x
  intro H locs ls hh hS hl
  obtain rfl : R = rm := X.2.2.2.2.2.2.1
  refine W.widen hu hv ?_
  have hk : W p l e R s m args below meth c H locs R.cells R.slots (MQ below (va_Ql P (ah_B G) (ah_A G)) args s R.cells R.slots (ah_A G)) (F0 m pc ls (stm [vL a])) :=
    W.lret (v := a) X.1 X.2.1 hr (fun t ht hW => ⟨⟨a, h, rfl, hw, (by show ah_P G h t.heap; rw [ht]; exact hh)⟩, hS.F ht⟩) hS.2.2 d (hlocks := X.2.2.2.2.2.2.2.2.2.1)
  rcases hQ with rfl | ⟨XC, rfl⟩
  · exact hk
  · exact vx_ret hk
theorem j_fret {x : CX} {cc : ByteArray} {own : String} {rm : Room} {n9 : Nat} (X : Ok x cc own rm n9) {h : AH} {u v pc : Nat} {lv : List (Nat × TV)} {P : UInt32 → AH → Prop} {a : UInt32} (hQ : xr_f x P) (hr : xrt x = some .float) (hu : u ≤ rm.cells) (hv : v ≤ rm.slots) (d : decode cc pc = .ok (.freturn, 1)) (hw : P a h) : J x h u v pc lv ([vF a]) := by
  obtain ⟨p, l, e, R, s, m, args, below, meth, c, Q, G, nL⟩ := x
  intro H locs ls hh hS hl
  obtain rfl : R = rm := X.2.2.2.2.2.2.1
  refine W.widen hu hv ?_
  have hk : W p l e R s m args below meth c H locs R.cells R.slots (MQ below (va_Qf P (ah_B G) (ah_A G)) args s R.cells R.slots (ah_A G)) (F0 m pc ls (stm [vF a])) :=
    W.fret (v := a) X.1 X.2.1 hr (fun t ht hW => ⟨⟨a, h, rfl, hw, (by show ah_P G h t.heap; rw [ht]; exact hh)⟩, hS.F ht⟩) hS.2.2 d (hlocks := X.2.2.2.2.2.2.2.2.2.1)
  rcases hQ with rfl | ⟨XC, rfl⟩
  · exact hk
  · exact vx_ret hk
theorem j_dret {x : CX} {cc : ByteArray} {own : String} {rm : Room} {n9 : Nat} (X : Ok x cc own rm n9) {h : AH} {u v pc : Nat} {lv : List (Nat × TV)} {P : UInt64 → AH → Prop} {a : UInt64} (hQ : xr_d x P) (hr : xrt x = some .double) (hu : u ≤ rm.cells) (hv : v ≤ rm.slots) (d : decode cc pc = .ok (.dreturn, 1)) (hw : P a h) : J x h u v pc lv ([vD a]) := by
  obtain ⟨p, l, e, R, s, m, args, below, meth, c, Q, G, nL⟩ := x
  intro H locs ls hh hS hl
  obtain rfl : R = rm := X.2.2.2.2.2.2.1
  refine W.widen hu hv ?_
  have hk : W p l e R s m args below meth c H locs R.cells R.slots (MQ below (va_Qd P (ah_B G) (ah_A G)) args s R.cells R.slots (ah_A G)) (F0 m pc ls (stm [vD a])) :=
    W.dret (v := a) X.1 X.2.1 hr (fun t ht hW => ⟨⟨a, h, rfl, hw, (by show ah_P G h t.heap; rw [ht]; exact hh)⟩, hS.F ht⟩) hS.2.2 d (hlocks := X.2.2.2.2.2.2.2.2.2.1)
  rcases hQ with rfl | ⟨XC, rfl⟩
  · exact hk
  · exact vx_ret hk
theorem j_aret {x : CX} {cc : ByteArray} {own : String} {rm : Room} {n9 : Nat} (X : Ok x cc own rm n9) {h : AH} {u v pc : Nat} {lv : List (Nat × TV)} {ty : FieldType} {P : Option Nat → AH → Prop} {a : Option Nat} (hQ : xr_q x P) (hr : xrt x = some ty) (hrt : (∃ n, ty = .object n) ∨ ∃ t, ty = .array t) (hu : u ≤ rm.cells) (hv : v ≤ rm.slots) (d : decode cc pc = .ok (.areturn, 1)) (hw : P a h) : J x h u v pc lv ([vR a]) := by
  obtain ⟨p, l, e, R, s, m, args, below, meth, c, Q, G, nL⟩ := x
  intro H locs ls hh hS hl
  obtain rfl : R = rm := X.2.2.2.2.2.2.1
  refine W.widen hu hv ?_
  have hk : W p l e R s m args below meth c H locs R.cells R.slots (MQ below (va_Qq P (ah_B G) (ah_A G)) args s R.cells R.slots (ah_A G)) (F0 m pc ls (stm [vR a])) :=
    W.aret (v := va_rf a) (rt := ty) X.1 X.2.1 hr hrt (va_rf_or a) (fun t ht hW => ⟨⟨a, h, rfl, hw, (by show ah_P G h t.heap; rw [ht]; exact hh)⟩, hS.F ht⟩) hS.2.2 d (hlocks := X.2.2.2.2.2.2.2.2.2.1)
  rcases hQ with rfl | ⟨XC, rfl⟩
  · exact hk
  · exact vx_ret hk
theorem j_vret {x : CX} {cc : ByteArray} {own : String} {rm : Room} {n9 : Nat} (X : Ok x cc own rm n9) {h : AH} {u v pc : Nat} {lv : List (Nat × TV)} {P : AH → Prop} (hQ : xr_v x P) (hr : xrt x = none) (hu : u ≤ rm.cells) (hv : v ≤ rm.slots) (d : decode cc pc = .ok (.return_, 1)) (hw : P h) : J x h u v pc lv ([]) := by
  obtain ⟨p, l, e, R, s, m, args, below, meth, c, Q, G, nL⟩ := x
  intro H locs ls hh hS hl
  obtain rfl : R = rm := X.2.2.2.2.2.2.1
  refine W.widen hu hv ?_
  have hk : W p l e R s m args below meth c H locs R.cells R.slots (MQ below (va_Qv P (ah_B G) (ah_A G)) args s R.cells R.slots (ah_A G)) (F0 m pc ls (stm [])) :=
    W.vret X.1 X.2.1 hr (fun t ht hW => ⟨⟨h, rfl, hw, (by show ah_P G h t.heap; rw [ht]; exact hh)⟩, hS.F ht⟩) hS.2.2 d (hlocks := X.2.2.2.2.2.2.2.2.2.1)
  rcases hQ with rfl | ⟨XC, rfl⟩
  · exact hk
  · exact vx_ret hk
theorem j_starti {l : Launch} (hlt : l.stackTraces = false) {y : MethodName} {cc : ByteArray} {maxL : Nat} {ret : Option FieldType} {rm : Room} {G : GG} {h : AH} {av : List TV} {P : Int32 → AH → Prop} (lv : List (Nat × TV)) (hy : plainFor y = true) (hav : Nat.ble (av.map tvc).sum maxL = true) (hlv : lvT 0 av = lv)
    (body : ∀ x : CX, Ok x cc y.cls rm maxL → xG x = G → xrt x = ret → xnm x = y.name → xr_i x P → J x h 0 0 0 lv []) : ct_i l y (ws_ y cc maxL ret) rm G h av P := by
  refine va_MetF (cc := cc) (maxL := maxL) (ret := ret) hy rfl ?_
  intro p e s m args below meth c s₁ B hml hv
  obtain ⟨rfl, hK, hb, hh⟩ := hv
  have hts0 := atoms_spec (ws := ws_ y cc maxL ret) B.pre
  have hts : ∀ w ∈ lw_all, w.before _ s = true := fun w h => hts0 w (List.mem_cons_of_mem _ h)
  have hk := body (p, l, e, rm, s, m, (stm av).toArray, below, meth, c, MQ below (va_Qi P (ah_B G) (ah_A G)) (stm av).toArray s rm.cells rm.slots (ah_A G), G, maxL) ⟨B.exec, B.bytes, findClass_of_methodNamed B.named, hts, hK, hml, rfl, hb, hlt, B.notSynchronized, rfl⟩ rfl B.returns (name_of_methodNamed B.named B.method).1 (Or.inl rfl)
  rw [lg_entry_eq]
  refine hk s.heap [] _ hh va_S.rf ?_
  have hl := lv_entry (stm av) (n := maxL) (by rw [lg_len]; exact Nat.le_of_ble_eq_true hav)
  rw [lvT_eq, hlv] at hl
  exact hl
theorem j_startXi {l : Launch} (hlt : l.stackTraces = false) {y : MethodName} {cc : ByteArray} {maxL : Nat} {ret : Option FieldType} {rm : Room} {G : GG} {h : AH} {av : List TV} {P : Int32 → AH → Prop} {PX : String → AH → Prop} (lv : List (Nat × TV)) (hy : plainName y.cls = true) (hav : Nat.ble (av.map tvc).sum maxL = true) (hlv : lvT 0 av = lv)
    (body : ∀ x : CX, Ok x cc y.cls rm maxL → xG x = G → xrt x = ret → xnm x = y.name → xr_i x P → xt_ x PX → (∀ z ∈ x.2.2.2.2.2.2.2.2.2.1.exceptionTable.toList, False) → J x h 0 0 0 lv []) : cx_i l y (ws_ y cc maxL ret) rm G h av P PX := by
  refine vx_ofW (cc := cc) (maxL := maxL) (ret := ret) hy rfl ?_
  intro p e s m args below meth c s₁ B hml hex hv
  obtain ⟨rfl, hK, hb, hh⟩ := hv
  have hts0 := atoms_spec (ws := ws_ y cc maxL ret) B.pre
  have hts : ∀ w ∈ lw_all, w.before _ s = true := fun w h => hts0 w (List.mem_cons_of_mem _ h)
  have hk := body (p, l, e, rm, s, m, (stm av).toArray, below, meth, c, vx_MQ below (va_Qi P (ah_B G) (ah_A G)) (ct_X G PX) (stm av).toArray s rm.cells rm.slots (ah_A G), G, maxL) ⟨B.exec, B.bytes, findClass_of_methodNamed B.named, hts, hK, hml, rfl, hb, hlt, B.notSynchronized, rfl⟩ rfl B.returns (name_of_methodNamed B.named B.method).1 (Or.inr ⟨_, rfl⟩) ⟨_, rfl⟩ hex
  rw [lg_entry_eq]
  refine hk s.heap [] _ hh va_S.rf ?_
  have hl := lv_entry (stm av) (n := maxL) (by rw [lg_len]; exact Nat.le_of_ble_eq_true hav)
  rw [lvT_eq, hlv] at hl
  exact hl
theorem j_startl {l : Launch} (hlt : l.stackTraces = false) {y : MethodName} {cc : ByteArray} {maxL : Nat} {ret : Option FieldType} {rm : Room} {G : GG} {h : AH} {av : List TV} {P : Int64 → AH → Prop} (lv : List (Nat × TV)) (hy : plainFor y = true) (hav : Nat.ble (av.map tvc).sum maxL = true) (hlv : lvT 0 av = lv)
    (body : ∀ x : CX, Ok x cc y.cls rm maxL → xG x = G → xrt x = ret → xnm x = y.name → xr_l x P → J x h 0 0 0 lv []) : ct_l l y (ws_ y cc maxL ret) rm G h av P := by
  refine va_MetF (cc := cc) (maxL := maxL) (ret := ret) hy rfl ?_
  intro p e s m args below meth c s₁ B hml hv
  obtain ⟨rfl, hK, hb, hh⟩ := hv
  have hts0 := atoms_spec (ws := ws_ y cc maxL ret) B.pre
  have hts : ∀ w ∈ lw_all, w.before _ s = true := fun w h => hts0 w (List.mem_cons_of_mem _ h)
  have hk := body (p, l, e, rm, s, m, (stm av).toArray, below, meth, c, MQ below (va_Ql P (ah_B G) (ah_A G)) (stm av).toArray s rm.cells rm.slots (ah_A G), G, maxL) ⟨B.exec, B.bytes, findClass_of_methodNamed B.named, hts, hK, hml, rfl, hb, hlt, B.notSynchronized, rfl⟩ rfl B.returns (name_of_methodNamed B.named B.method).1 (Or.inl rfl)
  rw [lg_entry_eq]
  refine hk s.heap [] _ hh va_S.rf ?_
  have hl := lv_entry (stm av) (n := maxL) (by rw [lg_len]; exact Nat.le_of_ble_eq_true hav)
  rw [lvT_eq, hlv] at hl
  exact hl
theorem j_startXl {l : Launch} (hlt : l.stackTraces = false) {y : MethodName} {cc : ByteArray} {maxL : Nat} {ret : Option FieldType} {rm : Room} {G : GG} {h : AH} {av : List TV} {P : Int64 → AH → Prop} {PX : String → AH → Prop} (lv : List (Nat × TV)) (hy : plainName y.cls = true) (hav : Nat.ble (av.map tvc).sum maxL = true) (hlv : lvT 0 av = lv)
    (body : ∀ x : CX, Ok x cc y.cls rm maxL → xG x = G → xrt x = ret → xnm x = y.name → xr_l x P → xt_ x PX → (∀ z ∈ x.2.2.2.2.2.2.2.2.2.1.exceptionTable.toList, False) → J x h 0 0 0 lv []) : cx_l l y (ws_ y cc maxL ret) rm G h av P PX := by
  refine vx_ofW (cc := cc) (maxL := maxL) (ret := ret) hy rfl ?_
  intro p e s m args below meth c s₁ B hml hex hv
  obtain ⟨rfl, hK, hb, hh⟩ := hv
  have hts0 := atoms_spec (ws := ws_ y cc maxL ret) B.pre
  have hts : ∀ w ∈ lw_all, w.before _ s = true := fun w h => hts0 w (List.mem_cons_of_mem _ h)
  have hk := body (p, l, e, rm, s, m, (stm av).toArray, below, meth, c, vx_MQ below (va_Ql P (ah_B G) (ah_A G)) (ct_X G PX) (stm av).toArray s rm.cells rm.slots (ah_A G), G, maxL) ⟨B.exec, B.bytes, findClass_of_methodNamed B.named, hts, hK, hml, rfl, hb, hlt, B.notSynchronized, rfl⟩ rfl B.returns (name_of_methodNamed B.named B.method).1 (Or.inr ⟨_, rfl⟩) ⟨_, rfl⟩ hex
  rw [lg_entry_eq]
  refine hk s.heap [] _ hh va_S.rf ?_
  have hl := lv_entry (stm av) (n := maxL) (by rw [lg_len]; exact Nat.le_of_ble_eq_true hav)
  rw [lvT_eq, hlv] at hl
  exact hl
theorem j_startf {l : Launch} (hlt : l.stackTraces = false) {y : MethodName} {cc : ByteArray} {maxL : Nat} {ret : Option FieldType} {rm : Room} {G : GG} {h : AH} {av : List TV} {P : UInt32 → AH → Prop} (lv : List (Nat × TV)) (hy : plainFor y = true) (hav : Nat.ble (av.map tvc).sum maxL = true) (hlv : lvT 0 av = lv)
    (body : ∀ x : CX, Ok x cc y.cls rm maxL → xG x = G → xrt x = ret → xnm x = y.name → xr_f x P → J x h 0 0 0 lv []) : ct_f l y (ws_ y cc maxL ret) rm G h av P := by
  refine va_MetF (cc := cc) (maxL := maxL) (ret := ret) hy rfl ?_
  intro p e s m args below meth c s₁ B hml hv
  obtain ⟨rfl, hK, hb, hh⟩ := hv
  have hts0 := atoms_spec (ws := ws_ y cc maxL ret) B.pre
  have hts : ∀ w ∈ lw_all, w.before _ s = true := fun w h => hts0 w (List.mem_cons_of_mem _ h)
  have hk := body (p, l, e, rm, s, m, (stm av).toArray, below, meth, c, MQ below (va_Qf P (ah_B G) (ah_A G)) (stm av).toArray s rm.cells rm.slots (ah_A G), G, maxL) ⟨B.exec, B.bytes, findClass_of_methodNamed B.named, hts, hK, hml, rfl, hb, hlt, B.notSynchronized, rfl⟩ rfl B.returns (name_of_methodNamed B.named B.method).1 (Or.inl rfl)
  rw [lg_entry_eq]
  refine hk s.heap [] _ hh va_S.rf ?_
  have hl := lv_entry (stm av) (n := maxL) (by rw [lg_len]; exact Nat.le_of_ble_eq_true hav)
  rw [lvT_eq, hlv] at hl
  exact hl
theorem j_startXf {l : Launch} (hlt : l.stackTraces = false) {y : MethodName} {cc : ByteArray} {maxL : Nat} {ret : Option FieldType} {rm : Room} {G : GG} {h : AH} {av : List TV} {P : UInt32 → AH → Prop} {PX : String → AH → Prop} (lv : List (Nat × TV)) (hy : plainName y.cls = true) (hav : Nat.ble (av.map tvc).sum maxL = true) (hlv : lvT 0 av = lv)
    (body : ∀ x : CX, Ok x cc y.cls rm maxL → xG x = G → xrt x = ret → xnm x = y.name → xr_f x P → xt_ x PX → (∀ z ∈ x.2.2.2.2.2.2.2.2.2.1.exceptionTable.toList, False) → J x h 0 0 0 lv []) : cx_f l y (ws_ y cc maxL ret) rm G h av P PX := by
  refine vx_ofW (cc := cc) (maxL := maxL) (ret := ret) hy rfl ?_
  intro p e s m args below meth c s₁ B hml hex hv
  obtain ⟨rfl, hK, hb, hh⟩ := hv
  have hts0 := atoms_spec (ws := ws_ y cc maxL ret) B.pre
  have hts : ∀ w ∈ lw_all, w.before _ s = true := fun w h => hts0 w (List.mem_cons_of_mem _ h)
  have hk := body (p, l, e, rm, s, m, (stm av).toArray, below, meth, c, vx_MQ below (va_Qf P (ah_B G) (ah_A G)) (ct_X G PX) (stm av).toArray s rm.cells rm.slots (ah_A G), G, maxL) ⟨B.exec, B.bytes, findClass_of_methodNamed B.named, hts, hK, hml, rfl, hb, hlt, B.notSynchronized, rfl⟩ rfl B.returns (name_of_methodNamed B.named B.method).1 (Or.inr ⟨_, rfl⟩) ⟨_, rfl⟩ hex
  rw [lg_entry_eq]
  refine hk s.heap [] _ hh va_S.rf ?_
  have hl := lv_entry (stm av) (n := maxL) (by rw [lg_len]; exact Nat.le_of_ble_eq_true hav)
  rw [lvT_eq, hlv] at hl
  exact hl
theorem j_startd {l : Launch} (hlt : l.stackTraces = false) {y : MethodName} {cc : ByteArray} {maxL : Nat} {ret : Option FieldType} {rm : Room} {G : GG} {h : AH} {av : List TV} {P : UInt64 → AH → Prop} (lv : List (Nat × TV)) (hy : plainFor y = true) (hav : Nat.ble (av.map tvc).sum maxL = true) (hlv : lvT 0 av = lv)
    (body : ∀ x : CX, Ok x cc y.cls rm maxL → xG x = G → xrt x = ret → xnm x = y.name → xr_d x P → J x h 0 0 0 lv []) : ct_d l y (ws_ y cc maxL ret) rm G h av P := by
  refine va_MetF (cc := cc) (maxL := maxL) (ret := ret) hy rfl ?_
  intro p e s m args below meth c s₁ B hml hv
  obtain ⟨rfl, hK, hb, hh⟩ := hv
  have hts0 := atoms_spec (ws := ws_ y cc maxL ret) B.pre
  have hts : ∀ w ∈ lw_all, w.before _ s = true := fun w h => hts0 w (List.mem_cons_of_mem _ h)
  have hk := body (p, l, e, rm, s, m, (stm av).toArray, below, meth, c, MQ below (va_Qd P (ah_B G) (ah_A G)) (stm av).toArray s rm.cells rm.slots (ah_A G), G, maxL) ⟨B.exec, B.bytes, findClass_of_methodNamed B.named, hts, hK, hml, rfl, hb, hlt, B.notSynchronized, rfl⟩ rfl B.returns (name_of_methodNamed B.named B.method).1 (Or.inl rfl)
  rw [lg_entry_eq]
  refine hk s.heap [] _ hh va_S.rf ?_
  have hl := lv_entry (stm av) (n := maxL) (by rw [lg_len]; exact Nat.le_of_ble_eq_true hav)
  rw [lvT_eq, hlv] at hl
  exact hl
theorem j_startXd {l : Launch} (hlt : l.stackTraces = false) {y : MethodName} {cc : ByteArray} {maxL : Nat} {ret : Option FieldType} {rm : Room} {G : GG} {h : AH} {av : List TV} {P : UInt64 → AH → Prop} {PX : String → AH → Prop} (lv : List (Nat × TV)) (hy : plainName y.cls = true) (hav : Nat.ble (av.map tvc).sum maxL = true) (hlv : lvT 0 av = lv)
    (body : ∀ x : CX, Ok x cc y.cls rm maxL → xG x = G → xrt x = ret → xnm x = y.name → xr_d x P → xt_ x PX → (∀ z ∈ x.2.2.2.2.2.2.2.2.2.1.exceptionTable.toList, False) → J x h 0 0 0 lv []) : cx_d l y (ws_ y cc maxL ret) rm G h av P PX := by
  refine vx_ofW (cc := cc) (maxL := maxL) (ret := ret) hy rfl ?_
  intro p e s m args below meth c s₁ B hml hex hv
  obtain ⟨rfl, hK, hb, hh⟩ := hv
  have hts0 := atoms_spec (ws := ws_ y cc maxL ret) B.pre
  have hts : ∀ w ∈ lw_all, w.before _ s = true := fun w h => hts0 w (List.mem_cons_of_mem _ h)
  have hk := body (p, l, e, rm, s, m, (stm av).toArray, below, meth, c, vx_MQ below (va_Qd P (ah_B G) (ah_A G)) (ct_X G PX) (stm av).toArray s rm.cells rm.slots (ah_A G), G, maxL) ⟨B.exec, B.bytes, findClass_of_methodNamed B.named, hts, hK, hml, rfl, hb, hlt, B.notSynchronized, rfl⟩ rfl B.returns (name_of_methodNamed B.named B.method).1 (Or.inr ⟨_, rfl⟩) ⟨_, rfl⟩ hex
  rw [lg_entry_eq]
  refine hk s.heap [] _ hh va_S.rf ?_
  have hl := lv_entry (stm av) (n := maxL) (by rw [lg_len]; exact Nat.le_of_ble_eq_true hav)
  rw [lvT_eq, hlv] at hl
  exact hl
theorem j_startq {l : Launch} (hlt : l.stackTraces = false) {y : MethodName} {cc : ByteArray} {maxL : Nat} {ret : Option FieldType} {rm : Room} {G : GG} {h : AH} {av : List TV} {P : Option Nat → AH → Prop} (lv : List (Nat × TV)) (hy : plainFor y = true) (hav : Nat.ble (av.map tvc).sum maxL = true) (hlv : lvT 0 av = lv)
    (body : ∀ x : CX, Ok x cc y.cls rm maxL → xG x = G → xrt x = ret → xnm x = y.name → xr_q x P → J x h 0 0 0 lv []) : ct_q l y (ws_ y cc maxL ret) rm G h av P := by
  refine va_MetF (cc := cc) (maxL := maxL) (ret := ret) hy rfl ?_
  intro p e s m args below meth c s₁ B hml hv
  obtain ⟨rfl, hK, hb, hh⟩ := hv
  have hts0 := atoms_spec (ws := ws_ y cc maxL ret) B.pre
  have hts : ∀ w ∈ lw_all, w.before _ s = true := fun w h => hts0 w (List.mem_cons_of_mem _ h)
  have hk := body (p, l, e, rm, s, m, (stm av).toArray, below, meth, c, MQ below (va_Qq P (ah_B G) (ah_A G)) (stm av).toArray s rm.cells rm.slots (ah_A G), G, maxL) ⟨B.exec, B.bytes, findClass_of_methodNamed B.named, hts, hK, hml, rfl, hb, hlt, B.notSynchronized, rfl⟩ rfl B.returns (name_of_methodNamed B.named B.method).1 (Or.inl rfl)
  rw [lg_entry_eq]
  refine hk s.heap [] _ hh va_S.rf ?_
  have hl := lv_entry (stm av) (n := maxL) (by rw [lg_len]; exact Nat.le_of_ble_eq_true hav)
  rw [lvT_eq, hlv] at hl
  exact hl
theorem j_startXq {l : Launch} (hlt : l.stackTraces = false) {y : MethodName} {cc : ByteArray} {maxL : Nat} {ret : Option FieldType} {rm : Room} {G : GG} {h : AH} {av : List TV} {P : Option Nat → AH → Prop} {PX : String → AH → Prop} (lv : List (Nat × TV)) (hy : plainName y.cls = true) (hav : Nat.ble (av.map tvc).sum maxL = true) (hlv : lvT 0 av = lv)
    (body : ∀ x : CX, Ok x cc y.cls rm maxL → xG x = G → xrt x = ret → xnm x = y.name → xr_q x P → xt_ x PX → (∀ z ∈ x.2.2.2.2.2.2.2.2.2.1.exceptionTable.toList, False) → J x h 0 0 0 lv []) : cx_q l y (ws_ y cc maxL ret) rm G h av P PX := by
  refine vx_ofW (cc := cc) (maxL := maxL) (ret := ret) hy rfl ?_
  intro p e s m args below meth c s₁ B hml hex hv
  obtain ⟨rfl, hK, hb, hh⟩ := hv
  have hts0 := atoms_spec (ws := ws_ y cc maxL ret) B.pre
  have hts : ∀ w ∈ lw_all, w.before _ s = true := fun w h => hts0 w (List.mem_cons_of_mem _ h)
  have hk := body (p, l, e, rm, s, m, (stm av).toArray, below, meth, c, vx_MQ below (va_Qq P (ah_B G) (ah_A G)) (ct_X G PX) (stm av).toArray s rm.cells rm.slots (ah_A G), G, maxL) ⟨B.exec, B.bytes, findClass_of_methodNamed B.named, hts, hK, hml, rfl, hb, hlt, B.notSynchronized, rfl⟩ rfl B.returns (name_of_methodNamed B.named B.method).1 (Or.inr ⟨_, rfl⟩) ⟨_, rfl⟩ hex
  rw [lg_entry_eq]
  refine hk s.heap [] _ hh va_S.rf ?_
  have hl := lv_entry (stm av) (n := maxL) (by rw [lg_len]; exact Nat.le_of_ble_eq_true hav)
  rw [lvT_eq, hlv] at hl
  exact hl
theorem j_startv {l : Launch} (hlt : l.stackTraces = false) {y : MethodName} {cc : ByteArray} {maxL : Nat} {ret : Option FieldType} {rm : Room} {G : GG} {h : AH} {av : List TV} {P : AH → Prop} (lv : List (Nat × TV)) (hy : plainFor y = true) (hav : Nat.ble (av.map tvc).sum maxL = true) (hlv : lvT 0 av = lv)
    (body : ∀ x : CX, Ok x cc y.cls rm maxL → xG x = G → xrt x = ret → xnm x = y.name → xr_v x P → J x h 0 0 0 lv []) : ct_v l y (ws_ y cc maxL ret) rm G h av P := by
  refine va_MetF (cc := cc) (maxL := maxL) (ret := ret) hy rfl ?_
  intro p e s m args below meth c s₁ B hml hv
  obtain ⟨rfl, hK, hb, hh⟩ := hv
  have hts0 := atoms_spec (ws := ws_ y cc maxL ret) B.pre
  have hts : ∀ w ∈ lw_all, w.before _ s = true := fun w h => hts0 w (List.mem_cons_of_mem _ h)
  have hk := body (p, l, e, rm, s, m, (stm av).toArray, below, meth, c, MQ below (va_Qv P (ah_B G) (ah_A G)) (stm av).toArray s rm.cells rm.slots (ah_A G), G, maxL) ⟨B.exec, B.bytes, findClass_of_methodNamed B.named, hts, hK, hml, rfl, hb, hlt, B.notSynchronized, rfl⟩ rfl B.returns (name_of_methodNamed B.named B.method).1 (Or.inl rfl)
  rw [lg_entry_eq]
  refine hk s.heap [] _ hh va_S.rf ?_
  have hl := lv_entry (stm av) (n := maxL) (by rw [lg_len]; exact Nat.le_of_ble_eq_true hav)
  rw [lvT_eq, hlv] at hl
  exact hl
theorem j_startXv {l : Launch} (hlt : l.stackTraces = false) {y : MethodName} {cc : ByteArray} {maxL : Nat} {ret : Option FieldType} {rm : Room} {G : GG} {h : AH} {av : List TV} {P : AH → Prop} {PX : String → AH → Prop} (lv : List (Nat × TV)) (hy : plainName y.cls = true) (hav : Nat.ble (av.map tvc).sum maxL = true) (hlv : lvT 0 av = lv)
    (body : ∀ x : CX, Ok x cc y.cls rm maxL → xG x = G → xrt x = ret → xnm x = y.name → xr_v x P → xt_ x PX → (∀ z ∈ x.2.2.2.2.2.2.2.2.2.1.exceptionTable.toList, False) → J x h 0 0 0 lv []) : cx_v l y (ws_ y cc maxL ret) rm G h av P PX := by
  refine vx_ofW (cc := cc) (maxL := maxL) (ret := ret) hy rfl ?_
  intro p e s m args below meth c s₁ B hml hex hv
  obtain ⟨rfl, hK, hb, hh⟩ := hv
  have hts0 := atoms_spec (ws := ws_ y cc maxL ret) B.pre
  have hts : ∀ w ∈ lw_all, w.before _ s = true := fun w h => hts0 w (List.mem_cons_of_mem _ h)
  have hk := body (p, l, e, rm, s, m, (stm av).toArray, below, meth, c, vx_MQ below (va_Qv P (ah_B G) (ah_A G)) (ct_X G PX) (stm av).toArray s rm.cells rm.slots (ah_A G), G, maxL) ⟨B.exec, B.bytes, findClass_of_methodNamed B.named, hts, hK, hml, rfl, hb, hlt, B.notSynchronized, rfl⟩ rfl B.returns (name_of_methodNamed B.named B.method).1 (Or.inr ⟨_, rfl⟩) ⟨_, rfl⟩ hex
  rw [lg_entry_eq]
  refine hk s.heap [] _ hh va_S.rf ?_
  have hl := lv_entry (stm av) (n := maxL) (by rw [lg_len]; exact Nat.le_of_ble_eq_true hav)
  rw [lvT_eq, hlv] at hl
  exact hl
def RunJ (x : CX) (h : AH) (u v mc ms pc : Nat) (lv : List (Nat × TV)) (st0 rest : List TV) (Qa : State → Outcome → State → Prop) : Prop := match x with
  | (p, l, e, R, s, m, args, below, meth, c, Q, G, nL) => ∀ (H : Heap) (locs : List Loc) (ls : Array Slot), ah_P G h H → va_S (ah_A G) s.heap H locs → lv_has ls nL (lvm lv) → va_Run p l e R s m args below meth c H locs u v mc ms (F0 m pc ls (stm st0)) (stm rest) Qa (ah_A G)
def RunJ5 (x : CX) (h : AH) (u v mc ms pc : Nat) (lv : List (Nat × TV)) (st0 rest : List TV) (Qa : State → Outcome → State → Prop) : Prop := match x with
  | (p, l, e, R, s, m, args, below, meth, c, Q, G, nL) => ∀ (H : Heap) (locs : List Loc) (ls : Array Slot), ah_P G h H → va_S (ah_A G) s.heap H locs → lv_has ls nL (lvm lv) → va_Run5 p l e R s m args below meth c H locs u v mc ms (F0 m pc ls (stm st0)) (stm rest) Qa (ah_A G)
def RunX (x : CX) (h : AH) (u v mc ms pc : Nat) (lv : List (Nat × TV)) (st0 rest : List TV) (Qa : State → Outcome → State → Prop) (PX : String → AH → Prop) : Prop := match x with
  | (p, l, e, R, s, m, args, below, meth, c, Q, G, nL) => ∀ (H : Heap) (locs : List Loc) (ls : Array Slot), ah_P G h H → va_S (ah_A G) s.heap H locs → lv_has ls nL (lvm lv) → vx_Run p l e R s m args below meth c H locs u v mc ms (F0 m pc ls (stm st0)) (stm rest) Qa (ct_X G PX) (ah_A G)
/-- an exception on its way at pc -/
def JX (x : CX) (E : String) (h : AH) (u v pc : Nat) (lv : List (Nat × TV)) (st : List TV) : Prop := match x with
  | (p, l, e, R, s, m, args, below, meth, c, Q, G, nL) => ∀ (H : Heap) (locs : List Loc) (ls : Array Slot) (q : Addr) (ce : Cell), ah_P G h H → va_S (ah_A G) s.heap H locs → lv_has ls nL (lvm lv) → H[q]? = some ce → ce.vm = .none → s.vm.findClass E = some ce.cls → vx_W p l e R s m args below meth c H locs u v Q (F0 m pc ls (stm st)) q
theorem stm_rev (As : List TV) (b : TV) (rest : List TV) : stm (As.reverse ++ b :: rest) = (stm As).reverse ++ tv b :: stm rest := by
  simp [stm]
theorem stm_rev0 (As rest : List TV) : stm (As.reverse ++ rest) = (stm As).reverse ++ stm rest := by
  simp [stm]
theorem ah_recv {G : GG} {h : AH} {H : Heap} {s : State} {a ci N : Nat} {fs : List Value} {C : String} {T : u_T} (hK : va_K G.1 vwCl (ah_tys G) s) (hh : ah_P G h H) (he : h.1 a = some (.inr (ci, fs))) (hci : ci < 20) (hc : vwCl[ci]? = some (C, T, N)) : ∃ cell : Cell, H[a]? = some cell ∧ cell.vm.isStatics = false ∧ s.vm.findClass C = some cell.cls :=
  va_recv hK (hh.obj he hci) hc (q0 := 0) rfl
theorem j_runV {x : CX} {cc : ByteArray} {own : String} {rm : Room} {n9 : Nat} (X : Ok x cc own rm n9) {h : AH} {u v pc : Nat} {lv : List (Nat × TV)} {n8 : Nat} {y : MethodName} {cy : ByteArray} {ny : Nat} {ry : Option FieldType} {rmy : Room} {As rest : List TV} {Qc : Array Value → State → Outcome → State → Prop} {index : Nat} {b : Nat} {r : Option Nat} (hr9 : r = some b) (hM : Met (xl x) y (ws_ y cy ny ry) rmy (ct_pre (xG x) h (vR r :: As)) Qc rmy.cells rmy.slots (ah_A (xG x))) {C : String} {T : u_T} {N ci : Nat} {fs : List Value} (hob : h.1 b = some (.inr (ci, fs))) (hci : ci < 20) (hc : vwCl[ci]? = some (C, T, N)) (q1 : Cond.methodLink own index y ∈ lw_all) (q2 : Cond.instanceMethod y ∈ lw_all) (q3 : Cond.selects C y y ∈ lw_all) (q4 : Cond.initialized C ∈ lw_all) (q5 : Cond.code y cy ny ry ∈ lw_all) (hd : y.cls = C ∧ y.cls ≠ "java/lang/invoke/MethodHandle" ∧ y.cls ≠ "java/lang/invoke/VarHandle" ∧ (parseMethodDescriptor y.desc).map (fun d => d.parameters.length) = some n8) (d : decode cc pc = .ok (.invokevirtual index, 3)) (hn8 : As.length = n8) (hR : rmy.frames + 1 ≤ rm.frames ∧ 8 + (ny + 11) + rmy.locals ≤ rm.locals) (hW : (rest.map tvc).sum ≤ 8) (hf : u + rmy.cells ≤ rm.cells ∧ v + rmy.slots ≤ rm.slots) : RunJ x h u v rmy.cells rmy.slots pc lv (As.reverse ++ vR r :: rest) rest (Qc (stm (vR r :: As)).toArray) := by
  obtain ⟨p, l, e, R, s, m, args, below, meth, c, Q, G, nL⟩ := x
  intro H locs ls hh hS hl
  obtain rfl : R = rm := X.2.2.2.2.2.2.1
  have hsz : ls.size = nL := hl.1
  subst hr9
  exact va_runV (nL := nL) (As := stm As) (rest := stm rest) ⟨X.1, X.2.1, X.2.2.2.2.2.1, X.2.2.1, X.2.2.2.1⟩ hM (cwV n8 X.2.2.2.1 (lw_V q1 q2 q3 q4 q5) rfl rfl rfl hd hR) ⟨ct_blind _ _ _, ah_recv X.2.2.2.2.1.1.1 hh hob hci hc, fun U hU hW9 => ct_at X.2.2.2.2.1 X.2.2.2.2.2.2.2.1 hh hS U hU hW9⟩ rfl ((List.length_map (as := As) (f := tv)).trans hn8) hsz (stm_rev As (vR (some b)) rest) (by show 2 * 0 + ((stm rest).map fun v => v.category).sum ≤ 8; rw [stm_cat]; omega) d hf
theorem j_runS {x : CX} {cc : ByteArray} {own : String} {rm : Room} {n9 : Nat} (X : Ok x cc own rm n9) {h : AH} {u v pc : Nat} {lv : List (Nat × TV)} {n8 : Nat} {y : MethodName} {cy : ByteArray} {ny : Nat} {ry : Option FieldType} {rmy : Room} {As rest : List TV} {Qc : Array Value → State → Outcome → State → Prop} {index : Nat} (hM : Met (xl x) y (ws_ y cy ny ry) rmy (ct_pre (xG x) h (As)) Qc rmy.cells rmy.slots (ah_A (xG x))) (q1 : Cond.methodLink own index y ∈ lw_all) (q2 : Cond.static y ∈ lw_all) (q4 : Cond.initialized y.cls ∈ lw_all) (q5 : Cond.code y cy ny ry ∈ lw_all) (hd : y.cls ≠ "java/lang/invoke/MethodHandle" ∧ y.cls ≠ "java/lang/invoke/VarHandle" ∧ (parseMethodDescriptor y.desc).map (fun d => d.parameters.length) = some n8) (d : decode cc pc = .ok (.invokestatic index, 3)) (hn8 : As.length = n8) (hR : rmy.frames + 1 ≤ rm.frames ∧ 8 + (ny + 11) + rmy.locals ≤ rm.locals) (hW : (rest.map tvc).sum ≤ 8) (hf : u + rmy.cells ≤ rm.cells ∧ v + rmy.slots ≤ rm.slots) : RunJ x h u v rmy.cells rmy.slots pc lv (As.reverse ++ rest) rest (Qc (stm (As)).toArray) := by
  obtain ⟨p, l, e, R, s, m, args, below, meth, c, Q, G, nL⟩ := x
  intro H locs ls hh hS hl
  obtain rfl : R = rm := X.2.2.2.2.2.2.1
  have hsz : ls.size = nL := hl.1
  exact va_runS (nL := nL) (As := stm As) (rest := stm rest) ⟨X.1, X.2.1, X.2.2.2.2.2.1, X.2.2.1, X.2.2.2.1⟩ hM (va_cwS n8 X.2.2.2.1 (lw_S q1 q2 q4 q5) rfl rfl rfl hd hR) ⟨ct_blind _ _ _, fun U hU hW9 => ct_at X.2.2.2.2.1 X.2.2.2.2.2.2.2.1 hh hS U hU hW9⟩ rfl ((List.length_map (as := As) (f := tv)).trans hn8) hsz (stm_rev0 As rest) (by show 2 * 0 + ((stm rest).map fun v => v.category).sum ≤ 8; rw [stm_cat]; omega) d hf
theorem j_runVN {x : CX} {cc : ByteArray} {own : String} {rm : Room} {n9 : Nat} (X : Ok x cc own rm n9) {h : AH} {u v pc : Nat} {lv : List (Nat × TV)} {n8 : Nat} {y : MethodName} {cy : ByteArray} {ny : Nat} {ry : Option FieldType} {rmy : Room} {As rest : List TV} {Qc : Array Value → State → Outcome → State → Prop} {index : Nat} {b : Nat} {r : Option Nat} (hr9 : r = some b) (hM : Met (xl x) y (ws_ y cy ny ry) rmy (ct_pre (xG x) h (vR r :: As)) Qc rmy.cells rmy.slots (ah_A (xG x))) {C : String} {T : u_T} {N ci : Nat} {fs : List Value} (hob : h.1 b = some (.inr (ci, fs))) (hci : ci < 20) (hc : vwCl[ci]? = some (C, T, N)) {host : String} (q1 : Cond.methodLinkNest own index y host ∈ lw_tbl) (q2 : Cond.instanceMethod y ∈ lw_all) (q3 : Cond.selects C y y ∈ lw_all) (q4 : Cond.initialized y.cls ∈ lw_all) (q5 : Cond.code y cy ny ry ∈ lw_all) (hd : y.cls ≠ "java/lang/invoke/MethodHandle" ∧ y.cls ≠ "java/lang/invoke/VarHandle" ∧ (parseMethodDescriptor y.desc).map (fun d => d.parameters.length) = some n8) (d : decode cc pc = .ok (.invokevirtual index, 3)) (hn8 : As.length = n8) (hR : rmy.frames + 1 ≤ rm.frames ∧ 8 + (ny + 11) + rmy.locals ≤ rm.locals) (hW : (rest.map tvc).sum ≤ 8) (hf : u + rmy.cells ≤ rm.cells ∧ v + rmy.slots ≤ rm.slots) : RunJ x h u v rmy.cells rmy.slots pc lv (As.reverse ++ vR r :: rest) rest (Qc (stm (vR r :: As)).toArray) := by
  obtain ⟨p, l, e, R, s, m, args, below, meth, c, Q, G, nL⟩ := x
  intro H locs ls hh hS hl
  obtain rfl : R = rm := X.2.2.2.2.2.2.1
  have hsz : ls.size = nL := hl.1
  subst hr9
  exact va_runVN (nL := nL) (As := stm As) (rest := stm rest) ⟨X.1, X.2.1, X.2.2.2.2.2.1, X.2.2.1, X.2.2.2.1⟩ hM ⟨va_cnB n8 X.2.2.2.1 (lw_meth q5) rfl rfl rfl (X.2.2.2.2.1.1.2.1 _ q1 rfl) (X.2.2.2.1 _ q4) hd hR, X.2.2.2.1 _ q2, X.2.2.2.1 _ q3⟩ ⟨ct_blind _ _ _, ah_recv X.2.2.2.2.1.1.1 hh hob hci hc, fun U hU hW9 => ct_at X.2.2.2.2.1 X.2.2.2.2.2.2.2.1 hh hS U hU hW9⟩ rfl ((List.length_map (as := As) (f := tv)).trans hn8) hsz (stm_rev As (vR (some b)) rest) (by show 2 * 0 + ((stm rest).map fun v => v.category).sum ≤ 8; rw [stm_cat]; omega) d hf
theorem j_runSN {x : CX} {cc : ByteArray} {own : String} {rm : Room} {n9 : Nat} (X : Ok x cc own rm n9) {h : AH} {u v pc : Nat} {lv : List (Nat × TV)} {n8 : Nat} {y : MethodName} {cy : ByteArray} {ny : Nat} {ry : Option FieldType} {rmy : Room} {As rest : List TV} {Qc : Array Value → State → Outcome → State → Prop} {index : Nat} (hM : Met (xl x) y (ws_ y cy ny ry) rmy (ct_pre (xG x) h (As)) Qc rmy.cells rmy.slots (ah_A (xG x))) {host : String} (q1 : Cond.methodLinkNest own index y host ∈ lw_tbl) (q2 : Cond.static y ∈ lw_all) (q4 : Cond.initialized y.cls ∈ lw_all) (q5 : Cond.code y cy ny ry ∈ lw_all) (hd : y.cls ≠ "java/lang/invoke/MethodHandle" ∧ y.cls ≠ "java/lang/invoke/VarHandle" ∧ (parseMethodDescriptor y.desc).map (fun d => d.parameters.length) = some n8) (d : decode cc pc = .ok (.invokestatic index, 3)) (hn8 : As.length = n8) (hR : rmy.frames + 1 ≤ rm.frames ∧ 8 + (ny + 11) + rmy.locals ≤ rm.locals) (hW : (rest.map tvc).sum ≤ 8) (hf : u + rmy.cells ≤ rm.cells ∧ v + rmy.slots ≤ rm.slots) : RunJ x h u v rmy.cells rmy.slots pc lv (As.reverse ++ rest) rest (Qc (stm (As)).toArray) := by
  obtain ⟨p, l, e, R, s, m, args, below, meth, c, Q, G, nL⟩ := x
  intro H locs ls hh hS hl
  obtain rfl : R = rm := X.2.2.2.2.2.2.1
  have hsz : ls.size = nL := hl.1
  exact va_runSN (nL := nL) (As := stm As) (rest := stm rest) ⟨X.1, X.2.1, X.2.2.2.2.2.1, X.2.2.1, X.2.2.2.1⟩ hM ⟨va_cnB n8 X.2.2.2.1 (lw_meth q5) rfl rfl rfl (X.2.2.2.2.1.1.2.1 _ q1 rfl) (X.2.2.2.1 _ q4) hd hR, X.2.2.2.1 _ q2, trivial⟩ ⟨ct_blind _ _ _, fun U hU hW9 => ct_at X.2.2.2.2.1 X.2.2.2.2.2.2.2.1 hh hS U hU hW9⟩ rfl ((List.length_map (as := As) (f := tv)).trans hn8) hsz (stm_rev0 As rest) (by show 2 * 0 + ((stm rest).map fun v => v.category).sum ≤ 8; rw [stm_cat]; omega) d hf
theorem j_runI {x : CX} {cc : ByteArray} {own : String} {rm : Room} {n9 : Nat} (X : Ok x cc own rm n9) {h : AH} {u v pc : Nat} {lv : List (Nat × TV)} {n8 : Nat} {y : MethodName} {cy : ByteArray} {ny : Nat} {rmy : Room} {As rest : List TV} {Qc : Array Value → State → Outcome → State → Prop} {index : Nat} {b : Nat} {r : Option Nat} (hr9 : r = some b) (hM : Met (xl x) y (ws_ y cy ny none) rmy (ct_pre (xG x) h (vR r :: As)) Qc rmy.cells rmy.slots (ah_A (xG x))) (q1 : Cond.methodLink own index y ∈ lw_all) (q2 : Cond.instanceMethod y ∈ lw_all) (q4 : Cond.initialized y.cls ∈ lw_all) (q5 : Cond.code y cy ny none ∈ lw_all) (hd : y.name = "<init>" ∧ y.cls ≠ "java/lang/invoke/MethodHandle" ∧ y.cls ≠ "java/lang/invoke/VarHandle" ∧ (parseMethodDescriptor y.desc).map (fun d => d.parameters.length) = some n8) (d : decode cc pc = .ok (.invokespecial index, 3)) (hn8 : As.length = n8) (hR : rmy.frames + 1 ≤ rm.frames ∧ 8 + (ny + 11) + rmy.locals ≤ rm.locals) (hW : (rest.map tvc).sum ≤ 8) (hf : u + rmy.cells ≤ rm.cells ∧ v + rmy.slots ≤ rm.slots) : RunJ x h u v rmy.cells rmy.slots pc lv (As.reverse ++ vR r :: rest) rest (Qc (stm (vR r :: As)).toArray) := by
  subst hr9
  obtain ⟨p, l, e, R, s, m, args, below, meth, c, Q, G, nL⟩ := x
  intro H locs ls hh hS hl
  obtain rfl : R = rm := X.2.2.2.2.2.2.1
  have hsz : ls.size = nL := hl.1
  exact va_runI (nL := nL) (As := stm As) (rest := stm rest) ⟨X.1, X.2.1, X.2.2.2.2.2.1, X.2.2.1, X.2.2.2.1⟩ hM (cwI n8 X.2.2.2.1 (lw_meth q5) rfl rfl rfl (X.2.2.2.1 _ q4) (X.2.2.2.1 _ q1) (X.2.2.2.1 _ q2) hd.1 hd.2 hR) ⟨ct_blind _ _ _, fun U hU hW9 => ct_at X.2.2.2.2.1 X.2.2.2.2.2.2.2.1 hh hS U hU hW9⟩ rfl ((List.length_map (as := As) (f := tv)).trans hn8) hsz (stm_rev As (vR (some b)) rest) (by show 2 * 0 + ((stm rest).map fun v => v.category).sum ≤ 8; rw [stm_cat]; omega) d hf
theorem j_runIN {x : CX} {cc : ByteArray} {own : String} {rm : Room} {n9 : Nat} (X : Ok x cc own rm n9) {h : AH} {u v pc : Nat} {lv : List (Nat × TV)} {n8 : Nat} {y : MethodName} {cy : ByteArray} {ny : Nat} {rmy : Room} {As rest : List TV} {Qc : Array Value → State → Outcome → State → Prop} {index : Nat} {b : Nat} {r : Option Nat} (hr9 : r = some b) (hM : Met (xl x) y (ws_ y cy ny none) rmy (ct_pre (xG x) h (vR r :: As)) Qc rmy.cells rmy.slots (ah_A (xG x))) {host : String} (q1 : Cond.methodLinkNest own index y host ∈ lw_tbl) (q2 : Cond.instanceMethod y ∈ lw_all) (q4 : Cond.initialized y.cls ∈ lw_all) (q5 : Cond.code y cy ny none ∈ lw_all) (hd : y.name = "<init>" ∧ y.cls ≠ "java/lang/invoke/MethodHandle" ∧ y.cls ≠ "java/lang/invoke/VarHandle" ∧ (parseMethodDescriptor y.desc).map (fun d => d.parameters.length) = some n8) (d : decode cc pc = .ok (.invokespecial index, 3)) (hn8 : As.length = n8) (hR : rmy.frames + 1 ≤ rm.frames ∧ 8 + (ny + 11) + rmy.locals ≤ rm.locals) (hW : (rest.map tvc).sum ≤ 8) (hf : u + rmy.cells ≤ rm.cells ∧ v + rmy.slots ≤ rm.slots) : RunJ x h u v rmy.cells rmy.slots pc lv (As.reverse ++ vR r :: rest) rest (Qc (stm (vR r :: As)).toArray) := by
  subst hr9
  obtain ⟨p, l, e, R, s, m, args, below, meth, c, Q, G, nL⟩ := x
  intro H locs ls hh hS hl
  obtain rfl : R = rm := X.2.2.2.2.2.2.1
  have hsz : ls.size = nL := hl.1
  exact va_runIN (nL := nL) (As := stm As) (rest := stm rest) ⟨X.1, X.2.1, X.2.2.2.2.2.1, X.2.2.1, X.2.2.2.1⟩ hM ⟨va_cnB n8 X.2.2.2.1 (lw_meth q5) rfl rfl rfl (X.2.2.2.2.1.1.2.1 _ q1 rfl) (X.2.2.2.1 _ q4) hd.2 hR, hd.1, X.2.2.2.1 _ q2⟩ ⟨ct_blind _ _ _, fun U hU hW9 => ct_at X.2.2.2.2.1 X.2.2.2.2.2.2.2.1 hh hS U hU hW9⟩ rfl ((List.length_map (as := As) (f := tv)).trans hn8) hsz (stm_rev As (vR (some b)) rest) (by show 2 * 0 + ((stm rest).map fun v => v.category).sum ≤ 8; rw [stm_cat]; omega) d hf
theorem j_runVX {x : CX} {cc : ByteArray} {own : String} {rm : Room} {n9 : Nat} (X : Ok x cc own rm n9) {h : AH} {u v pc : Nat} {lv : List (Nat × TV)} {n8 : Nat} {y : MethodName} {cy : ByteArray} {ny : Nat} {ry : Option FieldType} {rmy : Room} {As rest : List TV} {Qc : Array Value → State → Outcome → State → Prop} {index : Nat} {b : Nat} {r : Option Nat} (hr9 : r = some b) {PX : String → AH → Prop} (hM : vx_Met (xl x) y (ws_ y cy ny ry) rmy (ct_pre (xG x) h (vR r :: As)) Qc (ct_X (xG x) PX) rmy.cells rmy.slots (ah_A (xG x))) {C : String} {T : u_T} {N ci : Nat} {fs : List Value} (hob : h.1 b = some (.inr (ci, fs))) (hci : ci < 20) (hc : vwCl[ci]? = some (C, T, N)) (q1 : Cond.methodLink own index y ∈ lw_all) (q2 : Cond.instanceMethod y ∈ lw_all) (q3 : Cond.selects C y y ∈ lw_all) (q4 : Cond.initialized C ∈ lw_all) (q5 : Cond.code y cy ny ry ∈ lw_all) (hd : y.cls = C ∧ y.cls ≠ "java/lang/invoke/MethodHandle" ∧ y.cls ≠ "java/lang/invoke/VarHandle" ∧ (parseMethodDescriptor y.desc).map (fun d => d.parameters.length) = some n8) (d : decode cc pc = .ok (.invokevirtual index, 3)) (hn8 : As.length = n8) (hR : rmy.frames + 1 ≤ rm.frames ∧ 8 + (ny + 11) + rmy.locals ≤ rm.locals) (hW : (rest.map tvc).sum ≤ 8) (hf : u + rmy.cells ≤ rm.cells ∧ v + rmy.slots ≤ rm.slots) : RunX x h u v rmy.cells rmy.slots pc lv (As.reverse ++ vR r :: rest) rest (Qc (stm (vR r :: As)).toArray) PX := by
  obtain ⟨p, l, e, R, s, m, args, below, meth, c, Q, G, nL⟩ := x
  intro H locs ls hh hS hl
  obtain rfl : R = rm := X.2.2.2.2.2.2.1
  have hsz : ls.size = nL := hl.1
  subst hr9
  exact vx_runV (nL := nL) (As := stm As) (rest := stm rest) ⟨X.1, X.2.1, X.2.2.2.2.2.1, X.2.2.1, X.2.2.2.1⟩ hM (cwV n8 X.2.2.2.1 (lw_V q1 q2 q3 q4 q5) rfl rfl rfl hd hR) ⟨ct_blind _ _ _, ah_recv X.2.2.2.2.1.1.1 hh hob hci hc, fun U hU hW9 => ct_at X.2.2.2.2.1 X.2.2.2.2.2.2.2.1 hh hS U hU hW9⟩ rfl ((List.length_map (as := As) (f := tv)).trans hn8) hsz (stm_rev As (vR (some b)) rest) (by show 2 * 0 + ((stm rest).map fun v => v.category).sum ≤ 8; rw [stm_cat]; omega) d hf
theorem j_runSX {x : CX} {cc : ByteArray} {own : String} {rm : Room} {n9 : Nat} (X : Ok x cc own rm n9) {h : AH} {u v pc : Nat} {lv : List (Nat × TV)} {n8 : Nat} {y : MethodName} {cy : ByteArray} {ny : Nat} {ry : Option FieldType} {rmy : Room} {As rest : List TV} {Qc : Array Value → State → Outcome → State → Prop} {index : Nat} {PX : String → AH → Prop} (hM : vx_Met (xl x) y (ws_ y cy ny ry) rmy (ct_pre (xG x) h (As)) Qc (ct_X (xG x) PX) rmy.cells rmy.slots (ah_A (xG x))) (q1 : Cond.methodLink own index y ∈ lw_all) (q2 : Cond.static y ∈ lw_all) (q4 : Cond.initialized y.cls ∈ lw_all) (q5 : Cond.code y cy ny ry ∈ lw_all) (hd : y.cls ≠ "java/lang/invoke/MethodHandle" ∧ y.cls ≠ "java/lang/invoke/VarHandle" ∧ (parseMethodDescriptor y.desc).map (fun d => d.parameters.length) = some n8) (d : decode cc pc = .ok (.invokestatic index, 3)) (hn8 : As.length = n8) (hR : rmy.frames + 1 ≤ rm.frames ∧ 8 + (ny + 11) + rmy.locals ≤ rm.locals) (hW : (rest.map tvc).sum ≤ 8) (hf : u + rmy.cells ≤ rm.cells ∧ v + rmy.slots ≤ rm.slots) : RunX x h u v rmy.cells rmy.slots pc lv (As.reverse ++ rest) rest (Qc (stm (As)).toArray) PX := by
  obtain ⟨p, l, e, R, s, m, args, below, meth, c, Q, G, nL⟩ := x
  intro H locs ls hh hS hl
  obtain rfl : R = rm := X.2.2.2.2.2.2.1
  have hsz : ls.size = nL := hl.1
  exact vx_runS (nL := nL) (As := stm As) (rest := stm rest) ⟨X.1, X.2.1, X.2.2.2.2.2.1, X.2.2.1, X.2.2.2.1⟩ hM (va_cwS n8 X.2.2.2.1 (lw_S q1 q2 q4 q5) rfl rfl rfl hd hR) ⟨ct_blind _ _ _, fun U hU hW9 => ct_at X.2.2.2.2.1 X.2.2.2.2.2.2.2.1 hh hS U hU hW9⟩ rfl ((List.length_map (as := As) (f := tv)).trans hn8) hsz (stm_rev0 As rest) (by show 2 * 0 + ((stm rest).map fun v => v.category).sum ≤ 8; rw [stm_cat]; omega) d hf
theorem j_runVNX {x : CX} {cc : ByteArray} {own : String} {rm : Room} {n9 : Nat} (X : Ok x cc own rm n9) {h : AH} {u v pc : Nat} {lv : List (Nat × TV)} {n8 : Nat} {y : MethodName} {cy : ByteArray} {ny : Nat} {ry : Option FieldType} {rmy : Room} {As rest : List TV} {Qc : Array Value → State → Outcome → State → Prop} {index : Nat} {b : Nat} {r : Option Nat} (hr9 : r = some b) {PX : String → AH → Prop} (hM : vx_Met (xl x) y (ws_ y cy ny ry) rmy (ct_pre (xG x) h (vR r :: As)) Qc (ct_X (xG x) PX) rmy.cells rmy.slots (ah_A (xG x))) {C : String} {T : u_T} {N ci : Nat} {fs : List Value} (hob : h.1 b = some (.inr (ci, fs))) (hci : ci < 20) (hc : vwCl[ci]? = some (C, T, N)) {host : String} (q1 : Cond.methodLinkNest own index y host ∈ lw_tbl) (q2 : Cond.instanceMethod y ∈ lw_all) (q3 : Cond.selects C y y ∈ lw_all) (q4 : Cond.initialized y.cls ∈ lw_all) (q5 : Cond.code y cy ny ry ∈ lw_all) (hd : y.cls ≠ "java/lang/invoke/MethodHandle" ∧ y.cls ≠ "java/lang/invoke/VarHandle" ∧ (parseMethodDescriptor y.desc).map (fun d => d.parameters.length) = some n8) (d : decode cc pc = .ok (.invokevirtual index, 3)) (hn8 : As.length = n8) (hR : rmy.frames + 1 ≤ rm.frames ∧ 8 + (ny + 11) + rmy.locals ≤ rm.locals) (hW : (rest.map tvc).sum ≤ 8) (hf : u + rmy.cells ≤ rm.cells ∧ v + rmy.slots ≤ rm.slots) : RunX x h u v rmy.cells rmy.slots pc lv (As.reverse ++ vR r :: rest) rest (Qc (stm (vR r :: As)).toArray) PX := by
  obtain ⟨p, l, e, R, s, m, args, below, meth, c, Q, G, nL⟩ := x
  intro H locs ls hh hS hl
  obtain rfl : R = rm := X.2.2.2.2.2.2.1
  have hsz : ls.size = nL := hl.1
  subst hr9
  exact vx_runVN (nL := nL) (As := stm As) (rest := stm rest) ⟨X.1, X.2.1, X.2.2.2.2.2.1, X.2.2.1, X.2.2.2.1⟩ hM ⟨va_cnB n8 X.2.2.2.1 (lw_meth q5) rfl rfl rfl (X.2.2.2.2.1.1.2.1 _ q1 rfl) (X.2.2.2.1 _ q4) hd hR, X.2.2.2.1 _ q2, X.2.2.2.1 _ q3⟩ ⟨ct_blind _ _ _, ah_recv X.2.2.2.2.1.1.1 hh hob hci hc, fun U hU hW9 => ct_at X.2.2.2.2.1 X.2.2.2.2.2.2.2.1 hh hS U hU hW9⟩ rfl ((List.length_map (as := As) (f := tv)).trans hn8) hsz (stm_rev As (vR (some b)) rest) (by show 2 * 0 + ((stm rest).map fun v => v.category).sum ≤ 8; rw [stm_cat]; omega) d hf
theorem j_runSNX {x : CX} {cc : ByteArray} {own : String} {rm : Room} {n9 : Nat} (X : Ok x cc own rm n9) {h : AH} {u v pc : Nat} {lv : List (Nat × TV)} {n8 : Nat} {y : MethodName} {cy : ByteArray} {ny : Nat} {ry : Option FieldType} {rmy : Room} {As rest : List TV} {Qc : Array Value → State → Outcome → State → Prop} {index : Nat} {PX : String → AH → Prop} (hM : vx_Met (xl x) y (ws_ y cy ny ry) rmy (ct_pre (xG x) h (As)) Qc (ct_X (xG x) PX) rmy.cells rmy.slots (ah_A (xG x))) {host : String} (q1 : Cond.methodLinkNest own index y host ∈ lw_tbl) (q2 : Cond.static y ∈ lw_all) (q4 : Cond.initialized y.cls ∈ lw_all) (q5 : Cond.code y cy ny ry ∈ lw_all) (hd : y.cls ≠ "java/lang/invoke/MethodHandle" ∧ y.cls ≠ "java/lang/invoke/VarHandle" ∧ (parseMethodDescriptor y.desc).map (fun d => d.parameters.length) = some n8) (d : decode cc pc = .ok (.invokestatic index, 3)) (hn8 : As.length = n8) (hR : rmy.frames + 1 ≤ rm.frames ∧ 8 + (ny + 11) + rmy.locals ≤ rm.locals) (hW : (rest.map tvc).sum ≤ 8) (hf : u + rmy.cells ≤ rm.cells ∧ v + rmy.slots ≤ rm.slots) : RunX x h u v rmy.cells rmy.slots pc lv (As.reverse ++ rest) rest (Qc (stm (As)).toArray) PX := by
  obtain ⟨p, l, e, R, s, m, args, below, meth, c, Q, G, nL⟩ := x
  intro H locs ls hh hS hl
  obtain rfl : R = rm := X.2.2.2.2.2.2.1
  have hsz : ls.size = nL := hl.1
  exact vx_runSN (nL := nL) (As := stm As) (rest := stm rest) ⟨X.1, X.2.1, X.2.2.2.2.2.1, X.2.2.1, X.2.2.2.1⟩ hM ⟨va_cnB n8 X.2.2.2.1 (lw_meth q5) rfl rfl rfl (X.2.2.2.2.1.1.2.1 _ q1 rfl) (X.2.2.2.1 _ q4) hd hR, X.2.2.2.1 _ q2, trivial⟩ ⟨ct_blind _ _ _, fun U hU hW9 => ct_at X.2.2.2.2.1 X.2.2.2.2.2.2.2.1 hh hS U hU hW9⟩ rfl ((List.length_map (as := As) (f := tv)).trans hn8) hsz (stm_rev0 As rest) (by show 2 * 0 + ((stm rest).map fun v => v.category).sum ≤ 8; rw [stm_cat]; omega) d hf
theorem j_runIX {x : CX} {cc : ByteArray} {own : String} {rm : Room} {n9 : Nat} (X : Ok x cc own rm n9) {h : AH} {u v pc : Nat} {lv : List (Nat × TV)} {n8 : Nat} {y : MethodName} {cy : ByteArray} {ny : Nat} {rmy : Room} {As rest : List TV} {Qc : Array Value → State → Outcome → State → Prop} {index : Nat} {b : Nat} {r : Option Nat} (hr9 : r = some b) {PX : String → AH → Prop} (hM : vx_Met (xl x) y (ws_ y cy ny none) rmy (ct_pre (xG x) h (vR r :: As)) Qc (ct_X (xG x) PX) rmy.cells rmy.slots (ah_A (xG x))) (q1 : Cond.methodLink own index y ∈ lw_all) (q2 : Cond.instanceMethod y ∈ lw_all) (q4 : Cond.initialized y.cls ∈ lw_all) (q5 : Cond.code y cy ny none ∈ lw_all) (hd : y.name = "<init>" ∧ y.cls ≠ "java/lang/invoke/MethodHandle" ∧ y.cls ≠ "java/lang/invoke/VarHandle" ∧ (parseMethodDescriptor y.desc).map (fun d => d.parameters.length) = some n8) (d : decode cc pc = .ok (.invokespecial index, 3)) (hn8 : As.length = n8) (hR : rmy.frames + 1 ≤ rm.frames ∧ 8 + (ny + 11) + rmy.locals ≤ rm.locals) (hW : (rest.map tvc).sum ≤ 8) (hf : u + rmy.cells ≤ rm.cells ∧ v + rmy.slots ≤ rm.slots) : RunX x h u v rmy.cells rmy.slots pc lv (As.reverse ++ vR r :: rest) rest (Qc (stm (vR r :: As)).toArray) PX := by
  subst hr9
  obtain ⟨p, l, e, R, s, m, args, below, meth, c, Q, G, nL⟩ := x
  intro H locs ls hh hS hl
  obtain rfl : R = rm := X.2.2.2.2.2.2.1
  have hsz : ls.size = nL := hl.1
  exact vx_runI (nL := nL) (As := stm As) (rest := stm rest) ⟨X.1, X.2.1, X.2.2.2.2.2.1, X.2.2.1, X.2.2.2.1⟩ hM (cwI n8 X.2.2.2.1 (lw_meth q5) rfl rfl rfl (X.2.2.2.1 _ q4) (X.2.2.2.1 _ q1) (X.2.2.2.1 _ q2) hd.1 hd.2 hR) ⟨ct_blind _ _ _, fun U hU hW9 => ct_at X.2.2.2.2.1 X.2.2.2.2.2.2.2.1 hh hS U hU hW9⟩ rfl ((List.length_map (as := As) (f := tv)).trans hn8) hsz (stm_rev As (vR (some b)) rest) (by show 2 * 0 + ((stm rest).map fun v => v.category).sum ≤ 8; rw [stm_cat]; omega) d hf
theorem j_runINX {x : CX} {cc : ByteArray} {own : String} {rm : Room} {n9 : Nat} (X : Ok x cc own rm n9) {h : AH} {u v pc : Nat} {lv : List (Nat × TV)} {n8 : Nat} {y : MethodName} {cy : ByteArray} {ny : Nat} {rmy : Room} {As rest : List TV} {Qc : Array Value → State → Outcome → State → Prop} {index : Nat} {b : Nat} {r : Option Nat} (hr9 : r = some b) {PX : String → AH → Prop} (hM : vx_Met (xl x) y (ws_ y cy ny none) rmy (ct_pre (xG x) h (vR r :: As)) Qc (ct_X (xG x) PX) rmy.cells rmy.slots (ah_A (xG x))) {host : String} (q1 : Cond.methodLinkNest own index y host ∈ lw_tbl) (q2 : Cond.instanceMethod y ∈ lw_all) (q4 : Cond.initialized y.cls ∈ lw_all) (q5 : Cond.code y cy ny none ∈ lw_all) (hd : y.name = "<init>" ∧ y.cls ≠ "java/lang/invoke/MethodHandle" ∧ y.cls ≠ "java/lang/invoke/VarHandle" ∧ (parseMethodDescriptor y.desc).map (fun d => d.parameters.length) = some n8) (d : decode cc pc = .ok (.invokespecial index, 3)) (hn8 : As.length = n8) (hR : rmy.frames + 1 ≤ rm.frames ∧ 8 + (ny + 11) + rmy.locals ≤ rm.locals) (hW : (rest.map tvc).sum ≤ 8) (hf : u + rmy.cells ≤ rm.cells ∧ v + rmy.slots ≤ rm.slots) : RunX x h u v rmy.cells rmy.slots pc lv (As.reverse ++ vR r :: rest) rest (Qc (stm (vR r :: As)).toArray) PX := by
  subst hr9
  obtain ⟨p, l, e, R, s, m, args, below, meth, c, Q, G, nL⟩ := x
  intro H locs ls hh hS hl
  obtain rfl : R = rm := X.2.2.2.2.2.2.1
  have hsz : ls.size = nL := hl.1
  exact vx_runIN (nL := nL) (As := stm As) (rest := stm rest) ⟨X.1, X.2.1, X.2.2.2.2.2.1, X.2.2.1, X.2.2.2.1⟩ hM ⟨va_cnB n8 X.2.2.2.1 (lw_meth q5) rfl rfl rfl (X.2.2.2.2.1.1.2.1 _ q1 rfl) (X.2.2.2.1 _ q4) hd.2 hR, hd.1, X.2.2.2.1 _ q2⟩ ⟨ct_blind _ _ _, fun U hU hW9 => ct_at X.2.2.2.2.1 X.2.2.2.2.2.2.2.1 hh hS U hU hW9⟩ rfl ((List.length_map (as := As) (f := tv)).trans hn8) hsz (stm_rev As (vR (some b)) rest) (by show 2 * 0 + ((stm rest).map fun v => v.category).sum ≤ 8; rw [stm_cat]; omega) d hf
theorem j_calli {x : CX} {h : AH} {u v mc ms pc : Nat} {lv : List (Nat × TV)} {st0 rest : List TV} {a : Array Value} {P : Int32 → AH → Prop} (hr : RunJ x h u v mc ms pc lv st0 rest (va_Qi P (ah_B (xG x)) (ah_A (xG x)) a)) (kk : ∀ y h', P y h' → J x h' (u + mc) (v + ms) (pc + 3) lv (vI y :: rest)) : J x h u v pc lv st0 := by
  obtain ⟨p, l, e, R, s, m, args, below, meth, c, Q, G, nL⟩ := x
  intro H locs ls hh hS hl
  refine va_calli (hr H locs ls hh hS hl) hS (fun _ _ z => z) (fun _ z => z) (fun r h' t H1 locs1 e1 hal hp hb hz hk hS1 => ?_)
  exact kk r h' hp H1 locs1 ls (by rw [← e1]; exact hb) hS1 hl
theorem j_call5i {x : CX} {h : AH} {u v mc ms pc : Nat} {lv : List (Nat × TV)} {st0 rest : List TV} {a : Array Value} {P : Int32 → AH → Prop} (hr : RunJ5 x h u v mc ms pc lv st0 rest (va_Qi P (ah_B (xG x)) (ah_A (xG x)) a)) (kk : ∀ y h', P y h' → J x h' (u + mc) (v + ms) (pc + 5) lv (vI y :: rest)) : J x h u v pc lv st0 := by
  obtain ⟨p, l, e, R, s, m, args, below, meth, c, Q, G, nL⟩ := x
  intro H locs ls hh hS hl
  refine va_callFi (hr H locs ls hh hS hl) hS (fun _ _ z => z) (fun _ z => z) (fun r h' t H1 locs1 e1 hal hp hb hz hk hS1 => ?_)
  exact kk r h' hp H1 locs1 ls (by rw [← e1]; exact hb) hS1 hl
theorem j_callXi {x : CX} {h : AH} {u v mc ms pc : Nat} {lv : List (Nat × TV)} {st0 rest : List TV} {a : Array Value} {P : Int32 → AH → Prop} {PX : String → AH → Prop} (hr : RunX x h u v mc ms pc lv st0 rest (va_Qi P (ah_B (xG x)) (ah_A (xG x)) a) PX) (kx : ∀ E h', PX E h' → JX x E h' (u + mc) (v + ms) pc lv rest) (kk : ∀ y h', P y h' → J x h' (u + mc) (v + ms) (pc + 3) lv (vI y :: rest)) : J x h u v pc lv st0 := by
  obtain ⟨p, l, e, R, s, m, args, below, meth, c, Q, G, nL⟩ := x
  intro H locs ls hh hS hl
  refine vx_calli (hr H locs ls hh hS hl) hS (fun _ _ z => z) (fun _ z => z) (fun _ _ z => z) (fun E ce q9 h' t H1 locs1 e1 hal _ hb hz hk hS1 g1 g2 g3 => ?_) (fun r h' t H1 locs1 e1 hal hp hb hz hk hS1 => ?_)
  · exact kx E h' hb.1 H1 locs1 ls q9 ce (by rw [← e1]; exact hb.2) hS1 hl g1 g2 g3
  · exact kk r h' hp H1 locs1 ls (by rw [← e1]; exact hb) hS1 hl
theorem j_calll {x : CX} {h : AH} {u v mc ms pc : Nat} {lv : List (Nat × TV)} {st0 rest : List TV} {a : Array Value} {P : Int64 → AH → Prop} (hr : RunJ x h u v mc ms pc lv st0 rest (va_Ql P (ah_B (xG x)) (ah_A (xG x)) a)) (kk : ∀ y h', P y h' → J x h' (u + mc) (v + ms) (pc + 3) lv (vL y :: rest)) : J x h u v pc lv st0 := by
  obtain ⟨p, l, e, R, s, m, args, below, meth, c, Q, G, nL⟩ := x
  intro H locs ls hh hS hl
  refine va_calll (hr H locs ls hh hS hl) hS (fun _ _ z => z) (fun _ z => z) (fun r h' t H1 locs1 e1 hal hp hb hz hk hS1 => ?_)
  exact kk r h' hp H1 locs1 ls (by rw [← e1]; exact hb) hS1 hl
theorem j_call5l {x : CX} {h : AH} {u v mc ms pc : Nat} {lv : List (Nat × TV)} {st0 rest : List TV} {a : Array Value} {P : Int64 → AH → Prop} (hr : RunJ5 x h u v mc ms pc lv st0 rest (va_Ql P (ah_B (xG x)) (ah_A (xG x)) a)) (kk : ∀ y h', P y h' → J x h' (u + mc) (v + ms) (pc + 5) lv (vL y :: rest)) : J x h u v pc lv st0 := by
  obtain ⟨p, l, e, R, s, m, args, below, meth, c, Q, G, nL⟩ := x
  intro H locs ls hh hS hl
  refine va_callFl (hr H locs ls hh hS hl) hS (fun _ _ z => z) (fun _ z => z) (fun r h' t H1 locs1 e1 hal hp hb hz hk hS1 => ?_)
  exact kk r h' hp H1 locs1 ls (by rw [← e1]; exact hb) hS1 hl
theorem j_callXl {x : CX} {h : AH} {u v mc ms pc : Nat} {lv : List (Nat × TV)} {st0 rest : List TV} {a : Array Value} {P : Int64 → AH → Prop} {PX : String → AH → Prop} (hr : RunX x h u v mc ms pc lv st0 rest (va_Ql P (ah_B (xG x)) (ah_A (xG x)) a) PX) (kx : ∀ E h', PX E h' → JX x E h' (u + mc) (v + ms) pc lv rest) (kk : ∀ y h', P y h' → J x h' (u + mc) (v + ms) (pc + 3) lv (vL y :: rest)) : J x h u v pc lv st0 := by
  obtain ⟨p, l, e, R, s, m, args, below, meth, c, Q, G, nL⟩ := x
  intro H locs ls hh hS hl
  refine vx_calll (hr H locs ls hh hS hl) hS (fun _ _ z => z) (fun _ z => z) (fun _ _ z => z) (fun E ce q9 h' t H1 locs1 e1 hal _ hb hz hk hS1 g1 g2 g3 => ?_) (fun r h' t H1 locs1 e1 hal hp hb hz hk hS1 => ?_)
  · exact kx E h' hb.1 H1 locs1 ls q9 ce (by rw [← e1]; exact hb.2) hS1 hl g1 g2 g3
  · exact kk r h' hp H1 locs1 ls (by rw [← e1]; exact hb) hS1 hl
theorem j_callf {x : CX} {h : AH} {u v mc ms pc : Nat} {lv : List (Nat × TV)} {st0 rest : List TV} {a : Array Value} {P : UInt32 → AH → Prop} (hr : RunJ x h u v mc ms pc lv st0 rest (va_Qf P (ah_B (xG x)) (ah_A (xG x)) a)) (kk : ∀ y h', P y h' → J x h' (u + mc) (v + ms) (pc + 3) lv (vF y :: rest)) : J x h u v pc lv st0 := by
  obtain ⟨p, l, e, R, s, m, args, below, meth, c, Q, G, nL⟩ := x
  intro H locs ls hh hS hl
  refine va_callf (hr H locs ls hh hS hl) hS (fun _ _ z => z) (fun _ z => z) (fun r h' t H1 locs1 e1 hal hp hb hz hk hS1 => ?_)
  exact kk r h' hp H1 locs1 ls (by rw [← e1]; exact hb) hS1 hl
theorem j_call5f {x : CX} {h : AH} {u v mc ms pc : Nat} {lv : List (Nat × TV)} {st0 rest : List TV} {a : Array Value} {P : UInt32 → AH → Prop} (hr : RunJ5 x h u v mc ms pc lv st0 rest (va_Qf P (ah_B (xG x)) (ah_A (xG x)) a)) (kk : ∀ y h', P y h' → J x h' (u + mc) (v + ms) (pc + 5) lv (vF y :: rest)) : J x h u v pc lv st0 := by
  obtain ⟨p, l, e, R, s, m, args, below, meth, c, Q, G, nL⟩ := x
  intro H locs ls hh hS hl
  refine va_callFf (hr H locs ls hh hS hl) hS (fun _ _ z => z) (fun _ z => z) (fun r h' t H1 locs1 e1 hal hp hb hz hk hS1 => ?_)
  exact kk r h' hp H1 locs1 ls (by rw [← e1]; exact hb) hS1 hl
theorem j_callXf {x : CX} {h : AH} {u v mc ms pc : Nat} {lv : List (Nat × TV)} {st0 rest : List TV} {a : Array Value} {P : UInt32 → AH → Prop} {PX : String → AH → Prop} (hr : RunX x h u v mc ms pc lv st0 rest (va_Qf P (ah_B (xG x)) (ah_A (xG x)) a) PX) (kx : ∀ E h', PX E h' → JX x E h' (u + mc) (v + ms) pc lv rest) (kk : ∀ y h', P y h' → J x h' (u + mc) (v + ms) (pc + 3) lv (vF y :: rest)) : J x h u v pc lv st0 := by
  obtain ⟨p, l, e, R, s, m, args, below, meth, c, Q, G, nL⟩ := x
  intro H locs ls hh hS hl
  refine vx_callf (hr H locs ls hh hS hl) hS (fun _ _ z => z) (fun _ z => z) (fun _ _ z => z) (fun E ce q9 h' t H1 locs1 e1 hal _ hb hz hk hS1 g1 g2 g3 => ?_) (fun r h' t H1 locs1 e1 hal hp hb hz hk hS1 => ?_)
  · exact kx E h' hb.1 H1 locs1 ls q9 ce (by rw [← e1]; exact hb.2) hS1 hl g1 g2 g3
  · exact kk r h' hp H1 locs1 ls (by rw [← e1]; exact hb) hS1 hl
theorem j_calld {x : CX} {h : AH} {u v mc ms pc : Nat} {lv : List (Nat × TV)} {st0 rest : List TV} {a : Array Value} {P : UInt64 → AH → Prop} (hr : RunJ x h u v mc ms pc lv st0 rest (va_Qd P (ah_B (xG x)) (ah_A (xG x)) a)) (kk : ∀ y h', P y h' → J x h' (u + mc) (v + ms) (pc + 3) lv (vD y :: rest)) : J x h u v pc lv st0 := by
  obtain ⟨p, l, e, R, s, m, args, below, meth, c, Q, G, nL⟩ := x
  intro H locs ls hh hS hl
  refine va_calld (hr H locs ls hh hS hl) hS (fun _ _ z => z) (fun _ z => z) (fun r h' t H1 locs1 e1 hal hp hb hz hk hS1 => ?_)
  exact kk r h' hp H1 locs1 ls (by rw [← e1]; exact hb) hS1 hl
theorem j_call5d {x : CX} {h : AH} {u v mc ms pc : Nat} {lv : List (Nat × TV)} {st0 rest : List TV} {a : Array Value} {P : UInt64 → AH → Prop} (hr : RunJ5 x h u v mc ms pc lv st0 rest (va_Qd P (ah_B (xG x)) (ah_A (xG x)) a)) (kk : ∀ y h', P y h' → J x h' (u + mc) (v + ms) (pc + 5) lv (vD y :: rest)) : J x h u v pc lv st0 := by
  obtain ⟨p, l, e, R, s, m, args, below, meth, c, Q, G, nL⟩ := x
  intro H locs ls hh hS hl
  refine va_callFd (hr H locs ls hh hS hl) hS (fun _ _ z => z) (fun _ z => z) (fun r h' t H1 locs1 e1 hal hp hb hz hk hS1 => ?_)
  exact kk r h' hp H1 locs1 ls (by rw [← e1]; exact hb) hS1 hl
theorem j_callXd {x : CX} {h : AH} {u v mc ms pc : Nat} {lv : List (Nat × TV)} {st0 rest : List TV} {a : Array Value} {P : UInt64 → AH → Prop} {PX : String → AH → Prop} (hr : RunX x h u v mc ms pc lv st0 rest (va_Qd P (ah_B (xG x)) (ah_A (xG x)) a) PX) (kx : ∀ E h', PX E h' → JX x E h' (u + mc) (v + ms) pc lv rest) (kk : ∀ y h', P y h' → J x h' (u + mc) (v + ms) (pc + 3) lv (vD y :: rest)) : J x h u v pc lv st0 := by
  obtain ⟨p, l, e, R, s, m, args, below, meth, c, Q, G, nL⟩ := x
  intro H locs ls hh hS hl
  refine vx_calld (hr H locs ls hh hS hl) hS (fun _ _ z => z) (fun _ z => z) (fun _ _ z => z) (fun E ce q9 h' t H1 locs1 e1 hal _ hb hz hk hS1 g1 g2 g3 => ?_) (fun r h' t H1 locs1 e1 hal hp hb hz hk hS1 => ?_)
  · exact kx E h' hb.1 H1 locs1 ls q9 ce (by rw [← e1]; exact hb.2) hS1 hl g1 g2 g3
  · exact kk r h' hp H1 locs1 ls (by rw [← e1]; exact hb) hS1 hl
theorem j_callq {x : CX} {h : AH} {u v mc ms pc : Nat} {lv : List (Nat × TV)} {st0 rest : List TV} {a : Array Value} {P : Option Nat → AH → Prop} (hr : RunJ x h u v mc ms pc lv st0 rest (va_Qq P (ah_B (xG x)) (ah_A (xG x)) a)) (kk : ∀ y h', P y h' → J x h' (u + mc) (v + ms) (pc + 3) lv (vR y :: rest)) : J x h u v pc lv st0 := by
  obtain ⟨p, l, e, R, s, m, args, below, meth, c, Q, G, nL⟩ := x
  intro H locs ls hh hS hl
  refine va_callq (hr H locs ls hh hS hl) hS (fun _ _ z => z) (fun _ z => z) (fun r h' t H1 locs1 e1 hal hp hb hz hk hS1 => ?_)
  exact kk r h' hp H1 locs1 ls (by rw [← e1]; exact hb) hS1 hl
theorem j_call5q {x : CX} {h : AH} {u v mc ms pc : Nat} {lv : List (Nat × TV)} {st0 rest : List TV} {a : Array Value} {P : Option Nat → AH → Prop} (hr : RunJ5 x h u v mc ms pc lv st0 rest (va_Qq P (ah_B (xG x)) (ah_A (xG x)) a)) (kk : ∀ y h', P y h' → J x h' (u + mc) (v + ms) (pc + 5) lv (vR y :: rest)) : J x h u v pc lv st0 := by
  obtain ⟨p, l, e, R, s, m, args, below, meth, c, Q, G, nL⟩ := x
  intro H locs ls hh hS hl
  refine va_callFq (hr H locs ls hh hS hl) hS (fun _ _ z => z) (fun _ z => z) (fun r h' t H1 locs1 e1 hal hp hb hz hk hS1 => ?_)
  exact kk r h' hp H1 locs1 ls (by rw [← e1]; exact hb) hS1 hl
theorem j_callXq {x : CX} {h : AH} {u v mc ms pc : Nat} {lv : List (Nat × TV)} {st0 rest : List TV} {a : Array Value} {P : Option Nat → AH → Prop} {PX : String → AH → Prop} (hr : RunX x h u v mc ms pc lv st0 rest (va_Qq P (ah_B (xG x)) (ah_A (xG x)) a) PX) (kx : ∀ E h', PX E h' → JX x E h' (u + mc) (v + ms) pc lv rest) (kk : ∀ y h', P y h' → J x h' (u + mc) (v + ms) (pc + 3) lv (vR y :: rest)) : J x h u v pc lv st0 := by
  obtain ⟨p, l, e, R, s, m, args, below, meth, c, Q, G, nL⟩ := x
  intro H locs ls hh hS hl
  refine vx_callq (hr H locs ls hh hS hl) hS (fun _ _ z => z) (fun _ z => z) (fun _ _ z => z) (fun E ce q9 h' t H1 locs1 e1 hal _ hb hz hk hS1 g1 g2 g3 => ?_) (fun r h' t H1 locs1 e1 hal hp hb hz hk hS1 => ?_)
  · exact kx E h' hb.1 H1 locs1 ls q9 ce (by rw [← e1]; exact hb.2) hS1 hl g1 g2 g3
  · exact kk r h' hp H1 locs1 ls (by rw [← e1]; exact hb) hS1 hl
theorem j_callv {x : CX} {h : AH} {u v mc ms pc : Nat} {lv : List (Nat × TV)} {st0 rest : List TV} {a : Array Value} {P : AH → Prop} (hr : RunJ x h u v mc ms pc lv st0 rest (va_Qv P (ah_B (xG x)) (ah_A (xG x)) a)) (kk : ∀ h', P h' → J x h' (u + mc) (v + ms) (pc + 3) lv rest) : J x h u v pc lv st0 := by
  obtain ⟨p, l, e, R, s, m, args, below, meth, c, Q, G, nL⟩ := x
  intro H locs ls hh hS hl
  refine va_callv (hr H locs ls hh hS hl) hS (fun _ _ z => z) (fun _ z => z) (fun h' t H1 locs1 e1 hal hp hb hz hk hS1 => ?_)
  exact kk h' hp H1 locs1 ls (by rw [← e1]; exact hb) hS1 hl
theorem j_call5v {x : CX} {h : AH} {u v mc ms pc : Nat} {lv : List (Nat × TV)} {st0 rest : List TV} {a : Array Value} {P : AH → Prop} (hr : RunJ5 x h u v mc ms pc lv st0 rest (va_Qv P (ah_B (xG x)) (ah_A (xG x)) a)) (kk : ∀ h', P h' → J x h' (u + mc) (v + ms) (pc + 5) lv rest) : J x h u v pc lv st0 := by
  obtain ⟨p, l, e, R, s, m, args, below, meth, c, Q, G, nL⟩ := x
  intro H locs ls hh hS hl
  refine va_callFv (hr H locs ls hh hS hl) hS (fun _ _ z => z) (fun _ z => z) (fun h' t H1 locs1 e1 hal hp hb hz hk hS1 => ?_)
  exact kk h' hp H1 locs1 ls (by rw [← e1]; exact hb) hS1 hl
theorem j_callXv {x : CX} {h : AH} {u v mc ms pc : Nat} {lv : List (Nat × TV)} {st0 rest : List TV} {a : Array Value} {P : AH → Prop} {PX : String → AH → Prop} (hr : RunX x h u v mc ms pc lv st0 rest (va_Qv P (ah_B (xG x)) (ah_A (xG x)) a) PX) (kx : ∀ E h', PX E h' → JX x E h' (u + mc) (v + ms) pc lv rest) (kk : ∀ h', P h' → J x h' (u + mc) (v + ms) (pc + 3) lv rest) : J x h u v pc lv st0 := by
  obtain ⟨p, l, e, R, s, m, args, below, meth, c, Q, G, nL⟩ := x
  intro H locs ls hh hS hl
  refine vx_callv (hr H locs ls hh hS hl) hS (fun _ _ z => z) (fun _ z => z) (fun _ _ z => z) (fun E ce q9 h' t H1 locs1 e1 hal _ hb hz hk hS1 g1 g2 g3 => ?_) (fun h' t H1 locs1 e1 hal hp hb hz hk hS1 => ?_)
  · exact kx E h' hb.1 H1 locs1 ls q9 ce (by rw [← e1]; exact hb.2) hS1 hl g1 g2 g3
  · exact kk h' hp H1 locs1 ls (by rw [← e1]; exact hb) hS1 hl
theorem j_out {x : CX} {cc : ByteArray} {own : String} {rm : Room} {n9 : Nat} (X : Ok x cc own rm n9) {h : AH} {u v pc : Nat} {lv : List (Nat × TV)} {st : List TV} {E : String} {PX : String → AH → Prop} (hQ : xt_ x PX) (hex : ∀ z ∈ x.2.2.2.2.2.2.2.2.2.1.exceptionTable.toList, False) (hu : u ≤ rm.cells) (hv : v ≤ rm.slots) (hw : PX E h) : JX x E h u v pc lv st := by
  obtain ⟨p, l, e, R, s, m, args, below, meth, c, Q, G, nL⟩ := x
  intro H locs ls q ce hh hS hl g1 g2 g3
  obtain rfl : R = rm := X.2.2.2.2.2.2.1
  obtain ⟨Qc, rfl⟩ := hQ
  exact vx_out (fun z hz => absurd (hex z hz) (fun f => f)) X.2.2.2.2.2.2.2.2.2.1 g1 g2 g3 (fun t ht hal => ⟨h, trivial, ⟨hw, by rw [ht]; exact hh⟩, hS.F ht⟩) hS.2.2 hu hv
theorem j_lcmp {x : CX} {cc : ByteArray} {own : String} {rm : Room} {n9 : Nat} (X : Ok x cc own rm n9) {h : AH} {u v pc : Nat} {lv : List (Nat × TV)} {st : List TV} {a b : Int64} (d : decode cc pc = .ok (.lcmp, 1)) (k : J x h u v (pc + 1) lv (vI (lg_cmp a b) :: st)) : J x h u v pc lv (vL b :: vL a :: st) := by
  obtain ⟨p, l, e, R, s, m, args, below, meth, c, Q, G, nL⟩ := x
  intro H locs ls hh hS hl
  exact W.lcmp X.1 X.2.1 d (k H locs ls hh hS hl)
theorem j_obj {x : CX} {cc : ByteArray} {own : String} {rm : Room} {n9 : Nat} (X : Ok x cc own rm n9) {h : AH} {u v pc : Nat} {lv : List (Nat × TV)} {st : List TV} {index : Nat} {r : Option Nat} {b : Nat} (hr9 : r = some b) (q1 : Cond.methodLink own index objectInit ∈ lw_all) (q2 : Cond.instanceMethod objectInit ∈ lw_all) (q3 : Cond.code objectInit ⟨#[0xb1]⟩ 1 none ∈ lw_all) (d : decode cc pc = .ok (.invokespecial index, 3)) (hR : 1 ≤ rm.frames ∧ (st.map tvc).sum + 12 ≤ rm.locals) (k : J x h u v (pc + 3) lv (st)) : J x h u v pc lv (vR r :: st) := by
  obtain ⟨p, l, e, R, s, m, args, below, meth, c, Q, G, nL⟩ := x
  intro H locs ls hh hS hl
  subst hr9
  obtain rfl : R = rm := X.2.2.2.2.2.2.1
  refine W.objInit X.1 X.2.1 X.2.2.1 (X.2.2.2.1 _ q1) (X.2.2.2.1 _ q2) (X.2.2.2.1 _ q3) rfl (by rw [X.2.2.2.2.2.1]; exact hl.1) rfl d hR.1 (by show 2 * 0 + ((stm st).map fun v => v.category).sum + 12 ≤ _; rw [stm_cat]; omega) ?_
  exact k H locs ls hh hS hl
theorem j_gsDE {x : CX} {cc : ByteArray} {own : String} {rm : Room} {n9 : Nat} (X : Ok x cc own rm n9) {h : AH} {u v pc : Nat} {lv : List (Nat × TV)} {st : List TV} {index : Nat} (hlink : Cond.fieldLink own index "java/util/ArrayList" "DEFAULTCAPACITY_EMPTY_ELEMENTDATA" "[Ljava/lang/Object;" ∈ lw_all) (d : decode cc pc = .ok (.getstatic index, 3)) (k : J x h u v (pc + 3) lv (vR (some (h.2 0)) :: st)) : J x h u v pc lv (st) := by
  obtain ⟨p, l, e, R, s, m, args, below, meth, c, Q, G, nL⟩ := x
  intro H locs ls hh hS hl
  have hk := k H locs ls hh hS hl
  rw [show stm (vR (some (h.2 0)) :: st) = Value.ref (G.2.2.2 0) :: stm st by rw [hh.1]; rfl] at hk
  exact va_gets X.1 X.2.1 X.2.2.2.2.1.2.1 hS X.2.2.1 (X.2.2.2.1 _ hlink) (fun z hz => hz) d hk
theorem j_gsHigh {x : CX} {cc : ByteArray} {own : String} {rm : Room} {n9 : Nat} (X : Ok x cc own rm n9) {h : AH} {u v pc : Nat} {lv : List (Nat × TV)} {st : List TV} {index : Nat} (hlink : Cond.fieldLink own index "java/lang/Integer$IntegerCache" "high" "I" ∈ lw_all) (d : decode cc pc = .ok (.getstatic index, 3)) (k : J x h u v (pc + 3) lv (vI 127 :: st)) : J x h u v pc lv (st) := by
  obtain ⟨p, l, e, R, s, m, args, below, meth, c, Q, G, nL⟩ := x
  intro H locs ls hh hS hl
  exact va_gets X.1 X.2.1 X.2.2.2.2.1.2.2.1 hS X.2.2.1 (X.2.2.2.1 _ hlink) (fun z hz => hz) d (k H locs ls hh hS hl)
theorem j_gsCache {x : CX} {cc : ByteArray} {own : String} {rm : Room} {n9 : Nat} (X : Ok x cc own rm n9) {h : AH} {u v pc : Nat} {lv : List (Nat × TV)} {st : List TV} {index : Nat} (hlink : Cond.fieldLink own index "java/lang/Integer$IntegerCache" "cache" "[Ljava/lang/Integer;" ∈ lw_all) (d : decode cc pc = .ok (.getstatic index, 3)) (k : J x h u v (pc + 3) lv (vR (some (h.2 1)) :: st)) : J x h u v pc lv (st) := by
  obtain ⟨p, l, e, R, s, m, args, below, meth, c, Q, G, nL⟩ := x
  intro H locs ls hh hS hl
  have hk := k H locs ls hh hS hl
  rw [show stm (vR (some (h.2 1)) :: st) = Value.ref (G.2.2.2 1) :: stm st by rw [hh.1]; rfl] at hk
  exact va_gets X.1 X.2.1 X.2.2.2.2.1.2.2.2.1 hS X.2.2.1 (X.2.2.2.1 _ hlink) (fun z hz => hz) d hk
theorem j_gsNeg {x : CX} {cc : ByteArray} {own : String} {rm : Room} {n9 : Nat} (X : Ok x cc own rm n9) {h : AH} {u v pc : Nat} {lv : List (Nat × TV)} {st : List TV} {index : Nat} (hlink : Cond.fieldLink own index "java/lang/Math" "negativeZeroFloatBits" "J" ∈ lw_all) (d : decode cc pc = .ok (.getstatic index, 3)) (k : J x h u v (pc + 3) lv (vL (-2147483648) :: st)) : J x h u v pc lv (st) := by
  obtain ⟨p, l, e, R, s, m, args, below, meth, c, Q, G, nL⟩ := x
  intro H locs ls hh hS hl
  exact va_gets X.1 X.2.1 X.2.2.2.2.1.2.2.2.2.1 hS X.2.2.1 (X.2.2.2.1 _ hlink) (fun z hz => hz) d (k H locs ls hh hS hl)
def nn (r : Option Nat) (K : Prop) : Prop := ∃ b, r = some b ∧ K
theorem kt_8 {G : GG} {U : State} (h : ah_Kt G U) : va_AO "java/lang/Object" U := h.2.2.2.2.2.2.2.1
theorem kt_9 {G : GG} {U : State} (h : ah_Kt G U) : va_AO "Plugboard$Board" U := h.2.2.2.2.2.2.2.2.1
theorem kt_10 {G : GG} {U : State} (h : ah_Kt G U) : va_AO "Plugboard$Operation" U := h.2.2.2.2.2.2.2.2.2.1
theorem kt_11 {G : GG} {U : State} (h : ah_Kt G U) : va_AO "Plugboard$Asked" U := h.2.2.2.2.2.2.2.2.2.2.1
theorem kt_12 {G : GG} {U : State} (h : ah_Kt G U) : va_AO "Plugboard$Frame" U := h.2.2.2.2.2.2.2.2.2.2.2.1
theorem kt_13 {G : GG} {U : State} (h : ah_Kt G U) : ah_Oa .int U := h.2.2.2.2.2.2.2.2.2.2.2.2.1
theorem kt_14 {G : GG} {U : State} (h : ah_Kt G U) : ah_Oa .boolean U := h.2.2.2.2.2.2.2.2.2.2.2.2.2.1
theorem j_chk {x : CX} {cc : ByteArray} {own : String} {rm : Room} {n9 : Nat} (X : Ok x cc own rm n9) {h : AH} {u v pc : Nat} {lv : List (Nat × TV)} {st : List TV} {index : Nat} {nm : String} {r : Option Nat} {L : List Nat} {K : Prop} (hlink : Cond.classLink own index nm ∈ lw_all) (hL : ∀ ci ∈ L, ci < 20 ∧ ∃ C T N, vwCl[ci]? = some (C, T, N) ∧ (C = nm ∨ Cond.castable C nm ∈ lw_tbl)) (d : decode cc pc = .ok (.checkcast index, 3)) (hw : is_c h r L K) (kk : K → J x h u v (pc + 3) lv (vR r :: st)) : J x h u v pc lv (vR r :: st) := by
  obtain ⟨p, l, e, R, s, m, args, below, meth, c, Q, G, nL⟩ := x
  intro H locs ls hh hS hl
  obtain ⟨a, ci, fs, rfl, he, hci, hK⟩ := hw
  obtain ⟨h20, C, T, N, hc, hor⟩ := hL ci hci
  have hr := ah_recv X.2.2.2.2.1.1.1 hh he h20 hc
  rcases hor with rfl | hq
  · exact va_castS X.1 X.2.1 X.2.2.1 (X.2.2.2.1 _ hlink) (X.2.2.2.2.1.1.1.1 ci _ hc).2 hr d (kk hK H locs ls hh hS hl)
  · exact va_castY X.1 X.2.1 X.2.2.1 (X.2.2.2.1 _ hlink) (X.2.2.2.2.1.1.2.1 _ hq rfl) hr d (kk hK H locs ls hh hS hl)
theorem j_chkA {x : CX} {cc : ByteArray} {own : String} {rm : Room} {n9 : Nat} (X : Ok x cc own rm n9) {h : AH} {u v pc : Nat} {lv : List (Nat × TV)} {st : List TV} (t : Nat) {index : Nat} {nm : String} {r : Option Nat} {K : Prop} (hlink : Cond.classLink own index nm ∈ lw_all) (ht : t < 48) (hnm : ∀ U : State, va_RA U ((xG x).2.2.1 t) (ah_ty t) → U.vm.findClass nm = some ((xG x).2.2.1 t)) (d : decode cc pc = .ok (.checkcast index, 3)) (hw : is_a h r t K) (kk : K → J x h u v (pc + 3) lv (vR r :: st)) : J x h u v pc lv (vR r :: st) := by
  obtain ⟨p, l, e, R, s, m, args, below, meth, c, Q, G, nL⟩ := x
  intro H locs ls hh hS hl
  obtain ⟨a, y, rfl, he, hK⟩ := hw
  exact va_castA (cl := vwCl) X.1 X.2.1 X.2.2.1 (X.2.2.2.1 _ hlink) (hh.arr he) 0 rfl (hnm s (X.2.2.2.2.1.1.1.2 t _ (ah_tys_at G ht)).2) d (kk hK H locs ls hh hS hl)
