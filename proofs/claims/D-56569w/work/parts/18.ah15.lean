theorem k_getq {x : CX} {cc : ByteArray} {own : String} {rm : Room} {n9 : Nat} {lk : Nat} (X : OkS x cc own rm n9) {h : AH} {u v pc : Nat} {lv : List (Nat × TV)} {st : List TV} {C ref : String} {T : u_T} {N ci index : Nat} (hin : ∀ w ∈ u_ws C T N, w ∈ lw_all) (hc : vwCl[ci]? = some (C, T, N)) (hci : ci < 20) (k : Nat) (hk : k < N) (hlink : Cond.fieldLink own index ref (T k).2.1 (T k).2.2.1 ∈ lw_all) (hsame : (T k).1 = ref ∨ Cond.sameField ref (T k).1 (T k).2.1 (T k).2.2.1 ∈ lw_all) {r : Option Nat} {K : Option Nat → Prop} (d : decode cc pc = .ok (.getfield index, 3)) (hw : g_q h r ci k K) (kk : ∀ y, K y → JK lk x h u v (pc + 3) lv (vR y :: st)) : JK lk x h u v pc lv (vR r :: st) := by
  obtain ⟨p, l, e, R, s, m, args, below, meth, c, Q, G, nL⟩ := x
  intro H locs ls hh hS hl
  obtain ⟨a, fs, y, rfl, he, hv, hK⟩ := hw
  obtain ⟨r1, h1, cell, q1, q2, q3, q4⟩ := hh.obj he hci 0 _ rfl
  have hr : r1 = (C, T, N) := Option.some.inj (h1.symm.trans hc)
  subst hr
  obtain ⟨hS9, hfc, kC, hkC, hkind⟩ := X.2.2.2.2.1.1.1.1 ci _ hc
  obtain ⟨cf, kf, fi, f, hi, hsl⟩ := hS9 k hk
  refine W.getf X.1 X.2.1 X.2.2.1 (X.2.2.2.1 _ hlink) (ah_same X.2.2.2.1 hsame _ hi) (u_facts hfc hkC (u_lays X.2.2.2.1 hin hk) hi).1 q1 (by rw [q3]; exact fun h => by cases h) (v := va_rf y) ?_ rfl rfl d (kk y hK H locs ls hh hS hl)
  rw [hsl, q4 k hk]
  simp [vp_V, hv]
theorem k_getqN {x : CX} {cc : ByteArray} {own : String} {rm : Room} {n9 : Nat} {lk : Nat} (X : OkS x cc own rm n9) {h : AH} {u v pc : Nat} {lv : List (Nat × TV)} {st : List TV} {C ref : String} {T : u_T} {N ci index : Nat} (hin : ∀ w ∈ u_ws C T N, w ∈ lw_all) (hc : vwCl[ci]? = some (C, T, N)) (hci : ci < 20) (k : Nat) (hk : k < N) {host : String} (hlink : Cond.fieldLinkNest own index ref (T k).2.1 (T k).2.2.1 host ∈ lw_tbl) (hsame : (T k).1 = ref ∨ Cond.sameField ref (T k).1 (T k).2.1 (T k).2.2.1 ∈ lw_all) {r : Option Nat} {K : Option Nat → Prop} (d : decode cc pc = .ok (.getfield index, 3)) (hw : g_q h r ci k K) (kk : ∀ y, K y → JK lk x h u v (pc + 3) lv (vR y :: st)) : JK lk x h u v pc lv (vR r :: st) := by
  obtain ⟨p, l, e, R, s, m, args, below, meth, c, Q, G, nL⟩ := x
  intro H locs ls hh hS hl
  obtain ⟨a, fs, y, rfl, he, hv, hK⟩ := hw
  obtain ⟨r1, h1, cell, q1, q2, q3, q4⟩ := hh.obj he hci 0 _ rfl
  have hr : r1 = (C, T, N) := Option.some.inj (h1.symm.trans hc)
  subst hr
  obtain ⟨hS9, hfc, kC, hkC, hkind⟩ := X.2.2.2.2.1.1.1.1 ci _ hc
  obtain ⟨cf, kf, fi, f, hi, hsl⟩ := hS9 k hk
  refine va_Wgetf X.1 X.2.1 X.2.2.1 (va_Nw.use rfl (X.2.2.2.2.1.1.2.1 _ hlink rfl)) (ah_same X.2.2.2.1 hsame _ hi) (u_facts hfc hkC (u_lays X.2.2.2.1 hin hk) hi).1 q1 (by rw [q3]; exact fun h => by cases h) (v := va_rf y) ?_ rfl rfl d (kk y hK H locs ls hh hS hl)
  rw [hsl, q4 k hk]
  simp [vp_V, hv]
theorem k_zald {x : CX} {cc : ByteArray} {own : String} {rm : Room} {n9 : Nat} {lk : Nat} (X : OkS x cc own rm n9) {h : AH} {u v pc : Nat} {lv : List (Nat × TV)} {st : List TV} (t : Nat) (hty : ah_ty t = .boolean) {r : Option Nat} {i : Int32} {K : Int32 → Prop} (d : decode cc pc = .ok (.baload, 1)) (hw : l_i h r t i K) (kk : ∀ y, K y → JK lk x h u v (pc + 1) lv (vI y :: st)) : JK lk x h u v pc lv (vI i :: vR r :: st) := by
  obtain ⟨p, l, e, R, s, m, args, below, meth, c, Q, G, nL⟩ := x
  intro H locs ls hh hS hl
  obtain ⟨a, n, f, rfl, he, hin, hK⟩ := hw
  have hlt : i.toNatClampNeg < n := Nat.not_le.mp fun q => hin (Or.inr q)
  have hA := (X.2.2.2.2.1.1.1.2 t _ (by rw [ah_tys_at G (hh.tlt he), hty])).1 n (fun j => .int (f j))
  exact W.zald (v := .int (f i.toNatClampNeg)) X.1 X.2.1 (hh.2 a _ he).1.2.2 hA (fun q => by cases q) (by show ¬ (i < 0 ∨ (arrV _ _ _).slots.size ≤ _); rw [arrV_size]; exact hin) (by show (arrV _ _ _).slots[_]? = _; rw [arrV_read _ _ hlt]) rfl rfl d (kk _ hK H locs ls hh hS hl)
theorem k_zast {x : CX} {cc : ByteArray} {own : String} {rm : Room} {n9 : Nat} {lk : Nat} (X : OkS x cc own rm n9) {h : AH} {u v pc : Nat} {lv : List (Nat × TV)} {st : List TV} (t : Nat) (hty : ah_ty t = .boolean) (hro : Nat.ble 32 t = false) {r : Option Nat} {i w : Int32} (hnr : nrw .boolean w) {K : AH → Prop} (d : decode cc pc = .ok (.bastore, 1)) (hw : s_i h r t i w K) (kk : ∀ h', K h' → JK lk x h' u v (pc + 1) lv (st)) : JK lk x h u v pc lv (vI w :: vI i :: vR r :: st) := by
  obtain ⟨p, l, e, R, s, m, args, below, meth, c, Q, G, nL⟩ := x
  intro H locs ls hh hS hl
  obtain ⟨a, n, f, rfl, he, hin, hK⟩ := hw
  have hb9 : G.2.1 ≤ a := (hh.2 a _ he).2 hro
  have hA := (X.2.2.2.2.1.1.1.2 t _ (by rw [ah_tys_at G (hh.tlt he), hty])).1 n (fun j => .int (f j))
  refine W.zast X.1 X.2.1 (hh.2 a _ he).1.2.2 hA (fun q => by cases q) (by show ¬ (i < 0 ∨ (arrV _ _ _).slots.size ≤ _); rw [arrV_size]; exact hin) rfl rfl d fun H1 e1 z oq => ?_
  rw [hnr.1] at e1
  refine kk _ hK H1 _ ls (hh.set hb9 ⟨hh.tlt he, fun g hg => (by cases hg), ?_⟩ oq) (ah_up_S hS z oq hb9) hl
  rw [e1]
  show some ((arrV _ n (fun j => .int (f j))).setSlot _ _) = some (arrV _ n (fun j => .int (upd f i.toNatClampNeg w j)))
  rw [arrV_store]
  congr 2
  funext q
  by_cases hq : q = i.toNatClampNeg
  · subst hq
    simp [updV, upd]
  · simp [updV, upd, hq]
theorem k_newZ {x : CX} {cc : ByteArray} {own : String} {rm : Room} {n9 : Nat} {lk : Nat} (X : OkS x cc own rm n9) {h : AH} {u v pc : Nat} {lv : List (Nat × TV)} {st : List TV} (B : Nat) {n : Int32} {K : Nat → AH → Prop} (d : decode cc pc = .ok (.newarray .boolean, 2)) (hword : Cond.arrayClass .boolean ∈ lw_all) (hB : B ≤ 100000) (hu : u + 1 ≤ rm.cells) (hv : v + B ≤ rm.slots) (hw : mk_i h 1 n B K) (kk : ∀ q h', K q h' → JK lk x h' (u + 1) (v + B) (pc + 2) lv (vR (some q) :: st)) : JK lk x h u v pc lv (vI n :: st) := by
  obtain ⟨p, l, e, R, s, m, args, below, meth, c, Q, G, nL⟩ := x
  intro H locs ls hh hS hl
  obtain ⟨hn, hnB, hw⟩ := hw
  obtain rfl : R = rm := X.2.2.2.2.2.2.1
  refine va_newaK (atype := .boolean) X.1 X.2.1 (X.2.2.2.1 _ hword) rfl d rfl hn rfl (ah_bytes (by decide) (Nat.le_trans hnB hB)) hu (Nat.le_trans (Nat.add_le_add_left hnB v) hv) rfl fun H1 cA e1 z1 o1 hAr hNm => ?_
  have hb9 : G.2.1 ≤ H.size := Nat.le_trans X.2.2.2.2.2.2.2.1 hS.1
  have hcA : cA = G.2.2.1 1 := Option.some.inj (hNm.symm.trans (X.2.2.2.2.1.1.1.2 1 _ (ah_tys_at G (by decide))).2)
  subst hcA
  refine W.widen (Nat.le_refl _) (Nat.add_le_add_left hnB v) ?_
  exact kk _ _ (hw _ hh.fresh) H1 locs ls (hh.push hb9 ⟨by show 1 < 48; decide, fun g hg => (by cases hg), e1⟩ o1) (ah_push_S hS (by omega) o1) hl
theorem k_chk {x : CX} {cc : ByteArray} {own : String} {rm : Room} {n9 : Nat} {lk : Nat} (X : OkS x cc own rm n9) {h : AH} {u v pc : Nat} {lv : List (Nat × TV)} {st : List TV} {index : Nat} {nm : String} {r : Option Nat} {L : List Nat} {K : Prop} (hlink : Cond.classLink own index nm ∈ lw_all) (hL : ∀ ci ∈ L, ci < 20 ∧ ∃ C T N, vwCl[ci]? = some (C, T, N) ∧ (C = nm ∨ Cond.castable C nm ∈ lw_tbl)) (d : decode cc pc = .ok (.checkcast index, 3)) (hw : is_c h r L K) (kk : K → JK lk x h u v (pc + 3) lv (vR r :: st)) : JK lk x h u v pc lv (vR r :: st) := by
  obtain ⟨p, l, e, R, s, m, args, below, meth, c, Q, G, nL⟩ := x
  intro H locs ls hh hS hl
  obtain ⟨a, ci, fs, rfl, he, hci, hK⟩ := hw
  obtain ⟨h20, C, T, N, hc, hor⟩ := hL ci hci
  have hr := ah_recv X.2.2.2.2.1.1.1 hh he h20 hc
  obtain ⟨cell, h1, h2, h3⟩ := hr
  have hb : c.code = cc := X.2.1
  intro T9 hT Y
  rcases hor with rfl | hq
  · have hcC := (X.2.2.2.2.1.1.1.1 ci _ hc).2
    have e1 : G.1.1 ci = cell.cls := Option.some.inj (hcC.1.symm.trans h3)
    obtain ⟨vm', X', st9⟩ := Y.checkcastYes X.1 X.2.2.1 (X.2.2.2.1 _ hlink) (by rw [hT]; exact h1) h2 hcC.1 (by rw [← e1]; exact va_assign hcC) (g := FL lk m pc ls (.ref a :: stm st)) rfl rfl (by rw [hb]; exact d)
    obtain ⟨t, a1, b1⟩ := kk hK H locs ls hh hS hl (T9.setVm vm') hT X'
    exact ⟨t, st9 t a1, b1⟩
  · obtain ⟨c0, t0, f1, f2, f3⟩ := Cond.castable_spec (va_Nw.use (A := args) rfl (X.2.2.2.2.1.1.2.1 _ hq rfl))
    cases h3.symm.trans f1
    obtain ⟨vm', X', st9⟩ := Y.checkcastYes X.1 X.2.2.1 (X.2.2.2.1 _ hlink) (by rw [hT]; exact h1) h2 f2 f3 (g := FL lk m pc ls (.ref a :: stm st)) rfl rfl (by rw [hb]; exact d)
    obtain ⟨t, a1, b1⟩ := kk hK H locs ls hh hS hl (T9.setVm vm') hT X'
    exact ⟨t, st9 t a1, b1⟩
def RunKJ (lk : Nat) (x : CX) (h : AH) (u v mc ms pc : Nat) (lv : List (Nat × TV)) (st0 rest : List TV) (Qa : State → Outcome → State → Prop) : Prop := match x with
  | (p, l, e, R, s, m, args, below, meth, c, Q, G, nL) => ∀ (H : Heap) (locs : List Loc) (ls : Array Slot), ah_P G h H → va_S (ah_A G) s.heap H locs → lv_has ls nL (lvm lv) → va_Run p l e R s m args below meth c H locs u v mc ms (FL lk m pc ls (stm st0)) (stm rest) Qa (ah_A G)
def RunKX (lk : Nat) (x : CX) (h : AH) (u v mc ms pc : Nat) (lv : List (Nat × TV)) (st0 rest : List TV) (Qa : State → Outcome → State → Prop) (PX : String → AH → Prop) : Prop := match x with
  | (p, l, e, R, s, m, args, below, meth, c, Q, G, nL) => ∀ (H : Heap) (locs : List Loc) (ls : Array Slot), ah_P G h H → va_S (ah_A G) s.heap H locs → lv_has ls nL (lvm lv) → vx_Run p l e R s m args below meth c H locs u v mc ms (FL lk m pc ls (stm st0)) (stm rest) Qa (ct_X G PX) (ah_A G)
def JXK (lk : Nat) (x : CX) (E : String) (h : AH) (u v pc : Nat) (lv : List (Nat × TV)) (st : List TV) : Prop := match x with
  | (p, l, e, R, s, m, args, below, meth, c, Q, G, nL) => ∀ (H : Heap) (locs : List Loc) (ls : Array Slot) (q : Addr) (ce : Cell), ah_P G h H → va_S (ah_A G) s.heap H locs → lv_has ls nL (lvm lv) → H[q]? = some ce → ce.vm = .none → s.vm.findClass E = some ce.cls → vx_W p l e R s m args below meth c H locs u v Q (FL lk m pc ls (stm st)) q
theorem k_runV {x : CX} {cc : ByteArray} {own : String} {rm : Room} {n9 : Nat} {lk : Nat} (X : OkS x cc own rm n9) {h : AH} {u v pc : Nat} {lv : List (Nat × TV)} {n8 : Nat} {y : MethodName} {cy : ByteArray} {ny : Nat} {ry : Option FieldType} {rmy : Room} {As rest : List TV} {Qc : Array Value → State → Outcome → State → Prop} {index : Nat} {b : Nat} {r : Option Nat} (hr9 : r = some b) (hM : Met (xl x) y (ws_ y cy ny ry) rmy (ct_pre (xG x) h (vR r :: As)) Qc rmy.cells rmy.slots (ah_A (xG x))) {C : String} {T : u_T} {N ci : Nat} {fs : List Value} (hob : h.1 b = some (.inr (ci, fs))) (hci : ci < 20) (hc : vwCl[ci]? = some (C, T, N)) (q1 : Cond.methodLink own index y ∈ lw_all) (q2 : Cond.instanceMethod y ∈ lw_all) (q3 : Cond.selects C y y ∈ lw_all) (q4 : Cond.initialized C ∈ lw_all) (q5 : Cond.code y cy ny ry ∈ lw_all) (hd : y.cls = C ∧ y.cls ≠ "java/lang/invoke/MethodHandle" ∧ y.cls ≠ "java/lang/invoke/VarHandle" ∧ (parseMethodDescriptor y.desc).map (fun d => d.parameters.length) = some n8) (d : decode cc pc = .ok (.invokevirtual index, 3)) (hn8 : As.length = n8) (hR : rmy.frames + 1 ≤ rm.frames ∧ 8 + (ny + 11) + rmy.locals ≤ rm.locals) (hW : (rest.map tvc).sum ≤ 6) (hf : u + rmy.cells ≤ rm.cells ∧ v + rmy.slots ≤ rm.slots) : RunKJ lk x h u v rmy.cells rmy.slots pc lv (As.reverse ++ vR r :: rest) rest (Qc (stm (vR r :: As)).toArray) := by
  obtain ⟨p, l, e, R, s, m, args, below, meth, c, Q, G, nL⟩ := x
  intro H locs ls hh hS hl
  obtain rfl : R = rm := X.2.2.2.2.2.2.1
  have hsz : ls.size = nL := hl.1
  subst hr9
  exact va_runV (nL := nL) (As := stm As) (rest := stm rest) ⟨X.1, X.2.1, X.2.2.2.2.2.1, X.2.2.1, X.2.2.2.1⟩ hM (cwV n8 X.2.2.2.1 (lw_V q1 q2 q3 q4 q5) rfl rfl rfl hd hR) ⟨ct_blind _ _ _, ah_recv X.2.2.2.2.1.1.1 hh hob hci hc, fun U hU hW9 => ct_at X.2.2.2.2.1 X.2.2.2.2.2.2.2.1 hh hS U hU hW9⟩ rfl ((List.length_map (as := As) (f := tv)).trans hn8) hsz (stm_rev As (vR (some b)) rest) (by show 2 * 1 + ((stm rest).map fun v => v.category).sum ≤ 8; rw [stm_cat]; omega) d hf
theorem k_runVX {x : CX} {cc : ByteArray} {own : String} {rm : Room} {n9 : Nat} {lk : Nat} (X : OkS x cc own rm n9) {h : AH} {u v pc : Nat} {lv : List (Nat × TV)} {n8 : Nat} {y : MethodName} {cy : ByteArray} {ny : Nat} {ry : Option FieldType} {rmy : Room} {As rest : List TV} {Qc : Array Value → State → Outcome → State → Prop} {index : Nat} {b : Nat} {r : Option Nat} (hr9 : r = some b) {PX : String → AH → Prop} (hM : vx_Met (xl x) y (ws_ y cy ny ry) rmy (ct_pre (xG x) h (vR r :: As)) Qc (ct_X (xG x) PX) rmy.cells rmy.slots (ah_A (xG x))) {C : String} {T : u_T} {N ci : Nat} {fs : List Value} (hob : h.1 b = some (.inr (ci, fs))) (hci : ci < 20) (hc : vwCl[ci]? = some (C, T, N)) (q1 : Cond.methodLink own index y ∈ lw_all) (q2 : Cond.instanceMethod y ∈ lw_all) (q3 : Cond.selects C y y ∈ lw_all) (q4 : Cond.initialized C ∈ lw_all) (q5 : Cond.code y cy ny ry ∈ lw_all) (hd : y.cls = C ∧ y.cls ≠ "java/lang/invoke/MethodHandle" ∧ y.cls ≠ "java/lang/invoke/VarHandle" ∧ (parseMethodDescriptor y.desc).map (fun d => d.parameters.length) = some n8) (d : decode cc pc = .ok (.invokevirtual index, 3)) (hn8 : As.length = n8) (hR : rmy.frames + 1 ≤ rm.frames ∧ 8 + (ny + 11) + rmy.locals ≤ rm.locals) (hW : (rest.map tvc).sum ≤ 6) (hf : u + rmy.cells ≤ rm.cells ∧ v + rmy.slots ≤ rm.slots) : RunKX lk x h u v rmy.cells rmy.slots pc lv (As.reverse ++ vR r :: rest) rest (Qc (stm (vR r :: As)).toArray) PX := by
  obtain ⟨p, l, e, R, s, m, args, below, meth, c, Q, G, nL⟩ := x
  intro H locs ls hh hS hl
  obtain rfl : R = rm := X.2.2.2.2.2.2.1
  have hsz : ls.size = nL := hl.1
  subst hr9
  exact vx_runV (nL := nL) (As := stm As) (rest := stm rest) ⟨X.1, X.2.1, X.2.2.2.2.2.1, X.2.2.1, X.2.2.2.1⟩ hM (cwV n8 X.2.2.2.1 (lw_V q1 q2 q3 q4 q5) rfl rfl rfl hd hR) ⟨ct_blind _ _ _, ah_recv X.2.2.2.2.1.1.1 hh hob hci hc, fun U hU hW9 => ct_at X.2.2.2.2.1 X.2.2.2.2.2.2.2.1 hh hS U hU hW9⟩ rfl ((List.length_map (as := As) (f := tv)).trans hn8) hsz (stm_rev As (vR (some b)) rest) (by show 2 * 1 + ((stm rest).map fun v => v.category).sum ≤ 8; rw [stm_cat]; omega) d hf
theorem k_runSX {x : CX} {cc : ByteArray} {own : String} {rm : Room} {n9 : Nat} {lk : Nat} (X : OkS x cc own rm n9) {h : AH} {u v pc : Nat} {lv : List (Nat × TV)} {n8 : Nat} {y : MethodName} {cy : ByteArray} {ny : Nat} {ry : Option FieldType} {rmy : Room} {As rest : List TV} {Qc : Array Value → State → Outcome → State → Prop} {index : Nat} {PX : String → AH → Prop} (hM : vx_Met (xl x) y (ws_ y cy ny ry) rmy (ct_pre (xG x) h (As)) Qc (ct_X (xG x) PX) rmy.cells rmy.slots (ah_A (xG x))) (q1 : Cond.methodLink own index y ∈ lw_all) (q2 : Cond.static y ∈ lw_all) (q4 : Cond.initialized y.cls ∈ lw_all) (q5 : Cond.code y cy ny ry ∈ lw_all) (hd : y.cls ≠ "java/lang/invoke/MethodHandle" ∧ y.cls ≠ "java/lang/invoke/VarHandle" ∧ (parseMethodDescriptor y.desc).map (fun d => d.parameters.length) = some n8) (d : decode cc pc = .ok (.invokestatic index, 3)) (hn8 : As.length = n8) (hR : rmy.frames + 1 ≤ rm.frames ∧ 8 + (ny + 11) + rmy.locals ≤ rm.locals) (hW : (rest.map tvc).sum ≤ 6) (hf : u + rmy.cells ≤ rm.cells ∧ v + rmy.slots ≤ rm.slots) : RunKX lk x h u v rmy.cells rmy.slots pc lv (As.reverse ++ rest) rest (Qc (stm (As)).toArray) PX := by
  obtain ⟨p, l, e, R, s, m, args, below, meth, c, Q, G, nL⟩ := x
  intro H locs ls hh hS hl
  obtain rfl : R = rm := X.2.2.2.2.2.2.1
  have hsz : ls.size = nL := hl.1
  exact vx_runS (nL := nL) (As := stm As) (rest := stm rest) ⟨X.1, X.2.1, X.2.2.2.2.2.1, X.2.2.1, X.2.2.2.1⟩ hM (va_cwS n8 X.2.2.2.1 (lw_S q1 q2 q4 q5) rfl rfl rfl hd hR) ⟨ct_blind _ _ _, fun U hU hW9 => ct_at X.2.2.2.2.1 X.2.2.2.2.2.2.2.1 hh hS U hU hW9⟩ rfl ((List.length_map (as := As) (f := tv)).trans hn8) hsz (stm_rev0 As rest) (by show 2 * 1 + ((stm rest).map fun v => v.category).sum ≤ 8; rw [stm_cat]; omega) d hf
theorem k_calli {lk : Nat} {x : CX} {h : AH} {u v mc ms pc : Nat} {lv : List (Nat × TV)} {st0 rest : List TV} {a : Array Value} {P : Int32 → AH → Prop} (hr : RunKJ lk x h u v mc ms pc lv st0 rest (va_Qi P (ah_B (xG x)) (ah_A (xG x)) a)) (kk : ∀ y h', P y h' → JK lk x h' (u + mc) (v + ms) (pc + 3) lv (vI y :: rest)) : JK lk x h u v pc lv st0 := by
  obtain ⟨p, l, e, R, s, m, args, below, meth, c, Q, G, nL⟩ := x
  intro H locs ls hh hS hl
  intro T hT X'
  obtain ⟨v9, st₀, t, T', L, h0, X2, hL, e1, e2, ⟨⟨r, h', hv, hp, hb⟩, hz, hk⟩, st⟩ := hr H locs ls hh hS hl T hT X'
  cases hv
  rw [h0] at hz hk
  obtain ⟨t2, a1, b1⟩ := kk r h' hp T'.heap (locs ++ L) ls (by rw [e1]; exact hb) ⟨Nat.le_trans hS.1 (by rw [e1]; exact hz), fun q h1 h2 => by rw [e1, hk q (Nat.lt_of_lt_of_le h1 hS.1) h2]; exact hS.2.1 q h1 h2, fun q hq => by
      rcases List.mem_append.mp hq with h | h
      · exact hS.2.2 q h
      · exact hL q h⟩ hl T' rfl X2
  exact ⟨t2, st t2 a1, b1⟩
theorem k_callq {lk : Nat} {x : CX} {h : AH} {u v mc ms pc : Nat} {lv : List (Nat × TV)} {st0 rest : List TV} {a : Array Value} {P : Option Nat → AH → Prop} (hr : RunKJ lk x h u v mc ms pc lv st0 rest (va_Qq P (ah_B (xG x)) (ah_A (xG x)) a)) (kk : ∀ y h', P y h' → JK lk x h' (u + mc) (v + ms) (pc + 3) lv (vR y :: rest)) : JK lk x h u v pc lv st0 := by
  obtain ⟨p, l, e, R, s, m, args, below, meth, c, Q, G, nL⟩ := x
  intro H locs ls hh hS hl
  intro T hT X'
  obtain ⟨v9, st₀, t, T', L, h0, X2, hL, e1, e2, ⟨⟨r, h', hv, hp, hb⟩, hz, hk⟩, st⟩ := hr H locs ls hh hS hl T hT X'
  cases hv
  rw [h0] at hz hk
  obtain ⟨t2, a1, b1⟩ := kk r h' hp T'.heap (locs ++ L) ls (by rw [e1]; exact hb) ⟨Nat.le_trans hS.1 (by rw [e1]; exact hz), fun q h1 h2 => by rw [e1, hk q (Nat.lt_of_lt_of_le h1 hS.1) h2]; exact hS.2.1 q h1 h2, fun q hq => by
      rcases List.mem_append.mp hq with h | h
      · exact hS.2.2 q h
      · exact hL q h⟩ hl T' rfl X2
  exact ⟨t2, st t2 a1, b1⟩
theorem k_callXq {lk : Nat} {x : CX} {h : AH} {u v mc ms pc : Nat} {lv : List (Nat × TV)} {st0 rest : List TV} {a : Array Value} {P : Option Nat → AH → Prop} {PX : String → AH → Prop} (hr : RunKX lk x h u v mc ms pc lv st0 rest (va_Qq P (ah_B (xG x)) (ah_A (xG x)) a) PX) (kx : ∀ E h', PX E h' → JXK lk x E h' (u + mc) (v + ms) pc lv rest) (kk : ∀ y h', P y h' → JK lk x h' (u + mc) (v + ms) (pc + 3) lv (vR y :: rest)) : JK lk x h u v pc lv st0 := by
  obtain ⟨p, l, e, R, s, m, args, below, meth, c, Q, G, nL⟩ := x
  intro H locs ls hh hS hl
  intro T hT X'
  rcases hr H locs ls hh hS hl T hT X' with ⟨v9, st₀, t, T', L, h0, X2, hL, e1, e2, ⟨⟨r, h', hv, hp, hb⟩, hF⟩, st⟩ | ⟨q, st₀, t, T', L, E, ce, h0, X2, hL, e1, e2, ⟨h', hp, hb, hF⟩, hce, hcv, hcl, st⟩
  · cases hv
    obtain ⟨k1, k2, k3⟩ := vx_keep h0 e1 hS (fun _ _ z => z) (fun _ z => z) hL hF
    obtain ⟨t2, a1, b1⟩ := kk r h' hp T'.heap (locs ++ L) ls (by rw [e1]; exact hb) k3 hl T' rfl X2
    exact ⟨t2, st t2 a1, b1⟩
  · obtain ⟨k1, k2, k3⟩ := vx_keep h0 e1 hS (fun _ _ z => z) (fun _ z => z) hL hF
    obtain ⟨t2, a1, b1⟩ := kx E h' hb.1 T'.heap (locs ++ L) ls q ce (by rw [e1]; exact hb.2) k3 hl (by rw [e1]; exact hce) hcv hcl T' rfl X2
    exact ⟨t2, st.trans a1, b1⟩
theorem k_callXv {lk : Nat} {x : CX} {h : AH} {u v mc ms pc : Nat} {lv : List (Nat × TV)} {st0 rest : List TV} {a : Array Value} {P : AH → Prop} {PX : String → AH → Prop} (hr : RunKX lk x h u v mc ms pc lv st0 rest (va_Qv P (ah_B (xG x)) (ah_A (xG x)) a) PX) (kx : ∀ E h', PX E h' → JXK lk x E h' (u + mc) (v + ms) pc lv rest) (kk : ∀ h', P h' → JK lk x h' (u + mc) (v + ms) (pc + 3) lv rest) : JK lk x h u v pc lv st0 := by
  obtain ⟨p, l, e, R, s, m, args, below, meth, c, Q, G, nL⟩ := x
  intro H locs ls hh hS hl
  intro T hT X'
  rcases hr H locs ls hh hS hl T hT X' with ⟨v9, st₀, t, T', L, h0, X2, hL, e1, e2, ⟨⟨h', hv, hp, hb⟩, hF⟩, st⟩ | ⟨q, st₀, t, T', L, E, ce, h0, X2, hL, e1, e2, ⟨h', hp, hb, hF⟩, hce, hcv, hcl, st⟩
  · cases hv
    obtain ⟨k1, k2, k3⟩ := vx_keep h0 e1 hS (fun _ _ z => z) (fun _ z => z) hL hF
    obtain ⟨t2, a1, b1⟩ := kk h' hp T'.heap (locs ++ L) ls (by rw [e1]; exact hb) k3 hl T' rfl X2
    exact ⟨t2, st t2 a1, b1⟩
  · obtain ⟨k1, k2, k3⟩ := vx_keep h0 e1 hS (fun _ _ z => z) (fun _ z => z) hL hF
    obtain ⟨t2, a1, b1⟩ := kx E h' hb.1 T'.heap (locs ++ L) ls q ce (by rw [e1]; exact hb.2) k3 hl (by rw [e1]; exact hce) hcv hcl T' rfl X2
    exact ⟨t2, st.trans a1, b1⟩
/-- the same, but for the exempt object -/
def gx (G : GG) (a : Nat) : GG := (G.1, G.2.1, (fun t => if t = 99 then a else G.2.2.1 t), G.2.2.2)
theorem gx_ne (G : GG) (a : Nat) {t : Nat} (ht : t ≠ 99) : (gx G a).2.2.1 t = G.2.2.1 t := if_neg ht
theorem gx_tys (G : GG) (a : Nat) : ah_tys (gx G a) = ah_tys G := by
  unfold ah_tys
  refine List.map_congr_left fun t ht => ?_
  rw [gx_ne G a (by have := List.mem_range.mp ht; omega)]
theorem gx_Kt {G : GG} {a : Nat} {U : State} (h : ah_Kt G U) : ah_Kt (gx G a) U := by
  obtain ⟨k1, k⟩ := h
  refine ⟨?_, k⟩
  rw [gx_tys]
  exact k1
theorem gx_Ks {G : GG} {a : Nat} {U : State} {H : Heap} (h : ah_Ks G U H) : ah_Ks (gx G a) U H := h
theorem ah_sz {H : Heap} {a : Nat} {cell : Cell} : (H.setIfInBounds a cell).size = H.size := Array.size_setIfInBounds
theorem ah_se {H : Heap} {a q : Nat} {cell : Cell} (hq : q ≠ a) : (H.setIfInBounds a cell)[q]? = H[q]? := by
  rw [Array.getElem?_setIfInBounds, if_neg (Ne.symm hq)]
theorem ah_s1 {H : Heap} {a : Nat} {cell c0 : Cell} (h : H[a]? = some c0) : (H.setIfInBounds a cell)[a]? = some cell := by
  have hlt := (Array.getElem?_eq_some_iff.mp h).1
  rw [Array.getElem?_setIfInBounds, if_pos rfl, if_pos hlt]
/-- the monitor of a cell of class 0 is entered -/
theorem gx_P {G : GG} (hG : G.2.2.1 99 < G.2.1) {h : AH} {H : Heap} (hP : ah_P G h H) {a : Nat} {fs : List Value} (ho : h.1 a = some (.inr (0, fs))) {cell cell' : Cell} (hc : H[a]? = some cell) (e1 : cell'.cls = cell.cls) (e2 : cell'.slots = cell.slots) (e3 : cell'.vm = cell.vm) : ah_P (gx G a) h (H.setIfInBounds a cell') := by
  refine ⟨hP.1, fun q e he => ⟨?_, (hP.2 q e he).2⟩⟩
  have h0 := (hP.2 q e he).1
  by_cases hq : q = a
  · subst hq
    cases ho.symm.trans he
    rcases h0 with ⟨g1, ⟨r, r1, cl, c1, c2, c3, c4⟩, g3⟩ | ⟨g1, -⟩
    · cases hc.symm.trans c1
      exact Or.inl ⟨g1, ⟨r, r1, cell', ah_s1 hc, e1.trans c2, e3.trans c3, fun k hk => by rw [e2]; exact c4 k hk⟩, fun _ hn => absurd (show q = (gx G q).2.2.1 99 from rfl) hn⟩
    · exact absurd g1 (by show ¬ 20 ≤ 0; decide)
  · have hk : (H.setIfInBounds a cell')[q]? = H[q]? := ah_se hq
    cases e with
    | inl x =>
      exact ⟨h0.1, h0.2.1, by rw [hk, gx_ne G a (by have := h0.1; omega)]; exact h0.2.2⟩
    | inr o =>
      rcases h0 with ⟨g1, g2, g3⟩ | ⟨g1, g2⟩
      · exact Or.inl ⟨g1, g2.kept hk, fun z hn => by
          have hb9 := (hP.2 q _ he).2 (by show (Nat.beq o.1 17 || Nat.beq o.1 20) = false; rw [show o.1 = 0 from z]; rfl)
          have hne : q ≠ G.2.2.1 99 := fun hx => Nat.lt_irrefl _ (Nat.lt_of_lt_of_le hG (hx ▸ hb9))
          exact (g3.kept hk) z hne⟩
      · exact Or.inr ⟨g1, by rw [hk, gx_ne G a (by have : 20 ≤ o.1 := g1; omega)]; exact g2⟩
/-- and given back -/
theorem gx_back {G : GG} {h : AH} {H : Heap} {a : Nat} {cell cell' : Cell} (hP : ah_P (gx G a) h H) (hc : H[a]? = some cell) (e1 : cell'.cls = cell.cls) (e2 : cell'.slots = cell.slots) (e3 : cell'.vm = cell.vm) (hm : cell.monitor.owner ≠ none) (f1 : cell'.monitor.owner = none) (f2 : cell'.monitor.count = 0) : ah_P G h (H.setIfInBounds a cell') := by
  refine ⟨hP.1, fun q e he => ⟨?_, (hP.2 q e he).2⟩⟩
  have h0 := (hP.2 q e he).1
  by_cases hq : q = a
  · subst hq
    cases e with
    | inl x =>
      obtain ⟨t, n, y⟩ := x
      have h2 := h0.2.2
      cases hc.symm.trans h2
      refine absurd ?_ hm
      obtain f | f | f | f | f := y <;> rfl
    | inr o =>
      rcases h0 with ⟨g1, ⟨r, r1, cl, c1, c2, c3, c4⟩, g3⟩ | ⟨g1, g2⟩
      · cases hc.symm.trans c1
        exact Or.inl ⟨g1, ⟨r, r1, cell', ah_s1 hc, e1.trans c2, e3.trans c3, fun k hk => by rw [e2]; exact c4 k hk⟩, fun _ _ => ⟨cell', ah_s1 hc, f1, f2⟩⟩
      · cases hc.symm.trans g2
        exact absurd rfl hm
  · have hk : (H.setIfInBounds a cell')[q]? = H[q]? := ah_se hq
    cases e with
    | inl x =>
      refine ⟨h0.1, h0.2.1, ?_⟩
      rw [hk, ← gx_ne G a (show x.1 ≠ 99 by have := h0.1; omega)]
      exact h0.2.2
    | inr o =>
      rcases h0 with ⟨g1, g2, g3⟩ | ⟨g1, g2⟩
      · exact Or.inl ⟨g1, g2.kept hk, fun z hn => g3.kept hk z hq⟩
      · refine Or.inr ⟨g1, ?_⟩
        rw [hk, ← gx_ne G a (show o.1 + 100 ≠ 99 by omega)]
        exact g2
def SY (x : CX) (lk : Nat) (G0 : GG) (s0 : State) (cl0 : Cell) (P : Int32 → AH → Prop) (PX : String → AH → Prop) (rm : Room) : Prop := match x with
  | (p, l, e, R, s, m, args, below, meth, c, Q, G, nL) => s = s0.setCell lk (cl0.withEntry s0.cur) ∧ s0.heap[lk]? = some cl0 ∧ cl0.monitor.owner = none ∧ cl0.monitor.count = 0 ∧ G = gx G0 lk ∧ G0.2.1 ≤ lk ∧ Q = vx_MQ below (va_Qi P (ah_B G0) (ah_A G0)) (ct_X G0 PX) args s0 rm.cells rm.slots (ah_A G0) ∧ c.exceptionTable.toList = []
theorem sy_left {c : Cell} {t : ThreadId} (ho : c.monitor.owner = none) (hc : c.monitor.count = 0) {x : Cell} (hx : x = { c.withEntry t with slots := x.slots }) : x.left.cls = x.cls ∧ x.left.slots = x.slots ∧ x.left.vm = x.vm ∧ x.monitor.owner ≠ none ∧ x.left.monitor.owner = none ∧ x.left.monitor.count = 0 := by
  have e2 : x.left = { c with slots := x.slots } := by
    rw [hx, Cell.left_withSlots, Cell.left_withEntry t ho hc]
  refine ⟨by rw [e2]; exact (congrArg Cell.cls hx).symm, by rw [e2], by rw [e2]; exact (congrArg Cell.vm hx).symm, fun h => ?_, by rw [e2]; exact ho, by rw [e2]; exact hc⟩
  have h9 : x.monitor.owner = some t := congrArg (fun z : Cell => z.monitor.owner) hx
  rw [h] at h9
  cases h9
theorem sy_S {A : Nat → Prop} {s0 : State} {a : Nat} {c0 c1 : Cell} {H : Heap} {locs : List Loc} (ha : A a) (hS : va_S A (s0.setCell a c0).heap H locs) : va_S A s0.heap (H.setIfInBounds a c1) locs := by
  have hz : (s0.setCell a c0).heap.size = s0.heap.size := Array.size_setIfInBounds
  refine ⟨by rw [ah_sz, ← hz]; exact hS.1, fun q h1 h2 => ?_, hS.2.2⟩
  have hq : q ≠ a := fun h => h2 (h ▸ ha)
  rw [ah_se hq, hS.2.1 q (by rw [hz]; exact h1) h2]
  exact ah_se hq
theorem k_iret {x : CX} {cc : ByteArray} {own : String} {rm : Room} {n9 : Nat} {lk : Nat} (X : OkS x cc own rm n9) {h : AH} {u v pc : Nat} {lv : List (Nat × TV)} {a : Int32} {P : Int32 → AH → Prop} {PX : String → AH → Prop} {G0 : GG} {s0 : State} {cl0 : Cell} (hQ : SY x lk G0 s0 cl0 P PX rm) (hr : xrt x = some .int) (hu : u ≤ rm.cells) (hv : v ≤ rm.slots) (d : decode cc pc = .ok (.ireturn, 1)) (hw : P a h) : JK lk x h u v pc lv [vI a] := by
  obtain ⟨p, l, e, R, s, m, args, below, meth, c, Q, G, nL⟩ := x
  obtain ⟨rfl, g2, g3, g4, rfl, g6, rfl, g8⟩ := hQ
  intro H locs ls hh hS hl
  obtain rfl : R = rm := X.2.2.2.2.2.2.1
  refine W.widen hu hv ?_
  have hb : c.code = cc := X.2.1
  have hexec := X.1
  have hr' : meth.sig.returnType = some .int := hr
  intro T hT Y
  obtain ⟨fs, cellT, hcT, hret, hrun, hended, hWend, hsame⟩ := Y.leaveSync g2 (Or.inl ⟨g3, g4⟩) X.2.2.2.2.2.2.2.2.2.1 (v := some (.int a)) (fun h => by rw [hr'] at h; cases h)
  obtain ⟨cT', x1, x2, x3⟩ := Y.cellAt (a := lk) (cell := cl0.withEntry s0.cur) (by show (s0.heap.setIfInBounds lk _)[lk]? = _; exact ah_s1 g2)
  cases hcT.symm.trans x1
  obtain ⟨l1, l2, l3, l4, l5, l6⟩ := sy_left g3 g4 x2
  have hTH : T.heap = H := hT
  have hheap : ((T.setCell lk cellT.left).setFrames fs).heap = H.setIfInBounds lk cellT.left := by rw [← hTH]; rfl
  have hS0 : va_S (ah_A G0) s0.heap (H.setIfInBounds lk cellT.left) locs := sy_S g6 hS
  refine ⟨(T.setCell lk cellT.left).setFrames fs, ?_, .returned (some (.int a)), hrun, hended, Or.inl ⟨⟨⟨a, h, rfl, hw, ?_⟩, hS0.F hheap⟩, locs, ⟨⟨_, rfl⟩, hWend, hsame⟩, hS0.2.2⟩⟩
  · show Steps p.tables e below (T.setTop (FL lk m pc ls [Value.int a])) _
    jvm_step Y.here [Y.here.top, hexec, hb, d, Y.method', hr', narrow]
    (try refine ⟨rfl, ?_⟩); (try refine ⟨rfl, ?_⟩)
    first | (intro acts; rw [hret _ acts rfl rfl rfl]) | rw [hret _ _ rfl rfl rfl]
    exact Steps.refl _
  · show ah_P G0 h ((T.setCell lk cellT.left).setFrames fs).heap
    rw [hheap]
    exact gx_back hh (by rw [← hTH]; exact hcT) l1 l2 l3 l4 l5 l6
theorem k_out {x : CX} {cc : ByteArray} {own : String} {rm : Room} {n9 : Nat} {lk : Nat} (X : OkS x cc own rm n9) {h : AH} {u v pc : Nat} {lv : List (Nat × TV)} {st : List TV} {E : String} {P : Int32 → AH → Prop} {PX : String → AH → Prop} {G0 : GG} {s0 : State} {cl0 : Cell} (hQ : SY x lk G0 s0 cl0 P PX rm) (hu : u ≤ rm.cells) (hv : v ≤ rm.slots) (hw : PX E h) : JXK lk x E h u v pc lv st := by
  obtain ⟨p, l, e, R, s, m, args, below, meth, c, Q, G, nL⟩ := x
  obtain ⟨rfl, g2, g3, g4, rfl, g6, rfl, g8⟩ := hQ
  intro H locs ls q ce hh hS hl c1 c2 c3
  obtain rfl : R = rm := X.2.2.2.2.2.2.1
  refine vx_widen hu hv ?_
  intro T hT Y
  obtain ⟨cellT, hcT, hst, hrun, hended, hWend, hsame⟩ := Y.leaveThrownSync g2 (Or.inl ⟨g3, g4⟩) q (g := FL lk m pc ls (stm st)) rfl rfl rfl (fun z hz => by rw [g8] at hz; cases hz)
  obtain ⟨cT', x1, x2, x3⟩ := Y.cellAt (a := lk) (cell := cl0.withEntry s0.cur) (by show (s0.heap.setIfInBounds lk _)[lk]? = _; exact ah_s1 g2)
  cases hcT.symm.trans x1
  obtain ⟨l1, l2, l3, l4, l5, l6⟩ := sy_left g3 g4 x2
  have hTH : T.heap = H := hT
  have hheap : ((T.setCell lk cellT.left).setFrames (.throwing q :: below)).heap = H.setIfInBounds lk cellT.left := by rw [← hTH]; rfl
  have hS0 : va_S (ah_A G0) s0.heap (H.setIfInBounds lk cellT.left) locs := sy_S g6 hS
  have hP0 : ah_P G0 h (H.setIfInBounds lk cellT.left) := gx_back hh (by rw [← hTH]; exact hcT) l1 l2 l3 l4 l5 l6
  have hx9 : ∃ ce' : Cell, (H.setIfInBounds lk cellT.left)[q]? = some ce' ∧ ce'.vm = .none ∧ s0.vm.findClass E = some ce'.cls := by
    by_cases hq : q = lk
    · subst hq
      have hce : ce = cellT := Option.some.inj (c1.symm.trans (by rw [← hTH]; exact hcT))
      subst hce
      exact ⟨ce.left, ah_s1 c1, by rw [l3]; exact c2, by rw [l1]; exact c3⟩
    · exact ⟨ce, (ah_se hq).trans c1, c2, c3⟩
  obtain ⟨ce', d1, d2, d3⟩ := hx9
  exact ⟨_, hst, .threw q, hrun, hended, Or.inr ⟨q, rfl, E, ce', locs, ⟨h, trivial, ⟨hw, by show ah_P G0 h ((T.setCell lk cellT.left).setFrames (.throwing q :: below)).heap; rw [hheap]; exact hP0⟩, hS0.F hheap⟩, by rw [hheap]; exact d1, d2, d3, hWend, hsame, hS0.2.2⟩⟩
theorem k_startXi {l : Launch} (hlt : l.stackTraces = false) {y : MethodName} {cc : ByteArray} {maxL : Nat} {ret : Option FieldType} {rm : Room} {G : GG} (hG : G.2.2.1 99 < G.2.1) {h : AH} {av : List TV} {P : Int32 → AH → Prop} {PX : String → AH → Prop} (lv : List (Nat × TV)) (hy : plainName y.cls = true) (hin : Cond.instanceMethod y ∈ lw_all) {a0 : Nat} {fs : List Value} (ho : h.1 a0 = some (.inr (0, fs))) {as : List TV} (hav9 : av = vR (some a0) :: as) (hav : Nat.ble (av.map tvc).sum maxL = true) (hlv : lvT 0 av = lv)
    (body : ∀ (x : CX) (s0 : State) (cl0 : Cell), OkS x cc y.cls rm maxL → xrt x = ret → xnm x = y.name → SY x a0 G s0 cl0 P PX rm → JK a0 x h 0 0 0 lv []) : cx_i l y (wsY_ y cc maxL ret) rm G h av P PX := by
  subst hav9
  refine my_met (cc := cc) (maxL := maxL) (ret := ret) hy rfl (List.mem_cons_of_mem _ hin) ?_ ?_
  · intro args s hv
    obtain ⟨rfl, hK, hb, hh⟩ := hv
    have hb9 : G.2.1 ≤ a0 := (hh.2 a0 _ ho).2 rfl
    obtain ⟨cell, c1, c2, c3⟩ := ((hh.2 a0 _ ho).1.mon (by decide)) rfl (fun hx => Nat.lt_irrefl _ (Nat.lt_of_lt_of_le hG (hx ▸ hb9)))
    exact ⟨a0, cell, rfl, c1, c2, c3⟩
  · intro p e s m args below meth c a cell hv harg hcell hfree hcount hexec hbytes hml hnamed hmeth hret hlocks htab hats
    obtain ⟨rfl, hK, hb, hh⟩ := hv
    have ha : a0 = a := by
      have h9 : (some (Value.ref a0) : Option Value) = some (.ref a) := harg
      cases h9
      rfl
    subst ha
    have hb9 : G.2.1 ≤ a0 := (hh.2 a0 _ ho).2 rfl
    have hts : ∀ w ∈ lw_all, w.before (stm (vR (some a0) :: as)).toArray s = true := fun w h => hats w (List.mem_cons_of_mem _ h)
    have hpay := pay_in hts lw_self
    have hts' : ∀ w ∈ lw_all, w.before (stm (vR (some a0) :: as)).toArray (s.setCell a0 (cell.withEntry s.cur)) = true := fun w hw => hpay w hw _ _ (State.WarmedH.refl s)
    have hz : (s.setCell a0 (cell.withEntry s.cur)).heap.size = s.heap.size := Array.size_setIfInBounds
    have hK1 : ah_K G (s.setCell a0 (cell.withEntry s.cur)) s.heap := ah_K.warm (U := s.setCell a0 (cell.withEntry s.cur)) (State.WarmedH.refl s) hK
    have hK2 : ah_K G (s.setCell a0 (cell.withEntry s.cur)) (s.setCell a0 (cell.withEntry s.cur)).heap := hK1.kept (fun q h1 h2 => ah_se (fun h => h2 (h ▸ hb9)))
    have hK' : ah_K (gx G a0) (s.setCell a0 (cell.withEntry s.cur)) (s.setCell a0 (cell.withEntry s.cur)).heap := ⟨gx_Kt hK2.1, gx_Ks hK2.2⟩
    have hP' : ah_P (gx G a0) h (s.setCell a0 (cell.withEntry s.cur)).heap := gx_P hG hh ho hcell rfl rfl rfl
    have hk := body (p, l, e, rm, s.setCell a0 (cell.withEntry s.cur), m, (stm (vR (some a0) :: as)).toArray, below, meth, c, vx_MQ below (va_Qi P (ah_B G) (ah_A G)) (ct_X G PX) (stm (vR (some a0) :: as)).toArray s rm.cells rm.slots (ah_A G), gx G a0, maxL) s cell ⟨hexec, hbytes, findClass_of_methodNamed hnamed, hts', hK', hml, rfl, by rw [hz]; exact hb, hlt, hlocks, rfl⟩ hret (name_of_methodNamed hnamed hmeth).1 ⟨rfl, hcell, hfree, hcount, rfl, hb9, rfl, htab⟩
    have hl := lv_entry (stm (vR (some a0) :: as)) (n := maxL) (by rw [lg_len]; exact Nat.le_of_ble_eq_true hav)
    rw [lvT_eq, hlv] at hl
    have he : argsToLocals (stm (vR (some a0) :: as)).toArray maxL = (lg_sl (stm (vR (some a0) :: as)) ++ List.replicate (maxL - (lg_sl (stm (vR (some a0) :: as))).length) Slot.unset).toArray := congrArg JFrame.locals (lg_entry_eq m (stm (vR (some a0) :: as)) maxL)
    have hk2 := hk _ [] _ hP' va_S.rf hl
    rw [← he] at hk2
    exact hk2
