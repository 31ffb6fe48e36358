theorem nm_p {U : State} {c : ClassId} {ty : FieldType} {nm : String} (h : U.vm.findClass ("[" ++ ty.toString) = some c) (e : "[" ++ ty.toString = nm) : U.vm.findClass nm = some c := e ▸ h
/-! arrays of arrays, made at one go -/
def ah_mul (h : AH) (q tO tI n k : Nat) : AH := (fun a => if a = q then some (.inl (tO, n, .inr (.inr (.inr (.inr fun j => if j < n then some (q + 1 + j) else none))))) else if q < a ∧ a ≤ q + n then some (.inl (tI, k, .inl fun _ => 0)) else h.1 a, h.2)
def mk_m (h : AH) (tO tI : Nat) (n k : Int32) (B C : Nat) (K : Nat → AH → Prop) : Prop := ¬ n < 0 ∧ ¬ k < 0 ∧ n.toNatClampNeg ≤ B ∧ k.toNatClampNeg ≤ C ∧ ∀ q, (∀ a, q ≤ a → h.1 a = none) → K q (ah_mul h q tO tI n.toNatClampNeg k.toNatClampNeg)
theorem mu_outer (cA : ClassId) (N h0 : Nat) : ∀ i, Jvm.Free.Multi.outerC cA N h0 i = arrV cA N (fun j => va_rf (if j < i then some (h0 + 1 + j) else none))
  | 0 => by
    show ({ cls := cA, slots := Array.replicate N .null, vm := .none } : Cell) = _
    rw [arrV_new]
    congr 1
  | i + 1 => by
    show (Jvm.Free.Multi.outerC cA N h0 i).setSlot i (.ref (h0 + 1 + i)) = _
    rw [mu_outer cA N h0 i, arrV_store]
    congr 1
    funext j
    unfold updV
    by_cases e : j = i
    · subst e
      rw [if_pos rfl, if_pos (Nat.lt_succ_self j)]
      rfl
    · rw [if_neg e]
      show va_rf (if j < i then some (h0 + 1 + j) else none) = _
      by_cases e2 : j < i
      · rw [if_pos e2, if_pos (by omega)]
      · rw [if_neg e2, if_neg (by omega)]
theorem ah_P.out {G : GG} {h : AH} {H : Heap} (hP : ah_P G h H) {a : Nat} (ha : H.size ≤ a) : h.1 a = none := by
  cases he : h.1 a with
  | none => rfl
  | some e => exact absurd (hP.lt he) (Nat.not_lt.mpr ha)
theorem ah_P.mul {G : GG} {h : AH} {H H1 : Heap} (hP : ah_P G h H) {tO tI n k : Nat} (hO : tO < 48) (hI : tI < 48) (hO2 : (ah_ty tO).isReference = true) (hrO : Nat.ble 32 tO = false) (hrI : Nat.ble 32 tI = false) (hb : G.2.1 ≤ H.size) (e1 : H1[H.size]? = some (arrV (G.2.2.1 tO) n (fun j => va_rf (if j < n then some (H.size + 1 + j) else none)))) (e2 : ∀ j, j < n → H1[H.size + 1 + j]? = some (arrV (G.2.2.1 tI) k (fun _ => .int 0))) (oq : ∀ q : Nat, q < H.size → H1[q]? = H[q]?) : ah_P G (ah_mul h H.size tO tI n k) H1 := by
  refine ⟨hP.1, fun q x h1 => ?_⟩
  unfold ah_mul at h1
  simp only at h1
  by_cases hq : q = H.size
  · rw [if_pos hq] at h1
    cases h1
    subst hq
    exact ⟨⟨hO, fun _ _ => hO2, e1⟩, fun _ => hb⟩
  · rw [if_neg hq] at h1
    by_cases hq2 : H.size < q ∧ q ≤ H.size + n
    · rw [if_pos hq2] at h1
      cases h1
      have e3 := e2 (q - H.size - 1) (by omega)
      rw [show H.size + 1 + (q - H.size - 1) = q by omega] at e3
      exact ⟨⟨hI, fun _ hf => (by cases hf), e3⟩, fun _ => by omega⟩
    · rw [if_neg hq2] at h1
      exact ⟨(hP.2 q x h1).1.kept (oq q (hP.lt h1)), (hP.2 q x h1).2⟩
theorem j_mul {x : CX} {cc : ByteArray} {own : String} {rm : Room} {n9 : Nat} (X : Ok x cc own rm n9) {h : AH} {u v pc : Nat} {lv : List (Nat × TV)} {st : List TV} (tO tI : Nat) {ty : FieldType} {index : Nat} (htO : ah_ty tO = .array ty) (hnO : ∀ U : State, va_RA U ((xG x).2.2.1 tO) (ah_ty tO) → U.vm.findClass ("[" ++ (FieldType.array ty).toString) = some ((xG x).2.2.1 tO)) (hnI : ∀ U : State, va_RA U ((xG x).2.2.1 tI) (ah_ty tI) → U.vm.findClass (FieldType.array ty).toString = some ((xG x).2.2.1 tI)) (hO : tO < 48) (hI : tI < 48) (hrO : Nat.ble 32 tO = false) (hrI : Nat.ble 32 tI = false) (B C : Nat) {n k : Int32} {K : Nat → AH → Prop} (d : decode cc pc = .ok (.multianewarray index 2, 4)) (hlink : Cond.classLink own index ("[" ++ (FieldType.array ty).toString) ∈ lw_all) (hover : ∀ U : State, ah_Kt (xG x) U → ah_Oa ty U) (harr : Cond.arrayClass ty ∈ lw_all) (hdf : fits ty (defaultValue ty) = true) (hdd : (defaultValue ty).isDefault = true) (hdv : defaultValue ty = .int 0) (hB : B ≤ 100000) (hC : C ≤ 100000) (hcb : componentBytes ty ≤ 4) (hu : u + (1 + B) ≤ rm.cells) (hv : v + (B + B * C) ≤ rm.slots) (hw : mk_m h tO tI n k B C K) (kk : ∀ q h', K q h' → J x h' (u + (1 + B)) (v + (B + B * C)) (pc + 4) lv (vR (some q) :: st)) : J x h u v pc lv (vI k :: vI n :: st) := by
  obtain ⟨p, l, e, R, s, m, args, below, meth, c, Q, G, nL⟩ := x
  intro H locs ls hh hS hl
  obtain ⟨hn, hk, hnB, hkC, hw⟩ := hw
  obtain rfl : R = rm := X.2.2.2.2.2.2.1
  have hb : c.code = cc := X.2.1
  have hmul : n.toNatClampNeg * k.toNatClampNeg ≤ B * C := Nat.mul_le_mul hnB hkC
  have hb9 : G.2.1 ≤ H.size := Nat.le_trans X.2.2.2.2.2.2.2.1 hS.1
  intro T hT Y
  obtain ⟨vm1, cA, comp, hW, fA, fC, -, -, X', st9⟩ := Y.multianewarray2F X.1 X.2.2.1 (X.2.2.2.1 _ hlink) (hover s X.2.2.2.2.1.1) (X.2.2.2.1 _ harr) (g := F0 m pc ls (.int k :: .int n :: stm st)) rfl (by rw [hb]; exact d) (n := n) (k := k) (rest := stm st) rfl hn hk (by omega) (Nat.le_trans (Nat.mul_le_mul hkC hcb) (by omega)) (by omega) hdf hdd (by omega) (by omega)
  have hcA : cA = G.2.2.1 tO := Option.some.inj (fA.symm.trans (hnO s (X.2.2.2.2.1.1.1.2 tO _ (ah_tys_at G hO)).2))
  have hcI : comp = G.2.2.1 tI := Option.some.inj (fC.symm.trans (hnI s (X.2.2.2.2.1.1.1.2 tI _ (ah_tys_at G hI)).2))
  subst hcA hcI
  obtain ⟨f1, f2, f3, f4⟩ := Jvm.Free.Multi.fill_facts (T.setVm vm1) (G.2.2.1 tO) (G.2.2.1 tI) n.toNatClampNeg k.toNatClampNeg (defaultValue ty) n.toNatClampNeg
  have hTH : (T.setVm vm1).heap = H := hT
  rw [hTH] at f1 f2
  have o1 : ∀ q : Nat, q < H.size → (Jvm.Free.Multi.fill (T.setVm vm1) (G.2.2.1 tO) (G.2.2.1 tI) n.toNatClampNeg k.toNatClampNeg (defaultValue ty) n.toNatClampNeg).heap[q]? = H[q]? := fun q hq => by
    rw [Jvm.Free.Multi.fill_old (T.setVm vm1) _ _ _ _ _ (by rw [hTH]; exact hq), hTH]
  have e2 : ∀ j, j < n.toNatClampNeg → (Jvm.Free.Multi.fill (T.setVm vm1) (G.2.2.1 tO) (G.2.2.1 tI) n.toNatClampNeg k.toNatClampNeg (defaultValue ty) n.toNatClampNeg).heap[H.size + 1 + j]? = some (arrV (G.2.2.1 tI) k.toNatClampNeg (fun _ => .int 0)) := fun j hj => by
    have e3 := Jvm.Free.Multi.fill_inner (T.setVm vm1) (G.2.2.1 tO) (G.2.2.1 tI) n.toNatClampNeg k.toNatClampNeg (defaultValue ty) n.toNatClampNeg j hj
    rw [hTH] at e3
    rw [e3, hdv, Jvm.Free.Multi.innerC, arrV_new]
  rw [mu_outer] at f2
  have hP1 := hh.mul hO hI (by rw [htO]; rfl) hrO hrI hb9 f2 e2 o1
  have hk9 := W.widen (show u + 1 + n.toNatClampNeg ≤ u + (1 + B) by omega) (show v + n.toNatClampNeg + n.toNatClampNeg * k.toNatClampNeg ≤ v + (B + B * C) by omega) (kk _ _ (hw _ fun a ha => hh.out ha) _ locs ls hP1 (ah_push_S hS (by omega) o1) hl)
  obtain ⟨t, a1, b1⟩ := hk9 _ rfl X'
  refine ⟨t, st9 t ?_, b1⟩
  rw [show T.heap = H from hT]
  exact a1
def mk_c (h : AH) (r : Option Nat) (B : Nat) (K : Nat → AH → Prop) : Prop := ∃ a n f, r = some a ∧ h.1 a = some (.inl (0, n, .inl f)) ∧ n ≤ B ∧ ∀ q, h.1 q = none → K q (ah_up h q (.inl (0, n, .inl f)))
theorem j_clone {x : CX} {cc : ByteArray} {own : String} {rm : Room} {n9 : Nat} (X : Ok x cc own rm n9) {h : AH} {u v pc : Nat} {lv : List (Nat × TV)} {st : List TV} {index : Nat} {r : Option Nat} (B : Nat) {K : Nat → AH → Prop} (q1 : Cond.methodLink own index ⟨"[I", "clone", "()Ljava/lang/Object;"⟩ ∈ lw_all) (q2 : Cond.sameMethod "[I" "java/lang/Object" "clone" "()Ljava/lang/Object;" ∈ lw_all) (q3 : Cond.native ⟨"java/lang/Object", "clone", "()Ljava/lang/Object;"⟩ ∈ lw_all) (q4 : Cond.instanceMethod ⟨"java/lang/Object", "clone", "()Ljava/lang/Object;"⟩ ∈ lw_all) (q5 : Cond.selects "[I" ⟨"[I", "clone", "()Ljava/lang/Object;"⟩ ⟨"java/lang/Object", "clone", "()Ljava/lang/Object;"⟩ ∈ lw_all) (q6 : Cond.castable "[I" "java/lang/Cloneable" ∈ lw_tbl) (hnm : ∀ U : State, va_RA U ((xG x).2.2.1 0) (ah_ty 0) → U.vm.findClass "[I" = some ((xG x).2.2.1 0)) (hR : 1 ≤ rm.frames ∧ (st.map tvc).sum + 14 ≤ rm.locals) (hu : u + 1 ≤ rm.cells) (hv : v + B ≤ rm.slots) (d : decode cc pc = .ok (.invokevirtual index, 3)) (hw : mk_c h r B K) (kk : ∀ q h', K q h' → J x h' (u + 1) (v + B) (pc + 3) lv (vR (some q) :: st)) : J x h u v pc lv (vR r :: st) := by
  obtain ⟨p, l, e, R, s, m, args, below, meth, c, Q, G, nL⟩ := x
  intro H locs ls hh hS hl
  obtain ⟨a, n, f, rfl, he, hnB, hw⟩ := hw
  obtain rfl : R = rm := X.2.2.2.2.2.2.1
  have hb : c.code = cc := X.2.1
  have hsz : ls.size = nL := hl.1
  have hml : c.maxLocals = ls.size := by rw [X.2.2.2.2.2.1]; exact hsz.symm
  have hb9 : G.2.1 ≤ H.size := Nat.le_trans X.2.2.2.2.2.2.2.1 hS.1
  have hRA := X.2.2.2.2.1.1.1.2 0 _ (ah_tys_at G (by decide))
  have hnm9 := hnm s hRA.2
  have hslz : (vp_cell (G.2.2.1 0) (n, .inl f)).slots.size = n := arrV_size _ _ _
  obtain ⟨c0, t0', f1, f2, f3⟩ := Cond.castable_spec (va_Nw.use (A := args) rfl (X.2.2.2.2.1.1.2.1 _ q6 rfl))
  cases hnm9.symm.trans f1
  intro T hT Y
  have hcell : T.heap[a]? = some (vp_cell (G.2.2.1 0) (n, .inl f)) := by rw [hT]; exact (hh.2 a _ he).1.2.2
  obtain ⟨-, kA, hkA, comp, hkind⟩ := State.isArrayOf_alike Y.warmed.alike (hRA.1 0 (fun _ => .null))
  obtain ⟨-, kS, hkS, compS, hkindS⟩ := hRA.1 0 (fun _ => .null)
  obtain ⟨vm', X', st9⟩ := Y.cloneArray X.1 X.2.2.1 (X.2.2.2.1 _ q1) (X.2.2.2.1 _ q2) (X.2.2.2.1 _ q3) (X.2.2.2.1 _ q4) (X.2.2.2.1 _ q5) (a := a) (cell := vp_cell (G.2.2.1 0) (n, .inl f)) hcell (fun k h => by cases h) (fun h => by cases h) hnm9 f2 f3
    (fun i w hw9 => by
      have hk' : T.vm.classes[G.2.2.1 0]? = some kA := hkA
      have hi : i < n := by rw [← hslz]; exact (Array.getElem?_eq_some_iff.mp hw9).1
      have hw8 : w = .int (f i) := Option.some.inj (hw9.symm.trans (arrV_read _ _ hi))
      subst hw8
      show T.fitsSlot (G.2.2.1 0) .none i (.int (f i)) = true
      simp [State.fitsSlot, State.slotType?, hk', hkind, ah_ty, fits])
    (g := F0 m pc ls (.ref a :: stm st)) rfl (by rw [hml]) rfl (by rw [hb]; exact d) hR.1 (by show 2 * 0 + ((stm st).map fun v => v.category).sum + 14 ≤ _; rw [stm_cat]; have := hR.2; omega) hu (by rw [hslz]; omega) (hloader := Vm.clonesLoader_of_array hkS hkindS)
  rw [hslz] at X'
  generalize hH1 : H.push (vp_cell (G.2.2.1 0) (n, .inl f)) = H1
  have z1 : H1.size = H.size + 1 := by rw [← hH1, Array.size_push]
  have e1 : H1[H.size]? = some (vp_cell (G.2.2.1 0) (n, .inl f)) := by rw [← hH1, Array.getElem?_push_size]
  have o1 : ∀ q : Nat, q < H.size → H1[q]? = H[q]? := fun q hq => by rw [← hH1, Array.getElem?_push, if_neg (Nat.ne_of_lt hq)]
  have hk9 := W.widen (Nat.le_refl (u + 1)) (show v + n ≤ v + B by omega) (kk _ _ (hw _ hh.fresh) H1 locs ls (hh.push hb9 ⟨(by show 0 < 48; decide), fun g hg => (by cases hg), e1⟩ o1) (ah_push_S hS (by omega) o1) hl)
  obtain ⟨t, b1, b2⟩ := hk9 ((T.setVm vm').pushCell (vp_cell (G.2.2.1 0) (n, .inl f))) (by rw [← hH1, ← hT]; rfl) X'
  refine ⟨t, st9 t ?_, b2⟩
  rw [show T.heap = H from hT]
  exact b1
