theorem ah_in (ws : List Cond) (ps : List Nat) (hp : ws = ps.filterMap (fun i => lw_tbl[i]?)) : ∀ w ∈ ws, w ∈ lw_tbl := by
  intro w h
  rw [hp] at h
  obtain ⟨i, -, hi⟩ := List.mem_filterMap.mp h
  exact List.mem_of_getElem? hi
theorem ah_onT {w : Cond} (h : ah_nwk w = true) : w.onTables = true := by
  cases w <;> first | rfl | (simp [ah_nwk] at h)
theorem ah_word {G : GG} {s : State} {args : Array Value} (hts : ∀ w ∈ lw_all, w.before args s = true) (hK : ah_Kt G s) {w : Cond} (hm : w ∈ lw_tbl) (hg : (goodWord w || ah_nwk w) = true) : w.before args s = true := by
  by_cases g : goodWord w = true
  · exact hts _ (lw_g hm g)
  · have hn : ah_nwk w = true := by
      rcases Bool.or_eq_true_iff.mp hg with h | h
      · exact absurd h g
      · exact h
    exact va_Nw.use (ah_onT hn) (hK.2.1 _ hm hn)
def vx_tw (w : Cond) : Bool := (goodWord w || ah_nwk w) && vx_ot w
theorem j_throw {x : CX} {cc : ByteArray} {own : String} {rm : Room} {n9 : Nat} (X : Ok x cc own rm n9) {h : AH} {u v pc : Nat} {lv : List (Nat × TV)} {st : List TV} {E : String} {names : List String} {ik ic : Nat} {PX : String → AH → Prop} (hQ : xt_ x PX) (hex : ∀ z ∈ x.2.2.2.2.2.2.2.2.2.1.exceptionTable.toList, False)
    (hcls : Bundle.fit E = true) (hnames : ∀ n ∈ names, Bundle.fit n = true) (hk : Cond.classLink own ik E ∈ lw_all) (hini : Cond.initialized E ∈ lw_all) (hat : ∀ w ∈ vx_at0 own ic E names, w ∈ lw_tbl) (hg : (vx_at0 own ic E names).all vx_tw = true)
    (d0 : decode cc pc = .ok (.new ik, 3)) (d3 : decode cc (pc + 3) = .ok (.dup, 1)) (d4 : decode cc (pc + 4) = .ok (.invokespecial ic, 3)) (d7 : decode cc (pc + 7) = .ok (.athrow, 1))
    (hR : names.length + 3 < rm.frames ∧ (st.map tvc).sum + (13 * (names.length + 1) + 42) ≤ rm.locals) (hu : u + 1 ≤ rm.cells) (hv : v + 6 ≤ rm.slots) (hw : PX E h) : J x h u v pc lv st := by
  obtain ⟨p, l, e, R, s, m, args, below, meth, c, Q, G, nL⟩ := x
  intro H locs ls hh hS hl
  obtain rfl : R = rm := X.2.2.2.2.2.2.1
  obtain ⟨Qc, rfl⟩ := hQ
  have hgw : ∀ w ∈ vx_at0 own ic E names, vx_tw w = true := List.all_eq_true.mp hg
  refine vx_throw0 (A := ah_A G) X.1 X.2.1 X.2.2.2.2.2.2.2.2.1 X.2.2.1 hcls hnames (X.2.2.2.1 _ hk) (X.2.2.2.1 _ hini) (fun w hw9 => ah_word X.2.2.2.1 X.2.2.2.2.1.1 (hat w hw9) (Bool.and_eq_true_iff.mp (hgw w hw9)).1) (fun w hw9 => ?_) X.2.2.2.2.1.2.2.2.2.2.1 X.2.2.2.2.1.2.2.2.2.2.2 hS (by rw [X.2.2.2.2.2.1]; exact hl.1) d0 d3 d4 d7 (fun z hz => absurd (hex z hz) (fun f => f)) hR.1 (by rw [stm_cat]; exact hR.2) hu hv X.2.2.2.2.2.2.2.2.2.1 (fun t hal hz hk9 => ?_) hS.2.2 hu hv
  · rcases List.mem_cons.mp hw9 with e9 | hw9
    · rw [e9]; rfl
    · rcases List.mem_cons.mp hw9 with e9 | hw9
      · rw [e9]; rfl
      · exact (Bool.and_eq_true_iff.mp (hgw w hw9)).2
  · exact ⟨h, trivial, ⟨hw, hh.kept hk9⟩, Nat.le_trans hS.1 hz, fun q g1 g2 => (hk9 q (Nat.lt_of_lt_of_le g1 hS.1)).trans (hS.2.1 q g1 g2)⟩
theorem j_i2fb {x : CX} {cc : ByteArray} {own : String} {rm : Room} {n9 : Nat} (X : Ok x cc own rm n9) {h : AH} {u v pc : Nat} {lv : List (Nat × TV)} {st : List TV} {index : Nat} {a : Int32} {K : Prop} (q1 : Cond.methodLink own index ⟨"java/lang/Float", "intBitsToFloat", "(I)F"⟩ ∈ lw_all) (q2 : Cond.native ⟨"java/lang/Float", "intBitsToFloat", "(I)F"⟩ ∈ lw_all) (q3 : Cond.static ⟨"java/lang/Float", "intBitsToFloat", "(I)F"⟩ ∈ lw_all) (q4 : Cond.initialized "java/lang/Float" ∈ lw_all) (hR : 1 ≤ rm.frames ∧ (st.map tvc).sum + 15 ≤ rm.locals) (d : decode cc pc = .ok (.invokestatic index, 3)) (hw : vn_sni2f a = false ∧ K) (kk : K → J x h u v (pc + 3) lv (vF a.toUInt32 :: st)) : J x h u v pc lv (vI a :: st) := by
  obtain ⟨p, l, e, R, s, m, args, below, meth, c, Q, G, nL⟩ := x
  intro H locs ls hh hS hl
  obtain rfl : R = rm := X.2.2.2.2.2.2.1
  have hsz : ls.size = nL := hl.1
  exact vn_i2f X.1 X.2.1 (by rw [X.2.2.2.2.2.1]; exact hsz.symm) X.2.2.1 (X.2.2.2.1 _ q1) (X.2.2.2.1 _ q2) (X.2.2.2.1 _ q3) (X.2.2.2.1 _ q4) hw.1 hR.1 (by show ((stm st).map fun v => v.category).sum + 15 ≤ _; rw [stm_cat]; exact hR.2) d (kk hw.2 H locs ls hh hS hl)
theorem j_f2ib {x : CX} {cc : ByteArray} {own : String} {rm : Room} {n9 : Nat} (X : Ok x cc own rm n9) {h : AH} {u v pc : Nat} {lv : List (Nat × TV)} {st : List TV} {index : Nat} {a : UInt32} (q1 : Cond.methodLink own index ⟨"java/lang/Float", "floatToRawIntBits", "(F)I"⟩ ∈ lw_all) (q2 : Cond.native ⟨"java/lang/Float", "floatToRawIntBits", "(F)I"⟩ ∈ lw_all) (q3 : Cond.static ⟨"java/lang/Float", "floatToRawIntBits", "(F)I"⟩ ∈ lw_all) (q4 : Cond.initialized "java/lang/Float" ∈ lw_all) (hR : 1 ≤ rm.frames ∧ (st.map tvc).sum + 15 ≤ rm.locals) (d : decode cc pc = .ok (.invokestatic index, 3)) (kk : J x h u v (pc + 3) lv (vI a.toInt32 :: st)) : J x h u v pc lv (vF a :: st) := by
  obtain ⟨p, l, e, R, s, m, args, below, meth, c, Q, G, nL⟩ := x
  intro H locs ls hh hS hl
  obtain rfl : R = rm := X.2.2.2.2.2.2.1
  have hsz : ls.size = nL := hl.1
  exact vn_f2i X.1 X.2.1 (by rw [X.2.2.2.2.2.1]; exact hsz.symm) X.2.2.1 (X.2.2.2.1 _ q1) (X.2.2.2.1 _ q2) (X.2.2.2.1 _ q3) (X.2.2.2.1 _ q4) hR.1 (by show ((stm st).map fun v => v.category).sum + 15 ≤ _; rw [stm_cat]; exact hR.2) d (kk H locs ls hh hS hl)
theorem j_ldcM {x : CX} {cc : ByteArray} {own : String} {rm : Room} {n9 : Nat} (X : Ok x cc own rm n9) {h : AH} {u v pc : Nat} {lv : List (Nat × TV)} {st : List TV} {index : Nat} (q1 : Cond.classLink own index "[Ljava/lang/Object;" ∈ lw_all) (d : decode cc pc = .ok (.ldc index, 2)) (k : J x h u v (pc + 2) lv (vR (some (h.2 2)) :: st)) : J x h u v pc lv (st) := by
  obtain ⟨p, l, e, R, s, m, args, below, meth, c, Q, G, nL⟩ := x
  intro H locs ls hh hS hl
  have hk := k H locs ls hh hS hl
  rw [show stm (vR (some (h.2 2)) :: st) = Value.ref (G.2.2.2 2) :: stm st by rw [hh.1]; rfl] at hk
  exact va_ldcM X.1 X.2.1 X.2.2.1 (X.2.2.2.1 _ q1) X.2.2.2.2.1.1.2.2.1 d hk
def is_O (h : AH) (r : Option Nat) (K : Prop) : Prop := ∃ a t y, r = some a ∧ h.1 a = some (.inl (t, y)) ∧ (t = 8 ∨ t = 33) ∧ K
theorem kt_Dc {G : GG} {U : State} (h : ah_Kt G U) : va_Dc U := h.2.2.2.2.2.2.2.2.2.2.2.2.2.2.1
theorem kt_N {G : GG} {U : State} (h : ah_Kt G U) : ah_N U := h.2.2.2.2.2.2.2.2.2.2.2.2.2.2.2.1
theorem kt_L {G : GG} {U : State} (h : ah_Kt G U) : ah_Lm G U := h.2.2.2.2.2.2.2.2.2.2.2.2.2.2.2.2
theorem ah_Oname {G : GG} {s : State} (hK : ah_Kt G s) {t : Nat} (ht : t = 8 ∨ t = 33) : s.vm.findClass "[Ljava/lang/Object;" = some (G.2.2.1 t) := by
  rcases ht with rfl | rfl
  · exact va_nmO (hK.1.2 8 _ (ah_tys_at G (by decide))).2 rfl
  · exact va_nmO (hK.1.2 33 _ (ah_tys_at G (by decide))).2 rfl
theorem vp_cls (c : ClassId) (y : vp_A) : (vp_cell c y).cls = c := by
  obtain ⟨n, f | f | f | f | f⟩ := y <;> rfl
theorem vp_vm (c : ClassId) (y : vp_A) : (vp_cell c y).vm = .none := by
  obtain ⟨n, f | f | f | f | f⟩ := y <;> rfl
theorem j_getC {x : CX} {cc : ByteArray} {own : String} {rm : Room} {n9 : Nat} (X : Ok x cc own rm n9) {h : AH} {u v pc : Nat} {lv : List (Nat × TV)} {st : List TV} {index : Nat} {r : Option Nat} {K : Prop} (q1 : Cond.methodLink own index ⟨"java/lang/Object", "getClass", "()Ljava/lang/Class;"⟩ ∈ lw_all) (q2 : Cond.selects "[Ljava/lang/Object;" ⟨"java/lang/Object", "getClass", "()Ljava/lang/Class;"⟩ ⟨"java/lang/Object", "getClass", "()Ljava/lang/Class;"⟩ ∈ lw_all) (q3 : Cond.instanceMethod ⟨"java/lang/Object", "getClass", "()Ljava/lang/Class;"⟩ ∈ lw_all) (q4 : Cond.native ⟨"java/lang/Object", "getClass", "()Ljava/lang/Class;"⟩ ∈ lw_all) (hR : 1 ≤ rm.frames ∧ (st.map tvc).sum + 14 ≤ rm.locals) (d : decode cc pc = .ok (.invokevirtual index, 3)) (hw : is_O h r K) (kk : K → J x h u v (pc + 3) lv (vR (some (h.2 2)) :: st)) : J x h u v pc lv (vR r :: st) := by
  obtain ⟨p, l, e, R, s, m, args, below, meth, c, Q, G, nL⟩ := x
  intro H locs ls hh hS hl
  obtain rfl : R = rm := X.2.2.2.2.2.2.1
  have hsz : ls.size = nL := hl.1
  obtain ⟨a, t, y, rfl, he, ht, hK⟩ := hw
  have hk := kk hK H locs ls hh hS hl
  rw [show stm (vR (some (h.2 2)) :: st) = Value.ref (G.2.2.2 2) :: stm st by rw [hh.1]; rfl] at hk
  exact va_getC (C := "[Ljava/lang/Object;") X.1 X.2.1 (by rw [X.2.2.2.2.2.1]; exact hsz.symm) X.2.2.1 (X.2.2.2.1 _ q1) (va_Dc.use (kt_Dc X.2.2.2.2.1.1)) (X.2.2.2.1 _ q2) (X.2.2.2.1 _ q3) (X.2.2.2.1 _ q4) X.2.2.2.2.1.1.2.2.1 ⟨_, (hh.2 a _ he).1.2.2, by rw [vp_vm]; rfl, by rw [vp_cls]; exact ah_Oname X.2.2.2.2.1.1 ht⟩ hR.1 (by show ((stm st).map fun v => v.category).sum + 14 ≤ _; rw [stm_cat]; exact hR.2) d hk
def cp_q (h : AH) (r0 : Option Nat) (sp : Int32) (r1 : Option Nat) (dp n : Int32) (K : AH → Prop) : Prop := ∃ a0 t0 n0 f a n1 g, r0 = some a0 ∧ h.1 a0 = some (.inl (t0, n0, .inr (.inr (.inr (.inr f))))) ∧ (t0 = 8 ∨ t0 = 33) ∧ r1 = some a ∧ h.1 a = some (.inl (8, n1, .inr (.inr (.inr (.inr g))))) ∧ ¬ sp < 0 ∧ ¬ dp < 0 ∧ ¬ n < 0 ∧ sp.toNatClampNeg + n.toNatClampNeg ≤ n0 ∧ dp.toNatClampNeg + n.toNatClampNeg ≤ n1 ∧
  (∀ i : Nat, i < n.toNatClampNeg → ∀ y : Nat, f (sp.toNatClampNeg + i) = some y → ∃ e, h.1 y = some e ∧ asg 8 e = true) ∧ K (ah_up h a (.inl (8, n1, .inr (.inr (.inr (.inr (va_cpy f g sp.toNatClampNeg dp.toNatClampNeg n.toNatClampNeg)))))))
theorem j_copy {x : CX} {cc : ByteArray} {own : String} {rm : Room} {n9 : Nat} (X : Ok x cc own rm n9) {h : AH} {u v pc : Nat} {lv : List (Nat × TV)} {st : List TV} {index : Nat} {r0 r1 : Option Nat} {sp dp n : Int32} {K : AH → Prop} (q1 : Cond.methodLink own index arraycopyName ∈ lw_all) (q2 : Cond.native arraycopyName ∈ lw_all) (q3 : Cond.static arraycopyName ∈ lw_all) (q4 : Cond.initialized "java/lang/System" ∈ lw_all) (hR : 1 ≤ rm.frames ∧ (st.map tvc).sum + (nativeFrameWords "java/lang/System" "arraycopy" 5 + 11) ≤ rm.locals) (d : decode cc pc = .ok (.invokestatic index, 3)) (hw : cp_q h r0 sp r1 dp n K) (kk : ∀ h', K h' → J x h' u v (pc + 3) lv (st)) : J x h u v pc lv (vI n :: vI dp :: vR r1 :: vI sp :: vR r0 :: st) := by
  obtain ⟨p, l, e, R, s, m, args, below, meth, c, Q, G, nL⟩ := x
  intro H locs ls hh hS hl
  obtain rfl : R = rm := X.2.2.2.2.2.2.1
  have hsz : ls.size = nL := hl.1
  obtain ⟨a0, t0, n0, f, a, n1, g, rfl, he0, ht0, rfl, he1, h1, h2, h3, h4, h5, hel, hK⟩ := hw
  have hb9 : G.2.1 ≤ a := (hh.2 a _ he1).2 rfl
  have nn : ∀ z : Int32, ¬ z < 0 → z.toInt = (z.toNatClampNeg : Int) := by
    intro z hz
    have hz0 : (0 : Int) ≤ z.toInt := by
      have := Int32.not_lt.mp hz
      simpa using Int32.le_iff_toInt_le.mp this
    show z.toInt = ((z.toInt.toNat : Nat) : Int)
    omega
  intro T hT Y
  have hc0 : H[a0]? = some (vp_cell (G.2.2.1 t0) (n0, .inr (.inr (.inr (.inr f))))) := (hh.2 a0 _ he0).1.2.2
  have hc1 : H[a]? = some (vp_cell (G.2.2.1 8) (n1, .inr (.inr (.inr (.inr g))))) := (hh.2 a _ he1).1.2.2
  obtain ⟨-, k0, hk0, cm0, hkk0⟩ := (X.2.2.2.2.1.1.1.2 t0 _ (ah_tys_at G (hh.tlt he0))).1 n0 (fun j => va_rf (f j))
  obtain ⟨-, k1, hk1, cm1, hkk1⟩ := (X.2.2.2.2.1.1.1.2 8 _ (ah_tys_at G (by decide))).1 n1 (fun j => va_rf (g j))
  obtain ⟨vm', X', step⟩ := Y.arraycopy X.1 X.2.2.1 (X.2.2.2.1 _ q1) (X.2.2.2.1 _ q2) (X.2.2.2.1 _ q3) (X.2.2.2.1 _ q4) (src := a0) (dst := a) (cs := vp_cell (G.2.2.1 t0) (n0, .inr (.inr (.inr (.inr f))))) (cd := vp_cell (G.2.2.1 8) (n1, .inr (.inr (.inr (.inr g))))) (srcPos := sp) (destPos := dp) (n := n) (by rw [hT]; exact hc0) (by rw [hT]; exact hc1)
    (fun _ h => by cases h) (fun _ h => by cases h) (fun h => by cases h) (fun h => by cases h) hk0 hk1 hkk0 hkk1 (by rcases ht0 with rfl | rfl <;> rfl) h1 h2 h3
    (by rw [nn sp h1, nn n h3]; show ¬ _ > ((arrV (G.2.2.1 t0) n0 (fun j => va_rf (f j))).slots.size : Int); rw [arrV_size]; omega)
    (by rw [nn dp h2, nn n h3]; show ¬ _ > ((arrV (G.2.2.1 8) n1 (fun j => va_rf (g j))).slots.size : Int); rw [arrV_size]; omega)
    (fun vm₁ hal i hi => by
      have e : (vp_cell (G.2.2.1 t0) (n0, .inr (.inr (.inr (.inr f))))).slots.getD (sp.toNatClampNeg + i) .null = va_rf (f (sp.toNatClampNeg + i)) := by
        show (arrV (G.2.2.1 t0) n0 (fun j => va_rf (f j))).slots.getD _ _ = _
        rw [Array.getD_eq_getD_getElem?, arrV_read _ _ (by omega)]
        rfl
      rw [e]
      cases hy : f (sp.toNatClampNeg + i) with
      | none => exact ⟨rfl, trivial⟩
      | some y =>
        obtain ⟨e9, hy9, ha9⟩ := hel i hi y hy
        obtain ⟨cellV, g1, g2, ⟨kC, hkC⟩, kA, comp, ty, r1, r2, r3, r4, kE, r5⟩ := ah_fit X.2.2.2.2.1.1 hh hy9 ha9
        cases hk1.symm.trans r1
        cases hkk1.symm.trans r2
        obtain ⟨kC', hkC', -⟩ := hal.2.2 _ _ hkC
        obtain ⟨kE', hkE', -⟩ := hal.2.2 _ _ r5
        refine ⟨rfl, cellV, (show T.heap[y]? = some cellV by rw [hT]; exact g1), g2, ⟨kC', hkC'⟩, ?_, ?_⟩
        · exact ⟨kE', hkE'⟩
        · show vm₁.assignable _ _ = true
          rw [hal.assignable]
          exact r4)
    (g := F0 m pc ls (.int n :: .int dp :: .ref a :: .int sp :: .ref a0 :: stm st)) rfl (by rw [X.2.2.2.2.2.1]; exact hl.1) (rest := stm st) rfl (by rw [X.2.1]; exact d) hR.1 (by show 2 * 0 + _ + _ ≤ _; rw [stm_cat]; have := hR.2; omega)
  have e1 : copied (vp_cell (G.2.2.1 t0) (n0, .inr (.inr (.inr (.inr f))))) (vp_cell (G.2.2.1 8) (n1, .inr (.inr (.inr (.inr g))))) sp dp n = vp_cell (G.2.2.1 8) (n1, .inr (.inr (.inr (.inr (va_cpy f g sp.toNatClampNeg dp.toNatClampNeg n.toNatClampNeg))))) := by
    rw [vp_cell_q, vp_cell_q, vp_cell_q]
    exact va_copied (fun z => va_rf z) (G.2.2.1 t0) (G.2.2.1 8) f g h4
  rw [e1] at X' step
  have hl9 : a < H.size := (Array.getElem?_eq_some_iff.mp hc1).1
  generalize hN : vp_cell (G.2.2.1 8) (n1, .inr (.inr (.inr (.inr (va_cpy f g sp.toNatClampNeg dp.toNatClampNeg n.toNatClampNeg))))) = NC at X' step
  have hheap : ((T.setVm vm').setCell a NC).heap = H.setIfInBounds a NC := by rw [← hT]; rfl
  have oq : ∀ q : Nat, q ≠ a → (H.setIfInBounds a NC)[q]? = H[q]? := fun q hq => by simp [Array.getElem?_setIfInBounds, Ne.symm hq]
  have hP1 : ah_P G (ah_up h a (.inl (8, n1, .inr (.inr (.inr (.inr (va_cpy f g sp.toNatClampNeg dp.toNatClampNeg n.toNatClampNeg))))))) (H.setIfInBounds a NC) :=
    hh.set hb9 ⟨by show 8 < 48; decide, fun _ _ => rfl, by rw [show vp_cell (G.2.2.1 8) (n1, .inr (.inr (.inr (.inr (va_cpy f g sp.toNatClampNeg dp.toNatClampNeg n.toNatClampNeg))))) = NC from hN]; simp [Array.getElem?_setIfInBounds, hl9]⟩ oq
  obtain ⟨t, a1, b1⟩ := kk _ hK _ _ ls hP1 (⟨by simp; exact hS.1, fun q g1 g2 => by
      rw [oq q (fun e => g2 (by rw [e]; exact hb9))]
      exact hS.2.1 q g1 g2, fun q hq => by
      rcases List.mem_append.mp hq with h | h
      · exact hS.2.2 q h
      · obtain ⟨z, -, hz⟩ := List.mem_map.mp h
        rw [← hz]
        exact hb9⟩ : va_S (ah_A G) s.heap _ _) hl _ hheap X'
  exact ⟨t, step t a1, b1⟩
theorem j_instI {x : CX} {cc : ByteArray} {own : String} {rm : Room} {n9 : Nat} (X : Ok x cc own rm n9) {h : AH} {u v pc : Nat} {lv : List (Nat × TV)} {st : List TV} {index : Nat} {r : Option Nat} {K : Prop} (hlink : Cond.classLink own index "java/lang/Integer" ∈ lw_all) (d : decode cc pc = .ok (.instanceof index, 3)) (hw : is_c h r [16, 17] K) (kk : K → J x h u v (pc + 3) lv (vI 1 :: st)) : J x h u v pc lv (vR r :: st) := by
  obtain ⟨p, l, e, R, s, m, args, below, meth, c, Q, G, nL⟩ := x
  intro H locs ls hh hS hl
  obtain ⟨a, ci, fs, rfl, he, hci, hK⟩ := hw
  simp only [List.mem_cons, List.not_mem_nil, or_false] at hci
  rcases hci with rfl | rfl
  · exact va_instS X.1 X.2.1 X.2.2.1 (X.2.2.2.1 _ hlink) (X.2.2.2.2.1.1.1.1 16 _ rfl).2 (ah_recv X.2.2.2.2.1.1.1 hh he (by decide) rfl) d (kk hK H locs ls hh hS hl)
  · exact va_instS X.1 X.2.1 X.2.2.1 (X.2.2.2.1 _ hlink) (X.2.2.2.2.1.1.1.1 17 _ rfl).2 (ah_recv X.2.2.2.2.1.1.1 hh he (by decide) rfl) d (kk hK H locs ls hh hS hl)
theorem j_look3 {x : CX} {cc : ByteArray} {own : String} {rm : Room} {n9 : Nat} (X : Ok x cc own rm n9) {h : AH} {u v pc : Nat} {lv : List (Nat × TV)} {st : List TV} {dflt : Int} {k1 k2 k3 : Int} {o1 o2 o3 : Int} {len : Nat} {a : Int32} (t0 t1 t2 t3 : Nat) {A B C D : Prop} (d : decode cc pc = .ok (.lookupswitch dflt #[(k1, o1), (k2, o2), (k3, o3)], len)) (hp : (((#[(k1, o1), (k2, o2), (k3, o3)] : Array (Int × Int)).toList.zip ((#[(k1, o1), (k2, o2), (k3, o3)] : Array (Int × Int)).toList.drop 1)).all (fun (a, next) => a.1 < next.1)) = true) (ht0 : (pc : Int) + dflt = (t0 : Int)) (ht1 : (pc : Int) + o1 = (t1 : Int)) (ht2 : (pc : Int) + o2 = (t2 : Int)) (ht3 : (pc : Int) + o3 = (t3 : Int)) (e1 : (Int32.ofInt k1).toInt = k1) (e2 : (Int32.ofInt k2).toInt = k2) (e3 : (Int32.ofInt k3).toInt = k3) (hw : (a = Int32.ofInt k1 → A) ∧ (a = Int32.ofInt k2 → B) ∧ (a = Int32.ofInt k3 → C) ∧ (¬ a = Int32.ofInt k1 → ¬ a = Int32.ofInt k2 → ¬ a = Int32.ofInt k3 → D)) (kA : A → J x h u v (t1) lv (st)) (kB : B → J x h u v (t2) lv (st)) (kC : C → J x h u v (t3) lv (st)) (kD : D → J x h u v (t0) lv (st)) : J x h u v pc lv (vI a :: st) := by
  obtain ⟨p, l, e, R, s, m, args, below, meth, c, Q, G, nL⟩ := x
  intro H locs ls hh hS hl
  by_cases c1 : a = Int32.ofInt k1
  · exact lv_lookup X.1 X.2.1 d hp (off := o1) (by rw [c1, e1]; simp [Op.lookupswitch.offset_cons]) ht1 (kA (hw.1 c1) H locs ls hh hS hl)
  · by_cases c2 : a = Int32.ofInt k2
    · exact lv_lookup X.1 X.2.1 d hp (off := o2) (by show Op.lookupswitch.offset [(k1, o1), (k2, o2), (k3, o3)] dflt a.toInt = o2; rw [lv_osw c1 e1, c2, e2]; simp [Op.lookupswitch.offset_cons]) ht2 (kB (hw.2.1 c2) H locs ls hh hS hl)
    · by_cases c3 : a = Int32.ofInt k3
      · exact lv_lookup X.1 X.2.1 d hp (off := o3) (by show Op.lookupswitch.offset [(k1, o1), (k2, o2), (k3, o3)] dflt a.toInt = o3; rw [lv_osw c1 e1, lv_osw c2 e2, c3, e3]; simp [Op.lookupswitch.offset_cons]) ht3 (kC (hw.2.2.1 c3) H locs ls hh hS hl)
      · exact lv_lookup X.1 X.2.1 d hp (off := dflt) (by show Op.lookupswitch.offset [(k1, o1), (k2, o2), (k3, o3)] dflt a.toInt = dflt; rw [lv_osw c1 e1, lv_osw c2 e2, lv_osw c3 e3]; rfl) ht0 (kD (hw.2.2.2 c1 c2 c3) H locs ls hh hS hl)
theorem lw_F {own : String} {idx : Nat} {C : String} {z y : MethodName} {b : ByteArray} {L : Nat} {r : Option FieldType} (h1 : Cond.methodLink own idx z ∈ lw_all) (h2 : Cond.selects C z y ∈ lw_all) (h3 : Cond.instanceMethod y ∈ lw_all) (h4 : Cond.initialized y.cls ∈ lw_all) (h5 : Cond.code y b L r ∈ lw_all) : GoodIn lw_all (va_wsF own idx C z y (ws_ y b L r)) := by
  refine lw_app ?_ (lw_meth h5)
  intro w hw
  simp only [List.mem_cons, List.not_mem_nil, or_false] at hw
  rcases hw with e | e | e | e
  · rw [e]; exact h1
  · rw [e]; exact h2
  · rw [e]; exact h3
  · rw [e]; exact h4
theorem lw_U {own : String} {idx : Nat} {C owner : String} {z y : MethodName} {b : ByteArray} {L : Nat} {r : Option FieldType} (h1 : Cond.methodLink own idx z ∈ lw_all) (h0 : Cond.sameMethod z.cls owner z.name z.desc ∈ lw_all) (h2 : Cond.selects C z y ∈ lw_all) (h3 : Cond.instanceMethod y ∈ lw_all) (h4 : Cond.initialized y.cls ∈ lw_all) (h5 : Cond.code y b L r ∈ lw_all) : GoodIn lw_all (va_wsU own idx C owner z y (ws_ y b L r)) := by
  refine lw_app ?_ (lw_meth h5)
  intro w hw
  simp only [List.mem_cons, List.not_mem_nil, or_false] at hw
  rcases hw with e | e | e | e | e
  · rw [e]; exact h1
  · rw [e]; exact h0
  · rw [e]; exact h2
  · rw [e]; exact h3
  · rw [e]; exact h4
theorem kt_F1 {G : GG} {U : State} (h : ah_Kt G U) : ah_F1 U := h.2.2.2.1
theorem kt_F2 {G : GG} {U : State} (h : ah_Kt G U) : ah_F2 U := h.2.2.2.2.1
theorem kt_F3 {G : GG} {U : State} (h : ah_Kt G U) : ah_F3 U := h.2.2.2.2.2.1
theorem kt_F4 {G : GG} {U : State} (h : ah_Kt G U) : ah_F4 U := h.2.2.2.2.2.2.1
theorem j_runF {x : CX} {cc : ByteArray} {own : String} {rm : Room} {n9 : Nat} (X : Ok x cc own rm n9) {h : AH} {u v pc : Nat} {lv : List (Nat × TV)} {n8 : Nat} {z y : MethodName} {cy : ByteArray} {ny : Nat} {ry : Option FieldType} {rmy : Room} {As rest : List TV} {Qc : Array Value → State → Outcome → State → Prop} {index : Nat} {count : Nat} {b : Nat} {r : Option Nat} (hr9 : r = some b) (hM : Met (xl x) y (ws_ y cy ny ry) rmy (ct_pre (xG x) h (vR r :: As)) Qc rmy.cells rmy.slots (ah_A (xG x))) {C : String} {T : u_T} {N ci : Nat} {fs : List Value} (hob : h.1 b = some (.inr (ci, fs))) (hci : ci < 20) (hc : vwCl[ci]? = some (C, T, N)) (q1 : Cond.methodLink own index z ∈ lw_all) (q3 : Cond.selects C z y ∈ lw_all) (q2 : Cond.instanceMethod y ∈ lw_all) (q4 : Cond.initialized y.cls ∈ lw_all) (q5 : Cond.code y cy ny ry ∈ lw_all) (hF : ∀ U : State, ah_Kt (xG x) U → va_Fw C z y U) (hd : z.cls ≠ "java/lang/invoke/MethodHandle" ∧ z.cls ≠ "java/lang/invoke/VarHandle" ∧ (parseMethodDescriptor z.desc).map (fun d => d.parameters.length) = some n8) (d : decode cc pc = .ok (.invokeinterface index count, 5)) (hn8 : As.length = n8) (hR : rmy.frames + 1 ≤ rm.frames ∧ 8 + (ny + 11) + rmy.locals ≤ rm.locals) (hW : (rest.map tvc).sum ≤ 8) (hf : u + rmy.cells ≤ rm.cells ∧ v + rmy.slots ≤ rm.slots) : RunJ5 x h u v rmy.cells rmy.slots pc lv (As.reverse ++ vR r :: rest) rest (Qc (stm (vR r :: As)).toArray) := by
  subst hr9
  obtain ⟨p, l, e, R, s, m, args, below, meth, c, Q, G, nL⟩ := x
  intro H locs ls hh hS hl
  obtain rfl : R = rm := X.2.2.2.2.2.2.1
  have hsz : ls.size = nL := hl.1
  exact va_runF (nL := nL) (As := stm As) (rest := stm rest) (X.2.2.2.2.1.1.1.1 ci _ hc).2 ⟨X.1, X.2.1, X.2.2.2.2.2.1, X.2.2.1, X.2.2.2.1⟩ hM (va_cwF n8 X.2.2.2.1 (lw_F q1 q3 q2 q4 q5) rfl rfl rfl (hF s X.2.2.2.2.1.1) hd hR) ⟨ct_blind _ _ _, ah_recv X.2.2.2.2.1.1.1 hh hob hci hc, fun U hU hW9 => ct_at X.2.2.2.2.1 X.2.2.2.2.2.2.2.1 hh hS U hU hW9⟩ rfl ((List.length_map (as := As) (f := tv)).trans hn8) hsz (stm_rev As (vR (some b)) rest) (by show 2 * 0 + ((stm rest).map fun v => v.category).sum ≤ 8; rw [stm_cat]; omega) d hf
theorem j_runA {x : CX} {cc : ByteArray} {own : String} {rm : Room} {n9 : Nat} (X : Ok x cc own rm n9) {h : AH} {u v pc : Nat} {lv : List (Nat × TV)} {n8 : Nat} {z y : MethodName} {cy : ByteArray} {ny : Nat} {ry : Option FieldType} {rmy : Room} {As rest : List TV} {Qc : Array Value → State → Outcome → State → Prop} {index : Nat} {b : Nat} {r : Option Nat} (hr9 : r = some b) (hM : Met (xl x) y (ws_ y cy ny ry) rmy (ct_pre (xG x) h (vR r :: As)) Qc rmy.cells rmy.slots (ah_A (xG x))) {C : String} {T : u_T} {N ci : Nat} {fs : List Value} (hob : h.1 b = some (.inr (ci, fs))) (hci : ci < 20) (hc : vwCl[ci]? = some (C, T, N)) {owner : String} (q1 : Cond.methodLink own index z ∈ lw_all) (q0 : Cond.sameMethod z.cls owner z.name z.desc ∈ lw_all) (q3 : Cond.selects C z y ∈ lw_all) (q2 : Cond.instanceMethod y ∈ lw_all) (q4 : Cond.initialized y.cls ∈ lw_all) (q5 : Cond.code y cy ny ry ∈ lw_all) (q6 : Cond.declares ⟨owner, z.name, z.desc⟩ ∈ lw_tbl) (hd : owner ≠ "java/lang/invoke/MethodHandle" ∧ owner ≠ "java/lang/invoke/VarHandle" ∧ (parseMethodDescriptor z.desc).map (fun d => d.parameters.length) = some n8) (d : decode cc pc = .ok (.invokevirtual index, 3)) (hn8 : As.length = n8) (hR : rmy.frames + 1 ≤ rm.frames ∧ 8 + (ny + 11) + rmy.locals ≤ rm.locals) (hW : (rest.map tvc).sum ≤ 8) (hf : u + rmy.cells ≤ rm.cells ∧ v + rmy.slots ≤ rm.slots) : RunJ x h u v rmy.cells rmy.slots pc lv (As.reverse ++ vR r :: rest) rest (Qc (stm (vR r :: As)).toArray) := by
  subst hr9
  obtain ⟨p, l, e, R, s, m, args, below, meth, c, Q, G, nL⟩ := x
  intro H locs ls hh hS hl
  obtain rfl : R = rm := X.2.2.2.2.2.2.1
  have hsz : ls.size = nL := hl.1
  exact va_runU (nL := nL) (As := stm As) (rest := stm rest) ⟨X.1, X.2.1, X.2.2.2.2.2.1, X.2.2.1, X.2.2.2.1⟩ hM (va_cwA n8 X.2.2.2.1 (lw_U q1 q0 q3 q2 q4 q5) rfl rfl rfl (X.2.2.2.2.1.1.2.1 _ q6 rfl) hd hR) ⟨ct_blind _ _ _, ah_recv X.2.2.2.2.1.1.1 hh hob hci hc, fun U hU hW9 => ct_at X.2.2.2.2.1 X.2.2.2.2.2.2.2.1 hh hS U hU hW9⟩ rfl ((List.length_map (as := As) (f := tv)).trans hn8) hsz (stm_rev As (vR (some b)) rest) (by show 2 * 0 + ((stm rest).map fun v => v.category).sum ≤ 8; rw [stm_cat]; omega) d hf
/-- a call on a Frame or a Panel, an Integer made or kept -/
def d_S (h : AH) (r : Option Nat) (A B : Prop) : Prop := ∃ a ci fs, r = some a ∧ h.1 a = some (.inr (ci, fs)) ∧ ((ci = 7 ∧ A) ∨ (ci = 8 ∧ B))
