theorem q2345 : (Jvm.Cond.castable "Plugboard$Operation" "java/lang/Object") ∈ lw_tbl := lw_at lw_m10 115 rfl
theorem q2348 : (Jvm.Cond.castable "Plugboard$Frame" "java/lang/Object") ∈ lw_tbl := lw_at lw_m10 118 rfl
theorem q2360 : (Jvm.Cond.castable "Plugboard$Panel" "java/lang/Object") ∈ lw_tbl := lw_at lw_m10 130 rfl
theorem q2368 : (Jvm.Cond.castable "Plugboard$Connector" "java/lang/Object") ∈ lw_tbl := lw_at lw_m10 138 rfl
theorem q2371 : (Jvm.Cond.castable "java/lang/Integer" "java/lang/Object") ∈ lw_tbl := lw_at lw_m10 141 rfl
/-- what may lie in an array of the tag: its class is known and fits the component -/
def ah_Fit (G : GG) (s : State) (H : Heap) (t b : Nat) : Prop := ∃ cellV : Cell, H[b]? = some cellV ∧ (∀ q, cellV.vm ≠ .statics q) ∧ (∃ kv : Class, s.vm.classes[cellV.cls]? = some kv) ∧ ∃ (kA : Class) (comp : ClassId) (ty : FieldType), s.vm.classes[G.2.2.1 t]? = some kA ∧ kA.kind = .array comp ty ∧ ty.isReference = true ∧ s.vm.assignable cellV.cls comp = true ∧ ∃ kc : Class, s.vm.classes[comp]? = some kc
theorem ah_fit1 {G : GG} {s : State} {H : Heap} {h : AH} (hK : ah_Kt G s) (hh : ah_P G h H) {b ci N t : Nat} {fs : List Value} {C E : String} {T : u_T} (he : h.1 b = some (.inr (ci, fs))) (hci : ci < 20) (hc : vwCl[ci]? = some (C, T, N)) (ht : t < 48) (hty : ah_ty t = .object E) (hor : C = E ∨ Cond.castable C E ∈ lw_tbl) : ah_Fit G s H t b := by
  obtain ⟨cell, g1, g2, g3⟩ := ah_recv hK.1 hh he hci hc
  obtain ⟨kC, hkC, -⟩ := Vm.findClass_spec g3
  have hRA : va_RA s (G.2.2.1 t) (.object E) := by rw [← hty]; exact (hK.1.2 t _ (ah_tys_at G ht)).2
  obtain ⟨kA, comp, r1, r2, r3, -⟩ := hRA
  obtain ⟨kE, hkE, -⟩ := Vm.findClass_spec r3
  refine ⟨cell, g1, (fun q hq => by rw [hq] at g2; cases g2), ⟨kC, hkC⟩, kA, comp, .object E, r1, r2, rfl, ?_, ⟨kE, hkE⟩⟩
  rcases hor with rfl | hq
  · cases g3.symm.trans r3
    exact va_asg _ _
  · obtain ⟨c0, t0, f1, f2, f3⟩ := Cond.castable_spec (va_Nw.use (A := #[]) rfl (hK.2.1 _ hq rfl))
    cases g3.symm.trans f1
    cases r3.symm.trans f2
    exact f3
theorem ah_fit2 {G : GG} {s : State} {H : Heap} {h : AH} (hK : ah_Kt G s) (hh : ah_P G h H) {b t t0 : Nat} {y : vp_A} {ty : FieldType} (he : h.1 b = some (.inl (t0, y))) (ht : t < 48) (hty : ah_ty t = .array ty) (hty0 : ah_ty t0 = ty) (hO : ah_Oa ty s) (hnm : ∀ U : State, ∀ cA : ClassId, va_RA U cA ty → U.vm.findClass (FieldType.array ty).toString = some cA) : ah_Fit G s H t b := by
  have hc0 := (hh.2 b _ he).1.2.2
  have hcl0 : (vp_cell (G.2.2.1 t0) y).cls = G.2.2.1 t0 := by
    obtain ⟨n, f | f | f | f | f⟩ := y <;> rfl
  have hvm0 : (vp_cell (G.2.2.1 t0) y).vm = .none := by
    obtain ⟨n, f | f | f | f | f⟩ := y <;> rfl
  have hRA0 : va_RA s (G.2.2.1 t0) ty := by rw [← hty0]; exact (hK.1.2 t0 _ (ah_tys_at G (hh.tlt he))).2
  have hRA : va_RA s (G.2.2.1 t) (.array ty) := by rw [← hty]; exact (hK.1.2 t _ (ah_tys_at G ht)).2
  obtain ⟨comp, c, k, h1, h2, h3, h4, h5⟩ := arrayOverA_spec hO
  have hcc : c = G.2.2.1 t := Option.some.inj (h5.symm.trans hRA)
  subst hcc
  have hcomp : comp = G.2.2.1 t0 := Option.some.inj (h1.symm.trans (hnm s _ hRA0))
  subst hcomp
  obtain ⟨kC, hkC, -⟩ := Vm.findClass_spec h1
  exact ⟨_, hc0, (fun q hq => by rw [hvm0] at hq; cases hq), ⟨kC, by rw [hcl0]; exact hkC⟩, k, _, .array ty, h3, h4, rfl, (by rw [hcl0]; exact va_asg _ _), ⟨kC, hkC⟩⟩
theorem kt_La {G : GG} {U : State} (h : ah_Kt G U) : ah_Lm G U := h.2.2.2.2.2.2.2.2.2.2.2.2.2.2.2.2
theorem ah_fit3 {G : GG} {s : State} {H : Heap} {h : AH} (hK : ah_Kt G s) (hh : ah_P G h H) {b ci pc index : Nat} {fs : List Value} {σ : Lambda.Shape} {lk : Linked} (he : h.1 b = some (.inr (ci, fs))) (hci : 20 ≤ ci) (hl : lm_at pc index σ (G.2.2.1 (ci + 100)) lk s) (hi : σ.iface = "Plugboard$Asked") : ah_Fit G s H 11 b := by
  have hcell : H[b]? = some { cls := G.2.2.1 (ci + 100), slots := fs.toArray, vm := .none } := by
    rcases (hh.2 b _ he).1 with ⟨h1, -⟩ | ⟨-, h2⟩
    · exact absurd h1 (by show ¬ ci < 20; omega)
    · exact h2
  have hRA : va_RA s (G.2.2.1 11) (.object "Plugboard$Asked") := (hK.1.2 11 _ (ah_tys_at G (by decide))).2
  obtain ⟨kA, comp, r1, r2, r3, -⟩ := hRA
  obtain ⟨kE, hkE, -⟩ := Vm.findClass_spec r3
  obtain ⟨m, k, cf, i0, p0, h1, h2, h3, h4, h5, h6, h7⟩ := hl
  obtain ⟨i, f1, f2, -⟩ := State.lambdaCallable_spec h7
  rw [hi] at f1
  cases f1.symm.trans r3
  obtain ⟨dk, kk, ok, tk, file, cfK, object, iface', tt, lay, methods, tgt, found, -, hk, -⟩ := Lambda.isMade_spec h6
  exact ⟨_, hcell, (fun q hq => by cases hq), ⟨kk, hk⟩, kA, _, .object "Plugboard$Asked", r1, r2, rfl, f2, ⟨kE, hkE⟩⟩
theorem ah_fit {G : GG} {s : State} {H : Heap} {h : AH} (hK : ah_Kt G s) (hh : ah_P G h H) {b t : Nat} {e : AE} (he : h.1 b = some e) (ha : asg t e = true) : ah_Fit G s H t b := by
  rcases e with ⟨t0, y⟩ | ⟨ci, fs⟩
  · simp only [asg, Bool.or_eq_true, Bool.and_eq_true, Nat.beq_eq] at ha
    rcases ha with ⟨rfl, rfl⟩ | ⟨rfl, rfl⟩
    · exact ah_fit2 hK hh he (by decide) rfl rfl (kt_13 hK) (fun U cA hU => hU)
    · exact ah_fit2 hK hh he (by decide) rfl rfl (kt_14 hK) (fun U cA hU => hU)
  · simp only [asg, Bool.or_eq_true, Bool.and_eq_true, Nat.beq_eq] at ha
    rcases ha with (((⟨rfl, ha⟩ | ⟨rfl, rfl⟩) | ⟨rfl, rfl⟩) | ⟨rfl, rfl⟩) | ⟨rfl, ha⟩
    · rcases ha with ((((rfl | rfl) | rfl) | rfl) | rfl) | rfl
      · exact ah_fit1 hK hh he (by decide) (rfl : vwCl[7]? = some _) (by decide) rfl (Or.inr q2348)
      · exact ah_fit1 hK hh he (by decide) (rfl : vwCl[8]? = some _) (by decide) rfl (Or.inr q2360)
      · exact ah_fit1 hK hh he (by decide) (rfl : vwCl[9]? = some _) (by decide) rfl (Or.inr q2345)
      · exact ah_fit1 hK hh he (by decide) (rfl : vwCl[13]? = some _) (by decide) rfl (Or.inr q2368)
      · exact ah_fit1 hK hh he (by decide) (rfl : vwCl[16]? = some _) (by decide) rfl (Or.inr q2371)
      · exact ah_fit1 hK hh he (by decide) (rfl : vwCl[17]? = some _) (by decide) rfl (Or.inr q2371)
    · exact ah_fit1 hK hh he (by decide) (rfl : vwCl[2]? = some _) (by decide) rfl (Or.inl rfl)
    · exact ah_fit1 hK hh he (by decide) (rfl : vwCl[9]? = some _) (by decide) rfl (Or.inl rfl)
    · exact ah_fit1 hK hh he (by decide) (rfl : vwCl[7]? = some _) (by decide) rfl (Or.inl rfl)
    · rcases ha with ((rfl | rfl) | rfl) | rfl
      · exact ah_fit3 hK hh he (by decide) (kt_La hK).1 rfl
      · exact ah_fit3 hK hh he (by decide) (kt_La hK).2.1 rfl
      · exact ah_fit3 hK hh he (by decide) (kt_La hK).2.2.1 rfl
      · exact ah_fit3 hK hh he (by decide) (kt_La hK).2.2.2 rfl

theorem ah_WaastN {p : Program} {l : Launch} {e : Env} {R : Room} {s : State} {m : MethodId} {args : Array Value} {below : List Frame} {meth : Method} {c : Code} {H : Heap} {locs : List Loc} {cells slots : Nat} {Q : State → Prop} {cc : ByteArray} (hexec : p.tables.exec = Jvm.exec) (hb : c.code = cc) {a : Addr} {cell : Cell} {j : Int32} {k : Class} {comp : ClassId} {t : FieldType}
    (hcell : H[a]? = some cell) (hobj : ∀ q, cell.vm ≠ .statics q) (hknown : cell.vm ≠ .unknown) (hk : s.vm.classes[cell.cls]? = some k) (hkind : k.kind = .array comp t) (href : t.isReference = true) (hin : ¬ j < 0 ∧ j.toNatClampNeg < cell.slots.size)
    {g : JFrame} (hg : g.method = m) {rest : List Value} (hstack : g.stack = .null :: .int j :: .ref a :: rest) (hdg : decode cc g.pc = .ok (.aastore, 1))
    (kk : ∀ H' : Heap, H'[a]? = some (cell.setSlot j.toNatClampNeg .null) → H'.size = H.size → (∀ q, q ≠ a → H'[q]? = H[q]?) → W p l e R s m args below meth c H' (locs ++ [⟨a, j.toNatClampNeg⟩]) cells slots Q { g with pc := g.pc + 1, stack := rest }) :
    W p l e R s m args below meth c H locs cells slots Q g := by
  intro T hT X
  have hT' : T.heap[a]? = some cell := by rw [hT]; exact hcell
  obtain ⟨X', st⟩ := X.aastoreNullInK hexec hT' hobj hknown hk hkind href hin hg hstack (by rw [hb]; exact hdg)
  have hlt : a < T.heap.size := (Array.getElem?_eq_some_iff.mp hT').1
  obtain ⟨t', a1, b1⟩ := kk _ (heapAt_setCell_self _ hlt) (by rw [size_setCell, hT]) (fun q hq => by rw [heapAt_setCell_ne _ (Ne.symm hq), hT]) (T.setCell a (cell.setSlot j.toNatClampNeg .null)) rfl X'
  exact ⟨t', st t' a1, b1⟩
theorem j_aast {x : CX} {cc : ByteArray} {own : String} {rm : Room} {n9 : Nat} (X : Ok x cc own rm n9) {h : AH} {u v pc : Nat} {lv : List (Nat × TV)} {st : List TV} (t : Nat) (ht : t < 32) (hro : Nat.ble 32 t = false) {r w : Option Nat} {i : Int32} {K : AH → Prop} (d : decode cc pc = .ok (.aastore, 1)) (hw : s_q h r t i w K) (kk : ∀ h', K h' → J x h' u v (pc + 1) lv (st)) : J x h u v pc lv (vR w :: vI i :: vR r :: st) := by
  obtain ⟨p, l, e, R, s, m, args, below, meth, c, Q, G, nL⟩ := x
  intro H locs ls hh hS hl
  obtain ⟨a, n, f, rfl, he, hin, hw9, hK⟩ := hw
  have hb9 : G.2.1 ≤ a := (hh.2 a _ he).2 hro
  have hlt : i.toNatClampNeg < n := Nat.not_le.mp fun q => hin (Or.inr q)
  have h0 : ¬ i < 0 := fun q => hin (Or.inl q)
  have fin : ∀ (H1 : Heap), H1[a]? = some ((vp_cell (G.2.2.1 t) (n, .inr (.inr (.inr (.inr f))))).setSlot i.toNatClampNeg (va_rf w)) → H1.size = H.size → (∀ q, q ≠ a → H1[q]? = H[q]?) → W p l e R s m args below meth c H1 (locs ++ [⟨a, i.toNatClampNeg⟩]) u v Q (F0 m (pc + 1) ls (stm st)) := by
    intro H1 e1 z oq
    refine kk _ hK H1 _ ls (hh.set hb9 ⟨hh.tlt he, fun g hg => hh.tref he, ?_⟩ oq) (ah_up_S hS z oq hb9) hl
    rw [e1]
    show some ((arrV _ n (fun j => va_rf (f j))).setSlot _ _) = some (arrV _ n (fun j => va_rf (va_up f i.toNatClampNeg w j)))
    rw [arrV_store]
    congr 2
    funext q
    by_cases hq : q = i.toNatClampNeg
    · subst hq
      simp [updV, va_up]
    · simp [updV, va_up, hq]
  have hsz : (vp_cell (G.2.2.1 t) (n, .inr (.inr (.inr (.inr f))))).slots.size = n := arrV_size _ _ _
  cases w with
  | some b =>
    rcases hw9 with hw9 | ⟨b', e9, hb', he9, ha⟩
    · cases hw9
    · cases hb'
      obtain ⟨cv, g1, g2, ⟨kv, g3⟩, kA, comp, ty, k1, k2, k3, k4, kc, k5⟩ := ah_fit X.2.2.2.2.1.1 hh he9 ha
      exact W.aast X.1 X.2.1 (hh.2 a _ he).1.2.2 (fun q h => by cases h) (fun h => by cases h) k1 k2 k3 k5 ⟨h0, by rw [hsz]; exact hlt⟩ g1 g2 g3 k4 rfl rfl d fin
  | none =>
    obtain ⟨-, kA, hkA, comp, hkind⟩ := (X.2.2.2.2.1.1.1.2 t _ (ah_tys_at G (hh.tlt he))).1 0 (fun _ => .null)
    exact ah_WaastN X.1 X.2.1 (hh.2 a _ he).1.2.2 (fun q h => by cases h) (fun h => by cases h) hkA hkind (hh.tref he) ⟨h0, by rw [hsz]; exact hlt⟩ rfl rfl d fin
def p_vS (h : AH) (r : Option Nat) (k : Nat) (w : Int32) (K : AH → Prop) : Prop := ∃ a ci fs, r = some a ∧ h.1 a = some (.inr (ci, fs)) ∧ (ci = 7 ∨ ci = 8) ∧ k < fs.length ∧ K (ah_up h a (.inr (ci, fs.set k (.int w))))
theorem j_putFS {x : CX} {cc : ByteArray} {own : String} {rm : Room} {n9 : Nat} (X : Ok x cc own rm n9) {h : AH} {u v pc : Nat} {lv : List (Nat × TV)} {st : List TV} {index : Nat} (k : Nat) (hk : k < 3) (hown9 : own = "Plugboard$Shape") (hlink : Cond.fieldLink own index "Plugboard$Shape" (TX9 k).2.1 (TX9 k).2.2.1 ∈ lw_all) (hin2 : x.2.2.2.2.2.2.2.2.1.name = "<init>") {r : Option Nat} {w : Int32} {K : AH → Prop} (d : decode cc pc = .ok (.putfield index, 3)) (hw : p_vS h r k w K) (kk : ∀ h', K h' → J x h' u v (pc + 3) lv (st)) : J x h u v pc lv (vI w :: vR r :: st) := by
  obtain ⟨p, l, e, R, s, m, args, below, meth, c, Q, G, nL⟩ := x
  intro H locs ls hh hS hl
  obtain ⟨a, ci, fs, rfl, he, hci, hl9, hK⟩ := hw
  have hKn := X.2.2.2.2.1.1.1
  have hts := X.2.2.2.1
  have hb9 : G.2.1 ≤ a := (hh.2 a _ he).2 (by rcases hci with rfl | rfl <;> rfl)
  rcases hci with rfl | rfl
  · have hap := va_apart (own := own) hts in_X9 tyX9 tyX9_ok nmX9 hKn (rfl : vwCl[7]? = some _)
    obtain ⟨r1, h1, cell, q1, q2, q3, q4⟩ := hh.obj he (by decide) 0 _ rfl
    have hr : r1 = (RX9, TX9, 3) := Option.some.inj (h1.symm.trans rfl)
    subst hr
    obtain ⟨hS9, hfc, kC, hkC, hkind⟩ := hKn.1 7 _ rfl
    obtain ⟨cf, kf, fi, f, hi, hsl⟩ := hS9 k hk
    have hlay := hts _ (in_X9 _ (u_in_lay hk))
    unfold u_lay at hlay
    have hfin : (TX9 k).2.2.2 = true := by
      rcases (show k = 0 ∨ k = 1 ∨ k = 2 by omega) with rfl | rfl | rfl <;> rfl
    have hdecl : (TX9 k).1 = own := by
      rw [hown9]
      rcases (show k = 0 ∨ k = 1 ∨ k = 2 by omega) with rfl | rfl | rfl <;> rfl
    have hdi : (TX9 k).2.2.1 = "I" := by
      rcases (show k = 0 ∨ k = 1 ∨ k = 2 by omega) with rfl | rfl | rfl <;> rfl
    rw [if_pos hfin] at hlay
    have hst := (u_facts hfc hkC (u_lays hts in_X9 hk) hi).1
    have hcf : m.cls = cf := by
      obtain ⟨_, _, c', _, _, _, -, -, hf', -, -, -, hown2, -⟩ := Cond.laysFinal_spec hlay
      have e1 : c' = cf := by have := hi.symm.trans hf'; simp at this; exact this.1.symm
      rw [hdecl] at hown2
      rw [← e1]; exact Option.some.inj (X.2.2.1.symm.trans hown2)
    have h6 := u_fits (v := .int w) (ty := .int) hfc hkC hkind (Or.inr hlay) hi (by rw [hdi]; decide +kernel) rfl rfl
    refine W.putFinK X.1 X.2.1 X.2.2.1 (hts _ hlink) (by rw [← hown9, ← hdecl]; exact hi) hst hcf hin2 (by rw [q2]; exact h6) q1 q3 (by rw [hsl]; exact k2_hasslot (q4 k hk)) rfl rfl d fun H' e1 e2 e3 => ?_
    rw [hsl] at e1 ⊢
    exact kk _ hK H' _ ls (hh.set hb9 (Or.inl ⟨by show 7 < 20; decide, ⟨_, (rfl : vwCl[7]? = some _), t_OB.to (V := updV (vp_V fs) k (.int w)) ⟨_, e1, q2, q3, t_set q4 hap hk (.int w)⟩ (fun j _ => vp_updV_set hl9 (.int w) j)⟩, ((hh.2 a _ he).1.mon (by decide)).slot q1 e1⟩) e3) (ah_up_S hS e2 e3 hb9) hl
  · have hap := va_apart (own := own) hts in_X10 tyX10 tyX10_ok nmX10 hKn (rfl : vwCl[8]? = some _)
    obtain ⟨r1, h1, cell, q1, q2, q3, q4⟩ := hh.obj he (by decide) 0 _ rfl
    have hr : r1 = (RX10, TX10, 3) := Option.some.inj (h1.symm.trans rfl)
    subst hr
    obtain ⟨hS9, hfc, kC, hkC, hkind⟩ := hKn.1 8 _ rfl
    obtain ⟨cf, kf, fi, f, hi, hsl⟩ := hS9 k hk
    have hlay := hts _ (in_X10 _ (u_in_lay hk))
    unfold u_lay at hlay
    have hfin : (TX10 k).2.2.2 = true := by
      rcases (show k = 0 ∨ k = 1 ∨ k = 2 by omega) with rfl | rfl | rfl <;> rfl
    have hdecl : (TX10 k).1 = own := by
      rw [hown9]
      rcases (show k = 0 ∨ k = 1 ∨ k = 2 by omega) with rfl | rfl | rfl <;> rfl
    have hdi : (TX10 k).2.2.1 = "I" := by
      rcases (show k = 0 ∨ k = 1 ∨ k = 2 by omega) with rfl | rfl | rfl <;> rfl
    rw [if_pos hfin] at hlay
    have hst := (u_facts hfc hkC (u_lays hts in_X10 hk) hi).1
    have hcf : m.cls = cf := by
      obtain ⟨_, _, c', _, _, _, -, -, hf', -, -, -, hown2, -⟩ := Cond.laysFinal_spec hlay
      have e1 : c' = cf := by have := hi.symm.trans hf'; simp at this; exact this.1.symm
      rw [hdecl] at hown2
      rw [← e1]; exact Option.some.inj (X.2.2.1.symm.trans hown2)
    have h6 := u_fits (v := .int w) (ty := .int) hfc hkC hkind (Or.inr hlay) hi (by rw [hdi]; decide +kernel) rfl rfl
    refine W.putFinK X.1 X.2.1 X.2.2.1 (hts _ hlink) (by rw [← hown9, ← hdecl]; exact hi) hst hcf hin2 (by rw [q2]; exact h6) q1 q3 (by rw [hsl]; exact k2_hasslot (q4 k hk)) rfl rfl d fun H' e1 e2 e3 => ?_
    rw [hsl] at e1 ⊢
    exact kk _ hK H' _ ls (hh.set hb9 (Or.inl ⟨by show 8 < 20; decide, ⟨_, (rfl : vwCl[8]? = some _), t_OB.to (V := updV (vp_V fs) k (.int w)) ⟨_, e1, q2, q3, t_set q4 hap hk (.int w)⟩ (fun j _ => vp_updV_set hl9 (.int w) j)⟩, ((hh.2 a _ he).1.mon (by decide)).slot q1 e1⟩) e3) (ah_up_S hS e2 e3 hb9) hl

