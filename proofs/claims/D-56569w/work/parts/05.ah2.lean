/-! what a walk asks of the abstract heap: reads and writes -/
def g_i (h : AH) (r : Option Nat) (ci k : Nat) (K : Int32 → Prop) : Prop := ∃ a fs y, r = some a ∧ h.1 a = some (.inr (ci, fs)) ∧ fs[k]? = some (.int y) ∧ K y
def g_q (h : AH) (r : Option Nat) (ci k : Nat) (K : Option Nat → Prop) : Prop := ∃ a fs y, r = some a ∧ h.1 a = some (.inr (ci, fs)) ∧ fs[k]? = some (va_rf y) ∧ K y
/-- a field of a Shape: of a Frame or a Panel -/
def g_iS (h : AH) (r : Option Nat) (k : Nat) (K : Int32 → Prop) : Prop := ∃ a ci fs y, r = some a ∧ h.1 a = some (.inr (ci, fs)) ∧ (ci = 7 ∨ ci = 8) ∧ fs[k]? = some (.int y) ∧ K y
/-- an Integer's value -/
def g_iN (h : AH) (r : Option Nat) (k : Nat) (K : Int32 → Prop) : Prop := ∃ a ci fs y, r = some a ∧ h.1 a = some (.inr (ci, fs)) ∧ (ci = 16 ∨ ci = 17) ∧ fs[k]? = some (.int y) ∧ K y
def p_v (h : AH) (r : Option Nat) (ci k : Nat) (w : TV) (K : AH → Prop) : Prop := ∃ a fs, r = some a ∧ h.1 a = some (.inr (ci, fs)) ∧ k < fs.length ∧ K (ah_up h a (.inr (ci, fs.set k (tv w))))
def nrw (ty : FieldType) (w : Int32) : Prop := narrow ty (.int w) = .int w ∧ fits ty (.int w) = true
theorem nrw_b0 : nrw .boolean 0 := ⟨rfl, rfl⟩
theorem nrw_b1 : nrw .boolean 1 := ⟨rfl, rfl⟩
def l_i (h : AH) (r : Option Nat) (t : Nat) (i : Int32) (K : Int32 → Prop) : Prop := ∃ a n f, r = some a ∧ h.1 a = some (.inl (t, n, .inl f)) ∧ vp_in i n ∧ K (f i.toNatClampNeg)
def l_L (h : AH) (r : Option Nat) (i : Int32) (K : Int64 → Prop) : Prop := ∃ a n f, r = some a ∧ h.1 a = some (.inl (5, n, .inr (.inl f))) ∧ vp_in i n ∧ K (f i.toNatClampNeg)
def l_D (h : AH) (r : Option Nat) (i : Int32) (K : UInt64 → Prop) : Prop := ∃ a n f, r = some a ∧ h.1 a = some (.inl (7, n, .inr (.inr (.inr (.inl f))))) ∧ vp_in i n ∧ K (f i.toNatClampNeg)
def l_q (h : AH) (r : Option Nat) (i : Int32) (K : Option Nat → Prop) : Prop := ∃ a t n f, r = some a ∧ h.1 a = some (.inl (t, n, .inr (.inr (.inr (.inr f))))) ∧ vp_in i n ∧ K (f i.toNatClampNeg)
def s_i (h : AH) (r : Option Nat) (t : Nat) (i w : Int32) (K : AH → Prop) : Prop := ∃ a n f, r = some a ∧ h.1 a = some (.inl (t, n, .inl f)) ∧ vp_in i n ∧ K (ah_up h a (.inl (t, n, .inl (upd f i.toNatClampNeg w))))
def s_L (h : AH) (r : Option Nat) (i : Int32) (w : Int64) (K : AH → Prop) : Prop := ∃ a n f, r = some a ∧ h.1 a = some (.inl (5, n, .inr (.inl f))) ∧ vp_in i n ∧ K (ah_up h a (.inl (5, n, .inr (.inl (va_up f i.toNatClampNeg w)))))
def s_D (h : AH) (r : Option Nat) (i : Int32) (w : UInt64) (K : AH → Prop) : Prop := ∃ a n f, r = some a ∧ h.1 a = some (.inl (7, n, .inr (.inr (.inr (.inl f))))) ∧ vp_in i n ∧ K (ah_up h a (.inl (7, n, .inr (.inr (.inr (.inl (va_up f i.toNatClampNeg w)))))))
/-- which entries an array of the tag takes -/
def asg (t : Nat) (e : AE) : Bool := match e with
  | .inr o => (Nat.beq t 8 && (Nat.beq o.1 7 || Nat.beq o.1 8 || Nat.beq o.1 9 || Nat.beq o.1 13 || Nat.beq o.1 16 || Nat.beq o.1 17)) || (Nat.beq t 9 && Nat.beq o.1 2) || (Nat.beq t 10 && Nat.beq o.1 9) || (Nat.beq t 12 && Nat.beq o.1 7) || (Nat.beq t 11 && (Nat.beq o.1 20 || Nat.beq o.1 21 || Nat.beq o.1 22 || Nat.beq o.1 23))
  | .inl y => (Nat.beq t 13 && Nat.beq y.1 0) || (Nat.beq t 14 && Nat.beq y.1 1)
def s_q (h : AH) (r : Option Nat) (t : Nat) (i : Int32) (w : Option Nat) (K : AH → Prop) : Prop := ∃ a n f, r = some a ∧ h.1 a = some (.inl (t, n, .inr (.inr (.inr (.inr f))))) ∧ vp_in i n ∧ (w = none ∨ ∃ b e, w = some b ∧ h.1 b = some e ∧ asg t e = true) ∧ K (ah_up h a (.inl (t, n, .inr (.inr (.inr (.inr (va_up f i.toNatClampNeg w)))))))
def n_a (h : AH) (r : Option Nat) (K : Int32 → Prop) : Prop := ∃ a t y, r = some a ∧ h.1 a = some (.inl (t, y)) ∧ K (Int32.ofNat y.1)
def mk (h : AH) (e : AE) (K : Nat → AH → Prop) : Prop := ∀ q, h.1 q = none → K q (ah_up h q e)
def mk_i (h : AH) (t : Nat) (n : Int32) (B : Nat) (K : Nat → AH → Prop) : Prop := ¬ n < 0 ∧ n.toNatClampNeg ≤ B ∧ ∀ q, h.1 q = none → K q (ah_up h q (.inl (t, n.toNatClampNeg, .inl fun _ => 0)))
def mk_q (h : AH) (t : Nat) (n : Int32) (B : Nat) (K : Nat → AH → Prop) : Prop := ¬ n < 0 ∧ n.toNatClampNeg ≤ B ∧ ∀ q, h.1 q = none → K q (ah_up h q (.inl (t, n.toNatClampNeg, .inr (.inr (.inr (.inr fun _ => none))))))
/-- an object of one of some classes -/
def is_c (h : AH) (r : Option Nat) (L : List Nat) (K : Prop) : Prop := ∃ a ci fs, r = some a ∧ h.1 a = some (.inr (ci, fs)) ∧ ci ∈ L ∧ K
def is_a (h : AH) (r : Option Nat) (t : Nat) (K : Prop) : Prop := ∃ a y, r = some a ∧ h.1 a = some (.inl (t, y)) ∧ K
theorem rf_nar (d : FieldType) (hd : d.isReference = true) (r : Option Nat) : narrow d (va_rf r) = va_rf r := by
  cases r <;> cases d <;> first | rfl | (simp [FieldType.isReference] at hd)
theorem rf_fit (d : FieldType) (hd : d.isReference = true) (r : Option Nat) : fits d (va_rf r) = true := by
  cases r <;> cases d <;> first | rfl | (simp [FieldType.isReference] at hd)
theorem rt_nar (d : FieldType) (hd : d.isReference = true) (r : Option Nat) : narrow d (tv (vR r)) = tv (vR r) := rf_nar d hd r
theorem rt_fit (d : FieldType) (hd : d.isReference = true) (r : Option Nat) : fits d (tv (vR r)) = true := rf_fit d hd r
theorem ah_P.clt {G : GG} {h : AH} {H : Heap} (hP : ah_P G h H) {a ci : Nat} {fs : List Value} (he : h.1 a = some (.inr (ci, fs))) : ci < 20 ∨ 20 ≤ ci := Nat.lt_or_ge ci 20
theorem ah_up_S {G : GG} {H0 H H1 : Heap} {locs : List Loc} {a k : Nat} (hS : va_S (ah_A G) H0 H locs) (z : H1.size = H.size) (oq : ∀ q : Nat, q ≠ a → H1[q]? = H[q]?) (ha : G.2.1 ≤ a) : va_S (ah_A G) H0 H1 (locs ++ [⟨a, k⟩]) := hS.put z oq ha
theorem ah_push_S {G : GG} {H0 H H1 : Heap} {locs : List Loc} (hS : va_S (ah_A G) H0 H locs) (z : H.size ≤ H1.size) (oq : ∀ q : Nat, q < H.size → H1[q]? = H[q]?) : va_S (ah_A G) H0 H1 locs :=
  ⟨Nat.le_trans hS.1 z, fun q h1 h2 => (oq q (Nat.lt_of_lt_of_le h1 hS.1)).trans (hS.2.1 q h1 h2), hS.2.2⟩
theorem ah_same {s : State} {args : Array Value} {ref o n d : String} (hts : ∀ w ∈ lw_all, w.before args s = true) (h : o = ref ∨ Cond.sameField ref o n d ∈ lw_all) : ∀ y, s.fieldFound? o n d = some y → s.fieldFound? ref n d = some y := by
  intro y hy
  rcases h with h | h
  · rw [← h]; exact hy
  · exact u_same (hts _ h) y hy
theorem j_geti {x : CX} {cc : ByteArray} {own : String} {rm : Room} {n9 : Nat} (X : Ok x cc own rm n9) {h : AH} {u v pc : Nat} {lv : List (Nat × TV)} {st : List TV} {C ref : String} {T : u_T} {N ci index : Nat} (hin : ∀ w ∈ u_ws C T N, w ∈ lw_all) (hc : vwCl[ci]? = some (C, T, N)) (hci : ci < 20) (k : Nat) (hk : k < N) (hlink : Cond.fieldLink own index ref (T k).2.1 (T k).2.2.1 ∈ lw_all) (hsame : (T k).1 = ref ∨ Cond.sameField ref (T k).1 (T k).2.1 (T k).2.2.1 ∈ lw_all) {r : Option Nat} {K : Int32 → Prop} (d : decode cc pc = .ok (.getfield index, 3)) (hw : g_i h r ci k K) (kk : ∀ y, K y → J x h u v (pc + 3) lv (vI y :: st)) : J x h u v pc lv (vR r :: st) := by
  obtain ⟨p, l, e, R, s, m, args, below, meth, c, Q, G, nL⟩ := x
  intro H locs ls hh hS hl
  obtain ⟨a, fs, y, rfl, he, hv, hK⟩ := hw
  exact va_get (D := G.1) (cl := vwCl) (tys := ah_tys G) X.1 X.2.1 X.2.2.2.1 hin X.2.2.1 X.2.2.2.2.1.1.1 (hh.obj he hci) 0 rfl hc k hk (X.2.2.2.1 _ hlink) (ah_same X.2.2.2.1 hsame) hv d (kk y hK H locs ls hh hS hl)
theorem j_getq {x : CX} {cc : ByteArray} {own : String} {rm : Room} {n9 : Nat} (X : Ok x cc own rm n9) {h : AH} {u v pc : Nat} {lv : List (Nat × TV)} {st : List TV} {C ref : String} {T : u_T} {N ci index : Nat} (hin : ∀ w ∈ u_ws C T N, w ∈ lw_all) (hc : vwCl[ci]? = some (C, T, N)) (hci : ci < 20) (k : Nat) (hk : k < N) (hlink : Cond.fieldLink own index ref (T k).2.1 (T k).2.2.1 ∈ lw_all) (hsame : (T k).1 = ref ∨ Cond.sameField ref (T k).1 (T k).2.1 (T k).2.2.1 ∈ lw_all) {r : Option Nat} {K : Option Nat → Prop} (d : decode cc pc = .ok (.getfield index, 3)) (hw : g_q h r ci k K) (kk : ∀ y, K y → J x h u v (pc + 3) lv (vR y :: st)) : J x h u v pc lv (vR r :: st) := by
  obtain ⟨p, l, e, R, s, m, args, below, meth, c, Q, G, nL⟩ := x
  intro H locs ls hh hS hl
  obtain ⟨a, fs, y, rfl, he, hv, hK⟩ := hw
  exact va_get (D := G.1) (cl := vwCl) (tys := ah_tys G) X.1 X.2.1 X.2.2.2.1 hin X.2.2.1 X.2.2.2.2.1.1.1 (hh.obj he hci) 0 rfl hc k hk (X.2.2.2.1 _ hlink) (ah_same X.2.2.2.1 hsame) hv d (kk y hK H locs ls hh hS hl)
theorem j_getiN {x : CX} {cc : ByteArray} {own : String} {rm : Room} {n9 : Nat} (X : Ok x cc own rm n9) {h : AH} {u v pc : Nat} {lv : List (Nat × TV)} {st : List TV} {C ref : String} {T : u_T} {N ci index : Nat} (hin : ∀ w ∈ u_ws C T N, w ∈ lw_all) (hc : vwCl[ci]? = some (C, T, N)) (hci : ci < 20) (k : Nat) (hk : k < N) {host : String} (hlink : Cond.fieldLinkNest own index ref (T k).2.1 (T k).2.2.1 host ∈ lw_tbl) (hsame : (T k).1 = ref ∨ Cond.sameField ref (T k).1 (T k).2.1 (T k).2.2.1 ∈ lw_all) {r : Option Nat} {K : Int32 → Prop} (d : decode cc pc = .ok (.getfield index, 3)) (hw : g_i h r ci k K) (kk : ∀ y, K y → J x h u v (pc + 3) lv (vI y :: st)) : J x h u v pc lv (vR r :: st) := by
  obtain ⟨p, l, e, R, s, m, args, below, meth, c, Q, G, nL⟩ := x
  intro H locs ls hh hS hl
  obtain ⟨a, fs, y, rfl, he, hv, hK⟩ := hw
  exact va_getN (D := G.1) (cl := vwCl) (tys := ah_tys G) X.1 X.2.1 X.2.2.2.1 hin X.2.2.1 X.2.2.2.2.1.1.1 (hh.obj he hci) 0 rfl hc k hk (va_Nw.use rfl (X.2.2.2.2.1.1.2.1 _ hlink rfl)) (ah_same X.2.2.2.1 hsame) hv d (kk y hK H locs ls hh hS hl)
theorem j_getqN {x : CX} {cc : ByteArray} {own : String} {rm : Room} {n9 : Nat} (X : Ok x cc own rm n9) {h : AH} {u v pc : Nat} {lv : List (Nat × TV)} {st : List TV} {C ref : String} {T : u_T} {N ci index : Nat} (hin : ∀ w ∈ u_ws C T N, w ∈ lw_all) (hc : vwCl[ci]? = some (C, T, N)) (hci : ci < 20) (k : Nat) (hk : k < N) {host : String} (hlink : Cond.fieldLinkNest own index ref (T k).2.1 (T k).2.2.1 host ∈ lw_tbl) (hsame : (T k).1 = ref ∨ Cond.sameField ref (T k).1 (T k).2.1 (T k).2.2.1 ∈ lw_all) {r : Option Nat} {K : Option Nat → Prop} (d : decode cc pc = .ok (.getfield index, 3)) (hw : g_q h r ci k K) (kk : ∀ y, K y → J x h u v (pc + 3) lv (vR y :: st)) : J x h u v pc lv (vR r :: st) := by
  obtain ⟨p, l, e, R, s, m, args, below, meth, c, Q, G, nL⟩ := x
  intro H locs ls hh hS hl
  obtain ⟨a, fs, y, rfl, he, hv, hK⟩ := hw
  exact va_getN (D := G.1) (cl := vwCl) (tys := ah_tys G) X.1 X.2.1 X.2.2.2.1 hin X.2.2.1 X.2.2.2.2.1.1.1 (hh.obj he hci) 0 rfl hc k hk (va_Nw.use rfl (X.2.2.2.2.1.1.2.1 _ hlink rfl)) (ah_same X.2.2.2.1 hsame) hv d (kk y hK H locs ls hh hS hl)
theorem j_getiS {x : CX} {cc : ByteArray} {own : String} {rm : Room} {n9 : Nat} (X : Ok x cc own rm n9) {h : AH} {u v pc : Nat} {lv : List (Nat × TV)} {st : List TV} {index : Nat} (k : Nat) (hk : k < 3) (hlink : Cond.fieldLink own index "Plugboard$Shape" (TX9 k).2.1 (TX9 k).2.2.1 ∈ lw_all) {r : Option Nat} {K : Int32 → Prop} (d : decode cc pc = .ok (.getfield index, 3)) (hw : g_iS h r k K) (kk : ∀ y, K y → J x h u v (pc + 3) lv (vI y :: st)) : J x h u v pc lv (vR r :: st) := by
  obtain ⟨p, l, e, R, s, m, args, below, meth, c, Q, G, nL⟩ := x
  intro H locs ls hh hS hl
  obtain ⟨a, ci, fs, y, rfl, he, hci, hv, hK⟩ := hw
  have hsm : (TX9 k).1 = "Plugboard$Shape" := by
    rcases (show k = 0 ∨ k = 1 ∨ k = 2 by omega) with rfl | rfl | rfl <;> rfl
  rcases hci with rfl | rfl
  · exact va_get (D := G.1) (cl := vwCl) (tys := ah_tys G) X.1 X.2.1 X.2.2.2.1 in_X9 X.2.2.1 X.2.2.2.2.1.1.1 (hh.obj he (by decide)) 0 rfl rfl k hk (X.2.2.2.1 _ hlink) (fun z hz => by rw [hsm] at hz; exact hz) hv d (kk y hK H locs ls hh hS hl)
  · exact va_get (D := G.1) (cl := vwCl) (tys := ah_tys G) (T := TX10) X.1 X.2.1 X.2.2.2.1 in_X10 X.2.2.1 X.2.2.2.2.1.1.1 (hh.obj he (by decide)) 0 rfl rfl k hk (X.2.2.2.1 _ hlink) (fun z hz => by rw [show (TX10 k).1 = "Plugboard$Shape" from hsm] at hz; exact hz) hv d (kk y hK H locs ls hh hS hl)
theorem j_getiSN {x : CX} {cc : ByteArray} {own : String} {rm : Room} {n9 : Nat} (X : Ok x cc own rm n9) {h : AH} {u v pc : Nat} {lv : List (Nat × TV)} {st : List TV} {index : Nat} (k : Nat) (hk : k < 3) {host : String} (hlink : Cond.fieldLinkNest own index "Plugboard$Shape" (TX9 k).2.1 (TX9 k).2.2.1 host ∈ lw_tbl) {r : Option Nat} {K : Int32 → Prop} (d : decode cc pc = .ok (.getfield index, 3)) (hw : g_iS h r k K) (kk : ∀ y, K y → J x h u v (pc + 3) lv (vI y :: st)) : J x h u v pc lv (vR r :: st) := by
  obtain ⟨p, l, e, R, s, m, args, below, meth, c, Q, G, nL⟩ := x
  intro H locs ls hh hS hl
  obtain ⟨a, ci, fs, y, rfl, he, hci, hv, hK⟩ := hw
  have hsm : (TX9 k).1 = "Plugboard$Shape" := by
    rcases (show k = 0 ∨ k = 1 ∨ k = 2 by omega) with rfl | rfl | rfl <;> rfl
  rcases hci with rfl | rfl
  · exact va_getN (D := G.1) (cl := vwCl) (tys := ah_tys G) X.1 X.2.1 X.2.2.2.1 in_X9 X.2.2.1 X.2.2.2.2.1.1.1 (hh.obj he (by decide)) 0 rfl rfl k hk (va_Nw.use rfl (X.2.2.2.2.1.1.2.1 _ hlink rfl)) (fun z hz => by rw [hsm] at hz; exact hz) hv d (kk y hK H locs ls hh hS hl)
  · exact va_getN (D := G.1) (cl := vwCl) (tys := ah_tys G) (T := TX10) X.1 X.2.1 X.2.2.2.1 in_X10 X.2.2.1 X.2.2.2.2.1.1.1 (hh.obj he (by decide)) 0 rfl rfl k hk (va_Nw.use rfl (X.2.2.2.2.1.1.2.1 _ hlink rfl)) (fun z hz => by rw [show (TX10 k).1 = "Plugboard$Shape" from hsm] at hz; exact hz) hv d (kk y hK H locs ls hh hS hl)
theorem j_getiN0 {x : CX} {cc : ByteArray} {own : String} {rm : Room} {n9 : Nat} (X : Ok x cc own rm n9) {h : AH} {u v pc : Nat} {lv : List (Nat × TV)} {st : List TV} {index : Nat} (hlink : Cond.fieldLink own index "java/lang/Integer" (TJ23 0).2.1 (TJ23 0).2.2.1 ∈ lw_all) {r : Option Nat} {K : Int32 → Prop} (d : decode cc pc = .ok (.getfield index, 3)) (hw : g_iN h r 0 K) (kk : ∀ y, K y → J x h u v (pc + 3) lv (vI y :: st)) : J x h u v pc lv (vR r :: st) := by
  obtain ⟨p, l, e, R, s, m, args, below, meth, c, Q, G, nL⟩ := x
  intro H locs ls hh hS hl
  obtain ⟨a, ci, fs, y, rfl, he, hci, hv, hK⟩ := hw
  rcases hci with rfl | rfl
  · exact va_get (D := G.1) (cl := vwCl) (tys := ah_tys G) X.1 X.2.1 X.2.2.2.1 in_J23 X.2.2.1 X.2.2.2.2.1.1.1 (hh.obj he (by decide)) 0 rfl rfl 0 (by decide) (X.2.2.2.1 _ hlink) (fun z hz => hz) hv d (kk y hK H locs ls hh hS hl)
  · exact va_get (D := G.1) (cl := vwCl) (tys := ah_tys G) X.1 X.2.1 X.2.2.2.1 in_J23 X.2.2.1 X.2.2.2.2.1.1.1 (hh.obj he (by decide)) 0 rfl rfl 0 (by decide) (X.2.2.2.1 _ hlink) (fun z hz => hz) hv d (kk y hK H locs ls hh hS hl)
theorem j_put {x : CX} {cc : ByteArray} {own : String} {rm : Room} {n9 : Nat} (X : Ok x cc own rm n9) {h : AH} {u v pc : Nat} {lv : List (Nat × TV)} {st : List TV} {C ref : String} {T : u_T} {N ci index : Nat} (hin : ∀ w ∈ u_ws C T N, w ∈ lw_all) (hc : vwCl[ci]? = some (C, T, N)) (hci : ci < 20) (k : Nat) (hk : k < N) (hlink : Cond.fieldLink own index ref (T k).2.1 (T k).2.2.1 ∈ lw_all) (hsame : (T k).1 = ref ∨ Cond.sameField ref (T k).1 (T k).2.1 (T k).2.2.1 ∈ lw_all) (ty0 : Nat → FieldType) (hty : ∀ k, k < N → parseFieldDescriptor (T k).2.2.1 = some (ty0 k)) (hnm : ∀ a, a < N → ∀ b, b < N → a ≠ b → (T a).2.1 ≠ (T b).2.1) (hfin : (T k).2.2.2 = false) (hro : Nat.beq ci 17 = false) {r : Option Nat} {w : TV} {K : AH → Prop} {ty : FieldType} (hd : parseFieldDescriptor (T k).2.2.1 = some ty) (hn9 : narrow ty (tv w) = tv w) (hfit : fits ty (tv w) = true) (d : decode cc pc = .ok (.putfield index, 3)) (hw : p_v h r ci k w K) (kk : ∀ h', K h' → J x h' u v (pc + 3) lv (st)) : J x h u v pc lv (w :: vR r :: st) := by
  obtain ⟨p, l, e, R, s, m, args, below, meth, c, Q, G, nL⟩ := x
  intro H locs ls hh hS hl
  obtain ⟨a, fs, rfl, he, hl9, hK⟩ := hw
  have hKn := X.2.2.2.2.1.1.1
  have hts := X.2.2.2.1
  have hap := va_apart (own := own) hts hin ty0 hty hnm hKn hc
  have hb9 : G.2.1 ≤ a := (hh.2 a _ he).2 (by show (Nat.beq ci 17 || Nat.beq ci 20) = false; rw [hro, Bool.false_or]; cases hq : Nat.beq ci 20 with | false => rfl | true => exact absurd (Nat.eq_of_beq_eq_true hq) (by omega))
  obtain ⟨r1, h1, cell, q1, q2, q3, q4⟩ := hh.obj he hci 0 _ rfl
  have hr : r1 = (C, T, N) := Option.some.inj (h1.symm.trans hc)
  subst hr
  obtain ⟨hS9, hfc, kC, hkC, hkind⟩ := hKn.1 ci _ hc
  obtain ⟨cf, kf, fi, f, hi, hsl⟩ := hS9 k hk
  have hlay := hts _ (hin _ (u_in_lay hk))
  unfold u_lay at hlay
  rw [if_neg (by rw [hfin]; decide)] at hlay
  have hst := (u_facts hfc hkC (u_lays hts hin hk) hi).1
  have h6 := u_store hfc hkC hkind hlay hi hd hn9 hfit
  refine W.putK X.1 X.2.1 (f := f) ⟨X.2.2.1, (hts _ hlink), ⟨_, _, _, ah_same hts hsame _ hi⟩, hst⟩ (by rw [q2]; exact h6) q1 q3 (by rw [hsl]; exact k2_hasslot (q4 k hk)) rfl rfl d fun H' e1 e2 e3 => ?_
  rw [hsl] at e1 ⊢
  exact kk _ hK H' _ ls (hh.set hb9 (Or.inl ⟨hci, ⟨_, hc, t_OB.to (V := updV (vp_V fs) k (tv w)) ⟨_, e1, q2, q3, t_set q4 hap hk (tv w)⟩ (fun j _ => vp_updV_set hl9 (tv w) j)⟩, ((hh.2 a _ he).1.mon hci).slot q1 e1⟩) e3) (ah_up_S hS e2 e3 hb9) hl
theorem j_putN {x : CX} {cc : ByteArray} {own : String} {rm : Room} {n9 : Nat} (X : Ok x cc own rm n9) {h : AH} {u v pc : Nat} {lv : List (Nat × TV)} {st : List TV} {C ref : String} {T : u_T} {N ci index : Nat} (hin : ∀ w ∈ u_ws C T N, w ∈ lw_all) (hc : vwCl[ci]? = some (C, T, N)) (hci : ci < 20) (k : Nat) (hk : k < N) {host : String} (hlink : Cond.fieldLinkNest own index ref (T k).2.1 (T k).2.2.1 host ∈ lw_tbl) (hsame : (T k).1 = ref ∨ Cond.sameField ref (T k).1 (T k).2.1 (T k).2.2.1 ∈ lw_all) (ty0 : Nat → FieldType) (hty : ∀ k, k < N → parseFieldDescriptor (T k).2.2.1 = some (ty0 k)) (hnm : ∀ a, a < N → ∀ b, b < N → a ≠ b → (T a).2.1 ≠ (T b).2.1) (hfin : (T k).2.2.2 = false) (hro : Nat.beq ci 17 = false) {r : Option Nat} {w : TV} {K : AH → Prop} {ty : FieldType} (hd : parseFieldDescriptor (T k).2.2.1 = some ty) (hn9 : narrow ty (tv w) = tv w) (hfit : fits ty (tv w) = true) (d : decode cc pc = .ok (.putfield index, 3)) (hw : p_v h r ci k w K) (kk : ∀ h', K h' → J x h' u v (pc + 3) lv (st)) : J x h u v pc lv (w :: vR r :: st) := by
  obtain ⟨p, l, e, R, s, m, args, below, meth, c, Q, G, nL⟩ := x
  intro H locs ls hh hS hl
  obtain ⟨a, fs, rfl, he, hl9, hK⟩ := hw
  have hKn := X.2.2.2.2.1.1.1
  have hts := X.2.2.2.1
  have hap := va_apart (own := own) hts hin ty0 hty hnm hKn hc
  have hb9 : G.2.1 ≤ a := (hh.2 a _ he).2 (by show (Nat.beq ci 17 || Nat.beq ci 20) = false; rw [hro, Bool.false_or]; cases hq : Nat.beq ci 20 with | false => rfl | true => exact absurd (Nat.eq_of_beq_eq_true hq) (by omega))
  obtain ⟨r1, h1, cell, q1, q2, q3, q4⟩ := hh.obj he hci 0 _ rfl
  have hr : r1 = (C, T, N) := Option.some.inj (h1.symm.trans hc)
  subst hr
  obtain ⟨hS9, hfc, kC, hkC, hkind⟩ := hKn.1 ci _ hc
  obtain ⟨cf, kf, fi, f, hi, hsl⟩ := hS9 k hk
  have hlay := hts _ (hin _ (u_in_lay hk))
  unfold u_lay at hlay
  rw [if_neg (by rw [hfin]; decide)] at hlay
  have hst := (u_facts hfc hkC (u_lays hts hin hk) hi).1
  have h6 := u_store hfc hkC hkind hlay hi hd hn9 hfit
  refine va_WputK X.1 X.2.1 (f := f) X.2.2.1 (va_Nw.use rfl (X.2.2.2.2.1.1.2.1 _ hlink rfl)) (ah_same hts hsame _ hi) hst (by rw [q2]; exact h6) q1 q3 (by rw [hsl]; exact k2_hasslot (q4 k hk)) rfl rfl d fun H' e1 e2 e3 => ?_
  rw [hsl] at e1 ⊢
  exact kk _ hK H' _ ls (hh.set hb9 (Or.inl ⟨hci, ⟨_, hc, t_OB.to (V := updV (vp_V fs) k (tv w)) ⟨_, e1, q2, q3, t_set q4 hap hk (tv w)⟩ (fun j _ => vp_updV_set hl9 (tv w) j)⟩, ((hh.2 a _ he).1.mon hci).slot q1 e1⟩) e3) (ah_up_S hS e2 e3 hb9) hl
theorem j_putF {x : CX} {cc : ByteArray} {own : String} {rm : Room} {n9 : Nat} (X : Ok x cc own rm n9) {h : AH} {u v pc : Nat} {lv : List (Nat × TV)} {st : List TV} {C ref : String} {T : u_T} {N ci index : Nat} (hin : ∀ w ∈ u_ws C T N, w ∈ lw_all) (hc : vwCl[ci]? = some (C, T, N)) (hci : ci < 20) (k : Nat) (hk : k < N) (hlink : Cond.fieldLink own index ref (T k).2.1 (T k).2.2.1 ∈ lw_all) (hsame : (T k).1 = ref ∨ Cond.sameField ref (T k).1 (T k).2.1 (T k).2.2.1 ∈ lw_all) (ty0 : Nat → FieldType) (hty : ∀ k, k < N → parseFieldDescriptor (T k).2.2.1 = some (ty0 k)) (hnm : ∀ a, a < N → ∀ b, b < N → a ≠ b → (T a).2.1 ≠ (T b).2.1) (hfin : (T k).2.2.2 = true) (hin2 : x.2.2.2.2.2.2.2.2.1.name = "<init>") (hdecl : (T k).1 = own) (hro : Nat.beq ci 17 = false) {r : Option Nat} {w : TV} {K : AH → Prop} {ty : FieldType} (hd : parseFieldDescriptor (T k).2.2.1 = some ty) (hn9 : narrow ty (tv w) = tv w) (hfit : fits ty (tv w) = true) (d : decode cc pc = .ok (.putfield index, 3)) (hw : p_v h r ci k w K) (kk : ∀ h', K h' → J x h' u v (pc + 3) lv (st)) : J x h u v pc lv (w :: vR r :: st) := by
  obtain ⟨p, l, e, R, s, m, args, below, meth, c, Q, G, nL⟩ := x
  intro H locs ls hh hS hl
  obtain ⟨a, fs, rfl, he, hl9, hK⟩ := hw
  have hKn := X.2.2.2.2.1.1.1
  have hts := X.2.2.2.1
  have hap := va_apart (own := own) hts hin ty0 hty hnm hKn hc
  have hb9 : G.2.1 ≤ a := (hh.2 a _ he).2 (by show (Nat.beq ci 17 || Nat.beq ci 20) = false; rw [hro, Bool.false_or]; cases hq : Nat.beq ci 20 with | false => rfl | true => exact absurd (Nat.eq_of_beq_eq_true hq) (by omega))
  obtain ⟨r1, h1, cell, q1, q2, q3, q4⟩ := hh.obj he hci 0 _ rfl
  have hr : r1 = (C, T, N) := Option.some.inj (h1.symm.trans hc)
  subst hr
  obtain ⟨hS9, hfc, kC, hkC, hkind⟩ := hKn.1 ci _ hc
  obtain ⟨cf, kf, fi, f, hi, hsl⟩ := hS9 k hk
  have hlay := hts _ (hin _ (u_in_lay hk))
  unfold u_lay at hlay
  rw [if_pos hfin] at hlay
  have hst := (u_facts hfc hkC (u_lays hts hin hk) hi).1
  have hcf : m.cls = cf := by
    obtain ⟨_, _, c', _, _, _, -, -, hf', -, -, -, hown2, -⟩ := Cond.laysFinal_spec hlay
    have e1 : c' = cf := by have := hi.symm.trans hf'; simp at this; exact this.1.symm
    rw [hdecl] at hown2
    rw [← e1]; exact Option.some.inj (X.2.2.1.symm.trans hown2)
  have h6 := u_fits hfc hkC hkind (Or.inr hlay) hi hd hn9 hfit
  refine W.putFinK X.1 X.2.1 X.2.2.1 (hts _ hlink) (ah_same hts hsame _ hi) hst hcf hin2 (by rw [q2]; exact h6) q1 q3 (by rw [hsl]; exact k2_hasslot (q4 k hk)) rfl rfl d fun H' e1 e2 e3 => ?_
  rw [hsl] at e1 ⊢
  exact kk _ hK H' _ ls (hh.set hb9 (Or.inl ⟨hci, ⟨_, hc, t_OB.to (V := updV (vp_V fs) k (tv w)) ⟨_, e1, q2, q3, t_set q4 hap hk (tv w)⟩ (fun j _ => vp_updV_set hl9 (tv w) j)⟩, ((hh.2 a _ he).1.mon hci).slot q1 e1⟩) e3) (ah_up_S hS e2 e3 hb9) hl
