theorem j_iald {x : CX} {cc : ByteArray} {own : String} {rm : Room} {n9 : Nat} (X : Ok x cc own rm n9) {h : AH} {u v pc : Nat} {lv : List (Nat × TV)} {st : List TV} (t : Nat) (hty : ah_ty t = .int) {r : Option Nat} {i : Int32} {K : Int32 → Prop} (d : decode cc pc = .ok (.iaload, 1)) (hw : l_i h r t i K) (kk : ∀ y, K y → J x h u v (pc + 1) lv (vI y :: st)) : J x h u v pc lv (vI i :: vR r :: st) := by
  obtain ⟨p, l, e, R, s, m, args, below, meth, c, Q, G, nL⟩ := x
  intro H locs ls hh hS hl
  obtain ⟨a, n, f, rfl, he, hin, hK⟩ := hw
  exact va_iald (D := G.1) (cl := vwCl) (tys := ah_tys G) X.1 X.2.1 X.2.2.2.2.1.1.1 (hh.arr he) 0 t rfl (by rw [ah_tys_at G (hh.tlt he), hty]) hin d (kk _ hK H locs ls hh hS hl)
theorem j_zald {x : CX} {cc : ByteArray} {own : String} {rm : Room} {n9 : Nat} (X : Ok x cc own rm n9) {h : AH} {u v pc : Nat} {lv : List (Nat × TV)} {st : List TV} (t : Nat) (hty : ah_ty t = .boolean) {r : Option Nat} {i : Int32} {K : Int32 → Prop} (d : decode cc pc = .ok (.baload, 1)) (hw : l_i h r t i K) (kk : ∀ y, K y → J x h u v (pc + 1) lv (vI y :: st)) : J x h u v pc lv (vI i :: vR r :: st) := by
  obtain ⟨p, l, e, R, s, m, args, below, meth, c, Q, G, nL⟩ := x
  intro H locs ls hh hS hl
  obtain ⟨a, n, f, rfl, he, hin, hK⟩ := hw
  exact va_zald (D := G.1) (cl := vwCl) (tys := ah_tys G) X.1 X.2.1 X.2.2.2.2.1.1.1 (hh.arr he) 0 t rfl (by rw [ah_tys_at G (hh.tlt he), hty]) hin d (kk _ hK H locs ls hh hS hl)
theorem j_cald {x : CX} {cc : ByteArray} {own : String} {rm : Room} {n9 : Nat} (X : Ok x cc own rm n9) {h : AH} {u v pc : Nat} {lv : List (Nat × TV)} {st : List TV} (t : Nat) (hty : ah_ty t = .char) {r : Option Nat} {i : Int32} {K : Int32 → Prop} (d : decode cc pc = .ok (.caload, 1)) (hw : l_i h r t i K) (kk : ∀ y, K y → J x h u v (pc + 1) lv (vI y :: st)) : J x h u v pc lv (vI i :: vR r :: st) := by
  obtain ⟨p, l, e, R, s, m, args, below, meth, c, Q, G, nL⟩ := x
  intro H locs ls hh hS hl
  obtain ⟨a, n, f, rfl, he, hin, hK⟩ := hw
  exact va_cald (D := G.1) (cl := vwCl) (tys := ah_tys G) X.1 X.2.1 X.2.2.2.2.1.1.1 (hh.arr he) 0 t rfl (by rw [ah_tys_at G (hh.tlt he), hty]) hin d (kk _ hK H locs ls hh hS hl)
theorem j_sald {x : CX} {cc : ByteArray} {own : String} {rm : Room} {n9 : Nat} (X : Ok x cc own rm n9) {h : AH} {u v pc : Nat} {lv : List (Nat × TV)} {st : List TV} (t : Nat) (hty : ah_ty t = .short) {r : Option Nat} {i : Int32} {K : Int32 → Prop} (d : decode cc pc = .ok (.saload, 1)) (hw : l_i h r t i K) (kk : ∀ y, K y → J x h u v (pc + 1) lv (vI y :: st)) : J x h u v pc lv (vI i :: vR r :: st) := by
  obtain ⟨p, l, e, R, s, m, args, below, meth, c, Q, G, nL⟩ := x
  intro H locs ls hh hS hl
  obtain ⟨a, n, f, rfl, he, hin, hK⟩ := hw
  exact va_sald (D := G.1) (cl := vwCl) (tys := ah_tys G) X.1 X.2.1 X.2.2.2.2.1.1.1 (hh.arr he) 0 t rfl (by rw [ah_tys_at G (hh.tlt he), hty]) hin d (kk _ hK H locs ls hh hS hl)
theorem j_lald {x : CX} {cc : ByteArray} {own : String} {rm : Room} {n9 : Nat} (X : Ok x cc own rm n9) {h : AH} {u v pc : Nat} {lv : List (Nat × TV)} {st : List TV} {r : Option Nat} {i : Int32} {K : Int64 → Prop} (d : decode cc pc = .ok (.laload, 1)) (hw : l_L h r i K) (kk : ∀ y, K y → J x h u v (pc + 1) lv (vL y :: st)) : J x h u v pc lv (vI i :: vR r :: st) := by
  obtain ⟨p, l, e, R, s, m, args, below, meth, c, Q, G, nL⟩ := x
  intro H locs ls hh hS hl
  obtain ⟨a, n, f, rfl, he, hin, hK⟩ := hw
  exact va_lald (D := G.1) (cl := vwCl) (tys := ah_tys G) X.1 X.2.1 X.2.2.2.2.1.1.1 (hh.arr he) 0 5 rfl (ah_tys_at G (by decide)) hin d (kk _ hK H locs ls hh hS hl)
theorem j_dald {x : CX} {cc : ByteArray} {own : String} {rm : Room} {n9 : Nat} (X : Ok x cc own rm n9) {h : AH} {u v pc : Nat} {lv : List (Nat × TV)} {st : List TV} {r : Option Nat} {i : Int32} {K : UInt64 → Prop} (d : decode cc pc = .ok (.daload, 1)) (hw : l_D h r i K) (kk : ∀ y, K y → J x h u v (pc + 1) lv (vD y :: st)) : J x h u v pc lv (vI i :: vR r :: st) := by
  obtain ⟨p, l, e, R, s, m, args, below, meth, c, Q, G, nL⟩ := x
  intro H locs ls hh hS hl
  obtain ⟨a, n, f, rfl, he, hin, hK⟩ := hw
  exact va_dald (D := G.1) (cl := vwCl) (tys := ah_tys G) X.1 X.2.1 X.2.2.2.2.1.1.1 (hh.arr he) 0 7 rfl (ah_tys_at G (by decide)) hin d (kk _ hK H locs ls hh hS hl)
theorem j_aald {x : CX} {cc : ByteArray} {own : String} {rm : Room} {n9 : Nat} (X : Ok x cc own rm n9) {h : AH} {u v pc : Nat} {lv : List (Nat × TV)} {st : List TV} {r : Option Nat} {i : Int32} {K : Option Nat → Prop} (d : decode cc pc = .ok (.aaload, 1)) (hw : l_q h r i K) (kk : ∀ y, K y → J x h u v (pc + 1) lv (vR y :: st)) : J x h u v pc lv (vI i :: vR r :: st) := by
  obtain ⟨p, l, e, R, s, m, args, below, meth, c, Q, G, nL⟩ := x
  intro H locs ls hh hS hl
  obtain ⟨a, t, n, f, rfl, he, hin, hK⟩ := hw
  have hlt : i.toNatClampNeg < n := Nat.not_le.mp fun q => hin (Or.inr q)
  have hA := (X.2.2.2.2.1.1.1.2 t _ (ah_tys_at G (hh.tlt he))).1 n (fun j => va_rf (f j))
  exact W.aald (v := va_rf (f i.toNatClampNeg)) (ty := ah_ty t) X.1 X.2.1 (hh.2 a _ he).1.2.2 hA (hh.tref he) (fun q => by cases q) (by show ¬ (i < 0 ∨ (arrV _ _ _).slots.size ≤ _); rw [arrV_size]; exact hin) (by show (arrV _ _ _).slots[_]? = _; rw [arrV_read _ _ hlt]) rfl rfl d (kk _ hK H locs ls hh hS hl)
theorem j_iast {x : CX} {cc : ByteArray} {own : String} {rm : Room} {n9 : Nat} (X : Ok x cc own rm n9) {h : AH} {u v pc : Nat} {lv : List (Nat × TV)} {st : List TV} (t : Nat) (hty : ah_ty t = .int) (hro : Nat.ble 32 t = false) {r : Option Nat} {i w : Int32} {K : AH → Prop} (d : decode cc pc = .ok (.iastore, 1)) (hw : s_i h r t i w K) (kk : ∀ h', K h' → J x h' u v (pc + 1) lv (st)) : J x h u v pc lv (vI w :: vI i :: vR r :: st) := by
  obtain ⟨p, l, e, R, s, m, args, below, meth, c, Q, G, nL⟩ := x
  intro H locs ls hh hS hl
  obtain ⟨a, n, f, rfl, he, hin, hK⟩ := hw
  have hb9 : G.2.1 ≤ a := (hh.2 a _ he).2 hro
  have hA := (X.2.2.2.2.1.1.1.2 t _ (by rw [ah_tys_at G (hh.tlt he), hty])).1 n (fun j => .int (f j))
  refine W.iast X.1 X.2.1 (hh.2 a _ he).1.2.2 hA (fun q => by cases q) (by show ¬ (i < 0 ∨ (arrV _ _ _).slots.size ≤ _); rw [arrV_size]; exact hin) rfl rfl d fun H1 e1 z oq => ?_
  refine kk _ hK H1 _ ls (hh.set hb9 ⟨hh.tlt he, fun g hg => (by cases hg), ?_⟩ oq) (ah_up_S hS z oq hb9) hl
  rw [e1]
  show some ((arrV _ n (fun j => .int (f j))).setSlot _ _) = some (arrV _ n (fun j => .int (upd f i.toNatClampNeg w j)))
  rw [arrV_store]
  congr 2
  funext q
  by_cases hq : q = i.toNatClampNeg
  · subst hq
    simp [updV, upd]
  · simp [updV, upd, hq]
theorem j_zast {x : CX} {cc : ByteArray} {own : String} {rm : Room} {n9 : Nat} (X : Ok x cc own rm n9) {h : AH} {u v pc : Nat} {lv : List (Nat × TV)} {st : List TV} (t : Nat) (hty : ah_ty t = .boolean) (hro : Nat.ble 32 t = false) {r : Option Nat} {i w : Int32} (hnr : nrw .boolean w) {K : AH → Prop} (d : decode cc pc = .ok (.bastore, 1)) (hw : s_i h r t i w K) (kk : ∀ h', K h' → J x h' u v (pc + 1) lv (st)) : J x h u v pc lv (vI w :: vI i :: vR r :: st) := by
  obtain ⟨p, l, e, R, s, m, args, below, meth, c, Q, G, nL⟩ := x
  intro H locs ls hh hS hl
  obtain ⟨a, n, f, rfl, he, hin, hK⟩ := hw
  have hb9 : G.2.1 ≤ a := (hh.2 a _ he).2 hro
  have hA := (X.2.2.2.2.1.1.1.2 t _ (by rw [ah_tys_at G (hh.tlt he), hty])).1 n (fun j => .int (f j))
  refine W.zast X.1 X.2.1 (hh.2 a _ he).1.2.2 hA (fun q => by cases q) (by show ¬ (i < 0 ∨ (arrV _ _ _).slots.size ≤ _); rw [arrV_size]; exact hin) rfl rfl d fun H1 e1 z oq => ?_
  rw [hnr.1] at e1
  refine kk _ hK H1 _ ls (hh.set hb9 ⟨hh.tlt he, fun g hg => (by cases hg), ?_⟩ oq) (ah_up_S hS z oq hb9) hl
  rw [e1]
  show some ((arrV _ n (fun j => .int (f j))).setSlot _ _) = some (arrV _ n (fun j => .int (upd f i.toNatClampNeg w j)))
  rw [arrV_store]
  congr 2
  funext q
  by_cases hq : q = i.toNatClampNeg
  · subst hq
    simp [updV, upd]
  · simp [updV, upd, hq]
theorem j_cast {x : CX} {cc : ByteArray} {own : String} {rm : Room} {n9 : Nat} (X : Ok x cc own rm n9) {h : AH} {u v pc : Nat} {lv : List (Nat × TV)} {st : List TV} (t : Nat) (hty : ah_ty t = .char) (hro : Nat.ble 32 t = false) {r : Option Nat} {i w : Int32} (hnr : nrw .char w) {K : AH → Prop} (d : decode cc pc = .ok (.castore, 1)) (hw : s_i h r t i w K) (kk : ∀ h', K h' → J x h' u v (pc + 1) lv (st)) : J x h u v pc lv (vI w :: vI i :: vR r :: st) := by
  obtain ⟨p, l, e, R, s, m, args, below, meth, c, Q, G, nL⟩ := x
  intro H locs ls hh hS hl
  obtain ⟨a, n, f, rfl, he, hin, hK⟩ := hw
  have hb9 : G.2.1 ≤ a := (hh.2 a _ he).2 hro
  have hA := (X.2.2.2.2.1.1.1.2 t _ (by rw [ah_tys_at G (hh.tlt he), hty])).1 n (fun j => .int (f j))
  refine W.cast X.1 X.2.1 (hh.2 a _ he).1.2.2 hA (fun q => by cases q) (by show ¬ (i < 0 ∨ (arrV _ _ _).slots.size ≤ _); rw [arrV_size]; exact hin) rfl rfl d fun H1 e1 z oq => ?_
  rw [hnr.1] at e1
  refine kk _ hK H1 _ ls (hh.set hb9 ⟨hh.tlt he, fun g hg => (by cases hg), ?_⟩ oq) (ah_up_S hS z oq hb9) hl
  rw [e1]
  show some ((arrV _ n (fun j => .int (f j))).setSlot _ _) = some (arrV _ n (fun j => .int (upd f i.toNatClampNeg w j)))
  rw [arrV_store]
  congr 2
  funext q
  by_cases hq : q = i.toNatClampNeg
  · subst hq
    simp [updV, upd]
  · simp [updV, upd, hq]
theorem j_sast {x : CX} {cc : ByteArray} {own : String} {rm : Room} {n9 : Nat} (X : Ok x cc own rm n9) {h : AH} {u v pc : Nat} {lv : List (Nat × TV)} {st : List TV} (t : Nat) (hty : ah_ty t = .short) (hro : Nat.ble 32 t = false) {r : Option Nat} {i w : Int32} (hnr : nrw .short w) {K : AH → Prop} (d : decode cc pc = .ok (.sastore, 1)) (hw : s_i h r t i w K) (kk : ∀ h', K h' → J x h' u v (pc + 1) lv (st)) : J x h u v pc lv (vI w :: vI i :: vR r :: st) := by
  obtain ⟨p, l, e, R, s, m, args, below, meth, c, Q, G, nL⟩ := x
  intro H locs ls hh hS hl
  obtain ⟨a, n, f, rfl, he, hin, hK⟩ := hw
  have hb9 : G.2.1 ≤ a := (hh.2 a _ he).2 hro
  have hA := (X.2.2.2.2.1.1.1.2 t _ (by rw [ah_tys_at G (hh.tlt he), hty])).1 n (fun j => .int (f j))
  refine W.sast X.1 X.2.1 (hh.2 a _ he).1.2.2 hA (fun q => by cases q) (by show ¬ (i < 0 ∨ (arrV _ _ _).slots.size ≤ _); rw [arrV_size]; exact hin) rfl rfl d fun H1 e1 z oq => ?_
  rw [hnr.1] at e1
  refine kk _ hK H1 _ ls (hh.set hb9 ⟨hh.tlt he, fun g hg => (by cases hg), ?_⟩ oq) (ah_up_S hS z oq hb9) hl
  rw [e1]
  show some ((arrV _ n (fun j => .int (f j))).setSlot _ _) = some (arrV _ n (fun j => .int (upd f i.toNatClampNeg w j)))
  rw [arrV_store]
  congr 2
  funext q
  by_cases hq : q = i.toNatClampNeg
  · subst hq
    simp [updV, upd]
  · simp [updV, upd, hq]
theorem j_last {x : CX} {cc : ByteArray} {own : String} {rm : Room} {n9 : Nat} (X : Ok x cc own rm n9) {h : AH} {u v pc : Nat} {lv : List (Nat × TV)} {st : List TV} {r : Option Nat} {i : Int32} {w : Int64} {K : AH → Prop} (d : decode cc pc = .ok (.lastore, 1)) (hw : s_L h r i w K) (kk : ∀ h', K h' → J x h' u v (pc + 1) lv (st)) : J x h u v pc lv (vL w :: vI i :: vR r :: st) := by
  obtain ⟨p, l, e, R, s, m, args, below, meth, c, Q, G, nL⟩ := x
  intro H locs ls hh hS hl
  obtain ⟨a, n, f, rfl, he, hin, hK⟩ := hw
  have hb9 : G.2.1 ≤ a := (hh.2 a _ he).2 rfl
  have hA := (X.2.2.2.2.1.1.1.2 5 _ (ah_tys_at G (by decide))).1 n (fun j => .long (f j))
  refine W.last X.1 X.2.1 (hh.2 a _ he).1.2.2 hA (fun q => by cases q) (by show ¬ (i < 0 ∨ (arrV _ _ _).slots.size ≤ _); rw [arrV_size]; exact hin) rfl rfl d fun H1 e1 z oq => ?_
  refine kk _ hK H1 _ ls (hh.set hb9 ⟨hh.tlt he, fun g hg => (by cases hg), ?_⟩ oq) (ah_up_S hS z oq hb9) hl
  rw [e1]
  show some ((arrV _ n (fun j => .long (f j))).setSlot _ _) = some (arrV _ n (fun j => .long (va_up f i.toNatClampNeg w j)))
  rw [arrV_store]
  congr 2
  funext q
  by_cases hq : q = i.toNatClampNeg
  · subst hq
    simp [updV, va_up]
  · simp [updV, va_up, hq]
theorem j_dast {x : CX} {cc : ByteArray} {own : String} {rm : Room} {n9 : Nat} (X : Ok x cc own rm n9) {h : AH} {u v pc : Nat} {lv : List (Nat × TV)} {st : List TV} {r : Option Nat} {i : Int32} {w : UInt64} {K : AH → Prop} (d : decode cc pc = .ok (.dastore, 1)) (hw : s_D h r i w K) (kk : ∀ h', K h' → J x h' u v (pc + 1) lv (st)) : J x h u v pc lv (vD w :: vI i :: vR r :: st) := by
  obtain ⟨p, l, e, R, s, m, args, below, meth, c, Q, G, nL⟩ := x
  intro H locs ls hh hS hl
  obtain ⟨a, n, f, rfl, he, hin, hK⟩ := hw
  have hb9 : G.2.1 ≤ a := (hh.2 a _ he).2 rfl
  have hA := (X.2.2.2.2.1.1.1.2 7 _ (ah_tys_at G (by decide))).1 n (fun j => .double (f j))
  refine W.dast X.1 X.2.1 (hh.2 a _ he).1.2.2 hA (fun q => by cases q) (by show ¬ (i < 0 ∨ (arrV _ _ _).slots.size ≤ _); rw [arrV_size]; exact hin) rfl rfl d fun H1 e1 z oq => ?_
  refine kk _ hK H1 _ ls (hh.set hb9 ⟨hh.tlt he, fun g hg => (by cases hg), ?_⟩ oq) (ah_up_S hS z oq hb9) hl
  rw [e1]
  show some ((arrV _ n (fun j => .double (f j))).setSlot _ _) = some (arrV _ n (fun j => .double (va_up f i.toNatClampNeg w j)))
  rw [arrV_store]
  congr 2
  funext q
  by_cases hq : q = i.toNatClampNeg
  · subst hq
    simp [updV, va_up]
  · simp [updV, va_up, hq]
theorem j_alen {x : CX} {cc : ByteArray} {own : String} {rm : Room} {n9 : Nat} (X : Ok x cc own rm n9) {h : AH} {u v pc : Nat} {lv : List (Nat × TV)} {st : List TV} {r : Option Nat} {K : Int32 → Prop} (d : decode cc pc = .ok (.arraylength, 1)) (hw : n_a h r K) (kk : ∀ y, K y → J x h u v (pc + 1) lv (vI y :: st)) : J x h u v pc lv (vR r :: st) := by
  obtain ⟨p, l, e, R, s, m, args, below, meth, c, Q, G, nL⟩ := x
  intro H locs ls hh hS hl
  obtain ⟨a, t, y, rfl, he, hK⟩ := hw
  exact va_alen (D := G.1) (cl := vwCl) (tys := ah_tys G) X.1 X.2.1 X.2.2.2.2.1.1.1 (hh.arr he) 0 t rfl (ah_tys_at G (hh.tlt he)) rfl d (kk _ hK H locs ls hh hS hl)
