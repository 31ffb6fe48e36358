theorem j_new {x : CX} {cc : ByteArray} {own : String} {rm : Room} {n9 : Nat} (X : Ok x cc own rm n9) {h : AH} {u v pc : Nat} {lv : List (Nat × TV)} {st : List TV} {C : String} {T : u_T} {N ci index : Nat} (hin : ∀ w ∈ u_ws C T N, w ∈ lw_all) (hc : vwCl[ci]? = some (C, T, N)) (hci : ci < 20) (ty : Nat → FieldType) (hty : ∀ k, k < N → parseFieldDescriptor (T k).2.2.1 = some (ty k)) (hcl : Cond.classLink own index C ∈ lw_all) (hinst : Cond.instantiable C N ∈ lw_all) (hini : Cond.initialized C ∈ lw_all) {fs : List Value} (hfs : ∀ j, j < N → defaultValue (ty j) = vp_V fs j) (hu : u + 1 ≤ rm.cells) (hv : v + N ≤ rm.slots) {K : Nat → AH → Prop} (d : decode cc pc = .ok (.new index, 3)) (hw : mk h (.inr (ci, fs)) K) (kk : ∀ q h', K q h' → J x h' (u + 1) (v + N) (pc + 3) lv (vR (some q) :: st)) : J x h u v pc lv (st) := by
  obtain ⟨p, l, e, R, s, m, args, below, meth, c, Q, G, nL⟩ := x
  intro H locs ls hh hS hl
  have hts := X.2.2.2.1
  obtain rfl : R = rm := X.2.2.2.2.2.2.1
  have hKn := X.2.2.2.2.1.1.1.1 ci _ hc
  refine W.newcK X.1 X.2.1 X.2.2.1 (hts _ hcl) (hts _ hinst) (hts _ hini) rfl d hu hv hKn.2.1 rfl fun H1 kC hkC e1 z1 o1 => ?_
  have hb9 : G.2.1 ≤ H.size := Nat.le_trans X.2.2.2.2.2.2.2.1 hS.1
  exact kk _ _ (hw _ hh.fresh) H1 locs ls (hh.push hb9 (Or.inl ⟨hci, ⟨_, hc, (u_born ty hts hin hKn hkC e1 hty).to hfs⟩, fun _ _ => ⟨_, e1, rfl, rfl⟩⟩) o1) (ah_push_S hS (by omega) o1) hl
theorem ah_bytes {n b : Nat} (hb : b ≤ 8) (hn : n ≤ 100000) : n * b ≤ 536870912 := by
  have := Nat.mul_le_mul hn hb
  omega
theorem ah_dcell (cA : ClassId) (n : Nat) : vp_cell cA (n, .inl fun _ => (0 : Int32)) = arrV cA n (fun _ => .int 0) := rfl
theorem j_newI {x : CX} {cc : ByteArray} {own : String} {rm : Room} {n9 : Nat} (X : Ok x cc own rm n9) {h : AH} {u v pc : Nat} {lv : List (Nat × TV)} {st : List TV} (B : Nat) {n : Int32} {K : Nat → AH → Prop} (d : decode cc pc = .ok (.newarray .int, 2)) (hword : Cond.arrayClass .int ∈ lw_all) (hB : B ≤ 100000) (hu : u + 1 ≤ rm.cells) (hv : v + B ≤ rm.slots) (hw : mk_i h 0 n B K) (kk : ∀ q h', K q h' → J x h' (u + 1) (v + B) (pc + 2) lv (vR (some q) :: st)) : J x h u v pc lv (vI n :: st) := by
  obtain ⟨p, l, e, R, s, m, args, below, meth, c, Q, G, nL⟩ := x
  intro H locs ls hh hS hl
  obtain ⟨hn, hnB, hw⟩ := hw
  obtain rfl : R = rm := X.2.2.2.2.2.2.1
  refine va_newaK (atype := .int) X.1 X.2.1 (X.2.2.2.1 _ hword) rfl d rfl hn rfl (ah_bytes (by decide) (Nat.le_trans hnB hB)) hu (Nat.le_trans (Nat.add_le_add_left hnB v) hv) rfl fun H1 cA e1 z1 o1 hAr hNm => ?_
  have hb9 : G.2.1 ≤ H.size := Nat.le_trans X.2.2.2.2.2.2.2.1 hS.1
  have hcA : cA = G.2.2.1 0 := Option.some.inj (hNm.symm.trans (X.2.2.2.2.1.1.1.2 0 _ (ah_tys_at G (by decide))).2)
  subst hcA
  refine W.widen (Nat.le_refl _) (Nat.add_le_add_left hnB v) ?_
  exact kk _ _ (hw _ hh.fresh) H1 locs ls (hh.push hb9 ⟨by show 0 < 48; decide, fun g hg => (by cases hg), e1⟩ o1) (ah_push_S hS (by omega) o1) hl
theorem j_newZ {x : CX} {cc : ByteArray} {own : String} {rm : Room} {n9 : Nat} (X : Ok x cc own rm n9) {h : AH} {u v pc : Nat} {lv : List (Nat × TV)} {st : List TV} (B : Nat) {n : Int32} {K : Nat → AH → Prop} (d : decode cc pc = .ok (.newarray .boolean, 2)) (hword : Cond.arrayClass .boolean ∈ lw_all) (hB : B ≤ 100000) (hu : u + 1 ≤ rm.cells) (hv : v + B ≤ rm.slots) (hw : mk_i h 1 n B K) (kk : ∀ q h', K q h' → J x h' (u + 1) (v + B) (pc + 2) lv (vR (some q) :: st)) : J x h u v pc lv (vI n :: st) := by
  obtain ⟨p, l, e, R, s, m, args, below, meth, c, Q, G, nL⟩ := x
  intro H locs ls hh hS hl
  obtain ⟨hn, hnB, hw⟩ := hw
  obtain rfl : R = rm := X.2.2.2.2.2.2.1
  refine va_newaK (atype := .boolean) X.1 X.2.1 (X.2.2.2.1 _ hword) rfl d rfl hn rfl (ah_bytes (by decide) (Nat.le_trans hnB hB)) hu (Nat.le_trans (Nat.add_le_add_left hnB v) hv) rfl fun H1 cA e1 z1 o1 hAr hNm => ?_
  have hb9 : G.2.1 ≤ H.size := Nat.le_trans X.2.2.2.2.2.2.2.1 hS.1
  have hcA : cA = G.2.2.1 1 := Option.some.inj (hNm.symm.trans (X.2.2.2.2.1.1.1.2 1 _ (ah_tys_at G (by decide))).2)
  subst hcA
  refine W.widen (Nat.le_refl _) (Nat.add_le_add_left hnB v) ?_
  exact kk _ _ (hw _ hh.fresh) H1 locs ls (hh.push hb9 ⟨by show 1 < 48; decide, fun g hg => (by cases hg), e1⟩ o1) (ah_push_S hS (by omega) o1) hl
theorem j_newS {x : CX} {cc : ByteArray} {own : String} {rm : Room} {n9 : Nat} (X : Ok x cc own rm n9) {h : AH} {u v pc : Nat} {lv : List (Nat × TV)} {st : List TV} (B : Nat) {n : Int32} {K : Nat → AH → Prop} (d : decode cc pc = .ok (.newarray .short, 2)) (hword : Cond.arrayClass .short ∈ lw_all) (hB : B ≤ 100000) (hu : u + 1 ≤ rm.cells) (hv : v + B ≤ rm.slots) (hw : mk_i h 3 n B K) (kk : ∀ q h', K q h' → J x h' (u + 1) (v + B) (pc + 2) lv (vR (some q) :: st)) : J x h u v pc lv (vI n :: st) := by
  obtain ⟨p, l, e, R, s, m, args, below, meth, c, Q, G, nL⟩ := x
  intro H locs ls hh hS hl
  obtain ⟨hn, hnB, hw⟩ := hw
  obtain rfl : R = rm := X.2.2.2.2.2.2.1
  refine va_newaK (atype := .short) X.1 X.2.1 (X.2.2.2.1 _ hword) rfl d rfl hn rfl (ah_bytes (by decide) (Nat.le_trans hnB hB)) hu (Nat.le_trans (Nat.add_le_add_left hnB v) hv) rfl fun H1 cA e1 z1 o1 hAr hNm => ?_
  have hb9 : G.2.1 ≤ H.size := Nat.le_trans X.2.2.2.2.2.2.2.1 hS.1
  have hcA : cA = G.2.2.1 3 := Option.some.inj (hNm.symm.trans (X.2.2.2.2.1.1.1.2 3 _ (ah_tys_at G (by decide))).2)
  subst hcA
  refine W.widen (Nat.le_refl _) (Nat.add_le_add_left hnB v) ?_
  exact kk _ _ (hw _ hh.fresh) H1 locs ls (hh.push hb9 ⟨by show 3 < 48; decide, fun g hg => (by cases hg), e1⟩ o1) (ah_push_S hS (by omega) o1) hl
theorem j_newC {x : CX} {cc : ByteArray} {own : String} {rm : Room} {n9 : Nat} (X : Ok x cc own rm n9) {h : AH} {u v pc : Nat} {lv : List (Nat × TV)} {st : List TV} (B : Nat) {n : Int32} {K : Nat → AH → Prop} (d : decode cc pc = .ok (.newarray .char, 2)) (hword : Cond.arrayClass .char ∈ lw_all) (hB : B ≤ 100000) (hu : u + 1 ≤ rm.cells) (hv : v + B ≤ rm.slots) (hw : mk_i h 4 n B K) (kk : ∀ q h', K q h' → J x h' (u + 1) (v + B) (pc + 2) lv (vR (some q) :: st)) : J x h u v pc lv (vI n :: st) := by
  obtain ⟨p, l, e, R, s, m, args, below, meth, c, Q, G, nL⟩ := x
  intro H locs ls hh hS hl
  obtain ⟨hn, hnB, hw⟩ := hw
  obtain rfl : R = rm := X.2.2.2.2.2.2.1
  refine va_newaK (atype := .char) X.1 X.2.1 (X.2.2.2.1 _ hword) rfl d rfl hn rfl (ah_bytes (by decide) (Nat.le_trans hnB hB)) hu (Nat.le_trans (Nat.add_le_add_left hnB v) hv) rfl fun H1 cA e1 z1 o1 hAr hNm => ?_
  have hb9 : G.2.1 ≤ H.size := Nat.le_trans X.2.2.2.2.2.2.2.1 hS.1
  have hcA : cA = G.2.2.1 4 := Option.some.inj (hNm.symm.trans (X.2.2.2.2.1.1.1.2 4 _ (ah_tys_at G (by decide))).2)
  subst hcA
  refine W.widen (Nat.le_refl _) (Nat.add_le_add_left hnB v) ?_
  exact kk _ _ (hw _ hh.fresh) H1 locs ls (hh.push hb9 ⟨by show 4 < 48; decide, fun g hg => (by cases hg), e1⟩ o1) (ah_push_S hS (by omega) o1) hl
theorem j_newL {x : CX} {cc : ByteArray} {own : String} {rm : Room} {n9 : Nat} (X : Ok x cc own rm n9) {h : AH} {u v pc : Nat} {lv : List (Nat × TV)} {st : List TV} {n : Int32} (B : Nat) {K : Nat → AH → Prop} (d : decode cc pc = .ok (.newarray .long, 2)) (hword : Cond.arrayClass .long ∈ lw_all) (hn : ¬ n < 0) (hB : n.toNatClampNeg = B) (hB9 : B ≤ 100000) (hu : u + 1 ≤ rm.cells) (hv : v + B ≤ rm.slots) (hw : mk h (.inl (5, B, .inr (.inl fun _ => 0))) K) (kk : ∀ q h', K q h' → J x h' (u + 1) (v + B) (pc + 2) lv (vR (some q) :: st)) : J x h u v pc lv (vI n :: st) := by
  obtain ⟨p, l, e, R, s, m, args, below, meth, c, Q, G, nL⟩ := x
  intro H locs ls hh hS hl
  obtain rfl : R = rm := X.2.2.2.2.2.2.1
  refine va_newaK (atype := .long) X.1 X.2.1 (X.2.2.2.1 _ hword) rfl d rfl hn hB (ah_bytes (by decide) hB9) hu hv rfl fun H1 cA e1 z1 o1 hAr hNm => ?_
  have hb9 : G.2.1 ≤ H.size := Nat.le_trans X.2.2.2.2.2.2.2.1 hS.1
  have hcA : cA = G.2.2.1 5 := Option.some.inj (hNm.symm.trans (X.2.2.2.2.1.1.1.2 5 _ (ah_tys_at G (by decide))).2)
  subst hcA
  exact kk _ _ (hw _ hh.fresh) H1 locs ls (hh.push hb9 ⟨by show 5 < 48; decide, fun g hg => (by cases hg), e1⟩ o1) (ah_push_S hS (by omega) o1) hl
theorem j_newD {x : CX} {cc : ByteArray} {own : String} {rm : Room} {n9 : Nat} (X : Ok x cc own rm n9) {h : AH} {u v pc : Nat} {lv : List (Nat × TV)} {st : List TV} {n : Int32} (B : Nat) {K : Nat → AH → Prop} (d : decode cc pc = .ok (.newarray .double, 2)) (hword : Cond.arrayClass .double ∈ lw_all) (hn : ¬ n < 0) (hB : n.toNatClampNeg = B) (hB9 : B ≤ 100000) (hu : u + 1 ≤ rm.cells) (hv : v + B ≤ rm.slots) (hw : mk h (.inl (7, B, .inr (.inr (.inr (.inl fun _ => 0))))) K) (kk : ∀ q h', K q h' → J x h' (u + 1) (v + B) (pc + 2) lv (vR (some q) :: st)) : J x h u v pc lv (vI n :: st) := by
  obtain ⟨p, l, e, R, s, m, args, below, meth, c, Q, G, nL⟩ := x
  intro H locs ls hh hS hl
  obtain rfl : R = rm := X.2.2.2.2.2.2.1
  refine va_newaK (atype := .double) X.1 X.2.1 (X.2.2.2.1 _ hword) rfl d rfl hn hB (ah_bytes (by decide) hB9) hu hv rfl fun H1 cA e1 z1 o1 hAr hNm => ?_
  have hb9 : G.2.1 ≤ H.size := Nat.le_trans X.2.2.2.2.2.2.2.1 hS.1
  have hcA : cA = G.2.2.1 7 := Option.some.inj (hNm.symm.trans (X.2.2.2.2.1.1.1.2 7 _ (ah_tys_at G (by decide))).2)
  subst hcA
  exact kk _ _ (hw _ hh.fresh) H1 locs ls (hh.push hb9 ⟨by show 7 < 48; decide, fun g hg => (by cases hg), e1⟩ o1) (ah_push_S hS (by omega) o1) hl
theorem j_newQ {x : CX} {cc : ByteArray} {own : String} {rm : Room} {n9 : Nat} (X : Ok x cc own rm n9) {h : AH} {u v pc : Nat} {lv : List (Nat × TV)} {st : List TV} (t : Nat) {C : String} {index : Nat} (hty : ah_ty t = .object C) (ht : t < 48) (B : Nat) {n : Int32} {K : Nat → AH → Prop} (d : decode cc pc = .ok (.anewarray index, 3)) (hlink : Cond.classLink own index C ∈ lw_all) (hover : ∀ U : State, ah_Kt x.2.2.2.2.2.2.2.2.2.2.2.1 U → va_AO C U) (hB : B ≤ 100000) (hu : u + 1 ≤ rm.cells) (hv : v + B ≤ rm.slots) (hw : mk_q h t n B K) (kk : ∀ q h', K q h' → J x h' (u + 1) (v + B) (pc + 3) lv (vR (some q) :: st)) : J x h u v pc lv (vI n :: st) := by
  obtain ⟨p, l, e, R, s, m, args, below, meth, c, Q, G, nL⟩ := x
  intro H locs ls hh hS hl
  obtain ⟨hn, hnB, hw⟩ := hw
  obtain rfl : R = rm := X.2.2.2.2.2.2.1
  refine W.anew X.1 X.2.1 X.2.2.1 (X.2.2.2.1 _ hlink) (va_AO.use (hover s X.2.2.2.2.1.1)) rfl d rfl hn (by omega) hu (Nat.le_trans (Nat.add_le_add_left hnB v) hv) fun cA kA comp f1 f2 f3 f4 => ?_
  generalize hH1 : H.push ({ cls := cA, slots := Array.replicate n.toNatClampNeg .null, vm := .none } : Cell) = H1
  have z1 : H1.size = H.size + 1 := by rw [← hH1, Array.size_push]
  have e1 : H1[H.size]? = some (arrV cA n.toNatClampNeg (fun _ => .null)) := by rw [← hH1, Array.getElem?_push_size, ← arrV_new]
  have o1 : ∀ q : Nat, q < H.size → H1[q]? = H[q]? := fun q hq => by rw [← hH1, Array.getElem?_push, if_neg (Nat.ne_of_lt hq)]
  have hb9 : G.2.1 ≤ H.size := Nat.le_trans X.2.2.2.2.2.2.2.1 hS.1
  have hRA := (X.2.2.2.2.1.1.1.2 t _ (ah_tys_at G ht)).2
  have hcA : cA = G.2.2.1 t := by
    have h2 : va_RA s (G.2.2.1 t) (.object C) := by rw [← hty]; exact hRA
    obtain ⟨_, _, _, _, _, h4⟩ := h2
    exact Option.some.inj (f1.symm.trans h4)
  subst hcA
  refine W.widen (Nat.le_refl _) (Nat.add_le_add_left hnB v) ?_
  exact kk _ _ (hw _ hh.fresh) H1 locs ls (hh.push hb9 ⟨ht, fun g hg => (by show (ah_ty t).isReference = true; rw [hty]; rfl), e1⟩ o1) (ah_push_S hS (by omega) o1) hl
theorem j_newA {x : CX} {cc : ByteArray} {own : String} {rm : Room} {n9 : Nat} (X : Ok x cc own rm n9) {h : AH} {u v pc : Nat} {lv : List (Nat × TV)} {st : List TV} (t : Nat) {ty : FieldType} {index : Nat} (hty : ah_ty t = .array ty) (ht : t < 48) (B : Nat) {n : Int32} {K : Nat → AH → Prop} (d : decode cc pc = .ok (.anewarray index, 3)) (hlink : Cond.classLink own index (FieldType.array ty).toString ∈ lw_all) (hover : ∀ U : State, ah_Kt x.2.2.2.2.2.2.2.2.2.2.2.1 U → ah_Oa ty U) (hB : B ≤ 100000) (hu : u + 1 ≤ rm.cells) (hv : v + B ≤ rm.slots) (hw : mk_q h t n B K) (kk : ∀ q h', K q h' → J x h' (u + 1) (v + B) (pc + 3) lv (vR (some q) :: st)) : J x h u v pc lv (vI n :: st) := by
  obtain ⟨p, l, e, R, s, m, args, below, meth, c, Q, G, nL⟩ := x
  intro H locs ls hh hS hl
  obtain ⟨hn, hnB, hw⟩ := hw
  obtain rfl : R = rm := X.2.2.2.2.2.2.1
  refine W.anewA X.1 X.2.1 X.2.2.1 (X.2.2.2.1 _ hlink) (hover s X.2.2.2.2.1.1) rfl d rfl hn (by omega) hu (Nat.le_trans (Nat.add_le_add_left hnB v) hv) fun cA kA comp f1 f2 f3 f4 => ?_
  generalize hH1 : H.push ({ cls := cA, slots := Array.replicate n.toNatClampNeg .null, vm := .none } : Cell) = H1
  have z1 : H1.size = H.size + 1 := by rw [← hH1, Array.size_push]
  have e1 : H1[H.size]? = some (arrV cA n.toNatClampNeg (fun _ => .null)) := by rw [← hH1, Array.getElem?_push_size, ← arrV_new]
  have o1 : ∀ q : Nat, q < H.size → H1[q]? = H[q]? := fun q hq => by rw [← hH1, Array.getElem?_push, if_neg (Nat.ne_of_lt hq)]
  have hb9 : G.2.1 ≤ H.size := Nat.le_trans X.2.2.2.2.2.2.2.1 hS.1
  have hRA := (X.2.2.2.2.1.1.1.2 t _ (ah_tys_at G ht)).2
  have hcA : cA = G.2.2.1 t := by
    have h2 : va_RA s (G.2.2.1 t) (.array ty) := by rw [← hty]; exact hRA
    exact Option.some.inj (f1.symm.trans h2)
  subst hcA
  refine W.widen (Nat.le_refl _) (Nat.add_le_add_left hnB v) ?_
  exact kk _ _ (hw _ hh.fresh) H1 locs ls (hh.push hb9 ⟨ht, fun g hg => (by show (ah_ty t).isReference = true; rw [hty]; rfl), e1⟩ o1) (ah_push_S hS (by omega) o1) hl
