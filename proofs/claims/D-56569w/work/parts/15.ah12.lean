/-! lambdas -/
theorem j_indy0 {x : CX} {cc : ByteArray} {own : String} {rm : Room} {n9 : Nat} (X : Ok x cc own rm n9) {h : AH} {u v pc : Nat} {lv : List (Nat × TV)} {st : List TV} {index : Nat} (hpc : pc = 6) (hnm : x.2.2.2.2.1.methodNamed? lm_out = some x.2.2.2.2.2.1) (d : decode cc pc = .ok (.invokedynamic index, 5)) (hR : (st.map tvc).sum + 3072 ≤ rm.locals) (k : J x h u v (pc + 5) lv (vR (some (h.2 3)) :: st)) : J x h u v pc lv st := by
  obtain ⟨p, l, e, R, s, m, args, below, meth, c, Q, G, nL⟩ := x
  intro H locs ls hh hS hl T hT Y
  obtain rfl : R = rm := X.2.2.2.2.2.2.1
  have hb : c.code = cc := X.2.1
  have hsz : ls.size = nL := hl.1
  obtain ⟨m', kS, cfS, i0, p0, h1, h2, h3, h4, h5, h6, h7⟩ := (kt_L X.2.2.2.2.1.1).1
  cases hnm.symm.trans h1
  subst hpc
  have hk := k H locs ls hh hS hl
  rw [show stm (vR (some (h.2 3)) :: st) = Value.ref (G.2.2.2 3) :: stm st by rw [hh.1]; rfl] at hk
  obtain ⟨t, a1, b1⟩ := hk T hT Y
  exact ⟨t, Y.lambdaConstant X.1 (g := F0 m 6 ls (stm st)) rfl (by rw [X.2.2.2.2.2.1]; exact hsz) (by rw [hb]; exact d) h2 h5 (by rw [Y.admits.platform]; show 2 * 0 + ((stm st).map fun v => v.category).sum + 3072 ≤ _; rw [stm_cat]; omega) a1, b1⟩
theorem j_indyM {x : CX} {cc : ByteArray} {own : String} {rm : Room} {n9 : Nat} (X : Ok x cc own rm n9) {h : AH} {u v pc : Nat} {lv : List (Nat × TV)} {st : List TV} (n : Nat) {index : Nat} {r : Option Nat} {K : Nat → AH → Prop} (hnm : x.2.2.2.2.1.methodNamed? lm_out = some x.2.2.2.2.2.1) (d : decode cc pc = .ok (.invokedynamic index, 5)) (hn : (n = 1 ∧ pc = 15) ∨ (n = 2 ∧ pc = 24) ∨ (n = 3 ∧ pc = 33)) (hR : (st.map tvc).sum + 1 + 3072 ≤ rm.locals) (hu : u + 1 ≤ rm.cells) (hv : v + 1 ≤ rm.slots) (hw : mk h (.inr (20 + n, [va_rf r])) K) (k : ∀ q h', K q h' → J x h' (u + 1) (v + 1) (pc + 5) lv (vR (some q) :: st)) : J x h u v pc lv (vR r :: st) := by
  sorry
