/-! lambdas -/
theorem j_indy0 {x : CX} {cc : ByteArray} {own : String} {rm : Room} {n9 : Nat} (X : Ok x cc own rm n9) {h : AH} {u v pc : Nat} {lv : List (Nat × TV)} {st : List TV} {index : Nat} (hpc : pc = 6) (hnm : x.2.2.2.2.1.methodNamed? lm_out = some x.2.2.2.2.2.1) (d : decode cc pc = .ok (.invokedynamic index, 5)) (hR : (st.map tvc).sum + 3072 ≤ rm.locals) (k : J x h u v (pc + 5) lv (vR (some (h.2 3)) :: st)) : J x h u v pc lv st := by
  obtain ⟨p, l, e, R, s, m, args, below, meth, c, Q, G, nL⟩ := x
  intro H locs ls hh hS hl T hT Y
  obtain rfl : R = rm := X.2.2.2.2.2.2.1
  have hb : c.code = cc := X.2.1
  have hsz : ls.size = nL := hl.1
  obtain ⟨m', kS, cfS, i0, p0, h1, h2, h3, h4, h5, h6, h7⟩ := (kt_L X.2.2.2.2.1.1).1
  cases hnm.symm.trans h1
  subst hpc
  have hk := k H locs ls hh hS hl
  rw [show stm (vR (some (h.2 3)) :: st) = Value.ref (G.2.2.2 3) :: stm st by rw [hh.1]; rfl] at hk
  obtain ⟨t, a1, b1⟩ := hk T hT Y
  exact ⟨t, Y.lambdaConstant X.1 (g := F0 m 6 ls (stm st)) rfl (by rw [X.2.2.2.2.2.1]; exact hsz) (by rw [hb]; exact d) h2 h5 (by rw [Y.admits.platform]; show 2 * 0 + ((stm st).map fun v => v.category).sum + 3072 ≤ _; rw [stm_cat]; omega) a1, b1⟩
theorem lm_inv {α : Type} {x : Array Nat} {f : Nat → Nat → Nat → Option α} {r : α} (h : Lambda.shapeOf?.match_15 (fun _ => Option α) x f (fun _ => none) = some r) : ∃ a0 a1 a2, f a0 a1 a2 = some r := by
  rcases x with ⟨L⟩
  match L, h with
  | [], h => cases h
  | [_], h => cases h
  | [_, _], h => cases h
  | [a, b, c], h => exact ⟨a, b, c, h⟩
  | _ :: _ :: _ :: _ :: _, h => cases h
theorem lm_shape {cf : ClassFile} {index : Nat} {σ : Lambda.Shape} (h : Lambda.shapeOf? cf index = some σ) : ∃ (b nt : Nat) (desc : String) (site : MethodDescriptor), cf.constantPool[index]? = some (.invokeDynamic b nt) ∧ cf.constantPool.nameAndType? nt = some (σ.name, desc) ∧ parseMethodDescriptor desc = some site ∧ site.parameters = σ.captured := by
  unfold Lambda.shapeOf? at h
  split at h
  · rename_i b nt hc
    obtain ⟨entries, -, h⟩ := Option.bind_eq_some_iff.mp h
    obtain ⟨bm, -, h⟩ := Option.bind_eq_some_iff.mp h
    split at h
    · obtain ⟨_, -, h⟩ := Option.bind_eq_some_iff.mp h
      obtain ⟨a0, a1, a2, h⟩ := lm_inv h
      split at h
      · split at h
        · split at h
          · obtain ⟨⟨name, desc⟩, hnt, h⟩ := Option.bind_eq_some_iff.mp h
            obtain ⟨site, hsite, h⟩ := Option.bind_eq_some_iff.mp h
            split at h
            · obtain ⟨⟨implClass, implName, implDesc, implItf⟩, -, h⟩ := Option.bind_eq_some_iff.mp h
              obtain ⟨x1, -, h⟩ := Option.bind_eq_some_iff.mp h
              obtain ⟨x2, -, h⟩ := Option.bind_eq_some_iff.mp h
              obtain ⟨x3, -, h⟩ := Option.bind_eq_some_iff.mp h
              obtain ⟨x4, -, h⟩ := Option.bind_eq_some_iff.mp h
              obtain ⟨x5, -, h⟩ := Option.bind_eq_some_iff.mp h
              cases h
              exact ⟨b, nt, desc, site, hc, hnt, hsite, rfl⟩
            · cases h
          · cases h
        · cases h
      · cases h
    · cases h
  · cases h
theorem lm_types {e : Setting} {s : State} {args : Array Value} {d c : ClassId} {σ : Lambda.Shape} {dk : Class} {T : Array FieldType} (h : Lambda.isMade e s.vm d σ c = true) (hd : s.vm.classes[d]? = some dk) (hO : (Cond.instantiable "java/lang/Object" 0).before args s = true) (hlay : ((σ.file dk.name).bind (layoutFields · 0)).map (·.2.1) = some T) : ∃ k : Class, s.vm.classes[c]? = some k ∧ k.instanceTypes = T ∧ k.kind = .ordinary := by
  obtain ⟨dk', k, ok, tk, file, cf, object, iface, t, lay, methods, target, found, h1, h2, h3, h4, h5, h6, h7, h8, h9, h10, h11, h12, h13, ⟨-, hkind, -⟩, -, -, -, -, -, -, -, ⟨hty, -⟩, -⟩ := Lambda.isMade_spec h
  cases hd.symm.trans h1
  obtain ⟨cO, kO, hfO, hkO, -, -, -, hsz⟩ := Cond.instantiable_spec hO
  cases hfO.symm.trans h5
  cases hkO.symm.trans h7
  have hemp : ok.instanceTypes = #[] := Array.eq_empty_of_size_eq_zero hsz
  rw [hsz] at h8
  rw [h4] at hlay
  simp only [Option.bind_some, h8, Option.map_some, Option.some.injEq] at hlay
  exact ⟨k, h2, by rw [hty, hemp, hlay]; simp, hkind⟩
theorem lm_lay1 : ((lm_s1.file "Plugboard$Board").bind (layoutFields · 0)).map (·.2.1) = some #[.object "Plugboard$Board"] := by decide +kernel
theorem lm_lay2 : ((lm_s2.file "Plugboard$Board").bind (layoutFields · 0)).map (·.2.1) = some #[.object "Plugboard$Board"] := by decide +kernel
theorem lm_lay3 : ((lm_s3.file "Plugboard$Board").bind (layoutFields · 0)).map (·.2.1) = some #[.object "Plugboard$Board"] := by decide +kernel
theorem j_indyG {x : CX} {cc : ByteArray} {own : String} {rm : Room} {n9 : Nat} (X : Ok x cc own rm n9) {h : AH} {u v pc : Nat} {lv : List (Nat × TV)} {st : List TV} (n : Nat) {index : Nat} {σ : Lambda.Shape} {r : Option Nat} {K : Nat → AH → Prop} (hO : Cond.instantiable "java/lang/Object" 0 ∈ lw_all) (hnm : x.2.2.2.2.1.methodNamed? lm_out = some x.2.2.2.2.2.1) (hl9 : lm_at pc index σ ((xG x).2.2.1 (20 + n + 100)) (.makes ((xG x).2.2.1 (20 + n + 100))) x.2.2.2.2.1) (hlay : ((σ.file "Plugboard$Board").bind (layoutFields · 0)).map (·.2.1) = some #[.object "Plugboard$Board"]) (hcap : σ.captured.length = 1) (hn : n ≠ 0) (d : decode cc pc = .ok (.invokedynamic index, 5)) (hR : (st.map tvc).sum + 1 + 3072 ≤ rm.locals) (hu : u + 1 ≤ rm.cells) (hv : v + 1 ≤ rm.slots) (hw : mk h (.inr (20 + n, [va_rf r])) K) (k : ∀ q h', K q h' → J x h' (u + 1) (v + 1) (pc + 5) lv (vR (some q) :: st)) : J x h u v pc lv (vR r :: st) := by
  obtain ⟨p, l, e, R, s, m, args, below, meth, c, Q, G, nL⟩ := x
  intro H locs ls hh hS hl T hT Y
  obtain rfl : R = rm := X.2.2.2.2.2.2.1
  have hb : c.code = cc := X.2.1
  have hsz : ls.size = nL := hl.1
  obtain ⟨m', kS, cfS, i0, p0, h1, h2, h3, h4, h5, h6, h7⟩ := hl9
  cases hnm.symm.trans h1
  obtain ⟨kS', hkS', hnameS⟩ := className_of_methodNamed hnm
  cases h2.symm.trans hkS'
  obtain ⟨bsm, nt, desc, site, hc, hnt, hsite, hpar⟩ := lm_shape h4
  obtain ⟨kK, hkK, htyK, hkindK⟩ := lm_types h6 h2 (X.2.2.2.1 _ hO) (by rw [hnameS]; exact hlay)
  have hsl : ((kK.instanceTypes.toList.zip [va_rf r]).map fun (t, v) => narrow t v) = [va_rf r] := by
    rw [htyK]
    show [narrow _ (va_rf r)] = _
    rw [rf_nar _ rfl]
  obtain ⟨X1, st1⟩ := Y.lambdaMakes X.1 (g := F0 m pc ls (va_rf r :: stm st)) rfl (by rw [X.2.2.2.2.2.1]; exact hsz) (by rw [hb]; exact d) (vals := [va_rf r]) (rest := stm st) h2 h5 h3 hc hnt (parseLong_of_parse hsite) (by rw [hpar, hcap]; rfl) rfl hkK
    (by rw [Y.admits.platform]; show 2 * 0 + ((va_rf r :: stm st).map fun v => v.category).sum + 3072 ≤ _; have h9 := stm_cat (vR r :: st); have h8 : ((va_rf r :: stm st).map fun v => v.category).sum = ((vR r :: st).map tvc).sum := h9; rw [h8, List.map_cons, List.sum_cons, show tvc (vR r) = 1 from rfl]; have h7 := hR; omega) hu (by rw [hsl]; exact hv)
    (fun i w hw9 => by
      rw [hsl] at hw9
      match i, hw9 with
      | 0, hw9 =>
        simp at hw9
        subst hw9
        simp [State.fitsSlot, State.slotType?, hkK, hkindK, htyK]
        exact rf_fit _ rfl r
      | i + 1, hw9 => simp at hw9)
  rw [hsl] at X1 st1
  have hTH : T.heap = H := hT
  generalize hH1 : H.push ({ cls := G.2.2.1 (20 + n + 100), slots := [va_rf r].toArray, vm := .none } : Cell) = H1
  have z1 : H1.size = H.size + 1 := by rw [← hH1, Array.size_push]
  have e1 : H1[H.size]? = some { cls := G.2.2.1 (20 + n + 100), slots := [va_rf r].toArray, vm := .none } := by rw [← hH1, Array.getElem?_push_size]
  have o1 : ∀ q : Nat, q < H.size → H1[q]? = H[q]? := fun q hq => by rw [← hH1, Array.getElem?_push, if_neg (Nat.ne_of_lt hq)]
  have hb9 : G.2.1 ≤ H.size := Nat.le_trans X.2.2.2.2.2.2.2.1 hS.1
  have hk9 := k _ _ (hw _ hh.fresh) H1 locs ls (hh.push hb9 (Or.inr ⟨by show 20 ≤ 20 + n; omega, e1⟩) o1) (ah_push_S hS (by omega) o1) hl
  obtain ⟨t, a1, b1⟩ := hk9 (T.pushCell { cls := G.2.2.1 (20 + n + 100), slots := [va_rf r].toArray, vm := .none }) (by rw [← hH1, ← hTH]; rfl) X1
  refine ⟨t, st1 t ?_, b1⟩
  rw [hTH]
  exact a1
theorem j_indyM {x : CX} {cc : ByteArray} {own : String} {rm : Room} {n9 : Nat} (X : Ok x cc own rm n9) {h : AH} {u v pc : Nat} {lv : List (Nat × TV)} {st : List TV} (n : Nat) {index : Nat} {r : Option Nat} {K : Nat → AH → Prop} (hnm : x.2.2.2.2.1.methodNamed? lm_out = some x.2.2.2.2.2.1) (d : decode cc pc = .ok (.invokedynamic index, 5)) (hn : (n = 1 ∧ pc = 15 ∧ index = 158) ∨ (n = 2 ∧ pc = 24 ∧ index = 161) ∨ (n = 3 ∧ pc = 33 ∧ index = 162)) (hO : Cond.instantiable "java/lang/Object" 0 ∈ lw_all) (hR : (st.map tvc).sum + 1 + 3072 ≤ rm.locals) (hu : u + 1 ≤ rm.cells) (hv : v + 1 ≤ rm.slots) (hw : mk h (.inr (20 + n, [va_rf r])) K) (k : ∀ q h', K q h' → J x h' (u + 1) (v + 1) (pc + 5) lv (vR (some q) :: st)) : J x h u v pc lv (vR r :: st) := by
  have hL : ah_Lm (xG x) x.2.2.2.2.1 := by
    obtain ⟨p, l, e, R, s, m, args, below, meth, c, Q, G, nL⟩ := x
    exact kt_L X.2.2.2.2.1.1
  rcases hn with ⟨rfl, rfl, rfl⟩ | ⟨rfl, rfl, rfl⟩ | ⟨rfl, rfl, rfl⟩
  · exact j_indyG X 1 hO hnm hL.2.1 lm_lay1 rfl (by decide) d hR hu hv hw k
  · exact j_indyG X 2 hO hnm hL.2.2.1 lm_lay2 rfl (by decide) d hR hu hv hw k
  · exact j_indyG X 3 hO hnm hL.2.2.2 lm_lay3 rfl (by decide) d hR hu hv hw k
