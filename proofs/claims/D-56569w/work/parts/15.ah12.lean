/-! lambdas -/
theorem j_indy0 {x : CX} {cc : ByteArray} {own : String} {rm : Room} {n9 : Nat} (X : Ok x cc own rm n9) {h : AH} {u v pc : Nat} {lv : List (Nat × TV)} {st : List TV} {index : Nat} (hpc : pc = 6) (hnm : x.2.2.2.2.1.methodNamed? lm_out = some x.2.2.2.2.2.1) (d : decode cc pc = .ok (.invokedynamic index, 5)) (hR : (st.map tvc).sum + 3072 ≤ rm.locals) (k : J x h u v (pc + 5) lv (vR (some (h.2 3)) :: st)) : J x h u v pc lv st := by
  obtain ⟨p, l, e, R, s, m, args, below, meth, c, Q, G, nL⟩ := x
  intro H locs ls hh hS hl T hT Y
  obtain rfl : R = rm := X.2.2.2.2.2.2.1
  have hb : c.code = cc := X.2.1
  have hsz : ls.size = nL := hl.1
  obtain ⟨m', kS, cfS, i0, p0, h1, h2, h3, h4, h5, h6, h7⟩ := (kt_L X.2.2.2.2.1.1).1
  cases hnm.symm.trans h1
  subst hpc
  have hk := k H locs ls hh hS hl
  rw [show stm (vR (some (h.2 3)) :: st) = Value.ref (G.2.2.2 3) :: stm st by rw [hh.1]; rfl] at hk
  obtain ⟨t, a1, b1⟩ := hk T hT Y
  exact ⟨t, Y.lambdaConstant X.1 (g := F0 m 6 ls (stm st)) rfl (by rw [X.2.2.2.2.2.1]; exact hsz) (by rw [hb]; exact d) h2 h5 (by rw [Y.admits.platform]; show 2 * 0 + ((stm st).map fun v => v.category).sum + 3072 ≤ _; rw [stm_cat]; omega) a1, b1⟩
theorem lm_inv {α : Type} {x : Array Nat} {f : Nat → Nat → Nat → Option α} {r : α} (h : Lambda.shapeOf?.match_15 (fun _ => Option α) x f (fun _ => none) = some r) : ∃ a0 a1 a2, f a0 a1 a2 = some r := by
  rcases x with ⟨L⟩
  match L, h with
  | [], h => cases h
  | [_], h => cases h
  | [_, _], h => cases h
  | [a, b, c], h => exact ⟨a, b, c, h⟩
  | _ :: _ :: _ :: _ :: _, h => cases h
theorem lm_shape {cf : ClassFile} {index : Nat} {σ : Lambda.Shape} (h : Lambda.shapeOf? cf index = some σ) : ∃ (b nt : Nat) (desc : String) (site : MethodDescriptor), cf.constantPool[index]? = some (.invokeDynamic b nt) ∧ cf.constantPool.nameAndType? nt = some (σ.name, desc) ∧ parseMethodDescriptor desc = some site ∧ site.parameters = σ.captured := by
  unfold Lambda.shapeOf? at h
  split at h
  · rename_i b nt hc
    obtain ⟨entries, -, h⟩ := Option.bind_eq_some_iff.mp h
    obtain ⟨bm, -, h⟩ := Option.bind_eq_some_iff.mp h
    split at h
    · obtain ⟨_, -, h⟩ := Option.bind_eq_some_iff.mp h
      obtain ⟨a0, a1, a2, h⟩ := lm_inv h
      split at h
      · split at h
        · split at h
          · obtain ⟨⟨name, desc⟩, hnt, h⟩ := Option.bind_eq_some_iff.mp h
            obtain ⟨site, hsite, h⟩ := Option.bind_eq_some_iff.mp h
            split at h
            · obtain ⟨⟨implClass, implName, implDesc, implItf⟩, -, h⟩ := Option.bind_eq_some_iff.mp h
              obtain ⟨x1, -, h⟩ := Option.bind_eq_some_iff.mp h
              obtain ⟨x2, -, h⟩ := Option.bind_eq_some_iff.mp h
              obtain ⟨x3, -, h⟩ := Option.bind_eq_some_iff.mp h
              obtain ⟨x4, -, h⟩ := Option.bind_eq_some_iff.mp h
              obtain ⟨x5, -, h⟩ := Option.bind_eq_some_iff.mp h
              cases h
              exact ⟨b, nt, desc, site, hc, hnt, hsite, rfl⟩
            · cases h
          · cases h
        · cases h
      · cases h
    · cases h
  · cases h
theorem lm_types {e : Setting} {s : State} {args : Array Value} {d c : ClassId} {σ : Lambda.Shape} {dk : Class} {T : Array FieldType} (h : Lambda.isMade e s.vm d σ c = true) (hd : s.vm.classes[d]? = some dk) (hO : (Cond.instantiable "java/lang/Object" 0).before args s = true) (hlay : ((σ.file dk.name).bind (layoutFields · 0)).map (·.2.1) = some T) : ∃ k : Class, s.vm.classes[c]? = some k ∧ k.instanceTypes = T ∧ k.kind = .ordinary := by
  obtain ⟨dk', k, ok, tk, file, cf, object, iface, t, lay, methods, target, found, h1, h2, h3, h4, h5, h6, h7, h8, h9, h10, h11, h12, h13, ⟨-, hkind, -⟩, -, -, -, -, -, -, -, ⟨hty, -⟩, -⟩ := Lambda.isMade_spec h
  cases hd.symm.trans h1
  obtain ⟨cO, kO, hfO, hkO, -, -, -, hsz⟩ := Cond.instantiable_spec hO
  cases hfO.symm.trans h5
  cases hkO.symm.trans h7
  have hemp : ok.instanceTypes = #[] := Array.eq_empty_of_size_eq_zero hsz
  rw [hsz] at h8
  rw [h4] at hlay
  simp only [Option.bind_some, h8, Option.map_some, Option.some.injEq] at hlay
  exact ⟨k, h2, by rw [hty, hemp, hlay]; simp, hkind⟩
theorem lm_lay1 : ((lm_s1.file "Plugboard$Board").bind (layoutFields · 0)).map (·.2.1) = some #[.object "Plugboard$Board"] := by decide +kernel
theorem lm_lay2 : ((lm_s2.file "Plugboard$Board").bind (layoutFields · 0)).map (·.2.1) = some #[.object "Plugboard$Board"] := by decide +kernel
theorem lm_lay3 : ((lm_s3.file "Plugboard$Board").bind (layoutFields · 0)).map (·.2.1) = some #[.object "Plugboard$Board"] := by decide +kernel
theorem j_indyG {x : CX} {cc : ByteArray} {own : String} {rm : Room} {n9 : Nat} (X : Ok x cc own rm n9) {h : AH} {u v pc : Nat} {lv : List (Nat × TV)} {st : List TV} (n : Nat) {index : Nat} {σ : Lambda.Shape} {r : Option Nat} {K : Nat → AH → Prop} (hO : Cond.instantiable "java/lang/Object" 0 ∈ lw_all) (hnm : x.2.2.2.2.1.methodNamed? lm_out = some x.2.2.2.2.2.1) (hl9 : lm_at pc index σ ((xG x).2.2.1 (20 + n + 100)) (.makes ((xG x).2.2.1 (20 + n + 100))) x.2.2.2.2.1) (hlay : ((σ.file "Plugboard$Board").bind (layoutFields · 0)).map (·.2.1) = some #[.object "Plugboard$Board"]) (hcap : σ.captured.length = 1) (hn : n ≠ 0) (d : decode cc pc = .ok (.invokedynamic index, 5)) (hR : (st.map tvc).sum + 1 + 3072 ≤ rm.locals) (hu : u + 1 ≤ rm.cells) (hv : v + 1 ≤ rm.slots) (hw : mk h (.inr (20 + n, [va_rf r])) K) (k : ∀ q h', K q h' → J x h' (u + 1) (v + 1) (pc + 5) lv (vR (some q) :: st)) : J x h u v pc lv (vR r :: st) := by
  obtain ⟨p, l, e, R, s, m, args, below, meth, c, Q, G, nL⟩ := x
  intro H locs ls hh hS hl T hT Y
  obtain rfl : R = rm := X.2.2.2.2.2.2.1
  have hb : c.code = cc := X.2.1
  have hsz : ls.size = nL := hl.1
  obtain ⟨m', kS, cfS, i0, p0, h1, h2, h3, h4, h5, h6, h7⟩ := hl9
  cases hnm.symm.trans h1
  obtain ⟨kS', hkS', hnameS⟩ := className_of_methodNamed hnm
  cases h2.symm.trans hkS'
  obtain ⟨bsm, nt, desc, site, hc, hnt, hsite, hpar⟩ := lm_shape h4
  obtain ⟨kK, hkK, htyK, hkindK⟩ := lm_types h6 h2 (X.2.2.2.1 _ hO) (by rw [hnameS]; exact hlay)
  have hsl : ((kK.instanceTypes.toList.zip [va_rf r]).map fun (t, v) => narrow t v) = [va_rf r] := by
    rw [htyK]
    show [narrow _ (va_rf r)] = _
    rw [rf_nar _ rfl]
  obtain ⟨X1, st1⟩ := Y.lambdaMakes X.1 (g := F0 m pc ls (va_rf r :: stm st)) rfl (by rw [X.2.2.2.2.2.1]; exact hsz) (by rw [hb]; exact d) (vals := [va_rf r]) (rest := stm st) h2 h5 h3 hc hnt (parseLong_of_parse hsite) (by rw [hpar, hcap]; rfl) rfl hkK
    (by rw [Y.admits.platform]; show 2 * 0 + ((va_rf r :: stm st).map fun v => v.category).sum + 3072 ≤ _; have h9 := stm_cat (vR r :: st); have h8 : ((va_rf r :: stm st).map fun v => v.category).sum = ((vR r :: st).map tvc).sum := h9; rw [h8, List.map_cons, List.sum_cons, show tvc (vR r) = 1 from rfl]; have h7 := hR; omega) hu (by rw [hsl]; exact hv)
    (fun i w hw9 => by
      rw [hsl] at hw9
      match i, hw9 with
      | 0, hw9 =>
        simp at hw9
        subst hw9
        simp [State.fitsSlot, State.slotType?, hkK, hkindK, htyK]
        exact rf_fit _ rfl r
      | i + 1, hw9 => simp at hw9)
  rw [hsl] at X1 st1
  have hTH : T.heap = H := hT
  generalize hH1 : H.push ({ cls := G.2.2.1 (20 + n + 100), slots := [va_rf r].toArray, vm := .none } : Cell) = H1
  have z1 : H1.size = H.size + 1 := by rw [← hH1, Array.size_push]
  have e1 : H1[H.size]? = some { cls := G.2.2.1 (20 + n + 100), slots := [va_rf r].toArray, vm := .none } := by rw [← hH1, Array.getElem?_push_size]
  have o1 : ∀ q : Nat, q < H.size → H1[q]? = H[q]? := fun q hq => by rw [← hH1, Array.getElem?_push, if_neg (Nat.ne_of_lt hq)]
  have hb9 : G.2.1 ≤ H.size := Nat.le_trans X.2.2.2.2.2.2.2.1 hS.1
  have hk9 := k _ _ (hw _ hh.fresh) H1 locs ls (hh.push hb9 (Or.inr ⟨by show 20 ≤ 20 + n; omega, e1⟩) o1) (ah_push_S hS (by omega) o1) hl
  obtain ⟨t, a1, b1⟩ := hk9 (T.pushCell { cls := G.2.2.1 (20 + n + 100), slots := [va_rf r].toArray, vm := .none }) (by rw [← hH1, ← hTH]; rfl) X1
  refine ⟨t, st1 t ?_, b1⟩
  rw [hTH]
  exact a1
theorem j_indyM {x : CX} {cc : ByteArray} {own : String} {rm : Room} {n9 : Nat} (X : Ok x cc own rm n9) {h : AH} {u v pc : Nat} {lv : List (Nat × TV)} {st : List TV} (n : Nat) {index : Nat} {r : Option Nat} {K : Nat → AH → Prop} (hnm : x.2.2.2.2.1.methodNamed? lm_out = some x.2.2.2.2.2.1) (d : decode cc pc = .ok (.invokedynamic index, 5)) (hn : (n = 1 ∧ pc = 15 ∧ index = 158) ∨ (n = 2 ∧ pc = 24 ∧ index = 161) ∨ (n = 3 ∧ pc = 33 ∧ index = 162)) (hO : Cond.instantiable "java/lang/Object" 0 ∈ lw_all) (hR : (st.map tvc).sum + 1 + 3072 ≤ rm.locals) (hu : u + 1 ≤ rm.cells) (hv : v + 1 ≤ rm.slots) (hw : mk h (.inr (20 + n, [va_rf r])) K) (k : ∀ q h', K q h' → J x h' (u + 1) (v + 1) (pc + 5) lv (vR (some q) :: st)) : J x h u v pc lv (vR r :: st) := by
  have hL : ah_Lm (xG x) x.2.2.2.2.1 := by
    obtain ⟨p, l, e, R, s, m, args, below, meth, c, Q, G, nL⟩ := x
    exact kt_L X.2.2.2.2.1.1
  rcases hn with ⟨rfl, rfl, rfl⟩ | ⟨rfl, rfl, rfl⟩ | ⟨rfl, rfl, rfl⟩
  · exact j_indyG X 1 hO hnm hL.2.1 lm_lay1 rfl (by decide) d hR hu hv hw k
  · exact j_indyG X 2 hO hnm hL.2.2.1 lm_lay2 rfl (by decide) d hR hu hv hw k
  · exact j_indyG X 3 hO hnm hL.2.2.2 lm_lay3 rfl (by decide) d hR hu hv hw k
/-! the lambdas' classes -/
theorem lm_obj {args : Array Value} {s : State} (hO : (Cond.instantiable "java/lang/Object" 0).before args s = true) : ∀ o ok, s.vm.findClass "java/lang/Object" = some o → s.vm.classes[o]? = some ok → ok.instanceTypes.size = 0 := by
  obtain ⟨cO, kO, hfO, hkO, -, -, -, hsz⟩ := Cond.instantiable_spec hO
  intro o ok h1 h2
  cases hfO.symm.trans h1
  cases hkO.symm.trans h2
  exact hsz
def lm_c0 : ByteArray := ⟨#[0x2b, 0xb8, 0, 17, 0xac]⟩
def lm_c1 : ByteArray := ⟨#[0x2a, 0xb4, 0, 15, 0x2b, 0xb6, 0, 22, 0xac]⟩
def lm_D0 : ClassFile := (lm_s0.file "Plugboard$Board").getD { minorVersion := 0, majorVersion := 0, constantPool := #[], accessFlags := 0, thisClass := 0, superClass := 0, interfaces := #[], fields := #[], methods := #[], attributes := #[] }
def lm_F0 : Method := ((layoutMethods lm_D0).bind (·[1]?)).getD default
def lm_L0 : Array Field × Array FieldType × Array FieldType := (layoutFields lm_D0 0).getD (#[], #[], #[])
theorem lm_file0 : lm_s0.file "Plugboard$Board" = some lm_D0 := by
  have h : (lm_s0.file "Plugboard$Board").isSome = true := by decide +kernel
  obtain ⟨x, hx⟩ := Option.isSome_iff_exists.mp h
  simp [lm_D0, hx]
theorem lm_second0 : ∀ ms, layoutMethods lm_D0 = some ms → ms[1]? = some lm_F0 := by
  intro ms hms
  have h : ((layoutMethods lm_D0).bind (·[1]?)).isSome = true := by decide +kernel
  obtain ⟨x, hx⟩ := Option.isSome_iff_exists.mp h
  have hf : lm_F0 = x := by simp [lm_F0, hx]
  rw [hms] at hx
  rw [hf]
  exact hx
theorem lm_laid0 : layoutFields lm_D0 0 = some lm_L0 := by
  have h : (layoutFields lm_D0 0).isSome = true := by decide +kernel
  obtain ⟨x, hx⟩ := Option.isSome_iff_exists.mp h
  simp [lm_L0, hx]
theorem lm_code0 : (lm_F0.code.map fun c => (c.code.data, c.maxLocals)) = some (lm_c0.data, 2) := by decide +kernel
theorem lm_flags0 : (lm_F0.accessFlags, lm_F0.name, lm_F0.sig.returnType) = (0x0001, "of", some FieldType.int) := by decide +kernel
theorem lm_eM0 : lm_D0.constantPool[17]? = some (.methodref 14 16) ∧ lm_D0.constantPool.className? 14 = some "Plugboard$Board" ∧ lm_D0.constantPool.nameAndType? 16 = some ("lambda$outcome$0", "(LPlugboard$Shape;)I") := by decide +kernel
theorem lm_eC0 : lm_D0.constantPool[14]? = some (.class_ 13) ∧ lm_D0.constantPool.string? 13 = some "Plugboard$Board" ∧ 14 ≠ lm_D0.thisClass := by decide +kernel
theorem lm_facts0 {e : Setting} {vm : Vm} {d c : ClassId} {dk : Class} (hd : vm.classes[d]? = some dk) (hname : dk.name = "Plugboard$Board") (h : Lambda.isMade e vm d lm_s0 c = true)
    (hO : ∀ o ok, vm.findClass "java/lang/Object" = some o → vm.classes[o]? = some ok → ok.instanceTypes.size = 0) :
    ∃ (k tk : Class) (file : ClassFile) (methk : Method) (ck : Code) (toy : ClassId) (t : MethodId),
      vm.classes[c]? = some k ∧ k.name = "Plugboard$Board$$Lambda" ∧ k.cf = some file ∧ file.constantPool = lm_D0.constantPool ∧
      vm.method? ⟨c, 1⟩ = some methk ∧ methk.code = some ck ∧ ck.code = lm_c0 ∧ ck.maxLocals = 2 ∧ methk.locks = false ∧ methk.accessFlags = 0x0001 ∧ methk.sig.returnType = some .int ∧
      vm.findClass "Plugboard$Board" = some toy ∧ vm.classes[toy]? = some tk ∧ tk.isInterface = false ∧ ((methodIn toy "lambda$outcome$0" "(LPlugboard$Shape;)I" tk.isInterface none).ask e vm).1 = .ok t ∧
      vm.methodReady c 17 t ∧ vm.classReady c 14 toy := by
  obtain ⟨dk', k, ok, tk, file, cf, object, iface, toy, lay, methods, target, found, hd', hk, hfile, hcf, hobj, -, hok, hlay, hms, ht, htk, hg, -, hrec, -, -, -, hitf, hpool, hmeth, hfields, -, hres, -⟩ := Lambda.isMade_spec h
  cases hd.symm.trans hd'
  rw [hname, lm_file0] at hcf
  cases hcf
  rw [hO object ok hobj hok, lm_laid0] at hlay
  cases hlay
  obtain ⟨b, hb, hsame⟩ := hmeth 1 lm_F0 (lm_second0 methods hms)
  simp only [Lambda.sameMethod, Bool.and_eq_true, decide_eq_true_eq] at hsame
  obtain ⟨⟨hn, -, hsig, hfl⟩, hcode⟩ := hsame
  have fc := lm_code0
  have ff := lm_flags0
  simp only [Prod.mk.injEq] at ff
  cases hfc : lm_F0.code with
  | none => rw [hfc] at fc; cases fc
  | some x =>
    cases hbc : b.code with
    | none => simp [hfc, hbc] at hcode
    | some y =>
      simp only [hfc, hbc, Bool.and_eq_true, decide_eq_true_eq] at hcode
      simp only [hfc, Option.map_some, Option.some.injEq, Prod.mk.injEq] at fc
      refine ⟨k, tk, file, b, y, toy, target, hk, by rw [hrec.1, hname]; rfl, hfile, hpool.2.1, by simp [Vm.method?, hk, hb], hbc, ?_, by rw [← hcode.1.1.1.1.2.1]; exact fc.2, ?_, by rw [← hfl]; exact ff.1, by rw [← hsig]; exact ff.2.2, ht, htk, hitf, hg,
        ⟨k, hk, hres 17 _ (Lambda.resolvedOf_method lm_eM0.1 lm_eM0.2.1 ht htk lm_eM0.2.2 hg)⟩, ⟨k, hk, hres 14 _ (Lambda.resolvedOf_class lm_eC0.1 lm_eC0.2.2 lm_eC0.2.1 ht)⟩⟩
      · rw [← hcode.1.1.1.1.2.2]
        exact ByteArray.ext fc.1
      · simp [Method.locks, Method.isSynchronized, ← hfl, ff.1, hasFlag, Acc.synchronized]
def lm_D1 : ClassFile := (lm_s1.file "Plugboard$Board").getD { minorVersion := 0, majorVersion := 0, constantPool := #[], accessFlags := 0, thisClass := 0, superClass := 0, interfaces := #[], fields := #[], methods := #[], attributes := #[] }
def lm_F1 : Method := ((layoutMethods lm_D1).bind (·[1]?)).getD default
def lm_L1 : Array Field × Array FieldType × Array FieldType := (layoutFields lm_D1 0).getD (#[], #[], #[])
theorem lm_file1 : lm_s1.file "Plugboard$Board" = some lm_D1 := by
  have h : (lm_s1.file "Plugboard$Board").isSome = true := by decide +kernel
  obtain ⟨x, hx⟩ := Option.isSome_iff_exists.mp h
  simp [lm_D1, hx]
theorem lm_second1 : ∀ ms, layoutMethods lm_D1 = some ms → ms[1]? = some lm_F1 := by
  intro ms hms
  have h : ((layoutMethods lm_D1).bind (·[1]?)).isSome = true := by decide +kernel
  obtain ⟨x, hx⟩ := Option.isSome_iff_exists.mp h
  have hf : lm_F1 = x := by simp [lm_F1, hx]
  rw [hms] at hx
  rw [hf]
  exact hx
theorem lm_laid1 : layoutFields lm_D1 0 = some lm_L1 := by
  have h : (layoutFields lm_D1 0).isSome = true := by decide +kernel
  obtain ⟨x, hx⟩ := Option.isSome_iff_exists.mp h
  simp [lm_L1, hx]
theorem lm_code1 : (lm_F1.code.map fun c => (c.code.data, c.maxLocals)) = some (lm_c1.data, 2) := by decide +kernel
theorem lm_flags1 : (lm_F1.accessFlags, lm_F1.name, lm_F1.sig.returnType) = (0x0001, "of", some FieldType.int) := by decide +kernel
theorem lm_eM1 : lm_D1.constantPool[22]? = some (.methodref 19 21) ∧ lm_D1.constantPool.className? 19 = some "Plugboard$Board" ∧ lm_D1.constantPool.nameAndType? 21 = some ("lambda$outcome$1", "(LPlugboard$Shape;)I") := by decide +kernel
theorem lm_eC1 : lm_D1.constantPool[19]? = some (.class_ 18) ∧ lm_D1.constantPool.string? 18 = some "Plugboard$Board" ∧ 19 ≠ lm_D1.thisClass := by decide +kernel
theorem lm_eF1 : lm_D1.constantPool[15]? = some (.fieldref 2 14) ∧ lm_D1.constantPool.nameAndType? 14 = some ("arg$1", "LPlugboard$Board;") ∧ lm_L1.1.findIdx? (·.name == "arg$1") = some 0 ∧ (lm_L1.1[0]?).map (fun f => (f.isStatic, f.slot)) = some (false, 0) := by decide +kernel
theorem lm_facts1 {e : Setting} {vm : Vm} {d c : ClassId} {dk : Class} (hd : vm.classes[d]? = some dk) (hname : dk.name = "Plugboard$Board") (h : Lambda.isMade e vm d lm_s1 c = true)
    (hO : ∀ o ok, vm.findClass "java/lang/Object" = some o → vm.classes[o]? = some ok → ok.instanceTypes.size = 0) :
    ∃ (k tk : Class) (file : ClassFile) (methk : Method) (ck : Code) (toy : ClassId) (t : MethodId) (f0 : Field),
      vm.classes[c]? = some k ∧ k.name = "Plugboard$Board$$Lambda" ∧ k.cf = some file ∧ file.constantPool = lm_D1.constantPool ∧
      vm.method? ⟨c, 1⟩ = some methk ∧ methk.code = some ck ∧ ck.code = lm_c1 ∧ ck.maxLocals = 2 ∧ methk.locks = false ∧ methk.accessFlags = 0x0001 ∧ methk.sig.returnType = some .int ∧
      vm.findClass "Plugboard$Board" = some toy ∧ vm.classes[toy]? = some tk ∧ tk.isInterface = false ∧ ((methodIn toy "lambda$outcome$1" "(LPlugboard$Shape;)I" tk.isInterface none).ask e vm).1 = .ok t ∧
      vm.methodReady c 22 t ∧ vm.classReady c 19 toy ∧ vm.fieldReady c 15 c f0 ∧ f0.isStatic = false ∧ f0.slot = 0 := by
  obtain ⟨dk', k, ok, tk, file, cf, object, iface, toy, lay, methods, target, found, hd', hk, hfile, hcf, hobj, -, hok, hlay, hms, ht, htk, hg, -, hrec, -, -, -, hitf, hpool, hmeth, hfields, -, hres, -⟩ := Lambda.isMade_spec h
  cases hd.symm.trans hd'
  rw [hname, lm_file1] at hcf
  cases hcf
  rw [hO object ok hobj hok, lm_laid1] at hlay
  cases hlay
  obtain ⟨b, hb, hsame⟩ := hmeth 1 lm_F1 (lm_second1 methods hms)
  simp only [Lambda.sameMethod, Bool.and_eq_true, decide_eq_true_eq] at hsame
  obtain ⟨⟨hn, -, hsig, hfl⟩, hcode⟩ := hsame
  have fc := lm_code1
  have ff := lm_flags1
  simp only [Prod.mk.injEq] at ff
  obtain ⟨g0, hg0, hp0⟩ := Option.map_eq_some_iff.mp lm_eF1.2.2.2
  simp only [Prod.mk.injEq] at hp0
  cases hfc : lm_F1.code with
  | none => rw [hfc] at fc; cases fc
  | some x =>
    cases hbc : b.code with
    | none => simp [hfc, hbc] at hcode
    | some y =>
      simp only [hfc, hbc, Bool.and_eq_true, decide_eq_true_eq] at hcode
      simp only [hfc, Option.map_some, Option.some.injEq, Prod.mk.injEq] at fc
      refine ⟨k, tk, file, b, y, toy, target, g0, hk, by rw [hrec.1, hname]; rfl, hfile, hpool.2.1, by simp [Vm.method?, hk, hb], hbc, ?_, by rw [← hcode.1.1.1.1.2.1]; exact fc.2, ?_, by rw [← hfl]; exact ff.1, by rw [← hsig]; exact ff.2.2, ht, htk, hitf, hg,
        ⟨k, hk, hres 22 _ (Lambda.resolvedOf_method lm_eM1.1 lm_eM1.2.1 ht htk lm_eM1.2.2 hg)⟩, ⟨k, hk, hres 19 _ (Lambda.resolvedOf_class lm_eC1.1 lm_eC1.2.2 lm_eC1.2.1 ht)⟩, ⟨k, 0, k, hk, hres 15 _ (Lambda.resolvedOf_field lm_eF1.1 lm_eF1.2.1 lm_eF1.2.2.1), hk, hfields 0 _ hg0⟩, hp0.1, hp0.2⟩
      · rw [← hcode.1.1.1.1.2.2]
        exact ByteArray.ext fc.1
      · simp [Method.locks, Method.isSynchronized, ← hfl, ff.1, hasFlag, Acc.synchronized]
def lm_D2 : ClassFile := (lm_s2.file "Plugboard$Board").getD { minorVersion := 0, majorVersion := 0, constantPool := #[], accessFlags := 0, thisClass := 0, superClass := 0, interfaces := #[], fields := #[], methods := #[], attributes := #[] }
def lm_F2 : Method := ((layoutMethods lm_D2).bind (·[1]?)).getD default
def lm_L2 : Array Field × Array FieldType × Array FieldType := (layoutFields lm_D2 0).getD (#[], #[], #[])
theorem lm_file2 : lm_s2.file "Plugboard$Board" = some lm_D2 := by
  have h : (lm_s2.file "Plugboard$Board").isSome = true := by decide +kernel
  obtain ⟨x, hx⟩ := Option.isSome_iff_exists.mp h
  simp [lm_D2, hx]
theorem lm_second2 : ∀ ms, layoutMethods lm_D2 = some ms → ms[1]? = some lm_F2 := by
  intro ms hms
  have h : ((layoutMethods lm_D2).bind (·[1]?)).isSome = true := by decide +kernel
  obtain ⟨x, hx⟩ := Option.isSome_iff_exists.mp h
  have hf : lm_F2 = x := by simp [lm_F2, hx]
  rw [hms] at hx
  rw [hf]
  exact hx
theorem lm_laid2 : layoutFields lm_D2 0 = some lm_L2 := by
  have h : (layoutFields lm_D2 0).isSome = true := by decide +kernel
  obtain ⟨x, hx⟩ := Option.isSome_iff_exists.mp h
  simp [lm_L2, hx]
theorem lm_code2 : (lm_F2.code.map fun c => (c.code.data, c.maxLocals)) = some (lm_c1.data, 2) := by decide +kernel
theorem lm_flags2 : (lm_F2.accessFlags, lm_F2.name, lm_F2.sig.returnType) = (0x0001, "of", some FieldType.int) := by decide +kernel
theorem lm_eM2 : lm_D2.constantPool[22]? = some (.methodref 19 21) ∧ lm_D2.constantPool.className? 19 = some "Plugboard$Board" ∧ lm_D2.constantPool.nameAndType? 21 = some ("lambda$outcome$2", "(LPlugboard$Shape;)I") := by decide +kernel
theorem lm_eC2 : lm_D2.constantPool[19]? = some (.class_ 18) ∧ lm_D2.constantPool.string? 18 = some "Plugboard$Board" ∧ 19 ≠ lm_D2.thisClass := by decide +kernel
theorem lm_eF2 : lm_D2.constantPool[15]? = some (.fieldref 2 14) ∧ lm_D2.constantPool.nameAndType? 14 = some ("arg$1", "LPlugboard$Board;") ∧ lm_L2.1.findIdx? (·.name == "arg$1") = some 0 ∧ (lm_L2.1[0]?).map (fun f => (f.isStatic, f.slot)) = some (false, 0) := by decide +kernel
theorem lm_facts2 {e : Setting} {vm : Vm} {d c : ClassId} {dk : Class} (hd : vm.classes[d]? = some dk) (hname : dk.name = "Plugboard$Board") (h : Lambda.isMade e vm d lm_s2 c = true)
    (hO : ∀ o ok, vm.findClass "java/lang/Object" = some o → vm.classes[o]? = some ok → ok.instanceTypes.size = 0) :
    ∃ (k tk : Class) (file : ClassFile) (methk : Method) (ck : Code) (toy : ClassId) (t : MethodId) (f0 : Field),
      vm.classes[c]? = some k ∧ k.name = "Plugboard$Board$$Lambda" ∧ k.cf = some file ∧ file.constantPool = lm_D2.constantPool ∧
      vm.method? ⟨c, 1⟩ = some methk ∧ methk.code = some ck ∧ ck.code = lm_c1 ∧ ck.maxLocals = 2 ∧ methk.locks = false ∧ methk.accessFlags = 0x0001 ∧ methk.sig.returnType = some .int ∧
      vm.findClass "Plugboard$Board" = some toy ∧ vm.classes[toy]? = some tk ∧ tk.isInterface = false ∧ ((methodIn toy "lambda$outcome$2" "(LPlugboard$Shape;)I" tk.isInterface none).ask e vm).1 = .ok t ∧
      vm.methodReady c 22 t ∧ vm.classReady c 19 toy ∧ vm.fieldReady c 15 c f0 ∧ f0.isStatic = false ∧ f0.slot = 0 := by
  obtain ⟨dk', k, ok, tk, file, cf, object, iface, toy, lay, methods, target, found, hd', hk, hfile, hcf, hobj, -, hok, hlay, hms, ht, htk, hg, -, hrec, -, -, -, hitf, hpool, hmeth, hfields, -, hres, -⟩ := Lambda.isMade_spec h
  cases hd.symm.trans hd'
  rw [hname, lm_file2] at hcf
  cases hcf
  rw [hO object ok hobj hok, lm_laid2] at hlay
  cases hlay
  obtain ⟨b, hb, hsame⟩ := hmeth 1 lm_F2 (lm_second2 methods hms)
  simp only [Lambda.sameMethod, Bool.and_eq_true, decide_eq_true_eq] at hsame
  obtain ⟨⟨hn, -, hsig, hfl⟩, hcode⟩ := hsame
  have fc := lm_code2
  have ff := lm_flags2
  simp only [Prod.mk.injEq] at ff
  obtain ⟨g0, hg0, hp0⟩ := Option.map_eq_some_iff.mp lm_eF2.2.2.2
  simp only [Prod.mk.injEq] at hp0
  cases hfc : lm_F2.code with
  | none => rw [hfc] at fc; cases fc
  | some x =>
    cases hbc : b.code with
    | none => simp [hfc, hbc] at hcode
    | some y =>
      simp only [hfc, hbc, Bool.and_eq_true, decide_eq_true_eq] at hcode
      simp only [hfc, Option.map_some, Option.some.injEq, Prod.mk.injEq] at fc
      refine ⟨k, tk, file, b, y, toy, target, g0, hk, by rw [hrec.1, hname]; rfl, hfile, hpool.2.1, by simp [Vm.method?, hk, hb], hbc, ?_, by rw [← hcode.1.1.1.1.2.1]; exact fc.2, ?_, by rw [← hfl]; exact ff.1, by rw [← hsig]; exact ff.2.2, ht, htk, hitf, hg,
        ⟨k, hk, hres 22 _ (Lambda.resolvedOf_method lm_eM2.1 lm_eM2.2.1 ht htk lm_eM2.2.2 hg)⟩, ⟨k, hk, hres 19 _ (Lambda.resolvedOf_class lm_eC2.1 lm_eC2.2.2 lm_eC2.2.1 ht)⟩, ⟨k, 0, k, hk, hres 15 _ (Lambda.resolvedOf_field lm_eF2.1 lm_eF2.2.1 lm_eF2.2.2.1), hk, hfields 0 _ hg0⟩, hp0.1, hp0.2⟩
      · rw [← hcode.1.1.1.1.2.2]
        exact ByteArray.ext fc.1
      · simp [Method.locks, Method.isSynchronized, ← hfl, ff.1, hasFlag, Acc.synchronized]
def lm_D3 : ClassFile := (lm_s3.file "Plugboard$Board").getD { minorVersion := 0, majorVersion := 0, constantPool := #[], accessFlags := 0, thisClass := 0, superClass := 0, interfaces := #[], fields := #[], methods := #[], attributes := #[] }
def lm_F3 : Method := ((layoutMethods lm_D3).bind (·[1]?)).getD default
def lm_L3 : Array Field × Array FieldType × Array FieldType := (layoutFields lm_D3 0).getD (#[], #[], #[])
theorem lm_file3 : lm_s3.file "Plugboard$Board" = some lm_D3 := by
  have h : (lm_s3.file "Plugboard$Board").isSome = true := by decide +kernel
  obtain ⟨x, hx⟩ := Option.isSome_iff_exists.mp h
  simp [lm_D3, hx]
theorem lm_second3 : ∀ ms, layoutMethods lm_D3 = some ms → ms[1]? = some lm_F3 := by
  intro ms hms
  have h : ((layoutMethods lm_D3).bind (·[1]?)).isSome = true := by decide +kernel
  obtain ⟨x, hx⟩ := Option.isSome_iff_exists.mp h
  have hf : lm_F3 = x := by simp [lm_F3, hx]
  rw [hms] at hx
  rw [hf]
  exact hx
theorem lm_laid3 : layoutFields lm_D3 0 = some lm_L3 := by
  have h : (layoutFields lm_D3 0).isSome = true := by decide +kernel
  obtain ⟨x, hx⟩ := Option.isSome_iff_exists.mp h
  simp [lm_L3, hx]
theorem lm_code3 : (lm_F3.code.map fun c => (c.code.data, c.maxLocals)) = some (lm_c1.data, 2) := by decide +kernel
theorem lm_flags3 : (lm_F3.accessFlags, lm_F3.name, lm_F3.sig.returnType) = (0x0001, "of", some FieldType.int) := by decide +kernel
theorem lm_eM3 : lm_D3.constantPool[22]? = some (.methodref 19 21) ∧ lm_D3.constantPool.className? 19 = some "Plugboard$Board" ∧ lm_D3.constantPool.nameAndType? 21 = some ("lambda$outcome$3", "(LPlugboard$Shape;)I") := by decide +kernel
theorem lm_eC3 : lm_D3.constantPool[19]? = some (.class_ 18) ∧ lm_D3.constantPool.string? 18 = some "Plugboard$Board" ∧ 19 ≠ lm_D3.thisClass := by decide +kernel
theorem lm_eF3 : lm_D3.constantPool[15]? = some (.fieldref 2 14) ∧ lm_D3.constantPool.nameAndType? 14 = some ("arg$1", "LPlugboard$Board;") ∧ lm_L3.1.findIdx? (·.name == "arg$1") = some 0 ∧ (lm_L3.1[0]?).map (fun f => (f.isStatic, f.slot)) = some (false, 0) := by decide +kernel
theorem lm_facts3 {e : Setting} {vm : Vm} {d c : ClassId} {dk : Class} (hd : vm.classes[d]? = some dk) (hname : dk.name = "Plugboard$Board") (h : Lambda.isMade e vm d lm_s3 c = true)
    (hO : ∀ o ok, vm.findClass "java/lang/Object" = some o → vm.classes[o]? = some ok → ok.instanceTypes.size = 0) :
    ∃ (k tk : Class) (file : ClassFile) (methk : Method) (ck : Code) (toy : ClassId) (t : MethodId) (f0 : Field),
      vm.classes[c]? = some k ∧ k.name = "Plugboard$Board$$Lambda" ∧ k.cf = some file ∧ file.constantPool = lm_D3.constantPool ∧
      vm.method? ⟨c, 1⟩ = some methk ∧ methk.code = some ck ∧ ck.code = lm_c1 ∧ ck.maxLocals = 2 ∧ methk.locks = false ∧ methk.accessFlags = 0x0001 ∧ methk.sig.returnType = some .int ∧
      vm.findClass "Plugboard$Board" = some toy ∧ vm.classes[toy]? = some tk ∧ tk.isInterface = false ∧ ((methodIn toy "lambda$outcome$3" "(LPlugboard$Shape;)I" tk.isInterface none).ask e vm).1 = .ok t ∧
      vm.methodReady c 22 t ∧ vm.classReady c 19 toy ∧ vm.fieldReady c 15 c f0 ∧ f0.isStatic = false ∧ f0.slot = 0 := by
  obtain ⟨dk', k, ok, tk, file, cf, object, iface, toy, lay, methods, target, found, hd', hk, hfile, hcf, hobj, -, hok, hlay, hms, ht, htk, hg, -, hrec, -, -, -, hitf, hpool, hmeth, hfields, -, hres, -⟩ := Lambda.isMade_spec h
  cases hd.symm.trans hd'
  rw [hname, lm_file3] at hcf
  cases hcf
  rw [hO object ok hobj hok, lm_laid3] at hlay
  cases hlay
  obtain ⟨b, hb, hsame⟩ := hmeth 1 lm_F3 (lm_second3 methods hms)
  simp only [Lambda.sameMethod, Bool.and_eq_true, decide_eq_true_eq] at hsame
  obtain ⟨⟨hn, -, hsig, hfl⟩, hcode⟩ := hsame
  have fc := lm_code3
  have ff := lm_flags3
  simp only [Prod.mk.injEq] at ff
  obtain ⟨g0, hg0, hp0⟩ := Option.map_eq_some_iff.mp lm_eF3.2.2.2
  simp only [Prod.mk.injEq] at hp0
  cases hfc : lm_F3.code with
  | none => rw [hfc] at fc; cases fc
  | some x =>
    cases hbc : b.code with
    | none => simp [hfc, hbc] at hcode
    | some y =>
      simp only [hfc, hbc, Bool.and_eq_true, decide_eq_true_eq] at hcode
      simp only [hfc, Option.map_some, Option.some.injEq, Prod.mk.injEq] at fc
      refine ⟨k, tk, file, b, y, toy, target, g0, hk, by rw [hrec.1, hname]; rfl, hfile, hpool.2.1, by simp [Vm.method?, hk, hb], hbc, ?_, by rw [← hcode.1.1.1.1.2.1]; exact fc.2, ?_, by rw [← hfl]; exact ff.1, by rw [← hsig]; exact ff.2.2, ht, htk, hitf, hg,
        ⟨k, hk, hres 22 _ (Lambda.resolvedOf_method lm_eM3.1 lm_eM3.2.1 ht htk lm_eM3.2.2 hg)⟩, ⟨k, hk, hres 19 _ (Lambda.resolvedOf_class lm_eC3.1 lm_eC3.2.2 lm_eC3.2.1 ht)⟩, ⟨k, 0, k, hk, hres 15 _ (Lambda.resolvedOf_field lm_eF3.1 lm_eF3.2.1 lm_eF3.2.2.1), hk, hfields 0 _ hg0⟩, hp0.1, hp0.2⟩
      · rw [← hcode.1.1.1.1.2.2]
        exact ByteArray.ext fc.1
      · simp [Method.locks, Method.isSynchronized, ← hfl, ff.1, hasFlag, Acc.synchronized]

