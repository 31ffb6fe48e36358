/-! THE CLAIM OUT OF ONE WALK OF THE LAW'S BODY. Your part is whole_start (and what it stands on); all else here is the same for every law, but numbers. -/
def R_law : String := "PlugboardLaw"
def lw_P (b : Addr) (xs : List Int32) (args : Array Value) (s : State) : Prop := args = #[.ref b] ∧ s.IntsAt b xs ∧ xs.length ≤ 168 ∧ (Jvm.Cond.and given_1 narrow_1).before args s = true
def lw_Q (_ : Array Value) (s : State) (o : Outcome) (t : State) : Prop := o = .returned (some (.int 1)) ∧ Framed s o t [] 1200144 5496826
def lw_Z (below : List Frame) (a : Array Value) (s : State) : State → Prop := fun t => ∃ o, t.status = .running ∧ Ended t below o ∧ lw_Q a s o t
/-- the law's own end, with 1 on the stack, nothing written that was there before, its room as the claim has it -/
theorem lw_ret {p : Program} {l : Launch} {e : Env} {s : State} {m : MethodId} {below : List Frame} {meth : Method} {c : Code} {b : Nat} (hx : p.tables.exec = Jvm.exec) (hb : c.code = code) (hr : meth.sig.returnType = ret) (hlocks : meth.locks = false) {pc : Nat} {H : Heap} {ls : Array Slot} (hdg : decode code pc = .ok (.ireturn, 1)) : W p l e room_1 s m #[Value.ref b] below meth c H [] 1200144 5496826 (lw_Z below #[Value.ref b] s) (F0 m pc ls [.int 1]) := by
  intro T hT X
  obtain ⟨fs, hret, hrun, hended, hW, hframe⟩ := X.leave (v := some (.int 1)) (hlocks := hlocks) (fun h => by rw [hr] at h; cases h)
  have hmeth' : T.vm.method? m = some meth := X.method'
  refine ⟨T.setFrames fs, ?_, .returned (some (.int 1)), hrun, hended, rfl, ⟨_, rfl⟩, hW, hframe⟩
  jvm_step X.here [X.here.top, hx, hb, hdg, hmeth', hr, ret, narrow_b1]
  (try refine ⟨rfl, ?_⟩); (try refine ⟨rfl, ?_⟩)
  first | (intro acts; rw [hret _ acts rfl rfl rfl]) | rw [hret _ _ rfl rfl rfl]
  exact Steps.refl _
/-- what holds at the law's entry: the machine, the code, the tables' words (any of lw_tbl by 'hts w (by decide +kernel)'), the script of L ints xs at the cell b, what the Statement gives of the start (any of its parts by flat_of_before) -/
def lw_At (p : Program) (s : State) (m : MethodId) (meth : Method) (c : Code) (b L : Nat) (xs : Nat → Int32) : Prop :=
  p.tables.exec = Jvm.exec ∧ c.code = code ∧ meth.sig.returnType = ret ∧ c.maxLocals = 9 ∧ s.vm.findClass R_law = some m.cls ∧ (∀ w ∈ lw_tbl, w.before #[Value.ref b] s = true) ∧ va_X b L xs s s.heap ∧ b < s.heap.size ∧ meth.locks = false ∧ (Jvm.Cond.and given_1 narrow_1).before #[Value.ref b] s = true
def xl_ (x : CX) (P : Int32 → AH → Prop) : Prop := match x with
  | (p, l, e, R, s, m, args, below, meth, c, Q, G, nL) => (∀ a h, P a h → a = 1) ∧ R = room_1 ∧ c.code = code ∧ meth.sig.returnType = ret ∧ G.2.1 = s.heap.size ∧ ∃ b : Nat, args = #[Value.ref b] ∧ Q = lw_Z below #[Value.ref b] s
theorem j_endL {x : CX} {cc : ByteArray} {own : String} {rm : Room} {n9 : Nat} (X : Ok x cc own rm n9) {h : AH} {u v pc : Nat} {lv : List (Nat × TV)} {a : Int32} {P : Int32 → AH → Prop} (hQ : xl_ x P) (hu : u ≤ 1200144) (hv : v ≤ 5496826) (d : decode code pc = .ok (.ireturn, 1)) (hw : P a h) : J x h u v pc lv [vI a] := by
  obtain ⟨p, l, e, R, s, m, args, below, meth, c, Q, G, nL⟩ := x
  obtain ⟨hP, rfl, hc, hr, hG, b, rfl, rfl⟩ := hQ
  obtain rfl := hP a h hw
  intro H locs ls hh hS hl
  refine W.widen hu hv ?_
  intro T hT Y
  have hlocks : meth.locks = false := X.2.2.2.2.2.2.2.2.2.1
  have Y' : Stand p l e room_1 s m #[Value.ref b] below meth c T [] 1200144 5496826 := Stand.dropFresh (locs := []) (J := locs) Y (fun z hz => by
    have h9 : G.2.1 ≤ z.base := hS.2.2 z hz
    rw [hG] at h9
    exact h9)
  exact lw_ret X.1 hc hr hlocks d T hT Y'
theorem j_tab {x : CX} {cc : ByteArray} {own : String} {rm : Room} {n9 : Nat} (X : Ok x cc own rm n9) {h : AH} {u v pc : Nat} {lv : List (Nat × TV)} {st : List TV} {df hi : Int} {offs : Array Int} {len : Nat} {a : Int32} (d : decode cc pc = .ok (.tableswitch df 0 hi offs, len)) (hsz : hi + 1 = (offs.size : Int)) (hn : offs.size ≤ 1000) (kk : ∀ (i : Nat) (off : Int), offs[i]? = some off → a = Int32.ofNat i → ∃ tgt : Nat, (pc : Int) + off = (tgt : Int) ∧ J x h u v tgt lv st) (kd : (∀ i : Nat, i < offs.size → ¬ a = Int32.ofNat i) → ∃ tgt : Nat, (pc : Int) + df = (tgt : Int) ∧ J x h u v tgt lv st) : J x h u v pc lv (vI a :: st) := by
  by_cases h0 : a.toInt < 0 ∨ hi < a.toInt
  · obtain ⟨tgt, ht, hk⟩ := kd (fun i hi9 ha => by
      have h1 : a.toInt = (i : Int) := by
        rw [ha, Int32.toInt_ofNat_of_lt (by omega)]
      omega)
    obtain ⟨p, l, e, R, s, m, args, below, meth, c, Q, G, nL⟩ := x
    intro H locs ls hh hS hl
    exact lv_tableOut X.1 X.2.1 d h0 ht (hk H locs ls hh hS hl)
  · have h1 : ¬ a.toInt < 0 := fun q => h0 (Or.inl q)
    have h2 : ¬ hi < a.toInt := fun q => h0 (Or.inr q)
    have hlt : (a.toInt - 0).toNat < offs.size := by omega
    obtain ⟨tgt, ht, hk⟩ := kk (a.toInt - 0).toNat offs[(a.toInt - 0).toNat] (Array.getElem?_eq_getElem hlt) (by
      apply Int32.toInt_inj.mp
      rw [Int32.toInt_ofNat_of_lt (by omega)]
      omega)
    obtain ⟨p, l, e, R, s, m, args, below, meth, c, Q, G, nL⟩ := x
    intro H locs ls hh hS hl
    exact lv_tableIn X.1 X.2.1 d h1 h2 (Array.getElem?_eq_getElem hlt) ht (hk H locs ls hh hS hl)
