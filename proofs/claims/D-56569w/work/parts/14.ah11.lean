/-! a store that the row refuses -/
theorem fc_hid {vm : Vm} {name : String} {c : ClassId} {k : Class} (h : vm.findClass name = some c) (hk : vm.classes[c]? = some k) : k.hidden = none := by
  obtain ⟨hlt, hp, _⟩ := Array.findIdx?_eq_some_iff_getElem.mp h
  have e : vm.classes[c] = k := by simpa [hlt] using hk
  rw [e] at hp
  simp only [Bool.and_eq_true, Option.isNone_iff_eq_none] at hp
  exact hp.1.1.2
section ASE
variable {p : Program} {l : Launch} {e : Env} {R : Room} {s : State} {m : MethodId} {args : Array Value} {below : List Frame} {meth : Method} {c : Code} {T : State} {locs : List Loc} {cells slots : Nat}
theorem ase_out (X : Stand p l e R s m args below meth c T locs cells slots) (hexec : p.tables.exec = Jvm.exec) {a b : Addr} {cell cv : Cell} {j : Int32} {k kv : Class} {comp : ClassId} {ty : FieldType} {text : String} (hcell : T.heap[a]? = some cell) (hobj : ∀ q, cell.vm ≠ .statics q) (hknown : cell.vm ≠ .unknown) (hk : s.vm.classes[cell.cls]? = some k) (hkind : k.kind = .array comp ty)
    (hv : T.heap[b]? = some cv) (hvobj : ∀ q, cv.vm ≠ .statics q) (hkv : s.vm.classes[cv.cls]? = some kv) (hsh : kv.shown = text) (hcomp : ∃ kc, s.vm.classes[comp]? = some kc) (hinst : s.vm.assignable cv.cls comp = false) (hin : ¬ j < 0 ∧ j.toNatClampNeg < cell.slots.size)
    {g : JFrame} (hg : g.method = m) {rest : List Value} (hstack : g.stack = .ref b :: .int j :: .ref a :: rest) (hdg : decode c.code g.pc = .ok (.aastore, 1)) :
    ∀ target, Steps p.tables e below ((T.setTop { g with stack := rest }).pushFrame (.throwNew "java/lang/ArrayStoreException" (some text) none)) target → Steps p.tables e below (T.setTop g) target := by
  have hal : s.vm.Alike T.vm := X.warmed.alike
  obtain ⟨k1, hk1, hek⟩ := hal.2.2 _ _ hk
  have hkind1 : k1.kind = .array comp ty := by rw [hek]; exact hkind
  obtain ⟨kv1, hkv1, hev⟩ := hal.2.2 _ _ hkv
  obtain ⟨kc, hkc⟩ := hcomp
  obtain ⟨kc1, hkc1, -⟩ := hal.2.2 _ _ hkc
  have hsh1 : kv1.shown = text := by rw [hev]; exact hsh
  have hinst1 : T.vm.assignable cv.cls comp = false := by rw [hal.assignable]; exact hinst
  have harr : T.isArray cell := ⟨hobj, k1, hk1, comp, ty, hkind1⟩
  intro target hrest
  subst hg
  jvm_step X.here [hexec, hdg, aastore.sem, X.here.top, hstack, hcell, hobj, hknown, hk1, hkind1, hin.1, hin.2, Nat.not_le.mpr hin.2, harr, hv, hvobj, hkv1, hkc1, hinst1, hsh1]
  exact hrest
end ASE
theorem at_ase : ∀ w ∈ vx_atM "java/lang/ArrayStoreException" ["java/lang/RuntimeException", "java/lang/Exception"], w ∈ lw_tbl := ah_in _ [79, 332, 341, 350, 353, 355, 333, 334, 125, 126, 335, 340, 351, 368, 322, 369, 324, 370, 326, 336, 338, 328, 1027, 1028, 367, 328, 1837, 1838, 1839, 1021, 314, 1021, 1022, 1023, 1024, 316, 1024, 1025, 1026, 1027, 318, 105, 979, 841, 1044, 1046, 1045, 1047, 118, 1836, 1847, 1848, 345, 1842, 1843, 1845, 1841, 366, 330, 1840] (by decide +kernel)
def s_F (h : AH) (r : Option Nat) (i : Int32) (w : Option Nat) (K : AH → Prop) (KX : Prop) : Prop := ∃ a n f, r = some a ∧ h.1 a = some (.inl (12, n, .inr (.inr (.inr (.inr f))))) ∧ vp_in i n ∧ ∃ b ci fs, w = some b ∧ h.1 b = some (.inr (ci, fs)) ∧ ((ci = 7 ∧ K (ah_up h a (.inl (12, n, .inr (.inr (.inr (.inr (va_up f i.toNatClampNeg w)))))))) ∨ (ci = 8 ∧ KX))
theorem j_aastF {x : CX} {cc : ByteArray} {own : String} {rm : Room} {n9 : Nat} (X : Ok x cc own rm n9) {h : AH} {u v pc : Nat} {lv : List (Nat × TV)} {st : List TV} {r w : Option Nat} {i : Int32} {K : AH → Prop} {KX : Prop} (hR : 6 < rm.frames ∧ (st.map tvc).sum + 10240 ≤ rm.locals) (hu : u + 3 ≤ rm.cells) (hv : v + 25 ≤ rm.slots) (d : decode cc pc = .ok (.aastore, 1)) (hw : s_F h r i w K KX) (kk : ∀ h', K h' → J x h' u v (pc + 1) lv st) (kx : KX → JX x "java/lang/ArrayStoreException" h (u + 3) (v + 25) pc lv st) : J x h u v pc lv (vR w :: vI i :: vR r :: st) := by
  obtain ⟨a, n, f, rfl, he, hin, b, ci, fs, rfl, he9, hc⟩ := hw
  rcases hc with ⟨rfl, hK⟩ | ⟨rfl, hK⟩
  · exact j_aast X 12 (by decide) rfl d ⟨a, n, f, rfl, he, hin, Or.inr ⟨b, _, rfl, he9, rfl⟩, hK⟩ (fun h' hk => kk h' hk)
  · obtain ⟨p, l, e, R, s, m, args, below, meth, c, Q, G, nL⟩ := x
    intro H locs ls hh hS hl T hT Y
    obtain rfl : R = rm := X.2.2.2.2.2.2.1
    have hb : c.code = cc := X.2.1
    have hsz : ls.size = nL := hl.1
    obtain ⟨kA, comp, r1, r2, r3, -⟩ := (X.2.2.2.2.1.1.1.2 12 _ (ah_tys_at G (by decide))).2
    obtain ⟨cell, g1, g2, g3⟩ := ah_recv X.2.2.2.2.1.1.1 hh he9 (by decide) (rfl : vwCl[8]? = some _)
    obtain ⟨kv, hkv, hkn⟩ := Vm.findClass_spec g3
    obtain ⟨kc, hkc, -⟩ := Vm.findClass_spec r3
    obtain ⟨c0, t0, f1, f2, f3⟩ := kt_N X.2.2.2.2.1.1 ("Plugboard$Panel", "Plugboard$Frame") (by decide +kernel)
    cases g3.symm.trans f1
    cases r3.symm.trans f2
    have hsh : kv.shown = "Plugboard$Panel" := by
      unfold Class.shown
      rw [fc_hid g3 hkv, hkn]
      show dotted "Plugboard$Panel" = "Plugboard$Panel"
      decide +kernel
    have hslz : (vp_cell (G.2.2.1 12) (n, .inr (.inr (.inr (.inr f))))).slots.size = n := arrV_size _ _ _
    have st1 := ase_out Y X.1 (a := a) (b := b) (j := i) (text := "Plugboard$Panel") (cell := vp_cell (G.2.2.1 12) (n, .inr (.inr (.inr (.inr f))))) (by rw [hT]; exact (hh.2 a _ he).1.2.2) (fun q h => by cases h) (fun h => by cases h) r1 r2 (by rw [hT]; exact g1) (fun q h => by rw [h] at g2; cases g2) hkv hsh ⟨kc, hkc⟩ f3 ⟨fun q => hin (Or.inl q), by rw [hslz]; exact Nat.not_le.mp fun q => hin (Or.inr q)⟩ (g := F0 m pc ls (.ref b :: .int i :: .ref a :: stm st)) rfl rfl (by rw [hb]; exact d)
    have hgw : (vx_atM "java/lang/ArrayStoreException" ["java/lang/RuntimeException", "java/lang/Exception"]).all vx_tw = true := by decide +kernel
    have hn := vx_vm (m := m) (args := args) (pc := pc) (ls := ls) (rest := stm st) (A := ah_A G) (nb := 15) (Q := Q) X.1 X.2.2.2.2.2.2.2.2.1 (cls := "java/lang/ArrayStoreException") (text := "Plugboard$Panel") (names := ["java/lang/RuntimeException", "java/lang/Exception"]) (by decide +kernel) (by decide +kernel) rfl rfl
      (fun w hw9 => ah_word X.2.2.2.1 X.2.2.2.2.1.1 (at_ase w hw9) (Bool.and_eq_true_iff.mp (List.all_eq_true.mp hgw w hw9)).1) (fun w hw9 => (Bool.and_eq_true_iff.mp (List.all_eq_true.mp hgw w hw9)).2) X.2.2.2.2.1.2.2.2.2.2.1 X.2.2.2.2.1.2.2.2.2.2.2 hS (by rw [X.2.2.2.2.2.1]; exact hsz) (by decide +kernel) (by decide +kernel) (by decide) hR.1 (by rw [stm_cat]; exact hR.2) (by decide) hu hv X.2.2.2.2.2.2.2.2.2.1
      (fun H1 q9 ce z1 o1 hS1 c1 c2 c3 => kx hK H1 locs ls q9 ce (hh.kept o1) hS1 hl c1 c2 c3)
    obtain ⟨t, a1, b1⟩ := hn T hT Y
    exact ⟨t, st1 t a1, b1⟩
