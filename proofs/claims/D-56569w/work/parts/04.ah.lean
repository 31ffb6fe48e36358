/-! THE ABSTRACT HEAP: an entry is an array (type tag, length, contents) or an object (number of its class in vwCl, field values); the second component: addresses of constants -/
abbrev AE : Type := (Nat × vp_A) ⊕ (Nat × List Value)
abbrev AH : Type := (Nat → Option AE) × (Nat → Nat)
def ah_up (h : AH) (a : Nat) (e : AE) : AH := (fun q => if q = a then some e else h.1 q, h.2)
theorem ah_up_1 (h : AH) (a : Nat) (e : AE) : (ah_up h a e).1 a = some e := by simp [ah_up]
theorem ah_up_n (h : AH) {a q : Nat} (e : AE) (hq : q ≠ a) : (ah_up h a e).1 q = h.1 q := by simp [ah_up, hq]
theorem ah_up_c (h : AH) (a : Nat) (e : AE) : (ah_up h a e).2 = h.2 := rfl
/-- what a run knows: the classes and their slots, the base (all that is written lies at or above it), the array classes by tag (lambda classes behind), the constants' addresses -/
abbrev GG : Type := va_G × Nat × (Nat → ClassId) × (Nat → Nat)
def ah_ty (t : Nat) : FieldType := match t with
  | 0 => .int | 1 => .boolean | 2 => .byte | 3 => .short | 4 => .char | 5 => .long | 6 => .int | 7 => .double
  | 8 => .object "java/lang/Object" | 9 => .object "Plugboard$Board" | 10 => .object "Plugboard$Operation" | 11 => .object "Plugboard$Asked" | 12 => .object "Plugboard$Frame"
  | 13 => .array .int | 14 => .array .boolean
  | 32 => .int | 33 => .object "java/lang/Object" | 34 => .object "java/lang/Integer"
  | _ => .int
/-- what nobody writes -/
def ah_ro (e : AE) : Bool := match e with
  | .inl x => Nat.ble 32 x.1
  | .inr o => Nat.beq o.1 17 || Nat.beq o.1 20
def ah_tys (G : GG) : List (ClassId × FieldType) := (List.range 48).map fun t => (G.2.2.1 t, ah_ty t)
theorem ah_tys_at (G : GG) {t : Nat} (h : t < 48) : (ah_tys G)[t]? = some (G.2.2.1 t, ah_ty t) := by
  unfold ah_tys
  rw [List.getElem?_map, List.getElem?_range h]
  rfl
def ah_A (G : GG) : Nat → Prop := fun q => G.2.1 ≤ q
/-- nobody holds the monitor of an object of class 0 (but of the exempt one) -/
def ah_mon (G : GG) (a ci : Nat) (H : Heap) : Prop := ci = 0 → a ≠ G.2.2.1 99 → ∃ cell : Cell, H[a]? = some cell ∧ cell.monitor.owner = none ∧ cell.monitor.count = 0
theorem ah_mon.kept {G : GG} {a ci : Nat} {H H1 : Heap} (h : ah_mon G a ci H) (hq : H1[a]? = H[a]?) : ah_mon G a ci H1 := fun h0 hn => by
  obtain ⟨c, h1, h2⟩ := h h0 hn
  exact ⟨c, hq.trans h1, h2⟩
theorem ah_mon.slot {G : GG} {a ci : Nat} {H H1 : Heap} (h : ah_mon G a ci H) {cell : Cell} (hc : H[a]? = some cell) {k : Nat} {v : Value} (e1 : H1[a]? = some (cell.setSlot k v)) : ah_mon G a ci H1 := fun h0 hn => by
  obtain ⟨c, h1, h2, h3⟩ := h h0 hn
  cases hc.symm.trans h1
  exact ⟨_, e1, h2, h3⟩
def ah_at (G : GG) (a : Nat) (e : AE) (H : Heap) : Prop := match e with
  | .inl x => x.1 < 48 ∧ (∀ f, x.2.2 = .inr (.inr (.inr (.inr f))) → (ah_ty x.1).isReference = true) ∧ H[a]? = some (vp_cell (G.2.2.1 x.1) x.2)
  | .inr o => (o.1 < 20 ∧ va_at G.1 vwCl (a, .inr o) H ∧ ah_mon G a o.1 H) ∨ (20 ≤ o.1 ∧ H[a]? = some { cls := G.2.2.1 (o.1 + 100), slots := o.2.toArray, vm := .none })
def ah_P (G : GG) (h : AH) (H : Heap) : Prop := h.2 = G.2.2.2 ∧ ∀ a e, h.1 a = some e → ah_at G a e H ∧ (ah_ro e = false → G.2.1 ≤ a)
theorem ah_at.kept {G : GG} {a : Nat} {e : AE} {H H1 : Heap} (h : ah_at G a e H) (hq : H1[a]? = H[a]?) : ah_at G a e H1 := by
  cases e with
  | inl x => exact ⟨h.1, h.2.1, hq.trans h.2.2⟩
  | inr o =>
    rcases h with ⟨h1, h2, h3⟩ | ⟨h1, h2⟩
    · exact Or.inl ⟨h1, h2.kept hq, h3.kept hq⟩
    · exact Or.inr ⟨h1, hq.trans h2⟩
theorem ah_at.mon {G : GG} {a ci : Nat} {fs : List Value} {H : Heap} (h : ah_at G a (.inr (ci, fs)) H) (hci : ci < 20) : ah_mon G a ci H := by
  rcases h with ⟨_, _, h3⟩ | ⟨h1, _⟩
  · exact h3
  · exact absurd h1 (by show ¬ 20 ≤ ci; omega)
theorem ah_at.lt {G : GG} {a : Nat} {e : AE} {H : Heap} (h : ah_at G a e H) : a < H.size := by
  cases e with
  | inl x => exact (Array.getElem?_eq_some_iff.mp h.2.2).1
  | inr o =>
    rcases h with ⟨h1, h2, -⟩ | ⟨h1, h2⟩
    · exact h2.lt
    · exact (Array.getElem?_eq_some_iff.mp h2).1
theorem ah_P.obj {G : GG} {h : AH} {H : Heap} (hP : ah_P G h H) {a ci : Nat} {fs : List Value} (he : h.1 a = some (.inr (ci, fs))) (hc : ci < 20) : va_P G.1 vwCl [(a, .inr (ci, fs))] H := by
  intro k q hk
  cases k with
  | zero =>
    cases hk
    rcases (hP.2 a _ he).1 with ⟨_, h2, _⟩ | ⟨h1, _⟩
    · exact h2
    · exact absurd h1 (by omega)
  | succ k => simp at hk
theorem ah_P.arr {G : GG} {h : AH} {H : Heap} (hP : ah_P G h H) {a t : Nat} {x : vp_A} (he : h.1 a = some (.inl (t, x))) : va_P G.1 vwCl [(a, .inl (G.2.2.1 t, x))] H := by
  intro k q hk
  cases k with
  | zero =>
    cases hk
    exact (hP.2 a _ he).1.2.2
  | succ k => simp at hk
theorem ah_P.tlt {G : GG} {h : AH} {H : Heap} (hP : ah_P G h H) {a t : Nat} {x : vp_A} (he : h.1 a = some (.inl (t, x))) : t < 48 := (hP.2 a _ he).1.1
theorem ah_P.tref {G : GG} {h : AH} {H : Heap} (hP : ah_P G h H) {a t n : Nat} {f : Nat → Option Nat} (he : h.1 a = some (.inl (t, n, .inr (.inr (.inr (.inr f)))))) : (ah_ty t).isReference = true := (hP.2 a _ he).1.2.1 f rfl
theorem ah_P.lt {G : GG} {h : AH} {H : Heap} (hP : ah_P G h H) {a : Nat} {e : AE} (he : h.1 a = some e) : a < H.size := (hP.2 a e he).1.lt
theorem ah_P.fresh {G : GG} {h : AH} {H : Heap} (hP : ah_P G h H) : h.1 H.size = none := by
  cases he : h.1 H.size with
  | none => rfl
  | some e => exact absurd (hP.lt he) (Nat.lt_irrefl _)
theorem ah_P.kept {G : GG} {h : AH} {H H1 : Heap} (hP : ah_P G h H) (hq : ∀ q : Nat, q < H.size → H1[q]? = H[q]?) : ah_P G h H1 :=
  ⟨hP.1, fun a e he => ⟨(hP.2 a e he).1.kept (hq a (hP.lt he)), (hP.2 a e he).2⟩⟩
theorem ah_P.set {G : GG} {h : AH} {H H1 : Heap} (hP : ah_P G h H) {a : Nat} {e : AE} (hb : G.2.1 ≤ a) (he : ah_at G a e H1) (oq : ∀ q : Nat, q ≠ a → H1[q]? = H[q]?) : ah_P G (ah_up h a e) H1 := by
  refine ⟨hP.1, fun q e1 h1 => ?_⟩
  by_cases hq : q = a
  · subst hq
    rw [ah_up_1] at h1
    cases h1
    exact ⟨he, fun _ => hb⟩
  · rw [ah_up_n h e hq] at h1
    exact ⟨(hP.2 q e1 h1).1.kept (oq q hq), (hP.2 q e1 h1).2⟩
theorem ah_P.push {G : GG} {h : AH} {H H1 : Heap} (hP : ah_P G h H) {e : AE} (hb : G.2.1 ≤ H.size) (he : ah_at G H.size e H1) (oq : ∀ q : Nat, q < H.size → H1[q]? = H[q]?) : ah_P G (ah_up h H.size e) H1 := by
  refine ⟨hP.1, fun q e1 h1 => ?_⟩
  by_cases hq : q = H.size
  · subst hq
    rw [ah_up_1] at h1
    cases h1
    exact ⟨he, fun _ => hb⟩
  · rw [ah_up_n h e hq] at h1
    exact ⟨(hP.2 q e1 h1).1.kept (oq q (hP.lt h1)), (hP.2 q e1 h1).2⟩
/-- the words of the tables that ride in no list -/
def ah_nwk (w : Cond) : Bool := match w with
  | .fieldLinkNest .. => true
  | .methodLinkNest .. => true
  | .castable .. => true
  | .declares .. => true
  | _ => false
theorem ah_nw_warm {w : Cond} (hk : ah_nwk w = true) {s U : State} (hW : s.WarmedH U.vm) (h : va_Nw w s) : va_Nw w U := by
  cases w <;> first | exact va_Nw.warmF hW h | exact va_Nw.warmM hW h | exact va_Nw.warmC hW h | exact va_Nw.warmD hW h | (simp [ah_nwk] at hk)
def ah_Oa (t : FieldType) (U : State) : Prop := (Cond.arrayOver (.array t)).before #[] U = true
theorem ah_idx_bare (vm : Vm) (comp : ClassId) : (vm.bare.classes.findIdx? fun (x : Class) => match x.kind with | .array component _ => component == comp | _ => false) = (vm.classes.findIdx? fun (x : Class) => match x.kind with | .array component _ => component == comp | _ => false) := by
  simp only [Vm.bare, Array.findIdx?_map]
  rfl
theorem ah_Oa.moved {t : FieldType} {u U : State} (hvm : u.vm.Alike U.vm) (h : ah_Oa t u) : ah_Oa t U := by
  obtain ⟨comp, c, k, h1, h2, h3, h4, h5⟩ := arrayOverA_spec h
  obtain ⟨k', hk', he⟩ := hvm.2.2 _ _ h3
  have hi : (U.vm.classes.findIdx? fun (x : Class) => match x.kind with | .array component _ => component == comp | _ => false) = some c := by
    refine (ah_idx_bare U.vm comp).symm.trans ?_
    refine Eq.trans (congrArg (fun (v : Vm) => v.classes.findIdx? fun (x : Class) => match x.kind with | .array component _ => component == comp | _ => false) (show U.vm.bare = u.vm.bare by first | exact hvm.bare_eq | exact hvm.bare_eq.symm)) ?_
    exact (ah_idx_bare u.vm comp).trans h2
  have hkind : k'.kind = .array comp (.array t) := by rw [he]; exact h4
  have f1 : U.vm.findClass (FieldType.array t).toString = some comp := by rw [hvm.findClass]; exact h1
  have f2 : U.vm.findClass ("[" ++ (FieldType.array t).toString) = some c := by rw [hvm.findClass]; exact h5
  unfold ah_Oa Cond.before Cond.holds
  simp only [Cond.value]
  rw [f1, Option.bind_some]
  refine (congrArg (fun o : Option Nat => (o.bind (fun c => (U.vm.classes[c]?).map fun (k : Class) => match k.kind with | .array _ ty => decide (ty = FieldType.array t) && decide (U.vm.findClass ("[" ++ (FieldType.array t).toString) = some c) | _ => false) == some true)) hi).trans ?_
  simp [hk', hkind, f2]
abbrev ah_F1 (U : State) : Prop := va_Fw "Plugboard$Board$1" ⟨"java/lang/Iterable", "iterator", "()Ljava/util/Iterator;"⟩ ⟨"Plugboard$Board$1", "iterator", "()Ljava/util/Iterator;"⟩ U
abbrev ah_F2 (U : State) : Prop := va_Fw "Plugboard$Board$Seen" ⟨"java/util/Iterator", "hasNext", "()Z"⟩ ⟨"Plugboard$Board$Seen", "hasNext", "()Z"⟩ U
abbrev ah_F3 (U : State) : Prop := va_Fw "Plugboard$Board$Seen" ⟨"java/util/Iterator", "next", "()Ljava/lang/Object;"⟩ ⟨"Plugboard$Board$Seen", "next", "()Ljava/lang/Object;"⟩ U
abbrev ah_F4 (U : State) : Prop := va_Fw "Plugboard$ByStamp" ⟨"Plugboard$Later", "isLater", "(Ljava/lang/Object;Ljava/lang/Object;)Z"⟩ ⟨"Plugboard$ByStamp", "isLater", "(Ljava/lang/Object;Ljava/lang/Object;)Z"⟩ U
/-- which classes are not to be cast to which (of the premises) -/
def ah_nc : List (String × String) := [("java/lang/IllegalArgumentException", "java/lang/IllegalStateException"), ("java/lang/IllegalArgumentException", "java/util/NoSuchElementException"), ("java/lang/IllegalArgumentException", "java/lang/UnsupportedOperationException"), ("java/lang/IllegalArgumentException", "java/lang/IndexOutOfBoundsException"), ("java/lang/IllegalArgumentException", "java/lang/ArithmeticException"), ("java/lang/IllegalArgumentException", "java/lang/ArrayStoreException"), ("java/lang/IllegalStateException", "java/lang/IllegalArgumentException"), ("java/lang/IllegalStateException", "java/util/NoSuchElementException"), ("java/lang/IllegalStateException", "java/lang/UnsupportedOperationException"), ("java/lang/IllegalStateException", "java/lang/IndexOutOfBoundsException"), ("java/lang/IllegalStateException", "java/lang/ArithmeticException"), ("java/lang/IllegalStateException", "java/lang/ArrayStoreException"), ("java/util/NoSuchElementException", "java/lang/IllegalArgumentException"), ("java/util/NoSuchElementException", "java/lang/IllegalStateException"), ("java/util/NoSuchElementException", "java/lang/UnsupportedOperationException"), ("java/util/NoSuchElementException", "java/lang/IndexOutOfBoundsException"), ("java/util/NoSuchElementException", "java/lang/ArithmeticException"), ("java/util/NoSuchElementException", "java/lang/ArrayStoreException"), ("java/lang/UnsupportedOperationException", "java/lang/IllegalArgumentException"), ("java/lang/UnsupportedOperationException", "java/lang/IllegalStateException"), ("java/lang/UnsupportedOperationException", "java/util/NoSuchElementException"), ("java/lang/UnsupportedOperationException", "java/lang/IndexOutOfBoundsException"), ("java/lang/UnsupportedOperationException", "java/lang/ArithmeticException"), ("java/lang/UnsupportedOperationException", "java/lang/ArrayStoreException"), ("java/lang/IndexOutOfBoundsException", "java/lang/IllegalArgumentException"), ("java/lang/IndexOutOfBoundsException", "java/lang/IllegalStateException"), ("java/lang/IndexOutOfBoundsException", "java/util/NoSuchElementException"), ("java/lang/IndexOutOfBoundsException", "java/lang/UnsupportedOperationException"), ("java/lang/IndexOutOfBoundsException", "java/lang/ArithmeticException"), ("java/lang/IndexOutOfBoundsException", "java/lang/ArrayStoreException"), ("java/lang/ArithmeticException", "java/lang/IllegalArgumentException"), ("java/lang/ArithmeticException", "java/lang/IllegalStateException"), ("java/lang/ArithmeticException", "java/util/NoSuchElementException"), ("java/lang/ArithmeticException", "java/lang/UnsupportedOperationException"), ("java/lang/ArithmeticException", "java/lang/IndexOutOfBoundsException"), ("java/lang/ArithmeticException", "java/lang/ArrayStoreException"), ("java/lang/ArrayStoreException", "java/lang/IllegalArgumentException"), ("java/lang/ArrayStoreException", "java/lang/IllegalStateException"), ("java/lang/ArrayStoreException", "java/util/NoSuchElementException"), ("java/lang/ArrayStoreException", "java/lang/UnsupportedOperationException"), ("java/lang/ArrayStoreException", "java/lang/IndexOutOfBoundsException"), ("java/lang/ArrayStoreException", "java/lang/ArithmeticException"), ("Plugboard$Panel", "Plugboard$Frame")]
def ah_N (U : State) : Prop := ∀ q ∈ ah_nc, va_Nc q.1 q.2 U
theorem ah_N.moved {u U : State} (hvm : u.vm.Alike U.vm) (h : ah_N u) : ah_N U := fun q hq => (h q hq).moved hvm
/-! the places of the lambdas -/
abbrev lm_out : MethodName := ⟨"Plugboard$Board", "outcome", "()I"⟩
def lm_s0 : Lambda.Shape := ({ iface := "Plugboard$Asked", name := "of", sam := ({ parameters := [(Jvm.ClassFile.FieldType.object "Plugboard$Shape")], returnType := (Option.some Jvm.ClassFile.FieldType.int) } : Jvm.ClassFile.MethodDescriptor), captured := [], kind := 6, implClass := "Plugboard$Board", implName := "lambda$outcome$0", implDesc := ({ parameters := [(Jvm.ClassFile.FieldType.object "Plugboard$Shape")], returnType := (Option.some Jvm.ClassFile.FieldType.int) } : Jvm.ClassFile.MethodDescriptor), implItf := false, inst := ({ parameters := [(Jvm.ClassFile.FieldType.object "Plugboard$Shape")], returnType := (Option.some Jvm.ClassFile.FieldType.int) } : Jvm.ClassFile.MethodDescriptor) } : Jvm.Lambda.Shape)
def lm_s1 : Lambda.Shape := ({ iface := "Plugboard$Asked", name := "of", sam := ({ parameters := [(Jvm.ClassFile.FieldType.object "Plugboard$Shape")], returnType := (Option.some Jvm.ClassFile.FieldType.int) } : Jvm.ClassFile.MethodDescriptor), captured := [(Jvm.ClassFile.FieldType.object "Plugboard$Board")], kind := 5, implClass := "Plugboard$Board", implName := "lambda$outcome$1", implDesc := ({ parameters := [(Jvm.ClassFile.FieldType.object "Plugboard$Shape")], returnType := (Option.some Jvm.ClassFile.FieldType.int) } : Jvm.ClassFile.MethodDescriptor), implItf := false, inst := ({ parameters := [(Jvm.ClassFile.FieldType.object "Plugboard$Shape")], returnType := (Option.some Jvm.ClassFile.FieldType.int) } : Jvm.ClassFile.MethodDescriptor) } : Jvm.Lambda.Shape)
def lm_s2 : Lambda.Shape := ({ iface := "Plugboard$Asked", name := "of", sam := ({ parameters := [(Jvm.ClassFile.FieldType.object "Plugboard$Shape")], returnType := (Option.some Jvm.ClassFile.FieldType.int) } : Jvm.ClassFile.MethodDescriptor), captured := [(Jvm.ClassFile.FieldType.object "Plugboard$Board")], kind := 5, implClass := "Plugboard$Board", implName := "lambda$outcome$2", implDesc := ({ parameters := [(Jvm.ClassFile.FieldType.object "Plugboard$Shape")], returnType := (Option.some Jvm.ClassFile.FieldType.int) } : Jvm.ClassFile.MethodDescriptor), implItf := false, inst := ({ parameters := [(Jvm.ClassFile.FieldType.object "Plugboard$Shape")], returnType := (Option.some Jvm.ClassFile.FieldType.int) } : Jvm.ClassFile.MethodDescriptor) } : Jvm.Lambda.Shape)
def lm_s3 : Lambda.Shape := ({ iface := "Plugboard$Asked", name := "of", sam := ({ parameters := [(Jvm.ClassFile.FieldType.object "Plugboard$Shape")], returnType := (Option.some Jvm.ClassFile.FieldType.int) } : Jvm.ClassFile.MethodDescriptor), captured := [(Jvm.ClassFile.FieldType.object "Plugboard$Board")], kind := 5, implClass := "Plugboard$Board", implName := "lambda$outcome$3", implDesc := ({ parameters := [(Jvm.ClassFile.FieldType.object "Plugboard$Shape")], returnType := (Option.some Jvm.ClassFile.FieldType.int) } : Jvm.ClassFile.MethodDescriptor), implItf := false, inst := ({ parameters := [(Jvm.ClassFile.FieldType.object "Plugboard$Shape")], returnType := (Option.some Jvm.ClassFile.FieldType.int) } : Jvm.ClassFile.MethodDescriptor) } : Jvm.Lambda.Shape)
def lm_at (pc index : Nat) (σ : Lambda.Shape) (c : ClassId) (lk : Linked) (U : State) : Prop := ∃ (m : MethodId) (k : Class) (cf : ClassFile) (i0 p0 : Nat), U.methodNamed? lm_out = some m ∧ U.vm.classes[m.cls]? = some k ∧ k.cf = some cf ∧ Lambda.shapeOf? cf index = some σ ∧ (k.callSites.find? fun y => y.1 == m.idx && y.2.1 == pc) = some (i0, p0, lk) ∧ Lambda.isMade { classPath := fun _ => none } U.vm m.cls σ c = true ∧ U.lambdaCallable σ c = true
theorem lm_at.moved {pc index : Nat} {σ : Lambda.Shape} {c : ClassId} {lk : Linked} {s U : State} (hW : s.WarmedH U.vm) (h : lm_at pc index σ c lk s) : lm_at pc index σ c lk U := by
  obtain ⟨m, k, cf, i0, p0, h1, h2, h3, h4, h5, h6, h7⟩ := h
  obtain ⟨k', hk', he⟩ := hW.alike.2.2 _ _ h2
  have h1' : U.methodNamed? lm_out = some m := by
    have h9 := State.methodNamed?_setVm (s := s) hW.alike lm_out
    rw [h1] at h9
    exact h9
  have h7' : U.lambdaCallable σ c = true := by
    have hA := hW.alike
    simp only [State.lambdaCallable, hA.findClass, hA.assignable, hA.superclasses, hA.declaredIn] at h7 ⊢
    exact h7
  exact ⟨m, k', cf, i0, p0, h1', hk', by rw [he]; exact h3, h4, by rw [he]; exact h5, Lambda.isMade_warmer hW h6, h7'⟩
def ah_Lm (G : GG) (U : State) : Prop := lm_at 6 154 lm_s0 (G.2.2.1 120) (.constant (G.2.2.2 3)) U ∧ lm_at 15 158 lm_s1 (G.2.2.1 121) (.makes (G.2.2.1 121)) U ∧ lm_at 24 161 lm_s2 (G.2.2.1 122) (.makes (G.2.2.1 122)) U ∧ lm_at 33 162 lm_s3 (G.2.2.1 123) (.makes (G.2.2.1 123)) U
theorem ah_Lm.moved {G : GG} {s U : State} (hW : s.WarmedH U.vm) (h : ah_Lm G s) : ah_Lm G U := ⟨h.1.moved hW, h.2.1.moved hW, h.2.2.1.moved hW, h.2.2.2.moved hW⟩
/-- tables: what of them no heap changes -/
def ah_Kt (G : GG) (U : State) : Prop :=
  va_K G.1 vwCl (ah_tys G) U ∧ (∀ w ∈ lw_tbl, ah_nwk w = true → va_Nw w U) ∧
  va_Mi "[Ljava/lang/Object;" (G.2.2.2 2) U ∧ ah_F1 U ∧ ah_F2 U ∧ ah_F3 U ∧ ah_F4 U ∧
  va_AO "java/lang/Object" U ∧ va_AO "Plugboard$Board" U ∧ va_AO "Plugboard$Operation" U ∧ va_AO "Plugboard$Asked" U ∧ va_AO "Plugboard$Frame" U ∧ ah_Oa .int U ∧ ah_Oa .boolean U ∧ va_Dc U ∧ ah_N U ∧ ah_Lm G U
/-- statics -/
def ah_Ks (G : GG) (U : State) (H : Heap) : Prop :=
  va_Z "java/util/ArrayList" "DEFAULTCAPACITY_EMPTY_ELEMENTDATA" "[Ljava/lang/Object;" (.ref (G.2.2.2 0)) (ah_A G) U H ∧
  va_Z "java/lang/Integer$IntegerCache" "high" "I" (.int 127) (ah_A G) U H ∧
  va_Z "java/lang/Integer$IntegerCache" "cache" "[Ljava/lang/Integer;" (.ref (G.2.2.2 1)) (ah_A G) U H ∧
  va_Z "java/lang/Math" "negativeZeroFloatBits" "J" (.long (-2147483648)) (ah_A G) U H ∧
  vx_Zq Bundle.tN "UNASSIGNED_STACK" Bundle.steD (ah_A G) U H ∧ vx_Zq Bundle.tN "SUPPRESSED_SENTINEL" Bundle.listD (ah_A G) U H
def ah_K (G : GG) (U : State) (H : Heap) : Prop := ah_Kt G U ∧ ah_Ks G U H
theorem ah_K.warm {G : GG} {s U : State} {H : Heap} (hW : s.WarmedH U.vm) (h : ah_K G s H) : ah_K G U H := by
  have hvm := hW.alike
  obtain ⟨⟨k1, k2, k3, k4, k5, k6, k7, k8, k9, k10, k11, k12, k13, k14, k15, k16, k17⟩, z1, z2, z3, z4, z5, z6⟩ := h
  exact ⟨⟨k1.moved hvm, fun w hw hk => ah_nw_warm hk hW (k2 w hw hk), k3.moved hvm, k4.moved (by decide +kernel) hvm, k5.moved (by decide +kernel) hvm, k6.moved (by decide +kernel) hvm, k7.moved (by decide +kernel) hvm,
    k8.moved hvm, k9.moved hvm, k10.moved hvm, k11.moved hvm, k12.moved hvm, k13.moved hvm, k14.moved hvm, k15.moved hvm, k16.moved hvm, k17.moved hW⟩, z1.moved hvm, z2.moved hvm, z3.moved hvm, z4.moved hvm, z5.moved hvm, z6.moved hvm⟩
theorem ah_K.kept {G : GG} {U : State} {H H1 : Heap} (h : ah_K G U H) (hq : ∀ a : Nat, a < H.size → ¬ ah_A G a → H1[a]? = H[a]?) : ah_K G U H1 := by
  obtain ⟨k, z1, z2, z3, z4, z5, z6⟩ := h
  exact ⟨k, z1.kept hq, z2.kept hq, z3.kept hq, z4.kept hq, z5.kept hq, z6.kept hq⟩
/-! typed values -/
abbrev TV : Type := Int32 ⊕ (Option Nat) ⊕ Int64 ⊕ UInt32 ⊕ UInt64
def vI (x : Int32) : TV := .inl x
def vR (r : Option Nat) : TV := .inr (.inl r)
def vL (x : Int64) : TV := .inr (.inr (.inl x))
def vF (x : UInt32) : TV := .inr (.inr (.inr (.inl x)))
def vD (x : UInt64) : TV := .inr (.inr (.inr (.inr x)))
def tv (x : TV) : Value := match x with
  | .inl x => .int x
  | .inr (.inl r) => va_rf r
  | .inr (.inr (.inl x)) => .long x
  | .inr (.inr (.inr (.inl x))) => .float x
  | .inr (.inr (.inr (.inr x))) => .double x
def tvc (x : TV) : Nat := match x with
  | .inl _ => 1
  | .inr (.inl _) => 1
  | .inr (.inr (.inl _)) => 2
  | .inr (.inr (.inr (.inl _))) => 1
  | .inr (.inr (.inr (.inr _))) => 2
theorem tv_cat (x : TV) : (tv x).category = tvc x := by
  rcases x with x | r | x | x | x <;> first | rfl | (cases r <;> rfl)
def lvm (lv : List (Nat × TV)) : List (Nat × Value) := lv.map fun q => (q.1, tv q.2)
theorem lvm_at {lv : List (Nat × TV)} {k i : Nat} {v : TV} (h : lv[k]? = some (i, v)) : (lvm lv)[k]? = some (i, tv v) := by
  unfold lvm
  rw [List.getElem?_map, h]
  rfl
theorem lvm_f1 (lv : List (Nat × TV)) (i : Nat) : (lvm lv).filter (fun q => !(q.1 == i) && !(q.1 + 1 == i && q.2.category == 2)) = lvm (lv.filter (fun q => !(q.1 == i) && !(q.1 + 1 == i && tvc q.2 == 2))) := by
  unfold lvm
  rw [List.filter_map]
  congr 1
  apply List.filter_congr
  intro q _
  simp [tv_cat]
theorem lvm_f2 (lv : List (Nat × TV)) (i : Nat) : (lvm lv).filter (fun q => !(q.1 == i) && (!(q.1 == i + 1) && !(q.1 + 1 == i && q.2.category == 2))) = lvm (lv.filter (fun q => !(q.1 == i) && (!(q.1 == i + 1) && !(q.1 + 1 == i && tvc q.2 == 2)))) := by
  unfold lvm
  rw [List.filter_map]
  congr 1
  apply List.filter_congr
  intro q _
  simp [tv_cat]
theorem lvm_pick {lv lv' : List (Nat × TV)} (ks : List Nat) (h : ks.filterMap (fun k => lv[k]?) = lv') : lv_pick (lvm lv) ks = lvm lv' := by
  subst h
  unfold lv_pick lvm
  induction ks with
  | nil => rfl
  | cons k ks ih =>
    rw [List.filterMap_cons, List.filterMap_cons, List.getElem?_map]
    cases h : lv[k]? with
    | none => simpa [h] using ih
    | some q => simpa [h] using ih
def stm (st : List TV) : List Value := st.map tv
theorem stm_cat (st : List TV) : ((stm st).map fun v => v.category).sum = (st.map tvc).sum := by
  unfold stm
  rw [List.map_map]
  congr 1
  apply List.map_congr_left
  intro v _
  exact tv_cat v
/-! a method's body: what stays, and the judgement -/
abbrev CX : Type := Program × Launch × Env × Room × State × MethodId × Array Value × List Frame × Method × Code × (State → Prop) × GG × Nat
def J (x : CX) (h : AH) (u v pc : Nat) (lv : List (Nat × TV)) (st : List TV) : Prop :=
  match x with
  | (p, l, e, R, s, m, args, below, meth, c, Q, G, nL) => ∀ (H : Heap) (locs : List Loc) (ls : Array Slot), ah_P G h H → va_S (ah_A G) s.heap H locs → lv_has ls nL (lvm lv) → W p l e R s m args below meth c H locs u v Q (F0 m pc ls (stm st))
def Ok (x : CX) (cc : ByteArray) (own : String) (rm : Room) (n9 : Nat) : Prop :=
  match x with
  | (p, l, e, R, s, m, args, below, meth, c, Q, G, nL) => p.tables.exec = Jvm.exec ∧ c.code = cc ∧ s.vm.findClass own = some m.cls ∧ (∀ w ∈ lw_all, w.before args s = true) ∧ ah_K G s s.heap ∧ c.maxLocals = nL ∧ R = rm ∧ G.2.1 ≤ s.heap.size ∧ l.stackTraces = false ∧ meth.locks = false ∧ nL = n9
theorem j_iconst {x : CX} {cc : ByteArray} {own : String} {rm : Room} {n9 : Nat} (X : Ok x cc own rm n9) {h : AH} {u v pc : Nat} {lv : List (Nat × TV)} {st : List TV} {n : Int} (w : Int32) (d : decode cc pc = .ok (.iconst n, 1)) (hw : Int32.ofInt n = w) (k : J x h u v (pc + 1) lv (vI w :: st)) : J x h u v pc lv (st) := by
  obtain ⟨p, l, e, R, s, m, args, below, meth, c, Q, G, nL⟩ := x
  intro H locs ls hh hS hl
  exact lv_iconst X.1 X.2.1 d hw (k H locs ls hh hS hl)
theorem j_bipush {x : CX} {cc : ByteArray} {own : String} {rm : Room} {n9 : Nat} (X : Ok x cc own rm n9) {h : AH} {u v pc : Nat} {lv : List (Nat × TV)} {st : List TV} {n : Int} (w : Int32) (d : decode cc pc = .ok (.bipush n, 2)) (hw : (Int8.ofInt n).toInt32 = w) (k : J x h u v (pc + 2) lv (vI w :: st)) : J x h u v pc lv (st) := by
  obtain ⟨p, l, e, R, s, m, args, below, meth, c, Q, G, nL⟩ := x
  intro H locs ls hh hS hl
  exact lv_bipush X.1 X.2.1 d hw (k H locs ls hh hS hl)
theorem j_sipush {x : CX} {cc : ByteArray} {own : String} {rm : Room} {n9 : Nat} (X : Ok x cc own rm n9) {h : AH} {u v pc : Nat} {lv : List (Nat × TV)} {st : List TV} {n : Int} (w : Int32) (d : decode cc pc = .ok (.sipush n, 3)) (hw : (Int16.ofInt n).toInt32 = w) (k : J x h u v (pc + 3) lv (vI w :: st)) : J x h u v pc lv (st) := by
  obtain ⟨p, l, e, R, s, m, args, below, meth, c, Q, G, nL⟩ := x
  intro H locs ls hh hS hl
  exact lv_sipush X.1 X.2.1 d hw (k H locs ls hh hS hl)
theorem j_lconst {x : CX} {cc : ByteArray} {own : String} {rm : Room} {n9 : Nat} (X : Ok x cc own rm n9) {h : AH} {u v pc : Nat} {lv : List (Nat × TV)} {st : List TV} {n : Fin 2} (w : Int64) (d : decode cc pc = .ok (.lconst n, 1)) (hw : Int64.ofNat (n : Nat) = w) (k : J x h u v (pc + 1) lv (vL w :: st)) : J x h u v pc lv (st) := by
  obtain ⟨p, l, e, R, s, m, args, below, meth, c, Q, G, nL⟩ := x
  intro H locs ls hh hS hl
  exact lv_lconst X.1 X.2.1 d hw (k H locs ls hh hS hl)
theorem j_fconst0 {x : CX} {cc : ByteArray} {own : String} {rm : Room} {n9 : Nat} (X : Ok x cc own rm n9) {h : AH} {u v pc : Nat} {lv : List (Nat × TV)} {st : List TV} (d : decode cc pc = .ok (.fconst 0, 1)) (k : J x h u v (pc + 1) lv (vF FP.fconst0 :: st)) : J x h u v pc lv (st) := by
  obtain ⟨p, l, e, R, s, m, args, below, meth, c, Q, G, nL⟩ := x
  intro H locs ls hh hS hl
  exact lv_fconst0 X.1 X.2.1 d (k H locs ls hh hS hl)
theorem j_fconst1 {x : CX} {cc : ByteArray} {own : String} {rm : Room} {n9 : Nat} (X : Ok x cc own rm n9) {h : AH} {u v pc : Nat} {lv : List (Nat × TV)} {st : List TV} (d : decode cc pc = .ok (.fconst 1, 1)) (k : J x h u v (pc + 1) lv (vF FP.fconst1 :: st)) : J x h u v pc lv (st) := by
  obtain ⟨p, l, e, R, s, m, args, below, meth, c, Q, G, nL⟩ := x
  intro H locs ls hh hS hl
  exact lv_fconst1 X.1 X.2.1 d (k H locs ls hh hS hl)
theorem j_fconst2 {x : CX} {cc : ByteArray} {own : String} {rm : Room} {n9 : Nat} (X : Ok x cc own rm n9) {h : AH} {u v pc : Nat} {lv : List (Nat × TV)} {st : List TV} (d : decode cc pc = .ok (.fconst 2, 1)) (k : J x h u v (pc + 1) lv (vF FP.fconst2 :: st)) : J x h u v pc lv (st) := by
  obtain ⟨p, l, e, R, s, m, args, below, meth, c, Q, G, nL⟩ := x
  intro H locs ls hh hS hl
  exact lv_fconst2 X.1 X.2.1 d (k H locs ls hh hS hl)
theorem j_dconst0 {x : CX} {cc : ByteArray} {own : String} {rm : Room} {n9 : Nat} (X : Ok x cc own rm n9) {h : AH} {u v pc : Nat} {lv : List (Nat × TV)} {st : List TV} (d : decode cc pc = .ok (.dconst 0, 1)) (k : J x h u v (pc + 1) lv (vD FP.dconst0 :: st)) : J x h u v pc lv (st) := by
  obtain ⟨p, l, e, R, s, m, args, below, meth, c, Q, G, nL⟩ := x
  intro H locs ls hh hS hl
  exact lv_dconst0 X.1 X.2.1 d (k H locs ls hh hS hl)
theorem j_dconst1 {x : CX} {cc : ByteArray} {own : String} {rm : Room} {n9 : Nat} (X : Ok x cc own rm n9) {h : AH} {u v pc : Nat} {lv : List (Nat × TV)} {st : List TV} (d : decode cc pc = .ok (.dconst 1, 1)) (k : J x h u v (pc + 1) lv (vD FP.dconst1 :: st)) : J x h u v pc lv (st) := by
  obtain ⟨p, l, e, R, s, m, args, below, meth, c, Q, G, nL⟩ := x
  intro H locs ls hh hS hl
  exact lv_dconst1 X.1 X.2.1 d (k H locs ls hh hS hl)
theorem j_null {x : CX} {cc : ByteArray} {own : String} {rm : Room} {n9 : Nat} (X : Ok x cc own rm n9) {h : AH} {u v pc : Nat} {lv : List (Nat × TV)} {st : List TV} (d : decode cc pc = .ok (.aconst_null, 1)) (k : J x h u v (pc + 1) lv (vR none :: st)) : J x h u v pc lv (st) := by
  obtain ⟨p, l, e, R, s, m, args, below, meth, c, Q, G, nL⟩ := x
  intro H locs ls hh hS hl
  exact lv_null X.1 X.2.1 d (k H locs ls hh hS hl)
theorem j_iload_n {x : CX} {cc : ByteArray} {own : String} {rm : Room} {n9 : Nat} (X : Ok x cc own rm n9) {h : AH} {u v pc : Nat} {lv : List (Nat × TV)} {st : List TV} {kk : Fin 4} {i : Nat} (q : Nat) {z : Int32} (d : decode cc pc = .ok (.iload_n kk, 1)) (hi : (kk : Nat) = i) (hq : lv[q]? = some (i, vI z)) (k : J x h u v (pc + 1) lv (vI z :: st)) : J x h u v pc lv (st) := by
  obtain ⟨p, l, e, R, s, m, args, below, meth, c, Q, G, nL⟩ := x
  intro H locs ls hh hS hl
  exact lv_iload_n X.1 X.2.1 d hi (lv_at hl q (lvm_at hq)) (k H locs ls hh hS hl)
theorem j_iload {x : CX} {cc : ByteArray} {own : String} {rm : Room} {n9 : Nat} (X : Ok x cc own rm n9) {h : AH} {u v pc : Nat} {lv : List (Nat × TV)} {st : List TV} {i : Nat} (q : Nat) {z : Int32} (d : decode cc pc = .ok (.iload i, 2)) (hq : lv[q]? = some (i, vI z)) (k : J x h u v (pc + 2) lv (vI z :: st)) : J x h u v pc lv (st) := by
  obtain ⟨p, l, e, R, s, m, args, below, meth, c, Q, G, nL⟩ := x
  intro H locs ls hh hS hl
  exact lv_iload X.1 X.2.1 d (lv_at hl q (lvm_at hq)) (k H locs ls hh hS hl)
theorem j_lload_n {x : CX} {cc : ByteArray} {own : String} {rm : Room} {n9 : Nat} (X : Ok x cc own rm n9) {h : AH} {u v pc : Nat} {lv : List (Nat × TV)} {st : List TV} {kk : Fin 4} {i : Nat} (q : Nat) {z : Int64} (d : decode cc pc = .ok (.lload_n kk, 1)) (hi : (kk : Nat) = i) (hq : lv[q]? = some (i, vL z)) (k : J x h u v (pc + 1) lv (vL z :: st)) : J x h u v pc lv (st) := by
  obtain ⟨p, l, e, R, s, m, args, below, meth, c, Q, G, nL⟩ := x
  intro H locs ls hh hS hl
  exact lv_lload_n X.1 X.2.1 d hi (lv_at hl q (lvm_at hq)) (k H locs ls hh hS hl)
theorem j_lload {x : CX} {cc : ByteArray} {own : String} {rm : Room} {n9 : Nat} (X : Ok x cc own rm n9) {h : AH} {u v pc : Nat} {lv : List (Nat × TV)} {st : List TV} {i : Nat} (q : Nat) {z : Int64} (d : decode cc pc = .ok (.lload i, 2)) (hq : lv[q]? = some (i, vL z)) (k : J x h u v (pc + 2) lv (vL z :: st)) : J x h u v pc lv (st) := by
  obtain ⟨p, l, e, R, s, m, args, below, meth, c, Q, G, nL⟩ := x
  intro H locs ls hh hS hl
  exact lv_lload X.1 X.2.1 d (lv_at hl q (lvm_at hq)) (k H locs ls hh hS hl)
theorem j_fload_n {x : CX} {cc : ByteArray} {own : String} {rm : Room} {n9 : Nat} (X : Ok x cc own rm n9) {h : AH} {u v pc : Nat} {lv : List (Nat × TV)} {st : List TV} {kk : Fin 4} {i : Nat} (q : Nat) {z : UInt32} (d : decode cc pc = .ok (.fload_n kk, 1)) (hi : (kk : Nat) = i) (hq : lv[q]? = some (i, vF z)) (k : J x h u v (pc + 1) lv (vF z :: st)) : J x h u v pc lv (st) := by
  obtain ⟨p, l, e, R, s, m, args, below, meth, c, Q, G, nL⟩ := x
  intro H locs ls hh hS hl
  exact lv_fload_n X.1 X.2.1 d hi (lv_at hl q (lvm_at hq)) (k H locs ls hh hS hl)
theorem j_fload {x : CX} {cc : ByteArray} {own : String} {rm : Room} {n9 : Nat} (X : Ok x cc own rm n9) {h : AH} {u v pc : Nat} {lv : List (Nat × TV)} {st : List TV} {i : Nat} (q : Nat) {z : UInt32} (d : decode cc pc = .ok (.fload i, 2)) (hq : lv[q]? = some (i, vF z)) (k : J x h u v (pc + 2) lv (vF z :: st)) : J x h u v pc lv (st) := by
  obtain ⟨p, l, e, R, s, m, args, below, meth, c, Q, G, nL⟩ := x
  intro H locs ls hh hS hl
  exact lv_fload X.1 X.2.1 d (lv_at hl q (lvm_at hq)) (k H locs ls hh hS hl)
theorem j_dload_n {x : CX} {cc : ByteArray} {own : String} {rm : Room} {n9 : Nat} (X : Ok x cc own rm n9) {h : AH} {u v pc : Nat} {lv : List (Nat × TV)} {st : List TV} {kk : Fin 4} {i : Nat} (q : Nat) {z : UInt64} (d : decode cc pc = .ok (.dload_n kk, 1)) (hi : (kk : Nat) = i) (hq : lv[q]? = some (i, vD z)) (k : J x h u v (pc + 1) lv (vD z :: st)) : J x h u v pc lv (st) := by
  obtain ⟨p, l, e, R, s, m, args, below, meth, c, Q, G, nL⟩ := x
  intro H locs ls hh hS hl
  exact lv_dload_n X.1 X.2.1 d hi (lv_at hl q (lvm_at hq)) (k H locs ls hh hS hl)
theorem j_dload {x : CX} {cc : ByteArray} {own : String} {rm : Room} {n9 : Nat} (X : Ok x cc own rm n9) {h : AH} {u v pc : Nat} {lv : List (Nat × TV)} {st : List TV} {i : Nat} (q : Nat) {z : UInt64} (d : decode cc pc = .ok (.dload i, 2)) (hq : lv[q]? = some (i, vD z)) (k : J x h u v (pc + 2) lv (vD z :: st)) : J x h u v pc lv (st) := by
  obtain ⟨p, l, e, R, s, m, args, below, meth, c, Q, G, nL⟩ := x
  intro H locs ls hh hS hl
  exact lv_dload X.1 X.2.1 d (lv_at hl q (lvm_at hq)) (k H locs ls hh hS hl)
theorem j_aload_n {x : CX} {cc : ByteArray} {own : String} {rm : Room} {n9 : Nat} (X : Ok x cc own rm n9) {h : AH} {u v pc : Nat} {lv : List (Nat × TV)} {st : List TV} {kk : Fin 4} {i : Nat} (q : Nat) {z : Option Nat} (d : decode cc pc = .ok (.aload_n kk, 1)) (hi : (kk : Nat) = i) (hq : lv[q]? = some (i, vR z)) (k : J x h u v (pc + 1) lv (vR z :: st)) : J x h u v pc lv (st) := by
  obtain ⟨p, l, e, R, s, m, args, below, meth, c, Q, G, nL⟩ := x
  intro H locs ls hh hS hl
  cases z with
  | none => exact lv_aload_nN X.1 X.2.1 d hi (lv_at hl q (lvm_at hq)) (k H locs ls hh hS hl)
  | some z => exact lv_aload_n X.1 X.2.1 d hi (lv_at hl q (lvm_at hq)) (k H locs ls hh hS hl)
theorem j_aload {x : CX} {cc : ByteArray} {own : String} {rm : Room} {n9 : Nat} (X : Ok x cc own rm n9) {h : AH} {u v pc : Nat} {lv : List (Nat × TV)} {st : List TV} {i : Nat} (q : Nat) {z : Option Nat} (d : decode cc pc = .ok (.aload i, 2)) (hq : lv[q]? = some (i, vR z)) (k : J x h u v (pc + 2) lv (vR z :: st)) : J x h u v pc lv (st) := by
  obtain ⟨p, l, e, R, s, m, args, below, meth, c, Q, G, nL⟩ := x
  intro H locs ls hh hS hl
  cases z with
  | none => exact lv_aloadN X.1 X.2.1 d (lv_at hl q (lvm_at hq)) (k H locs ls hh hS hl)
  | some z => exact lv_aload X.1 X.2.1 d (lv_at hl q (lvm_at hq)) (k H locs ls hh hS hl)
theorem j_istore_n {x : CX} {cc : ByteArray} {own : String} {rm : Room} {n9 : Nat} (X : Ok x cc own rm n9) {h : AH} {u v pc : Nat} {lv : List (Nat × TV)} {st : List TV} {kk : Fin 4} {i : Nat} {z : Int32} (lv' : List (Nat × TV)) (d : decode cc pc = .ok (.istore_n kk, 1)) (hi : (kk : Nat) = i) (hn : i < n9) (hlv : (i, vI z) :: lv.filter (fun q => !(q.1 == i) && !(q.1 + 1 == i && tvc q.2 == 2)) = lv') (k : J x h u v (pc + 1) lv' (st)) : J x h u v pc lv (vI z :: st) := by
  obtain ⟨p, l, e, R, s, m, args, below, meth, c, Q, G, nL⟩ := x
  intro H locs ls hh hS hl
  exact lv_istore_n X.1 X.2.1 d hi hl (by rw [X.2.2.2.2.2.2.2.2.2.2]; exact hn) rfl (fun ls' hl' => k H locs ls' hh hS (by rw [← hlv]; rw [lvm_f1] at hl'; exact hl'))
theorem j_istore {x : CX} {cc : ByteArray} {own : String} {rm : Room} {n9 : Nat} (X : Ok x cc own rm n9) {h : AH} {u v pc : Nat} {lv : List (Nat × TV)} {st : List TV} {i : Nat} {z : Int32} (lv' : List (Nat × TV)) (d : decode cc pc = .ok (.istore i, 2)) (hn : i < n9) (hlv : (i, vI z) :: lv.filter (fun q => !(q.1 == i) && !(q.1 + 1 == i && tvc q.2 == 2)) = lv') (k : J x h u v (pc + 2) lv' (st)) : J x h u v pc lv (vI z :: st) := by
  obtain ⟨p, l, e, R, s, m, args, below, meth, c, Q, G, nL⟩ := x
  intro H locs ls hh hS hl
  exact lv_istore X.1 X.2.1 d hl (by rw [X.2.2.2.2.2.2.2.2.2.2]; exact hn) rfl (fun ls' hl' => k H locs ls' hh hS (by rw [← hlv]; rw [lvm_f1] at hl'; exact hl'))
theorem j_fstore_n {x : CX} {cc : ByteArray} {own : String} {rm : Room} {n9 : Nat} (X : Ok x cc own rm n9) {h : AH} {u v pc : Nat} {lv : List (Nat × TV)} {st : List TV} {kk : Fin 4} {i : Nat} {z : UInt32} (lv' : List (Nat × TV)) (d : decode cc pc = .ok (.fstore_n kk, 1)) (hi : (kk : Nat) = i) (hn : i < n9) (hlv : (i, vF z) :: lv.filter (fun q => !(q.1 == i) && !(q.1 + 1 == i && tvc q.2 == 2)) = lv') (k : J x h u v (pc + 1) lv' (st)) : J x h u v pc lv (vF z :: st) := by
  obtain ⟨p, l, e, R, s, m, args, below, meth, c, Q, G, nL⟩ := x
  intro H locs ls hh hS hl
  exact lv_fstore_n X.1 X.2.1 d hi hl (by rw [X.2.2.2.2.2.2.2.2.2.2]; exact hn) rfl (fun ls' hl' => k H locs ls' hh hS (by rw [← hlv]; rw [lvm_f1] at hl'; exact hl'))
theorem j_fstore {x : CX} {cc : ByteArray} {own : String} {rm : Room} {n9 : Nat} (X : Ok x cc own rm n9) {h : AH} {u v pc : Nat} {lv : List (Nat × TV)} {st : List TV} {i : Nat} {z : UInt32} (lv' : List (Nat × TV)) (d : decode cc pc = .ok (.fstore i, 2)) (hn : i < n9) (hlv : (i, vF z) :: lv.filter (fun q => !(q.1 == i) && !(q.1 + 1 == i && tvc q.2 == 2)) = lv') (k : J x h u v (pc + 2) lv' (st)) : J x h u v pc lv (vF z :: st) := by
  obtain ⟨p, l, e, R, s, m, args, below, meth, c, Q, G, nL⟩ := x
  intro H locs ls hh hS hl
  exact lv_fstore X.1 X.2.1 d hl (by rw [X.2.2.2.2.2.2.2.2.2.2]; exact hn) rfl (fun ls' hl' => k H locs ls' hh hS (by rw [← hlv]; rw [lvm_f1] at hl'; exact hl'))
theorem j_lstore_n {x : CX} {cc : ByteArray} {own : String} {rm : Room} {n9 : Nat} (X : Ok x cc own rm n9) {h : AH} {u v pc : Nat} {lv : List (Nat × TV)} {st : List TV} {kk : Fin 4} {i : Nat} {z : Int64} (lv' : List (Nat × TV)) (d : decode cc pc = .ok (.lstore_n kk, 1)) (hi : (kk : Nat) = i) (hn : i + 1 < n9) (hlv : (i, vL z) :: lv.filter (fun q => !(q.1 == i) && (!(q.1 == i + 1) && !(q.1 + 1 == i && tvc q.2 == 2))) = lv') (k : J x h u v (pc + 1) lv' (st)) : J x h u v pc lv (vL z :: st) := by
  obtain ⟨p, l, e, R, s, m, args, below, meth, c, Q, G, nL⟩ := x
  intro H locs ls hh hS hl
  exact lv_lstore_n X.1 X.2.1 d hi hl (by rw [X.2.2.2.2.2.2.2.2.2.2]; exact hn) rfl (fun ls' hl' => k H locs ls' hh hS (by rw [← hlv]; rw [lvm_f2] at hl'; exact hl'))
theorem j_lstore {x : CX} {cc : ByteArray} {own : String} {rm : Room} {n9 : Nat} (X : Ok x cc own rm n9) {h : AH} {u v pc : Nat} {lv : List (Nat × TV)} {st : List TV} {i : Nat} {z : Int64} (lv' : List (Nat × TV)) (d : decode cc pc = .ok (.lstore i, 2)) (hn : i + 1 < n9) (hlv : (i, vL z) :: lv.filter (fun q => !(q.1 == i) && (!(q.1 == i + 1) && !(q.1 + 1 == i && tvc q.2 == 2))) = lv') (k : J x h u v (pc + 2) lv' (st)) : J x h u v pc lv (vL z :: st) := by
  obtain ⟨p, l, e, R, s, m, args, below, meth, c, Q, G, nL⟩ := x
  intro H locs ls hh hS hl
  exact lv_lstore X.1 X.2.1 d hl (by rw [X.2.2.2.2.2.2.2.2.2.2]; exact hn) rfl (fun ls' hl' => k H locs ls' hh hS (by rw [← hlv]; rw [lvm_f2] at hl'; exact hl'))
theorem j_dstore_n {x : CX} {cc : ByteArray} {own : String} {rm : Room} {n9 : Nat} (X : Ok x cc own rm n9) {h : AH} {u v pc : Nat} {lv : List (Nat × TV)} {st : List TV} {kk : Fin 4} {i : Nat} {z : UInt64} (lv' : List (Nat × TV)) (d : decode cc pc = .ok (.dstore_n kk, 1)) (hi : (kk : Nat) = i) (hn : i + 1 < n9) (hlv : (i, vD z) :: lv.filter (fun q => !(q.1 == i) && (!(q.1 == i + 1) && !(q.1 + 1 == i && tvc q.2 == 2))) = lv') (k : J x h u v (pc + 1) lv' (st)) : J x h u v pc lv (vD z :: st) := by
  obtain ⟨p, l, e, R, s, m, args, below, meth, c, Q, G, nL⟩ := x
  intro H locs ls hh hS hl
  exact lv_dstore_n X.1 X.2.1 d hi hl (by rw [X.2.2.2.2.2.2.2.2.2.2]; exact hn) rfl (fun ls' hl' => k H locs ls' hh hS (by rw [← hlv]; rw [lvm_f2] at hl'; exact hl'))
theorem j_dstore {x : CX} {cc : ByteArray} {own : String} {rm : Room} {n9 : Nat} (X : Ok x cc own rm n9) {h : AH} {u v pc : Nat} {lv : List (Nat × TV)} {st : List TV} {i : Nat} {z : UInt64} (lv' : List (Nat × TV)) (d : decode cc pc = .ok (.dstore i, 2)) (hn : i + 1 < n9) (hlv : (i, vD z) :: lv.filter (fun q => !(q.1 == i) && (!(q.1 == i + 1) && !(q.1 + 1 == i && tvc q.2 == 2))) = lv') (k : J x h u v (pc + 2) lv' (st)) : J x h u v pc lv (vD z :: st) := by
  obtain ⟨p, l, e, R, s, m, args, below, meth, c, Q, G, nL⟩ := x
  intro H locs ls hh hS hl
  exact lv_dstore X.1 X.2.1 d hl (by rw [X.2.2.2.2.2.2.2.2.2.2]; exact hn) rfl (fun ls' hl' => k H locs ls' hh hS (by rw [← hlv]; rw [lvm_f2] at hl'; exact hl'))
theorem j_astore_n {x : CX} {cc : ByteArray} {own : String} {rm : Room} {n9 : Nat} (X : Ok x cc own rm n9) {h : AH} {u v pc : Nat} {lv : List (Nat × TV)} {st : List TV} {kk : Fin 4} {i : Nat} {z : Option Nat} (lv' : List (Nat × TV)) (d : decode cc pc = .ok (.astore_n kk, 1)) (hi : (kk : Nat) = i) (hn : i < n9) (hlv : (i, vR z) :: lv.filter (fun q => !(q.1 == i) && !(q.1 + 1 == i && tvc q.2 == 2)) = lv') (k : J x h u v (pc + 1) lv' (st)) : J x h u v pc lv (vR z :: st) := by
  obtain ⟨p, l, e, R, s, m, args, below, meth, c, Q, G, nL⟩ := x
  intro H locs ls hh hS hl
  cases z with
  | none => exact lv_astore_nN X.1 X.2.1 d hi hl (by rw [X.2.2.2.2.2.2.2.2.2.2]; exact hn) rfl (fun ls' hl' => k H locs ls' hh hS (by rw [← hlv]; rw [lvm_f1] at hl'; exact hl'))
  | some z => exact lv_astore_n X.1 X.2.1 d hi hl (by rw [X.2.2.2.2.2.2.2.2.2.2]; exact hn) rfl (fun ls' hl' => k H locs ls' hh hS (by rw [← hlv]; rw [lvm_f1] at hl'; exact hl'))
theorem j_astore {x : CX} {cc : ByteArray} {own : String} {rm : Room} {n9 : Nat} (X : Ok x cc own rm n9) {h : AH} {u v pc : Nat} {lv : List (Nat × TV)} {st : List TV} {i : Nat} {z : Option Nat} (lv' : List (Nat × TV)) (d : decode cc pc = .ok (.astore i, 2)) (hn : i < n9) (hlv : (i, vR z) :: lv.filter (fun q => !(q.1 == i) && !(q.1 + 1 == i && tvc q.2 == 2)) = lv') (k : J x h u v (pc + 2) lv' (st)) : J x h u v pc lv (vR z :: st) := by
  obtain ⟨p, l, e, R, s, m, args, below, meth, c, Q, G, nL⟩ := x
  intro H locs ls hh hS hl
  cases z with
  | none => exact lv_astoreN X.1 X.2.1 d hl (by rw [X.2.2.2.2.2.2.2.2.2.2]; exact hn) rfl (fun ls' hl' => k H locs ls' hh hS (by rw [← hlv]; rw [lvm_f1] at hl'; exact hl'))
  | some z => exact lv_astore X.1 X.2.1 d hl (by rw [X.2.2.2.2.2.2.2.2.2.2]; exact hn) rfl (fun ls' hl' => k H locs ls' hh hS (by rw [← hlv]; rw [lvm_f1] at hl'; exact hl'))
theorem j_iinc {x : CX} {cc : ByteArray} {own : String} {rm : Room} {n9 : Nat} (X : Ok x cc own rm n9) {h : AH} {u v pc : Nat} {lv : List (Nat × TV)} {st : List TV} {i : Nat} {n : Int} (q : Nat) {z : Int32} (w : Int32) (lv' : List (Nat × TV)) (d : decode cc pc = .ok (.iinc i n, 3)) (hq : lv[q]? = some (i, vI z)) (hw : z + Int32.ofInt n = w) (hn : i < n9) (hlv : (i, vI w) :: lv.filter (fun q => !(q.1 == i) && !(q.1 + 1 == i && tvc q.2 == 2)) = lv') (k : J x h u v (pc + 3) lv' (st)) : J x h u v pc lv (st) := by
  obtain ⟨p, l, e, R, s, m, args, below, meth, c, Q, G, nL⟩ := x
  intro H locs ls hh hS hl
  exact lv_iinc X.1 X.2.1 d hl (lvm_at hq) hw (by rw [X.2.2.2.2.2.2.2.2.2.2]; exact hn) rfl (fun ls' hl' => k H locs ls' hh hS (by rw [← hlv]; rw [lvm_f1] at hl'; exact hl'))
theorem j_iadd {x : CX} {cc : ByteArray} {own : String} {rm : Room} {n9 : Nat} (X : Ok x cc own rm n9) {h : AH} {u v pc : Nat} {lv : List (Nat × TV)} {st : List TV} {a b : Int32} (d : decode cc pc = .ok (.iadd, 1)) (k : J x h u v (pc + 1) lv (vI (a + b) :: st)) : J x h u v pc lv (vI b :: vI a :: st) := by
  obtain ⟨p, l, e, R, s, m, args, below, meth, c, Q, G, nL⟩ := x
  intro H locs ls hh hS hl
  exact lv_iadd X.1 X.2.1 d (k H locs ls hh hS hl)
theorem j_isub {x : CX} {cc : ByteArray} {own : String} {rm : Room} {n9 : Nat} (X : Ok x cc own rm n9) {h : AH} {u v pc : Nat} {lv : List (Nat × TV)} {st : List TV} {a b : Int32} (d : decode cc pc = .ok (.isub, 1)) (k : J x h u v (pc + 1) lv (vI (a - b) :: st)) : J x h u v pc lv (vI b :: vI a :: st) := by
  obtain ⟨p, l, e, R, s, m, args, below, meth, c, Q, G, nL⟩ := x
  intro H locs ls hh hS hl
  exact lv_isub X.1 X.2.1 d (k H locs ls hh hS hl)
theorem j_imul {x : CX} {cc : ByteArray} {own : String} {rm : Room} {n9 : Nat} (X : Ok x cc own rm n9) {h : AH} {u v pc : Nat} {lv : List (Nat × TV)} {st : List TV} {a b : Int32} (d : decode cc pc = .ok (.imul, 1)) (k : J x h u v (pc + 1) lv (vI (a * b) :: st)) : J x h u v pc lv (vI b :: vI a :: st) := by
  obtain ⟨p, l, e, R, s, m, args, below, meth, c, Q, G, nL⟩ := x
  intro H locs ls hh hS hl
  exact lv_imul X.1 X.2.1 d (k H locs ls hh hS hl)
theorem j_iand {x : CX} {cc : ByteArray} {own : String} {rm : Room} {n9 : Nat} (X : Ok x cc own rm n9) {h : AH} {u v pc : Nat} {lv : List (Nat × TV)} {st : List TV} {a b : Int32} (d : decode cc pc = .ok (.iand, 1)) (k : J x h u v (pc + 1) lv (vI (a &&& b) :: st)) : J x h u v pc lv (vI b :: vI a :: st) := by
  obtain ⟨p, l, e, R, s, m, args, below, meth, c, Q, G, nL⟩ := x
  intro H locs ls hh hS hl
  exact lv_iand X.1 X.2.1 d (k H locs ls hh hS hl)
theorem j_ior {x : CX} {cc : ByteArray} {own : String} {rm : Room} {n9 : Nat} (X : Ok x cc own rm n9) {h : AH} {u v pc : Nat} {lv : List (Nat × TV)} {st : List TV} {a b : Int32} (d : decode cc pc = .ok (.ior, 1)) (k : J x h u v (pc + 1) lv (vI (a ||| b) :: st)) : J x h u v pc lv (vI b :: vI a :: st) := by
  obtain ⟨p, l, e, R, s, m, args, below, meth, c, Q, G, nL⟩ := x
  intro H locs ls hh hS hl
  exact lv_ior X.1 X.2.1 d (k H locs ls hh hS hl)
theorem j_ixor {x : CX} {cc : ByteArray} {own : String} {rm : Room} {n9 : Nat} (X : Ok x cc own rm n9) {h : AH} {u v pc : Nat} {lv : List (Nat × TV)} {st : List TV} {a b : Int32} (d : decode cc pc = .ok (.ixor, 1)) (k : J x h u v (pc + 1) lv (vI (a ^^^ b) :: st)) : J x h u v pc lv (vI b :: vI a :: st) := by
  obtain ⟨p, l, e, R, s, m, args, below, meth, c, Q, G, nL⟩ := x
  intro H locs ls hh hS hl
  exact lv_ixor X.1 X.2.1 d (k H locs ls hh hS hl)
theorem j_ishl {x : CX} {cc : ByteArray} {own : String} {rm : Room} {n9 : Nat} (X : Ok x cc own rm n9) {h : AH} {u v pc : Nat} {lv : List (Nat × TV)} {st : List TV} {a b : Int32} (d : decode cc pc = .ok (.ishl, 1)) (k : J x h u v (pc + 1) lv (vI (a <<< (b &&& 31)) :: st)) : J x h u v pc lv (vI b :: vI a :: st) := by
  obtain ⟨p, l, e, R, s, m, args, below, meth, c, Q, G, nL⟩ := x
  intro H locs ls hh hS hl
  exact lv_ishl X.1 X.2.1 d (k H locs ls hh hS hl)
theorem j_ishr {x : CX} {cc : ByteArray} {own : String} {rm : Room} {n9 : Nat} (X : Ok x cc own rm n9) {h : AH} {u v pc : Nat} {lv : List (Nat × TV)} {st : List TV} {a b : Int32} (d : decode cc pc = .ok (.ishr, 1)) (k : J x h u v (pc + 1) lv (vI (a >>> (b &&& 31)) :: st)) : J x h u v pc lv (vI b :: vI a :: st) := by
  obtain ⟨p, l, e, R, s, m, args, below, meth, c, Q, G, nL⟩ := x
  intro H locs ls hh hS hl
  exact lv_ishr X.1 X.2.1 d (k H locs ls hh hS hl)
theorem j_idiv {x : CX} {cc : ByteArray} {own : String} {rm : Room} {n9 : Nat} (X : Ok x cc own rm n9) {h : AH} {u v pc : Nat} {lv : List (Nat × TV)} {st : List TV} {a b : Int32} {K : Prop} (d : decode cc pc = .ok (.idiv, 1)) (hw : ¬ b = 0 ∧ K) (k : K → J x h u v (pc + 1) lv (vI (a / b) :: st)) : J x h u v pc lv (vI b :: vI a :: st) := by
  obtain ⟨p, l, e, R, s, m, args, below, meth, c, Q, G, nL⟩ := x
  intro H locs ls hh hS hl
  exact lv_idiv X.1 X.2.1 d hw.1 (k hw.2 H locs ls hh hS hl)
theorem j_irem {x : CX} {cc : ByteArray} {own : String} {rm : Room} {n9 : Nat} (X : Ok x cc own rm n9) {h : AH} {u v pc : Nat} {lv : List (Nat × TV)} {st : List TV} {a b : Int32} {K : Prop} (d : decode cc pc = .ok (.irem, 1)) (hw : ¬ b = 0 ∧ K) (k : K → J x h u v (pc + 1) lv (vI (a - a / b * b) :: st)) : J x h u v pc lv (vI b :: vI a :: st) := by
  obtain ⟨p, l, e, R, s, m, args, below, meth, c, Q, G, nL⟩ := x
  intro H locs ls hh hS hl
  exact lv_irem X.1 X.2.1 d hw.1 (k hw.2 H locs ls hh hS hl)
theorem j_ineg {x : CX} {cc : ByteArray} {own : String} {rm : Room} {n9 : Nat} (X : Ok x cc own rm n9) {h : AH} {u v pc : Nat} {lv : List (Nat × TV)} {st : List TV} {a : Int32} (d : decode cc pc = .ok (.ineg, 1)) (k : J x h u v (pc + 1) lv (vI (-a) :: st)) : J x h u v pc lv (vI a :: st) := by
  obtain ⟨p, l, e, R, s, m, args, below, meth, c, Q, G, nL⟩ := x
  intro H locs ls hh hS hl
  exact lv_ineg X.1 X.2.1 d (k H locs ls hh hS hl)
theorem j_ladd {x : CX} {cc : ByteArray} {own : String} {rm : Room} {n9 : Nat} (X : Ok x cc own rm n9) {h : AH} {u v pc : Nat} {lv : List (Nat × TV)} {st : List TV} {a b : Int64} (d : decode cc pc = .ok (.ladd, 1)) (k : J x h u v (pc + 1) lv (vL (a + b) :: st)) : J x h u v pc lv (vL b :: vL a :: st) := by
  obtain ⟨p, l, e, R, s, m, args, below, meth, c, Q, G, nL⟩ := x
  intro H locs ls hh hS hl
  exact lv_ladd X.1 X.2.1 d (k H locs ls hh hS hl)
theorem j_lsub {x : CX} {cc : ByteArray} {own : String} {rm : Room} {n9 : Nat} (X : Ok x cc own rm n9) {h : AH} {u v pc : Nat} {lv : List (Nat × TV)} {st : List TV} {a b : Int64} (d : decode cc pc = .ok (.lsub, 1)) (k : J x h u v (pc + 1) lv (vL (a - b) :: st)) : J x h u v pc lv (vL b :: vL a :: st) := by
  obtain ⟨p, l, e, R, s, m, args, below, meth, c, Q, G, nL⟩ := x
  intro H locs ls hh hS hl
  exact lv_lsub X.1 X.2.1 d (k H locs ls hh hS hl)
theorem j_lmul {x : CX} {cc : ByteArray} {own : String} {rm : Room} {n9 : Nat} (X : Ok x cc own rm n9) {h : AH} {u v pc : Nat} {lv : List (Nat × TV)} {st : List TV} {a b : Int64} (d : decode cc pc = .ok (.lmul, 1)) (k : J x h u v (pc + 1) lv (vL (a * b) :: st)) : J x h u v pc lv (vL b :: vL a :: st) := by
  obtain ⟨p, l, e, R, s, m, args, below, meth, c, Q, G, nL⟩ := x
  intro H locs ls hh hS hl
  exact lv_lmul X.1 X.2.1 d (k H locs ls hh hS hl)
theorem j_fadd {x : CX} {cc : ByteArray} {own : String} {rm : Room} {n9 : Nat} (X : Ok x cc own rm n9) {h : AH} {u v pc : Nat} {lv : List (Nat × TV)} {st : List TV} {a b : UInt32} {K : Prop} (d : decode cc pc = .ok (.fadd, 1)) (hw : vf_n32 (FP.fadd a b) ∧ K) (k : K → J x h u v (pc + 1) lv (vF (FP.fadd a b) :: st)) : J x h u v pc lv (vF b :: vF a :: st) := by
  obtain ⟨p, l, e, R, s, m, args, below, meth, c, Q, G, nL⟩ := x
  intro H locs ls hh hS hl
  exact lv_fadd X.1 X.2.1 d hw.1 (k hw.2 H locs ls hh hS hl)
theorem j_fsub {x : CX} {cc : ByteArray} {own : String} {rm : Room} {n9 : Nat} (X : Ok x cc own rm n9) {h : AH} {u v pc : Nat} {lv : List (Nat × TV)} {st : List TV} {a b : UInt32} {K : Prop} (d : decode cc pc = .ok (.fsub, 1)) (hw : vf_n32 (FP.fsub a b) ∧ K) (k : K → J x h u v (pc + 1) lv (vF (FP.fsub a b) :: st)) : J x h u v pc lv (vF b :: vF a :: st) := by
  obtain ⟨p, l, e, R, s, m, args, below, meth, c, Q, G, nL⟩ := x
  intro H locs ls hh hS hl
  exact lv_fsub X.1 X.2.1 d hw.1 (k hw.2 H locs ls hh hS hl)
theorem j_fmul {x : CX} {cc : ByteArray} {own : String} {rm : Room} {n9 : Nat} (X : Ok x cc own rm n9) {h : AH} {u v pc : Nat} {lv : List (Nat × TV)} {st : List TV} {a b : UInt32} {K : Prop} (d : decode cc pc = .ok (.fmul, 1)) (hw : vf_n32 (FP.fmul a b) ∧ K) (k : K → J x h u v (pc + 1) lv (vF (FP.fmul a b) :: st)) : J x h u v pc lv (vF b :: vF a :: st) := by
  obtain ⟨p, l, e, R, s, m, args, below, meth, c, Q, G, nL⟩ := x
  intro H locs ls hh hS hl
  exact lv_fmul X.1 X.2.1 d hw.1 (k hw.2 H locs ls hh hS hl)
theorem j_fdiv {x : CX} {cc : ByteArray} {own : String} {rm : Room} {n9 : Nat} (X : Ok x cc own rm n9) {h : AH} {u v pc : Nat} {lv : List (Nat × TV)} {st : List TV} {a b : UInt32} {K : Prop} (d : decode cc pc = .ok (.fdiv, 1)) (hw : vf_n32 (FP.fdiv a b) ∧ K) (k : K → J x h u v (pc + 1) lv (vF (FP.fdiv a b) :: st)) : J x h u v pc lv (vF b :: vF a :: st) := by
  obtain ⟨p, l, e, R, s, m, args, below, meth, c, Q, G, nL⟩ := x
  intro H locs ls hh hS hl
  exact lv_fdiv X.1 X.2.1 d hw.1 (k hw.2 H locs ls hh hS hl)
theorem j_dadd {x : CX} {cc : ByteArray} {own : String} {rm : Room} {n9 : Nat} (X : Ok x cc own rm n9) {h : AH} {u v pc : Nat} {lv : List (Nat × TV)} {st : List TV} {a b : UInt64} {K : Prop} (d : decode cc pc = .ok (.dadd, 1)) (hw : vf_n64 (FP.dadd a b) ∧ K) (k : K → J x h u v (pc + 1) lv (vD (FP.dadd a b) :: st)) : J x h u v pc lv (vD b :: vD a :: st) := by
  obtain ⟨p, l, e, R, s, m, args, below, meth, c, Q, G, nL⟩ := x
  intro H locs ls hh hS hl
  exact lv_dadd X.1 X.2.1 d hw.1 (k hw.2 H locs ls hh hS hl)
theorem j_dsub {x : CX} {cc : ByteArray} {own : String} {rm : Room} {n9 : Nat} (X : Ok x cc own rm n9) {h : AH} {u v pc : Nat} {lv : List (Nat × TV)} {st : List TV} {a b : UInt64} {K : Prop} (d : decode cc pc = .ok (.dsub, 1)) (hw : vf_n64 (FP.dsub a b) ∧ K) (k : K → J x h u v (pc + 1) lv (vD (FP.dsub a b) :: st)) : J x h u v pc lv (vD b :: vD a :: st) := by
  obtain ⟨p, l, e, R, s, m, args, below, meth, c, Q, G, nL⟩ := x
  intro H locs ls hh hS hl
  exact lv_dsub X.1 X.2.1 d hw.1 (k hw.2 H locs ls hh hS hl)
theorem j_dmul {x : CX} {cc : ByteArray} {own : String} {rm : Room} {n9 : Nat} (X : Ok x cc own rm n9) {h : AH} {u v pc : Nat} {lv : List (Nat × TV)} {st : List TV} {a b : UInt64} {K : Prop} (d : decode cc pc = .ok (.dmul, 1)) (hw : vf_n64 (FP.dmul a b) ∧ K) (k : K → J x h u v (pc + 1) lv (vD (FP.dmul a b) :: st)) : J x h u v pc lv (vD b :: vD a :: st) := by
  obtain ⟨p, l, e, R, s, m, args, below, meth, c, Q, G, nL⟩ := x
  intro H locs ls hh hS hl
  exact lv_dmul X.1 X.2.1 d hw.1 (k hw.2 H locs ls hh hS hl)
theorem j_ddiv {x : CX} {cc : ByteArray} {own : String} {rm : Room} {n9 : Nat} (X : Ok x cc own rm n9) {h : AH} {u v pc : Nat} {lv : List (Nat × TV)} {st : List TV} {a b : UInt64} {K : Prop} (d : decode cc pc = .ok (.ddiv, 1)) (hw : vf_n64 (FP.ddiv a b) ∧ K) (k : K → J x h u v (pc + 1) lv (vD (FP.ddiv a b) :: st)) : J x h u v pc lv (vD b :: vD a :: st) := by
  obtain ⟨p, l, e, R, s, m, args, below, meth, c, Q, G, nL⟩ := x
  intro H locs ls hh hS hl
  exact lv_ddiv X.1 X.2.1 d hw.1 (k hw.2 H locs ls hh hS hl)
theorem j_fcmp {x : CX} {cc : ByteArray} {own : String} {rm : Room} {n9 : Nat} (X : Ok x cc own rm n9) {h : AH} {u v pc : Nat} {lv : List (Nat × TV)} {st : List TV} {op : CmpOp} {a b : UInt32} (d : decode cc pc = .ok (.fcmp op, 1)) (k : J x h u v (pc + 1) lv (vI (Op.cmpValue (FP.fcmp a b) op) :: st)) : J x h u v pc lv (vF b :: vF a :: st) := by
  obtain ⟨p, l, e, R, s, m, args, below, meth, c, Q, G, nL⟩ := x
  intro H locs ls hh hS hl
  exact lv_fcmp X.1 X.2.1 d (k H locs ls hh hS hl)
theorem j_dcmp {x : CX} {cc : ByteArray} {own : String} {rm : Room} {n9 : Nat} (X : Ok x cc own rm n9) {h : AH} {u v pc : Nat} {lv : List (Nat × TV)} {st : List TV} {op : CmpOp} {a b : UInt64} (d : decode cc pc = .ok (.dcmp op, 1)) (k : J x h u v (pc + 1) lv (vI (Op.cmpValue (FP.dcmp a b) op) :: st)) : J x h u v pc lv (vD b :: vD a :: st) := by
  obtain ⟨p, l, e, R, s, m, args, below, meth, c, Q, G, nL⟩ := x
  intro H locs ls hh hS hl
  exact lv_dcmp X.1 X.2.1 d (k H locs ls hh hS hl)
theorem j_i2l {x : CX} {cc : ByteArray} {own : String} {rm : Room} {n9 : Nat} (X : Ok x cc own rm n9) {h : AH} {u v pc : Nat} {lv : List (Nat × TV)} {st : List TV} {a : Int32} (d : decode cc pc = .ok (.i2l, 1)) (k : J x h u v (pc + 1) lv (vL (a.toInt64) :: st)) : J x h u v pc lv (vI a :: st) := by
  obtain ⟨p, l, e, R, s, m, args, below, meth, c, Q, G, nL⟩ := x
  intro H locs ls hh hS hl
  exact lv_i2l X.1 X.2.1 d rfl (k H locs ls hh hS hl)
theorem j_l2i {x : CX} {cc : ByteArray} {own : String} {rm : Room} {n9 : Nat} (X : Ok x cc own rm n9) {h : AH} {u v pc : Nat} {lv : List (Nat × TV)} {st : List TV} {a : Int64} (d : decode cc pc = .ok (.l2i, 1)) (k : J x h u v (pc + 1) lv (vI (a.toInt32) :: st)) : J x h u v pc lv (vL a :: st) := by
  obtain ⟨p, l, e, R, s, m, args, below, meth, c, Q, G, nL⟩ := x
  intro H locs ls hh hS hl
  exact lv_l2i X.1 X.2.1 d rfl (k H locs ls hh hS hl)
theorem j_i2b {x : CX} {cc : ByteArray} {own : String} {rm : Room} {n9 : Nat} (X : Ok x cc own rm n9) {h : AH} {u v pc : Nat} {lv : List (Nat × TV)} {st : List TV} {a : Int32} (d : decode cc pc = .ok (.i2b, 1)) (k : J x h u v (pc + 1) lv (vI (a.toInt8.toInt32) :: st)) : J x h u v pc lv (vI a :: st) := by
  obtain ⟨p, l, e, R, s, m, args, below, meth, c, Q, G, nL⟩ := x
  intro H locs ls hh hS hl
  exact lv_i2b X.1 X.2.1 d rfl (k H locs ls hh hS hl)
theorem j_i2s {x : CX} {cc : ByteArray} {own : String} {rm : Room} {n9 : Nat} (X : Ok x cc own rm n9) {h : AH} {u v pc : Nat} {lv : List (Nat × TV)} {st : List TV} {a : Int32} (d : decode cc pc = .ok (.i2s, 1)) (k : J x h u v (pc + 1) lv (vI (a.toInt16.toInt32) :: st)) : J x h u v pc lv (vI a :: st) := by
  obtain ⟨p, l, e, R, s, m, args, below, meth, c, Q, G, nL⟩ := x
  intro H locs ls hh hS hl
  exact lv_i2s X.1 X.2.1 d rfl (k H locs ls hh hS hl)
theorem j_i2c {x : CX} {cc : ByteArray} {own : String} {rm : Room} {n9 : Nat} (X : Ok x cc own rm n9) {h : AH} {u v pc : Nat} {lv : List (Nat × TV)} {st : List TV} {a : Int32} (d : decode cc pc = .ok (.i2c, 1)) (k : J x h u v (pc + 1) lv (vI ((a.toUInt32 % 65536).toInt32) :: st)) : J x h u v pc lv (vI a :: st) := by
  obtain ⟨p, l, e, R, s, m, args, below, meth, c, Q, G, nL⟩ := x
  intro H locs ls hh hS hl
  exact lv_i2c X.1 X.2.1 d rfl (k H locs ls hh hS hl)
theorem j_i2f {x : CX} {cc : ByteArray} {own : String} {rm : Room} {n9 : Nat} (X : Ok x cc own rm n9) {h : AH} {u v pc : Nat} {lv : List (Nat × TV)} {st : List TV} {a : Int32} (d : decode cc pc = .ok (.i2f, 1)) (k : J x h u v (pc + 1) lv (vF (FP.i2f a) :: st)) : J x h u v pc lv (vI a :: st) := by
  obtain ⟨p, l, e, R, s, m, args, below, meth, c, Q, G, nL⟩ := x
  intro H locs ls hh hS hl
  exact lv_i2f X.1 X.2.1 d (k H locs ls hh hS hl)
theorem j_i2d {x : CX} {cc : ByteArray} {own : String} {rm : Room} {n9 : Nat} (X : Ok x cc own rm n9) {h : AH} {u v pc : Nat} {lv : List (Nat × TV)} {st : List TV} {a : Int32} (d : decode cc pc = .ok (.i2d, 1)) (k : J x h u v (pc + 1) lv (vD (FP.i2d a) :: st)) : J x h u v pc lv (vI a :: st) := by
  obtain ⟨p, l, e, R, s, m, args, below, meth, c, Q, G, nL⟩ := x
  intro H locs ls hh hS hl
  exact lv_i2d X.1 X.2.1 d (k H locs ls hh hS hl)
theorem j_f2i {x : CX} {cc : ByteArray} {own : String} {rm : Room} {n9 : Nat} (X : Ok x cc own rm n9) {h : AH} {u v pc : Nat} {lv : List (Nat × TV)} {st : List TV} {a : UInt32} (d : decode cc pc = .ok (.f2i, 1)) (k : J x h u v (pc + 1) lv (vI (FP.f2i a) :: st)) : J x h u v pc lv (vF a :: st) := by
  obtain ⟨p, l, e, R, s, m, args, below, meth, c, Q, G, nL⟩ := x
  intro H locs ls hh hS hl
  exact lv_f2i X.1 X.2.1 d (k H locs ls hh hS hl)
theorem j_l2d {x : CX} {cc : ByteArray} {own : String} {rm : Room} {n9 : Nat} (X : Ok x cc own rm n9) {h : AH} {u v pc : Nat} {lv : List (Nat × TV)} {st : List TV} {a : Int64} (d : decode cc pc = .ok (.l2d, 1)) (k : J x h u v (pc + 1) lv (vD (FP.l2d a) :: st)) : J x h u v pc lv (vL a :: st) := by
  obtain ⟨p, l, e, R, s, m, args, below, meth, c, Q, G, nL⟩ := x
  intro H locs ls hh hS hl
  exact lv_l2d X.1 X.2.1 d (k H locs ls hh hS hl)
theorem j_f2d {x : CX} {cc : ByteArray} {own : String} {rm : Room} {n9 : Nat} (X : Ok x cc own rm n9) {h : AH} {u v pc : Nat} {lv : List (Nat × TV)} {st : List TV} {a : UInt32} {K : Prop} (d : decode cc pc = .ok (.f2d, 1)) (hw : vf_n64 (FP.f2d a) ∧ K) (k : K → J x h u v (pc + 1) lv (vD (FP.f2d a) :: st)) : J x h u v pc lv (vF a :: st) := by
  obtain ⟨p, l, e, R, s, m, args, below, meth, c, Q, G, nL⟩ := x
  intro H locs ls hh hS hl
  exact lv_f2d X.1 X.2.1 d hw.1 (k hw.2 H locs ls hh hS hl)
theorem j_dup {x : CX} {cc : ByteArray} {own : String} {rm : Room} {n9 : Nat} (X : Ok x cc own rm n9) {h : AH} {u v pc : Nat} {lv : List (Nat × TV)} {st : List TV} {z : TV} (d : decode cc pc = .ok (.dup, 1)) (hz : tvc z = 1) (k : J x h u v (pc + 1) lv (z :: z :: st)) : J x h u v pc lv (z :: st) := by
  obtain ⟨p, l, e, R, s, m, args, below, meth, c, Q, G, nL⟩ := x
  intro H locs ls hh hS hl
  exact lv_dup X.1 X.2.1 d ((tv_cat z).trans hz) (k H locs ls hh hS hl)
theorem j_pop {x : CX} {cc : ByteArray} {own : String} {rm : Room} {n9 : Nat} (X : Ok x cc own rm n9) {h : AH} {u v pc : Nat} {lv : List (Nat × TV)} {st : List TV} {z : TV} (d : decode cc pc = .ok (.pop, 1)) (hz : tvc z = 1) (k : J x h u v (pc + 1) lv (st)) : J x h u v pc lv (z :: st) := by
  obtain ⟨p, l, e, R, s, m, args, below, meth, c, Q, G, nL⟩ := x
  intro H locs ls hh hS hl
  exact lv_pop X.1 X.2.1 d ((tv_cat z).trans hz) (k H locs ls hh hS hl)
theorem j_dup_x1 {x : CX} {cc : ByteArray} {own : String} {rm : Room} {n9 : Nat} (X : Ok x cc own rm n9) {h : AH} {u v pc : Nat} {lv : List (Nat × TV)} {st : List TV} {z y : TV} (d : decode cc pc = .ok (.dup_x1, 1)) (hz : tvc z = 1) (hy : tvc y = 1) (k : J x h u v (pc + 1) lv (z :: y :: z :: st)) : J x h u v pc lv (z :: y :: st) := by
  obtain ⟨p, l, e, R, s, m, args, below, meth, c, Q, G, nL⟩ := x
  intro H locs ls hh hS hl
  exact lv_dup_x1 X.1 X.2.1 d ((tv_cat z).trans hz) ((tv_cat y).trans hy) (k H locs ls hh hS hl)
theorem j_dup2 {x : CX} {cc : ByteArray} {own : String} {rm : Room} {n9 : Nat} (X : Ok x cc own rm n9) {h : AH} {u v pc : Nat} {lv : List (Nat × TV)} {st : List TV} {z y : TV} (d : decode cc pc = .ok (.dup2, 1)) (hz : tvc z = 1) (hy : tvc y = 1) (k : J x h u v (pc + 1) lv (z :: y :: z :: y :: st)) : J x h u v pc lv (z :: y :: st) := by
  obtain ⟨p, l, e, R, s, m, args, below, meth, c, Q, G, nL⟩ := x
  intro H locs ls hh hS hl
  exact lv_dup2_11 X.1 X.2.1 d ((tv_cat z).trans hz) ((tv_cat y).trans hy) (k H locs ls hh hS hl)
theorem j_if_eq {x : CX} {cc : ByteArray} {own : String} {rm : Room} {n9 : Nat} (X : Ok x cc own rm n9) {h : AH} {u v pc : Nat} {lv : List (Nat × TV)} {st : List TV} {a : Int32} {off : Int} (tgt : Nat) {A B : Prop} (d : decode cc pc = .ok (.ifCond .eq off, 3)) (ht : (pc : Int) + off = (tgt : Int)) (hw : (a = 0 → A) ∧ (¬ a = 0 → B)) (kt : A → J x h u v (tgt) lv (st)) (kf : B → J x h u v (pc + 3) lv (st)) : J x h u v pc lv (vI a :: st) := by
  obtain ⟨p, l, e, R, s, m, args, below, meth, c, Q, G, nL⟩ := x
  intro H locs ls hh hS hl
  exact lv_if_eq X.1 X.2.1 d ht (fun c9 => kt (hw.1 c9) H locs ls hh hS hl) (fun c9 => kf (hw.2 c9) H locs ls hh hS hl)
theorem j_if_ne {x : CX} {cc : ByteArray} {own : String} {rm : Room} {n9 : Nat} (X : Ok x cc own rm n9) {h : AH} {u v pc : Nat} {lv : List (Nat × TV)} {st : List TV} {a : Int32} {off : Int} (tgt : Nat) {A B : Prop} (d : decode cc pc = .ok (.ifCond .ne off, 3)) (ht : (pc : Int) + off = (tgt : Int)) (hw : (a = 0 → A) ∧ (¬ a = 0 → B)) (kf : A → J x h u v (pc + 3) lv (st)) (kt : B → J x h u v (tgt) lv (st)) : J x h u v pc lv (vI a :: st) := by
  obtain ⟨p, l, e, R, s, m, args, below, meth, c, Q, G, nL⟩ := x
  intro H locs ls hh hS hl
  exact lv_if_ne X.1 X.2.1 d ht (fun c9 => kt (hw.2 c9) H locs ls hh hS hl) (fun c9 => kf (hw.1 c9) H locs ls hh hS hl)
theorem j_if_lt {x : CX} {cc : ByteArray} {own : String} {rm : Room} {n9 : Nat} (X : Ok x cc own rm n9) {h : AH} {u v pc : Nat} {lv : List (Nat × TV)} {st : List TV} {a : Int32} {off : Int} (tgt : Nat) {A B : Prop} (d : decode cc pc = .ok (.ifCond .lt off, 3)) (ht : (pc : Int) + off = (tgt : Int)) (hw : (a < 0 → A) ∧ (¬ a < 0 → B)) (kt : A → J x h u v (tgt) lv (st)) (kf : B → J x h u v (pc + 3) lv (st)) : J x h u v pc lv (vI a :: st) := by
  obtain ⟨p, l, e, R, s, m, args, below, meth, c, Q, G, nL⟩ := x
  intro H locs ls hh hS hl
  exact lv_if_lt X.1 X.2.1 d ht (fun c9 => kt (hw.1 c9) H locs ls hh hS hl) (fun c9 => kf (hw.2 c9) H locs ls hh hS hl)
theorem j_if_ge {x : CX} {cc : ByteArray} {own : String} {rm : Room} {n9 : Nat} (X : Ok x cc own rm n9) {h : AH} {u v pc : Nat} {lv : List (Nat × TV)} {st : List TV} {a : Int32} {off : Int} (tgt : Nat) {A B : Prop} (d : decode cc pc = .ok (.ifCond .ge off, 3)) (ht : (pc : Int) + off = (tgt : Int)) (hw : (0 ≤ a → A) ∧ (¬ 0 ≤ a → B)) (kt : A → J x h u v (tgt) lv (st)) (kf : B → J x h u v (pc + 3) lv (st)) : J x h u v pc lv (vI a :: st) := by
  obtain ⟨p, l, e, R, s, m, args, below, meth, c, Q, G, nL⟩ := x
  intro H locs ls hh hS hl
  exact lv_if_ge X.1 X.2.1 d ht (fun c9 => kt (hw.1 c9) H locs ls hh hS hl) (fun c9 => kf (hw.2 c9) H locs ls hh hS hl)
theorem j_if_gt {x : CX} {cc : ByteArray} {own : String} {rm : Room} {n9 : Nat} (X : Ok x cc own rm n9) {h : AH} {u v pc : Nat} {lv : List (Nat × TV)} {st : List TV} {a : Int32} {off : Int} (tgt : Nat) {A B : Prop} (d : decode cc pc = .ok (.ifCond .gt off, 3)) (ht : (pc : Int) + off = (tgt : Int)) (hw : (0 < a → A) ∧ (¬ 0 < a → B)) (kt : A → J x h u v (tgt) lv (st)) (kf : B → J x h u v (pc + 3) lv (st)) : J x h u v pc lv (vI a :: st) := by
  obtain ⟨p, l, e, R, s, m, args, below, meth, c, Q, G, nL⟩ := x
  intro H locs ls hh hS hl
  exact lv_if_gt X.1 X.2.1 d ht (fun c9 => kt (hw.1 c9) H locs ls hh hS hl) (fun c9 => kf (hw.2 c9) H locs ls hh hS hl)
theorem j_if_le {x : CX} {cc : ByteArray} {own : String} {rm : Room} {n9 : Nat} (X : Ok x cc own rm n9) {h : AH} {u v pc : Nat} {lv : List (Nat × TV)} {st : List TV} {a : Int32} {off : Int} (tgt : Nat) {A B : Prop} (d : decode cc pc = .ok (.ifCond .le off, 3)) (ht : (pc : Int) + off = (tgt : Int)) (hw : (a ≤ 0 → A) ∧ (¬ a ≤ 0 → B)) (kt : A → J x h u v (tgt) lv (st)) (kf : B → J x h u v (pc + 3) lv (st)) : J x h u v pc lv (vI a :: st) := by
  obtain ⟨p, l, e, R, s, m, args, below, meth, c, Q, G, nL⟩ := x
  intro H locs ls hh hS hl
  exact lv_if_le X.1 X.2.1 d ht (fun c9 => kt (hw.1 c9) H locs ls hh hS hl) (fun c9 => kf (hw.2 c9) H locs ls hh hS hl)
theorem j_icmp_eq {x : CX} {cc : ByteArray} {own : String} {rm : Room} {n9 : Nat} (X : Ok x cc own rm n9) {h : AH} {u v pc : Nat} {lv : List (Nat × TV)} {st : List TV} {a b : Int32} {off : Int} (tgt : Nat) {A B : Prop} (d : decode cc pc = .ok (.if_icmp .eq off, 3)) (ht : (pc : Int) + off = (tgt : Int)) (hw : (a = b → A) ∧ (¬ a = b → B)) (kt : A → J x h u v (tgt) lv (st)) (kf : B → J x h u v (pc + 3) lv (st)) : J x h u v pc lv (vI b :: vI a :: st) := by
  obtain ⟨p, l, e, R, s, m, args, below, meth, c, Q, G, nL⟩ := x
  intro H locs ls hh hS hl
  exact lv_icmp_eq X.1 X.2.1 d ht (fun c9 => kt (hw.1 c9) H locs ls hh hS hl) (fun c9 => kf (hw.2 c9) H locs ls hh hS hl)
theorem j_icmp_ne {x : CX} {cc : ByteArray} {own : String} {rm : Room} {n9 : Nat} (X : Ok x cc own rm n9) {h : AH} {u v pc : Nat} {lv : List (Nat × TV)} {st : List TV} {a b : Int32} {off : Int} (tgt : Nat) {A B : Prop} (d : decode cc pc = .ok (.if_icmp .ne off, 3)) (ht : (pc : Int) + off = (tgt : Int)) (hw : (a = b → A) ∧ (¬ a = b → B)) (kf : A → J x h u v (pc + 3) lv (st)) (kt : B → J x h u v (tgt) lv (st)) : J x h u v pc lv (vI b :: vI a :: st) := by
  obtain ⟨p, l, e, R, s, m, args, below, meth, c, Q, G, nL⟩ := x
  intro H locs ls hh hS hl
  exact lv_icmp_ne X.1 X.2.1 d ht (fun c9 => kt (hw.2 c9) H locs ls hh hS hl) (fun c9 => kf (hw.1 c9) H locs ls hh hS hl)
theorem j_icmp_lt {x : CX} {cc : ByteArray} {own : String} {rm : Room} {n9 : Nat} (X : Ok x cc own rm n9) {h : AH} {u v pc : Nat} {lv : List (Nat × TV)} {st : List TV} {a b : Int32} {off : Int} (tgt : Nat) {A B : Prop} (d : decode cc pc = .ok (.if_icmp .lt off, 3)) (ht : (pc : Int) + off = (tgt : Int)) (hw : (a < b → A) ∧ (¬ a < b → B)) (kt : A → J x h u v (tgt) lv (st)) (kf : B → J x h u v (pc + 3) lv (st)) : J x h u v pc lv (vI b :: vI a :: st) := by
  obtain ⟨p, l, e, R, s, m, args, below, meth, c, Q, G, nL⟩ := x
  intro H locs ls hh hS hl
  exact lv_icmp_lt X.1 X.2.1 d ht (fun c9 => kt (hw.1 c9) H locs ls hh hS hl) (fun c9 => kf (hw.2 c9) H locs ls hh hS hl)
theorem j_icmp_ge {x : CX} {cc : ByteArray} {own : String} {rm : Room} {n9 : Nat} (X : Ok x cc own rm n9) {h : AH} {u v pc : Nat} {lv : List (Nat × TV)} {st : List TV} {a b : Int32} {off : Int} (tgt : Nat) {A B : Prop} (d : decode cc pc = .ok (.if_icmp .ge off, 3)) (ht : (pc : Int) + off = (tgt : Int)) (hw : (b ≤ a → A) ∧ (¬ b ≤ a → B)) (kt : A → J x h u v (tgt) lv (st)) (kf : B → J x h u v (pc + 3) lv (st)) : J x h u v pc lv (vI b :: vI a :: st) := by
  obtain ⟨p, l, e, R, s, m, args, below, meth, c, Q, G, nL⟩ := x
  intro H locs ls hh hS hl
  exact lv_icmp_ge X.1 X.2.1 d ht (fun c9 => kt (hw.1 c9) H locs ls hh hS hl) (fun c9 => kf (hw.2 c9) H locs ls hh hS hl)
theorem j_icmp_gt {x : CX} {cc : ByteArray} {own : String} {rm : Room} {n9 : Nat} (X : Ok x cc own rm n9) {h : AH} {u v pc : Nat} {lv : List (Nat × TV)} {st : List TV} {a b : Int32} {off : Int} (tgt : Nat) {A B : Prop} (d : decode cc pc = .ok (.if_icmp .gt off, 3)) (ht : (pc : Int) + off = (tgt : Int)) (hw : (b < a → A) ∧ (¬ b < a → B)) (kt : A → J x h u v (tgt) lv (st)) (kf : B → J x h u v (pc + 3) lv (st)) : J x h u v pc lv (vI b :: vI a :: st) := by
  obtain ⟨p, l, e, R, s, m, args, below, meth, c, Q, G, nL⟩ := x
  intro H locs ls hh hS hl
  exact lv_icmp_gt X.1 X.2.1 d ht (fun c9 => kt (hw.1 c9) H locs ls hh hS hl) (fun c9 => kf (hw.2 c9) H locs ls hh hS hl)
theorem j_icmp_le {x : CX} {cc : ByteArray} {own : String} {rm : Room} {n9 : Nat} (X : Ok x cc own rm n9) {h : AH} {u v pc : Nat} {lv : List (Nat × TV)} {st : List TV} {a b : Int32} {off : Int} (tgt : Nat) {A B : Prop} (d : decode cc pc = .ok (.if_icmp .le off, 3)) (ht : (pc : Int) + off = (tgt : Int)) (hw : (a ≤ b → A) ∧ (¬ a ≤ b → B)) (kt : A → J x h u v (tgt) lv (st)) (kf : B → J x h u v (pc + 3) lv (st)) : J x h u v pc lv (vI b :: vI a :: st) := by
  obtain ⟨p, l, e, R, s, m, args, below, meth, c, Q, G, nL⟩ := x
  intro H locs ls hh hS hl
  exact lv_icmp_le X.1 X.2.1 d ht (fun c9 => kt (hw.1 c9) H locs ls hh hS hl) (fun c9 => kf (hw.2 c9) H locs ls hh hS hl)
theorem j_acmp_eq {x : CX} {cc : ByteArray} {own : String} {rm : Room} {n9 : Nat} (X : Ok x cc own rm n9) {h : AH} {u v pc : Nat} {lv : List (Nat × TV)} {st : List TV} {a b : Option Nat} {off : Int} (tgt : Nat) {A B : Prop} (d : decode cc pc = .ok (.if_acmp .eq off, 3)) (ht : (pc : Int) + off = (tgt : Int)) (hw : (a = b → A) ∧ (¬ a = b → B)) (kt : A → J x h u v (tgt) lv (st)) (kf : B → J x h u v (pc + 3) lv (st)) : J x h u v pc lv (vR b :: vR a :: st) := by
  obtain ⟨p, l, e, R, s, m, args, below, meth, c, Q, G, nL⟩ := x
  intro H locs ls hh hS hl
  exact lv_acmp_eq X.1 X.2.1 d ht (fun c9 => kt (hw.1 c9) H locs ls hh hS hl) (fun c9 => kf (hw.2 c9) H locs ls hh hS hl)
theorem j_acmp_ne {x : CX} {cc : ByteArray} {own : String} {rm : Room} {n9 : Nat} (X : Ok x cc own rm n9) {h : AH} {u v pc : Nat} {lv : List (Nat × TV)} {st : List TV} {a b : Option Nat} {off : Int} (tgt : Nat) {A B : Prop} (d : decode cc pc = .ok (.if_acmp .ne off, 3)) (ht : (pc : Int) + off = (tgt : Int)) (hw : (a = b → A) ∧ (¬ a = b → B)) (kf : A → J x h u v (pc + 3) lv (st)) (kt : B → J x h u v (tgt) lv (st)) : J x h u v pc lv (vR b :: vR a :: st) := by
  obtain ⟨p, l, e, R, s, m, args, below, meth, c, Q, G, nL⟩ := x
  intro H locs ls hh hS hl
  exact lv_acmp_ne X.1 X.2.1 d ht (fun c9 => kt (hw.2 c9) H locs ls hh hS hl) (fun c9 => kf (hw.1 c9) H locs ls hh hS hl)
theorem j_ifnull {x : CX} {cc : ByteArray} {own : String} {rm : Room} {n9 : Nat} (X : Ok x cc own rm n9) {h : AH} {u v pc : Nat} {lv : List (Nat × TV)} {st : List TV} {a : Option Nat} {off : Int} (tgt : Nat) {A B : Prop} (d : decode cc pc = .ok (.ifnull off, 3)) (ht : (pc : Int) + off = (tgt : Int)) (hw : (a = none → A) ∧ (¬ a = none → B)) (kt : A → J x h u v (tgt) lv (st)) (kf : B → J x h u v (pc + 3) lv (st)) : J x h u v pc lv (vR a :: st) := by
  obtain ⟨p, l, e, R, s, m, args, below, meth, c, Q, G, nL⟩ := x
  intro H locs ls hh hS hl
  cases a with
  | none => exact lv_ifnullN X.1 X.2.1 d ht (kt (hw.1 rfl) H locs ls hh hS hl)
  | some a => exact lv_ifnull X.1 X.2.1 d (kf (hw.2 (fun q => by cases q)) H locs ls hh hS hl)
theorem j_ifnonnull {x : CX} {cc : ByteArray} {own : String} {rm : Room} {n9 : Nat} (X : Ok x cc own rm n9) {h : AH} {u v pc : Nat} {lv : List (Nat × TV)} {st : List TV} {a : Option Nat} {off : Int} (tgt : Nat) {A B : Prop} (d : decode cc pc = .ok (.ifnonnull off, 3)) (ht : (pc : Int) + off = (tgt : Int)) (hw : (a = none → A) ∧ (¬ a = none → B)) (kf : A → J x h u v (pc + 3) lv (st)) (kt : B → J x h u v (tgt) lv (st)) : J x h u v pc lv (vR a :: st) := by
  obtain ⟨p, l, e, R, s, m, args, below, meth, c, Q, G, nL⟩ := x
  intro H locs ls hh hS hl
  cases a with
  | none => exact lv_ifnonnullN X.1 X.2.1 d (kf (hw.1 rfl) H locs ls hh hS hl)
  | some a => exact lv_ifnonnull X.1 X.2.1 d ht (kt (hw.2 (fun q => by cases q)) H locs ls hh hS hl)
theorem j_goto {x : CX} {cc : ByteArray} {own : String} {rm : Room} {n9 : Nat} (X : Ok x cc own rm n9) {h : AH} {u v pc : Nat} {lv : List (Nat × TV)} {st : List TV} {off : Int} (tgt : Nat) (d : decode cc pc = .ok (.goto off, 3)) (ht : (pc : Int) + off = (tgt : Int)) (k : J x h u v (tgt) lv (st)) : J x h u v pc lv (st) := by
  obtain ⟨p, l, e, R, s, m, args, below, meth, c, Q, G, nL⟩ := x
  intro H locs ls hh hS hl
  exact lv_goto X.1 X.2.1 d ht (k H locs ls hh hS hl)
theorem j_ldc {x : CX} {cc : ByteArray} {own : String} {rm : Room} {n9 : Nat} (X : Ok x cc own rm n9) {h : AH} {u v pc : Nat} {lv : List (Nat × TV)} {st : List TV} {i : Nat} {w : Int32} (d : decode cc pc = .ok (.ldc i, 2)) (q : Jvm.Cond.constant own i w ∈ lw_all) (k : J x h u v (pc + 2) lv (vI w :: st)) : J x h u v pc lv (st) := by
  obtain ⟨p, l, e, R, s, m, args, below, meth, c, Q, G, nL⟩ := x
  intro H locs ls hh hS hl
  exact lv_ldc X.1 X.2.1 X.2.2.1 (X.2.2.2.1 _ q) d (k H locs ls hh hS hl)
theorem j_ldcw {x : CX} {cc : ByteArray} {own : String} {rm : Room} {n9 : Nat} (X : Ok x cc own rm n9) {h : AH} {u v pc : Nat} {lv : List (Nat × TV)} {st : List TV} {i : Nat} {w : Int32} (d : decode cc pc = .ok (.ldc_w i, 3)) (q : Jvm.Cond.constant own i w ∈ lw_all) (k : J x h u v (pc + 3) lv (vI w :: st)) : J x h u v pc lv (st) := by
  obtain ⟨p, l, e, R, s, m, args, below, meth, c, Q, G, nL⟩ := x
  intro H locs ls hh hS hl
  exact lv_ldcw X.1 X.2.1 X.2.2.1 (X.2.2.2.1 _ q) d (k H locs ls hh hS hl)
theorem j_ldcf {x : CX} {cc : ByteArray} {own : String} {rm : Room} {n9 : Nat} (X : Ok x cc own rm n9) {h : AH} {u v pc : Nat} {lv : List (Nat × TV)} {st : List TV} {i : Nat} {w : UInt32} (d : decode cc pc = .ok (.ldc i, 2)) (q : Jvm.Cond.constantFloat own i w ∈ lw_all) (k : J x h u v (pc + 2) lv (vF w :: st)) : J x h u v pc lv (st) := by
  obtain ⟨p, l, e, R, s, m, args, below, meth, c, Q, G, nL⟩ := x
  intro H locs ls hh hS hl
  exact lv_ldcf X.1 X.2.1 X.2.2.1 (X.2.2.2.1 _ q) d (k H locs ls hh hS hl)
theorem j_lv {x : CX} {h : AH} {u v pc : Nat} {lv : List (Nat × TV)} {st : List TV} (lv' : List (Nat × TV)) (ks : List Nat) (hk : ks.filterMap (fun k => lv[k]?) = lv') (k : J x h u v (pc) lv' (st)) : J x h u v pc lv st := by
  obtain ⟨p, l, e, R, s, m, args, below, meth, c, Q, G, nL⟩ := x
  intro H locs ls hh hS hl
  exact k H locs ls hh hS (lv_sub hl ks (lvm_pick ks hk))
theorem j_cs {x : CX} {h : AH} {u v u' v' pc : Nat} {lv : List (Nat × TV)} {st : List TV} (hu : u ≤ u') (hv : v ≤ v') (k : J x h u' v' pc lv st) : J x h u v pc lv st := by
  obtain ⟨p, l, e, R, s, m, args, below, meth, c, Q, G, nL⟩ := x
  intro H locs ls hh hS hl
  exact W.widen hu hv (k H locs ls hh hS hl)
