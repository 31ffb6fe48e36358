/-! walks (printed): Plugboard, Plugboard.Board, Plugboard.Fields, Plugboard.Sequence, PlugboardModel, java/util/AbstractCollection, java/util/AbstractList, java/util/ArrayList -/
set_option maxRecDepth 100000
abbrev cJ0_init : ByteArray := prog_52_method_1_code
def yJ0_init : MethodName := ⟨RJ0, "<init>", "()V"⟩
theorem dJ0_init_0 : decode cJ0_init 0 = .ok (.aload_n 0, 1) := by decide +kernel
theorem dJ0_init_1 : decode cJ0_init 1 = .ok (.invokespecial 1, 3) := by decide +kernel
theorem dJ0_init_4 : decode cJ0_init 4 = .ok (.return_, 1) := by decide +kernel
theorem q125 : (Jvm.Cond.instanceMethod ({ cls := "java/lang/Object", name := "<init>", desc := "()V" } : Jvm.MethodName)) ∈ lw_all := lw_g (lw_at lw_m1 55 rfl) rfl
theorem q126 : (Jvm.Cond.code ({ cls := "java/lang/Object", name := "<init>", desc := "()V" } : Jvm.MethodName) object_method_1_code (1 : Nat) (Option.none : Option Jvm.ClassFile.FieldType)) ∈ lw_all := lw_g (lw_at lw_m1 56 rfl) rfl
theorem q138 : (Jvm.Cond.methodLink "java/util/AbstractCollection" (1 : Nat) ({ cls := "java/lang/Object", name := "<init>", desc := "()V" } : Jvm.MethodName)) ∈ lw_all := lw_g (lw_at lw_m1 68 rfl) rfl
abbrev rm_J0_init : Room := { frames := 1, cells := 0, slots := 0, locals := 12 }
def w_J0_init (a0 : Option Nat) (h : AH) (P : AH → Prop) : Prop :=
  nn a0 (
  P h)
theorem met_J0_init (l : Launch) (hlt : l.stackTraces = false) (G : GG) (h : AH) (a0 : Option Nat) (P : AH → Prop) (hw : w_J0_init a0 h P) : ct_v l yJ0_init (ws_ yJ0_init cJ0_init 1 (Option.none : Option Jvm.ClassFile.FieldType)) rm_J0_init G h [vR a0] P := by
  refine j_startv hlt [(0, vR a0)] (plainFor_of_name (by decide)) rfl rfl (fun x X eG er en hQ => ?_)
  subst eG
  refine j_aload_n X (pc := 0) 0 dJ0_init_0 rfl rfl ?_
  obtain ⟨b9, hr9, hw⟩ := hw
  refine j_obj X (pc := 1) hr9 q138 q125 q126 dJ0_init_1 ⟨Nat.le_of_ble_eq_true rfl, Nat.le_of_ble_eq_true rfl⟩ ?_
  exact j_vret X (pc := 4) hQ er (Nat.le_of_ble_eq_true rfl) (Nat.le_of_ble_eq_true rfl) dJ0_init_4 hw
abbrev cJ1_init : ByteArray := prog_53_method_1_code
def yJ1_init : MethodName := ⟨RJ1, "<init>", "()V"⟩
def dkwJ1_init_0 : List UInt8 := [42, 183, 0, 1, 42, 3, 181, 0, 7, 177]
abbrev dktJ1_init_0 : List UInt8 := dkwJ1_init_0 ++ []
theorem dksJ1_init_0 : cJ1_init.data.toList.drop 0 = dktJ1_init_0 := by decide +kernel
theorem dJ1_init_0 : decode cJ1_init 0 = .ok (.aload_n 0, 1) := dk_42 (dk_at dksJ1_init_0 0 rfl rfl)
theorem dJ1_init_1 : decode cJ1_init 1 = .ok (.invokespecial 1, 3) := dk_183 0 1 (dk_at dksJ1_init_0 1 rfl rfl)
theorem dJ1_init_4 : decode cJ1_init 4 = .ok (.aload_n 0, 1) := dk_42 (dk_at dksJ1_init_0 4 rfl rfl)
theorem dJ1_init_5 : decode cJ1_init 5 = .ok (.iconst 0, 1) := dk_3 (dk_at dksJ1_init_0 5 rfl rfl)
theorem dJ1_init_6 : decode cJ1_init 6 = .ok (.putfield 7, 3) := dk_181 0 7 (dk_at dksJ1_init_0 6 rfl rfl)
theorem dJ1_init_9 : decode cJ1_init 9 = .ok (.return_, 1) := dk_177 (dk_at dksJ1_init_0 9 rfl rfl)
theorem q72 : (Jvm.Cond.initialized "java/util/AbstractCollection") ∈ lw_all := lw_g (lw_at lw_m1 2 rfl) rfl
theorem q135 : (Jvm.Cond.methodLink "java/util/AbstractList" (1 : Nat) ({ cls := "java/util/AbstractCollection", name := "<init>", desc := "()V" } : Jvm.MethodName)) ∈ lw_all := lw_g (lw_at lw_m1 65 rfl) rfl
theorem q136 : (Jvm.Cond.instanceMethod ({ cls := "java/util/AbstractCollection", name := "<init>", desc := "()V" } : Jvm.MethodName)) ∈ lw_all := lw_g (lw_at lw_m1 66 rfl) rfl
theorem q137 : (Jvm.Cond.code ({ cls := "java/util/AbstractCollection", name := "<init>", desc := "()V" } : Jvm.MethodName) prog_52_method_1_code (1 : Nat) (Option.none : Option Jvm.ClassFile.FieldType)) ∈ lw_all := lw_g (lw_at lw_m1 67 rfl) rfl
theorem q145 : (Jvm.Cond.fieldLink "java/util/AbstractList" (7 : Nat) "java/util/AbstractList" "modCount" "I") ∈ lw_all := lw_g (lw_at lw_m1 75 rfl) rfl
abbrev rm_J1_init : Room := { frames := 2, cells := 0, slots := 0, locals := 32 }
def w_J1_init (a0 : Option Nat) (h : AH) (P : AH → Prop) : Prop :=
  nn a0 (
  w_J0_init a0 h (fun h1 =>
  p_v h1 a0 15 0 (vI 0) fun h6 =>
  P h6))
theorem met_J1_init (l : Launch) (hlt : l.stackTraces = false) (G : GG) (h : AH) (a0 : Option Nat) (P : AH → Prop) (hw : w_J1_init a0 h P) : ct_v l yJ1_init (ws_ yJ1_init cJ1_init 1 (Option.none : Option Jvm.ClassFile.FieldType)) rm_J1_init G h [vR a0] P := by
  refine j_startv hlt [(0, vR a0)] (plainFor_of_name (by decide)) rfl rfl (fun x X eG er en hQ => ?_)
  subst eG
  refine j_aload_n X (pc := 0) 0 dJ1_init_0 rfl rfl ?_
  obtain ⟨b9, hr9, hw⟩ := hw
  refine j_callv (j_runI (n8 := 0) (As := []) (rest := []) X (pc := 1) hr9 (met_J0_init (xl x) X.hl (xG x) h a0 _ hw) q135 q136 q72 q137 (by decide +kernel) dJ1_init_1 rfl ⟨Nat.le_of_ble_eq_true rfl, Nat.le_of_ble_eq_true rfl⟩ (Nat.le_of_ble_eq_true rfl) ⟨Nat.le_of_ble_eq_true rfl, Nat.le_of_ble_eq_true rfl⟩) (fun h1 hw => ?_)
  refine j_aload_n X (pc := 4) 0 dJ1_init_4 rfl rfl ?_
  refine j_iconst X (pc := 5) 0 dJ1_init_5 (by decide) ?_
  refine j_put (ci := 15) X (pc := 6) in_J2 rfl (by decide) 0 (by decide) q145 (Or.inl rfl) tyJ2 tyJ2_ok nmJ2 rfl rfl (ty := .int) (tyJ2_ok 0 (by decide)) rfl rfl dJ1_init_6 hw (fun h6 hw => ?_)
  exact j_vret X (pc := 9) hQ er (Nat.le_of_ble_eq_true rfl) (Nat.le_of_ble_eq_true rfl) dJ1_init_9 hw
abbrev cJ2_init : ByteArray := prog_54_method_2_code
def yJ2_init : MethodName := ⟨RJ2, "<init>", "()V"⟩
def dkwJ2_init_0 : List UInt8 := [42, 183, 0, 1, 42, 178, 0, 39, 181, 0, 9, 177]
abbrev dktJ2_init_0 : List UInt8 := dkwJ2_init_0 ++ []
theorem dksJ2_init_0 : cJ2_init.data.toList.drop 0 = dktJ2_init_0 := by decide +kernel
theorem dJ2_init_0 : decode cJ2_init 0 = .ok (.aload_n 0, 1) := dk_42 (dk_at dksJ2_init_0 0 rfl rfl)
theorem dJ2_init_1 : decode cJ2_init 1 = .ok (.invokespecial 1, 3) := dk_183 0 1 (dk_at dksJ2_init_0 1 rfl rfl)
theorem dJ2_init_4 : decode cJ2_init 4 = .ok (.aload_n 0, 1) := dk_42 (dk_at dksJ2_init_0 4 rfl rfl)
theorem dJ2_init_5 : decode cJ2_init 5 = .ok (.getstatic 39, 3) := dk_178 0 39 (dk_at dksJ2_init_0 5 rfl rfl)
theorem dJ2_init_8 : decode cJ2_init 8 = .ok (.putfield 9, 3) := dk_181 0 9 (dk_at dksJ2_init_0 8 rfl rfl)
theorem dJ2_init_11 : decode cJ2_init 11 = .ok (.return_, 1) := dk_177 (dk_at dksJ2_init_0 11 rfl rfl)
theorem q73 : (Jvm.Cond.initialized "java/util/AbstractList") ∈ lw_all := lw_g (lw_at lw_m1 3 rfl) rfl
theorem q132 : (Jvm.Cond.methodLink "java/util/ArrayList" (1 : Nat) ({ cls := "java/util/AbstractList", name := "<init>", desc := "()V" } : Jvm.MethodName)) ∈ lw_all := lw_g (lw_at lw_m1 62 rfl) rfl
theorem q133 : (Jvm.Cond.instanceMethod ({ cls := "java/util/AbstractList", name := "<init>", desc := "()V" } : Jvm.MethodName)) ∈ lw_all := lw_g (lw_at lw_m1 63 rfl) rfl
theorem q134 : (Jvm.Cond.code ({ cls := "java/util/AbstractList", name := "<init>", desc := "()V" } : Jvm.MethodName) prog_53_method_1_code (1 : Nat) (Option.none : Option Jvm.ClassFile.FieldType)) ∈ lw_all := lw_g (lw_at lw_m1 64 rfl) rfl
theorem q139 : (Jvm.Cond.fieldLink "java/util/ArrayList" (39 : Nat) "java/util/ArrayList" "DEFAULTCAPACITY_EMPTY_ELEMENTDATA" "[Ljava/lang/Object;") ∈ lw_all := lw_g (lw_at lw_m1 69 rfl) rfl
theorem q141 : (Jvm.Cond.fieldLink "java/util/ArrayList" (9 : Nat) "java/util/ArrayList" "elementData" "[Ljava/lang/Object;") ∈ lw_all := lw_g (lw_at lw_m1 71 rfl) rfl
abbrev rm_J2_init : Room := { frames := 3, cells := 0, slots := 0, locals := 52 }
def w_J2_init (a0 : Option Nat) (h : AH) (P : AH → Prop) : Prop :=
  nn a0 (
  w_J1_init a0 h (fun h1 =>
  p_v h1 a0 15 1 (vR (some (h1.2 0))) fun h8 =>
  P h8))
theorem met_J2_init (l : Launch) (hlt : l.stackTraces = false) (G : GG) (h : AH) (a0 : Option Nat) (P : AH → Prop) (hw : w_J2_init a0 h P) : ct_v l yJ2_init (ws_ yJ2_init cJ2_init 1 (Option.none : Option Jvm.ClassFile.FieldType)) rm_J2_init G h [vR a0] P := by
  refine j_startv hlt [(0, vR a0)] (plainFor_of_name (by decide)) rfl rfl (fun x X eG er en hQ => ?_)
  subst eG
  refine j_aload_n X (pc := 0) 0 dJ2_init_0 rfl rfl ?_
  obtain ⟨b9, hr9, hw⟩ := hw
  refine j_callv (j_runI (n8 := 0) (As := []) (rest := []) X (pc := 1) hr9 (met_J1_init (xl x) X.hl (xG x) h a0 _ hw) q132 q133 q73 q134 (by decide +kernel) dJ2_init_1 rfl ⟨Nat.le_of_ble_eq_true rfl, Nat.le_of_ble_eq_true rfl⟩ (Nat.le_of_ble_eq_true rfl) ⟨Nat.le_of_ble_eq_true rfl, Nat.le_of_ble_eq_true rfl⟩) (fun h1 hw => ?_)
  refine j_aload_n X (pc := 4) 0 dJ2_init_4 rfl rfl ?_
  refine j_gsDE X (pc := 5) q139 dJ2_init_5 ?_
  refine j_put (ci := 15) X (pc := 8) in_J2 rfl (by decide) 1 (by decide) q141 (Or.inl rfl) tyJ2 tyJ2_ok nmJ2 rfl rfl (ty := (.array (.object "java/lang/Object"))) (tyJ2_ok 1 (by decide)) (rt_nar _ rfl _) (rt_fit _ rfl _) dJ2_init_8 hw (fun h8 hw => ?_)
  exact j_vret X (pc := 11) hQ er (Nat.le_of_ble_eq_true rfl) (Nat.le_of_ble_eq_true rfl) dJ2_init_11 hw
abbrev cX2_init : ByteArray := prog_9_method_1_code
def yX2_init : MethodName := ⟨RX2, "<init>", "()V"⟩
def dkwX2_init_1 : List UInt8 := [189, 0, 18, 181, 0, 20, 177]
abbrev dktX2_init_1 : List UInt8 := dkwX2_init_1 ++ []
def dkwX2_init_0 : List UInt8 := [42, 183, 0, 3, 42, 16, 93, 188, 10, 181, 0, 9, 42, 16, 93, 188, 10, 181, 0, 15, 42, 16, 93]
abbrev dktX2_init_0 : List UInt8 := dkwX2_init_0 ++ dktX2_init_1
theorem dksX2_init_0 : cX2_init.data.toList.drop 0 = dktX2_init_0 := by decide +kernel
theorem dksX2_init_1 : cX2_init.data.toList.drop 23 = dktX2_init_1 := dk_seg dksX2_init_0 23 rfl rfl
theorem dX2_init_0 : decode cX2_init 0 = .ok (.aload_n 0, 1) := dk_42 (dk_at dksX2_init_0 0 rfl rfl)
theorem dX2_init_1 : decode cX2_init 1 = .ok (.invokespecial 3, 3) := dk_183 0 3 (dk_at dksX2_init_0 1 rfl rfl)
theorem dX2_init_4 : decode cX2_init 4 = .ok (.aload_n 0, 1) := dk_42 (dk_at dksX2_init_0 4 rfl rfl)
theorem dX2_init_5 : decode cX2_init 5 = .ok (.bipush 93, 2) := dk_16 93 (dk_at dksX2_init_0 5 rfl rfl)
theorem dX2_init_7 : decode cX2_init 7 = .ok (.newarray .int, 2) := dk_188_10 (dk_at dksX2_init_0 7 rfl rfl)
theorem dX2_init_9 : decode cX2_init 9 = .ok (.putfield 9, 3) := dk_181 0 9 (dk_at dksX2_init_0 9 rfl rfl)
theorem dX2_init_12 : decode cX2_init 12 = .ok (.aload_n 0, 1) := dk_42 (dk_at dksX2_init_0 12 rfl rfl)
theorem dX2_init_13 : decode cX2_init 13 = .ok (.bipush 93, 2) := dk_16 93 (dk_at dksX2_init_0 13 rfl rfl)
theorem dX2_init_15 : decode cX2_init 15 = .ok (.newarray .int, 2) := dk_188_10 (dk_at dksX2_init_0 15 rfl rfl)
theorem dX2_init_17 : decode cX2_init 17 = .ok (.putfield 15, 3) := dk_181 0 15 (dk_at dksX2_init_0 17 rfl rfl)
theorem dX2_init_20 : decode cX2_init 20 = .ok (.aload_n 0, 1) := dk_42 (dk_at dksX2_init_0 20 rfl rfl)
theorem dX2_init_21 : decode cX2_init 21 = .ok (.bipush 93, 2) := dk_16 93 (dk_at dksX2_init_0 21 rfl rfl)
theorem dX2_init_23 : decode cX2_init 23 = .ok (.anewarray 18, 3) := dk_189 0 18 (dk_at dksX2_init_1 0 rfl rfl)
theorem dX2_init_26 : decode cX2_init 26 = .ok (.putfield 20, 3) := dk_181 0 20 (dk_at dksX2_init_1 3 rfl rfl)
theorem dX2_init_29 : decode cX2_init 29 = .ok (.return_, 1) := dk_177 (dk_at dksX2_init_1 6 rfl rfl)
theorem q161 : (Jvm.Cond.methodLink "Plugboard$Fields" (3 : Nat) ({ cls := "java/lang/Object", name := "<init>", desc := "()V" } : Jvm.MethodName)) ∈ lw_all := lw_g (lw_at lw_m1 91 rfl) rfl
theorem q162 : (Jvm.Cond.classLink "Plugboard$Fields" (18 : Nat) "Plugboard$Operation") ∈ lw_all := lw_g (lw_at lw_m1 92 rfl) rfl
theorem q164 : (Jvm.Cond.fieldLink "Plugboard$Fields" (9 : Nat) "Plugboard$Fields" "values" "[I") ∈ lw_all := lw_g (lw_at lw_m1 94 rfl) rfl
theorem q169 : (Jvm.Cond.fieldLink "Plugboard$Fields" (15 : Nat) "Plugboard$Fields" "origins" "[I") ∈ lw_all := lw_g (lw_at lw_m1 99 rfl) rfl
theorem q171 : (Jvm.Cond.fieldLink "Plugboard$Fields" (20 : Nat) "Plugboard$Fields" "writers" "[LPlugboard$Operation;") ∈ lw_all := lw_g (lw_at lw_m1 101 rfl) rfl
theorem q180 : (Jvm.Cond.arrayClass Jvm.ClassFile.FieldType.int) ∈ lw_all := lw_g (lw_at lw_m1 110 rfl) rfl
abbrev rm_X2_init : Room := { frames := 1, cells := 3, slots := 279, locals := 12 }
def w_X2_init (a0 : Option Nat) (h : AH) (P : AH → Prop) : Prop :=
  nn a0 (
  mk_i h 0 93 93 fun q7 h7 =>
  p_v h7 a0 1 0 (vR (some q7)) fun h9 =>
  mk_i h9 0 93 93 fun q15 h15 =>
  p_v h15 a0 1 1 (vR (some q15)) fun h17 =>
  mk_q h17 10 93 93 fun q23 h23 =>
  p_v h23 a0 1 2 (vR (some q23)) fun h26 =>
  P h26)
theorem met_X2_init (l : Launch) (hlt : l.stackTraces = false) (G : GG) (h : AH) (a0 : Option Nat) (P : AH → Prop) (hw : w_X2_init a0 h P) : ct_v l yX2_init (ws_ yX2_init cX2_init 1 (Option.none : Option Jvm.ClassFile.FieldType)) rm_X2_init G h [vR a0] P := by
  refine j_startv hlt [(0, vR a0)] (plainFor_of_name (by decide)) rfl rfl (fun x X eG er en hQ => ?_)
  subst eG
  refine j_aload_n X (pc := 0) 0 dX2_init_0 rfl rfl ?_
  obtain ⟨b9, hr9, hw⟩ := hw
  refine j_obj X (pc := 1) hr9 q161 q125 q126 dX2_init_1 ⟨Nat.le_of_ble_eq_true rfl, Nat.le_of_ble_eq_true rfl⟩ ?_
  refine j_aload_n X (pc := 4) 0 dX2_init_4 rfl rfl ?_
  refine j_bipush X (pc := 5) 93 dX2_init_5 (by decide) ?_
  refine j_newI X (pc := 7) 93 dX2_init_7 q180 (by decide) (Nat.le_of_ble_eq_true rfl) (Nat.le_of_ble_eq_true rfl) hw (fun q7 h7 hw => ?_)
  refine j_put (ci := 1) X (pc := 9) in_X2 rfl (by decide) 0 (by decide) q164 (Or.inl rfl) tyX2 tyX2_ok nmX2 rfl rfl (ty := (.array .int)) (tyX2_ok 0 (by decide)) (rt_nar _ rfl _) (rt_fit _ rfl _) dX2_init_9 hw (fun h9 hw => ?_)
  refine j_aload_n X (pc := 12) 0 dX2_init_12 rfl rfl ?_
  refine j_bipush X (pc := 13) 93 dX2_init_13 (by decide) ?_
  refine j_newI X (pc := 15) 93 dX2_init_15 q180 (by decide) (Nat.le_of_ble_eq_true rfl) (Nat.le_of_ble_eq_true rfl) hw (fun q15 h15 hw => ?_)
  refine j_put (ci := 1) X (pc := 17) in_X2 rfl (by decide) 1 (by decide) q169 (Or.inl rfl) tyX2 tyX2_ok nmX2 rfl rfl (ty := (.array .int)) (tyX2_ok 1 (by decide)) (rt_nar _ rfl _) (rt_fit _ rfl _) dX2_init_17 hw (fun h17 hw => ?_)
  refine j_aload_n X (pc := 20) 0 dX2_init_20 rfl rfl ?_
  refine j_bipush X (pc := 21) 93 dX2_init_21 (by decide) ?_
  refine j_newQ X (pc := 23) 10 rfl (by decide) 93 dX2_init_23 q162 (fun U hU => kt_10 hU) (by decide) (Nat.le_of_ble_eq_true rfl) (Nat.le_of_ble_eq_true rfl) hw (fun q23 h23 hw => ?_)
  refine j_putF (ci := 1) X (pc := 26) in_X2 rfl (by decide) 2 (by decide) q171 (Or.inl rfl) tyX2 tyX2_ok nmX2 rfl en rfl rfl (ty := (.array (.object "Plugboard$Operation"))) (tyX2_ok 2 (by decide)) (rt_nar _ rfl _) (rt_fit _ rfl _) dX2_init_26 hw (fun h26 hw => ?_)
  exact j_vret X (pc := 29) hQ er (Nat.le_of_ble_eq_true rfl) (Nat.le_of_ble_eq_true rfl) dX2_init_29 hw
abbrev cX4_init : ByteArray := prog_16_method_1_code
def yX4_init : MethodName := ⟨RX4, "<init>", "()V"⟩
def dkwX4_init_0 : List UInt8 := [42, 183, 0, 1, 42, 187, 0, 7, 89, 183, 0, 9, 181, 0, 10, 177]
abbrev dktX4_init_0 : List UInt8 := dkwX4_init_0 ++ []
theorem dksX4_init_0 : cX4_init.data.toList.drop 0 = dktX4_init_0 := by decide +kernel
theorem dX4_init_0 : decode cX4_init 0 = .ok (.aload_n 0, 1) := dk_42 (dk_at dksX4_init_0 0 rfl rfl)
theorem dX4_init_1 : decode cX4_init 1 = .ok (.invokespecial 1, 3) := dk_183 0 1 (dk_at dksX4_init_0 1 rfl rfl)
theorem dX4_init_4 : decode cX4_init 4 = .ok (.aload_n 0, 1) := dk_42 (dk_at dksX4_init_0 4 rfl rfl)
theorem dX4_init_5 : decode cX4_init 5 = .ok (.new 7, 3) := dk_187 0 7 (dk_at dksX4_init_0 5 rfl rfl)
theorem dX4_init_8 : decode cX4_init 8 = .ok (.dup, 1) := dk_89 (dk_at dksX4_init_0 8 rfl rfl)
theorem dX4_init_9 : decode cX4_init 9 = .ok (.invokespecial 9, 3) := dk_183 0 9 (dk_at dksX4_init_0 9 rfl rfl)
theorem dX4_init_12 : decode cX4_init 12 = .ok (.putfield 10, 3) := dk_181 0 10 (dk_at dksX4_init_0 12 rfl rfl)
theorem dX4_init_15 : decode cX4_init 15 = .ok (.return_, 1) := dk_177 (dk_at dksX4_init_0 15 rfl rfl)
theorem q74 : (Jvm.Cond.initialized "java/util/ArrayList") ∈ lw_all := lw_g (lw_at lw_m1 4 rfl) rfl
theorem q128 : (Jvm.Cond.instantiable "java/util/ArrayList" (3 : Nat)) ∈ lw_all := lw_g (lw_at lw_m1 58 rfl) rfl
theorem q130 : (Jvm.Cond.instanceMethod ({ cls := "java/util/ArrayList", name := "<init>", desc := "()V" } : Jvm.MethodName)) ∈ lw_all := lw_g (lw_at lw_m1 60 rfl) rfl
theorem q131 : (Jvm.Cond.code ({ cls := "java/util/ArrayList", name := "<init>", desc := "()V" } : Jvm.MethodName) prog_54_method_2_code (1 : Nat) (Option.none : Option Jvm.ClassFile.FieldType)) ∈ lw_all := lw_g (lw_at lw_m1 61 rfl) rfl
theorem q195 : (Jvm.Cond.methodLink "Plugboard$Sequence" (1 : Nat) ({ cls := "java/lang/Object", name := "<init>", desc := "()V" } : Jvm.MethodName)) ∈ lw_all := lw_g (lw_at lw_m1 125 rfl) rfl
theorem q196 : (Jvm.Cond.classLink "Plugboard$Sequence" (7 : Nat) "java/util/ArrayList") ∈ lw_all := lw_g (lw_at lw_m1 126 rfl) rfl
theorem q197 : (Jvm.Cond.methodLink "Plugboard$Sequence" (9 : Nat) ({ cls := "java/util/ArrayList", name := "<init>", desc := "()V" } : Jvm.MethodName)) ∈ lw_all := lw_g (lw_at lw_m1 127 rfl) rfl
theorem q198 : (Jvm.Cond.fieldLink "Plugboard$Sequence" (10 : Nat) "Plugboard$Sequence" "all" "Ljava/util/ArrayList;") ∈ lw_all := lw_g (lw_at lw_m1 128 rfl) rfl
abbrev rm_X4_init : Room := { frames := 4, cells := 1, slots := 3, locals := 72 }
def w_X4_init (a0 : Option Nat) (h : AH) (P : AH → Prop) : Prop :=
  nn a0 (
  mk h (.inr (15, dvJ2)) fun q5 h5 =>
  w_J2_init (some q5) h5 (fun h9 =>
  p_v h9 a0 3 0 (vR (some q5)) fun h12 =>
  P h12))
theorem met_X4_init (l : Launch) (hlt : l.stackTraces = false) (G : GG) (h : AH) (a0 : Option Nat) (P : AH → Prop) (hw : w_X4_init a0 h P) : ct_v l yX4_init (ws_ yX4_init cX4_init 1 (Option.none : Option Jvm.ClassFile.FieldType)) rm_X4_init G h [vR a0] P := by
  refine j_startv hlt [(0, vR a0)] (plainFor_of_name (by decide)) rfl rfl (fun x X eG er en hQ => ?_)
  subst eG
  refine j_aload_n X (pc := 0) 0 dX4_init_0 rfl rfl ?_
  obtain ⟨b9, hr9, hw⟩ := hw
  refine j_obj X (pc := 1) hr9 q195 q125 q126 dX4_init_1 ⟨Nat.le_of_ble_eq_true rfl, Nat.le_of_ble_eq_true rfl⟩ ?_
  refine j_aload_n X (pc := 4) 0 dX4_init_4 rfl rfl ?_
  refine j_new (ci := 15) X (pc := 5) in_J2 rfl (by decide) tyJ2 tyJ2_ok q196 q128 q74 (fs := dvJ2) dfJ2 (Nat.le_of_ble_eq_true rfl) (Nat.le_of_ble_eq_true rfl) dX4_init_5 hw (fun q5 h5 hw => ?_)
  refine j_dup X (pc := 8) dX4_init_8 rfl ?_
  refine j_callv (j_runI (n8 := 0) (As := []) (rest := [vR (some q5), vR a0]) X (pc := 9) rfl (met_J2_init (xl x) X.hl (xG x) h5 (some q5) _ hw) q197 q130 q74 q131 (by decide +kernel) dX4_init_9 rfl ⟨Nat.le_of_ble_eq_true rfl, Nat.le_of_ble_eq_true rfl⟩ (Nat.le_of_ble_eq_true rfl) ⟨Nat.le_of_ble_eq_true rfl, Nat.le_of_ble_eq_true rfl⟩) (fun h9 hw => ?_)
  refine j_putF (ci := 3) X (pc := 12) in_X4 rfl (by decide) 0 (by decide) q198 (Or.inl rfl) tyX4 tyX4_ok nmX4 rfl en rfl rfl (ty := (.object "java/util/ArrayList")) (tyX4_ok 0 (by decide)) (rt_nar _ rfl _) (rt_fit _ rfl _) dX4_init_12 hw (fun h12 hw => ?_)
  exact j_vret X (pc := 15) hQ er (Nat.le_of_ble_eq_true rfl) (Nat.le_of_ble_eq_true rfl) dX4_init_15 hw
abbrev cX2_clear : ByteArray := prog_9_method_2_code
def yX2_clear : MethodName := ⟨RX2, "clear", "()V"⟩
def dkwX2_clear_1 : List UInt8 := [180, 0, 20, 27, 1, 83, 132, 1, 1, 167, 255, 226, 177]
abbrev dktX2_clear_1 : List UInt8 := dkwX2_clear_1 ++ []
def dkwX2_clear_0 : List UInt8 := [3, 60, 27, 16, 93, 162, 0, 30, 42, 180, 0, 9, 27, 3, 79, 42, 180, 0, 15, 27, 2, 79, 42]
abbrev dktX2_clear_0 : List UInt8 := dkwX2_clear_0 ++ dktX2_clear_1
theorem dksX2_clear_0 : cX2_clear.data.toList.drop 0 = dktX2_clear_0 := by decide +kernel
theorem dksX2_clear_1 : cX2_clear.data.toList.drop 23 = dktX2_clear_1 := dk_seg dksX2_clear_0 23 rfl rfl
theorem dX2_clear_0 : decode cX2_clear 0 = .ok (.iconst 0, 1) := dk_3 (dk_at dksX2_clear_0 0 rfl rfl)
theorem dX2_clear_1 : decode cX2_clear 1 = .ok (.istore_n 1, 1) := dk_60 (dk_at dksX2_clear_0 1 rfl rfl)
theorem dX2_clear_2 : decode cX2_clear 2 = .ok (.iload_n 1, 1) := dk_27 (dk_at dksX2_clear_0 2 rfl rfl)
theorem dX2_clear_3 : decode cX2_clear 3 = .ok (.bipush 93, 2) := dk_16 93 (dk_at dksX2_clear_0 3 rfl rfl)
theorem dX2_clear_5 : decode cX2_clear 5 = .ok (.if_icmp .ge 30, 3) := dk_162 0 30 (dk_at dksX2_clear_0 5 rfl rfl)
theorem dX2_clear_8 : decode cX2_clear 8 = .ok (.aload_n 0, 1) := dk_42 (dk_at dksX2_clear_0 8 rfl rfl)
theorem dX2_clear_9 : decode cX2_clear 9 = .ok (.getfield 9, 3) := dk_180 0 9 (dk_at dksX2_clear_0 9 rfl rfl)
theorem dX2_clear_12 : decode cX2_clear 12 = .ok (.iload_n 1, 1) := dk_27 (dk_at dksX2_clear_0 12 rfl rfl)
theorem dX2_clear_13 : decode cX2_clear 13 = .ok (.iconst 0, 1) := dk_3 (dk_at dksX2_clear_0 13 rfl rfl)
theorem dX2_clear_14 : decode cX2_clear 14 = .ok (.iastore, 1) := dk_79 (dk_at dksX2_clear_0 14 rfl rfl)
theorem dX2_clear_15 : decode cX2_clear 15 = .ok (.aload_n 0, 1) := dk_42 (dk_at dksX2_clear_0 15 rfl rfl)
theorem dX2_clear_16 : decode cX2_clear 16 = .ok (.getfield 15, 3) := dk_180 0 15 (dk_at dksX2_clear_0 16 rfl rfl)
theorem dX2_clear_19 : decode cX2_clear 19 = .ok (.iload_n 1, 1) := dk_27 (dk_at dksX2_clear_0 19 rfl rfl)
theorem dX2_clear_20 : decode cX2_clear 20 = .ok (.iconst (-1), 1) := dk_2 (dk_at dksX2_clear_0 20 rfl rfl)
theorem dX2_clear_21 : decode cX2_clear 21 = .ok (.iastore, 1) := dk_79 (dk_at dksX2_clear_0 21 rfl rfl)
theorem dX2_clear_22 : decode cX2_clear 22 = .ok (.aload_n 0, 1) := dk_42 (dk_at dksX2_clear_0 22 rfl rfl)
theorem dX2_clear_23 : decode cX2_clear 23 = .ok (.getfield 20, 3) := dk_180 0 20 (dk_at dksX2_clear_1 0 rfl rfl)
theorem dX2_clear_26 : decode cX2_clear 26 = .ok (.iload_n 1, 1) := dk_27 (dk_at dksX2_clear_1 3 rfl rfl)
theorem dX2_clear_27 : decode cX2_clear 27 = .ok (.aconst_null, 1) := dk_1 (dk_at dksX2_clear_1 4 rfl rfl)
theorem dX2_clear_28 : decode cX2_clear 28 = .ok (.aastore, 1) := dk_83 (dk_at dksX2_clear_1 5 rfl rfl)
theorem dX2_clear_29 : decode cX2_clear 29 = .ok (.iinc 1 1, 3) := dk_132 1 1 (dk_at dksX2_clear_1 6 rfl rfl)
theorem dX2_clear_32 : decode cX2_clear 32 = .ok (.goto (-30), 3) := dk_167 255 226 (dk_at dksX2_clear_1 9 rfl rfl)
theorem dX2_clear_35 : decode cX2_clear 35 = .ok (.return_, 1) := dk_177 (dk_at dksX2_clear_1 12 rfl rfl)
abbrev rm_X2_clear : Room := { frames := 0, cells := 0, slots := 0, locals := 0 }
def w_X2_clear_2 (P : AH → Prop) (x0 : Option Nat) (x1 : Int32) (h : AH) : Prop :=
  ∀ Z2 : Int32 → AH → Prop, (∀ x1 h, (
      ((93 ≤ x1 →
        P h) ∧
       (¬ 93 ≤ x1 →
        g_q h x0 1 0 fun y9 =>
        s_i h y9 0 x1 0 fun h14 =>
        g_q h14 x0 1 1 fun y16 =>
        s_i h14 y16 0 x1 (-1) fun h21 =>
        g_q h21 x0 1 2 fun y23 =>
        s_q h21 y23 10 x1 none fun h28 =>
        Z2 (x1 + 1) h28)))
      → Z2 x1 h) → Z2 x1 h
def w_X2_clear (a0 : Option Nat) (h : AH) (P : AH → Prop) : Prop :=
  w_X2_clear_2 P a0 0 h
theorem wk_X2_clear_2 {x : CX} (X : Ok x cX2_clear RX2 rm_X2_clear 2) (er : xrt x = (Option.none : Option Jvm.ClassFile.FieldType)) (en : xnm x = yX2_clear.name) {P : AH → Prop} (hQ : xr_v x P) (x0 : Option Nat) (x1 : Int32) (h : AH) (hw : w_X2_clear_2 P x0 x1 h) : J x h 0 0 2 [(0, vR x0), (1, vI x1)] [] := by
  refine hw (fun x1 h => J x h 0 0 2 [(0, vR x0), (1, vI x1)] []) (fun x1 h hw => ?_)
  refine j_iload_n X (pc := 2) 1 dX2_clear_2 rfl rfl ?_
  refine j_bipush X (pc := 3) 93 dX2_clear_3 (by decide) ?_
  refine j_icmp_ge X (pc := 5) 35 dX2_clear_5 (by decide) hw (fun hw => ?_) (fun hw => ?_)
  · exact j_vret X (pc := 35) hQ er (Nat.le_of_ble_eq_true rfl) (Nat.le_of_ble_eq_true rfl) dX2_clear_35 hw
  · refine j_aload_n X (pc := 8) 0 dX2_clear_8 rfl rfl ?_
    refine j_getq (ci := 1) X (pc := 9) in_X2 rfl (by decide) 0 (by decide) q164 (Or.inl rfl) dX2_clear_9 hw (fun y9 hw => ?_)
    refine j_iload_n X (pc := 12) 1 dX2_clear_12 rfl rfl ?_
    refine j_iconst X (pc := 13) 0 dX2_clear_13 (by decide) ?_
    refine j_iast X (pc := 14) 0 rfl rfl dX2_clear_14 hw (fun h14 hw => ?_)
    refine j_aload_n X (pc := 15) 0 dX2_clear_15 rfl rfl ?_
    refine j_getq (ci := 1) X (pc := 16) in_X2 rfl (by decide) 1 (by decide) q169 (Or.inl rfl) dX2_clear_16 hw (fun y16 hw => ?_)
    refine j_iload_n X (pc := 19) 1 dX2_clear_19 rfl rfl ?_
    refine j_iconst X (pc := 20) (-1) dX2_clear_20 (by decide) ?_
    refine j_iast X (pc := 21) 0 rfl rfl dX2_clear_21 hw (fun h21 hw => ?_)
    refine j_aload_n X (pc := 22) 0 dX2_clear_22 rfl rfl ?_
    refine j_getq (ci := 1) X (pc := 23) in_X2 rfl (by decide) 2 (by decide) q171 (Or.inl rfl) dX2_clear_23 hw (fun y23 hw => ?_)
    refine j_iload_n X (pc := 26) 1 dX2_clear_26 rfl rfl ?_
    refine j_null X (pc := 27) dX2_clear_27 ?_
    refine j_aast X (pc := 28) 10 (Nat.le_of_ble_eq_true rfl) rfl dX2_clear_28 hw (fun h28 hw => ?_)
    refine j_iinc X (pc := 29) 1 (x1 + 1) [(1, vI (x1 + 1)), (0, vR x0)] dX2_clear_29 rfl rfl (Nat.le_of_ble_eq_true rfl) rfl ?_
    refine j_goto X (pc := 32) 2 dX2_clear_32 (by decide) ?_
    refine j_lv [(0, vR x0), (1, vI (x1 + 1))] [1, 0] rfl ?_
    refine j_cs (u' := 0) (v' := 0) (Nat.le_of_ble_eq_true rfl) (Nat.le_of_ble_eq_true rfl) ?_
    exact hw
theorem met_X2_clear (l : Launch) (hlt : l.stackTraces = false) (G : GG) (h : AH) (a0 : Option Nat) (P : AH → Prop) (hw : w_X2_clear a0 h P) : ct_v l yX2_clear (ws_ yX2_clear cX2_clear 2 (Option.none : Option Jvm.ClassFile.FieldType)) rm_X2_clear G h [vR a0] P := by
  refine j_startv hlt [(0, vR a0)] (plainFor_of_name (by decide)) rfl rfl (fun x X eG er en hQ => ?_)
  subst eG
  refine j_iconst X (pc := 0) 0 dX2_clear_0 (by decide) ?_
  refine j_istore_n X (pc := 1) [(1, vI 0), (0, vR a0)] dX2_clear_1 rfl (Nat.le_of_ble_eq_true rfl) rfl ?_
  refine j_lv [(0, vR a0), (1, vI 0)] [1, 0] rfl ?_
  refine j_cs (u' := 0) (v' := 0) (Nat.le_of_ble_eq_true rfl) (Nat.le_of_ble_eq_true rfl) ?_
  exact wk_X2_clear_2 X er en hQ a0 0 h hw
abbrev cX3_init : ByteArray := prog_3_method_1_code
def yX3_init : MethodName := ⟨RX3, "<init>", "(LPlugboard;I)V"⟩
def dkwX3_init_2 : List UInt8 := [180, 0, 18, 182, 0, 37, 177]
abbrev dktX3_init_2 : List UInt8 := dkwX3_init_2 ++ []
def dkwX3_init_1 : List UInt8 := [89, 183, 0, 24, 181, 0, 25, 42, 17, 0, 250, 188, 4, 181, 0, 29, 42, 28, 181, 0, 33, 42]
abbrev dktX3_init_1 : List UInt8 := dkwX3_init_1 ++ dktX3_init_2
def dkwX3_init_0 : List UInt8 := [42, 43, 181, 0, 3, 42, 183, 0, 9, 42, 187, 0, 15, 89, 183, 0, 17, 181, 0, 18, 42, 187, 0, 22]
abbrev dktX3_init_0 : List UInt8 := dkwX3_init_0 ++ dktX3_init_1
theorem dksX3_init_0 : cX3_init.data.toList.drop 0 = dktX3_init_0 := by decide +kernel
theorem dksX3_init_1 : cX3_init.data.toList.drop 24 = dktX3_init_1 := dk_seg dksX3_init_0 24 rfl rfl
theorem dksX3_init_2 : cX3_init.data.toList.drop 46 = dktX3_init_2 := dk_seg dksX3_init_1 22 rfl rfl
theorem dX3_init_0 : decode cX3_init 0 = .ok (.aload_n 0, 1) := dk_42 (dk_at dksX3_init_0 0 rfl rfl)
theorem dX3_init_1 : decode cX3_init 1 = .ok (.aload_n 1, 1) := dk_43 (dk_at dksX3_init_0 1 rfl rfl)
theorem dX3_init_2 : decode cX3_init 2 = .ok (.putfield 3, 3) := dk_181 0 3 (dk_at dksX3_init_0 2 rfl rfl)
theorem dX3_init_5 : decode cX3_init 5 = .ok (.aload_n 0, 1) := dk_42 (dk_at dksX3_init_0 5 rfl rfl)
theorem dX3_init_6 : decode cX3_init 6 = .ok (.invokespecial 9, 3) := dk_183 0 9 (dk_at dksX3_init_0 6 rfl rfl)
theorem dX3_init_9 : decode cX3_init 9 = .ok (.aload_n 0, 1) := dk_42 (dk_at dksX3_init_0 9 rfl rfl)
theorem dX3_init_10 : decode cX3_init 10 = .ok (.new 15, 3) := dk_187 0 15 (dk_at dksX3_init_0 10 rfl rfl)
theorem dX3_init_13 : decode cX3_init 13 = .ok (.dup, 1) := dk_89 (dk_at dksX3_init_0 13 rfl rfl)
theorem dX3_init_14 : decode cX3_init 14 = .ok (.invokespecial 17, 3) := dk_183 0 17 (dk_at dksX3_init_0 14 rfl rfl)
theorem dX3_init_17 : decode cX3_init 17 = .ok (.putfield 18, 3) := dk_181 0 18 (dk_at dksX3_init_0 17 rfl rfl)
theorem dX3_init_20 : decode cX3_init 20 = .ok (.aload_n 0, 1) := dk_42 (dk_at dksX3_init_0 20 rfl rfl)
theorem dX3_init_21 : decode cX3_init 21 = .ok (.new 22, 3) := dk_187 0 22 (dk_at dksX3_init_0 21 rfl rfl)
theorem dX3_init_24 : decode cX3_init 24 = .ok (.dup, 1) := dk_89 (dk_at dksX3_init_1 0 rfl rfl)
theorem dX3_init_25 : decode cX3_init 25 = .ok (.invokespecial 24, 3) := dk_183 0 24 (dk_at dksX3_init_1 1 rfl rfl)
theorem dX3_init_28 : decode cX3_init 28 = .ok (.putfield 25, 3) := dk_181 0 25 (dk_at dksX3_init_1 4 rfl rfl)
theorem dX3_init_31 : decode cX3_init 31 = .ok (.aload_n 0, 1) := dk_42 (dk_at dksX3_init_1 7 rfl rfl)
theorem dX3_init_32 : decode cX3_init 32 = .ok (.sipush 250, 3) := dk_17 0 250 (dk_at dksX3_init_1 8 rfl rfl)
theorem dX3_init_35 : decode cX3_init 35 = .ok (.newarray .boolean, 2) := dk_188_4 (dk_at dksX3_init_1 11 rfl rfl)
theorem dX3_init_37 : decode cX3_init 37 = .ok (.putfield 29, 3) := dk_181 0 29 (dk_at dksX3_init_1 13 rfl rfl)
theorem dX3_init_40 : decode cX3_init 40 = .ok (.aload_n 0, 1) := dk_42 (dk_at dksX3_init_1 16 rfl rfl)
theorem dX3_init_41 : decode cX3_init 41 = .ok (.iload_n 2, 1) := dk_28 (dk_at dksX3_init_1 17 rfl rfl)
theorem dX3_init_42 : decode cX3_init 42 = .ok (.putfield 33, 3) := dk_181 0 33 (dk_at dksX3_init_1 18 rfl rfl)
theorem dX3_init_45 : decode cX3_init 45 = .ok (.aload_n 0, 1) := dk_42 (dk_at dksX3_init_1 21 rfl rfl)
theorem dX3_init_46 : decode cX3_init 46 = .ok (.getfield 18, 3) := dk_180 0 18 (dk_at dksX3_init_2 0 rfl rfl)
theorem dX3_init_49 : decode cX3_init 49 = .ok (.invokevirtual 37, 3) := dk_182 0 37 (dk_at dksX3_init_2 3 rfl rfl)
theorem dX3_init_52 : decode cX3_init 52 = .ok (.return_, 1) := dk_177 (dk_at dksX3_init_2 6 rfl rfl)
theorem q75 : (Jvm.Cond.initialized "Plugboard$Fields") ∈ lw_all := lw_g (lw_at lw_m1 5 rfl) rfl
theorem q77 : (Jvm.Cond.initialized "Plugboard$Sequence") ∈ lw_all := lw_g (lw_at lw_m1 7 rfl) rfl
theorem q157 : (Jvm.Cond.instantiable "Plugboard$Fields" (3 : Nat)) ∈ lw_all := lw_g (lw_at lw_m1 87 rfl) rfl
theorem q159 : (Jvm.Cond.instanceMethod ({ cls := "Plugboard$Fields", name := "<init>", desc := "()V" } : Jvm.MethodName)) ∈ lw_all := lw_g (lw_at lw_m1 89 rfl) rfl
theorem q160 : (Jvm.Cond.code ({ cls := "Plugboard$Fields", name := "<init>", desc := "()V" } : Jvm.MethodName) prog_9_method_1_code (1 : Nat) (Option.none : Option Jvm.ClassFile.FieldType)) ∈ lw_all := lw_g (lw_at lw_m1 90 rfl) rfl
theorem q187 : (Jvm.Cond.methodLink "Plugboard$Board" (9 : Nat) ({ cls := "java/lang/Object", name := "<init>", desc := "()V" } : Jvm.MethodName)) ∈ lw_all := lw_g (lw_at lw_m1 117 rfl) rfl
theorem q188 : (Jvm.Cond.classLink "Plugboard$Board" (15 : Nat) "Plugboard$Fields") ∈ lw_all := lw_g (lw_at lw_m1 118 rfl) rfl
theorem q189 : (Jvm.Cond.methodLinkNest "Plugboard$Board" (17 : Nat) ({ cls := "Plugboard$Fields", name := "<init>", desc := "()V" } : Jvm.MethodName) "Plugboard") ∈ lw_tbl := lw_at lw_m1 119 rfl
theorem q190 : (Jvm.Cond.classLink "Plugboard$Board" (22 : Nat) "Plugboard$Sequence") ∈ lw_all := lw_g (lw_at lw_m1 120 rfl) rfl
theorem q191 : (Jvm.Cond.instantiable "Plugboard$Sequence" (1 : Nat)) ∈ lw_all := lw_g (lw_at lw_m1 121 rfl) rfl
theorem q192 : (Jvm.Cond.methodLinkNest "Plugboard$Board" (24 : Nat) ({ cls := "Plugboard$Sequence", name := "<init>", desc := "()V" } : Jvm.MethodName) "Plugboard") ∈ lw_tbl := lw_at lw_m1 122 rfl
theorem q193 : (Jvm.Cond.instanceMethod ({ cls := "Plugboard$Sequence", name := "<init>", desc := "()V" } : Jvm.MethodName)) ∈ lw_all := lw_g (lw_at lw_m1 123 rfl) rfl
theorem q194 : (Jvm.Cond.code ({ cls := "Plugboard$Sequence", name := "<init>", desc := "()V" } : Jvm.MethodName) prog_16_method_1_code (1 : Nat) (Option.none : Option Jvm.ClassFile.FieldType)) ∈ lw_all := lw_g (lw_at lw_m1 124 rfl) rfl
theorem q202 : (Jvm.Cond.methodLink "Plugboard$Board" (37 : Nat) ({ cls := "Plugboard$Fields", name := "clear", desc := "()V" } : Jvm.MethodName)) ∈ lw_all := lw_g (lw_at lw_m1 132 rfl) rfl
theorem q203 : (Jvm.Cond.instanceMethod ({ cls := "Plugboard$Fields", name := "clear", desc := "()V" } : Jvm.MethodName)) ∈ lw_all := lw_g (lw_at lw_m1 133 rfl) rfl
theorem q204 : (Jvm.Cond.selects "Plugboard$Fields" ({ cls := "Plugboard$Fields", name := "clear", desc := "()V" } : Jvm.MethodName) ({ cls := "Plugboard$Fields", name := "clear", desc := "()V" } : Jvm.MethodName)) ∈ lw_all := lw_g (lw_at lw_m1 134 rfl) rfl
theorem q205 : (Jvm.Cond.code ({ cls := "Plugboard$Fields", name := "clear", desc := "()V" } : Jvm.MethodName) prog_9_method_2_code (2 : Nat) (Option.none : Option Jvm.ClassFile.FieldType)) ∈ lw_all := lw_g (lw_at lw_m1 135 rfl) rfl
theorem q206 : (Jvm.Cond.fieldLink "Plugboard$Board" (33 : Nat) "Plugboard$Board" "user" "I") ∈ lw_all := lw_g (lw_at lw_m1 136 rfl) rfl
theorem q208 : (Jvm.Cond.fieldLink "Plugboard$Board" (18 : Nat) "Plugboard$Board" "fields" "LPlugboard$Fields;") ∈ lw_all := lw_g (lw_at lw_m1 138 rfl) rfl
theorem q212 : (Jvm.Cond.fieldLink "Plugboard$Board" (25 : Nat) "Plugboard$Board" "known" "LPlugboard$Sequence;") ∈ lw_all := lw_g (lw_at lw_m1 142 rfl) rfl
theorem q214 : (Jvm.Cond.fieldLink "Plugboard$Board" (29 : Nat) "Plugboard$Board" "areKnown" "[Z") ∈ lw_all := lw_g (lw_at lw_m1 144 rfl) rfl
theorem q218 : (Jvm.Cond.fieldLink "Plugboard$Board" (3 : Nat) "Plugboard$Board" "this$0" "LPlugboard;") ∈ lw_all := lw_g (lw_at lw_m1 148 rfl) rfl
theorem q233 : (Jvm.Cond.arrayClass Jvm.ClassFile.FieldType.boolean) ∈ lw_all := lw_g (lw_at lw_m1 163 rfl) rfl
abbrev rm_X3_init : Room := { frames := 5, cells := 7, slots := 536, locals := 92 }
def w_X3_init (a0 : Option Nat) (a1 : Option Nat) (a2 : Int32) (h : AH) (P : AH → Prop) : Prop :=
  p_v h a0 2 5 (vR a1) fun h2 =>
  nn a0 (
  mk h2 (.inr (1, dvX2)) fun q10 h10 =>
  w_X2_init (some q10) h10 (fun h14 =>
  p_v h14 a0 2 1 (vR (some q10)) fun h17 =>
  mk h17 (.inr (3, dvX4)) fun q21 h21 =>
  w_X4_init (some q21) h21 (fun h25 =>
  p_v h25 a0 2 2 (vR (some q21)) fun h28 =>
  mk_i h28 1 250 250 fun q35 h35 =>
  p_v h35 a0 2 3 (vR (some q35)) fun h37 =>
  p_v h37 a0 2 0 (vI a2) fun h42 =>
  g_q h42 a0 2 1 fun y46 =>
  is_c h42 y46 [1] (
  w_X2_clear y46 h42 (fun h49 =>
  P h49)))))
theorem met_X3_init (l : Launch) (hlt : l.stackTraces = false) (G : GG) (h : AH) (a0 : Option Nat) (a1 : Option Nat) (a2 : Int32) (P : AH → Prop) (hw : w_X3_init a0 a1 a2 h P) : ct_v l yX3_init (ws_ yX3_init cX3_init 3 (Option.none : Option Jvm.ClassFile.FieldType)) rm_X3_init G h [vR a0, vR a1, vI a2] P := by
  refine j_startv hlt [(0, vR a0), (1, vR a1), (2, vI a2)] (plainFor_of_name (by decide)) rfl rfl (fun x X eG er en hQ => ?_)
  subst eG
  refine j_aload_n X (pc := 0) 0 dX3_init_0 rfl rfl ?_
  refine j_aload_n X (pc := 1) 1 dX3_init_1 rfl rfl ?_
  refine j_putF (ci := 2) X (pc := 2) in_X3 rfl (by decide) 5 (by decide) q218 (Or.inl rfl) tyX3 tyX3_ok nmX3 rfl en rfl rfl (ty := (.object "Plugboard")) (tyX3_ok 5 (by decide)) (rt_nar _ rfl _) (rt_fit _ rfl _) dX3_init_2 hw (fun h2 hw => ?_)
  refine j_aload_n X (pc := 5) 0 dX3_init_5 rfl rfl ?_
  obtain ⟨b9, hr9, hw⟩ := hw
  refine j_obj X (pc := 6) hr9 q187 q125 q126 dX3_init_6 ⟨Nat.le_of_ble_eq_true rfl, Nat.le_of_ble_eq_true rfl⟩ ?_
  refine j_aload_n X (pc := 9) 0 dX3_init_9 rfl rfl ?_
  refine j_new (ci := 1) X (pc := 10) in_X2 rfl (by decide) tyX2 tyX2_ok q188 q157 q75 (fs := dvX2) dfX2 (Nat.le_of_ble_eq_true rfl) (Nat.le_of_ble_eq_true rfl) dX3_init_10 hw (fun q10 h10 hw => ?_)
  refine j_dup X (pc := 13) dX3_init_13 rfl ?_
  refine j_callv (j_runIN (n8 := 0) (As := []) (rest := [vR (some q10), vR a0]) X (pc := 14) rfl (met_X2_init (xl x) X.hl (xG x) h10 (some q10) _ hw) q189 q159 q75 q160 (by decide +kernel) dX3_init_14 rfl ⟨Nat.le_of_ble_eq_true rfl, Nat.le_of_ble_eq_true rfl⟩ (Nat.le_of_ble_eq_true rfl) ⟨Nat.le_of_ble_eq_true rfl, Nat.le_of_ble_eq_true rfl⟩) (fun h14 hw => ?_)
  refine j_putF (ci := 2) X (pc := 17) in_X3 rfl (by decide) 1 (by decide) q208 (Or.inl rfl) tyX3 tyX3_ok nmX3 rfl en rfl rfl (ty := (.object "Plugboard$Fields")) (tyX3_ok 1 (by decide)) (rt_nar _ rfl _) (rt_fit _ rfl _) dX3_init_17 hw (fun h17 hw => ?_)
  refine j_aload_n X (pc := 20) 0 dX3_init_20 rfl rfl ?_
  refine j_new (ci := 3) X (pc := 21) in_X4 rfl (by decide) tyX4 tyX4_ok q190 q191 q77 (fs := dvX4) dfX4 (Nat.le_of_ble_eq_true rfl) (Nat.le_of_ble_eq_true rfl) dX3_init_21 hw (fun q21 h21 hw => ?_)
  refine j_dup X (pc := 24) dX3_init_24 rfl ?_
  refine j_callv (j_runIN (n8 := 0) (As := []) (rest := [vR (some q21), vR a0]) X (pc := 25) rfl (met_X4_init (xl x) X.hl (xG x) h21 (some q21) _ hw) q192 q193 q77 q194 (by decide +kernel) dX3_init_25 rfl ⟨Nat.le_of_ble_eq_true rfl, Nat.le_of_ble_eq_true rfl⟩ (Nat.le_of_ble_eq_true rfl) ⟨Nat.le_of_ble_eq_true rfl, Nat.le_of_ble_eq_true rfl⟩) (fun h25 hw => ?_)
  refine j_putF (ci := 2) X (pc := 28) in_X3 rfl (by decide) 2 (by decide) q212 (Or.inl rfl) tyX3 tyX3_ok nmX3 rfl en rfl rfl (ty := (.object "Plugboard$Sequence")) (tyX3_ok 2 (by decide)) (rt_nar _ rfl _) (rt_fit _ rfl _) dX3_init_28 hw (fun h28 hw => ?_)
  refine j_aload_n X (pc := 31) 0 dX3_init_31 rfl rfl ?_
  refine j_sipush X (pc := 32) 250 dX3_init_32 (by decide) ?_
  refine j_newZ X (pc := 35) 250 dX3_init_35 q233 (by decide) (Nat.le_of_ble_eq_true rfl) (Nat.le_of_ble_eq_true rfl) hw (fun q35 h35 hw => ?_)
  refine j_putF (ci := 2) X (pc := 37) in_X3 rfl (by decide) 3 (by decide) q214 (Or.inl rfl) tyX3 tyX3_ok nmX3 rfl en rfl rfl (ty := (.array .boolean)) (tyX3_ok 3 (by decide)) (rt_nar _ rfl _) (rt_fit _ rfl _) dX3_init_37 hw (fun h37 hw => ?_)
  refine j_aload_n X (pc := 40) 0 dX3_init_40 rfl rfl ?_
  refine j_iload_n X (pc := 41) 2 dX3_init_41 rfl rfl ?_
  refine j_putF (ci := 2) X (pc := 42) in_X3 rfl (by decide) 0 (by decide) q206 (Or.inl rfl) tyX3 tyX3_ok nmX3 rfl en rfl rfl (ty := .int) (tyX3_ok 0 (by decide)) rfl rfl dX3_init_42 hw (fun h42 hw => ?_)
  refine j_aload_n X (pc := 45) 0 dX3_init_45 rfl rfl ?_
  refine j_getq (ci := 2) X (pc := 46) in_X3 rfl (by decide) 1 (by decide) q208 (Or.inl rfl) dX3_init_46 hw (fun y46 hw => ?_)
  obtain ⟨b9, c9, f9, hr9, ho9, hc9, hw⟩ := hw
  obtain rfl := List.mem_singleton.mp hc9
  refine j_callv (j_runV (n8 := 0) (As := []) (rest := []) X (pc := 49) hr9 (met_X2_clear (xl x) X.hl (xG x) h42 y46 _ hw) ho9 (by decide) rfl q202 q203 q204 q75 q205 (by decide +kernel) dX3_init_49 rfl ⟨Nat.le_of_ble_eq_true rfl, Nat.le_of_ble_eq_true rfl⟩ (Nat.le_of_ble_eq_true rfl) ⟨Nat.le_of_ble_eq_true rfl, Nat.le_of_ble_eq_true rfl⟩) (fun h49 hw => ?_)
  exact j_vret X (pc := 52) hQ er (Nat.le_of_ble_eq_true rfl) (Nat.le_of_ble_eq_true rfl) dX3_init_52 hw
abbrev cX1_init : ByteArray := prog_1_method_9_code
def yX1_init : MethodName := ⟨RX1, "<init>", "()V"⟩
def dkwX1_init_9 : List UInt8 := [167, 255, 233, 177]
abbrev dktX1_init_9 : List UInt8 := dkwX1_init_9 ++ []
def dkwX1_init_8 : List UInt8 := [6, 162, 0, 24, 42, 180, 0, 77, 27, 187, 0, 75, 89, 42, 27, 183, 0, 81, 83, 132, 1, 1]
abbrev dktX1_init_8 : List UInt8 := dkwX1_init_8 ++ dktX1_init_9
def dkwX1_init_7 : List UInt8 := [181, 0, 99, 42, 17, 6, 0, 188, 10, 181, 0, 102, 42, 17, 6, 0, 188, 4, 181, 0, 105, 3, 60, 27]
abbrev dktX1_init_7 : List UInt8 := dkwX1_init_7 ++ dktX1_init_8
def dkwX1_init_6 : List UInt8 := [83, 181, 0, 90, 42, 16, 16, 16, 24, 197, 0, 94, 2, 181, 0, 96, 42, 17, 6, 0, 188, 10]
abbrev dktX1_init_6 : List UInt8 := dkwX1_init_6 ++ dktX1_init_7
def dkwX1_init_5 : List UInt8 := [188, 10, 89, 3, 3, 79, 89, 4, 4, 79, 83, 89, 6, 5, 188, 10, 89, 3, 2, 79, 89, 4, 3, 79]
abbrev dktX1_init_5 : List UInt8 := dkwX1_init_5 ++ dktX1_init_6
def dkwX1_init_4 : List UInt8 := [3, 79, 89, 4, 2, 79, 83, 89, 4, 5, 188, 10, 89, 3, 4, 79, 89, 4, 3, 79, 83, 89, 5, 5]
abbrev dktX1_init_4 : List UInt8 := dkwX1_init_4 ++ dktX1_init_5
def dkwX1_init_3 : List UInt8 := [187, 0, 75, 89, 42, 2, 183, 0, 81, 181, 0, 84, 42, 7, 189, 0, 88, 89, 3, 5, 188, 10, 89, 3]
abbrev dktX1_init_3 : List UInt8 := dkwX1_init_3 ++ dktX1_init_4
def dkwX1_init_2 : List UInt8 := [181, 0, 68, 42, 187, 0, 65, 89, 183, 0, 67, 181, 0, 72, 42, 6, 189, 0, 75, 181, 0, 77, 42]
abbrev dktX1_init_2 : List UInt8 := dkwX1_init_2 ++ dktX1_init_3
def dkwX1_init_1 : List UInt8 := [181, 0, 59, 42, 187, 0, 52, 89, 183, 0, 54, 181, 0, 62, 42, 187, 0, 65, 89, 183, 0, 67]
abbrev dktX1_init_1 : List UInt8 := dkwX1_init_1 ++ dktX1_init_2
def dkwX1_init_0 : List UInt8 := [42, 183, 0, 49, 42, 187, 0, 52, 89, 183, 0, 54, 181, 0, 55, 42, 187, 0, 52, 89, 183, 0, 54]
abbrev dktX1_init_0 : List UInt8 := dkwX1_init_0 ++ dktX1_init_1
theorem dksX1_init_0 : cX1_init.data.toList.drop 0 = dktX1_init_0 := by decide +kernel
theorem dksX1_init_1 : cX1_init.data.toList.drop 23 = dktX1_init_1 := dk_seg dksX1_init_0 23 rfl rfl
theorem dksX1_init_2 : cX1_init.data.toList.drop 45 = dktX1_init_2 := dk_seg dksX1_init_1 22 rfl rfl
theorem dksX1_init_3 : cX1_init.data.toList.drop 68 = dktX1_init_3 := dk_seg dksX1_init_2 23 rfl rfl
theorem dksX1_init_4 : cX1_init.data.toList.drop 92 = dktX1_init_4 := dk_seg dksX1_init_3 24 rfl rfl
theorem dksX1_init_5 : cX1_init.data.toList.drop 116 = dktX1_init_5 := dk_seg dksX1_init_4 24 rfl rfl
theorem dksX1_init_6 : cX1_init.data.toList.drop 140 = dktX1_init_6 := dk_seg dksX1_init_5 24 rfl rfl
theorem dksX1_init_7 : cX1_init.data.toList.drop 162 = dktX1_init_7 := dk_seg dksX1_init_6 22 rfl rfl
theorem dksX1_init_8 : cX1_init.data.toList.drop 186 = dktX1_init_8 := dk_seg dksX1_init_7 24 rfl rfl
theorem dksX1_init_9 : cX1_init.data.toList.drop 208 = dktX1_init_9 := dk_seg dksX1_init_8 22 rfl rfl
theorem dX1_init_0 : decode cX1_init 0 = .ok (.aload_n 0, 1) := dk_42 (dk_at dksX1_init_0 0 rfl rfl)
theorem dX1_init_1 : decode cX1_init 1 = .ok (.invokespecial 49, 3) := dk_183 0 49 (dk_at dksX1_init_0 1 rfl rfl)
theorem dX1_init_4 : decode cX1_init 4 = .ok (.aload_n 0, 1) := dk_42 (dk_at dksX1_init_0 4 rfl rfl)
theorem dX1_init_5 : decode cX1_init 5 = .ok (.new 52, 3) := dk_187 0 52 (dk_at dksX1_init_0 5 rfl rfl)
theorem dX1_init_8 : decode cX1_init 8 = .ok (.dup, 1) := dk_89 (dk_at dksX1_init_0 8 rfl rfl)
theorem dX1_init_9 : decode cX1_init 9 = .ok (.invokespecial 54, 3) := dk_183 0 54 (dk_at dksX1_init_0 9 rfl rfl)
theorem dX1_init_12 : decode cX1_init 12 = .ok (.putfield 55, 3) := dk_181 0 55 (dk_at dksX1_init_0 12 rfl rfl)
theorem dX1_init_15 : decode cX1_init 15 = .ok (.aload_n 0, 1) := dk_42 (dk_at dksX1_init_0 15 rfl rfl)
theorem dX1_init_16 : decode cX1_init 16 = .ok (.new 52, 3) := dk_187 0 52 (dk_at dksX1_init_0 16 rfl rfl)
theorem dX1_init_19 : decode cX1_init 19 = .ok (.dup, 1) := dk_89 (dk_at dksX1_init_0 19 rfl rfl)
theorem dX1_init_20 : decode cX1_init 20 = .ok (.invokespecial 54, 3) := dk_183 0 54 (dk_at dksX1_init_0 20 rfl rfl)
theorem dX1_init_23 : decode cX1_init 23 = .ok (.putfield 59, 3) := dk_181 0 59 (dk_at dksX1_init_1 0 rfl rfl)
theorem dX1_init_26 : decode cX1_init 26 = .ok (.aload_n 0, 1) := dk_42 (dk_at dksX1_init_1 3 rfl rfl)
theorem dX1_init_27 : decode cX1_init 27 = .ok (.new 52, 3) := dk_187 0 52 (dk_at dksX1_init_1 4 rfl rfl)
theorem dX1_init_30 : decode cX1_init 30 = .ok (.dup, 1) := dk_89 (dk_at dksX1_init_1 7 rfl rfl)
theorem dX1_init_31 : decode cX1_init 31 = .ok (.invokespecial 54, 3) := dk_183 0 54 (dk_at dksX1_init_1 8 rfl rfl)
theorem dX1_init_34 : decode cX1_init 34 = .ok (.putfield 62, 3) := dk_181 0 62 (dk_at dksX1_init_1 11 rfl rfl)
theorem dX1_init_37 : decode cX1_init 37 = .ok (.aload_n 0, 1) := dk_42 (dk_at dksX1_init_1 14 rfl rfl)
theorem dX1_init_38 : decode cX1_init 38 = .ok (.new 65, 3) := dk_187 0 65 (dk_at dksX1_init_1 15 rfl rfl)
theorem dX1_init_41 : decode cX1_init 41 = .ok (.dup, 1) := dk_89 (dk_at dksX1_init_1 18 rfl rfl)
theorem dX1_init_42 : decode cX1_init 42 = .ok (.invokespecial 67, 3) := dk_183 0 67 (dk_at dksX1_init_1 19 rfl rfl)
theorem dX1_init_45 : decode cX1_init 45 = .ok (.putfield 68, 3) := dk_181 0 68 (dk_at dksX1_init_2 0 rfl rfl)
theorem dX1_init_48 : decode cX1_init 48 = .ok (.aload_n 0, 1) := dk_42 (dk_at dksX1_init_2 3 rfl rfl)
theorem dX1_init_49 : decode cX1_init 49 = .ok (.new 65, 3) := dk_187 0 65 (dk_at dksX1_init_2 4 rfl rfl)
theorem dX1_init_52 : decode cX1_init 52 = .ok (.dup, 1) := dk_89 (dk_at dksX1_init_2 7 rfl rfl)
theorem dX1_init_53 : decode cX1_init 53 = .ok (.invokespecial 67, 3) := dk_183 0 67 (dk_at dksX1_init_2 8 rfl rfl)
theorem dX1_init_56 : decode cX1_init 56 = .ok (.putfield 72, 3) := dk_181 0 72 (dk_at dksX1_init_2 11 rfl rfl)
theorem dX1_init_59 : decode cX1_init 59 = .ok (.aload_n 0, 1) := dk_42 (dk_at dksX1_init_2 14 rfl rfl)
theorem dX1_init_60 : decode cX1_init 60 = .ok (.iconst 3, 1) := dk_6 (dk_at dksX1_init_2 15 rfl rfl)
theorem dX1_init_61 : decode cX1_init 61 = .ok (.anewarray 75, 3) := dk_189 0 75 (dk_at dksX1_init_2 16 rfl rfl)
theorem dX1_init_64 : decode cX1_init 64 = .ok (.putfield 77, 3) := dk_181 0 77 (dk_at dksX1_init_2 19 rfl rfl)
theorem dX1_init_67 : decode cX1_init 67 = .ok (.aload_n 0, 1) := dk_42 (dk_at dksX1_init_2 22 rfl rfl)
theorem dX1_init_68 : decode cX1_init 68 = .ok (.new 75, 3) := dk_187 0 75 (dk_at dksX1_init_3 0 rfl rfl)
theorem dX1_init_71 : decode cX1_init 71 = .ok (.dup, 1) := dk_89 (dk_at dksX1_init_3 3 rfl rfl)
theorem dX1_init_72 : decode cX1_init 72 = .ok (.aload_n 0, 1) := dk_42 (dk_at dksX1_init_3 4 rfl rfl)
theorem dX1_init_73 : decode cX1_init 73 = .ok (.iconst (-1), 1) := dk_2 (dk_at dksX1_init_3 5 rfl rfl)
theorem dX1_init_74 : decode cX1_init 74 = .ok (.invokespecial 81, 3) := dk_183 0 81 (dk_at dksX1_init_3 6 rfl rfl)
theorem dX1_init_77 : decode cX1_init 77 = .ok (.putfield 84, 3) := dk_181 0 84 (dk_at dksX1_init_3 9 rfl rfl)
theorem dX1_init_80 : decode cX1_init 80 = .ok (.aload_n 0, 1) := dk_42 (dk_at dksX1_init_3 12 rfl rfl)
theorem dX1_init_81 : decode cX1_init 81 = .ok (.iconst 4, 1) := dk_7 (dk_at dksX1_init_3 13 rfl rfl)
theorem dX1_init_82 : decode cX1_init 82 = .ok (.anewarray 88, 3) := dk_189 0 88 (dk_at dksX1_init_3 14 rfl rfl)
theorem dX1_init_85 : decode cX1_init 85 = .ok (.dup, 1) := dk_89 (dk_at dksX1_init_3 17 rfl rfl)
theorem dX1_init_86 : decode cX1_init 86 = .ok (.iconst 0, 1) := dk_3 (dk_at dksX1_init_3 18 rfl rfl)
theorem dX1_init_87 : decode cX1_init 87 = .ok (.iconst 2, 1) := dk_5 (dk_at dksX1_init_3 19 rfl rfl)
theorem dX1_init_88 : decode cX1_init 88 = .ok (.newarray .int, 2) := dk_188_10 (dk_at dksX1_init_3 20 rfl rfl)
theorem dX1_init_90 : decode cX1_init 90 = .ok (.dup, 1) := dk_89 (dk_at dksX1_init_3 22 rfl rfl)
theorem dX1_init_91 : decode cX1_init 91 = .ok (.iconst 0, 1) := dk_3 (dk_at dksX1_init_3 23 rfl rfl)
theorem dX1_init_92 : decode cX1_init 92 = .ok (.iconst 0, 1) := dk_3 (dk_at dksX1_init_4 0 rfl rfl)
theorem dX1_init_93 : decode cX1_init 93 = .ok (.iastore, 1) := dk_79 (dk_at dksX1_init_4 1 rfl rfl)
theorem dX1_init_94 : decode cX1_init 94 = .ok (.dup, 1) := dk_89 (dk_at dksX1_init_4 2 rfl rfl)
theorem dX1_init_95 : decode cX1_init 95 = .ok (.iconst 1, 1) := dk_4 (dk_at dksX1_init_4 3 rfl rfl)
theorem dX1_init_96 : decode cX1_init 96 = .ok (.iconst (-1), 1) := dk_2 (dk_at dksX1_init_4 4 rfl rfl)
theorem dX1_init_97 : decode cX1_init 97 = .ok (.iastore, 1) := dk_79 (dk_at dksX1_init_4 5 rfl rfl)
theorem dX1_init_98 : decode cX1_init 98 = .ok (.aastore, 1) := dk_83 (dk_at dksX1_init_4 6 rfl rfl)
theorem dX1_init_99 : decode cX1_init 99 = .ok (.dup, 1) := dk_89 (dk_at dksX1_init_4 7 rfl rfl)
theorem dX1_init_100 : decode cX1_init 100 = .ok (.iconst 1, 1) := dk_4 (dk_at dksX1_init_4 8 rfl rfl)
theorem dX1_init_101 : decode cX1_init 101 = .ok (.iconst 2, 1) := dk_5 (dk_at dksX1_init_4 9 rfl rfl)
theorem dX1_init_102 : decode cX1_init 102 = .ok (.newarray .int, 2) := dk_188_10 (dk_at dksX1_init_4 10 rfl rfl)
theorem dX1_init_104 : decode cX1_init 104 = .ok (.dup, 1) := dk_89 (dk_at dksX1_init_4 12 rfl rfl)
theorem dX1_init_105 : decode cX1_init 105 = .ok (.iconst 0, 1) := dk_3 (dk_at dksX1_init_4 13 rfl rfl)
theorem dX1_init_106 : decode cX1_init 106 = .ok (.iconst 1, 1) := dk_4 (dk_at dksX1_init_4 14 rfl rfl)
theorem dX1_init_107 : decode cX1_init 107 = .ok (.iastore, 1) := dk_79 (dk_at dksX1_init_4 15 rfl rfl)
theorem dX1_init_108 : decode cX1_init 108 = .ok (.dup, 1) := dk_89 (dk_at dksX1_init_4 16 rfl rfl)
theorem dX1_init_109 : decode cX1_init 109 = .ok (.iconst 1, 1) := dk_4 (dk_at dksX1_init_4 17 rfl rfl)
theorem dX1_init_110 : decode cX1_init 110 = .ok (.iconst 0, 1) := dk_3 (dk_at dksX1_init_4 18 rfl rfl)
theorem dX1_init_111 : decode cX1_init 111 = .ok (.iastore, 1) := dk_79 (dk_at dksX1_init_4 19 rfl rfl)
theorem dX1_init_112 : decode cX1_init 112 = .ok (.aastore, 1) := dk_83 (dk_at dksX1_init_4 20 rfl rfl)
theorem dX1_init_113 : decode cX1_init 113 = .ok (.dup, 1) := dk_89 (dk_at dksX1_init_4 21 rfl rfl)
theorem dX1_init_114 : decode cX1_init 114 = .ok (.iconst 2, 1) := dk_5 (dk_at dksX1_init_4 22 rfl rfl)
theorem dX1_init_115 : decode cX1_init 115 = .ok (.iconst 2, 1) := dk_5 (dk_at dksX1_init_4 23 rfl rfl)
theorem dX1_init_116 : decode cX1_init 116 = .ok (.newarray .int, 2) := dk_188_10 (dk_at dksX1_init_5 0 rfl rfl)
theorem dX1_init_118 : decode cX1_init 118 = .ok (.dup, 1) := dk_89 (dk_at dksX1_init_5 2 rfl rfl)
theorem dX1_init_119 : decode cX1_init 119 = .ok (.iconst 0, 1) := dk_3 (dk_at dksX1_init_5 3 rfl rfl)
theorem dX1_init_120 : decode cX1_init 120 = .ok (.iconst 0, 1) := dk_3 (dk_at dksX1_init_5 4 rfl rfl)
theorem dX1_init_121 : decode cX1_init 121 = .ok (.iastore, 1) := dk_79 (dk_at dksX1_init_5 5 rfl rfl)
theorem dX1_init_122 : decode cX1_init 122 = .ok (.dup, 1) := dk_89 (dk_at dksX1_init_5 6 rfl rfl)
theorem dX1_init_123 : decode cX1_init 123 = .ok (.iconst 1, 1) := dk_4 (dk_at dksX1_init_5 7 rfl rfl)
theorem dX1_init_124 : decode cX1_init 124 = .ok (.iconst 1, 1) := dk_4 (dk_at dksX1_init_5 8 rfl rfl)
theorem dX1_init_125 : decode cX1_init 125 = .ok (.iastore, 1) := dk_79 (dk_at dksX1_init_5 9 rfl rfl)
theorem dX1_init_126 : decode cX1_init 126 = .ok (.aastore, 1) := dk_83 (dk_at dksX1_init_5 10 rfl rfl)
theorem dX1_init_127 : decode cX1_init 127 = .ok (.dup, 1) := dk_89 (dk_at dksX1_init_5 11 rfl rfl)
theorem dX1_init_128 : decode cX1_init 128 = .ok (.iconst 3, 1) := dk_6 (dk_at dksX1_init_5 12 rfl rfl)
theorem dX1_init_129 : decode cX1_init 129 = .ok (.iconst 2, 1) := dk_5 (dk_at dksX1_init_5 13 rfl rfl)
theorem dX1_init_130 : decode cX1_init 130 = .ok (.newarray .int, 2) := dk_188_10 (dk_at dksX1_init_5 14 rfl rfl)
theorem dX1_init_132 : decode cX1_init 132 = .ok (.dup, 1) := dk_89 (dk_at dksX1_init_5 16 rfl rfl)
theorem dX1_init_133 : decode cX1_init 133 = .ok (.iconst 0, 1) := dk_3 (dk_at dksX1_init_5 17 rfl rfl)
theorem dX1_init_134 : decode cX1_init 134 = .ok (.iconst (-1), 1) := dk_2 (dk_at dksX1_init_5 18 rfl rfl)
theorem dX1_init_135 : decode cX1_init 135 = .ok (.iastore, 1) := dk_79 (dk_at dksX1_init_5 19 rfl rfl)
theorem dX1_init_136 : decode cX1_init 136 = .ok (.dup, 1) := dk_89 (dk_at dksX1_init_5 20 rfl rfl)
theorem dX1_init_137 : decode cX1_init 137 = .ok (.iconst 1, 1) := dk_4 (dk_at dksX1_init_5 21 rfl rfl)
theorem dX1_init_138 : decode cX1_init 138 = .ok (.iconst 0, 1) := dk_3 (dk_at dksX1_init_5 22 rfl rfl)
theorem dX1_init_139 : decode cX1_init 139 = .ok (.iastore, 1) := dk_79 (dk_at dksX1_init_5 23 rfl rfl)
theorem dX1_init_140 : decode cX1_init 140 = .ok (.aastore, 1) := dk_83 (dk_at dksX1_init_6 0 rfl rfl)
theorem dX1_init_141 : decode cX1_init 141 = .ok (.putfield 90, 3) := dk_181 0 90 (dk_at dksX1_init_6 1 rfl rfl)
theorem dX1_init_144 : decode cX1_init 144 = .ok (.aload_n 0, 1) := dk_42 (dk_at dksX1_init_6 4 rfl rfl)
theorem dX1_init_145 : decode cX1_init 145 = .ok (.bipush 16, 2) := dk_16 16 (dk_at dksX1_init_6 5 rfl rfl)
theorem dX1_init_147 : decode cX1_init 147 = .ok (.bipush 24, 2) := dk_16 24 (dk_at dksX1_init_6 7 rfl rfl)
theorem dX1_init_149 : decode cX1_init 149 = .ok (.multianewarray 94 2, 4) := by decide +kernel
theorem dX1_init_153 : decode cX1_init 153 = .ok (.putfield 96, 3) := dk_181 0 96 (dk_at dksX1_init_6 13 rfl rfl)
theorem dX1_init_156 : decode cX1_init 156 = .ok (.aload_n 0, 1) := dk_42 (dk_at dksX1_init_6 16 rfl rfl)
theorem dX1_init_157 : decode cX1_init 157 = .ok (.sipush 1536, 3) := dk_17 6 0 (dk_at dksX1_init_6 17 rfl rfl)
theorem dX1_init_160 : decode cX1_init 160 = .ok (.newarray .int, 2) := dk_188_10 (dk_at dksX1_init_6 20 rfl rfl)
theorem dX1_init_162 : decode cX1_init 162 = .ok (.putfield 99, 3) := dk_181 0 99 (dk_at dksX1_init_7 0 rfl rfl)
theorem dX1_init_165 : decode cX1_init 165 = .ok (.aload_n 0, 1) := dk_42 (dk_at dksX1_init_7 3 rfl rfl)
theorem dX1_init_166 : decode cX1_init 166 = .ok (.sipush 1536, 3) := dk_17 6 0 (dk_at dksX1_init_7 4 rfl rfl)
theorem dX1_init_169 : decode cX1_init 169 = .ok (.newarray .int, 2) := dk_188_10 (dk_at dksX1_init_7 7 rfl rfl)
theorem dX1_init_171 : decode cX1_init 171 = .ok (.putfield 102, 3) := dk_181 0 102 (dk_at dksX1_init_7 9 rfl rfl)
theorem dX1_init_174 : decode cX1_init 174 = .ok (.aload_n 0, 1) := dk_42 (dk_at dksX1_init_7 12 rfl rfl)
theorem dX1_init_175 : decode cX1_init 175 = .ok (.sipush 1536, 3) := dk_17 6 0 (dk_at dksX1_init_7 13 rfl rfl)
theorem dX1_init_178 : decode cX1_init 178 = .ok (.newarray .boolean, 2) := dk_188_4 (dk_at dksX1_init_7 16 rfl rfl)
theorem dX1_init_180 : decode cX1_init 180 = .ok (.putfield 105, 3) := dk_181 0 105 (dk_at dksX1_init_7 18 rfl rfl)
theorem dX1_init_183 : decode cX1_init 183 = .ok (.iconst 0, 1) := dk_3 (dk_at dksX1_init_7 21 rfl rfl)
theorem dX1_init_184 : decode cX1_init 184 = .ok (.istore_n 1, 1) := dk_60 (dk_at dksX1_init_7 22 rfl rfl)
theorem dX1_init_185 : decode cX1_init 185 = .ok (.iload_n 1, 1) := dk_27 (dk_at dksX1_init_7 23 rfl rfl)
theorem dX1_init_186 : decode cX1_init 186 = .ok (.iconst 3, 1) := dk_6 (dk_at dksX1_init_8 0 rfl rfl)
theorem dX1_init_187 : decode cX1_init 187 = .ok (.if_icmp .ge 24, 3) := dk_162 0 24 (dk_at dksX1_init_8 1 rfl rfl)
theorem dX1_init_190 : decode cX1_init 190 = .ok (.aload_n 0, 1) := dk_42 (dk_at dksX1_init_8 4 rfl rfl)
theorem dX1_init_191 : decode cX1_init 191 = .ok (.getfield 77, 3) := dk_180 0 77 (dk_at dksX1_init_8 5 rfl rfl)
theorem dX1_init_194 : decode cX1_init 194 = .ok (.iload_n 1, 1) := dk_27 (dk_at dksX1_init_8 8 rfl rfl)
theorem dX1_init_195 : decode cX1_init 195 = .ok (.new 75, 3) := dk_187 0 75 (dk_at dksX1_init_8 9 rfl rfl)
theorem dX1_init_198 : decode cX1_init 198 = .ok (.dup, 1) := dk_89 (dk_at dksX1_init_8 12 rfl rfl)
theorem dX1_init_199 : decode cX1_init 199 = .ok (.aload_n 0, 1) := dk_42 (dk_at dksX1_init_8 13 rfl rfl)
theorem dX1_init_200 : decode cX1_init 200 = .ok (.iload_n 1, 1) := dk_27 (dk_at dksX1_init_8 14 rfl rfl)
theorem dX1_init_201 : decode cX1_init 201 = .ok (.invokespecial 81, 3) := dk_183 0 81 (dk_at dksX1_init_8 15 rfl rfl)
theorem dX1_init_204 : decode cX1_init 204 = .ok (.aastore, 1) := dk_83 (dk_at dksX1_init_8 18 rfl rfl)
theorem dX1_init_205 : decode cX1_init 205 = .ok (.iinc 1 1, 3) := dk_132 1 1 (dk_at dksX1_init_8 19 rfl rfl)
theorem dX1_init_208 : decode cX1_init 208 = .ok (.goto (-23), 3) := dk_167 255 233 (dk_at dksX1_init_9 0 rfl rfl)
theorem dX1_init_211 : decode cX1_init 211 = .ok (.return_, 1) := dk_177 (dk_at dksX1_init_9 3 rfl rfl)
theorem q76 : (Jvm.Cond.initialized "Plugboard$Board") ∈ lw_all := lw_g (lw_at lw_m1 6 rfl) rfl
theorem q124 : (Jvm.Cond.methodLink "Plugboard" (49 : Nat) ({ cls := "java/lang/Object", name := "<init>", desc := "()V" } : Jvm.MethodName)) ∈ lw_all := lw_g (lw_at lw_m1 54 rfl) rfl
theorem q127 : (Jvm.Cond.classLink "Plugboard" (52 : Nat) "java/util/ArrayList") ∈ lw_all := lw_g (lw_at lw_m1 57 rfl) rfl
theorem q129 : (Jvm.Cond.methodLink "Plugboard" (54 : Nat) ({ cls := "java/util/ArrayList", name := "<init>", desc := "()V" } : Jvm.MethodName)) ∈ lw_all := lw_g (lw_at lw_m1 59 rfl) rfl
theorem q156 : (Jvm.Cond.classLink "Plugboard" (65 : Nat) "Plugboard$Fields") ∈ lw_all := lw_g (lw_at lw_m1 86 rfl) rfl
theorem q158 : (Jvm.Cond.methodLinkNest "Plugboard" (67 : Nat) ({ cls := "Plugboard$Fields", name := "<init>", desc := "()V" } : Jvm.MethodName) "Plugboard") ∈ lw_tbl := lw_at lw_m1 88 rfl
theorem q181 : (Jvm.Cond.classLink "Plugboard" (75 : Nat) "Plugboard$Board") ∈ lw_all := lw_g (lw_at lw_m1 111 rfl) rfl
theorem q183 : (Jvm.Cond.instantiable "Plugboard$Board" (6 : Nat)) ∈ lw_all := lw_g (lw_at lw_m1 113 rfl) rfl
theorem q184 : (Jvm.Cond.methodLink "Plugboard" (81 : Nat) ({ cls := "Plugboard$Board", name := "<init>", desc := "(LPlugboard;I)V" } : Jvm.MethodName)) ∈ lw_all := lw_g (lw_at lw_m1 114 rfl) rfl
theorem q185 : (Jvm.Cond.instanceMethod ({ cls := "Plugboard$Board", name := "<init>", desc := "(LPlugboard;I)V" } : Jvm.MethodName)) ∈ lw_all := lw_g (lw_at lw_m1 115 rfl) rfl
theorem q186 : (Jvm.Cond.code ({ cls := "Plugboard$Board", name := "<init>", desc := "(LPlugboard;I)V" } : Jvm.MethodName) prog_3_method_1_code (3 : Nat) (Option.none : Option Jvm.ClassFile.FieldType)) ∈ lw_all := lw_g (lw_at lw_m1 116 rfl) rfl
theorem q234 : (Jvm.Cond.classLink "Plugboard" (88 : Nat) "[I") ∈ lw_all := lw_g (lw_at lw_m1 164 rfl) rfl
theorem q236 : (Jvm.Cond.classLink "Plugboard" (94 : Nat) "[[Z") ∈ lw_all := lw_g (lw_at lw_m1 166 rfl) rfl
theorem q240 : (Jvm.Cond.fieldLink "Plugboard" (55 : Nat) "Plugboard" "shapes" "Ljava/util/ArrayList;") ∈ lw_all := lw_g (lw_at lw_m1 170 rfl) rfl
theorem q242 : (Jvm.Cond.fieldLink "Plugboard" (59 : Nat) "Plugboard" "connectors" "Ljava/util/ArrayList;") ∈ lw_all := lw_g (lw_at lw_m1 172 rfl) rfl
theorem q243 : (Jvm.Cond.fieldLink "Plugboard" (62 : Nat) "Plugboard" "operations" "Ljava/util/ArrayList;") ∈ lw_all := lw_g (lw_at lw_m1 173 rfl) rfl
theorem q245 : (Jvm.Cond.fieldLink "Plugboard" (68 : Nat) "Plugboard" "trial" "LPlugboard$Fields;") ∈ lw_all := lw_g (lw_at lw_m1 175 rfl) rfl
theorem q247 : (Jvm.Cond.fieldLink "Plugboard" (72 : Nat) "Plugboard" "ground" "LPlugboard$Fields;") ∈ lw_all := lw_g (lw_at lw_m1 177 rfl) rfl
theorem q248 : (Jvm.Cond.fieldLink "Plugboard" (77 : Nat) "Plugboard" "boards" "[LPlugboard$Board;") ∈ lw_all := lw_g (lw_at lw_m1 178 rfl) rfl
theorem q249 : (Jvm.Cond.fieldLink "Plugboard" (84 : Nat) "Plugboard" "empty" "LPlugboard$Board;") ∈ lw_all := lw_g (lw_at lw_m1 179 rfl) rfl
theorem q250 : (Jvm.Cond.fieldLink "Plugboard" (90 : Nat) "Plugboard" "turns" "[[I") ∈ lw_all := lw_g (lw_at lw_m1 180 rfl) rfl
theorem q251 : (Jvm.Cond.fieldLink "Plugboard" (96 : Nat) "Plugboard" "areFree" "[[Z") ∈ lw_all := lw_g (lw_at lw_m1 181 rfl) rfl
theorem q252 : (Jvm.Cond.fieldLink "Plugboard" (99 : Nat) "Plugboard" "costs" "[I") ∈ lw_all := lw_g (lw_at lw_m1 182 rfl) rfl
theorem q253 : (Jvm.Cond.fieldLink "Plugboard" (102 : Nat) "Plugboard" "queue" "[I") ∈ lw_all := lw_g (lw_at lw_m1 183 rfl) rfl
theorem q254 : (Jvm.Cond.fieldLink "Plugboard" (105 : Nat) "Plugboard" "areWaiting" "[Z") ∈ lw_all := lw_g (lw_at lw_m1 184 rfl) rfl
abbrev rm_X1_init : Room := { frames := 6, cells := 400, slots := 20000, locals := 114 }
def w_X1_init_185 (P : AH → Prop) (x0 : Option Nat) (x1 : Int32) (u9 : Nat) (v9 : Nat) (h : AH) : Prop :=
  ∀ Z185 : Int32 → Nat → Nat → AH → Prop, (∀ x1 u9 v9 h, (
      ((3 ≤ x1 →
        u9 ≤ 400 ∧ v9 ≤ 20000 ∧
        P h) ∧
       (¬ 3 ≤ x1 →
        g_q h x0 0 5 fun y191 =>
        u9 + 1 ≤ 400 ∧ v9 + 6 ≤ 20000 ∧
        mk h (.inr (2, dvX3)) fun q195 h195 =>
        u9 + 1 + 7 ≤ 400 ∧ v9 + 6 + 536 ≤ 20000 ∧
        w_X3_init (some q195) x0 x1 h195 (fun h201 =>
        s_q h201 y191 9 x1 (some q195) fun h204 =>
        Z185 (x1 + 1) (u9 + 8) (v9 + 542) h204))))
      → Z185 x1 u9 v9 h) → Z185 x1 u9 v9 h
def w_X1_init (a0 : Option Nat) (h : AH) (P : AH → Prop) : Prop :=
  nn a0 (
  mk h (.inr (15, dvJ2)) fun q5 h5 =>
  w_J2_init (some q5) h5 (fun h9 =>
  p_v h9 a0 0 0 (vR (some q5)) fun h12 =>
  mk h12 (.inr (15, dvJ2)) fun q16 h16 =>
  w_J2_init (some q16) h16 (fun h20 =>
  p_v h20 a0 0 1 (vR (some q16)) fun h23 =>
  mk h23 (.inr (15, dvJ2)) fun q27 h27 =>
  w_J2_init (some q27) h27 (fun h31 =>
  p_v h31 a0 0 2 (vR (some q27)) fun h34 =>
  mk h34 (.inr (1, dvX2)) fun q38 h38 =>
  w_X2_init (some q38) h38 (fun h42 =>
  p_v h42 a0 0 3 (vR (some q38)) fun h45 =>
  mk h45 (.inr (1, dvX2)) fun q49 h49 =>
  w_X2_init (some q49) h49 (fun h53 =>
  p_v h53 a0 0 4 (vR (some q49)) fun h56 =>
  mk_q h56 9 3 3 fun q61 h61 =>
  p_v h61 a0 0 5 (vR (some q61)) fun h64 =>
  mk h64 (.inr (2, dvX3)) fun q68 h68 =>
  w_X3_init (some q68) a0 (-1) h68 (fun h74 =>
  p_v h74 a0 0 6 (vR (some q68)) fun h77 =>
  mk_q h77 13 4 4 fun q82 h82 =>
  mk_i h82 0 2 2 fun q88 h88 =>
  s_i h88 (some q88) 0 0 0 fun h93 =>
  s_i h93 (some q88) 0 1 (-1) fun h97 =>
  s_q h97 (some q82) 13 0 (some q88) fun h98 =>
  mk_i h98 0 2 2 fun q102 h102 =>
  s_i h102 (some q102) 0 0 1 fun h107 =>
  s_i h107 (some q102) 0 1 0 fun h111 =>
  s_q h111 (some q82) 13 1 (some q102) fun h112 =>
  mk_i h112 0 2 2 fun q116 h116 =>
  s_i h116 (some q116) 0 0 0 fun h121 =>
  s_i h121 (some q116) 0 1 1 fun h125 =>
  s_q h125 (some q82) 13 2 (some q116) fun h126 =>
  mk_i h126 0 2 2 fun q130 h130 =>
  s_i h130 (some q130) 0 0 (-1) fun h135 =>
  s_i h135 (some q130) 0 1 0 fun h139 =>
  s_q h139 (some q82) 13 3 (some q130) fun h140 =>
  p_v h140 a0 0 7 (vR (some q82)) fun h141 =>
  mk_m h141 14 1 16 24 16 24 fun q149 h149 =>
  p_v h149 a0 0 8 (vR (some q149)) fun h153 =>
  mk_i h153 0 1536 1536 fun q160 h160 =>
  p_v h160 a0 0 9 (vR (some q160)) fun h162 =>
  mk_i h162 0 1536 1536 fun q169 h169 =>
  p_v h169 a0 0 10 (vR (some q169)) fun h171 =>
  mk_i h171 1 1536 1536 fun q178 h178 =>
  p_v h178 a0 0 11 (vR (some q178)) fun h180 =>
  w_X1_init_185 P a0 0 45 6138 h180)))))))
theorem wk_X1_init_185 {x : CX} (X : Ok x cX1_init RX1 rm_X1_init 2) (er : xrt x = (Option.none : Option Jvm.ClassFile.FieldType)) (en : xnm x = yX1_init.name) {P : AH → Prop} (hQ : xr_v x P) (x0 : Option Nat) (x1 : Int32) (u9 : Nat) (v9 : Nat) (h : AH) (hw : w_X1_init_185 P x0 x1 u9 v9 h) : J x h u9 v9 185 [(0, vR x0), (1, vI x1)] [] := by
  refine hw (fun x1 u9 v9 h => J x h u9 v9 185 [(0, vR x0), (1, vI x1)] []) (fun x1 u9 v9 h hw => ?_)
  refine j_iload_n X (pc := 185) 1 dX1_init_185 rfl rfl ?_
  refine j_iconst X (pc := 186) 3 dX1_init_186 (by decide) ?_
  refine j_icmp_ge X (pc := 187) 211 dX1_init_187 (by decide) hw (fun hw => ?_) (fun hw => ?_)
  · obtain ⟨hu9, hv9, hw⟩ := hw
    exact j_vret X (pc := 211) hQ er hu9 hv9 dX1_init_211 hw
  · refine j_aload_n X (pc := 190) 0 dX1_init_190 rfl rfl ?_
    refine j_getq (ci := 0) X (pc := 191) in_X1 rfl (by decide) 5 (by decide) q248 (Or.inl rfl) dX1_init_191 hw (fun y191 hw => ?_)
    refine j_iload_n X (pc := 194) 1 dX1_init_194 rfl rfl ?_
    obtain ⟨hu9, hv9, hw⟩ := hw
    refine j_new (ci := 2) X (pc := 195) in_X3 rfl (by decide) tyX3 tyX3_ok q181 q183 q76 (fs := dvX3) dfX3 hu9 hv9 dX1_init_195 hw (fun q195 h195 hw => ?_)
    refine j_dup X (pc := 198) dX1_init_198 rfl ?_
    refine j_aload_n X (pc := 199) 0 dX1_init_199 rfl rfl ?_
    refine j_iload_n X (pc := 200) 1 dX1_init_200 rfl rfl ?_
    obtain ⟨hu9, hv9, hw⟩ := hw
    refine j_callv (j_runI (n8 := 2) (As := [vR x0, vI x1]) (rest := [vR (some q195), vI x1, vR y191]) X (pc := 201) rfl (met_X3_init (xl x) X.hl (xG x) h195 (some q195) x0 x1 _ hw) q184 q185 q76 q186 (by decide +kernel) dX1_init_201 rfl ⟨Nat.le_of_ble_eq_true rfl, Nat.le_of_ble_eq_true rfl⟩ (Nat.le_of_ble_eq_true rfl) ⟨hu9, hv9⟩) (fun h201 hw => ?_)
    refine j_aast X (pc := 204) 9 (Nat.le_of_ble_eq_true rfl) rfl dX1_init_204 hw (fun h204 hw => ?_)
    refine j_iinc X (pc := 205) 1 (x1 + 1) [(1, vI (x1 + 1)), (0, vR x0)] dX1_init_205 rfl rfl (Nat.le_of_ble_eq_true rfl) rfl ?_
    refine j_goto X (pc := 208) 185 dX1_init_208 (by decide) ?_
    refine j_lv [(0, vR x0), (1, vI (x1 + 1))] [1, 0] rfl ?_
    exact hw
theorem met_X1_init (l : Launch) (hlt : l.stackTraces = false) (G : GG) (h : AH) (a0 : Option Nat) (P : AH → Prop) (hw : w_X1_init a0 h P) : ct_v l yX1_init (ws_ yX1_init cX1_init 2 (Option.none : Option Jvm.ClassFile.FieldType)) rm_X1_init G h [vR a0] P := by
  refine j_startv hlt [(0, vR a0)] (plainFor_of_name (by decide)) rfl rfl (fun x X eG er en hQ => ?_)
  subst eG
  refine j_aload_n X (pc := 0) 0 dX1_init_0 rfl rfl ?_
  obtain ⟨b9, hr9, hw⟩ := hw
  refine j_obj X (pc := 1) hr9 q124 q125 q126 dX1_init_1 ⟨Nat.le_of_ble_eq_true rfl, Nat.le_of_ble_eq_true rfl⟩ ?_
  refine j_aload_n X (pc := 4) 0 dX1_init_4 rfl rfl ?_
  refine j_new (ci := 15) X (pc := 5) in_J2 rfl (by decide) tyJ2 tyJ2_ok q127 q128 q74 (fs := dvJ2) dfJ2 (Nat.le_of_ble_eq_true rfl) (Nat.le_of_ble_eq_true rfl) dX1_init_5 hw (fun q5 h5 hw => ?_)
  refine j_dup X (pc := 8) dX1_init_8 rfl ?_
  refine j_callv (j_runI (n8 := 0) (As := []) (rest := [vR (some q5), vR a0]) X (pc := 9) rfl (met_J2_init (xl x) X.hl (xG x) h5 (some q5) _ hw) q129 q130 q74 q131 (by decide +kernel) dX1_init_9 rfl ⟨Nat.le_of_ble_eq_true rfl, Nat.le_of_ble_eq_true rfl⟩ (Nat.le_of_ble_eq_true rfl) ⟨Nat.le_of_ble_eq_true rfl, Nat.le_of_ble_eq_true rfl⟩) (fun h9 hw => ?_)
  refine j_putF (ci := 0) X (pc := 12) in_X1 rfl (by decide) 0 (by decide) q240 (Or.inl rfl) tyX1 tyX1_ok nmX1 rfl en rfl rfl (ty := (.object "java/util/ArrayList")) (tyX1_ok 0 (by decide)) (rt_nar _ rfl _) (rt_fit _ rfl _) dX1_init_12 hw (fun h12 hw => ?_)
  refine j_aload_n X (pc := 15) 0 dX1_init_15 rfl rfl ?_
  refine j_new (ci := 15) X (pc := 16) in_J2 rfl (by decide) tyJ2 tyJ2_ok q127 q128 q74 (fs := dvJ2) dfJ2 (Nat.le_of_ble_eq_true rfl) (Nat.le_of_ble_eq_true rfl) dX1_init_16 hw (fun q16 h16 hw => ?_)
  refine j_dup X (pc := 19) dX1_init_19 rfl ?_
  refine j_callv (j_runI (n8 := 0) (As := []) (rest := [vR (some q16), vR a0]) X (pc := 20) rfl (met_J2_init (xl x) X.hl (xG x) h16 (some q16) _ hw) q129 q130 q74 q131 (by decide +kernel) dX1_init_20 rfl ⟨Nat.le_of_ble_eq_true rfl, Nat.le_of_ble_eq_true rfl⟩ (Nat.le_of_ble_eq_true rfl) ⟨Nat.le_of_ble_eq_true rfl, Nat.le_of_ble_eq_true rfl⟩) (fun h20 hw => ?_)
  refine j_putF (ci := 0) X (pc := 23) in_X1 rfl (by decide) 1 (by decide) q242 (Or.inl rfl) tyX1 tyX1_ok nmX1 rfl en rfl rfl (ty := (.object "java/util/ArrayList")) (tyX1_ok 1 (by decide)) (rt_nar _ rfl _) (rt_fit _ rfl _) dX1_init_23 hw (fun h23 hw => ?_)
  refine j_aload_n X (pc := 26) 0 dX1_init_26 rfl rfl ?_
  refine j_new (ci := 15) X (pc := 27) in_J2 rfl (by decide) tyJ2 tyJ2_ok q127 q128 q74 (fs := dvJ2) dfJ2 (Nat.le_of_ble_eq_true rfl) (Nat.le_of_ble_eq_true rfl) dX1_init_27 hw (fun q27 h27 hw => ?_)
  refine j_dup X (pc := 30) dX1_init_30 rfl ?_
  refine j_callv (j_runI (n8 := 0) (As := []) (rest := [vR (some q27), vR a0]) X (pc := 31) rfl (met_J2_init (xl x) X.hl (xG x) h27 (some q27) _ hw) q129 q130 q74 q131 (by decide +kernel) dX1_init_31 rfl ⟨Nat.le_of_ble_eq_true rfl, Nat.le_of_ble_eq_true rfl⟩ (Nat.le_of_ble_eq_true rfl) ⟨Nat.le_of_ble_eq_true rfl, Nat.le_of_ble_eq_true rfl⟩) (fun h31 hw => ?_)
  refine j_putF (ci := 0) X (pc := 34) in_X1 rfl (by decide) 2 (by decide) q243 (Or.inl rfl) tyX1 tyX1_ok nmX1 rfl en rfl rfl (ty := (.object "java/util/ArrayList")) (tyX1_ok 2 (by decide)) (rt_nar _ rfl _) (rt_fit _ rfl _) dX1_init_34 hw (fun h34 hw => ?_)
  refine j_aload_n X (pc := 37) 0 dX1_init_37 rfl rfl ?_
  refine j_new (ci := 1) X (pc := 38) in_X2 rfl (by decide) tyX2 tyX2_ok q156 q157 q75 (fs := dvX2) dfX2 (Nat.le_of_ble_eq_true rfl) (Nat.le_of_ble_eq_true rfl) dX1_init_38 hw (fun q38 h38 hw => ?_)
  refine j_dup X (pc := 41) dX1_init_41 rfl ?_
  refine j_callv (j_runIN (n8 := 0) (As := []) (rest := [vR (some q38), vR a0]) X (pc := 42) rfl (met_X2_init (xl x) X.hl (xG x) h38 (some q38) _ hw) q158 q159 q75 q160 (by decide +kernel) dX1_init_42 rfl ⟨Nat.le_of_ble_eq_true rfl, Nat.le_of_ble_eq_true rfl⟩ (Nat.le_of_ble_eq_true rfl) ⟨Nat.le_of_ble_eq_true rfl, Nat.le_of_ble_eq_true rfl⟩) (fun h42 hw => ?_)
  refine j_putF (ci := 0) X (pc := 45) in_X1 rfl (by decide) 3 (by decide) q245 (Or.inl rfl) tyX1 tyX1_ok nmX1 rfl en rfl rfl (ty := (.object "Plugboard$Fields")) (tyX1_ok 3 (by decide)) (rt_nar _ rfl _) (rt_fit _ rfl _) dX1_init_45 hw (fun h45 hw => ?_)
  refine j_aload_n X (pc := 48) 0 dX1_init_48 rfl rfl ?_
  refine j_new (ci := 1) X (pc := 49) in_X2 rfl (by decide) tyX2 tyX2_ok q156 q157 q75 (fs := dvX2) dfX2 (Nat.le_of_ble_eq_true rfl) (Nat.le_of_ble_eq_true rfl) dX1_init_49 hw (fun q49 h49 hw => ?_)
  refine j_dup X (pc := 52) dX1_init_52 rfl ?_
  refine j_callv (j_runIN (n8 := 0) (As := []) (rest := [vR (some q49), vR a0]) X (pc := 53) rfl (met_X2_init (xl x) X.hl (xG x) h49 (some q49) _ hw) q158 q159 q75 q160 (by decide +kernel) dX1_init_53 rfl ⟨Nat.le_of_ble_eq_true rfl, Nat.le_of_ble_eq_true rfl⟩ (Nat.le_of_ble_eq_true rfl) ⟨Nat.le_of_ble_eq_true rfl, Nat.le_of_ble_eq_true rfl⟩) (fun h53 hw => ?_)
  refine j_putF (ci := 0) X (pc := 56) in_X1 rfl (by decide) 4 (by decide) q247 (Or.inl rfl) tyX1 tyX1_ok nmX1 rfl en rfl rfl (ty := (.object "Plugboard$Fields")) (tyX1_ok 4 (by decide)) (rt_nar _ rfl _) (rt_fit _ rfl _) dX1_init_56 hw (fun h56 hw => ?_)
  refine j_aload_n X (pc := 59) 0 dX1_init_59 rfl rfl ?_
  refine j_iconst X (pc := 60) 3 dX1_init_60 (by decide) ?_
  refine j_newQ X (pc := 61) 9 rfl (by decide) 3 dX1_init_61 q181 (fun U hU => kt_9 hU) (by decide) (Nat.le_of_ble_eq_true rfl) (Nat.le_of_ble_eq_true rfl) hw (fun q61 h61 hw => ?_)
  refine j_putF (ci := 0) X (pc := 64) in_X1 rfl (by decide) 5 (by decide) q248 (Or.inl rfl) tyX1 tyX1_ok nmX1 rfl en rfl rfl (ty := (.array (.object "Plugboard$Board"))) (tyX1_ok 5 (by decide)) (rt_nar _ rfl _) (rt_fit _ rfl _) dX1_init_64 hw (fun h64 hw => ?_)
  refine j_aload_n X (pc := 67) 0 dX1_init_67 rfl rfl ?_
  refine j_new (ci := 2) X (pc := 68) in_X3 rfl (by decide) tyX3 tyX3_ok q181 q183 q76 (fs := dvX3) dfX3 (Nat.le_of_ble_eq_true rfl) (Nat.le_of_ble_eq_true rfl) dX1_init_68 hw (fun q68 h68 hw => ?_)
  refine j_dup X (pc := 71) dX1_init_71 rfl ?_
  refine j_aload_n X (pc := 72) 0 dX1_init_72 rfl rfl ?_
  refine j_iconst X (pc := 73) (-1) dX1_init_73 (by decide) ?_
  refine j_callv (j_runI (n8 := 2) (As := [vR a0, vI (-1)]) (rest := [vR (some q68), vR a0]) X (pc := 74) rfl (met_X3_init (xl x) X.hl (xG x) h68 (some q68) a0 (-1) _ hw) q184 q185 q76 q186 (by decide +kernel) dX1_init_74 rfl ⟨Nat.le_of_ble_eq_true rfl, Nat.le_of_ble_eq_true rfl⟩ (Nat.le_of_ble_eq_true rfl) ⟨Nat.le_of_ble_eq_true rfl, Nat.le_of_ble_eq_true rfl⟩) (fun h74 hw => ?_)
  refine j_putF (ci := 0) X (pc := 77) in_X1 rfl (by decide) 6 (by decide) q249 (Or.inl rfl) tyX1 tyX1_ok nmX1 rfl en rfl rfl (ty := (.object "Plugboard$Board")) (tyX1_ok 6 (by decide)) (rt_nar _ rfl _) (rt_fit _ rfl _) dX1_init_77 hw (fun h77 hw => ?_)
  refine j_aload_n X (pc := 80) 0 dX1_init_80 rfl rfl ?_
  refine j_iconst X (pc := 81) 4 dX1_init_81 (by decide) ?_
  refine j_newA X (pc := 82) 13 rfl (by decide) 4 dX1_init_82 q234 (fun U hU => kt_13 hU) (by decide) (Nat.le_of_ble_eq_true rfl) (Nat.le_of_ble_eq_true rfl) hw (fun q82 h82 hw => ?_)
  refine j_dup X (pc := 85) dX1_init_85 rfl ?_
  refine j_iconst X (pc := 86) 0 dX1_init_86 (by decide) ?_
  refine j_iconst X (pc := 87) 2 dX1_init_87 (by decide) ?_
  refine j_newI X (pc := 88) 2 dX1_init_88 q180 (by decide) (Nat.le_of_ble_eq_true rfl) (Nat.le_of_ble_eq_true rfl) hw (fun q88 h88 hw => ?_)
  refine j_dup X (pc := 90) dX1_init_90 rfl ?_
  refine j_iconst X (pc := 91) 0 dX1_init_91 (by decide) ?_
  refine j_iconst X (pc := 92) 0 dX1_init_92 (by decide) ?_
  refine j_iast X (pc := 93) 0 rfl rfl dX1_init_93 hw (fun h93 hw => ?_)
  refine j_dup X (pc := 94) dX1_init_94 rfl ?_
  refine j_iconst X (pc := 95) 1 dX1_init_95 (by decide) ?_
  refine j_iconst X (pc := 96) (-1) dX1_init_96 (by decide) ?_
  refine j_iast X (pc := 97) 0 rfl rfl dX1_init_97 hw (fun h97 hw => ?_)
  refine j_aast X (pc := 98) 13 (Nat.le_of_ble_eq_true rfl) rfl dX1_init_98 hw (fun h98 hw => ?_)
  refine j_dup X (pc := 99) dX1_init_99 rfl ?_
  refine j_iconst X (pc := 100) 1 dX1_init_100 (by decide) ?_
  refine j_iconst X (pc := 101) 2 dX1_init_101 (by decide) ?_
  refine j_newI X (pc := 102) 2 dX1_init_102 q180 (by decide) (Nat.le_of_ble_eq_true rfl) (Nat.le_of_ble_eq_true rfl) hw (fun q102 h102 hw => ?_)
  refine j_dup X (pc := 104) dX1_init_104 rfl ?_
  refine j_iconst X (pc := 105) 0 dX1_init_105 (by decide) ?_
  refine j_iconst X (pc := 106) 1 dX1_init_106 (by decide) ?_
  refine j_iast X (pc := 107) 0 rfl rfl dX1_init_107 hw (fun h107 hw => ?_)
  refine j_dup X (pc := 108) dX1_init_108 rfl ?_
  refine j_iconst X (pc := 109) 1 dX1_init_109 (by decide) ?_
  refine j_iconst X (pc := 110) 0 dX1_init_110 (by decide) ?_
  refine j_iast X (pc := 111) 0 rfl rfl dX1_init_111 hw (fun h111 hw => ?_)
  refine j_aast X (pc := 112) 13 (Nat.le_of_ble_eq_true rfl) rfl dX1_init_112 hw (fun h112 hw => ?_)
  refine j_dup X (pc := 113) dX1_init_113 rfl ?_
  refine j_iconst X (pc := 114) 2 dX1_init_114 (by decide) ?_
  refine j_iconst X (pc := 115) 2 dX1_init_115 (by decide) ?_
  refine j_newI X (pc := 116) 2 dX1_init_116 q180 (by decide) (Nat.le_of_ble_eq_true rfl) (Nat.le_of_ble_eq_true rfl) hw (fun q116 h116 hw => ?_)
  refine j_dup X (pc := 118) dX1_init_118 rfl ?_
  refine j_iconst X (pc := 119) 0 dX1_init_119 (by decide) ?_
  refine j_iconst X (pc := 120) 0 dX1_init_120 (by decide) ?_
  refine j_iast X (pc := 121) 0 rfl rfl dX1_init_121 hw (fun h121 hw => ?_)
  refine j_dup X (pc := 122) dX1_init_122 rfl ?_
  refine j_iconst X (pc := 123) 1 dX1_init_123 (by decide) ?_
  refine j_iconst X (pc := 124) 1 dX1_init_124 (by decide) ?_
  refine j_iast X (pc := 125) 0 rfl rfl dX1_init_125 hw (fun h125 hw => ?_)
  refine j_aast X (pc := 126) 13 (Nat.le_of_ble_eq_true rfl) rfl dX1_init_126 hw (fun h126 hw => ?_)
  refine j_dup X (pc := 127) dX1_init_127 rfl ?_
  refine j_iconst X (pc := 128) 3 dX1_init_128 (by decide) ?_
  refine j_iconst X (pc := 129) 2 dX1_init_129 (by decide) ?_
  refine j_newI X (pc := 130) 2 dX1_init_130 q180 (by decide) (Nat.le_of_ble_eq_true rfl) (Nat.le_of_ble_eq_true rfl) hw (fun q130 h130 hw => ?_)
  refine j_dup X (pc := 132) dX1_init_132 rfl ?_
  refine j_iconst X (pc := 133) 0 dX1_init_133 (by decide) ?_
  refine j_iconst X (pc := 134) (-1) dX1_init_134 (by decide) ?_
  refine j_iast X (pc := 135) 0 rfl rfl dX1_init_135 hw (fun h135 hw => ?_)
  refine j_dup X (pc := 136) dX1_init_136 rfl ?_
  refine j_iconst X (pc := 137) 1 dX1_init_137 (by decide) ?_
  refine j_iconst X (pc := 138) 0 dX1_init_138 (by decide) ?_
  refine j_iast X (pc := 139) 0 rfl rfl dX1_init_139 hw (fun h139 hw => ?_)
  refine j_aast X (pc := 140) 13 (Nat.le_of_ble_eq_true rfl) rfl dX1_init_140 hw (fun h140 hw => ?_)
  refine j_putF (ci := 0) X (pc := 141) in_X1 rfl (by decide) 7 (by decide) q250 (Or.inl rfl) tyX1 tyX1_ok nmX1 rfl en rfl rfl (ty := (.array (.array .int))) (tyX1_ok 7 (by decide)) (rt_nar _ rfl _) (rt_fit _ rfl _) dX1_init_141 hw (fun h141 hw => ?_)
  refine j_aload_n X (pc := 144) 0 dX1_init_144 rfl rfl ?_
  refine j_bipush X (pc := 145) 16 dX1_init_145 (by decide) ?_
  refine j_bipush X (pc := 147) 24 dX1_init_147 (by decide) ?_
  refine j_mul X (pc := 149) 14 1 (ty := .boolean) rfl (fun U hU => hU) (fun U hU => nm_p (ty := .boolean) hU rfl) (by decide) (by decide) rfl rfl 16 24 dX1_init_149 q236 (fun U hU => kt_14 hU) q233 rfl rfl rfl (by decide) (by decide) (by decide) (Nat.le_of_ble_eq_true rfl) (Nat.le_of_ble_eq_true rfl) hw (fun q149 h149 hw => ?_)
  refine j_putF (ci := 0) X (pc := 153) in_X1 rfl (by decide) 8 (by decide) q251 (Or.inl rfl) tyX1 tyX1_ok nmX1 rfl en rfl rfl (ty := (.array (.array .boolean))) (tyX1_ok 8 (by decide)) (rt_nar _ rfl _) (rt_fit _ rfl _) dX1_init_153 hw (fun h153 hw => ?_)
  refine j_aload_n X (pc := 156) 0 dX1_init_156 rfl rfl ?_
  refine j_sipush X (pc := 157) 1536 dX1_init_157 (by decide) ?_
  refine j_newI X (pc := 160) 1536 dX1_init_160 q180 (by decide) (Nat.le_of_ble_eq_true rfl) (Nat.le_of_ble_eq_true rfl) hw (fun q160 h160 hw => ?_)
  refine j_putF (ci := 0) X (pc := 162) in_X1 rfl (by decide) 9 (by decide) q252 (Or.inl rfl) tyX1 tyX1_ok nmX1 rfl en rfl rfl (ty := (.array .int)) (tyX1_ok 9 (by decide)) (rt_nar _ rfl _) (rt_fit _ rfl _) dX1_init_162 hw (fun h162 hw => ?_)
  refine j_aload_n X (pc := 165) 0 dX1_init_165 rfl rfl ?_
  refine j_sipush X (pc := 166) 1536 dX1_init_166 (by decide) ?_
  refine j_newI X (pc := 169) 1536 dX1_init_169 q180 (by decide) (Nat.le_of_ble_eq_true rfl) (Nat.le_of_ble_eq_true rfl) hw (fun q169 h169 hw => ?_)
  refine j_putF (ci := 0) X (pc := 171) in_X1 rfl (by decide) 10 (by decide) q253 (Or.inl rfl) tyX1 tyX1_ok nmX1 rfl en rfl rfl (ty := (.array .int)) (tyX1_ok 10 (by decide)) (rt_nar _ rfl _) (rt_fit _ rfl _) dX1_init_171 hw (fun h171 hw => ?_)
  refine j_aload_n X (pc := 174) 0 dX1_init_174 rfl rfl ?_
  refine j_sipush X (pc := 175) 1536 dX1_init_175 (by decide) ?_
  refine j_newZ X (pc := 178) 1536 dX1_init_178 q233 (by decide) (Nat.le_of_ble_eq_true rfl) (Nat.le_of_ble_eq_true rfl) hw (fun q178 h178 hw => ?_)
  refine j_putF (ci := 0) X (pc := 180) in_X1 rfl (by decide) 11 (by decide) q254 (Or.inl rfl) tyX1 tyX1_ok nmX1 rfl en rfl rfl (ty := (.array .boolean)) (tyX1_ok 11 (by decide)) (rt_nar _ rfl _) (rt_fit _ rfl _) dX1_init_180 hw (fun h180 hw => ?_)
  refine j_iconst X (pc := 183) 0 dX1_init_183 (by decide) ?_
  refine j_istore_n X (pc := 184) [(1, vI 0), (0, vR a0)] dX1_init_184 rfl (Nat.le_of_ble_eq_true rfl) rfl ?_
  refine j_lv [(0, vR a0), (1, vI 0)] [1, 0] rfl ?_
  exact wk_X1_init_185 X er en hQ a0 0 45 6138 h180 hw
abbrev cX5_init : ByteArray := prog_19_method_1_code
def yX5_init : MethodName := ⟨RX5, "<init>", "()V"⟩
def dkwX5_init_10 : List UInt8 := [188, 10, 181, 0, 88, 42, 17, 1, 128, 188, 4, 181, 0, 91, 42, 17, 6, 0, 188, 4, 181, 0, 94, 177]
abbrev dktX5_init_10 : List UInt8 := dkwX5_init_10 ++ []
def dkwX5_init_9 : List UInt8 := [181, 0, 79, 42, 16, 13, 188, 10, 181, 0, 82, 42, 17, 6, 0, 188, 10, 181, 0, 85, 42, 17, 6, 0]
abbrev dktX5_init_9 : List UInt8 := dkwX5_init_9 ++ dktX5_init_10
def dkwX5_init_8 : List UInt8 := [181, 0, 70, 42, 16, 93, 188, 10, 181, 0, 73, 42, 16, 13, 188, 10, 181, 0, 76, 42, 16, 13, 188, 10]
abbrev dktX5_init_8 : List UInt8 := dkwX5_init_8 ++ dktX5_init_9
def dkwX5_init_7 : List UInt8 := [17, 0, 250, 197, 0, 62, 2, 181, 0, 64, 42, 16, 93, 188, 10, 181, 0, 67, 42, 16, 93, 188, 10]
abbrev dktX5_init_7 : List UInt8 := dkwX5_init_7 ++ dktX5_init_8
def dkwX5_init_6 : List UInt8 := [17, 0, 250, 16, 13, 197, 0, 42, 2, 181, 0, 56, 42, 17, 0, 250, 188, 4, 181, 0, 59, 42, 6]
abbrev dktX5_init_6 : List UInt8 := dkwX5_init_6 ++ dktX5_init_7
def dkwX5_init_5 : List UInt8 := [16, 13, 197, 0, 42, 2, 181, 0, 50, 42, 17, 0, 250, 16, 13, 197, 0, 42, 2, 181, 0, 53, 42]
abbrev dktX5_init_5 : List UInt8 := dkwX5_init_5 ++ dktX5_init_6
def dkwX5_init_4 : List UInt8 := [197, 0, 42, 2, 181, 0, 44, 42, 17, 0, 250, 16, 13, 197, 0, 42, 2, 181, 0, 47, 42, 17, 0, 250]
abbrev dktX5_init_4 : List UInt8 := dkwX5_init_4 ++ dktX5_init_5
def dkwX5_init_3 : List UInt8 := [17, 0, 250, 188, 10, 181, 0, 36, 42, 17, 0, 250, 188, 10, 181, 0, 39, 42, 17, 0, 250, 16, 13]
abbrev dktX5_init_3 : List UInt8 := dkwX5_init_3 ++ dktX5_init_4
def dkwX5_init_2 : List UInt8 := [188, 5, 181, 0, 26, 42, 16, 8, 188, 5, 181, 0, 30, 42, 17, 0, 250, 188, 10, 181, 0, 33, 42]
abbrev dktX5_init_2 : List UInt8 := dkwX5_init_2 ++ dktX5_init_3
def dkwX5_init_1 : List UInt8 := [188, 10, 181, 0, 16, 42, 16, 8, 188, 10, 181, 0, 19, 42, 16, 12, 188, 4, 181, 0, 22, 42, 16, 8]
abbrev dktX5_init_1 : List UInt8 := dkwX5_init_1 ++ dktX5_init_2
def dkwX5_init_0 : List UInt8 := [42, 183, 0, 3, 42, 16, 12, 188, 10, 181, 0, 9, 42, 16, 12, 188, 10, 181, 0, 13, 42, 16, 8]
abbrev dktX5_init_0 : List UInt8 := dkwX5_init_0 ++ dktX5_init_1
theorem dksX5_init_0 : cX5_init.data.toList.drop 0 = dktX5_init_0 := by decide +kernel
theorem dksX5_init_1 : cX5_init.data.toList.drop 23 = dktX5_init_1 := dk_seg dksX5_init_0 23 rfl rfl
theorem dksX5_init_2 : cX5_init.data.toList.drop 47 = dktX5_init_2 := dk_seg dksX5_init_1 24 rfl rfl
theorem dksX5_init_3 : cX5_init.data.toList.drop 70 = dktX5_init_3 := dk_seg dksX5_init_2 23 rfl rfl
theorem dksX5_init_4 : cX5_init.data.toList.drop 93 = dktX5_init_4 := dk_seg dksX5_init_3 23 rfl rfl
theorem dksX5_init_5 : cX5_init.data.toList.drop 117 = dktX5_init_5 := dk_seg dksX5_init_4 24 rfl rfl
theorem dksX5_init_6 : cX5_init.data.toList.drop 140 = dktX5_init_6 := dk_seg dksX5_init_5 23 rfl rfl
theorem dksX5_init_7 : cX5_init.data.toList.drop 163 = dktX5_init_7 := dk_seg dksX5_init_6 23 rfl rfl
theorem dksX5_init_8 : cX5_init.data.toList.drop 186 = dktX5_init_8 := dk_seg dksX5_init_7 23 rfl rfl
theorem dksX5_init_9 : cX5_init.data.toList.drop 210 = dktX5_init_9 := dk_seg dksX5_init_8 24 rfl rfl
theorem dksX5_init_10 : cX5_init.data.toList.drop 234 = dktX5_init_10 := dk_seg dksX5_init_9 24 rfl rfl
theorem dX5_init_0 : decode cX5_init 0 = .ok (.aload_n 0, 1) := dk_42 (dk_at dksX5_init_0 0 rfl rfl)
theorem dX5_init_1 : decode cX5_init 1 = .ok (.invokespecial 3, 3) := dk_183 0 3 (dk_at dksX5_init_0 1 rfl rfl)
theorem dX5_init_4 : decode cX5_init 4 = .ok (.aload_n 0, 1) := dk_42 (dk_at dksX5_init_0 4 rfl rfl)
theorem dX5_init_5 : decode cX5_init 5 = .ok (.bipush 12, 2) := dk_16 12 (dk_at dksX5_init_0 5 rfl rfl)
theorem dX5_init_7 : decode cX5_init 7 = .ok (.newarray .int, 2) := dk_188_10 (dk_at dksX5_init_0 7 rfl rfl)
theorem dX5_init_9 : decode cX5_init 9 = .ok (.putfield 9, 3) := dk_181 0 9 (dk_at dksX5_init_0 9 rfl rfl)
theorem dX5_init_12 : decode cX5_init 12 = .ok (.aload_n 0, 1) := dk_42 (dk_at dksX5_init_0 12 rfl rfl)
theorem dX5_init_13 : decode cX5_init 13 = .ok (.bipush 12, 2) := dk_16 12 (dk_at dksX5_init_0 13 rfl rfl)
theorem dX5_init_15 : decode cX5_init 15 = .ok (.newarray .int, 2) := dk_188_10 (dk_at dksX5_init_0 15 rfl rfl)
theorem dX5_init_17 : decode cX5_init 17 = .ok (.putfield 13, 3) := dk_181 0 13 (dk_at dksX5_init_0 17 rfl rfl)
theorem dX5_init_20 : decode cX5_init 20 = .ok (.aload_n 0, 1) := dk_42 (dk_at dksX5_init_0 20 rfl rfl)
theorem dX5_init_21 : decode cX5_init 21 = .ok (.bipush 8, 2) := dk_16 8 (dk_at dksX5_init_0 21 rfl rfl)
theorem dX5_init_23 : decode cX5_init 23 = .ok (.newarray .int, 2) := dk_188_10 (dk_at dksX5_init_1 0 rfl rfl)
theorem dX5_init_25 : decode cX5_init 25 = .ok (.putfield 16, 3) := dk_181 0 16 (dk_at dksX5_init_1 2 rfl rfl)
theorem dX5_init_28 : decode cX5_init 28 = .ok (.aload_n 0, 1) := dk_42 (dk_at dksX5_init_1 5 rfl rfl)
theorem dX5_init_29 : decode cX5_init 29 = .ok (.bipush 8, 2) := dk_16 8 (dk_at dksX5_init_1 6 rfl rfl)
theorem dX5_init_31 : decode cX5_init 31 = .ok (.newarray .int, 2) := dk_188_10 (dk_at dksX5_init_1 8 rfl rfl)
theorem dX5_init_33 : decode cX5_init 33 = .ok (.putfield 19, 3) := dk_181 0 19 (dk_at dksX5_init_1 10 rfl rfl)
theorem dX5_init_36 : decode cX5_init 36 = .ok (.aload_n 0, 1) := dk_42 (dk_at dksX5_init_1 13 rfl rfl)
theorem dX5_init_37 : decode cX5_init 37 = .ok (.bipush 12, 2) := dk_16 12 (dk_at dksX5_init_1 14 rfl rfl)
theorem dX5_init_39 : decode cX5_init 39 = .ok (.newarray .boolean, 2) := dk_188_4 (dk_at dksX5_init_1 16 rfl rfl)
theorem dX5_init_41 : decode cX5_init 41 = .ok (.putfield 22, 3) := dk_181 0 22 (dk_at dksX5_init_1 18 rfl rfl)
theorem dX5_init_44 : decode cX5_init 44 = .ok (.aload_n 0, 1) := dk_42 (dk_at dksX5_init_1 21 rfl rfl)
theorem dX5_init_45 : decode cX5_init 45 = .ok (.bipush 8, 2) := dk_16 8 (dk_at dksX5_init_1 22 rfl rfl)
theorem dX5_init_47 : decode cX5_init 47 = .ok (.newarray .char, 2) := dk_188_5 (dk_at dksX5_init_2 0 rfl rfl)
theorem dX5_init_49 : decode cX5_init 49 = .ok (.putfield 26, 3) := dk_181 0 26 (dk_at dksX5_init_2 2 rfl rfl)
theorem dX5_init_52 : decode cX5_init 52 = .ok (.aload_n 0, 1) := dk_42 (dk_at dksX5_init_2 5 rfl rfl)
theorem dX5_init_53 : decode cX5_init 53 = .ok (.bipush 8, 2) := dk_16 8 (dk_at dksX5_init_2 6 rfl rfl)
theorem dX5_init_55 : decode cX5_init 55 = .ok (.newarray .char, 2) := dk_188_5 (dk_at dksX5_init_2 8 rfl rfl)
theorem dX5_init_57 : decode cX5_init 57 = .ok (.putfield 30, 3) := dk_181 0 30 (dk_at dksX5_init_2 10 rfl rfl)
theorem dX5_init_60 : decode cX5_init 60 = .ok (.aload_n 0, 1) := dk_42 (dk_at dksX5_init_2 13 rfl rfl)
theorem dX5_init_61 : decode cX5_init 61 = .ok (.sipush 250, 3) := dk_17 0 250 (dk_at dksX5_init_2 14 rfl rfl)
theorem dX5_init_64 : decode cX5_init 64 = .ok (.newarray .int, 2) := dk_188_10 (dk_at dksX5_init_2 17 rfl rfl)
theorem dX5_init_66 : decode cX5_init 66 = .ok (.putfield 33, 3) := dk_181 0 33 (dk_at dksX5_init_2 19 rfl rfl)
theorem dX5_init_69 : decode cX5_init 69 = .ok (.aload_n 0, 1) := dk_42 (dk_at dksX5_init_2 22 rfl rfl)
theorem dX5_init_70 : decode cX5_init 70 = .ok (.sipush 250, 3) := dk_17 0 250 (dk_at dksX5_init_3 0 rfl rfl)
theorem dX5_init_73 : decode cX5_init 73 = .ok (.newarray .int, 2) := dk_188_10 (dk_at dksX5_init_3 3 rfl rfl)
theorem dX5_init_75 : decode cX5_init 75 = .ok (.putfield 36, 3) := dk_181 0 36 (dk_at dksX5_init_3 5 rfl rfl)
theorem dX5_init_78 : decode cX5_init 78 = .ok (.aload_n 0, 1) := dk_42 (dk_at dksX5_init_3 8 rfl rfl)
theorem dX5_init_79 : decode cX5_init 79 = .ok (.sipush 250, 3) := dk_17 0 250 (dk_at dksX5_init_3 9 rfl rfl)
theorem dX5_init_82 : decode cX5_init 82 = .ok (.newarray .int, 2) := dk_188_10 (dk_at dksX5_init_3 12 rfl rfl)
theorem dX5_init_84 : decode cX5_init 84 = .ok (.putfield 39, 3) := dk_181 0 39 (dk_at dksX5_init_3 14 rfl rfl)
theorem dX5_init_87 : decode cX5_init 87 = .ok (.aload_n 0, 1) := dk_42 (dk_at dksX5_init_3 17 rfl rfl)
theorem dX5_init_88 : decode cX5_init 88 = .ok (.sipush 250, 3) := dk_17 0 250 (dk_at dksX5_init_3 18 rfl rfl)
theorem dX5_init_91 : decode cX5_init 91 = .ok (.bipush 13, 2) := dk_16 13 (dk_at dksX5_init_3 21 rfl rfl)
theorem dX5_init_93 : decode cX5_init 93 = .ok (.multianewarray 42 2, 4) := by decide +kernel
theorem dX5_init_97 : decode cX5_init 97 = .ok (.putfield 44, 3) := dk_181 0 44 (dk_at dksX5_init_4 4 rfl rfl)
theorem dX5_init_100 : decode cX5_init 100 = .ok (.aload_n 0, 1) := dk_42 (dk_at dksX5_init_4 7 rfl rfl)
theorem dX5_init_101 : decode cX5_init 101 = .ok (.sipush 250, 3) := dk_17 0 250 (dk_at dksX5_init_4 8 rfl rfl)
theorem dX5_init_104 : decode cX5_init 104 = .ok (.bipush 13, 2) := dk_16 13 (dk_at dksX5_init_4 11 rfl rfl)
theorem dX5_init_106 : decode cX5_init 106 = .ok (.multianewarray 42 2, 4) := by decide +kernel
theorem dX5_init_110 : decode cX5_init 110 = .ok (.putfield 47, 3) := dk_181 0 47 (dk_at dksX5_init_4 17 rfl rfl)
theorem dX5_init_113 : decode cX5_init 113 = .ok (.aload_n 0, 1) := dk_42 (dk_at dksX5_init_4 20 rfl rfl)
theorem dX5_init_114 : decode cX5_init 114 = .ok (.sipush 250, 3) := dk_17 0 250 (dk_at dksX5_init_4 21 rfl rfl)
theorem dX5_init_117 : decode cX5_init 117 = .ok (.bipush 13, 2) := dk_16 13 (dk_at dksX5_init_5 0 rfl rfl)
theorem dX5_init_119 : decode cX5_init 119 = .ok (.multianewarray 42 2, 4) := by decide +kernel
theorem dX5_init_123 : decode cX5_init 123 = .ok (.putfield 50, 3) := dk_181 0 50 (dk_at dksX5_init_5 6 rfl rfl)
theorem dX5_init_126 : decode cX5_init 126 = .ok (.aload_n 0, 1) := dk_42 (dk_at dksX5_init_5 9 rfl rfl)
theorem dX5_init_127 : decode cX5_init 127 = .ok (.sipush 250, 3) := dk_17 0 250 (dk_at dksX5_init_5 10 rfl rfl)
theorem dX5_init_130 : decode cX5_init 130 = .ok (.bipush 13, 2) := dk_16 13 (dk_at dksX5_init_5 13 rfl rfl)
theorem dX5_init_132 : decode cX5_init 132 = .ok (.multianewarray 42 2, 4) := by decide +kernel
theorem dX5_init_136 : decode cX5_init 136 = .ok (.putfield 53, 3) := dk_181 0 53 (dk_at dksX5_init_5 19 rfl rfl)
theorem dX5_init_139 : decode cX5_init 139 = .ok (.aload_n 0, 1) := dk_42 (dk_at dksX5_init_5 22 rfl rfl)
theorem dX5_init_140 : decode cX5_init 140 = .ok (.sipush 250, 3) := dk_17 0 250 (dk_at dksX5_init_6 0 rfl rfl)
theorem dX5_init_143 : decode cX5_init 143 = .ok (.bipush 13, 2) := dk_16 13 (dk_at dksX5_init_6 3 rfl rfl)
theorem dX5_init_145 : decode cX5_init 145 = .ok (.multianewarray 42 2, 4) := by decide +kernel
theorem dX5_init_149 : decode cX5_init 149 = .ok (.putfield 56, 3) := dk_181 0 56 (dk_at dksX5_init_6 9 rfl rfl)
theorem dX5_init_152 : decode cX5_init 152 = .ok (.aload_n 0, 1) := dk_42 (dk_at dksX5_init_6 12 rfl rfl)
theorem dX5_init_153 : decode cX5_init 153 = .ok (.sipush 250, 3) := dk_17 0 250 (dk_at dksX5_init_6 13 rfl rfl)
theorem dX5_init_156 : decode cX5_init 156 = .ok (.newarray .boolean, 2) := dk_188_4 (dk_at dksX5_init_6 16 rfl rfl)
theorem dX5_init_158 : decode cX5_init 158 = .ok (.putfield 59, 3) := dk_181 0 59 (dk_at dksX5_init_6 18 rfl rfl)
theorem dX5_init_161 : decode cX5_init 161 = .ok (.aload_n 0, 1) := dk_42 (dk_at dksX5_init_6 21 rfl rfl)
theorem dX5_init_162 : decode cX5_init 162 = .ok (.iconst 3, 1) := dk_6 (dk_at dksX5_init_6 22 rfl rfl)
theorem dX5_init_163 : decode cX5_init 163 = .ok (.sipush 250, 3) := dk_17 0 250 (dk_at dksX5_init_7 0 rfl rfl)
theorem dX5_init_166 : decode cX5_init 166 = .ok (.multianewarray 62 2, 4) := by decide +kernel
theorem dX5_init_170 : decode cX5_init 170 = .ok (.putfield 64, 3) := dk_181 0 64 (dk_at dksX5_init_7 7 rfl rfl)
theorem dX5_init_173 : decode cX5_init 173 = .ok (.aload_n 0, 1) := dk_42 (dk_at dksX5_init_7 10 rfl rfl)
theorem dX5_init_174 : decode cX5_init 174 = .ok (.bipush 93, 2) := dk_16 93 (dk_at dksX5_init_7 11 rfl rfl)
theorem dX5_init_176 : decode cX5_init 176 = .ok (.newarray .int, 2) := dk_188_10 (dk_at dksX5_init_7 13 rfl rfl)
theorem dX5_init_178 : decode cX5_init 178 = .ok (.putfield 67, 3) := dk_181 0 67 (dk_at dksX5_init_7 15 rfl rfl)
theorem dX5_init_181 : decode cX5_init 181 = .ok (.aload_n 0, 1) := dk_42 (dk_at dksX5_init_7 18 rfl rfl)
theorem dX5_init_182 : decode cX5_init 182 = .ok (.bipush 93, 2) := dk_16 93 (dk_at dksX5_init_7 19 rfl rfl)
theorem dX5_init_184 : decode cX5_init 184 = .ok (.newarray .int, 2) := dk_188_10 (dk_at dksX5_init_7 21 rfl rfl)
theorem dX5_init_186 : decode cX5_init 186 = .ok (.putfield 70, 3) := dk_181 0 70 (dk_at dksX5_init_8 0 rfl rfl)
theorem dX5_init_189 : decode cX5_init 189 = .ok (.aload_n 0, 1) := dk_42 (dk_at dksX5_init_8 3 rfl rfl)
theorem dX5_init_190 : decode cX5_init 190 = .ok (.bipush 93, 2) := dk_16 93 (dk_at dksX5_init_8 4 rfl rfl)
theorem dX5_init_192 : decode cX5_init 192 = .ok (.newarray .int, 2) := dk_188_10 (dk_at dksX5_init_8 6 rfl rfl)
theorem dX5_init_194 : decode cX5_init 194 = .ok (.putfield 73, 3) := dk_181 0 73 (dk_at dksX5_init_8 8 rfl rfl)
theorem dX5_init_197 : decode cX5_init 197 = .ok (.aload_n 0, 1) := dk_42 (dk_at dksX5_init_8 11 rfl rfl)
theorem dX5_init_198 : decode cX5_init 198 = .ok (.bipush 13, 2) := dk_16 13 (dk_at dksX5_init_8 12 rfl rfl)
theorem dX5_init_200 : decode cX5_init 200 = .ok (.newarray .int, 2) := dk_188_10 (dk_at dksX5_init_8 14 rfl rfl)
theorem dX5_init_202 : decode cX5_init 202 = .ok (.putfield 76, 3) := dk_181 0 76 (dk_at dksX5_init_8 16 rfl rfl)
theorem dX5_init_205 : decode cX5_init 205 = .ok (.aload_n 0, 1) := dk_42 (dk_at dksX5_init_8 19 rfl rfl)
theorem dX5_init_206 : decode cX5_init 206 = .ok (.bipush 13, 2) := dk_16 13 (dk_at dksX5_init_8 20 rfl rfl)
theorem dX5_init_208 : decode cX5_init 208 = .ok (.newarray .int, 2) := dk_188_10 (dk_at dksX5_init_8 22 rfl rfl)
theorem dX5_init_210 : decode cX5_init 210 = .ok (.putfield 79, 3) := dk_181 0 79 (dk_at dksX5_init_9 0 rfl rfl)
theorem dX5_init_213 : decode cX5_init 213 = .ok (.aload_n 0, 1) := dk_42 (dk_at dksX5_init_9 3 rfl rfl)
theorem dX5_init_214 : decode cX5_init 214 = .ok (.bipush 13, 2) := dk_16 13 (dk_at dksX5_init_9 4 rfl rfl)
theorem dX5_init_216 : decode cX5_init 216 = .ok (.newarray .int, 2) := dk_188_10 (dk_at dksX5_init_9 6 rfl rfl)
theorem dX5_init_218 : decode cX5_init 218 = .ok (.putfield 82, 3) := dk_181 0 82 (dk_at dksX5_init_9 8 rfl rfl)
theorem dX5_init_221 : decode cX5_init 221 = .ok (.aload_n 0, 1) := dk_42 (dk_at dksX5_init_9 11 rfl rfl)
theorem dX5_init_222 : decode cX5_init 222 = .ok (.sipush 1536, 3) := dk_17 6 0 (dk_at dksX5_init_9 12 rfl rfl)
theorem dX5_init_225 : decode cX5_init 225 = .ok (.newarray .int, 2) := dk_188_10 (dk_at dksX5_init_9 15 rfl rfl)
theorem dX5_init_227 : decode cX5_init 227 = .ok (.putfield 85, 3) := dk_181 0 85 (dk_at dksX5_init_9 17 rfl rfl)
theorem dX5_init_230 : decode cX5_init 230 = .ok (.aload_n 0, 1) := dk_42 (dk_at dksX5_init_9 20 rfl rfl)
theorem dX5_init_231 : decode cX5_init 231 = .ok (.sipush 1536, 3) := dk_17 6 0 (dk_at dksX5_init_9 21 rfl rfl)
theorem dX5_init_234 : decode cX5_init 234 = .ok (.newarray .int, 2) := dk_188_10 (dk_at dksX5_init_10 0 rfl rfl)
theorem dX5_init_236 : decode cX5_init 236 = .ok (.putfield 88, 3) := dk_181 0 88 (dk_at dksX5_init_10 2 rfl rfl)
theorem dX5_init_239 : decode cX5_init 239 = .ok (.aload_n 0, 1) := dk_42 (dk_at dksX5_init_10 5 rfl rfl)
theorem dX5_init_240 : decode cX5_init 240 = .ok (.sipush 384, 3) := dk_17 1 128 (dk_at dksX5_init_10 6 rfl rfl)
theorem dX5_init_243 : decode cX5_init 243 = .ok (.newarray .boolean, 2) := dk_188_4 (dk_at dksX5_init_10 9 rfl rfl)
theorem dX5_init_245 : decode cX5_init 245 = .ok (.putfield 91, 3) := dk_181 0 91 (dk_at dksX5_init_10 11 rfl rfl)
theorem dX5_init_248 : decode cX5_init 248 = .ok (.aload_n 0, 1) := dk_42 (dk_at dksX5_init_10 14 rfl rfl)
theorem dX5_init_249 : decode cX5_init 249 = .ok (.sipush 1536, 3) := dk_17 6 0 (dk_at dksX5_init_10 15 rfl rfl)
theorem dX5_init_252 : decode cX5_init 252 = .ok (.newarray .boolean, 2) := dk_188_4 (dk_at dksX5_init_10 18 rfl rfl)
theorem dX5_init_254 : decode cX5_init 254 = .ok (.putfield 94, 3) := dk_181 0 94 (dk_at dksX5_init_10 20 rfl rfl)
theorem dX5_init_257 : decode cX5_init 257 = .ok (.return_, 1) := dk_177 (dk_at dksX5_init_10 23 rfl rfl)
theorem q1869 : (Jvm.Cond.methodLink "PlugboardModel" (3 : Nat) ({ cls := "java/lang/Object", name := "<init>", desc := "()V" } : Jvm.MethodName)) ∈ lw_all := lw_g (lw_at lw_m8 119 rfl) rfl
theorem q1870 : (Jvm.Cond.classLink "PlugboardModel" (42 : Nat) "[[I") ∈ lw_all := lw_g (lw_at lw_m8 120 rfl) rfl
theorem q1871 : (Jvm.Cond.classLink "PlugboardModel" (62 : Nat) "[[Z") ∈ lw_all := lw_g (lw_at lw_m8 121 rfl) rfl
theorem q1873 : (Jvm.Cond.fieldLink "PlugboardModel" (9 : Nat) "PlugboardModel" "widths" "[I") ∈ lw_all := lw_g (lw_at lw_m8 123 rfl) rfl
theorem q1874 : (Jvm.Cond.fieldLink "PlugboardModel" (13 : Nat) "PlugboardModel" "heights" "[I") ∈ lw_all := lw_g (lw_at lw_m8 124 rfl) rfl
theorem q1875 : (Jvm.Cond.fieldLink "PlugboardModel" (16 : Nat) "PlugboardModel" "ones" "[I") ∈ lw_all := lw_g (lw_at lw_m8 125 rfl) rfl
theorem q1876 : (Jvm.Cond.fieldLink "PlugboardModel" (19 : Nat) "PlugboardModel" "others" "[I") ∈ lw_all := lw_g (lw_at lw_m8 126 rfl) rfl
theorem q1877 : (Jvm.Cond.fieldLink "PlugboardModel" (22 : Nat) "PlugboardModel" "isFrame" "[Z") ∈ lw_all := lw_g (lw_at lw_m8 127 rfl) rfl
theorem q1878 : (Jvm.Cond.fieldLink "PlugboardModel" (26 : Nat) "PlugboardModel" "sides" "[C") ∈ lw_all := lw_g (lw_at lw_m8 128 rfl) rfl
theorem q1879 : (Jvm.Cond.fieldLink "PlugboardModel" (30 : Nat) "PlugboardModel" "otherSides" "[C") ∈ lw_all := lw_g (lw_at lw_m8 129 rfl) rfl
theorem q1882 : (Jvm.Cond.fieldLink "PlugboardModel" (33 : Nat) "PlugboardModel" "users" "[I") ∈ lw_all := lw_g (lw_at lw_m8 132 rfl) rfl
theorem q1883 : (Jvm.Cond.fieldLink "PlugboardModel" (36 : Nat) "PlugboardModel" "clocks" "[I") ∈ lw_all := lw_g (lw_at lw_m8 133 rfl) rfl
theorem q1884 : (Jvm.Cond.fieldLink "PlugboardModel" (39 : Nat) "PlugboardModel" "many" "[I") ∈ lw_all := lw_g (lw_at lw_m8 134 rfl) rfl
theorem q1885 : (Jvm.Cond.fieldLink "PlugboardModel" (44 : Nat) "PlugboardModel" "fields" "[[I") ∈ lw_all := lw_g (lw_at lw_m8 135 rfl) rfl
theorem q1886 : (Jvm.Cond.fieldLink "PlugboardModel" (47 : Nat) "PlugboardModel" "values" "[[I") ∈ lw_all := lw_g (lw_at lw_m8 136 rfl) rfl
theorem q1887 : (Jvm.Cond.fieldLink "PlugboardModel" (50 : Nat) "PlugboardModel" "olds" "[[I") ∈ lw_all := lw_g (lw_at lw_m8 137 rfl) rfl
theorem q1888 : (Jvm.Cond.fieldLink "PlugboardModel" (53 : Nat) "PlugboardModel" "stems" "[[I") ∈ lw_all := lw_g (lw_at lw_m8 138 rfl) rfl
theorem q1889 : (Jvm.Cond.fieldLink "PlugboardModel" (56 : Nat) "PlugboardModel" "oldStems" "[[I") ∈ lw_all := lw_g (lw_at lw_m8 139 rfl) rfl
theorem q1890 : (Jvm.Cond.fieldLink "PlugboardModel" (59 : Nat) "PlugboardModel" "isStep" "[Z") ∈ lw_all := lw_g (lw_at lw_m8 140 rfl) rfl
theorem q1891 : (Jvm.Cond.fieldLink "PlugboardModel" (64 : Nat) "PlugboardModel" "known" "[[Z") ∈ lw_all := lw_g (lw_at lw_m8 141 rfl) rfl
theorem q1893 : (Jvm.Cond.fieldLink "PlugboardModel" (67 : Nat) "PlugboardModel" "now" "[I") ∈ lw_all := lw_g (lw_at lw_m8 143 rfl) rfl
theorem q1894 : (Jvm.Cond.fieldLink "PlugboardModel" (70 : Nat) "PlugboardModel" "by" "[I") ∈ lw_all := lw_g (lw_at lw_m8 144 rfl) rfl
theorem q1895 : (Jvm.Cond.fieldLink "PlugboardModel" (73 : Nat) "PlugboardModel" "from" "[I") ∈ lw_all := lw_g (lw_at lw_m8 145 rfl) rfl
theorem q1896 : (Jvm.Cond.fieldLink "PlugboardModel" (76 : Nat) "PlugboardModel" "toFields" "[I") ∈ lw_all := lw_g (lw_at lw_m8 146 rfl) rfl
theorem q1897 : (Jvm.Cond.fieldLink "PlugboardModel" (79 : Nat) "PlugboardModel" "toValues" "[I") ∈ lw_all := lw_g (lw_at lw_m8 147 rfl) rfl
theorem q1898 : (Jvm.Cond.fieldLink "PlugboardModel" (82 : Nat) "PlugboardModel" "toStems" "[I") ∈ lw_all := lw_g (lw_at lw_m8 148 rfl) rfl
theorem q1900 : (Jvm.Cond.fieldLink "PlugboardModel" (85 : Nat) "PlugboardModel" "costs" "[I") ∈ lw_all := lw_g (lw_at lw_m8 150 rfl) rfl
theorem q1901 : (Jvm.Cond.fieldLink "PlugboardModel" (88 : Nat) "PlugboardModel" "queue" "[I") ∈ lw_all := lw_g (lw_at lw_m8 151 rfl) rfl
theorem q1902 : (Jvm.Cond.fieldLink "PlugboardModel" (91 : Nat) "PlugboardModel" "isShut" "[Z") ∈ lw_all := lw_g (lw_at lw_m8 152 rfl) rfl
theorem q1903 : (Jvm.Cond.fieldLink "PlugboardModel" (94 : Nat) "PlugboardModel" "isQueued" "[Z") ∈ lw_all := lw_g (lw_at lw_m8 153 rfl) rfl
theorem q1969 : (Jvm.Cond.arrayClass Jvm.ClassFile.FieldType.char) ∈ lw_all := lw_g (lw_at lw_m8 219 rfl) rfl
abbrev rm_X5_init : Room := { frames := 1, cells := 1280, slots := 24631, locals := 12 }
def w_X5_init (a0 : Option Nat) (h : AH) (P : AH → Prop) : Prop :=
  nn a0 (
  mk_i h 0 12 12 fun q7 h7 =>
  p_v h7 a0 4 1 (vR (some q7)) fun h9 =>
  mk_i h9 0 12 12 fun q15 h15 =>
  p_v h15 a0 4 2 (vR (some q15)) fun h17 =>
  mk_i h17 0 8 8 fun q23 h23 =>
  p_v h23 a0 4 3 (vR (some q23)) fun h25 =>
  mk_i h25 0 8 8 fun q31 h31 =>
  p_v h31 a0 4 4 (vR (some q31)) fun h33 =>
  mk_i h33 1 12 12 fun q39 h39 =>
  p_v h39 a0 4 5 (vR (some q39)) fun h41 =>
  mk_i h41 4 8 8 fun q47 h47 =>
  p_v h47 a0 4 6 (vR (some q47)) fun h49 =>
  mk_i h49 4 8 8 fun q55 h55 =>
  p_v h55 a0 4 7 (vR (some q55)) fun h57 =>
  mk_i h57 0 250 250 fun q64 h64 =>
  p_v h64 a0 4 10 (vR (some q64)) fun h66 =>
  mk_i h66 0 250 250 fun q73 h73 =>
  p_v h73 a0 4 11 (vR (some q73)) fun h75 =>
  mk_i h75 0 250 250 fun q82 h82 =>
  p_v h82 a0 4 12 (vR (some q82)) fun h84 =>
  mk_m h84 13 0 250 13 250 13 fun q93 h93 =>
  p_v h93 a0 4 13 (vR (some q93)) fun h97 =>
  mk_m h97 13 0 250 13 250 13 fun q106 h106 =>
  p_v h106 a0 4 14 (vR (some q106)) fun h110 =>
  mk_m h110 13 0 250 13 250 13 fun q119 h119 =>
  p_v h119 a0 4 15 (vR (some q119)) fun h123 =>
  mk_m h123 13 0 250 13 250 13 fun q132 h132 =>
  p_v h132 a0 4 16 (vR (some q132)) fun h136 =>
  mk_m h136 13 0 250 13 250 13 fun q145 h145 =>
  p_v h145 a0 4 17 (vR (some q145)) fun h149 =>
  mk_i h149 1 250 250 fun q156 h156 =>
  p_v h156 a0 4 18 (vR (some q156)) fun h158 =>
  mk_m h158 14 1 3 250 3 250 fun q166 h166 =>
  p_v h166 a0 4 19 (vR (some q166)) fun h170 =>
  mk_i h170 0 93 93 fun q176 h176 =>
  p_v h176 a0 4 21 (vR (some q176)) fun h178 =>
  mk_i h178 0 93 93 fun q184 h184 =>
  p_v h184 a0 4 22 (vR (some q184)) fun h186 =>
  mk_i h186 0 93 93 fun q192 h192 =>
  p_v h192 a0 4 23 (vR (some q192)) fun h194 =>
  mk_i h194 0 13 13 fun q200 h200 =>
  p_v h200 a0 4 24 (vR (some q200)) fun h202 =>
  mk_i h202 0 13 13 fun q208 h208 =>
  p_v h208 a0 4 25 (vR (some q208)) fun h210 =>
  mk_i h210 0 13 13 fun q216 h216 =>
  p_v h216 a0 4 26 (vR (some q216)) fun h218 =>
  mk_i h218 0 1536 1536 fun q225 h225 =>
  p_v h225 a0 4 28 (vR (some q225)) fun h227 =>
  mk_i h227 0 1536 1536 fun q234 h234 =>
  p_v h234 a0 4 29 (vR (some q234)) fun h236 =>
  mk_i h236 1 384 384 fun q243 h243 =>
  p_v h243 a0 4 30 (vR (some q243)) fun h245 =>
  mk_i h245 1 1536 1536 fun q252 h252 =>
  p_v h252 a0 4 31 (vR (some q252)) fun h254 =>
  P h254)
theorem met_X5_init (l : Launch) (hlt : l.stackTraces = false) (G : GG) (h : AH) (a0 : Option Nat) (P : AH → Prop) (hw : w_X5_init a0 h P) : ct_v l yX5_init (ws_ yX5_init cX5_init 1 (Option.none : Option Jvm.ClassFile.FieldType)) rm_X5_init G h [vR a0] P := by
  refine j_startv hlt [(0, vR a0)] (plainFor_of_name (by decide)) rfl rfl (fun x X eG er en hQ => ?_)
  subst eG
  refine j_aload_n X (pc := 0) 0 dX5_init_0 rfl rfl ?_
  obtain ⟨b9, hr9, hw⟩ := hw
  refine j_obj X (pc := 1) hr9 q1869 q125 q126 dX5_init_1 ⟨Nat.le_of_ble_eq_true rfl, Nat.le_of_ble_eq_true rfl⟩ ?_
  refine j_aload_n X (pc := 4) 0 dX5_init_4 rfl rfl ?_
  refine j_bipush X (pc := 5) 12 dX5_init_5 (by decide) ?_
  refine j_newI X (pc := 7) 12 dX5_init_7 q180 (by decide) (Nat.le_of_ble_eq_true rfl) (Nat.le_of_ble_eq_true rfl) hw (fun q7 h7 hw => ?_)
  refine j_putF (ci := 4) X (pc := 9) in_X5 rfl (by decide) 1 (by decide) q1873 (Or.inl rfl) tyX5 tyX5_ok nmX5 rfl en rfl rfl (ty := (.array .int)) (tyX5_ok 1 (by decide)) (rt_nar _ rfl _) (rt_fit _ rfl _) dX5_init_9 hw (fun h9 hw => ?_)
  refine j_aload_n X (pc := 12) 0 dX5_init_12 rfl rfl ?_
  refine j_bipush X (pc := 13) 12 dX5_init_13 (by decide) ?_
  refine j_newI X (pc := 15) 12 dX5_init_15 q180 (by decide) (Nat.le_of_ble_eq_true rfl) (Nat.le_of_ble_eq_true rfl) hw (fun q15 h15 hw => ?_)
  refine j_putF (ci := 4) X (pc := 17) in_X5 rfl (by decide) 2 (by decide) q1874 (Or.inl rfl) tyX5 tyX5_ok nmX5 rfl en rfl rfl (ty := (.array .int)) (tyX5_ok 2 (by decide)) (rt_nar _ rfl _) (rt_fit _ rfl _) dX5_init_17 hw (fun h17 hw => ?_)
  refine j_aload_n X (pc := 20) 0 dX5_init_20 rfl rfl ?_
  refine j_bipush X (pc := 21) 8 dX5_init_21 (by decide) ?_
  refine j_newI X (pc := 23) 8 dX5_init_23 q180 (by decide) (Nat.le_of_ble_eq_true rfl) (Nat.le_of_ble_eq_true rfl) hw (fun q23 h23 hw => ?_)
  refine j_putF (ci := 4) X (pc := 25) in_X5 rfl (by decide) 3 (by decide) q1875 (Or.inl rfl) tyX5 tyX5_ok nmX5 rfl en rfl rfl (ty := (.array .int)) (tyX5_ok 3 (by decide)) (rt_nar _ rfl _) (rt_fit _ rfl _) dX5_init_25 hw (fun h25 hw => ?_)
  refine j_aload_n X (pc := 28) 0 dX5_init_28 rfl rfl ?_
  refine j_bipush X (pc := 29) 8 dX5_init_29 (by decide) ?_
  refine j_newI X (pc := 31) 8 dX5_init_31 q180 (by decide) (Nat.le_of_ble_eq_true rfl) (Nat.le_of_ble_eq_true rfl) hw (fun q31 h31 hw => ?_)
  refine j_putF (ci := 4) X (pc := 33) in_X5 rfl (by decide) 4 (by decide) q1876 (Or.inl rfl) tyX5 tyX5_ok nmX5 rfl en rfl rfl (ty := (.array .int)) (tyX5_ok 4 (by decide)) (rt_nar _ rfl _) (rt_fit _ rfl _) dX5_init_33 hw (fun h33 hw => ?_)
  refine j_aload_n X (pc := 36) 0 dX5_init_36 rfl rfl ?_
  refine j_bipush X (pc := 37) 12 dX5_init_37 (by decide) ?_
  refine j_newZ X (pc := 39) 12 dX5_init_39 q233 (by decide) (Nat.le_of_ble_eq_true rfl) (Nat.le_of_ble_eq_true rfl) hw (fun q39 h39 hw => ?_)
  refine j_putF (ci := 4) X (pc := 41) in_X5 rfl (by decide) 5 (by decide) q1877 (Or.inl rfl) tyX5 tyX5_ok nmX5 rfl en rfl rfl (ty := (.array .boolean)) (tyX5_ok 5 (by decide)) (rt_nar _ rfl _) (rt_fit _ rfl _) dX5_init_41 hw (fun h41 hw => ?_)
  refine j_aload_n X (pc := 44) 0 dX5_init_44 rfl rfl ?_
  refine j_bipush X (pc := 45) 8 dX5_init_45 (by decide) ?_
  refine j_newC X (pc := 47) 8 dX5_init_47 q1969 (by decide) (Nat.le_of_ble_eq_true rfl) (Nat.le_of_ble_eq_true rfl) hw (fun q47 h47 hw => ?_)
  refine j_putF (ci := 4) X (pc := 49) in_X5 rfl (by decide) 6 (by decide) q1878 (Or.inl rfl) tyX5 tyX5_ok nmX5 rfl en rfl rfl (ty := (.array .char)) (tyX5_ok 6 (by decide)) (rt_nar _ rfl _) (rt_fit _ rfl _) dX5_init_49 hw (fun h49 hw => ?_)
  refine j_aload_n X (pc := 52) 0 dX5_init_52 rfl rfl ?_
  refine j_bipush X (pc := 53) 8 dX5_init_53 (by decide) ?_
  refine j_newC X (pc := 55) 8 dX5_init_55 q1969 (by decide) (Nat.le_of_ble_eq_true rfl) (Nat.le_of_ble_eq_true rfl) hw (fun q55 h55 hw => ?_)
  refine j_putF (ci := 4) X (pc := 57) in_X5 rfl (by decide) 7 (by decide) q1879 (Or.inl rfl) tyX5 tyX5_ok nmX5 rfl en rfl rfl (ty := (.array .char)) (tyX5_ok 7 (by decide)) (rt_nar _ rfl _) (rt_fit _ rfl _) dX5_init_57 hw (fun h57 hw => ?_)
  refine j_aload_n X (pc := 60) 0 dX5_init_60 rfl rfl ?_
  refine j_sipush X (pc := 61) 250 dX5_init_61 (by decide) ?_
  refine j_newI X (pc := 64) 250 dX5_init_64 q180 (by decide) (Nat.le_of_ble_eq_true rfl) (Nat.le_of_ble_eq_true rfl) hw (fun q64 h64 hw => ?_)
  refine j_putF (ci := 4) X (pc := 66) in_X5 rfl (by decide) 10 (by decide) q1882 (Or.inl rfl) tyX5 tyX5_ok nmX5 rfl en rfl rfl (ty := (.array .int)) (tyX5_ok 10 (by decide)) (rt_nar _ rfl _) (rt_fit _ rfl _) dX5_init_66 hw (fun h66 hw => ?_)
  refine j_aload_n X (pc := 69) 0 dX5_init_69 rfl rfl ?_
  refine j_sipush X (pc := 70) 250 dX5_init_70 (by decide) ?_
  refine j_newI X (pc := 73) 250 dX5_init_73 q180 (by decide) (Nat.le_of_ble_eq_true rfl) (Nat.le_of_ble_eq_true rfl) hw (fun q73 h73 hw => ?_)
  refine j_putF (ci := 4) X (pc := 75) in_X5 rfl (by decide) 11 (by decide) q1883 (Or.inl rfl) tyX5 tyX5_ok nmX5 rfl en rfl rfl (ty := (.array .int)) (tyX5_ok 11 (by decide)) (rt_nar _ rfl _) (rt_fit _ rfl _) dX5_init_75 hw (fun h75 hw => ?_)
  refine j_aload_n X (pc := 78) 0 dX5_init_78 rfl rfl ?_
  refine j_sipush X (pc := 79) 250 dX5_init_79 (by decide) ?_
  refine j_newI X (pc := 82) 250 dX5_init_82 q180 (by decide) (Nat.le_of_ble_eq_true rfl) (Nat.le_of_ble_eq_true rfl) hw (fun q82 h82 hw => ?_)
  refine j_putF (ci := 4) X (pc := 84) in_X5 rfl (by decide) 12 (by decide) q1884 (Or.inl rfl) tyX5 tyX5_ok nmX5 rfl en rfl rfl (ty := (.array .int)) (tyX5_ok 12 (by decide)) (rt_nar _ rfl _) (rt_fit _ rfl _) dX5_init_84 hw (fun h84 hw => ?_)
  refine j_aload_n X (pc := 87) 0 dX5_init_87 rfl rfl ?_
  refine j_sipush X (pc := 88) 250 dX5_init_88 (by decide) ?_
  refine j_bipush X (pc := 91) 13 dX5_init_91 (by decide) ?_
  refine j_mul X (pc := 93) 13 0 (ty := .int) rfl (fun U hU => hU) (fun U hU => nm_p (ty := .int) hU rfl) (by decide) (by decide) rfl rfl 250 13 dX5_init_93 q1870 (fun U hU => kt_13 hU) q180 rfl rfl rfl (by decide) (by decide) (by decide) (Nat.le_of_ble_eq_true rfl) (Nat.le_of_ble_eq_true rfl) hw (fun q93 h93 hw => ?_)
  refine j_putF (ci := 4) X (pc := 97) in_X5 rfl (by decide) 13 (by decide) q1885 (Or.inl rfl) tyX5 tyX5_ok nmX5 rfl en rfl rfl (ty := (.array (.array .int))) (tyX5_ok 13 (by decide)) (rt_nar _ rfl _) (rt_fit _ rfl _) dX5_init_97 hw (fun h97 hw => ?_)
  refine j_aload_n X (pc := 100) 0 dX5_init_100 rfl rfl ?_
  refine j_sipush X (pc := 101) 250 dX5_init_101 (by decide) ?_
  refine j_bipush X (pc := 104) 13 dX5_init_104 (by decide) ?_
  refine j_mul X (pc := 106) 13 0 (ty := .int) rfl (fun U hU => hU) (fun U hU => nm_p (ty := .int) hU rfl) (by decide) (by decide) rfl rfl 250 13 dX5_init_106 q1870 (fun U hU => kt_13 hU) q180 rfl rfl rfl (by decide) (by decide) (by decide) (Nat.le_of_ble_eq_true rfl) (Nat.le_of_ble_eq_true rfl) hw (fun q106 h106 hw => ?_)
  refine j_putF (ci := 4) X (pc := 110) in_X5 rfl (by decide) 14 (by decide) q1886 (Or.inl rfl) tyX5 tyX5_ok nmX5 rfl en rfl rfl (ty := (.array (.array .int))) (tyX5_ok 14 (by decide)) (rt_nar _ rfl _) (rt_fit _ rfl _) dX5_init_110 hw (fun h110 hw => ?_)
  refine j_aload_n X (pc := 113) 0 dX5_init_113 rfl rfl ?_
  refine j_sipush X (pc := 114) 250 dX5_init_114 (by decide) ?_
  refine j_bipush X (pc := 117) 13 dX5_init_117 (by decide) ?_
  refine j_mul X (pc := 119) 13 0 (ty := .int) rfl (fun U hU => hU) (fun U hU => nm_p (ty := .int) hU rfl) (by decide) (by decide) rfl rfl 250 13 dX5_init_119 q1870 (fun U hU => kt_13 hU) q180 rfl rfl rfl (by decide) (by decide) (by decide) (Nat.le_of_ble_eq_true rfl) (Nat.le_of_ble_eq_true rfl) hw (fun q119 h119 hw => ?_)
  refine j_putF (ci := 4) X (pc := 123) in_X5 rfl (by decide) 15 (by decide) q1887 (Or.inl rfl) tyX5 tyX5_ok nmX5 rfl en rfl rfl (ty := (.array (.array .int))) (tyX5_ok 15 (by decide)) (rt_nar _ rfl _) (rt_fit _ rfl _) dX5_init_123 hw (fun h123 hw => ?_)
  refine j_aload_n X (pc := 126) 0 dX5_init_126 rfl rfl ?_
  refine j_sipush X (pc := 127) 250 dX5_init_127 (by decide) ?_
  refine j_bipush X (pc := 130) 13 dX5_init_130 (by decide) ?_
  refine j_mul X (pc := 132) 13 0 (ty := .int) rfl (fun U hU => hU) (fun U hU => nm_p (ty := .int) hU rfl) (by decide) (by decide) rfl rfl 250 13 dX5_init_132 q1870 (fun U hU => kt_13 hU) q180 rfl rfl rfl (by decide) (by decide) (by decide) (Nat.le_of_ble_eq_true rfl) (Nat.le_of_ble_eq_true rfl) hw (fun q132 h132 hw => ?_)
  refine j_putF (ci := 4) X (pc := 136) in_X5 rfl (by decide) 16 (by decide) q1888 (Or.inl rfl) tyX5 tyX5_ok nmX5 rfl en rfl rfl (ty := (.array (.array .int))) (tyX5_ok 16 (by decide)) (rt_nar _ rfl _) (rt_fit _ rfl _) dX5_init_136 hw (fun h136 hw => ?_)
  refine j_aload_n X (pc := 139) 0 dX5_init_139 rfl rfl ?_
  refine j_sipush X (pc := 140) 250 dX5_init_140 (by decide) ?_
  refine j_bipush X (pc := 143) 13 dX5_init_143 (by decide) ?_
  refine j_mul X (pc := 145) 13 0 (ty := .int) rfl (fun U hU => hU) (fun U hU => nm_p (ty := .int) hU rfl) (by decide) (by decide) rfl rfl 250 13 dX5_init_145 q1870 (fun U hU => kt_13 hU) q180 rfl rfl rfl (by decide) (by decide) (by decide) (Nat.le_of_ble_eq_true rfl) (Nat.le_of_ble_eq_true rfl) hw (fun q145 h145 hw => ?_)
  refine j_putF (ci := 4) X (pc := 149) in_X5 rfl (by decide) 17 (by decide) q1889 (Or.inl rfl) tyX5 tyX5_ok nmX5 rfl en rfl rfl (ty := (.array (.array .int))) (tyX5_ok 17 (by decide)) (rt_nar _ rfl _) (rt_fit _ rfl _) dX5_init_149 hw (fun h149 hw => ?_)
  refine j_aload_n X (pc := 152) 0 dX5_init_152 rfl rfl ?_
  refine j_sipush X (pc := 153) 250 dX5_init_153 (by decide) ?_
  refine j_newZ X (pc := 156) 250 dX5_init_156 q233 (by decide) (Nat.le_of_ble_eq_true rfl) (Nat.le_of_ble_eq_true rfl) hw (fun q156 h156 hw => ?_)
  refine j_putF (ci := 4) X (pc := 158) in_X5 rfl (by decide) 18 (by decide) q1890 (Or.inl rfl) tyX5 tyX5_ok nmX5 rfl en rfl rfl (ty := (.array .boolean)) (tyX5_ok 18 (by decide)) (rt_nar _ rfl _) (rt_fit _ rfl _) dX5_init_158 hw (fun h158 hw => ?_)
  refine j_aload_n X (pc := 161) 0 dX5_init_161 rfl rfl ?_
  refine j_iconst X (pc := 162) 3 dX5_init_162 (by decide) ?_
  refine j_sipush X (pc := 163) 250 dX5_init_163 (by decide) ?_
  refine j_mul X (pc := 166) 14 1 (ty := .boolean) rfl (fun U hU => hU) (fun U hU => nm_p (ty := .boolean) hU rfl) (by decide) (by decide) rfl rfl 3 250 dX5_init_166 q1871 (fun U hU => kt_14 hU) q233 rfl rfl rfl (by decide) (by decide) (by decide) (Nat.le_of_ble_eq_true rfl) (Nat.le_of_ble_eq_true rfl) hw (fun q166 h166 hw => ?_)
  refine j_putF (ci := 4) X (pc := 170) in_X5 rfl (by decide) 19 (by decide) q1891 (Or.inl rfl) tyX5 tyX5_ok nmX5 rfl en rfl rfl (ty := (.array (.array .boolean))) (tyX5_ok 19 (by decide)) (rt_nar _ rfl _) (rt_fit _ rfl _) dX5_init_170 hw (fun h170 hw => ?_)
  refine j_aload_n X (pc := 173) 0 dX5_init_173 rfl rfl ?_
  refine j_bipush X (pc := 174) 93 dX5_init_174 (by decide) ?_
  refine j_newI X (pc := 176) 93 dX5_init_176 q180 (by decide) (Nat.le_of_ble_eq_true rfl) (Nat.le_of_ble_eq_true rfl) hw (fun q176 h176 hw => ?_)
  refine j_putF (ci := 4) X (pc := 178) in_X5 rfl (by decide) 21 (by decide) q1893 (Or.inl rfl) tyX5 tyX5_ok nmX5 rfl en rfl rfl (ty := (.array .int)) (tyX5_ok 21 (by decide)) (rt_nar _ rfl _) (rt_fit _ rfl _) dX5_init_178 hw (fun h178 hw => ?_)
  refine j_aload_n X (pc := 181) 0 dX5_init_181 rfl rfl ?_
  refine j_bipush X (pc := 182) 93 dX5_init_182 (by decide) ?_
  refine j_newI X (pc := 184) 93 dX5_init_184 q180 (by decide) (Nat.le_of_ble_eq_true rfl) (Nat.le_of_ble_eq_true rfl) hw (fun q184 h184 hw => ?_)
  refine j_putF (ci := 4) X (pc := 186) in_X5 rfl (by decide) 22 (by decide) q1894 (Or.inl rfl) tyX5 tyX5_ok nmX5 rfl en rfl rfl (ty := (.array .int)) (tyX5_ok 22 (by decide)) (rt_nar _ rfl _) (rt_fit _ rfl _) dX5_init_186 hw (fun h186 hw => ?_)
  refine j_aload_n X (pc := 189) 0 dX5_init_189 rfl rfl ?_
  refine j_bipush X (pc := 190) 93 dX5_init_190 (by decide) ?_
  refine j_newI X (pc := 192) 93 dX5_init_192 q180 (by decide) (Nat.le_of_ble_eq_true rfl) (Nat.le_of_ble_eq_true rfl) hw (fun q192 h192 hw => ?_)
  refine j_putF (ci := 4) X (pc := 194) in_X5 rfl (by decide) 23 (by decide) q1895 (Or.inl rfl) tyX5 tyX5_ok nmX5 rfl en rfl rfl (ty := (.array .int)) (tyX5_ok 23 (by decide)) (rt_nar _ rfl _) (rt_fit _ rfl _) dX5_init_194 hw (fun h194 hw => ?_)
  refine j_aload_n X (pc := 197) 0 dX5_init_197 rfl rfl ?_
  refine j_bipush X (pc := 198) 13 dX5_init_198 (by decide) ?_
  refine j_newI X (pc := 200) 13 dX5_init_200 q180 (by decide) (Nat.le_of_ble_eq_true rfl) (Nat.le_of_ble_eq_true rfl) hw (fun q200 h200 hw => ?_)
  refine j_putF (ci := 4) X (pc := 202) in_X5 rfl (by decide) 24 (by decide) q1896 (Or.inl rfl) tyX5 tyX5_ok nmX5 rfl en rfl rfl (ty := (.array .int)) (tyX5_ok 24 (by decide)) (rt_nar _ rfl _) (rt_fit _ rfl _) dX5_init_202 hw (fun h202 hw => ?_)
  refine j_aload_n X (pc := 205) 0 dX5_init_205 rfl rfl ?_
  refine j_bipush X (pc := 206) 13 dX5_init_206 (by decide) ?_
  refine j_newI X (pc := 208) 13 dX5_init_208 q180 (by decide) (Nat.le_of_ble_eq_true rfl) (Nat.le_of_ble_eq_true rfl) hw (fun q208 h208 hw => ?_)
  refine j_putF (ci := 4) X (pc := 210) in_X5 rfl (by decide) 25 (by decide) q1897 (Or.inl rfl) tyX5 tyX5_ok nmX5 rfl en rfl rfl (ty := (.array .int)) (tyX5_ok 25 (by decide)) (rt_nar _ rfl _) (rt_fit _ rfl _) dX5_init_210 hw (fun h210 hw => ?_)
  refine j_aload_n X (pc := 213) 0 dX5_init_213 rfl rfl ?_
  refine j_bipush X (pc := 214) 13 dX5_init_214 (by decide) ?_
  refine j_newI X (pc := 216) 13 dX5_init_216 q180 (by decide) (Nat.le_of_ble_eq_true rfl) (Nat.le_of_ble_eq_true rfl) hw (fun q216 h216 hw => ?_)
  refine j_putF (ci := 4) X (pc := 218) in_X5 rfl (by decide) 26 (by decide) q1898 (Or.inl rfl) tyX5 tyX5_ok nmX5 rfl en rfl rfl (ty := (.array .int)) (tyX5_ok 26 (by decide)) (rt_nar _ rfl _) (rt_fit _ rfl _) dX5_init_218 hw (fun h218 hw => ?_)
  refine j_aload_n X (pc := 221) 0 dX5_init_221 rfl rfl ?_
  refine j_sipush X (pc := 222) 1536 dX5_init_222 (by decide) ?_
  refine j_newI X (pc := 225) 1536 dX5_init_225 q180 (by decide) (Nat.le_of_ble_eq_true rfl) (Nat.le_of_ble_eq_true rfl) hw (fun q225 h225 hw => ?_)
  refine j_putF (ci := 4) X (pc := 227) in_X5 rfl (by decide) 28 (by decide) q1900 (Or.inl rfl) tyX5 tyX5_ok nmX5 rfl en rfl rfl (ty := (.array .int)) (tyX5_ok 28 (by decide)) (rt_nar _ rfl _) (rt_fit _ rfl _) dX5_init_227 hw (fun h227 hw => ?_)
  refine j_aload_n X (pc := 230) 0 dX5_init_230 rfl rfl ?_
  refine j_sipush X (pc := 231) 1536 dX5_init_231 (by decide) ?_
  refine j_newI X (pc := 234) 1536 dX5_init_234 q180 (by decide) (Nat.le_of_ble_eq_true rfl) (Nat.le_of_ble_eq_true rfl) hw (fun q234 h234 hw => ?_)
  refine j_putF (ci := 4) X (pc := 236) in_X5 rfl (by decide) 29 (by decide) q1901 (Or.inl rfl) tyX5 tyX5_ok nmX5 rfl en rfl rfl (ty := (.array .int)) (tyX5_ok 29 (by decide)) (rt_nar _ rfl _) (rt_fit _ rfl _) dX5_init_236 hw (fun h236 hw => ?_)
  refine j_aload_n X (pc := 239) 0 dX5_init_239 rfl rfl ?_
  refine j_sipush X (pc := 240) 384 dX5_init_240 (by decide) ?_
  refine j_newZ X (pc := 243) 384 dX5_init_243 q233 (by decide) (Nat.le_of_ble_eq_true rfl) (Nat.le_of_ble_eq_true rfl) hw (fun q243 h243 hw => ?_)
  refine j_putF (ci := 4) X (pc := 245) in_X5 rfl (by decide) 30 (by decide) q1902 (Or.inl rfl) tyX5 tyX5_ok nmX5 rfl en rfl rfl (ty := (.array .boolean)) (tyX5_ok 30 (by decide)) (rt_nar _ rfl _) (rt_fit _ rfl _) dX5_init_245 hw (fun h245 hw => ?_)
  refine j_aload_n X (pc := 248) 0 dX5_init_248 rfl rfl ?_
  refine j_sipush X (pc := 249) 1536 dX5_init_249 (by decide) ?_
  refine j_newZ X (pc := 252) 1536 dX5_init_252 q233 (by decide) (Nat.le_of_ble_eq_true rfl) (Nat.le_of_ble_eq_true rfl) hw (fun q252 h252 hw => ?_)
  refine j_putF (ci := 4) X (pc := 254) in_X5 rfl (by decide) 31 (by decide) q1903 (Or.inl rfl) tyX5 tyX5_ok nmX5 rfl en rfl rfl (ty := (.array .boolean)) (tyX5_ok 31 (by decide)) (rt_nar _ rfl _) (rt_fit _ rfl _) dX5_init_254 hw (fun h254 hw => ?_)
  exact j_vret X (pc := 257) hQ er (Nat.le_of_ble_eq_true rfl) (Nat.le_of_ble_eq_true rfl) dX5_init_257 hw
abbrev cX1_isBetween : ByteArray := prog_1_method_1_code
def yX1_isBetween : MethodName := ⟨RX1, "isBetween", "(III)Z"⟩
def dkwX1_isBetween_0 : List UInt8 := [26, 27, 161, 0, 12, 26, 28, 163, 0, 7, 4, 167, 0, 4, 3, 172]
abbrev dktX1_isBetween_0 : List UInt8 := dkwX1_isBetween_0 ++ []
theorem dksX1_isBetween_0 : cX1_isBetween.data.toList.drop 0 = dktX1_isBetween_0 := by decide +kernel
theorem dX1_isBetween_0 : decode cX1_isBetween 0 = .ok (.iload_n 0, 1) := dk_26 (dk_at dksX1_isBetween_0 0 rfl rfl)
theorem dX1_isBetween_1 : decode cX1_isBetween 1 = .ok (.iload_n 1, 1) := dk_27 (dk_at dksX1_isBetween_0 1 rfl rfl)
theorem dX1_isBetween_2 : decode cX1_isBetween 2 = .ok (.if_icmp .lt 12, 3) := dk_161 0 12 (dk_at dksX1_isBetween_0 2 rfl rfl)
theorem dX1_isBetween_5 : decode cX1_isBetween 5 = .ok (.iload_n 0, 1) := dk_26 (dk_at dksX1_isBetween_0 5 rfl rfl)
theorem dX1_isBetween_6 : decode cX1_isBetween 6 = .ok (.iload_n 2, 1) := dk_28 (dk_at dksX1_isBetween_0 6 rfl rfl)
theorem dX1_isBetween_7 : decode cX1_isBetween 7 = .ok (.if_icmp .gt 7, 3) := dk_163 0 7 (dk_at dksX1_isBetween_0 7 rfl rfl)
theorem dX1_isBetween_10 : decode cX1_isBetween 10 = .ok (.iconst 1, 1) := dk_4 (dk_at dksX1_isBetween_0 10 rfl rfl)
theorem dX1_isBetween_11 : decode cX1_isBetween 11 = .ok (.goto 4, 3) := dk_167 0 4 (dk_at dksX1_isBetween_0 11 rfl rfl)
theorem dX1_isBetween_14 : decode cX1_isBetween 14 = .ok (.iconst 0, 1) := dk_3 (dk_at dksX1_isBetween_0 14 rfl rfl)
theorem dX1_isBetween_15 : decode cX1_isBetween 15 = .ok (.ireturn, 1) := dk_172 (dk_at dksX1_isBetween_0 15 rfl rfl)
abbrev rm_X1_isBetween : Room := { frames := 0, cells := 0, slots := 0, locals := 0 }
def w_X1_isBetween (a0 : Int32) (a1 : Int32) (a2 : Int32) (h : AH) (P : Int32 → AH → Prop) : Prop :=
  ((a0 < a1 →
    P 0 h) ∧
   (¬ a0 < a1 →
    ((a2 < a0 →
      P 0 h) ∧
     (¬ a2 < a0 →
      P 1 h))))
theorem met_X1_isBetween (l : Launch) (hlt : l.stackTraces = false) (G : GG) (h : AH) (a0 : Int32) (a1 : Int32) (a2 : Int32) (P : Int32 → AH → Prop) (hw : w_X1_isBetween a0 a1 a2 h P) : ct_i l yX1_isBetween (ws_ yX1_isBetween cX1_isBetween 3 (Option.some Jvm.ClassFile.FieldType.boolean)) rm_X1_isBetween G h [vI a0, vI a1, vI a2] P := by
  refine j_starti hlt [(0, vI a0), (1, vI a1), (2, vI a2)] (plainFor_of_name (by decide)) rfl rfl (fun x X eG er en hQ => ?_)
  subst eG
  refine j_iload_n X (pc := 0) 0 dX1_isBetween_0 rfl rfl ?_
  refine j_iload_n X (pc := 1) 1 dX1_isBetween_1 rfl rfl ?_
  refine j_icmp_lt X (pc := 2) 14 dX1_isBetween_2 (by decide) hw (fun hw => ?_) (fun hw => ?_)
  · refine j_iconst X (pc := 14) 0 dX1_isBetween_14 (by decide) ?_
    exact j_zret X (pc := 15) (ty := .boolean) hQ er rfl (Nat.le_of_ble_eq_true rfl) (Nat.le_of_ble_eq_true rfl) dX1_isBetween_15 hw
  · refine j_iload_n X (pc := 5) 0 dX1_isBetween_5 rfl rfl ?_
    refine j_iload_n X (pc := 6) 2 dX1_isBetween_6 rfl rfl ?_
    refine j_icmp_gt X (pc := 7) 14 dX1_isBetween_7 (by decide) hw (fun hw => ?_) (fun hw => ?_)
    · refine j_iconst X (pc := 14) 0 dX1_isBetween_14 (by decide) ?_
      exact j_zret X (pc := 15) (ty := .boolean) hQ er rfl (Nat.le_of_ble_eq_true rfl) (Nat.le_of_ble_eq_true rfl) dX1_isBetween_15 hw
    · refine j_iconst X (pc := 10) 1 dX1_isBetween_10 (by decide) ?_
      refine j_goto X (pc := 11) 15 dX1_isBetween_11 (by decide) ?_
      exact j_zret X (pc := 15) (ty := .boolean) hQ er rfl (Nat.le_of_ble_eq_true rfl) (Nat.le_of_ble_eq_true rfl) dX1_isBetween_15 hw
abbrev cX1_require : ByteArray := prog_1_method_2_code
def yX1_require : MethodName := ⟨RX1, "require", "([Z)V"⟩
def dkwX1_require_1 : List UInt8 := [187, 0, 3, 89, 183, 0, 5, 191, 132, 3, 1, 167, 255, 230, 177]
abbrev dktX1_require_1 : List UInt8 := dkwX1_require_1 ++ []
def dkwX1_require_0 : List UInt8 := [42, 76, 43, 190, 61, 3, 62, 29, 28, 162, 0, 27, 43, 29, 51, 54, 4, 21, 4, 154, 0, 11]
abbrev dktX1_require_0 : List UInt8 := dkwX1_require_0 ++ dktX1_require_1
theorem dksX1_require_0 : cX1_require.data.toList.drop 0 = dktX1_require_0 := by decide +kernel
theorem dksX1_require_1 : cX1_require.data.toList.drop 22 = dktX1_require_1 := dk_seg dksX1_require_0 22 rfl rfl
theorem dX1_require_0 : decode cX1_require 0 = .ok (.aload_n 0, 1) := dk_42 (dk_at dksX1_require_0 0 rfl rfl)
theorem dX1_require_1 : decode cX1_require 1 = .ok (.astore_n 1, 1) := dk_76 (dk_at dksX1_require_0 1 rfl rfl)
theorem dX1_require_2 : decode cX1_require 2 = .ok (.aload_n 1, 1) := dk_43 (dk_at dksX1_require_0 2 rfl rfl)
theorem dX1_require_3 : decode cX1_require 3 = .ok (.arraylength, 1) := dk_190 (dk_at dksX1_require_0 3 rfl rfl)
theorem dX1_require_4 : decode cX1_require 4 = .ok (.istore_n 2, 1) := dk_61 (dk_at dksX1_require_0 4 rfl rfl)
theorem dX1_require_5 : decode cX1_require 5 = .ok (.iconst 0, 1) := dk_3 (dk_at dksX1_require_0 5 rfl rfl)
theorem dX1_require_6 : decode cX1_require 6 = .ok (.istore_n 3, 1) := dk_62 (dk_at dksX1_require_0 6 rfl rfl)
theorem dX1_require_7 : decode cX1_require 7 = .ok (.iload_n 3, 1) := dk_29 (dk_at dksX1_require_0 7 rfl rfl)
theorem dX1_require_8 : decode cX1_require 8 = .ok (.iload_n 2, 1) := dk_28 (dk_at dksX1_require_0 8 rfl rfl)
theorem dX1_require_9 : decode cX1_require 9 = .ok (.if_icmp .ge 27, 3) := dk_162 0 27 (dk_at dksX1_require_0 9 rfl rfl)
theorem dX1_require_12 : decode cX1_require 12 = .ok (.aload_n 1, 1) := dk_43 (dk_at dksX1_require_0 12 rfl rfl)
theorem dX1_require_13 : decode cX1_require 13 = .ok (.iload_n 3, 1) := dk_29 (dk_at dksX1_require_0 13 rfl rfl)
theorem dX1_require_14 : decode cX1_require 14 = .ok (.baload, 1) := dk_51 (dk_at dksX1_require_0 14 rfl rfl)
theorem dX1_require_15 : decode cX1_require 15 = .ok (.istore 4, 2) := dk_54 4 (dk_at dksX1_require_0 15 rfl rfl)
theorem dX1_require_17 : decode cX1_require 17 = .ok (.iload 4, 2) := dk_21 4 (dk_at dksX1_require_0 17 rfl rfl)
theorem dX1_require_19 : decode cX1_require 19 = .ok (.ifCond .ne 11, 3) := dk_154 0 11 (dk_at dksX1_require_0 19 rfl rfl)
theorem dX1_require_22 : decode cX1_require 22 = .ok (.new 3, 3) := dk_187 0 3 (dk_at dksX1_require_1 0 rfl rfl)
theorem dX1_require_25 : decode cX1_require 25 = .ok (.dup, 1) := dk_89 (dk_at dksX1_require_1 3 rfl rfl)
theorem dX1_require_26 : decode cX1_require 26 = .ok (.invokespecial 5, 3) := dk_183 0 5 (dk_at dksX1_require_1 4 rfl rfl)
theorem dX1_require_29 : decode cX1_require 29 = .ok (.athrow, 1) := dk_191 (dk_at dksX1_require_1 7 rfl rfl)
theorem dX1_require_30 : decode cX1_require 30 = .ok (.iinc 3 1, 3) := dk_132 3 1 (dk_at dksX1_require_1 8 rfl rfl)
theorem dX1_require_33 : decode cX1_require 33 = .ok (.goto (-26), 3) := dk_167 255 230 (dk_at dksX1_require_1 11 rfl rfl)
theorem dX1_require_36 : decode cX1_require 36 = .ok (.return_, 1) := dk_177 (dk_at dksX1_require_1 14 rfl rfl)
theorem q82 : (Jvm.Cond.initialized "java/lang/IllegalArgumentException") ∈ lw_all := lw_g (lw_at lw_m1 12 rfl) rfl
theorem q310 : (Jvm.Cond.classLink "Plugboard" (3 : Nat) "java/lang/IllegalArgumentException") ∈ lw_all := lw_g (lw_at lw_m2 0 rfl) rfl
abbrev rm_X1_require : Room := { frames := 6, cells := 1, slots := 6, locals := 81 }
def w_X1_require_7 (P : AH → Prop) (PX : String → AH → Prop) (x1 : Option Nat) (x2 : Int32) (x3 : Int32) (h : AH) : Prop :=
  ∀ Z7 : Int32 → Prop, (∀ x3, (
      ((x2 ≤ x3 →
        P h) ∧
       (¬ x2 ≤ x3 →
        l_i h x1 1 x3 fun y14 =>
        ((y14 = 0 →
          PX "java/lang/IllegalArgumentException" h) ∧
         (¬ y14 = 0 →
          Z7 (x3 + 1))))))
      → Z7 x3) → Z7 x3
theorem at_X1_require_22 : ∀ w ∈ vx_at0 RX1 5 "java/lang/IllegalArgumentException" ["java/lang/RuntimeException", "java/lang/Exception"], w ∈ lw_tbl := ah_in _ [79, 332, 341, 350, 353, 355, 333, 334, 125, 126, 335, 340, 351, 368, 322, 369, 324, 370, 326, 336, 338, 328, 357, 358, 359, 360, 313, 360, 361, 362, 363, 315, 363, 364, 365, 333, 317, 356, 311, 312, 319, 320, 321, 323, 325, 327, 366, 330, 329] (by decide +kernel)
def w_X1_require (a0 : Option Nat) (h : AH) (P : AH → Prop) (PX : String → AH → Prop) : Prop :=
  n_a h a0 fun y3 =>
  w_X1_require_7 P PX a0 y3 0 h
theorem wk_X1_require_7 {x : CX} (X : Ok x cX1_require RX1 rm_X1_require 5) (er : xrt x = (Option.none : Option Jvm.ClassFile.FieldType)) (en : xnm x = yX1_require.name) {P : AH → Prop} {PX : String → AH → Prop} (hQ : xr_v x P) (hT : xt_ x PX) (hex : ∀ z ∈ x.2.2.2.2.2.2.2.2.2.1.exceptionTable.toList, False) (x1 : Option Nat) (x2 : Int32) (x3 : Int32) (h : AH) (hw : w_X1_require_7 P PX x1 x2 x3 h) : J x h 0 0 7 [(1, vR x1), (2, vI x2), (3, vI x3)] [] := by
  refine hw (fun x3 => J x h 0 0 7 [(1, vR x1), (2, vI x2), (3, vI x3)] []) (fun x3 hw => ?_)
  refine j_iload_n X (pc := 7) 2 dX1_require_7 rfl rfl ?_
  refine j_iload_n X (pc := 8) 1 dX1_require_8 rfl rfl ?_
  refine j_icmp_ge X (pc := 9) 36 dX1_require_9 (by decide) hw (fun hw => ?_) (fun hw => ?_)
  · exact j_vret X (pc := 36) hQ er (Nat.le_of_ble_eq_true rfl) (Nat.le_of_ble_eq_true rfl) dX1_require_36 hw
  · refine j_aload_n X (pc := 12) 0 dX1_require_12 rfl rfl ?_
    refine j_iload_n X (pc := 13) 2 dX1_require_13 rfl rfl ?_
    refine j_zald X (pc := 14) 1 rfl dX1_require_14 hw (fun y14 hw => ?_)
    refine j_istore X (pc := 15) [(4, vI y14), (1, vR x1), (2, vI x2), (3, vI x3)] dX1_require_15 (Nat.le_of_ble_eq_true rfl) rfl ?_
    refine j_iload X (pc := 17) 0 dX1_require_17 rfl ?_
    refine j_if_ne X (pc := 19) 30 dX1_require_19 (by decide) hw (fun hw => ?_) (fun hw => ?_)
    · exact j_throw X (pc := 22) (names := ["java/lang/RuntimeException", "java/lang/Exception"]) hT hex (by decide +kernel) (by decide +kernel) q310 q82 at_X1_require_22 (by decide +kernel) dX1_require_22 dX1_require_25 dX1_require_26 dX1_require_29 ⟨Nat.le_of_ble_eq_true rfl, Nat.le_of_ble_eq_true rfl⟩ (Nat.le_of_ble_eq_true rfl) (Nat.le_of_ble_eq_true rfl) hw
    · refine j_iinc X (pc := 30) 3 (x3 + 1) [(3, vI (x3 + 1)), (4, vI y14), (1, vR x1), (2, vI x2)] dX1_require_30 rfl rfl (Nat.le_of_ble_eq_true rfl) rfl ?_
      refine j_goto X (pc := 33) 7 dX1_require_33 (by decide) ?_
      refine j_lv [(1, vR x1), (2, vI x2), (3, vI (x3 + 1))] [2, 3, 0] rfl ?_
      refine j_cs (u' := 0) (v' := 0) (Nat.le_of_ble_eq_true rfl) (Nat.le_of_ble_eq_true rfl) ?_
      exact hw
theorem met_X1_require (l : Launch) (hlt : l.stackTraces = false) (G : GG) (h : AH) (a0 : Option Nat) (P : AH → Prop) (PX : String → AH → Prop) (hw : w_X1_require a0 h P PX) : cx_v l yX1_require (ws_ yX1_require cX1_require 5 (Option.none : Option Jvm.ClassFile.FieldType)) rm_X1_require G h [vR a0] P PX := by
  refine j_startXv hlt [(0, vR a0)] (by decide) rfl rfl (fun x X eG er en hQ hT hex => ?_)
  subst eG
  refine j_aload_n X (pc := 0) 0 dX1_require_0 rfl rfl ?_
  refine j_astore_n X (pc := 1) [(1, vR a0), (0, vR a0)] dX1_require_1 rfl (Nat.le_of_ble_eq_true rfl) rfl ?_
  refine j_aload_n X (pc := 2) 0 dX1_require_2 rfl rfl ?_
  refine j_alen X (pc := 3) dX1_require_3 hw (fun y3 hw => ?_)
  refine j_istore_n X (pc := 4) [(2, vI y3), (1, vR a0), (0, vR a0)] dX1_require_4 rfl (Nat.le_of_ble_eq_true rfl) rfl ?_
  refine j_iconst X (pc := 5) 0 dX1_require_5 (by decide) ?_
  refine j_istore_n X (pc := 6) [(3, vI 0), (2, vI y3), (1, vR a0), (0, vR a0)] dX1_require_6 rfl (Nat.le_of_ble_eq_true rfl) rfl ?_
  refine j_lv [(1, vR a0), (2, vI y3), (3, vI 0)] [2, 1, 0] rfl ?_
  refine j_cs (u' := 0) (v' := 0) (Nat.le_of_ble_eq_true rfl) (Nat.le_of_ble_eq_true rfl) ?_
  exact wk_X1_require_7 X er en hQ hT hex a0 y3 0 h hw
abbrev cX1_requireUser : ByteArray := prog_1_method_7_code
def yX1_requireUser : MethodName := ⟨RX1, "requireUser", "(I)V"⟩
def dkwX1_requireUser_0 : List UInt8 := [4, 188, 4, 89, 3, 26, 3, 5, 184, 0, 21, 84, 184, 0, 25, 177]
abbrev dktX1_requireUser_0 : List UInt8 := dkwX1_requireUser_0 ++ []
theorem dksX1_requireUser_0 : cX1_requireUser.data.toList.drop 0 = dktX1_requireUser_0 := by decide +kernel
theorem dX1_requireUser_0 : decode cX1_requireUser 0 = .ok (.iconst 1, 1) := dk_4 (dk_at dksX1_requireUser_0 0 rfl rfl)
theorem dX1_requireUser_1 : decode cX1_requireUser 1 = .ok (.newarray .boolean, 2) := dk_188_4 (dk_at dksX1_requireUser_0 1 rfl rfl)
theorem dX1_requireUser_3 : decode cX1_requireUser 3 = .ok (.dup, 1) := dk_89 (dk_at dksX1_requireUser_0 3 rfl rfl)
theorem dX1_requireUser_4 : decode cX1_requireUser 4 = .ok (.iconst 0, 1) := dk_3 (dk_at dksX1_requireUser_0 4 rfl rfl)
theorem dX1_requireUser_5 : decode cX1_requireUser 5 = .ok (.iload_n 0, 1) := dk_26 (dk_at dksX1_requireUser_0 5 rfl rfl)
theorem dX1_requireUser_6 : decode cX1_requireUser 6 = .ok (.iconst 0, 1) := dk_3 (dk_at dksX1_requireUser_0 6 rfl rfl)
theorem dX1_requireUser_7 : decode cX1_requireUser 7 = .ok (.iconst 2, 1) := dk_5 (dk_at dksX1_requireUser_0 7 rfl rfl)
theorem dX1_requireUser_8 : decode cX1_requireUser 8 = .ok (.invokestatic 21, 3) := dk_184 0 21 (dk_at dksX1_requireUser_0 8 rfl rfl)
theorem dX1_requireUser_11 : decode cX1_requireUser 11 = .ok (.bastore, 1) := dk_84 (dk_at dksX1_requireUser_0 11 rfl rfl)
theorem dX1_requireUser_12 : decode cX1_requireUser 12 = .ok (.invokestatic 25, 3) := dk_184 0 25 (dk_at dksX1_requireUser_0 12 rfl rfl)
theorem dX1_requireUser_15 : decode cX1_requireUser 15 = .ok (.return_, 1) := dk_177 (dk_at dksX1_requireUser_0 15 rfl rfl)
theorem q71 : (Jvm.Cond.initialized "Plugboard") ∈ lw_all := lw_g (lw_at lw_m1 1 rfl) rfl
theorem q304 : (Jvm.Cond.methodLink "Plugboard" (21 : Nat) ({ cls := "Plugboard", name := "isBetween", desc := "(III)Z" } : Jvm.MethodName)) ∈ lw_all := lw_g (lw_at lw_m1 234 rfl) rfl
theorem q305 : (Jvm.Cond.static ({ cls := "Plugboard", name := "isBetween", desc := "(III)Z" } : Jvm.MethodName)) ∈ lw_all := lw_g (lw_at lw_m1 235 rfl) rfl
theorem q306 : (Jvm.Cond.code ({ cls := "Plugboard", name := "isBetween", desc := "(III)Z" } : Jvm.MethodName) prog_1_method_1_code (3 : Nat) (Option.some Jvm.ClassFile.FieldType.boolean)) ∈ lw_all := lw_g (lw_at lw_m1 236 rfl) rfl
theorem q307 : (Jvm.Cond.methodLink "Plugboard" (25 : Nat) ({ cls := "Plugboard", name := "require", desc := "([Z)V" } : Jvm.MethodName)) ∈ lw_all := lw_g (lw_at lw_m1 237 rfl) rfl
theorem q308 : (Jvm.Cond.static ({ cls := "Plugboard", name := "require", desc := "([Z)V" } : Jvm.MethodName)) ∈ lw_all := lw_g (lw_at lw_m1 238 rfl) rfl
theorem q309 : (Jvm.Cond.code ({ cls := "Plugboard", name := "require", desc := "([Z)V" } : Jvm.MethodName) prog_1_method_2_code (5 : Nat) (Option.none : Option Jvm.ClassFile.FieldType)) ∈ lw_all := lw_g (lw_at lw_m1 239 rfl) rfl
abbrev rm_X1_requireUser : Room := { frames := 7, cells := 2, slots := 7, locals := 105 }
def w_X1_requireUser (a0 : Int32) (h : AH) (P : AH → Prop) (PX : String → AH → Prop) : Prop :=
  mk_i h 1 1 1 fun q1 h1 =>
  w_X1_isBetween a0 0 2 h1 (fun y8 h8 =>
  nrw .boolean y8 ∧
  s_i h8 (some q1) 1 0 y8 fun h11 =>
  w_X1_require (some q1) h11 (fun h12 =>
  P h12) PX)
theorem met_X1_requireUser (l : Launch) (hlt : l.stackTraces = false) (G : GG) (h : AH) (a0 : Int32) (P : AH → Prop) (PX : String → AH → Prop) (hw : w_X1_requireUser a0 h P PX) : cx_v l yX1_requireUser (ws_ yX1_requireUser cX1_requireUser 1 (Option.none : Option Jvm.ClassFile.FieldType)) rm_X1_requireUser G h [vI a0] P PX := by
  refine j_startXv hlt [(0, vI a0)] (by decide) rfl rfl (fun x X eG er en hQ hT hex => ?_)
  subst eG
  refine j_iconst X (pc := 0) 1 dX1_requireUser_0 (by decide) ?_
  refine j_newZ X (pc := 1) 1 dX1_requireUser_1 q233 (by decide) (Nat.le_of_ble_eq_true rfl) (Nat.le_of_ble_eq_true rfl) hw (fun q1 h1 hw => ?_)
  refine j_dup X (pc := 3) dX1_requireUser_3 rfl ?_
  refine j_iconst X (pc := 4) 0 dX1_requireUser_4 (by decide) ?_
  refine j_iload_n X (pc := 5) 0 dX1_requireUser_5 rfl rfl ?_
  refine j_iconst X (pc := 6) 0 dX1_requireUser_6 (by decide) ?_
  refine j_iconst X (pc := 7) 2 dX1_requireUser_7 (by decide) ?_
  refine j_calli (j_runS (n8 := 3) (As := [vI a0, vI 0, vI 2]) (rest := [vI 0, vR (some q1), vR (some q1)]) X (pc := 8) (met_X1_isBetween (xl x) X.hl (xG x) h1 a0 0 2 _ hw) q304 q305 q71 q306 (by decide +kernel) dX1_requireUser_8 rfl ⟨Nat.le_of_ble_eq_true rfl, Nat.le_of_ble_eq_true rfl⟩ (Nat.le_of_ble_eq_true rfl) ⟨Nat.le_of_ble_eq_true rfl, Nat.le_of_ble_eq_true rfl⟩) (fun y8 h8 hw => ?_)
  have hnr := hw.1
  have hw := hw.2
  refine j_zast X (pc := 11) 1 rfl rfl hnr dX1_requireUser_11 hw (fun h11 hw => ?_)
  refine j_callXv (j_runSX (n8 := 1) (As := [vR (some q1)]) (rest := []) X (pc := 12) (met_X1_require (xl x) X.hl (xG x) h11 (some q1) _ _ hw) q307 q308 q71 q309 (by decide +kernel) dX1_requireUser_12 rfl ⟨Nat.le_of_ble_eq_true rfl, Nat.le_of_ble_eq_true rfl⟩ (Nat.le_of_ble_eq_true rfl) ⟨Nat.le_of_ble_eq_true rfl, Nat.le_of_ble_eq_true rfl⟩) (fun E h9 hx => j_out X hT hex (Nat.le_of_ble_eq_true rfl) (Nat.le_of_ble_eq_true rfl) hx) (fun h12 hw => ?_)
  exact j_vret X (pc := 15) hQ er (Nat.le_of_ble_eq_true rfl) (Nat.le_of_ble_eq_true rfl) dX1_requireUser_15 hw
abbrev cX1_board : ByteArray := prog_1_method_10_code
def yX1_board : MethodName := ⟨RX1, "board", "(I)LPlugboard$Board;"⟩
def dkwX1_board_0 : List UInt8 := [27, 184, 0, 109, 42, 180, 0, 77, 27, 50, 176]
abbrev dktX1_board_0 : List UInt8 := dkwX1_board_0 ++ []
theorem dksX1_board_0 : cX1_board.data.toList.drop 0 = dktX1_board_0 := by decide +kernel
theorem dX1_board_0 : decode cX1_board 0 = .ok (.iload_n 1, 1) := dk_27 (dk_at dksX1_board_0 0 rfl rfl)
theorem dX1_board_1 : decode cX1_board 1 = .ok (.invokestatic 109, 3) := dk_184 0 109 (dk_at dksX1_board_0 1 rfl rfl)
theorem dX1_board_4 : decode cX1_board 4 = .ok (.aload_n 0, 1) := dk_42 (dk_at dksX1_board_0 4 rfl rfl)
theorem dX1_board_5 : decode cX1_board 5 = .ok (.getfield 77, 3) := dk_180 0 77 (dk_at dksX1_board_0 5 rfl rfl)
theorem dX1_board_8 : decode cX1_board 8 = .ok (.iload_n 1, 1) := dk_27 (dk_at dksX1_board_0 8 rfl rfl)
theorem dX1_board_9 : decode cX1_board 9 = .ok (.aaload, 1) := dk_50 (dk_at dksX1_board_0 9 rfl rfl)
theorem dX1_board_10 : decode cX1_board 10 = .ok (.areturn, 1) := dk_176 (dk_at dksX1_board_0 10 rfl rfl)
theorem q301 : (Jvm.Cond.methodLink "Plugboard" (109 : Nat) ({ cls := "Plugboard", name := "requireUser", desc := "(I)V" } : Jvm.MethodName)) ∈ lw_all := lw_g (lw_at lw_m1 231 rfl) rfl
theorem q302 : (Jvm.Cond.static ({ cls := "Plugboard", name := "requireUser", desc := "(I)V" } : Jvm.MethodName)) ∈ lw_all := lw_g (lw_at lw_m1 232 rfl) rfl
theorem q303 : (Jvm.Cond.code ({ cls := "Plugboard", name := "requireUser", desc := "(I)V" } : Jvm.MethodName) prog_1_method_7_code (1 : Nat) (Option.none : Option Jvm.ClassFile.FieldType)) ∈ lw_all := lw_g (lw_at lw_m1 233 rfl) rfl
abbrev rm_X1_board : Room := { frames := 8, cells := 2, slots := 7, locals := 125 }
def w_X1_board (a0 : Option Nat) (a1 : Int32) (h : AH) (P : Option Nat → AH → Prop) (PX : String → AH → Prop) : Prop :=
  w_X1_requireUser a1 h (fun h1 =>
  g_q h1 a0 0 5 fun y5 =>
  l_q h1 y5 a1 fun y9 =>
  P y9 h1) PX
theorem met_X1_board (l : Launch) (hlt : l.stackTraces = false) (G : GG) (h : AH) (a0 : Option Nat) (a1 : Int32) (P : Option Nat → AH → Prop) (PX : String → AH → Prop) (hw : w_X1_board a0 a1 h P PX) : cx_q l yX1_board (ws_ yX1_board cX1_board 2 (Option.some (Jvm.ClassFile.FieldType.object "Plugboard$Board"))) rm_X1_board G h [vR a0, vI a1] P PX := by
  refine j_startXq hlt [(0, vR a0), (1, vI a1)] (by decide) rfl rfl (fun x X eG er en hQ hT hex => ?_)
  subst eG
  refine j_iload_n X (pc := 0) 1 dX1_board_0 rfl rfl ?_
  refine j_callXv (j_runSX (n8 := 1) (As := [vI a1]) (rest := []) X (pc := 1) (met_X1_requireUser (xl x) X.hl (xG x) h a1 _ _ hw) q301 q302 q71 q303 (by decide +kernel) dX1_board_1 rfl ⟨Nat.le_of_ble_eq_true rfl, Nat.le_of_ble_eq_true rfl⟩ (Nat.le_of_ble_eq_true rfl) ⟨Nat.le_of_ble_eq_true rfl, Nat.le_of_ble_eq_true rfl⟩) (fun E h9 hx => j_out X hT hex (Nat.le_of_ble_eq_true rfl) (Nat.le_of_ble_eq_true rfl) hx) (fun h1 hw => ?_)
  refine j_aload_n X (pc := 4) 0 dX1_board_4 rfl rfl ?_
  refine j_getq (ci := 0) X (pc := 5) in_X1 rfl (by decide) 5 (by decide) q248 (Or.inl rfl) dX1_board_5 hw (fun y5 hw => ?_)
  refine j_iload_n X (pc := 8) 1 dX1_board_8 rfl rfl ?_
  refine j_aald X (pc := 9) dX1_board_9 hw (fun y9 hw => ?_)
  exact j_aret X (pc := 10) (ty := (.object "Plugboard$Board")) hQ er (Or.inl ⟨_, rfl⟩) (Nat.le_of_ble_eq_true rfl) (Nat.le_of_ble_eq_true rfl) dX1_board_10 hw
abbrev cX1_isOnBoard : ByteArray := prog_1_method_16_code
def yX1_isOnBoard : MethodName := ⟨RX1, "isOnBoard", "(IIII)Z"⟩
def dkwX1_isOnBoard_1 : List UInt8 := [4, 167, 0, 4, 3, 172]
abbrev dktX1_isOnBoard_1 : List UInt8 := dkwX1_isOnBoard_1 ++ []
def dkwX1_isOnBoard_0 : List UInt8 := [26, 155, 0, 27, 27, 155, 0, 23, 26, 16, 24, 28, 100, 163, 0, 15, 27, 16, 16, 29, 100, 163, 0, 7]
abbrev dktX1_isOnBoard_0 : List UInt8 := dkwX1_isOnBoard_0 ++ dktX1_isOnBoard_1
theorem dksX1_isOnBoard_0 : cX1_isOnBoard.data.toList.drop 0 = dktX1_isOnBoard_0 := by decide +kernel
theorem dksX1_isOnBoard_1 : cX1_isOnBoard.data.toList.drop 24 = dktX1_isOnBoard_1 := dk_seg dksX1_isOnBoard_0 24 rfl rfl
theorem dX1_isOnBoard_0 : decode cX1_isOnBoard 0 = .ok (.iload_n 0, 1) := dk_26 (dk_at dksX1_isOnBoard_0 0 rfl rfl)
theorem dX1_isOnBoard_1 : decode cX1_isOnBoard 1 = .ok (.ifCond .lt 27, 3) := dk_155 0 27 (dk_at dksX1_isOnBoard_0 1 rfl rfl)
theorem dX1_isOnBoard_4 : decode cX1_isOnBoard 4 = .ok (.iload_n 1, 1) := dk_27 (dk_at dksX1_isOnBoard_0 4 rfl rfl)
theorem dX1_isOnBoard_5 : decode cX1_isOnBoard 5 = .ok (.ifCond .lt 23, 3) := dk_155 0 23 (dk_at dksX1_isOnBoard_0 5 rfl rfl)
theorem dX1_isOnBoard_8 : decode cX1_isOnBoard 8 = .ok (.iload_n 0, 1) := dk_26 (dk_at dksX1_isOnBoard_0 8 rfl rfl)
theorem dX1_isOnBoard_9 : decode cX1_isOnBoard 9 = .ok (.bipush 24, 2) := dk_16 24 (dk_at dksX1_isOnBoard_0 9 rfl rfl)
theorem dX1_isOnBoard_11 : decode cX1_isOnBoard 11 = .ok (.iload_n 2, 1) := dk_28 (dk_at dksX1_isOnBoard_0 11 rfl rfl)
theorem dX1_isOnBoard_12 : decode cX1_isOnBoard 12 = .ok (.isub, 1) := dk_100 (dk_at dksX1_isOnBoard_0 12 rfl rfl)
theorem dX1_isOnBoard_13 : decode cX1_isOnBoard 13 = .ok (.if_icmp .gt 15, 3) := dk_163 0 15 (dk_at dksX1_isOnBoard_0 13 rfl rfl)
theorem dX1_isOnBoard_16 : decode cX1_isOnBoard 16 = .ok (.iload_n 1, 1) := dk_27 (dk_at dksX1_isOnBoard_0 16 rfl rfl)
theorem dX1_isOnBoard_17 : decode cX1_isOnBoard 17 = .ok (.bipush 16, 2) := dk_16 16 (dk_at dksX1_isOnBoard_0 17 rfl rfl)
theorem dX1_isOnBoard_19 : decode cX1_isOnBoard 19 = .ok (.iload_n 3, 1) := dk_29 (dk_at dksX1_isOnBoard_0 19 rfl rfl)
theorem dX1_isOnBoard_20 : decode cX1_isOnBoard 20 = .ok (.isub, 1) := dk_100 (dk_at dksX1_isOnBoard_0 20 rfl rfl)
theorem dX1_isOnBoard_21 : decode cX1_isOnBoard 21 = .ok (.if_icmp .gt 7, 3) := dk_163 0 7 (dk_at dksX1_isOnBoard_0 21 rfl rfl)
theorem dX1_isOnBoard_24 : decode cX1_isOnBoard 24 = .ok (.iconst 1, 1) := dk_4 (dk_at dksX1_isOnBoard_1 0 rfl rfl)
theorem dX1_isOnBoard_25 : decode cX1_isOnBoard 25 = .ok (.goto 4, 3) := dk_167 0 4 (dk_at dksX1_isOnBoard_1 1 rfl rfl)
theorem dX1_isOnBoard_28 : decode cX1_isOnBoard 28 = .ok (.iconst 0, 1) := dk_3 (dk_at dksX1_isOnBoard_1 4 rfl rfl)
theorem dX1_isOnBoard_29 : decode cX1_isOnBoard 29 = .ok (.ireturn, 1) := dk_172 (dk_at dksX1_isOnBoard_1 5 rfl rfl)
abbrev rm_X1_isOnBoard : Room := { frames := 0, cells := 0, slots := 0, locals := 0 }
def w_X1_isOnBoard (a0 : Int32) (a1 : Int32) (a2 : Int32) (a3 : Int32) (h : AH) (P : Int32 → AH → Prop) : Prop :=
  ((a0 < 0 →
    P 0 h) ∧
   (¬ a0 < 0 →
    ((a1 < 0 →
      P 0 h) ∧
     (¬ a1 < 0 →
      (((24 - a2) < a0 →
        P 0 h) ∧
       (¬ (24 - a2) < a0 →
        (((16 - a3) < a1 →
          P 0 h) ∧
         (¬ (16 - a3) < a1 →
          P 1 h))))))))
theorem met_X1_isOnBoard (l : Launch) (hlt : l.stackTraces = false) (G : GG) (h : AH) (a0 : Int32) (a1 : Int32) (a2 : Int32) (a3 : Int32) (P : Int32 → AH → Prop) (hw : w_X1_isOnBoard a0 a1 a2 a3 h P) : ct_i l yX1_isOnBoard (ws_ yX1_isOnBoard cX1_isOnBoard 4 (Option.some Jvm.ClassFile.FieldType.boolean)) rm_X1_isOnBoard G h [vI a0, vI a1, vI a2, vI a3] P := by
  refine j_starti hlt [(0, vI a0), (1, vI a1), (2, vI a2), (3, vI a3)] (plainFor_of_name (by decide)) rfl rfl (fun x X eG er en hQ => ?_)
  subst eG
  refine j_iload_n X (pc := 0) 0 dX1_isOnBoard_0 rfl rfl ?_
  refine j_if_lt X (pc := 1) 28 dX1_isOnBoard_1 (by decide) hw (fun hw => ?_) (fun hw => ?_)
  · refine j_iconst X (pc := 28) 0 dX1_isOnBoard_28 (by decide) ?_
    exact j_zret X (pc := 29) (ty := .boolean) hQ er rfl (Nat.le_of_ble_eq_true rfl) (Nat.le_of_ble_eq_true rfl) dX1_isOnBoard_29 hw
  · refine j_iload_n X (pc := 4) 1 dX1_isOnBoard_4 rfl rfl ?_
    refine j_if_lt X (pc := 5) 28 dX1_isOnBoard_5 (by decide) hw (fun hw => ?_) (fun hw => ?_)
    · refine j_iconst X (pc := 28) 0 dX1_isOnBoard_28 (by decide) ?_
      exact j_zret X (pc := 29) (ty := .boolean) hQ er rfl (Nat.le_of_ble_eq_true rfl) (Nat.le_of_ble_eq_true rfl) dX1_isOnBoard_29 hw
    · refine j_iload_n X (pc := 8) 0 dX1_isOnBoard_8 rfl rfl ?_
      refine j_bipush X (pc := 9) 24 dX1_isOnBoard_9 (by decide) ?_
      refine j_iload_n X (pc := 11) 2 dX1_isOnBoard_11 rfl rfl ?_
      refine j_isub X (pc := 12) dX1_isOnBoard_12 ?_
      refine j_icmp_gt X (pc := 13) 28 dX1_isOnBoard_13 (by decide) hw (fun hw => ?_) (fun hw => ?_)
      · refine j_iconst X (pc := 28) 0 dX1_isOnBoard_28 (by decide) ?_
        exact j_zret X (pc := 29) (ty := .boolean) hQ er rfl (Nat.le_of_ble_eq_true rfl) (Nat.le_of_ble_eq_true rfl) dX1_isOnBoard_29 hw
      · refine j_iload_n X (pc := 16) 1 dX1_isOnBoard_16 rfl rfl ?_
        refine j_bipush X (pc := 17) 16 dX1_isOnBoard_17 (by decide) ?_
        refine j_iload_n X (pc := 19) 3 dX1_isOnBoard_19 rfl rfl ?_
        refine j_isub X (pc := 20) dX1_isOnBoard_20 ?_
        refine j_icmp_gt X (pc := 21) 28 dX1_isOnBoard_21 (by decide) hw (fun hw => ?_) (fun hw => ?_)
        · refine j_iconst X (pc := 28) 0 dX1_isOnBoard_28 (by decide) ?_
          exact j_zret X (pc := 29) (ty := .boolean) hQ er rfl (Nat.le_of_ble_eq_true rfl) (Nat.le_of_ble_eq_true rfl) dX1_isOnBoard_29 hw
        · refine j_iconst X (pc := 24) 1 dX1_isOnBoard_24 (by decide) ?_
          refine j_goto X (pc := 25) 29 dX1_isOnBoard_25 (by decide) ?_
          exact j_zret X (pc := 29) (ty := .boolean) hQ er rfl (Nat.le_of_ble_eq_true rfl) (Nat.le_of_ble_eq_true rfl) dX1_isOnBoard_29 hw
abbrev cJ2_size : ByteArray := prog_54_method_8_code
def yJ2_size : MethodName := ⟨RJ2, "size", "()I"⟩
theorem dJ2_size_0 : decode cJ2_size 0 = .ok (.aload_n 0, 1) := by decide +kernel
theorem dJ2_size_1 : decode cJ2_size 1 = .ok (.getfield 48, 3) := by decide +kernel
theorem dJ2_size_4 : decode cJ2_size 4 = .ok (.ireturn, 1) := by decide +kernel
theorem q144 : (Jvm.Cond.fieldLink "java/util/ArrayList" (48 : Nat) "java/util/ArrayList" "size" "I") ∈ lw_all := lw_g (lw_at lw_m1 74 rfl) rfl
abbrev rm_J2_size : Room := { frames := 0, cells := 0, slots := 0, locals := 0 }
def w_J2_size (a0 : Option Nat) (h : AH) (P : Int32 → AH → Prop) : Prop :=
  g_i h a0 15 2 fun y1 =>
  P y1 h
theorem met_J2_size (l : Launch) (hlt : l.stackTraces = false) (G : GG) (h : AH) (a0 : Option Nat) (P : Int32 → AH → Prop) (hw : w_J2_size a0 h P) : ct_i l yJ2_size (ws_ yJ2_size cJ2_size 1 (Option.some Jvm.ClassFile.FieldType.int)) rm_J2_size G h [vR a0] P := by
  refine j_starti hlt [(0, vR a0)] (plainFor_of_name (by decide)) rfl rfl (fun x X eG er en hQ => ?_)
  subst eG
  refine j_aload_n X (pc := 0) 0 dJ2_size_0 rfl rfl ?_
  refine j_geti (ci := 15) X (pc := 1) in_J2 rfl (by decide) 2 (by decide) q144 (Or.inl rfl) dJ2_size_1 hw (fun y1 hw => ?_)
  exact j_iret X (pc := 4) hQ er (Nat.le_of_ble_eq_true rfl) (Nat.le_of_ble_eq_true rfl) dJ2_size_4 hw
abbrev cX1_requireState : ByteArray := prog_1_method_3_code
def yX1_requireState : MethodName := ⟨RX1, "requireState", "(Z)V"⟩
def dkwX1_requireState_0 : List UInt8 := [26, 154, 0, 11, 187, 0, 9, 89, 183, 0, 11, 191, 177]
abbrev dktX1_requireState_0 : List UInt8 := dkwX1_requireState_0 ++ []
theorem dksX1_requireState_0 : cX1_requireState.data.toList.drop 0 = dktX1_requireState_0 := by decide +kernel
theorem dX1_requireState_0 : decode cX1_requireState 0 = .ok (.iload_n 0, 1) := dk_26 (dk_at dksX1_requireState_0 0 rfl rfl)
theorem dX1_requireState_1 : decode cX1_requireState 1 = .ok (.ifCond .ne 11, 3) := dk_154 0 11 (dk_at dksX1_requireState_0 1 rfl rfl)
theorem dX1_requireState_4 : decode cX1_requireState 4 = .ok (.new 9, 3) := dk_187 0 9 (dk_at dksX1_requireState_0 4 rfl rfl)
theorem dX1_requireState_7 : decode cX1_requireState 7 = .ok (.dup, 1) := dk_89 (dk_at dksX1_requireState_0 7 rfl rfl)
theorem dX1_requireState_8 : decode cX1_requireState 8 = .ok (.invokespecial 11, 3) := dk_183 0 11 (dk_at dksX1_requireState_0 8 rfl rfl)
theorem dX1_requireState_11 : decode cX1_requireState 11 = .ok (.athrow, 1) := dk_191 (dk_at dksX1_requireState_0 11 rfl rfl)
theorem dX1_requireState_12 : decode cX1_requireState 12 = .ok (.return_, 1) := dk_177 (dk_at dksX1_requireState_0 12 rfl rfl)
theorem q83 : (Jvm.Cond.initialized "java/lang/IllegalStateException") ∈ lw_all := lw_g (lw_at lw_m1 13 rfl) rfl
theorem q385 : (Jvm.Cond.classLink "Plugboard" (9 : Nat) "java/lang/IllegalStateException") ∈ lw_all := lw_g (lw_at lw_m2 75 rfl) rfl
abbrev rm_X1_requireState : Room := { frames := 6, cells := 1, slots := 6, locals := 81 }
theorem at_X1_requireState_4 : ∀ w ∈ vx_at0 RX1 11 "java/lang/IllegalStateException" ["java/lang/RuntimeException", "java/lang/Exception"], w ∈ lw_tbl := ah_in _ [79, 332, 341, 350, 353, 355, 333, 334, 125, 126, 335, 340, 351, 368, 322, 369, 324, 370, 326, 336, 338, 328, 395, 396, 397, 360, 313, 360, 361, 362, 363, 315, 363, 364, 365, 333, 317, 394, 386, 387, 388, 346, 389, 390, 391, 392, 366, 330, 393] (by decide +kernel)
def w_X1_requireState (a0 : Int32) (h : AH) (P : AH → Prop) (PX : String → AH → Prop) : Prop :=
  ((a0 = 0 →
    PX "java/lang/IllegalStateException" h) ∧
   (¬ a0 = 0 →
    P h))
theorem met_X1_requireState (l : Launch) (hlt : l.stackTraces = false) (G : GG) (h : AH) (a0 : Int32) (P : AH → Prop) (PX : String → AH → Prop) (hw : w_X1_requireState a0 h P PX) : cx_v l yX1_requireState (ws_ yX1_requireState cX1_requireState 1 (Option.none : Option Jvm.ClassFile.FieldType)) rm_X1_requireState G h [vI a0] P PX := by
  refine j_startXv hlt [(0, vI a0)] (by decide) rfl rfl (fun x X eG er en hQ hT hex => ?_)
  subst eG
  refine j_iload_n X (pc := 0) 0 dX1_requireState_0 rfl rfl ?_
  refine j_if_ne X (pc := 1) 12 dX1_requireState_1 (by decide) hw (fun hw => ?_) (fun hw => ?_)
  · exact j_throw X (pc := 4) (names := ["java/lang/RuntimeException", "java/lang/Exception"]) hT hex (by decide +kernel) (by decide +kernel) q385 q83 at_X1_requireState_4 (by decide +kernel) dX1_requireState_4 dX1_requireState_7 dX1_requireState_8 dX1_requireState_11 ⟨Nat.le_of_ble_eq_true rfl, Nat.le_of_ble_eq_true rfl⟩ (Nat.le_of_ble_eq_true rfl) (Nat.le_of_ble_eq_true rfl) hw
  · exact j_vret X (pc := 12) hQ er (Nat.le_of_ble_eq_true rfl) (Nat.le_of_ble_eq_true rfl) dX1_requireState_12 hw
abbrev cX1_requireRoom : ByteArray := prog_1_method_12_code
def yX1_requireRoom : MethodName := ⟨RX1, "requireRoom", "()V"⟩
def dkwX1_requireRoom_0 : List UInt8 := [42, 180, 0, 62, 182, 0, 126, 17, 0, 250, 162, 0, 7, 4, 167, 0, 4, 3, 184, 0, 127, 177]
abbrev dktX1_requireRoom_0 : List UInt8 := dkwX1_requireRoom_0 ++ []
theorem dksX1_requireRoom_0 : cX1_requireRoom.data.toList.drop 0 = dktX1_requireRoom_0 := by decide +kernel
theorem dX1_requireRoom_0 : decode cX1_requireRoom 0 = .ok (.aload_n 0, 1) := dk_42 (dk_at dksX1_requireRoom_0 0 rfl rfl)
theorem dX1_requireRoom_1 : decode cX1_requireRoom 1 = .ok (.getfield 62, 3) := dk_180 0 62 (dk_at dksX1_requireRoom_0 1 rfl rfl)
theorem dX1_requireRoom_4 : decode cX1_requireRoom 4 = .ok (.invokevirtual 126, 3) := dk_182 0 126 (dk_at dksX1_requireRoom_0 4 rfl rfl)
theorem dX1_requireRoom_7 : decode cX1_requireRoom 7 = .ok (.sipush 250, 3) := dk_17 0 250 (dk_at dksX1_requireRoom_0 7 rfl rfl)
theorem dX1_requireRoom_10 : decode cX1_requireRoom 10 = .ok (.if_icmp .ge 7, 3) := dk_162 0 7 (dk_at dksX1_requireRoom_0 10 rfl rfl)
theorem dX1_requireRoom_13 : decode cX1_requireRoom 13 = .ok (.iconst 1, 1) := dk_4 (dk_at dksX1_requireRoom_0 13 rfl rfl)
theorem dX1_requireRoom_14 : decode cX1_requireRoom 14 = .ok (.goto 4, 3) := dk_167 0 4 (dk_at dksX1_requireRoom_0 14 rfl rfl)
theorem dX1_requireRoom_17 : decode cX1_requireRoom 17 = .ok (.iconst 0, 1) := dk_3 (dk_at dksX1_requireRoom_0 17 rfl rfl)
theorem dX1_requireRoom_18 : decode cX1_requireRoom 18 = .ok (.invokestatic 127, 3) := dk_184 0 127 (dk_at dksX1_requireRoom_0 18 rfl rfl)
theorem dX1_requireRoom_21 : decode cX1_requireRoom 21 = .ok (.return_, 1) := dk_177 (dk_at dksX1_requireRoom_0 21 rfl rfl)
theorem q284 : (Jvm.Cond.methodLink "Plugboard" (126 : Nat) ({ cls := "java/util/ArrayList", name := "size", desc := "()I" } : Jvm.MethodName)) ∈ lw_all := lw_g (lw_at lw_m1 214 rfl) rfl
theorem q285 : (Jvm.Cond.instanceMethod ({ cls := "java/util/ArrayList", name := "size", desc := "()I" } : Jvm.MethodName)) ∈ lw_all := lw_g (lw_at lw_m1 215 rfl) rfl
theorem q286 : (Jvm.Cond.selects "java/util/ArrayList" ({ cls := "java/util/ArrayList", name := "size", desc := "()I" } : Jvm.MethodName) ({ cls := "java/util/ArrayList", name := "size", desc := "()I" } : Jvm.MethodName)) ∈ lw_all := lw_g (lw_at lw_m1 216 rfl) rfl
theorem q287 : (Jvm.Cond.code ({ cls := "java/util/ArrayList", name := "size", desc := "()I" } : Jvm.MethodName) prog_54_method_8_code (1 : Nat) (Option.some Jvm.ClassFile.FieldType.int)) ∈ lw_all := lw_g (lw_at lw_m1 217 rfl) rfl
theorem q382 : (Jvm.Cond.methodLink "Plugboard" (127 : Nat) ({ cls := "Plugboard", name := "requireState", desc := "(Z)V" } : Jvm.MethodName)) ∈ lw_all := lw_g (lw_at lw_m2 72 rfl) rfl
theorem q383 : (Jvm.Cond.static ({ cls := "Plugboard", name := "requireState", desc := "(Z)V" } : Jvm.MethodName)) ∈ lw_all := lw_g (lw_at lw_m2 73 rfl) rfl
theorem q384 : (Jvm.Cond.code ({ cls := "Plugboard", name := "requireState", desc := "(Z)V" } : Jvm.MethodName) prog_1_method_3_code (1 : Nat) (Option.none : Option Jvm.ClassFile.FieldType)) ∈ lw_all := lw_g (lw_at lw_m2 74 rfl) rfl
abbrev rm_X1_requireRoom : Room := { frames := 7, cells := 1, slots := 6, locals := 101 }
def w_X1_requireRoom (a0 : Option Nat) (h : AH) (P : AH → Prop) (PX : String → AH → Prop) : Prop :=
  g_q h a0 0 2 fun y1 =>
  is_c h y1 [15] (
  w_J2_size y1 h (fun y4 h4 =>
  ((250 ≤ y4 →
    w_X1_requireState 0 h4 (fun h18 =>
    P h18) PX) ∧
   (¬ 250 ≤ y4 →
    w_X1_requireState 1 h4 (fun h18 =>
    P h18) PX))))
theorem met_X1_requireRoom (l : Launch) (hlt : l.stackTraces = false) (G : GG) (h : AH) (a0 : Option Nat) (P : AH → Prop) (PX : String → AH → Prop) (hw : w_X1_requireRoom a0 h P PX) : cx_v l yX1_requireRoom (ws_ yX1_requireRoom cX1_requireRoom 1 (Option.none : Option Jvm.ClassFile.FieldType)) rm_X1_requireRoom G h [vR a0] P PX := by
  refine j_startXv hlt [(0, vR a0)] (by decide) rfl rfl (fun x X eG er en hQ hT hex => ?_)
  subst eG
  refine j_aload_n X (pc := 0) 0 dX1_requireRoom_0 rfl rfl ?_
  refine j_getq (ci := 0) X (pc := 1) in_X1 rfl (by decide) 2 (by decide) q243 (Or.inl rfl) dX1_requireRoom_1 hw (fun y1 hw => ?_)
  obtain ⟨b9, c9, f9, hr9, ho9, hc9, hw⟩ := hw
  obtain rfl := List.mem_singleton.mp hc9
  refine j_calli (j_runV (n8 := 0) (As := []) (rest := []) X (pc := 4) hr9 (met_J2_size (xl x) X.hl (xG x) h y1 _ hw) ho9 (by decide) rfl q284 q285 q286 q74 q287 (by decide +kernel) dX1_requireRoom_4 rfl ⟨Nat.le_of_ble_eq_true rfl, Nat.le_of_ble_eq_true rfl⟩ (Nat.le_of_ble_eq_true rfl) ⟨Nat.le_of_ble_eq_true rfl, Nat.le_of_ble_eq_true rfl⟩) (fun y4 h4 hw => ?_)
  refine j_sipush X (pc := 7) 250 dX1_requireRoom_7 (by decide) ?_
  refine j_icmp_ge X (pc := 10) 17 dX1_requireRoom_10 (by decide) hw (fun hw => ?_) (fun hw => ?_)
  · refine j_iconst X (pc := 17) 0 dX1_requireRoom_17 (by decide) ?_
    refine j_callXv (j_runSX (n8 := 1) (As := [vI 0]) (rest := []) X (pc := 18) (met_X1_requireState (xl x) X.hl (xG x) h4 0 _ _ hw) q382 q383 q71 q384 (by decide +kernel) dX1_requireRoom_18 rfl ⟨Nat.le_of_ble_eq_true rfl, Nat.le_of_ble_eq_true rfl⟩ (Nat.le_of_ble_eq_true rfl) ⟨Nat.le_of_ble_eq_true rfl, Nat.le_of_ble_eq_true rfl⟩) (fun E h9 hx => j_out X hT hex (Nat.le_of_ble_eq_true rfl) (Nat.le_of_ble_eq_true rfl) hx) (fun h18 hw => ?_)
    exact j_vret X (pc := 21) hQ er (Nat.le_of_ble_eq_true rfl) (Nat.le_of_ble_eq_true rfl) dX1_requireRoom_21 hw
  · refine j_iconst X (pc := 13) 1 dX1_requireRoom_13 (by decide) ?_
    refine j_goto X (pc := 14) 18 dX1_requireRoom_14 (by decide) ?_
    refine j_callXv (j_runSX (n8 := 1) (As := [vI 1]) (rest := []) X (pc := 18) (met_X1_requireState (xl x) X.hl (xG x) h4 1 _ _ hw) q382 q383 q71 q384 (by decide +kernel) dX1_requireRoom_18 rfl ⟨Nat.le_of_ble_eq_true rfl, Nat.le_of_ble_eq_true rfl⟩ (Nat.le_of_ble_eq_true rfl) ⟨Nat.le_of_ble_eq_true rfl, Nat.le_of_ble_eq_true rfl⟩) (fun E h9 hx => j_out X hT hex (Nat.le_of_ble_eq_true rfl) (Nat.le_of_ble_eq_true rfl) hx) (fun h18 hw => ?_)
    exact j_vret X (pc := 21) hQ er (Nat.le_of_ble_eq_true rfl) (Nat.le_of_ble_eq_true rfl) dX1_requireRoom_21 hw
