/-! walks (printed): Plugboard, Plugboard.Board, Plugboard.ByStamp, Plugboard.Fields, Plugboard.Operation, Plugboard.Sequence, java/lang/Float, java/util/ArrayList -/
set_option maxRecDepth 100000
abbrev cJ13_floatToIntBits : ByteArray := prog_31_method_24_code
def yJ13_floatToIntBits : MethodName := ⟨RJ13, "floatToIntBits", "(F)I"⟩
def dkwJ13_floatToIntBits_0 : List UInt8 := [34, 184, 0, 59, 154, 0, 8, 34, 184, 0, 74, 172, 18, 77, 172]
abbrev dktJ13_floatToIntBits_0 : List UInt8 := dkwJ13_floatToIntBits_0 ++ []
theorem dksJ13_floatToIntBits_0 : cJ13_floatToIntBits.data.toList.drop 0 = dktJ13_floatToIntBits_0 := by decide +kernel
theorem dJ13_floatToIntBits_0 : decode cJ13_floatToIntBits 0 = .ok (.fload_n 0, 1) := dk_34 (dk_at dksJ13_floatToIntBits_0 0 rfl rfl)
theorem dJ13_floatToIntBits_1 : decode cJ13_floatToIntBits 1 = .ok (.invokestatic 59, 3) := dk_184 0 59 (dk_at dksJ13_floatToIntBits_0 1 rfl rfl)
theorem dJ13_floatToIntBits_4 : decode cJ13_floatToIntBits 4 = .ok (.ifCond .ne 8, 3) := dk_154 0 8 (dk_at dksJ13_floatToIntBits_0 4 rfl rfl)
theorem dJ13_floatToIntBits_7 : decode cJ13_floatToIntBits 7 = .ok (.fload_n 0, 1) := dk_34 (dk_at dksJ13_floatToIntBits_0 7 rfl rfl)
theorem dJ13_floatToIntBits_8 : decode cJ13_floatToIntBits 8 = .ok (.invokestatic 74, 3) := dk_184 0 74 (dk_at dksJ13_floatToIntBits_0 8 rfl rfl)
theorem dJ13_floatToIntBits_11 : decode cJ13_floatToIntBits 11 = .ok (.ireturn, 1) := dk_172 (dk_at dksJ13_floatToIntBits_0 11 rfl rfl)
theorem dJ13_floatToIntBits_12 : decode cJ13_floatToIntBits 12 = .ok (.ldc 77, 2) := dk_18 77 (dk_at dksJ13_floatToIntBits_0 12 rfl rfl)
theorem dJ13_floatToIntBits_14 : decode cJ13_floatToIntBits 14 = .ok (.ireturn, 1) := dk_172 (dk_at dksJ13_floatToIntBits_0 14 rfl rfl)
theorem q562 : (Jvm.Cond.static ({ cls := "java/lang/Float", name := "floatToRawIntBits", desc := "(F)I" } : Jvm.MethodName)) ∈ lw_all := lw_g (lw_at lw_m3 12 rfl) rfl
theorem q563 : (Jvm.Cond.native ({ cls := "java/lang/Float", name := "floatToRawIntBits", desc := "(F)I" } : Jvm.MethodName)) ∈ lw_all := lw_g (lw_at lw_m3 13 rfl) rfl
theorem q683 : (Jvm.Cond.methodLink "java/lang/Float" (59 : Nat) ({ cls := "java/lang/Float", name := "isNaN", desc := "(F)Z" } : Jvm.MethodName)) ∈ lw_all := lw_g (lw_at lw_m3 133 rfl) rfl
theorem q684 : (Jvm.Cond.static ({ cls := "java/lang/Float", name := "isNaN", desc := "(F)Z" } : Jvm.MethodName)) ∈ lw_all := lw_g (lw_at lw_m3 134 rfl) rfl
theorem q685 : (Jvm.Cond.code ({ cls := "java/lang/Float", name := "isNaN", desc := "(F)Z" } : Jvm.MethodName) prog_31_method_6_code (1 : Nat) (Option.some Jvm.ClassFile.FieldType.boolean)) ∈ lw_all := lw_g (lw_at lw_m3 135 rfl) rfl
theorem q686 : (Jvm.Cond.methodLink "java/lang/Float" (74 : Nat) ({ cls := "java/lang/Float", name := "floatToRawIntBits", desc := "(F)I" } : Jvm.MethodName)) ∈ lw_all := lw_g (lw_at lw_m3 136 rfl) rfl
theorem q687 : (Jvm.Cond.constant "java/lang/Float" (77 : Nat) (2143289344 : Int32)) ∈ lw_all := lw_g (lw_at lw_m3 137 rfl) rfl
abbrev rm_J13_floatToIntBits : Room := { frames := 1, cells := 0, slots := 0, locals := 20 }
def w_J13_floatToIntBits (a0 : UInt32) (h : AH) (P : Int32 → AH → Prop) : Prop :=
  w_J13_isNaN a0 h (fun y1 h1 =>
  ((y1 = 0 →
    P (UInt32.toInt32 a0) h1) ∧
   (¬ y1 = 0 →
    P 2143289344 h1)))
theorem met_J13_floatToIntBits (l : Launch) (hlt : l.stackTraces = false) (G : GG) (h : AH) (a0 : UInt32) (P : Int32 → AH → Prop) (hw : w_J13_floatToIntBits a0 h P) : ct_i l yJ13_floatToIntBits (ws_ yJ13_floatToIntBits cJ13_floatToIntBits 1 (Option.some Jvm.ClassFile.FieldType.int)) rm_J13_floatToIntBits G h [vF a0] P := by
  refine j_starti hlt [(0, vF a0)] (by decide +kernel) rfl rfl (fun x X eG er en hQ => ?_)
  subst eG
  refine j_fload_n X (pc := 0) 0 dJ13_floatToIntBits_0 rfl rfl ?_
  refine j_calli (j_runS (n8 := 1) (As := [vF a0]) (rest := []) X (pc := 1) (met_J13_isNaN (xl x) X.hl (xG x) h a0 _ hw) q683 q684 q91 q685 (by decide +kernel) dJ13_floatToIntBits_1 rfl ⟨Nat.le_of_ble_eq_true rfl, Nat.le_of_ble_eq_true rfl⟩ (Nat.le_of_ble_eq_true rfl) ⟨Nat.le_of_ble_eq_true rfl, Nat.le_of_ble_eq_true rfl⟩) (fun y1 h1 hw => ?_)
  refine j_if_ne X (pc := 4) 12 dJ13_floatToIntBits_4 (by decide) hw (fun hw => ?_) (fun hw => ?_)
  · refine j_fload_n X (pc := 7) 0 dJ13_floatToIntBits_7 rfl rfl ?_
    refine j_f2ib X (pc := 8) q686 q563 q562 q91 ⟨Nat.le_of_ble_eq_true rfl, Nat.le_of_ble_eq_true rfl⟩ dJ13_floatToIntBits_8 ?_
    exact j_iret X (pc := 11) hQ er (Nat.le_of_ble_eq_true rfl) (Nat.le_of_ble_eq_true rfl) dJ13_floatToIntBits_11 hw
  · refine j_ldc X (pc := 12) dJ13_floatToIntBits_12 q687 ?_
    exact j_iret X (pc := 14) hQ er (Nat.le_of_ble_eq_true rfl) (Nat.le_of_ble_eq_true rfl) dJ13_floatToIntBits_14 hw
abbrev cX1_keyBits : ByteArray := prog_1_method_13_code
def yX1_keyBits : MethodName := ⟨RX1, "keyBits", "(F)I"⟩
theorem dX1_keyBits_0 : decode cX1_keyBits 0 = .ok (.fload_n 0, 1) := by decide +kernel
theorem dX1_keyBits_1 : decode cX1_keyBits 1 = .ok (.invokestatic 130, 3) := by decide +kernel
theorem dX1_keyBits_4 : decode cX1_keyBits 4 = .ok (.ireturn, 1) := by decide +kernel
theorem q680 : (Jvm.Cond.methodLink "Plugboard" (130 : Nat) ({ cls := "java/lang/Float", name := "floatToIntBits", desc := "(F)I" } : Jvm.MethodName)) ∈ lw_all := lw_g (lw_at lw_m3 130 rfl) rfl
theorem q681 : (Jvm.Cond.static ({ cls := "java/lang/Float", name := "floatToIntBits", desc := "(F)I" } : Jvm.MethodName)) ∈ lw_all := lw_g (lw_at lw_m3 131 rfl) rfl
theorem q682 : (Jvm.Cond.code ({ cls := "java/lang/Float", name := "floatToIntBits", desc := "(F)I" } : Jvm.MethodName) prog_31_method_24_code (1 : Nat) (Option.some Jvm.ClassFile.FieldType.int)) ∈ lw_all := lw_g (lw_at lw_m3 132 rfl) rfl
abbrev rm_X1_keyBits : Room := { frames := 2, cells := 0, slots := 0, locals := 40 }
def w_X1_keyBits (a0 : UInt32) (h : AH) (P : Int32 → AH → Prop) : Prop :=
  w_J13_floatToIntBits a0 h (fun y1 h1 =>
  P y1 h1)
theorem met_X1_keyBits (l : Launch) (hlt : l.stackTraces = false) (G : GG) (h : AH) (a0 : UInt32) (P : Int32 → AH → Prop) (hw : w_X1_keyBits a0 h P) : ct_i l yX1_keyBits (ws_ yX1_keyBits cX1_keyBits 1 (Option.some Jvm.ClassFile.FieldType.int)) rm_X1_keyBits G h [vF a0] P := by
  refine j_starti hlt [(0, vF a0)] (plainFor_of_name (by decide)) rfl rfl (fun x X eG er en hQ => ?_)
  subst eG
  refine j_fload_n X (pc := 0) 0 dX1_keyBits_0 rfl rfl ?_
  refine j_calli (j_runS (n8 := 1) (As := [vF a0]) (rest := []) X (pc := 1) (met_J13_floatToIntBits (xl x) X.hl (xG x) h a0 _ hw) q680 q681 q91 q682 (by decide +kernel) dX1_keyBits_1 rfl ⟨Nat.le_of_ble_eq_true rfl, Nat.le_of_ble_eq_true rfl⟩ (Nat.le_of_ble_eq_true rfl) ⟨Nat.le_of_ble_eq_true rfl, Nat.le_of_ble_eq_true rfl⟩) (fun y1 h1 hw => ?_)
  exact j_iret X (pc := 4) hQ er (Nat.le_of_ble_eq_true rfl) (Nat.le_of_ble_eq_true rfl) dX1_keyBits_4 hw
abbrev cX11_init : ByteArray := prog_13_method_1_code
def yX11_init : MethodName := ⟨RX11, "<init>", "(IIIZ[[I)V"⟩
def dkwX11_init_2 : List UInt8 := [181, 0, 30, 42, 25, 5, 6, 50, 181, 0, 33, 42, 25, 5, 7, 50, 181, 0, 36, 177]
abbrev dktX11_init_2 : List UInt8 := dkwX11_init_2 ++ []
def dkwX11_init_1 : List UInt8 := [181, 0, 19, 42, 25, 5, 3, 50, 181, 0, 23, 42, 25, 5, 4, 50, 181, 0, 27, 42, 25, 5, 5, 50]
abbrev dktX11_init_1 : List UInt8 := dkwX11_init_1 ++ dktX11_init_2
def dkwX11_init_0 : List UInt8 := [42, 183, 0, 1, 42, 27, 181, 0, 7, 42, 28, 181, 0, 13, 42, 29, 181, 0, 16, 42, 21, 4]
abbrev dktX11_init_0 : List UInt8 := dkwX11_init_0 ++ dktX11_init_1
theorem dksX11_init_0 : cX11_init.data.toList.drop 0 = dktX11_init_0 := by decide +kernel
theorem dksX11_init_1 : cX11_init.data.toList.drop 22 = dktX11_init_1 := dk_seg dksX11_init_0 22 rfl rfl
theorem dksX11_init_2 : cX11_init.data.toList.drop 46 = dktX11_init_2 := dk_seg dksX11_init_1 24 rfl rfl
theorem dX11_init_0 : decode cX11_init 0 = .ok (.aload_n 0, 1) := dk_42 (dk_at dksX11_init_0 0 rfl rfl)
theorem dX11_init_1 : decode cX11_init 1 = .ok (.invokespecial 1, 3) := dk_183 0 1 (dk_at dksX11_init_0 1 rfl rfl)
theorem dX11_init_4 : decode cX11_init 4 = .ok (.aload_n 0, 1) := dk_42 (dk_at dksX11_init_0 4 rfl rfl)
theorem dX11_init_5 : decode cX11_init 5 = .ok (.iload_n 1, 1) := dk_27 (dk_at dksX11_init_0 5 rfl rfl)
theorem dX11_init_6 : decode cX11_init 6 = .ok (.putfield 7, 3) := dk_181 0 7 (dk_at dksX11_init_0 6 rfl rfl)
theorem dX11_init_9 : decode cX11_init 9 = .ok (.aload_n 0, 1) := dk_42 (dk_at dksX11_init_0 9 rfl rfl)
theorem dX11_init_10 : decode cX11_init 10 = .ok (.iload_n 2, 1) := dk_28 (dk_at dksX11_init_0 10 rfl rfl)
theorem dX11_init_11 : decode cX11_init 11 = .ok (.putfield 13, 3) := dk_181 0 13 (dk_at dksX11_init_0 11 rfl rfl)
theorem dX11_init_14 : decode cX11_init 14 = .ok (.aload_n 0, 1) := dk_42 (dk_at dksX11_init_0 14 rfl rfl)
theorem dX11_init_15 : decode cX11_init 15 = .ok (.iload_n 3, 1) := dk_29 (dk_at dksX11_init_0 15 rfl rfl)
theorem dX11_init_16 : decode cX11_init 16 = .ok (.putfield 16, 3) := dk_181 0 16 (dk_at dksX11_init_0 16 rfl rfl)
theorem dX11_init_19 : decode cX11_init 19 = .ok (.aload_n 0, 1) := dk_42 (dk_at dksX11_init_0 19 rfl rfl)
theorem dX11_init_20 : decode cX11_init 20 = .ok (.iload 4, 2) := dk_21 4 (dk_at dksX11_init_0 20 rfl rfl)
theorem dX11_init_22 : decode cX11_init 22 = .ok (.putfield 19, 3) := dk_181 0 19 (dk_at dksX11_init_1 0 rfl rfl)
theorem dX11_init_25 : decode cX11_init 25 = .ok (.aload_n 0, 1) := dk_42 (dk_at dksX11_init_1 3 rfl rfl)
theorem dX11_init_26 : decode cX11_init 26 = .ok (.aload 5, 2) := dk_25 5 (dk_at dksX11_init_1 4 rfl rfl)
theorem dX11_init_28 : decode cX11_init 28 = .ok (.iconst 0, 1) := dk_3 (dk_at dksX11_init_1 6 rfl rfl)
theorem dX11_init_29 : decode cX11_init 29 = .ok (.aaload, 1) := dk_50 (dk_at dksX11_init_1 7 rfl rfl)
theorem dX11_init_30 : decode cX11_init 30 = .ok (.putfield 23, 3) := dk_181 0 23 (dk_at dksX11_init_1 8 rfl rfl)
theorem dX11_init_33 : decode cX11_init 33 = .ok (.aload_n 0, 1) := dk_42 (dk_at dksX11_init_1 11 rfl rfl)
theorem dX11_init_34 : decode cX11_init 34 = .ok (.aload 5, 2) := dk_25 5 (dk_at dksX11_init_1 12 rfl rfl)
theorem dX11_init_36 : decode cX11_init 36 = .ok (.iconst 1, 1) := dk_4 (dk_at dksX11_init_1 14 rfl rfl)
theorem dX11_init_37 : decode cX11_init 37 = .ok (.aaload, 1) := dk_50 (dk_at dksX11_init_1 15 rfl rfl)
theorem dX11_init_38 : decode cX11_init 38 = .ok (.putfield 27, 3) := dk_181 0 27 (dk_at dksX11_init_1 16 rfl rfl)
theorem dX11_init_41 : decode cX11_init 41 = .ok (.aload_n 0, 1) := dk_42 (dk_at dksX11_init_1 19 rfl rfl)
theorem dX11_init_42 : decode cX11_init 42 = .ok (.aload 5, 2) := dk_25 5 (dk_at dksX11_init_1 20 rfl rfl)
theorem dX11_init_44 : decode cX11_init 44 = .ok (.iconst 2, 1) := dk_5 (dk_at dksX11_init_1 22 rfl rfl)
theorem dX11_init_45 : decode cX11_init 45 = .ok (.aaload, 1) := dk_50 (dk_at dksX11_init_1 23 rfl rfl)
theorem dX11_init_46 : decode cX11_init 46 = .ok (.putfield 30, 3) := dk_181 0 30 (dk_at dksX11_init_2 0 rfl rfl)
theorem dX11_init_49 : decode cX11_init 49 = .ok (.aload_n 0, 1) := dk_42 (dk_at dksX11_init_2 3 rfl rfl)
theorem dX11_init_50 : decode cX11_init 50 = .ok (.aload 5, 2) := dk_25 5 (dk_at dksX11_init_2 4 rfl rfl)
theorem dX11_init_52 : decode cX11_init 52 = .ok (.iconst 3, 1) := dk_6 (dk_at dksX11_init_2 6 rfl rfl)
theorem dX11_init_53 : decode cX11_init 53 = .ok (.aaload, 1) := dk_50 (dk_at dksX11_init_2 7 rfl rfl)
theorem dX11_init_54 : decode cX11_init 54 = .ok (.putfield 33, 3) := dk_181 0 33 (dk_at dksX11_init_2 8 rfl rfl)
theorem dX11_init_57 : decode cX11_init 57 = .ok (.aload_n 0, 1) := dk_42 (dk_at dksX11_init_2 11 rfl rfl)
theorem dX11_init_58 : decode cX11_init 58 = .ok (.aload 5, 2) := dk_25 5 (dk_at dksX11_init_2 12 rfl rfl)
theorem dX11_init_60 : decode cX11_init 60 = .ok (.iconst 4, 1) := dk_7 (dk_at dksX11_init_2 14 rfl rfl)
theorem dX11_init_61 : decode cX11_init 61 = .ok (.aaload, 1) := dk_50 (dk_at dksX11_init_2 15 rfl rfl)
theorem dX11_init_62 : decode cX11_init 62 = .ok (.putfield 36, 3) := dk_181 0 36 (dk_at dksX11_init_2 16 rfl rfl)
theorem dX11_init_65 : decode cX11_init 65 = .ok (.return_, 1) := dk_177 (dk_at dksX11_init_2 19 rfl rfl)
theorem q697 : (Jvm.Cond.methodLink "Plugboard$Operation" (1 : Nat) ({ cls := "java/lang/Object", name := "<init>", desc := "()V" } : Jvm.MethodName)) ∈ lw_all := lw_g (lw_at lw_m3 147 rfl) rfl
theorem q698 : (Jvm.Cond.fieldLink "Plugboard$Operation" (7 : Nat) "Plugboard$Operation" "number" "I") ∈ lw_all := lw_g (lw_at lw_m3 148 rfl) rfl
theorem q701 : (Jvm.Cond.fieldLink "Plugboard$Operation" (13 : Nat) "Plugboard$Operation" "user" "I") ∈ lw_all := lw_g (lw_at lw_m3 151 rfl) rfl
theorem q703 : (Jvm.Cond.fieldLink "Plugboard$Operation" (16 : Nat) "Plugboard$Operation" "clock" "I") ∈ lw_all := lw_g (lw_at lw_m3 153 rfl) rfl
theorem q706 : (Jvm.Cond.fieldLink "Plugboard$Operation" (23 : Nat) "Plugboard$Operation" "fields" "[I") ∈ lw_all := lw_g (lw_at lw_m3 156 rfl) rfl
theorem q709 : (Jvm.Cond.fieldLink "Plugboard$Operation" (27 : Nat) "Plugboard$Operation" "values" "[I") ∈ lw_all := lw_g (lw_at lw_m3 159 rfl) rfl
theorem q711 : (Jvm.Cond.fieldLink "Plugboard$Operation" (30 : Nat) "Plugboard$Operation" "origins" "[I") ∈ lw_all := lw_g (lw_at lw_m3 161 rfl) rfl
theorem q713 : (Jvm.Cond.fieldLink "Plugboard$Operation" (33 : Nat) "Plugboard$Operation" "before" "[I") ∈ lw_all := lw_g (lw_at lw_m3 163 rfl) rfl
theorem q715 : (Jvm.Cond.fieldLink "Plugboard$Operation" (36 : Nat) "Plugboard$Operation" "stemmed" "[I") ∈ lw_all := lw_g (lw_at lw_m3 165 rfl) rfl
theorem q717 : (Jvm.Cond.fieldLink "Plugboard$Operation" (19 : Nat) "Plugboard$Operation" "isStep" "Z") ∈ lw_all := lw_g (lw_at lw_m3 167 rfl) rfl
abbrev rm_X11_init : Room := { frames := 1, cells := 0, slots := 0, locals := 12 }
def w_X11_init (a0 : Option Nat) (a1 : Int32) (a2 : Int32) (a3 : Int32) (a4 : Int32) (a5 : Option Nat) (h : AH) (P : AH → Prop) : Prop :=
  nn a0 (
  p_v h a0 9 0 (vI a1) fun h6 =>
  p_v h6 a0 9 1 (vI a2) fun h11 =>
  p_v h11 a0 9 2 (vI a3) fun h16 =>
  nrw .boolean a4 ∧
  p_v h16 a0 9 8 (vI a4) fun h22 =>
  l_q h22 a5 0 fun y29 =>
  p_v h22 a0 9 3 (vR y29) fun h30 =>
  l_q h30 a5 1 fun y37 =>
  p_v h30 a0 9 4 (vR y37) fun h38 =>
  l_q h38 a5 2 fun y45 =>
  p_v h38 a0 9 5 (vR y45) fun h46 =>
  l_q h46 a5 3 fun y53 =>
  p_v h46 a0 9 6 (vR y53) fun h54 =>
  l_q h54 a5 4 fun y61 =>
  p_v h54 a0 9 7 (vR y61) fun h62 =>
  P h62)
theorem met_X11_init (l : Launch) (hlt : l.stackTraces = false) (G : GG) (h : AH) (a0 : Option Nat) (a1 : Int32) (a2 : Int32) (a3 : Int32) (a4 : Int32) (a5 : Option Nat) (P : AH → Prop) (hw : w_X11_init a0 a1 a2 a3 a4 a5 h P) : ct_v l yX11_init (ws_ yX11_init cX11_init 6 (Option.none : Option Jvm.ClassFile.FieldType)) rm_X11_init G h [vR a0, vI a1, vI a2, vI a3, vI a4, vR a5] P := by
  refine j_startv hlt [(0, vR a0), (1, vI a1), (2, vI a2), (3, vI a3), (4, vI a4), (5, vR a5)] (plainFor_of_name (by decide)) rfl rfl (fun x X eG er en hQ => ?_)
  subst eG
  refine j_aload_n X (pc := 0) 0 dX11_init_0 rfl rfl ?_
  obtain ⟨b9, hr9, hw⟩ := hw
  refine j_obj X (pc := 1) hr9 q697 q125 q126 dX11_init_1 ⟨Nat.le_of_ble_eq_true rfl, Nat.le_of_ble_eq_true rfl⟩ ?_
  refine j_aload_n X (pc := 4) 0 dX11_init_4 rfl rfl ?_
  refine j_iload_n X (pc := 5) 1 dX11_init_5 rfl rfl ?_
  refine j_putF (ci := 9) X (pc := 6) in_X11 rfl (by decide) 0 (by decide) q698 (Or.inl rfl) tyX11 tyX11_ok nmX11 rfl en rfl rfl (ty := .int) (tyX11_ok 0 (by decide)) rfl rfl dX11_init_6 hw (fun h6 hw => ?_)
  refine j_aload_n X (pc := 9) 0 dX11_init_9 rfl rfl ?_
  refine j_iload_n X (pc := 10) 2 dX11_init_10 rfl rfl ?_
  refine j_putF (ci := 9) X (pc := 11) in_X11 rfl (by decide) 1 (by decide) q701 (Or.inl rfl) tyX11 tyX11_ok nmX11 rfl en rfl rfl (ty := .int) (tyX11_ok 1 (by decide)) rfl rfl dX11_init_11 hw (fun h11 hw => ?_)
  refine j_aload_n X (pc := 14) 0 dX11_init_14 rfl rfl ?_
  refine j_iload_n X (pc := 15) 3 dX11_init_15 rfl rfl ?_
  refine j_putF (ci := 9) X (pc := 16) in_X11 rfl (by decide) 2 (by decide) q703 (Or.inl rfl) tyX11 tyX11_ok nmX11 rfl en rfl rfl (ty := .int) (tyX11_ok 2 (by decide)) rfl rfl dX11_init_16 hw (fun h16 hw => ?_)
  refine j_aload_n X (pc := 19) 0 dX11_init_19 rfl rfl ?_
  refine j_iload X (pc := 20) 4 dX11_init_20 rfl ?_
  have hnr := hw.1
  have hw := hw.2
  refine j_putF (ci := 9) X (pc := 22) in_X11 rfl (by decide) 8 (by decide) q717 (Or.inl rfl) tyX11 tyX11_ok nmX11 rfl en rfl rfl (ty := .boolean) (tyX11_ok 8 (by decide)) hnr.1 hnr.2 dX11_init_22 hw (fun h22 hw => ?_)
  refine j_aload_n X (pc := 25) 0 dX11_init_25 rfl rfl ?_
  refine j_aload X (pc := 26) 5 dX11_init_26 rfl ?_
  refine j_iconst X (pc := 28) 0 dX11_init_28 (by decide) ?_
  refine j_aald X (pc := 29) dX11_init_29 hw (fun y29 hw => ?_)
  refine j_putF (ci := 9) X (pc := 30) in_X11 rfl (by decide) 3 (by decide) q706 (Or.inl rfl) tyX11 tyX11_ok nmX11 rfl en rfl rfl (ty := (.array .int)) (tyX11_ok 3 (by decide)) (rt_nar _ rfl _) (rt_fit _ rfl _) dX11_init_30 hw (fun h30 hw => ?_)
  refine j_aload_n X (pc := 33) 0 dX11_init_33 rfl rfl ?_
  refine j_aload X (pc := 34) 5 dX11_init_34 rfl ?_
  refine j_iconst X (pc := 36) 1 dX11_init_36 (by decide) ?_
  refine j_aald X (pc := 37) dX11_init_37 hw (fun y37 hw => ?_)
  refine j_putF (ci := 9) X (pc := 38) in_X11 rfl (by decide) 4 (by decide) q709 (Or.inl rfl) tyX11 tyX11_ok nmX11 rfl en rfl rfl (ty := (.array .int)) (tyX11_ok 4 (by decide)) (rt_nar _ rfl _) (rt_fit _ rfl _) dX11_init_38 hw (fun h38 hw => ?_)
  refine j_aload_n X (pc := 41) 0 dX11_init_41 rfl rfl ?_
  refine j_aload X (pc := 42) 5 dX11_init_42 rfl ?_
  refine j_iconst X (pc := 44) 2 dX11_init_44 (by decide) ?_
  refine j_aald X (pc := 45) dX11_init_45 hw (fun y45 hw => ?_)
  refine j_putF (ci := 9) X (pc := 46) in_X11 rfl (by decide) 5 (by decide) q711 (Or.inl rfl) tyX11 tyX11_ok nmX11 rfl en rfl rfl (ty := (.array .int)) (tyX11_ok 5 (by decide)) (rt_nar _ rfl _) (rt_fit _ rfl _) dX11_init_46 hw (fun h46 hw => ?_)
  refine j_aload_n X (pc := 49) 0 dX11_init_49 rfl rfl ?_
  refine j_aload X (pc := 50) 5 dX11_init_50 rfl ?_
  refine j_iconst X (pc := 52) 3 dX11_init_52 (by decide) ?_
  refine j_aald X (pc := 53) dX11_init_53 hw (fun y53 hw => ?_)
  refine j_putF (ci := 9) X (pc := 54) in_X11 rfl (by decide) 6 (by decide) q713 (Or.inl rfl) tyX11 tyX11_ok nmX11 rfl en rfl rfl (ty := (.array .int)) (tyX11_ok 6 (by decide)) (rt_nar _ rfl _) (rt_fit _ rfl _) dX11_init_54 hw (fun h54 hw => ?_)
  refine j_aload_n X (pc := 57) 0 dX11_init_57 rfl rfl ?_
  refine j_aload X (pc := 58) 5 dX11_init_58 rfl ?_
  refine j_iconst X (pc := 60) 4 dX11_init_60 (by decide) ?_
  refine j_aald X (pc := 61) dX11_init_61 hw (fun y61 hw => ?_)
  refine j_putF (ci := 9) X (pc := 62) in_X11 rfl (by decide) 7 (by decide) q715 (Or.inl rfl) tyX11 tyX11_ok nmX11 rfl en rfl rfl (ty := (.array .int)) (tyX11_ok 7 (by decide)) (rt_nar _ rfl _) (rt_fit _ rfl _) dX11_init_62 hw (fun h62 hw => ?_)
  exact j_vret X (pc := 65) hQ er (Nat.le_of_ble_eq_true rfl) (Nat.le_of_ble_eq_true rfl) dX11_init_65 hw
abbrev cX12_init : ByteArray := prog_6_method_1_code
def yX12_init : MethodName := ⟨RX12, "<init>", "()V"⟩
theorem dX12_init_0 : decode cX12_init 0 = .ok (.aload_n 0, 1) := by decide +kernel
theorem dX12_init_1 : decode cX12_init 1 = .ok (.invokespecial 1, 3) := by decide +kernel
theorem dX12_init_4 : decode cX12_init 4 = .ok (.return_, 1) := by decide +kernel
theorem q751 : (Jvm.Cond.methodLink "Plugboard$ByStamp" (1 : Nat) ({ cls := "java/lang/Object", name := "<init>", desc := "()V" } : Jvm.MethodName)) ∈ lw_all := lw_g (lw_at lw_m3 201 rfl) rfl
abbrev rm_X12_init : Room := { frames := 1, cells := 0, slots := 0, locals := 12 }
def w_X12_init (a0 : Option Nat) (h : AH) (P : AH → Prop) : Prop :=
  nn a0 (
  P h)
theorem met_X12_init (l : Launch) (hlt : l.stackTraces = false) (G : GG) (h : AH) (a0 : Option Nat) (P : AH → Prop) (hw : w_X12_init a0 h P) : ct_v l yX12_init (ws_ yX12_init cX12_init 1 (Option.none : Option Jvm.ClassFile.FieldType)) rm_X12_init G h [vR a0] P := by
  refine j_startv hlt [(0, vR a0)] (plainFor_of_name (by decide)) rfl rfl (fun x X eG er en hQ => ?_)
  subst eG
  refine j_aload_n X (pc := 0) 0 dX12_init_0 rfl rfl ?_
  obtain ⟨b9, hr9, hw⟩ := hw
  refine j_obj X (pc := 1) hr9 q751 q125 q126 dX12_init_1 ⟨Nat.le_of_ble_eq_true rfl, Nat.le_of_ble_eq_true rfl⟩ ?_
  exact j_vret X (pc := 4) hQ er (Nat.le_of_ble_eq_true rfl) (Nat.le_of_ble_eq_true rfl) dX12_init_4 hw
abbrev cX4_size : ByteArray := prog_16_method_3_code
def yX4_size : MethodName := ⟨RX4, "size", "()I"⟩
def dkwX4_size_0 : List UInt8 := [42, 180, 0, 10, 182, 0, 20, 172]
abbrev dktX4_size_0 : List UInt8 := dkwX4_size_0 ++ []
theorem dksX4_size_0 : cX4_size.data.toList.drop 0 = dktX4_size_0 := by decide +kernel
theorem dX4_size_0 : decode cX4_size 0 = .ok (.aload_n 0, 1) := dk_42 (dk_at dksX4_size_0 0 rfl rfl)
theorem dX4_size_1 : decode cX4_size 1 = .ok (.getfield 10, 3) := dk_180 0 10 (dk_at dksX4_size_0 1 rfl rfl)
theorem dX4_size_4 : decode cX4_size 4 = .ok (.invokevirtual 20, 3) := dk_182 0 20 (dk_at dksX4_size_0 4 rfl rfl)
theorem dX4_size_7 : decode cX4_size 7 = .ok (.ireturn, 1) := dk_172 (dk_at dksX4_size_0 7 rfl rfl)
theorem q760 : (Jvm.Cond.methodLink "Plugboard$Sequence" (20 : Nat) ({ cls := "java/util/ArrayList", name := "size", desc := "()I" } : Jvm.MethodName)) ∈ lw_all := lw_g (lw_at lw_m3 210 rfl) rfl
abbrev rm_X4_size : Room := { frames := 1, cells := 0, slots := 0, locals := 20 }
def w_X4_size (a0 : Option Nat) (h : AH) (P : Int32 → AH → Prop) : Prop :=
  g_q h a0 3 0 fun y1 =>
  is_c h y1 [15] (
  w_J2_size y1 h (fun y4 h4 =>
  P y4 h4))
theorem met_X4_size (l : Launch) (hlt : l.stackTraces = false) (G : GG) (h : AH) (a0 : Option Nat) (P : Int32 → AH → Prop) (hw : w_X4_size a0 h P) : ct_i l yX4_size (ws_ yX4_size cX4_size 1 (Option.some Jvm.ClassFile.FieldType.int)) rm_X4_size G h [vR a0] P := by
  refine j_starti hlt [(0, vR a0)] (plainFor_of_name (by decide)) rfl rfl (fun x X eG er en hQ => ?_)
  subst eG
  refine j_aload_n X (pc := 0) 0 dX4_size_0 rfl rfl ?_
  refine j_getq (ci := 3) X (pc := 1) in_X4 rfl (by decide) 0 (by decide) q198 (Or.inl rfl) dX4_size_1 hw (fun y1 hw => ?_)
  obtain ⟨b9, c9, f9, hr9, ho9, hc9, hw⟩ := hw
  obtain rfl := List.mem_singleton.mp hc9
  refine j_calli (j_runV (n8 := 0) (As := []) (rest := []) X (pc := 4) hr9 (met_J2_size (xl x) X.hl (xG x) h y1 _ hw) ho9 (by decide) rfl q760 q285 q286 q74 q287 (by decide +kernel) dX4_size_4 rfl ⟨Nat.le_of_ble_eq_true rfl, Nat.le_of_ble_eq_true rfl⟩ (Nat.le_of_ble_eq_true rfl) ⟨Nat.le_of_ble_eq_true rfl, Nat.le_of_ble_eq_true rfl⟩) (fun y4 h4 hw => ?_)
  exact j_iret X (pc := 7) hQ er (Nat.le_of_ble_eq_true rfl) (Nat.le_of_ble_eq_true rfl) dX4_size_7 hw
abbrev cX4_at : ByteArray := prog_16_method_2_code
def yX4_at : MethodName := ⟨RX4, "at", "(I)Ljava/lang/Object;"⟩
def dkwX4_at_0 : List UInt8 := [42, 180, 0, 10, 27, 182, 0, 16, 176]
abbrev dktX4_at_0 : List UInt8 := dkwX4_at_0 ++ []
theorem dksX4_at_0 : cX4_at.data.toList.drop 0 = dktX4_at_0 := by decide +kernel
theorem dX4_at_0 : decode cX4_at 0 = .ok (.aload_n 0, 1) := dk_42 (dk_at dksX4_at_0 0 rfl rfl)
theorem dX4_at_1 : decode cX4_at 1 = .ok (.getfield 10, 3) := dk_180 0 10 (dk_at dksX4_at_0 1 rfl rfl)
theorem dX4_at_4 : decode cX4_at 4 = .ok (.iload_n 1, 1) := dk_27 (dk_at dksX4_at_0 4 rfl rfl)
theorem dX4_at_5 : decode cX4_at 5 = .ok (.invokevirtual 16, 3) := dk_182 0 16 (dk_at dksX4_at_0 5 rfl rfl)
theorem dX4_at_8 : decode cX4_at 8 = .ok (.areturn, 1) := dk_176 (dk_at dksX4_at_0 8 rfl rfl)
theorem q765 : (Jvm.Cond.methodLink "Plugboard$Sequence" (16 : Nat) ({ cls := "java/util/ArrayList", name := "get", desc := "(I)Ljava/lang/Object;" } : Jvm.MethodName)) ∈ lw_all := lw_g (lw_at lw_m3 215 rfl) rfl
abbrev rm_X4_at : Room := { frames := 3, cells := 0, slots := 0, locals := 64 }
def w_X4_at (a0 : Option Nat) (a1 : Int32) (h : AH) (P : Option Nat → AH → Prop) : Prop :=
  g_q h a0 3 0 fun y1 =>
  is_c h y1 [15] (
  w_J2_get y1 a1 h (fun y5 h5 =>
  P y5 h5))
theorem met_X4_at (l : Launch) (hlt : l.stackTraces = false) (G : GG) (h : AH) (a0 : Option Nat) (a1 : Int32) (P : Option Nat → AH → Prop) (hw : w_X4_at a0 a1 h P) : ct_q l yX4_at (ws_ yX4_at cX4_at 2 (Option.some (Jvm.ClassFile.FieldType.object "java/lang/Object"))) rm_X4_at G h [vR a0, vI a1] P := by
  refine j_startq hlt [(0, vR a0), (1, vI a1)] (plainFor_of_name (by decide)) rfl rfl (fun x X eG er en hQ => ?_)
  subst eG
  refine j_aload_n X (pc := 0) 0 dX4_at_0 rfl rfl ?_
  refine j_getq (ci := 3) X (pc := 1) in_X4 rfl (by decide) 0 (by decide) q198 (Or.inl rfl) dX4_at_1 hw (fun y1 hw => ?_)
  refine j_iload_n X (pc := 4) 1 dX4_at_4 rfl rfl ?_
  obtain ⟨b9, c9, f9, hr9, ho9, hc9, hw⟩ := hw
  obtain rfl := List.mem_singleton.mp hc9
  refine j_callq (j_runV (n8 := 1) (As := [vI a1]) (rest := []) X (pc := 5) hr9 (met_J2_get (xl x) X.hl (xG x) h y1 a1 _ hw) ho9 (by decide) rfl q765 q512 q513 q74 q514 (by decide +kernel) dX4_at_5 rfl ⟨Nat.le_of_ble_eq_true rfl, Nat.le_of_ble_eq_true rfl⟩ (Nat.le_of_ble_eq_true rfl) ⟨Nat.le_of_ble_eq_true rfl, Nat.le_of_ble_eq_true rfl⟩) (fun y5 h5 hw => ?_)
  exact j_aret X (pc := 8) (ty := (.object "java/lang/Object")) hQ er (Or.inl ⟨_, rfl⟩) (Nat.le_of_ble_eq_true rfl) (Nat.le_of_ble_eq_true rfl) dX4_at_8 hw
abbrev cX11_isLaterThan : ByteArray := prog_13_method_2_code
def yX11_isLaterThan : MethodName := ⟨RX11, "isLaterThan", "(LPlugboard$Operation;)Z"⟩
def dkwX11_isLaterThan_1 : List UInt8 := [167, 0, 23, 3, 167, 0, 19, 42, 180, 0, 13, 43, 180, 0, 13, 164, 0, 7, 4, 167, 0, 4, 3, 172]
abbrev dktX11_isLaterThan_1 : List UInt8 := dkwX11_isLaterThan_1 ++ []
def dkwX11_isLaterThan_0 : List UInt8 := [42, 180, 0, 16, 43, 180, 0, 16, 159, 0, 22, 42, 180, 0, 16, 43, 180, 0, 16, 164, 0, 7, 4]
abbrev dktX11_isLaterThan_0 : List UInt8 := dkwX11_isLaterThan_0 ++ dktX11_isLaterThan_1
theorem dksX11_isLaterThan_0 : cX11_isLaterThan.data.toList.drop 0 = dktX11_isLaterThan_0 := by decide +kernel
theorem dksX11_isLaterThan_1 : cX11_isLaterThan.data.toList.drop 23 = dktX11_isLaterThan_1 := dk_seg dksX11_isLaterThan_0 23 rfl rfl
theorem dX11_isLaterThan_0 : decode cX11_isLaterThan 0 = .ok (.aload_n 0, 1) := dk_42 (dk_at dksX11_isLaterThan_0 0 rfl rfl)
theorem dX11_isLaterThan_1 : decode cX11_isLaterThan 1 = .ok (.getfield 16, 3) := dk_180 0 16 (dk_at dksX11_isLaterThan_0 1 rfl rfl)
theorem dX11_isLaterThan_4 : decode cX11_isLaterThan 4 = .ok (.aload_n 1, 1) := dk_43 (dk_at dksX11_isLaterThan_0 4 rfl rfl)
theorem dX11_isLaterThan_5 : decode cX11_isLaterThan 5 = .ok (.getfield 16, 3) := dk_180 0 16 (dk_at dksX11_isLaterThan_0 5 rfl rfl)
theorem dX11_isLaterThan_8 : decode cX11_isLaterThan 8 = .ok (.if_icmp .eq 22, 3) := dk_159 0 22 (dk_at dksX11_isLaterThan_0 8 rfl rfl)
theorem dX11_isLaterThan_11 : decode cX11_isLaterThan 11 = .ok (.aload_n 0, 1) := dk_42 (dk_at dksX11_isLaterThan_0 11 rfl rfl)
theorem dX11_isLaterThan_12 : decode cX11_isLaterThan 12 = .ok (.getfield 16, 3) := dk_180 0 16 (dk_at dksX11_isLaterThan_0 12 rfl rfl)
theorem dX11_isLaterThan_15 : decode cX11_isLaterThan 15 = .ok (.aload_n 1, 1) := dk_43 (dk_at dksX11_isLaterThan_0 15 rfl rfl)
theorem dX11_isLaterThan_16 : decode cX11_isLaterThan 16 = .ok (.getfield 16, 3) := dk_180 0 16 (dk_at dksX11_isLaterThan_0 16 rfl rfl)
theorem dX11_isLaterThan_19 : decode cX11_isLaterThan 19 = .ok (.if_icmp .le 7, 3) := dk_164 0 7 (dk_at dksX11_isLaterThan_0 19 rfl rfl)
theorem dX11_isLaterThan_22 : decode cX11_isLaterThan 22 = .ok (.iconst 1, 1) := dk_4 (dk_at dksX11_isLaterThan_0 22 rfl rfl)
theorem dX11_isLaterThan_23 : decode cX11_isLaterThan 23 = .ok (.goto 23, 3) := dk_167 0 23 (dk_at dksX11_isLaterThan_1 0 rfl rfl)
theorem dX11_isLaterThan_26 : decode cX11_isLaterThan 26 = .ok (.iconst 0, 1) := dk_3 (dk_at dksX11_isLaterThan_1 3 rfl rfl)
theorem dX11_isLaterThan_27 : decode cX11_isLaterThan 27 = .ok (.goto 19, 3) := dk_167 0 19 (dk_at dksX11_isLaterThan_1 4 rfl rfl)
theorem dX11_isLaterThan_30 : decode cX11_isLaterThan 30 = .ok (.aload_n 0, 1) := dk_42 (dk_at dksX11_isLaterThan_1 7 rfl rfl)
theorem dX11_isLaterThan_31 : decode cX11_isLaterThan 31 = .ok (.getfield 13, 3) := dk_180 0 13 (dk_at dksX11_isLaterThan_1 8 rfl rfl)
theorem dX11_isLaterThan_34 : decode cX11_isLaterThan 34 = .ok (.aload_n 1, 1) := dk_43 (dk_at dksX11_isLaterThan_1 11 rfl rfl)
theorem dX11_isLaterThan_35 : decode cX11_isLaterThan 35 = .ok (.getfield 13, 3) := dk_180 0 13 (dk_at dksX11_isLaterThan_1 12 rfl rfl)
theorem dX11_isLaterThan_38 : decode cX11_isLaterThan 38 = .ok (.if_icmp .le 7, 3) := dk_164 0 7 (dk_at dksX11_isLaterThan_1 15 rfl rfl)
theorem dX11_isLaterThan_41 : decode cX11_isLaterThan 41 = .ok (.iconst 1, 1) := dk_4 (dk_at dksX11_isLaterThan_1 18 rfl rfl)
theorem dX11_isLaterThan_42 : decode cX11_isLaterThan 42 = .ok (.goto 4, 3) := dk_167 0 4 (dk_at dksX11_isLaterThan_1 19 rfl rfl)
theorem dX11_isLaterThan_45 : decode cX11_isLaterThan 45 = .ok (.iconst 0, 1) := dk_3 (dk_at dksX11_isLaterThan_1 22 rfl rfl)
theorem dX11_isLaterThan_46 : decode cX11_isLaterThan 46 = .ok (.ireturn, 1) := dk_172 (dk_at dksX11_isLaterThan_1 23 rfl rfl)
abbrev rm_X11_isLaterThan : Room := { frames := 0, cells := 0, slots := 0, locals := 0 }
def w_X11_isLaterThan (a0 : Option Nat) (a1 : Option Nat) (h : AH) (P : Int32 → AH → Prop) : Prop :=
  g_i h a0 9 2 fun y1 =>
  g_i h a1 9 2 fun y5 =>
  ((y1 = y5 →
    g_i h a0 9 1 fun y31 =>
    g_i h a1 9 1 fun y35 =>
    ((y31 ≤ y35 →
      P 0 h) ∧
     (¬ y31 ≤ y35 →
      P 1 h))) ∧
   (¬ y1 = y5 →
    g_i h a0 9 2 fun y12 =>
    g_i h a1 9 2 fun y16 =>
    ((y12 ≤ y16 →
      P 0 h) ∧
     (¬ y12 ≤ y16 →
      P 1 h))))
theorem met_X11_isLaterThan (l : Launch) (hlt : l.stackTraces = false) (G : GG) (h : AH) (a0 : Option Nat) (a1 : Option Nat) (P : Int32 → AH → Prop) (hw : w_X11_isLaterThan a0 a1 h P) : ct_i l yX11_isLaterThan (ws_ yX11_isLaterThan cX11_isLaterThan 2 (Option.some Jvm.ClassFile.FieldType.boolean)) rm_X11_isLaterThan G h [vR a0, vR a1] P := by
  refine j_starti hlt [(0, vR a0), (1, vR a1)] (plainFor_of_name (by decide)) rfl rfl (fun x X eG er en hQ => ?_)
  subst eG
  refine j_aload_n X (pc := 0) 0 dX11_isLaterThan_0 rfl rfl ?_
  refine j_geti (ci := 9) X (pc := 1) in_X11 rfl (by decide) 2 (by decide) q703 (Or.inl rfl) dX11_isLaterThan_1 hw (fun y1 hw => ?_)
  refine j_aload_n X (pc := 4) 1 dX11_isLaterThan_4 rfl rfl ?_
  refine j_geti (ci := 9) X (pc := 5) in_X11 rfl (by decide) 2 (by decide) q703 (Or.inl rfl) dX11_isLaterThan_5 hw (fun y5 hw => ?_)
  refine j_icmp_eq X (pc := 8) 30 dX11_isLaterThan_8 (by decide) hw (fun hw => ?_) (fun hw => ?_)
  · refine j_aload_n X (pc := 30) 0 dX11_isLaterThan_30 rfl rfl ?_
    refine j_geti (ci := 9) X (pc := 31) in_X11 rfl (by decide) 1 (by decide) q701 (Or.inl rfl) dX11_isLaterThan_31 hw (fun y31 hw => ?_)
    refine j_aload_n X (pc := 34) 1 dX11_isLaterThan_34 rfl rfl ?_
    refine j_geti (ci := 9) X (pc := 35) in_X11 rfl (by decide) 1 (by decide) q701 (Or.inl rfl) dX11_isLaterThan_35 hw (fun y35 hw => ?_)
    refine j_icmp_le X (pc := 38) 45 dX11_isLaterThan_38 (by decide) hw (fun hw => ?_) (fun hw => ?_)
    · refine j_iconst X (pc := 45) 0 dX11_isLaterThan_45 (by decide) ?_
      exact j_zret X (pc := 46) (ty := .boolean) hQ er rfl (Nat.le_of_ble_eq_true rfl) (Nat.le_of_ble_eq_true rfl) dX11_isLaterThan_46 hw
    · refine j_iconst X (pc := 41) 1 dX11_isLaterThan_41 (by decide) ?_
      refine j_goto X (pc := 42) 46 dX11_isLaterThan_42 (by decide) ?_
      exact j_zret X (pc := 46) (ty := .boolean) hQ er rfl (Nat.le_of_ble_eq_true rfl) (Nat.le_of_ble_eq_true rfl) dX11_isLaterThan_46 hw
  · refine j_aload_n X (pc := 11) 0 dX11_isLaterThan_11 rfl rfl ?_
    refine j_geti (ci := 9) X (pc := 12) in_X11 rfl (by decide) 2 (by decide) q703 (Or.inl rfl) dX11_isLaterThan_12 hw (fun y12 hw => ?_)
    refine j_aload_n X (pc := 15) 1 dX11_isLaterThan_15 rfl rfl ?_
    refine j_geti (ci := 9) X (pc := 16) in_X11 rfl (by decide) 2 (by decide) q703 (Or.inl rfl) dX11_isLaterThan_16 hw (fun y16 hw => ?_)
    refine j_icmp_le X (pc := 19) 26 dX11_isLaterThan_19 (by decide) hw (fun hw => ?_) (fun hw => ?_)
    · refine j_iconst X (pc := 26) 0 dX11_isLaterThan_26 (by decide) ?_
      refine j_goto X (pc := 27) 46 dX11_isLaterThan_27 (by decide) ?_
      exact j_zret X (pc := 46) (ty := .boolean) hQ er rfl (Nat.le_of_ble_eq_true rfl) (Nat.le_of_ble_eq_true rfl) dX11_isLaterThan_46 hw
    · refine j_iconst X (pc := 22) 1 dX11_isLaterThan_22 (by decide) ?_
      refine j_goto X (pc := 23) 46 dX11_isLaterThan_23 (by decide) ?_
      exact j_zret X (pc := 46) (ty := .boolean) hQ er rfl (Nat.le_of_ble_eq_true rfl) (Nat.le_of_ble_eq_true rfl) dX11_isLaterThan_46 hw
abbrev cX12_isLater_2 : ByteArray := prog_6_method_2_code
def yX12_isLater_2 : MethodName := ⟨RX12, "isLater", "(LPlugboard$Operation;LPlugboard$Operation;)Z"⟩
def dkwX12_isLater_2_0 : List UInt8 := [43, 44, 182, 0, 7, 172]
abbrev dktX12_isLater_2_0 : List UInt8 := dkwX12_isLater_2_0 ++ []
theorem dksX12_isLater_2_0 : cX12_isLater_2.data.toList.drop 0 = dktX12_isLater_2_0 := by decide +kernel
theorem dX12_isLater_2_0 : decode cX12_isLater_2 0 = .ok (.aload_n 1, 1) := dk_43 (dk_at dksX12_isLater_2_0 0 rfl rfl)
theorem dX12_isLater_2_1 : decode cX12_isLater_2 1 = .ok (.aload_n 2, 1) := dk_44 (dk_at dksX12_isLater_2_0 1 rfl rfl)
theorem dX12_isLater_2_2 : decode cX12_isLater_2 2 = .ok (.invokevirtual 7, 3) := dk_182 0 7 (dk_at dksX12_isLater_2_0 2 rfl rfl)
theorem dX12_isLater_2_5 : decode cX12_isLater_2 5 = .ok (.ireturn, 1) := dk_172 (dk_at dksX12_isLater_2_0 5 rfl rfl)
theorem q100 : (Jvm.Cond.initialized "Plugboard$Operation") ∈ lw_all := lw_g (lw_at lw_m1 30 rfl) rfl
theorem q781 : (Jvm.Cond.methodLink "Plugboard$ByStamp" (7 : Nat) ({ cls := "Plugboard$Operation", name := "isLaterThan", desc := "(LPlugboard$Operation;)Z" } : Jvm.MethodName)) ∈ lw_all := lw_g (lw_at lw_m3 231 rfl) rfl
theorem q782 : (Jvm.Cond.instanceMethod ({ cls := "Plugboard$Operation", name := "isLaterThan", desc := "(LPlugboard$Operation;)Z" } : Jvm.MethodName)) ∈ lw_all := lw_g (lw_at lw_m3 232 rfl) rfl
theorem q783 : (Jvm.Cond.selects "Plugboard$Operation" ({ cls := "Plugboard$Operation", name := "isLaterThan", desc := "(LPlugboard$Operation;)Z" } : Jvm.MethodName) ({ cls := "Plugboard$Operation", name := "isLaterThan", desc := "(LPlugboard$Operation;)Z" } : Jvm.MethodName)) ∈ lw_all := lw_g (lw_at lw_m3 233 rfl) rfl
theorem q784 : (Jvm.Cond.code ({ cls := "Plugboard$Operation", name := "isLaterThan", desc := "(LPlugboard$Operation;)Z" } : Jvm.MethodName) prog_13_method_2_code (2 : Nat) (Option.some Jvm.ClassFile.FieldType.boolean)) ∈ lw_all := lw_g (lw_at lw_m3 234 rfl) rfl
abbrev rm_X12_isLater_2 : Room := { frames := 1, cells := 0, slots := 0, locals := 21 }
def w_X12_isLater_2 (a0 : Option Nat) (a1 : Option Nat) (a2 : Option Nat) (h : AH) (P : Int32 → AH → Prop) : Prop :=
  is_c h a1 [9] (
  w_X11_isLaterThan a1 a2 h (fun y2 h2 =>
  nrw .boolean y2 ∧
  P y2 h2))
theorem met_X12_isLater_2 (l : Launch) (hlt : l.stackTraces = false) (G : GG) (h : AH) (a0 : Option Nat) (a1 : Option Nat) (a2 : Option Nat) (P : Int32 → AH → Prop) (hw : w_X12_isLater_2 a0 a1 a2 h P) : ct_i l yX12_isLater_2 (ws_ yX12_isLater_2 cX12_isLater_2 3 (Option.some Jvm.ClassFile.FieldType.boolean)) rm_X12_isLater_2 G h [vR a0, vR a1, vR a2] P := by
  refine j_starti hlt [(0, vR a0), (1, vR a1), (2, vR a2)] (plainFor_of_name (by decide)) rfl rfl (fun x X eG er en hQ => ?_)
  subst eG
  refine j_aload_n X (pc := 0) 1 dX12_isLater_2_0 rfl rfl ?_
  refine j_aload_n X (pc := 1) 2 dX12_isLater_2_1 rfl rfl ?_
  obtain ⟨b9, c9, f9, hr9, ho9, hc9, hw⟩ := hw
  obtain rfl := List.mem_singleton.mp hc9
  refine j_calli (j_runV (n8 := 1) (As := [vR a2]) (rest := []) X (pc := 2) hr9 (met_X11_isLaterThan (xl x) X.hl (xG x) h a1 a2 _ hw) ho9 (by decide) rfl q781 q782 q783 q100 q784 (by decide +kernel) dX12_isLater_2_2 rfl ⟨Nat.le_of_ble_eq_true rfl, Nat.le_of_ble_eq_true rfl⟩ (Nat.le_of_ble_eq_true rfl) ⟨Nat.le_of_ble_eq_true rfl, Nat.le_of_ble_eq_true rfl⟩) (fun y2 h2 hw => ?_)
  exact j_zret X (pc := 5) (ty := .boolean) hQ er hw.1.1 (Nat.le_of_ble_eq_true rfl) (Nat.le_of_ble_eq_true rfl) dX12_isLater_2_5 hw.2
abbrev cX12_isLater : ByteArray := prog_6_method_3_code
def yX12_isLater : MethodName := ⟨RX12, "isLater", "(Ljava/lang/Object;Ljava/lang/Object;)Z"⟩
def dkwX12_isLater_0 : List UInt8 := [42, 43, 192, 0, 8, 44, 192, 0, 8, 182, 0, 13, 172]
abbrev dktX12_isLater_0 : List UInt8 := dkwX12_isLater_0 ++ []
theorem dksX12_isLater_0 : cX12_isLater.data.toList.drop 0 = dktX12_isLater_0 := by decide +kernel
theorem dX12_isLater_0 : decode cX12_isLater 0 = .ok (.aload_n 0, 1) := dk_42 (dk_at dksX12_isLater_0 0 rfl rfl)
theorem dX12_isLater_1 : decode cX12_isLater 1 = .ok (.aload_n 1, 1) := dk_43 (dk_at dksX12_isLater_0 1 rfl rfl)
theorem dX12_isLater_2 : decode cX12_isLater 2 = .ok (.checkcast 8, 3) := dk_192 0 8 (dk_at dksX12_isLater_0 2 rfl rfl)
theorem dX12_isLater_5 : decode cX12_isLater 5 = .ok (.aload_n 2, 1) := dk_44 (dk_at dksX12_isLater_0 5 rfl rfl)
theorem dX12_isLater_6 : decode cX12_isLater 6 = .ok (.checkcast 8, 3) := dk_192 0 8 (dk_at dksX12_isLater_0 6 rfl rfl)
theorem dX12_isLater_9 : decode cX12_isLater 9 = .ok (.invokevirtual 13, 3) := dk_182 0 13 (dk_at dksX12_isLater_0 9 rfl rfl)
theorem dX12_isLater_12 : decode cX12_isLater 12 = .ok (.ireturn, 1) := dk_172 (dk_at dksX12_isLater_0 12 rfl rfl)
theorem q101 : (Jvm.Cond.initialized "Plugboard$ByStamp") ∈ lw_all := lw_g (lw_at lw_m1 31 rfl) rfl
theorem q776 : (Jvm.Cond.classLink "Plugboard$ByStamp" (8 : Nat) "Plugboard$Operation") ∈ lw_all := lw_g (lw_at lw_m3 226 rfl) rfl
theorem q777 : (Jvm.Cond.methodLink "Plugboard$ByStamp" (13 : Nat) ({ cls := "Plugboard$ByStamp", name := "isLater", desc := "(LPlugboard$Operation;LPlugboard$Operation;)Z" } : Jvm.MethodName)) ∈ lw_all := lw_g (lw_at lw_m3 227 rfl) rfl
theorem q778 : (Jvm.Cond.instanceMethod ({ cls := "Plugboard$ByStamp", name := "isLater", desc := "(LPlugboard$Operation;LPlugboard$Operation;)Z" } : Jvm.MethodName)) ∈ lw_all := lw_g (lw_at lw_m3 228 rfl) rfl
theorem q779 : (Jvm.Cond.selects "Plugboard$ByStamp" ({ cls := "Plugboard$ByStamp", name := "isLater", desc := "(LPlugboard$Operation;LPlugboard$Operation;)Z" } : Jvm.MethodName) ({ cls := "Plugboard$ByStamp", name := "isLater", desc := "(LPlugboard$Operation;LPlugboard$Operation;)Z" } : Jvm.MethodName)) ∈ lw_all := lw_g (lw_at lw_m3 229 rfl) rfl
theorem q780 : (Jvm.Cond.code ({ cls := "Plugboard$ByStamp", name := "isLater", desc := "(LPlugboard$Operation;LPlugboard$Operation;)Z" } : Jvm.MethodName) prog_6_method_2_code (3 : Nat) (Option.some Jvm.ClassFile.FieldType.boolean)) ∈ lw_all := lw_g (lw_at lw_m3 230 rfl) rfl
abbrev rm_X12_isLater : Room := { frames := 2, cells := 0, slots := 0, locals := 43 }
def w_X12_isLater (a0 : Option Nat) (a1 : Option Nat) (a2 : Option Nat) (h : AH) (P : Int32 → AH → Prop) : Prop :=
  is_c h a1 [9] (
  is_c h a2 [9] (
  is_c h a0 [10] (
  w_X12_isLater_2 a0 a1 a2 h (fun y9 h9 =>
  nrw .boolean y9 ∧
  P y9 h9))))
theorem met_X12_isLater (l : Launch) (hlt : l.stackTraces = false) (G : GG) (h : AH) (a0 : Option Nat) (a1 : Option Nat) (a2 : Option Nat) (P : Int32 → AH → Prop) (hw : w_X12_isLater a0 a1 a2 h P) : ct_i l yX12_isLater (ws_ yX12_isLater cX12_isLater 3 (Option.some Jvm.ClassFile.FieldType.boolean)) rm_X12_isLater G h [vR a0, vR a1, vR a2] P := by
  refine j_starti hlt [(0, vR a0), (1, vR a1), (2, vR a2)] (plainFor_of_name (by decide)) rfl rfl (fun x X eG er en hQ => ?_)
  subst eG
  refine j_aload_n X (pc := 0) 0 dX12_isLater_0 rfl rfl ?_
  refine j_aload_n X (pc := 1) 1 dX12_isLater_1 rfl rfl ?_
  refine j_chk X (pc := 2) (L := [9]) q776 (by intro ci hci; obtain rfl := List.mem_singleton.mp hci; exact ⟨by decide, _, _, _, rfl, Or.inl rfl⟩) dX12_isLater_2 hw (fun hw => ?_)
  refine j_aload_n X (pc := 5) 2 dX12_isLater_5 rfl rfl ?_
  refine j_chk X (pc := 6) (L := [9]) q776 (by intro ci hci; obtain rfl := List.mem_singleton.mp hci; exact ⟨by decide, _, _, _, rfl, Or.inl rfl⟩) dX12_isLater_6 hw (fun hw => ?_)
  obtain ⟨b9, c9, f9, hr9, ho9, hc9, hw⟩ := hw
  obtain rfl := List.mem_singleton.mp hc9
  refine j_calli (j_runV (n8 := 2) (As := [vR a1, vR a2]) (rest := []) X (pc := 9) hr9 (met_X12_isLater_2 (xl x) X.hl (xG x) h a0 a1 a2 _ hw) ho9 (by decide) rfl q777 q778 q779 q101 q780 (by decide +kernel) dX12_isLater_9 rfl ⟨Nat.le_of_ble_eq_true rfl, Nat.le_of_ble_eq_true rfl⟩ (Nat.le_of_ble_eq_true rfl) ⟨Nat.le_of_ble_eq_true rfl, Nat.le_of_ble_eq_true rfl⟩) (fun y9 h9 hw => ?_)
  exact j_zret X (pc := 12) (ty := .boolean) hQ er hw.1.1 (Nat.le_of_ble_eq_true rfl) (Nat.le_of_ble_eq_true rfl) dX12_isLater_12 hw.2
abbrev cJ2_rangeCheckForAdd : ByteArray := prog_54_method_45_code
def yJ2_rangeCheckForAdd : MethodName := ⟨RJ2, "rangeCheckForAdd", "(I)V"⟩
def dkwJ2_rangeCheckForAdd_1 : List UInt8 := [191, 177]
abbrev dktJ2_rangeCheckForAdd_1 : List UInt8 := dkwJ2_rangeCheckForAdd_1 ++ []
def dkwJ2_rangeCheckForAdd_0 : List UInt8 := [27, 42, 180, 0, 48, 163, 0, 7, 27, 156, 0, 16, 187, 0, 187, 89, 42, 27, 182, 0, 198, 183, 0, 193]
abbrev dktJ2_rangeCheckForAdd_0 : List UInt8 := dkwJ2_rangeCheckForAdd_0 ++ dktJ2_rangeCheckForAdd_1
theorem dksJ2_rangeCheckForAdd_0 : cJ2_rangeCheckForAdd.data.toList.drop 0 = dktJ2_rangeCheckForAdd_0 := by decide +kernel
theorem dksJ2_rangeCheckForAdd_1 : cJ2_rangeCheckForAdd.data.toList.drop 24 = dktJ2_rangeCheckForAdd_1 := dk_seg dksJ2_rangeCheckForAdd_0 24 rfl rfl
theorem dJ2_rangeCheckForAdd_0 : decode cJ2_rangeCheckForAdd 0 = .ok (.iload_n 1, 1) := dk_27 (dk_at dksJ2_rangeCheckForAdd_0 0 rfl rfl)
theorem dJ2_rangeCheckForAdd_1 : decode cJ2_rangeCheckForAdd 1 = .ok (.aload_n 0, 1) := dk_42 (dk_at dksJ2_rangeCheckForAdd_0 1 rfl rfl)
theorem dJ2_rangeCheckForAdd_2 : decode cJ2_rangeCheckForAdd 2 = .ok (.getfield 48, 3) := dk_180 0 48 (dk_at dksJ2_rangeCheckForAdd_0 2 rfl rfl)
theorem dJ2_rangeCheckForAdd_5 : decode cJ2_rangeCheckForAdd 5 = .ok (.if_icmp .gt 7, 3) := dk_163 0 7 (dk_at dksJ2_rangeCheckForAdd_0 5 rfl rfl)
theorem dJ2_rangeCheckForAdd_8 : decode cJ2_rangeCheckForAdd 8 = .ok (.iload_n 1, 1) := dk_27 (dk_at dksJ2_rangeCheckForAdd_0 8 rfl rfl)
theorem dJ2_rangeCheckForAdd_9 : decode cJ2_rangeCheckForAdd 9 = .ok (.ifCond .ge 16, 3) := dk_156 0 16 (dk_at dksJ2_rangeCheckForAdd_0 9 rfl rfl)
theorem dJ2_rangeCheckForAdd_12 : decode cJ2_rangeCheckForAdd 12 = .ok (.new 187, 3) := dk_187 0 187 (dk_at dksJ2_rangeCheckForAdd_0 12 rfl rfl)
theorem dJ2_rangeCheckForAdd_15 : decode cJ2_rangeCheckForAdd 15 = .ok (.dup, 1) := dk_89 (dk_at dksJ2_rangeCheckForAdd_0 15 rfl rfl)
theorem dJ2_rangeCheckForAdd_16 : decode cJ2_rangeCheckForAdd 16 = .ok (.aload_n 0, 1) := dk_42 (dk_at dksJ2_rangeCheckForAdd_0 16 rfl rfl)
theorem dJ2_rangeCheckForAdd_17 : decode cJ2_rangeCheckForAdd 17 = .ok (.iload_n 1, 1) := dk_27 (dk_at dksJ2_rangeCheckForAdd_0 17 rfl rfl)
theorem dJ2_rangeCheckForAdd_18 : decode cJ2_rangeCheckForAdd 18 = .ok (.invokevirtual 198, 3) := dk_182 0 198 (dk_at dksJ2_rangeCheckForAdd_0 18 rfl rfl)
theorem dJ2_rangeCheckForAdd_21 : decode cJ2_rangeCheckForAdd 21 = .ok (.invokespecial 193, 3) := dk_183 0 193 (dk_at dksJ2_rangeCheckForAdd_0 21 rfl rfl)
theorem dJ2_rangeCheckForAdd_24 : decode cJ2_rangeCheckForAdd 24 = .ok (.athrow, 1) := dk_191 (dk_at dksJ2_rangeCheckForAdd_1 0 rfl rfl)
theorem dJ2_rangeCheckForAdd_25 : decode cJ2_rangeCheckForAdd 25 = .ok (.return_, 1) := dk_177 (dk_at dksJ2_rangeCheckForAdd_1 1 rfl rfl)
abbrev rm_J2_rangeCheckForAdd : Room := { frames := 0, cells := 0, slots := 0, locals := 0 }
def w_J2_rangeCheckForAdd (a0 : Option Nat) (a1 : Int32) (h : AH) (P : AH → Prop) : Prop :=
  g_i h a0 15 2 fun y2 =>
  ((y2 < a1 →
    False) ∧
   (¬ y2 < a1 →
    ((0 ≤ a1 →
      P h) ∧
     (¬ 0 ≤ a1 →
      False))))
theorem met_J2_rangeCheckForAdd (l : Launch) (hlt : l.stackTraces = false) (G : GG) (h : AH) (a0 : Option Nat) (a1 : Int32) (P : AH → Prop) (hw : w_J2_rangeCheckForAdd a0 a1 h P) : ct_v l yJ2_rangeCheckForAdd (ws_ yJ2_rangeCheckForAdd cJ2_rangeCheckForAdd 2 (Option.none : Option Jvm.ClassFile.FieldType)) rm_J2_rangeCheckForAdd G h [vR a0, vI a1] P := by
  refine j_startv hlt [(0, vR a0), (1, vI a1)] (plainFor_of_name (by decide)) rfl rfl (fun x X eG er en hQ => ?_)
  subst eG
  refine j_iload_n X (pc := 0) 1 dJ2_rangeCheckForAdd_0 rfl rfl ?_
  refine j_aload_n X (pc := 1) 0 dJ2_rangeCheckForAdd_1 rfl rfl ?_
  refine j_geti (ci := 15) X (pc := 2) in_J2 rfl (by decide) 2 (by decide) q144 (Or.inl rfl) dJ2_rangeCheckForAdd_2 hw (fun y2 hw => ?_)
  refine j_icmp_gt X (pc := 5) 12 dJ2_rangeCheckForAdd_5 (by decide) hw (fun hw => ?_) (fun hw => ?_)
  · exact hw.elim
  · refine j_iload_n X (pc := 8) 1 dJ2_rangeCheckForAdd_8 rfl rfl ?_
    refine j_if_ge X (pc := 9) 25 dJ2_rangeCheckForAdd_9 (by decide) hw (fun hw => ?_) (fun hw => ?_)
    · exact j_vret X (pc := 25) hQ er (Nat.le_of_ble_eq_true rfl) (Nat.le_of_ble_eq_true rfl) dJ2_rangeCheckForAdd_25 hw
    · exact hw.elim
abbrev cJ2_add_3 : ByteArray := prog_54_method_26_code
def yJ2_add_3 : MethodName := ⟨RJ2, "add", "(ILjava/lang/Object;)V"⟩
def dkwJ2_add_3_2 : List UInt8 := [29, 27, 100, 184, 0, 112, 25, 4, 27, 44, 83, 42, 29, 4, 96, 181, 0, 48, 177]
abbrev dktJ2_add_3_2 : List UInt8 := dkwJ2_add_3_2 ++ []
def dkwJ2_add_3_1 : List UInt8 := [180, 0, 9, 89, 58, 4, 190, 160, 0, 9, 42, 182, 0, 129, 58, 4, 25, 4, 27, 25, 4, 27, 4, 96]
abbrev dktJ2_add_3_1 : List UInt8 := dkwJ2_add_3_1 ++ dktJ2_add_3_2
def dkwJ2_add_3_0 : List UInt8 := [42, 27, 182, 0, 135, 42, 89, 180, 0, 63, 4, 96, 181, 0, 63, 42, 180, 0, 48, 89, 62, 42]
abbrev dktJ2_add_3_0 : List UInt8 := dkwJ2_add_3_0 ++ dktJ2_add_3_1
theorem dksJ2_add_3_0 : cJ2_add_3.data.toList.drop 0 = dktJ2_add_3_0 := by decide +kernel
theorem dksJ2_add_3_1 : cJ2_add_3.data.toList.drop 22 = dktJ2_add_3_1 := dk_seg dksJ2_add_3_0 22 rfl rfl
theorem dksJ2_add_3_2 : cJ2_add_3.data.toList.drop 46 = dktJ2_add_3_2 := dk_seg dksJ2_add_3_1 24 rfl rfl
theorem dJ2_add_3_0 : decode cJ2_add_3 0 = .ok (.aload_n 0, 1) := dk_42 (dk_at dksJ2_add_3_0 0 rfl rfl)
theorem dJ2_add_3_1 : decode cJ2_add_3 1 = .ok (.iload_n 1, 1) := dk_27 (dk_at dksJ2_add_3_0 1 rfl rfl)
theorem dJ2_add_3_2 : decode cJ2_add_3 2 = .ok (.invokevirtual 135, 3) := dk_182 0 135 (dk_at dksJ2_add_3_0 2 rfl rfl)
theorem dJ2_add_3_5 : decode cJ2_add_3 5 = .ok (.aload_n 0, 1) := dk_42 (dk_at dksJ2_add_3_0 5 rfl rfl)
theorem dJ2_add_3_6 : decode cJ2_add_3 6 = .ok (.dup, 1) := dk_89 (dk_at dksJ2_add_3_0 6 rfl rfl)
theorem dJ2_add_3_7 : decode cJ2_add_3 7 = .ok (.getfield 63, 3) := dk_180 0 63 (dk_at dksJ2_add_3_0 7 rfl rfl)
theorem dJ2_add_3_10 : decode cJ2_add_3 10 = .ok (.iconst 1, 1) := dk_4 (dk_at dksJ2_add_3_0 10 rfl rfl)
theorem dJ2_add_3_11 : decode cJ2_add_3 11 = .ok (.iadd, 1) := dk_96 (dk_at dksJ2_add_3_0 11 rfl rfl)
theorem dJ2_add_3_12 : decode cJ2_add_3 12 = .ok (.putfield 63, 3) := dk_181 0 63 (dk_at dksJ2_add_3_0 12 rfl rfl)
theorem dJ2_add_3_15 : decode cJ2_add_3 15 = .ok (.aload_n 0, 1) := dk_42 (dk_at dksJ2_add_3_0 15 rfl rfl)
theorem dJ2_add_3_16 : decode cJ2_add_3 16 = .ok (.getfield 48, 3) := dk_180 0 48 (dk_at dksJ2_add_3_0 16 rfl rfl)
theorem dJ2_add_3_19 : decode cJ2_add_3 19 = .ok (.dup, 1) := dk_89 (dk_at dksJ2_add_3_0 19 rfl rfl)
theorem dJ2_add_3_20 : decode cJ2_add_3 20 = .ok (.istore_n 3, 1) := dk_62 (dk_at dksJ2_add_3_0 20 rfl rfl)
theorem dJ2_add_3_21 : decode cJ2_add_3 21 = .ok (.aload_n 0, 1) := dk_42 (dk_at dksJ2_add_3_0 21 rfl rfl)
theorem dJ2_add_3_22 : decode cJ2_add_3 22 = .ok (.getfield 9, 3) := dk_180 0 9 (dk_at dksJ2_add_3_1 0 rfl rfl)
theorem dJ2_add_3_25 : decode cJ2_add_3 25 = .ok (.dup, 1) := dk_89 (dk_at dksJ2_add_3_1 3 rfl rfl)
theorem dJ2_add_3_26 : decode cJ2_add_3 26 = .ok (.astore 4, 2) := dk_58 4 (dk_at dksJ2_add_3_1 4 rfl rfl)
theorem dJ2_add_3_28 : decode cJ2_add_3 28 = .ok (.arraylength, 1) := dk_190 (dk_at dksJ2_add_3_1 6 rfl rfl)
theorem dJ2_add_3_29 : decode cJ2_add_3 29 = .ok (.if_icmp .ne 9, 3) := dk_160 0 9 (dk_at dksJ2_add_3_1 7 rfl rfl)
theorem dJ2_add_3_32 : decode cJ2_add_3 32 = .ok (.aload_n 0, 1) := dk_42 (dk_at dksJ2_add_3_1 10 rfl rfl)
theorem dJ2_add_3_33 : decode cJ2_add_3 33 = .ok (.invokevirtual 129, 3) := dk_182 0 129 (dk_at dksJ2_add_3_1 11 rfl rfl)
theorem dJ2_add_3_36 : decode cJ2_add_3 36 = .ok (.astore 4, 2) := dk_58 4 (dk_at dksJ2_add_3_1 14 rfl rfl)
theorem dJ2_add_3_38 : decode cJ2_add_3 38 = .ok (.aload 4, 2) := dk_25 4 (dk_at dksJ2_add_3_1 16 rfl rfl)
theorem dJ2_add_3_40 : decode cJ2_add_3 40 = .ok (.iload_n 1, 1) := dk_27 (dk_at dksJ2_add_3_1 18 rfl rfl)
theorem dJ2_add_3_41 : decode cJ2_add_3 41 = .ok (.aload 4, 2) := dk_25 4 (dk_at dksJ2_add_3_1 19 rfl rfl)
theorem dJ2_add_3_43 : decode cJ2_add_3 43 = .ok (.iload_n 1, 1) := dk_27 (dk_at dksJ2_add_3_1 21 rfl rfl)
theorem dJ2_add_3_44 : decode cJ2_add_3 44 = .ok (.iconst 1, 1) := dk_4 (dk_at dksJ2_add_3_1 22 rfl rfl)
theorem dJ2_add_3_45 : decode cJ2_add_3 45 = .ok (.iadd, 1) := dk_96 (dk_at dksJ2_add_3_1 23 rfl rfl)
theorem dJ2_add_3_46 : decode cJ2_add_3 46 = .ok (.iload_n 3, 1) := dk_29 (dk_at dksJ2_add_3_2 0 rfl rfl)
theorem dJ2_add_3_47 : decode cJ2_add_3 47 = .ok (.iload_n 1, 1) := dk_27 (dk_at dksJ2_add_3_2 1 rfl rfl)
theorem dJ2_add_3_48 : decode cJ2_add_3 48 = .ok (.isub, 1) := dk_100 (dk_at dksJ2_add_3_2 2 rfl rfl)
theorem dJ2_add_3_49 : decode cJ2_add_3 49 = .ok (.invokestatic 112, 3) := dk_184 0 112 (dk_at dksJ2_add_3_2 3 rfl rfl)
theorem dJ2_add_3_52 : decode cJ2_add_3 52 = .ok (.aload 4, 2) := dk_25 4 (dk_at dksJ2_add_3_2 6 rfl rfl)
theorem dJ2_add_3_54 : decode cJ2_add_3 54 = .ok (.iload_n 1, 1) := dk_27 (dk_at dksJ2_add_3_2 8 rfl rfl)
theorem dJ2_add_3_55 : decode cJ2_add_3 55 = .ok (.aload_n 2, 1) := dk_44 (dk_at dksJ2_add_3_2 9 rfl rfl)
theorem dJ2_add_3_56 : decode cJ2_add_3 56 = .ok (.aastore, 1) := dk_83 (dk_at dksJ2_add_3_2 10 rfl rfl)
theorem dJ2_add_3_57 : decode cJ2_add_3 57 = .ok (.aload_n 0, 1) := dk_42 (dk_at dksJ2_add_3_2 11 rfl rfl)
theorem dJ2_add_3_58 : decode cJ2_add_3 58 = .ok (.iload_n 3, 1) := dk_29 (dk_at dksJ2_add_3_2 12 rfl rfl)
theorem dJ2_add_3_59 : decode cJ2_add_3 59 = .ok (.iconst 1, 1) := dk_4 (dk_at dksJ2_add_3_2 13 rfl rfl)
theorem dJ2_add_3_60 : decode cJ2_add_3 60 = .ok (.iadd, 1) := dk_96 (dk_at dksJ2_add_3_2 14 rfl rfl)
theorem dJ2_add_3_61 : decode cJ2_add_3 61 = .ok (.putfield 48, 3) := dk_181 0 48 (dk_at dksJ2_add_3_2 15 rfl rfl)
theorem dJ2_add_3_64 : decode cJ2_add_3 64 = .ok (.return_, 1) := dk_177 (dk_at dksJ2_add_3_2 18 rfl rfl)
theorem q793 : (Jvm.Cond.methodLink "java/util/ArrayList" (135 : Nat) ({ cls := "java/util/ArrayList", name := "rangeCheckForAdd", desc := "(I)V" } : Jvm.MethodName)) ∈ lw_all := lw_g (lw_at lw_m4 3 rfl) rfl
theorem q795 : (Jvm.Cond.instanceMethod ({ cls := "java/util/ArrayList", name := "rangeCheckForAdd", desc := "(I)V" } : Jvm.MethodName)) ∈ lw_all := lw_g (lw_at lw_m4 5 rfl) rfl
theorem q796 : (Jvm.Cond.code ({ cls := "java/util/ArrayList", name := "rangeCheckForAdd", desc := "(I)V" } : Jvm.MethodName) prog_54_method_45_code (2 : Nat) (Option.none : Option Jvm.ClassFile.FieldType)) ∈ lw_all := lw_g (lw_at lw_m4 6 rfl) rfl
theorem q1059 : (Jvm.Cond.methodLink "java/util/ArrayList" (112 : Nat) ({ cls := "java/lang/System", name := "arraycopy", desc := "(Ljava/lang/Object;ILjava/lang/Object;II)V" } : Jvm.MethodName)) ∈ lw_all := lw_g (lw_at lw_m5 29 rfl) rfl
abbrev rm_J2_add_3 : Room := { frames := 5, cells := 1, slots := 64, locals := 127 }
def w_J2_add_3_38 (P : AH → Prop) (x0 : Option Nat) (x1 : Int32) (x2 : Option Nat) (x3 : Int32) (x4 : Option Nat) (h : AH) : Prop :=
  cp_q h x4 x1 x4 (x1 + 1) (x3 - x1) fun h49 =>
  s_q h49 x4 8 x1 x2 fun h56 =>
  p_v h56 x0 15 2 (vI (x3 + 1)) fun h61 =>
  P h61
def w_J2_add_3 (a0 : Option Nat) (a1 : Int32) (a2 : Option Nat) (h : AH) (P : AH → Prop) : Prop :=
  is_c h a0 [15] (
  w_J2_rangeCheckForAdd a0 a1 h (fun h2 =>
  g_i h2 a0 15 0 fun y7 =>
  p_v h2 a0 15 0 (vI (y7 + 1)) fun h12 =>
  g_i h12 a0 15 2 fun y16 =>
  g_q h12 a0 15 1 fun y22 =>
  n_a h12 y22 fun y28 =>
  ((y16 = y28 →
    is_c h12 a0 [15] (
    w_J2_grow a0 h12 (fun y33 h33 =>
    w_J2_add_3_38 P a0 a1 a2 y16 y33 h33))) ∧
   (¬ y16 = y28 →
    w_J2_add_3_38 P a0 a1 a2 y16 y22 h12))))
theorem wk_J2_add_3_38 {x : CX} (X : Ok x cJ2_add_3 RJ2 rm_J2_add_3 5) (er : xrt x = (Option.none : Option Jvm.ClassFile.FieldType)) (en : xnm x = yJ2_add_3.name) {P : AH → Prop} (hQ : xr_v x P) (x0 : Option Nat) (x1 : Int32) (x2 : Option Nat) (x3 : Int32) (x4 : Option Nat) (h : AH) (hw : w_J2_add_3_38 P x0 x1 x2 x3 x4 h) : J x h 1 64 38 [(0, vR x0), (1, vI x1), (2, vR x2), (3, vI x3), (4, vR x4)] [] := by
  refine j_aload X (pc := 38) 4 dJ2_add_3_38 rfl ?_
  refine j_iload_n X (pc := 40) 1 dJ2_add_3_40 rfl rfl ?_
  refine j_aload X (pc := 41) 4 dJ2_add_3_41 rfl ?_
  refine j_iload_n X (pc := 43) 1 dJ2_add_3_43 rfl rfl ?_
  refine j_iconst X (pc := 44) 1 dJ2_add_3_44 (by decide) ?_
  refine j_iadd X (pc := 45) dJ2_add_3_45 ?_
  refine j_iload_n X (pc := 46) 3 dJ2_add_3_46 rfl rfl ?_
  refine j_iload_n X (pc := 47) 1 dJ2_add_3_47 rfl rfl ?_
  refine j_isub X (pc := 48) dJ2_add_3_48 ?_
  refine j_copy X (pc := 49) q1059 q674 q673 q99 ⟨Nat.le_of_ble_eq_true rfl, by decide⟩ dJ2_add_3_49 hw (fun h49 hw => ?_)
  refine j_aload X (pc := 52) 4 dJ2_add_3_52 rfl ?_
  refine j_iload_n X (pc := 54) 1 dJ2_add_3_54 rfl rfl ?_
  refine j_aload_n X (pc := 55) 2 dJ2_add_3_55 rfl rfl ?_
  refine j_aast X (pc := 56) 8 (Nat.le_of_ble_eq_true rfl) rfl dJ2_add_3_56 hw (fun h56 hw => ?_)
  refine j_aload_n X (pc := 57) 0 dJ2_add_3_57 rfl rfl ?_
  refine j_iload_n X (pc := 58) 3 dJ2_add_3_58 rfl rfl ?_
  refine j_iconst X (pc := 59) 1 dJ2_add_3_59 (by decide) ?_
  refine j_iadd X (pc := 60) dJ2_add_3_60 ?_
  refine j_put (ci := 15) X (pc := 61) in_J2 rfl (by decide) 2 (by decide) q144 (Or.inl rfl) tyJ2 tyJ2_ok nmJ2 rfl rfl (ty := .int) (tyJ2_ok 2 (by decide)) rfl rfl dJ2_add_3_61 hw (fun h61 hw => ?_)
  exact j_vret X (pc := 64) hQ er (Nat.le_of_ble_eq_true rfl) (Nat.le_of_ble_eq_true rfl) dJ2_add_3_64 hw
theorem met_J2_add_3 (l : Launch) (hlt : l.stackTraces = false) (G : GG) (h : AH) (a0 : Option Nat) (a1 : Int32) (a2 : Option Nat) (P : AH → Prop) (hw : w_J2_add_3 a0 a1 a2 h P) : ct_v l yJ2_add_3 (ws_ yJ2_add_3 cJ2_add_3 5 (Option.none : Option Jvm.ClassFile.FieldType)) rm_J2_add_3 G h [vR a0, vI a1, vR a2] P := by
  refine j_startv hlt [(0, vR a0), (1, vI a1), (2, vR a2)] (plainFor_of_name (by decide)) rfl rfl (fun x X eG er en hQ => ?_)
  subst eG
  refine j_aload_n X (pc := 0) 0 dJ2_add_3_0 rfl rfl ?_
  refine j_iload_n X (pc := 1) 1 dJ2_add_3_1 rfl rfl ?_
  obtain ⟨b9, c9, f9, hr9, ho9, hc9, hw⟩ := hw
  obtain rfl := List.mem_singleton.mp hc9
  refine j_callv (j_runV (n8 := 1) (As := [vI a1]) (rest := []) X (pc := 2) hr9 (met_J2_rangeCheckForAdd (xl x) X.hl (xG x) h a0 a1 _ hw) ho9 (by decide) rfl q793 q795 qs7 q74 q796 (by decide +kernel) dJ2_add_3_2 rfl ⟨Nat.le_of_ble_eq_true rfl, Nat.le_of_ble_eq_true rfl⟩ (Nat.le_of_ble_eq_true rfl) ⟨Nat.le_of_ble_eq_true rfl, Nat.le_of_ble_eq_true rfl⟩) (fun h2 hw => ?_)
  refine j_aload_n X (pc := 5) 0 dJ2_add_3_5 rfl rfl ?_
  refine j_dup X (pc := 6) dJ2_add_3_6 rfl ?_
  refine j_geti (ci := 15) X (pc := 7) in_J2 rfl (by decide) 0 (by decide) q148 (Or.inr q147) dJ2_add_3_7 hw (fun y7 hw => ?_)
  refine j_iconst X (pc := 10) 1 dJ2_add_3_10 (by decide) ?_
  refine j_iadd X (pc := 11) dJ2_add_3_11 ?_
  refine j_put (ci := 15) X (pc := 12) in_J2 rfl (by decide) 0 (by decide) q148 (Or.inr q147) tyJ2 tyJ2_ok nmJ2 rfl rfl (ty := .int) (tyJ2_ok 0 (by decide)) rfl rfl dJ2_add_3_12 hw (fun h12 hw => ?_)
  refine j_aload_n X (pc := 15) 0 dJ2_add_3_15 rfl rfl ?_
  refine j_geti (ci := 15) X (pc := 16) in_J2 rfl (by decide) 2 (by decide) q144 (Or.inl rfl) dJ2_add_3_16 hw (fun y16 hw => ?_)
  refine j_dup X (pc := 19) dJ2_add_3_19 rfl ?_
  refine j_istore_n X (pc := 20) [(3, vI y16), (0, vR a0), (1, vI a1), (2, vR a2)] dJ2_add_3_20 rfl (Nat.le_of_ble_eq_true rfl) rfl ?_
  refine j_aload_n X (pc := 21) 1 dJ2_add_3_21 rfl rfl ?_
  refine j_getq (ci := 15) X (pc := 22) in_J2 rfl (by decide) 1 (by decide) q141 (Or.inl rfl) dJ2_add_3_22 hw (fun y22 hw => ?_)
  refine j_dup X (pc := 25) dJ2_add_3_25 rfl ?_
  refine j_astore X (pc := 26) [(4, vR y22), (3, vI y16), (0, vR a0), (1, vI a1), (2, vR a2)] dJ2_add_3_26 (Nat.le_of_ble_eq_true rfl) rfl ?_
  refine j_alen X (pc := 28) dJ2_add_3_28 hw (fun y28 hw => ?_)
  refine j_icmp_ne X (pc := 29) 38 dJ2_add_3_29 (by decide) hw (fun hw => ?_) (fun hw => ?_)
  · refine j_aload_n X (pc := 32) 2 dJ2_add_3_32 rfl rfl ?_
    obtain ⟨b9, c9, f9, hr9, ho9, hc9, hw⟩ := hw
    obtain rfl := List.mem_singleton.mp hc9
    refine j_callq (j_runV (n8 := 0) (As := []) (rest := []) X (pc := 33) hr9 (met_J2_grow (xl x) X.hl (xG x) h12 a0 _ hw) ho9 (by decide) rfl q610 q612 qs4 q74 q613 (by decide +kernel) dJ2_add_3_33 rfl ⟨Nat.le_of_ble_eq_true rfl, Nat.le_of_ble_eq_true rfl⟩ (Nat.le_of_ble_eq_true rfl) ⟨Nat.le_of_ble_eq_true rfl, Nat.le_of_ble_eq_true rfl⟩) (fun y33 h33 hw => ?_)
    refine j_astore X (pc := 36) [(4, vR y33), (3, vI y16), (0, vR a0), (1, vI a1), (2, vR a2)] dJ2_add_3_36 (Nat.le_of_ble_eq_true rfl) rfl ?_
    refine j_lv [(0, vR a0), (1, vI a1), (2, vR a2), (3, vI y16), (4, vR y33)] [2, 3, 4, 1, 0] rfl ?_
    refine j_cs (u' := 1) (v' := 64) (Nat.le_of_ble_eq_true rfl) (Nat.le_of_ble_eq_true rfl) ?_
    exact wk_J2_add_3_38 X er en hQ a0 a1 a2 y16 y33 h33 hw
  · refine j_lv [(0, vR a0), (1, vI a1), (2, vR a2), (3, vI y16), (4, vR y22)] [2, 3, 4, 1, 0] rfl ?_
    refine j_cs (u' := 1) (v' := 64) (Nat.le_of_ble_eq_true rfl) (Nat.le_of_ble_eq_true rfl) ?_
    exact wk_J2_add_3_38 X er en hQ a0 a1 a2 y16 y22 h12 hw
abbrev cX4_add : ByteArray := prog_16_method_4_code
def yX4_add : MethodName := ⟨RX4, "add", "(ILjava/lang/Object;)V"⟩
def dkwX4_add_0 : List UInt8 := [42, 180, 0, 10, 27, 44, 182, 0, 24, 177]
abbrev dktX4_add_0 : List UInt8 := dkwX4_add_0 ++ []
theorem dksX4_add_0 : cX4_add.data.toList.drop 0 = dktX4_add_0 := by decide +kernel
theorem dX4_add_0 : decode cX4_add 0 = .ok (.aload_n 0, 1) := dk_42 (dk_at dksX4_add_0 0 rfl rfl)
theorem dX4_add_1 : decode cX4_add 1 = .ok (.getfield 10, 3) := dk_180 0 10 (dk_at dksX4_add_0 1 rfl rfl)
theorem dX4_add_4 : decode cX4_add 4 = .ok (.iload_n 1, 1) := dk_27 (dk_at dksX4_add_0 4 rfl rfl)
theorem dX4_add_5 : decode cX4_add 5 = .ok (.aload_n 2, 1) := dk_44 (dk_at dksX4_add_0 5 rfl rfl)
theorem dX4_add_6 : decode cX4_add 6 = .ok (.invokevirtual 24, 3) := dk_182 0 24 (dk_at dksX4_add_0 6 rfl rfl)
theorem dX4_add_9 : decode cX4_add 9 = .ok (.return_, 1) := dk_177 (dk_at dksX4_add_0 9 rfl rfl)
theorem q789 : (Jvm.Cond.methodLink "Plugboard$Sequence" (24 : Nat) ({ cls := "java/util/ArrayList", name := "add", desc := "(ILjava/lang/Object;)V" } : Jvm.MethodName)) ∈ lw_all := lw_g (lw_at lw_m3 239 rfl) rfl
theorem q790 : (Jvm.Cond.instanceMethod ({ cls := "java/util/ArrayList", name := "add", desc := "(ILjava/lang/Object;)V" } : Jvm.MethodName)) ∈ lw_all := lw_g (lw_at lw_m4 0 rfl) rfl
theorem q791 : (Jvm.Cond.selects "java/util/ArrayList" ({ cls := "java/util/ArrayList", name := "add", desc := "(ILjava/lang/Object;)V" } : Jvm.MethodName) ({ cls := "java/util/ArrayList", name := "add", desc := "(ILjava/lang/Object;)V" } : Jvm.MethodName)) ∈ lw_all := lw_g (lw_at lw_m4 1 rfl) rfl
theorem q792 : (Jvm.Cond.code ({ cls := "java/util/ArrayList", name := "add", desc := "(ILjava/lang/Object;)V" } : Jvm.MethodName) prog_54_method_26_code (5 : Nat) (Option.none : Option Jvm.ClassFile.FieldType)) ∈ lw_all := lw_g (lw_at lw_m4 2 rfl) rfl
abbrev rm_X4_add : Room := { frames := 6, cells := 1, slots := 64, locals := 151 }
def w_X4_add (a0 : Option Nat) (a1 : Int32) (a2 : Option Nat) (h : AH) (P : AH → Prop) : Prop :=
  g_q h a0 3 0 fun y1 =>
  is_c h y1 [15] (
  w_J2_add_3 y1 a1 a2 h (fun h6 =>
  P h6))
theorem met_X4_add (l : Launch) (hlt : l.stackTraces = false) (G : GG) (h : AH) (a0 : Option Nat) (a1 : Int32) (a2 : Option Nat) (P : AH → Prop) (hw : w_X4_add a0 a1 a2 h P) : ct_v l yX4_add (ws_ yX4_add cX4_add 3 (Option.none : Option Jvm.ClassFile.FieldType)) rm_X4_add G h [vR a0, vI a1, vR a2] P := by
  refine j_startv hlt [(0, vR a0), (1, vI a1), (2, vR a2)] (plainFor_of_name (by decide)) rfl rfl (fun x X eG er en hQ => ?_)
  subst eG
  refine j_aload_n X (pc := 0) 0 dX4_add_0 rfl rfl ?_
  refine j_getq (ci := 3) X (pc := 1) in_X4 rfl (by decide) 0 (by decide) q198 (Or.inl rfl) dX4_add_1 hw (fun y1 hw => ?_)
  refine j_iload_n X (pc := 4) 1 dX4_add_4 rfl rfl ?_
  refine j_aload_n X (pc := 5) 2 dX4_add_5 rfl rfl ?_
  obtain ⟨b9, c9, f9, hr9, ho9, hc9, hw⟩ := hw
  obtain rfl := List.mem_singleton.mp hc9
  refine j_callv (j_runV (n8 := 2) (As := [vI a1, vR a2]) (rest := []) X (pc := 6) hr9 (met_J2_add_3 (xl x) X.hl (xG x) h y1 a1 a2 _ hw) ho9 (by decide) rfl q789 q790 q791 q74 q792 (by decide +kernel) dX4_add_6 rfl ⟨Nat.le_of_ble_eq_true rfl, Nat.le_of_ble_eq_true rfl⟩ (Nat.le_of_ble_eq_true rfl) ⟨Nat.le_of_ble_eq_true rfl, Nat.le_of_ble_eq_true rfl⟩) (fun h6 hw => ?_)
  exact j_vret X (pc := 9) hQ er (Nat.le_of_ble_eq_true rfl) (Nat.le_of_ble_eq_true rfl) dX4_add_9 hw
abbrev cX1_insert : ByteArray := prog_1_method_8_code
def yX1_insert : MethodName := ⟨RX1, "insert", "(LPlugboard$Sequence;Ljava/lang/Object;LPlugboard$Later;)V"⟩
def dkwX1_insert_1 : List UInt8 := [153, 0, 9, 132, 3, 255, 167, 255, 232, 42, 29, 43, 182, 0, 45, 177]
abbrev dktX1_insert_1 : List UInt8 := dkwX1_insert_1 ++ []
def dkwX1_insert_0 : List UInt8 := [42, 182, 0, 29, 62, 29, 158, 0, 26, 44, 42, 29, 4, 100, 182, 0, 35, 43, 185, 0, 39, 3, 0]
abbrev dktX1_insert_0 : List UInt8 := dkwX1_insert_0 ++ dktX1_insert_1
theorem dksX1_insert_0 : cX1_insert.data.toList.drop 0 = dktX1_insert_0 := by decide +kernel
theorem dksX1_insert_1 : cX1_insert.data.toList.drop 23 = dktX1_insert_1 := dk_seg dksX1_insert_0 23 rfl rfl
theorem dX1_insert_0 : decode cX1_insert 0 = .ok (.aload_n 0, 1) := dk_42 (dk_at dksX1_insert_0 0 rfl rfl)
theorem dX1_insert_1 : decode cX1_insert 1 = .ok (.invokevirtual 29, 3) := dk_182 0 29 (dk_at dksX1_insert_0 1 rfl rfl)
theorem dX1_insert_4 : decode cX1_insert 4 = .ok (.istore_n 3, 1) := dk_62 (dk_at dksX1_insert_0 4 rfl rfl)
theorem dX1_insert_5 : decode cX1_insert 5 = .ok (.iload_n 3, 1) := dk_29 (dk_at dksX1_insert_0 5 rfl rfl)
theorem dX1_insert_6 : decode cX1_insert 6 = .ok (.ifCond .le 26, 3) := dk_158 0 26 (dk_at dksX1_insert_0 6 rfl rfl)
theorem dX1_insert_9 : decode cX1_insert 9 = .ok (.aload_n 2, 1) := dk_44 (dk_at dksX1_insert_0 9 rfl rfl)
theorem dX1_insert_10 : decode cX1_insert 10 = .ok (.aload_n 0, 1) := dk_42 (dk_at dksX1_insert_0 10 rfl rfl)
theorem dX1_insert_11 : decode cX1_insert 11 = .ok (.iload_n 3, 1) := dk_29 (dk_at dksX1_insert_0 11 rfl rfl)
theorem dX1_insert_12 : decode cX1_insert 12 = .ok (.iconst 1, 1) := dk_4 (dk_at dksX1_insert_0 12 rfl rfl)
theorem dX1_insert_13 : decode cX1_insert 13 = .ok (.isub, 1) := dk_100 (dk_at dksX1_insert_0 13 rfl rfl)
theorem dX1_insert_14 : decode cX1_insert 14 = .ok (.invokevirtual 35, 3) := dk_182 0 35 (dk_at dksX1_insert_0 14 rfl rfl)
theorem dX1_insert_17 : decode cX1_insert 17 = .ok (.aload_n 1, 1) := dk_43 (dk_at dksX1_insert_0 17 rfl rfl)
theorem dX1_insert_18 : decode cX1_insert 18 = .ok (.invokeinterface 39 3, 5) := by decide +kernel
theorem dX1_insert_23 : decode cX1_insert 23 = .ok (.ifCond .eq 9, 3) := dk_153 0 9 (dk_at dksX1_insert_1 0 rfl rfl)
theorem dX1_insert_26 : decode cX1_insert 26 = .ok (.iinc 3 (-1), 3) := dk_132 3 255 (dk_at dksX1_insert_1 3 rfl rfl)
theorem dX1_insert_29 : decode cX1_insert 29 = .ok (.goto (-24), 3) := dk_167 255 232 (dk_at dksX1_insert_1 6 rfl rfl)
theorem dX1_insert_32 : decode cX1_insert 32 = .ok (.aload_n 0, 1) := dk_42 (dk_at dksX1_insert_1 9 rfl rfl)
theorem dX1_insert_33 : decode cX1_insert 33 = .ok (.iload_n 3, 1) := dk_29 (dk_at dksX1_insert_1 10 rfl rfl)
theorem dX1_insert_34 : decode cX1_insert 34 = .ok (.aload_n 1, 1) := dk_43 (dk_at dksX1_insert_1 11 rfl rfl)
theorem dX1_insert_35 : decode cX1_insert 35 = .ok (.invokevirtual 45, 3) := dk_182 0 45 (dk_at dksX1_insert_1 12 rfl rfl)
theorem dX1_insert_38 : decode cX1_insert 38 = .ok (.return_, 1) := dk_177 (dk_at dksX1_insert_1 15 rfl rfl)
theorem q756 : (Jvm.Cond.methodLink "Plugboard" (29 : Nat) ({ cls := "Plugboard$Sequence", name := "size", desc := "()I" } : Jvm.MethodName)) ∈ lw_all := lw_g (lw_at lw_m3 206 rfl) rfl
theorem q757 : (Jvm.Cond.instanceMethod ({ cls := "Plugboard$Sequence", name := "size", desc := "()I" } : Jvm.MethodName)) ∈ lw_all := lw_g (lw_at lw_m3 207 rfl) rfl
theorem q758 : (Jvm.Cond.selects "Plugboard$Sequence" ({ cls := "Plugboard$Sequence", name := "size", desc := "()I" } : Jvm.MethodName) ({ cls := "Plugboard$Sequence", name := "size", desc := "()I" } : Jvm.MethodName)) ∈ lw_all := lw_g (lw_at lw_m3 208 rfl) rfl
theorem q759 : (Jvm.Cond.code ({ cls := "Plugboard$Sequence", name := "size", desc := "()I" } : Jvm.MethodName) prog_16_method_3_code (1 : Nat) (Option.some Jvm.ClassFile.FieldType.int)) ∈ lw_all := lw_g (lw_at lw_m3 209 rfl) rfl
theorem q761 : (Jvm.Cond.methodLink "Plugboard" (35 : Nat) ({ cls := "Plugboard$Sequence", name := "at", desc := "(I)Ljava/lang/Object;" } : Jvm.MethodName)) ∈ lw_all := lw_g (lw_at lw_m3 211 rfl) rfl
theorem q762 : (Jvm.Cond.instanceMethod ({ cls := "Plugboard$Sequence", name := "at", desc := "(I)Ljava/lang/Object;" } : Jvm.MethodName)) ∈ lw_all := lw_g (lw_at lw_m3 212 rfl) rfl
theorem q763 : (Jvm.Cond.selects "Plugboard$Sequence" ({ cls := "Plugboard$Sequence", name := "at", desc := "(I)Ljava/lang/Object;" } : Jvm.MethodName) ({ cls := "Plugboard$Sequence", name := "at", desc := "(I)Ljava/lang/Object;" } : Jvm.MethodName)) ∈ lw_all := lw_g (lw_at lw_m3 213 rfl) rfl
theorem q764 : (Jvm.Cond.code ({ cls := "Plugboard$Sequence", name := "at", desc := "(I)Ljava/lang/Object;" } : Jvm.MethodName) prog_16_method_2_code (2 : Nat) (Option.some (Jvm.ClassFile.FieldType.object "java/lang/Object"))) ∈ lw_all := lw_g (lw_at lw_m3 214 rfl) rfl
theorem q767 : (Jvm.Cond.methodLink "Plugboard" (39 : Nat) ({ cls := "Plugboard$Later", name := "isLater", desc := "(Ljava/lang/Object;Ljava/lang/Object;)Z" } : Jvm.MethodName)) ∈ lw_all := lw_g (lw_at lw_m3 217 rfl) rfl
theorem q771 : (Jvm.Cond.selects "Plugboard$ByStamp" ({ cls := "Plugboard$Later", name := "isLater", desc := "(Ljava/lang/Object;Ljava/lang/Object;)Z" } : Jvm.MethodName) ({ cls := "Plugboard$ByStamp", name := "isLater", desc := "(Ljava/lang/Object;Ljava/lang/Object;)Z" } : Jvm.MethodName)) ∈ lw_all := lw_g (lw_at lw_m3 221 rfl) rfl
theorem q773 : (Jvm.Cond.instanceMethod ({ cls := "Plugboard$ByStamp", name := "isLater", desc := "(Ljava/lang/Object;Ljava/lang/Object;)Z" } : Jvm.MethodName)) ∈ lw_all := lw_g (lw_at lw_m3 223 rfl) rfl
theorem q775 : (Jvm.Cond.code ({ cls := "Plugboard$ByStamp", name := "isLater", desc := "(Ljava/lang/Object;Ljava/lang/Object;)Z" } : Jvm.MethodName) prog_6_method_3_code (3 : Nat) (Option.some Jvm.ClassFile.FieldType.boolean)) ∈ lw_all := lw_g (lw_at lw_m3 225 rfl) rfl
theorem q785 : (Jvm.Cond.methodLink "Plugboard" (45 : Nat) ({ cls := "Plugboard$Sequence", name := "add", desc := "(ILjava/lang/Object;)V" } : Jvm.MethodName)) ∈ lw_all := lw_g (lw_at lw_m3 235 rfl) rfl
theorem q786 : (Jvm.Cond.instanceMethod ({ cls := "Plugboard$Sequence", name := "add", desc := "(ILjava/lang/Object;)V" } : Jvm.MethodName)) ∈ lw_all := lw_g (lw_at lw_m3 236 rfl) rfl
theorem q787 : (Jvm.Cond.selects "Plugboard$Sequence" ({ cls := "Plugboard$Sequence", name := "add", desc := "(ILjava/lang/Object;)V" } : Jvm.MethodName) ({ cls := "Plugboard$Sequence", name := "add", desc := "(ILjava/lang/Object;)V" } : Jvm.MethodName)) ∈ lw_all := lw_g (lw_at lw_m3 237 rfl) rfl
theorem q788 : (Jvm.Cond.code ({ cls := "Plugboard$Sequence", name := "add", desc := "(ILjava/lang/Object;)V" } : Jvm.MethodName) prog_16_method_4_code (3 : Nat) (Option.none : Option Jvm.ClassFile.FieldType)) ∈ lw_all := lw_g (lw_at lw_m3 238 rfl) rfl
abbrev rm_X1_insert : Room := { frames := 7, cells := 1, slots := 64, locals := 173 }
def w_X1_insert_5 (P : AH → Prop) (x0 : Option Nat) (x1 : Option Nat) (x2 : Option Nat) (x3 : Int32) (h : AH) : Prop :=
  ∀ Z5 : Int32 → AH → Prop, (∀ x3 h, (
      ((x3 ≤ 0 →
        is_c h x0 [3] (
        w_X4_add x0 x3 x1 h (fun h35 =>
        P h35))) ∧
       (¬ x3 ≤ 0 →
        is_c h x0 [3] (
        w_X4_at x0 (x3 - 1) h (fun y14 h14 =>
        is_c h14 x2 [10] (
        w_X12_isLater x2 y14 x1 h14 (fun y18 h18 =>
        ((y18 = 0 →
          is_c h18 x0 [3] (
          w_X4_add x0 x3 x1 h18 (fun h35 =>
          P h35))) ∧
         (¬ y18 = 0 →
          Z5 (x3 + (-1)) h18)))))))))
      → Z5 x3 h) → Z5 x3 h
def w_X1_insert (a0 : Option Nat) (a1 : Option Nat) (a2 : Option Nat) (h : AH) (P : AH → Prop) : Prop :=
  is_c h a0 [3] (
  w_X4_size a0 h (fun y1 h1 =>
  w_X1_insert_5 P a0 a1 a2 y1 h1))
theorem wk_X1_insert_5 {x : CX} (X : Ok x cX1_insert RX1 rm_X1_insert 4) (er : xrt x = (Option.none : Option Jvm.ClassFile.FieldType)) (en : xnm x = yX1_insert.name) {P : AH → Prop} (hQ : xr_v x P) (x0 : Option Nat) (x1 : Option Nat) (x2 : Option Nat) (x3 : Int32) (h : AH) (hw : w_X1_insert_5 P x0 x1 x2 x3 h) : J x h 0 0 5 [(0, vR x0), (1, vR x1), (2, vR x2), (3, vI x3)] [] := by
  refine hw (fun x3 h => J x h 0 0 5 [(0, vR x0), (1, vR x1), (2, vR x2), (3, vI x3)] []) (fun x3 h hw => ?_)
  refine j_iload_n X (pc := 5) 3 dX1_insert_5 rfl rfl ?_
  refine j_if_le X (pc := 6) 32 dX1_insert_6 (by decide) hw (fun hw => ?_) (fun hw => ?_)
  · refine j_aload_n X (pc := 32) 0 dX1_insert_32 rfl rfl ?_
    refine j_iload_n X (pc := 33) 3 dX1_insert_33 rfl rfl ?_
    refine j_aload_n X (pc := 34) 1 dX1_insert_34 rfl rfl ?_
    obtain ⟨b9, c9, f9, hr9, ho9, hc9, hw⟩ := hw
    obtain rfl := List.mem_singleton.mp hc9
    refine j_callv (j_runV (n8 := 2) (As := [vI x3, vR x1]) (rest := []) X (pc := 35) hr9 (met_X4_add (xl x) X.hl (xG x) h x0 x3 x1 _ hw) ho9 (by decide) rfl q785 q786 q787 q77 q788 (by decide +kernel) dX1_insert_35 rfl ⟨Nat.le_of_ble_eq_true rfl, Nat.le_of_ble_eq_true rfl⟩ (Nat.le_of_ble_eq_true rfl) ⟨Nat.le_of_ble_eq_true rfl, Nat.le_of_ble_eq_true rfl⟩) (fun h35 hw => ?_)
    exact j_vret X (pc := 38) hQ er (Nat.le_of_ble_eq_true rfl) (Nat.le_of_ble_eq_true rfl) dX1_insert_38 hw
  · refine j_aload_n X (pc := 9) 2 dX1_insert_9 rfl rfl ?_
    refine j_aload_n X (pc := 10) 0 dX1_insert_10 rfl rfl ?_
    refine j_iload_n X (pc := 11) 3 dX1_insert_11 rfl rfl ?_
    refine j_iconst X (pc := 12) 1 dX1_insert_12 (by decide) ?_
    refine j_isub X (pc := 13) dX1_insert_13 ?_
    obtain ⟨b9, c9, f9, hr9, ho9, hc9, hw⟩ := hw
    obtain rfl := List.mem_singleton.mp hc9
    refine j_callq (j_runV (n8 := 1) (As := [vI (x3 - 1)]) (rest := [vR x2]) X (pc := 14) hr9 (met_X4_at (xl x) X.hl (xG x) h x0 (x3 - 1) _ hw) ho9 (by decide) rfl q761 q762 q763 q77 q764 (by decide +kernel) dX1_insert_14 rfl ⟨Nat.le_of_ble_eq_true rfl, Nat.le_of_ble_eq_true rfl⟩ (Nat.le_of_ble_eq_true rfl) ⟨Nat.le_of_ble_eq_true rfl, Nat.le_of_ble_eq_true rfl⟩) (fun y14 h14 hw => ?_)
    refine j_aload_n X (pc := 17) 1 dX1_insert_17 rfl rfl ?_
    obtain ⟨b9, c9, f9, hr9, ho9, hc9, hw⟩ := hw
    obtain rfl := List.mem_singleton.mp hc9
    refine j_call5i (j_runF (n8 := 2) (As := [vR y14, vR x1]) (rest := []) X (pc := 18) hr9 (met_X12_isLater (xl x) X.hl (xG x) h14 x2 y14 x1 _ hw) ho9 (by decide) rfl q767 q771 q773 q101 q775 (fun U hU => kt_F4 hU) (by decide +kernel) dX1_insert_18 rfl ⟨Nat.le_of_ble_eq_true rfl, Nat.le_of_ble_eq_true rfl⟩ (Nat.le_of_ble_eq_true rfl) ⟨Nat.le_of_ble_eq_true rfl, Nat.le_of_ble_eq_true rfl⟩) (fun y18 h18 hw => ?_)
    refine j_if_eq X (pc := 23) 32 dX1_insert_23 (by decide) hw (fun hw => ?_) (fun hw => ?_)
    · refine j_aload_n X (pc := 32) 0 dX1_insert_32 rfl rfl ?_
      refine j_iload_n X (pc := 33) 3 dX1_insert_33 rfl rfl ?_
      refine j_aload_n X (pc := 34) 1 dX1_insert_34 rfl rfl ?_
      obtain ⟨b9, c9, f9, hr9, ho9, hc9, hw⟩ := hw
      obtain rfl := List.mem_singleton.mp hc9
      refine j_callv (j_runV (n8 := 2) (As := [vI x3, vR x1]) (rest := []) X (pc := 35) hr9 (met_X4_add (xl x) X.hl (xG x) h18 x0 x3 x1 _ hw) ho9 (by decide) rfl q785 q786 q787 q77 q788 (by decide +kernel) dX1_insert_35 rfl ⟨Nat.le_of_ble_eq_true rfl, Nat.le_of_ble_eq_true rfl⟩ (Nat.le_of_ble_eq_true rfl) ⟨Nat.le_of_ble_eq_true rfl, Nat.le_of_ble_eq_true rfl⟩) (fun h35 hw => ?_)
      exact j_vret X (pc := 38) hQ er (Nat.le_of_ble_eq_true rfl) (Nat.le_of_ble_eq_true rfl) dX1_insert_38 hw
    · refine j_iinc X (pc := 26) 3 (x3 + (-1)) [(3, vI (x3 + (-1))), (0, vR x0), (1, vR x1), (2, vR x2)] dX1_insert_26 rfl rfl (Nat.le_of_ble_eq_true rfl) rfl ?_
      refine j_goto X (pc := 29) 5 dX1_insert_29 (by decide) ?_
      refine j_lv [(0, vR x0), (1, vR x1), (2, vR x2), (3, vI (x3 + (-1)))] [1, 2, 3, 0] rfl ?_
      refine j_cs (u' := 0) (v' := 0) (Nat.le_of_ble_eq_true rfl) (Nat.le_of_ble_eq_true rfl) ?_
      exact hw
theorem met_X1_insert (l : Launch) (hlt : l.stackTraces = false) (G : GG) (h : AH) (a0 : Option Nat) (a1 : Option Nat) (a2 : Option Nat) (P : AH → Prop) (hw : w_X1_insert a0 a1 a2 h P) : ct_v l yX1_insert (ws_ yX1_insert cX1_insert 4 (Option.none : Option Jvm.ClassFile.FieldType)) rm_X1_insert G h [vR a0, vR a1, vR a2] P := by
  refine j_startv hlt [(0, vR a0), (1, vR a1), (2, vR a2)] (plainFor_of_name (by decide)) rfl rfl (fun x X eG er en hQ => ?_)
  subst eG
  refine j_aload_n X (pc := 0) 0 dX1_insert_0 rfl rfl ?_
  obtain ⟨b9, c9, f9, hr9, ho9, hc9, hw⟩ := hw
  obtain rfl := List.mem_singleton.mp hc9
  refine j_calli (j_runV (n8 := 0) (As := []) (rest := []) X (pc := 1) hr9 (met_X4_size (xl x) X.hl (xG x) h a0 _ hw) ho9 (by decide) rfl q756 q757 q758 q77 q759 (by decide +kernel) dX1_insert_1 rfl ⟨Nat.le_of_ble_eq_true rfl, Nat.le_of_ble_eq_true rfl⟩ (Nat.le_of_ble_eq_true rfl) ⟨Nat.le_of_ble_eq_true rfl, Nat.le_of_ble_eq_true rfl⟩) (fun y1 h1 hw => ?_)
  refine j_istore_n X (pc := 4) [(3, vI y1), (0, vR a0), (1, vR a1), (2, vR a2)] dX1_insert_4 rfl (Nat.le_of_ble_eq_true rfl) rfl ?_
  refine j_lv [(0, vR a0), (1, vR a1), (2, vR a2), (3, vI y1)] [1, 2, 3, 0] rfl ?_
  refine j_cs (u' := 0) (v' := 0) (Nat.le_of_ble_eq_true rfl) (Nat.le_of_ble_eq_true rfl) ?_
  exact wk_X1_insert_5 X er en hQ a0 a1 a2 y1 h1 hw
abbrev cX2_write : ByteArray := prog_9_method_3_code
def yX2_write : MethodName := ⟨RX2, "write", "(LPlugboard$Operation;)V"⟩
def dkwX2_write_3 : List UInt8 := [132, 2, 1, 167, 255, 184, 177]
abbrev dktX2_write_3 : List UInt8 := dkwX2_write_3 ++ []
def dkwX2_write_2 : List UInt8 := [180, 0, 9, 29, 43, 180, 0, 31, 28, 46, 79, 42, 180, 0, 15, 29, 43, 180, 0, 32, 28, 46, 79]
abbrev dktX2_write_2 : List UInt8 := dkwX2_write_2 ++ dktX2_write_3
def dkwX2_write_1 : List UInt8 := [198, 0, 16, 43, 42, 180, 0, 20, 29, 50, 182, 0, 27, 153, 0, 34, 42, 180, 0, 20, 29, 43, 83, 42]
abbrev dktX2_write_1 : List UInt8 := dkwX2_write_1 ++ dktX2_write_2
def dkwX2_write_0 : List UInt8 := [3, 61, 28, 43, 180, 0, 24, 190, 162, 0, 69, 43, 180, 0, 24, 28, 46, 62, 42, 180, 0, 20, 29, 50]
abbrev dktX2_write_0 : List UInt8 := dkwX2_write_0 ++ dktX2_write_1
theorem dksX2_write_0 : cX2_write.data.toList.drop 0 = dktX2_write_0 := by decide +kernel
theorem dksX2_write_1 : cX2_write.data.toList.drop 24 = dktX2_write_1 := dk_seg dksX2_write_0 24 rfl rfl
theorem dksX2_write_2 : cX2_write.data.toList.drop 48 = dktX2_write_2 := dk_seg dksX2_write_1 24 rfl rfl
theorem dksX2_write_3 : cX2_write.data.toList.drop 71 = dktX2_write_3 := dk_seg dksX2_write_2 23 rfl rfl
theorem dX2_write_0 : decode cX2_write 0 = .ok (.iconst 0, 1) := dk_3 (dk_at dksX2_write_0 0 rfl rfl)
theorem dX2_write_1 : decode cX2_write 1 = .ok (.istore_n 2, 1) := dk_61 (dk_at dksX2_write_0 1 rfl rfl)
theorem dX2_write_2 : decode cX2_write 2 = .ok (.iload_n 2, 1) := dk_28 (dk_at dksX2_write_0 2 rfl rfl)
theorem dX2_write_3 : decode cX2_write 3 = .ok (.aload_n 1, 1) := dk_43 (dk_at dksX2_write_0 3 rfl rfl)
theorem dX2_write_4 : decode cX2_write 4 = .ok (.getfield 24, 3) := dk_180 0 24 (dk_at dksX2_write_0 4 rfl rfl)
theorem dX2_write_7 : decode cX2_write 7 = .ok (.arraylength, 1) := dk_190 (dk_at dksX2_write_0 7 rfl rfl)
theorem dX2_write_8 : decode cX2_write 8 = .ok (.if_icmp .ge 69, 3) := dk_162 0 69 (dk_at dksX2_write_0 8 rfl rfl)
theorem dX2_write_11 : decode cX2_write 11 = .ok (.aload_n 1, 1) := dk_43 (dk_at dksX2_write_0 11 rfl rfl)
theorem dX2_write_12 : decode cX2_write 12 = .ok (.getfield 24, 3) := dk_180 0 24 (dk_at dksX2_write_0 12 rfl rfl)
theorem dX2_write_15 : decode cX2_write 15 = .ok (.iload_n 2, 1) := dk_28 (dk_at dksX2_write_0 15 rfl rfl)
theorem dX2_write_16 : decode cX2_write 16 = .ok (.iaload, 1) := dk_46 (dk_at dksX2_write_0 16 rfl rfl)
theorem dX2_write_17 : decode cX2_write 17 = .ok (.istore_n 3, 1) := dk_62 (dk_at dksX2_write_0 17 rfl rfl)
theorem dX2_write_18 : decode cX2_write 18 = .ok (.aload_n 0, 1) := dk_42 (dk_at dksX2_write_0 18 rfl rfl)
theorem dX2_write_19 : decode cX2_write 19 = .ok (.getfield 20, 3) := dk_180 0 20 (dk_at dksX2_write_0 19 rfl rfl)
theorem dX2_write_22 : decode cX2_write 22 = .ok (.iload_n 3, 1) := dk_29 (dk_at dksX2_write_0 22 rfl rfl)
theorem dX2_write_23 : decode cX2_write 23 = .ok (.aaload, 1) := dk_50 (dk_at dksX2_write_0 23 rfl rfl)
theorem dX2_write_24 : decode cX2_write 24 = .ok (.ifnull 16, 3) := dk_198 0 16 (dk_at dksX2_write_1 0 rfl rfl)
theorem dX2_write_27 : decode cX2_write 27 = .ok (.aload_n 1, 1) := dk_43 (dk_at dksX2_write_1 3 rfl rfl)
theorem dX2_write_28 : decode cX2_write 28 = .ok (.aload_n 0, 1) := dk_42 (dk_at dksX2_write_1 4 rfl rfl)
theorem dX2_write_29 : decode cX2_write 29 = .ok (.getfield 20, 3) := dk_180 0 20 (dk_at dksX2_write_1 5 rfl rfl)
theorem dX2_write_32 : decode cX2_write 32 = .ok (.iload_n 3, 1) := dk_29 (dk_at dksX2_write_1 8 rfl rfl)
theorem dX2_write_33 : decode cX2_write 33 = .ok (.aaload, 1) := dk_50 (dk_at dksX2_write_1 9 rfl rfl)
theorem dX2_write_34 : decode cX2_write 34 = .ok (.invokevirtual 27, 3) := dk_182 0 27 (dk_at dksX2_write_1 10 rfl rfl)
theorem dX2_write_37 : decode cX2_write 37 = .ok (.ifCond .eq 34, 3) := dk_153 0 34 (dk_at dksX2_write_1 13 rfl rfl)
theorem dX2_write_40 : decode cX2_write 40 = .ok (.aload_n 0, 1) := dk_42 (dk_at dksX2_write_1 16 rfl rfl)
theorem dX2_write_41 : decode cX2_write 41 = .ok (.getfield 20, 3) := dk_180 0 20 (dk_at dksX2_write_1 17 rfl rfl)
theorem dX2_write_44 : decode cX2_write 44 = .ok (.iload_n 3, 1) := dk_29 (dk_at dksX2_write_1 20 rfl rfl)
theorem dX2_write_45 : decode cX2_write 45 = .ok (.aload_n 1, 1) := dk_43 (dk_at dksX2_write_1 21 rfl rfl)
theorem dX2_write_46 : decode cX2_write 46 = .ok (.aastore, 1) := dk_83 (dk_at dksX2_write_1 22 rfl rfl)
theorem dX2_write_47 : decode cX2_write 47 = .ok (.aload_n 0, 1) := dk_42 (dk_at dksX2_write_1 23 rfl rfl)
theorem dX2_write_48 : decode cX2_write 48 = .ok (.getfield 9, 3) := dk_180 0 9 (dk_at dksX2_write_2 0 rfl rfl)
theorem dX2_write_51 : decode cX2_write 51 = .ok (.iload_n 3, 1) := dk_29 (dk_at dksX2_write_2 3 rfl rfl)
theorem dX2_write_52 : decode cX2_write 52 = .ok (.aload_n 1, 1) := dk_43 (dk_at dksX2_write_2 4 rfl rfl)
theorem dX2_write_53 : decode cX2_write 53 = .ok (.getfield 31, 3) := dk_180 0 31 (dk_at dksX2_write_2 5 rfl rfl)
theorem dX2_write_56 : decode cX2_write 56 = .ok (.iload_n 2, 1) := dk_28 (dk_at dksX2_write_2 8 rfl rfl)
theorem dX2_write_57 : decode cX2_write 57 = .ok (.iaload, 1) := dk_46 (dk_at dksX2_write_2 9 rfl rfl)
theorem dX2_write_58 : decode cX2_write 58 = .ok (.iastore, 1) := dk_79 (dk_at dksX2_write_2 10 rfl rfl)
theorem dX2_write_59 : decode cX2_write 59 = .ok (.aload_n 0, 1) := dk_42 (dk_at dksX2_write_2 11 rfl rfl)
theorem dX2_write_60 : decode cX2_write 60 = .ok (.getfield 15, 3) := dk_180 0 15 (dk_at dksX2_write_2 12 rfl rfl)
theorem dX2_write_63 : decode cX2_write 63 = .ok (.iload_n 3, 1) := dk_29 (dk_at dksX2_write_2 15 rfl rfl)
theorem dX2_write_64 : decode cX2_write 64 = .ok (.aload_n 1, 1) := dk_43 (dk_at dksX2_write_2 16 rfl rfl)
theorem dX2_write_65 : decode cX2_write 65 = .ok (.getfield 32, 3) := dk_180 0 32 (dk_at dksX2_write_2 17 rfl rfl)
theorem dX2_write_68 : decode cX2_write 68 = .ok (.iload_n 2, 1) := dk_28 (dk_at dksX2_write_2 20 rfl rfl)
theorem dX2_write_69 : decode cX2_write 69 = .ok (.iaload, 1) := dk_46 (dk_at dksX2_write_2 21 rfl rfl)
theorem dX2_write_70 : decode cX2_write 70 = .ok (.iastore, 1) := dk_79 (dk_at dksX2_write_2 22 rfl rfl)
theorem dX2_write_71 : decode cX2_write 71 = .ok (.iinc 2 1, 3) := dk_132 2 1 (dk_at dksX2_write_3 0 rfl rfl)
theorem dX2_write_74 : decode cX2_write 74 = .ok (.goto (-72), 3) := dk_167 255 184 (dk_at dksX2_write_3 3 rfl rfl)
theorem dX2_write_77 : decode cX2_write 77 = .ok (.return_, 1) := dk_177 (dk_at dksX2_write_3 6 rfl rfl)
theorem q707 : (Jvm.Cond.fieldLinkNest "Plugboard$Fields" (24 : Nat) "Plugboard$Operation" "fields" "[I" "Plugboard") ∈ lw_tbl := lw_at lw_m3 157 rfl
theorem q710 : (Jvm.Cond.fieldLinkNest "Plugboard$Fields" (31 : Nat) "Plugboard$Operation" "values" "[I" "Plugboard") ∈ lw_tbl := lw_at lw_m3 160 rfl
theorem q712 : (Jvm.Cond.fieldLinkNest "Plugboard$Fields" (32 : Nat) "Plugboard$Operation" "origins" "[I" "Plugboard") ∈ lw_tbl := lw_at lw_m3 162 rfl
theorem q1064 : (Jvm.Cond.methodLink "Plugboard$Fields" (27 : Nat) ({ cls := "Plugboard$Operation", name := "isLaterThan", desc := "(LPlugboard$Operation;)Z" } : Jvm.MethodName)) ∈ lw_all := lw_g (lw_at lw_m5 34 rfl) rfl
abbrev rm_X2_write : Room := { frames := 1, cells := 0, slots := 0, locals := 21 }
def w_X2_write_40 (P : AH → Prop) (Z2 : Int32 → AH → Prop) (x0 : Option Nat) (x1 : Option Nat) (x2 : Int32) (x3 : Int32) (h : AH) : Prop :=
  g_q h x0 1 2 fun y41 =>
  s_q h y41 10 x3 x1 fun h46 =>
  g_q h46 x0 1 0 fun y48 =>
  g_q h46 x1 9 4 fun y53 =>
  l_i h46 y53 0 x2 fun y57 =>
  s_i h46 y48 0 x3 y57 fun h58 =>
  g_q h58 x0 1 1 fun y60 =>
  g_q h58 x1 9 5 fun y65 =>
  l_i h58 y65 0 x2 fun y69 =>
  s_i h58 y60 0 x3 y69 fun h70 =>
  Z2 (x2 + 1) h70
def w_X2_write_2 (P : AH → Prop) (x0 : Option Nat) (x1 : Option Nat) (x2 : Int32) (h : AH) : Prop :=
  ∀ Z2 : Int32 → AH → Prop, (∀ x2 h, (
      g_q h x1 9 3 fun y4 =>
      n_a h y4 fun y7 =>
      ((y7 ≤ x2 →
        P h) ∧
       (¬ y7 ≤ x2 →
        g_q h x1 9 3 fun y12 =>
        l_i h y12 0 x2 fun y16 =>
        g_q h x0 1 2 fun y19 =>
        l_q h y19 y16 fun y23 =>
        ((y23 = (none : Option Nat) →
          w_X2_write_40 P Z2 x0 x1 x2 y16 h) ∧
         (¬ y23 = (none : Option Nat) →
          g_q h x0 1 2 fun y29 =>
          l_q h y29 y16 fun y33 =>
          is_c h x1 [9] (
          w_X11_isLaterThan x1 y33 h (fun y34 h34 =>
          ((y34 = 0 →
            Z2 (x2 + 1) h34) ∧
           (¬ y34 = 0 →
            w_X2_write_40 P Z2 x0 x1 x2 y16 h34)))))))))
      → Z2 x2 h) → Z2 x2 h
def w_X2_write (a0 : Option Nat) (a1 : Option Nat) (h : AH) (P : AH → Prop) : Prop :=
  w_X2_write_2 P a0 a1 0 h
theorem wk_X2_write_40 {x : CX} (X : Ok x cX2_write RX2 rm_X2_write 4) (er : xrt x = (Option.none : Option Jvm.ClassFile.FieldType)) (en : xnm x = yX2_write.name) {P : AH → Prop} (hQ : xr_v x P) (Z2 : Int32 → AH → Prop) (x0 : Option Nat) (x1 : Option Nat) (x2 : Int32) (x3 : Int32) (h : AH) (hZ2 : ∀ x2 h, Z2 x2 h → J x h 0 0 2 [(0, vR x0), (1, vR x1), (2, vI x2)] []) (hw : w_X2_write_40 P Z2 x0 x1 x2 x3 h) : J x h 0 0 40 [(0, vR x0), (1, vR x1), (2, vI x2), (3, vI x3)] [] := by
  refine j_aload_n X (pc := 40) 0 dX2_write_40 rfl rfl ?_
  refine j_getq (ci := 1) X (pc := 41) in_X2 rfl (by decide) 2 (by decide) q171 (Or.inl rfl) dX2_write_41 hw (fun y41 hw => ?_)
  refine j_iload_n X (pc := 44) 3 dX2_write_44 rfl rfl ?_
  refine j_aload_n X (pc := 45) 1 dX2_write_45 rfl rfl ?_
  refine j_aast X (pc := 46) 10 (Nat.le_of_ble_eq_true rfl) rfl dX2_write_46 hw (fun h46 hw => ?_)
  refine j_aload_n X (pc := 47) 0 dX2_write_47 rfl rfl ?_
  refine j_getq (ci := 1) X (pc := 48) in_X2 rfl (by decide) 0 (by decide) q164 (Or.inl rfl) dX2_write_48 hw (fun y48 hw => ?_)
  refine j_iload_n X (pc := 51) 3 dX2_write_51 rfl rfl ?_
  refine j_aload_n X (pc := 52) 1 dX2_write_52 rfl rfl ?_
  refine j_getqN (ci := 9) X (pc := 53) in_X11 rfl (by decide) 4 (by decide) q710 (Or.inl rfl) dX2_write_53 hw (fun y53 hw => ?_)
  refine j_iload_n X (pc := 56) 2 dX2_write_56 rfl rfl ?_
  refine j_iald X (pc := 57) 0 rfl dX2_write_57 hw (fun y57 hw => ?_)
  refine j_iast X (pc := 58) 0 rfl rfl dX2_write_58 hw (fun h58 hw => ?_)
  refine j_aload_n X (pc := 59) 0 dX2_write_59 rfl rfl ?_
  refine j_getq (ci := 1) X (pc := 60) in_X2 rfl (by decide) 1 (by decide) q169 (Or.inl rfl) dX2_write_60 hw (fun y60 hw => ?_)
  refine j_iload_n X (pc := 63) 3 dX2_write_63 rfl rfl ?_
  refine j_aload_n X (pc := 64) 1 dX2_write_64 rfl rfl ?_
  refine j_getqN (ci := 9) X (pc := 65) in_X11 rfl (by decide) 5 (by decide) q712 (Or.inl rfl) dX2_write_65 hw (fun y65 hw => ?_)
  refine j_iload_n X (pc := 68) 2 dX2_write_68 rfl rfl ?_
  refine j_iald X (pc := 69) 0 rfl dX2_write_69 hw (fun y69 hw => ?_)
  refine j_iast X (pc := 70) 0 rfl rfl dX2_write_70 hw (fun h70 hw => ?_)
  refine j_iinc X (pc := 71) 2 (x2 + 1) [(2, vI (x2 + 1)), (0, vR x0), (1, vR x1), (3, vI x3)] dX2_write_71 rfl rfl (Nat.le_of_ble_eq_true rfl) rfl ?_
  refine j_goto X (pc := 74) 2 dX2_write_74 (by decide) ?_
  refine j_lv [(0, vR x0), (1, vR x1), (2, vI (x2 + 1))] [1, 2, 0] rfl ?_
  refine j_cs (u' := 0) (v' := 0) (Nat.le_of_ble_eq_true rfl) (Nat.le_of_ble_eq_true rfl) ?_
  exact hZ2 (x2 + 1) h70 hw
theorem wk_X2_write_2 {x : CX} (X : Ok x cX2_write RX2 rm_X2_write 4) (er : xrt x = (Option.none : Option Jvm.ClassFile.FieldType)) (en : xnm x = yX2_write.name) {P : AH → Prop} (hQ : xr_v x P) (x0 : Option Nat) (x1 : Option Nat) (x2 : Int32) (h : AH) (hw : w_X2_write_2 P x0 x1 x2 h) : J x h 0 0 2 [(0, vR x0), (1, vR x1), (2, vI x2)] [] := by
  refine hw (fun x2 h => J x h 0 0 2 [(0, vR x0), (1, vR x1), (2, vI x2)] []) (fun x2 h hw => ?_)
  refine j_iload_n X (pc := 2) 2 dX2_write_2 rfl rfl ?_
  refine j_aload_n X (pc := 3) 1 dX2_write_3 rfl rfl ?_
  refine j_getqN (ci := 9) X (pc := 4) in_X11 rfl (by decide) 3 (by decide) q707 (Or.inl rfl) dX2_write_4 hw (fun y4 hw => ?_)
  refine j_alen X (pc := 7) dX2_write_7 hw (fun y7 hw => ?_)
  refine j_icmp_ge X (pc := 8) 77 dX2_write_8 (by decide) hw (fun hw => ?_) (fun hw => ?_)
  · exact j_vret X (pc := 77) hQ er (Nat.le_of_ble_eq_true rfl) (Nat.le_of_ble_eq_true rfl) dX2_write_77 hw
  · refine j_aload_n X (pc := 11) 1 dX2_write_11 rfl rfl ?_
    refine j_getqN (ci := 9) X (pc := 12) in_X11 rfl (by decide) 3 (by decide) q707 (Or.inl rfl) dX2_write_12 hw (fun y12 hw => ?_)
    refine j_iload_n X (pc := 15) 2 dX2_write_15 rfl rfl ?_
    refine j_iald X (pc := 16) 0 rfl dX2_write_16 hw (fun y16 hw => ?_)
    refine j_istore_n X (pc := 17) [(3, vI y16), (0, vR x0), (1, vR x1), (2, vI x2)] dX2_write_17 rfl (Nat.le_of_ble_eq_true rfl) rfl ?_
    refine j_aload_n X (pc := 18) 1 dX2_write_18 rfl rfl ?_
    refine j_getq (ci := 1) X (pc := 19) in_X2 rfl (by decide) 2 (by decide) q171 (Or.inl rfl) dX2_write_19 hw (fun y19 hw => ?_)
    refine j_iload_n X (pc := 22) 0 dX2_write_22 rfl rfl ?_
    refine j_aald X (pc := 23) dX2_write_23 hw (fun y23 hw => ?_)
    refine j_ifnull X (pc := 24) 40 dX2_write_24 (by decide) hw (fun hw => ?_) (fun hw => ?_)
    · refine j_lv [(0, vR x0), (1, vR x1), (2, vI x2), (3, vI y16)] [1, 2, 3, 0] rfl ?_
      refine j_cs (u' := 0) (v' := 0) (Nat.le_of_ble_eq_true rfl) (Nat.le_of_ble_eq_true rfl) ?_
      exact wk_X2_write_40 X er en hQ _ x0 x1 x2 y16 h (fun x2_ h_ hz => hz) hw
    · refine j_aload_n X (pc := 27) 2 dX2_write_27 rfl rfl ?_
      refine j_aload_n X (pc := 28) 1 dX2_write_28 rfl rfl ?_
      refine j_getq (ci := 1) X (pc := 29) in_X2 rfl (by decide) 2 (by decide) q171 (Or.inl rfl) dX2_write_29 hw (fun y29 hw => ?_)
      refine j_iload_n X (pc := 32) 0 dX2_write_32 rfl rfl ?_
      refine j_aald X (pc := 33) dX2_write_33 hw (fun y33 hw => ?_)
      obtain ⟨b9, c9, f9, hr9, ho9, hc9, hw⟩ := hw
      obtain rfl := List.mem_singleton.mp hc9
      refine j_calli (j_runV (n8 := 1) (As := [vR y33]) (rest := []) X (pc := 34) hr9 (met_X11_isLaterThan (xl x) X.hl (xG x) h x1 y33 _ hw) ho9 (by decide) rfl q1064 q782 q783 q100 q784 (by decide +kernel) dX2_write_34 rfl ⟨Nat.le_of_ble_eq_true rfl, Nat.le_of_ble_eq_true rfl⟩ (Nat.le_of_ble_eq_true rfl) ⟨Nat.le_of_ble_eq_true rfl, Nat.le_of_ble_eq_true rfl⟩) (fun y34 h34 hw => ?_)
      refine j_if_eq X (pc := 37) 71 dX2_write_37 (by decide) hw (fun hw => ?_) (fun hw => ?_)
      · refine j_iinc X (pc := 71) 3 (x2 + 1) [(2, vI (x2 + 1)), (3, vI y16), (0, vR x0), (1, vR x1)] dX2_write_71 rfl rfl (Nat.le_of_ble_eq_true rfl) rfl ?_
        refine j_goto X (pc := 74) 2 dX2_write_74 (by decide) ?_
        refine j_lv [(0, vR x0), (1, vR x1), (2, vI (x2 + 1))] [2, 3, 0] rfl ?_
        refine j_cs (u' := 0) (v' := 0) (Nat.le_of_ble_eq_true rfl) (Nat.le_of_ble_eq_true rfl) ?_
        exact hw
      · refine j_lv [(0, vR x0), (1, vR x1), (2, vI x2), (3, vI y16)] [1, 2, 3, 0] rfl ?_
        refine j_cs (u' := 0) (v' := 0) (Nat.le_of_ble_eq_true rfl) (Nat.le_of_ble_eq_true rfl) ?_
        exact wk_X2_write_40 X er en hQ _ x0 x1 x2 y16 h34 (fun x2_ h_ hz => hz) hw
theorem met_X2_write (l : Launch) (hlt : l.stackTraces = false) (G : GG) (h : AH) (a0 : Option Nat) (a1 : Option Nat) (P : AH → Prop) (hw : w_X2_write a0 a1 h P) : ct_v l yX2_write (ws_ yX2_write cX2_write 4 (Option.none : Option Jvm.ClassFile.FieldType)) rm_X2_write G h [vR a0, vR a1] P := by
  refine j_startv hlt [(0, vR a0), (1, vR a1)] (plainFor_of_name (by decide)) rfl rfl (fun x X eG er en hQ => ?_)
  subst eG
  refine j_iconst X (pc := 0) 0 dX2_write_0 (by decide) ?_
  refine j_istore_n X (pc := 1) [(2, vI 0), (0, vR a0), (1, vR a1)] dX2_write_1 rfl (Nat.le_of_ble_eq_true rfl) rfl ?_
  refine j_lv [(0, vR a0), (1, vR a1), (2, vI 0)] [1, 2, 0] rfl ?_
  refine j_cs (u' := 0) (v' := 0) (Nat.le_of_ble_eq_true rfl) (Nat.le_of_ble_eq_true rfl) ?_
  exact wk_X2_write_2 X er en hQ a0 a1 0 h hw
abbrev cX3_take : ByteArray := prog_3_method_2_code
def yX3_take : MethodName := ⟨RX3, "take", "(LPlugboard$Operation;)Z"⟩
def dkwX3_take_2 : List UInt8 := [183, 0, 57, 184, 0, 58, 42, 180, 0, 18, 43, 182, 0, 62, 4, 172]
abbrev dktX3_take_2 : List UInt8 := dkwX3_take_2 ++ []
def dkwX3_take_1 : List UInt8 := [42, 42, 180, 0, 45, 43, 180, 0, 48, 184, 0, 49, 181, 0, 45, 42, 180, 0, 25, 43, 187, 0, 55, 89]
abbrev dktX3_take_1 : List UInt8 := dkwX3_take_1 ++ dktX3_take_2
def dkwX3_take_0 : List UInt8 := [42, 180, 0, 29, 43, 180, 0, 40, 51, 153, 0, 5, 3, 172, 42, 180, 0, 29, 43, 180, 0, 40, 4, 84]
abbrev dktX3_take_0 : List UInt8 := dkwX3_take_0 ++ dktX3_take_1
theorem dksX3_take_0 : cX3_take.data.toList.drop 0 = dktX3_take_0 := by decide +kernel
theorem dksX3_take_1 : cX3_take.data.toList.drop 24 = dktX3_take_1 := dk_seg dksX3_take_0 24 rfl rfl
theorem dksX3_take_2 : cX3_take.data.toList.drop 48 = dktX3_take_2 := dk_seg dksX3_take_1 24 rfl rfl
theorem dX3_take_0 : decode cX3_take 0 = .ok (.aload_n 0, 1) := dk_42 (dk_at dksX3_take_0 0 rfl rfl)
theorem dX3_take_1 : decode cX3_take 1 = .ok (.getfield 29, 3) := dk_180 0 29 (dk_at dksX3_take_0 1 rfl rfl)
theorem dX3_take_4 : decode cX3_take 4 = .ok (.aload_n 1, 1) := dk_43 (dk_at dksX3_take_0 4 rfl rfl)
theorem dX3_take_5 : decode cX3_take 5 = .ok (.getfield 40, 3) := dk_180 0 40 (dk_at dksX3_take_0 5 rfl rfl)
theorem dX3_take_8 : decode cX3_take 8 = .ok (.baload, 1) := dk_51 (dk_at dksX3_take_0 8 rfl rfl)
theorem dX3_take_9 : decode cX3_take 9 = .ok (.ifCond .eq 5, 3) := dk_153 0 5 (dk_at dksX3_take_0 9 rfl rfl)
theorem dX3_take_12 : decode cX3_take 12 = .ok (.iconst 0, 1) := dk_3 (dk_at dksX3_take_0 12 rfl rfl)
theorem dX3_take_13 : decode cX3_take 13 = .ok (.ireturn, 1) := dk_172 (dk_at dksX3_take_0 13 rfl rfl)
theorem dX3_take_14 : decode cX3_take 14 = .ok (.aload_n 0, 1) := dk_42 (dk_at dksX3_take_0 14 rfl rfl)
theorem dX3_take_15 : decode cX3_take 15 = .ok (.getfield 29, 3) := dk_180 0 29 (dk_at dksX3_take_0 15 rfl rfl)
theorem dX3_take_18 : decode cX3_take 18 = .ok (.aload_n 1, 1) := dk_43 (dk_at dksX3_take_0 18 rfl rfl)
theorem dX3_take_19 : decode cX3_take 19 = .ok (.getfield 40, 3) := dk_180 0 40 (dk_at dksX3_take_0 19 rfl rfl)
theorem dX3_take_22 : decode cX3_take 22 = .ok (.iconst 1, 1) := dk_4 (dk_at dksX3_take_0 22 rfl rfl)
theorem dX3_take_23 : decode cX3_take 23 = .ok (.bastore, 1) := dk_84 (dk_at dksX3_take_0 23 rfl rfl)
theorem dX3_take_24 : decode cX3_take 24 = .ok (.aload_n 0, 1) := dk_42 (dk_at dksX3_take_1 0 rfl rfl)
theorem dX3_take_25 : decode cX3_take 25 = .ok (.aload_n 0, 1) := dk_42 (dk_at dksX3_take_1 1 rfl rfl)
theorem dX3_take_26 : decode cX3_take 26 = .ok (.getfield 45, 3) := dk_180 0 45 (dk_at dksX3_take_1 2 rfl rfl)
theorem dX3_take_29 : decode cX3_take 29 = .ok (.aload_n 1, 1) := dk_43 (dk_at dksX3_take_1 5 rfl rfl)
theorem dX3_take_30 : decode cX3_take 30 = .ok (.getfield 48, 3) := dk_180 0 48 (dk_at dksX3_take_1 6 rfl rfl)
theorem dX3_take_33 : decode cX3_take 33 = .ok (.invokestatic 49, 3) := dk_184 0 49 (dk_at dksX3_take_1 9 rfl rfl)
theorem dX3_take_36 : decode cX3_take 36 = .ok (.putfield 45, 3) := dk_181 0 45 (dk_at dksX3_take_1 12 rfl rfl)
theorem dX3_take_39 : decode cX3_take 39 = .ok (.aload_n 0, 1) := dk_42 (dk_at dksX3_take_1 15 rfl rfl)
theorem dX3_take_40 : decode cX3_take 40 = .ok (.getfield 25, 3) := dk_180 0 25 (dk_at dksX3_take_1 16 rfl rfl)
theorem dX3_take_43 : decode cX3_take 43 = .ok (.aload_n 1, 1) := dk_43 (dk_at dksX3_take_1 19 rfl rfl)
theorem dX3_take_44 : decode cX3_take 44 = .ok (.new 55, 3) := dk_187 0 55 (dk_at dksX3_take_1 20 rfl rfl)
theorem dX3_take_47 : decode cX3_take 47 = .ok (.dup, 1) := dk_89 (dk_at dksX3_take_1 23 rfl rfl)
theorem dX3_take_48 : decode cX3_take 48 = .ok (.invokespecial 57, 3) := dk_183 0 57 (dk_at dksX3_take_2 0 rfl rfl)
theorem dX3_take_51 : decode cX3_take 51 = .ok (.invokestatic 58, 3) := dk_184 0 58 (dk_at dksX3_take_2 3 rfl rfl)
theorem dX3_take_54 : decode cX3_take 54 = .ok (.aload_n 0, 1) := dk_42 (dk_at dksX3_take_2 6 rfl rfl)
theorem dX3_take_55 : decode cX3_take 55 = .ok (.getfield 18, 3) := dk_180 0 18 (dk_at dksX3_take_2 7 rfl rfl)
theorem dX3_take_58 : decode cX3_take 58 = .ok (.aload_n 1, 1) := dk_43 (dk_at dksX3_take_2 10 rfl rfl)
theorem dX3_take_59 : decode cX3_take 59 = .ok (.invokevirtual 62, 3) := dk_182 0 62 (dk_at dksX3_take_2 11 rfl rfl)
theorem dX3_take_62 : decode cX3_take 62 = .ok (.iconst 1, 1) := dk_4 (dk_at dksX3_take_2 14 rfl rfl)
theorem dX3_take_63 : decode cX3_take 63 = .ok (.ireturn, 1) := dk_172 (dk_at dksX3_take_2 15 rfl rfl)
theorem q216 : (Jvm.Cond.fieldLink "Plugboard$Board" (45 : Nat) "Plugboard$Board" "clock" "I") ∈ lw_all := lw_g (lw_at lw_m1 146 rfl) rfl
theorem q699 : (Jvm.Cond.fieldLinkNest "Plugboard$Board" (40 : Nat) "Plugboard$Operation" "number" "I" "Plugboard") ∈ lw_tbl := lw_at lw_m3 149 rfl
theorem q704 : (Jvm.Cond.fieldLinkNest "Plugboard$Board" (48 : Nat) "Plugboard$Operation" "clock" "I" "Plugboard") ∈ lw_tbl := lw_at lw_m3 154 rfl
theorem q745 : (Jvm.Cond.methodLink "Plugboard$Board" (49 : Nat) ({ cls := "java/lang/Math", name := "max", desc := "(II)I" } : Jvm.MethodName)) ∈ lw_all := lw_g (lw_at lw_m3 195 rfl) rfl
theorem q746 : (Jvm.Cond.classLink "Plugboard$Board" (55 : Nat) "Plugboard$ByStamp") ∈ lw_all := lw_g (lw_at lw_m3 196 rfl) rfl
theorem q747 : (Jvm.Cond.instantiable "Plugboard$ByStamp" (0 : Nat)) ∈ lw_all := lw_g (lw_at lw_m3 197 rfl) rfl
theorem q748 : (Jvm.Cond.methodLinkNest "Plugboard$Board" (57 : Nat) ({ cls := "Plugboard$ByStamp", name := "<init>", desc := "()V" } : Jvm.MethodName) "Plugboard") ∈ lw_tbl := lw_at lw_m3 198 rfl
theorem q749 : (Jvm.Cond.instanceMethod ({ cls := "Plugboard$ByStamp", name := "<init>", desc := "()V" } : Jvm.MethodName)) ∈ lw_all := lw_g (lw_at lw_m3 199 rfl) rfl
theorem q750 : (Jvm.Cond.code ({ cls := "Plugboard$ByStamp", name := "<init>", desc := "()V" } : Jvm.MethodName) prog_6_method_1_code (1 : Nat) (Option.none : Option Jvm.ClassFile.FieldType)) ∈ lw_all := lw_g (lw_at lw_m3 200 rfl) rfl
theorem q753 : (Jvm.Cond.methodLinkNest "Plugboard$Board" (58 : Nat) ({ cls := "Plugboard", name := "insert", desc := "(LPlugboard$Sequence;Ljava/lang/Object;LPlugboard$Later;)V" } : Jvm.MethodName) "Plugboard") ∈ lw_tbl := lw_at lw_m3 203 rfl
theorem q754 : (Jvm.Cond.static ({ cls := "Plugboard", name := "insert", desc := "(LPlugboard$Sequence;Ljava/lang/Object;LPlugboard$Later;)V" } : Jvm.MethodName)) ∈ lw_all := lw_g (lw_at lw_m3 204 rfl) rfl
theorem q755 : (Jvm.Cond.code ({ cls := "Plugboard", name := "insert", desc := "(LPlugboard$Sequence;Ljava/lang/Object;LPlugboard$Later;)V" } : Jvm.MethodName) prog_1_method_8_code (4 : Nat) (Option.none : Option Jvm.ClassFile.FieldType)) ∈ lw_all := lw_g (lw_at lw_m3 205 rfl) rfl
theorem q1060 : (Jvm.Cond.methodLink "Plugboard$Board" (62 : Nat) ({ cls := "Plugboard$Fields", name := "write", desc := "(LPlugboard$Operation;)V" } : Jvm.MethodName)) ∈ lw_all := lw_g (lw_at lw_m5 30 rfl) rfl
theorem q1061 : (Jvm.Cond.instanceMethod ({ cls := "Plugboard$Fields", name := "write", desc := "(LPlugboard$Operation;)V" } : Jvm.MethodName)) ∈ lw_all := lw_g (lw_at lw_m5 31 rfl) rfl
theorem q1062 : (Jvm.Cond.selects "Plugboard$Fields" ({ cls := "Plugboard$Fields", name := "write", desc := "(LPlugboard$Operation;)V" } : Jvm.MethodName) ({ cls := "Plugboard$Fields", name := "write", desc := "(LPlugboard$Operation;)V" } : Jvm.MethodName)) ∈ lw_all := lw_g (lw_at lw_m5 32 rfl) rfl
theorem q1063 : (Jvm.Cond.code ({ cls := "Plugboard$Fields", name := "write", desc := "(LPlugboard$Operation;)V" } : Jvm.MethodName) prog_9_method_3_code (4 : Nat) (Option.none : Option Jvm.ClassFile.FieldType)) ∈ lw_all := lw_g (lw_at lw_m5 33 rfl) rfl
abbrev rm_X3_take : Room := { frames := 8, cells := 2, slots := 64, locals := 196 }
def w_X3_take (a0 : Option Nat) (a1 : Option Nat) (h : AH) (P : Int32 → AH → Prop) : Prop :=
  g_q h a0 2 3 fun y1 =>
  g_i h a1 9 0 fun y5 =>
  l_i h y1 1 y5 fun y8 =>
  ((y8 = 0 →
    g_q h a0 2 3 fun y15 =>
    g_i h a1 9 0 fun y19 =>
    s_i h y15 1 y19 1 fun h23 =>
    g_i h23 a0 2 4 fun y26 =>
    g_i h23 a1 9 2 fun y30 =>
    w_J14_max_2 y26 y30 h23 (fun y33 h33 =>
    p_v h33 a0 2 4 (vI y33) fun h36 =>
    g_q h36 a0 2 2 fun y40 =>
    mk h36 (.inr (10, dvX12)) fun q44 h44 =>
    w_X12_init (some q44) h44 (fun h48 =>
    w_X1_insert y40 a1 (some q44) h48 (fun h51 =>
    g_q h51 a0 2 1 fun y55 =>
    is_c h51 y55 [1] (
    w_X2_write y55 a1 h51 (fun h59 =>
    P 1 h59)))))) ∧
   (¬ y8 = 0 →
    P 0 h))
theorem met_X3_take (l : Launch) (hlt : l.stackTraces = false) (G : GG) (h : AH) (a0 : Option Nat) (a1 : Option Nat) (P : Int32 → AH → Prop) (hw : w_X3_take a0 a1 h P) : ct_i l yX3_take (ws_ yX3_take cX3_take 2 (Option.some Jvm.ClassFile.FieldType.boolean)) rm_X3_take G h [vR a0, vR a1] P := by
  refine j_starti hlt [(0, vR a0), (1, vR a1)] (plainFor_of_name (by decide)) rfl rfl (fun x X eG er en hQ => ?_)
  subst eG
  refine j_aload_n X (pc := 0) 0 dX3_take_0 rfl rfl ?_
  refine j_getq (ci := 2) X (pc := 1) in_X3 rfl (by decide) 3 (by decide) q214 (Or.inl rfl) dX3_take_1 hw (fun y1 hw => ?_)
  refine j_aload_n X (pc := 4) 1 dX3_take_4 rfl rfl ?_
  refine j_getiN (ci := 9) X (pc := 5) in_X11 rfl (by decide) 0 (by decide) q699 (Or.inl rfl) dX3_take_5 hw (fun y5 hw => ?_)
  refine j_zald X (pc := 8) 1 rfl dX3_take_8 hw (fun y8 hw => ?_)
  refine j_if_eq X (pc := 9) 14 dX3_take_9 (by decide) hw (fun hw => ?_) (fun hw => ?_)
  · refine j_aload_n X (pc := 14) 0 dX3_take_14 rfl rfl ?_
    refine j_getq (ci := 2) X (pc := 15) in_X3 rfl (by decide) 3 (by decide) q214 (Or.inl rfl) dX3_take_15 hw (fun y15 hw => ?_)
    refine j_aload_n X (pc := 18) 1 dX3_take_18 rfl rfl ?_
    refine j_getiN (ci := 9) X (pc := 19) in_X11 rfl (by decide) 0 (by decide) q699 (Or.inl rfl) dX3_take_19 hw (fun y19 hw => ?_)
    refine j_iconst X (pc := 22) 1 dX3_take_22 (by decide) ?_
    refine j_zast X (pc := 23) 1 rfl rfl ⟨rfl, rfl⟩ dX3_take_23 hw (fun h23 hw => ?_)
    refine j_aload_n X (pc := 24) 0 dX3_take_24 rfl rfl ?_
    refine j_aload_n X (pc := 25) 0 dX3_take_25 rfl rfl ?_
    refine j_geti (ci := 2) X (pc := 26) in_X3 rfl (by decide) 4 (by decide) q216 (Or.inl rfl) dX3_take_26 hw (fun y26 hw => ?_)
    refine j_aload_n X (pc := 29) 1 dX3_take_29 rfl rfl ?_
    refine j_getiN (ci := 9) X (pc := 30) in_X11 rfl (by decide) 2 (by decide) q704 (Or.inl rfl) dX3_take_30 hw (fun y30 hw => ?_)
    refine j_calli (j_runS (n8 := 2) (As := [vI y26, vI y30]) (rest := [vR a0]) X (pc := 33) (met_J14_max_2 (xl x) X.hl (xG x) h23 y26 y30 _ hw) q745 q622 q92 q623 (by decide +kernel) dX3_take_33 rfl ⟨Nat.le_of_ble_eq_true rfl, Nat.le_of_ble_eq_true rfl⟩ (Nat.le_of_ble_eq_true rfl) ⟨Nat.le_of_ble_eq_true rfl, Nat.le_of_ble_eq_true rfl⟩) (fun y33 h33 hw => ?_)
    refine j_put (ci := 2) X (pc := 36) in_X3 rfl (by decide) 4 (by decide) q216 (Or.inl rfl) tyX3 tyX3_ok nmX3 rfl rfl (ty := .int) (tyX3_ok 4 (by decide)) rfl rfl dX3_take_36 hw (fun h36 hw => ?_)
    refine j_aload_n X (pc := 39) 0 dX3_take_39 rfl rfl ?_
    refine j_getq (ci := 2) X (pc := 40) in_X3 rfl (by decide) 2 (by decide) q212 (Or.inl rfl) dX3_take_40 hw (fun y40 hw => ?_)
    refine j_aload_n X (pc := 43) 1 dX3_take_43 rfl rfl ?_
    refine j_new (ci := 10) X (pc := 44) in_X12 rfl (by decide) tyX12 tyX12_ok q746 q747 q101 (fs := dvX12) dfX12 (Nat.le_of_ble_eq_true rfl) (Nat.le_of_ble_eq_true rfl) dX3_take_44 hw (fun q44 h44 hw => ?_)
    refine j_dup X (pc := 47) dX3_take_47 rfl ?_
    refine j_callv (j_runIN (n8 := 0) (As := []) (rest := [vR (some q44), vR a1, vR y40]) X (pc := 48) rfl (met_X12_init (xl x) X.hl (xG x) h44 (some q44) _ hw) q748 q749 q101 q750 (by decide +kernel) dX3_take_48 rfl ⟨Nat.le_of_ble_eq_true rfl, Nat.le_of_ble_eq_true rfl⟩ (Nat.le_of_ble_eq_true rfl) ⟨Nat.le_of_ble_eq_true rfl, Nat.le_of_ble_eq_true rfl⟩) (fun h48 hw => ?_)
    refine j_callv (j_runSN (n8 := 3) (As := [vR y40, vR a1, vR (some q44)]) (rest := []) X (pc := 51) (met_X1_insert (xl x) X.hl (xG x) h48 y40 a1 (some q44) _ hw) q753 q754 q71 q755 (by decide +kernel) dX3_take_51 rfl ⟨Nat.le_of_ble_eq_true rfl, Nat.le_of_ble_eq_true rfl⟩ (Nat.le_of_ble_eq_true rfl) ⟨Nat.le_of_ble_eq_true rfl, Nat.le_of_ble_eq_true rfl⟩) (fun h51 hw => ?_)
    refine j_aload_n X (pc := 54) 0 dX3_take_54 rfl rfl ?_
    refine j_getq (ci := 2) X (pc := 55) in_X3 rfl (by decide) 1 (by decide) q208 (Or.inl rfl) dX3_take_55 hw (fun y55 hw => ?_)
    refine j_aload_n X (pc := 58) 1 dX3_take_58 rfl rfl ?_
    obtain ⟨b9, c9, f9, hr9, ho9, hc9, hw⟩ := hw
    obtain rfl := List.mem_singleton.mp hc9
    refine j_callv (j_runV (n8 := 1) (As := [vR a1]) (rest := []) X (pc := 59) hr9 (met_X2_write (xl x) X.hl (xG x) h51 y55 a1 _ hw) ho9 (by decide) rfl q1060 q1061 q1062 q75 q1063 (by decide +kernel) dX3_take_59 rfl ⟨Nat.le_of_ble_eq_true rfl, Nat.le_of_ble_eq_true rfl⟩ (Nat.le_of_ble_eq_true rfl) ⟨Nat.le_of_ble_eq_true rfl, Nat.le_of_ble_eq_true rfl⟩) (fun h59 hw => ?_)
    refine j_iconst X (pc := 62) 1 dX3_take_62 (by decide) ?_
    exact j_zret X (pc := 63) (ty := .boolean) hQ er rfl (Nat.le_of_ble_eq_true rfl) (Nat.le_of_ble_eq_true rfl) dX3_take_63 hw
  · refine j_iconst X (pc := 12) 0 dX3_take_12 (by decide) ?_
    exact j_zret X (pc := 13) (ty := .boolean) hQ er rfl (Nat.le_of_ble_eq_true rfl) (Nat.le_of_ble_eq_true rfl) dX3_take_13 hw
abbrev cX1_operate : ByteArray := prog_1_method_14_code
def yX1_operate : MethodName := ⟨RX1, "operate", "(LPlugboard$Board;[I[I[I)V"⟩
def dkwX1_operate_7 : List UInt8 := [183, 0, 154, 58, 9, 42, 180, 0, 62, 25, 9, 182, 0, 157, 87, 43, 25, 9, 182, 0, 160, 54, 10, 177]
abbrev dktX1_operate_7 : List UInt8 := dkwX1_operate_7 ++ []
def dkwX1_operate_6 : List UInt8 := [3, 44, 83, 89, 4, 45, 83, 89, 5, 25, 8, 83, 89, 6, 25, 6, 83, 89, 7, 25, 7, 83]
abbrev dktX1_operate_6 : List UInt8 := dkwX1_operate_6 ++ dktX1_operate_7
def dkwX1_operate_5 : List UInt8 := [180, 0, 147, 43, 180, 0, 151, 4, 96, 25, 4, 199, 0, 7, 4, 167, 0, 4, 3, 8, 189, 0, 88, 89]
abbrev dktX1_operate_5 : List UInt8 := dkwX1_operate_5 ++ dktX1_operate_6
def dkwX1_operate_4 : List UInt8 := [167, 0, 8, 25, 8, 21, 9, 46, 79, 132, 9, 1, 167, 255, 192, 187, 0, 145, 89, 21, 5, 43]
abbrev dktX1_operate_4 : List UInt8 := dkwX1_operate_4 ++ dktX1_operate_5
def dkwX1_operate_3 : List UInt8 := [180, 0, 136, 180, 0, 142, 44, 21, 9, 46, 46, 79, 25, 8, 21, 9, 25, 4, 199, 0, 8, 21, 5]
abbrev dktX1_operate_3 : List UInt8 := dkwX1_operate_3 ++ dktX1_operate_4
def dkwX1_operate_2 : List UInt8 := [25, 6, 21, 9, 43, 180, 0, 136, 180, 0, 139, 44, 21, 9, 46, 46, 79, 25, 7, 21, 9, 43]
abbrev dktX1_operate_2 : List UInt8 := dkwX1_operate_2 ++ dktX1_operate_3
def dkwX1_operate_1 : List UInt8 := [199, 0, 10, 44, 190, 188, 10, 167, 0, 5, 25, 4, 58, 8, 3, 54, 9, 21, 9, 44, 190, 162, 0, 63]
abbrev dktX1_operate_1 : List UInt8 := dkwX1_operate_1 ++ dktX1_operate_2
def dkwX1_operate_0 : List UInt8 := [42, 180, 0, 62, 182, 0, 126, 54, 5, 44, 190, 188, 10, 58, 6, 44, 190, 188, 10, 58, 7, 25, 4]
abbrev dktX1_operate_0 : List UInt8 := dkwX1_operate_0 ++ dktX1_operate_1
theorem dksX1_operate_0 : cX1_operate.data.toList.drop 0 = dktX1_operate_0 := by decide +kernel
theorem dksX1_operate_1 : cX1_operate.data.toList.drop 23 = dktX1_operate_1 := dk_seg dksX1_operate_0 23 rfl rfl
theorem dksX1_operate_2 : cX1_operate.data.toList.drop 47 = dktX1_operate_2 := dk_seg dksX1_operate_1 24 rfl rfl
theorem dksX1_operate_3 : cX1_operate.data.toList.drop 69 = dktX1_operate_3 := dk_seg dksX1_operate_2 22 rfl rfl
theorem dksX1_operate_4 : cX1_operate.data.toList.drop 92 = dktX1_operate_4 := dk_seg dksX1_operate_3 23 rfl rfl
theorem dksX1_operate_5 : cX1_operate.data.toList.drop 114 = dktX1_operate_5 := dk_seg dksX1_operate_4 22 rfl rfl
theorem dksX1_operate_6 : cX1_operate.data.toList.drop 138 = dktX1_operate_6 := dk_seg dksX1_operate_5 24 rfl rfl
theorem dksX1_operate_7 : cX1_operate.data.toList.drop 160 = dktX1_operate_7 := dk_seg dksX1_operate_6 22 rfl rfl
theorem dX1_operate_0 : decode cX1_operate 0 = .ok (.aload_n 0, 1) := dk_42 (dk_at dksX1_operate_0 0 rfl rfl)
theorem dX1_operate_1 : decode cX1_operate 1 = .ok (.getfield 62, 3) := dk_180 0 62 (dk_at dksX1_operate_0 1 rfl rfl)
theorem dX1_operate_4 : decode cX1_operate 4 = .ok (.invokevirtual 126, 3) := dk_182 0 126 (dk_at dksX1_operate_0 4 rfl rfl)
theorem dX1_operate_7 : decode cX1_operate 7 = .ok (.istore 5, 2) := dk_54 5 (dk_at dksX1_operate_0 7 rfl rfl)
theorem dX1_operate_9 : decode cX1_operate 9 = .ok (.aload_n 2, 1) := dk_44 (dk_at dksX1_operate_0 9 rfl rfl)
theorem dX1_operate_10 : decode cX1_operate 10 = .ok (.arraylength, 1) := dk_190 (dk_at dksX1_operate_0 10 rfl rfl)
theorem dX1_operate_11 : decode cX1_operate 11 = .ok (.newarray .int, 2) := dk_188_10 (dk_at dksX1_operate_0 11 rfl rfl)
theorem dX1_operate_13 : decode cX1_operate 13 = .ok (.astore 6, 2) := dk_58 6 (dk_at dksX1_operate_0 13 rfl rfl)
theorem dX1_operate_15 : decode cX1_operate 15 = .ok (.aload_n 2, 1) := dk_44 (dk_at dksX1_operate_0 15 rfl rfl)
theorem dX1_operate_16 : decode cX1_operate 16 = .ok (.arraylength, 1) := dk_190 (dk_at dksX1_operate_0 16 rfl rfl)
theorem dX1_operate_17 : decode cX1_operate 17 = .ok (.newarray .int, 2) := dk_188_10 (dk_at dksX1_operate_0 17 rfl rfl)
theorem dX1_operate_19 : decode cX1_operate 19 = .ok (.astore 7, 2) := dk_58 7 (dk_at dksX1_operate_0 19 rfl rfl)
theorem dX1_operate_21 : decode cX1_operate 21 = .ok (.aload 4, 2) := dk_25 4 (dk_at dksX1_operate_0 21 rfl rfl)
theorem dX1_operate_23 : decode cX1_operate 23 = .ok (.ifnonnull 10, 3) := dk_199 0 10 (dk_at dksX1_operate_1 0 rfl rfl)
theorem dX1_operate_26 : decode cX1_operate 26 = .ok (.aload_n 2, 1) := dk_44 (dk_at dksX1_operate_1 3 rfl rfl)
theorem dX1_operate_27 : decode cX1_operate 27 = .ok (.arraylength, 1) := dk_190 (dk_at dksX1_operate_1 4 rfl rfl)
theorem dX1_operate_28 : decode cX1_operate 28 = .ok (.newarray .int, 2) := dk_188_10 (dk_at dksX1_operate_1 5 rfl rfl)
theorem dX1_operate_30 : decode cX1_operate 30 = .ok (.goto 5, 3) := dk_167 0 5 (dk_at dksX1_operate_1 7 rfl rfl)
theorem dX1_operate_33 : decode cX1_operate 33 = .ok (.aload 4, 2) := dk_25 4 (dk_at dksX1_operate_1 10 rfl rfl)
theorem dX1_operate_35 : decode cX1_operate 35 = .ok (.astore 8, 2) := dk_58 8 (dk_at dksX1_operate_1 12 rfl rfl)
theorem dX1_operate_37 : decode cX1_operate 37 = .ok (.iconst 0, 1) := dk_3 (dk_at dksX1_operate_1 14 rfl rfl)
theorem dX1_operate_38 : decode cX1_operate 38 = .ok (.istore 9, 2) := dk_54 9 (dk_at dksX1_operate_1 15 rfl rfl)
theorem dX1_operate_40 : decode cX1_operate 40 = .ok (.iload 9, 2) := dk_21 9 (dk_at dksX1_operate_1 17 rfl rfl)
theorem dX1_operate_42 : decode cX1_operate 42 = .ok (.aload_n 2, 1) := dk_44 (dk_at dksX1_operate_1 19 rfl rfl)
theorem dX1_operate_43 : decode cX1_operate 43 = .ok (.arraylength, 1) := dk_190 (dk_at dksX1_operate_1 20 rfl rfl)
theorem dX1_operate_44 : decode cX1_operate 44 = .ok (.if_icmp .ge 63, 3) := dk_162 0 63 (dk_at dksX1_operate_1 21 rfl rfl)
theorem dX1_operate_47 : decode cX1_operate 47 = .ok (.aload 6, 2) := dk_25 6 (dk_at dksX1_operate_2 0 rfl rfl)
theorem dX1_operate_49 : decode cX1_operate 49 = .ok (.iload 9, 2) := dk_21 9 (dk_at dksX1_operate_2 2 rfl rfl)
theorem dX1_operate_51 : decode cX1_operate 51 = .ok (.aload_n 1, 1) := dk_43 (dk_at dksX1_operate_2 4 rfl rfl)
theorem dX1_operate_52 : decode cX1_operate 52 = .ok (.getfield 136, 3) := dk_180 0 136 (dk_at dksX1_operate_2 5 rfl rfl)
theorem dX1_operate_55 : decode cX1_operate 55 = .ok (.getfield 139, 3) := dk_180 0 139 (dk_at dksX1_operate_2 8 rfl rfl)
theorem dX1_operate_58 : decode cX1_operate 58 = .ok (.aload_n 2, 1) := dk_44 (dk_at dksX1_operate_2 11 rfl rfl)
theorem dX1_operate_59 : decode cX1_operate 59 = .ok (.iload 9, 2) := dk_21 9 (dk_at dksX1_operate_2 12 rfl rfl)
theorem dX1_operate_61 : decode cX1_operate 61 = .ok (.iaload, 1) := dk_46 (dk_at dksX1_operate_2 14 rfl rfl)
theorem dX1_operate_62 : decode cX1_operate 62 = .ok (.iaload, 1) := dk_46 (dk_at dksX1_operate_2 15 rfl rfl)
theorem dX1_operate_63 : decode cX1_operate 63 = .ok (.iastore, 1) := dk_79 (dk_at dksX1_operate_2 16 rfl rfl)
theorem dX1_operate_64 : decode cX1_operate 64 = .ok (.aload 7, 2) := dk_25 7 (dk_at dksX1_operate_2 17 rfl rfl)
theorem dX1_operate_66 : decode cX1_operate 66 = .ok (.iload 9, 2) := dk_21 9 (dk_at dksX1_operate_2 19 rfl rfl)
theorem dX1_operate_68 : decode cX1_operate 68 = .ok (.aload_n 1, 1) := dk_43 (dk_at dksX1_operate_2 21 rfl rfl)
theorem dX1_operate_69 : decode cX1_operate 69 = .ok (.getfield 136, 3) := dk_180 0 136 (dk_at dksX1_operate_3 0 rfl rfl)
theorem dX1_operate_72 : decode cX1_operate 72 = .ok (.getfield 142, 3) := dk_180 0 142 (dk_at dksX1_operate_3 3 rfl rfl)
theorem dX1_operate_75 : decode cX1_operate 75 = .ok (.aload_n 2, 1) := dk_44 (dk_at dksX1_operate_3 6 rfl rfl)
theorem dX1_operate_76 : decode cX1_operate 76 = .ok (.iload 9, 2) := dk_21 9 (dk_at dksX1_operate_3 7 rfl rfl)
theorem dX1_operate_78 : decode cX1_operate 78 = .ok (.iaload, 1) := dk_46 (dk_at dksX1_operate_3 9 rfl rfl)
theorem dX1_operate_79 : decode cX1_operate 79 = .ok (.iaload, 1) := dk_46 (dk_at dksX1_operate_3 10 rfl rfl)
theorem dX1_operate_80 : decode cX1_operate 80 = .ok (.iastore, 1) := dk_79 (dk_at dksX1_operate_3 11 rfl rfl)
theorem dX1_operate_81 : decode cX1_operate 81 = .ok (.aload 8, 2) := dk_25 8 (dk_at dksX1_operate_3 12 rfl rfl)
theorem dX1_operate_83 : decode cX1_operate 83 = .ok (.iload 9, 2) := dk_21 9 (dk_at dksX1_operate_3 14 rfl rfl)
theorem dX1_operate_85 : decode cX1_operate 85 = .ok (.aload 4, 2) := dk_25 4 (dk_at dksX1_operate_3 16 rfl rfl)
theorem dX1_operate_87 : decode cX1_operate 87 = .ok (.ifnonnull 8, 3) := dk_199 0 8 (dk_at dksX1_operate_3 18 rfl rfl)
theorem dX1_operate_90 : decode cX1_operate 90 = .ok (.iload 5, 2) := dk_21 5 (dk_at dksX1_operate_3 21 rfl rfl)
theorem dX1_operate_92 : decode cX1_operate 92 = .ok (.goto 8, 3) := dk_167 0 8 (dk_at dksX1_operate_4 0 rfl rfl)
theorem dX1_operate_95 : decode cX1_operate 95 = .ok (.aload 8, 2) := dk_25 8 (dk_at dksX1_operate_4 3 rfl rfl)
theorem dX1_operate_97 : decode cX1_operate 97 = .ok (.iload 9, 2) := dk_21 9 (dk_at dksX1_operate_4 5 rfl rfl)
theorem dX1_operate_99 : decode cX1_operate 99 = .ok (.iaload, 1) := dk_46 (dk_at dksX1_operate_4 7 rfl rfl)
theorem dX1_operate_100 : decode cX1_operate 100 = .ok (.iastore, 1) := dk_79 (dk_at dksX1_operate_4 8 rfl rfl)
theorem dX1_operate_101 : decode cX1_operate 101 = .ok (.iinc 9 1, 3) := dk_132 9 1 (dk_at dksX1_operate_4 9 rfl rfl)
theorem dX1_operate_104 : decode cX1_operate 104 = .ok (.goto (-64), 3) := dk_167 255 192 (dk_at dksX1_operate_4 12 rfl rfl)
theorem dX1_operate_107 : decode cX1_operate 107 = .ok (.new 145, 3) := dk_187 0 145 (dk_at dksX1_operate_4 15 rfl rfl)
theorem dX1_operate_110 : decode cX1_operate 110 = .ok (.dup, 1) := dk_89 (dk_at dksX1_operate_4 18 rfl rfl)
theorem dX1_operate_111 : decode cX1_operate 111 = .ok (.iload 5, 2) := dk_21 5 (dk_at dksX1_operate_4 19 rfl rfl)
theorem dX1_operate_113 : decode cX1_operate 113 = .ok (.aload_n 1, 1) := dk_43 (dk_at dksX1_operate_4 21 rfl rfl)
theorem dX1_operate_114 : decode cX1_operate 114 = .ok (.getfield 147, 3) := dk_180 0 147 (dk_at dksX1_operate_5 0 rfl rfl)
theorem dX1_operate_117 : decode cX1_operate 117 = .ok (.aload_n 1, 1) := dk_43 (dk_at dksX1_operate_5 3 rfl rfl)
theorem dX1_operate_118 : decode cX1_operate 118 = .ok (.getfield 151, 3) := dk_180 0 151 (dk_at dksX1_operate_5 4 rfl rfl)
theorem dX1_operate_121 : decode cX1_operate 121 = .ok (.iconst 1, 1) := dk_4 (dk_at dksX1_operate_5 7 rfl rfl)
theorem dX1_operate_122 : decode cX1_operate 122 = .ok (.iadd, 1) := dk_96 (dk_at dksX1_operate_5 8 rfl rfl)
theorem dX1_operate_123 : decode cX1_operate 123 = .ok (.aload 4, 2) := dk_25 4 (dk_at dksX1_operate_5 9 rfl rfl)
theorem dX1_operate_125 : decode cX1_operate 125 = .ok (.ifnonnull 7, 3) := dk_199 0 7 (dk_at dksX1_operate_5 11 rfl rfl)
theorem dX1_operate_128 : decode cX1_operate 128 = .ok (.iconst 1, 1) := dk_4 (dk_at dksX1_operate_5 14 rfl rfl)
theorem dX1_operate_129 : decode cX1_operate 129 = .ok (.goto 4, 3) := dk_167 0 4 (dk_at dksX1_operate_5 15 rfl rfl)
theorem dX1_operate_132 : decode cX1_operate 132 = .ok (.iconst 0, 1) := dk_3 (dk_at dksX1_operate_5 18 rfl rfl)
theorem dX1_operate_133 : decode cX1_operate 133 = .ok (.iconst 5, 1) := dk_8 (dk_at dksX1_operate_5 19 rfl rfl)
theorem dX1_operate_134 : decode cX1_operate 134 = .ok (.anewarray 88, 3) := dk_189 0 88 (dk_at dksX1_operate_5 20 rfl rfl)
theorem dX1_operate_137 : decode cX1_operate 137 = .ok (.dup, 1) := dk_89 (dk_at dksX1_operate_5 23 rfl rfl)
theorem dX1_operate_138 : decode cX1_operate 138 = .ok (.iconst 0, 1) := dk_3 (dk_at dksX1_operate_6 0 rfl rfl)
theorem dX1_operate_139 : decode cX1_operate 139 = .ok (.aload_n 2, 1) := dk_44 (dk_at dksX1_operate_6 1 rfl rfl)
theorem dX1_operate_140 : decode cX1_operate 140 = .ok (.aastore, 1) := dk_83 (dk_at dksX1_operate_6 2 rfl rfl)
theorem dX1_operate_141 : decode cX1_operate 141 = .ok (.dup, 1) := dk_89 (dk_at dksX1_operate_6 3 rfl rfl)
theorem dX1_operate_142 : decode cX1_operate 142 = .ok (.iconst 1, 1) := dk_4 (dk_at dksX1_operate_6 4 rfl rfl)
theorem dX1_operate_143 : decode cX1_operate 143 = .ok (.aload_n 3, 1) := dk_45 (dk_at dksX1_operate_6 5 rfl rfl)
theorem dX1_operate_144 : decode cX1_operate 144 = .ok (.aastore, 1) := dk_83 (dk_at dksX1_operate_6 6 rfl rfl)
theorem dX1_operate_145 : decode cX1_operate 145 = .ok (.dup, 1) := dk_89 (dk_at dksX1_operate_6 7 rfl rfl)
theorem dX1_operate_146 : decode cX1_operate 146 = .ok (.iconst 2, 1) := dk_5 (dk_at dksX1_operate_6 8 rfl rfl)
theorem dX1_operate_147 : decode cX1_operate 147 = .ok (.aload 8, 2) := dk_25 8 (dk_at dksX1_operate_6 9 rfl rfl)
theorem dX1_operate_149 : decode cX1_operate 149 = .ok (.aastore, 1) := dk_83 (dk_at dksX1_operate_6 11 rfl rfl)
theorem dX1_operate_150 : decode cX1_operate 150 = .ok (.dup, 1) := dk_89 (dk_at dksX1_operate_6 12 rfl rfl)
theorem dX1_operate_151 : decode cX1_operate 151 = .ok (.iconst 3, 1) := dk_6 (dk_at dksX1_operate_6 13 rfl rfl)
theorem dX1_operate_152 : decode cX1_operate 152 = .ok (.aload 6, 2) := dk_25 6 (dk_at dksX1_operate_6 14 rfl rfl)
theorem dX1_operate_154 : decode cX1_operate 154 = .ok (.aastore, 1) := dk_83 (dk_at dksX1_operate_6 16 rfl rfl)
theorem dX1_operate_155 : decode cX1_operate 155 = .ok (.dup, 1) := dk_89 (dk_at dksX1_operate_6 17 rfl rfl)
theorem dX1_operate_156 : decode cX1_operate 156 = .ok (.iconst 4, 1) := dk_7 (dk_at dksX1_operate_6 18 rfl rfl)
theorem dX1_operate_157 : decode cX1_operate 157 = .ok (.aload 7, 2) := dk_25 7 (dk_at dksX1_operate_6 19 rfl rfl)
theorem dX1_operate_159 : decode cX1_operate 159 = .ok (.aastore, 1) := dk_83 (dk_at dksX1_operate_6 21 rfl rfl)
theorem dX1_operate_160 : decode cX1_operate 160 = .ok (.invokespecial 154, 3) := dk_183 0 154 (dk_at dksX1_operate_7 0 rfl rfl)
theorem dX1_operate_163 : decode cX1_operate 163 = .ok (.astore 9, 2) := dk_58 9 (dk_at dksX1_operate_7 3 rfl rfl)
theorem dX1_operate_165 : decode cX1_operate 165 = .ok (.aload_n 0, 1) := dk_42 (dk_at dksX1_operate_7 5 rfl rfl)
theorem dX1_operate_166 : decode cX1_operate 166 = .ok (.getfield 62, 3) := dk_180 0 62 (dk_at dksX1_operate_7 6 rfl rfl)
theorem dX1_operate_169 : decode cX1_operate 169 = .ok (.aload 9, 2) := dk_25 9 (dk_at dksX1_operate_7 9 rfl rfl)
theorem dX1_operate_171 : decode cX1_operate 171 = .ok (.invokevirtual 157, 3) := dk_182 0 157 (dk_at dksX1_operate_7 11 rfl rfl)
theorem dX1_operate_174 : decode cX1_operate 174 = .ok (.pop, 1) := dk_87 (dk_at dksX1_operate_7 14 rfl rfl)
theorem dX1_operate_175 : decode cX1_operate 175 = .ok (.aload_n 1, 1) := dk_43 (dk_at dksX1_operate_7 15 rfl rfl)
theorem dX1_operate_176 : decode cX1_operate 176 = .ok (.aload 9, 2) := dk_25 9 (dk_at dksX1_operate_7 16 rfl rfl)
theorem dX1_operate_178 : decode cX1_operate 178 = .ok (.invokevirtual 160, 3) := dk_182 0 160 (dk_at dksX1_operate_7 18 rfl rfl)
theorem dX1_operate_181 : decode cX1_operate 181 = .ok (.istore 10, 2) := dk_54 10 (dk_at dksX1_operate_7 21 rfl rfl)
theorem dX1_operate_183 : decode cX1_operate 183 = .ok (.return_, 1) := dk_177 (dk_at dksX1_operate_7 23 rfl rfl)
theorem q168 : (Jvm.Cond.fieldLinkNest "Plugboard" (139 : Nat) "Plugboard$Fields" "values" "[I" "Plugboard") ∈ lw_tbl := lw_at lw_m1 98 rfl
theorem q170 : (Jvm.Cond.fieldLinkNest "Plugboard" (142 : Nat) "Plugboard$Fields" "origins" "[I" "Plugboard") ∈ lw_tbl := lw_at lw_m1 100 rfl
theorem q207 : (Jvm.Cond.fieldLinkNest "Plugboard" (147 : Nat) "Plugboard$Board" "user" "I" "Plugboard") ∈ lw_tbl := lw_at lw_m1 137 rfl
theorem q210 : (Jvm.Cond.fieldLinkNest "Plugboard" (136 : Nat) "Plugboard$Board" "fields" "LPlugboard$Fields;" "Plugboard") ∈ lw_tbl := lw_at lw_m1 140 rfl
theorem q217 : (Jvm.Cond.fieldLinkNest "Plugboard" (151 : Nat) "Plugboard$Board" "clock" "I" "Plugboard") ∈ lw_tbl := lw_at lw_m1 147 rfl
theorem q602 : (Jvm.Cond.methodLink "Plugboard" (157 : Nat) ({ cls := "java/util/ArrayList", name := "add", desc := "(Ljava/lang/Object;)Z" } : Jvm.MethodName)) ∈ lw_all := lw_g (lw_at lw_m3 52 rfl) rfl
theorem q603 : (Jvm.Cond.instanceMethod ({ cls := "java/util/ArrayList", name := "add", desc := "(Ljava/lang/Object;)Z" } : Jvm.MethodName)) ∈ lw_all := lw_g (lw_at lw_m3 53 rfl) rfl
theorem q604 : (Jvm.Cond.selects "java/util/ArrayList" ({ cls := "java/util/ArrayList", name := "add", desc := "(Ljava/lang/Object;)Z" } : Jvm.MethodName) ({ cls := "java/util/ArrayList", name := "add", desc := "(Ljava/lang/Object;)Z" } : Jvm.MethodName)) ∈ lw_all := lw_g (lw_at lw_m3 54 rfl) rfl
theorem q605 : (Jvm.Cond.code ({ cls := "java/util/ArrayList", name := "add", desc := "(Ljava/lang/Object;)Z" } : Jvm.MethodName) prog_54_method_25_code (2 : Nat) (Option.some Jvm.ClassFile.FieldType.boolean)) ∈ lw_all := lw_g (lw_at lw_m3 55 rfl) rfl
theorem q692 : (Jvm.Cond.classLink "Plugboard" (145 : Nat) "Plugboard$Operation") ∈ lw_all := lw_g (lw_at lw_m3 142 rfl) rfl
theorem q693 : (Jvm.Cond.instantiable "Plugboard$Operation" (10 : Nat)) ∈ lw_all := lw_g (lw_at lw_m3 143 rfl) rfl
theorem q694 : (Jvm.Cond.methodLink "Plugboard" (154 : Nat) ({ cls := "Plugboard$Operation", name := "<init>", desc := "(IIIZ[[I)V" } : Jvm.MethodName)) ∈ lw_all := lw_g (lw_at lw_m3 144 rfl) rfl
theorem q695 : (Jvm.Cond.instanceMethod ({ cls := "Plugboard$Operation", name := "<init>", desc := "(IIIZ[[I)V" } : Jvm.MethodName)) ∈ lw_all := lw_g (lw_at lw_m3 145 rfl) rfl
theorem q696 : (Jvm.Cond.code ({ cls := "Plugboard$Operation", name := "<init>", desc := "(IIIZ[[I)V" } : Jvm.MethodName) prog_13_method_1_code (6 : Nat) (Option.none : Option Jvm.ClassFile.FieldType)) ∈ lw_all := lw_g (lw_at lw_m3 146 rfl) rfl
theorem q741 : (Jvm.Cond.methodLink "Plugboard" (160 : Nat) ({ cls := "Plugboard$Board", name := "take", desc := "(LPlugboard$Operation;)Z" } : Jvm.MethodName)) ∈ lw_all := lw_g (lw_at lw_m3 191 rfl) rfl
theorem q742 : (Jvm.Cond.instanceMethod ({ cls := "Plugboard$Board", name := "take", desc := "(LPlugboard$Operation;)Z" } : Jvm.MethodName)) ∈ lw_all := lw_g (lw_at lw_m3 192 rfl) rfl
theorem q743 : (Jvm.Cond.selects "Plugboard$Board" ({ cls := "Plugboard$Board", name := "take", desc := "(LPlugboard$Operation;)Z" } : Jvm.MethodName) ({ cls := "Plugboard$Board", name := "take", desc := "(LPlugboard$Operation;)Z" } : Jvm.MethodName)) ∈ lw_all := lw_g (lw_at lw_m3 193 rfl) rfl
theorem q744 : (Jvm.Cond.code ({ cls := "Plugboard$Board", name := "take", desc := "(LPlugboard$Operation;)Z" } : Jvm.MethodName) prog_3_method_2_code (2 : Nat) (Option.some Jvm.ClassFile.FieldType.boolean)) ∈ lw_all := lw_g (lw_at lw_m3 194 rfl) rfl
abbrev rm_X1_operate : Room := { frames := 9, cells := 8, slots := 191, locals := 217 }
def w_X1_operate_133 (P : AH → Prop) (x0 : Option Nat) (x1 : Option Nat) (x2 : Option Nat) (x3 : Option Nat) (x6 : Option Nat) (x7 : Option Nat) (x8 : Option Nat) (t0 : Int32) (t1 : Int32) (t2 : Int32) (t3 : Int32) (t4 : Option Nat) (t5 : Option Nat) (h : AH) : Prop :=
  mk_q h 13 5 5 fun q134 h134 =>
  s_q h134 (some q134) 13 0 x2 fun h140 =>
  s_q h140 (some q134) 13 1 x3 fun h144 =>
  s_q h144 (some q134) 13 2 x8 fun h149 =>
  s_q h149 (some q134) 13 3 x6 fun h154 =>
  s_q h154 (some q134) 13 4 x7 fun h159 =>
  nn t4 (
  w_X11_init t4 t3 t2 t1 t0 (some q134) h159 (fun h160 =>
  g_q h160 x0 0 2 fun y166 =>
  is_c h160 y166 [15] (
  w_J2_add y166 t5 h160 (fun y171 h171 =>
  is_c h171 x1 [2] (
  w_X3_take x1 t5 h171 (fun y178 h178 =>
  P h178))))))
def w_X1_operate_40 (P : AH → Prop) (x0 : Option Nat) (x1 : Option Nat) (x2 : Option Nat) (x3 : Option Nat) (x4 : Option Nat) (x5 : Int32) (x6 : Option Nat) (x7 : Option Nat) (x8 : Option Nat) (x9 : Int32) (h : AH) : Prop :=
  ∀ Z40 : Int32 → AH → Prop, (∀ x9 h, (
      n_a h x2 fun y43 =>
      ((y43 ≤ x9 →
        mk h (.inr (9, dvX11)) fun q107 h107 =>
        g_i h107 x1 2 0 fun y114 =>
        g_i h107 x1 2 4 fun y118 =>
        ((x4 = (none : Option Nat) →
          w_X1_operate_133 P x0 x1 x2 x3 x6 x7 x8 1 (y118 + 1) y114 x5 (some q107) (some q107) h107) ∧
         (¬ x4 = (none : Option Nat) →
          w_X1_operate_133 P x0 x1 x2 x3 x6 x7 x8 0 (y118 + 1) y114 x5 (some q107) (some q107) h107))) ∧
       (¬ y43 ≤ x9 →
        g_q h x1 2 1 fun y52 =>
        g_q h y52 1 0 fun y55 =>
        l_i h x2 0 x9 fun y61 =>
        l_i h y55 0 y61 fun y62 =>
        s_i h x6 0 x9 y62 fun h63 =>
        g_q h63 x1 2 1 fun y69 =>
        g_q h63 y69 1 1 fun y72 =>
        l_i h63 x2 0 x9 fun y78 =>
        l_i h63 y72 0 y78 fun y79 =>
        s_i h63 x7 0 x9 y79 fun h80 =>
        ((x4 = (none : Option Nat) →
          s_i h80 x8 0 x9 x5 fun h100 =>
          Z40 (x9 + 1) h100) ∧
         (¬ x4 = (none : Option Nat) →
          l_i h80 x8 0 x9 fun y99 =>
          s_i h80 x8 0 x9 y99 fun h100 =>
          Z40 (x9 + 1) h100)))))
      → Z40 x9 h) → Z40 x9 h
def w_X1_operate (a0 : Option Nat) (a1 : Option Nat) (a2 : Option Nat) (a3 : Option Nat) (a4 : Option Nat) (h : AH) (P : AH → Prop) : Prop :=
  g_q h a0 0 2 fun y1 =>
  is_c h y1 [15] (
  w_J2_size y1 h (fun y4 h4 =>
  n_a h4 a2 fun y10 =>
  mk_i h4 0 y10 16 fun q11 h11 =>
  n_a h11 a2 fun y16 =>
  mk_i h11 0 y16 16 fun q17 h17 =>
  ((a4 = (none : Option Nat) →
    n_a h17 a2 fun y27 =>
    mk_i h17 0 y27 16 fun q28 h28 =>
    w_X1_operate_40 P a0 a1 a2 a3 a4 y4 (some q11) (some q17) (some q28) 0 h28) ∧
   (¬ a4 = (none : Option Nat) →
    w_X1_operate_40 P a0 a1 a2 a3 a4 y4 (some q11) (some q17) a4 0 h17))))
theorem wk_X1_operate_133 {x : CX} (X : Ok x cX1_operate RX1 rm_X1_operate 11) (er : xrt x = (Option.none : Option Jvm.ClassFile.FieldType)) (en : xnm x = yX1_operate.name) {P : AH → Prop} (hQ : xr_v x P) (x0 : Option Nat) (x1 : Option Nat) (x2 : Option Nat) (x3 : Option Nat) (x6 : Option Nat) (x7 : Option Nat) (x8 : Option Nat) (t0 : Int32) (t1 : Int32) (t2 : Int32) (t3 : Int32) (t4 : Option Nat) (t5 : Option Nat) (h : AH) (hw : w_X1_operate_133 P x0 x1 x2 x3 x6 x7 x8 t0 t1 t2 t3 t4 t5 h) : J x h 4 58 133 [(0, vR x0), (1, vR x1), (2, vR x2), (3, vR x3), (6, vR x6), (7, vR x7), (8, vR x8)] [vI t0, vI t1, vI t2, vI t3, vR t4, vR t5] := by
  refine j_iconst X (pc := 133) 5 dX1_operate_133 (by decide) ?_
  refine j_newA X (pc := 134) 13 rfl (by decide) 5 dX1_operate_134 q234 (fun U hU => kt_13 hU) (by decide) (Nat.le_of_ble_eq_true rfl) (Nat.le_of_ble_eq_true rfl) hw (fun q134 h134 hw => ?_)
  refine j_dup X (pc := 137) dX1_operate_137 rfl ?_
  refine j_iconst X (pc := 138) 0 dX1_operate_138 (by decide) ?_
  refine j_aload_n X (pc := 139) 2 dX1_operate_139 rfl rfl ?_
  refine j_aast X (pc := 140) 13 (Nat.le_of_ble_eq_true rfl) rfl dX1_operate_140 hw (fun h140 hw => ?_)
  refine j_dup X (pc := 141) dX1_operate_141 rfl ?_
  refine j_iconst X (pc := 142) 1 dX1_operate_142 (by decide) ?_
  refine j_aload_n X (pc := 143) 3 dX1_operate_143 rfl rfl ?_
  refine j_aast X (pc := 144) 13 (Nat.le_of_ble_eq_true rfl) rfl dX1_operate_144 hw (fun h144 hw => ?_)
  refine j_dup X (pc := 145) dX1_operate_145 rfl ?_
  refine j_iconst X (pc := 146) 2 dX1_operate_146 (by decide) ?_
  refine j_aload X (pc := 147) 6 dX1_operate_147 rfl ?_
  refine j_aast X (pc := 149) 13 (Nat.le_of_ble_eq_true rfl) rfl dX1_operate_149 hw (fun h149 hw => ?_)
  refine j_dup X (pc := 150) dX1_operate_150 rfl ?_
  refine j_iconst X (pc := 151) 3 dX1_operate_151 (by decide) ?_
  refine j_aload X (pc := 152) 4 dX1_operate_152 rfl ?_
  refine j_aast X (pc := 154) 13 (Nat.le_of_ble_eq_true rfl) rfl dX1_operate_154 hw (fun h154 hw => ?_)
  refine j_dup X (pc := 155) dX1_operate_155 rfl ?_
  refine j_iconst X (pc := 156) 4 dX1_operate_156 (by decide) ?_
  refine j_aload X (pc := 157) 5 dX1_operate_157 rfl ?_
  refine j_aast X (pc := 159) 13 (Nat.le_of_ble_eq_true rfl) rfl dX1_operate_159 hw (fun h159 hw => ?_)
  obtain ⟨b9, hr9, hw⟩ := hw
  refine j_callv (j_runI (n8 := 5) (As := [vI t3, vI t2, vI t1, vI t0, vR (some q134)]) (rest := [vR t5]) X (pc := 160) hr9 (met_X11_init (xl x) X.hl (xG x) h159 t4 t3 t2 t1 t0 (some q134) _ hw) q694 q695 q100 q696 (by decide +kernel) dX1_operate_160 rfl ⟨Nat.le_of_ble_eq_true rfl, Nat.le_of_ble_eq_true rfl⟩ (Nat.le_of_ble_eq_true rfl) ⟨Nat.le_of_ble_eq_true rfl, Nat.le_of_ble_eq_true rfl⟩) (fun h160 hw => ?_)
  refine j_astore X (pc := 163) [(9, vR t5), (0, vR x0), (1, vR x1), (2, vR x2), (3, vR x3), (6, vR x6), (7, vR x7), (8, vR x8)] dX1_operate_163 (Nat.le_of_ble_eq_true rfl) rfl ?_
  refine j_aload_n X (pc := 165) 1 dX1_operate_165 rfl rfl ?_
  refine j_getq (ci := 0) X (pc := 166) in_X1 rfl (by decide) 2 (by decide) q243 (Or.inl rfl) dX1_operate_166 hw (fun y166 hw => ?_)
  refine j_aload X (pc := 169) 0 dX1_operate_169 rfl ?_
  obtain ⟨b9, c9, f9, hr9, ho9, hc9, hw⟩ := hw
  obtain rfl := List.mem_singleton.mp hc9
  refine j_calli (j_runV (n8 := 1) (As := [vR t5]) (rest := []) X (pc := 171) hr9 (met_J2_add (xl x) X.hl (xG x) h160 y166 t5 _ hw) ho9 (by decide) rfl q602 q603 q604 q74 q605 (by decide +kernel) dX1_operate_171 rfl ⟨Nat.le_of_ble_eq_true rfl, Nat.le_of_ble_eq_true rfl⟩ (Nat.le_of_ble_eq_true rfl) ⟨Nat.le_of_ble_eq_true rfl, Nat.le_of_ble_eq_true rfl⟩) (fun y171 h171 hw => ?_)
  refine j_pop X (pc := 174) dX1_operate_174 rfl ?_
  refine j_aload_n X (pc := 175) 2 dX1_operate_175 rfl rfl ?_
  refine j_aload X (pc := 176) 0 dX1_operate_176 rfl ?_
  obtain ⟨b9, c9, f9, hr9, ho9, hc9, hw⟩ := hw
  obtain rfl := List.mem_singleton.mp hc9
  refine j_calli (j_runV (n8 := 1) (As := [vR t5]) (rest := []) X (pc := 178) hr9 (met_X3_take (xl x) X.hl (xG x) h171 x1 t5 _ hw) ho9 (by decide) rfl q741 q742 q743 q76 q744 (by decide +kernel) dX1_operate_178 rfl ⟨Nat.le_of_ble_eq_true rfl, Nat.le_of_ble_eq_true rfl⟩ (Nat.le_of_ble_eq_true rfl) ⟨Nat.le_of_ble_eq_true rfl, Nat.le_of_ble_eq_true rfl⟩) (fun y178 h178 hw => ?_)
  refine j_istore X (pc := 181) [(10, vI y178), (9, vR t5), (0, vR x0), (1, vR x1), (2, vR x2), (3, vR x3), (6, vR x6), (7, vR x7), (8, vR x8)] dX1_operate_181 (Nat.le_of_ble_eq_true rfl) rfl ?_
  exact j_vret X (pc := 183) hQ er (Nat.le_of_ble_eq_true rfl) (Nat.le_of_ble_eq_true rfl) dX1_operate_183 hw
theorem wk_X1_operate_40 {x : CX} (X : Ok x cX1_operate RX1 rm_X1_operate 11) (er : xrt x = (Option.none : Option Jvm.ClassFile.FieldType)) (en : xnm x = yX1_operate.name) {P : AH → Prop} (hQ : xr_v x P) (x0 : Option Nat) (x1 : Option Nat) (x2 : Option Nat) (x3 : Option Nat) (x4 : Option Nat) (x5 : Int32) (x6 : Option Nat) (x7 : Option Nat) (x8 : Option Nat) (x9 : Int32) (h : AH) (hw : w_X1_operate_40 P x0 x1 x2 x3 x4 x5 x6 x7 x8 x9 h) : J x h 3 48 40 [(0, vR x0), (1, vR x1), (2, vR x2), (3, vR x3), (4, vR x4), (5, vI x5), (6, vR x6), (7, vR x7), (8, vR x8), (9, vI x9)] [] := by
  refine hw (fun x9 h => J x h 3 48 40 [(0, vR x0), (1, vR x1), (2, vR x2), (3, vR x3), (4, vR x4), (5, vI x5), (6, vR x6), (7, vR x7), (8, vR x8), (9, vI x9)] []) (fun x9 h hw => ?_)
  refine j_iload X (pc := 40) 9 dX1_operate_40 rfl ?_
  refine j_aload_n X (pc := 42) 2 dX1_operate_42 rfl rfl ?_
  refine j_alen X (pc := 43) dX1_operate_43 hw (fun y43 hw => ?_)
  refine j_icmp_ge X (pc := 44) 107 dX1_operate_44 (by decide) hw (fun hw => ?_) (fun hw => ?_)
  · refine j_new (ci := 9) X (pc := 107) in_X11 rfl (by decide) tyX11 tyX11_ok q692 q693 q100 (fs := dvX11) dfX11 (Nat.le_of_ble_eq_true rfl) (Nat.le_of_ble_eq_true rfl) dX1_operate_107 hw (fun q107 h107 hw => ?_)
    refine j_dup X (pc := 110) dX1_operate_110 rfl ?_
    refine j_iload X (pc := 111) 5 dX1_operate_111 rfl ?_
    refine j_aload_n X (pc := 113) 1 dX1_operate_113 rfl rfl ?_
    refine j_getiN (ci := 2) X (pc := 114) in_X3 rfl (by decide) 0 (by decide) q207 (Or.inl rfl) dX1_operate_114 hw (fun y114 hw => ?_)
    refine j_aload_n X (pc := 117) 1 dX1_operate_117 rfl rfl ?_
    refine j_getiN (ci := 2) X (pc := 118) in_X3 rfl (by decide) 4 (by decide) q217 (Or.inl rfl) dX1_operate_118 hw (fun y118 hw => ?_)
    refine j_iconst X (pc := 121) 1 dX1_operate_121 (by decide) ?_
    refine j_iadd X (pc := 122) dX1_operate_122 ?_
    refine j_aload X (pc := 123) 4 dX1_operate_123 rfl ?_
    refine j_ifnonnull X (pc := 125) 132 dX1_operate_125 (by decide) hw (fun hw => ?_) (fun hw => ?_)
    · refine j_iconst X (pc := 128) 1 dX1_operate_128 (by decide) ?_
      refine j_goto X (pc := 129) 133 dX1_operate_129 (by decide) ?_
      refine j_lv [(0, vR x0), (1, vR x1), (2, vR x2), (3, vR x3), (6, vR x6), (7, vR x7), (8, vR x8)] [0, 1, 2, 3, 6, 7, 8] rfl ?_
      refine j_cs (u' := 4) (v' := 58) (Nat.le_of_ble_eq_true rfl) (Nat.le_of_ble_eq_true rfl) ?_
      exact wk_X1_operate_133 X er en hQ x0 x1 x2 x3 x6 x7 x8 1 (y118 + 1) y114 x5 (some q107) (some q107) h107 hw
    · refine j_iconst X (pc := 132) 0 dX1_operate_132 (by decide) ?_
      refine j_lv [(0, vR x0), (1, vR x1), (2, vR x2), (3, vR x3), (6, vR x6), (7, vR x7), (8, vR x8)] [0, 1, 2, 3, 6, 7, 8] rfl ?_
      refine j_cs (u' := 4) (v' := 58) (Nat.le_of_ble_eq_true rfl) (Nat.le_of_ble_eq_true rfl) ?_
      exact wk_X1_operate_133 X er en hQ x0 x1 x2 x3 x6 x7 x8 0 (y118 + 1) y114 x5 (some q107) (some q107) h107 hw
  · refine j_aload X (pc := 47) 6 dX1_operate_47 rfl ?_
    refine j_iload X (pc := 49) 9 dX1_operate_49 rfl ?_
    refine j_aload_n X (pc := 51) 1 dX1_operate_51 rfl rfl ?_
    refine j_getqN (ci := 2) X (pc := 52) in_X3 rfl (by decide) 1 (by decide) q210 (Or.inl rfl) dX1_operate_52 hw (fun y52 hw => ?_)
    refine j_getqN (ci := 1) X (pc := 55) in_X2 rfl (by decide) 0 (by decide) q168 (Or.inl rfl) dX1_operate_55 hw (fun y55 hw => ?_)
    refine j_aload_n X (pc := 58) 2 dX1_operate_58 rfl rfl ?_
    refine j_iload X (pc := 59) 9 dX1_operate_59 rfl ?_
    refine j_iald X (pc := 61) 0 rfl dX1_operate_61 hw (fun y61 hw => ?_)
    refine j_iald X (pc := 62) 0 rfl dX1_operate_62 hw (fun y62 hw => ?_)
    refine j_iast X (pc := 63) 0 rfl rfl dX1_operate_63 hw (fun h63 hw => ?_)
    refine j_aload X (pc := 64) 7 dX1_operate_64 rfl ?_
    refine j_iload X (pc := 66) 9 dX1_operate_66 rfl ?_
    refine j_aload_n X (pc := 68) 1 dX1_operate_68 rfl rfl ?_
    refine j_getqN (ci := 2) X (pc := 69) in_X3 rfl (by decide) 1 (by decide) q210 (Or.inl rfl) dX1_operate_69 hw (fun y69 hw => ?_)
    refine j_getqN (ci := 1) X (pc := 72) in_X2 rfl (by decide) 1 (by decide) q170 (Or.inl rfl) dX1_operate_72 hw (fun y72 hw => ?_)
    refine j_aload_n X (pc := 75) 2 dX1_operate_75 rfl rfl ?_
    refine j_iload X (pc := 76) 9 dX1_operate_76 rfl ?_
    refine j_iald X (pc := 78) 0 rfl dX1_operate_78 hw (fun y78 hw => ?_)
    refine j_iald X (pc := 79) 0 rfl dX1_operate_79 hw (fun y79 hw => ?_)
    refine j_iast X (pc := 80) 0 rfl rfl dX1_operate_80 hw (fun h80 hw => ?_)
    refine j_aload X (pc := 81) 8 dX1_operate_81 rfl ?_
    refine j_iload X (pc := 83) 9 dX1_operate_83 rfl ?_
    refine j_aload X (pc := 85) 4 dX1_operate_85 rfl ?_
    refine j_ifnonnull X (pc := 87) 95 dX1_operate_87 (by decide) hw (fun hw => ?_) (fun hw => ?_)
    · refine j_iload X (pc := 90) 5 dX1_operate_90 rfl ?_
      refine j_goto X (pc := 92) 100 dX1_operate_92 (by decide) ?_
      refine j_iast X (pc := 100) 0 rfl rfl dX1_operate_100 hw (fun h100 hw => ?_)
      refine j_iinc X (pc := 101) 9 (x9 + 1) [(9, vI (x9 + 1)), (0, vR x0), (1, vR x1), (2, vR x2), (3, vR x3), (4, vR x4), (5, vI x5), (6, vR x6), (7, vR x7), (8, vR x8)] dX1_operate_101 rfl rfl (Nat.le_of_ble_eq_true rfl) rfl ?_
      refine j_goto X (pc := 104) 40 dX1_operate_104 (by decide) ?_
      refine j_lv [(0, vR x0), (1, vR x1), (2, vR x2), (3, vR x3), (4, vR x4), (5, vI x5), (6, vR x6), (7, vR x7), (8, vR x8), (9, vI (x9 + 1))] [1, 2, 3, 4, 5, 6, 7, 8, 9, 0] rfl ?_
      refine j_cs (u' := 3) (v' := 48) (Nat.le_of_ble_eq_true rfl) (Nat.le_of_ble_eq_true rfl) ?_
      exact hw
    · refine j_aload X (pc := 95) 8 dX1_operate_95 rfl ?_
      refine j_iload X (pc := 97) 9 dX1_operate_97 rfl ?_
      refine j_iald X (pc := 99) 0 rfl dX1_operate_99 hw (fun y99 hw => ?_)
      refine j_iast X (pc := 100) 0 rfl rfl dX1_operate_100 hw (fun h100 hw => ?_)
      refine j_iinc X (pc := 101) 9 (x9 + 1) [(9, vI (x9 + 1)), (0, vR x0), (1, vR x1), (2, vR x2), (3, vR x3), (4, vR x4), (5, vI x5), (6, vR x6), (7, vR x7), (8, vR x8)] dX1_operate_101 rfl rfl (Nat.le_of_ble_eq_true rfl) rfl ?_
      refine j_goto X (pc := 104) 40 dX1_operate_104 (by decide) ?_
      refine j_lv [(0, vR x0), (1, vR x1), (2, vR x2), (3, vR x3), (4, vR x4), (5, vI x5), (6, vR x6), (7, vR x7), (8, vR x8), (9, vI (x9 + 1))] [1, 2, 3, 4, 5, 6, 7, 8, 9, 0] rfl ?_
      refine j_cs (u' := 3) (v' := 48) (Nat.le_of_ble_eq_true rfl) (Nat.le_of_ble_eq_true rfl) ?_
      exact hw
theorem met_X1_operate (l : Launch) (hlt : l.stackTraces = false) (G : GG) (h : AH) (a0 : Option Nat) (a1 : Option Nat) (a2 : Option Nat) (a3 : Option Nat) (a4 : Option Nat) (P : AH → Prop) (hw : w_X1_operate a0 a1 a2 a3 a4 h P) : ct_v l yX1_operate (ws_ yX1_operate cX1_operate 11 (Option.none : Option Jvm.ClassFile.FieldType)) rm_X1_operate G h [vR a0, vR a1, vR a2, vR a3, vR a4] P := by
  refine j_startv hlt [(0, vR a0), (1, vR a1), (2, vR a2), (3, vR a3), (4, vR a4)] (plainFor_of_name (by decide)) rfl rfl (fun x X eG er en hQ => ?_)
  subst eG
  refine j_aload_n X (pc := 0) 0 dX1_operate_0 rfl rfl ?_
  refine j_getq (ci := 0) X (pc := 1) in_X1 rfl (by decide) 2 (by decide) q243 (Or.inl rfl) dX1_operate_1 hw (fun y1 hw => ?_)
  obtain ⟨b9, c9, f9, hr9, ho9, hc9, hw⟩ := hw
  obtain rfl := List.mem_singleton.mp hc9
  refine j_calli (j_runV (n8 := 0) (As := []) (rest := []) X (pc := 4) hr9 (met_J2_size (xl x) X.hl (xG x) h y1 _ hw) ho9 (by decide) rfl q284 q285 q286 q74 q287 (by decide +kernel) dX1_operate_4 rfl ⟨Nat.le_of_ble_eq_true rfl, Nat.le_of_ble_eq_true rfl⟩ (Nat.le_of_ble_eq_true rfl) ⟨Nat.le_of_ble_eq_true rfl, Nat.le_of_ble_eq_true rfl⟩) (fun y4 h4 hw => ?_)
  refine j_istore X (pc := 7) [(5, vI y4), (0, vR a0), (1, vR a1), (2, vR a2), (3, vR a3), (4, vR a4)] dX1_operate_7 (Nat.le_of_ble_eq_true rfl) rfl ?_
  refine j_aload_n X (pc := 9) 3 dX1_operate_9 rfl rfl ?_
  refine j_alen X (pc := 10) dX1_operate_10 hw (fun y10 hw => ?_)
  refine j_newI X (pc := 11) 16 dX1_operate_11 q180 (by decide) (Nat.le_of_ble_eq_true rfl) (Nat.le_of_ble_eq_true rfl) hw (fun q11 h11 hw => ?_)
  refine j_astore X (pc := 13) [(6, vR (some q11)), (5, vI y4), (0, vR a0), (1, vR a1), (2, vR a2), (3, vR a3), (4, vR a4)] dX1_operate_13 (Nat.le_of_ble_eq_true rfl) rfl ?_
  refine j_aload_n X (pc := 15) 4 dX1_operate_15 rfl rfl ?_
  refine j_alen X (pc := 16) dX1_operate_16 hw (fun y16 hw => ?_)
  refine j_newI X (pc := 17) 16 dX1_operate_17 q180 (by decide) (Nat.le_of_ble_eq_true rfl) (Nat.le_of_ble_eq_true rfl) hw (fun q17 h17 hw => ?_)
  refine j_astore X (pc := 19) [(7, vR (some q17)), (6, vR (some q11)), (5, vI y4), (0, vR a0), (1, vR a1), (2, vR a2), (3, vR a3), (4, vR a4)] dX1_operate_19 (Nat.le_of_ble_eq_true rfl) rfl ?_
  refine j_aload X (pc := 21) 7 dX1_operate_21 rfl ?_
  refine j_ifnonnull X (pc := 23) 33 dX1_operate_23 (by decide) hw (fun hw => ?_) (fun hw => ?_)
  · refine j_aload_n X (pc := 26) 5 dX1_operate_26 rfl rfl ?_
    refine j_alen X (pc := 27) dX1_operate_27 hw (fun y27 hw => ?_)
    refine j_newI X (pc := 28) 16 dX1_operate_28 q180 (by decide) (Nat.le_of_ble_eq_true rfl) (Nat.le_of_ble_eq_true rfl) hw (fun q28 h28 hw => ?_)
    refine j_goto X (pc := 30) 35 dX1_operate_30 (by decide) ?_
    refine j_astore X (pc := 35) [(8, vR (some q28)), (7, vR (some q17)), (6, vR (some q11)), (5, vI y4), (0, vR a0), (1, vR a1), (2, vR a2), (3, vR a3), (4, vR a4)] dX1_operate_35 (Nat.le_of_ble_eq_true rfl) rfl ?_
    refine j_iconst X (pc := 37) 0 dX1_operate_37 (by decide) ?_
    refine j_istore X (pc := 38) [(9, vI 0), (8, vR (some q28)), (7, vR (some q17)), (6, vR (some q11)), (5, vI y4), (0, vR a0), (1, vR a1), (2, vR a2), (3, vR a3), (4, vR a4)] dX1_operate_38 (Nat.le_of_ble_eq_true rfl) rfl ?_
    refine j_lv [(0, vR a0), (1, vR a1), (2, vR a2), (3, vR a3), (4, vR a4), (5, vI y4), (6, vR (some q11)), (7, vR (some q17)), (8, vR (some q28)), (9, vI 0)] [5, 6, 7, 8, 9, 4, 3, 2, 1, 0] rfl ?_
    refine j_cs (u' := 3) (v' := 48) (Nat.le_of_ble_eq_true rfl) (Nat.le_of_ble_eq_true rfl) ?_
    exact wk_X1_operate_40 X er en hQ a0 a1 a2 a3 a4 y4 (some q11) (some q17) (some q28) 0 h28 hw
  · refine j_aload X (pc := 33) 7 dX1_operate_33 rfl ?_
    refine j_astore X (pc := 35) [(8, vR a4), (7, vR (some q17)), (6, vR (some q11)), (5, vI y4), (0, vR a0), (1, vR a1), (2, vR a2), (3, vR a3), (4, vR a4)] dX1_operate_35 (Nat.le_of_ble_eq_true rfl) rfl ?_
    refine j_iconst X (pc := 37) 0 dX1_operate_37 (by decide) ?_
    refine j_istore X (pc := 38) [(9, vI 0), (8, vR a4), (7, vR (some q17)), (6, vR (some q11)), (5, vI y4), (0, vR a0), (1, vR a1), (2, vR a2), (3, vR a3), (4, vR a4)] dX1_operate_38 (Nat.le_of_ble_eq_true rfl) rfl ?_
    refine j_lv [(0, vR a0), (1, vR a1), (2, vR a2), (3, vR a3), (4, vR a4), (5, vI y4), (6, vR (some q11)), (7, vR (some q17)), (8, vR a4), (9, vI 0)] [5, 6, 7, 8, 9, 4, 3, 2, 1, 0] rfl ?_
    refine j_cs (u' := 3) (v' := 48) (Nat.le_of_ble_eq_true rfl) (Nat.le_of_ble_eq_true rfl) ?_
    exact wk_X1_operate_40 X er en hQ a0 a1 a2 a3 a4 y4 (some q11) (some q17) a4 0 h17 hw
