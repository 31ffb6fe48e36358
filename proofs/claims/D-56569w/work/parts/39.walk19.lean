/-! walks (printed): Plugboard.Orders, java/lang/Integer, java/lang/Number, java/util/ArrayList -/
set_option maxRecDepth 100000
abbrev cX16_init : ByteArray := prog_14_method_1_code
def yX16_init : MethodName := ⟨RX16, "<init>", "(LPlugboard;LPlugboard$Board;I)V"⟩
def dkwX16_init_4 : List UInt8 := [192, 0, 62, 182, 0, 64, 132, 4, 1, 167, 255, 225, 177]
abbrev dktX16_init_4 : List UInt8 := dkwX16_init_4 ++ []
def dkwX16_init_3 : List UInt8 := [54, 4, 21, 4, 42, 180, 0, 45, 162, 0, 28, 43, 180, 0, 49, 42, 180, 0, 28, 21, 4, 182, 0, 58]
abbrev dktX16_init_3 : List UInt8 := dkwX16_init_3 ++ dktX16_init_4
def dkwX16_init_2 : List UInt8 := [42, 180, 0, 28, 182, 0, 29, 42, 180, 0, 41, 190, 100, 181, 0, 45, 43, 180, 0, 49, 182, 0, 53, 3]
abbrev dktX16_init_2 : List UInt8 := dkwX16_init_2 ++ dktX16_init_3
def dkwX16_init_1 : List UInt8 := [180, 0, 22, 181, 0, 28, 42, 29, 42, 180, 0, 28, 182, 0, 29, 184, 0, 35, 188, 9, 181, 0, 41, 42]
abbrev dktX16_init_1 : List UInt8 := dkwX16_init_1 ++ dktX16_init_2
def dkwX16_init_0 : List UInt8 := [42, 43, 181, 0, 3, 42, 183, 0, 9, 42, 187, 0, 15, 89, 183, 0, 17, 181, 0, 18, 42, 44]
abbrev dktX16_init_0 : List UInt8 := dkwX16_init_0 ++ dktX16_init_1
theorem dksX16_init_0 : cX16_init.data.toList.drop 0 = dktX16_init_0 := by decide +kernel
theorem dksX16_init_1 : cX16_init.data.toList.drop 22 = dktX16_init_1 := dk_seg dksX16_init_0 22 rfl rfl
theorem dksX16_init_2 : cX16_init.data.toList.drop 46 = dktX16_init_2 := dk_seg dksX16_init_1 24 rfl rfl
theorem dksX16_init_3 : cX16_init.data.toList.drop 70 = dktX16_init_3 := dk_seg dksX16_init_2 24 rfl rfl
theorem dksX16_init_4 : cX16_init.data.toList.drop 94 = dktX16_init_4 := dk_seg dksX16_init_3 24 rfl rfl
theorem dX16_init_0 : decode cX16_init 0 = .ok (.aload_n 0, 1) := dk_42 (dk_at dksX16_init_0 0 rfl rfl)
theorem dX16_init_1 : decode cX16_init 1 = .ok (.aload_n 1, 1) := dk_43 (dk_at dksX16_init_0 1 rfl rfl)
theorem dX16_init_2 : decode cX16_init 2 = .ok (.putfield 3, 3) := dk_181 0 3 (dk_at dksX16_init_0 2 rfl rfl)
theorem dX16_init_5 : decode cX16_init 5 = .ok (.aload_n 0, 1) := dk_42 (dk_at dksX16_init_0 5 rfl rfl)
theorem dX16_init_6 : decode cX16_init 6 = .ok (.invokespecial 9, 3) := dk_183 0 9 (dk_at dksX16_init_0 6 rfl rfl)
theorem dX16_init_9 : decode cX16_init 9 = .ok (.aload_n 0, 1) := dk_42 (dk_at dksX16_init_0 9 rfl rfl)
theorem dX16_init_10 : decode cX16_init 10 = .ok (.new 15, 3) := dk_187 0 15 (dk_at dksX16_init_0 10 rfl rfl)
theorem dX16_init_13 : decode cX16_init 13 = .ok (.dup, 1) := dk_89 (dk_at dksX16_init_0 13 rfl rfl)
theorem dX16_init_14 : decode cX16_init 14 = .ok (.invokespecial 17, 3) := dk_183 0 17 (dk_at dksX16_init_0 14 rfl rfl)
theorem dX16_init_17 : decode cX16_init 17 = .ok (.putfield 18, 3) := dk_181 0 18 (dk_at dksX16_init_0 17 rfl rfl)
theorem dX16_init_20 : decode cX16_init 20 = .ok (.aload_n 0, 1) := dk_42 (dk_at dksX16_init_0 20 rfl rfl)
theorem dX16_init_21 : decode cX16_init 21 = .ok (.aload_n 2, 1) := dk_44 (dk_at dksX16_init_0 21 rfl rfl)
theorem dX16_init_22 : decode cX16_init 22 = .ok (.getfield 22, 3) := dk_180 0 22 (dk_at dksX16_init_1 0 rfl rfl)
theorem dX16_init_25 : decode cX16_init 25 = .ok (.putfield 28, 3) := dk_181 0 28 (dk_at dksX16_init_1 3 rfl rfl)
theorem dX16_init_28 : decode cX16_init 28 = .ok (.aload_n 0, 1) := dk_42 (dk_at dksX16_init_1 6 rfl rfl)
theorem dX16_init_29 : decode cX16_init 29 = .ok (.iload_n 3, 1) := dk_29 (dk_at dksX16_init_1 7 rfl rfl)
theorem dX16_init_30 : decode cX16_init 30 = .ok (.aload_n 0, 1) := dk_42 (dk_at dksX16_init_1 8 rfl rfl)
theorem dX16_init_31 : decode cX16_init 31 = .ok (.getfield 28, 3) := dk_180 0 28 (dk_at dksX16_init_1 9 rfl rfl)
theorem dX16_init_34 : decode cX16_init 34 = .ok (.invokevirtual 29, 3) := dk_182 0 29 (dk_at dksX16_init_1 12 rfl rfl)
theorem dX16_init_37 : decode cX16_init 37 = .ok (.invokestatic 35, 3) := dk_184 0 35 (dk_at dksX16_init_1 15 rfl rfl)
theorem dX16_init_40 : decode cX16_init 40 = .ok (.newarray .short, 2) := dk_188_9 (dk_at dksX16_init_1 18 rfl rfl)
theorem dX16_init_42 : decode cX16_init 42 = .ok (.putfield 41, 3) := dk_181 0 41 (dk_at dksX16_init_1 20 rfl rfl)
theorem dX16_init_45 : decode cX16_init 45 = .ok (.aload_n 0, 1) := dk_42 (dk_at dksX16_init_1 23 rfl rfl)
theorem dX16_init_46 : decode cX16_init 46 = .ok (.aload_n 0, 1) := dk_42 (dk_at dksX16_init_2 0 rfl rfl)
theorem dX16_init_47 : decode cX16_init 47 = .ok (.getfield 28, 3) := dk_180 0 28 (dk_at dksX16_init_2 1 rfl rfl)
theorem dX16_init_50 : decode cX16_init 50 = .ok (.invokevirtual 29, 3) := dk_182 0 29 (dk_at dksX16_init_2 4 rfl rfl)
theorem dX16_init_53 : decode cX16_init 53 = .ok (.aload_n 0, 1) := dk_42 (dk_at dksX16_init_2 7 rfl rfl)
theorem dX16_init_54 : decode cX16_init 54 = .ok (.getfield 41, 3) := dk_180 0 41 (dk_at dksX16_init_2 8 rfl rfl)
theorem dX16_init_57 : decode cX16_init 57 = .ok (.arraylength, 1) := dk_190 (dk_at dksX16_init_2 11 rfl rfl)
theorem dX16_init_58 : decode cX16_init 58 = .ok (.isub, 1) := dk_100 (dk_at dksX16_init_2 12 rfl rfl)
theorem dX16_init_59 : decode cX16_init 59 = .ok (.putfield 45, 3) := dk_181 0 45 (dk_at dksX16_init_2 13 rfl rfl)
theorem dX16_init_62 : decode cX16_init 62 = .ok (.aload_n 1, 1) := dk_43 (dk_at dksX16_init_2 16 rfl rfl)
theorem dX16_init_63 : decode cX16_init 63 = .ok (.getfield 49, 3) := dk_180 0 49 (dk_at dksX16_init_2 17 rfl rfl)
theorem dX16_init_66 : decode cX16_init 66 = .ok (.invokevirtual 53, 3) := dk_182 0 53 (dk_at dksX16_init_2 20 rfl rfl)
theorem dX16_init_69 : decode cX16_init 69 = .ok (.iconst 0, 1) := dk_3 (dk_at dksX16_init_2 23 rfl rfl)
theorem dX16_init_70 : decode cX16_init 70 = .ok (.istore 4, 2) := dk_54 4 (dk_at dksX16_init_3 0 rfl rfl)
theorem dX16_init_72 : decode cX16_init 72 = .ok (.iload 4, 2) := dk_21 4 (dk_at dksX16_init_3 2 rfl rfl)
theorem dX16_init_74 : decode cX16_init 74 = .ok (.aload_n 0, 1) := dk_42 (dk_at dksX16_init_3 4 rfl rfl)
theorem dX16_init_75 : decode cX16_init 75 = .ok (.getfield 45, 3) := dk_180 0 45 (dk_at dksX16_init_3 5 rfl rfl)
theorem dX16_init_78 : decode cX16_init 78 = .ok (.if_icmp .ge 28, 3) := dk_162 0 28 (dk_at dksX16_init_3 8 rfl rfl)
theorem dX16_init_81 : decode cX16_init 81 = .ok (.aload_n 1, 1) := dk_43 (dk_at dksX16_init_3 11 rfl rfl)
theorem dX16_init_82 : decode cX16_init 82 = .ok (.getfield 49, 3) := dk_180 0 49 (dk_at dksX16_init_3 12 rfl rfl)
theorem dX16_init_85 : decode cX16_init 85 = .ok (.aload_n 0, 1) := dk_42 (dk_at dksX16_init_3 15 rfl rfl)
theorem dX16_init_86 : decode cX16_init 86 = .ok (.getfield 28, 3) := dk_180 0 28 (dk_at dksX16_init_3 16 rfl rfl)
theorem dX16_init_89 : decode cX16_init 89 = .ok (.iload 4, 2) := dk_21 4 (dk_at dksX16_init_3 19 rfl rfl)
theorem dX16_init_91 : decode cX16_init 91 = .ok (.invokevirtual 58, 3) := dk_182 0 58 (dk_at dksX16_init_3 21 rfl rfl)
theorem dX16_init_94 : decode cX16_init 94 = .ok (.checkcast 62, 3) := dk_192 0 62 (dk_at dksX16_init_4 0 rfl rfl)
theorem dX16_init_97 : decode cX16_init 97 = .ok (.invokevirtual 64, 3) := dk_182 0 64 (dk_at dksX16_init_4 3 rfl rfl)
theorem dX16_init_100 : decode cX16_init 100 = .ok (.iinc 4 1, 3) := dk_132 4 1 (dk_at dksX16_init_4 6 rfl rfl)
theorem dX16_init_103 : decode cX16_init 103 = .ok (.goto (-31), 3) := dk_167 255 225 (dk_at dksX16_init_4 9 rfl rfl)
theorem dX16_init_106 : decode cX16_init 106 = .ok (.return_, 1) := dk_177 (dk_at dksX16_init_4 12 rfl rfl)
theorem q211 : (Jvm.Cond.fieldLinkNest "Plugboard$Orders" (22 : Nat) "Plugboard$Board" "known" "LPlugboard$Sequence;" "Plugboard") ∈ lw_tbl := lw_at lw_m1 141 rfl
theorem q246 : (Jvm.Cond.fieldLinkNest "Plugboard$Orders" (49 : Nat) "Plugboard" "ground" "LPlugboard$Fields;" "Plugboard") ∈ lw_tbl := lw_at lw_m1 176 rfl
theorem q1675 : (Jvm.Cond.methodLink "Plugboard$Orders" (9 : Nat) ({ cls := "java/lang/Object", name := "<init>", desc := "()V" } : Jvm.MethodName)) ∈ lw_all := lw_g (lw_at lw_m7 165 rfl) rfl
theorem q1676 : (Jvm.Cond.classLink "Plugboard$Orders" (15 : Nat) "java/util/ArrayList") ∈ lw_all := lw_g (lw_at lw_m7 166 rfl) rfl
theorem q1677 : (Jvm.Cond.methodLink "Plugboard$Orders" (17 : Nat) ({ cls := "java/util/ArrayList", name := "<init>", desc := "()V" } : Jvm.MethodName)) ∈ lw_all := lw_g (lw_at lw_m7 167 rfl) rfl
theorem q1678 : (Jvm.Cond.methodLink "Plugboard$Orders" (29 : Nat) ({ cls := "Plugboard$Sequence", name := "size", desc := "()I" } : Jvm.MethodName)) ∈ lw_all := lw_g (lw_at lw_m7 168 rfl) rfl
theorem q1679 : (Jvm.Cond.methodLink "Plugboard$Orders" (35 : Nat) ({ cls := "java/lang/Math", name := "min", desc := "(II)I" } : Jvm.MethodName)) ∈ lw_all := lw_g (lw_at lw_m7 169 rfl) rfl
theorem q1680 : (Jvm.Cond.methodLink "Plugboard$Orders" (53 : Nat) ({ cls := "Plugboard$Fields", name := "clear", desc := "()V" } : Jvm.MethodName)) ∈ lw_all := lw_g (lw_at lw_m7 170 rfl) rfl
theorem q1681 : (Jvm.Cond.methodLink "Plugboard$Orders" (58 : Nat) ({ cls := "Plugboard$Sequence", name := "at", desc := "(I)Ljava/lang/Object;" } : Jvm.MethodName)) ∈ lw_all := lw_g (lw_at lw_m7 171 rfl) rfl
theorem q1682 : (Jvm.Cond.classLink "Plugboard$Orders" (62 : Nat) "Plugboard$Operation") ∈ lw_all := lw_g (lw_at lw_m7 172 rfl) rfl
theorem q1683 : (Jvm.Cond.methodLink "Plugboard$Orders" (64 : Nat) ({ cls := "Plugboard$Fields", name := "write", desc := "(LPlugboard$Operation;)V" } : Jvm.MethodName)) ∈ lw_all := lw_g (lw_at lw_m7 173 rfl) rfl
theorem q1684 : (Jvm.Cond.fieldLink "Plugboard$Orders" (28 : Nat) "Plugboard$Orders" "known" "LPlugboard$Sequence;") ∈ lw_all := lw_g (lw_at lw_m7 174 rfl) rfl
theorem q1685 : (Jvm.Cond.fieldLink "Plugboard$Orders" (45 : Nat) "Plugboard$Orders" "first" "I") ∈ lw_all := lw_g (lw_at lw_m7 175 rfl) rfl
theorem q1686 : (Jvm.Cond.fieldLink "Plugboard$Orders" (41 : Nat) "Plugboard$Orders" "order" "[S") ∈ lw_all := lw_g (lw_at lw_m7 176 rfl) rfl
theorem q1687 : (Jvm.Cond.fieldLink "Plugboard$Orders" (18 : Nat) "Plugboard$Orders" "found" "Ljava/util/ArrayList;") ∈ lw_all := lw_g (lw_at lw_m7 177 rfl) rfl
theorem q1689 : (Jvm.Cond.fieldLink "Plugboard$Orders" (3 : Nat) "Plugboard$Orders" "this$0" "LPlugboard;") ∈ lw_all := lw_g (lw_at lw_m7 179 rfl) rfl
theorem q1701 : (Jvm.Cond.arrayClass Jvm.ClassFile.FieldType.short) ∈ lw_all := lw_g (lw_at lw_m7 191 rfl) rfl
abbrev rm_X16_init : Room := { frames := 4, cells := 2, slots := 11, locals := 85 }
def w_X16_init_72 (P : AH → Prop) (x0 : Option Nat) (x1 : Option Nat) (x4 : Int32) (h : AH) : Prop :=
  ∀ Z72 : Int32 → AH → Prop, (∀ x4 h, (
      g_i h x0 14 1 fun y75 =>
      ((y75 ≤ x4 →
        P h) ∧
       (¬ y75 ≤ x4 →
        g_q h x1 0 4 fun y82 =>
        g_q h x0 14 0 fun y86 =>
        is_c h y86 [3] (
        w_X4_at y86 x4 h (fun y91 h91 =>
        is_c h91 y91 [9] (
        is_c h91 y82 [1] (
        w_X2_write y82 y91 h91 (fun h97 =>
        Z72 (x4 + 1) h97))))))))
      → Z72 x4 h) → Z72 x4 h
def w_X16_init (a0 : Option Nat) (a1 : Option Nat) (a2 : Option Nat) (a3 : Int32) (h : AH) (P : AH → Prop) : Prop :=
  p_v h a0 14 4 (vR a1) fun h2 =>
  nn a0 (
  mk h2 (.inr (15, dvJ2)) fun q10 h10 =>
  w_J2_init (some q10) h10 (fun h14 =>
  p_v h14 a0 14 3 (vR (some q10)) fun h17 =>
  g_q h17 a2 2 2 fun y22 =>
  p_v h17 a0 14 0 (vR y22) fun h25 =>
  g_q h25 a0 14 0 fun y31 =>
  is_c h25 y31 [3] (
  w_X4_size y31 h25 (fun y34 h34 =>
  w_J14_min a3 y34 h34 (fun y37 h37 =>
  mk_i h37 3 y37 8 fun q40 h40 =>
  p_v h40 a0 14 2 (vR (some q40)) fun h42 =>
  g_q h42 a0 14 0 fun y47 =>
  is_c h42 y47 [3] (
  w_X4_size y47 h42 (fun y50 h50 =>
  g_q h50 a0 14 2 fun y54 =>
  n_a h50 y54 fun y57 =>
  p_v h50 a0 14 1 (vI (y50 - y57)) fun h59 =>
  g_q h59 a1 0 4 fun y63 =>
  is_c h59 y63 [1] (
  w_X2_clear y63 h59 (fun h66 =>
  w_X16_init_72 P a0 a1 0 h66)))))))))
theorem wk_X16_init_72 {x : CX} (X : Ok x cX16_init RX16 rm_X16_init 5) (er : xrt x = (Option.none : Option Jvm.ClassFile.FieldType)) (en : xnm x = yX16_init.name) {P : AH → Prop} (hQ : xr_v x P) (x0 : Option Nat) (x1 : Option Nat) (x4 : Int32) (h : AH) (hw : w_X16_init_72 P x0 x1 x4 h) : J x h 2 11 72 [(0, vR x0), (1, vR x1), (4, vI x4)] [] := by
  refine hw (fun x4 h => J x h 2 11 72 [(0, vR x0), (1, vR x1), (4, vI x4)] []) (fun x4 h hw => ?_)
  refine j_iload X (pc := 72) 2 dX16_init_72 rfl ?_
  refine j_aload_n X (pc := 74) 0 dX16_init_74 rfl rfl ?_
  refine j_geti (ci := 14) X (pc := 75) in_X16 rfl (by decide) 1 (by decide) q1685 (Or.inl rfl) dX16_init_75 hw (fun y75 hw => ?_)
  refine j_icmp_ge X (pc := 78) 106 dX16_init_78 (by decide) hw (fun hw => ?_) (fun hw => ?_)
  · exact j_vret X (pc := 106) hQ er (Nat.le_of_ble_eq_true rfl) (Nat.le_of_ble_eq_true rfl) dX16_init_106 hw
  · refine j_aload_n X (pc := 81) 1 dX16_init_81 rfl rfl ?_
    refine j_getqN (ci := 0) X (pc := 82) in_X1 rfl (by decide) 4 (by decide) q246 (Or.inl rfl) dX16_init_82 hw (fun y82 hw => ?_)
    refine j_aload_n X (pc := 85) 0 dX16_init_85 rfl rfl ?_
    refine j_getq (ci := 14) X (pc := 86) in_X16 rfl (by decide) 0 (by decide) q1684 (Or.inl rfl) dX16_init_86 hw (fun y86 hw => ?_)
    refine j_iload X (pc := 89) 2 dX16_init_89 rfl ?_
    obtain ⟨b9, c9, f9, hr9, ho9, hc9, hw⟩ := hw
    obtain rfl := List.mem_singleton.mp hc9
    refine j_callq (j_runV (n8 := 1) (As := [vI x4]) (rest := [vR y82]) X (pc := 91) hr9 (met_X4_at (xl x) X.hl (xG x) h y86 x4 _ hw) ho9 (by decide) rfl q1681 q762 q763 q77 q764 (by decide +kernel) dX16_init_91 rfl ⟨Nat.le_of_ble_eq_true rfl, Nat.le_of_ble_eq_true rfl⟩ (Nat.le_of_ble_eq_true rfl) ⟨Nat.le_of_ble_eq_true rfl, Nat.le_of_ble_eq_true rfl⟩) (fun y91 h91 hw => ?_)
    refine j_chk X (pc := 94) (L := [9]) q1682 (by intro ci hci; obtain rfl := List.mem_singleton.mp hci; exact ⟨by decide, _, _, _, rfl, Or.inl rfl⟩) dX16_init_94 hw (fun hw => ?_)
    obtain ⟨b9, c9, f9, hr9, ho9, hc9, hw⟩ := hw
    obtain rfl := List.mem_singleton.mp hc9
    refine j_callv (j_runV (n8 := 1) (As := [vR y91]) (rest := []) X (pc := 97) hr9 (met_X2_write (xl x) X.hl (xG x) h91 y82 y91 _ hw) ho9 (by decide) rfl q1683 q1061 q1062 q75 q1063 (by decide +kernel) dX16_init_97 rfl ⟨Nat.le_of_ble_eq_true rfl, Nat.le_of_ble_eq_true rfl⟩ (Nat.le_of_ble_eq_true rfl) ⟨Nat.le_of_ble_eq_true rfl, Nat.le_of_ble_eq_true rfl⟩) (fun h97 hw => ?_)
    refine j_iinc X (pc := 100) 2 (x4 + 1) [(4, vI (x4 + 1)), (0, vR x0), (1, vR x1)] dX16_init_100 rfl rfl (Nat.le_of_ble_eq_true rfl) rfl ?_
    refine j_goto X (pc := 103) 72 dX16_init_103 (by decide) ?_
    refine j_lv [(0, vR x0), (1, vR x1), (4, vI (x4 + 1))] [1, 2, 0] rfl ?_
    refine j_cs (u' := 2) (v' := 11) (Nat.le_of_ble_eq_true rfl) (Nat.le_of_ble_eq_true rfl) ?_
    exact hw
theorem met_X16_init (l : Launch) (hlt : l.stackTraces = false) (G : GG) (h : AH) (a0 : Option Nat) (a1 : Option Nat) (a2 : Option Nat) (a3 : Int32) (P : AH → Prop) (hw : w_X16_init a0 a1 a2 a3 h P) : ct_v l yX16_init (ws_ yX16_init cX16_init 5 (Option.none : Option Jvm.ClassFile.FieldType)) rm_X16_init G h [vR a0, vR a1, vR a2, vI a3] P := by
  refine j_startv hlt [(0, vR a0), (1, vR a1), (2, vR a2), (3, vI a3)] (plainFor_of_name (by decide)) rfl rfl (fun x X eG er en hQ => ?_)
  subst eG
  refine j_aload_n X (pc := 0) 0 dX16_init_0 rfl rfl ?_
  refine j_aload_n X (pc := 1) 1 dX16_init_1 rfl rfl ?_
  refine j_putF (ci := 14) X (pc := 2) in_X16 rfl (by decide) 4 (by decide) q1689 (Or.inl rfl) tyX16 tyX16_ok nmX16 rfl en rfl rfl (ty := (.object "Plugboard")) (tyX16_ok 4 (by decide)) (rt_nar _ rfl _) (rt_fit _ rfl _) dX16_init_2 hw (fun h2 hw => ?_)
  refine j_aload_n X (pc := 5) 0 dX16_init_5 rfl rfl ?_
  obtain ⟨b9, hr9, hw⟩ := hw
  refine j_obj X (pc := 6) hr9 q1675 q125 q126 dX16_init_6 ⟨Nat.le_of_ble_eq_true rfl, Nat.le_of_ble_eq_true rfl⟩ ?_
  refine j_aload_n X (pc := 9) 0 dX16_init_9 rfl rfl ?_
  refine j_new (ci := 15) X (pc := 10) in_J2 rfl (by decide) tyJ2 tyJ2_ok q1676 q128 q74 (fs := dvJ2) dfJ2 (Nat.le_of_ble_eq_true rfl) (Nat.le_of_ble_eq_true rfl) dX16_init_10 hw (fun q10 h10 hw => ?_)
  refine j_dup X (pc := 13) dX16_init_13 rfl ?_
  refine j_callv (j_runI (n8 := 0) (As := []) (rest := [vR (some q10), vR a0]) X (pc := 14) rfl (met_J2_init (xl x) X.hl (xG x) h10 (some q10) _ hw) q1677 q130 q74 q131 (by decide +kernel) dX16_init_14 rfl ⟨Nat.le_of_ble_eq_true rfl, Nat.le_of_ble_eq_true rfl⟩ (Nat.le_of_ble_eq_true rfl) ⟨Nat.le_of_ble_eq_true rfl, Nat.le_of_ble_eq_true rfl⟩) (fun h14 hw => ?_)
  refine j_putF (ci := 14) X (pc := 17) in_X16 rfl (by decide) 3 (by decide) q1687 (Or.inl rfl) tyX16 tyX16_ok nmX16 rfl en rfl rfl (ty := (.object "java/util/ArrayList")) (tyX16_ok 3 (by decide)) (rt_nar _ rfl _) (rt_fit _ rfl _) dX16_init_17 hw (fun h17 hw => ?_)
  refine j_aload_n X (pc := 20) 0 dX16_init_20 rfl rfl ?_
  refine j_aload_n X (pc := 21) 2 dX16_init_21 rfl rfl ?_
  refine j_getqN (ci := 2) X (pc := 22) in_X3 rfl (by decide) 2 (by decide) q211 (Or.inl rfl) dX16_init_22 hw (fun y22 hw => ?_)
  refine j_putF (ci := 14) X (pc := 25) in_X16 rfl (by decide) 0 (by decide) q1684 (Or.inl rfl) tyX16 tyX16_ok nmX16 rfl en rfl rfl (ty := (.object "Plugboard$Sequence")) (tyX16_ok 0 (by decide)) (rt_nar _ rfl _) (rt_fit _ rfl _) dX16_init_25 hw (fun h25 hw => ?_)
  refine j_aload_n X (pc := 28) 0 dX16_init_28 rfl rfl ?_
  refine j_iload_n X (pc := 29) 3 dX16_init_29 rfl rfl ?_
  refine j_aload_n X (pc := 30) 0 dX16_init_30 rfl rfl ?_
  refine j_getq (ci := 14) X (pc := 31) in_X16 rfl (by decide) 0 (by decide) q1684 (Or.inl rfl) dX16_init_31 hw (fun y31 hw => ?_)
  obtain ⟨b9, c9, f9, hr9, ho9, hc9, hw⟩ := hw
  obtain rfl := List.mem_singleton.mp hc9
  refine j_calli (j_runV (n8 := 0) (As := []) (rest := [vI a3, vR a0]) X (pc := 34) hr9 (met_X4_size (xl x) X.hl (xG x) h25 y31 _ hw) ho9 (by decide) rfl q1678 q757 q758 q77 q759 (by decide +kernel) dX16_init_34 rfl ⟨Nat.le_of_ble_eq_true rfl, Nat.le_of_ble_eq_true rfl⟩ (Nat.le_of_ble_eq_true rfl) ⟨Nat.le_of_ble_eq_true rfl, Nat.le_of_ble_eq_true rfl⟩) (fun y34 h34 hw => ?_)
  refine j_calli (j_runS (n8 := 2) (As := [vI a3, vI y34]) (rest := [vR a0]) X (pc := 37) (met_J14_min (xl x) X.hl (xG x) h34 a3 y34 _ hw) q1679 q670 q92 q671 (by decide +kernel) dX16_init_37 rfl ⟨Nat.le_of_ble_eq_true rfl, Nat.le_of_ble_eq_true rfl⟩ (Nat.le_of_ble_eq_true rfl) ⟨Nat.le_of_ble_eq_true rfl, Nat.le_of_ble_eq_true rfl⟩) (fun y37 h37 hw => ?_)
  refine j_newS X (pc := 40) 8 dX16_init_40 q1701 (by decide) (Nat.le_of_ble_eq_true rfl) (Nat.le_of_ble_eq_true rfl) hw (fun q40 h40 hw => ?_)
  refine j_putF (ci := 14) X (pc := 42) in_X16 rfl (by decide) 2 (by decide) q1686 (Or.inl rfl) tyX16 tyX16_ok nmX16 rfl en rfl rfl (ty := (.array .short)) (tyX16_ok 2 (by decide)) (rt_nar _ rfl _) (rt_fit _ rfl _) dX16_init_42 hw (fun h42 hw => ?_)
  refine j_aload_n X (pc := 45) 0 dX16_init_45 rfl rfl ?_
  refine j_aload_n X (pc := 46) 0 dX16_init_46 rfl rfl ?_
  refine j_getq (ci := 14) X (pc := 47) in_X16 rfl (by decide) 0 (by decide) q1684 (Or.inl rfl) dX16_init_47 hw (fun y47 hw => ?_)
  obtain ⟨b9, c9, f9, hr9, ho9, hc9, hw⟩ := hw
  obtain rfl := List.mem_singleton.mp hc9
  refine j_calli (j_runV (n8 := 0) (As := []) (rest := [vR a0]) X (pc := 50) hr9 (met_X4_size (xl x) X.hl (xG x) h42 y47 _ hw) ho9 (by decide) rfl q1678 q757 q758 q77 q759 (by decide +kernel) dX16_init_50 rfl ⟨Nat.le_of_ble_eq_true rfl, Nat.le_of_ble_eq_true rfl⟩ (Nat.le_of_ble_eq_true rfl) ⟨Nat.le_of_ble_eq_true rfl, Nat.le_of_ble_eq_true rfl⟩) (fun y50 h50 hw => ?_)
  refine j_aload_n X (pc := 53) 0 dX16_init_53 rfl rfl ?_
  refine j_getq (ci := 14) X (pc := 54) in_X16 rfl (by decide) 2 (by decide) q1686 (Or.inl rfl) dX16_init_54 hw (fun y54 hw => ?_)
  refine j_alen X (pc := 57) dX16_init_57 hw (fun y57 hw => ?_)
  refine j_isub X (pc := 58) dX16_init_58 ?_
  refine j_putF (ci := 14) X (pc := 59) in_X16 rfl (by decide) 1 (by decide) q1685 (Or.inl rfl) tyX16 tyX16_ok nmX16 rfl en rfl rfl (ty := .int) (tyX16_ok 1 (by decide)) rfl rfl dX16_init_59 hw (fun h59 hw => ?_)
  refine j_aload_n X (pc := 62) 1 dX16_init_62 rfl rfl ?_
  refine j_getqN (ci := 0) X (pc := 63) in_X1 rfl (by decide) 4 (by decide) q246 (Or.inl rfl) dX16_init_63 hw (fun y63 hw => ?_)
  obtain ⟨b9, c9, f9, hr9, ho9, hc9, hw⟩ := hw
  obtain rfl := List.mem_singleton.mp hc9
  refine j_callv (j_runV (n8 := 0) (As := []) (rest := []) X (pc := 66) hr9 (met_X2_clear (xl x) X.hl (xG x) h59 y63 _ hw) ho9 (by decide) rfl q1680 q203 q204 q75 q205 (by decide +kernel) dX16_init_66 rfl ⟨Nat.le_of_ble_eq_true rfl, Nat.le_of_ble_eq_true rfl⟩ (Nat.le_of_ble_eq_true rfl) ⟨Nat.le_of_ble_eq_true rfl, Nat.le_of_ble_eq_true rfl⟩) (fun h66 hw => ?_)
  refine j_iconst X (pc := 69) 0 dX16_init_69 (by decide) ?_
  refine j_istore X (pc := 70) [(4, vI 0), (0, vR a0), (1, vR a1), (2, vR a2), (3, vI a3)] dX16_init_70 (Nat.le_of_ble_eq_true rfl) rfl ?_
  refine j_lv [(0, vR a0), (1, vR a1), (4, vI 0)] [1, 2, 0] rfl ?_
  refine j_cs (u' := 2) (v' := 11) (Nat.le_of_ble_eq_true rfl) (Nat.le_of_ble_eq_true rfl) ?_
  exact wk_X16_init_72 X er en hQ a0 a1 0 h66 hw
abbrev cJ12_init : ByteArray := prog_39_method_1_code
def yJ12_init : MethodName := ⟨RJ12, "<init>", "()V"⟩
theorem dJ12_init_0 : decode cJ12_init 0 = .ok (.aload_n 0, 1) := by decide +kernel
theorem dJ12_init_1 : decode cJ12_init 1 = .ok (.invokespecial 1, 3) := by decide +kernel
theorem dJ12_init_4 : decode cJ12_init 4 = .ok (.return_, 1) := by decide +kernel
theorem q1731 : (Jvm.Cond.methodLink "java/lang/Number" (1 : Nat) ({ cls := "java/lang/Object", name := "<init>", desc := "()V" } : Jvm.MethodName)) ∈ lw_all := lw_g (lw_at lw_m7 221 rfl) rfl
abbrev rm_J12_init : Room := { frames := 1, cells := 0, slots := 0, locals := 12 }
def w_J12_init (a0 : Option Nat) (h : AH) (P : AH → Prop) : Prop :=
  nn a0 (
  P h)
theorem met_J12_init (l : Launch) (hlt : l.stackTraces = false) (G : GG) (h : AH) (a0 : Option Nat) (P : AH → Prop) (hw : w_J12_init a0 h P) : ct_v l yJ12_init (ws_ yJ12_init cJ12_init 1 (Option.none : Option Jvm.ClassFile.FieldType)) rm_J12_init G h [vR a0] P := by
  refine j_startv hlt [(0, vR a0)] (plainFor_of_name (by decide)) rfl rfl (fun x X eG er en hQ => ?_)
  subst eG
  refine j_aload_n X (pc := 0) 0 dJ12_init_0 rfl rfl ?_
  obtain ⟨b9, hr9, hw⟩ := hw
  refine j_obj X (pc := 1) hr9 q1731 q125 q126 dJ12_init_1 ⟨Nat.le_of_ble_eq_true rfl, Nat.le_of_ble_eq_true rfl⟩ ?_
  exact j_vret X (pc := 4) hQ er (Nat.le_of_ble_eq_true rfl) (Nat.le_of_ble_eq_true rfl) dJ12_init_4 hw
abbrev cJ23_init : ByteArray := prog_35_method_23_code
def yJ23_init : MethodName := ⟨RJ23, "<init>", "(I)V"⟩
def dkwJ23_init_0 : List UInt8 := [42, 183, 0, 202, 42, 27, 181, 0, 205, 177]
abbrev dktJ23_init_0 : List UInt8 := dkwJ23_init_0 ++ []
theorem dksJ23_init_0 : cJ23_init.data.toList.drop 0 = dktJ23_init_0 := by decide +kernel
theorem dJ23_init_0 : decode cJ23_init 0 = .ok (.aload_n 0, 1) := dk_42 (dk_at dksJ23_init_0 0 rfl rfl)
theorem dJ23_init_1 : decode cJ23_init 1 = .ok (.invokespecial 202, 3) := dk_183 0 202 (dk_at dksJ23_init_0 1 rfl rfl)
theorem dJ23_init_4 : decode cJ23_init 4 = .ok (.aload_n 0, 1) := dk_42 (dk_at dksJ23_init_0 4 rfl rfl)
theorem dJ23_init_5 : decode cJ23_init 5 = .ok (.iload_n 1, 1) := dk_27 (dk_at dksJ23_init_0 5 rfl rfl)
theorem dJ23_init_6 : decode cJ23_init 6 = .ok (.putfield 205, 3) := dk_181 0 205 (dk_at dksJ23_init_0 6 rfl rfl)
theorem dJ23_init_9 : decode cJ23_init 9 = .ok (.return_, 1) := dk_177 (dk_at dksJ23_init_0 9 rfl rfl)
theorem q90 : (Jvm.Cond.initialized "java/lang/Number") ∈ lw_all := lw_g (lw_at lw_m1 20 rfl) rfl
theorem q1728 : (Jvm.Cond.methodLink "java/lang/Integer" (202 : Nat) ({ cls := "java/lang/Number", name := "<init>", desc := "()V" } : Jvm.MethodName)) ∈ lw_all := lw_g (lw_at lw_m7 218 rfl) rfl
theorem q1729 : (Jvm.Cond.instanceMethod ({ cls := "java/lang/Number", name := "<init>", desc := "()V" } : Jvm.MethodName)) ∈ lw_all := lw_g (lw_at lw_m7 219 rfl) rfl
theorem q1730 : (Jvm.Cond.code ({ cls := "java/lang/Number", name := "<init>", desc := "()V" } : Jvm.MethodName) prog_39_method_1_code (1 : Nat) (Option.none : Option Jvm.ClassFile.FieldType)) ∈ lw_all := lw_g (lw_at lw_m7 220 rfl) rfl
theorem q1732 : (Jvm.Cond.fieldLink "java/lang/Integer" (205 : Nat) "java/lang/Integer" "value" "I") ∈ lw_all := lw_g (lw_at lw_m7 222 rfl) rfl
abbrev rm_J23_init : Room := { frames := 2, cells := 0, slots := 0, locals := 32 }
def w_J23_init (a0 : Option Nat) (a1 : Int32) (h : AH) (P : AH → Prop) : Prop :=
  nn a0 (
  w_J12_init a0 h (fun h1 =>
  p_v h1 a0 16 0 (vI a1) fun h6 =>
  P h6))
theorem met_J23_init (l : Launch) (hlt : l.stackTraces = false) (G : GG) (h : AH) (a0 : Option Nat) (a1 : Int32) (P : AH → Prop) (hw : w_J23_init a0 a1 h P) : ct_v l yJ23_init (ws_ yJ23_init cJ23_init 2 (Option.none : Option Jvm.ClassFile.FieldType)) rm_J23_init G h [vR a0, vI a1] P := by
  refine j_startv hlt [(0, vR a0), (1, vI a1)] (plainFor_of_name (by decide)) rfl rfl (fun x X eG er en hQ => ?_)
  subst eG
  refine j_aload_n X (pc := 0) 0 dJ23_init_0 rfl rfl ?_
  obtain ⟨b9, hr9, hw⟩ := hw
  refine j_callv (j_runI (n8 := 0) (As := []) (rest := []) X (pc := 1) hr9 (met_J12_init (xl x) X.hl (xG x) h a0 _ hw) q1728 q1729 q90 q1730 (by decide +kernel) dJ23_init_1 rfl ⟨Nat.le_of_ble_eq_true rfl, Nat.le_of_ble_eq_true rfl⟩ (Nat.le_of_ble_eq_true rfl) ⟨Nat.le_of_ble_eq_true rfl, Nat.le_of_ble_eq_true rfl⟩) (fun h1 hw => ?_)
  refine j_aload_n X (pc := 4) 0 dJ23_init_4 rfl rfl ?_
  refine j_iload_n X (pc := 5) 1 dJ23_init_5 rfl rfl ?_
  refine j_putF (ci := 16) X (pc := 6) in_J23 rfl (by decide) 0 (by decide) q1732 (Or.inl rfl) tyJ23 tyJ23_ok nmJ23 rfl en rfl rfl (ty := .int) (tyJ23_ok 0 (by decide)) rfl rfl dJ23_init_6 hw (fun h6 hw => ?_)
  exact j_vret X (pc := 9) hQ er (Nat.le_of_ble_eq_true rfl) (Nat.le_of_ble_eq_true rfl) dJ23_init_9 hw
abbrev cJ23_valueOf : ByteArray := prog_35_method_22_code
def yJ23_valueOf : MethodName := ⟨RJ23, "valueOf", "(I)Ljava/lang/Integer;"⟩
def dkwJ23_valueOf_1 : List UInt8 := [187, 0, 1, 89, 26, 183, 0, 199, 176]
abbrev dktJ23_valueOf_1 : List UInt8 := dkwJ23_valueOf_1 ++ []
def dkwJ23_valueOf_0 : List UInt8 := [26, 16, 128, 161, 0, 20, 26, 178, 0, 191, 163, 0, 13, 178, 0, 195, 26, 17, 0, 128, 96, 50, 176]
abbrev dktJ23_valueOf_0 : List UInt8 := dkwJ23_valueOf_0 ++ dktJ23_valueOf_1
theorem dksJ23_valueOf_0 : cJ23_valueOf.data.toList.drop 0 = dktJ23_valueOf_0 := by decide +kernel
theorem dksJ23_valueOf_1 : cJ23_valueOf.data.toList.drop 23 = dktJ23_valueOf_1 := dk_seg dksJ23_valueOf_0 23 rfl rfl
theorem dJ23_valueOf_0 : decode cJ23_valueOf 0 = .ok (.iload_n 0, 1) := dk_26 (dk_at dksJ23_valueOf_0 0 rfl rfl)
theorem dJ23_valueOf_1 : decode cJ23_valueOf 1 = .ok (.bipush (-128), 2) := dk_16 128 (dk_at dksJ23_valueOf_0 1 rfl rfl)
theorem dJ23_valueOf_3 : decode cJ23_valueOf 3 = .ok (.if_icmp .lt 20, 3) := dk_161 0 20 (dk_at dksJ23_valueOf_0 3 rfl rfl)
theorem dJ23_valueOf_6 : decode cJ23_valueOf 6 = .ok (.iload_n 0, 1) := dk_26 (dk_at dksJ23_valueOf_0 6 rfl rfl)
theorem dJ23_valueOf_7 : decode cJ23_valueOf 7 = .ok (.getstatic 191, 3) := dk_178 0 191 (dk_at dksJ23_valueOf_0 7 rfl rfl)
theorem dJ23_valueOf_10 : decode cJ23_valueOf 10 = .ok (.if_icmp .gt 13, 3) := dk_163 0 13 (dk_at dksJ23_valueOf_0 10 rfl rfl)
theorem dJ23_valueOf_13 : decode cJ23_valueOf 13 = .ok (.getstatic 195, 3) := dk_178 0 195 (dk_at dksJ23_valueOf_0 13 rfl rfl)
theorem dJ23_valueOf_16 : decode cJ23_valueOf 16 = .ok (.iload_n 0, 1) := dk_26 (dk_at dksJ23_valueOf_0 16 rfl rfl)
theorem dJ23_valueOf_17 : decode cJ23_valueOf 17 = .ok (.sipush 128, 3) := dk_17 0 128 (dk_at dksJ23_valueOf_0 17 rfl rfl)
theorem dJ23_valueOf_20 : decode cJ23_valueOf 20 = .ok (.iadd, 1) := dk_96 (dk_at dksJ23_valueOf_0 20 rfl rfl)
theorem dJ23_valueOf_21 : decode cJ23_valueOf 21 = .ok (.aaload, 1) := dk_50 (dk_at dksJ23_valueOf_0 21 rfl rfl)
theorem dJ23_valueOf_22 : decode cJ23_valueOf 22 = .ok (.areturn, 1) := dk_176 (dk_at dksJ23_valueOf_0 22 rfl rfl)
theorem dJ23_valueOf_23 : decode cJ23_valueOf 23 = .ok (.new 1, 3) := dk_187 0 1 (dk_at dksJ23_valueOf_1 0 rfl rfl)
theorem dJ23_valueOf_26 : decode cJ23_valueOf 26 = .ok (.dup, 1) := dk_89 (dk_at dksJ23_valueOf_1 3 rfl rfl)
theorem dJ23_valueOf_27 : decode cJ23_valueOf 27 = .ok (.iload_n 0, 1) := dk_26 (dk_at dksJ23_valueOf_1 4 rfl rfl)
theorem dJ23_valueOf_28 : decode cJ23_valueOf 28 = .ok (.invokespecial 199, 3) := dk_183 0 199 (dk_at dksJ23_valueOf_1 5 rfl rfl)
theorem dJ23_valueOf_31 : decode cJ23_valueOf 31 = .ok (.areturn, 1) := dk_176 (dk_at dksJ23_valueOf_1 8 rfl rfl)
theorem q108 : (Jvm.Cond.initialized "java/lang/Integer") ∈ lw_all := lw_g (lw_at lw_m1 38 rfl) rfl
theorem q1719 : (Jvm.Cond.fieldLink "java/lang/Integer" (191 : Nat) "java/lang/Integer$IntegerCache" "high" "I") ∈ lw_all := lw_g (lw_at lw_m7 209 rfl) rfl
theorem q1721 : (Jvm.Cond.fieldLink "java/lang/Integer" (195 : Nat) "java/lang/Integer$IntegerCache" "cache" "[Ljava/lang/Integer;") ∈ lw_all := lw_g (lw_at lw_m7 211 rfl) rfl
theorem q1723 : (Jvm.Cond.classLink "java/lang/Integer" (1 : Nat) "java/lang/Integer") ∈ lw_all := lw_g (lw_at lw_m7 213 rfl) rfl
theorem q1724 : (Jvm.Cond.instantiable "java/lang/Integer" (1 : Nat)) ∈ lw_all := lw_g (lw_at lw_m7 214 rfl) rfl
theorem q1725 : (Jvm.Cond.methodLink "java/lang/Integer" (199 : Nat) ({ cls := "java/lang/Integer", name := "<init>", desc := "(I)V" } : Jvm.MethodName)) ∈ lw_all := lw_g (lw_at lw_m7 215 rfl) rfl
theorem q1726 : (Jvm.Cond.instanceMethod ({ cls := "java/lang/Integer", name := "<init>", desc := "(I)V" } : Jvm.MethodName)) ∈ lw_all := lw_g (lw_at lw_m7 216 rfl) rfl
theorem q1727 : (Jvm.Cond.code ({ cls := "java/lang/Integer", name := "<init>", desc := "(I)V" } : Jvm.MethodName) prog_35_method_23_code (2 : Nat) (Option.none : Option Jvm.ClassFile.FieldType)) ∈ lw_all := lw_g (lw_at lw_m7 217 rfl) rfl
abbrev rm_J23_valueOf : Room := { frames := 3, cells := 1, slots := 1, locals := 53 }
def w_J23_valueOf (a0 : Int32) (h : AH) (P : Option Nat → AH → Prop) : Prop :=
  ((a0 < (-128) →
    mk h (.inr (16, dvJ23)) fun q23 h23 =>
    w_J23_init (some q23) a0 h23 (fun h28 =>
    P (some q23) h28)) ∧
   (¬ a0 < (-128) →
    ((127 < a0 →
      mk h (.inr (16, dvJ23)) fun q23 h23 =>
      w_J23_init (some q23) a0 h23 (fun h28 =>
      P (some q23) h28)) ∧
     (¬ 127 < a0 →
      l_q h (some (h.2 1)) (a0 + 128) fun y21 =>
      P y21 h))))
theorem met_J23_valueOf (l : Launch) (hlt : l.stackTraces = false) (G : GG) (h : AH) (a0 : Int32) (P : Option Nat → AH → Prop) (hw : w_J23_valueOf a0 h P) : ct_q l yJ23_valueOf (ws_ yJ23_valueOf cJ23_valueOf 1 (Option.some (Jvm.ClassFile.FieldType.object "java/lang/Integer"))) rm_J23_valueOf G h [vI a0] P := by
  refine j_startq hlt [(0, vI a0)] (plainFor_of_name (by decide)) rfl rfl (fun x X eG er en hQ => ?_)
  subst eG
  refine j_iload_n X (pc := 0) 0 dJ23_valueOf_0 rfl rfl ?_
  refine j_bipush X (pc := 1) (-128) dJ23_valueOf_1 (by decide) ?_
  refine j_icmp_lt X (pc := 3) 23 dJ23_valueOf_3 (by decide) hw (fun hw => ?_) (fun hw => ?_)
  · refine j_new (ci := 16) X (pc := 23) in_J23 rfl (by decide) tyJ23 tyJ23_ok q1723 q1724 q108 (fs := dvJ23) dfJ23 (Nat.le_of_ble_eq_true rfl) (Nat.le_of_ble_eq_true rfl) dJ23_valueOf_23 hw (fun q23 h23 hw => ?_)
    refine j_dup X (pc := 26) dJ23_valueOf_26 rfl ?_
    refine j_iload_n X (pc := 27) 0 dJ23_valueOf_27 rfl rfl ?_
    refine j_callv (j_runI (n8 := 1) (As := [vI a0]) (rest := [vR (some q23)]) X (pc := 28) rfl (met_J23_init (xl x) X.hl (xG x) h23 (some q23) a0 _ hw) q1725 q1726 q108 q1727 (by decide +kernel) dJ23_valueOf_28 rfl ⟨Nat.le_of_ble_eq_true rfl, Nat.le_of_ble_eq_true rfl⟩ (Nat.le_of_ble_eq_true rfl) ⟨Nat.le_of_ble_eq_true rfl, Nat.le_of_ble_eq_true rfl⟩) (fun h28 hw => ?_)
    exact j_aret X (pc := 31) (ty := (.object "java/lang/Integer")) hQ er (Or.inl ⟨_, rfl⟩) (Nat.le_of_ble_eq_true rfl) (Nat.le_of_ble_eq_true rfl) dJ23_valueOf_31 hw
  · refine j_iload_n X (pc := 6) 0 dJ23_valueOf_6 rfl rfl ?_
    refine j_gsHigh X (pc := 7) q1719 dJ23_valueOf_7 ?_
    refine j_icmp_gt X (pc := 10) 23 dJ23_valueOf_10 (by decide) hw (fun hw => ?_) (fun hw => ?_)
    · refine j_new (ci := 16) X (pc := 23) in_J23 rfl (by decide) tyJ23 tyJ23_ok q1723 q1724 q108 (fs := dvJ23) dfJ23 (Nat.le_of_ble_eq_true rfl) (Nat.le_of_ble_eq_true rfl) dJ23_valueOf_23 hw (fun q23 h23 hw => ?_)
      refine j_dup X (pc := 26) dJ23_valueOf_26 rfl ?_
      refine j_iload_n X (pc := 27) 0 dJ23_valueOf_27 rfl rfl ?_
      refine j_callv (j_runI (n8 := 1) (As := [vI a0]) (rest := [vR (some q23)]) X (pc := 28) rfl (met_J23_init (xl x) X.hl (xG x) h23 (some q23) a0 _ hw) q1725 q1726 q108 q1727 (by decide +kernel) dJ23_valueOf_28 rfl ⟨Nat.le_of_ble_eq_true rfl, Nat.le_of_ble_eq_true rfl⟩ (Nat.le_of_ble_eq_true rfl) ⟨Nat.le_of_ble_eq_true rfl, Nat.le_of_ble_eq_true rfl⟩) (fun h28 hw => ?_)
      exact j_aret X (pc := 31) (ty := (.object "java/lang/Integer")) hQ er (Or.inl ⟨_, rfl⟩) (Nat.le_of_ble_eq_true rfl) (Nat.le_of_ble_eq_true rfl) dJ23_valueOf_31 hw
    · refine j_gsCache X (pc := 13) q1721 dJ23_valueOf_13 ?_
      refine j_iload_n X (pc := 16) 0 dJ23_valueOf_16 rfl rfl ?_
      refine j_sipush X (pc := 17) 128 dJ23_valueOf_17 (by decide) ?_
      refine j_iadd X (pc := 20) dJ23_valueOf_20 ?_
      refine j_aald X (pc := 21) dJ23_valueOf_21 hw (fun y21 hw => ?_)
      exact j_aret X (pc := 22) (ty := (.object "java/lang/Integer")) hQ er (Or.inl ⟨_, rfl⟩) (Nat.le_of_ble_eq_true rfl) (Nat.le_of_ble_eq_true rfl) dJ23_valueOf_22 hw
abbrev cJ23_intValue : ByteArray := prog_35_method_27_code
def yJ23_intValue : MethodName := ⟨RJ23, "intValue", "()I"⟩
theorem dJ23_intValue_0 : decode cJ23_intValue 0 = .ok (.aload_n 0, 1) := by decide +kernel
theorem dJ23_intValue_1 : decode cJ23_intValue 1 = .ok (.getfield 205, 3) := by decide +kernel
theorem dJ23_intValue_4 : decode cJ23_intValue 4 = .ok (.ireturn, 1) := by decide +kernel
abbrev rm_J23_intValue : Room := { frames := 0, cells := 0, slots := 0, locals := 0 }
def w_J23_intValue (a0 : Option Nat) (h : AH) (P : Int32 → AH → Prop) : Prop :=
  g_iN h a0 0 fun y1 =>
  P y1 h
theorem met_J23_intValue (l : Launch) (hlt : l.stackTraces = false) (G : GG) (h : AH) (a0 : Option Nat) (P : Int32 → AH → Prop) (hw : w_J23_intValue a0 h P) : ct_i l yJ23_intValue (ws_ yJ23_intValue cJ23_intValue 1 (Option.some Jvm.ClassFile.FieldType.int)) rm_J23_intValue G h [vR a0] P := by
  refine j_starti hlt [(0, vR a0)] (plainFor_of_name (by decide)) rfl rfl (fun x X eG er en hQ => ?_)
  subst eG
  refine j_aload_n X (pc := 0) 0 dJ23_intValue_0 rfl rfl ?_
  refine j_getiN0 X (pc := 1) q1732 dJ23_intValue_1 hw (fun y1 hw => ?_)
  exact j_iret X (pc := 4) hQ er (Nat.le_of_ble_eq_true rfl) (Nat.le_of_ble_eq_true rfl) dJ23_intValue_4 hw
abbrev cJ23_equals : ByteArray := prog_35_method_34_code
def yJ23_equals : MethodName := ⟨RJ23, "equals", "(Ljava/lang/Object;)Z"⟩
def dkwJ23_equals_1 : List UInt8 := [167, 0, 4, 3, 172, 3, 172]
abbrev dktJ23_equals_1 : List UInt8 := dkwJ23_equals_1 ++ []
def dkwJ23_equals_0 : List UInt8 := [43, 193, 0, 1, 153, 0, 23, 42, 180, 0, 205, 43, 192, 0, 1, 182, 0, 211, 160, 0, 7, 4]
abbrev dktJ23_equals_0 : List UInt8 := dkwJ23_equals_0 ++ dktJ23_equals_1
theorem dksJ23_equals_0 : cJ23_equals.data.toList.drop 0 = dktJ23_equals_0 := by decide +kernel
theorem dksJ23_equals_1 : cJ23_equals.data.toList.drop 22 = dktJ23_equals_1 := dk_seg dksJ23_equals_0 22 rfl rfl
theorem dJ23_equals_0 : decode cJ23_equals 0 = .ok (.aload_n 1, 1) := dk_43 (dk_at dksJ23_equals_0 0 rfl rfl)
theorem dJ23_equals_1 : decode cJ23_equals 1 = .ok (.instanceof 1, 3) := dk_193 0 1 (dk_at dksJ23_equals_0 1 rfl rfl)
theorem dJ23_equals_4 : decode cJ23_equals 4 = .ok (.ifCond .eq 23, 3) := dk_153 0 23 (dk_at dksJ23_equals_0 4 rfl rfl)
theorem dJ23_equals_7 : decode cJ23_equals 7 = .ok (.aload_n 0, 1) := dk_42 (dk_at dksJ23_equals_0 7 rfl rfl)
theorem dJ23_equals_8 : decode cJ23_equals 8 = .ok (.getfield 205, 3) := dk_180 0 205 (dk_at dksJ23_equals_0 8 rfl rfl)
theorem dJ23_equals_11 : decode cJ23_equals 11 = .ok (.aload_n 1, 1) := dk_43 (dk_at dksJ23_equals_0 11 rfl rfl)
theorem dJ23_equals_12 : decode cJ23_equals 12 = .ok (.checkcast 1, 3) := dk_192 0 1 (dk_at dksJ23_equals_0 12 rfl rfl)
theorem dJ23_equals_15 : decode cJ23_equals 15 = .ok (.invokevirtual 211, 3) := dk_182 0 211 (dk_at dksJ23_equals_0 15 rfl rfl)
theorem dJ23_equals_18 : decode cJ23_equals 18 = .ok (.if_icmp .ne 7, 3) := dk_160 0 7 (dk_at dksJ23_equals_0 18 rfl rfl)
theorem dJ23_equals_21 : decode cJ23_equals 21 = .ok (.iconst 1, 1) := dk_4 (dk_at dksJ23_equals_0 21 rfl rfl)
theorem dJ23_equals_22 : decode cJ23_equals 22 = .ok (.goto 4, 3) := dk_167 0 4 (dk_at dksJ23_equals_1 0 rfl rfl)
theorem dJ23_equals_25 : decode cJ23_equals 25 = .ok (.iconst 0, 1) := dk_3 (dk_at dksJ23_equals_1 3 rfl rfl)
theorem dJ23_equals_26 : decode cJ23_equals 26 = .ok (.ireturn, 1) := dk_172 (dk_at dksJ23_equals_1 4 rfl rfl)
theorem dJ23_equals_27 : decode cJ23_equals 27 = .ok (.iconst 0, 1) := dk_3 (dk_at dksJ23_equals_1 5 rfl rfl)
theorem dJ23_equals_28 : decode cJ23_equals 28 = .ok (.ireturn, 1) := dk_172 (dk_at dksJ23_equals_1 6 rfl rfl)
theorem q1767 : (Jvm.Cond.methodLink "java/lang/Integer" (211 : Nat) ({ cls := "java/lang/Integer", name := "intValue", desc := "()I" } : Jvm.MethodName)) ∈ lw_all := lw_g (lw_at lw_m8 17 rfl) rfl
theorem q1768 : (Jvm.Cond.instanceMethod ({ cls := "java/lang/Integer", name := "intValue", desc := "()I" } : Jvm.MethodName)) ∈ lw_all := lw_g (lw_at lw_m8 18 rfl) rfl
theorem q1769 : (Jvm.Cond.selects "java/lang/Integer" ({ cls := "java/lang/Integer", name := "intValue", desc := "()I" } : Jvm.MethodName) ({ cls := "java/lang/Integer", name := "intValue", desc := "()I" } : Jvm.MethodName)) ∈ lw_all := lw_g (lw_at lw_m8 19 rfl) rfl
theorem q1770 : (Jvm.Cond.code ({ cls := "java/lang/Integer", name := "intValue", desc := "()I" } : Jvm.MethodName) prog_35_method_27_code (1 : Nat) (Option.some Jvm.ClassFile.FieldType.int)) ∈ lw_all := lw_g (lw_at lw_m8 20 rfl) rfl
abbrev rm_J23_equals : Room := { frames := 1, cells := 0, slots := 0, locals := 20 }
def w_J23_equals (a0 : Option Nat) (a1 : Option Nat) (h : AH) (P : Int32 → AH → Prop) : Prop :=
  is_c h a1 [16, 17] (
  (((1 : Int32) = 0 →
    P 0 h) ∧
   (¬ (1 : Int32) = 0 →
    g_iN h a0 0 fun y8 =>
    is_c h a1 [16, 17] (
    is_c h a1 [16, 17] (
    w_J23_intValue a1 h (fun y15 h15 =>
    ((y8 = y15 →
      P 1 h15) ∧
     (¬ y8 = y15 →
      P 0 h15))))))))
theorem met_J23_equals (l : Launch) (hlt : l.stackTraces = false) (G : GG) (h : AH) (a0 : Option Nat) (a1 : Option Nat) (P : Int32 → AH → Prop) (hw : w_J23_equals a0 a1 h P) : ct_i l yJ23_equals (ws_ yJ23_equals cJ23_equals 2 (Option.some Jvm.ClassFile.FieldType.boolean)) rm_J23_equals G h [vR a0, vR a1] P := by
  refine j_starti hlt [(0, vR a0), (1, vR a1)] (plainFor_of_name (by decide)) rfl rfl (fun x X eG er en hQ => ?_)
  subst eG
  refine j_aload_n X (pc := 0) 1 dJ23_equals_0 rfl rfl ?_
  refine j_instI X (pc := 1) q1723 dJ23_equals_1 hw (fun hw => ?_)
  refine j_if_eq X (pc := 4) 27 dJ23_equals_4 (by decide) hw (fun hw => ?_) (fun hw => ?_)
  · refine j_iconst X (pc := 27) 0 dJ23_equals_27 (by decide) ?_
    exact j_zret X (pc := 28) (ty := .boolean) hQ er rfl (Nat.le_of_ble_eq_true rfl) (Nat.le_of_ble_eq_true rfl) dJ23_equals_28 hw
  · refine j_aload_n X (pc := 7) 0 dJ23_equals_7 rfl rfl ?_
    refine j_getiN0 X (pc := 8) q1732 dJ23_equals_8 hw (fun y8 hw => ?_)
    refine j_aload_n X (pc := 11) 1 dJ23_equals_11 rfl rfl ?_
    refine j_chk X (pc := 12) (L := [16, 17]) q1723 (by intro ci hci; simp only [List.mem_cons, List.not_mem_nil, or_false] at hci; rcases hci with rfl | rfl <;> first | exact ⟨by decide, _, _, _, rfl, Or.inl rfl⟩ | exact ⟨by decide, _, _, _, rfl, Or.inl rfl⟩) dJ23_equals_12 hw (fun hw => ?_)
    obtain ⟨b9, c9, f9, hr9, ho9, hc9, hw⟩ := hw
    simp only [List.mem_cons, List.not_mem_nil, or_false] at hc9
    refine j_calli (j_runV (n8 := 0) (As := []) (rest := [vI y8]) X (pc := 15) hr9 (met_J23_intValue (xl x) X.hl (xG x) h a1 _ hw) ho9 (by rcases hc9 with rfl | rfl <;> decide) (C := "java/lang/Integer") (T := TJ23) (N := 1) (by rcases hc9 with rfl | rfl <;> rfl) q1767 q1768 q1769 q108 q1770 (by decide +kernel) dJ23_equals_15 rfl ⟨Nat.le_of_ble_eq_true rfl, Nat.le_of_ble_eq_true rfl⟩ (Nat.le_of_ble_eq_true rfl) ⟨Nat.le_of_ble_eq_true rfl, Nat.le_of_ble_eq_true rfl⟩) (fun y15 h15 hw => ?_)
    refine j_icmp_ne X (pc := 18) 25 dJ23_equals_18 (by decide) hw (fun hw => ?_) (fun hw => ?_)
    · refine j_iconst X (pc := 21) 1 dJ23_equals_21 (by decide) ?_
      refine j_goto X (pc := 22) 26 dJ23_equals_22 (by decide) ?_
      exact j_zret X (pc := 26) (ty := .boolean) hQ er rfl (Nat.le_of_ble_eq_true rfl) (Nat.le_of_ble_eq_true rfl) dJ23_equals_26 hw
    · refine j_iconst X (pc := 25) 0 dJ23_equals_25 (by decide) ?_
      exact j_zret X (pc := 26) (ty := .boolean) hQ er rfl (Nat.le_of_ble_eq_true rfl) (Nat.le_of_ble_eq_true rfl) dJ23_equals_26 hw
abbrev cJ2_indexOfRange : ByteArray := prog_54_method_12_code
def yJ2_indexOfRange : MethodName := ⟨RJ2, "indexOfRange", "(Ljava/lang/Object;II)I"⟩
def dkwJ2_indexOfRange_2 : List UInt8 := [43, 25, 4, 21, 5, 50, 182, 0, 93, 153, 0, 6, 21, 5, 172, 132, 5, 1, 167, 255, 232, 2, 172]
abbrev dktJ2_indexOfRange_2 : List UInt8 := dkwJ2_indexOfRange_2 ++ []
def dkwJ2_indexOfRange_1 : List UInt8 := [199, 0, 6, 21, 5, 172, 132, 5, 1, 167, 255, 236, 167, 0, 33, 28, 54, 5, 21, 5, 29, 162, 0, 24]
abbrev dktJ2_indexOfRange_1 : List UInt8 := dkwJ2_indexOfRange_1 ++ dktJ2_indexOfRange_2
def dkwJ2_indexOfRange_0 : List UInt8 := [42, 180, 0, 9, 58, 4, 43, 199, 0, 32, 28, 54, 5, 21, 5, 29, 162, 0, 20, 25, 4, 21, 5, 50]
abbrev dktJ2_indexOfRange_0 : List UInt8 := dkwJ2_indexOfRange_0 ++ dktJ2_indexOfRange_1
theorem dksJ2_indexOfRange_0 : cJ2_indexOfRange.data.toList.drop 0 = dktJ2_indexOfRange_0 := by decide +kernel
theorem dksJ2_indexOfRange_1 : cJ2_indexOfRange.data.toList.drop 24 = dktJ2_indexOfRange_1 := dk_seg dksJ2_indexOfRange_0 24 rfl rfl
theorem dksJ2_indexOfRange_2 : cJ2_indexOfRange.data.toList.drop 48 = dktJ2_indexOfRange_2 := dk_seg dksJ2_indexOfRange_1 24 rfl rfl
theorem dJ2_indexOfRange_0 : decode cJ2_indexOfRange 0 = .ok (.aload_n 0, 1) := dk_42 (dk_at dksJ2_indexOfRange_0 0 rfl rfl)
theorem dJ2_indexOfRange_1 : decode cJ2_indexOfRange 1 = .ok (.getfield 9, 3) := dk_180 0 9 (dk_at dksJ2_indexOfRange_0 1 rfl rfl)
theorem dJ2_indexOfRange_4 : decode cJ2_indexOfRange 4 = .ok (.astore 4, 2) := dk_58 4 (dk_at dksJ2_indexOfRange_0 4 rfl rfl)
theorem dJ2_indexOfRange_6 : decode cJ2_indexOfRange 6 = .ok (.aload_n 1, 1) := dk_43 (dk_at dksJ2_indexOfRange_0 6 rfl rfl)
theorem dJ2_indexOfRange_7 : decode cJ2_indexOfRange 7 = .ok (.ifnonnull 32, 3) := dk_199 0 32 (dk_at dksJ2_indexOfRange_0 7 rfl rfl)
theorem dJ2_indexOfRange_10 : decode cJ2_indexOfRange 10 = .ok (.iload_n 2, 1) := dk_28 (dk_at dksJ2_indexOfRange_0 10 rfl rfl)
theorem dJ2_indexOfRange_11 : decode cJ2_indexOfRange 11 = .ok (.istore 5, 2) := dk_54 5 (dk_at dksJ2_indexOfRange_0 11 rfl rfl)
theorem dJ2_indexOfRange_13 : decode cJ2_indexOfRange 13 = .ok (.iload 5, 2) := dk_21 5 (dk_at dksJ2_indexOfRange_0 13 rfl rfl)
theorem dJ2_indexOfRange_15 : decode cJ2_indexOfRange 15 = .ok (.iload_n 3, 1) := dk_29 (dk_at dksJ2_indexOfRange_0 15 rfl rfl)
theorem dJ2_indexOfRange_16 : decode cJ2_indexOfRange 16 = .ok (.if_icmp .ge 20, 3) := dk_162 0 20 (dk_at dksJ2_indexOfRange_0 16 rfl rfl)
theorem dJ2_indexOfRange_19 : decode cJ2_indexOfRange 19 = .ok (.aload 4, 2) := dk_25 4 (dk_at dksJ2_indexOfRange_0 19 rfl rfl)
theorem dJ2_indexOfRange_21 : decode cJ2_indexOfRange 21 = .ok (.iload 5, 2) := dk_21 5 (dk_at dksJ2_indexOfRange_0 21 rfl rfl)
theorem dJ2_indexOfRange_23 : decode cJ2_indexOfRange 23 = .ok (.aaload, 1) := dk_50 (dk_at dksJ2_indexOfRange_0 23 rfl rfl)
theorem dJ2_indexOfRange_24 : decode cJ2_indexOfRange 24 = .ok (.ifnonnull 6, 3) := dk_199 0 6 (dk_at dksJ2_indexOfRange_1 0 rfl rfl)
theorem dJ2_indexOfRange_27 : decode cJ2_indexOfRange 27 = .ok (.iload 5, 2) := dk_21 5 (dk_at dksJ2_indexOfRange_1 3 rfl rfl)
theorem dJ2_indexOfRange_29 : decode cJ2_indexOfRange 29 = .ok (.ireturn, 1) := dk_172 (dk_at dksJ2_indexOfRange_1 5 rfl rfl)
theorem dJ2_indexOfRange_30 : decode cJ2_indexOfRange 30 = .ok (.iinc 5 1, 3) := dk_132 5 1 (dk_at dksJ2_indexOfRange_1 6 rfl rfl)
theorem dJ2_indexOfRange_33 : decode cJ2_indexOfRange 33 = .ok (.goto (-20), 3) := dk_167 255 236 (dk_at dksJ2_indexOfRange_1 9 rfl rfl)
theorem dJ2_indexOfRange_36 : decode cJ2_indexOfRange 36 = .ok (.goto 33, 3) := dk_167 0 33 (dk_at dksJ2_indexOfRange_1 12 rfl rfl)
theorem dJ2_indexOfRange_39 : decode cJ2_indexOfRange 39 = .ok (.iload_n 2, 1) := dk_28 (dk_at dksJ2_indexOfRange_1 15 rfl rfl)
theorem dJ2_indexOfRange_40 : decode cJ2_indexOfRange 40 = .ok (.istore 5, 2) := dk_54 5 (dk_at dksJ2_indexOfRange_1 16 rfl rfl)
theorem dJ2_indexOfRange_42 : decode cJ2_indexOfRange 42 = .ok (.iload 5, 2) := dk_21 5 (dk_at dksJ2_indexOfRange_1 18 rfl rfl)
theorem dJ2_indexOfRange_44 : decode cJ2_indexOfRange 44 = .ok (.iload_n 3, 1) := dk_29 (dk_at dksJ2_indexOfRange_1 20 rfl rfl)
theorem dJ2_indexOfRange_45 : decode cJ2_indexOfRange 45 = .ok (.if_icmp .ge 24, 3) := dk_162 0 24 (dk_at dksJ2_indexOfRange_1 21 rfl rfl)
theorem dJ2_indexOfRange_48 : decode cJ2_indexOfRange 48 = .ok (.aload_n 1, 1) := dk_43 (dk_at dksJ2_indexOfRange_2 0 rfl rfl)
theorem dJ2_indexOfRange_49 : decode cJ2_indexOfRange 49 = .ok (.aload 4, 2) := dk_25 4 (dk_at dksJ2_indexOfRange_2 1 rfl rfl)
theorem dJ2_indexOfRange_51 : decode cJ2_indexOfRange 51 = .ok (.iload 5, 2) := dk_21 5 (dk_at dksJ2_indexOfRange_2 3 rfl rfl)
theorem dJ2_indexOfRange_53 : decode cJ2_indexOfRange 53 = .ok (.aaload, 1) := dk_50 (dk_at dksJ2_indexOfRange_2 5 rfl rfl)
theorem dJ2_indexOfRange_54 : decode cJ2_indexOfRange 54 = .ok (.invokevirtual 93, 3) := dk_182 0 93 (dk_at dksJ2_indexOfRange_2 6 rfl rfl)
theorem dJ2_indexOfRange_57 : decode cJ2_indexOfRange 57 = .ok (.ifCond .eq 6, 3) := dk_153 0 6 (dk_at dksJ2_indexOfRange_2 9 rfl rfl)
theorem dJ2_indexOfRange_60 : decode cJ2_indexOfRange 60 = .ok (.iload 5, 2) := dk_21 5 (dk_at dksJ2_indexOfRange_2 12 rfl rfl)
theorem dJ2_indexOfRange_62 : decode cJ2_indexOfRange 62 = .ok (.ireturn, 1) := dk_172 (dk_at dksJ2_indexOfRange_2 14 rfl rfl)
theorem dJ2_indexOfRange_63 : decode cJ2_indexOfRange 63 = .ok (.iinc 5 1, 3) := dk_132 5 1 (dk_at dksJ2_indexOfRange_2 15 rfl rfl)
theorem dJ2_indexOfRange_66 : decode cJ2_indexOfRange 66 = .ok (.goto (-24), 3) := dk_167 255 232 (dk_at dksJ2_indexOfRange_2 18 rfl rfl)
theorem dJ2_indexOfRange_69 : decode cJ2_indexOfRange 69 = .ok (.iconst (-1), 1) := dk_2 (dk_at dksJ2_indexOfRange_2 21 rfl rfl)
theorem dJ2_indexOfRange_70 : decode cJ2_indexOfRange 70 = .ok (.ireturn, 1) := dk_172 (dk_at dksJ2_indexOfRange_2 22 rfl rfl)
theorem q1748 : (Jvm.Cond.declares ({ cls := "java/lang/Object", name := "equals", desc := "(Ljava/lang/Object;)Z" } : Jvm.MethodName)) ∈ lw_tbl := lw_at lw_m7 238 rfl
theorem q1749 : (Jvm.Cond.methodLink "java/util/ArrayList" (93 : Nat) ({ cls := "java/lang/Object", name := "equals", desc := "(Ljava/lang/Object;)Z" } : Jvm.MethodName)) ∈ lw_all := lw_g (lw_at lw_m7 239 rfl) rfl
theorem q1751 : (Jvm.Cond.sameMethod "java/lang/Object" "java/lang/Object" "equals" "(Ljava/lang/Object;)Z") ∈ lw_all := lw_g (lw_at lw_m8 1 rfl) rfl
theorem q1765 : (Jvm.Cond.instanceMethod ({ cls := "java/lang/Integer", name := "equals", desc := "(Ljava/lang/Object;)Z" } : Jvm.MethodName)) ∈ lw_all := lw_g (lw_at lw_m8 15 rfl) rfl
theorem q1766 : (Jvm.Cond.code ({ cls := "java/lang/Integer", name := "equals", desc := "(Ljava/lang/Object;)Z" } : Jvm.MethodName) prog_35_method_34_code (2 : Nat) (Option.some Jvm.ClassFile.FieldType.boolean)) ∈ lw_all := lw_g (lw_at lw_m8 16 rfl) rfl
theorem q1792 : (Jvm.Cond.selects "java/lang/Integer" ({ cls := "java/lang/Object", name := "equals", desc := "(Ljava/lang/Object;)Z" } : Jvm.MethodName) ({ cls := "java/lang/Integer", name := "equals", desc := "(Ljava/lang/Object;)Z" } : Jvm.MethodName)) ∈ lw_all := lw_g (lw_at lw_m8 42 rfl) rfl
abbrev rm_J2_indexOfRange : Room := { frames := 2, cells := 0, slots := 0, locals := 41 }
def w_J2_indexOfRange_13 (P : Int32 → AH → Prop) (x3 : Int32) (x4 : Option Nat) (x5 : Int32) (h : AH) : Prop :=
  ∀ Z13 : Int32 → Prop, (∀ x5, (
      ((x3 ≤ x5 →
        P (-1) h) ∧
       (¬ x3 ≤ x5 →
        l_q h x4 x5 fun y23 =>
        ((y23 = (none : Option Nat) →
          P x5 h) ∧
         (¬ y23 = (none : Option Nat) →
          Z13 (x5 + 1))))))
      → Z13 x5) → Z13 x5
def w_J2_indexOfRange_42 (P : Int32 → AH → Prop) (x1 : Option Nat) (x3 : Int32) (x4 : Option Nat) (x5 : Int32) (h : AH) : Prop :=
  ∀ Z42 : Int32 → AH → Prop, (∀ x5 h, (
      ((x3 ≤ x5 →
        P (-1) h) ∧
       (¬ x3 ≤ x5 →
        l_q h x4 x5 fun y53 =>
        is_c h x1 [16, 17] (
        w_J23_equals x1 y53 h (fun y54 h54 =>
        ((y54 = 0 →
          Z42 (x5 + 1) h54) ∧
         (¬ y54 = 0 →
          P x5 h54)))))))
      → Z42 x5 h) → Z42 x5 h
def w_J2_indexOfRange (a0 : Option Nat) (a1 : Option Nat) (a2 : Int32) (a3 : Int32) (h : AH) (P : Int32 → AH → Prop) : Prop :=
  g_q h a0 15 1 fun y1 =>
  ((a1 = (none : Option Nat) →
    w_J2_indexOfRange_13 P a3 y1 a2 h) ∧
   (¬ a1 = (none : Option Nat) →
    w_J2_indexOfRange_42 P a1 a3 y1 a2 h))
theorem wk_J2_indexOfRange_13 {x : CX} (X : Ok x cJ2_indexOfRange RJ2 rm_J2_indexOfRange 6) (er : xrt x = (Option.some Jvm.ClassFile.FieldType.int)) (en : xnm x = yJ2_indexOfRange.name) {P : Int32 → AH → Prop} (hQ : xr_i x P) (x3 : Int32) (x4 : Option Nat) (x5 : Int32) (h : AH) (hw : w_J2_indexOfRange_13 P x3 x4 x5 h) : J x h 0 0 13 [(3, vI x3), (4, vR x4), (5, vI x5)] [] := by
  refine hw (fun x5 => J x h 0 0 13 [(3, vI x3), (4, vR x4), (5, vI x5)] []) (fun x5 hw => ?_)
  refine j_iload X (pc := 13) 2 dJ2_indexOfRange_13 rfl ?_
  refine j_iload_n X (pc := 15) 0 dJ2_indexOfRange_15 rfl rfl ?_
  refine j_icmp_ge X (pc := 16) 36 dJ2_indexOfRange_16 (by decide) hw (fun hw => ?_) (fun hw => ?_)
  · refine j_goto X (pc := 36) 69 dJ2_indexOfRange_36 (by decide) ?_
    refine j_iconst X (pc := 69) (-1) dJ2_indexOfRange_69 (by decide) ?_
    exact j_iret X (pc := 70) hQ er (Nat.le_of_ble_eq_true rfl) (Nat.le_of_ble_eq_true rfl) dJ2_indexOfRange_70 hw
  · refine j_aload X (pc := 19) 1 dJ2_indexOfRange_19 rfl ?_
    refine j_iload X (pc := 21) 2 dJ2_indexOfRange_21 rfl ?_
    refine j_aald X (pc := 23) dJ2_indexOfRange_23 hw (fun y23 hw => ?_)
    refine j_ifnonnull X (pc := 24) 30 dJ2_indexOfRange_24 (by decide) hw (fun hw => ?_) (fun hw => ?_)
    · refine j_iload X (pc := 27) 2 dJ2_indexOfRange_27 rfl ?_
      exact j_iret X (pc := 29) hQ er (Nat.le_of_ble_eq_true rfl) (Nat.le_of_ble_eq_true rfl) dJ2_indexOfRange_29 hw
    · refine j_iinc X (pc := 30) 2 (x5 + 1) [(5, vI (x5 + 1)), (3, vI x3), (4, vR x4)] dJ2_indexOfRange_30 rfl rfl (Nat.le_of_ble_eq_true rfl) rfl ?_
      refine j_goto X (pc := 33) 13 dJ2_indexOfRange_33 (by decide) ?_
      refine j_lv [(3, vI x3), (4, vR x4), (5, vI (x5 + 1))] [1, 2, 0] rfl ?_
      refine j_cs (u' := 0) (v' := 0) (Nat.le_of_ble_eq_true rfl) (Nat.le_of_ble_eq_true rfl) ?_
      exact hw
theorem wk_J2_indexOfRange_42 {x : CX} (X : Ok x cJ2_indexOfRange RJ2 rm_J2_indexOfRange 6) (er : xrt x = (Option.some Jvm.ClassFile.FieldType.int)) (en : xnm x = yJ2_indexOfRange.name) {P : Int32 → AH → Prop} (hQ : xr_i x P) (x1 : Option Nat) (x3 : Int32) (x4 : Option Nat) (x5 : Int32) (h : AH) (hw : w_J2_indexOfRange_42 P x1 x3 x4 x5 h) : J x h 0 0 42 [(1, vR x1), (3, vI x3), (4, vR x4), (5, vI x5)] [] := by
  refine hw (fun x5 h => J x h 0 0 42 [(1, vR x1), (3, vI x3), (4, vR x4), (5, vI x5)] []) (fun x5 h hw => ?_)
  refine j_iload X (pc := 42) 3 dJ2_indexOfRange_42 rfl ?_
  refine j_iload_n X (pc := 44) 1 dJ2_indexOfRange_44 rfl rfl ?_
  refine j_icmp_ge X (pc := 45) 69 dJ2_indexOfRange_45 (by decide) hw (fun hw => ?_) (fun hw => ?_)
  · refine j_iconst X (pc := 69) (-1) dJ2_indexOfRange_69 (by decide) ?_
    exact j_iret X (pc := 70) hQ er (Nat.le_of_ble_eq_true rfl) (Nat.le_of_ble_eq_true rfl) dJ2_indexOfRange_70 hw
  · refine j_aload_n X (pc := 48) 0 dJ2_indexOfRange_48 rfl rfl ?_
    refine j_aload X (pc := 49) 2 dJ2_indexOfRange_49 rfl ?_
    refine j_iload X (pc := 51) 3 dJ2_indexOfRange_51 rfl ?_
    refine j_aald X (pc := 53) dJ2_indexOfRange_53 hw (fun y53 hw => ?_)
    obtain ⟨b9, c9, f9, hr9, ho9, hc9, hw⟩ := hw
    simp only [List.mem_cons, List.not_mem_nil, or_false] at hc9
    refine j_calli (j_runA (n8 := 1) (As := [vR y53]) (rest := []) X (pc := 54) hr9 (met_J23_equals (xl x) X.hl (xG x) h x1 y53 _ hw) ho9 (by rcases hc9 with rfl | rfl <;> decide) (C := "java/lang/Integer") (T := TJ23) (N := 1) (by rcases hc9 with rfl | rfl <;> rfl) q1749 q1751 q1792 q1765 q108 q1766 q1748 (by decide +kernel) dJ2_indexOfRange_54 rfl ⟨Nat.le_of_ble_eq_true rfl, Nat.le_of_ble_eq_true rfl⟩ (Nat.le_of_ble_eq_true rfl) ⟨Nat.le_of_ble_eq_true rfl, Nat.le_of_ble_eq_true rfl⟩) (fun y54 h54 hw => ?_)
    refine j_if_eq X (pc := 57) 63 dJ2_indexOfRange_57 (by decide) hw (fun hw => ?_) (fun hw => ?_)
    · refine j_iinc X (pc := 63) 3 (x5 + 1) [(5, vI (x5 + 1)), (1, vR x1), (3, vI x3), (4, vR x4)] dJ2_indexOfRange_63 rfl rfl (Nat.le_of_ble_eq_true rfl) rfl ?_
      refine j_goto X (pc := 66) 42 dJ2_indexOfRange_66 (by decide) ?_
      refine j_lv [(1, vR x1), (3, vI x3), (4, vR x4), (5, vI (x5 + 1))] [1, 2, 3, 0] rfl ?_
      refine j_cs (u' := 0) (v' := 0) (Nat.le_of_ble_eq_true rfl) (Nat.le_of_ble_eq_true rfl) ?_
      exact hw
    · refine j_iload X (pc := 60) 3 dJ2_indexOfRange_60 rfl ?_
      exact j_iret X (pc := 62) hQ er (Nat.le_of_ble_eq_true rfl) (Nat.le_of_ble_eq_true rfl) dJ2_indexOfRange_62 hw
theorem met_J2_indexOfRange (l : Launch) (hlt : l.stackTraces = false) (G : GG) (h : AH) (a0 : Option Nat) (a1 : Option Nat) (a2 : Int32) (a3 : Int32) (P : Int32 → AH → Prop) (hw : w_J2_indexOfRange a0 a1 a2 a3 h P) : ct_i l yJ2_indexOfRange (ws_ yJ2_indexOfRange cJ2_indexOfRange 6 (Option.some Jvm.ClassFile.FieldType.int)) rm_J2_indexOfRange G h [vR a0, vR a1, vI a2, vI a3] P := by
  refine j_starti hlt [(0, vR a0), (1, vR a1), (2, vI a2), (3, vI a3)] (plainFor_of_name (by decide)) rfl rfl (fun x X eG er en hQ => ?_)
  subst eG
  refine j_aload_n X (pc := 0) 0 dJ2_indexOfRange_0 rfl rfl ?_
  refine j_getq (ci := 15) X (pc := 1) in_J2 rfl (by decide) 1 (by decide) q141 (Or.inl rfl) dJ2_indexOfRange_1 hw (fun y1 hw => ?_)
  refine j_astore X (pc := 4) [(4, vR y1), (0, vR a0), (1, vR a1), (2, vI a2), (3, vI a3)] dJ2_indexOfRange_4 (Nat.le_of_ble_eq_true rfl) rfl ?_
  refine j_aload_n X (pc := 6) 2 dJ2_indexOfRange_6 rfl rfl ?_
  refine j_ifnonnull X (pc := 7) 39 dJ2_indexOfRange_7 (by decide) hw (fun hw => ?_) (fun hw => ?_)
  · refine j_iload_n X (pc := 10) 3 dJ2_indexOfRange_10 rfl rfl ?_
    refine j_istore X (pc := 11) [(5, vI a2), (4, vR y1), (0, vR a0), (1, vR a1), (2, vI a2), (3, vI a3)] dJ2_indexOfRange_11 (Nat.le_of_ble_eq_true rfl) rfl ?_
    refine j_lv [(3, vI a3), (4, vR y1), (5, vI a2)] [5, 1, 0] rfl ?_
    refine j_cs (u' := 0) (v' := 0) (Nat.le_of_ble_eq_true rfl) (Nat.le_of_ble_eq_true rfl) ?_
    exact wk_J2_indexOfRange_13 X er en hQ a3 y1 a2 h hw
  · refine j_iload_n X (pc := 39) 3 dJ2_indexOfRange_39 rfl rfl ?_
    refine j_istore X (pc := 40) [(5, vI a2), (4, vR y1), (0, vR a0), (1, vR a1), (2, vI a2), (3, vI a3)] dJ2_indexOfRange_40 (Nat.le_of_ble_eq_true rfl) rfl ?_
    refine j_lv [(1, vR a1), (3, vI a3), (4, vR y1), (5, vI a2)] [3, 5, 1, 0] rfl ?_
    refine j_cs (u' := 0) (v' := 0) (Nat.le_of_ble_eq_true rfl) (Nat.le_of_ble_eq_true rfl) ?_
    exact wk_J2_indexOfRange_42 X er en hQ a1 a3 y1 a2 h hw
abbrev cJ2_indexOf : ByteArray := prog_54_method_11_code
def yJ2_indexOf : MethodName := ⟨RJ2, "indexOf", "(Ljava/lang/Object;)I"⟩
def dkwJ2_indexOf_0 : List UInt8 := [42, 43, 3, 42, 180, 0, 48, 182, 0, 89, 172]
abbrev dktJ2_indexOf_0 : List UInt8 := dkwJ2_indexOf_0 ++ []
theorem dksJ2_indexOf_0 : cJ2_indexOf.data.toList.drop 0 = dktJ2_indexOf_0 := by decide +kernel
theorem dJ2_indexOf_0 : decode cJ2_indexOf 0 = .ok (.aload_n 0, 1) := dk_42 (dk_at dksJ2_indexOf_0 0 rfl rfl)
theorem dJ2_indexOf_1 : decode cJ2_indexOf 1 = .ok (.aload_n 1, 1) := dk_43 (dk_at dksJ2_indexOf_0 1 rfl rfl)
theorem dJ2_indexOf_2 : decode cJ2_indexOf 2 = .ok (.iconst 0, 1) := dk_3 (dk_at dksJ2_indexOf_0 2 rfl rfl)
theorem dJ2_indexOf_3 : decode cJ2_indexOf 3 = .ok (.aload_n 0, 1) := dk_42 (dk_at dksJ2_indexOf_0 3 rfl rfl)
theorem dJ2_indexOf_4 : decode cJ2_indexOf 4 = .ok (.getfield 48, 3) := dk_180 0 48 (dk_at dksJ2_indexOf_0 4 rfl rfl)
theorem dJ2_indexOf_7 : decode cJ2_indexOf 7 = .ok (.invokevirtual 89, 3) := dk_182 0 89 (dk_at dksJ2_indexOf_0 7 rfl rfl)
theorem dJ2_indexOf_10 : decode cJ2_indexOf 10 = .ok (.ireturn, 1) := dk_172 (dk_at dksJ2_indexOf_0 10 rfl rfl)
theorem q1744 : (Jvm.Cond.methodLink "java/util/ArrayList" (89 : Nat) ({ cls := "java/util/ArrayList", name := "indexOfRange", desc := "(Ljava/lang/Object;II)I" } : Jvm.MethodName)) ∈ lw_all := lw_g (lw_at lw_m7 234 rfl) rfl
theorem q1745 : (Jvm.Cond.instanceMethod ({ cls := "java/util/ArrayList", name := "indexOfRange", desc := "(Ljava/lang/Object;II)I" } : Jvm.MethodName)) ∈ lw_all := lw_g (lw_at lw_m7 235 rfl) rfl
theorem q1746 : (Jvm.Cond.selects "java/util/ArrayList" ({ cls := "java/util/ArrayList", name := "indexOfRange", desc := "(Ljava/lang/Object;II)I" } : Jvm.MethodName) ({ cls := "java/util/ArrayList", name := "indexOfRange", desc := "(Ljava/lang/Object;II)I" } : Jvm.MethodName)) ∈ lw_all := lw_g (lw_at lw_m7 236 rfl) rfl
theorem q1747 : (Jvm.Cond.code ({ cls := "java/util/ArrayList", name := "indexOfRange", desc := "(Ljava/lang/Object;II)I" } : Jvm.MethodName) prog_54_method_12_code (6 : Nat) (Option.some Jvm.ClassFile.FieldType.int)) ∈ lw_all := lw_g (lw_at lw_m7 237 rfl) rfl
abbrev rm_J2_indexOf : Room := { frames := 3, cells := 0, slots := 0, locals := 66 }
def w_J2_indexOf (a0 : Option Nat) (a1 : Option Nat) (h : AH) (P : Int32 → AH → Prop) : Prop :=
  g_i h a0 15 2 fun y4 =>
  is_c h a0 [15] (
  w_J2_indexOfRange a0 a1 0 y4 h (fun y7 h7 =>
  P y7 h7))
theorem met_J2_indexOf (l : Launch) (hlt : l.stackTraces = false) (G : GG) (h : AH) (a0 : Option Nat) (a1 : Option Nat) (P : Int32 → AH → Prop) (hw : w_J2_indexOf a0 a1 h P) : ct_i l yJ2_indexOf (ws_ yJ2_indexOf cJ2_indexOf 2 (Option.some Jvm.ClassFile.FieldType.int)) rm_J2_indexOf G h [vR a0, vR a1] P := by
  refine j_starti hlt [(0, vR a0), (1, vR a1)] (plainFor_of_name (by decide)) rfl rfl (fun x X eG er en hQ => ?_)
  subst eG
  refine j_aload_n X (pc := 0) 0 dJ2_indexOf_0 rfl rfl ?_
  refine j_aload_n X (pc := 1) 1 dJ2_indexOf_1 rfl rfl ?_
  refine j_iconst X (pc := 2) 0 dJ2_indexOf_2 (by decide) ?_
  refine j_aload_n X (pc := 3) 0 dJ2_indexOf_3 rfl rfl ?_
  refine j_geti (ci := 15) X (pc := 4) in_J2 rfl (by decide) 2 (by decide) q144 (Or.inl rfl) dJ2_indexOf_4 hw (fun y4 hw => ?_)
  obtain ⟨b9, c9, f9, hr9, ho9, hc9, hw⟩ := hw
  obtain rfl := List.mem_singleton.mp hc9
  refine j_calli (j_runV (n8 := 3) (As := [vR a1, vI 0, vI y4]) (rest := []) X (pc := 7) hr9 (met_J2_indexOfRange (xl x) X.hl (xG x) h a0 a1 0 y4 _ hw) ho9 (by decide) rfl q1744 q1745 q1746 q74 q1747 (by decide +kernel) dJ2_indexOf_7 rfl ⟨Nat.le_of_ble_eq_true rfl, Nat.le_of_ble_eq_true rfl⟩ (Nat.le_of_ble_eq_true rfl) ⟨Nat.le_of_ble_eq_true rfl, Nat.le_of_ble_eq_true rfl⟩) (fun y7 h7 hw => ?_)
  exact j_iret X (pc := 10) hQ er (Nat.le_of_ble_eq_true rfl) (Nat.le_of_ble_eq_true rfl) dJ2_indexOf_10 hw
abbrev cJ2_contains : ByteArray := prog_54_method_10_code
def yJ2_contains : MethodName := ⟨RJ2, "contains", "(Ljava/lang/Object;)Z"⟩
def dkwJ2_contains_0 : List UInt8 := [42, 43, 182, 0, 85, 155, 0, 7, 4, 167, 0, 4, 3, 172]
abbrev dktJ2_contains_0 : List UInt8 := dkwJ2_contains_0 ++ []
theorem dksJ2_contains_0 : cJ2_contains.data.toList.drop 0 = dktJ2_contains_0 := by decide +kernel
theorem dJ2_contains_0 : decode cJ2_contains 0 = .ok (.aload_n 0, 1) := dk_42 (dk_at dksJ2_contains_0 0 rfl rfl)
theorem dJ2_contains_1 : decode cJ2_contains 1 = .ok (.aload_n 1, 1) := dk_43 (dk_at dksJ2_contains_0 1 rfl rfl)
theorem dJ2_contains_2 : decode cJ2_contains 2 = .ok (.invokevirtual 85, 3) := dk_182 0 85 (dk_at dksJ2_contains_0 2 rfl rfl)
theorem dJ2_contains_5 : decode cJ2_contains 5 = .ok (.ifCond .lt 7, 3) := dk_155 0 7 (dk_at dksJ2_contains_0 5 rfl rfl)
theorem dJ2_contains_8 : decode cJ2_contains 8 = .ok (.iconst 1, 1) := dk_4 (dk_at dksJ2_contains_0 8 rfl rfl)
theorem dJ2_contains_9 : decode cJ2_contains 9 = .ok (.goto 4, 3) := dk_167 0 4 (dk_at dksJ2_contains_0 9 rfl rfl)
theorem dJ2_contains_12 : decode cJ2_contains 12 = .ok (.iconst 0, 1) := dk_3 (dk_at dksJ2_contains_0 12 rfl rfl)
theorem dJ2_contains_13 : decode cJ2_contains 13 = .ok (.ireturn, 1) := dk_172 (dk_at dksJ2_contains_0 13 rfl rfl)
theorem q1740 : (Jvm.Cond.methodLink "java/util/ArrayList" (85 : Nat) ({ cls := "java/util/ArrayList", name := "indexOf", desc := "(Ljava/lang/Object;)I" } : Jvm.MethodName)) ∈ lw_all := lw_g (lw_at lw_m7 230 rfl) rfl
theorem q1741 : (Jvm.Cond.instanceMethod ({ cls := "java/util/ArrayList", name := "indexOf", desc := "(Ljava/lang/Object;)I" } : Jvm.MethodName)) ∈ lw_all := lw_g (lw_at lw_m7 231 rfl) rfl
theorem q1742 : (Jvm.Cond.selects "java/util/ArrayList" ({ cls := "java/util/ArrayList", name := "indexOf", desc := "(Ljava/lang/Object;)I" } : Jvm.MethodName) ({ cls := "java/util/ArrayList", name := "indexOf", desc := "(Ljava/lang/Object;)I" } : Jvm.MethodName)) ∈ lw_all := lw_g (lw_at lw_m7 232 rfl) rfl
theorem q1743 : (Jvm.Cond.code ({ cls := "java/util/ArrayList", name := "indexOf", desc := "(Ljava/lang/Object;)I" } : Jvm.MethodName) prog_54_method_11_code (2 : Nat) (Option.some Jvm.ClassFile.FieldType.int)) ∈ lw_all := lw_g (lw_at lw_m7 233 rfl) rfl
abbrev rm_J2_contains : Room := { frames := 4, cells := 0, slots := 0, locals := 87 }
def w_J2_contains (a0 : Option Nat) (a1 : Option Nat) (h : AH) (P : Int32 → AH → Prop) : Prop :=
  is_c h a0 [15] (
  w_J2_indexOf a0 a1 h (fun y2 h2 =>
  ((y2 < 0 →
    P 0 h2) ∧
   (¬ y2 < 0 →
    P 1 h2))))
theorem met_J2_contains (l : Launch) (hlt : l.stackTraces = false) (G : GG) (h : AH) (a0 : Option Nat) (a1 : Option Nat) (P : Int32 → AH → Prop) (hw : w_J2_contains a0 a1 h P) : ct_i l yJ2_contains (ws_ yJ2_contains cJ2_contains 2 (Option.some Jvm.ClassFile.FieldType.boolean)) rm_J2_contains G h [vR a0, vR a1] P := by
  refine j_starti hlt [(0, vR a0), (1, vR a1)] (plainFor_of_name (by decide)) rfl rfl (fun x X eG er en hQ => ?_)
  subst eG
  refine j_aload_n X (pc := 0) 0 dJ2_contains_0 rfl rfl ?_
  refine j_aload_n X (pc := 1) 1 dJ2_contains_1 rfl rfl ?_
  obtain ⟨b9, c9, f9, hr9, ho9, hc9, hw⟩ := hw
  obtain rfl := List.mem_singleton.mp hc9
  refine j_calli (j_runV (n8 := 1) (As := [vR a1]) (rest := []) X (pc := 2) hr9 (met_J2_indexOf (xl x) X.hl (xG x) h a0 a1 _ hw) ho9 (by decide) rfl q1740 q1741 q1742 q74 q1743 (by decide +kernel) dJ2_contains_2 rfl ⟨Nat.le_of_ble_eq_true rfl, Nat.le_of_ble_eq_true rfl⟩ (Nat.le_of_ble_eq_true rfl) ⟨Nat.le_of_ble_eq_true rfl, Nat.le_of_ble_eq_true rfl⟩) (fun y2 h2 hw => ?_)
  refine j_if_lt X (pc := 5) 12 dJ2_contains_5 (by decide) hw (fun hw => ?_) (fun hw => ?_)
  · refine j_iconst X (pc := 12) 0 dJ2_contains_12 (by decide) ?_
    exact j_zret X (pc := 13) (ty := .boolean) hQ er rfl (Nat.le_of_ble_eq_true rfl) (Nat.le_of_ble_eq_true rfl) dJ2_contains_13 hw
  · refine j_iconst X (pc := 8) 1 dJ2_contains_8 (by decide) ?_
    refine j_goto X (pc := 9) 13 dJ2_contains_9 (by decide) ?_
    exact j_zret X (pc := 13) (ty := .boolean) hQ er rfl (Nat.le_of_ble_eq_true rfl) (Nat.le_of_ble_eq_true rfl) dJ2_contains_13 hw
abbrev cX16_lay : ByteArray := prog_14_method_2_code
def yX16_lay : MethodName := ⟨RX16, "lay", "()V"⟩
def dkwX16_lay_7 : List UInt8 := [180, 0, 18, 28, 184, 0, 88, 182, 0, 98, 87, 177]
abbrev dktX16_lay_7 : List UInt8 := dkwX16_lay_7 ++ []
def dkwX16_lay_6 : List UInt8 := [180, 0, 68, 182, 0, 84, 61, 42, 180, 0, 18, 28, 184, 0, 88, 182, 0, 94, 154, 0, 15, 42]
abbrev dktX16_lay_6 : List UInt8 := dkwX16_lay_6 ++ dktX16_lay_7
def dkwX16_lay_5 : List UInt8 := [182, 0, 58, 192, 0, 62, 182, 0, 64, 132, 4, 1, 167, 255, 214, 42, 180, 0, 3, 42, 180, 0, 3]
abbrev dktX16_lay_5 : List UInt8 := dkwX16_lay_5 ++ dktX16_lay_6
def dkwX16_lay_4 : List UInt8 := [21, 4, 53, 54, 5, 42, 180, 0, 3, 180, 0, 68, 42, 180, 0, 28, 42, 180, 0, 45, 21, 5, 96]
abbrev dktX16_lay_4 : List UInt8 := dkwX16_lay_4 ++ dktX16_lay_5
def dkwX16_lay_3 : List UInt8 := [132, 2, 1, 167, 255, 223, 42, 180, 0, 41, 77, 44, 190, 62, 3, 54, 4, 21, 4, 29, 162, 0, 42, 44]
abbrev dktX16_lay_3 : List UInt8 := dkwX16_lay_3 ++ dktX16_lay_4
def dkwX16_lay_2 : List UInt8 := [180, 0, 3, 180, 0, 68, 180, 0, 80, 28, 42, 180, 0, 3, 180, 0, 49, 180, 0, 80, 28, 50, 83]
abbrev dktX16_lay_2 : List UInt8 := dkwX16_lay_2 ++ dktX16_lay_3
def dkwX16_lay_1 : List UInt8 := [192, 0, 76, 76, 42, 180, 0, 3, 180, 0, 68, 43, 181, 0, 71, 3, 61, 28, 16, 93, 162, 0, 33, 42]
abbrev dktX16_lay_1 : List UInt8 := dkwX16_lay_1 ++ dktX16_lay_2
def dkwX16_lay_0 : List UInt8 := [42, 180, 0, 3, 180, 0, 68, 182, 0, 53, 42, 180, 0, 3, 180, 0, 49, 180, 0, 71, 182, 0, 75]
abbrev dktX16_lay_0 : List UInt8 := dkwX16_lay_0 ++ dktX16_lay_1
theorem dksX16_lay_0 : cX16_lay.data.toList.drop 0 = dktX16_lay_0 := by decide +kernel
theorem dksX16_lay_1 : cX16_lay.data.toList.drop 23 = dktX16_lay_1 := dk_seg dksX16_lay_0 23 rfl rfl
theorem dksX16_lay_2 : cX16_lay.data.toList.drop 47 = dktX16_lay_2 := dk_seg dksX16_lay_1 24 rfl rfl
theorem dksX16_lay_3 : cX16_lay.data.toList.drop 70 = dktX16_lay_3 := dk_seg dksX16_lay_2 23 rfl rfl
theorem dksX16_lay_4 : cX16_lay.data.toList.drop 94 = dktX16_lay_4 := dk_seg dksX16_lay_3 24 rfl rfl
theorem dksX16_lay_5 : cX16_lay.data.toList.drop 117 = dktX16_lay_5 := dk_seg dksX16_lay_4 23 rfl rfl
theorem dksX16_lay_6 : cX16_lay.data.toList.drop 140 = dktX16_lay_6 := dk_seg dksX16_lay_5 23 rfl rfl
theorem dksX16_lay_7 : cX16_lay.data.toList.drop 162 = dktX16_lay_7 := dk_seg dksX16_lay_6 22 rfl rfl
theorem dX16_lay_0 : decode cX16_lay 0 = .ok (.aload_n 0, 1) := dk_42 (dk_at dksX16_lay_0 0 rfl rfl)
theorem dX16_lay_1 : decode cX16_lay 1 = .ok (.getfield 3, 3) := dk_180 0 3 (dk_at dksX16_lay_0 1 rfl rfl)
theorem dX16_lay_4 : decode cX16_lay 4 = .ok (.getfield 68, 3) := dk_180 0 68 (dk_at dksX16_lay_0 4 rfl rfl)
theorem dX16_lay_7 : decode cX16_lay 7 = .ok (.invokevirtual 53, 3) := dk_182 0 53 (dk_at dksX16_lay_0 7 rfl rfl)
theorem dX16_lay_10 : decode cX16_lay 10 = .ok (.aload_n 0, 1) := dk_42 (dk_at dksX16_lay_0 10 rfl rfl)
theorem dX16_lay_11 : decode cX16_lay 11 = .ok (.getfield 3, 3) := dk_180 0 3 (dk_at dksX16_lay_0 11 rfl rfl)
theorem dX16_lay_14 : decode cX16_lay 14 = .ok (.getfield 49, 3) := dk_180 0 49 (dk_at dksX16_lay_0 14 rfl rfl)
theorem dX16_lay_17 : decode cX16_lay 17 = .ok (.getfield 71, 3) := dk_180 0 71 (dk_at dksX16_lay_0 17 rfl rfl)
theorem dX16_lay_20 : decode cX16_lay 20 = .ok (.invokevirtual 75, 3) := dk_182 0 75 (dk_at dksX16_lay_0 20 rfl rfl)
theorem dX16_lay_23 : decode cX16_lay 23 = .ok (.checkcast 76, 3) := dk_192 0 76 (dk_at dksX16_lay_1 0 rfl rfl)
theorem dX16_lay_26 : decode cX16_lay 26 = .ok (.astore_n 1, 1) := dk_76 (dk_at dksX16_lay_1 3 rfl rfl)
theorem dX16_lay_27 : decode cX16_lay 27 = .ok (.aload_n 0, 1) := dk_42 (dk_at dksX16_lay_1 4 rfl rfl)
theorem dX16_lay_28 : decode cX16_lay 28 = .ok (.getfield 3, 3) := dk_180 0 3 (dk_at dksX16_lay_1 5 rfl rfl)
theorem dX16_lay_31 : decode cX16_lay 31 = .ok (.getfield 68, 3) := dk_180 0 68 (dk_at dksX16_lay_1 8 rfl rfl)
theorem dX16_lay_34 : decode cX16_lay 34 = .ok (.aload_n 1, 1) := dk_43 (dk_at dksX16_lay_1 11 rfl rfl)
theorem dX16_lay_35 : decode cX16_lay 35 = .ok (.putfield 71, 3) := dk_181 0 71 (dk_at dksX16_lay_1 12 rfl rfl)
theorem dX16_lay_38 : decode cX16_lay 38 = .ok (.iconst 0, 1) := dk_3 (dk_at dksX16_lay_1 15 rfl rfl)
theorem dX16_lay_39 : decode cX16_lay 39 = .ok (.istore_n 2, 1) := dk_61 (dk_at dksX16_lay_1 16 rfl rfl)
theorem dX16_lay_40 : decode cX16_lay 40 = .ok (.iload_n 2, 1) := dk_28 (dk_at dksX16_lay_1 17 rfl rfl)
theorem dX16_lay_41 : decode cX16_lay 41 = .ok (.bipush 93, 2) := dk_16 93 (dk_at dksX16_lay_1 18 rfl rfl)
theorem dX16_lay_43 : decode cX16_lay 43 = .ok (.if_icmp .ge 33, 3) := dk_162 0 33 (dk_at dksX16_lay_1 20 rfl rfl)
theorem dX16_lay_46 : decode cX16_lay 46 = .ok (.aload_n 0, 1) := dk_42 (dk_at dksX16_lay_1 23 rfl rfl)
theorem dX16_lay_47 : decode cX16_lay 47 = .ok (.getfield 3, 3) := dk_180 0 3 (dk_at dksX16_lay_2 0 rfl rfl)
theorem dX16_lay_50 : decode cX16_lay 50 = .ok (.getfield 68, 3) := dk_180 0 68 (dk_at dksX16_lay_2 3 rfl rfl)
theorem dX16_lay_53 : decode cX16_lay 53 = .ok (.getfield 80, 3) := dk_180 0 80 (dk_at dksX16_lay_2 6 rfl rfl)
theorem dX16_lay_56 : decode cX16_lay 56 = .ok (.iload_n 2, 1) := dk_28 (dk_at dksX16_lay_2 9 rfl rfl)
theorem dX16_lay_57 : decode cX16_lay 57 = .ok (.aload_n 0, 1) := dk_42 (dk_at dksX16_lay_2 10 rfl rfl)
theorem dX16_lay_58 : decode cX16_lay 58 = .ok (.getfield 3, 3) := dk_180 0 3 (dk_at dksX16_lay_2 11 rfl rfl)
theorem dX16_lay_61 : decode cX16_lay 61 = .ok (.getfield 49, 3) := dk_180 0 49 (dk_at dksX16_lay_2 14 rfl rfl)
theorem dX16_lay_64 : decode cX16_lay 64 = .ok (.getfield 80, 3) := dk_180 0 80 (dk_at dksX16_lay_2 17 rfl rfl)
theorem dX16_lay_67 : decode cX16_lay 67 = .ok (.iload_n 2, 1) := dk_28 (dk_at dksX16_lay_2 20 rfl rfl)
theorem dX16_lay_68 : decode cX16_lay 68 = .ok (.aaload, 1) := dk_50 (dk_at dksX16_lay_2 21 rfl rfl)
theorem dX16_lay_69 : decode cX16_lay 69 = .ok (.aastore, 1) := dk_83 (dk_at dksX16_lay_2 22 rfl rfl)
theorem dX16_lay_70 : decode cX16_lay 70 = .ok (.iinc 2 1, 3) := dk_132 2 1 (dk_at dksX16_lay_3 0 rfl rfl)
theorem dX16_lay_73 : decode cX16_lay 73 = .ok (.goto (-33), 3) := dk_167 255 223 (dk_at dksX16_lay_3 3 rfl rfl)
theorem dX16_lay_76 : decode cX16_lay 76 = .ok (.aload_n 0, 1) := dk_42 (dk_at dksX16_lay_3 6 rfl rfl)
theorem dX16_lay_77 : decode cX16_lay 77 = .ok (.getfield 41, 3) := dk_180 0 41 (dk_at dksX16_lay_3 7 rfl rfl)
theorem dX16_lay_80 : decode cX16_lay 80 = .ok (.astore_n 2, 1) := dk_77 (dk_at dksX16_lay_3 10 rfl rfl)
theorem dX16_lay_81 : decode cX16_lay 81 = .ok (.aload_n 2, 1) := dk_44 (dk_at dksX16_lay_3 11 rfl rfl)
theorem dX16_lay_82 : decode cX16_lay 82 = .ok (.arraylength, 1) := dk_190 (dk_at dksX16_lay_3 12 rfl rfl)
theorem dX16_lay_83 : decode cX16_lay 83 = .ok (.istore_n 3, 1) := dk_62 (dk_at dksX16_lay_3 13 rfl rfl)
theorem dX16_lay_84 : decode cX16_lay 84 = .ok (.iconst 0, 1) := dk_3 (dk_at dksX16_lay_3 14 rfl rfl)
theorem dX16_lay_85 : decode cX16_lay 85 = .ok (.istore 4, 2) := dk_54 4 (dk_at dksX16_lay_3 15 rfl rfl)
theorem dX16_lay_87 : decode cX16_lay 87 = .ok (.iload 4, 2) := dk_21 4 (dk_at dksX16_lay_3 17 rfl rfl)
theorem dX16_lay_89 : decode cX16_lay 89 = .ok (.iload_n 3, 1) := dk_29 (dk_at dksX16_lay_3 19 rfl rfl)
theorem dX16_lay_90 : decode cX16_lay 90 = .ok (.if_icmp .ge 42, 3) := dk_162 0 42 (dk_at dksX16_lay_3 20 rfl rfl)
theorem dX16_lay_93 : decode cX16_lay 93 = .ok (.aload_n 2, 1) := dk_44 (dk_at dksX16_lay_3 23 rfl rfl)
theorem dX16_lay_94 : decode cX16_lay 94 = .ok (.iload 4, 2) := dk_21 4 (dk_at dksX16_lay_4 0 rfl rfl)
theorem dX16_lay_96 : decode cX16_lay 96 = .ok (.saload, 1) := dk_53 (dk_at dksX16_lay_4 2 rfl rfl)
theorem dX16_lay_97 : decode cX16_lay 97 = .ok (.istore 5, 2) := dk_54 5 (dk_at dksX16_lay_4 3 rfl rfl)
theorem dX16_lay_99 : decode cX16_lay 99 = .ok (.aload_n 0, 1) := dk_42 (dk_at dksX16_lay_4 5 rfl rfl)
theorem dX16_lay_100 : decode cX16_lay 100 = .ok (.getfield 3, 3) := dk_180 0 3 (dk_at dksX16_lay_4 6 rfl rfl)
theorem dX16_lay_103 : decode cX16_lay 103 = .ok (.getfield 68, 3) := dk_180 0 68 (dk_at dksX16_lay_4 9 rfl rfl)
theorem dX16_lay_106 : decode cX16_lay 106 = .ok (.aload_n 0, 1) := dk_42 (dk_at dksX16_lay_4 12 rfl rfl)
theorem dX16_lay_107 : decode cX16_lay 107 = .ok (.getfield 28, 3) := dk_180 0 28 (dk_at dksX16_lay_4 13 rfl rfl)
theorem dX16_lay_110 : decode cX16_lay 110 = .ok (.aload_n 0, 1) := dk_42 (dk_at dksX16_lay_4 16 rfl rfl)
theorem dX16_lay_111 : decode cX16_lay 111 = .ok (.getfield 45, 3) := dk_180 0 45 (dk_at dksX16_lay_4 17 rfl rfl)
theorem dX16_lay_114 : decode cX16_lay 114 = .ok (.iload 5, 2) := dk_21 5 (dk_at dksX16_lay_4 20 rfl rfl)
theorem dX16_lay_116 : decode cX16_lay 116 = .ok (.iadd, 1) := dk_96 (dk_at dksX16_lay_4 22 rfl rfl)
theorem dX16_lay_117 : decode cX16_lay 117 = .ok (.invokevirtual 58, 3) := dk_182 0 58 (dk_at dksX16_lay_5 0 rfl rfl)
theorem dX16_lay_120 : decode cX16_lay 120 = .ok (.checkcast 62, 3) := dk_192 0 62 (dk_at dksX16_lay_5 3 rfl rfl)
theorem dX16_lay_123 : decode cX16_lay 123 = .ok (.invokevirtual 64, 3) := dk_182 0 64 (dk_at dksX16_lay_5 6 rfl rfl)
theorem dX16_lay_126 : decode cX16_lay 126 = .ok (.iinc 4 1, 3) := dk_132 4 1 (dk_at dksX16_lay_5 9 rfl rfl)
theorem dX16_lay_129 : decode cX16_lay 129 = .ok (.goto (-42), 3) := dk_167 255 214 (dk_at dksX16_lay_5 12 rfl rfl)
theorem dX16_lay_132 : decode cX16_lay 132 = .ok (.aload_n 0, 1) := dk_42 (dk_at dksX16_lay_5 15 rfl rfl)
theorem dX16_lay_133 : decode cX16_lay 133 = .ok (.getfield 3, 3) := dk_180 0 3 (dk_at dksX16_lay_5 16 rfl rfl)
theorem dX16_lay_136 : decode cX16_lay 136 = .ok (.aload_n 0, 1) := dk_42 (dk_at dksX16_lay_5 19 rfl rfl)
theorem dX16_lay_137 : decode cX16_lay 137 = .ok (.getfield 3, 3) := dk_180 0 3 (dk_at dksX16_lay_5 20 rfl rfl)
theorem dX16_lay_140 : decode cX16_lay 140 = .ok (.getfield 68, 3) := dk_180 0 68 (dk_at dksX16_lay_6 0 rfl rfl)
theorem dX16_lay_143 : decode cX16_lay 143 = .ok (.invokevirtual 84, 3) := dk_182 0 84 (dk_at dksX16_lay_6 3 rfl rfl)
theorem dX16_lay_146 : decode cX16_lay 146 = .ok (.istore_n 2, 1) := dk_61 (dk_at dksX16_lay_6 6 rfl rfl)
theorem dX16_lay_147 : decode cX16_lay 147 = .ok (.aload_n 0, 1) := dk_42 (dk_at dksX16_lay_6 7 rfl rfl)
theorem dX16_lay_148 : decode cX16_lay 148 = .ok (.getfield 18, 3) := dk_180 0 18 (dk_at dksX16_lay_6 8 rfl rfl)
theorem dX16_lay_151 : decode cX16_lay 151 = .ok (.iload_n 2, 1) := dk_28 (dk_at dksX16_lay_6 11 rfl rfl)
theorem dX16_lay_152 : decode cX16_lay 152 = .ok (.invokestatic 88, 3) := dk_184 0 88 (dk_at dksX16_lay_6 12 rfl rfl)
theorem dX16_lay_155 : decode cX16_lay 155 = .ok (.invokevirtual 94, 3) := dk_182 0 94 (dk_at dksX16_lay_6 15 rfl rfl)
theorem dX16_lay_158 : decode cX16_lay 158 = .ok (.ifCond .ne 15, 3) := dk_154 0 15 (dk_at dksX16_lay_6 18 rfl rfl)
theorem dX16_lay_161 : decode cX16_lay 161 = .ok (.aload_n 0, 1) := dk_42 (dk_at dksX16_lay_6 21 rfl rfl)
theorem dX16_lay_162 : decode cX16_lay 162 = .ok (.getfield 18, 3) := dk_180 0 18 (dk_at dksX16_lay_7 0 rfl rfl)
theorem dX16_lay_165 : decode cX16_lay 165 = .ok (.iload_n 2, 1) := dk_28 (dk_at dksX16_lay_7 3 rfl rfl)
theorem dX16_lay_166 : decode cX16_lay 166 = .ok (.invokestatic 88, 3) := dk_184 0 88 (dk_at dksX16_lay_7 4 rfl rfl)
theorem dX16_lay_169 : decode cX16_lay 169 = .ok (.invokevirtual 98, 3) := dk_182 0 98 (dk_at dksX16_lay_7 7 rfl rfl)
theorem dX16_lay_172 : decode cX16_lay 172 = .ok (.pop, 1) := dk_87 (dk_at dksX16_lay_7 10 rfl rfl)
theorem dX16_lay_173 : decode cX16_lay 173 = .ok (.return_, 1) := dk_177 (dk_at dksX16_lay_7 11 rfl rfl)
theorem q165 : (Jvm.Cond.fieldLinkNest "Plugboard$Orders" (71 : Nat) "Plugboard$Fields" "values" "[I" "Plugboard") ∈ lw_tbl := lw_at lw_m1 95 rfl
theorem q172 : (Jvm.Cond.fieldLinkNest "Plugboard$Orders" (80 : Nat) "Plugboard$Fields" "writers" "[LPlugboard$Operation;" "Plugboard") ∈ lw_tbl := lw_at lw_m1 102 rfl
theorem q244 : (Jvm.Cond.fieldLinkNest "Plugboard$Orders" (68 : Nat) "Plugboard" "trial" "LPlugboard$Fields;" "Plugboard") ∈ lw_tbl := lw_at lw_m1 174 rfl
theorem q869 : (Jvm.Cond.native ({ cls := "java/lang/Object", name := "clone", desc := "()Ljava/lang/Object;" } : Jvm.MethodName)) ∈ lw_all := lw_g (lw_at lw_m4 79 rfl) rfl
theorem q870 : (Jvm.Cond.instanceMethod ({ cls := "java/lang/Object", name := "clone", desc := "()Ljava/lang/Object;" } : Jvm.MethodName)) ∈ lw_all := lw_g (lw_at lw_m4 80 rfl) rfl
theorem q1710 : (Jvm.Cond.methodLink "Plugboard$Orders" (75 : Nat) ({ cls := "[I", name := "clone", desc := "()Ljava/lang/Object;" } : Jvm.MethodName)) ∈ lw_all := lw_g (lw_at lw_m7 200 rfl) rfl
theorem q1711 : (Jvm.Cond.sameMethod "[I" "java/lang/Object" "clone" "()Ljava/lang/Object;") ∈ lw_all := lw_g (lw_at lw_m7 201 rfl) rfl
theorem q1712 : (Jvm.Cond.selects "[I" ({ cls := "[I", name := "clone", desc := "()Ljava/lang/Object;" } : Jvm.MethodName) ({ cls := "java/lang/Object", name := "clone", desc := "()Ljava/lang/Object;" } : Jvm.MethodName)) ∈ lw_all := lw_g (lw_at lw_m7 202 rfl) rfl
theorem q1713 : (Jvm.Cond.castable "[I" "java/lang/Cloneable") ∈ lw_tbl := lw_at lw_m7 203 rfl
theorem q1714 : (Jvm.Cond.classLink "Plugboard$Orders" (76 : Nat) "[I") ∈ lw_all := lw_g (lw_at lw_m7 204 rfl) rfl
theorem q1715 : (Jvm.Cond.methodLinkNest "Plugboard$Orders" (84 : Nat) ({ cls := "Plugboard", name := "outcomeOf", desc := "(LPlugboard$Fields;)I" } : Jvm.MethodName) "Plugboard") ∈ lw_tbl := lw_at lw_m7 205 rfl
theorem q1716 : (Jvm.Cond.methodLink "Plugboard$Orders" (88 : Nat) ({ cls := "java/lang/Integer", name := "valueOf", desc := "(I)Ljava/lang/Integer;" } : Jvm.MethodName)) ∈ lw_all := lw_g (lw_at lw_m7 206 rfl) rfl
theorem q1717 : (Jvm.Cond.static ({ cls := "java/lang/Integer", name := "valueOf", desc := "(I)Ljava/lang/Integer;" } : Jvm.MethodName)) ∈ lw_all := lw_g (lw_at lw_m7 207 rfl) rfl
theorem q1718 : (Jvm.Cond.code ({ cls := "java/lang/Integer", name := "valueOf", desc := "(I)Ljava/lang/Integer;" } : Jvm.MethodName) prog_35_method_22_code (1 : Nat) (Option.some (Jvm.ClassFile.FieldType.object "java/lang/Integer"))) ∈ lw_all := lw_g (lw_at lw_m7 208 rfl) rfl
theorem q1736 : (Jvm.Cond.methodLink "Plugboard$Orders" (94 : Nat) ({ cls := "java/util/ArrayList", name := "contains", desc := "(Ljava/lang/Object;)Z" } : Jvm.MethodName)) ∈ lw_all := lw_g (lw_at lw_m7 226 rfl) rfl
theorem q1737 : (Jvm.Cond.instanceMethod ({ cls := "java/util/ArrayList", name := "contains", desc := "(Ljava/lang/Object;)Z" } : Jvm.MethodName)) ∈ lw_all := lw_g (lw_at lw_m7 227 rfl) rfl
theorem q1738 : (Jvm.Cond.selects "java/util/ArrayList" ({ cls := "java/util/ArrayList", name := "contains", desc := "(Ljava/lang/Object;)Z" } : Jvm.MethodName) ({ cls := "java/util/ArrayList", name := "contains", desc := "(Ljava/lang/Object;)Z" } : Jvm.MethodName)) ∈ lw_all := lw_g (lw_at lw_m7 228 rfl) rfl
theorem q1739 : (Jvm.Cond.code ({ cls := "java/util/ArrayList", name := "contains", desc := "(Ljava/lang/Object;)Z" } : Jvm.MethodName) prog_54_method_10_code (2 : Nat) (Option.some Jvm.ClassFile.FieldType.boolean)) ∈ lw_all := lw_g (lw_at lw_m7 229 rfl) rfl
theorem q1797 : (Jvm.Cond.methodLink "Plugboard$Orders" (98 : Nat) ({ cls := "java/util/ArrayList", name := "add", desc := "(Ljava/lang/Object;)Z" } : Jvm.MethodName)) ∈ lw_all := lw_g (lw_at lw_m8 47 rfl) rfl
abbrev rm_X16_lay : Room := { frames := 8, cells := 10, slots := 204, locals := 3125 }
def w_X16_lay_87 (P : AH → Prop) (x0 : Option Nat) (x2 : Option Nat) (x3 : Int32) (x4 : Int32) (h : AH) : Prop :=
  ∀ Z87 : Int32 → AH → Prop, (∀ x4 h, (
      ((x3 ≤ x4 →
        g_q h x0 14 4 fun y133 =>
        g_q h x0 14 4 fun y137 =>
        g_q h y137 0 3 fun y140 =>
        is_c h y133 [0] (
        w_X1_outcomeOf y133 y140 h (fun y143 h143 =>
        g_q h143 x0 14 3 fun y148 =>
        w_J23_valueOf y143 h143 (fun y152 h152 =>
        is_c h152 y148 [15] (
        w_J2_contains y148 y152 h152 (fun y155 h155 =>
        ((y155 = 0 →
          g_q h155 x0 14 3 fun y162 =>
          w_J23_valueOf y143 h155 (fun y166 h166 =>
          is_c h166 y162 [15] (
          w_J2_add y162 y166 h166 (fun y169 h169 =>
          P h169)))) ∧
         (¬ y155 = 0 →
          P h155)))))))) ∧
       (¬ x3 ≤ x4 →
        l_i h x2 3 x4 fun y96 =>
        g_q h x0 14 4 fun y100 =>
        g_q h y100 0 3 fun y103 =>
        g_q h x0 14 0 fun y107 =>
        g_i h x0 14 1 fun y111 =>
        is_c h y107 [3] (
        w_X4_at y107 (y111 + y96) h (fun y117 h117 =>
        is_c h117 y117 [9] (
        is_c h117 y103 [1] (
        w_X2_write y103 y117 h117 (fun h123 =>
        Z87 (x4 + 1) h123))))))))
      → Z87 x4 h) → Z87 x4 h
def w_X16_lay_40 (P : AH → Prop) (x0 : Option Nat) (x2 : Int32) (h : AH) : Prop :=
  ∀ Z40 : Int32 → AH → Prop, (∀ x2 h, (
      ((93 ≤ x2 →
        g_q h x0 14 2 fun y77 =>
        n_a h y77 fun y82 =>
        w_X16_lay_87 P x0 y77 y82 0 h) ∧
       (¬ 93 ≤ x2 →
        g_q h x0 14 4 fun y47 =>
        g_q h y47 0 3 fun y50 =>
        g_q h y50 1 2 fun y53 =>
        g_q h x0 14 4 fun y58 =>
        g_q h y58 0 4 fun y61 =>
        g_q h y61 1 2 fun y64 =>
        l_q h y64 x2 fun y68 =>
        s_q h y53 10 x2 y68 fun h69 =>
        Z40 (x2 + 1) h69)))
      → Z40 x2 h) → Z40 x2 h
def w_X16_lay (a0 : Option Nat) (h : AH) (P : AH → Prop) : Prop :=
  g_q h a0 14 4 fun y1 =>
  g_q h y1 0 3 fun y4 =>
  is_c h y4 [1] (
  w_X2_clear y4 h (fun h7 =>
  g_q h7 a0 14 4 fun y11 =>
  g_q h7 y11 0 4 fun y14 =>
  g_q h7 y14 1 0 fun y17 =>
  mk_c h7 y17 128 fun q20 h20 =>
  is_a h20 (some q20) 0 (
  g_q h20 a0 14 4 fun y28 =>
  g_q h20 y28 0 3 fun y31 =>
  p_v h20 y31 1 0 (vR (some q20)) fun h35 =>
  w_X16_lay_40 P a0 0 h35)))
theorem wk_X16_lay_87 {x : CX} (X : Ok x cX16_lay RX16 rm_X16_lay 6) (er : xrt x = (Option.none : Option Jvm.ClassFile.FieldType)) (en : xnm x = yX16_lay.name) {P : AH → Prop} (hQ : xr_v x P) (x0 : Option Nat) (x2 : Option Nat) (x3 : Int32) (x4 : Int32) (h : AH) (hw : w_X16_lay_87 P x0 x2 x3 x4 h) : J x h 1 128 87 [(0, vR x0), (2, vR x2), (3, vI x3), (4, vI x4)] [] := by
  refine hw (fun x4 h => J x h 1 128 87 [(0, vR x0), (2, vR x2), (3, vI x3), (4, vI x4)] []) (fun x4 h hw => ?_)
  refine j_iload X (pc := 87) 3 dX16_lay_87 rfl ?_
  refine j_iload_n X (pc := 89) 2 dX16_lay_89 rfl rfl ?_
  refine j_icmp_ge X (pc := 90) 132 dX16_lay_90 (by decide) hw (fun hw => ?_) (fun hw => ?_)
  · refine j_aload_n X (pc := 132) 0 dX16_lay_132 rfl rfl ?_
    refine j_getq (ci := 14) X (pc := 133) in_X16 rfl (by decide) 4 (by decide) q1689 (Or.inl rfl) dX16_lay_133 hw (fun y133 hw => ?_)
    refine j_aload_n X (pc := 136) 0 dX16_lay_136 rfl rfl ?_
    refine j_getq (ci := 14) X (pc := 137) in_X16 rfl (by decide) 4 (by decide) q1689 (Or.inl rfl) dX16_lay_137 hw (fun y137 hw => ?_)
    refine j_getqN (ci := 0) X (pc := 140) in_X1 rfl (by decide) 3 (by decide) q244 (Or.inl rfl) dX16_lay_140 hw (fun y140 hw => ?_)
    obtain ⟨b9, c9, f9, hr9, ho9, hc9, hw⟩ := hw
    obtain rfl := List.mem_singleton.mp hc9
    refine j_calli (j_runVN (n8 := 1) (As := [vR y140]) (rest := []) X (pc := 143) hr9 (met_X1_outcomeOf (xl x) X.hl (xG x) h y133 y140 _ hw) ho9 (by decide) rfl q1715 q1661 qs30 q71 q1662 (by decide +kernel) dX16_lay_143 rfl ⟨Nat.le_of_ble_eq_true rfl, Nat.le_of_ble_eq_true rfl⟩ (Nat.le_of_ble_eq_true rfl) ⟨Nat.le_of_ble_eq_true rfl, Nat.le_of_ble_eq_true rfl⟩) (fun y143 h143 hw => ?_)
    refine j_istore_n X (pc := 146) [(2, vI y143), (0, vR x0), (3, vI x3), (4, vI x4)] dX16_lay_146 rfl (Nat.le_of_ble_eq_true rfl) rfl ?_
    refine j_aload_n X (pc := 147) 1 dX16_lay_147 rfl rfl ?_
    refine j_getq (ci := 14) X (pc := 148) in_X16 rfl (by decide) 3 (by decide) q1687 (Or.inl rfl) dX16_lay_148 hw (fun y148 hw => ?_)
    refine j_iload_n X (pc := 151) 0 dX16_lay_151 rfl rfl ?_
    refine j_callq (j_runS (n8 := 1) (As := [vI y143]) (rest := [vR y148]) X (pc := 152) (met_J23_valueOf (xl x) X.hl (xG x) h143 y143 _ hw) q1716 q1717 q108 q1718 (by decide +kernel) dX16_lay_152 rfl ⟨Nat.le_of_ble_eq_true rfl, Nat.le_of_ble_eq_true rfl⟩ (Nat.le_of_ble_eq_true rfl) ⟨Nat.le_of_ble_eq_true rfl, Nat.le_of_ble_eq_true rfl⟩) (fun y152 h152 hw => ?_)
    obtain ⟨b9, c9, f9, hr9, ho9, hc9, hw⟩ := hw
    obtain rfl := List.mem_singleton.mp hc9
    refine j_calli (j_runV (n8 := 1) (As := [vR y152]) (rest := []) X (pc := 155) hr9 (met_J2_contains (xl x) X.hl (xG x) h152 y148 y152 _ hw) ho9 (by decide) rfl q1736 q1737 q1738 q74 q1739 (by decide +kernel) dX16_lay_155 rfl ⟨Nat.le_of_ble_eq_true rfl, Nat.le_of_ble_eq_true rfl⟩ (Nat.le_of_ble_eq_true rfl) ⟨Nat.le_of_ble_eq_true rfl, Nat.le_of_ble_eq_true rfl⟩) (fun y155 h155 hw => ?_)
    refine j_if_ne X (pc := 158) 173 dX16_lay_158 (by decide) hw (fun hw => ?_) (fun hw => ?_)
    · refine j_aload_n X (pc := 161) 1 dX16_lay_161 rfl rfl ?_
      refine j_getq (ci := 14) X (pc := 162) in_X16 rfl (by decide) 3 (by decide) q1687 (Or.inl rfl) dX16_lay_162 hw (fun y162 hw => ?_)
      refine j_iload_n X (pc := 165) 0 dX16_lay_165 rfl rfl ?_
      refine j_callq (j_runS (n8 := 1) (As := [vI y143]) (rest := [vR y162]) X (pc := 166) (met_J23_valueOf (xl x) X.hl (xG x) h155 y143 _ hw) q1716 q1717 q108 q1718 (by decide +kernel) dX16_lay_166 rfl ⟨Nat.le_of_ble_eq_true rfl, Nat.le_of_ble_eq_true rfl⟩ (Nat.le_of_ble_eq_true rfl) ⟨Nat.le_of_ble_eq_true rfl, Nat.le_of_ble_eq_true rfl⟩) (fun y166 h166 hw => ?_)
      obtain ⟨b9, c9, f9, hr9, ho9, hc9, hw⟩ := hw
      obtain rfl := List.mem_singleton.mp hc9
      refine j_calli (j_runV (n8 := 1) (As := [vR y166]) (rest := []) X (pc := 169) hr9 (met_J2_add (xl x) X.hl (xG x) h166 y162 y166 _ hw) ho9 (by decide) rfl q1797 q603 q604 q74 q605 (by decide +kernel) dX16_lay_169 rfl ⟨Nat.le_of_ble_eq_true rfl, Nat.le_of_ble_eq_true rfl⟩ (Nat.le_of_ble_eq_true rfl) ⟨Nat.le_of_ble_eq_true rfl, Nat.le_of_ble_eq_true rfl⟩) (fun y169 h169 hw => ?_)
      refine j_pop X (pc := 172) dX16_lay_172 rfl ?_
      exact j_vret X (pc := 173) hQ er (Nat.le_of_ble_eq_true rfl) (Nat.le_of_ble_eq_true rfl) dX16_lay_173 hw
    · exact j_vret X (pc := 173) hQ er (Nat.le_of_ble_eq_true rfl) (Nat.le_of_ble_eq_true rfl) dX16_lay_173 hw
  · refine j_aload_n X (pc := 93) 1 dX16_lay_93 rfl rfl ?_
    refine j_iload X (pc := 94) 3 dX16_lay_94 rfl ?_
    refine j_sald X (pc := 96) 3 rfl dX16_lay_96 hw (fun y96 hw => ?_)
    refine j_istore X (pc := 97) [(5, vI y96), (0, vR x0), (2, vR x2), (3, vI x3), (4, vI x4)] dX16_lay_97 (Nat.le_of_ble_eq_true rfl) rfl ?_
    refine j_aload_n X (pc := 99) 1 dX16_lay_99 rfl rfl ?_
    refine j_getq (ci := 14) X (pc := 100) in_X16 rfl (by decide) 4 (by decide) q1689 (Or.inl rfl) dX16_lay_100 hw (fun y100 hw => ?_)
    refine j_getqN (ci := 0) X (pc := 103) in_X1 rfl (by decide) 3 (by decide) q244 (Or.inl rfl) dX16_lay_103 hw (fun y103 hw => ?_)
    refine j_aload_n X (pc := 106) 1 dX16_lay_106 rfl rfl ?_
    refine j_getq (ci := 14) X (pc := 107) in_X16 rfl (by decide) 0 (by decide) q1684 (Or.inl rfl) dX16_lay_107 hw (fun y107 hw => ?_)
    refine j_aload_n X (pc := 110) 1 dX16_lay_110 rfl rfl ?_
    refine j_geti (ci := 14) X (pc := 111) in_X16 rfl (by decide) 1 (by decide) q1685 (Or.inl rfl) dX16_lay_111 hw (fun y111 hw => ?_)
    refine j_iload X (pc := 114) 0 dX16_lay_114 rfl ?_
    refine j_iadd X (pc := 116) dX16_lay_116 ?_
    obtain ⟨b9, c9, f9, hr9, ho9, hc9, hw⟩ := hw
    obtain rfl := List.mem_singleton.mp hc9
    refine j_callq (j_runV (n8 := 1) (As := [vI (y111 + y96)]) (rest := [vR y103]) X (pc := 117) hr9 (met_X4_at (xl x) X.hl (xG x) h y107 (y111 + y96) _ hw) ho9 (by decide) rfl q1681 q762 q763 q77 q764 (by decide +kernel) dX16_lay_117 rfl ⟨Nat.le_of_ble_eq_true rfl, Nat.le_of_ble_eq_true rfl⟩ (Nat.le_of_ble_eq_true rfl) ⟨Nat.le_of_ble_eq_true rfl, Nat.le_of_ble_eq_true rfl⟩) (fun y117 h117 hw => ?_)
    refine j_chk X (pc := 120) (L := [9]) q1682 (by intro ci hci; obtain rfl := List.mem_singleton.mp hci; exact ⟨by decide, _, _, _, rfl, Or.inl rfl⟩) dX16_lay_120 hw (fun hw => ?_)
    obtain ⟨b9, c9, f9, hr9, ho9, hc9, hw⟩ := hw
    obtain rfl := List.mem_singleton.mp hc9
    refine j_callv (j_runV (n8 := 1) (As := [vR y117]) (rest := []) X (pc := 123) hr9 (met_X2_write (xl x) X.hl (xG x) h117 y103 y117 _ hw) ho9 (by decide) rfl q1683 q1061 q1062 q75 q1063 (by decide +kernel) dX16_lay_123 rfl ⟨Nat.le_of_ble_eq_true rfl, Nat.le_of_ble_eq_true rfl⟩ (Nat.le_of_ble_eq_true rfl) ⟨Nat.le_of_ble_eq_true rfl, Nat.le_of_ble_eq_true rfl⟩) (fun h123 hw => ?_)
    refine j_iinc X (pc := 126) 4 (x4 + 1) [(4, vI (x4 + 1)), (5, vI y96), (0, vR x0), (2, vR x2), (3, vI x3)] dX16_lay_126 rfl rfl (Nat.le_of_ble_eq_true rfl) rfl ?_
    refine j_goto X (pc := 129) 87 dX16_lay_129 (by decide) ?_
    refine j_lv [(0, vR x0), (2, vR x2), (3, vI x3), (4, vI (x4 + 1))] [2, 3, 4, 0] rfl ?_
    refine j_cs (u' := 1) (v' := 128) (Nat.le_of_ble_eq_true rfl) (Nat.le_of_ble_eq_true rfl) ?_
    exact hw
theorem wk_X16_lay_40 {x : CX} (X : Ok x cX16_lay RX16 rm_X16_lay 6) (er : xrt x = (Option.none : Option Jvm.ClassFile.FieldType)) (en : xnm x = yX16_lay.name) {P : AH → Prop} (hQ : xr_v x P) (x0 : Option Nat) (x2 : Int32) (h : AH) (hw : w_X16_lay_40 P x0 x2 h) : J x h 1 128 40 [(0, vR x0), (2, vI x2)] [] := by
  refine hw (fun x2 h => J x h 1 128 40 [(0, vR x0), (2, vI x2)] []) (fun x2 h hw => ?_)
  refine j_iload_n X (pc := 40) 1 dX16_lay_40 rfl rfl ?_
  refine j_bipush X (pc := 41) 93 dX16_lay_41 (by decide) ?_
  refine j_icmp_ge X (pc := 43) 76 dX16_lay_43 (by decide) hw (fun hw => ?_) (fun hw => ?_)
  · refine j_aload_n X (pc := 76) 0 dX16_lay_76 rfl rfl ?_
    refine j_getq (ci := 14) X (pc := 77) in_X16 rfl (by decide) 2 (by decide) q1686 (Or.inl rfl) dX16_lay_77 hw (fun y77 hw => ?_)
    refine j_astore_n X (pc := 80) [(2, vR y77), (0, vR x0)] dX16_lay_80 rfl (Nat.le_of_ble_eq_true rfl) rfl ?_
    refine j_aload_n X (pc := 81) 0 dX16_lay_81 rfl rfl ?_
    refine j_alen X (pc := 82) dX16_lay_82 hw (fun y82 hw => ?_)
    refine j_istore_n X (pc := 83) [(3, vI y82), (2, vR y77), (0, vR x0)] dX16_lay_83 rfl (Nat.le_of_ble_eq_true rfl) rfl ?_
    refine j_iconst X (pc := 84) 0 dX16_lay_84 (by decide) ?_
    refine j_istore X (pc := 85) [(4, vI 0), (3, vI y82), (2, vR y77), (0, vR x0)] dX16_lay_85 (Nat.le_of_ble_eq_true rfl) rfl ?_
    refine j_lv [(0, vR x0), (2, vR y77), (3, vI y82), (4, vI 0)] [3, 2, 1, 0] rfl ?_
    refine j_cs (u' := 1) (v' := 128) (Nat.le_of_ble_eq_true rfl) (Nat.le_of_ble_eq_true rfl) ?_
    exact wk_X16_lay_87 X er en hQ x0 y77 y82 0 h hw
  · refine j_aload_n X (pc := 46) 0 dX16_lay_46 rfl rfl ?_
    refine j_getq (ci := 14) X (pc := 47) in_X16 rfl (by decide) 4 (by decide) q1689 (Or.inl rfl) dX16_lay_47 hw (fun y47 hw => ?_)
    refine j_getqN (ci := 0) X (pc := 50) in_X1 rfl (by decide) 3 (by decide) q244 (Or.inl rfl) dX16_lay_50 hw (fun y50 hw => ?_)
    refine j_getqN (ci := 1) X (pc := 53) in_X2 rfl (by decide) 2 (by decide) q172 (Or.inl rfl) dX16_lay_53 hw (fun y53 hw => ?_)
    refine j_iload_n X (pc := 56) 1 dX16_lay_56 rfl rfl ?_
    refine j_aload_n X (pc := 57) 0 dX16_lay_57 rfl rfl ?_
    refine j_getq (ci := 14) X (pc := 58) in_X16 rfl (by decide) 4 (by decide) q1689 (Or.inl rfl) dX16_lay_58 hw (fun y58 hw => ?_)
    refine j_getqN (ci := 0) X (pc := 61) in_X1 rfl (by decide) 4 (by decide) q246 (Or.inl rfl) dX16_lay_61 hw (fun y61 hw => ?_)
    refine j_getqN (ci := 1) X (pc := 64) in_X2 rfl (by decide) 2 (by decide) q172 (Or.inl rfl) dX16_lay_64 hw (fun y64 hw => ?_)
    refine j_iload_n X (pc := 67) 1 dX16_lay_67 rfl rfl ?_
    refine j_aald X (pc := 68) dX16_lay_68 hw (fun y68 hw => ?_)
    refine j_aast X (pc := 69) 10 (Nat.le_of_ble_eq_true rfl) rfl dX16_lay_69 hw (fun h69 hw => ?_)
    refine j_iinc X (pc := 70) 1 (x2 + 1) [(2, vI (x2 + 1)), (0, vR x0)] dX16_lay_70 rfl rfl (Nat.le_of_ble_eq_true rfl) rfl ?_
    refine j_goto X (pc := 73) 40 dX16_lay_73 (by decide) ?_
    refine j_lv [(0, vR x0), (2, vI (x2 + 1))] [1, 0] rfl ?_
    refine j_cs (u' := 1) (v' := 128) (Nat.le_of_ble_eq_true rfl) (Nat.le_of_ble_eq_true rfl) ?_
    exact hw
theorem met_X16_lay (l : Launch) (hlt : l.stackTraces = false) (G : GG) (h : AH) (a0 : Option Nat) (P : AH → Prop) (hw : w_X16_lay a0 h P) : ct_v l yX16_lay (ws_ yX16_lay cX16_lay 6 (Option.none : Option Jvm.ClassFile.FieldType)) rm_X16_lay G h [vR a0] P := by
  refine j_startv hlt [(0, vR a0)] (plainFor_of_name (by decide)) rfl rfl (fun x X eG er en hQ => ?_)
  subst eG
  refine j_aload_n X (pc := 0) 0 dX16_lay_0 rfl rfl ?_
  refine j_getq (ci := 14) X (pc := 1) in_X16 rfl (by decide) 4 (by decide) q1689 (Or.inl rfl) dX16_lay_1 hw (fun y1 hw => ?_)
  refine j_getqN (ci := 0) X (pc := 4) in_X1 rfl (by decide) 3 (by decide) q244 (Or.inl rfl) dX16_lay_4 hw (fun y4 hw => ?_)
  obtain ⟨b9, c9, f9, hr9, ho9, hc9, hw⟩ := hw
  obtain rfl := List.mem_singleton.mp hc9
  refine j_callv (j_runV (n8 := 0) (As := []) (rest := []) X (pc := 7) hr9 (met_X2_clear (xl x) X.hl (xG x) h y4 _ hw) ho9 (by decide) rfl q1680 q203 q204 q75 q205 (by decide +kernel) dX16_lay_7 rfl ⟨Nat.le_of_ble_eq_true rfl, Nat.le_of_ble_eq_true rfl⟩ (Nat.le_of_ble_eq_true rfl) ⟨Nat.le_of_ble_eq_true rfl, Nat.le_of_ble_eq_true rfl⟩) (fun h7 hw => ?_)
  refine j_aload_n X (pc := 10) 0 dX16_lay_10 rfl rfl ?_
  refine j_getq (ci := 14) X (pc := 11) in_X16 rfl (by decide) 4 (by decide) q1689 (Or.inl rfl) dX16_lay_11 hw (fun y11 hw => ?_)
  refine j_getqN (ci := 0) X (pc := 14) in_X1 rfl (by decide) 4 (by decide) q246 (Or.inl rfl) dX16_lay_14 hw (fun y14 hw => ?_)
  refine j_getqN (ci := 1) X (pc := 17) in_X2 rfl (by decide) 0 (by decide) q165 (Or.inl rfl) dX16_lay_17 hw (fun y17 hw => ?_)
  refine j_clone X (pc := 20) 128 q1710 q1711 q869 q870 q1712 q1713 (fun U hU => nm_p (ty := .int) hU rfl) ⟨Nat.le_of_ble_eq_true rfl, Nat.le_of_ble_eq_true rfl⟩ (Nat.le_of_ble_eq_true rfl) (Nat.le_of_ble_eq_true rfl) dX16_lay_20 hw (fun q20 h20 hw => ?_)
  refine j_chkA X (pc := 23) 0 q1714 (by decide) (fun U hU => nm_p (ty := .int) hU rfl) dX16_lay_23 hw (fun hw => ?_)
  refine j_astore_n X (pc := 26) [(1, vR (some q20)), (0, vR a0)] dX16_lay_26 rfl (Nat.le_of_ble_eq_true rfl) rfl ?_
  refine j_aload_n X (pc := 27) 1 dX16_lay_27 rfl rfl ?_
  refine j_getq (ci := 14) X (pc := 28) in_X16 rfl (by decide) 4 (by decide) q1689 (Or.inl rfl) dX16_lay_28 hw (fun y28 hw => ?_)
  refine j_getqN (ci := 0) X (pc := 31) in_X1 rfl (by decide) 3 (by decide) q244 (Or.inl rfl) dX16_lay_31 hw (fun y31 hw => ?_)
  refine j_aload_n X (pc := 34) 0 dX16_lay_34 rfl rfl ?_
  refine j_putN (ci := 1) X (pc := 35) in_X2 rfl (by decide) 0 (by decide) q165 (Or.inl rfl) tyX2 tyX2_ok nmX2 rfl rfl (ty := (.array .int)) (tyX2_ok 0 (by decide)) (rt_nar _ rfl _) (rt_fit _ rfl _) dX16_lay_35 hw (fun h35 hw => ?_)
  refine j_iconst X (pc := 38) 0 dX16_lay_38 (by decide) ?_
  refine j_istore_n X (pc := 39) [(2, vI 0), (1, vR (some q20)), (0, vR a0)] dX16_lay_39 rfl (Nat.le_of_ble_eq_true rfl) rfl ?_
  refine j_lv [(0, vR a0), (2, vI 0)] [2, 0] rfl ?_
  refine j_cs (u' := 1) (v' := 128) (Nat.le_of_ble_eq_true rfl) (Nat.le_of_ble_eq_true rfl) ?_
  exact wk_X16_lay_40 X er en hQ a0 0 h35 hw
