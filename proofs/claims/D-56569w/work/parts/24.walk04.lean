/-! walks (printed): Plugboard, Plugboard.Board, Plugboard.Frame, Plugboard.Panel, PlugboardModel -/
set_option maxRecDepth 100000
abbrev cX5_plans : ByteArray := prog_19_method_24_code
def yX5_plans : MethodName := ⟨RX5, "plans", "(II)V"⟩
def dkwX5_plans_0 : List UInt8 := [42, 27, 28, 42, 180, 0, 108, 182, 0, 151, 177]
abbrev dktX5_plans_0 : List UInt8 := dkwX5_plans_0 ++ []
theorem dksX5_plans_0 : cX5_plans.data.toList.drop 0 = dktX5_plans_0 := by decide +kernel
theorem dX5_plans_0 : decode cX5_plans 0 = .ok (.aload_n 0, 1) := dk_42 (dk_at dksX5_plans_0 0 rfl rfl)
theorem dX5_plans_1 : decode cX5_plans 1 = .ok (.iload_n 1, 1) := dk_27 (dk_at dksX5_plans_0 1 rfl rfl)
theorem dX5_plans_2 : decode cX5_plans 2 = .ok (.iload_n 2, 1) := dk_28 (dk_at dksX5_plans_0 2 rfl rfl)
theorem dX5_plans_3 : decode cX5_plans 3 = .ok (.aload_n 0, 1) := dk_42 (dk_at dksX5_plans_0 3 rfl rfl)
theorem dX5_plans_4 : decode cX5_plans 4 = .ok (.getfield 108, 3) := dk_180 0 108 (dk_at dksX5_plans_0 4 rfl rfl)
theorem dX5_plans_7 : decode cX5_plans 7 = .ok (.invokevirtual 151, 3) := dk_182 0 151 (dk_at dksX5_plans_0 7 rfl rfl)
theorem dX5_plans_10 : decode cX5_plans 10 = .ok (.return_, 1) := dk_177 (dk_at dksX5_plans_0 10 rfl rfl)
theorem q2025 : (Jvm.Cond.methodLink "PlugboardModel" (151 : Nat) ({ cls := "PlugboardModel", name := "restores", desc := "(III)V" } : Jvm.MethodName)) ∈ lw_all := lw_g (lw_at lw_m9 35 rfl) rfl
theorem q2027 : (Jvm.Cond.instanceMethod ({ cls := "PlugboardModel", name := "restores", desc := "(III)V" } : Jvm.MethodName)) ∈ lw_all := lw_g (lw_at lw_m9 37 rfl) rfl
theorem q2028 : (Jvm.Cond.code ({ cls := "PlugboardModel", name := "restores", desc := "(III)V" } : Jvm.MethodName) prog_19_method_23_code (4 : Nat) (Option.none : Option Jvm.ClassFile.FieldType)) ∈ lw_all := lw_g (lw_at lw_m9 38 rfl) rfl
abbrev rm_X5_plans : Room := { frames := 1, cells := 0, slots := 0, locals := 23 }
def w_X5_plans (a0 : Option Nat) (a1 : Int32) (a2 : Int32) (h : AH) (P : AH → Prop) : Prop :=
  g_i h a0 4 20 fun y4 =>
  is_c h a0 [4] (
  w_X5_restores a0 a1 a2 y4 h (fun h7 =>
  P h7))
theorem met_X5_plans (l : Launch) (hlt : l.stackTraces = false) (G : GG) (h : AH) (a0 : Option Nat) (a1 : Int32) (a2 : Int32) (P : AH → Prop) (hw : w_X5_plans a0 a1 a2 h P) : ct_v l yX5_plans (ws_ yX5_plans cX5_plans 3 (Option.none : Option Jvm.ClassFile.FieldType)) rm_X5_plans G h [vR a0, vI a1, vI a2] P := by
  refine j_startv hlt [(0, vR a0), (1, vI a1), (2, vI a2)] (plainFor_of_name (by decide)) rfl rfl (fun x X eG er en hQ => ?_)
  subst eG
  refine j_aload_n X (pc := 0) 0 dX5_plans_0 rfl rfl ?_
  refine j_iload_n X (pc := 1) 1 dX5_plans_1 rfl rfl ?_
  refine j_iload_n X (pc := 2) 2 dX5_plans_2 rfl rfl ?_
  refine j_aload_n X (pc := 3) 0 dX5_plans_3 rfl rfl ?_
  refine j_geti (ci := 4) X (pc := 4) in_X5 rfl (by decide) 20 (by decide) q1892 (Or.inl rfl) dX5_plans_4 hw (fun y4 hw => ?_)
  obtain ⟨b9, c9, f9, hr9, ho9, hc9, hw⟩ := hw
  obtain rfl := List.mem_singleton.mp hc9
  refine j_callv (j_runV (n8 := 3) (As := [vI a1, vI a2, vI y4]) (rest := []) X (pc := 7) hr9 (met_X5_restores (xl x) X.hl (xG x) h a0 a1 a2 y4 _ hw) ho9 (by decide) rfl q2025 q2027 qs42 q78 q2028 (by decide +kernel) dX5_plans_7 rfl ⟨Nat.le_of_ble_eq_true rfl, Nat.le_of_ble_eq_true rfl⟩ (Nat.le_of_ble_eq_true rfl) ⟨Nat.le_of_ble_eq_true rfl, Nat.le_of_ble_eq_true rfl⟩) (fun h7 hw => ?_)
  exact j_vret X (pc := 10) hQ er (Nat.le_of_ble_eq_true rfl) (Nat.le_of_ble_eq_true rfl) dX5_plans_10 hw
abbrev cX5_makes : ByteArray := prog_19_method_25_code
def yX5_makes : MethodName := ⟨RX5, "makes", "(IZ)V"⟩
def dkwX5_makes_10 : List UInt8 := [96, 181, 0, 108, 42, 3, 181, 0, 148, 42, 27, 182, 0, 161, 177]
abbrev dktX5_makes_10 : List UInt8 := dkwX5_makes_10 ++ []
def dkwX5_makes_9 : List UInt8 := [180, 0, 73, 42, 180, 0, 76, 21, 4, 46, 46, 79, 132, 4, 1, 167, 255, 139, 42, 89, 180, 0, 108, 4]
abbrev dktX5_makes_9 : List UInt8 := dkwX5_makes_9 ++ dktX5_makes_10
def dkwX5_makes_8 : List UInt8 := [21, 4, 42, 180, 0, 82, 21, 4, 46, 79, 42, 180, 0, 56, 42, 180, 0, 108, 50, 21, 4, 42]
abbrev dktX5_makes_8 : List UInt8 := dkwX5_makes_8 ++ dktX5_makes_9
def dkwX5_makes_7 : List UInt8 := [21, 4, 42, 180, 0, 67, 42, 180, 0, 76, 21, 4, 46, 46, 79, 42, 180, 0, 53, 42, 180, 0, 108, 50]
abbrev dktX5_makes_7 : List UInt8 := dkwX5_makes_7 ++ dktX5_makes_8
def dkwX5_makes_6 : List UInt8 := [180, 0, 108, 50, 21, 4, 42, 180, 0, 79, 21, 4, 46, 79, 42, 180, 0, 50, 42, 180, 0, 108, 50]
abbrev dktX5_makes_6 : List UInt8 := dkwX5_makes_6 ++ dktX5_makes_7
def dkwX5_makes_5 : List UInt8 := [42, 180, 0, 44, 42, 180, 0, 108, 50, 21, 4, 42, 180, 0, 76, 21, 4, 46, 79, 42, 180, 0, 47, 42]
abbrev dktX5_makes_5 : List UInt8 := dkwX5_makes_5 ++ dktX5_makes_6
def dkwX5_makes_4 : List UInt8 := [42, 180, 0, 64, 27, 50, 42, 180, 0, 108, 4, 84, 3, 54, 4, 21, 4, 42, 180, 0, 148, 162, 0, 114]
abbrev dktX5_makes_4 : List UInt8 := dkwX5_makes_4 ++ dktX5_makes_5
def dkwX5_makes_3 : List UInt8 := [79, 42, 180, 0, 39, 42, 180, 0, 108, 42, 180, 0, 148, 79, 42, 180, 0, 59, 42, 180, 0, 108, 28, 84]
abbrev dktX5_makes_3 : List UInt8 := dkwX5_makes_3 ++ dktX5_makes_4
def dkwX5_makes_2 : List UInt8 := [167, 255, 216, 42, 180, 0, 33, 42, 180, 0, 108, 27, 79, 42, 180, 0, 36, 42, 180, 0, 108, 29, 4, 96]
abbrev dktX5_makes_2 : List UInt8 := dkwX5_makes_2 ++ dktX5_makes_3
def dkwX5_makes_1 : List UInt8 := [153, 0, 17, 29, 42, 180, 0, 36, 21, 4, 46, 184, 0, 155, 167, 0, 4, 29, 62, 132, 4, 1]
abbrev dktX5_makes_1 : List UInt8 := dkwX5_makes_1 ++ dktX5_makes_2
def dkwX5_makes_0 : List UInt8 := [3, 62, 3, 54, 4, 21, 4, 42, 180, 0, 108, 162, 0, 37, 42, 180, 0, 64, 27, 50, 21, 4, 51]
abbrev dktX5_makes_0 : List UInt8 := dkwX5_makes_0 ++ dktX5_makes_1
theorem dksX5_makes_0 : cX5_makes.data.toList.drop 0 = dktX5_makes_0 := by decide +kernel
theorem dksX5_makes_1 : cX5_makes.data.toList.drop 23 = dktX5_makes_1 := dk_seg dksX5_makes_0 23 rfl rfl
theorem dksX5_makes_2 : cX5_makes.data.toList.drop 45 = dktX5_makes_2 := dk_seg dksX5_makes_1 22 rfl rfl
theorem dksX5_makes_3 : cX5_makes.data.toList.drop 69 = dktX5_makes_3 := dk_seg dksX5_makes_2 24 rfl rfl
theorem dksX5_makes_4 : cX5_makes.data.toList.drop 93 = dktX5_makes_4 := dk_seg dksX5_makes_3 24 rfl rfl
theorem dksX5_makes_5 : cX5_makes.data.toList.drop 117 = dktX5_makes_5 := dk_seg dksX5_makes_4 24 rfl rfl
theorem dksX5_makes_6 : cX5_makes.data.toList.drop 141 = dktX5_makes_6 := dk_seg dksX5_makes_5 24 rfl rfl
theorem dksX5_makes_7 : cX5_makes.data.toList.drop 164 = dktX5_makes_7 := dk_seg dksX5_makes_6 23 rfl rfl
theorem dksX5_makes_8 : cX5_makes.data.toList.drop 188 = dktX5_makes_8 := dk_seg dksX5_makes_7 24 rfl rfl
theorem dksX5_makes_9 : cX5_makes.data.toList.drop 210 = dktX5_makes_9 := dk_seg dksX5_makes_8 22 rfl rfl
theorem dksX5_makes_10 : cX5_makes.data.toList.drop 234 = dktX5_makes_10 := dk_seg dksX5_makes_9 24 rfl rfl
theorem dX5_makes_0 : decode cX5_makes 0 = .ok (.iconst 0, 1) := dk_3 (dk_at dksX5_makes_0 0 rfl rfl)
theorem dX5_makes_1 : decode cX5_makes 1 = .ok (.istore_n 3, 1) := dk_62 (dk_at dksX5_makes_0 1 rfl rfl)
theorem dX5_makes_2 : decode cX5_makes 2 = .ok (.iconst 0, 1) := dk_3 (dk_at dksX5_makes_0 2 rfl rfl)
theorem dX5_makes_3 : decode cX5_makes 3 = .ok (.istore 4, 2) := dk_54 4 (dk_at dksX5_makes_0 3 rfl rfl)
theorem dX5_makes_5 : decode cX5_makes 5 = .ok (.iload 4, 2) := dk_21 4 (dk_at dksX5_makes_0 5 rfl rfl)
theorem dX5_makes_7 : decode cX5_makes 7 = .ok (.aload_n 0, 1) := dk_42 (dk_at dksX5_makes_0 7 rfl rfl)
theorem dX5_makes_8 : decode cX5_makes 8 = .ok (.getfield 108, 3) := dk_180 0 108 (dk_at dksX5_makes_0 8 rfl rfl)
theorem dX5_makes_11 : decode cX5_makes 11 = .ok (.if_icmp .ge 37, 3) := dk_162 0 37 (dk_at dksX5_makes_0 11 rfl rfl)
theorem dX5_makes_14 : decode cX5_makes 14 = .ok (.aload_n 0, 1) := dk_42 (dk_at dksX5_makes_0 14 rfl rfl)
theorem dX5_makes_15 : decode cX5_makes 15 = .ok (.getfield 64, 3) := dk_180 0 64 (dk_at dksX5_makes_0 15 rfl rfl)
theorem dX5_makes_18 : decode cX5_makes 18 = .ok (.iload_n 1, 1) := dk_27 (dk_at dksX5_makes_0 18 rfl rfl)
theorem dX5_makes_19 : decode cX5_makes 19 = .ok (.aaload, 1) := dk_50 (dk_at dksX5_makes_0 19 rfl rfl)
theorem dX5_makes_20 : decode cX5_makes 20 = .ok (.iload 4, 2) := dk_21 4 (dk_at dksX5_makes_0 20 rfl rfl)
theorem dX5_makes_22 : decode cX5_makes 22 = .ok (.baload, 1) := dk_51 (dk_at dksX5_makes_0 22 rfl rfl)
theorem dX5_makes_23 : decode cX5_makes 23 = .ok (.ifCond .eq 17, 3) := dk_153 0 17 (dk_at dksX5_makes_1 0 rfl rfl)
theorem dX5_makes_26 : decode cX5_makes 26 = .ok (.iload_n 3, 1) := dk_29 (dk_at dksX5_makes_1 3 rfl rfl)
theorem dX5_makes_27 : decode cX5_makes 27 = .ok (.aload_n 0, 1) := dk_42 (dk_at dksX5_makes_1 4 rfl rfl)
theorem dX5_makes_28 : decode cX5_makes 28 = .ok (.getfield 36, 3) := dk_180 0 36 (dk_at dksX5_makes_1 5 rfl rfl)
theorem dX5_makes_31 : decode cX5_makes 31 = .ok (.iload 4, 2) := dk_21 4 (dk_at dksX5_makes_1 8 rfl rfl)
theorem dX5_makes_33 : decode cX5_makes 33 = .ok (.iaload, 1) := dk_46 (dk_at dksX5_makes_1 10 rfl rfl)
theorem dX5_makes_34 : decode cX5_makes 34 = .ok (.invokestatic 155, 3) := dk_184 0 155 (dk_at dksX5_makes_1 11 rfl rfl)
theorem dX5_makes_37 : decode cX5_makes 37 = .ok (.goto 4, 3) := dk_167 0 4 (dk_at dksX5_makes_1 14 rfl rfl)
theorem dX5_makes_40 : decode cX5_makes 40 = .ok (.iload_n 3, 1) := dk_29 (dk_at dksX5_makes_1 17 rfl rfl)
theorem dX5_makes_41 : decode cX5_makes 41 = .ok (.istore_n 3, 1) := dk_62 (dk_at dksX5_makes_1 18 rfl rfl)
theorem dX5_makes_42 : decode cX5_makes 42 = .ok (.iinc 4 1, 3) := dk_132 4 1 (dk_at dksX5_makes_1 19 rfl rfl)
theorem dX5_makes_45 : decode cX5_makes 45 = .ok (.goto (-40), 3) := dk_167 255 216 (dk_at dksX5_makes_2 0 rfl rfl)
theorem dX5_makes_48 : decode cX5_makes 48 = .ok (.aload_n 0, 1) := dk_42 (dk_at dksX5_makes_2 3 rfl rfl)
theorem dX5_makes_49 : decode cX5_makes 49 = .ok (.getfield 33, 3) := dk_180 0 33 (dk_at dksX5_makes_2 4 rfl rfl)
theorem dX5_makes_52 : decode cX5_makes 52 = .ok (.aload_n 0, 1) := dk_42 (dk_at dksX5_makes_2 7 rfl rfl)
theorem dX5_makes_53 : decode cX5_makes 53 = .ok (.getfield 108, 3) := dk_180 0 108 (dk_at dksX5_makes_2 8 rfl rfl)
theorem dX5_makes_56 : decode cX5_makes 56 = .ok (.iload_n 1, 1) := dk_27 (dk_at dksX5_makes_2 11 rfl rfl)
theorem dX5_makes_57 : decode cX5_makes 57 = .ok (.iastore, 1) := dk_79 (dk_at dksX5_makes_2 12 rfl rfl)
theorem dX5_makes_58 : decode cX5_makes 58 = .ok (.aload_n 0, 1) := dk_42 (dk_at dksX5_makes_2 13 rfl rfl)
theorem dX5_makes_59 : decode cX5_makes 59 = .ok (.getfield 36, 3) := dk_180 0 36 (dk_at dksX5_makes_2 14 rfl rfl)
theorem dX5_makes_62 : decode cX5_makes 62 = .ok (.aload_n 0, 1) := dk_42 (dk_at dksX5_makes_2 17 rfl rfl)
theorem dX5_makes_63 : decode cX5_makes 63 = .ok (.getfield 108, 3) := dk_180 0 108 (dk_at dksX5_makes_2 18 rfl rfl)
theorem dX5_makes_66 : decode cX5_makes 66 = .ok (.iload_n 3, 1) := dk_29 (dk_at dksX5_makes_2 21 rfl rfl)
theorem dX5_makes_67 : decode cX5_makes 67 = .ok (.iconst 1, 1) := dk_4 (dk_at dksX5_makes_2 22 rfl rfl)
theorem dX5_makes_68 : decode cX5_makes 68 = .ok (.iadd, 1) := dk_96 (dk_at dksX5_makes_2 23 rfl rfl)
theorem dX5_makes_69 : decode cX5_makes 69 = .ok (.iastore, 1) := dk_79 (dk_at dksX5_makes_3 0 rfl rfl)
theorem dX5_makes_70 : decode cX5_makes 70 = .ok (.aload_n 0, 1) := dk_42 (dk_at dksX5_makes_3 1 rfl rfl)
theorem dX5_makes_71 : decode cX5_makes 71 = .ok (.getfield 39, 3) := dk_180 0 39 (dk_at dksX5_makes_3 2 rfl rfl)
theorem dX5_makes_74 : decode cX5_makes 74 = .ok (.aload_n 0, 1) := dk_42 (dk_at dksX5_makes_3 5 rfl rfl)
theorem dX5_makes_75 : decode cX5_makes 75 = .ok (.getfield 108, 3) := dk_180 0 108 (dk_at dksX5_makes_3 6 rfl rfl)
theorem dX5_makes_78 : decode cX5_makes 78 = .ok (.aload_n 0, 1) := dk_42 (dk_at dksX5_makes_3 9 rfl rfl)
theorem dX5_makes_79 : decode cX5_makes 79 = .ok (.getfield 148, 3) := dk_180 0 148 (dk_at dksX5_makes_3 10 rfl rfl)
theorem dX5_makes_82 : decode cX5_makes 82 = .ok (.iastore, 1) := dk_79 (dk_at dksX5_makes_3 13 rfl rfl)
theorem dX5_makes_83 : decode cX5_makes 83 = .ok (.aload_n 0, 1) := dk_42 (dk_at dksX5_makes_3 14 rfl rfl)
theorem dX5_makes_84 : decode cX5_makes 84 = .ok (.getfield 59, 3) := dk_180 0 59 (dk_at dksX5_makes_3 15 rfl rfl)
theorem dX5_makes_87 : decode cX5_makes 87 = .ok (.aload_n 0, 1) := dk_42 (dk_at dksX5_makes_3 18 rfl rfl)
theorem dX5_makes_88 : decode cX5_makes 88 = .ok (.getfield 108, 3) := dk_180 0 108 (dk_at dksX5_makes_3 19 rfl rfl)
theorem dX5_makes_91 : decode cX5_makes 91 = .ok (.iload_n 2, 1) := dk_28 (dk_at dksX5_makes_3 22 rfl rfl)
theorem dX5_makes_92 : decode cX5_makes 92 = .ok (.bastore, 1) := dk_84 (dk_at dksX5_makes_3 23 rfl rfl)
theorem dX5_makes_93 : decode cX5_makes 93 = .ok (.aload_n 0, 1) := dk_42 (dk_at dksX5_makes_4 0 rfl rfl)
theorem dX5_makes_94 : decode cX5_makes 94 = .ok (.getfield 64, 3) := dk_180 0 64 (dk_at dksX5_makes_4 1 rfl rfl)
theorem dX5_makes_97 : decode cX5_makes 97 = .ok (.iload_n 1, 1) := dk_27 (dk_at dksX5_makes_4 4 rfl rfl)
theorem dX5_makes_98 : decode cX5_makes 98 = .ok (.aaload, 1) := dk_50 (dk_at dksX5_makes_4 5 rfl rfl)
theorem dX5_makes_99 : decode cX5_makes 99 = .ok (.aload_n 0, 1) := dk_42 (dk_at dksX5_makes_4 6 rfl rfl)
theorem dX5_makes_100 : decode cX5_makes 100 = .ok (.getfield 108, 3) := dk_180 0 108 (dk_at dksX5_makes_4 7 rfl rfl)
theorem dX5_makes_103 : decode cX5_makes 103 = .ok (.iconst 1, 1) := dk_4 (dk_at dksX5_makes_4 10 rfl rfl)
theorem dX5_makes_104 : decode cX5_makes 104 = .ok (.bastore, 1) := dk_84 (dk_at dksX5_makes_4 11 rfl rfl)
theorem dX5_makes_105 : decode cX5_makes 105 = .ok (.iconst 0, 1) := dk_3 (dk_at dksX5_makes_4 12 rfl rfl)
theorem dX5_makes_106 : decode cX5_makes 106 = .ok (.istore 4, 2) := dk_54 4 (dk_at dksX5_makes_4 13 rfl rfl)
theorem dX5_makes_108 : decode cX5_makes 108 = .ok (.iload 4, 2) := dk_21 4 (dk_at dksX5_makes_4 15 rfl rfl)
theorem dX5_makes_110 : decode cX5_makes 110 = .ok (.aload_n 0, 1) := dk_42 (dk_at dksX5_makes_4 17 rfl rfl)
theorem dX5_makes_111 : decode cX5_makes 111 = .ok (.getfield 148, 3) := dk_180 0 148 (dk_at dksX5_makes_4 18 rfl rfl)
theorem dX5_makes_114 : decode cX5_makes 114 = .ok (.if_icmp .ge 114, 3) := dk_162 0 114 (dk_at dksX5_makes_4 21 rfl rfl)
theorem dX5_makes_117 : decode cX5_makes 117 = .ok (.aload_n 0, 1) := dk_42 (dk_at dksX5_makes_5 0 rfl rfl)
theorem dX5_makes_118 : decode cX5_makes 118 = .ok (.getfield 44, 3) := dk_180 0 44 (dk_at dksX5_makes_5 1 rfl rfl)
theorem dX5_makes_121 : decode cX5_makes 121 = .ok (.aload_n 0, 1) := dk_42 (dk_at dksX5_makes_5 4 rfl rfl)
theorem dX5_makes_122 : decode cX5_makes 122 = .ok (.getfield 108, 3) := dk_180 0 108 (dk_at dksX5_makes_5 5 rfl rfl)
theorem dX5_makes_125 : decode cX5_makes 125 = .ok (.aaload, 1) := dk_50 (dk_at dksX5_makes_5 8 rfl rfl)
theorem dX5_makes_126 : decode cX5_makes 126 = .ok (.iload 4, 2) := dk_21 4 (dk_at dksX5_makes_5 9 rfl rfl)
theorem dX5_makes_128 : decode cX5_makes 128 = .ok (.aload_n 0, 1) := dk_42 (dk_at dksX5_makes_5 11 rfl rfl)
theorem dX5_makes_129 : decode cX5_makes 129 = .ok (.getfield 76, 3) := dk_180 0 76 (dk_at dksX5_makes_5 12 rfl rfl)
theorem dX5_makes_132 : decode cX5_makes 132 = .ok (.iload 4, 2) := dk_21 4 (dk_at dksX5_makes_5 15 rfl rfl)
theorem dX5_makes_134 : decode cX5_makes 134 = .ok (.iaload, 1) := dk_46 (dk_at dksX5_makes_5 17 rfl rfl)
theorem dX5_makes_135 : decode cX5_makes 135 = .ok (.iastore, 1) := dk_79 (dk_at dksX5_makes_5 18 rfl rfl)
theorem dX5_makes_136 : decode cX5_makes 136 = .ok (.aload_n 0, 1) := dk_42 (dk_at dksX5_makes_5 19 rfl rfl)
theorem dX5_makes_137 : decode cX5_makes 137 = .ok (.getfield 47, 3) := dk_180 0 47 (dk_at dksX5_makes_5 20 rfl rfl)
theorem dX5_makes_140 : decode cX5_makes 140 = .ok (.aload_n 0, 1) := dk_42 (dk_at dksX5_makes_5 23 rfl rfl)
theorem dX5_makes_141 : decode cX5_makes 141 = .ok (.getfield 108, 3) := dk_180 0 108 (dk_at dksX5_makes_6 0 rfl rfl)
theorem dX5_makes_144 : decode cX5_makes 144 = .ok (.aaload, 1) := dk_50 (dk_at dksX5_makes_6 3 rfl rfl)
theorem dX5_makes_145 : decode cX5_makes 145 = .ok (.iload 4, 2) := dk_21 4 (dk_at dksX5_makes_6 4 rfl rfl)
theorem dX5_makes_147 : decode cX5_makes 147 = .ok (.aload_n 0, 1) := dk_42 (dk_at dksX5_makes_6 6 rfl rfl)
theorem dX5_makes_148 : decode cX5_makes 148 = .ok (.getfield 79, 3) := dk_180 0 79 (dk_at dksX5_makes_6 7 rfl rfl)
theorem dX5_makes_151 : decode cX5_makes 151 = .ok (.iload 4, 2) := dk_21 4 (dk_at dksX5_makes_6 10 rfl rfl)
theorem dX5_makes_153 : decode cX5_makes 153 = .ok (.iaload, 1) := dk_46 (dk_at dksX5_makes_6 12 rfl rfl)
theorem dX5_makes_154 : decode cX5_makes 154 = .ok (.iastore, 1) := dk_79 (dk_at dksX5_makes_6 13 rfl rfl)
theorem dX5_makes_155 : decode cX5_makes 155 = .ok (.aload_n 0, 1) := dk_42 (dk_at dksX5_makes_6 14 rfl rfl)
theorem dX5_makes_156 : decode cX5_makes 156 = .ok (.getfield 50, 3) := dk_180 0 50 (dk_at dksX5_makes_6 15 rfl rfl)
theorem dX5_makes_159 : decode cX5_makes 159 = .ok (.aload_n 0, 1) := dk_42 (dk_at dksX5_makes_6 18 rfl rfl)
theorem dX5_makes_160 : decode cX5_makes 160 = .ok (.getfield 108, 3) := dk_180 0 108 (dk_at dksX5_makes_6 19 rfl rfl)
theorem dX5_makes_163 : decode cX5_makes 163 = .ok (.aaload, 1) := dk_50 (dk_at dksX5_makes_6 22 rfl rfl)
theorem dX5_makes_164 : decode cX5_makes 164 = .ok (.iload 4, 2) := dk_21 4 (dk_at dksX5_makes_7 0 rfl rfl)
theorem dX5_makes_166 : decode cX5_makes 166 = .ok (.aload_n 0, 1) := dk_42 (dk_at dksX5_makes_7 2 rfl rfl)
theorem dX5_makes_167 : decode cX5_makes 167 = .ok (.getfield 67, 3) := dk_180 0 67 (dk_at dksX5_makes_7 3 rfl rfl)
theorem dX5_makes_170 : decode cX5_makes 170 = .ok (.aload_n 0, 1) := dk_42 (dk_at dksX5_makes_7 6 rfl rfl)
theorem dX5_makes_171 : decode cX5_makes 171 = .ok (.getfield 76, 3) := dk_180 0 76 (dk_at dksX5_makes_7 7 rfl rfl)
theorem dX5_makes_174 : decode cX5_makes 174 = .ok (.iload 4, 2) := dk_21 4 (dk_at dksX5_makes_7 10 rfl rfl)
theorem dX5_makes_176 : decode cX5_makes 176 = .ok (.iaload, 1) := dk_46 (dk_at dksX5_makes_7 12 rfl rfl)
theorem dX5_makes_177 : decode cX5_makes 177 = .ok (.iaload, 1) := dk_46 (dk_at dksX5_makes_7 13 rfl rfl)
theorem dX5_makes_178 : decode cX5_makes 178 = .ok (.iastore, 1) := dk_79 (dk_at dksX5_makes_7 14 rfl rfl)
theorem dX5_makes_179 : decode cX5_makes 179 = .ok (.aload_n 0, 1) := dk_42 (dk_at dksX5_makes_7 15 rfl rfl)
theorem dX5_makes_180 : decode cX5_makes 180 = .ok (.getfield 53, 3) := dk_180 0 53 (dk_at dksX5_makes_7 16 rfl rfl)
theorem dX5_makes_183 : decode cX5_makes 183 = .ok (.aload_n 0, 1) := dk_42 (dk_at dksX5_makes_7 19 rfl rfl)
theorem dX5_makes_184 : decode cX5_makes 184 = .ok (.getfield 108, 3) := dk_180 0 108 (dk_at dksX5_makes_7 20 rfl rfl)
theorem dX5_makes_187 : decode cX5_makes 187 = .ok (.aaload, 1) := dk_50 (dk_at dksX5_makes_7 23 rfl rfl)
theorem dX5_makes_188 : decode cX5_makes 188 = .ok (.iload 4, 2) := dk_21 4 (dk_at dksX5_makes_8 0 rfl rfl)
theorem dX5_makes_190 : decode cX5_makes 190 = .ok (.aload_n 0, 1) := dk_42 (dk_at dksX5_makes_8 2 rfl rfl)
theorem dX5_makes_191 : decode cX5_makes 191 = .ok (.getfield 82, 3) := dk_180 0 82 (dk_at dksX5_makes_8 3 rfl rfl)
theorem dX5_makes_194 : decode cX5_makes 194 = .ok (.iload 4, 2) := dk_21 4 (dk_at dksX5_makes_8 6 rfl rfl)
theorem dX5_makes_196 : decode cX5_makes 196 = .ok (.iaload, 1) := dk_46 (dk_at dksX5_makes_8 8 rfl rfl)
theorem dX5_makes_197 : decode cX5_makes 197 = .ok (.iastore, 1) := dk_79 (dk_at dksX5_makes_8 9 rfl rfl)
theorem dX5_makes_198 : decode cX5_makes 198 = .ok (.aload_n 0, 1) := dk_42 (dk_at dksX5_makes_8 10 rfl rfl)
theorem dX5_makes_199 : decode cX5_makes 199 = .ok (.getfield 56, 3) := dk_180 0 56 (dk_at dksX5_makes_8 11 rfl rfl)
theorem dX5_makes_202 : decode cX5_makes 202 = .ok (.aload_n 0, 1) := dk_42 (dk_at dksX5_makes_8 14 rfl rfl)
theorem dX5_makes_203 : decode cX5_makes 203 = .ok (.getfield 108, 3) := dk_180 0 108 (dk_at dksX5_makes_8 15 rfl rfl)
theorem dX5_makes_206 : decode cX5_makes 206 = .ok (.aaload, 1) := dk_50 (dk_at dksX5_makes_8 18 rfl rfl)
theorem dX5_makes_207 : decode cX5_makes 207 = .ok (.iload 4, 2) := dk_21 4 (dk_at dksX5_makes_8 19 rfl rfl)
theorem dX5_makes_209 : decode cX5_makes 209 = .ok (.aload_n 0, 1) := dk_42 (dk_at dksX5_makes_8 21 rfl rfl)
theorem dX5_makes_210 : decode cX5_makes 210 = .ok (.getfield 73, 3) := dk_180 0 73 (dk_at dksX5_makes_9 0 rfl rfl)
theorem dX5_makes_213 : decode cX5_makes 213 = .ok (.aload_n 0, 1) := dk_42 (dk_at dksX5_makes_9 3 rfl rfl)
theorem dX5_makes_214 : decode cX5_makes 214 = .ok (.getfield 76, 3) := dk_180 0 76 (dk_at dksX5_makes_9 4 rfl rfl)
theorem dX5_makes_217 : decode cX5_makes 217 = .ok (.iload 4, 2) := dk_21 4 (dk_at dksX5_makes_9 7 rfl rfl)
theorem dX5_makes_219 : decode cX5_makes 219 = .ok (.iaload, 1) := dk_46 (dk_at dksX5_makes_9 9 rfl rfl)
theorem dX5_makes_220 : decode cX5_makes 220 = .ok (.iaload, 1) := dk_46 (dk_at dksX5_makes_9 10 rfl rfl)
theorem dX5_makes_221 : decode cX5_makes 221 = .ok (.iastore, 1) := dk_79 (dk_at dksX5_makes_9 11 rfl rfl)
theorem dX5_makes_222 : decode cX5_makes 222 = .ok (.iinc 4 1, 3) := dk_132 4 1 (dk_at dksX5_makes_9 12 rfl rfl)
theorem dX5_makes_225 : decode cX5_makes 225 = .ok (.goto (-117), 3) := dk_167 255 139 (dk_at dksX5_makes_9 15 rfl rfl)
theorem dX5_makes_228 : decode cX5_makes 228 = .ok (.aload_n 0, 1) := dk_42 (dk_at dksX5_makes_9 18 rfl rfl)
theorem dX5_makes_229 : decode cX5_makes 229 = .ok (.dup, 1) := dk_89 (dk_at dksX5_makes_9 19 rfl rfl)
theorem dX5_makes_230 : decode cX5_makes 230 = .ok (.getfield 108, 3) := dk_180 0 108 (dk_at dksX5_makes_9 20 rfl rfl)
theorem dX5_makes_233 : decode cX5_makes 233 = .ok (.iconst 1, 1) := dk_4 (dk_at dksX5_makes_9 23 rfl rfl)
theorem dX5_makes_234 : decode cX5_makes 234 = .ok (.iadd, 1) := dk_96 (dk_at dksX5_makes_10 0 rfl rfl)
theorem dX5_makes_235 : decode cX5_makes 235 = .ok (.putfield 108, 3) := dk_181 0 108 (dk_at dksX5_makes_10 1 rfl rfl)
theorem dX5_makes_238 : decode cX5_makes 238 = .ok (.aload_n 0, 1) := dk_42 (dk_at dksX5_makes_10 4 rfl rfl)
theorem dX5_makes_239 : decode cX5_makes 239 = .ok (.iconst 0, 1) := dk_3 (dk_at dksX5_makes_10 5 rfl rfl)
theorem dX5_makes_240 : decode cX5_makes 240 = .ok (.putfield 148, 3) := dk_181 0 148 (dk_at dksX5_makes_10 6 rfl rfl)
theorem dX5_makes_243 : decode cX5_makes 243 = .ok (.aload_n 0, 1) := dk_42 (dk_at dksX5_makes_10 9 rfl rfl)
theorem dX5_makes_244 : decode cX5_makes 244 = .ok (.iload_n 1, 1) := dk_27 (dk_at dksX5_makes_10 10 rfl rfl)
theorem dX5_makes_245 : decode cX5_makes 245 = .ok (.invokevirtual 161, 3) := dk_182 0 161 (dk_at dksX5_makes_10 11 rfl rfl)
theorem dX5_makes_248 : decode cX5_makes 248 = .ok (.return_, 1) := dk_177 (dk_at dksX5_makes_10 14 rfl rfl)
theorem q1992 : (Jvm.Cond.methodLink "PlugboardModel" (161 : Nat) ({ cls := "PlugboardModel", name := "builds", desc := "(I)V" } : Jvm.MethodName)) ∈ lw_all := lw_g (lw_at lw_m9 2 rfl) rfl
theorem q1994 : (Jvm.Cond.instanceMethod ({ cls := "PlugboardModel", name := "builds", desc := "(I)V" } : Jvm.MethodName)) ∈ lw_all := lw_g (lw_at lw_m9 4 rfl) rfl
theorem q1995 : (Jvm.Cond.code ({ cls := "PlugboardModel", name := "builds", desc := "(I)V" } : Jvm.MethodName) prog_19_method_10_code (4 : Nat) (Option.none : Option Jvm.ClassFile.FieldType)) ∈ lw_all := lw_g (lw_at lw_m9 5 rfl) rfl
theorem q2034 : (Jvm.Cond.methodLink "PlugboardModel" (155 : Nat) ({ cls := "java/lang/Math", name := "max", desc := "(II)I" } : Jvm.MethodName)) ∈ lw_all := lw_g (lw_at lw_m9 44 rfl) rfl
abbrev rm_X5_makes : Room := { frames := 3, cells := 0, slots := 0, locals := 66 }
def w_X5_makes_108 (P : AH → Prop) (x0 : Option Nat) (x1 : Int32) (x4 : Int32) (h : AH) : Prop :=
  ∀ Z108 : Int32 → AH → Prop, (∀ x4 h, (
      g_i h x0 4 27 fun y111 =>
      ((y111 ≤ x4 →
        g_i h x0 4 20 fun y230 =>
        p_v h x0 4 20 (vI (y230 + 1)) fun h235 =>
        p_v h235 x0 4 27 (vI 0) fun h240 =>
        is_c h240 x0 [4] (
        w_X5_builds x0 x1 h240 (fun h245 =>
        P h245))) ∧
       (¬ y111 ≤ x4 →
        g_q h x0 4 13 fun y118 =>
        g_i h x0 4 20 fun y122 =>
        l_q h y118 y122 fun y125 =>
        g_q h x0 4 24 fun y129 =>
        l_i h y129 0 x4 fun y134 =>
        s_i h y125 0 x4 y134 fun h135 =>
        g_q h135 x0 4 14 fun y137 =>
        g_i h135 x0 4 20 fun y141 =>
        l_q h135 y137 y141 fun y144 =>
        g_q h135 x0 4 25 fun y148 =>
        l_i h135 y148 0 x4 fun y153 =>
        s_i h135 y144 0 x4 y153 fun h154 =>
        g_q h154 x0 4 15 fun y156 =>
        g_i h154 x0 4 20 fun y160 =>
        l_q h154 y156 y160 fun y163 =>
        g_q h154 x0 4 21 fun y167 =>
        g_q h154 x0 4 24 fun y171 =>
        l_i h154 y171 0 x4 fun y176 =>
        l_i h154 y167 0 y176 fun y177 =>
        s_i h154 y163 0 x4 y177 fun h178 =>
        g_q h178 x0 4 16 fun y180 =>
        g_i h178 x0 4 20 fun y184 =>
        l_q h178 y180 y184 fun y187 =>
        g_q h178 x0 4 26 fun y191 =>
        l_i h178 y191 0 x4 fun y196 =>
        s_i h178 y187 0 x4 y196 fun h197 =>
        g_q h197 x0 4 17 fun y199 =>
        g_i h197 x0 4 20 fun y203 =>
        l_q h197 y199 y203 fun y206 =>
        g_q h197 x0 4 23 fun y210 =>
        g_q h197 x0 4 24 fun y214 =>
        l_i h197 y214 0 x4 fun y219 =>
        l_i h197 y210 0 y219 fun y220 =>
        s_i h197 y206 0 x4 y220 fun h221 =>
        Z108 (x4 + 1) h221)))
      → Z108 x4 h) → Z108 x4 h
def w_X5_makes_5 (P : AH → Prop) (x0 : Option Nat) (x1 : Int32) (x2 : Int32) (x3 : Int32) (x4 : Int32) (h : AH) : Prop :=
  ∀ Z5 : Int32 → Int32 → AH → Prop, (∀ x3 x4 h, (
      g_i h x0 4 20 fun y8 =>
      ((y8 ≤ x4 →
        g_q h x0 4 10 fun y49 =>
        g_i h x0 4 20 fun y53 =>
        s_i h y49 0 y53 x1 fun h57 =>
        g_q h57 x0 4 11 fun y59 =>
        g_i h57 x0 4 20 fun y63 =>
        s_i h57 y59 0 y63 (x3 + 1) fun h69 =>
        g_q h69 x0 4 12 fun y71 =>
        g_i h69 x0 4 20 fun y75 =>
        g_i h69 x0 4 27 fun y79 =>
        s_i h69 y71 0 y75 y79 fun h82 =>
        g_q h82 x0 4 18 fun y84 =>
        g_i h82 x0 4 20 fun y88 =>
        nrw .boolean x2 ∧
        s_i h82 y84 1 y88 x2 fun h92 =>
        g_q h92 x0 4 19 fun y94 =>
        l_q h92 y94 x1 fun y98 =>
        g_i h92 x0 4 20 fun y100 =>
        s_i h92 y98 1 y100 1 fun h104 =>
        w_X5_makes_108 P x0 x1 0 h104) ∧
       (¬ y8 ≤ x4 →
        g_q h x0 4 19 fun y15 =>
        l_q h y15 x1 fun y19 =>
        l_i h y19 1 x4 fun y22 =>
        ((y22 = 0 →
          Z5 x3 (x4 + 1) h) ∧
         (¬ y22 = 0 →
          g_q h x0 4 11 fun y28 =>
          l_i h y28 0 x4 fun y33 =>
          w_J14_max_2 x3 y33 h (fun y34 h34 =>
          Z5 y34 (x4 + 1) h34))))))
      → Z5 x3 x4 h) → Z5 x3 x4 h
def w_X5_makes (a0 : Option Nat) (a1 : Int32) (a2 : Int32) (h : AH) (P : AH → Prop) : Prop :=
  w_X5_makes_5 P a0 a1 a2 0 0 h
theorem wk_X5_makes_108 {x : CX} (X : Ok x cX5_makes RX5 rm_X5_makes 5) (er : xrt x = (Option.none : Option Jvm.ClassFile.FieldType)) (en : xnm x = yX5_makes.name) {P : AH → Prop} (hQ : xr_v x P) (x0 : Option Nat) (x1 : Int32) (x4 : Int32) (h : AH) (hw : w_X5_makes_108 P x0 x1 x4 h) : J x h 0 0 108 [(0, vR x0), (1, vI x1), (4, vI x4)] [] := by
  refine hw (fun x4 h => J x h 0 0 108 [(0, vR x0), (1, vI x1), (4, vI x4)] []) (fun x4 h hw => ?_)
  refine j_iload X (pc := 108) 2 dX5_makes_108 rfl ?_
  refine j_aload_n X (pc := 110) 0 dX5_makes_110 rfl rfl ?_
  refine j_geti (ci := 4) X (pc := 111) in_X5 rfl (by decide) 27 (by decide) q1899 (Or.inl rfl) dX5_makes_111 hw (fun y111 hw => ?_)
  refine j_icmp_ge X (pc := 114) 228 dX5_makes_114 (by decide) hw (fun hw => ?_) (fun hw => ?_)
  · refine j_aload_n X (pc := 228) 0 dX5_makes_228 rfl rfl ?_
    refine j_dup X (pc := 229) dX5_makes_229 rfl ?_
    refine j_geti (ci := 4) X (pc := 230) in_X5 rfl (by decide) 20 (by decide) q1892 (Or.inl rfl) dX5_makes_230 hw (fun y230 hw => ?_)
    refine j_iconst X (pc := 233) 1 dX5_makes_233 (by decide) ?_
    refine j_iadd X (pc := 234) dX5_makes_234 ?_
    refine j_put (ci := 4) X (pc := 235) in_X5 rfl (by decide) 20 (by decide) q1892 (Or.inl rfl) tyX5 tyX5_ok nmX5 rfl rfl (ty := .int) (tyX5_ok 20 (by decide)) rfl rfl dX5_makes_235 hw (fun h235 hw => ?_)
    refine j_aload_n X (pc := 238) 0 dX5_makes_238 rfl rfl ?_
    refine j_iconst X (pc := 239) 0 dX5_makes_239 (by decide) ?_
    refine j_put (ci := 4) X (pc := 240) in_X5 rfl (by decide) 27 (by decide) q1899 (Or.inl rfl) tyX5 tyX5_ok nmX5 rfl rfl (ty := .int) (tyX5_ok 27 (by decide)) rfl rfl dX5_makes_240 hw (fun h240 hw => ?_)
    refine j_aload_n X (pc := 243) 0 dX5_makes_243 rfl rfl ?_
    refine j_iload_n X (pc := 244) 1 dX5_makes_244 rfl rfl ?_
    obtain ⟨b9, c9, f9, hr9, ho9, hc9, hw⟩ := hw
    obtain rfl := List.mem_singleton.mp hc9
    refine j_callv (j_runV (n8 := 1) (As := [vI x1]) (rest := []) X (pc := 245) hr9 (met_X5_builds (xl x) X.hl (xG x) h240 x0 x1 _ hw) ho9 (by decide) rfl q1992 q1994 qs34 q78 q1995 (by decide +kernel) dX5_makes_245 rfl ⟨Nat.le_of_ble_eq_true rfl, Nat.le_of_ble_eq_true rfl⟩ (Nat.le_of_ble_eq_true rfl) ⟨Nat.le_of_ble_eq_true rfl, Nat.le_of_ble_eq_true rfl⟩) (fun h245 hw => ?_)
    exact j_vret X (pc := 248) hQ er (Nat.le_of_ble_eq_true rfl) (Nat.le_of_ble_eq_true rfl) dX5_makes_248 hw
  · refine j_aload_n X (pc := 117) 0 dX5_makes_117 rfl rfl ?_
    refine j_getq (ci := 4) X (pc := 118) in_X5 rfl (by decide) 13 (by decide) q1885 (Or.inl rfl) dX5_makes_118 hw (fun y118 hw => ?_)
    refine j_aload_n X (pc := 121) 0 dX5_makes_121 rfl rfl ?_
    refine j_geti (ci := 4) X (pc := 122) in_X5 rfl (by decide) 20 (by decide) q1892 (Or.inl rfl) dX5_makes_122 hw (fun y122 hw => ?_)
    refine j_aald X (pc := 125) dX5_makes_125 hw (fun y125 hw => ?_)
    refine j_iload X (pc := 126) 2 dX5_makes_126 rfl ?_
    refine j_aload_n X (pc := 128) 0 dX5_makes_128 rfl rfl ?_
    refine j_getq (ci := 4) X (pc := 129) in_X5 rfl (by decide) 24 (by decide) q1896 (Or.inl rfl) dX5_makes_129 hw (fun y129 hw => ?_)
    refine j_iload X (pc := 132) 2 dX5_makes_132 rfl ?_
    refine j_iald X (pc := 134) 0 rfl dX5_makes_134 hw (fun y134 hw => ?_)
    refine j_iast X (pc := 135) 0 rfl rfl dX5_makes_135 hw (fun h135 hw => ?_)
    refine j_aload_n X (pc := 136) 0 dX5_makes_136 rfl rfl ?_
    refine j_getq (ci := 4) X (pc := 137) in_X5 rfl (by decide) 14 (by decide) q1886 (Or.inl rfl) dX5_makes_137 hw (fun y137 hw => ?_)
    refine j_aload_n X (pc := 140) 0 dX5_makes_140 rfl rfl ?_
    refine j_geti (ci := 4) X (pc := 141) in_X5 rfl (by decide) 20 (by decide) q1892 (Or.inl rfl) dX5_makes_141 hw (fun y141 hw => ?_)
    refine j_aald X (pc := 144) dX5_makes_144 hw (fun y144 hw => ?_)
    refine j_iload X (pc := 145) 2 dX5_makes_145 rfl ?_
    refine j_aload_n X (pc := 147) 0 dX5_makes_147 rfl rfl ?_
    refine j_getq (ci := 4) X (pc := 148) in_X5 rfl (by decide) 25 (by decide) q1897 (Or.inl rfl) dX5_makes_148 hw (fun y148 hw => ?_)
    refine j_iload X (pc := 151) 2 dX5_makes_151 rfl ?_
    refine j_iald X (pc := 153) 0 rfl dX5_makes_153 hw (fun y153 hw => ?_)
    refine j_iast X (pc := 154) 0 rfl rfl dX5_makes_154 hw (fun h154 hw => ?_)
    refine j_aload_n X (pc := 155) 0 dX5_makes_155 rfl rfl ?_
    refine j_getq (ci := 4) X (pc := 156) in_X5 rfl (by decide) 15 (by decide) q1887 (Or.inl rfl) dX5_makes_156 hw (fun y156 hw => ?_)
    refine j_aload_n X (pc := 159) 0 dX5_makes_159 rfl rfl ?_
    refine j_geti (ci := 4) X (pc := 160) in_X5 rfl (by decide) 20 (by decide) q1892 (Or.inl rfl) dX5_makes_160 hw (fun y160 hw => ?_)
    refine j_aald X (pc := 163) dX5_makes_163 hw (fun y163 hw => ?_)
    refine j_iload X (pc := 164) 2 dX5_makes_164 rfl ?_
    refine j_aload_n X (pc := 166) 0 dX5_makes_166 rfl rfl ?_
    refine j_getq (ci := 4) X (pc := 167) in_X5 rfl (by decide) 21 (by decide) q1893 (Or.inl rfl) dX5_makes_167 hw (fun y167 hw => ?_)
    refine j_aload_n X (pc := 170) 0 dX5_makes_170 rfl rfl ?_
    refine j_getq (ci := 4) X (pc := 171) in_X5 rfl (by decide) 24 (by decide) q1896 (Or.inl rfl) dX5_makes_171 hw (fun y171 hw => ?_)
    refine j_iload X (pc := 174) 2 dX5_makes_174 rfl ?_
    refine j_iald X (pc := 176) 0 rfl dX5_makes_176 hw (fun y176 hw => ?_)
    refine j_iald X (pc := 177) 0 rfl dX5_makes_177 hw (fun y177 hw => ?_)
    refine j_iast X (pc := 178) 0 rfl rfl dX5_makes_178 hw (fun h178 hw => ?_)
    refine j_aload_n X (pc := 179) 0 dX5_makes_179 rfl rfl ?_
    refine j_getq (ci := 4) X (pc := 180) in_X5 rfl (by decide) 16 (by decide) q1888 (Or.inl rfl) dX5_makes_180 hw (fun y180 hw => ?_)
    refine j_aload_n X (pc := 183) 0 dX5_makes_183 rfl rfl ?_
    refine j_geti (ci := 4) X (pc := 184) in_X5 rfl (by decide) 20 (by decide) q1892 (Or.inl rfl) dX5_makes_184 hw (fun y184 hw => ?_)
    refine j_aald X (pc := 187) dX5_makes_187 hw (fun y187 hw => ?_)
    refine j_iload X (pc := 188) 2 dX5_makes_188 rfl ?_
    refine j_aload_n X (pc := 190) 0 dX5_makes_190 rfl rfl ?_
    refine j_getq (ci := 4) X (pc := 191) in_X5 rfl (by decide) 26 (by decide) q1898 (Or.inl rfl) dX5_makes_191 hw (fun y191 hw => ?_)
    refine j_iload X (pc := 194) 2 dX5_makes_194 rfl ?_
    refine j_iald X (pc := 196) 0 rfl dX5_makes_196 hw (fun y196 hw => ?_)
    refine j_iast X (pc := 197) 0 rfl rfl dX5_makes_197 hw (fun h197 hw => ?_)
    refine j_aload_n X (pc := 198) 0 dX5_makes_198 rfl rfl ?_
    refine j_getq (ci := 4) X (pc := 199) in_X5 rfl (by decide) 17 (by decide) q1889 (Or.inl rfl) dX5_makes_199 hw (fun y199 hw => ?_)
    refine j_aload_n X (pc := 202) 0 dX5_makes_202 rfl rfl ?_
    refine j_geti (ci := 4) X (pc := 203) in_X5 rfl (by decide) 20 (by decide) q1892 (Or.inl rfl) dX5_makes_203 hw (fun y203 hw => ?_)
    refine j_aald X (pc := 206) dX5_makes_206 hw (fun y206 hw => ?_)
    refine j_iload X (pc := 207) 2 dX5_makes_207 rfl ?_
    refine j_aload_n X (pc := 209) 0 dX5_makes_209 rfl rfl ?_
    refine j_getq (ci := 4) X (pc := 210) in_X5 rfl (by decide) 23 (by decide) q1895 (Or.inl rfl) dX5_makes_210 hw (fun y210 hw => ?_)
    refine j_aload_n X (pc := 213) 0 dX5_makes_213 rfl rfl ?_
    refine j_getq (ci := 4) X (pc := 214) in_X5 rfl (by decide) 24 (by decide) q1896 (Or.inl rfl) dX5_makes_214 hw (fun y214 hw => ?_)
    refine j_iload X (pc := 217) 2 dX5_makes_217 rfl ?_
    refine j_iald X (pc := 219) 0 rfl dX5_makes_219 hw (fun y219 hw => ?_)
    refine j_iald X (pc := 220) 0 rfl dX5_makes_220 hw (fun y220 hw => ?_)
    refine j_iast X (pc := 221) 0 rfl rfl dX5_makes_221 hw (fun h221 hw => ?_)
    refine j_iinc X (pc := 222) 2 (x4 + 1) [(4, vI (x4 + 1)), (0, vR x0), (1, vI x1)] dX5_makes_222 rfl rfl (Nat.le_of_ble_eq_true rfl) rfl ?_
    refine j_goto X (pc := 225) 108 dX5_makes_225 (by decide) ?_
    refine j_lv [(0, vR x0), (1, vI x1), (4, vI (x4 + 1))] [1, 2, 0] rfl ?_
    refine j_cs (u' := 0) (v' := 0) (Nat.le_of_ble_eq_true rfl) (Nat.le_of_ble_eq_true rfl) ?_
    exact hw
theorem wk_X5_makes_5 {x : CX} (X : Ok x cX5_makes RX5 rm_X5_makes 5) (er : xrt x = (Option.none : Option Jvm.ClassFile.FieldType)) (en : xnm x = yX5_makes.name) {P : AH → Prop} (hQ : xr_v x P) (x0 : Option Nat) (x1 : Int32) (x2 : Int32) (x3 : Int32) (x4 : Int32) (h : AH) (hw : w_X5_makes_5 P x0 x1 x2 x3 x4 h) : J x h 0 0 5 [(0, vR x0), (1, vI x1), (2, vI x2), (3, vI x3), (4, vI x4)] [] := by
  refine hw (fun x3 x4 h => J x h 0 0 5 [(0, vR x0), (1, vI x1), (2, vI x2), (3, vI x3), (4, vI x4)] []) (fun x3 x4 h hw => ?_)
  refine j_iload X (pc := 5) 4 dX5_makes_5 rfl ?_
  refine j_aload_n X (pc := 7) 0 dX5_makes_7 rfl rfl ?_
  refine j_geti (ci := 4) X (pc := 8) in_X5 rfl (by decide) 20 (by decide) q1892 (Or.inl rfl) dX5_makes_8 hw (fun y8 hw => ?_)
  refine j_icmp_ge X (pc := 11) 48 dX5_makes_11 (by decide) hw (fun hw => ?_) (fun hw => ?_)
  · refine j_aload_n X (pc := 48) 0 dX5_makes_48 rfl rfl ?_
    refine j_getq (ci := 4) X (pc := 49) in_X5 rfl (by decide) 10 (by decide) q1882 (Or.inl rfl) dX5_makes_49 hw (fun y49 hw => ?_)
    refine j_aload_n X (pc := 52) 0 dX5_makes_52 rfl rfl ?_
    refine j_geti (ci := 4) X (pc := 53) in_X5 rfl (by decide) 20 (by decide) q1892 (Or.inl rfl) dX5_makes_53 hw (fun y53 hw => ?_)
    refine j_iload_n X (pc := 56) 1 dX5_makes_56 rfl rfl ?_
    refine j_iast X (pc := 57) 0 rfl rfl dX5_makes_57 hw (fun h57 hw => ?_)
    refine j_aload_n X (pc := 58) 0 dX5_makes_58 rfl rfl ?_
    refine j_getq (ci := 4) X (pc := 59) in_X5 rfl (by decide) 11 (by decide) q1883 (Or.inl rfl) dX5_makes_59 hw (fun y59 hw => ?_)
    refine j_aload_n X (pc := 62) 0 dX5_makes_62 rfl rfl ?_
    refine j_geti (ci := 4) X (pc := 63) in_X5 rfl (by decide) 20 (by decide) q1892 (Or.inl rfl) dX5_makes_63 hw (fun y63 hw => ?_)
    refine j_iload_n X (pc := 66) 3 dX5_makes_66 rfl rfl ?_
    refine j_iconst X (pc := 67) 1 dX5_makes_67 (by decide) ?_
    refine j_iadd X (pc := 68) dX5_makes_68 ?_
    refine j_iast X (pc := 69) 0 rfl rfl dX5_makes_69 hw (fun h69 hw => ?_)
    refine j_aload_n X (pc := 70) 0 dX5_makes_70 rfl rfl ?_
    refine j_getq (ci := 4) X (pc := 71) in_X5 rfl (by decide) 12 (by decide) q1884 (Or.inl rfl) dX5_makes_71 hw (fun y71 hw => ?_)
    refine j_aload_n X (pc := 74) 0 dX5_makes_74 rfl rfl ?_
    refine j_geti (ci := 4) X (pc := 75) in_X5 rfl (by decide) 20 (by decide) q1892 (Or.inl rfl) dX5_makes_75 hw (fun y75 hw => ?_)
    refine j_aload_n X (pc := 78) 0 dX5_makes_78 rfl rfl ?_
    refine j_geti (ci := 4) X (pc := 79) in_X5 rfl (by decide) 27 (by decide) q1899 (Or.inl rfl) dX5_makes_79 hw (fun y79 hw => ?_)
    refine j_iast X (pc := 82) 0 rfl rfl dX5_makes_82 hw (fun h82 hw => ?_)
    refine j_aload_n X (pc := 83) 0 dX5_makes_83 rfl rfl ?_
    refine j_getq (ci := 4) X (pc := 84) in_X5 rfl (by decide) 18 (by decide) q1890 (Or.inl rfl) dX5_makes_84 hw (fun y84 hw => ?_)
    refine j_aload_n X (pc := 87) 0 dX5_makes_87 rfl rfl ?_
    refine j_geti (ci := 4) X (pc := 88) in_X5 rfl (by decide) 20 (by decide) q1892 (Or.inl rfl) dX5_makes_88 hw (fun y88 hw => ?_)
    refine j_iload_n X (pc := 91) 2 dX5_makes_91 rfl rfl ?_
    have hnr := hw.1
    have hw := hw.2
    refine j_zast X (pc := 92) 1 rfl rfl hnr dX5_makes_92 hw (fun h92 hw => ?_)
    refine j_aload_n X (pc := 93) 0 dX5_makes_93 rfl rfl ?_
    refine j_getq (ci := 4) X (pc := 94) in_X5 rfl (by decide) 19 (by decide) q1891 (Or.inl rfl) dX5_makes_94 hw (fun y94 hw => ?_)
    refine j_iload_n X (pc := 97) 1 dX5_makes_97 rfl rfl ?_
    refine j_aald X (pc := 98) dX5_makes_98 hw (fun y98 hw => ?_)
    refine j_aload_n X (pc := 99) 0 dX5_makes_99 rfl rfl ?_
    refine j_geti (ci := 4) X (pc := 100) in_X5 rfl (by decide) 20 (by decide) q1892 (Or.inl rfl) dX5_makes_100 hw (fun y100 hw => ?_)
    refine j_iconst X (pc := 103) 1 dX5_makes_103 (by decide) ?_
    refine j_zast X (pc := 104) 1 rfl rfl ⟨rfl, rfl⟩ dX5_makes_104 hw (fun h104 hw => ?_)
    refine j_iconst X (pc := 105) 0 dX5_makes_105 (by decide) ?_
    refine j_istore X (pc := 106) [(4, vI 0), (0, vR x0), (1, vI x1), (2, vI x2), (3, vI x3)] dX5_makes_106 (Nat.le_of_ble_eq_true rfl) rfl ?_
    refine j_lv [(0, vR x0), (1, vI x1), (4, vI 0)] [1, 2, 0] rfl ?_
    refine j_cs (u' := 0) (v' := 0) (Nat.le_of_ble_eq_true rfl) (Nat.le_of_ble_eq_true rfl) ?_
    exact wk_X5_makes_108 X er en hQ x0 x1 0 h104 hw
  · refine j_aload_n X (pc := 14) 0 dX5_makes_14 rfl rfl ?_
    refine j_getq (ci := 4) X (pc := 15) in_X5 rfl (by decide) 19 (by decide) q1891 (Or.inl rfl) dX5_makes_15 hw (fun y15 hw => ?_)
    refine j_iload_n X (pc := 18) 1 dX5_makes_18 rfl rfl ?_
    refine j_aald X (pc := 19) dX5_makes_19 hw (fun y19 hw => ?_)
    refine j_iload X (pc := 20) 4 dX5_makes_20 rfl ?_
    refine j_zald X (pc := 22) 1 rfl dX5_makes_22 hw (fun y22 hw => ?_)
    refine j_if_eq X (pc := 23) 40 dX5_makes_23 (by decide) hw (fun hw => ?_) (fun hw => ?_)
    · refine j_iload_n X (pc := 40) 3 dX5_makes_40 rfl rfl ?_
      refine j_istore_n X (pc := 41) [(3, vI x3), (0, vR x0), (1, vI x1), (2, vI x2), (4, vI x4)] dX5_makes_41 rfl (Nat.le_of_ble_eq_true rfl) rfl ?_
      refine j_iinc X (pc := 42) 4 (x4 + 1) [(4, vI (x4 + 1)), (3, vI x3), (0, vR x0), (1, vI x1), (2, vI x2)] dX5_makes_42 rfl rfl (Nat.le_of_ble_eq_true rfl) rfl ?_
      refine j_goto X (pc := 45) 5 dX5_makes_45 (by decide) ?_
      refine j_lv [(0, vR x0), (1, vI x1), (2, vI x2), (3, vI x3), (4, vI (x4 + 1))] [2, 3, 4, 1, 0] rfl ?_
      refine j_cs (u' := 0) (v' := 0) (Nat.le_of_ble_eq_true rfl) (Nat.le_of_ble_eq_true rfl) ?_
      exact hw
    · refine j_iload_n X (pc := 26) 3 dX5_makes_26 rfl rfl ?_
      refine j_aload_n X (pc := 27) 0 dX5_makes_27 rfl rfl ?_
      refine j_getq (ci := 4) X (pc := 28) in_X5 rfl (by decide) 11 (by decide) q1883 (Or.inl rfl) dX5_makes_28 hw (fun y28 hw => ?_)
      refine j_iload X (pc := 31) 4 dX5_makes_31 rfl ?_
      refine j_iald X (pc := 33) 0 rfl dX5_makes_33 hw (fun y33 hw => ?_)
      refine j_calli (j_runS (n8 := 2) (As := [vI x3, vI y33]) (rest := []) X (pc := 34) (met_J14_max_2 (xl x) X.hl (xG x) h x3 y33 _ hw) q2034 q622 q92 q623 (by decide +kernel) dX5_makes_34 rfl ⟨Nat.le_of_ble_eq_true rfl, Nat.le_of_ble_eq_true rfl⟩ (Nat.le_of_ble_eq_true rfl) ⟨Nat.le_of_ble_eq_true rfl, Nat.le_of_ble_eq_true rfl⟩) (fun y34 h34 hw => ?_)
      refine j_goto X (pc := 37) 41 dX5_makes_37 (by decide) ?_
      refine j_istore_n X (pc := 41) [(3, vI y34), (0, vR x0), (1, vI x1), (2, vI x2), (4, vI x4)] dX5_makes_41 rfl (Nat.le_of_ble_eq_true rfl) rfl ?_
      refine j_iinc X (pc := 42) 4 (x4 + 1) [(4, vI (x4 + 1)), (3, vI y34), (0, vR x0), (1, vI x1), (2, vI x2)] dX5_makes_42 rfl rfl (Nat.le_of_ble_eq_true rfl) rfl ?_
      refine j_goto X (pc := 45) 5 dX5_makes_45 (by decide) ?_
      refine j_lv [(0, vR x0), (1, vI x1), (2, vI x2), (3, vI y34), (4, vI (x4 + 1))] [2, 3, 4, 1, 0] rfl ?_
      refine j_cs (u' := 0) (v' := 0) (Nat.le_of_ble_eq_true rfl) (Nat.le_of_ble_eq_true rfl) ?_
      exact hw
theorem met_X5_makes (l : Launch) (hlt : l.stackTraces = false) (G : GG) (h : AH) (a0 : Option Nat) (a1 : Int32) (a2 : Int32) (P : AH → Prop) (hw : w_X5_makes a0 a1 a2 h P) : ct_v l yX5_makes (ws_ yX5_makes cX5_makes 5 (Option.none : Option Jvm.ClassFile.FieldType)) rm_X5_makes G h [vR a0, vI a1, vI a2] P := by
  refine j_startv hlt [(0, vR a0), (1, vI a1), (2, vI a2)] (plainFor_of_name (by decide)) rfl rfl (fun x X eG er en hQ => ?_)
  subst eG
  refine j_iconst X (pc := 0) 0 dX5_makes_0 (by decide) ?_
  refine j_istore_n X (pc := 1) [(3, vI 0), (0, vR a0), (1, vI a1), (2, vI a2)] dX5_makes_1 rfl (Nat.le_of_ble_eq_true rfl) rfl ?_
  refine j_iconst X (pc := 2) 0 dX5_makes_2 (by decide) ?_
  refine j_istore X (pc := 3) [(4, vI 0), (3, vI 0), (0, vR a0), (1, vI a1), (2, vI a2)] dX5_makes_3 (Nat.le_of_ble_eq_true rfl) rfl ?_
  refine j_lv [(0, vR a0), (1, vI a1), (2, vI a2), (3, vI 0), (4, vI 0)] [2, 3, 4, 1, 0] rfl ?_
  refine j_cs (u' := 0) (v' := 0) (Nat.le_of_ble_eq_true rfl) (Nat.le_of_ble_eq_true rfl) ?_
  exact wk_X5_makes_5 X er en hQ a0 a1 a2 0 0 h hw
abbrev cX5_addShape : ByteArray := prog_19_method_27_code
def yX5_addShape : MethodName := ⟨RX5, "addShape", "(IIIIIZ)I"⟩
def dkwX5_addShape_8 : List UInt8 := [4, 96, 181, 0, 119, 42, 27, 4, 182, 0, 186, 42, 180, 0, 119, 4, 100, 172]
abbrev dktX5_addShape_8 : List UInt8 := dkwX5_addShape_8 ++ []
def dkwX5_addShape_7 : List UInt8 := [182, 0, 179, 42, 16, 24, 42, 180, 0, 119, 96, 23, 7, 184, 0, 182, 182, 0, 179, 42, 89, 180, 0, 119]
abbrev dktX5_addShape_7 : List UInt8 := dkwX5_addShape_7 ++ dktX5_addShape_8
def dkwX5_addShape_6 : List UInt8 := [84, 42, 42, 180, 0, 119, 4, 182, 0, 179, 42, 16, 12, 42, 180, 0, 119, 96, 16, 32, 28, 104, 29, 96]
abbrev dktX5_addShape_6 : List UInt8 := dkwX5_addShape_6 ++ dktX5_addShape_7
def dkwX5_addShape_5 : List UInt8 := [21, 4, 79, 42, 180, 0, 13, 42, 180, 0, 119, 21, 5, 79, 42, 180, 0, 22, 42, 180, 0, 119, 21, 6]
abbrev dktX5_addShape_5 : List UInt8 := dkwX5_addShape_5 ++ dktX5_addShape_6
def dkwX5_addShape_4 : List UInt8 := [167, 0, 13, 42, 42, 182, 0, 175, 182, 0, 138, 12, 98, 56, 7, 42, 180, 0, 9, 42, 180, 0, 119]
abbrev dktX5_addShape_4 : List UInt8 := dkwX5_addShape_4 ++ dktX5_addShape_5
def dkwX5_addShape_3 : List UInt8 := [160, 0, 9, 42, 5, 182, 0, 172, 172, 42, 27, 182, 0, 161, 42, 182, 0, 175, 156, 0, 7, 11]
abbrev dktX5_addShape_3 : List UInt8 := dkwX5_addShape_3 ++ dktX5_addShape_4
def dkwX5_addShape_2 : List UInt8 := [42, 4, 182, 0, 172, 172, 42, 180, 0, 119, 16, 12, 159, 0, 13, 42, 180, 0, 108, 17, 0, 250]
abbrev dktX5_addShape_2 : List UInt8 := dkwX5_addShape_2 ++ dktX5_addShape_3
def dkwX5_addShape_1 : List UInt8 := [21, 5, 4, 16, 8, 184, 0, 101, 153, 0, 16, 42, 28, 29, 21, 4, 21, 5, 182, 0, 168, 154, 0, 9]
abbrev dktX5_addShape_1 : List UInt8 := dkwX5_addShape_1 ++ dktX5_addShape_2
def dkwX5_addShape_0 : List UInt8 := [42, 3, 181, 0, 97, 27, 184, 0, 165, 153, 0, 38, 21, 4, 4, 16, 8, 184, 0, 101, 153, 0, 27]
abbrev dktX5_addShape_0 : List UInt8 := dkwX5_addShape_0 ++ dktX5_addShape_1
theorem dksX5_addShape_0 : cX5_addShape.data.toList.drop 0 = dktX5_addShape_0 := by decide +kernel
theorem dksX5_addShape_1 : cX5_addShape.data.toList.drop 23 = dktX5_addShape_1 := dk_seg dksX5_addShape_0 23 rfl rfl
theorem dksX5_addShape_2 : cX5_addShape.data.toList.drop 47 = dktX5_addShape_2 := dk_seg dksX5_addShape_1 24 rfl rfl
theorem dksX5_addShape_3 : cX5_addShape.data.toList.drop 69 = dktX5_addShape_3 := dk_seg dksX5_addShape_2 22 rfl rfl
theorem dksX5_addShape_4 : cX5_addShape.data.toList.drop 91 = dktX5_addShape_4 := dk_seg dksX5_addShape_3 22 rfl rfl
theorem dksX5_addShape_5 : cX5_addShape.data.toList.drop 114 = dktX5_addShape_5 := dk_seg dksX5_addShape_4 23 rfl rfl
theorem dksX5_addShape_6 : cX5_addShape.data.toList.drop 138 = dktX5_addShape_6 := dk_seg dksX5_addShape_5 24 rfl rfl
theorem dksX5_addShape_7 : cX5_addShape.data.toList.drop 162 = dktX5_addShape_7 := dk_seg dksX5_addShape_6 24 rfl rfl
theorem dksX5_addShape_8 : cX5_addShape.data.toList.drop 186 = dktX5_addShape_8 := dk_seg dksX5_addShape_7 24 rfl rfl
theorem dX5_addShape_0 : decode cX5_addShape 0 = .ok (.aload_n 0, 1) := dk_42 (dk_at dksX5_addShape_0 0 rfl rfl)
theorem dX5_addShape_1 : decode cX5_addShape 1 = .ok (.iconst 0, 1) := dk_3 (dk_at dksX5_addShape_0 1 rfl rfl)
theorem dX5_addShape_2 : decode cX5_addShape 2 = .ok (.putfield 97, 3) := dk_181 0 97 (dk_at dksX5_addShape_0 2 rfl rfl)
theorem dX5_addShape_5 : decode cX5_addShape 5 = .ok (.iload_n 1, 1) := dk_27 (dk_at dksX5_addShape_0 5 rfl rfl)
theorem dX5_addShape_6 : decode cX5_addShape 6 = .ok (.invokestatic 165, 3) := dk_184 0 165 (dk_at dksX5_addShape_0 6 rfl rfl)
theorem dX5_addShape_9 : decode cX5_addShape 9 = .ok (.ifCond .eq 38, 3) := dk_153 0 38 (dk_at dksX5_addShape_0 9 rfl rfl)
theorem dX5_addShape_12 : decode cX5_addShape 12 = .ok (.iload 4, 2) := dk_21 4 (dk_at dksX5_addShape_0 12 rfl rfl)
theorem dX5_addShape_14 : decode cX5_addShape 14 = .ok (.iconst 1, 1) := dk_4 (dk_at dksX5_addShape_0 14 rfl rfl)
theorem dX5_addShape_15 : decode cX5_addShape 15 = .ok (.bipush 8, 2) := dk_16 8 (dk_at dksX5_addShape_0 15 rfl rfl)
theorem dX5_addShape_17 : decode cX5_addShape 17 = .ok (.invokestatic 101, 3) := dk_184 0 101 (dk_at dksX5_addShape_0 17 rfl rfl)
theorem dX5_addShape_20 : decode cX5_addShape 20 = .ok (.ifCond .eq 27, 3) := dk_153 0 27 (dk_at dksX5_addShape_0 20 rfl rfl)
theorem dX5_addShape_23 : decode cX5_addShape 23 = .ok (.iload 5, 2) := dk_21 5 (dk_at dksX5_addShape_1 0 rfl rfl)
theorem dX5_addShape_25 : decode cX5_addShape 25 = .ok (.iconst 1, 1) := dk_4 (dk_at dksX5_addShape_1 2 rfl rfl)
theorem dX5_addShape_26 : decode cX5_addShape 26 = .ok (.bipush 8, 2) := dk_16 8 (dk_at dksX5_addShape_1 3 rfl rfl)
theorem dX5_addShape_28 : decode cX5_addShape 28 = .ok (.invokestatic 101, 3) := dk_184 0 101 (dk_at dksX5_addShape_1 5 rfl rfl)
theorem dX5_addShape_31 : decode cX5_addShape 31 = .ok (.ifCond .eq 16, 3) := dk_153 0 16 (dk_at dksX5_addShape_1 8 rfl rfl)
theorem dX5_addShape_34 : decode cX5_addShape 34 = .ok (.aload_n 0, 1) := dk_42 (dk_at dksX5_addShape_1 11 rfl rfl)
theorem dX5_addShape_35 : decode cX5_addShape 35 = .ok (.iload_n 2, 1) := dk_28 (dk_at dksX5_addShape_1 12 rfl rfl)
theorem dX5_addShape_36 : decode cX5_addShape 36 = .ok (.iload_n 3, 1) := dk_29 (dk_at dksX5_addShape_1 13 rfl rfl)
theorem dX5_addShape_37 : decode cX5_addShape 37 = .ok (.iload 4, 2) := dk_21 4 (dk_at dksX5_addShape_1 14 rfl rfl)
theorem dX5_addShape_39 : decode cX5_addShape 39 = .ok (.iload 5, 2) := dk_21 5 (dk_at dksX5_addShape_1 16 rfl rfl)
theorem dX5_addShape_41 : decode cX5_addShape 41 = .ok (.invokevirtual 168, 3) := dk_182 0 168 (dk_at dksX5_addShape_1 18 rfl rfl)
theorem dX5_addShape_44 : decode cX5_addShape 44 = .ok (.ifCond .ne 9, 3) := dk_154 0 9 (dk_at dksX5_addShape_1 21 rfl rfl)
theorem dX5_addShape_47 : decode cX5_addShape 47 = .ok (.aload_n 0, 1) := dk_42 (dk_at dksX5_addShape_2 0 rfl rfl)
theorem dX5_addShape_48 : decode cX5_addShape 48 = .ok (.iconst 1, 1) := dk_4 (dk_at dksX5_addShape_2 1 rfl rfl)
theorem dX5_addShape_49 : decode cX5_addShape 49 = .ok (.invokevirtual 172, 3) := dk_182 0 172 (dk_at dksX5_addShape_2 2 rfl rfl)
theorem dX5_addShape_52 : decode cX5_addShape 52 = .ok (.ireturn, 1) := dk_172 (dk_at dksX5_addShape_2 5 rfl rfl)
theorem dX5_addShape_53 : decode cX5_addShape 53 = .ok (.aload_n 0, 1) := dk_42 (dk_at dksX5_addShape_2 6 rfl rfl)
theorem dX5_addShape_54 : decode cX5_addShape 54 = .ok (.getfield 119, 3) := dk_180 0 119 (dk_at dksX5_addShape_2 7 rfl rfl)
theorem dX5_addShape_57 : decode cX5_addShape 57 = .ok (.bipush 12, 2) := dk_16 12 (dk_at dksX5_addShape_2 10 rfl rfl)
theorem dX5_addShape_59 : decode cX5_addShape 59 = .ok (.if_icmp .eq 13, 3) := dk_159 0 13 (dk_at dksX5_addShape_2 12 rfl rfl)
theorem dX5_addShape_62 : decode cX5_addShape 62 = .ok (.aload_n 0, 1) := dk_42 (dk_at dksX5_addShape_2 15 rfl rfl)
theorem dX5_addShape_63 : decode cX5_addShape 63 = .ok (.getfield 108, 3) := dk_180 0 108 (dk_at dksX5_addShape_2 16 rfl rfl)
theorem dX5_addShape_66 : decode cX5_addShape 66 = .ok (.sipush 250, 3) := dk_17 0 250 (dk_at dksX5_addShape_2 19 rfl rfl)
theorem dX5_addShape_69 : decode cX5_addShape 69 = .ok (.if_icmp .ne 9, 3) := dk_160 0 9 (dk_at dksX5_addShape_3 0 rfl rfl)
theorem dX5_addShape_72 : decode cX5_addShape 72 = .ok (.aload_n 0, 1) := dk_42 (dk_at dksX5_addShape_3 3 rfl rfl)
theorem dX5_addShape_73 : decode cX5_addShape 73 = .ok (.iconst 2, 1) := dk_5 (dk_at dksX5_addShape_3 4 rfl rfl)
theorem dX5_addShape_74 : decode cX5_addShape 74 = .ok (.invokevirtual 172, 3) := dk_182 0 172 (dk_at dksX5_addShape_3 5 rfl rfl)
theorem dX5_addShape_77 : decode cX5_addShape 77 = .ok (.ireturn, 1) := dk_172 (dk_at dksX5_addShape_3 8 rfl rfl)
theorem dX5_addShape_78 : decode cX5_addShape 78 = .ok (.aload_n 0, 1) := dk_42 (dk_at dksX5_addShape_3 9 rfl rfl)
theorem dX5_addShape_79 : decode cX5_addShape 79 = .ok (.iload_n 1, 1) := dk_27 (dk_at dksX5_addShape_3 10 rfl rfl)
theorem dX5_addShape_80 : decode cX5_addShape 80 = .ok (.invokevirtual 161, 3) := dk_182 0 161 (dk_at dksX5_addShape_3 11 rfl rfl)
theorem dX5_addShape_83 : decode cX5_addShape 83 = .ok (.aload_n 0, 1) := dk_42 (dk_at dksX5_addShape_3 14 rfl rfl)
theorem dX5_addShape_84 : decode cX5_addShape 84 = .ok (.invokevirtual 175, 3) := dk_182 0 175 (dk_at dksX5_addShape_3 15 rfl rfl)
theorem dX5_addShape_87 : decode cX5_addShape 87 = .ok (.ifCond .ge 7, 3) := dk_156 0 7 (dk_at dksX5_addShape_3 18 rfl rfl)
theorem dX5_addShape_90 : decode cX5_addShape 90 = .ok (.fconst 0, 1) := dk_11 (dk_at dksX5_addShape_3 21 rfl rfl)
theorem dX5_addShape_91 : decode cX5_addShape 91 = .ok (.goto 13, 3) := dk_167 0 13 (dk_at dksX5_addShape_4 0 rfl rfl)
theorem dX5_addShape_94 : decode cX5_addShape 94 = .ok (.aload_n 0, 1) := dk_42 (dk_at dksX5_addShape_4 3 rfl rfl)
theorem dX5_addShape_95 : decode cX5_addShape 95 = .ok (.aload_n 0, 1) := dk_42 (dk_at dksX5_addShape_4 4 rfl rfl)
theorem dX5_addShape_96 : decode cX5_addShape 96 = .ok (.invokevirtual 175, 3) := dk_182 0 175 (dk_at dksX5_addShape_4 5 rfl rfl)
theorem dX5_addShape_99 : decode cX5_addShape 99 = .ok (.invokevirtual 138, 3) := dk_182 0 138 (dk_at dksX5_addShape_4 8 rfl rfl)
theorem dX5_addShape_102 : decode cX5_addShape 102 = .ok (.fconst 1, 1) := dk_12 (dk_at dksX5_addShape_4 11 rfl rfl)
theorem dX5_addShape_103 : decode cX5_addShape 103 = .ok (.fadd, 1) := dk_98 (dk_at dksX5_addShape_4 12 rfl rfl)
theorem dX5_addShape_104 : decode cX5_addShape 104 = .ok (.fstore 7, 2) := dk_56 7 (dk_at dksX5_addShape_4 13 rfl rfl)
theorem dX5_addShape_106 : decode cX5_addShape 106 = .ok (.aload_n 0, 1) := dk_42 (dk_at dksX5_addShape_4 15 rfl rfl)
theorem dX5_addShape_107 : decode cX5_addShape 107 = .ok (.getfield 9, 3) := dk_180 0 9 (dk_at dksX5_addShape_4 16 rfl rfl)
theorem dX5_addShape_110 : decode cX5_addShape 110 = .ok (.aload_n 0, 1) := dk_42 (dk_at dksX5_addShape_4 19 rfl rfl)
theorem dX5_addShape_111 : decode cX5_addShape 111 = .ok (.getfield 119, 3) := dk_180 0 119 (dk_at dksX5_addShape_4 20 rfl rfl)
theorem dX5_addShape_114 : decode cX5_addShape 114 = .ok (.iload 4, 2) := dk_21 4 (dk_at dksX5_addShape_5 0 rfl rfl)
theorem dX5_addShape_116 : decode cX5_addShape 116 = .ok (.iastore, 1) := dk_79 (dk_at dksX5_addShape_5 2 rfl rfl)
theorem dX5_addShape_117 : decode cX5_addShape 117 = .ok (.aload_n 0, 1) := dk_42 (dk_at dksX5_addShape_5 3 rfl rfl)
theorem dX5_addShape_118 : decode cX5_addShape 118 = .ok (.getfield 13, 3) := dk_180 0 13 (dk_at dksX5_addShape_5 4 rfl rfl)
theorem dX5_addShape_121 : decode cX5_addShape 121 = .ok (.aload_n 0, 1) := dk_42 (dk_at dksX5_addShape_5 7 rfl rfl)
theorem dX5_addShape_122 : decode cX5_addShape 122 = .ok (.getfield 119, 3) := dk_180 0 119 (dk_at dksX5_addShape_5 8 rfl rfl)
theorem dX5_addShape_125 : decode cX5_addShape 125 = .ok (.iload 5, 2) := dk_21 5 (dk_at dksX5_addShape_5 11 rfl rfl)
theorem dX5_addShape_127 : decode cX5_addShape 127 = .ok (.iastore, 1) := dk_79 (dk_at dksX5_addShape_5 13 rfl rfl)
theorem dX5_addShape_128 : decode cX5_addShape 128 = .ok (.aload_n 0, 1) := dk_42 (dk_at dksX5_addShape_5 14 rfl rfl)
theorem dX5_addShape_129 : decode cX5_addShape 129 = .ok (.getfield 22, 3) := dk_180 0 22 (dk_at dksX5_addShape_5 15 rfl rfl)
theorem dX5_addShape_132 : decode cX5_addShape 132 = .ok (.aload_n 0, 1) := dk_42 (dk_at dksX5_addShape_5 18 rfl rfl)
theorem dX5_addShape_133 : decode cX5_addShape 133 = .ok (.getfield 119, 3) := dk_180 0 119 (dk_at dksX5_addShape_5 19 rfl rfl)
theorem dX5_addShape_136 : decode cX5_addShape 136 = .ok (.iload 6, 2) := dk_21 6 (dk_at dksX5_addShape_5 22 rfl rfl)
theorem dX5_addShape_138 : decode cX5_addShape 138 = .ok (.bastore, 1) := dk_84 (dk_at dksX5_addShape_6 0 rfl rfl)
theorem dX5_addShape_139 : decode cX5_addShape 139 = .ok (.aload_n 0, 1) := dk_42 (dk_at dksX5_addShape_6 1 rfl rfl)
theorem dX5_addShape_140 : decode cX5_addShape 140 = .ok (.aload_n 0, 1) := dk_42 (dk_at dksX5_addShape_6 2 rfl rfl)
theorem dX5_addShape_141 : decode cX5_addShape 141 = .ok (.getfield 119, 3) := dk_180 0 119 (dk_at dksX5_addShape_6 3 rfl rfl)
theorem dX5_addShape_144 : decode cX5_addShape 144 = .ok (.iconst 1, 1) := dk_4 (dk_at dksX5_addShape_6 6 rfl rfl)
theorem dX5_addShape_145 : decode cX5_addShape 145 = .ok (.invokevirtual 179, 3) := dk_182 0 179 (dk_at dksX5_addShape_6 7 rfl rfl)
theorem dX5_addShape_148 : decode cX5_addShape 148 = .ok (.aload_n 0, 1) := dk_42 (dk_at dksX5_addShape_6 10 rfl rfl)
theorem dX5_addShape_149 : decode cX5_addShape 149 = .ok (.bipush 12, 2) := dk_16 12 (dk_at dksX5_addShape_6 11 rfl rfl)
theorem dX5_addShape_151 : decode cX5_addShape 151 = .ok (.aload_n 0, 1) := dk_42 (dk_at dksX5_addShape_6 13 rfl rfl)
theorem dX5_addShape_152 : decode cX5_addShape 152 = .ok (.getfield 119, 3) := dk_180 0 119 (dk_at dksX5_addShape_6 14 rfl rfl)
theorem dX5_addShape_155 : decode cX5_addShape 155 = .ok (.iadd, 1) := dk_96 (dk_at dksX5_addShape_6 17 rfl rfl)
theorem dX5_addShape_156 : decode cX5_addShape 156 = .ok (.bipush 32, 2) := dk_16 32 (dk_at dksX5_addShape_6 18 rfl rfl)
theorem dX5_addShape_158 : decode cX5_addShape 158 = .ok (.iload_n 2, 1) := dk_28 (dk_at dksX5_addShape_6 20 rfl rfl)
theorem dX5_addShape_159 : decode cX5_addShape 159 = .ok (.imul, 1) := dk_104 (dk_at dksX5_addShape_6 21 rfl rfl)
theorem dX5_addShape_160 : decode cX5_addShape 160 = .ok (.iload_n 3, 1) := dk_29 (dk_at dksX5_addShape_6 22 rfl rfl)
theorem dX5_addShape_161 : decode cX5_addShape 161 = .ok (.iadd, 1) := dk_96 (dk_at dksX5_addShape_6 23 rfl rfl)
theorem dX5_addShape_162 : decode cX5_addShape 162 = .ok (.invokevirtual 179, 3) := dk_182 0 179 (dk_at dksX5_addShape_7 0 rfl rfl)
theorem dX5_addShape_165 : decode cX5_addShape 165 = .ok (.aload_n 0, 1) := dk_42 (dk_at dksX5_addShape_7 3 rfl rfl)
theorem dX5_addShape_166 : decode cX5_addShape 166 = .ok (.bipush 24, 2) := dk_16 24 (dk_at dksX5_addShape_7 4 rfl rfl)
theorem dX5_addShape_168 : decode cX5_addShape 168 = .ok (.aload_n 0, 1) := dk_42 (dk_at dksX5_addShape_7 6 rfl rfl)
theorem dX5_addShape_169 : decode cX5_addShape 169 = .ok (.getfield 119, 3) := dk_180 0 119 (dk_at dksX5_addShape_7 7 rfl rfl)
theorem dX5_addShape_172 : decode cX5_addShape 172 = .ok (.iadd, 1) := dk_96 (dk_at dksX5_addShape_7 10 rfl rfl)
theorem dX5_addShape_173 : decode cX5_addShape 173 = .ok (.fload 7, 2) := dk_23 7 (dk_at dksX5_addShape_7 11 rfl rfl)
theorem dX5_addShape_175 : decode cX5_addShape 175 = .ok (.invokestatic 182, 3) := dk_184 0 182 (dk_at dksX5_addShape_7 13 rfl rfl)
theorem dX5_addShape_178 : decode cX5_addShape 178 = .ok (.invokevirtual 179, 3) := dk_182 0 179 (dk_at dksX5_addShape_7 16 rfl rfl)
theorem dX5_addShape_181 : decode cX5_addShape 181 = .ok (.aload_n 0, 1) := dk_42 (dk_at dksX5_addShape_7 19 rfl rfl)
theorem dX5_addShape_182 : decode cX5_addShape 182 = .ok (.dup, 1) := dk_89 (dk_at dksX5_addShape_7 20 rfl rfl)
theorem dX5_addShape_183 : decode cX5_addShape 183 = .ok (.getfield 119, 3) := dk_180 0 119 (dk_at dksX5_addShape_7 21 rfl rfl)
theorem dX5_addShape_186 : decode cX5_addShape 186 = .ok (.iconst 1, 1) := dk_4 (dk_at dksX5_addShape_8 0 rfl rfl)
theorem dX5_addShape_187 : decode cX5_addShape 187 = .ok (.iadd, 1) := dk_96 (dk_at dksX5_addShape_8 1 rfl rfl)
theorem dX5_addShape_188 : decode cX5_addShape 188 = .ok (.putfield 119, 3) := dk_181 0 119 (dk_at dksX5_addShape_8 2 rfl rfl)
theorem dX5_addShape_191 : decode cX5_addShape 191 = .ok (.aload_n 0, 1) := dk_42 (dk_at dksX5_addShape_8 5 rfl rfl)
theorem dX5_addShape_192 : decode cX5_addShape 192 = .ok (.iload_n 1, 1) := dk_27 (dk_at dksX5_addShape_8 6 rfl rfl)
theorem dX5_addShape_193 : decode cX5_addShape 193 = .ok (.iconst 1, 1) := dk_4 (dk_at dksX5_addShape_8 7 rfl rfl)
theorem dX5_addShape_194 : decode cX5_addShape 194 = .ok (.invokevirtual 186, 3) := dk_182 0 186 (dk_at dksX5_addShape_8 8 rfl rfl)
theorem dX5_addShape_197 : decode cX5_addShape 197 = .ok (.aload_n 0, 1) := dk_42 (dk_at dksX5_addShape_8 11 rfl rfl)
theorem dX5_addShape_198 : decode cX5_addShape 198 = .ok (.getfield 119, 3) := dk_180 0 119 (dk_at dksX5_addShape_8 12 rfl rfl)
theorem dX5_addShape_201 : decode cX5_addShape 201 = .ok (.iconst 1, 1) := dk_4 (dk_at dksX5_addShape_8 15 rfl rfl)
theorem dX5_addShape_202 : decode cX5_addShape 202 = .ok (.isub, 1) := dk_100 (dk_at dksX5_addShape_8 16 rfl rfl)
theorem dX5_addShape_203 : decode cX5_addShape 203 = .ok (.ireturn, 1) := dk_172 (dk_at dksX5_addShape_8 17 rfl rfl)
theorem q1978 : (Jvm.Cond.methodLink "PlugboardModel" (165 : Nat) ({ cls := "PlugboardModel", name := "isUser", desc := "(I)Z" } : Jvm.MethodName)) ∈ lw_all := lw_g (lw_at lw_m8 228 rfl) rfl
theorem q1979 : (Jvm.Cond.static ({ cls := "PlugboardModel", name := "isUser", desc := "(I)Z" } : Jvm.MethodName)) ∈ lw_all := lw_g (lw_at lw_m8 229 rfl) rfl
theorem q1980 : (Jvm.Cond.code ({ cls := "PlugboardModel", name := "isUser", desc := "(I)Z" } : Jvm.MethodName) prog_19_method_6_code (1 : Nat) (Option.some Jvm.ClassFile.FieldType.boolean)) ∈ lw_all := lw_g (lw_at lw_m8 230 rfl) rfl
theorem q1984 : (Jvm.Cond.methodLink "PlugboardModel" (168 : Nat) ({ cls := "PlugboardModel", name := "isOnBoard", desc := "(IIII)Z" } : Jvm.MethodName)) ∈ lw_all := lw_g (lw_at lw_m8 234 rfl) rfl
theorem q1986 : (Jvm.Cond.instanceMethod ({ cls := "PlugboardModel", name := "isOnBoard", desc := "(IIII)Z" } : Jvm.MethodName)) ∈ lw_all := lw_g (lw_at lw_m8 236 rfl) rfl
theorem q1987 : (Jvm.Cond.code ({ cls := "PlugboardModel", name := "isOnBoard", desc := "(IIII)Z" } : Jvm.MethodName) prog_19_method_26_code (5 : Nat) (Option.some Jvm.ClassFile.FieldType.boolean)) ∈ lw_all := lw_g (lw_at lw_m8 237 rfl) rfl
theorem q1988 : (Jvm.Cond.methodLink "PlugboardModel" (172 : Nat) ({ cls := "PlugboardModel", name := "fails", desc := "(I)I" } : Jvm.MethodName)) ∈ lw_all := lw_g (lw_at lw_m8 238 rfl) rfl
theorem q1990 : (Jvm.Cond.instanceMethod ({ cls := "PlugboardModel", name := "fails", desc := "(I)I" } : Jvm.MethodName)) ∈ lw_all := lw_g (lw_at lw_m9 0 rfl) rfl
theorem q1991 : (Jvm.Cond.code ({ cls := "PlugboardModel", name := "fails", desc := "(I)I" } : Jvm.MethodName) prog_19_method_3_code (2 : Nat) (Option.some Jvm.ClassFile.FieldType.int)) ∈ lw_all := lw_g (lw_at lw_m9 1 rfl) rfl
theorem q2008 : (Jvm.Cond.methodLink "PlugboardModel" (175 : Nat) ({ cls := "PlugboardModel", name := "greatest", desc := "()I" } : Jvm.MethodName)) ∈ lw_all := lw_g (lw_at lw_m9 18 rfl) rfl
theorem q2010 : (Jvm.Cond.instanceMethod ({ cls := "PlugboardModel", name := "greatest", desc := "()I" } : Jvm.MethodName)) ∈ lw_all := lw_g (lw_at lw_m9 20 rfl) rfl
theorem q2011 : (Jvm.Cond.code ({ cls := "PlugboardModel", name := "greatest", desc := "()I" } : Jvm.MethodName) prog_19_method_19_code (3 : Nat) (Option.some Jvm.ClassFile.FieldType.int)) ∈ lw_all := lw_g (lw_at lw_m9 21 rfl) rfl
theorem q2021 : (Jvm.Cond.methodLink "PlugboardModel" (179 : Nat) ({ cls := "PlugboardModel", name := "plans", desc := "(II)V" } : Jvm.MethodName)) ∈ lw_all := lw_g (lw_at lw_m9 31 rfl) rfl
theorem q2023 : (Jvm.Cond.instanceMethod ({ cls := "PlugboardModel", name := "plans", desc := "(II)V" } : Jvm.MethodName)) ∈ lw_all := lw_g (lw_at lw_m9 33 rfl) rfl
theorem q2024 : (Jvm.Cond.code ({ cls := "PlugboardModel", name := "plans", desc := "(II)V" } : Jvm.MethodName) prog_19_method_24_code (3 : Nat) (Option.none : Option Jvm.ClassFile.FieldType)) ∈ lw_all := lw_g (lw_at lw_m9 34 rfl) rfl
theorem q2029 : (Jvm.Cond.methodLink "PlugboardModel" (182 : Nat) ({ cls := "java/lang/Float", name := "floatToIntBits", desc := "(F)I" } : Jvm.MethodName)) ∈ lw_all := lw_g (lw_at lw_m9 39 rfl) rfl
theorem q2030 : (Jvm.Cond.methodLink "PlugboardModel" (186 : Nat) ({ cls := "PlugboardModel", name := "makes", desc := "(IZ)V" } : Jvm.MethodName)) ∈ lw_all := lw_g (lw_at lw_m9 40 rfl) rfl
theorem q2032 : (Jvm.Cond.instanceMethod ({ cls := "PlugboardModel", name := "makes", desc := "(IZ)V" } : Jvm.MethodName)) ∈ lw_all := lw_g (lw_at lw_m9 42 rfl) rfl
theorem q2033 : (Jvm.Cond.code ({ cls := "PlugboardModel", name := "makes", desc := "(IZ)V" } : Jvm.MethodName) prog_19_method_25_code (5 : Nat) (Option.none : Option Jvm.ClassFile.FieldType)) ∈ lw_all := lw_g (lw_at lw_m9 43 rfl) rfl
abbrev rm_X5_addShape : Room := { frames := 4, cells := 0, slots := 0, locals := 90 }
def w_X5_addShape_104 (P : Int32 → AH → Prop) (x0 : Option Nat) (x1 : Int32) (x2 : Int32) (x3 : Int32) (x4 : Int32) (x5 : Int32) (x6 : Int32) (t0 : UInt32) (h : AH) : Prop :=
  g_q h x0 4 1 fun y107 =>
  g_i h x0 4 8 fun y111 =>
  s_i h y107 0 y111 x4 fun h116 =>
  g_q h116 x0 4 2 fun y118 =>
  g_i h116 x0 4 8 fun y122 =>
  s_i h116 y118 0 y122 x5 fun h127 =>
  g_q h127 x0 4 5 fun y129 =>
  g_i h127 x0 4 8 fun y133 =>
  nrw .boolean x6 ∧
  s_i h127 y129 1 y133 x6 fun h138 =>
  g_i h138 x0 4 8 fun y141 =>
  is_c h138 x0 [4] (
  w_X5_plans x0 y141 1 h138 (fun h145 =>
  g_i h145 x0 4 8 fun y152 =>
  is_c h145 x0 [4] (
  w_X5_plans x0 (12 + y152) ((32 * x2) + x3) h145 (fun h162 =>
  g_i h162 x0 4 8 fun y169 =>
  w_J13_floatToIntBits t0 h162 (fun y175 h175 =>
  is_c h175 x0 [4] (
  w_X5_plans x0 (24 + y169) y175 h175 (fun h178 =>
  g_i h178 x0 4 8 fun y183 =>
  p_v h178 x0 4 8 (vI (y183 + 1)) fun h188 =>
  is_c h188 x0 [4] (
  w_X5_makes x0 x1 1 h188 (fun h194 =>
  g_i h194 x0 4 8 fun y198 =>
  P (y198 - 1) h194)))))))))
def w_X5_addShape (a0 : Option Nat) (a1 : Int32) (a2 : Int32) (a3 : Int32) (a4 : Int32) (a5 : Int32) (a6 : Int32) (h : AH) (P : Int32 → AH → Prop) : Prop :=
  p_v h a0 4 0 (vI 0) fun h2 =>
  w_X5_isUser a1 h2 (fun y6 h6 =>
  ((y6 = 0 →
    is_c h6 a0 [4] (
    w_X5_fails a0 1 h6 (fun y49 h49 =>
    P y49 h49))) ∧
   (¬ y6 = 0 →
    w_X5_isBetween a4 1 8 h6 (fun y17 h17 =>
    ((y17 = 0 →
      is_c h17 a0 [4] (
      w_X5_fails a0 1 h17 (fun y49 h49 =>
      P y49 h49))) ∧
     (¬ y17 = 0 →
      w_X5_isBetween a5 1 8 h17 (fun y28 h28 =>
      ((y28 = 0 →
        is_c h28 a0 [4] (
        w_X5_fails a0 1 h28 (fun y49 h49 =>
        P y49 h49))) ∧
       (¬ y28 = 0 →
        is_c h28 a0 [4] (
        w_X5_isOnBoard a0 a2 a3 a4 a5 h28 (fun y41 h41 =>
        ((y41 = 0 →
          is_c h41 a0 [4] (
          w_X5_fails a0 1 h41 (fun y49 h49 =>
          P y49 h49))) ∧
         (¬ y41 = 0 →
          g_i h41 a0 4 8 fun y54 =>
          ((y54 = 12 →
            is_c h41 a0 [4] (
            w_X5_fails a0 2 h41 (fun y74 h74 =>
            P y74 h74))) ∧
           (¬ y54 = 12 →
            g_i h41 a0 4 20 fun y63 =>
            ((y63 = 250 →
              is_c h41 a0 [4] (
              w_X5_fails a0 2 h41 (fun y74 h74 =>
              P y74 h74))) ∧
             (¬ y63 = 250 →
              is_c h41 a0 [4] (
              w_X5_builds a0 a1 h41 (fun h80 =>
              is_c h80 a0 [4] (
              w_X5_greatest a0 h80 (fun y84 h84 =>
              ((0 ≤ y84 →
                is_c h84 a0 [4] (
                w_X5_greatest a0 h84 (fun y96 h96 =>
                is_c h96 a0 [4] (
                w_X5_key a0 y96 h96 (fun y99 h99 =>
                vf_n32 (FP.fadd y99 FP.fconst1) ∧
                w_X5_addShape_104 P a0 a1 a2 a3 a4 a5 a6 (FP.fadd y99 FP.fconst1) h99))))) ∧
               (¬ 0 ≤ y84 →
                w_X5_addShape_104 P a0 a1 a2 a3 a4 a5 a6 FP.fconst0 h84)))))))))))))))))))))))
theorem wk_X5_addShape_104 {x : CX} (X : Ok x cX5_addShape RX5 rm_X5_addShape 8) (er : xrt x = (Option.some Jvm.ClassFile.FieldType.int)) (en : xnm x = yX5_addShape.name) {P : Int32 → AH → Prop} (hQ : xr_i x P) (x0 : Option Nat) (x1 : Int32) (x2 : Int32) (x3 : Int32) (x4 : Int32) (x5 : Int32) (x6 : Int32) (t0 : UInt32) (h : AH) (hw : w_X5_addShape_104 P x0 x1 x2 x3 x4 x5 x6 t0 h) : J x h 0 0 104 [(0, vR x0), (1, vI x1), (2, vI x2), (3, vI x3), (4, vI x4), (5, vI x5), (6, vI x6)] [vF t0] := by
  refine j_fstore X (pc := 104) [(7, vF t0), (0, vR x0), (1, vI x1), (2, vI x2), (3, vI x3), (4, vI x4), (5, vI x5), (6, vI x6)] dX5_addShape_104 (Nat.le_of_ble_eq_true rfl) rfl ?_
  refine j_aload_n X (pc := 106) 1 dX5_addShape_106 rfl rfl ?_
  refine j_getq (ci := 4) X (pc := 107) in_X5 rfl (by decide) 1 (by decide) q1873 (Or.inl rfl) dX5_addShape_107 hw (fun y107 hw => ?_)
  refine j_aload_n X (pc := 110) 1 dX5_addShape_110 rfl rfl ?_
  refine j_geti (ci := 4) X (pc := 111) in_X5 rfl (by decide) 8 (by decide) q1880 (Or.inl rfl) dX5_addShape_111 hw (fun y111 hw => ?_)
  refine j_iload X (pc := 114) 5 dX5_addShape_114 rfl ?_
  refine j_iast X (pc := 116) 0 rfl rfl dX5_addShape_116 hw (fun h116 hw => ?_)
  refine j_aload_n X (pc := 117) 1 dX5_addShape_117 rfl rfl ?_
  refine j_getq (ci := 4) X (pc := 118) in_X5 rfl (by decide) 2 (by decide) q1874 (Or.inl rfl) dX5_addShape_118 hw (fun y118 hw => ?_)
  refine j_aload_n X (pc := 121) 1 dX5_addShape_121 rfl rfl ?_
  refine j_geti (ci := 4) X (pc := 122) in_X5 rfl (by decide) 8 (by decide) q1880 (Or.inl rfl) dX5_addShape_122 hw (fun y122 hw => ?_)
  refine j_iload X (pc := 125) 6 dX5_addShape_125 rfl ?_
  refine j_iast X (pc := 127) 0 rfl rfl dX5_addShape_127 hw (fun h127 hw => ?_)
  refine j_aload_n X (pc := 128) 1 dX5_addShape_128 rfl rfl ?_
  refine j_getq (ci := 4) X (pc := 129) in_X5 rfl (by decide) 5 (by decide) q1877 (Or.inl rfl) dX5_addShape_129 hw (fun y129 hw => ?_)
  refine j_aload_n X (pc := 132) 1 dX5_addShape_132 rfl rfl ?_
  refine j_geti (ci := 4) X (pc := 133) in_X5 rfl (by decide) 8 (by decide) q1880 (Or.inl rfl) dX5_addShape_133 hw (fun y133 hw => ?_)
  refine j_iload X (pc := 136) 7 dX5_addShape_136 rfl ?_
  have hnr := hw.1
  have hw := hw.2
  refine j_zast X (pc := 138) 1 rfl rfl hnr dX5_addShape_138 hw (fun h138 hw => ?_)
  refine j_aload_n X (pc := 139) 1 dX5_addShape_139 rfl rfl ?_
  refine j_aload_n X (pc := 140) 1 dX5_addShape_140 rfl rfl ?_
  refine j_geti (ci := 4) X (pc := 141) in_X5 rfl (by decide) 8 (by decide) q1880 (Or.inl rfl) dX5_addShape_141 hw (fun y141 hw => ?_)
  refine j_iconst X (pc := 144) 1 dX5_addShape_144 (by decide) ?_
  obtain ⟨b9, c9, f9, hr9, ho9, hc9, hw⟩ := hw
  obtain rfl := List.mem_singleton.mp hc9
  refine j_callv (j_runV (n8 := 2) (As := [vI y141, vI 1]) (rest := []) X (pc := 145) hr9 (met_X5_plans (xl x) X.hl (xG x) h138 x0 y141 1 _ hw) ho9 (by decide) rfl q2021 q2023 qs41 q78 q2024 (by decide +kernel) dX5_addShape_145 rfl ⟨Nat.le_of_ble_eq_true rfl, Nat.le_of_ble_eq_true rfl⟩ (Nat.le_of_ble_eq_true rfl) ⟨Nat.le_of_ble_eq_true rfl, Nat.le_of_ble_eq_true rfl⟩) (fun h145 hw => ?_)
  refine j_aload_n X (pc := 148) 1 dX5_addShape_148 rfl rfl ?_
  refine j_bipush X (pc := 149) 12 dX5_addShape_149 (by decide) ?_
  refine j_aload_n X (pc := 151) 1 dX5_addShape_151 rfl rfl ?_
  refine j_geti (ci := 4) X (pc := 152) in_X5 rfl (by decide) 8 (by decide) q1880 (Or.inl rfl) dX5_addShape_152 hw (fun y152 hw => ?_)
  refine j_iadd X (pc := 155) dX5_addShape_155 ?_
  refine j_bipush X (pc := 156) 32 dX5_addShape_156 (by decide) ?_
  refine j_iload_n X (pc := 158) 3 dX5_addShape_158 rfl rfl ?_
  refine j_imul X (pc := 159) dX5_addShape_159 ?_
  refine j_iload_n X (pc := 160) 4 dX5_addShape_160 rfl rfl ?_
  refine j_iadd X (pc := 161) dX5_addShape_161 ?_
  obtain ⟨b9, c9, f9, hr9, ho9, hc9, hw⟩ := hw
  obtain rfl := List.mem_singleton.mp hc9
  refine j_callv (j_runV (n8 := 2) (As := [vI (12 + y152), vI ((32 * x2) + x3)]) (rest := []) X (pc := 162) hr9 (met_X5_plans (xl x) X.hl (xG x) h145 x0 (12 + y152) ((32 * x2) + x3) _ hw) ho9 (by decide) rfl q2021 q2023 qs41 q78 q2024 (by decide +kernel) dX5_addShape_162 rfl ⟨Nat.le_of_ble_eq_true rfl, Nat.le_of_ble_eq_true rfl⟩ (Nat.le_of_ble_eq_true rfl) ⟨Nat.le_of_ble_eq_true rfl, Nat.le_of_ble_eq_true rfl⟩) (fun h162 hw => ?_)
  refine j_aload_n X (pc := 165) 1 dX5_addShape_165 rfl rfl ?_
  refine j_bipush X (pc := 166) 24 dX5_addShape_166 (by decide) ?_
  refine j_aload_n X (pc := 168) 1 dX5_addShape_168 rfl rfl ?_
  refine j_geti (ci := 4) X (pc := 169) in_X5 rfl (by decide) 8 (by decide) q1880 (Or.inl rfl) dX5_addShape_169 hw (fun y169 hw => ?_)
  refine j_iadd X (pc := 172) dX5_addShape_172 ?_
  refine j_fload X (pc := 173) 0 dX5_addShape_173 rfl ?_
  refine j_calli (j_runS (n8 := 1) (As := [vF t0]) (rest := [vI (24 + y169), vR x0]) X (pc := 175) (met_J13_floatToIntBits (xl x) X.hl (xG x) h162 t0 _ hw) q2029 q681 q91 q682 (by decide +kernel) dX5_addShape_175 rfl ⟨Nat.le_of_ble_eq_true rfl, Nat.le_of_ble_eq_true rfl⟩ (Nat.le_of_ble_eq_true rfl) ⟨Nat.le_of_ble_eq_true rfl, Nat.le_of_ble_eq_true rfl⟩) (fun y175 h175 hw => ?_)
  obtain ⟨b9, c9, f9, hr9, ho9, hc9, hw⟩ := hw
  obtain rfl := List.mem_singleton.mp hc9
  refine j_callv (j_runV (n8 := 2) (As := [vI (24 + y169), vI y175]) (rest := []) X (pc := 178) hr9 (met_X5_plans (xl x) X.hl (xG x) h175 x0 (24 + y169) y175 _ hw) ho9 (by decide) rfl q2021 q2023 qs41 q78 q2024 (by decide +kernel) dX5_addShape_178 rfl ⟨Nat.le_of_ble_eq_true rfl, Nat.le_of_ble_eq_true rfl⟩ (Nat.le_of_ble_eq_true rfl) ⟨Nat.le_of_ble_eq_true rfl, Nat.le_of_ble_eq_true rfl⟩) (fun h178 hw => ?_)
  refine j_aload_n X (pc := 181) 1 dX5_addShape_181 rfl rfl ?_
  refine j_dup X (pc := 182) dX5_addShape_182 rfl ?_
  refine j_geti (ci := 4) X (pc := 183) in_X5 rfl (by decide) 8 (by decide) q1880 (Or.inl rfl) dX5_addShape_183 hw (fun y183 hw => ?_)
  refine j_iconst X (pc := 186) 1 dX5_addShape_186 (by decide) ?_
  refine j_iadd X (pc := 187) dX5_addShape_187 ?_
  refine j_put (ci := 4) X (pc := 188) in_X5 rfl (by decide) 8 (by decide) q1880 (Or.inl rfl) tyX5 tyX5_ok nmX5 rfl rfl (ty := .int) (tyX5_ok 8 (by decide)) rfl rfl dX5_addShape_188 hw (fun h188 hw => ?_)
  refine j_aload_n X (pc := 191) 1 dX5_addShape_191 rfl rfl ?_
  refine j_iload_n X (pc := 192) 2 dX5_addShape_192 rfl rfl ?_
  refine j_iconst X (pc := 193) 1 dX5_addShape_193 (by decide) ?_
  obtain ⟨b9, c9, f9, hr9, ho9, hc9, hw⟩ := hw
  obtain rfl := List.mem_singleton.mp hc9
  refine j_callv (j_runV (n8 := 2) (As := [vI x1, vI 1]) (rest := []) X (pc := 194) hr9 (met_X5_makes (xl x) X.hl (xG x) h188 x0 x1 1 _ hw) ho9 (by decide) rfl q2030 q2032 qs43 q78 q2033 (by decide +kernel) dX5_addShape_194 rfl ⟨Nat.le_of_ble_eq_true rfl, Nat.le_of_ble_eq_true rfl⟩ (Nat.le_of_ble_eq_true rfl) ⟨Nat.le_of_ble_eq_true rfl, Nat.le_of_ble_eq_true rfl⟩) (fun h194 hw => ?_)
  refine j_aload_n X (pc := 197) 1 dX5_addShape_197 rfl rfl ?_
  refine j_geti (ci := 4) X (pc := 198) in_X5 rfl (by decide) 8 (by decide) q1880 (Or.inl rfl) dX5_addShape_198 hw (fun y198 hw => ?_)
  refine j_iconst X (pc := 201) 1 dX5_addShape_201 (by decide) ?_
  refine j_isub X (pc := 202) dX5_addShape_202 ?_
  exact j_iret X (pc := 203) hQ er (Nat.le_of_ble_eq_true rfl) (Nat.le_of_ble_eq_true rfl) dX5_addShape_203 hw
theorem met_X5_addShape (l : Launch) (hlt : l.stackTraces = false) (G : GG) (h : AH) (a0 : Option Nat) (a1 : Int32) (a2 : Int32) (a3 : Int32) (a4 : Int32) (a5 : Int32) (a6 : Int32) (P : Int32 → AH → Prop) (hw : w_X5_addShape a0 a1 a2 a3 a4 a5 a6 h P) : ct_i l yX5_addShape (ws_ yX5_addShape cX5_addShape 8 (Option.some Jvm.ClassFile.FieldType.int)) rm_X5_addShape G h [vR a0, vI a1, vI a2, vI a3, vI a4, vI a5, vI a6] P := by
  refine j_starti hlt [(0, vR a0), (1, vI a1), (2, vI a2), (3, vI a3), (4, vI a4), (5, vI a5), (6, vI a6)] (plainFor_of_name (by decide)) rfl rfl (fun x X eG er en hQ => ?_)
  subst eG
  refine j_aload_n X (pc := 0) 0 dX5_addShape_0 rfl rfl ?_
  refine j_iconst X (pc := 1) 0 dX5_addShape_1 (by decide) ?_
  refine j_put (ci := 4) X (pc := 2) in_X5 rfl (by decide) 0 (by decide) q1872 (Or.inl rfl) tyX5 tyX5_ok nmX5 rfl rfl (ty := .int) (tyX5_ok 0 (by decide)) rfl rfl dX5_addShape_2 hw (fun h2 hw => ?_)
  refine j_iload_n X (pc := 5) 1 dX5_addShape_5 rfl rfl ?_
  refine j_calli (j_runS (n8 := 1) (As := [vI a1]) (rest := []) X (pc := 6) (met_X5_isUser (xl x) X.hl (xG x) h2 a1 _ hw) q1978 q1979 q78 q1980 (by decide +kernel) dX5_addShape_6 rfl ⟨Nat.le_of_ble_eq_true rfl, Nat.le_of_ble_eq_true rfl⟩ (Nat.le_of_ble_eq_true rfl) ⟨Nat.le_of_ble_eq_true rfl, Nat.le_of_ble_eq_true rfl⟩) (fun y6 h6 hw => ?_)
  refine j_if_eq X (pc := 9) 47 dX5_addShape_9 (by decide) hw (fun hw => ?_) (fun hw => ?_)
  · refine j_aload_n X (pc := 47) 0 dX5_addShape_47 rfl rfl ?_
    refine j_iconst X (pc := 48) 1 dX5_addShape_48 (by decide) ?_
    obtain ⟨b9, c9, f9, hr9, ho9, hc9, hw⟩ := hw
    obtain rfl := List.mem_singleton.mp hc9
    refine j_calli (j_runV (n8 := 1) (As := [vI 1]) (rest := []) X (pc := 49) hr9 (met_X5_fails (xl x) X.hl (xG x) h6 a0 1 _ hw) ho9 (by decide) rfl q1988 q1990 qs33 q78 q1991 (by decide +kernel) dX5_addShape_49 rfl ⟨Nat.le_of_ble_eq_true rfl, Nat.le_of_ble_eq_true rfl⟩ (Nat.le_of_ble_eq_true rfl) ⟨Nat.le_of_ble_eq_true rfl, Nat.le_of_ble_eq_true rfl⟩) (fun y49 h49 hw => ?_)
    exact j_iret X (pc := 52) hQ er (Nat.le_of_ble_eq_true rfl) (Nat.le_of_ble_eq_true rfl) dX5_addShape_52 hw
  · refine j_iload X (pc := 12) 4 dX5_addShape_12 rfl ?_
    refine j_iconst X (pc := 14) 1 dX5_addShape_14 (by decide) ?_
    refine j_bipush X (pc := 15) 8 dX5_addShape_15 (by decide) ?_
    refine j_calli (j_runS (n8 := 3) (As := [vI a4, vI 1, vI 8]) (rest := []) X (pc := 17) (met_X5_isBetween (xl x) X.hl (xG x) h6 a4 1 8 _ hw) q1981 q1982 q78 q1983 (by decide +kernel) dX5_addShape_17 rfl ⟨Nat.le_of_ble_eq_true rfl, Nat.le_of_ble_eq_true rfl⟩ (Nat.le_of_ble_eq_true rfl) ⟨Nat.le_of_ble_eq_true rfl, Nat.le_of_ble_eq_true rfl⟩) (fun y17 h17 hw => ?_)
    refine j_if_eq X (pc := 20) 47 dX5_addShape_20 (by decide) hw (fun hw => ?_) (fun hw => ?_)
    · refine j_aload_n X (pc := 47) 0 dX5_addShape_47 rfl rfl ?_
      refine j_iconst X (pc := 48) 1 dX5_addShape_48 (by decide) ?_
      obtain ⟨b9, c9, f9, hr9, ho9, hc9, hw⟩ := hw
      obtain rfl := List.mem_singleton.mp hc9
      refine j_calli (j_runV (n8 := 1) (As := [vI 1]) (rest := []) X (pc := 49) hr9 (met_X5_fails (xl x) X.hl (xG x) h17 a0 1 _ hw) ho9 (by decide) rfl q1988 q1990 qs33 q78 q1991 (by decide +kernel) dX5_addShape_49 rfl ⟨Nat.le_of_ble_eq_true rfl, Nat.le_of_ble_eq_true rfl⟩ (Nat.le_of_ble_eq_true rfl) ⟨Nat.le_of_ble_eq_true rfl, Nat.le_of_ble_eq_true rfl⟩) (fun y49 h49 hw => ?_)
      exact j_iret X (pc := 52) hQ er (Nat.le_of_ble_eq_true rfl) (Nat.le_of_ble_eq_true rfl) dX5_addShape_52 hw
    · refine j_iload X (pc := 23) 5 dX5_addShape_23 rfl ?_
      refine j_iconst X (pc := 25) 1 dX5_addShape_25 (by decide) ?_
      refine j_bipush X (pc := 26) 8 dX5_addShape_26 (by decide) ?_
      refine j_calli (j_runS (n8 := 3) (As := [vI a5, vI 1, vI 8]) (rest := []) X (pc := 28) (met_X5_isBetween (xl x) X.hl (xG x) h17 a5 1 8 _ hw) q1981 q1982 q78 q1983 (by decide +kernel) dX5_addShape_28 rfl ⟨Nat.le_of_ble_eq_true rfl, Nat.le_of_ble_eq_true rfl⟩ (Nat.le_of_ble_eq_true rfl) ⟨Nat.le_of_ble_eq_true rfl, Nat.le_of_ble_eq_true rfl⟩) (fun y28 h28 hw => ?_)
      refine j_if_eq X (pc := 31) 47 dX5_addShape_31 (by decide) hw (fun hw => ?_) (fun hw => ?_)
      · refine j_aload_n X (pc := 47) 0 dX5_addShape_47 rfl rfl ?_
        refine j_iconst X (pc := 48) 1 dX5_addShape_48 (by decide) ?_
        obtain ⟨b9, c9, f9, hr9, ho9, hc9, hw⟩ := hw
        obtain rfl := List.mem_singleton.mp hc9
        refine j_calli (j_runV (n8 := 1) (As := [vI 1]) (rest := []) X (pc := 49) hr9 (met_X5_fails (xl x) X.hl (xG x) h28 a0 1 _ hw) ho9 (by decide) rfl q1988 q1990 qs33 q78 q1991 (by decide +kernel) dX5_addShape_49 rfl ⟨Nat.le_of_ble_eq_true rfl, Nat.le_of_ble_eq_true rfl⟩ (Nat.le_of_ble_eq_true rfl) ⟨Nat.le_of_ble_eq_true rfl, Nat.le_of_ble_eq_true rfl⟩) (fun y49 h49 hw => ?_)
        exact j_iret X (pc := 52) hQ er (Nat.le_of_ble_eq_true rfl) (Nat.le_of_ble_eq_true rfl) dX5_addShape_52 hw
      · refine j_aload_n X (pc := 34) 0 dX5_addShape_34 rfl rfl ?_
        refine j_iload_n X (pc := 35) 2 dX5_addShape_35 rfl rfl ?_
        refine j_iload_n X (pc := 36) 3 dX5_addShape_36 rfl rfl ?_
        refine j_iload X (pc := 37) 4 dX5_addShape_37 rfl ?_
        refine j_iload X (pc := 39) 5 dX5_addShape_39 rfl ?_
        obtain ⟨b9, c9, f9, hr9, ho9, hc9, hw⟩ := hw
        obtain rfl := List.mem_singleton.mp hc9
        refine j_calli (j_runV (n8 := 4) (As := [vI a2, vI a3, vI a4, vI a5]) (rest := []) X (pc := 41) hr9 (met_X5_isOnBoard (xl x) X.hl (xG x) h28 a0 a2 a3 a4 a5 _ hw) ho9 (by decide) rfl q1984 q1986 qs32 q78 q1987 (by decide +kernel) dX5_addShape_41 rfl ⟨Nat.le_of_ble_eq_true rfl, Nat.le_of_ble_eq_true rfl⟩ (Nat.le_of_ble_eq_true rfl) ⟨Nat.le_of_ble_eq_true rfl, Nat.le_of_ble_eq_true rfl⟩) (fun y41 h41 hw => ?_)
        refine j_if_ne X (pc := 44) 53 dX5_addShape_44 (by decide) hw (fun hw => ?_) (fun hw => ?_)
        · refine j_aload_n X (pc := 47) 0 dX5_addShape_47 rfl rfl ?_
          refine j_iconst X (pc := 48) 1 dX5_addShape_48 (by decide) ?_
          obtain ⟨b9, c9, f9, hr9, ho9, hc9, hw⟩ := hw
          obtain rfl := List.mem_singleton.mp hc9
          refine j_calli (j_runV (n8 := 1) (As := [vI 1]) (rest := []) X (pc := 49) hr9 (met_X5_fails (xl x) X.hl (xG x) h41 a0 1 _ hw) ho9 (by decide) rfl q1988 q1990 qs33 q78 q1991 (by decide +kernel) dX5_addShape_49 rfl ⟨Nat.le_of_ble_eq_true rfl, Nat.le_of_ble_eq_true rfl⟩ (Nat.le_of_ble_eq_true rfl) ⟨Nat.le_of_ble_eq_true rfl, Nat.le_of_ble_eq_true rfl⟩) (fun y49 h49 hw => ?_)
          exact j_iret X (pc := 52) hQ er (Nat.le_of_ble_eq_true rfl) (Nat.le_of_ble_eq_true rfl) dX5_addShape_52 hw
        · refine j_aload_n X (pc := 53) 0 dX5_addShape_53 rfl rfl ?_
          refine j_geti (ci := 4) X (pc := 54) in_X5 rfl (by decide) 8 (by decide) q1880 (Or.inl rfl) dX5_addShape_54 hw (fun y54 hw => ?_)
          refine j_bipush X (pc := 57) 12 dX5_addShape_57 (by decide) ?_
          refine j_icmp_eq X (pc := 59) 72 dX5_addShape_59 (by decide) hw (fun hw => ?_) (fun hw => ?_)
          · refine j_aload_n X (pc := 72) 0 dX5_addShape_72 rfl rfl ?_
            refine j_iconst X (pc := 73) 2 dX5_addShape_73 (by decide) ?_
            obtain ⟨b9, c9, f9, hr9, ho9, hc9, hw⟩ := hw
            obtain rfl := List.mem_singleton.mp hc9
            refine j_calli (j_runV (n8 := 1) (As := [vI 2]) (rest := []) X (pc := 74) hr9 (met_X5_fails (xl x) X.hl (xG x) h41 a0 2 _ hw) ho9 (by decide) rfl q1988 q1990 qs33 q78 q1991 (by decide +kernel) dX5_addShape_74 rfl ⟨Nat.le_of_ble_eq_true rfl, Nat.le_of_ble_eq_true rfl⟩ (Nat.le_of_ble_eq_true rfl) ⟨Nat.le_of_ble_eq_true rfl, Nat.le_of_ble_eq_true rfl⟩) (fun y74 h74 hw => ?_)
            exact j_iret X (pc := 77) hQ er (Nat.le_of_ble_eq_true rfl) (Nat.le_of_ble_eq_true rfl) dX5_addShape_77 hw
          · refine j_aload_n X (pc := 62) 0 dX5_addShape_62 rfl rfl ?_
            refine j_geti (ci := 4) X (pc := 63) in_X5 rfl (by decide) 20 (by decide) q1892 (Or.inl rfl) dX5_addShape_63 hw (fun y63 hw => ?_)
            refine j_sipush X (pc := 66) 250 dX5_addShape_66 (by decide) ?_
            refine j_icmp_ne X (pc := 69) 78 dX5_addShape_69 (by decide) hw (fun hw => ?_) (fun hw => ?_)
            · refine j_aload_n X (pc := 72) 0 dX5_addShape_72 rfl rfl ?_
              refine j_iconst X (pc := 73) 2 dX5_addShape_73 (by decide) ?_
              obtain ⟨b9, c9, f9, hr9, ho9, hc9, hw⟩ := hw
              obtain rfl := List.mem_singleton.mp hc9
              refine j_calli (j_runV (n8 := 1) (As := [vI 2]) (rest := []) X (pc := 74) hr9 (met_X5_fails (xl x) X.hl (xG x) h41 a0 2 _ hw) ho9 (by decide) rfl q1988 q1990 qs33 q78 q1991 (by decide +kernel) dX5_addShape_74 rfl ⟨Nat.le_of_ble_eq_true rfl, Nat.le_of_ble_eq_true rfl⟩ (Nat.le_of_ble_eq_true rfl) ⟨Nat.le_of_ble_eq_true rfl, Nat.le_of_ble_eq_true rfl⟩) (fun y74 h74 hw => ?_)
              exact j_iret X (pc := 77) hQ er (Nat.le_of_ble_eq_true rfl) (Nat.le_of_ble_eq_true rfl) dX5_addShape_77 hw
            · refine j_aload_n X (pc := 78) 0 dX5_addShape_78 rfl rfl ?_
              refine j_iload_n X (pc := 79) 1 dX5_addShape_79 rfl rfl ?_
              obtain ⟨b9, c9, f9, hr9, ho9, hc9, hw⟩ := hw
              obtain rfl := List.mem_singleton.mp hc9
              refine j_callv (j_runV (n8 := 1) (As := [vI a1]) (rest := []) X (pc := 80) hr9 (met_X5_builds (xl x) X.hl (xG x) h41 a0 a1 _ hw) ho9 (by decide) rfl q1992 q1994 qs34 q78 q1995 (by decide +kernel) dX5_addShape_80 rfl ⟨Nat.le_of_ble_eq_true rfl, Nat.le_of_ble_eq_true rfl⟩ (Nat.le_of_ble_eq_true rfl) ⟨Nat.le_of_ble_eq_true rfl, Nat.le_of_ble_eq_true rfl⟩) (fun h80 hw => ?_)
              refine j_aload_n X (pc := 83) 0 dX5_addShape_83 rfl rfl ?_
              obtain ⟨b9, c9, f9, hr9, ho9, hc9, hw⟩ := hw
              obtain rfl := List.mem_singleton.mp hc9
              refine j_calli (j_runV (n8 := 0) (As := []) (rest := []) X (pc := 84) hr9 (met_X5_greatest (xl x) X.hl (xG x) h80 a0 _ hw) ho9 (by decide) rfl q2008 q2010 qs38 q78 q2011 (by decide +kernel) dX5_addShape_84 rfl ⟨Nat.le_of_ble_eq_true rfl, Nat.le_of_ble_eq_true rfl⟩ (Nat.le_of_ble_eq_true rfl) ⟨Nat.le_of_ble_eq_true rfl, Nat.le_of_ble_eq_true rfl⟩) (fun y84 h84 hw => ?_)
              refine j_if_ge X (pc := 87) 94 dX5_addShape_87 (by decide) hw (fun hw => ?_) (fun hw => ?_)
              · refine j_aload_n X (pc := 94) 0 dX5_addShape_94 rfl rfl ?_
                refine j_aload_n X (pc := 95) 0 dX5_addShape_95 rfl rfl ?_
                obtain ⟨b9, c9, f9, hr9, ho9, hc9, hw⟩ := hw
                obtain rfl := List.mem_singleton.mp hc9
                refine j_calli (j_runV (n8 := 0) (As := []) (rest := [vR a0]) X (pc := 96) hr9 (met_X5_greatest (xl x) X.hl (xG x) h84 a0 _ hw) ho9 (by decide) rfl q2008 q2010 qs38 q78 q2011 (by decide +kernel) dX5_addShape_96 rfl ⟨Nat.le_of_ble_eq_true rfl, Nat.le_of_ble_eq_true rfl⟩ (Nat.le_of_ble_eq_true rfl) ⟨Nat.le_of_ble_eq_true rfl, Nat.le_of_ble_eq_true rfl⟩) (fun y96 h96 hw => ?_)
                obtain ⟨b9, c9, f9, hr9, ho9, hc9, hw⟩ := hw
                obtain rfl := List.mem_singleton.mp hc9
                refine j_callf (j_runV (n8 := 1) (As := [vI y96]) (rest := []) X (pc := 99) hr9 (met_X5_key (xl x) X.hl (xG x) h96 a0 y96 _ hw) ho9 (by decide) rfl q2016 q2018 qs40 q78 q2019 (by decide +kernel) dX5_addShape_99 rfl ⟨Nat.le_of_ble_eq_true rfl, Nat.le_of_ble_eq_true rfl⟩ (Nat.le_of_ble_eq_true rfl) ⟨Nat.le_of_ble_eq_true rfl, Nat.le_of_ble_eq_true rfl⟩) (fun y99 h99 hw => ?_)
                refine j_fconst1 X (pc := 102) dX5_addShape_102 ?_
                refine j_fadd X (pc := 103) dX5_addShape_103 hw (fun hw => ?_)
                refine j_cs (u' := 0) (v' := 0) (Nat.le_of_ble_eq_true rfl) (Nat.le_of_ble_eq_true rfl) ?_
                exact wk_X5_addShape_104 X er en hQ a0 a1 a2 a3 a4 a5 a6 (FP.fadd y99 FP.fconst1) h99 hw
              · refine j_fconst0 X (pc := 90) dX5_addShape_90 ?_
                refine j_goto X (pc := 91) 104 dX5_addShape_91 (by decide) ?_
                refine j_cs (u' := 0) (v' := 0) (Nat.le_of_ble_eq_true rfl) (Nat.le_of_ble_eq_true rfl) ?_
                exact wk_X5_addShape_104 X er en hQ a0 a1 a2 a3 a4 a5 a6 FP.fconst0 h84 hw
abbrev cX5_thrown : ByteArray := prog_19_method_2_code
def yX5_thrown : MethodName := ⟨RX5, "thrown", "()I"⟩
theorem dX5_thrown_0 : decode cX5_thrown 0 = .ok (.aload_n 0, 1) := by decide +kernel
theorem dX5_thrown_1 : decode cX5_thrown 1 = .ok (.getfield 97, 3) := by decide +kernel
theorem dX5_thrown_4 : decode cX5_thrown 4 = .ok (.ireturn, 1) := by decide +kernel
abbrev rm_X5_thrown : Room := { frames := 0, cells := 0, slots := 0, locals := 0 }
def w_X5_thrown (a0 : Option Nat) (h : AH) (P : Int32 → AH → Prop) : Prop :=
  g_i h a0 4 0 fun y1 =>
  P y1 h
theorem met_X5_thrown (l : Launch) (hlt : l.stackTraces = false) (G : GG) (h : AH) (a0 : Option Nat) (P : Int32 → AH → Prop) (hw : w_X5_thrown a0 h P) : ct_i l yX5_thrown (ws_ yX5_thrown cX5_thrown 1 (Option.some Jvm.ClassFile.FieldType.int)) rm_X5_thrown G h [vR a0] P := by
  refine j_starti hlt [(0, vR a0)] (plainFor_of_name (by decide)) rfl rfl (fun x X eG er en hQ => ?_)
  subst eG
  refine j_aload_n X (pc := 0) 0 dX5_thrown_0 rfl rfl ?_
  refine j_geti (ci := 4) X (pc := 1) in_X5 rfl (by decide) 0 (by decide) q1872 (Or.inl rfl) dX5_thrown_1 hw (fun y1 hw => ?_)
  exact j_iret X (pc := 4) hQ er (Nat.le_of_ble_eq_true rfl) (Nat.le_of_ble_eq_true rfl) dX5_thrown_4 hw
abbrev cX1_requireElement : ByteArray := prog_1_method_5_code
def yX1_requireElement : MethodName := ⟨RX1, "requireElement", "(Z)V"⟩
def dkwX1_requireElement_0 : List UInt8 := [26, 154, 0, 11, 187, 0, 15, 89, 183, 0, 17, 191, 177]
abbrev dktX1_requireElement_0 : List UInt8 := dkwX1_requireElement_0 ++ []
theorem dksX1_requireElement_0 : cX1_requireElement.data.toList.drop 0 = dktX1_requireElement_0 := by decide +kernel
theorem dX1_requireElement_0 : decode cX1_requireElement 0 = .ok (.iload_n 0, 1) := dk_26 (dk_at dksX1_requireElement_0 0 rfl rfl)
theorem dX1_requireElement_1 : decode cX1_requireElement 1 = .ok (.ifCond .ne 11, 3) := dk_154 0 11 (dk_at dksX1_requireElement_0 1 rfl rfl)
theorem dX1_requireElement_4 : decode cX1_requireElement 4 = .ok (.new 15, 3) := dk_187 0 15 (dk_at dksX1_requireElement_0 4 rfl rfl)
theorem dX1_requireElement_7 : decode cX1_requireElement 7 = .ok (.dup, 1) := dk_89 (dk_at dksX1_requireElement_0 7 rfl rfl)
theorem dX1_requireElement_8 : decode cX1_requireElement 8 = .ok (.invokespecial 17, 3) := dk_183 0 17 (dk_at dksX1_requireElement_0 8 rfl rfl)
theorem dX1_requireElement_11 : decode cX1_requireElement 11 = .ok (.athrow, 1) := dk_191 (dk_at dksX1_requireElement_0 11 rfl rfl)
theorem dX1_requireElement_12 : decode cX1_requireElement 12 = .ok (.return_, 1) := dk_177 (dk_at dksX1_requireElement_0 12 rfl rfl)
theorem q89 : (Jvm.Cond.initialized "java/util/NoSuchElementException") ∈ lw_all := lw_g (lw_at lw_m1 19 rfl) rfl
theorem q1083 : (Jvm.Cond.classLink "Plugboard" (15 : Nat) "java/util/NoSuchElementException") ∈ lw_all := lw_g (lw_at lw_m5 53 rfl) rfl
abbrev rm_X1_requireElement : Room := { frames := 6, cells := 1, slots := 6, locals := 81 }
theorem at_X1_requireElement_4 : ∀ w ∈ vx_at0 RX1 17 "java/util/NoSuchElementException" ["java/lang/RuntimeException", "java/lang/Exception"], w ∈ lw_tbl := ah_in _ [79, 332, 341, 350, 353, 355, 333, 334, 125, 126, 335, 340, 351, 368, 322, 369, 324, 370, 326, 336, 338, 328, 545, 546, 547, 360, 313, 360, 361, 362, 363, 315, 363, 364, 365, 333, 317, 1084, 536, 537, 538, 349, 539, 540, 541, 542, 366, 330, 543] (by decide +kernel)
def w_X1_requireElement (a0 : Int32) (h : AH) (P : AH → Prop) (PX : String → AH → Prop) : Prop :=
  ((a0 = 0 →
    PX "java/util/NoSuchElementException" h) ∧
   (¬ a0 = 0 →
    P h))
theorem met_X1_requireElement (l : Launch) (hlt : l.stackTraces = false) (G : GG) (h : AH) (a0 : Int32) (P : AH → Prop) (PX : String → AH → Prop) (hw : w_X1_requireElement a0 h P PX) : cx_v l yX1_requireElement (ws_ yX1_requireElement cX1_requireElement 1 (Option.none : Option Jvm.ClassFile.FieldType)) rm_X1_requireElement G h [vI a0] P PX := by
  refine j_startXv hlt [(0, vI a0)] (by decide) rfl rfl (fun x X eG er en hQ hT hex => ?_)
  subst eG
  refine j_iload_n X (pc := 0) 0 dX1_requireElement_0 rfl rfl ?_
  refine j_if_ne X (pc := 1) 12 dX1_requireElement_1 (by decide) hw (fun hw => ?_) (fun hw => ?_)
  · exact j_throw X (pc := 4) (names := ["java/lang/RuntimeException", "java/lang/Exception"]) hT hex (by decide +kernel) (by decide +kernel) q1083 q89 at_X1_requireElement_4 (by decide +kernel) dX1_requireElement_4 dX1_requireElement_7 dX1_requireElement_8 dX1_requireElement_11 ⟨Nat.le_of_ble_eq_true rfl, Nat.le_of_ble_eq_true rfl⟩ (Nat.le_of_ble_eq_true rfl) (Nat.le_of_ble_eq_true rfl) hw
  · exact j_vret X (pc := 12) hQ er (Nat.le_of_ble_eq_true rfl) (Nat.le_of_ble_eq_true rfl) dX1_requireElement_12 hw
abbrev cX1_shape : ByteArray := prog_1_method_11_code
def yX1_shape : MethodName := ⟨RX1, "shape", "(LPlugboard$Board;I)LPlugboard$Shape;"⟩
def dkwX1_shape_0 : List UInt8 := [43, 28, 182, 0, 113, 184, 0, 117, 42, 180, 0, 55, 28, 182, 0, 121, 192, 0, 124, 176]
abbrev dktX1_shape_0 : List UInt8 := dkwX1_shape_0 ++ []
theorem dksX1_shape_0 : cX1_shape.data.toList.drop 0 = dktX1_shape_0 := by decide +kernel
theorem dX1_shape_0 : decode cX1_shape 0 = .ok (.aload_n 1, 1) := dk_43 (dk_at dksX1_shape_0 0 rfl rfl)
theorem dX1_shape_1 : decode cX1_shape 1 = .ok (.iload_n 2, 1) := dk_28 (dk_at dksX1_shape_0 1 rfl rfl)
theorem dX1_shape_2 : decode cX1_shape 2 = .ok (.invokevirtual 113, 3) := dk_182 0 113 (dk_at dksX1_shape_0 2 rfl rfl)
theorem dX1_shape_5 : decode cX1_shape 5 = .ok (.invokestatic 117, 3) := dk_184 0 117 (dk_at dksX1_shape_0 5 rfl rfl)
theorem dX1_shape_8 : decode cX1_shape 8 = .ok (.aload_n 0, 1) := dk_42 (dk_at dksX1_shape_0 8 rfl rfl)
theorem dX1_shape_9 : decode cX1_shape 9 = .ok (.getfield 55, 3) := dk_180 0 55 (dk_at dksX1_shape_0 9 rfl rfl)
theorem dX1_shape_12 : decode cX1_shape 12 = .ok (.iload_n 2, 1) := dk_28 (dk_at dksX1_shape_0 12 rfl rfl)
theorem dX1_shape_13 : decode cX1_shape 13 = .ok (.invokevirtual 121, 3) := dk_182 0 121 (dk_at dksX1_shape_0 13 rfl rfl)
theorem dX1_shape_16 : decode cX1_shape 16 = .ok (.checkcast 124, 3) := dk_192 0 124 (dk_at dksX1_shape_0 16 rfl rfl)
theorem dX1_shape_19 : decode cX1_shape 19 = .ok (.areturn, 1) := dk_176 (dk_at dksX1_shape_0 19 rfl rfl)
theorem q1074 : (Jvm.Cond.methodLink "Plugboard" (121 : Nat) ({ cls := "java/util/ArrayList", name := "get", desc := "(I)Ljava/lang/Object;" } : Jvm.MethodName)) ∈ lw_all := lw_g (lw_at lw_m5 44 rfl) rfl
theorem q1079 : (Jvm.Cond.methodLink "Plugboard" (113 : Nat) ({ cls := "Plugboard$Board", name := "sees", desc := "(I)Z" } : Jvm.MethodName)) ∈ lw_all := lw_g (lw_at lw_m5 49 rfl) rfl
theorem q1080 : (Jvm.Cond.methodLink "Plugboard" (117 : Nat) ({ cls := "Plugboard", name := "requireElement", desc := "(Z)V" } : Jvm.MethodName)) ∈ lw_all := lw_g (lw_at lw_m5 50 rfl) rfl
theorem q1081 : (Jvm.Cond.static ({ cls := "Plugboard", name := "requireElement", desc := "(Z)V" } : Jvm.MethodName)) ∈ lw_all := lw_g (lw_at lw_m5 51 rfl) rfl
theorem q1082 : (Jvm.Cond.code ({ cls := "Plugboard", name := "requireElement", desc := "(Z)V" } : Jvm.MethodName) prog_1_method_5_code (1 : Nat) (Option.none : Option Jvm.ClassFile.FieldType)) ∈ lw_all := lw_g (lw_at lw_m5 52 rfl) rfl
abbrev rm_X1_shape : Room := { frames := 7, cells := 1, slots := 6, locals := 101 }
def w_X1_shape (a0 : Option Nat) (a1 : Option Nat) (a2 : Int32) (h : AH) (P : Option Nat → AH → Prop) (PX : String → AH → Prop) : Prop :=
  is_c h a1 [2] (
  w_X3_sees a1 a2 h (fun y2 h2 =>
  w_X1_requireElement y2 h2 (fun h5 =>
  g_q h5 a0 0 0 fun y9 =>
  is_c h5 y9 [15] (
  w_J2_get y9 a2 h5 (fun y13 h13 =>
  is_c h13 y13 [7, 8] (
  P y13 h13)))) PX))
theorem met_X1_shape (l : Launch) (hlt : l.stackTraces = false) (G : GG) (h : AH) (a0 : Option Nat) (a1 : Option Nat) (a2 : Int32) (P : Option Nat → AH → Prop) (PX : String → AH → Prop) (hw : w_X1_shape a0 a1 a2 h P PX) : cx_q l yX1_shape (ws_ yX1_shape cX1_shape 3 (Option.some (Jvm.ClassFile.FieldType.object "Plugboard$Shape"))) rm_X1_shape G h [vR a0, vR a1, vI a2] P PX := by
  refine j_startXq hlt [(0, vR a0), (1, vR a1), (2, vI a2)] (by decide) rfl rfl (fun x X eG er en hQ hT hex => ?_)
  subst eG
  refine j_aload_n X (pc := 0) 1 dX1_shape_0 rfl rfl ?_
  refine j_iload_n X (pc := 1) 2 dX1_shape_1 rfl rfl ?_
  obtain ⟨b9, c9, f9, hr9, ho9, hc9, hw⟩ := hw
  obtain rfl := List.mem_singleton.mp hc9
  refine j_calli (j_runV (n8 := 1) (As := [vI a2]) (rest := []) X (pc := 2) hr9 (met_X3_sees (xl x) X.hl (xG x) h a1 a2 _ hw) ho9 (by decide) rfl q1079 q410 q411 q76 q412 (by decide +kernel) dX1_shape_2 rfl ⟨Nat.le_of_ble_eq_true rfl, Nat.le_of_ble_eq_true rfl⟩ (Nat.le_of_ble_eq_true rfl) ⟨Nat.le_of_ble_eq_true rfl, Nat.le_of_ble_eq_true rfl⟩) (fun y2 h2 hw => ?_)
  refine j_callXv (j_runSX (n8 := 1) (As := [vI y2]) (rest := []) X (pc := 5) (met_X1_requireElement (xl x) X.hl (xG x) h2 y2 _ _ hw) q1080 q1081 q71 q1082 (by decide +kernel) dX1_shape_5 rfl ⟨Nat.le_of_ble_eq_true rfl, Nat.le_of_ble_eq_true rfl⟩ (Nat.le_of_ble_eq_true rfl) ⟨Nat.le_of_ble_eq_true rfl, Nat.le_of_ble_eq_true rfl⟩) (fun E h9 hx => j_out X hT hex (Nat.le_of_ble_eq_true rfl) (Nat.le_of_ble_eq_true rfl) hx) (fun h5 hw => ?_)
  refine j_aload_n X (pc := 8) 0 dX1_shape_8 rfl rfl ?_
  refine j_getq (ci := 0) X (pc := 9) in_X1 rfl (by decide) 0 (by decide) q240 (Or.inl rfl) dX1_shape_9 hw (fun y9 hw => ?_)
  refine j_iload_n X (pc := 12) 2 dX1_shape_12 rfl rfl ?_
  obtain ⟨b9, c9, f9, hr9, ho9, hc9, hw⟩ := hw
  obtain rfl := List.mem_singleton.mp hc9
  refine j_callq (j_runV (n8 := 1) (As := [vI a2]) (rest := []) X (pc := 13) hr9 (met_J2_get (xl x) X.hl (xG x) h5 y9 a2 _ hw) ho9 (by decide) rfl q1074 q512 q513 q74 q514 (by decide +kernel) dX1_shape_13 rfl ⟨Nat.le_of_ble_eq_true rfl, Nat.le_of_ble_eq_true rfl⟩ (Nat.le_of_ble_eq_true rfl) ⟨Nat.le_of_ble_eq_true rfl, Nat.le_of_ble_eq_true rfl⟩) (fun y13 h13 hw => ?_)
  refine j_chk X (pc := 16) (L := [7, 8]) q550 (by intro ci hci; simp only [List.mem_cons, List.not_mem_nil, or_false] at hci; rcases hci with rfl | rfl <;> first | exact ⟨by decide, _, _, _, rfl, Or.inr q2343⟩ | exact ⟨by decide, _, _, _, rfl, Or.inr q2344⟩) dX1_shape_16 hw (fun hw => ?_)
  exact j_aret X (pc := 19) (ty := (.object "Plugboard$Shape")) hQ er (Or.inl ⟨_, rfl⟩) (Nat.le_of_ble_eq_true rfl) (Nat.le_of_ble_eq_true rfl) dX1_shape_19 hw
abbrev cX3_lockerOf : ByteArray := prog_3_method_8_code
def yX3_lockerOf : MethodName := ⟨RX3, "lockerOf", "(LPlugboard$Shape;)I"⟩
def dkwX3_lockerOf_0 : List UInt8 := [42, 180, 0, 18, 180, 0, 80, 16, 36, 43, 180, 0, 103, 96, 46, 4, 100, 172]
abbrev dktX3_lockerOf_0 : List UInt8 := dkwX3_lockerOf_0 ++ []
theorem dksX3_lockerOf_0 : cX3_lockerOf.data.toList.drop 0 = dktX3_lockerOf_0 := by decide +kernel
theorem dX3_lockerOf_0 : decode cX3_lockerOf 0 = .ok (.aload_n 0, 1) := dk_42 (dk_at dksX3_lockerOf_0 0 rfl rfl)
theorem dX3_lockerOf_1 : decode cX3_lockerOf 1 = .ok (.getfield 18, 3) := dk_180 0 18 (dk_at dksX3_lockerOf_0 1 rfl rfl)
theorem dX3_lockerOf_4 : decode cX3_lockerOf 4 = .ok (.getfield 80, 3) := dk_180 0 80 (dk_at dksX3_lockerOf_0 4 rfl rfl)
theorem dX3_lockerOf_7 : decode cX3_lockerOf 7 = .ok (.bipush 36, 2) := dk_16 36 (dk_at dksX3_lockerOf_0 7 rfl rfl)
theorem dX3_lockerOf_9 : decode cX3_lockerOf 9 = .ok (.aload_n 1, 1) := dk_43 (dk_at dksX3_lockerOf_0 9 rfl rfl)
theorem dX3_lockerOf_10 : decode cX3_lockerOf 10 = .ok (.getfield 103, 3) := dk_180 0 103 (dk_at dksX3_lockerOf_0 10 rfl rfl)
theorem dX3_lockerOf_13 : decode cX3_lockerOf 13 = .ok (.iadd, 1) := dk_96 (dk_at dksX3_lockerOf_0 13 rfl rfl)
theorem dX3_lockerOf_14 : decode cX3_lockerOf 14 = .ok (.iaload, 1) := dk_46 (dk_at dksX3_lockerOf_0 14 rfl rfl)
theorem dX3_lockerOf_15 : decode cX3_lockerOf 15 = .ok (.iconst 1, 1) := dk_4 (dk_at dksX3_lockerOf_0 15 rfl rfl)
theorem dX3_lockerOf_16 : decode cX3_lockerOf 16 = .ok (.isub, 1) := dk_100 (dk_at dksX3_lockerOf_0 16 rfl rfl)
theorem dX3_lockerOf_17 : decode cX3_lockerOf 17 = .ok (.ireturn, 1) := dk_172 (dk_at dksX3_lockerOf_0 17 rfl rfl)
abbrev rm_X3_lockerOf : Room := { frames := 0, cells := 0, slots := 0, locals := 0 }
def w_X3_lockerOf (a0 : Option Nat) (a1 : Option Nat) (h : AH) (P : Int32 → AH → Prop) : Prop :=
  g_q h a0 2 1 fun y1 =>
  g_q h y1 1 0 fun y4 =>
  g_iS h a1 0 fun y10 =>
  l_i h y4 0 (36 + y10) fun y14 =>
  P (y14 - 1) h
theorem met_X3_lockerOf (l : Launch) (hlt : l.stackTraces = false) (G : GG) (h : AH) (a0 : Option Nat) (a1 : Option Nat) (P : Int32 → AH → Prop) (hw : w_X3_lockerOf a0 a1 h P) : ct_i l yX3_lockerOf (ws_ yX3_lockerOf cX3_lockerOf 2 (Option.some Jvm.ClassFile.FieldType.int)) rm_X3_lockerOf G h [vR a0, vR a1] P := by
  refine j_starti hlt [(0, vR a0), (1, vR a1)] (plainFor_of_name (by decide)) rfl rfl (fun x X eG er en hQ => ?_)
  subst eG
  refine j_aload_n X (pc := 0) 0 dX3_lockerOf_0 rfl rfl ?_
  refine j_getq (ci := 2) X (pc := 1) in_X3 rfl (by decide) 1 (by decide) q208 (Or.inl rfl) dX3_lockerOf_1 hw (fun y1 hw => ?_)
  refine j_getqN (ci := 1) X (pc := 4) in_X2 rfl (by decide) 0 (by decide) q167 (Or.inl rfl) dX3_lockerOf_4 hw (fun y4 hw => ?_)
  refine j_bipush X (pc := 7) 36 dX3_lockerOf_7 (by decide) ?_
  refine j_aload_n X (pc := 9) 1 dX3_lockerOf_9 rfl rfl ?_
  refine j_getiSN X (pc := 10) 0 (by decide) q577 dX3_lockerOf_10 hw (fun y10 hw => ?_)
  refine j_iadd X (pc := 13) dX3_lockerOf_13 ?_
  refine j_iald X (pc := 14) 0 rfl dX3_lockerOf_14 hw (fun y14 hw => ?_)
  refine j_iconst X (pc := 15) 1 dX3_lockerOf_15 (by decide) ?_
  refine j_isub X (pc := 16) dX3_lockerOf_16 ?_
  exact j_iret X (pc := 17) hQ er (Nat.le_of_ble_eq_true rfl) (Nat.le_of_ble_eq_true rfl) dX3_lockerOf_17 hw
abbrev cX3_isLockedByOther : ByteArray := prog_3_method_9_code
def yX3_isLockedByOther : MethodName := ⟨RX3, "isLockedByOther", "(LPlugboard$Shape;)Z"⟩
def dkwX3_isLockedByOther_1 : List UInt8 := [167, 0, 4, 3, 172]
abbrev dktX3_isLockedByOther_1 : List UInt8 := dkwX3_isLockedByOther_1 ++ []
def dkwX3_isLockedByOther_0 : List UInt8 := [42, 43, 182, 0, 119, 2, 159, 0, 19, 42, 43, 182, 0, 119, 42, 180, 0, 33, 159, 0, 7, 4]
abbrev dktX3_isLockedByOther_0 : List UInt8 := dkwX3_isLockedByOther_0 ++ dktX3_isLockedByOther_1
theorem dksX3_isLockedByOther_0 : cX3_isLockedByOther.data.toList.drop 0 = dktX3_isLockedByOther_0 := by decide +kernel
theorem dksX3_isLockedByOther_1 : cX3_isLockedByOther.data.toList.drop 22 = dktX3_isLockedByOther_1 := dk_seg dksX3_isLockedByOther_0 22 rfl rfl
theorem dX3_isLockedByOther_0 : decode cX3_isLockedByOther 0 = .ok (.aload_n 0, 1) := dk_42 (dk_at dksX3_isLockedByOther_0 0 rfl rfl)
theorem dX3_isLockedByOther_1 : decode cX3_isLockedByOther 1 = .ok (.aload_n 1, 1) := dk_43 (dk_at dksX3_isLockedByOther_0 1 rfl rfl)
theorem dX3_isLockedByOther_2 : decode cX3_isLockedByOther 2 = .ok (.invokevirtual 119, 3) := dk_182 0 119 (dk_at dksX3_isLockedByOther_0 2 rfl rfl)
theorem dX3_isLockedByOther_5 : decode cX3_isLockedByOther 5 = .ok (.iconst (-1), 1) := dk_2 (dk_at dksX3_isLockedByOther_0 5 rfl rfl)
theorem dX3_isLockedByOther_6 : decode cX3_isLockedByOther 6 = .ok (.if_icmp .eq 19, 3) := dk_159 0 19 (dk_at dksX3_isLockedByOther_0 6 rfl rfl)
theorem dX3_isLockedByOther_9 : decode cX3_isLockedByOther 9 = .ok (.aload_n 0, 1) := dk_42 (dk_at dksX3_isLockedByOther_0 9 rfl rfl)
theorem dX3_isLockedByOther_10 : decode cX3_isLockedByOther 10 = .ok (.aload_n 1, 1) := dk_43 (dk_at dksX3_isLockedByOther_0 10 rfl rfl)
theorem dX3_isLockedByOther_11 : decode cX3_isLockedByOther 11 = .ok (.invokevirtual 119, 3) := dk_182 0 119 (dk_at dksX3_isLockedByOther_0 11 rfl rfl)
theorem dX3_isLockedByOther_14 : decode cX3_isLockedByOther 14 = .ok (.aload_n 0, 1) := dk_42 (dk_at dksX3_isLockedByOther_0 14 rfl rfl)
theorem dX3_isLockedByOther_15 : decode cX3_isLockedByOther 15 = .ok (.getfield 33, 3) := dk_180 0 33 (dk_at dksX3_isLockedByOther_0 15 rfl rfl)
theorem dX3_isLockedByOther_18 : decode cX3_isLockedByOther 18 = .ok (.if_icmp .eq 7, 3) := dk_159 0 7 (dk_at dksX3_isLockedByOther_0 18 rfl rfl)
theorem dX3_isLockedByOther_21 : decode cX3_isLockedByOther 21 = .ok (.iconst 1, 1) := dk_4 (dk_at dksX3_isLockedByOther_0 21 rfl rfl)
theorem dX3_isLockedByOther_22 : decode cX3_isLockedByOther 22 = .ok (.goto 4, 3) := dk_167 0 4 (dk_at dksX3_isLockedByOther_1 0 rfl rfl)
theorem dX3_isLockedByOther_25 : decode cX3_isLockedByOther 25 = .ok (.iconst 0, 1) := dk_3 (dk_at dksX3_isLockedByOther_1 3 rfl rfl)
theorem dX3_isLockedByOther_26 : decode cX3_isLockedByOther 26 = .ok (.ireturn, 1) := dk_172 (dk_at dksX3_isLockedByOther_1 4 rfl rfl)
theorem q1093 : (Jvm.Cond.methodLink "Plugboard$Board" (119 : Nat) ({ cls := "Plugboard$Board", name := "lockerOf", desc := "(LPlugboard$Shape;)I" } : Jvm.MethodName)) ∈ lw_all := lw_g (lw_at lw_m5 63 rfl) rfl
theorem q1094 : (Jvm.Cond.instanceMethod ({ cls := "Plugboard$Board", name := "lockerOf", desc := "(LPlugboard$Shape;)I" } : Jvm.MethodName)) ∈ lw_all := lw_g (lw_at lw_m5 64 rfl) rfl
theorem q1095 : (Jvm.Cond.selects "Plugboard$Board" ({ cls := "Plugboard$Board", name := "lockerOf", desc := "(LPlugboard$Shape;)I" } : Jvm.MethodName) ({ cls := "Plugboard$Board", name := "lockerOf", desc := "(LPlugboard$Shape;)I" } : Jvm.MethodName)) ∈ lw_all := lw_g (lw_at lw_m5 65 rfl) rfl
theorem q1096 : (Jvm.Cond.code ({ cls := "Plugboard$Board", name := "lockerOf", desc := "(LPlugboard$Shape;)I" } : Jvm.MethodName) prog_3_method_8_code (2 : Nat) (Option.some Jvm.ClassFile.FieldType.int)) ∈ lw_all := lw_g (lw_at lw_m5 66 rfl) rfl
abbrev rm_X3_isLockedByOther : Room := { frames := 1, cells := 0, slots := 0, locals := 21 }
def w_X3_isLockedByOther (a0 : Option Nat) (a1 : Option Nat) (h : AH) (P : Int32 → AH → Prop) : Prop :=
  is_c h a0 [2] (
  w_X3_lockerOf a0 a1 h (fun y2 h2 =>
  ((y2 = (-1) →
    P 0 h2) ∧
   (¬ y2 = (-1) →
    is_c h2 a0 [2] (
    w_X3_lockerOf a0 a1 h2 (fun y11 h11 =>
    g_i h11 a0 2 0 fun y15 =>
    ((y11 = y15 →
      P 0 h11) ∧
     (¬ y11 = y15 →
      P 1 h11))))))))
theorem met_X3_isLockedByOther (l : Launch) (hlt : l.stackTraces = false) (G : GG) (h : AH) (a0 : Option Nat) (a1 : Option Nat) (P : Int32 → AH → Prop) (hw : w_X3_isLockedByOther a0 a1 h P) : ct_i l yX3_isLockedByOther (ws_ yX3_isLockedByOther cX3_isLockedByOther 2 (Option.some Jvm.ClassFile.FieldType.boolean)) rm_X3_isLockedByOther G h [vR a0, vR a1] P := by
  refine j_starti hlt [(0, vR a0), (1, vR a1)] (plainFor_of_name (by decide)) rfl rfl (fun x X eG er en hQ => ?_)
  subst eG
  refine j_aload_n X (pc := 0) 0 dX3_isLockedByOther_0 rfl rfl ?_
  refine j_aload_n X (pc := 1) 1 dX3_isLockedByOther_1 rfl rfl ?_
  obtain ⟨b9, c9, f9, hr9, ho9, hc9, hw⟩ := hw
  obtain rfl := List.mem_singleton.mp hc9
  refine j_calli (j_runV (n8 := 1) (As := [vR a1]) (rest := []) X (pc := 2) hr9 (met_X3_lockerOf (xl x) X.hl (xG x) h a0 a1 _ hw) ho9 (by decide) rfl q1093 q1094 q1095 q76 q1096 (by decide +kernel) dX3_isLockedByOther_2 rfl ⟨Nat.le_of_ble_eq_true rfl, Nat.le_of_ble_eq_true rfl⟩ (Nat.le_of_ble_eq_true rfl) ⟨Nat.le_of_ble_eq_true rfl, Nat.le_of_ble_eq_true rfl⟩) (fun y2 h2 hw => ?_)
  refine j_iconst X (pc := 5) (-1) dX3_isLockedByOther_5 (by decide) ?_
  refine j_icmp_eq X (pc := 6) 25 dX3_isLockedByOther_6 (by decide) hw (fun hw => ?_) (fun hw => ?_)
  · refine j_iconst X (pc := 25) 0 dX3_isLockedByOther_25 (by decide) ?_
    exact j_zret X (pc := 26) (ty := .boolean) hQ er rfl (Nat.le_of_ble_eq_true rfl) (Nat.le_of_ble_eq_true rfl) dX3_isLockedByOther_26 hw
  · refine j_aload_n X (pc := 9) 0 dX3_isLockedByOther_9 rfl rfl ?_
    refine j_aload_n X (pc := 10) 1 dX3_isLockedByOther_10 rfl rfl ?_
    obtain ⟨b9, c9, f9, hr9, ho9, hc9, hw⟩ := hw
    obtain rfl := List.mem_singleton.mp hc9
    refine j_calli (j_runV (n8 := 1) (As := [vR a1]) (rest := []) X (pc := 11) hr9 (met_X3_lockerOf (xl x) X.hl (xG x) h2 a0 a1 _ hw) ho9 (by decide) rfl q1093 q1094 q1095 q76 q1096 (by decide +kernel) dX3_isLockedByOther_11 rfl ⟨Nat.le_of_ble_eq_true rfl, Nat.le_of_ble_eq_true rfl⟩ (Nat.le_of_ble_eq_true rfl) ⟨Nat.le_of_ble_eq_true rfl, Nat.le_of_ble_eq_true rfl⟩) (fun y11 h11 hw => ?_)
    refine j_aload_n X (pc := 14) 0 dX3_isLockedByOther_14 rfl rfl ?_
    refine j_geti (ci := 2) X (pc := 15) in_X3 rfl (by decide) 0 (by decide) q206 (Or.inl rfl) dX3_isLockedByOther_15 hw (fun y15 hw => ?_)
    refine j_icmp_eq X (pc := 18) 25 dX3_isLockedByOther_18 (by decide) hw (fun hw => ?_) (fun hw => ?_)
    · refine j_iconst X (pc := 25) 0 dX3_isLockedByOther_25 (by decide) ?_
      exact j_zret X (pc := 26) (ty := .boolean) hQ er rfl (Nat.le_of_ble_eq_true rfl) (Nat.le_of_ble_eq_true rfl) dX3_isLockedByOther_26 hw
    · refine j_iconst X (pc := 21) 1 dX3_isLockedByOther_21 (by decide) ?_
      refine j_goto X (pc := 22) 26 dX3_isLockedByOther_22 (by decide) ?_
      exact j_zret X (pc := 26) (ty := .boolean) hQ er rfl (Nat.le_of_ble_eq_true rfl) (Nat.le_of_ble_eq_true rfl) dX3_isLockedByOther_26 hw
abbrev cX1_requireSupported : ByteArray := prog_1_method_4_code
def yX1_requireSupported : MethodName := ⟨RX1, "requireSupported", "(Z)V"⟩
def dkwX1_requireSupported_0 : List UInt8 := [26, 154, 0, 11, 187, 0, 12, 89, 183, 0, 14, 191, 177]
abbrev dktX1_requireSupported_0 : List UInt8 := dkwX1_requireSupported_0 ++ []
theorem dksX1_requireSupported_0 : cX1_requireSupported.data.toList.drop 0 = dktX1_requireSupported_0 := by decide +kernel
theorem dX1_requireSupported_0 : decode cX1_requireSupported 0 = .ok (.iload_n 0, 1) := dk_26 (dk_at dksX1_requireSupported_0 0 rfl rfl)
theorem dX1_requireSupported_1 : decode cX1_requireSupported 1 = .ok (.ifCond .ne 11, 3) := dk_154 0 11 (dk_at dksX1_requireSupported_0 1 rfl rfl)
theorem dX1_requireSupported_4 : decode cX1_requireSupported 4 = .ok (.new 12, 3) := dk_187 0 12 (dk_at dksX1_requireSupported_0 4 rfl rfl)
theorem dX1_requireSupported_7 : decode cX1_requireSupported 7 = .ok (.dup, 1) := dk_89 (dk_at dksX1_requireSupported_0 7 rfl rfl)
theorem dX1_requireSupported_8 : decode cX1_requireSupported 8 = .ok (.invokespecial 14, 3) := dk_183 0 14 (dk_at dksX1_requireSupported_0 8 rfl rfl)
theorem dX1_requireSupported_11 : decode cX1_requireSupported 11 = .ok (.athrow, 1) := dk_191 (dk_at dksX1_requireSupported_0 11 rfl rfl)
theorem dX1_requireSupported_12 : decode cX1_requireSupported 12 = .ok (.return_, 1) := dk_177 (dk_at dksX1_requireSupported_0 12 rfl rfl)
theorem q109 : (Jvm.Cond.initialized "java/lang/UnsupportedOperationException") ∈ lw_all := lw_g (lw_at lw_m1 39 rfl) rfl
theorem q1100 : (Jvm.Cond.classLink "Plugboard" (12 : Nat) "java/lang/UnsupportedOperationException") ∈ lw_all := lw_g (lw_at lw_m5 70 rfl) rfl
abbrev rm_X1_requireSupported : Room := { frames := 6, cells := 1, slots := 6, locals := 81 }
theorem at_X1_requireSupported_4 : ∀ w ∈ vx_at0 RX1 14 "java/lang/UnsupportedOperationException" ["java/lang/RuntimeException", "java/lang/Exception"], w ∈ lw_tbl := ah_in _ [79, 332, 341, 350, 353, 355, 333, 334, 125, 126, 335, 340, 351, 368, 322, 369, 324, 370, 326, 336, 338, 328, 1110, 1111, 1112, 360, 313, 360, 361, 362, 363, 315, 363, 364, 365, 333, 317, 1109, 1101, 1102, 1103, 348, 1104, 1105, 1106, 1107, 366, 330, 1108] (by decide +kernel)
def w_X1_requireSupported (a0 : Int32) (h : AH) (P : AH → Prop) (PX : String → AH → Prop) : Prop :=
  ((a0 = 0 →
    PX "java/lang/UnsupportedOperationException" h) ∧
   (¬ a0 = 0 →
    P h))
theorem met_X1_requireSupported (l : Launch) (hlt : l.stackTraces = false) (G : GG) (h : AH) (a0 : Int32) (P : AH → Prop) (PX : String → AH → Prop) (hw : w_X1_requireSupported a0 h P PX) : cx_v l yX1_requireSupported (ws_ yX1_requireSupported cX1_requireSupported 1 (Option.none : Option Jvm.ClassFile.FieldType)) rm_X1_requireSupported G h [vI a0] P PX := by
  refine j_startXv hlt [(0, vI a0)] (by decide) rfl rfl (fun x X eG er en hQ hT hex => ?_)
  subst eG
  refine j_iload_n X (pc := 0) 0 dX1_requireSupported_0 rfl rfl ?_
  refine j_if_ne X (pc := 1) 12 dX1_requireSupported_1 (by decide) hw (fun hw => ?_) (fun hw => ?_)
  · exact j_throw X (pc := 4) (names := ["java/lang/RuntimeException", "java/lang/Exception"]) hT hex (by decide +kernel) (by decide +kernel) q1100 q109 at_X1_requireSupported_4 (by decide +kernel) dX1_requireSupported_4 dX1_requireSupported_7 dX1_requireSupported_8 dX1_requireSupported_11 ⟨Nat.le_of_ble_eq_true rfl, Nat.le_of_ble_eq_true rfl⟩ (Nat.le_of_ble_eq_true rfl) (Nat.le_of_ble_eq_true rfl) hw
  · exact j_vret X (pc := 12) hQ er (Nat.le_of_ble_eq_true rfl) (Nat.le_of_ble_eq_true rfl) dX1_requireSupported_12 hw
abbrev cX1_requireUnlocked : ByteArray := prog_1_method_19_code
def yX1_requireUnlocked : MethodName := ⟨RX1, "requireUnlocked", "(LPlugboard$Board;LPlugboard$Shape;)V"⟩
def dkwX1_requireUnlocked_0 : List UInt8 := [43, 44, 182, 0, 228, 154, 0, 7, 4, 167, 0, 4, 3, 184, 0, 232, 177]
abbrev dktX1_requireUnlocked_0 : List UInt8 := dkwX1_requireUnlocked_0 ++ []
theorem dksX1_requireUnlocked_0 : cX1_requireUnlocked.data.toList.drop 0 = dktX1_requireUnlocked_0 := by decide +kernel
theorem dX1_requireUnlocked_0 : decode cX1_requireUnlocked 0 = .ok (.aload_n 1, 1) := dk_43 (dk_at dksX1_requireUnlocked_0 0 rfl rfl)
theorem dX1_requireUnlocked_1 : decode cX1_requireUnlocked 1 = .ok (.aload_n 2, 1) := dk_44 (dk_at dksX1_requireUnlocked_0 1 rfl rfl)
theorem dX1_requireUnlocked_2 : decode cX1_requireUnlocked 2 = .ok (.invokevirtual 228, 3) := dk_182 0 228 (dk_at dksX1_requireUnlocked_0 2 rfl rfl)
theorem dX1_requireUnlocked_5 : decode cX1_requireUnlocked 5 = .ok (.ifCond .ne 7, 3) := dk_154 0 7 (dk_at dksX1_requireUnlocked_0 5 rfl rfl)
theorem dX1_requireUnlocked_8 : decode cX1_requireUnlocked 8 = .ok (.iconst 1, 1) := dk_4 (dk_at dksX1_requireUnlocked_0 8 rfl rfl)
theorem dX1_requireUnlocked_9 : decode cX1_requireUnlocked 9 = .ok (.goto 4, 3) := dk_167 0 4 (dk_at dksX1_requireUnlocked_0 9 rfl rfl)
theorem dX1_requireUnlocked_12 : decode cX1_requireUnlocked 12 = .ok (.iconst 0, 1) := dk_3 (dk_at dksX1_requireUnlocked_0 12 rfl rfl)
theorem dX1_requireUnlocked_13 : decode cX1_requireUnlocked 13 = .ok (.invokestatic 232, 3) := dk_184 0 232 (dk_at dksX1_requireUnlocked_0 13 rfl rfl)
theorem dX1_requireUnlocked_16 : decode cX1_requireUnlocked 16 = .ok (.return_, 1) := dk_177 (dk_at dksX1_requireUnlocked_0 16 rfl rfl)
theorem q1089 : (Jvm.Cond.methodLink "Plugboard" (228 : Nat) ({ cls := "Plugboard$Board", name := "isLockedByOther", desc := "(LPlugboard$Shape;)Z" } : Jvm.MethodName)) ∈ lw_all := lw_g (lw_at lw_m5 59 rfl) rfl
theorem q1090 : (Jvm.Cond.instanceMethod ({ cls := "Plugboard$Board", name := "isLockedByOther", desc := "(LPlugboard$Shape;)Z" } : Jvm.MethodName)) ∈ lw_all := lw_g (lw_at lw_m5 60 rfl) rfl
theorem q1091 : (Jvm.Cond.selects "Plugboard$Board" ({ cls := "Plugboard$Board", name := "isLockedByOther", desc := "(LPlugboard$Shape;)Z" } : Jvm.MethodName) ({ cls := "Plugboard$Board", name := "isLockedByOther", desc := "(LPlugboard$Shape;)Z" } : Jvm.MethodName)) ∈ lw_all := lw_g (lw_at lw_m5 61 rfl) rfl
theorem q1092 : (Jvm.Cond.code ({ cls := "Plugboard$Board", name := "isLockedByOther", desc := "(LPlugboard$Shape;)Z" } : Jvm.MethodName) prog_3_method_9_code (2 : Nat) (Option.some Jvm.ClassFile.FieldType.boolean)) ∈ lw_all := lw_g (lw_at lw_m5 62 rfl) rfl
theorem q1097 : (Jvm.Cond.methodLink "Plugboard" (232 : Nat) ({ cls := "Plugboard", name := "requireSupported", desc := "(Z)V" } : Jvm.MethodName)) ∈ lw_all := lw_g (lw_at lw_m5 67 rfl) rfl
theorem q1098 : (Jvm.Cond.static ({ cls := "Plugboard", name := "requireSupported", desc := "(Z)V" } : Jvm.MethodName)) ∈ lw_all := lw_g (lw_at lw_m5 68 rfl) rfl
theorem q1099 : (Jvm.Cond.code ({ cls := "Plugboard", name := "requireSupported", desc := "(Z)V" } : Jvm.MethodName) prog_1_method_4_code (1 : Nat) (Option.none : Option Jvm.ClassFile.FieldType)) ∈ lw_all := lw_g (lw_at lw_m5 69 rfl) rfl
abbrev rm_X1_requireUnlocked : Room := { frames := 7, cells := 1, slots := 6, locals := 101 }
def w_X1_requireUnlocked (a0 : Option Nat) (a1 : Option Nat) (a2 : Option Nat) (h : AH) (P : AH → Prop) (PX : String → AH → Prop) : Prop :=
  is_c h a1 [2] (
  w_X3_isLockedByOther a1 a2 h (fun y2 h2 =>
  ((y2 = 0 →
    w_X1_requireSupported 1 h2 (fun h13 =>
    P h13) PX) ∧
   (¬ y2 = 0 →
    w_X1_requireSupported 0 h2 (fun h13 =>
    P h13) PX))))
theorem met_X1_requireUnlocked (l : Launch) (hlt : l.stackTraces = false) (G : GG) (h : AH) (a0 : Option Nat) (a1 : Option Nat) (a2 : Option Nat) (P : AH → Prop) (PX : String → AH → Prop) (hw : w_X1_requireUnlocked a0 a1 a2 h P PX) : cx_v l yX1_requireUnlocked (ws_ yX1_requireUnlocked cX1_requireUnlocked 3 (Option.none : Option Jvm.ClassFile.FieldType)) rm_X1_requireUnlocked G h [vR a0, vR a1, vR a2] P PX := by
  refine j_startXv hlt [(0, vR a0), (1, vR a1), (2, vR a2)] (by decide) rfl rfl (fun x X eG er en hQ hT hex => ?_)
  subst eG
  refine j_aload_n X (pc := 0) 1 dX1_requireUnlocked_0 rfl rfl ?_
  refine j_aload_n X (pc := 1) 2 dX1_requireUnlocked_1 rfl rfl ?_
  obtain ⟨b9, c9, f9, hr9, ho9, hc9, hw⟩ := hw
  obtain rfl := List.mem_singleton.mp hc9
  refine j_calli (j_runV (n8 := 1) (As := [vR a2]) (rest := []) X (pc := 2) hr9 (met_X3_isLockedByOther (xl x) X.hl (xG x) h a1 a2 _ hw) ho9 (by decide) rfl q1089 q1090 q1091 q76 q1092 (by decide +kernel) dX1_requireUnlocked_2 rfl ⟨Nat.le_of_ble_eq_true rfl, Nat.le_of_ble_eq_true rfl⟩ (Nat.le_of_ble_eq_true rfl) ⟨Nat.le_of_ble_eq_true rfl, Nat.le_of_ble_eq_true rfl⟩) (fun y2 h2 hw => ?_)
  refine j_if_ne X (pc := 5) 12 dX1_requireUnlocked_5 (by decide) hw (fun hw => ?_) (fun hw => ?_)
  · refine j_iconst X (pc := 8) 1 dX1_requireUnlocked_8 (by decide) ?_
    refine j_goto X (pc := 9) 13 dX1_requireUnlocked_9 (by decide) ?_
    refine j_callXv (j_runSX (n8 := 1) (As := [vI 1]) (rest := []) X (pc := 13) (met_X1_requireSupported (xl x) X.hl (xG x) h2 1 _ _ hw) q1097 q1098 q71 q1099 (by decide +kernel) dX1_requireUnlocked_13 rfl ⟨Nat.le_of_ble_eq_true rfl, Nat.le_of_ble_eq_true rfl⟩ (Nat.le_of_ble_eq_true rfl) ⟨Nat.le_of_ble_eq_true rfl, Nat.le_of_ble_eq_true rfl⟩) (fun E h9 hx => j_out X hT hex (Nat.le_of_ble_eq_true rfl) (Nat.le_of_ble_eq_true rfl) hx) (fun h13 hw => ?_)
    exact j_vret X (pc := 16) hQ er (Nat.le_of_ble_eq_true rfl) (Nat.le_of_ble_eq_true rfl) dX1_requireUnlocked_16 hw
  · refine j_iconst X (pc := 12) 0 dX1_requireUnlocked_12 (by decide) ?_
    refine j_callXv (j_runSX (n8 := 1) (As := [vI 0]) (rest := []) X (pc := 13) (met_X1_requireSupported (xl x) X.hl (xG x) h2 0 _ _ hw) q1097 q1098 q71 q1099 (by decide +kernel) dX1_requireUnlocked_13 rfl ⟨Nat.le_of_ble_eq_true rfl, Nat.le_of_ble_eq_true rfl⟩ (Nat.le_of_ble_eq_true rfl) ⟨Nat.le_of_ble_eq_true rfl, Nat.le_of_ble_eq_true rfl⟩) (fun E h9 hx => j_out X hT hex (Nat.le_of_ble_eq_true rfl) (Nat.le_of_ble_eq_true rfl) hx) (fun h13 hw => ?_)
    exact j_vret X (pc := 16) hQ er (Nat.le_of_ble_eq_true rfl) (Nat.le_of_ble_eq_true rfl) dX1_requireUnlocked_16 hw
abbrev cX3_columnOf : ByteArray := prog_3_method_5_code
def yX3_columnOf : MethodName := ⟨RX3, "columnOf", "(LPlugboard$Shape;)I"⟩
def dkwX3_columnOf_0 : List UInt8 := [42, 180, 0, 18, 180, 0, 80, 16, 12, 43, 180, 0, 103, 96, 46, 16, 24, 112, 172]
abbrev dktX3_columnOf_0 : List UInt8 := dkwX3_columnOf_0 ++ []
theorem dksX3_columnOf_0 : cX3_columnOf.data.toList.drop 0 = dktX3_columnOf_0 := by decide +kernel
theorem dX3_columnOf_0 : decode cX3_columnOf 0 = .ok (.aload_n 0, 1) := dk_42 (dk_at dksX3_columnOf_0 0 rfl rfl)
theorem dX3_columnOf_1 : decode cX3_columnOf 1 = .ok (.getfield 18, 3) := dk_180 0 18 (dk_at dksX3_columnOf_0 1 rfl rfl)
theorem dX3_columnOf_4 : decode cX3_columnOf 4 = .ok (.getfield 80, 3) := dk_180 0 80 (dk_at dksX3_columnOf_0 4 rfl rfl)
theorem dX3_columnOf_7 : decode cX3_columnOf 7 = .ok (.bipush 12, 2) := dk_16 12 (dk_at dksX3_columnOf_0 7 rfl rfl)
theorem dX3_columnOf_9 : decode cX3_columnOf 9 = .ok (.aload_n 1, 1) := dk_43 (dk_at dksX3_columnOf_0 9 rfl rfl)
theorem dX3_columnOf_10 : decode cX3_columnOf 10 = .ok (.getfield 103, 3) := dk_180 0 103 (dk_at dksX3_columnOf_0 10 rfl rfl)
theorem dX3_columnOf_13 : decode cX3_columnOf 13 = .ok (.iadd, 1) := dk_96 (dk_at dksX3_columnOf_0 13 rfl rfl)
theorem dX3_columnOf_14 : decode cX3_columnOf 14 = .ok (.iaload, 1) := dk_46 (dk_at dksX3_columnOf_0 14 rfl rfl)
theorem dX3_columnOf_15 : decode cX3_columnOf 15 = .ok (.bipush 24, 2) := dk_16 24 (dk_at dksX3_columnOf_0 15 rfl rfl)
theorem dX3_columnOf_17 : decode cX3_columnOf 17 = .ok (.irem, 1) := dk_112 (dk_at dksX3_columnOf_0 17 rfl rfl)
theorem dX3_columnOf_18 : decode cX3_columnOf 18 = .ok (.ireturn, 1) := dk_172 (dk_at dksX3_columnOf_0 18 rfl rfl)
abbrev rm_X3_columnOf : Room := { frames := 0, cells := 0, slots := 0, locals := 0 }
def w_X3_columnOf (a0 : Option Nat) (a1 : Option Nat) (h : AH) (P : Int32 → AH → Prop) : Prop :=
  g_q h a0 2 1 fun y1 =>
  g_q h y1 1 0 fun y4 =>
  g_iS h a1 0 fun y10 =>
  l_i h y4 0 (12 + y10) fun y14 =>
  ¬ (24 : Int32) = 0 ∧
  P (y14 - y14 / 24 * 24) h
theorem met_X3_columnOf (l : Launch) (hlt : l.stackTraces = false) (G : GG) (h : AH) (a0 : Option Nat) (a1 : Option Nat) (P : Int32 → AH → Prop) (hw : w_X3_columnOf a0 a1 h P) : ct_i l yX3_columnOf (ws_ yX3_columnOf cX3_columnOf 2 (Option.some Jvm.ClassFile.FieldType.int)) rm_X3_columnOf G h [vR a0, vR a1] P := by
  refine j_starti hlt [(0, vR a0), (1, vR a1)] (plainFor_of_name (by decide)) rfl rfl (fun x X eG er en hQ => ?_)
  subst eG
  refine j_aload_n X (pc := 0) 0 dX3_columnOf_0 rfl rfl ?_
  refine j_getq (ci := 2) X (pc := 1) in_X3 rfl (by decide) 1 (by decide) q208 (Or.inl rfl) dX3_columnOf_1 hw (fun y1 hw => ?_)
  refine j_getqN (ci := 1) X (pc := 4) in_X2 rfl (by decide) 0 (by decide) q167 (Or.inl rfl) dX3_columnOf_4 hw (fun y4 hw => ?_)
  refine j_bipush X (pc := 7) 12 dX3_columnOf_7 (by decide) ?_
  refine j_aload_n X (pc := 9) 1 dX3_columnOf_9 rfl rfl ?_
  refine j_getiSN X (pc := 10) 0 (by decide) q577 dX3_columnOf_10 hw (fun y10 hw => ?_)
  refine j_iadd X (pc := 13) dX3_columnOf_13 ?_
  refine j_iald X (pc := 14) 0 rfl dX3_columnOf_14 hw (fun y14 hw => ?_)
  refine j_bipush X (pc := 15) 24 dX3_columnOf_15 (by decide) ?_
  refine j_irem X (pc := 17) dX3_columnOf_17 hw (fun hw => ?_)
  exact j_iret X (pc := 18) hQ er (Nat.le_of_ble_eq_true rfl) (Nat.le_of_ble_eq_true rfl) dX3_columnOf_18 hw
abbrev cX3_rowOf : ByteArray := prog_3_method_6_code
def yX3_rowOf : MethodName := ⟨RX3, "rowOf", "(LPlugboard$Shape;)I"⟩
def dkwX3_rowOf_0 : List UInt8 := [42, 180, 0, 18, 180, 0, 80, 16, 12, 43, 180, 0, 103, 96, 46, 16, 24, 108, 172]
abbrev dktX3_rowOf_0 : List UInt8 := dkwX3_rowOf_0 ++ []
theorem dksX3_rowOf_0 : cX3_rowOf.data.toList.drop 0 = dktX3_rowOf_0 := by decide +kernel
theorem dX3_rowOf_0 : decode cX3_rowOf 0 = .ok (.aload_n 0, 1) := dk_42 (dk_at dksX3_rowOf_0 0 rfl rfl)
theorem dX3_rowOf_1 : decode cX3_rowOf 1 = .ok (.getfield 18, 3) := dk_180 0 18 (dk_at dksX3_rowOf_0 1 rfl rfl)
theorem dX3_rowOf_4 : decode cX3_rowOf 4 = .ok (.getfield 80, 3) := dk_180 0 80 (dk_at dksX3_rowOf_0 4 rfl rfl)
theorem dX3_rowOf_7 : decode cX3_rowOf 7 = .ok (.bipush 12, 2) := dk_16 12 (dk_at dksX3_rowOf_0 7 rfl rfl)
theorem dX3_rowOf_9 : decode cX3_rowOf 9 = .ok (.aload_n 1, 1) := dk_43 (dk_at dksX3_rowOf_0 9 rfl rfl)
theorem dX3_rowOf_10 : decode cX3_rowOf 10 = .ok (.getfield 103, 3) := dk_180 0 103 (dk_at dksX3_rowOf_0 10 rfl rfl)
theorem dX3_rowOf_13 : decode cX3_rowOf 13 = .ok (.iadd, 1) := dk_96 (dk_at dksX3_rowOf_0 13 rfl rfl)
theorem dX3_rowOf_14 : decode cX3_rowOf 14 = .ok (.iaload, 1) := dk_46 (dk_at dksX3_rowOf_0 14 rfl rfl)
theorem dX3_rowOf_15 : decode cX3_rowOf 15 = .ok (.bipush 24, 2) := dk_16 24 (dk_at dksX3_rowOf_0 15 rfl rfl)
theorem dX3_rowOf_17 : decode cX3_rowOf 17 = .ok (.idiv, 1) := dk_108 (dk_at dksX3_rowOf_0 17 rfl rfl)
theorem dX3_rowOf_18 : decode cX3_rowOf 18 = .ok (.ireturn, 1) := dk_172 (dk_at dksX3_rowOf_0 18 rfl rfl)
abbrev rm_X3_rowOf : Room := { frames := 0, cells := 0, slots := 0, locals := 0 }
def w_X3_rowOf (a0 : Option Nat) (a1 : Option Nat) (h : AH) (P : Int32 → AH → Prop) : Prop :=
  g_q h a0 2 1 fun y1 =>
  g_q h y1 1 0 fun y4 =>
  g_iS h a1 0 fun y10 =>
  l_i h y4 0 (12 + y10) fun y14 =>
  ¬ (24 : Int32) = 0 ∧
  P (y14 / 24) h
theorem met_X3_rowOf (l : Launch) (hlt : l.stackTraces = false) (G : GG) (h : AH) (a0 : Option Nat) (a1 : Option Nat) (P : Int32 → AH → Prop) (hw : w_X3_rowOf a0 a1 h P) : ct_i l yX3_rowOf (ws_ yX3_rowOf cX3_rowOf 2 (Option.some Jvm.ClassFile.FieldType.int)) rm_X3_rowOf G h [vR a0, vR a1] P := by
  refine j_starti hlt [(0, vR a0), (1, vR a1)] (plainFor_of_name (by decide)) rfl rfl (fun x X eG er en hQ => ?_)
  subst eG
  refine j_aload_n X (pc := 0) 0 dX3_rowOf_0 rfl rfl ?_
  refine j_getq (ci := 2) X (pc := 1) in_X3 rfl (by decide) 1 (by decide) q208 (Or.inl rfl) dX3_rowOf_1 hw (fun y1 hw => ?_)
  refine j_getqN (ci := 1) X (pc := 4) in_X2 rfl (by decide) 0 (by decide) q167 (Or.inl rfl) dX3_rowOf_4 hw (fun y4 hw => ?_)
  refine j_bipush X (pc := 7) 12 dX3_rowOf_7 (by decide) ?_
  refine j_aload_n X (pc := 9) 1 dX3_rowOf_9 rfl rfl ?_
  refine j_getiSN X (pc := 10) 0 (by decide) q577 dX3_rowOf_10 hw (fun y10 hw => ?_)
  refine j_iadd X (pc := 13) dX3_rowOf_13 ?_
  refine j_iald X (pc := 14) 0 rfl dX3_rowOf_14 hw (fun y14 hw => ?_)
  refine j_bipush X (pc := 15) 24 dX3_rowOf_15 (by decide) ?_
  refine j_idiv X (pc := 17) dX3_rowOf_17 hw (fun hw => ?_)
  exact j_iret X (pc := 18) hQ er (Nat.le_of_ble_eq_true rfl) (Nat.le_of_ble_eq_true rfl) dX3_rowOf_18 hw
abbrev cX9_isFrame : ByteArray := prog_10_method_2_code
def yX9_isFrame : MethodName := ⟨RX9, "isFrame", "()Z"⟩
theorem dX9_isFrame_0 : decode cX9_isFrame 0 = .ok (.iconst 1, 1) := by decide +kernel
theorem dX9_isFrame_1 : decode cX9_isFrame 1 = .ok (.ireturn, 1) := by decide +kernel
abbrev rm_X9_isFrame : Room := { frames := 0, cells := 0, slots := 0, locals := 0 }
def w_X9_isFrame (a0 : Option Nat) (h : AH) (P : Int32 → AH → Prop) : Prop :=
  P 1 h
theorem met_X9_isFrame (l : Launch) (hlt : l.stackTraces = false) (G : GG) (h : AH) (a0 : Option Nat) (P : Int32 → AH → Prop) (hw : w_X9_isFrame a0 h P) : ct_i l yX9_isFrame (ws_ yX9_isFrame cX9_isFrame 1 (Option.some Jvm.ClassFile.FieldType.boolean)) rm_X9_isFrame G h [vR a0] P := by
  refine j_starti hlt [(0, vR a0)] (plainFor_of_name (by decide)) rfl rfl (fun x X eG er en hQ => ?_)
  subst eG
  refine j_iconst X (pc := 0) 1 dX9_isFrame_0 (by decide) ?_
  exact j_zret X (pc := 1) (ty := .boolean) hQ er rfl (Nat.le_of_ble_eq_true rfl) (Nat.le_of_ble_eq_true rfl) dX9_isFrame_1 hw
abbrev cX10_isFrame : ByteArray := prog_15_method_2_code
def yX10_isFrame : MethodName := ⟨RX10, "isFrame", "()Z"⟩
theorem dX10_isFrame_0 : decode cX10_isFrame 0 = .ok (.iconst 0, 1) := by decide +kernel
theorem dX10_isFrame_1 : decode cX10_isFrame 1 = .ok (.ireturn, 1) := by decide +kernel
abbrev rm_X10_isFrame : Room := { frames := 0, cells := 0, slots := 0, locals := 0 }
def w_X10_isFrame (a0 : Option Nat) (h : AH) (P : Int32 → AH → Prop) : Prop :=
  P 0 h
theorem met_X10_isFrame (l : Launch) (hlt : l.stackTraces = false) (G : GG) (h : AH) (a0 : Option Nat) (P : Int32 → AH → Prop) (hw : w_X10_isFrame a0 h P) : ct_i l yX10_isFrame (ws_ yX10_isFrame cX10_isFrame 1 (Option.some Jvm.ClassFile.FieldType.boolean)) rm_X10_isFrame G h [vR a0] P := by
  refine j_starti hlt [(0, vR a0)] (plainFor_of_name (by decide)) rfl rfl (fun x X eG er en hQ => ?_)
  subst eG
  refine j_iconst X (pc := 0) 0 dX10_isFrame_0 (by decide) ?_
  exact j_zret X (pc := 1) (ty := .boolean) hQ er rfl (Nat.le_of_ble_eq_true rfl) (Nat.le_of_ble_eq_true rfl) dX10_isFrame_1 hw
theorem q1138 : (Jvm.Cond.declares ({ cls := "Plugboard$Shape", name := "isFrame", desc := "()Z" } : Jvm.MethodName)) ∈ lw_tbl := lw_at lw_m5 108 rfl
theorem q1139 : (Jvm.Cond.sameMethod "Plugboard$Shape" "Plugboard$Shape" "isFrame" "()Z") ∈ lw_all := lw_g (lw_at lw_m5 109 rfl) rfl
theorem q1140 : (Jvm.Cond.selects "Plugboard$Frame" ({ cls := "Plugboard$Shape", name := "isFrame", desc := "()Z" } : Jvm.MethodName) ({ cls := "Plugboard$Frame", name := "isFrame", desc := "()Z" } : Jvm.MethodName)) ∈ lw_all := lw_g (lw_at lw_m5 110 rfl) rfl
theorem q1141 : (Jvm.Cond.instanceMethod ({ cls := "Plugboard$Frame", name := "isFrame", desc := "()Z" } : Jvm.MethodName)) ∈ lw_all := lw_g (lw_at lw_m5 111 rfl) rfl
theorem q1142 : (Jvm.Cond.code ({ cls := "Plugboard$Frame", name := "isFrame", desc := "()Z" } : Jvm.MethodName) prog_10_method_2_code (1 : Nat) (Option.some Jvm.ClassFile.FieldType.boolean)) ∈ lw_all := lw_g (lw_at lw_m5 112 rfl) rfl
theorem q1143 : (Jvm.Cond.selects "Plugboard$Panel" ({ cls := "Plugboard$Shape", name := "isFrame", desc := "()Z" } : Jvm.MethodName) ({ cls := "Plugboard$Panel", name := "isFrame", desc := "()Z" } : Jvm.MethodName)) ∈ lw_all := lw_g (lw_at lw_m5 113 rfl) rfl
theorem q1144 : (Jvm.Cond.instanceMethod ({ cls := "Plugboard$Panel", name := "isFrame", desc := "()Z" } : Jvm.MethodName)) ∈ lw_all := lw_g (lw_at lw_m5 114 rfl) rfl
theorem q1145 : (Jvm.Cond.code ({ cls := "Plugboard$Panel", name := "isFrame", desc := "()Z" } : Jvm.MethodName) prog_15_method_2_code (1 : Nat) (Option.some Jvm.ClassFile.FieldType.boolean)) ∈ lw_all := lw_g (lw_at lw_m5 115 rfl) rfl
def c_fr (h : AH) (r : Option Nat) (K : Int32 → Prop) : Prop := ∃ a ci fs, r = some a ∧ h.1 a = some (.inr (ci, fs)) ∧ ((ci = 7 ∧ K 1) ∨ (ci = 8 ∧ K 0))
theorem j_isFrame {x : CX} {cc : ByteArray} {own : String} {rm : Room} {n9 : Nat} (X : Ok x cc own rm n9) {h : AH} {u v pc : Nat} {lv : List (Nat × TV)} {rest : List TV} {index : Nat} {r : Option Nat} {K : Int32 → Prop} (q1 : Cond.methodLink own index ⟨"Plugboard$Shape", "isFrame", "()Z"⟩ ∈ lw_all) (d : decode cc pc = .ok (.invokevirtual index, 3)) (hR : 1 ≤ rm.frames ∧ 20 ≤ rm.locals) (hW : (rest.map tvc).sum ≤ 8) (hu : u ≤ rm.cells) (hv : v ≤ rm.slots) (hw : c_fr h r K) (kk : ∀ y, K y → J x h u v (pc + 3) lv (vI y :: rest)) : J x h u v pc lv (vR r :: rest) := by
  obtain ⟨a, ci, fs, hr, ho, hc⟩ := hw
  rcases hc with ⟨rfl, hK⟩ | ⟨rfl, hK⟩
  · refine j_calli (j_runA (n8 := 0) (As := []) (rest := rest) X hr (met_X9_isFrame (xl x) X.hl (xG x) h r (fun y h' => y = 1 ∧ h' = h) ⟨rfl, rfl⟩) ho (by decide) rfl q1 q1139 q1140 q1141 q94 q1142 q1138 (by decide +kernel) d rfl hR hW ⟨hu, hv⟩) (fun y h' hy => ?_)
    obtain ⟨rfl, rfl⟩ := hy
    exact kk _ hK
  · refine j_calli (j_runA (n8 := 0) (As := []) (rest := rest) X hr (met_X10_isFrame (xl x) X.hl (xG x) h r (fun y h' => y = 0 ∧ h' = h) ⟨rfl, rfl⟩) ho (by decide) rfl q1 q1139 q1143 q1144 q95 q1145 q1138 (by decide +kernel) d rfl hR hW ⟨hu, hv⟩) (fun y h' hy => ?_)
    obtain ⟨rfl, rfl⟩ := hy
    exact kk _ hK
abbrev cX3_covers_2 : ByteArray := prog_3_method_10_code
def yX3_covers_2 : MethodName := ⟨RX3, "covers", "(LPlugboard$Shape;II)Z"⟩
def dkwX3_covers_2_1 : List UInt8 := [182, 0, 129, 100, 3, 43, 180, 0, 132, 4, 100, 184, 0, 76, 153, 0, 7, 4, 167, 0, 4, 3, 172]
abbrev dktX3_covers_2_1 : List UInt8 := dkwX3_covers_2_1 ++ []
def dkwX3_covers_2_0 : List UInt8 := [28, 42, 43, 182, 0, 123, 100, 3, 43, 180, 0, 126, 4, 100, 184, 0, 76, 153, 0, 27, 29, 42, 43]
abbrev dktX3_covers_2_0 : List UInt8 := dkwX3_covers_2_0 ++ dktX3_covers_2_1
theorem dksX3_covers_2_0 : cX3_covers_2.data.toList.drop 0 = dktX3_covers_2_0 := by decide +kernel
theorem dksX3_covers_2_1 : cX3_covers_2.data.toList.drop 23 = dktX3_covers_2_1 := dk_seg dksX3_covers_2_0 23 rfl rfl
theorem dX3_covers_2_0 : decode cX3_covers_2 0 = .ok (.iload_n 2, 1) := dk_28 (dk_at dksX3_covers_2_0 0 rfl rfl)
theorem dX3_covers_2_1 : decode cX3_covers_2 1 = .ok (.aload_n 0, 1) := dk_42 (dk_at dksX3_covers_2_0 1 rfl rfl)
theorem dX3_covers_2_2 : decode cX3_covers_2 2 = .ok (.aload_n 1, 1) := dk_43 (dk_at dksX3_covers_2_0 2 rfl rfl)
theorem dX3_covers_2_3 : decode cX3_covers_2 3 = .ok (.invokevirtual 123, 3) := dk_182 0 123 (dk_at dksX3_covers_2_0 3 rfl rfl)
theorem dX3_covers_2_6 : decode cX3_covers_2 6 = .ok (.isub, 1) := dk_100 (dk_at dksX3_covers_2_0 6 rfl rfl)
theorem dX3_covers_2_7 : decode cX3_covers_2 7 = .ok (.iconst 0, 1) := dk_3 (dk_at dksX3_covers_2_0 7 rfl rfl)
theorem dX3_covers_2_8 : decode cX3_covers_2 8 = .ok (.aload_n 1, 1) := dk_43 (dk_at dksX3_covers_2_0 8 rfl rfl)
theorem dX3_covers_2_9 : decode cX3_covers_2 9 = .ok (.getfield 126, 3) := dk_180 0 126 (dk_at dksX3_covers_2_0 9 rfl rfl)
theorem dX3_covers_2_12 : decode cX3_covers_2 12 = .ok (.iconst 1, 1) := dk_4 (dk_at dksX3_covers_2_0 12 rfl rfl)
theorem dX3_covers_2_13 : decode cX3_covers_2 13 = .ok (.isub, 1) := dk_100 (dk_at dksX3_covers_2_0 13 rfl rfl)
theorem dX3_covers_2_14 : decode cX3_covers_2 14 = .ok (.invokestatic 76, 3) := dk_184 0 76 (dk_at dksX3_covers_2_0 14 rfl rfl)
theorem dX3_covers_2_17 : decode cX3_covers_2 17 = .ok (.ifCond .eq 27, 3) := dk_153 0 27 (dk_at dksX3_covers_2_0 17 rfl rfl)
theorem dX3_covers_2_20 : decode cX3_covers_2 20 = .ok (.iload_n 3, 1) := dk_29 (dk_at dksX3_covers_2_0 20 rfl rfl)
theorem dX3_covers_2_21 : decode cX3_covers_2 21 = .ok (.aload_n 0, 1) := dk_42 (dk_at dksX3_covers_2_0 21 rfl rfl)
theorem dX3_covers_2_22 : decode cX3_covers_2 22 = .ok (.aload_n 1, 1) := dk_43 (dk_at dksX3_covers_2_0 22 rfl rfl)
theorem dX3_covers_2_23 : decode cX3_covers_2 23 = .ok (.invokevirtual 129, 3) := dk_182 0 129 (dk_at dksX3_covers_2_1 0 rfl rfl)
theorem dX3_covers_2_26 : decode cX3_covers_2 26 = .ok (.isub, 1) := dk_100 (dk_at dksX3_covers_2_1 3 rfl rfl)
theorem dX3_covers_2_27 : decode cX3_covers_2 27 = .ok (.iconst 0, 1) := dk_3 (dk_at dksX3_covers_2_1 4 rfl rfl)
theorem dX3_covers_2_28 : decode cX3_covers_2 28 = .ok (.aload_n 1, 1) := dk_43 (dk_at dksX3_covers_2_1 5 rfl rfl)
theorem dX3_covers_2_29 : decode cX3_covers_2 29 = .ok (.getfield 132, 3) := dk_180 0 132 (dk_at dksX3_covers_2_1 6 rfl rfl)
theorem dX3_covers_2_32 : decode cX3_covers_2 32 = .ok (.iconst 1, 1) := dk_4 (dk_at dksX3_covers_2_1 9 rfl rfl)
theorem dX3_covers_2_33 : decode cX3_covers_2 33 = .ok (.isub, 1) := dk_100 (dk_at dksX3_covers_2_1 10 rfl rfl)
theorem dX3_covers_2_34 : decode cX3_covers_2 34 = .ok (.invokestatic 76, 3) := dk_184 0 76 (dk_at dksX3_covers_2_1 11 rfl rfl)
theorem dX3_covers_2_37 : decode cX3_covers_2 37 = .ok (.ifCond .eq 7, 3) := dk_153 0 7 (dk_at dksX3_covers_2_1 14 rfl rfl)
theorem dX3_covers_2_40 : decode cX3_covers_2 40 = .ok (.iconst 1, 1) := dk_4 (dk_at dksX3_covers_2_1 17 rfl rfl)
theorem dX3_covers_2_41 : decode cX3_covers_2 41 = .ok (.goto 4, 3) := dk_167 0 4 (dk_at dksX3_covers_2_1 18 rfl rfl)
theorem dX3_covers_2_44 : decode cX3_covers_2 44 = .ok (.iconst 0, 1) := dk_3 (dk_at dksX3_covers_2_1 21 rfl rfl)
theorem dX3_covers_2_45 : decode cX3_covers_2 45 = .ok (.ireturn, 1) := dk_172 (dk_at dksX3_covers_2_1 22 rfl rfl)
theorem q580 : (Jvm.Cond.fieldLinkNest "Plugboard$Board" (126 : Nat) "Plugboard$Shape" "width" "I" "Plugboard") ∈ lw_tbl := lw_at lw_m3 30 rfl
theorem q583 : (Jvm.Cond.fieldLinkNest "Plugboard$Board" (132 : Nat) "Plugboard$Shape" "height" "I" "Plugboard") ∈ lw_tbl := lw_at lw_m3 33 rfl
theorem q1116 : (Jvm.Cond.instanceMethod ({ cls := "Plugboard$Board", name := "columnOf", desc := "(LPlugboard$Shape;)I" } : Jvm.MethodName)) ∈ lw_all := lw_g (lw_at lw_m5 86 rfl) rfl
theorem q1117 : (Jvm.Cond.selects "Plugboard$Board" ({ cls := "Plugboard$Board", name := "columnOf", desc := "(LPlugboard$Shape;)I" } : Jvm.MethodName) ({ cls := "Plugboard$Board", name := "columnOf", desc := "(LPlugboard$Shape;)I" } : Jvm.MethodName)) ∈ lw_all := lw_g (lw_at lw_m5 87 rfl) rfl
theorem q1118 : (Jvm.Cond.code ({ cls := "Plugboard$Board", name := "columnOf", desc := "(LPlugboard$Shape;)I" } : Jvm.MethodName) prog_3_method_5_code (2 : Nat) (Option.some Jvm.ClassFile.FieldType.int)) ∈ lw_all := lw_g (lw_at lw_m5 88 rfl) rfl
theorem q1120 : (Jvm.Cond.instanceMethod ({ cls := "Plugboard$Board", name := "rowOf", desc := "(LPlugboard$Shape;)I" } : Jvm.MethodName)) ∈ lw_all := lw_g (lw_at lw_m5 90 rfl) rfl
theorem q1121 : (Jvm.Cond.selects "Plugboard$Board" ({ cls := "Plugboard$Board", name := "rowOf", desc := "(LPlugboard$Shape;)I" } : Jvm.MethodName) ({ cls := "Plugboard$Board", name := "rowOf", desc := "(LPlugboard$Shape;)I" } : Jvm.MethodName)) ∈ lw_all := lw_g (lw_at lw_m5 91 rfl) rfl
theorem q1122 : (Jvm.Cond.code ({ cls := "Plugboard$Board", name := "rowOf", desc := "(LPlugboard$Shape;)I" } : Jvm.MethodName) prog_3_method_6_code (2 : Nat) (Option.some Jvm.ClassFile.FieldType.int)) ∈ lw_all := lw_g (lw_at lw_m5 92 rfl) rfl
theorem q1150 : (Jvm.Cond.methodLink "Plugboard$Board" (123 : Nat) ({ cls := "Plugboard$Board", name := "columnOf", desc := "(LPlugboard$Shape;)I" } : Jvm.MethodName)) ∈ lw_all := lw_g (lw_at lw_m5 120 rfl) rfl
theorem q1151 : (Jvm.Cond.methodLink "Plugboard$Board" (129 : Nat) ({ cls := "Plugboard$Board", name := "rowOf", desc := "(LPlugboard$Shape;)I" } : Jvm.MethodName)) ∈ lw_all := lw_g (lw_at lw_m5 121 rfl) rfl
abbrev rm_X3_covers_2 : Room := { frames := 1, cells := 0, slots := 0, locals := 22 }
def w_X3_covers_2 (a0 : Option Nat) (a1 : Option Nat) (a2 : Int32) (a3 : Int32) (h : AH) (P : Int32 → AH → Prop) : Prop :=
  is_c h a0 [2] (
  w_X3_columnOf a0 a1 h (fun y3 h3 =>
  g_iS h3 a1 1 fun y9 =>
  w_X1_isBetween (a2 - y3) 0 (y9 - 1) h3 (fun y14 h14 =>
  ((y14 = 0 →
    P 0 h14) ∧
   (¬ y14 = 0 →
    is_c h14 a0 [2] (
    w_X3_rowOf a0 a1 h14 (fun y23 h23 =>
    g_iS h23 a1 2 fun y29 =>
    w_X1_isBetween (a3 - y23) 0 (y29 - 1) h23 (fun y34 h34 =>
    ((y34 = 0 →
      P 0 h34) ∧
     (¬ y34 = 0 →
      P 1 h34))))))))))
theorem met_X3_covers_2 (l : Launch) (hlt : l.stackTraces = false) (G : GG) (h : AH) (a0 : Option Nat) (a1 : Option Nat) (a2 : Int32) (a3 : Int32) (P : Int32 → AH → Prop) (hw : w_X3_covers_2 a0 a1 a2 a3 h P) : ct_i l yX3_covers_2 (ws_ yX3_covers_2 cX3_covers_2 4 (Option.some Jvm.ClassFile.FieldType.boolean)) rm_X3_covers_2 G h [vR a0, vR a1, vI a2, vI a3] P := by
  refine j_starti hlt [(0, vR a0), (1, vR a1), (2, vI a2), (3, vI a3)] (plainFor_of_name (by decide)) rfl rfl (fun x X eG er en hQ => ?_)
  subst eG
  refine j_iload_n X (pc := 0) 2 dX3_covers_2_0 rfl rfl ?_
  refine j_aload_n X (pc := 1) 0 dX3_covers_2_1 rfl rfl ?_
  refine j_aload_n X (pc := 2) 1 dX3_covers_2_2 rfl rfl ?_
  obtain ⟨b9, c9, f9, hr9, ho9, hc9, hw⟩ := hw
  obtain rfl := List.mem_singleton.mp hc9
  refine j_calli (j_runV (n8 := 1) (As := [vR a1]) (rest := [vI a2]) X (pc := 3) hr9 (met_X3_columnOf (xl x) X.hl (xG x) h a0 a1 _ hw) ho9 (by decide) rfl q1150 q1116 q1117 q76 q1118 (by decide +kernel) dX3_covers_2_3 rfl ⟨Nat.le_of_ble_eq_true rfl, Nat.le_of_ble_eq_true rfl⟩ (Nat.le_of_ble_eq_true rfl) ⟨Nat.le_of_ble_eq_true rfl, Nat.le_of_ble_eq_true rfl⟩) (fun y3 h3 hw => ?_)
  refine j_isub X (pc := 6) dX3_covers_2_6 ?_
  refine j_iconst X (pc := 7) 0 dX3_covers_2_7 (by decide) ?_
  refine j_aload_n X (pc := 8) 1 dX3_covers_2_8 rfl rfl ?_
  refine j_getiSN X (pc := 9) 1 (by decide) q580 dX3_covers_2_9 hw (fun y9 hw => ?_)
  refine j_iconst X (pc := 12) 1 dX3_covers_2_12 (by decide) ?_
  refine j_isub X (pc := 13) dX3_covers_2_13 ?_
  refine j_calli (j_runSN (n8 := 3) (As := [vI (a2 - y3), vI 0, vI (y9 - 1)]) (rest := []) X (pc := 14) (met_X1_isBetween (xl x) X.hl (xG x) h3 (a2 - y3) 0 (y9 - 1) _ hw) q413 q305 q71 q306 (by decide +kernel) dX3_covers_2_14 rfl ⟨Nat.le_of_ble_eq_true rfl, Nat.le_of_ble_eq_true rfl⟩ (Nat.le_of_ble_eq_true rfl) ⟨Nat.le_of_ble_eq_true rfl, Nat.le_of_ble_eq_true rfl⟩) (fun y14 h14 hw => ?_)
  refine j_if_eq X (pc := 17) 44 dX3_covers_2_17 (by decide) hw (fun hw => ?_) (fun hw => ?_)
  · refine j_iconst X (pc := 44) 0 dX3_covers_2_44 (by decide) ?_
    exact j_zret X (pc := 45) (ty := .boolean) hQ er rfl (Nat.le_of_ble_eq_true rfl) (Nat.le_of_ble_eq_true rfl) dX3_covers_2_45 hw
  · refine j_iload_n X (pc := 20) 3 dX3_covers_2_20 rfl rfl ?_
    refine j_aload_n X (pc := 21) 0 dX3_covers_2_21 rfl rfl ?_
    refine j_aload_n X (pc := 22) 1 dX3_covers_2_22 rfl rfl ?_
    obtain ⟨b9, c9, f9, hr9, ho9, hc9, hw⟩ := hw
    obtain rfl := List.mem_singleton.mp hc9
    refine j_calli (j_runV (n8 := 1) (As := [vR a1]) (rest := [vI a3]) X (pc := 23) hr9 (met_X3_rowOf (xl x) X.hl (xG x) h14 a0 a1 _ hw) ho9 (by decide) rfl q1151 q1120 q1121 q76 q1122 (by decide +kernel) dX3_covers_2_23 rfl ⟨Nat.le_of_ble_eq_true rfl, Nat.le_of_ble_eq_true rfl⟩ (Nat.le_of_ble_eq_true rfl) ⟨Nat.le_of_ble_eq_true rfl, Nat.le_of_ble_eq_true rfl⟩) (fun y23 h23 hw => ?_)
    refine j_isub X (pc := 26) dX3_covers_2_26 ?_
    refine j_iconst X (pc := 27) 0 dX3_covers_2_27 (by decide) ?_
    refine j_aload_n X (pc := 28) 1 dX3_covers_2_28 rfl rfl ?_
    refine j_getiSN X (pc := 29) 2 (by decide) q583 dX3_covers_2_29 hw (fun y29 hw => ?_)
    refine j_iconst X (pc := 32) 1 dX3_covers_2_32 (by decide) ?_
    refine j_isub X (pc := 33) dX3_covers_2_33 ?_
    refine j_calli (j_runSN (n8 := 3) (As := [vI (a3 - y23), vI 0, vI (y29 - 1)]) (rest := []) X (pc := 34) (met_X1_isBetween (xl x) X.hl (xG x) h23 (a3 - y23) 0 (y29 - 1) _ hw) q413 q305 q71 q306 (by decide +kernel) dX3_covers_2_34 rfl ⟨Nat.le_of_ble_eq_true rfl, Nat.le_of_ble_eq_true rfl⟩ (Nat.le_of_ble_eq_true rfl) ⟨Nat.le_of_ble_eq_true rfl, Nat.le_of_ble_eq_true rfl⟩) (fun y34 h34 hw => ?_)
    refine j_if_eq X (pc := 37) 44 dX3_covers_2_37 (by decide) hw (fun hw => ?_) (fun hw => ?_)
    · refine j_iconst X (pc := 44) 0 dX3_covers_2_44 (by decide) ?_
      exact j_zret X (pc := 45) (ty := .boolean) hQ er rfl (Nat.le_of_ble_eq_true rfl) (Nat.le_of_ble_eq_true rfl) dX3_covers_2_45 hw
    · refine j_iconst X (pc := 40) 1 dX3_covers_2_40 (by decide) ?_
      refine j_goto X (pc := 41) 45 dX3_covers_2_41 (by decide) ?_
      exact j_zret X (pc := 45) (ty := .boolean) hQ er rfl (Nat.le_of_ble_eq_true rfl) (Nat.le_of_ble_eq_true rfl) dX3_covers_2_45 hw
abbrev cX3_covers : ByteArray := prog_3_method_11_code
def yX3_covers : MethodName := ⟨RX3, "covers", "(LPlugboard$Shape;LPlugboard$Shape;)Z"⟩
def dkwX3_covers_2 : List UInt8 := [153, 0, 7, 4, 167, 0, 4, 3, 172]
abbrev dktX3_covers_2 : List UInt8 := dkwX3_covers_2 ++ []
def dkwX3_covers_1 : List UInt8 := [42, 43, 29, 44, 180, 0, 126, 96, 4, 100, 21, 4, 44, 180, 0, 132, 96, 4, 100, 182, 0, 135]
abbrev dktX3_covers_1 : List UInt8 := dkwX3_covers_1 ++ dktX3_covers_2
def dkwX3_covers_0 : List UInt8 := [42, 44, 182, 0, 123, 62, 42, 44, 182, 0, 129, 54, 4, 42, 43, 29, 21, 4, 182, 0, 135, 153, 0, 32]
abbrev dktX3_covers_0 : List UInt8 := dkwX3_covers_0 ++ dktX3_covers_1
theorem dksX3_covers_0 : cX3_covers.data.toList.drop 0 = dktX3_covers_0 := by decide +kernel
theorem dksX3_covers_1 : cX3_covers.data.toList.drop 24 = dktX3_covers_1 := dk_seg dksX3_covers_0 24 rfl rfl
theorem dksX3_covers_2 : cX3_covers.data.toList.drop 46 = dktX3_covers_2 := dk_seg dksX3_covers_1 22 rfl rfl
theorem dX3_covers_0 : decode cX3_covers 0 = .ok (.aload_n 0, 1) := dk_42 (dk_at dksX3_covers_0 0 rfl rfl)
theorem dX3_covers_1 : decode cX3_covers 1 = .ok (.aload_n 2, 1) := dk_44 (dk_at dksX3_covers_0 1 rfl rfl)
theorem dX3_covers_2 : decode cX3_covers 2 = .ok (.invokevirtual 123, 3) := dk_182 0 123 (dk_at dksX3_covers_0 2 rfl rfl)
theorem dX3_covers_5 : decode cX3_covers 5 = .ok (.istore_n 3, 1) := dk_62 (dk_at dksX3_covers_0 5 rfl rfl)
theorem dX3_covers_6 : decode cX3_covers 6 = .ok (.aload_n 0, 1) := dk_42 (dk_at dksX3_covers_0 6 rfl rfl)
theorem dX3_covers_7 : decode cX3_covers 7 = .ok (.aload_n 2, 1) := dk_44 (dk_at dksX3_covers_0 7 rfl rfl)
theorem dX3_covers_8 : decode cX3_covers 8 = .ok (.invokevirtual 129, 3) := dk_182 0 129 (dk_at dksX3_covers_0 8 rfl rfl)
theorem dX3_covers_11 : decode cX3_covers 11 = .ok (.istore 4, 2) := dk_54 4 (dk_at dksX3_covers_0 11 rfl rfl)
theorem dX3_covers_13 : decode cX3_covers 13 = .ok (.aload_n 0, 1) := dk_42 (dk_at dksX3_covers_0 13 rfl rfl)
theorem dX3_covers_14 : decode cX3_covers 14 = .ok (.aload_n 1, 1) := dk_43 (dk_at dksX3_covers_0 14 rfl rfl)
theorem dX3_covers_15 : decode cX3_covers 15 = .ok (.iload_n 3, 1) := dk_29 (dk_at dksX3_covers_0 15 rfl rfl)
theorem dX3_covers_16 : decode cX3_covers 16 = .ok (.iload 4, 2) := dk_21 4 (dk_at dksX3_covers_0 16 rfl rfl)
theorem dX3_covers_18 : decode cX3_covers 18 = .ok (.invokevirtual 135, 3) := dk_182 0 135 (dk_at dksX3_covers_0 18 rfl rfl)
theorem dX3_covers_21 : decode cX3_covers 21 = .ok (.ifCond .eq 32, 3) := dk_153 0 32 (dk_at dksX3_covers_0 21 rfl rfl)
theorem dX3_covers_24 : decode cX3_covers 24 = .ok (.aload_n 0, 1) := dk_42 (dk_at dksX3_covers_1 0 rfl rfl)
theorem dX3_covers_25 : decode cX3_covers 25 = .ok (.aload_n 1, 1) := dk_43 (dk_at dksX3_covers_1 1 rfl rfl)
theorem dX3_covers_26 : decode cX3_covers 26 = .ok (.iload_n 3, 1) := dk_29 (dk_at dksX3_covers_1 2 rfl rfl)
theorem dX3_covers_27 : decode cX3_covers 27 = .ok (.aload_n 2, 1) := dk_44 (dk_at dksX3_covers_1 3 rfl rfl)
theorem dX3_covers_28 : decode cX3_covers 28 = .ok (.getfield 126, 3) := dk_180 0 126 (dk_at dksX3_covers_1 4 rfl rfl)
theorem dX3_covers_31 : decode cX3_covers 31 = .ok (.iadd, 1) := dk_96 (dk_at dksX3_covers_1 7 rfl rfl)
theorem dX3_covers_32 : decode cX3_covers 32 = .ok (.iconst 1, 1) := dk_4 (dk_at dksX3_covers_1 8 rfl rfl)
theorem dX3_covers_33 : decode cX3_covers 33 = .ok (.isub, 1) := dk_100 (dk_at dksX3_covers_1 9 rfl rfl)
theorem dX3_covers_34 : decode cX3_covers 34 = .ok (.iload 4, 2) := dk_21 4 (dk_at dksX3_covers_1 10 rfl rfl)
theorem dX3_covers_36 : decode cX3_covers 36 = .ok (.aload_n 2, 1) := dk_44 (dk_at dksX3_covers_1 12 rfl rfl)
theorem dX3_covers_37 : decode cX3_covers 37 = .ok (.getfield 132, 3) := dk_180 0 132 (dk_at dksX3_covers_1 13 rfl rfl)
theorem dX3_covers_40 : decode cX3_covers 40 = .ok (.iadd, 1) := dk_96 (dk_at dksX3_covers_1 16 rfl rfl)
theorem dX3_covers_41 : decode cX3_covers 41 = .ok (.iconst 1, 1) := dk_4 (dk_at dksX3_covers_1 17 rfl rfl)
theorem dX3_covers_42 : decode cX3_covers 42 = .ok (.isub, 1) := dk_100 (dk_at dksX3_covers_1 18 rfl rfl)
theorem dX3_covers_43 : decode cX3_covers 43 = .ok (.invokevirtual 135, 3) := dk_182 0 135 (dk_at dksX3_covers_1 19 rfl rfl)
theorem dX3_covers_46 : decode cX3_covers 46 = .ok (.ifCond .eq 7, 3) := dk_153 0 7 (dk_at dksX3_covers_2 0 rfl rfl)
theorem dX3_covers_49 : decode cX3_covers 49 = .ok (.iconst 1, 1) := dk_4 (dk_at dksX3_covers_2 3 rfl rfl)
theorem dX3_covers_50 : decode cX3_covers 50 = .ok (.goto 4, 3) := dk_167 0 4 (dk_at dksX3_covers_2 4 rfl rfl)
theorem dX3_covers_53 : decode cX3_covers 53 = .ok (.iconst 0, 1) := dk_3 (dk_at dksX3_covers_2 7 rfl rfl)
theorem dX3_covers_54 : decode cX3_covers 54 = .ok (.ireturn, 1) := dk_172 (dk_at dksX3_covers_2 8 rfl rfl)
theorem q1152 : (Jvm.Cond.methodLink "Plugboard$Board" (135 : Nat) ({ cls := "Plugboard$Board", name := "covers", desc := "(LPlugboard$Shape;II)Z" } : Jvm.MethodName)) ∈ lw_all := lw_g (lw_at lw_m5 122 rfl) rfl
theorem q1153 : (Jvm.Cond.instanceMethod ({ cls := "Plugboard$Board", name := "covers", desc := "(LPlugboard$Shape;II)Z" } : Jvm.MethodName)) ∈ lw_all := lw_g (lw_at lw_m5 123 rfl) rfl
theorem q1154 : (Jvm.Cond.selects "Plugboard$Board" ({ cls := "Plugboard$Board", name := "covers", desc := "(LPlugboard$Shape;II)Z" } : Jvm.MethodName) ({ cls := "Plugboard$Board", name := "covers", desc := "(LPlugboard$Shape;II)Z" } : Jvm.MethodName)) ∈ lw_all := lw_g (lw_at lw_m5 124 rfl) rfl
theorem q1155 : (Jvm.Cond.code ({ cls := "Plugboard$Board", name := "covers", desc := "(LPlugboard$Shape;II)Z" } : Jvm.MethodName) prog_3_method_10_code (4 : Nat) (Option.some Jvm.ClassFile.FieldType.boolean)) ∈ lw_all := lw_g (lw_at lw_m5 125 rfl) rfl
abbrev rm_X3_covers : Room := { frames := 2, cells := 0, slots := 0, locals := 45 }
def w_X3_covers (a0 : Option Nat) (a1 : Option Nat) (a2 : Option Nat) (h : AH) (P : Int32 → AH → Prop) : Prop :=
  is_c h a0 [2] (
  w_X3_columnOf a0 a2 h (fun y2 h2 =>
  is_c h2 a0 [2] (
  w_X3_rowOf a0 a2 h2 (fun y8 h8 =>
  is_c h8 a0 [2] (
  w_X3_covers_2 a0 a1 y2 y8 h8 (fun y18 h18 =>
  ((y18 = 0 →
    P 0 h18) ∧
   (¬ y18 = 0 →
    g_iS h18 a2 1 fun y28 =>
    g_iS h18 a2 2 fun y37 =>
    is_c h18 a0 [2] (
    w_X3_covers_2 a0 a1 ((y2 + y28) - 1) ((y8 + y37) - 1) h18 (fun y43 h43 =>
    ((y43 = 0 →
      P 0 h43) ∧
     (¬ y43 = 0 →
      P 1 h43))))))))))))
theorem met_X3_covers (l : Launch) (hlt : l.stackTraces = false) (G : GG) (h : AH) (a0 : Option Nat) (a1 : Option Nat) (a2 : Option Nat) (P : Int32 → AH → Prop) (hw : w_X3_covers a0 a1 a2 h P) : ct_i l yX3_covers (ws_ yX3_covers cX3_covers 5 (Option.some Jvm.ClassFile.FieldType.boolean)) rm_X3_covers G h [vR a0, vR a1, vR a2] P := by
  refine j_starti hlt [(0, vR a0), (1, vR a1), (2, vR a2)] (plainFor_of_name (by decide)) rfl rfl (fun x X eG er en hQ => ?_)
  subst eG
  refine j_aload_n X (pc := 0) 0 dX3_covers_0 rfl rfl ?_
  refine j_aload_n X (pc := 1) 2 dX3_covers_1 rfl rfl ?_
  obtain ⟨b9, c9, f9, hr9, ho9, hc9, hw⟩ := hw
  obtain rfl := List.mem_singleton.mp hc9
  refine j_calli (j_runV (n8 := 1) (As := [vR a2]) (rest := []) X (pc := 2) hr9 (met_X3_columnOf (xl x) X.hl (xG x) h a0 a2 _ hw) ho9 (by decide) rfl q1150 q1116 q1117 q76 q1118 (by decide +kernel) dX3_covers_2 rfl ⟨Nat.le_of_ble_eq_true rfl, Nat.le_of_ble_eq_true rfl⟩ (Nat.le_of_ble_eq_true rfl) ⟨Nat.le_of_ble_eq_true rfl, Nat.le_of_ble_eq_true rfl⟩) (fun y2 h2 hw => ?_)
  refine j_istore_n X (pc := 5) [(3, vI y2), (0, vR a0), (1, vR a1), (2, vR a2)] dX3_covers_5 rfl (Nat.le_of_ble_eq_true rfl) rfl ?_
  refine j_aload_n X (pc := 6) 1 dX3_covers_6 rfl rfl ?_
  refine j_aload_n X (pc := 7) 3 dX3_covers_7 rfl rfl ?_
  obtain ⟨b9, c9, f9, hr9, ho9, hc9, hw⟩ := hw
  obtain rfl := List.mem_singleton.mp hc9
  refine j_calli (j_runV (n8 := 1) (As := [vR a2]) (rest := []) X (pc := 8) hr9 (met_X3_rowOf (xl x) X.hl (xG x) h2 a0 a2 _ hw) ho9 (by decide) rfl q1151 q1120 q1121 q76 q1122 (by decide +kernel) dX3_covers_8 rfl ⟨Nat.le_of_ble_eq_true rfl, Nat.le_of_ble_eq_true rfl⟩ (Nat.le_of_ble_eq_true rfl) ⟨Nat.le_of_ble_eq_true rfl, Nat.le_of_ble_eq_true rfl⟩) (fun y8 h8 hw => ?_)
  refine j_istore X (pc := 11) [(4, vI y8), (3, vI y2), (0, vR a0), (1, vR a1), (2, vR a2)] dX3_covers_11 (Nat.le_of_ble_eq_true rfl) rfl ?_
  refine j_aload_n X (pc := 13) 2 dX3_covers_13 rfl rfl ?_
  refine j_aload_n X (pc := 14) 3 dX3_covers_14 rfl rfl ?_
  refine j_iload_n X (pc := 15) 1 dX3_covers_15 rfl rfl ?_
  refine j_iload X (pc := 16) 0 dX3_covers_16 rfl ?_
  obtain ⟨b9, c9, f9, hr9, ho9, hc9, hw⟩ := hw
  obtain rfl := List.mem_singleton.mp hc9
  refine j_calli (j_runV (n8 := 3) (As := [vR a1, vI y2, vI y8]) (rest := []) X (pc := 18) hr9 (met_X3_covers_2 (xl x) X.hl (xG x) h8 a0 a1 y2 y8 _ hw) ho9 (by decide) rfl q1152 q1153 q1154 q76 q1155 (by decide +kernel) dX3_covers_18 rfl ⟨Nat.le_of_ble_eq_true rfl, Nat.le_of_ble_eq_true rfl⟩ (Nat.le_of_ble_eq_true rfl) ⟨Nat.le_of_ble_eq_true rfl, Nat.le_of_ble_eq_true rfl⟩) (fun y18 h18 hw => ?_)
  refine j_if_eq X (pc := 21) 53 dX3_covers_21 (by decide) hw (fun hw => ?_) (fun hw => ?_)
  · refine j_iconst X (pc := 53) 0 dX3_covers_53 (by decide) ?_
    exact j_zret X (pc := 54) (ty := .boolean) hQ er rfl (Nat.le_of_ble_eq_true rfl) (Nat.le_of_ble_eq_true rfl) dX3_covers_54 hw
  · refine j_aload_n X (pc := 24) 2 dX3_covers_24 rfl rfl ?_
    refine j_aload_n X (pc := 25) 3 dX3_covers_25 rfl rfl ?_
    refine j_iload_n X (pc := 26) 1 dX3_covers_26 rfl rfl ?_
    refine j_aload_n X (pc := 27) 4 dX3_covers_27 rfl rfl ?_
    refine j_getiSN X (pc := 28) 1 (by decide) q580 dX3_covers_28 hw (fun y28 hw => ?_)
    refine j_iadd X (pc := 31) dX3_covers_31 ?_
    refine j_iconst X (pc := 32) 1 dX3_covers_32 (by decide) ?_
    refine j_isub X (pc := 33) dX3_covers_33 ?_
    refine j_iload X (pc := 34) 0 dX3_covers_34 rfl ?_
    refine j_aload_n X (pc := 36) 4 dX3_covers_36 rfl rfl ?_
    refine j_getiSN X (pc := 37) 2 (by decide) q583 dX3_covers_37 hw (fun y37 hw => ?_)
    refine j_iadd X (pc := 40) dX3_covers_40 ?_
    refine j_iconst X (pc := 41) 1 dX3_covers_41 (by decide) ?_
    refine j_isub X (pc := 42) dX3_covers_42 ?_
    obtain ⟨b9, c9, f9, hr9, ho9, hc9, hw⟩ := hw
    obtain rfl := List.mem_singleton.mp hc9
    refine j_calli (j_runV (n8 := 3) (As := [vR a1, vI ((y2 + y28) - 1), vI ((y8 + y37) - 1)]) (rest := []) X (pc := 43) hr9 (met_X3_covers_2 (xl x) X.hl (xG x) h18 a0 a1 ((y2 + y28) - 1) ((y8 + y37) - 1) _ hw) ho9 (by decide) rfl q1152 q1153 q1154 q76 q1155 (by decide +kernel) dX3_covers_43 rfl ⟨Nat.le_of_ble_eq_true rfl, Nat.le_of_ble_eq_true rfl⟩ (Nat.le_of_ble_eq_true rfl) ⟨Nat.le_of_ble_eq_true rfl, Nat.le_of_ble_eq_true rfl⟩) (fun y43 h43 hw => ?_)
    refine j_if_eq X (pc := 46) 53 dX3_covers_46 (by decide) hw (fun hw => ?_) (fun hw => ?_)
    · refine j_iconst X (pc := 53) 0 dX3_covers_53 (by decide) ?_
      exact j_zret X (pc := 54) (ty := .boolean) hQ er rfl (Nat.le_of_ble_eq_true rfl) (Nat.le_of_ble_eq_true rfl) dX3_covers_54 hw
    · refine j_iconst X (pc := 49) 1 dX3_covers_49 (by decide) ?_
      refine j_goto X (pc := 50) 54 dX3_covers_50 (by decide) ?_
      exact j_zret X (pc := 54) (ty := .boolean) hQ er rfl (Nat.le_of_ble_eq_true rfl) (Nat.le_of_ble_eq_true rfl) dX3_covers_54 hw
