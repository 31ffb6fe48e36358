/-! walks (printed): Plugboard, PlugboardLaw, PlugboardModel -/
set_option maxRecDepth 100000
abbrev cX5_bends : ByteArray := prog_19_method_75_code
def yX5_bends : MethodName := ⟨RX5, "bends", "(II)I"⟩
def dkwX5_bends_0 : List UInt8 := [42, 27, 28, 182, 1, 8, 17, 3, 232, 108, 172]
abbrev dktX5_bends_0 : List UInt8 := dkwX5_bends_0 ++ []
theorem dksX5_bends_0 : cX5_bends.data.toList.drop 0 = dktX5_bends_0 := by decide +kernel
theorem dX5_bends_0 : decode cX5_bends 0 = .ok (.aload_n 0, 1) := dk_42 (dk_at dksX5_bends_0 0 rfl rfl)
theorem dX5_bends_1 : decode cX5_bends 1 = .ok (.iload_n 1, 1) := dk_27 (dk_at dksX5_bends_0 1 rfl rfl)
theorem dX5_bends_2 : decode cX5_bends 2 = .ok (.iload_n 2, 1) := dk_28 (dk_at dksX5_bends_0 2 rfl rfl)
theorem dX5_bends_3 : decode cX5_bends 3 = .ok (.invokevirtual 264, 3) := dk_182 1 8 (dk_at dksX5_bends_0 3 rfl rfl)
theorem dX5_bends_6 : decode cX5_bends 6 = .ok (.sipush 1000, 3) := dk_17 3 232 (dk_at dksX5_bends_0 6 rfl rfl)
theorem dX5_bends_9 : decode cX5_bends 9 = .ok (.idiv, 1) := dk_108 (dk_at dksX5_bends_0 9 rfl rfl)
theorem dX5_bends_10 : decode cX5_bends 10 = .ok (.ireturn, 1) := dk_172 (dk_at dksX5_bends_0 10 rfl rfl)
theorem q2235 : (Jvm.Cond.methodLink "PlugboardModel" (264 : Nat) ({ cls := "PlugboardModel", name := "asked", desc := "(II)I" } : Jvm.MethodName)) ∈ lw_all := lw_g (lw_at lw_m10 5 rfl) rfl
theorem q2237 : (Jvm.Cond.instanceMethod ({ cls := "PlugboardModel", name := "asked", desc := "(II)I" } : Jvm.MethodName)) ∈ lw_all := lw_g (lw_at lw_m10 7 rfl) rfl
theorem q2238 : (Jvm.Cond.code ({ cls := "PlugboardModel", name := "asked", desc := "(II)I" } : Jvm.MethodName) prog_19_method_74_code (4 : Nat) (Option.some Jvm.ClassFile.FieldType.int)) ∈ lw_all := lw_g (lw_at lw_m10 8 rfl) rfl
abbrev rm_X5_bends : Room := { frames := 5, cells := 0, slots := 0, locals := 126 }
def w_X5_bends (a0 : Option Nat) (a1 : Int32) (a2 : Int32) (h : AH) (P : Int32 → AH → Prop) : Prop :=
  is_c h a0 [4] (
  w_X5_asked a0 a1 a2 h (fun y3 h3 =>
  ¬ (1000 : Int32) = 0 ∧
  P (y3 / 1000) h3))
theorem met_X5_bends (l : Launch) (hlt : l.stackTraces = false) (G : GG) (h : AH) (a0 : Option Nat) (a1 : Int32) (a2 : Int32) (P : Int32 → AH → Prop) (hw : w_X5_bends a0 a1 a2 h P) : ct_i l yX5_bends (ws_ yX5_bends cX5_bends 3 (Option.some Jvm.ClassFile.FieldType.int)) rm_X5_bends G h [vR a0, vI a1, vI a2] P := by
  refine j_starti hlt [(0, vR a0), (1, vI a1), (2, vI a2)] (plainFor_of_name (by decide)) rfl rfl (fun x X eG er en hQ => ?_)
  subst eG
  refine j_aload_n X (pc := 0) 0 dX5_bends_0 rfl rfl ?_
  refine j_iload_n X (pc := 1) 1 dX5_bends_1 rfl rfl ?_
  refine j_iload_n X (pc := 2) 2 dX5_bends_2 rfl rfl ?_
  obtain ⟨b9, c9, f9, hr9, ho9, hc9, hw⟩ := hw
  obtain rfl := List.mem_singleton.mp hc9
  refine j_calli (j_runV (n8 := 2) (As := [vI a1, vI a2]) (rest := []) X (pc := 3) hr9 (met_X5_asked (xl x) X.hl (xG x) h a0 a1 a2 _ hw) ho9 (by decide) rfl q2235 q2237 qs61 q78 q2238 (by decide +kernel) dX5_bends_3 rfl ⟨Nat.le_of_ble_eq_true rfl, Nat.le_of_ble_eq_true rfl⟩ (Nat.le_of_ble_eq_true rfl) ⟨Nat.le_of_ble_eq_true rfl, Nat.le_of_ble_eq_true rfl⟩) (fun y3 h3 hw => ?_)
  refine j_sipush X (pc := 6) 1000 dX5_bends_6 (by decide) ?_
  refine j_idiv X (pc := 9) dX5_bends_9 hw (fun hw => ?_)
  exact j_iret X (pc := 10) hQ er (Nat.le_of_ble_eq_true rfl) (Nat.le_of_ble_eq_true rfl) dX5_bends_10 hw
abbrev cX1_routeByRounds : ByteArray := prog_1_method_69_code
def yX1_routeByRounds : MethodName := ⟨RX1, "routeByRounds", "(LPlugboard$Board;LPlugboard$Connector;)I"⟩
def dkwX1_routeByRounds_9 : List UInt8 := [172]
abbrev dktX1_routeByRounds_9 : List UInt8 := dkwX1_routeByRounds_9 ++ []
def dkwX1_routeByRounds_8 : List UInt8 := [4, 54, 5, 132, 7, 1, 167, 255, 176, 132, 6, 1, 167, 255, 141, 167, 255, 127, 42, 21, 4, 182, 1, 161]
abbrev dktX1_routeByRounds_8 : List UInt8 := dkwX1_routeByRounds_8 ++ dktX1_routeByRounds_9
def dkwX1_routeByRounds_7 : List UInt8 := [21, 8, 104, 21, 7, 96, 46, 162, 0, 20, 42, 180, 0, 99, 7, 21, 8, 104, 21, 7, 96, 21, 9, 79]
abbrev dktX1_routeByRounds_7 : List UInt8 := dkwX1_routeByRounds_7 ++ dktX1_routeByRounds_8
def dkwX1_routeByRounds_6 : List UInt8 := [7, 112, 21, 7, 184, 1, 158, 96, 54, 9, 21, 8, 2, 159, 0, 37, 21, 9, 42, 180, 0, 99, 7]
abbrev dktX1_routeByRounds_6 : List UInt8 := dkwX1_routeByRounds_6 ++ dktX1_routeByRounds_7
def dkwX1_routeByRounds_5 : List UInt8 := [162, 0, 80, 42, 21, 6, 7, 108, 21, 7, 182, 1, 155, 54, 8, 42, 180, 0, 99, 21, 6, 46, 21, 6]
abbrev dktX1_routeByRounds_5 : List UInt8 := dkwX1_routeByRounds_5 ++ dktX1_routeByRounds_6
def dkwX1_routeByRounds_4 : List UInt8 := [42, 180, 0, 99, 21, 6, 46, 19, 1, 134, 160, 0, 6, 167, 0, 89, 3, 54, 7, 21, 7, 7]
abbrev dktX1_routeByRounds_4 : List UInt8 := dkwX1_routeByRounds_4 ++ dktX1_routeByRounds_5
def dkwX1_routeByRounds_3 : List UInt8 := [4, 54, 5, 21, 5, 153, 0, 130, 3, 54, 5, 3, 54, 6, 21, 6, 42, 180, 0, 99, 190, 162, 0, 111]
abbrev dktX1_routeByRounds_3 : List UInt8 := dkwX1_routeByRounds_3 ++ dktX1_routeByRounds_4
def dkwX1_routeByRounds_2 : List UInt8 := [21, 5, 7, 162, 0, 21, 42, 180, 0, 99, 7, 29, 104, 21, 5, 96, 4, 79, 132, 5, 1, 167, 255, 235]
abbrev dktX1_routeByRounds_2 : List UInt8 := dkwX1_routeByRounds_2 ++ dktX1_routeByRounds_3
def dkwX1_routeByRounds_1 : List UInt8 := [54, 4, 29, 2, 159, 0, 9, 21, 4, 2, 160, 0, 7, 19, 1, 134, 172, 42, 182, 1, 152, 3, 54, 5]
abbrev dktX1_routeByRounds_1 : List UInt8 := dkwX1_routeByRounds_1 ++ dktX1_routeByRounds_2
def dkwX1_routeByRounds_0 : List UInt8 := [42, 43, 182, 1, 137, 42, 43, 44, 182, 1, 141, 182, 1, 145, 62, 42, 43, 44, 182, 1, 149, 182, 1, 145]
abbrev dktX1_routeByRounds_0 : List UInt8 := dkwX1_routeByRounds_0 ++ dktX1_routeByRounds_1
theorem dksX1_routeByRounds_0 : cX1_routeByRounds.data.toList.drop 0 = dktX1_routeByRounds_0 := by decide +kernel
theorem dksX1_routeByRounds_1 : cX1_routeByRounds.data.toList.drop 24 = dktX1_routeByRounds_1 := dk_seg dksX1_routeByRounds_0 24 rfl rfl
theorem dksX1_routeByRounds_2 : cX1_routeByRounds.data.toList.drop 48 = dktX1_routeByRounds_2 := dk_seg dksX1_routeByRounds_1 24 rfl rfl
theorem dksX1_routeByRounds_3 : cX1_routeByRounds.data.toList.drop 72 = dktX1_routeByRounds_3 := dk_seg dksX1_routeByRounds_2 24 rfl rfl
theorem dksX1_routeByRounds_4 : cX1_routeByRounds.data.toList.drop 96 = dktX1_routeByRounds_4 := dk_seg dksX1_routeByRounds_3 24 rfl rfl
theorem dksX1_routeByRounds_5 : cX1_routeByRounds.data.toList.drop 118 = dktX1_routeByRounds_5 := dk_seg dksX1_routeByRounds_4 22 rfl rfl
theorem dksX1_routeByRounds_6 : cX1_routeByRounds.data.toList.drop 142 = dktX1_routeByRounds_6 := dk_seg dksX1_routeByRounds_5 24 rfl rfl
theorem dksX1_routeByRounds_7 : cX1_routeByRounds.data.toList.drop 165 = dktX1_routeByRounds_7 := dk_seg dksX1_routeByRounds_6 23 rfl rfl
theorem dksX1_routeByRounds_8 : cX1_routeByRounds.data.toList.drop 189 = dktX1_routeByRounds_8 := dk_seg dksX1_routeByRounds_7 24 rfl rfl
theorem dksX1_routeByRounds_9 : cX1_routeByRounds.data.toList.drop 213 = dktX1_routeByRounds_9 := dk_seg dksX1_routeByRounds_8 24 rfl rfl
theorem dX1_routeByRounds_0 : decode cX1_routeByRounds 0 = .ok (.aload_n 0, 1) := dk_42 (dk_at dksX1_routeByRounds_0 0 rfl rfl)
theorem dX1_routeByRounds_1 : decode cX1_routeByRounds 1 = .ok (.aload_n 1, 1) := dk_43 (dk_at dksX1_routeByRounds_0 1 rfl rfl)
theorem dX1_routeByRounds_2 : decode cX1_routeByRounds 2 = .ok (.invokevirtual 393, 3) := dk_182 1 137 (dk_at dksX1_routeByRounds_0 2 rfl rfl)
theorem dX1_routeByRounds_5 : decode cX1_routeByRounds 5 = .ok (.aload_n 0, 1) := dk_42 (dk_at dksX1_routeByRounds_0 5 rfl rfl)
theorem dX1_routeByRounds_6 : decode cX1_routeByRounds 6 = .ok (.aload_n 1, 1) := dk_43 (dk_at dksX1_routeByRounds_0 6 rfl rfl)
theorem dX1_routeByRounds_7 : decode cX1_routeByRounds 7 = .ok (.aload_n 2, 1) := dk_44 (dk_at dksX1_routeByRounds_0 7 rfl rfl)
theorem dX1_routeByRounds_8 : decode cX1_routeByRounds 8 = .ok (.invokevirtual 397, 3) := dk_182 1 141 (dk_at dksX1_routeByRounds_0 8 rfl rfl)
theorem dX1_routeByRounds_11 : decode cX1_routeByRounds 11 = .ok (.invokevirtual 401, 3) := dk_182 1 145 (dk_at dksX1_routeByRounds_0 11 rfl rfl)
theorem dX1_routeByRounds_14 : decode cX1_routeByRounds 14 = .ok (.istore_n 3, 1) := dk_62 (dk_at dksX1_routeByRounds_0 14 rfl rfl)
theorem dX1_routeByRounds_15 : decode cX1_routeByRounds 15 = .ok (.aload_n 0, 1) := dk_42 (dk_at dksX1_routeByRounds_0 15 rfl rfl)
theorem dX1_routeByRounds_16 : decode cX1_routeByRounds 16 = .ok (.aload_n 1, 1) := dk_43 (dk_at dksX1_routeByRounds_0 16 rfl rfl)
theorem dX1_routeByRounds_17 : decode cX1_routeByRounds 17 = .ok (.aload_n 2, 1) := dk_44 (dk_at dksX1_routeByRounds_0 17 rfl rfl)
theorem dX1_routeByRounds_18 : decode cX1_routeByRounds 18 = .ok (.invokevirtual 405, 3) := dk_182 1 149 (dk_at dksX1_routeByRounds_0 18 rfl rfl)
theorem dX1_routeByRounds_21 : decode cX1_routeByRounds 21 = .ok (.invokevirtual 401, 3) := dk_182 1 145 (dk_at dksX1_routeByRounds_0 21 rfl rfl)
theorem dX1_routeByRounds_24 : decode cX1_routeByRounds 24 = .ok (.istore 4, 2) := dk_54 4 (dk_at dksX1_routeByRounds_1 0 rfl rfl)
theorem dX1_routeByRounds_26 : decode cX1_routeByRounds 26 = .ok (.iload_n 3, 1) := dk_29 (dk_at dksX1_routeByRounds_1 2 rfl rfl)
theorem dX1_routeByRounds_27 : decode cX1_routeByRounds 27 = .ok (.iconst (-1), 1) := dk_2 (dk_at dksX1_routeByRounds_1 3 rfl rfl)
theorem dX1_routeByRounds_28 : decode cX1_routeByRounds 28 = .ok (.if_icmp .eq 9, 3) := dk_159 0 9 (dk_at dksX1_routeByRounds_1 4 rfl rfl)
theorem dX1_routeByRounds_31 : decode cX1_routeByRounds 31 = .ok (.iload 4, 2) := dk_21 4 (dk_at dksX1_routeByRounds_1 7 rfl rfl)
theorem dX1_routeByRounds_33 : decode cX1_routeByRounds 33 = .ok (.iconst (-1), 1) := dk_2 (dk_at dksX1_routeByRounds_1 9 rfl rfl)
theorem dX1_routeByRounds_34 : decode cX1_routeByRounds 34 = .ok (.if_icmp .ne 7, 3) := dk_160 0 7 (dk_at dksX1_routeByRounds_1 10 rfl rfl)
theorem dX1_routeByRounds_37 : decode cX1_routeByRounds 37 = .ok (.ldc_w 390, 3) := dk_19 1 134 (dk_at dksX1_routeByRounds_1 13 rfl rfl)
theorem dX1_routeByRounds_40 : decode cX1_routeByRounds 40 = .ok (.ireturn, 1) := dk_172 (dk_at dksX1_routeByRounds_1 16 rfl rfl)
theorem dX1_routeByRounds_41 : decode cX1_routeByRounds 41 = .ok (.aload_n 0, 1) := dk_42 (dk_at dksX1_routeByRounds_1 17 rfl rfl)
theorem dX1_routeByRounds_42 : decode cX1_routeByRounds 42 = .ok (.invokevirtual 408, 3) := dk_182 1 152 (dk_at dksX1_routeByRounds_1 18 rfl rfl)
theorem dX1_routeByRounds_45 : decode cX1_routeByRounds 45 = .ok (.iconst 0, 1) := dk_3 (dk_at dksX1_routeByRounds_1 21 rfl rfl)
theorem dX1_routeByRounds_46 : decode cX1_routeByRounds 46 = .ok (.istore 5, 2) := dk_54 5 (dk_at dksX1_routeByRounds_1 22 rfl rfl)
theorem dX1_routeByRounds_48 : decode cX1_routeByRounds 48 = .ok (.iload 5, 2) := dk_21 5 (dk_at dksX1_routeByRounds_2 0 rfl rfl)
theorem dX1_routeByRounds_50 : decode cX1_routeByRounds 50 = .ok (.iconst 4, 1) := dk_7 (dk_at dksX1_routeByRounds_2 2 rfl rfl)
theorem dX1_routeByRounds_51 : decode cX1_routeByRounds 51 = .ok (.if_icmp .ge 21, 3) := dk_162 0 21 (dk_at dksX1_routeByRounds_2 3 rfl rfl)
theorem dX1_routeByRounds_54 : decode cX1_routeByRounds 54 = .ok (.aload_n 0, 1) := dk_42 (dk_at dksX1_routeByRounds_2 6 rfl rfl)
theorem dX1_routeByRounds_55 : decode cX1_routeByRounds 55 = .ok (.getfield 99, 3) := dk_180 0 99 (dk_at dksX1_routeByRounds_2 7 rfl rfl)
theorem dX1_routeByRounds_58 : decode cX1_routeByRounds 58 = .ok (.iconst 4, 1) := dk_7 (dk_at dksX1_routeByRounds_2 10 rfl rfl)
theorem dX1_routeByRounds_59 : decode cX1_routeByRounds 59 = .ok (.iload_n 3, 1) := dk_29 (dk_at dksX1_routeByRounds_2 11 rfl rfl)
theorem dX1_routeByRounds_60 : decode cX1_routeByRounds 60 = .ok (.imul, 1) := dk_104 (dk_at dksX1_routeByRounds_2 12 rfl rfl)
theorem dX1_routeByRounds_61 : decode cX1_routeByRounds 61 = .ok (.iload 5, 2) := dk_21 5 (dk_at dksX1_routeByRounds_2 13 rfl rfl)
theorem dX1_routeByRounds_63 : decode cX1_routeByRounds 63 = .ok (.iadd, 1) := dk_96 (dk_at dksX1_routeByRounds_2 15 rfl rfl)
theorem dX1_routeByRounds_64 : decode cX1_routeByRounds 64 = .ok (.iconst 1, 1) := dk_4 (dk_at dksX1_routeByRounds_2 16 rfl rfl)
theorem dX1_routeByRounds_65 : decode cX1_routeByRounds 65 = .ok (.iastore, 1) := dk_79 (dk_at dksX1_routeByRounds_2 17 rfl rfl)
theorem dX1_routeByRounds_66 : decode cX1_routeByRounds 66 = .ok (.iinc 5 1, 3) := dk_132 5 1 (dk_at dksX1_routeByRounds_2 18 rfl rfl)
theorem dX1_routeByRounds_69 : decode cX1_routeByRounds 69 = .ok (.goto (-21), 3) := dk_167 255 235 (dk_at dksX1_routeByRounds_2 21 rfl rfl)
theorem dX1_routeByRounds_72 : decode cX1_routeByRounds 72 = .ok (.iconst 1, 1) := dk_4 (dk_at dksX1_routeByRounds_3 0 rfl rfl)
theorem dX1_routeByRounds_73 : decode cX1_routeByRounds 73 = .ok (.istore 5, 2) := dk_54 5 (dk_at dksX1_routeByRounds_3 1 rfl rfl)
theorem dX1_routeByRounds_75 : decode cX1_routeByRounds 75 = .ok (.iload 5, 2) := dk_21 5 (dk_at dksX1_routeByRounds_3 3 rfl rfl)
theorem dX1_routeByRounds_77 : decode cX1_routeByRounds 77 = .ok (.ifCond .eq 130, 3) := dk_153 0 130 (dk_at dksX1_routeByRounds_3 5 rfl rfl)
theorem dX1_routeByRounds_80 : decode cX1_routeByRounds 80 = .ok (.iconst 0, 1) := dk_3 (dk_at dksX1_routeByRounds_3 8 rfl rfl)
theorem dX1_routeByRounds_81 : decode cX1_routeByRounds 81 = .ok (.istore 5, 2) := dk_54 5 (dk_at dksX1_routeByRounds_3 9 rfl rfl)
theorem dX1_routeByRounds_83 : decode cX1_routeByRounds 83 = .ok (.iconst 0, 1) := dk_3 (dk_at dksX1_routeByRounds_3 11 rfl rfl)
theorem dX1_routeByRounds_84 : decode cX1_routeByRounds 84 = .ok (.istore 6, 2) := dk_54 6 (dk_at dksX1_routeByRounds_3 12 rfl rfl)
theorem dX1_routeByRounds_86 : decode cX1_routeByRounds 86 = .ok (.iload 6, 2) := dk_21 6 (dk_at dksX1_routeByRounds_3 14 rfl rfl)
theorem dX1_routeByRounds_88 : decode cX1_routeByRounds 88 = .ok (.aload_n 0, 1) := dk_42 (dk_at dksX1_routeByRounds_3 16 rfl rfl)
theorem dX1_routeByRounds_89 : decode cX1_routeByRounds 89 = .ok (.getfield 99, 3) := dk_180 0 99 (dk_at dksX1_routeByRounds_3 17 rfl rfl)
theorem dX1_routeByRounds_92 : decode cX1_routeByRounds 92 = .ok (.arraylength, 1) := dk_190 (dk_at dksX1_routeByRounds_3 20 rfl rfl)
theorem dX1_routeByRounds_93 : decode cX1_routeByRounds 93 = .ok (.if_icmp .ge 111, 3) := dk_162 0 111 (dk_at dksX1_routeByRounds_3 21 rfl rfl)
theorem dX1_routeByRounds_96 : decode cX1_routeByRounds 96 = .ok (.aload_n 0, 1) := dk_42 (dk_at dksX1_routeByRounds_4 0 rfl rfl)
theorem dX1_routeByRounds_97 : decode cX1_routeByRounds 97 = .ok (.getfield 99, 3) := dk_180 0 99 (dk_at dksX1_routeByRounds_4 1 rfl rfl)
theorem dX1_routeByRounds_100 : decode cX1_routeByRounds 100 = .ok (.iload 6, 2) := dk_21 6 (dk_at dksX1_routeByRounds_4 4 rfl rfl)
theorem dX1_routeByRounds_102 : decode cX1_routeByRounds 102 = .ok (.iaload, 1) := dk_46 (dk_at dksX1_routeByRounds_4 6 rfl rfl)
theorem dX1_routeByRounds_103 : decode cX1_routeByRounds 103 = .ok (.ldc_w 390, 3) := dk_19 1 134 (dk_at dksX1_routeByRounds_4 7 rfl rfl)
theorem dX1_routeByRounds_106 : decode cX1_routeByRounds 106 = .ok (.if_icmp .ne 6, 3) := dk_160 0 6 (dk_at dksX1_routeByRounds_4 10 rfl rfl)
theorem dX1_routeByRounds_109 : decode cX1_routeByRounds 109 = .ok (.goto 89, 3) := dk_167 0 89 (dk_at dksX1_routeByRounds_4 13 rfl rfl)
theorem dX1_routeByRounds_112 : decode cX1_routeByRounds 112 = .ok (.iconst 0, 1) := dk_3 (dk_at dksX1_routeByRounds_4 16 rfl rfl)
theorem dX1_routeByRounds_113 : decode cX1_routeByRounds 113 = .ok (.istore 7, 2) := dk_54 7 (dk_at dksX1_routeByRounds_4 17 rfl rfl)
theorem dX1_routeByRounds_115 : decode cX1_routeByRounds 115 = .ok (.iload 7, 2) := dk_21 7 (dk_at dksX1_routeByRounds_4 19 rfl rfl)
theorem dX1_routeByRounds_117 : decode cX1_routeByRounds 117 = .ok (.iconst 4, 1) := dk_7 (dk_at dksX1_routeByRounds_4 21 rfl rfl)
theorem dX1_routeByRounds_118 : decode cX1_routeByRounds 118 = .ok (.if_icmp .ge 80, 3) := dk_162 0 80 (dk_at dksX1_routeByRounds_5 0 rfl rfl)
theorem dX1_routeByRounds_121 : decode cX1_routeByRounds 121 = .ok (.aload_n 0, 1) := dk_42 (dk_at dksX1_routeByRounds_5 3 rfl rfl)
theorem dX1_routeByRounds_122 : decode cX1_routeByRounds 122 = .ok (.iload 6, 2) := dk_21 6 (dk_at dksX1_routeByRounds_5 4 rfl rfl)
theorem dX1_routeByRounds_124 : decode cX1_routeByRounds 124 = .ok (.iconst 4, 1) := dk_7 (dk_at dksX1_routeByRounds_5 6 rfl rfl)
theorem dX1_routeByRounds_125 : decode cX1_routeByRounds 125 = .ok (.idiv, 1) := dk_108 (dk_at dksX1_routeByRounds_5 7 rfl rfl)
theorem dX1_routeByRounds_126 : decode cX1_routeByRounds 126 = .ok (.iload 7, 2) := dk_21 7 (dk_at dksX1_routeByRounds_5 8 rfl rfl)
theorem dX1_routeByRounds_128 : decode cX1_routeByRounds 128 = .ok (.invokevirtual 411, 3) := dk_182 1 155 (dk_at dksX1_routeByRounds_5 10 rfl rfl)
theorem dX1_routeByRounds_131 : decode cX1_routeByRounds 131 = .ok (.istore 8, 2) := dk_54 8 (dk_at dksX1_routeByRounds_5 13 rfl rfl)
theorem dX1_routeByRounds_133 : decode cX1_routeByRounds 133 = .ok (.aload_n 0, 1) := dk_42 (dk_at dksX1_routeByRounds_5 15 rfl rfl)
theorem dX1_routeByRounds_134 : decode cX1_routeByRounds 134 = .ok (.getfield 99, 3) := dk_180 0 99 (dk_at dksX1_routeByRounds_5 16 rfl rfl)
theorem dX1_routeByRounds_137 : decode cX1_routeByRounds 137 = .ok (.iload 6, 2) := dk_21 6 (dk_at dksX1_routeByRounds_5 19 rfl rfl)
theorem dX1_routeByRounds_139 : decode cX1_routeByRounds 139 = .ok (.iaload, 1) := dk_46 (dk_at dksX1_routeByRounds_5 21 rfl rfl)
theorem dX1_routeByRounds_140 : decode cX1_routeByRounds 140 = .ok (.iload 6, 2) := dk_21 6 (dk_at dksX1_routeByRounds_5 22 rfl rfl)
theorem dX1_routeByRounds_142 : decode cX1_routeByRounds 142 = .ok (.iconst 4, 1) := dk_7 (dk_at dksX1_routeByRounds_6 0 rfl rfl)
theorem dX1_routeByRounds_143 : decode cX1_routeByRounds 143 = .ok (.irem, 1) := dk_112 (dk_at dksX1_routeByRounds_6 1 rfl rfl)
theorem dX1_routeByRounds_144 : decode cX1_routeByRounds 144 = .ok (.iload 7, 2) := dk_21 7 (dk_at dksX1_routeByRounds_6 2 rfl rfl)
theorem dX1_routeByRounds_146 : decode cX1_routeByRounds 146 = .ok (.invokestatic 414, 3) := dk_184 1 158 (dk_at dksX1_routeByRounds_6 4 rfl rfl)
theorem dX1_routeByRounds_149 : decode cX1_routeByRounds 149 = .ok (.iadd, 1) := dk_96 (dk_at dksX1_routeByRounds_6 7 rfl rfl)
theorem dX1_routeByRounds_150 : decode cX1_routeByRounds 150 = .ok (.istore 9, 2) := dk_54 9 (dk_at dksX1_routeByRounds_6 8 rfl rfl)
theorem dX1_routeByRounds_152 : decode cX1_routeByRounds 152 = .ok (.iload 8, 2) := dk_21 8 (dk_at dksX1_routeByRounds_6 10 rfl rfl)
theorem dX1_routeByRounds_154 : decode cX1_routeByRounds 154 = .ok (.iconst (-1), 1) := dk_2 (dk_at dksX1_routeByRounds_6 12 rfl rfl)
theorem dX1_routeByRounds_155 : decode cX1_routeByRounds 155 = .ok (.if_icmp .eq 37, 3) := dk_159 0 37 (dk_at dksX1_routeByRounds_6 13 rfl rfl)
theorem dX1_routeByRounds_158 : decode cX1_routeByRounds 158 = .ok (.iload 9, 2) := dk_21 9 (dk_at dksX1_routeByRounds_6 16 rfl rfl)
theorem dX1_routeByRounds_160 : decode cX1_routeByRounds 160 = .ok (.aload_n 0, 1) := dk_42 (dk_at dksX1_routeByRounds_6 18 rfl rfl)
theorem dX1_routeByRounds_161 : decode cX1_routeByRounds 161 = .ok (.getfield 99, 3) := dk_180 0 99 (dk_at dksX1_routeByRounds_6 19 rfl rfl)
theorem dX1_routeByRounds_164 : decode cX1_routeByRounds 164 = .ok (.iconst 4, 1) := dk_7 (dk_at dksX1_routeByRounds_6 22 rfl rfl)
theorem dX1_routeByRounds_165 : decode cX1_routeByRounds 165 = .ok (.iload 8, 2) := dk_21 8 (dk_at dksX1_routeByRounds_7 0 rfl rfl)
theorem dX1_routeByRounds_167 : decode cX1_routeByRounds 167 = .ok (.imul, 1) := dk_104 (dk_at dksX1_routeByRounds_7 2 rfl rfl)
theorem dX1_routeByRounds_168 : decode cX1_routeByRounds 168 = .ok (.iload 7, 2) := dk_21 7 (dk_at dksX1_routeByRounds_7 3 rfl rfl)
theorem dX1_routeByRounds_170 : decode cX1_routeByRounds 170 = .ok (.iadd, 1) := dk_96 (dk_at dksX1_routeByRounds_7 5 rfl rfl)
theorem dX1_routeByRounds_171 : decode cX1_routeByRounds 171 = .ok (.iaload, 1) := dk_46 (dk_at dksX1_routeByRounds_7 6 rfl rfl)
theorem dX1_routeByRounds_172 : decode cX1_routeByRounds 172 = .ok (.if_icmp .ge 20, 3) := dk_162 0 20 (dk_at dksX1_routeByRounds_7 7 rfl rfl)
theorem dX1_routeByRounds_175 : decode cX1_routeByRounds 175 = .ok (.aload_n 0, 1) := dk_42 (dk_at dksX1_routeByRounds_7 10 rfl rfl)
theorem dX1_routeByRounds_176 : decode cX1_routeByRounds 176 = .ok (.getfield 99, 3) := dk_180 0 99 (dk_at dksX1_routeByRounds_7 11 rfl rfl)
theorem dX1_routeByRounds_179 : decode cX1_routeByRounds 179 = .ok (.iconst 4, 1) := dk_7 (dk_at dksX1_routeByRounds_7 14 rfl rfl)
theorem dX1_routeByRounds_180 : decode cX1_routeByRounds 180 = .ok (.iload 8, 2) := dk_21 8 (dk_at dksX1_routeByRounds_7 15 rfl rfl)
theorem dX1_routeByRounds_182 : decode cX1_routeByRounds 182 = .ok (.imul, 1) := dk_104 (dk_at dksX1_routeByRounds_7 17 rfl rfl)
theorem dX1_routeByRounds_183 : decode cX1_routeByRounds 183 = .ok (.iload 7, 2) := dk_21 7 (dk_at dksX1_routeByRounds_7 18 rfl rfl)
theorem dX1_routeByRounds_185 : decode cX1_routeByRounds 185 = .ok (.iadd, 1) := dk_96 (dk_at dksX1_routeByRounds_7 20 rfl rfl)
theorem dX1_routeByRounds_186 : decode cX1_routeByRounds 186 = .ok (.iload 9, 2) := dk_21 9 (dk_at dksX1_routeByRounds_7 21 rfl rfl)
theorem dX1_routeByRounds_188 : decode cX1_routeByRounds 188 = .ok (.iastore, 1) := dk_79 (dk_at dksX1_routeByRounds_7 23 rfl rfl)
theorem dX1_routeByRounds_189 : decode cX1_routeByRounds 189 = .ok (.iconst 1, 1) := dk_4 (dk_at dksX1_routeByRounds_8 0 rfl rfl)
theorem dX1_routeByRounds_190 : decode cX1_routeByRounds 190 = .ok (.istore 5, 2) := dk_54 5 (dk_at dksX1_routeByRounds_8 1 rfl rfl)
theorem dX1_routeByRounds_192 : decode cX1_routeByRounds 192 = .ok (.iinc 7 1, 3) := dk_132 7 1 (dk_at dksX1_routeByRounds_8 3 rfl rfl)
theorem dX1_routeByRounds_195 : decode cX1_routeByRounds 195 = .ok (.goto (-80), 3) := dk_167 255 176 (dk_at dksX1_routeByRounds_8 6 rfl rfl)
theorem dX1_routeByRounds_198 : decode cX1_routeByRounds 198 = .ok (.iinc 6 1, 3) := dk_132 6 1 (dk_at dksX1_routeByRounds_8 9 rfl rfl)
theorem dX1_routeByRounds_201 : decode cX1_routeByRounds 201 = .ok (.goto (-115), 3) := dk_167 255 141 (dk_at dksX1_routeByRounds_8 12 rfl rfl)
theorem dX1_routeByRounds_204 : decode cX1_routeByRounds 204 = .ok (.goto (-129), 3) := dk_167 255 127 (dk_at dksX1_routeByRounds_8 15 rfl rfl)
theorem dX1_routeByRounds_207 : decode cX1_routeByRounds 207 = .ok (.aload_n 0, 1) := dk_42 (dk_at dksX1_routeByRounds_8 18 rfl rfl)
theorem dX1_routeByRounds_208 : decode cX1_routeByRounds 208 = .ok (.iload 4, 2) := dk_21 4 (dk_at dksX1_routeByRounds_8 19 rfl rfl)
theorem dX1_routeByRounds_210 : decode cX1_routeByRounds 210 = .ok (.invokevirtual 417, 3) := dk_182 1 161 (dk_at dksX1_routeByRounds_8 21 rfl rfl)
theorem dX1_routeByRounds_213 : decode cX1_routeByRounds 213 = .ok (.ireturn, 1) := dk_172 (dk_at dksX1_routeByRounds_9 0 rfl rfl)
abbrev rm_X1_routeByRounds : Room := { frames := 5, cells := 0, slots := 0, locals := 114 }
def w_X1_routeByRounds_115 (P : Int32 → AH → Prop) (Z75 : Int32 → AH → Prop) (Z86 : Int32 → Int32 → AH → Prop) (x0 : Option Nat) (x4 : Int32) (x5 : Int32) (x6 : Int32) (x7 : Int32) (h : AH) : Prop :=
  ∀ Z115 : Int32 → Int32 → AH → Prop, (∀ x5 x7 h, (
      ((4 ≤ x7 →
        Z86 x5 (x6 + 1) h) ∧
       (¬ 4 ≤ x7 →
        ¬ (4 : Int32) = 0 ∧
        is_c h x0 [0] (
        w_X1_beside x0 (x6 / 4) x7 h (fun y128 h128 =>
        g_q h128 x0 0 9 fun y134 =>
        l_i h128 y134 0 x6 fun y139 =>
        ¬ (4 : Int32) = 0 ∧
        w_X1_step (x6 - x6 / 4 * 4) x7 h128 (fun y146 h146 =>
        ((y128 = (-1) →
          Z115 x5 (x7 + 1) h146) ∧
         (¬ y128 = (-1) →
          g_q h146 x0 0 9 fun y161 =>
          l_i h146 y161 0 ((4 * y128) + x7) fun y171 =>
          ((y171 ≤ (y139 + y146) →
            Z115 x5 (x7 + 1) h146) ∧
           (¬ y171 ≤ (y139 + y146) →
            g_q h146 x0 0 9 fun y176 =>
            s_i h146 y176 0 ((4 * y128) + x7) (y139 + y146) fun h188 =>
            Z115 1 (x7 + 1) h188))))))))))
      → Z115 x5 x7 h) → Z115 x5 x7 h
def w_X1_routeByRounds_86 (P : Int32 → AH → Prop) (Z75 : Int32 → AH → Prop) (x0 : Option Nat) (x4 : Int32) (x5 : Int32) (x6 : Int32) (h : AH) : Prop :=
  ∀ Z86 : Int32 → Int32 → AH → Prop, (∀ x5 x6 h, (
      g_q h x0 0 9 fun y89 =>
      n_a h y89 fun y92 =>
      ((y92 ≤ x6 →
        Z75 x5 h) ∧
       (¬ y92 ≤ x6 →
        g_q h x0 0 9 fun y97 =>
        l_i h y97 0 x6 fun y102 =>
        ((y102 = 1000000 →
          Z86 x5 (x6 + 1) h) ∧
         (¬ y102 = 1000000 →
          w_X1_routeByRounds_115 P Z75 Z86 x0 x4 x5 x6 0 h)))))
      → Z86 x5 x6 h) → Z86 x5 x6 h
def w_X1_routeByRounds_75 (P : Int32 → AH → Prop) (x0 : Option Nat) (x4 : Int32) (x5 : Int32) (h : AH) : Prop :=
  ∀ Z75 : Int32 → AH → Prop, (∀ x5 h, (
      ((x5 = 0 →
        is_c h x0 [0] (
        w_X1_least x0 x4 h (fun y210 h210 =>
        P y210 h210))) ∧
       (¬ x5 = 0 →
        w_X1_routeByRounds_86 P Z75 x0 x4 0 0 h)))
      → Z75 x5 h) → Z75 x5 h
def w_X1_routeByRounds_48 (P : Int32 → AH → Prop) (x0 : Option Nat) (x3 : Int32) (x4 : Int32) (x5 : Int32) (h : AH) : Prop :=
  ∀ Z48 : Int32 → AH → Prop, (∀ x5 h, (
      ((4 ≤ x5 →
        w_X1_routeByRounds_75 P x0 x4 1 h) ∧
       (¬ 4 ≤ x5 →
        g_q h x0 0 9 fun y55 =>
        s_i h y55 0 ((4 * x3) + x5) 1 fun h65 =>
        Z48 (x5 + 1) h65)))
      → Z48 x5 h) → Z48 x5 h
def w_X1_routeByRounds (a0 : Option Nat) (a1 : Option Nat) (a2 : Option Nat) (h : AH) (P : Int32 → AH → Prop) : Prop :=
  is_c h a0 [0] (
  w_X1_layFree a0 a1 h (fun h2 =>
  is_c h2 a2 [13] (
  w_X15_from a2 h2 (fun y8 h8 =>
  is_c h8 a0 [0] (
  w_X1_cellOf a0 a1 y8 h8 (fun y11 h11 =>
  is_c h11 a2 [13] (
  w_X15_to a2 h11 (fun y18 h18 =>
  is_c h18 a0 [0] (
  w_X1_cellOf a0 a1 y18 h18 (fun y21 h21 =>
  ((y11 = (-1) →
    P 1000000 h21) ∧
   (¬ y11 = (-1) →
    ((y21 = (-1) →
      P 1000000 h21) ∧
     (¬ y21 = (-1) →
      is_c h21 a0 [0] (
      w_X1_clearCosts a0 h21 (fun h42 =>
      w_X1_routeByRounds_48 P a0 y11 y21 0 h42))))))))))))))))
theorem wk_X1_routeByRounds_115 {x : CX} (X : Ok x cX1_routeByRounds RX1 rm_X1_routeByRounds 10) (er : xrt x = (Option.some Jvm.ClassFile.FieldType.int)) (en : xnm x = yX1_routeByRounds.name) {P : Int32 → AH → Prop} (hQ : xr_i x P) (Z75 : Int32 → AH → Prop) (Z86 : Int32 → Int32 → AH → Prop) (x0 : Option Nat) (x4 : Int32) (x5 : Int32) (x6 : Int32) (x7 : Int32) (h : AH) (hZ75 : ∀ x5 h, Z75 x5 h → J x h 0 0 75 [(0, vR x0), (4, vI x4), (5, vI x5)] []) (hZ86 : ∀ x5 x6 h, Z86 x5 x6 h → J x h 0 0 86 [(0, vR x0), (4, vI x4), (5, vI x5), (6, vI x6)] []) (hw : w_X1_routeByRounds_115 P Z75 Z86 x0 x4 x5 x6 x7 h) : J x h 0 0 115 [(0, vR x0), (4, vI x4), (5, vI x5), (6, vI x6), (7, vI x7)] [] := by
  refine hw (fun x5 x7 h => J x h 0 0 115 [(0, vR x0), (4, vI x4), (5, vI x5), (6, vI x6), (7, vI x7)] []) (fun x5 x7 h hw => ?_)
  refine j_iload X (pc := 115) 4 dX1_routeByRounds_115 rfl ?_
  refine j_iconst X (pc := 117) 4 dX1_routeByRounds_117 (by decide) ?_
  refine j_icmp_ge X (pc := 118) 198 dX1_routeByRounds_118 (by decide) hw (fun hw => ?_) (fun hw => ?_)
  · refine j_iinc X (pc := 198) 3 (x6 + 1) [(6, vI (x6 + 1)), (0, vR x0), (4, vI x4), (5, vI x5), (7, vI x7)] dX1_routeByRounds_198 rfl rfl (Nat.le_of_ble_eq_true rfl) rfl ?_
    refine j_goto X (pc := 201) 86 dX1_routeByRounds_201 (by decide) ?_
    refine j_lv [(0, vR x0), (4, vI x4), (5, vI x5), (6, vI (x6 + 1))] [1, 2, 3, 0] rfl ?_
    refine j_cs (u' := 0) (v' := 0) (Nat.le_of_ble_eq_true rfl) (Nat.le_of_ble_eq_true rfl) ?_
    exact hZ86 x5 (x6 + 1) h hw
  · refine j_aload_n X (pc := 121) 0 dX1_routeByRounds_121 rfl rfl ?_
    refine j_iload X (pc := 122) 3 dX1_routeByRounds_122 rfl ?_
    refine j_iconst X (pc := 124) 4 dX1_routeByRounds_124 (by decide) ?_
    refine j_idiv X (pc := 125) dX1_routeByRounds_125 hw (fun hw => ?_)
    refine j_iload X (pc := 126) 4 dX1_routeByRounds_126 rfl ?_
    obtain ⟨b9, c9, f9, hr9, ho9, hc9, hw⟩ := hw
    obtain rfl := List.mem_singleton.mp hc9
    refine j_calli (j_runV (n8 := 2) (As := [vI (x6 / 4), vI x7]) (rest := []) X (pc := 128) hr9 (met_X1_beside (xl x) X.hl (xG x) h x0 (x6 / 4) x7 _ hw) ho9 (by decide) rfl q1554 q1556 qs23 q71 q1557 (by decide +kernel) dX1_routeByRounds_128 rfl ⟨Nat.le_of_ble_eq_true rfl, Nat.le_of_ble_eq_true rfl⟩ (Nat.le_of_ble_eq_true rfl) ⟨Nat.le_of_ble_eq_true rfl, Nat.le_of_ble_eq_true rfl⟩) (fun y128 h128 hw => ?_)
    refine j_istore X (pc := 131) [(8, vI y128), (0, vR x0), (4, vI x4), (5, vI x5), (6, vI x6), (7, vI x7)] dX1_routeByRounds_131 (Nat.le_of_ble_eq_true rfl) rfl ?_
    refine j_aload_n X (pc := 133) 1 dX1_routeByRounds_133 rfl rfl ?_
    refine j_getq (ci := 0) X (pc := 134) in_X1 rfl (by decide) 9 (by decide) q252 (Or.inl rfl) dX1_routeByRounds_134 hw (fun y134 hw => ?_)
    refine j_iload X (pc := 137) 4 dX1_routeByRounds_137 rfl ?_
    refine j_iald X (pc := 139) 0 rfl dX1_routeByRounds_139 hw (fun y139 hw => ?_)
    refine j_iload X (pc := 140) 4 dX1_routeByRounds_140 rfl ?_
    refine j_iconst X (pc := 142) 4 dX1_routeByRounds_142 (by decide) ?_
    refine j_irem X (pc := 143) dX1_routeByRounds_143 hw (fun hw => ?_)
    refine j_iload X (pc := 144) 5 dX1_routeByRounds_144 rfl ?_
    refine j_calli (j_runS (n8 := 2) (As := [vI (x6 - x6 / 4 * 4), vI x7]) (rest := [vI y139]) X (pc := 146) (met_X1_step (xl x) X.hl (xG x) h128 (x6 - x6 / 4 * 4) x7 _ hw) q1558 q1559 q71 q1560 (by decide +kernel) dX1_routeByRounds_146 rfl ⟨Nat.le_of_ble_eq_true rfl, Nat.le_of_ble_eq_true rfl⟩ (Nat.le_of_ble_eq_true rfl) ⟨Nat.le_of_ble_eq_true rfl, Nat.le_of_ble_eq_true rfl⟩) (fun y146 h146 hw => ?_)
    refine j_iadd X (pc := 149) dX1_routeByRounds_149 ?_
    refine j_istore X (pc := 150) [(9, vI (y139 + y146)), (8, vI y128), (0, vR x0), (4, vI x4), (5, vI x5), (6, vI x6), (7, vI x7)] dX1_routeByRounds_150 (Nat.le_of_ble_eq_true rfl) rfl ?_
    refine j_iload X (pc := 152) 1 dX1_routeByRounds_152 rfl ?_
    refine j_iconst X (pc := 154) (-1) dX1_routeByRounds_154 (by decide) ?_
    refine j_icmp_eq X (pc := 155) 192 dX1_routeByRounds_155 (by decide) hw (fun hw => ?_) (fun hw => ?_)
    · refine j_iinc X (pc := 192) 6 (x7 + 1) [(7, vI (x7 + 1)), (9, vI (y139 + y146)), (8, vI y128), (0, vR x0), (4, vI x4), (5, vI x5), (6, vI x6)] dX1_routeByRounds_192 rfl rfl (Nat.le_of_ble_eq_true rfl) rfl ?_
      refine j_goto X (pc := 195) 115 dX1_routeByRounds_195 (by decide) ?_
      refine j_lv [(0, vR x0), (4, vI x4), (5, vI x5), (6, vI x6), (7, vI (x7 + 1))] [3, 4, 5, 6, 0] rfl ?_
      refine j_cs (u' := 0) (v' := 0) (Nat.le_of_ble_eq_true rfl) (Nat.le_of_ble_eq_true rfl) ?_
      exact hw
    · refine j_iload X (pc := 158) 0 dX1_routeByRounds_158 rfl ?_
      refine j_aload_n X (pc := 160) 2 dX1_routeByRounds_160 rfl rfl ?_
      refine j_getq (ci := 0) X (pc := 161) in_X1 rfl (by decide) 9 (by decide) q252 (Or.inl rfl) dX1_routeByRounds_161 hw (fun y161 hw => ?_)
      refine j_iconst X (pc := 164) 4 dX1_routeByRounds_164 (by decide) ?_
      refine j_iload X (pc := 165) 1 dX1_routeByRounds_165 rfl ?_
      refine j_imul X (pc := 167) dX1_routeByRounds_167 ?_
      refine j_iload X (pc := 168) 6 dX1_routeByRounds_168 rfl ?_
      refine j_iadd X (pc := 170) dX1_routeByRounds_170 ?_
      refine j_iald X (pc := 171) 0 rfl dX1_routeByRounds_171 hw (fun y171 hw => ?_)
      refine j_icmp_ge X (pc := 172) 192 dX1_routeByRounds_172 (by decide) hw (fun hw => ?_) (fun hw => ?_)
      · refine j_iinc X (pc := 192) 6 (x7 + 1) [(7, vI (x7 + 1)), (9, vI (y139 + y146)), (8, vI y128), (0, vR x0), (4, vI x4), (5, vI x5), (6, vI x6)] dX1_routeByRounds_192 rfl rfl (Nat.le_of_ble_eq_true rfl) rfl ?_
        refine j_goto X (pc := 195) 115 dX1_routeByRounds_195 (by decide) ?_
        refine j_lv [(0, vR x0), (4, vI x4), (5, vI x5), (6, vI x6), (7, vI (x7 + 1))] [3, 4, 5, 6, 0] rfl ?_
        refine j_cs (u' := 0) (v' := 0) (Nat.le_of_ble_eq_true rfl) (Nat.le_of_ble_eq_true rfl) ?_
        exact hw
      · refine j_aload_n X (pc := 175) 2 dX1_routeByRounds_175 rfl rfl ?_
        refine j_getq (ci := 0) X (pc := 176) in_X1 rfl (by decide) 9 (by decide) q252 (Or.inl rfl) dX1_routeByRounds_176 hw (fun y176 hw => ?_)
        refine j_iconst X (pc := 179) 4 dX1_routeByRounds_179 (by decide) ?_
        refine j_iload X (pc := 180) 1 dX1_routeByRounds_180 rfl ?_
        refine j_imul X (pc := 182) dX1_routeByRounds_182 ?_
        refine j_iload X (pc := 183) 6 dX1_routeByRounds_183 rfl ?_
        refine j_iadd X (pc := 185) dX1_routeByRounds_185 ?_
        refine j_iload X (pc := 186) 0 dX1_routeByRounds_186 rfl ?_
        refine j_iast X (pc := 188) 0 rfl rfl dX1_routeByRounds_188 hw (fun h188 hw => ?_)
        refine j_iconst X (pc := 189) 1 dX1_routeByRounds_189 (by decide) ?_
        refine j_istore X (pc := 190) [(5, vI 1), (9, vI (y139 + y146)), (8, vI y128), (0, vR x0), (4, vI x4), (6, vI x6), (7, vI x7)] dX1_routeByRounds_190 (Nat.le_of_ble_eq_true rfl) rfl ?_
        refine j_iinc X (pc := 192) 6 (x7 + 1) [(7, vI (x7 + 1)), (5, vI 1), (9, vI (y139 + y146)), (8, vI y128), (0, vR x0), (4, vI x4), (6, vI x6)] dX1_routeByRounds_192 rfl rfl (Nat.le_of_ble_eq_true rfl) rfl ?_
        refine j_goto X (pc := 195) 115 dX1_routeByRounds_195 (by decide) ?_
        refine j_lv [(0, vR x0), (4, vI x4), (5, vI 1), (6, vI x6), (7, vI (x7 + 1))] [4, 5, 1, 6, 0] rfl ?_
        refine j_cs (u' := 0) (v' := 0) (Nat.le_of_ble_eq_true rfl) (Nat.le_of_ble_eq_true rfl) ?_
        exact hw
theorem wk_X1_routeByRounds_86 {x : CX} (X : Ok x cX1_routeByRounds RX1 rm_X1_routeByRounds 10) (er : xrt x = (Option.some Jvm.ClassFile.FieldType.int)) (en : xnm x = yX1_routeByRounds.name) {P : Int32 → AH → Prop} (hQ : xr_i x P) (Z75 : Int32 → AH → Prop) (x0 : Option Nat) (x4 : Int32) (x5 : Int32) (x6 : Int32) (h : AH) (hZ75 : ∀ x5 h, Z75 x5 h → J x h 0 0 75 [(0, vR x0), (4, vI x4), (5, vI x5)] []) (hw : w_X1_routeByRounds_86 P Z75 x0 x4 x5 x6 h) : J x h 0 0 86 [(0, vR x0), (4, vI x4), (5, vI x5), (6, vI x6)] [] := by
  refine hw (fun x5 x6 h => J x h 0 0 86 [(0, vR x0), (4, vI x4), (5, vI x5), (6, vI x6)] []) (fun x5 x6 h hw => ?_)
  refine j_iload X (pc := 86) 3 dX1_routeByRounds_86 rfl ?_
  refine j_aload_n X (pc := 88) 0 dX1_routeByRounds_88 rfl rfl ?_
  refine j_getq (ci := 0) X (pc := 89) in_X1 rfl (by decide) 9 (by decide) q252 (Or.inl rfl) dX1_routeByRounds_89 hw (fun y89 hw => ?_)
  refine j_alen X (pc := 92) dX1_routeByRounds_92 hw (fun y92 hw => ?_)
  refine j_icmp_ge X (pc := 93) 204 dX1_routeByRounds_93 (by decide) hw (fun hw => ?_) (fun hw => ?_)
  · refine j_goto X (pc := 204) 75 dX1_routeByRounds_204 (by decide) ?_
    refine j_lv [(0, vR x0), (4, vI x4), (5, vI x5)] [0, 1, 2] rfl ?_
    refine j_cs (u' := 0) (v' := 0) (Nat.le_of_ble_eq_true rfl) (Nat.le_of_ble_eq_true rfl) ?_
    exact hZ75 x5 h hw
  · refine j_aload_n X (pc := 96) 0 dX1_routeByRounds_96 rfl rfl ?_
    refine j_getq (ci := 0) X (pc := 97) in_X1 rfl (by decide) 9 (by decide) q252 (Or.inl rfl) dX1_routeByRounds_97 hw (fun y97 hw => ?_)
    refine j_iload X (pc := 100) 3 dX1_routeByRounds_100 rfl ?_
    refine j_iald X (pc := 102) 0 rfl dX1_routeByRounds_102 hw (fun y102 hw => ?_)
    refine j_ldcw X (pc := 103) dX1_routeByRounds_103 q1549 ?_
    refine j_icmp_ne X (pc := 106) 112 dX1_routeByRounds_106 (by decide) hw (fun hw => ?_) (fun hw => ?_)
    · refine j_goto X (pc := 109) 198 dX1_routeByRounds_109 (by decide) ?_
      refine j_iinc X (pc := 198) 3 (x6 + 1) [(6, vI (x6 + 1)), (0, vR x0), (4, vI x4), (5, vI x5)] dX1_routeByRounds_198 rfl rfl (Nat.le_of_ble_eq_true rfl) rfl ?_
      refine j_goto X (pc := 201) 86 dX1_routeByRounds_201 (by decide) ?_
      refine j_lv [(0, vR x0), (4, vI x4), (5, vI x5), (6, vI (x6 + 1))] [1, 2, 3, 0] rfl ?_
      refine j_cs (u' := 0) (v' := 0) (Nat.le_of_ble_eq_true rfl) (Nat.le_of_ble_eq_true rfl) ?_
      exact hw
    · refine j_iconst X (pc := 112) 0 dX1_routeByRounds_112 (by decide) ?_
      refine j_istore X (pc := 113) [(7, vI 0), (0, vR x0), (4, vI x4), (5, vI x5), (6, vI x6)] dX1_routeByRounds_113 (Nat.le_of_ble_eq_true rfl) rfl ?_
      refine j_lv [(0, vR x0), (4, vI x4), (5, vI x5), (6, vI x6), (7, vI 0)] [1, 2, 3, 4, 0] rfl ?_
      refine j_cs (u' := 0) (v' := 0) (Nat.le_of_ble_eq_true rfl) (Nat.le_of_ble_eq_true rfl) ?_
      exact wk_X1_routeByRounds_115 X er en hQ _ _ x0 x4 x5 x6 0 h hZ75 (fun x5_ x6_ h_ hz => hz) hw
theorem wk_X1_routeByRounds_75 {x : CX} (X : Ok x cX1_routeByRounds RX1 rm_X1_routeByRounds 10) (er : xrt x = (Option.some Jvm.ClassFile.FieldType.int)) (en : xnm x = yX1_routeByRounds.name) {P : Int32 → AH → Prop} (hQ : xr_i x P) (x0 : Option Nat) (x4 : Int32) (x5 : Int32) (h : AH) (hw : w_X1_routeByRounds_75 P x0 x4 x5 h) : J x h 0 0 75 [(0, vR x0), (4, vI x4), (5, vI x5)] [] := by
  refine hw (fun x5 h => J x h 0 0 75 [(0, vR x0), (4, vI x4), (5, vI x5)] []) (fun x5 h hw => ?_)
  refine j_iload X (pc := 75) 2 dX1_routeByRounds_75 rfl ?_
  refine j_if_eq X (pc := 77) 207 dX1_routeByRounds_77 (by decide) hw (fun hw => ?_) (fun hw => ?_)
  · refine j_aload_n X (pc := 207) 0 dX1_routeByRounds_207 rfl rfl ?_
    refine j_iload X (pc := 208) 1 dX1_routeByRounds_208 rfl ?_
    obtain ⟨b9, c9, f9, hr9, ho9, hc9, hw⟩ := hw
    obtain rfl := List.mem_singleton.mp hc9
    refine j_calli (j_runV (n8 := 1) (As := [vI x4]) (rest := []) X (pc := 210) hr9 (met_X1_least (xl x) X.hl (xG x) h x0 x4 _ hw) ho9 (by decide) rfl q1561 q1563 qs24 q71 q1564 (by decide +kernel) dX1_routeByRounds_210 rfl ⟨Nat.le_of_ble_eq_true rfl, Nat.le_of_ble_eq_true rfl⟩ (Nat.le_of_ble_eq_true rfl) ⟨Nat.le_of_ble_eq_true rfl, Nat.le_of_ble_eq_true rfl⟩) (fun y210 h210 hw => ?_)
    exact j_iret X (pc := 213) hQ er (Nat.le_of_ble_eq_true rfl) (Nat.le_of_ble_eq_true rfl) dX1_routeByRounds_213 hw
  · refine j_iconst X (pc := 80) 0 dX1_routeByRounds_80 (by decide) ?_
    refine j_istore X (pc := 81) [(5, vI 0), (0, vR x0), (4, vI x4)] dX1_routeByRounds_81 (Nat.le_of_ble_eq_true rfl) rfl ?_
    refine j_iconst X (pc := 83) 0 dX1_routeByRounds_83 (by decide) ?_
    refine j_istore X (pc := 84) [(6, vI 0), (5, vI 0), (0, vR x0), (4, vI x4)] dX1_routeByRounds_84 (Nat.le_of_ble_eq_true rfl) rfl ?_
    refine j_lv [(0, vR x0), (4, vI x4), (5, vI 0), (6, vI 0)] [2, 3, 1, 0] rfl ?_
    refine j_cs (u' := 0) (v' := 0) (Nat.le_of_ble_eq_true rfl) (Nat.le_of_ble_eq_true rfl) ?_
    exact wk_X1_routeByRounds_86 X er en hQ _ x0 x4 0 0 h (fun x5_ h_ hz => hz) hw
theorem wk_X1_routeByRounds_48 {x : CX} (X : Ok x cX1_routeByRounds RX1 rm_X1_routeByRounds 10) (er : xrt x = (Option.some Jvm.ClassFile.FieldType.int)) (en : xnm x = yX1_routeByRounds.name) {P : Int32 → AH → Prop} (hQ : xr_i x P) (x0 : Option Nat) (x3 : Int32) (x4 : Int32) (x5 : Int32) (h : AH) (hw : w_X1_routeByRounds_48 P x0 x3 x4 x5 h) : J x h 0 0 48 [(0, vR x0), (3, vI x3), (4, vI x4), (5, vI x5)] [] := by
  refine hw (fun x5 h => J x h 0 0 48 [(0, vR x0), (3, vI x3), (4, vI x4), (5, vI x5)] []) (fun x5 h hw => ?_)
  refine j_iload X (pc := 48) 3 dX1_routeByRounds_48 rfl ?_
  refine j_iconst X (pc := 50) 4 dX1_routeByRounds_50 (by decide) ?_
  refine j_icmp_ge X (pc := 51) 72 dX1_routeByRounds_51 (by decide) hw (fun hw => ?_) (fun hw => ?_)
  · refine j_iconst X (pc := 72) 1 dX1_routeByRounds_72 (by decide) ?_
    refine j_istore X (pc := 73) [(5, vI 1), (0, vR x0), (3, vI x3), (4, vI x4)] dX1_routeByRounds_73 (Nat.le_of_ble_eq_true rfl) rfl ?_
    refine j_lv [(0, vR x0), (4, vI x4), (5, vI 1)] [1, 3, 0] rfl ?_
    refine j_cs (u' := 0) (v' := 0) (Nat.le_of_ble_eq_true rfl) (Nat.le_of_ble_eq_true rfl) ?_
    exact wk_X1_routeByRounds_75 X er en hQ x0 x4 1 h hw
  · refine j_aload_n X (pc := 54) 0 dX1_routeByRounds_54 rfl rfl ?_
    refine j_getq (ci := 0) X (pc := 55) in_X1 rfl (by decide) 9 (by decide) q252 (Or.inl rfl) dX1_routeByRounds_55 hw (fun y55 hw => ?_)
    refine j_iconst X (pc := 58) 4 dX1_routeByRounds_58 (by decide) ?_
    refine j_iload_n X (pc := 59) 1 dX1_routeByRounds_59 rfl rfl ?_
    refine j_imul X (pc := 60) dX1_routeByRounds_60 ?_
    refine j_iload X (pc := 61) 3 dX1_routeByRounds_61 rfl ?_
    refine j_iadd X (pc := 63) dX1_routeByRounds_63 ?_
    refine j_iconst X (pc := 64) 1 dX1_routeByRounds_64 (by decide) ?_
    refine j_iast X (pc := 65) 0 rfl rfl dX1_routeByRounds_65 hw (fun h65 hw => ?_)
    refine j_iinc X (pc := 66) 3 (x5 + 1) [(5, vI (x5 + 1)), (0, vR x0), (3, vI x3), (4, vI x4)] dX1_routeByRounds_66 rfl rfl (Nat.le_of_ble_eq_true rfl) rfl ?_
    refine j_goto X (pc := 69) 48 dX1_routeByRounds_69 (by decide) ?_
    refine j_lv [(0, vR x0), (3, vI x3), (4, vI x4), (5, vI (x5 + 1))] [1, 2, 3, 0] rfl ?_
    refine j_cs (u' := 0) (v' := 0) (Nat.le_of_ble_eq_true rfl) (Nat.le_of_ble_eq_true rfl) ?_
    exact hw
theorem met_X1_routeByRounds (l : Launch) (hlt : l.stackTraces = false) (G : GG) (h : AH) (a0 : Option Nat) (a1 : Option Nat) (a2 : Option Nat) (P : Int32 → AH → Prop) (hw : w_X1_routeByRounds a0 a1 a2 h P) : ct_i l yX1_routeByRounds (ws_ yX1_routeByRounds cX1_routeByRounds 10 (Option.some Jvm.ClassFile.FieldType.int)) rm_X1_routeByRounds G h [vR a0, vR a1, vR a2] P := by
  refine j_starti hlt [(0, vR a0), (1, vR a1), (2, vR a2)] (plainFor_of_name (by decide)) rfl rfl (fun x X eG er en hQ => ?_)
  subst eG
  refine j_aload_n X (pc := 0) 0 dX1_routeByRounds_0 rfl rfl ?_
  refine j_aload_n X (pc := 1) 1 dX1_routeByRounds_1 rfl rfl ?_
  obtain ⟨b9, c9, f9, hr9, ho9, hc9, hw⟩ := hw
  obtain rfl := List.mem_singleton.mp hc9
  refine j_callv (j_runV (n8 := 1) (As := [vR a1]) (rest := []) X (pc := 2) hr9 (met_X1_layFree (xl x) X.hl (xG x) h a0 a1 _ hw) ho9 (by decide) rfl q1531 q1533 qs20 q71 q1534 (by decide +kernel) dX1_routeByRounds_2 rfl ⟨Nat.le_of_ble_eq_true rfl, Nat.le_of_ble_eq_true rfl⟩ (Nat.le_of_ble_eq_true rfl) ⟨Nat.le_of_ble_eq_true rfl, Nat.le_of_ble_eq_true rfl⟩) (fun h2 hw => ?_)
  refine j_aload_n X (pc := 5) 0 dX1_routeByRounds_5 rfl rfl ?_
  refine j_aload_n X (pc := 6) 1 dX1_routeByRounds_6 rfl rfl ?_
  refine j_aload_n X (pc := 7) 2 dX1_routeByRounds_7 rfl rfl ?_
  obtain ⟨b9, c9, f9, hr9, ho9, hc9, hw⟩ := hw
  obtain rfl := List.mem_singleton.mp hc9
  refine j_callq (j_runV (n8 := 0) (As := []) (rest := [vR a1, vR a0]) X (pc := 8) hr9 (met_X15_from (xl x) X.hl (xG x) h2 a2 _ hw) ho9 (by decide) rfl q1535 q1303 q1304 q113 q1305 (by decide +kernel) dX1_routeByRounds_8 rfl ⟨Nat.le_of_ble_eq_true rfl, Nat.le_of_ble_eq_true rfl⟩ (Nat.le_of_ble_eq_true rfl) ⟨Nat.le_of_ble_eq_true rfl, Nat.le_of_ble_eq_true rfl⟩) (fun y8 h8 hw => ?_)
  obtain ⟨b9, c9, f9, hr9, ho9, hc9, hw⟩ := hw
  obtain rfl := List.mem_singleton.mp hc9
  refine j_calli (j_runV (n8 := 2) (As := [vR a1, vR y8]) (rest := []) X (pc := 11) hr9 (met_X1_cellOf (xl x) X.hl (xG x) h8 a0 a1 y8 _ hw) ho9 (by decide) rfl q1536 q1538 qs21 q71 q1539 (by decide +kernel) dX1_routeByRounds_11 rfl ⟨Nat.le_of_ble_eq_true rfl, Nat.le_of_ble_eq_true rfl⟩ (Nat.le_of_ble_eq_true rfl) ⟨Nat.le_of_ble_eq_true rfl, Nat.le_of_ble_eq_true rfl⟩) (fun y11 h11 hw => ?_)
  refine j_istore_n X (pc := 14) [(3, vI y11), (0, vR a0), (1, vR a1), (2, vR a2)] dX1_routeByRounds_14 rfl (Nat.le_of_ble_eq_true rfl) rfl ?_
  refine j_aload_n X (pc := 15) 1 dX1_routeByRounds_15 rfl rfl ?_
  refine j_aload_n X (pc := 16) 2 dX1_routeByRounds_16 rfl rfl ?_
  refine j_aload_n X (pc := 17) 3 dX1_routeByRounds_17 rfl rfl ?_
  obtain ⟨b9, c9, f9, hr9, ho9, hc9, hw⟩ := hw
  obtain rfl := List.mem_singleton.mp hc9
  refine j_callq (j_runV (n8 := 0) (As := []) (rest := [vR a1, vR a0]) X (pc := 18) hr9 (met_X15_to (xl x) X.hl (xG x) h11 a2 _ hw) ho9 (by decide) rfl q1548 q1311 q1312 q113 q1313 (by decide +kernel) dX1_routeByRounds_18 rfl ⟨Nat.le_of_ble_eq_true rfl, Nat.le_of_ble_eq_true rfl⟩ (Nat.le_of_ble_eq_true rfl) ⟨Nat.le_of_ble_eq_true rfl, Nat.le_of_ble_eq_true rfl⟩) (fun y18 h18 hw => ?_)
  obtain ⟨b9, c9, f9, hr9, ho9, hc9, hw⟩ := hw
  obtain rfl := List.mem_singleton.mp hc9
  refine j_calli (j_runV (n8 := 2) (As := [vR a1, vR y18]) (rest := []) X (pc := 21) hr9 (met_X1_cellOf (xl x) X.hl (xG x) h18 a0 a1 y18 _ hw) ho9 (by decide) rfl q1536 q1538 qs21 q71 q1539 (by decide +kernel) dX1_routeByRounds_21 rfl ⟨Nat.le_of_ble_eq_true rfl, Nat.le_of_ble_eq_true rfl⟩ (Nat.le_of_ble_eq_true rfl) ⟨Nat.le_of_ble_eq_true rfl, Nat.le_of_ble_eq_true rfl⟩) (fun y21 h21 hw => ?_)
  refine j_istore X (pc := 24) [(4, vI y21), (3, vI y11), (0, vR a0), (1, vR a1), (2, vR a2)] dX1_routeByRounds_24 (Nat.le_of_ble_eq_true rfl) rfl ?_
  refine j_iload_n X (pc := 26) 1 dX1_routeByRounds_26 rfl rfl ?_
  refine j_iconst X (pc := 27) (-1) dX1_routeByRounds_27 (by decide) ?_
  refine j_icmp_eq X (pc := 28) 37 dX1_routeByRounds_28 (by decide) hw (fun hw => ?_) (fun hw => ?_)
  · refine j_ldcw X (pc := 37) dX1_routeByRounds_37 q1549 ?_
    exact j_iret X (pc := 40) hQ er (Nat.le_of_ble_eq_true rfl) (Nat.le_of_ble_eq_true rfl) dX1_routeByRounds_40 hw
  · refine j_iload X (pc := 31) 0 dX1_routeByRounds_31 rfl ?_
    refine j_iconst X (pc := 33) (-1) dX1_routeByRounds_33 (by decide) ?_
    refine j_icmp_ne X (pc := 34) 41 dX1_routeByRounds_34 (by decide) hw (fun hw => ?_) (fun hw => ?_)
    · refine j_ldcw X (pc := 37) dX1_routeByRounds_37 q1549 ?_
      exact j_iret X (pc := 40) hQ er (Nat.le_of_ble_eq_true rfl) (Nat.le_of_ble_eq_true rfl) dX1_routeByRounds_40 hw
    · refine j_aload_n X (pc := 41) 2 dX1_routeByRounds_41 rfl rfl ?_
      obtain ⟨b9, c9, f9, hr9, ho9, hc9, hw⟩ := hw
      obtain rfl := List.mem_singleton.mp hc9
      refine j_callv (j_runV (n8 := 0) (As := []) (rest := []) X (pc := 42) hr9 (met_X1_clearCosts (xl x) X.hl (xG x) h21 a0 _ hw) ho9 (by decide) rfl q1550 q1552 qs22 q71 q1553 (by decide +kernel) dX1_routeByRounds_42 rfl ⟨Nat.le_of_ble_eq_true rfl, Nat.le_of_ble_eq_true rfl⟩ (Nat.le_of_ble_eq_true rfl) ⟨Nat.le_of_ble_eq_true rfl, Nat.le_of_ble_eq_true rfl⟩) (fun h42 hw => ?_)
      refine j_iconst X (pc := 45) 0 dX1_routeByRounds_45 (by decide) ?_
      refine j_istore X (pc := 46) [(5, vI 0), (4, vI y21), (3, vI y11), (0, vR a0), (1, vR a1), (2, vR a2)] dX1_routeByRounds_46 (Nat.le_of_ble_eq_true rfl) rfl ?_
      refine j_lv [(0, vR a0), (3, vI y11), (4, vI y21), (5, vI 0)] [3, 2, 1, 0] rfl ?_
      refine j_cs (u' := 0) (v' := 0) (Nat.le_of_ble_eq_true rfl) (Nat.le_of_ble_eq_true rfl) ?_
      exact wk_X1_routeByRounds_48 X er en hQ a0 y11 y21 0 h42 hw
abbrev cX1_bendsByRounds : ByteArray := prog_1_method_72_code
def yX1_bendsByRounds : MethodName := ⟨RX1, "bendsByRounds", "(II)I"⟩
def dkwX1_bendsByRounds_1 : List UInt8 := [108, 172]
abbrev dktX1_bendsByRounds_1 : List UInt8 := dkwX1_bendsByRounds_1 ++ []
def dkwX1_bendsByRounds_0 : List UInt8 := [42, 27, 182, 0, 199, 78, 42, 42, 45, 42, 45, 28, 182, 1, 46, 182, 1, 172, 182, 1, 169, 17, 3, 232]
abbrev dktX1_bendsByRounds_0 : List UInt8 := dkwX1_bendsByRounds_0 ++ dktX1_bendsByRounds_1
theorem dksX1_bendsByRounds_0 : cX1_bendsByRounds.data.toList.drop 0 = dktX1_bendsByRounds_0 := by decide +kernel
theorem dksX1_bendsByRounds_1 : cX1_bendsByRounds.data.toList.drop 24 = dktX1_bendsByRounds_1 := dk_seg dksX1_bendsByRounds_0 24 rfl rfl
theorem dX1_bendsByRounds_0 : decode cX1_bendsByRounds 0 = .ok (.aload_n 0, 1) := dk_42 (dk_at dksX1_bendsByRounds_0 0 rfl rfl)
theorem dX1_bendsByRounds_1 : decode cX1_bendsByRounds 1 = .ok (.iload_n 1, 1) := dk_27 (dk_at dksX1_bendsByRounds_0 1 rfl rfl)
theorem dX1_bendsByRounds_2 : decode cX1_bendsByRounds 2 = .ok (.invokevirtual 199, 3) := dk_182 0 199 (dk_at dksX1_bendsByRounds_0 2 rfl rfl)
theorem dX1_bendsByRounds_5 : decode cX1_bendsByRounds 5 = .ok (.astore_n 3, 1) := dk_78 (dk_at dksX1_bendsByRounds_0 5 rfl rfl)
theorem dX1_bendsByRounds_6 : decode cX1_bendsByRounds 6 = .ok (.aload_n 0, 1) := dk_42 (dk_at dksX1_bendsByRounds_0 6 rfl rfl)
theorem dX1_bendsByRounds_7 : decode cX1_bendsByRounds 7 = .ok (.aload_n 0, 1) := dk_42 (dk_at dksX1_bendsByRounds_0 7 rfl rfl)
theorem dX1_bendsByRounds_8 : decode cX1_bendsByRounds 8 = .ok (.aload_n 3, 1) := dk_45 (dk_at dksX1_bendsByRounds_0 8 rfl rfl)
theorem dX1_bendsByRounds_9 : decode cX1_bendsByRounds 9 = .ok (.aload_n 0, 1) := dk_42 (dk_at dksX1_bendsByRounds_0 9 rfl rfl)
theorem dX1_bendsByRounds_10 : decode cX1_bendsByRounds 10 = .ok (.aload_n 3, 1) := dk_45 (dk_at dksX1_bendsByRounds_0 10 rfl rfl)
theorem dX1_bendsByRounds_11 : decode cX1_bendsByRounds 11 = .ok (.iload_n 2, 1) := dk_28 (dk_at dksX1_bendsByRounds_0 11 rfl rfl)
theorem dX1_bendsByRounds_12 : decode cX1_bendsByRounds 12 = .ok (.invokevirtual 302, 3) := dk_182 1 46 (dk_at dksX1_bendsByRounds_0 12 rfl rfl)
theorem dX1_bendsByRounds_15 : decode cX1_bendsByRounds 15 = .ok (.invokevirtual 428, 3) := dk_182 1 172 (dk_at dksX1_bendsByRounds_0 15 rfl rfl)
theorem dX1_bendsByRounds_18 : decode cX1_bendsByRounds 18 = .ok (.invokevirtual 425, 3) := dk_182 1 169 (dk_at dksX1_bendsByRounds_0 18 rfl rfl)
theorem dX1_bendsByRounds_21 : decode cX1_bendsByRounds 21 = .ok (.sipush 1000, 3) := dk_17 3 232 (dk_at dksX1_bendsByRounds_0 21 rfl rfl)
theorem dX1_bendsByRounds_24 : decode cX1_bendsByRounds 24 = .ok (.idiv, 1) := dk_108 (dk_at dksX1_bendsByRounds_1 0 rfl rfl)
theorem dX1_bendsByRounds_25 : decode cX1_bendsByRounds 25 = .ok (.ireturn, 1) := dk_172 (dk_at dksX1_bendsByRounds_1 1 rfl rfl)
theorem q1577 : (Jvm.Cond.methodLink "Plugboard" (428 : Nat) ({ cls := "Plugboard", name := "routeByRounds", desc := "(LPlugboard$Board;LPlugboard$Connector;)I" } : Jvm.MethodName)) ∈ lw_all := lw_g (lw_at lw_m7 67 rfl) rfl
theorem q1579 : (Jvm.Cond.instanceMethod ({ cls := "Plugboard", name := "routeByRounds", desc := "(LPlugboard$Board;LPlugboard$Connector;)I" } : Jvm.MethodName)) ∈ lw_all := lw_g (lw_at lw_m7 69 rfl) rfl
theorem q1580 : (Jvm.Cond.code ({ cls := "Plugboard", name := "routeByRounds", desc := "(LPlugboard$Board;LPlugboard$Connector;)I" } : Jvm.MethodName) prog_1_method_69_code (10 : Nat) (Option.some Jvm.ClassFile.FieldType.int)) ∈ lw_all := lw_g (lw_at lw_m7 70 rfl) rfl
abbrev rm_X1_bendsByRounds : Room := { frames := 9, cells := 4, slots := 19, locals := 146 }
def w_X1_bendsByRounds (a0 : Option Nat) (a1 : Int32) (a2 : Int32) (h : AH) (P : Int32 → AH → Prop) (PX : String → AH → Prop) : Prop :=
  is_c h a0 [0] (
  w_X1_board a0 a1 h (fun y2 h2 =>
  is_c h2 a0 [0] (
  w_X1_connector a0 y2 a2 h2 (fun y12 h12 =>
  is_c h12 a0 [0] (
  w_X1_routeByRounds a0 y2 y12 h12 (fun y15 h15 =>
  is_c h15 a0 [0] (
  w_X1_requireWay a0 y15 h15 (fun y18 h18 =>
  ¬ (1000 : Int32) = 0 ∧
  P (y18 / 1000) h18) PX)))) PX)) PX)
theorem met_X1_bendsByRounds (l : Launch) (hlt : l.stackTraces = false) (G : GG) (h : AH) (a0 : Option Nat) (a1 : Int32) (a2 : Int32) (P : Int32 → AH → Prop) (PX : String → AH → Prop) (hw : w_X1_bendsByRounds a0 a1 a2 h P PX) : cx_i l yX1_bendsByRounds (ws_ yX1_bendsByRounds cX1_bendsByRounds 4 (Option.some Jvm.ClassFile.FieldType.int)) rm_X1_bendsByRounds G h [vR a0, vI a1, vI a2] P PX := by
  refine j_startXi hlt [(0, vR a0), (1, vI a1), (2, vI a2)] (by decide) rfl rfl (fun x X eG er en hQ hT hex => ?_)
  subst eG
  refine j_aload_n X (pc := 0) 0 dX1_bendsByRounds_0 rfl rfl ?_
  refine j_iload_n X (pc := 1) 1 dX1_bendsByRounds_1 rfl rfl ?_
  obtain ⟨b9, c9, f9, hr9, ho9, hc9, hw⟩ := hw
  obtain rfl := List.mem_singleton.mp hc9
  refine j_callXq (j_runVX (n8 := 1) (As := [vI a1]) (rest := []) X (pc := 2) hr9 (met_X1_board (xl x) X.hl (xG x) h a0 a1 _ _ hw) ho9 (by decide) rfl q297 q299 qs0 q71 q300 (by decide +kernel) dX1_bendsByRounds_2 rfl ⟨Nat.le_of_ble_eq_true rfl, Nat.le_of_ble_eq_true rfl⟩ (Nat.le_of_ble_eq_true rfl) ⟨Nat.le_of_ble_eq_true rfl, Nat.le_of_ble_eq_true rfl⟩) (fun E h9 hx => j_out X hT hex (Nat.le_of_ble_eq_true rfl) (Nat.le_of_ble_eq_true rfl) hx) (fun y2 h2 hw => ?_)
  refine j_astore_n X (pc := 5) [(3, vR y2), (0, vR a0), (1, vI a1), (2, vI a2)] dX1_bendsByRounds_5 rfl (Nat.le_of_ble_eq_true rfl) rfl ?_
  refine j_aload_n X (pc := 6) 1 dX1_bendsByRounds_6 rfl rfl ?_
  refine j_aload_n X (pc := 7) 1 dX1_bendsByRounds_7 rfl rfl ?_
  refine j_aload_n X (pc := 8) 0 dX1_bendsByRounds_8 rfl rfl ?_
  refine j_aload_n X (pc := 9) 1 dX1_bendsByRounds_9 rfl rfl ?_
  refine j_aload_n X (pc := 10) 0 dX1_bendsByRounds_10 rfl rfl ?_
  refine j_iload_n X (pc := 11) 3 dX1_bendsByRounds_11 rfl rfl ?_
  obtain ⟨b9, c9, f9, hr9, ho9, hc9, hw⟩ := hw
  obtain rfl := List.mem_singleton.mp hc9
  refine j_callXq (j_runVX (n8 := 2) (As := [vR y2, vI a2]) (rest := [vR y2, vR a0, vR a0]) X (pc := 12) hr9 (met_X1_connector (xl x) X.hl (xG x) h2 a0 y2 a2 _ _ hw) ho9 (by decide) rfl q1293 q1295 qs14 q71 q1296 (by decide +kernel) dX1_bendsByRounds_12 rfl ⟨Nat.le_of_ble_eq_true rfl, Nat.le_of_ble_eq_true rfl⟩ (Nat.le_of_ble_eq_true rfl) ⟨Nat.le_of_ble_eq_true rfl, Nat.le_of_ble_eq_true rfl⟩) (fun E h9 hx => j_out X hT hex (Nat.le_of_ble_eq_true rfl) (Nat.le_of_ble_eq_true rfl) hx) (fun y12 h12 hw => ?_)
  obtain ⟨b9, c9, f9, hr9, ho9, hc9, hw⟩ := hw
  obtain rfl := List.mem_singleton.mp hc9
  refine j_calli (j_runV (n8 := 2) (As := [vR y2, vR y12]) (rest := [vR a0]) X (pc := 15) hr9 (met_X1_routeByRounds (xl x) X.hl (xG x) h12 a0 y2 y12 _ hw) ho9 (by decide) rfl q1577 q1579 qs26 q71 q1580 (by decide +kernel) dX1_bendsByRounds_15 rfl ⟨Nat.le_of_ble_eq_true rfl, Nat.le_of_ble_eq_true rfl⟩ (Nat.le_of_ble_eq_true rfl) ⟨Nat.le_of_ble_eq_true rfl, Nat.le_of_ble_eq_true rfl⟩) (fun y15 h15 hw => ?_)
  obtain ⟨b9, c9, f9, hr9, ho9, hc9, hw⟩ := hw
  obtain rfl := List.mem_singleton.mp hc9
  refine j_callXi (j_runVX (n8 := 1) (As := [vI y15]) (rest := []) X (pc := 18) hr9 (met_X1_requireWay (xl x) X.hl (xG x) h15 a0 y15 _ _ hw) ho9 (by decide) rfl q1566 q1568 qs25 q71 q1569 (by decide +kernel) dX1_bendsByRounds_18 rfl ⟨Nat.le_of_ble_eq_true rfl, Nat.le_of_ble_eq_true rfl⟩ (Nat.le_of_ble_eq_true rfl) ⟨Nat.le_of_ble_eq_true rfl, Nat.le_of_ble_eq_true rfl⟩) (fun E h9 hx => j_out X hT hex (Nat.le_of_ble_eq_true rfl) (Nat.le_of_ble_eq_true rfl) hx) (fun y18 h18 hw => ?_)
  refine j_sipush X (pc := 21) 1000 dX1_bendsByRounds_21 (by decide) ?_
  refine j_idiv X (pc := 24) dX1_bendsByRounds_24 hw (fun hw => ?_)
  exact j_iret X (pc := 25) hQ er (Nat.le_of_ble_eq_true rfl) (Nat.le_of_ble_eq_true rfl) dX1_bendsByRounds_25 hw
abbrev cX0_bendsByRounds : ByteArray := method_35_code
def yX0_bendsByRounds : MethodName := ⟨RX0, "bendsByRounds", "(LPlugboard;II[J)I"⟩
def dkwX0_bendsByRounds_1 : List UInt8 := [172, 3, 172]
abbrev dktX0_bendsByRounds_1 : List UInt8 := dkwX0_bendsByRounds_1 ++ []
def dkwX0_bendsByRounds_0 : List UInt8 := [45, 3, 42, 27, 28, 182, 0, 124, 133, 80, 167, 0, 15, 58, 4, 4, 172, 58, 4, 5, 172, 58, 4, 6]
abbrev dktX0_bendsByRounds_0 : List UInt8 := dkwX0_bendsByRounds_0 ++ dktX0_bendsByRounds_1
theorem dksX0_bendsByRounds_0 : cX0_bendsByRounds.data.toList.drop 0 = dktX0_bendsByRounds_0 := by decide +kernel
theorem dksX0_bendsByRounds_1 : cX0_bendsByRounds.data.toList.drop 24 = dktX0_bendsByRounds_1 := dk_seg dksX0_bendsByRounds_0 24 rfl rfl
theorem dX0_bendsByRounds_0 : decode cX0_bendsByRounds 0 = .ok (.aload_n 3, 1) := dk_45 (dk_at dksX0_bendsByRounds_0 0 rfl rfl)
theorem dX0_bendsByRounds_1 : decode cX0_bendsByRounds 1 = .ok (.iconst 0, 1) := dk_3 (dk_at dksX0_bendsByRounds_0 1 rfl rfl)
theorem dX0_bendsByRounds_2 : decode cX0_bendsByRounds 2 = .ok (.aload_n 0, 1) := dk_42 (dk_at dksX0_bendsByRounds_0 2 rfl rfl)
theorem dX0_bendsByRounds_3 : decode cX0_bendsByRounds 3 = .ok (.iload_n 1, 1) := dk_27 (dk_at dksX0_bendsByRounds_0 3 rfl rfl)
theorem dX0_bendsByRounds_4 : decode cX0_bendsByRounds 4 = .ok (.iload_n 2, 1) := dk_28 (dk_at dksX0_bendsByRounds_0 4 rfl rfl)
theorem dX0_bendsByRounds_5 : decode cX0_bendsByRounds 5 = .ok (.invokevirtual 124, 3) := dk_182 0 124 (dk_at dksX0_bendsByRounds_0 5 rfl rfl)
theorem dX0_bendsByRounds_8 : decode cX0_bendsByRounds 8 = .ok (.i2l, 1) := dk_133 (dk_at dksX0_bendsByRounds_0 8 rfl rfl)
theorem dX0_bendsByRounds_9 : decode cX0_bendsByRounds 9 = .ok (.lastore, 1) := dk_80 (dk_at dksX0_bendsByRounds_0 9 rfl rfl)
theorem dX0_bendsByRounds_10 : decode cX0_bendsByRounds 10 = .ok (.goto 15, 3) := dk_167 0 15 (dk_at dksX0_bendsByRounds_0 10 rfl rfl)
theorem dX0_bendsByRounds_13 : decode cX0_bendsByRounds 13 = .ok (.astore 4, 2) := dk_58 4 (dk_at dksX0_bendsByRounds_0 13 rfl rfl)
theorem dX0_bendsByRounds_15 : decode cX0_bendsByRounds 15 = .ok (.iconst 1, 1) := dk_4 (dk_at dksX0_bendsByRounds_0 15 rfl rfl)
theorem dX0_bendsByRounds_16 : decode cX0_bendsByRounds 16 = .ok (.ireturn, 1) := dk_172 (dk_at dksX0_bendsByRounds_0 16 rfl rfl)
theorem dX0_bendsByRounds_17 : decode cX0_bendsByRounds 17 = .ok (.astore 4, 2) := dk_58 4 (dk_at dksX0_bendsByRounds_0 17 rfl rfl)
theorem dX0_bendsByRounds_19 : decode cX0_bendsByRounds 19 = .ok (.iconst 2, 1) := dk_5 (dk_at dksX0_bendsByRounds_0 19 rfl rfl)
theorem dX0_bendsByRounds_20 : decode cX0_bendsByRounds 20 = .ok (.ireturn, 1) := dk_172 (dk_at dksX0_bendsByRounds_0 20 rfl rfl)
theorem dX0_bendsByRounds_21 : decode cX0_bendsByRounds 21 = .ok (.astore 4, 2) := dk_58 4 (dk_at dksX0_bendsByRounds_0 21 rfl rfl)
theorem dX0_bendsByRounds_23 : decode cX0_bendsByRounds 23 = .ok (.iconst 3, 1) := dk_6 (dk_at dksX0_bendsByRounds_0 23 rfl rfl)
theorem dX0_bendsByRounds_24 : decode cX0_bendsByRounds 24 = .ok (.ireturn, 1) := dk_172 (dk_at dksX0_bendsByRounds_1 0 rfl rfl)
theorem dX0_bendsByRounds_25 : decode cX0_bendsByRounds 25 = .ok (.iconst 0, 1) := dk_3 (dk_at dksX0_bendsByRounds_1 1 rfl rfl)
theorem dX0_bendsByRounds_26 : decode cX0_bendsByRounds 26 = .ok (.ireturn, 1) := dk_172 (dk_at dksX0_bendsByRounds_1 2 rfl rfl)
theorem q1573 : (Jvm.Cond.methodLink "PlugboardLaw" (124 : Nat) ({ cls := "Plugboard", name := "bendsByRounds", desc := "(II)I" } : Jvm.MethodName)) ∈ lw_all := lw_g (lw_at lw_m7 63 rfl) rfl
theorem q1574 : (Jvm.Cond.instanceMethod ({ cls := "Plugboard", name := "bendsByRounds", desc := "(II)I" } : Jvm.MethodName)) ∈ lw_all := lw_g (lw_at lw_m7 64 rfl) rfl
theorem q1575 : (Jvm.Cond.selects "Plugboard" ({ cls := "Plugboard", name := "bendsByRounds", desc := "(II)I" } : Jvm.MethodName) ({ cls := "Plugboard", name := "bendsByRounds", desc := "(II)I" } : Jvm.MethodName)) ∈ lw_all := lw_g (lw_at lw_m7 65 rfl) rfl
theorem q1576 : (Jvm.Cond.code ({ cls := "Plugboard", name := "bendsByRounds", desc := "(II)I" } : Jvm.MethodName) prog_1_method_72_code (4 : Nat) (Option.some Jvm.ClassFile.FieldType.int)) ∈ lw_all := lw_g (lw_at lw_m7 66 rfl) rfl
abbrev rm_X0_bendsByRounds : Room := { frames := 10, cells := 4, slots := 19, locals := 169 }
def w_X0_bendsByRounds (a0 : Option Nat) (a1 : Int32) (a2 : Int32) (a3 : Option Nat) (h : AH) (P : Int32 → AH → Prop) : Prop :=
  is_c h a0 [0] (
  w_X1_bendsByRounds a0 a1 a2 h (fun y5 h5 =>
  s_L h5 a3 0 (Int32.toInt64 y5) fun h9 =>
  P 0 h9)
    (fun E9 h9 => (E9 = "java/lang/IllegalArgumentException" ∧ ∀ q9 : Nat,
    P 1 h9) ∨
    (E9 = "java/util/NoSuchElementException" ∧ ∀ q9 : Nat,
    P 2 h9) ∨
    (E9 = "java/lang/UnsupportedOperationException" ∧ ∀ q9 : Nat,
    P 3 h9)))
theorem met_X0_bendsByRounds (l : Launch) (hlt : l.stackTraces = false) (G : GG) (h : AH) (a0 : Option Nat) (a1 : Int32) (a2 : Int32) (a3 : Option Nat) (P : Int32 → AH → Prop) (hw : w_X0_bendsByRounds a0 a1 a2 a3 h P) : ct_i l yX0_bendsByRounds (wsW_ yX0_bendsByRounds cX0_bendsByRounds 5 (Option.some Jvm.ClassFile.FieldType.int) [((0 : Nat), (10 : Nat), (13 : Nat), (13 : Nat)), ((0 : Nat), (10 : Nat), (17 : Nat), (21 : Nat)), ((0 : Nat), (10 : Nat), (21 : Nat), (23 : Nat))]) rm_X0_bendsByRounds G h [vR a0, vI a1, vI a2, vR a3] P := by
  refine j_startWi hlt [(0, vR a0), (1, vI a1), (2, vI a2), (3, vR a3)] (by decide) rfl rfl (fun x X eG er en hQ hex => ?_)
  subst eG
  refine j_aload_n X (pc := 0) 3 dX0_bendsByRounds_0 rfl rfl ?_
  refine j_iconst X (pc := 1) 0 dX0_bendsByRounds_1 (by decide) ?_
  refine j_aload_n X (pc := 2) 0 dX0_bendsByRounds_2 rfl rfl ?_
  refine j_iload_n X (pc := 3) 1 dX0_bendsByRounds_3 rfl rfl ?_
  refine j_iload_n X (pc := 4) 2 dX0_bendsByRounds_4 rfl rfl ?_
  obtain ⟨b9, c9, f9, hr9, ho9, hc9, hw⟩ := hw
  obtain rfl := List.mem_singleton.mp hc9
  refine j_callXi (j_runVX (n8 := 2) (As := [vI a1, vI a2]) (rest := [vI 0, vR a3]) X (pc := 5) hr9 (met_X1_bendsByRounds (xl x) X.hl (xG x) h a0 a1 a2 _ _ hw) ho9 (by decide) rfl q1573 q1574 q1575 q71 q1576 (by decide +kernel) dX0_bendsByRounds_5 rfl ⟨Nat.le_of_ble_eq_true rfl, Nat.le_of_ble_eq_true rfl⟩ (Nat.le_of_ble_eq_true rfl) ⟨Nat.le_of_ble_eq_true rfl, Nat.le_of_ble_eq_true rfl⟩) ?_ (fun y5 h5 hw => ?_)
  · intro E9 h9 hx
    rcases hx with ⟨rfl, hw⟩ | ⟨rfl, hw⟩ | ⟨rfl, hw⟩
    · refine j_catch X (pc := 5) "java/lang/IllegalArgumentException" hex [] [⟨0, 10, 17, 21⟩, ⟨0, 10, 21, 23⟩] ⟨0, 10, 13, 13⟩ rfl (by intro y hy; cases hy) (by decide) (by decide) q291 q312 (fun q9 => ?_)
      have hw := hw q9
      refine j_astore X (pc := 13) [(4, vR (some q9)), (0, vR a0), (1, vI a1), (2, vI a2), (3, vR a3)] dX0_bendsByRounds_13 (Nat.le_of_ble_eq_true rfl) rfl ?_
      refine j_iconst X (pc := 15) 1 dX0_bendsByRounds_15 (by decide) ?_
      exact j_iret X (pc := 16) hQ er (Nat.le_of_ble_eq_true rfl) (Nat.le_of_ble_eq_true rfl) dX0_bendsByRounds_16 hw
    · refine j_catch X (pc := 5) "java/util/NoSuchElementException" hex [⟨0, 10, 13, 13⟩] [⟨0, 10, 21, 23⟩] ⟨0, 10, 17, 21⟩ rfl (by intro y hy; simp only [List.mem_cons, List.not_mem_nil, or_false] at hy; subst hy; exact Or.inr ⟨by decide, "java/lang/IllegalArgumentException", q291, by decide +kernel⟩) (by decide) (by decide) q1068 q537 (fun q9 => ?_)
      have hw := hw q9
      refine j_astore X (pc := 17) [(4, vR (some q9)), (0, vR a0), (1, vI a1), (2, vI a2), (3, vR a3)] dX0_bendsByRounds_17 (Nat.le_of_ble_eq_true rfl) rfl ?_
      refine j_iconst X (pc := 19) 2 dX0_bendsByRounds_19 (by decide) ?_
      exact j_iret X (pc := 20) hQ er (Nat.le_of_ble_eq_true rfl) (Nat.le_of_ble_eq_true rfl) dX0_bendsByRounds_20 hw
    · refine j_catch X (pc := 5) "java/lang/UnsupportedOperationException" hex [⟨0, 10, 13, 13⟩, ⟨0, 10, 17, 21⟩] [] ⟨0, 10, 21, 23⟩ rfl (by intro y hy; simp only [List.mem_cons, List.not_mem_nil, or_false] at hy; rcases hy with rfl | rfl <;> first | exact Or.inr ⟨by decide, "java/lang/IllegalArgumentException", q291, by decide +kernel⟩ | exact Or.inr ⟨by decide, "java/util/NoSuchElementException", q1068, by decide +kernel⟩) (by decide) (by decide) q1069 q1102 (fun q9 => ?_)
      have hw := hw q9
      refine j_astore X (pc := 21) [(4, vR (some q9)), (0, vR a0), (1, vI a1), (2, vI a2), (3, vR a3)] dX0_bendsByRounds_21 (Nat.le_of_ble_eq_true rfl) rfl ?_
      refine j_iconst X (pc := 23) 3 dX0_bendsByRounds_23 (by decide) ?_
      exact j_iret X (pc := 24) hQ er (Nat.le_of_ble_eq_true rfl) (Nat.le_of_ble_eq_true rfl) dX0_bendsByRounds_24 hw
  refine j_i2l X (pc := 8) dX0_bendsByRounds_8 ?_
  refine j_last X (pc := 9) dX0_bendsByRounds_9 hw (fun h9 hw => ?_)
  refine j_goto X (pc := 10) 25 dX0_bendsByRounds_10 (by decide) ?_
  refine j_iconst X (pc := 25) 0 dX0_bendsByRounds_25 (by decide) ?_
  exact j_iret X (pc := 26) hQ er (Nat.le_of_ble_eq_true rfl) (Nat.le_of_ble_eq_true rfl) dX0_bendsByRounds_26 hw
abbrev cX5_bendsByRounds : ByteArray := prog_19_method_76_code
def yX5_bendsByRounds : MethodName := ⟨RX5, "bendsByRounds", "(II)I"⟩
def dkwX5_bendsByRounds_0 : List UInt8 := [42, 27, 28, 182, 1, 11, 172]
abbrev dktX5_bendsByRounds_0 : List UInt8 := dkwX5_bendsByRounds_0 ++ []
theorem dksX5_bendsByRounds_0 : cX5_bendsByRounds.data.toList.drop 0 = dktX5_bendsByRounds_0 := by decide +kernel
theorem dX5_bendsByRounds_0 : decode cX5_bendsByRounds 0 = .ok (.aload_n 0, 1) := dk_42 (dk_at dksX5_bendsByRounds_0 0 rfl rfl)
theorem dX5_bendsByRounds_1 : decode cX5_bendsByRounds 1 = .ok (.iload_n 1, 1) := dk_27 (dk_at dksX5_bendsByRounds_0 1 rfl rfl)
theorem dX5_bendsByRounds_2 : decode cX5_bendsByRounds 2 = .ok (.iload_n 2, 1) := dk_28 (dk_at dksX5_bendsByRounds_0 2 rfl rfl)
theorem dX5_bendsByRounds_3 : decode cX5_bendsByRounds 3 = .ok (.invokevirtual 267, 3) := dk_182 1 11 (dk_at dksX5_bendsByRounds_0 3 rfl rfl)
theorem dX5_bendsByRounds_6 : decode cX5_bendsByRounds 6 = .ok (.ireturn, 1) := dk_172 (dk_at dksX5_bendsByRounds_0 6 rfl rfl)
theorem q2232 : (Jvm.Cond.instanceMethod ({ cls := "PlugboardModel", name := "bends", desc := "(II)I" } : Jvm.MethodName)) ∈ lw_all := lw_g (lw_at lw_m10 2 rfl) rfl
theorem q2233 : (Jvm.Cond.selects "PlugboardModel" ({ cls := "PlugboardModel", name := "bends", desc := "(II)I" } : Jvm.MethodName) ({ cls := "PlugboardModel", name := "bends", desc := "(II)I" } : Jvm.MethodName)) ∈ lw_all := lw_g (lw_at lw_m10 3 rfl) rfl
theorem q2234 : (Jvm.Cond.code ({ cls := "PlugboardModel", name := "bends", desc := "(II)I" } : Jvm.MethodName) prog_19_method_75_code (3 : Nat) (Option.some Jvm.ClassFile.FieldType.int)) ∈ lw_all := lw_g (lw_at lw_m10 4 rfl) rfl
theorem q2271 : (Jvm.Cond.methodLink "PlugboardModel" (267 : Nat) ({ cls := "PlugboardModel", name := "bends", desc := "(II)I" } : Jvm.MethodName)) ∈ lw_all := lw_g (lw_at lw_m10 41 rfl) rfl
abbrev rm_X5_bendsByRounds : Room := { frames := 6, cells := 0, slots := 0, locals := 148 }
def w_X5_bendsByRounds (a0 : Option Nat) (a1 : Int32) (a2 : Int32) (h : AH) (P : Int32 → AH → Prop) : Prop :=
  is_c h a0 [4] (
  w_X5_bends a0 a1 a2 h (fun y3 h3 =>
  P y3 h3))
theorem met_X5_bendsByRounds (l : Launch) (hlt : l.stackTraces = false) (G : GG) (h : AH) (a0 : Option Nat) (a1 : Int32) (a2 : Int32) (P : Int32 → AH → Prop) (hw : w_X5_bendsByRounds a0 a1 a2 h P) : ct_i l yX5_bendsByRounds (ws_ yX5_bendsByRounds cX5_bendsByRounds 3 (Option.some Jvm.ClassFile.FieldType.int)) rm_X5_bendsByRounds G h [vR a0, vI a1, vI a2] P := by
  refine j_starti hlt [(0, vR a0), (1, vI a1), (2, vI a2)] (plainFor_of_name (by decide)) rfl rfl (fun x X eG er en hQ => ?_)
  subst eG
  refine j_aload_n X (pc := 0) 0 dX5_bendsByRounds_0 rfl rfl ?_
  refine j_iload_n X (pc := 1) 1 dX5_bendsByRounds_1 rfl rfl ?_
  refine j_iload_n X (pc := 2) 2 dX5_bendsByRounds_2 rfl rfl ?_
  obtain ⟨b9, c9, f9, hr9, ho9, hc9, hw⟩ := hw
  obtain rfl := List.mem_singleton.mp hc9
  refine j_calli (j_runV (n8 := 2) (As := [vI a1, vI a2]) (rest := []) X (pc := 3) hr9 (met_X5_bends (xl x) X.hl (xG x) h a0 a1 a2 _ hw) ho9 (by decide) rfl q2271 q2232 q2233 q78 q2234 (by decide +kernel) dX5_bendsByRounds_3 rfl ⟨Nat.le_of_ble_eq_true rfl, Nat.le_of_ble_eq_true rfl⟩ (Nat.le_of_ble_eq_true rfl) ⟨Nat.le_of_ble_eq_true rfl, Nat.le_of_ble_eq_true rfl⟩) (fun y3 h3 hw => ?_)
  exact j_iret X (pc := 6) hQ er (Nat.le_of_ble_eq_true rfl) (Nat.le_of_ble_eq_true rfl) dX5_bendsByRounds_6 hw
abbrev cX1_routeLength : ByteArray := prog_1_method_73_code
def yX1_routeLength : MethodName := ⟨RX1, "routeLength", "(II)I"⟩
def dkwX1_routeLength_1 : List UInt8 := [112, 172]
abbrev dktX1_routeLength_1 : List UInt8 := dkwX1_routeLength_1 ++ []
def dkwX1_routeLength_0 : List UInt8 := [42, 27, 182, 0, 199, 78, 42, 42, 45, 42, 45, 28, 182, 1, 46, 182, 1, 165, 182, 1, 169, 17, 3, 232]
abbrev dktX1_routeLength_0 : List UInt8 := dkwX1_routeLength_0 ++ dktX1_routeLength_1
theorem dksX1_routeLength_0 : cX1_routeLength.data.toList.drop 0 = dktX1_routeLength_0 := by decide +kernel
theorem dksX1_routeLength_1 : cX1_routeLength.data.toList.drop 24 = dktX1_routeLength_1 := dk_seg dksX1_routeLength_0 24 rfl rfl
theorem dX1_routeLength_0 : decode cX1_routeLength 0 = .ok (.aload_n 0, 1) := dk_42 (dk_at dksX1_routeLength_0 0 rfl rfl)
theorem dX1_routeLength_1 : decode cX1_routeLength 1 = .ok (.iload_n 1, 1) := dk_27 (dk_at dksX1_routeLength_0 1 rfl rfl)
theorem dX1_routeLength_2 : decode cX1_routeLength 2 = .ok (.invokevirtual 199, 3) := dk_182 0 199 (dk_at dksX1_routeLength_0 2 rfl rfl)
theorem dX1_routeLength_5 : decode cX1_routeLength 5 = .ok (.astore_n 3, 1) := dk_78 (dk_at dksX1_routeLength_0 5 rfl rfl)
theorem dX1_routeLength_6 : decode cX1_routeLength 6 = .ok (.aload_n 0, 1) := dk_42 (dk_at dksX1_routeLength_0 6 rfl rfl)
theorem dX1_routeLength_7 : decode cX1_routeLength 7 = .ok (.aload_n 0, 1) := dk_42 (dk_at dksX1_routeLength_0 7 rfl rfl)
theorem dX1_routeLength_8 : decode cX1_routeLength 8 = .ok (.aload_n 3, 1) := dk_45 (dk_at dksX1_routeLength_0 8 rfl rfl)
theorem dX1_routeLength_9 : decode cX1_routeLength 9 = .ok (.aload_n 0, 1) := dk_42 (dk_at dksX1_routeLength_0 9 rfl rfl)
theorem dX1_routeLength_10 : decode cX1_routeLength 10 = .ok (.aload_n 3, 1) := dk_45 (dk_at dksX1_routeLength_0 10 rfl rfl)
theorem dX1_routeLength_11 : decode cX1_routeLength 11 = .ok (.iload_n 2, 1) := dk_28 (dk_at dksX1_routeLength_0 11 rfl rfl)
theorem dX1_routeLength_12 : decode cX1_routeLength 12 = .ok (.invokevirtual 302, 3) := dk_182 1 46 (dk_at dksX1_routeLength_0 12 rfl rfl)
theorem dX1_routeLength_15 : decode cX1_routeLength 15 = .ok (.invokevirtual 421, 3) := dk_182 1 165 (dk_at dksX1_routeLength_0 15 rfl rfl)
theorem dX1_routeLength_18 : decode cX1_routeLength 18 = .ok (.invokevirtual 425, 3) := dk_182 1 169 (dk_at dksX1_routeLength_0 18 rfl rfl)
theorem dX1_routeLength_21 : decode cX1_routeLength 21 = .ok (.sipush 1000, 3) := dk_17 3 232 (dk_at dksX1_routeLength_0 21 rfl rfl)
theorem dX1_routeLength_24 : decode cX1_routeLength 24 = .ok (.irem, 1) := dk_112 (dk_at dksX1_routeLength_1 0 rfl rfl)
theorem dX1_routeLength_25 : decode cX1_routeLength 25 = .ok (.ireturn, 1) := dk_172 (dk_at dksX1_routeLength_1 1 rfl rfl)
abbrev rm_X1_routeLength : Room := { frames := 9, cells := 4, slots := 19, locals := 146 }
def w_X1_routeLength (a0 : Option Nat) (a1 : Int32) (a2 : Int32) (h : AH) (P : Int32 → AH → Prop) (PX : String → AH → Prop) : Prop :=
  is_c h a0 [0] (
  w_X1_board a0 a1 h (fun y2 h2 =>
  is_c h2 a0 [0] (
  w_X1_connector a0 y2 a2 h2 (fun y12 h12 =>
  is_c h12 a0 [0] (
  w_X1_route a0 y2 y12 h12 (fun y15 h15 =>
  is_c h15 a0 [0] (
  w_X1_requireWay a0 y15 h15 (fun y18 h18 =>
  ¬ (1000 : Int32) = 0 ∧
  P (y18 - y18 / 1000 * 1000) h18) PX)))) PX)) PX)
theorem met_X1_routeLength (l : Launch) (hlt : l.stackTraces = false) (G : GG) (h : AH) (a0 : Option Nat) (a1 : Int32) (a2 : Int32) (P : Int32 → AH → Prop) (PX : String → AH → Prop) (hw : w_X1_routeLength a0 a1 a2 h P PX) : cx_i l yX1_routeLength (ws_ yX1_routeLength cX1_routeLength 4 (Option.some Jvm.ClassFile.FieldType.int)) rm_X1_routeLength G h [vR a0, vI a1, vI a2] P PX := by
  refine j_startXi hlt [(0, vR a0), (1, vI a1), (2, vI a2)] (by decide) rfl rfl (fun x X eG er en hQ hT hex => ?_)
  subst eG
  refine j_aload_n X (pc := 0) 0 dX1_routeLength_0 rfl rfl ?_
  refine j_iload_n X (pc := 1) 1 dX1_routeLength_1 rfl rfl ?_
  obtain ⟨b9, c9, f9, hr9, ho9, hc9, hw⟩ := hw
  obtain rfl := List.mem_singleton.mp hc9
  refine j_callXq (j_runVX (n8 := 1) (As := [vI a1]) (rest := []) X (pc := 2) hr9 (met_X1_board (xl x) X.hl (xG x) h a0 a1 _ _ hw) ho9 (by decide) rfl q297 q299 qs0 q71 q300 (by decide +kernel) dX1_routeLength_2 rfl ⟨Nat.le_of_ble_eq_true rfl, Nat.le_of_ble_eq_true rfl⟩ (Nat.le_of_ble_eq_true rfl) ⟨Nat.le_of_ble_eq_true rfl, Nat.le_of_ble_eq_true rfl⟩) (fun E h9 hx => j_out X hT hex (Nat.le_of_ble_eq_true rfl) (Nat.le_of_ble_eq_true rfl) hx) (fun y2 h2 hw => ?_)
  refine j_astore_n X (pc := 5) [(3, vR y2), (0, vR a0), (1, vI a1), (2, vI a2)] dX1_routeLength_5 rfl (Nat.le_of_ble_eq_true rfl) rfl ?_
  refine j_aload_n X (pc := 6) 1 dX1_routeLength_6 rfl rfl ?_
  refine j_aload_n X (pc := 7) 1 dX1_routeLength_7 rfl rfl ?_
  refine j_aload_n X (pc := 8) 0 dX1_routeLength_8 rfl rfl ?_
  refine j_aload_n X (pc := 9) 1 dX1_routeLength_9 rfl rfl ?_
  refine j_aload_n X (pc := 10) 0 dX1_routeLength_10 rfl rfl ?_
  refine j_iload_n X (pc := 11) 3 dX1_routeLength_11 rfl rfl ?_
  obtain ⟨b9, c9, f9, hr9, ho9, hc9, hw⟩ := hw
  obtain rfl := List.mem_singleton.mp hc9
  refine j_callXq (j_runVX (n8 := 2) (As := [vR y2, vI a2]) (rest := [vR y2, vR a0, vR a0]) X (pc := 12) hr9 (met_X1_connector (xl x) X.hl (xG x) h2 a0 y2 a2 _ _ hw) ho9 (by decide) rfl q1293 q1295 qs14 q71 q1296 (by decide +kernel) dX1_routeLength_12 rfl ⟨Nat.le_of_ble_eq_true rfl, Nat.le_of_ble_eq_true rfl⟩ (Nat.le_of_ble_eq_true rfl) ⟨Nat.le_of_ble_eq_true rfl, Nat.le_of_ble_eq_true rfl⟩) (fun E h9 hx => j_out X hT hex (Nat.le_of_ble_eq_true rfl) (Nat.le_of_ble_eq_true rfl) hx) (fun y12 h12 hw => ?_)
  obtain ⟨b9, c9, f9, hr9, ho9, hc9, hw⟩ := hw
  obtain rfl := List.mem_singleton.mp hc9
  refine j_calli (j_runV (n8 := 2) (As := [vR y2, vR y12]) (rest := [vR a0]) X (pc := 15) hr9 (met_X1_route (xl x) X.hl (xG x) h12 a0 y2 y12 _ hw) ho9 (by decide) rfl q1527 q1529 qs19 q71 q1530 (by decide +kernel) dX1_routeLength_15 rfl ⟨Nat.le_of_ble_eq_true rfl, Nat.le_of_ble_eq_true rfl⟩ (Nat.le_of_ble_eq_true rfl) ⟨Nat.le_of_ble_eq_true rfl, Nat.le_of_ble_eq_true rfl⟩) (fun y15 h15 hw => ?_)
  obtain ⟨b9, c9, f9, hr9, ho9, hc9, hw⟩ := hw
  obtain rfl := List.mem_singleton.mp hc9
  refine j_callXi (j_runVX (n8 := 1) (As := [vI y15]) (rest := []) X (pc := 18) hr9 (met_X1_requireWay (xl x) X.hl (xG x) h15 a0 y15 _ _ hw) ho9 (by decide) rfl q1566 q1568 qs25 q71 q1569 (by decide +kernel) dX1_routeLength_18 rfl ⟨Nat.le_of_ble_eq_true rfl, Nat.le_of_ble_eq_true rfl⟩ (Nat.le_of_ble_eq_true rfl) ⟨Nat.le_of_ble_eq_true rfl, Nat.le_of_ble_eq_true rfl⟩) (fun E h9 hx => j_out X hT hex (Nat.le_of_ble_eq_true rfl) (Nat.le_of_ble_eq_true rfl) hx) (fun y18 h18 hw => ?_)
  refine j_sipush X (pc := 21) 1000 dX1_routeLength_21 (by decide) ?_
  refine j_irem X (pc := 24) dX1_routeLength_24 hw (fun hw => ?_)
  exact j_iret X (pc := 25) hQ er (Nat.le_of_ble_eq_true rfl) (Nat.le_of_ble_eq_true rfl) dX1_routeLength_25 hw
abbrev cX0_routeLength : ByteArray := method_36_code
def yX0_routeLength : MethodName := ⟨RX0, "routeLength", "(LPlugboard;II[J)I"⟩
def dkwX0_routeLength_1 : List UInt8 := [172, 3, 172]
abbrev dktX0_routeLength_1 : List UInt8 := dkwX0_routeLength_1 ++ []
def dkwX0_routeLength_0 : List UInt8 := [45, 3, 42, 27, 28, 182, 0, 127, 133, 80, 167, 0, 15, 58, 4, 4, 172, 58, 4, 5, 172, 58, 4, 6]
abbrev dktX0_routeLength_0 : List UInt8 := dkwX0_routeLength_0 ++ dktX0_routeLength_1
theorem dksX0_routeLength_0 : cX0_routeLength.data.toList.drop 0 = dktX0_routeLength_0 := by decide +kernel
theorem dksX0_routeLength_1 : cX0_routeLength.data.toList.drop 24 = dktX0_routeLength_1 := dk_seg dksX0_routeLength_0 24 rfl rfl
theorem dX0_routeLength_0 : decode cX0_routeLength 0 = .ok (.aload_n 3, 1) := dk_45 (dk_at dksX0_routeLength_0 0 rfl rfl)
theorem dX0_routeLength_1 : decode cX0_routeLength 1 = .ok (.iconst 0, 1) := dk_3 (dk_at dksX0_routeLength_0 1 rfl rfl)
theorem dX0_routeLength_2 : decode cX0_routeLength 2 = .ok (.aload_n 0, 1) := dk_42 (dk_at dksX0_routeLength_0 2 rfl rfl)
theorem dX0_routeLength_3 : decode cX0_routeLength 3 = .ok (.iload_n 1, 1) := dk_27 (dk_at dksX0_routeLength_0 3 rfl rfl)
theorem dX0_routeLength_4 : decode cX0_routeLength 4 = .ok (.iload_n 2, 1) := dk_28 (dk_at dksX0_routeLength_0 4 rfl rfl)
theorem dX0_routeLength_5 : decode cX0_routeLength 5 = .ok (.invokevirtual 127, 3) := dk_182 0 127 (dk_at dksX0_routeLength_0 5 rfl rfl)
theorem dX0_routeLength_8 : decode cX0_routeLength 8 = .ok (.i2l, 1) := dk_133 (dk_at dksX0_routeLength_0 8 rfl rfl)
theorem dX0_routeLength_9 : decode cX0_routeLength 9 = .ok (.lastore, 1) := dk_80 (dk_at dksX0_routeLength_0 9 rfl rfl)
theorem dX0_routeLength_10 : decode cX0_routeLength 10 = .ok (.goto 15, 3) := dk_167 0 15 (dk_at dksX0_routeLength_0 10 rfl rfl)
theorem dX0_routeLength_13 : decode cX0_routeLength 13 = .ok (.astore 4, 2) := dk_58 4 (dk_at dksX0_routeLength_0 13 rfl rfl)
theorem dX0_routeLength_15 : decode cX0_routeLength 15 = .ok (.iconst 1, 1) := dk_4 (dk_at dksX0_routeLength_0 15 rfl rfl)
theorem dX0_routeLength_16 : decode cX0_routeLength 16 = .ok (.ireturn, 1) := dk_172 (dk_at dksX0_routeLength_0 16 rfl rfl)
theorem dX0_routeLength_17 : decode cX0_routeLength 17 = .ok (.astore 4, 2) := dk_58 4 (dk_at dksX0_routeLength_0 17 rfl rfl)
theorem dX0_routeLength_19 : decode cX0_routeLength 19 = .ok (.iconst 2, 1) := dk_5 (dk_at dksX0_routeLength_0 19 rfl rfl)
theorem dX0_routeLength_20 : decode cX0_routeLength 20 = .ok (.ireturn, 1) := dk_172 (dk_at dksX0_routeLength_0 20 rfl rfl)
theorem dX0_routeLength_21 : decode cX0_routeLength 21 = .ok (.astore 4, 2) := dk_58 4 (dk_at dksX0_routeLength_0 21 rfl rfl)
theorem dX0_routeLength_23 : decode cX0_routeLength 23 = .ok (.iconst 3, 1) := dk_6 (dk_at dksX0_routeLength_0 23 rfl rfl)
theorem dX0_routeLength_24 : decode cX0_routeLength 24 = .ok (.ireturn, 1) := dk_172 (dk_at dksX0_routeLength_1 0 rfl rfl)
theorem dX0_routeLength_25 : decode cX0_routeLength 25 = .ok (.iconst 0, 1) := dk_3 (dk_at dksX0_routeLength_1 1 rfl rfl)
theorem dX0_routeLength_26 : decode cX0_routeLength 26 = .ok (.ireturn, 1) := dk_172 (dk_at dksX0_routeLength_1 2 rfl rfl)
theorem q1584 : (Jvm.Cond.methodLink "PlugboardLaw" (127 : Nat) ({ cls := "Plugboard", name := "routeLength", desc := "(II)I" } : Jvm.MethodName)) ∈ lw_all := lw_g (lw_at lw_m7 74 rfl) rfl
theorem q1585 : (Jvm.Cond.instanceMethod ({ cls := "Plugboard", name := "routeLength", desc := "(II)I" } : Jvm.MethodName)) ∈ lw_all := lw_g (lw_at lw_m7 75 rfl) rfl
theorem q1586 : (Jvm.Cond.selects "Plugboard" ({ cls := "Plugboard", name := "routeLength", desc := "(II)I" } : Jvm.MethodName) ({ cls := "Plugboard", name := "routeLength", desc := "(II)I" } : Jvm.MethodName)) ∈ lw_all := lw_g (lw_at lw_m7 76 rfl) rfl
theorem q1587 : (Jvm.Cond.code ({ cls := "Plugboard", name := "routeLength", desc := "(II)I" } : Jvm.MethodName) prog_1_method_73_code (4 : Nat) (Option.some Jvm.ClassFile.FieldType.int)) ∈ lw_all := lw_g (lw_at lw_m7 77 rfl) rfl
abbrev rm_X0_routeLength : Room := { frames := 10, cells := 4, slots := 19, locals := 169 }
def w_X0_routeLength (a0 : Option Nat) (a1 : Int32) (a2 : Int32) (a3 : Option Nat) (h : AH) (P : Int32 → AH → Prop) : Prop :=
  is_c h a0 [0] (
  w_X1_routeLength a0 a1 a2 h (fun y5 h5 =>
  s_L h5 a3 0 (Int32.toInt64 y5) fun h9 =>
  P 0 h9)
    (fun E9 h9 => (E9 = "java/lang/IllegalArgumentException" ∧ ∀ q9 : Nat,
    P 1 h9) ∨
    (E9 = "java/util/NoSuchElementException" ∧ ∀ q9 : Nat,
    P 2 h9) ∨
    (E9 = "java/lang/UnsupportedOperationException" ∧ ∀ q9 : Nat,
    P 3 h9)))
theorem met_X0_routeLength (l : Launch) (hlt : l.stackTraces = false) (G : GG) (h : AH) (a0 : Option Nat) (a1 : Int32) (a2 : Int32) (a3 : Option Nat) (P : Int32 → AH → Prop) (hw : w_X0_routeLength a0 a1 a2 a3 h P) : ct_i l yX0_routeLength (wsW_ yX0_routeLength cX0_routeLength 5 (Option.some Jvm.ClassFile.FieldType.int) [((0 : Nat), (10 : Nat), (13 : Nat), (13 : Nat)), ((0 : Nat), (10 : Nat), (17 : Nat), (21 : Nat)), ((0 : Nat), (10 : Nat), (21 : Nat), (23 : Nat))]) rm_X0_routeLength G h [vR a0, vI a1, vI a2, vR a3] P := by
  refine j_startWi hlt [(0, vR a0), (1, vI a1), (2, vI a2), (3, vR a3)] (by decide) rfl rfl (fun x X eG er en hQ hex => ?_)
  subst eG
  refine j_aload_n X (pc := 0) 3 dX0_routeLength_0 rfl rfl ?_
  refine j_iconst X (pc := 1) 0 dX0_routeLength_1 (by decide) ?_
  refine j_aload_n X (pc := 2) 0 dX0_routeLength_2 rfl rfl ?_
  refine j_iload_n X (pc := 3) 1 dX0_routeLength_3 rfl rfl ?_
  refine j_iload_n X (pc := 4) 2 dX0_routeLength_4 rfl rfl ?_
  obtain ⟨b9, c9, f9, hr9, ho9, hc9, hw⟩ := hw
  obtain rfl := List.mem_singleton.mp hc9
  refine j_callXi (j_runVX (n8 := 2) (As := [vI a1, vI a2]) (rest := [vI 0, vR a3]) X (pc := 5) hr9 (met_X1_routeLength (xl x) X.hl (xG x) h a0 a1 a2 _ _ hw) ho9 (by decide) rfl q1584 q1585 q1586 q71 q1587 (by decide +kernel) dX0_routeLength_5 rfl ⟨Nat.le_of_ble_eq_true rfl, Nat.le_of_ble_eq_true rfl⟩ (Nat.le_of_ble_eq_true rfl) ⟨Nat.le_of_ble_eq_true rfl, Nat.le_of_ble_eq_true rfl⟩) ?_ (fun y5 h5 hw => ?_)
  · intro E9 h9 hx
    rcases hx with ⟨rfl, hw⟩ | ⟨rfl, hw⟩ | ⟨rfl, hw⟩
    · refine j_catch X (pc := 5) "java/lang/IllegalArgumentException" hex [] [⟨0, 10, 17, 21⟩, ⟨0, 10, 21, 23⟩] ⟨0, 10, 13, 13⟩ rfl (by intro y hy; cases hy) (by decide) (by decide) q291 q312 (fun q9 => ?_)
      have hw := hw q9
      refine j_astore X (pc := 13) [(4, vR (some q9)), (0, vR a0), (1, vI a1), (2, vI a2), (3, vR a3)] dX0_routeLength_13 (Nat.le_of_ble_eq_true rfl) rfl ?_
      refine j_iconst X (pc := 15) 1 dX0_routeLength_15 (by decide) ?_
      exact j_iret X (pc := 16) hQ er (Nat.le_of_ble_eq_true rfl) (Nat.le_of_ble_eq_true rfl) dX0_routeLength_16 hw
    · refine j_catch X (pc := 5) "java/util/NoSuchElementException" hex [⟨0, 10, 13, 13⟩] [⟨0, 10, 21, 23⟩] ⟨0, 10, 17, 21⟩ rfl (by intro y hy; simp only [List.mem_cons, List.not_mem_nil, or_false] at hy; subst hy; exact Or.inr ⟨by decide, "java/lang/IllegalArgumentException", q291, by decide +kernel⟩) (by decide) (by decide) q1068 q537 (fun q9 => ?_)
      have hw := hw q9
      refine j_astore X (pc := 17) [(4, vR (some q9)), (0, vR a0), (1, vI a1), (2, vI a2), (3, vR a3)] dX0_routeLength_17 (Nat.le_of_ble_eq_true rfl) rfl ?_
      refine j_iconst X (pc := 19) 2 dX0_routeLength_19 (by decide) ?_
      exact j_iret X (pc := 20) hQ er (Nat.le_of_ble_eq_true rfl) (Nat.le_of_ble_eq_true rfl) dX0_routeLength_20 hw
    · refine j_catch X (pc := 5) "java/lang/UnsupportedOperationException" hex [⟨0, 10, 13, 13⟩, ⟨0, 10, 17, 21⟩] [] ⟨0, 10, 21, 23⟩ rfl (by intro y hy; simp only [List.mem_cons, List.not_mem_nil, or_false] at hy; rcases hy with rfl | rfl <;> first | exact Or.inr ⟨by decide, "java/lang/IllegalArgumentException", q291, by decide +kernel⟩ | exact Or.inr ⟨by decide, "java/util/NoSuchElementException", q1068, by decide +kernel⟩) (by decide) (by decide) q1069 q1102 (fun q9 => ?_)
      have hw := hw q9
      refine j_astore X (pc := 21) [(4, vR (some q9)), (0, vR a0), (1, vI a1), (2, vI a2), (3, vR a3)] dX0_routeLength_21 (Nat.le_of_ble_eq_true rfl) rfl ?_
      refine j_iconst X (pc := 23) 3 dX0_routeLength_23 (by decide) ?_
      exact j_iret X (pc := 24) hQ er (Nat.le_of_ble_eq_true rfl) (Nat.le_of_ble_eq_true rfl) dX0_routeLength_24 hw
  refine j_i2l X (pc := 8) dX0_routeLength_8 ?_
  refine j_last X (pc := 9) dX0_routeLength_9 hw (fun h9 hw => ?_)
  refine j_goto X (pc := 10) 25 dX0_routeLength_10 (by decide) ?_
  refine j_iconst X (pc := 25) 0 dX0_routeLength_25 (by decide) ?_
  exact j_iret X (pc := 26) hQ er (Nat.le_of_ble_eq_true rfl) (Nat.le_of_ble_eq_true rfl) dX0_routeLength_26 hw
abbrev cX5_routeLength : ByteArray := prog_19_method_77_code
def yX5_routeLength : MethodName := ⟨RX5, "routeLength", "(II)I"⟩
def dkwX5_routeLength_0 : List UInt8 := [42, 27, 28, 182, 1, 8, 17, 3, 232, 112, 172]
abbrev dktX5_routeLength_0 : List UInt8 := dkwX5_routeLength_0 ++ []
theorem dksX5_routeLength_0 : cX5_routeLength.data.toList.drop 0 = dktX5_routeLength_0 := by decide +kernel
theorem dX5_routeLength_0 : decode cX5_routeLength 0 = .ok (.aload_n 0, 1) := dk_42 (dk_at dksX5_routeLength_0 0 rfl rfl)
theorem dX5_routeLength_1 : decode cX5_routeLength 1 = .ok (.iload_n 1, 1) := dk_27 (dk_at dksX5_routeLength_0 1 rfl rfl)
theorem dX5_routeLength_2 : decode cX5_routeLength 2 = .ok (.iload_n 2, 1) := dk_28 (dk_at dksX5_routeLength_0 2 rfl rfl)
theorem dX5_routeLength_3 : decode cX5_routeLength 3 = .ok (.invokevirtual 264, 3) := dk_182 1 8 (dk_at dksX5_routeLength_0 3 rfl rfl)
theorem dX5_routeLength_6 : decode cX5_routeLength 6 = .ok (.sipush 1000, 3) := dk_17 3 232 (dk_at dksX5_routeLength_0 6 rfl rfl)
theorem dX5_routeLength_9 : decode cX5_routeLength 9 = .ok (.irem, 1) := dk_112 (dk_at dksX5_routeLength_0 9 rfl rfl)
theorem dX5_routeLength_10 : decode cX5_routeLength 10 = .ok (.ireturn, 1) := dk_172 (dk_at dksX5_routeLength_0 10 rfl rfl)
abbrev rm_X5_routeLength : Room := { frames := 5, cells := 0, slots := 0, locals := 126 }
def w_X5_routeLength (a0 : Option Nat) (a1 : Int32) (a2 : Int32) (h : AH) (P : Int32 → AH → Prop) : Prop :=
  is_c h a0 [4] (
  w_X5_asked a0 a1 a2 h (fun y3 h3 =>
  ¬ (1000 : Int32) = 0 ∧
  P (y3 - y3 / 1000 * 1000) h3))
theorem met_X5_routeLength (l : Launch) (hlt : l.stackTraces = false) (G : GG) (h : AH) (a0 : Option Nat) (a1 : Int32) (a2 : Int32) (P : Int32 → AH → Prop) (hw : w_X5_routeLength a0 a1 a2 h P) : ct_i l yX5_routeLength (ws_ yX5_routeLength cX5_routeLength 3 (Option.some Jvm.ClassFile.FieldType.int)) rm_X5_routeLength G h [vR a0, vI a1, vI a2] P := by
  refine j_starti hlt [(0, vR a0), (1, vI a1), (2, vI a2)] (plainFor_of_name (by decide)) rfl rfl (fun x X eG er en hQ => ?_)
  subst eG
  refine j_aload_n X (pc := 0) 0 dX5_routeLength_0 rfl rfl ?_
  refine j_iload_n X (pc := 1) 1 dX5_routeLength_1 rfl rfl ?_
  refine j_iload_n X (pc := 2) 2 dX5_routeLength_2 rfl rfl ?_
  obtain ⟨b9, c9, f9, hr9, ho9, hc9, hw⟩ := hw
  obtain rfl := List.mem_singleton.mp hc9
  refine j_calli (j_runV (n8 := 2) (As := [vI a1, vI a2]) (rest := []) X (pc := 3) hr9 (met_X5_asked (xl x) X.hl (xG x) h a0 a1 a2 _ hw) ho9 (by decide) rfl q2235 q2237 qs61 q78 q2238 (by decide +kernel) dX5_routeLength_3 rfl ⟨Nat.le_of_ble_eq_true rfl, Nat.le_of_ble_eq_true rfl⟩ (Nat.le_of_ble_eq_true rfl) ⟨Nat.le_of_ble_eq_true rfl, Nat.le_of_ble_eq_true rfl⟩) (fun y3 h3 hw => ?_)
  refine j_sipush X (pc := 6) 1000 dX5_routeLength_6 (by decide) ?_
  refine j_irem X (pc := 9) dX5_routeLength_9 hw (fun hw => ?_)
  exact j_iret X (pc := 10) hQ er (Nat.le_of_ble_eq_true rfl) (Nat.le_of_ble_eq_true rfl) dX5_routeLength_10 hw
abbrev cX1_ownVotes : ByteArray := prog_1_method_74_code
def yX1_ownVotes : MethodName := ⟨RX1, "ownVotes", "(II)I"⟩
def dkwX1_ownVotes_1 : List UInt8 := [184, 1, 56, 46, 172]
abbrev dktX1_ownVotes_1 : List UInt8 := dkwX1_ownVotes_1 ++ []
def dkwX1_ownVotes_0 : List UInt8 := [42, 27, 182, 0, 199, 78, 45, 180, 0, 136, 180, 0, 139, 27, 42, 45, 28, 182, 0, 241, 180, 1, 8]
abbrev dktX1_ownVotes_0 : List UInt8 := dkwX1_ownVotes_0 ++ dktX1_ownVotes_1
theorem dksX1_ownVotes_0 : cX1_ownVotes.data.toList.drop 0 = dktX1_ownVotes_0 := by decide +kernel
theorem dksX1_ownVotes_1 : cX1_ownVotes.data.toList.drop 23 = dktX1_ownVotes_1 := dk_seg dksX1_ownVotes_0 23 rfl rfl
theorem dX1_ownVotes_0 : decode cX1_ownVotes 0 = .ok (.aload_n 0, 1) := dk_42 (dk_at dksX1_ownVotes_0 0 rfl rfl)
theorem dX1_ownVotes_1 : decode cX1_ownVotes 1 = .ok (.iload_n 1, 1) := dk_27 (dk_at dksX1_ownVotes_0 1 rfl rfl)
theorem dX1_ownVotes_2 : decode cX1_ownVotes 2 = .ok (.invokevirtual 199, 3) := dk_182 0 199 (dk_at dksX1_ownVotes_0 2 rfl rfl)
theorem dX1_ownVotes_5 : decode cX1_ownVotes 5 = .ok (.astore_n 3, 1) := dk_78 (dk_at dksX1_ownVotes_0 5 rfl rfl)
theorem dX1_ownVotes_6 : decode cX1_ownVotes 6 = .ok (.aload_n 3, 1) := dk_45 (dk_at dksX1_ownVotes_0 6 rfl rfl)
theorem dX1_ownVotes_7 : decode cX1_ownVotes 7 = .ok (.getfield 136, 3) := dk_180 0 136 (dk_at dksX1_ownVotes_0 7 rfl rfl)
theorem dX1_ownVotes_10 : decode cX1_ownVotes 10 = .ok (.getfield 139, 3) := dk_180 0 139 (dk_at dksX1_ownVotes_0 10 rfl rfl)
theorem dX1_ownVotes_13 : decode cX1_ownVotes 13 = .ok (.iload_n 1, 1) := dk_27 (dk_at dksX1_ownVotes_0 13 rfl rfl)
theorem dX1_ownVotes_14 : decode cX1_ownVotes 14 = .ok (.aload_n 0, 1) := dk_42 (dk_at dksX1_ownVotes_0 14 rfl rfl)
theorem dX1_ownVotes_15 : decode cX1_ownVotes 15 = .ok (.aload_n 3, 1) := dk_45 (dk_at dksX1_ownVotes_0 15 rfl rfl)
theorem dX1_ownVotes_16 : decode cX1_ownVotes 16 = .ok (.iload_n 2, 1) := dk_28 (dk_at dksX1_ownVotes_0 16 rfl rfl)
theorem dX1_ownVotes_17 : decode cX1_ownVotes 17 = .ok (.invokevirtual 241, 3) := dk_182 0 241 (dk_at dksX1_ownVotes_0 17 rfl rfl)
theorem dX1_ownVotes_20 : decode cX1_ownVotes 20 = .ok (.getfield 264, 3) := dk_180 1 8 (dk_at dksX1_ownVotes_0 20 rfl rfl)
theorem dX1_ownVotes_23 : decode cX1_ownVotes 23 = .ok (.invokestatic 312, 3) := dk_184 1 56 (dk_at dksX1_ownVotes_1 0 rfl rfl)
theorem dX1_ownVotes_26 : decode cX1_ownVotes 26 = .ok (.iaload, 1) := dk_46 (dk_at dksX1_ownVotes_1 3 rfl rfl)
theorem dX1_ownVotes_27 : decode cX1_ownVotes 27 = .ok (.ireturn, 1) := dk_172 (dk_at dksX1_ownVotes_1 4 rfl rfl)
abbrev rm_X1_ownVotes : Room := { frames := 9, cells := 3, slots := 13, locals := 146 }
def w_X1_ownVotes (a0 : Option Nat) (a1 : Int32) (a2 : Int32) (h : AH) (P : Int32 → AH → Prop) (PX : String → AH → Prop) : Prop :=
  is_c h a0 [0] (
  w_X1_board a0 a1 h (fun y2 h2 =>
  g_q h2 y2 2 1 fun y7 =>
  g_q h2 y7 1 0 fun y10 =>
  is_c h2 a0 [0] (
  w_X1_shape a0 y2 a2 h2 (fun y17 h17 =>
  g_iS h17 y17 0 fun y20 =>
  w_X1_votesField a1 y20 h17 (fun y23 h23 =>
  l_i h23 y10 0 y23 fun y26 =>
  P y26 h23)) PX)) PX)
theorem met_X1_ownVotes (l : Launch) (hlt : l.stackTraces = false) (G : GG) (h : AH) (a0 : Option Nat) (a1 : Int32) (a2 : Int32) (P : Int32 → AH → Prop) (PX : String → AH → Prop) (hw : w_X1_ownVotes a0 a1 a2 h P PX) : cx_i l yX1_ownVotes (ws_ yX1_ownVotes cX1_ownVotes 4 (Option.some Jvm.ClassFile.FieldType.int)) rm_X1_ownVotes G h [vR a0, vI a1, vI a2] P PX := by
  refine j_startXi hlt [(0, vR a0), (1, vI a1), (2, vI a2)] (by decide) rfl rfl (fun x X eG er en hQ hT hex => ?_)
  subst eG
  refine j_aload_n X (pc := 0) 0 dX1_ownVotes_0 rfl rfl ?_
  refine j_iload_n X (pc := 1) 1 dX1_ownVotes_1 rfl rfl ?_
  obtain ⟨b9, c9, f9, hr9, ho9, hc9, hw⟩ := hw
  obtain rfl := List.mem_singleton.mp hc9
  refine j_callXq (j_runVX (n8 := 1) (As := [vI a1]) (rest := []) X (pc := 2) hr9 (met_X1_board (xl x) X.hl (xG x) h a0 a1 _ _ hw) ho9 (by decide) rfl q297 q299 qs0 q71 q300 (by decide +kernel) dX1_ownVotes_2 rfl ⟨Nat.le_of_ble_eq_true rfl, Nat.le_of_ble_eq_true rfl⟩ (Nat.le_of_ble_eq_true rfl) ⟨Nat.le_of_ble_eq_true rfl, Nat.le_of_ble_eq_true rfl⟩) (fun E h9 hx => j_out X hT hex (Nat.le_of_ble_eq_true rfl) (Nat.le_of_ble_eq_true rfl) hx) (fun y2 h2 hw => ?_)
  refine j_astore_n X (pc := 5) [(3, vR y2), (0, vR a0), (1, vI a1), (2, vI a2)] dX1_ownVotes_5 rfl (Nat.le_of_ble_eq_true rfl) rfl ?_
  refine j_aload_n X (pc := 6) 0 dX1_ownVotes_6 rfl rfl ?_
  refine j_getqN (ci := 2) X (pc := 7) in_X3 rfl (by decide) 1 (by decide) q210 (Or.inl rfl) dX1_ownVotes_7 hw (fun y7 hw => ?_)
  refine j_getqN (ci := 1) X (pc := 10) in_X2 rfl (by decide) 0 (by decide) q168 (Or.inl rfl) dX1_ownVotes_10 hw (fun y10 hw => ?_)
  refine j_iload_n X (pc := 13) 2 dX1_ownVotes_13 rfl rfl ?_
  refine j_aload_n X (pc := 14) 1 dX1_ownVotes_14 rfl rfl ?_
  refine j_aload_n X (pc := 15) 0 dX1_ownVotes_15 rfl rfl ?_
  refine j_iload_n X (pc := 16) 3 dX1_ownVotes_16 rfl rfl ?_
  obtain ⟨b9, c9, f9, hr9, ho9, hc9, hw⟩ := hw
  obtain rfl := List.mem_singleton.mp hc9
  refine j_callXq (j_runVX (n8 := 2) (As := [vR y2, vI a2]) (rest := [vI a1, vR y10]) X (pc := 17) hr9 (met_X1_shape (xl x) X.hl (xG x) h2 a0 y2 a2 _ _ hw) ho9 (by decide) rfl q1075 q1077 qs9 q71 q1078 (by decide +kernel) dX1_ownVotes_17 rfl ⟨Nat.le_of_ble_eq_true rfl, Nat.le_of_ble_eq_true rfl⟩ (Nat.le_of_ble_eq_true rfl) ⟨Nat.le_of_ble_eq_true rfl, Nat.le_of_ble_eq_true rfl⟩) (fun E h9 hx => j_out X hT hex (Nat.le_of_ble_eq_true rfl) (Nat.le_of_ble_eq_true rfl) hx) (fun y17 h17 hw => ?_)
  refine j_getiSN X (pc := 20) 0 (by decide) q578 dX1_ownVotes_20 hw (fun y20 hw => ?_)
  refine j_calli (j_runS (n8 := 2) (As := [vI a1, vI y20]) (rest := [vR y10]) X (pc := 23) (met_X1_votesField (xl x) X.hl (xG x) h17 a1 y20 _ hw) q1329 q1330 q71 q1331 (by decide +kernel) dX1_ownVotes_23 rfl ⟨Nat.le_of_ble_eq_true rfl, Nat.le_of_ble_eq_true rfl⟩ (Nat.le_of_ble_eq_true rfl) ⟨Nat.le_of_ble_eq_true rfl, Nat.le_of_ble_eq_true rfl⟩) (fun y23 h23 hw => ?_)
  refine j_iald X (pc := 26) 0 rfl dX1_ownVotes_26 hw (fun y26 hw => ?_)
  exact j_iret X (pc := 27) hQ er (Nat.le_of_ble_eq_true rfl) (Nat.le_of_ble_eq_true rfl) dX1_ownVotes_27 hw
abbrev cX0_ownVotes : ByteArray := method_37_code
def yX0_ownVotes : MethodName := ⟨RX0, "ownVotes", "(LPlugboard;II[J)I"⟩
def dkwX0_ownVotes_0 : List UInt8 := [45, 3, 42, 27, 28, 182, 0, 130, 133, 80, 167, 0, 11, 58, 4, 4, 172, 58, 4, 5, 172, 3, 172]
abbrev dktX0_ownVotes_0 : List UInt8 := dkwX0_ownVotes_0 ++ []
theorem dksX0_ownVotes_0 : cX0_ownVotes.data.toList.drop 0 = dktX0_ownVotes_0 := by decide +kernel
theorem dX0_ownVotes_0 : decode cX0_ownVotes 0 = .ok (.aload_n 3, 1) := dk_45 (dk_at dksX0_ownVotes_0 0 rfl rfl)
theorem dX0_ownVotes_1 : decode cX0_ownVotes 1 = .ok (.iconst 0, 1) := dk_3 (dk_at dksX0_ownVotes_0 1 rfl rfl)
theorem dX0_ownVotes_2 : decode cX0_ownVotes 2 = .ok (.aload_n 0, 1) := dk_42 (dk_at dksX0_ownVotes_0 2 rfl rfl)
theorem dX0_ownVotes_3 : decode cX0_ownVotes 3 = .ok (.iload_n 1, 1) := dk_27 (dk_at dksX0_ownVotes_0 3 rfl rfl)
theorem dX0_ownVotes_4 : decode cX0_ownVotes 4 = .ok (.iload_n 2, 1) := dk_28 (dk_at dksX0_ownVotes_0 4 rfl rfl)
theorem dX0_ownVotes_5 : decode cX0_ownVotes 5 = .ok (.invokevirtual 130, 3) := dk_182 0 130 (dk_at dksX0_ownVotes_0 5 rfl rfl)
theorem dX0_ownVotes_8 : decode cX0_ownVotes 8 = .ok (.i2l, 1) := dk_133 (dk_at dksX0_ownVotes_0 8 rfl rfl)
theorem dX0_ownVotes_9 : decode cX0_ownVotes 9 = .ok (.lastore, 1) := dk_80 (dk_at dksX0_ownVotes_0 9 rfl rfl)
theorem dX0_ownVotes_10 : decode cX0_ownVotes 10 = .ok (.goto 11, 3) := dk_167 0 11 (dk_at dksX0_ownVotes_0 10 rfl rfl)
theorem dX0_ownVotes_13 : decode cX0_ownVotes 13 = .ok (.astore 4, 2) := dk_58 4 (dk_at dksX0_ownVotes_0 13 rfl rfl)
theorem dX0_ownVotes_15 : decode cX0_ownVotes 15 = .ok (.iconst 1, 1) := dk_4 (dk_at dksX0_ownVotes_0 15 rfl rfl)
theorem dX0_ownVotes_16 : decode cX0_ownVotes 16 = .ok (.ireturn, 1) := dk_172 (dk_at dksX0_ownVotes_0 16 rfl rfl)
theorem dX0_ownVotes_17 : decode cX0_ownVotes 17 = .ok (.astore 4, 2) := dk_58 4 (dk_at dksX0_ownVotes_0 17 rfl rfl)
theorem dX0_ownVotes_19 : decode cX0_ownVotes 19 = .ok (.iconst 2, 1) := dk_5 (dk_at dksX0_ownVotes_0 19 rfl rfl)
theorem dX0_ownVotes_20 : decode cX0_ownVotes 20 = .ok (.ireturn, 1) := dk_172 (dk_at dksX0_ownVotes_0 20 rfl rfl)
theorem dX0_ownVotes_21 : decode cX0_ownVotes 21 = .ok (.iconst 0, 1) := dk_3 (dk_at dksX0_ownVotes_0 21 rfl rfl)
theorem dX0_ownVotes_22 : decode cX0_ownVotes 22 = .ok (.ireturn, 1) := dk_172 (dk_at dksX0_ownVotes_0 22 rfl rfl)
theorem q1591 : (Jvm.Cond.methodLink "PlugboardLaw" (130 : Nat) ({ cls := "Plugboard", name := "ownVotes", desc := "(II)I" } : Jvm.MethodName)) ∈ lw_all := lw_g (lw_at lw_m7 81 rfl) rfl
theorem q1592 : (Jvm.Cond.instanceMethod ({ cls := "Plugboard", name := "ownVotes", desc := "(II)I" } : Jvm.MethodName)) ∈ lw_all := lw_g (lw_at lw_m7 82 rfl) rfl
theorem q1593 : (Jvm.Cond.selects "Plugboard" ({ cls := "Plugboard", name := "ownVotes", desc := "(II)I" } : Jvm.MethodName) ({ cls := "Plugboard", name := "ownVotes", desc := "(II)I" } : Jvm.MethodName)) ∈ lw_all := lw_g (lw_at lw_m7 83 rfl) rfl
theorem q1594 : (Jvm.Cond.code ({ cls := "Plugboard", name := "ownVotes", desc := "(II)I" } : Jvm.MethodName) prog_1_method_74_code (4 : Nat) (Option.some Jvm.ClassFile.FieldType.int)) ∈ lw_all := lw_g (lw_at lw_m7 84 rfl) rfl
abbrev rm_X0_ownVotes : Room := { frames := 10, cells := 3, slots := 13, locals := 169 }
def w_X0_ownVotes (a0 : Option Nat) (a1 : Int32) (a2 : Int32) (a3 : Option Nat) (h : AH) (P : Int32 → AH → Prop) : Prop :=
  is_c h a0 [0] (
  w_X1_ownVotes a0 a1 a2 h (fun y5 h5 =>
  s_L h5 a3 0 (Int32.toInt64 y5) fun h9 =>
  P 0 h9)
    (fun E9 h9 => (E9 = "java/lang/IllegalArgumentException" ∧ ∀ q9 : Nat,
    P 1 h9) ∨
    (E9 = "java/util/NoSuchElementException" ∧ ∀ q9 : Nat,
    P 2 h9)))
theorem met_X0_ownVotes (l : Launch) (hlt : l.stackTraces = false) (G : GG) (h : AH) (a0 : Option Nat) (a1 : Int32) (a2 : Int32) (a3 : Option Nat) (P : Int32 → AH → Prop) (hw : w_X0_ownVotes a0 a1 a2 a3 h P) : ct_i l yX0_ownVotes (wsW_ yX0_ownVotes cX0_ownVotes 5 (Option.some Jvm.ClassFile.FieldType.int) [((0 : Nat), (10 : Nat), (13 : Nat), (13 : Nat)), ((0 : Nat), (10 : Nat), (17 : Nat), (21 : Nat))]) rm_X0_ownVotes G h [vR a0, vI a1, vI a2, vR a3] P := by
  refine j_startWi hlt [(0, vR a0), (1, vI a1), (2, vI a2), (3, vR a3)] (by decide) rfl rfl (fun x X eG er en hQ hex => ?_)
  subst eG
  refine j_aload_n X (pc := 0) 3 dX0_ownVotes_0 rfl rfl ?_
  refine j_iconst X (pc := 1) 0 dX0_ownVotes_1 (by decide) ?_
  refine j_aload_n X (pc := 2) 0 dX0_ownVotes_2 rfl rfl ?_
  refine j_iload_n X (pc := 3) 1 dX0_ownVotes_3 rfl rfl ?_
  refine j_iload_n X (pc := 4) 2 dX0_ownVotes_4 rfl rfl ?_
  obtain ⟨b9, c9, f9, hr9, ho9, hc9, hw⟩ := hw
  obtain rfl := List.mem_singleton.mp hc9
  refine j_callXi (j_runVX (n8 := 2) (As := [vI a1, vI a2]) (rest := [vI 0, vR a3]) X (pc := 5) hr9 (met_X1_ownVotes (xl x) X.hl (xG x) h a0 a1 a2 _ _ hw) ho9 (by decide) rfl q1591 q1592 q1593 q71 q1594 (by decide +kernel) dX0_ownVotes_5 rfl ⟨Nat.le_of_ble_eq_true rfl, Nat.le_of_ble_eq_true rfl⟩ (Nat.le_of_ble_eq_true rfl) ⟨Nat.le_of_ble_eq_true rfl, Nat.le_of_ble_eq_true rfl⟩) ?_ (fun y5 h5 hw => ?_)
  · intro E9 h9 hx
    rcases hx with ⟨rfl, hw⟩ | ⟨rfl, hw⟩
    · refine j_catch X (pc := 5) "java/lang/IllegalArgumentException" hex [] [⟨0, 10, 17, 21⟩] ⟨0, 10, 13, 13⟩ rfl (by intro y hy; cases hy) (by decide) (by decide) q291 q312 (fun q9 => ?_)
      have hw := hw q9
      refine j_astore X (pc := 13) [(4, vR (some q9)), (0, vR a0), (1, vI a1), (2, vI a2), (3, vR a3)] dX0_ownVotes_13 (Nat.le_of_ble_eq_true rfl) rfl ?_
      refine j_iconst X (pc := 15) 1 dX0_ownVotes_15 (by decide) ?_
      exact j_iret X (pc := 16) hQ er (Nat.le_of_ble_eq_true rfl) (Nat.le_of_ble_eq_true rfl) dX0_ownVotes_16 hw
    · refine j_catch X (pc := 5) "java/util/NoSuchElementException" hex [⟨0, 10, 13, 13⟩] [] ⟨0, 10, 17, 21⟩ rfl (by intro y hy; simp only [List.mem_cons, List.not_mem_nil, or_false] at hy; subst hy; exact Or.inr ⟨by decide, "java/lang/IllegalArgumentException", q291, by decide +kernel⟩) (by decide) (by decide) q1068 q537 (fun q9 => ?_)
      have hw := hw q9
      refine j_astore X (pc := 17) [(4, vR (some q9)), (0, vR a0), (1, vI a1), (2, vI a2), (3, vR a3)] dX0_ownVotes_17 (Nat.le_of_ble_eq_true rfl) rfl ?_
      refine j_iconst X (pc := 19) 2 dX0_ownVotes_19 (by decide) ?_
      exact j_iret X (pc := 20) hQ er (Nat.le_of_ble_eq_true rfl) (Nat.le_of_ble_eq_true rfl) dX0_ownVotes_20 hw
  refine j_i2l X (pc := 8) dX0_ownVotes_8 ?_
  refine j_last X (pc := 9) dX0_ownVotes_9 hw (fun h9 hw => ?_)
  refine j_goto X (pc := 10) 21 dX0_ownVotes_10 (by decide) ?_
  refine j_iconst X (pc := 21) 0 dX0_ownVotes_21 (by decide) ?_
  exact j_iret X (pc := 22) hQ er (Nat.le_of_ble_eq_true rfl) (Nat.le_of_ble_eq_true rfl) dX0_ownVotes_22 hw
abbrev cX5_ownVotes : ByteArray := prog_19_method_78_code
def yX5_ownVotes : MethodName := ⟨RX5, "ownVotes", "(II)I"⟩
def dkwX5_ownVotes_1 : List UInt8 := [28, 96, 46, 172]
abbrev dktX5_ownVotes_1 : List UInt8 := dkwX5_ownVotes_1 ++ []
def dkwX5_ownVotes_0 : List UInt8 := [42, 27, 28, 182, 0, 231, 153, 0, 7, 3, 167, 0, 17, 42, 180, 0, 67, 16, 56, 16, 12, 27, 104, 96]
abbrev dktX5_ownVotes_0 : List UInt8 := dkwX5_ownVotes_0 ++ dktX5_ownVotes_1
theorem dksX5_ownVotes_0 : cX5_ownVotes.data.toList.drop 0 = dktX5_ownVotes_0 := by decide +kernel
theorem dksX5_ownVotes_1 : cX5_ownVotes.data.toList.drop 24 = dktX5_ownVotes_1 := dk_seg dksX5_ownVotes_0 24 rfl rfl
theorem dX5_ownVotes_0 : decode cX5_ownVotes 0 = .ok (.aload_n 0, 1) := dk_42 (dk_at dksX5_ownVotes_0 0 rfl rfl)
theorem dX5_ownVotes_1 : decode cX5_ownVotes 1 = .ok (.iload_n 1, 1) := dk_27 (dk_at dksX5_ownVotes_0 1 rfl rfl)
theorem dX5_ownVotes_2 : decode cX5_ownVotes 2 = .ok (.iload_n 2, 1) := dk_28 (dk_at dksX5_ownVotes_0 2 rfl rfl)
theorem dX5_ownVotes_3 : decode cX5_ownVotes 3 = .ok (.invokevirtual 231, 3) := dk_182 0 231 (dk_at dksX5_ownVotes_0 3 rfl rfl)
theorem dX5_ownVotes_6 : decode cX5_ownVotes 6 = .ok (.ifCond .eq 7, 3) := dk_153 0 7 (dk_at dksX5_ownVotes_0 6 rfl rfl)
theorem dX5_ownVotes_9 : decode cX5_ownVotes 9 = .ok (.iconst 0, 1) := dk_3 (dk_at dksX5_ownVotes_0 9 rfl rfl)
theorem dX5_ownVotes_10 : decode cX5_ownVotes 10 = .ok (.goto 17, 3) := dk_167 0 17 (dk_at dksX5_ownVotes_0 10 rfl rfl)
theorem dX5_ownVotes_13 : decode cX5_ownVotes 13 = .ok (.aload_n 0, 1) := dk_42 (dk_at dksX5_ownVotes_0 13 rfl rfl)
theorem dX5_ownVotes_14 : decode cX5_ownVotes 14 = .ok (.getfield 67, 3) := dk_180 0 67 (dk_at dksX5_ownVotes_0 14 rfl rfl)
theorem dX5_ownVotes_17 : decode cX5_ownVotes 17 = .ok (.bipush 56, 2) := dk_16 56 (dk_at dksX5_ownVotes_0 17 rfl rfl)
theorem dX5_ownVotes_19 : decode cX5_ownVotes 19 = .ok (.bipush 12, 2) := dk_16 12 (dk_at dksX5_ownVotes_0 19 rfl rfl)
theorem dX5_ownVotes_21 : decode cX5_ownVotes 21 = .ok (.iload_n 1, 1) := dk_27 (dk_at dksX5_ownVotes_0 21 rfl rfl)
theorem dX5_ownVotes_22 : decode cX5_ownVotes 22 = .ok (.imul, 1) := dk_104 (dk_at dksX5_ownVotes_0 22 rfl rfl)
theorem dX5_ownVotes_23 : decode cX5_ownVotes 23 = .ok (.iadd, 1) := dk_96 (dk_at dksX5_ownVotes_0 23 rfl rfl)
theorem dX5_ownVotes_24 : decode cX5_ownVotes 24 = .ok (.iload_n 2, 1) := dk_28 (dk_at dksX5_ownVotes_1 0 rfl rfl)
theorem dX5_ownVotes_25 : decode cX5_ownVotes 25 = .ok (.iadd, 1) := dk_96 (dk_at dksX5_ownVotes_1 1 rfl rfl)
theorem dX5_ownVotes_26 : decode cX5_ownVotes 26 = .ok (.iaload, 1) := dk_46 (dk_at dksX5_ownVotes_1 2 rfl rfl)
theorem dX5_ownVotes_27 : decode cX5_ownVotes 27 = .ok (.ireturn, 1) := dk_172 (dk_at dksX5_ownVotes_1 3 rfl rfl)
abbrev rm_X5_ownVotes : Room := { frames := 5, cells := 0, slots := 0, locals := 109 }
def w_X5_ownVotes (a0 : Option Nat) (a1 : Int32) (a2 : Int32) (h : AH) (P : Int32 → AH → Prop) : Prop :=
  is_c h a0 [4] (
  w_X5_isUnseen a0 a1 a2 h (fun y3 h3 =>
  ((y3 = 0 →
    g_q h3 a0 4 21 fun y14 =>
    l_i h3 y14 0 ((56 + (12 * a1)) + a2) fun y26 =>
    P y26 h3) ∧
   (¬ y3 = 0 →
    P 0 h3))))
theorem met_X5_ownVotes (l : Launch) (hlt : l.stackTraces = false) (G : GG) (h : AH) (a0 : Option Nat) (a1 : Int32) (a2 : Int32) (P : Int32 → AH → Prop) (hw : w_X5_ownVotes a0 a1 a2 h P) : ct_i l yX5_ownVotes (ws_ yX5_ownVotes cX5_ownVotes 3 (Option.some Jvm.ClassFile.FieldType.int)) rm_X5_ownVotes G h [vR a0, vI a1, vI a2] P := by
  refine j_starti hlt [(0, vR a0), (1, vI a1), (2, vI a2)] (plainFor_of_name (by decide)) rfl rfl (fun x X eG er en hQ => ?_)
  subst eG
  refine j_aload_n X (pc := 0) 0 dX5_ownVotes_0 rfl rfl ?_
  refine j_iload_n X (pc := 1) 1 dX5_ownVotes_1 rfl rfl ?_
  refine j_iload_n X (pc := 2) 2 dX5_ownVotes_2 rfl rfl ?_
  obtain ⟨b9, c9, f9, hr9, ho9, hc9, hw⟩ := hw
  obtain rfl := List.mem_singleton.mp hc9
  refine j_calli (j_runV (n8 := 2) (As := [vI a1, vI a2]) (rest := []) X (pc := 3) hr9 (met_X5_isUnseen (xl x) X.hl (xG x) h a0 a1 a2 _ hw) ho9 (by decide) rfl q2182 q2184 qs59 q78 q2185 (by decide +kernel) dX5_ownVotes_3 rfl ⟨Nat.le_of_ble_eq_true rfl, Nat.le_of_ble_eq_true rfl⟩ (Nat.le_of_ble_eq_true rfl) ⟨Nat.le_of_ble_eq_true rfl, Nat.le_of_ble_eq_true rfl⟩) (fun y3 h3 hw => ?_)
  refine j_if_eq X (pc := 6) 13 dX5_ownVotes_6 (by decide) hw (fun hw => ?_) (fun hw => ?_)
  · refine j_aload_n X (pc := 13) 0 dX5_ownVotes_13 rfl rfl ?_
    refine j_getq (ci := 4) X (pc := 14) in_X5 rfl (by decide) 21 (by decide) q1893 (Or.inl rfl) dX5_ownVotes_14 hw (fun y14 hw => ?_)
    refine j_bipush X (pc := 17) 56 dX5_ownVotes_17 (by decide) ?_
    refine j_bipush X (pc := 19) 12 dX5_ownVotes_19 (by decide) ?_
    refine j_iload_n X (pc := 21) 1 dX5_ownVotes_21 rfl rfl ?_
    refine j_imul X (pc := 22) dX5_ownVotes_22 ?_
    refine j_iadd X (pc := 23) dX5_ownVotes_23 ?_
    refine j_iload_n X (pc := 24) 2 dX5_ownVotes_24 rfl rfl ?_
    refine j_iadd X (pc := 25) dX5_ownVotes_25 ?_
    refine j_iald X (pc := 26) 0 rfl dX5_ownVotes_26 hw (fun y26 hw => ?_)
    exact j_iret X (pc := 27) hQ er (Nat.le_of_ble_eq_true rfl) (Nat.le_of_ble_eq_true rfl) dX5_ownVotes_27 hw
  · refine j_iconst X (pc := 9) 0 dX5_ownVotes_9 (by decide) ?_
    refine j_goto X (pc := 10) 27 dX5_ownVotes_10 (by decide) ?_
    exact j_iret X (pc := 27) hQ er (Nat.le_of_ble_eq_true rfl) (Nat.le_of_ble_eq_true rfl) dX5_ownVotes_27 hw
abbrev cX1_votesFor_2 : ByteArray := prog_1_method_75_code
def yX1_votesFor_2 : MethodName := ⟨RX1, "votesFor", "(LPlugboard$Board;LPlugboard$Shape;)I"⟩
def dkwX1_votesFor_2_1 : List UInt8 := [184, 1, 56, 46, 96, 61, 132, 3, 1, 167, 255, 229, 28, 172]
abbrev dktX1_votesFor_2_1 : List UInt8 := dkwX1_votesFor_2_1 ++ []
def dkwX1_votesFor_2_0 : List UInt8 := [3, 61, 3, 62, 29, 6, 162, 0, 28, 28, 42, 180, 0, 136, 180, 0, 139, 29, 43, 180, 1, 8]
abbrev dktX1_votesFor_2_0 : List UInt8 := dkwX1_votesFor_2_0 ++ dktX1_votesFor_2_1
theorem dksX1_votesFor_2_0 : cX1_votesFor_2.data.toList.drop 0 = dktX1_votesFor_2_0 := by decide +kernel
theorem dksX1_votesFor_2_1 : cX1_votesFor_2.data.toList.drop 22 = dktX1_votesFor_2_1 := dk_seg dksX1_votesFor_2_0 22 rfl rfl
theorem dX1_votesFor_2_0 : decode cX1_votesFor_2 0 = .ok (.iconst 0, 1) := dk_3 (dk_at dksX1_votesFor_2_0 0 rfl rfl)
theorem dX1_votesFor_2_1 : decode cX1_votesFor_2 1 = .ok (.istore_n 2, 1) := dk_61 (dk_at dksX1_votesFor_2_0 1 rfl rfl)
theorem dX1_votesFor_2_2 : decode cX1_votesFor_2 2 = .ok (.iconst 0, 1) := dk_3 (dk_at dksX1_votesFor_2_0 2 rfl rfl)
theorem dX1_votesFor_2_3 : decode cX1_votesFor_2 3 = .ok (.istore_n 3, 1) := dk_62 (dk_at dksX1_votesFor_2_0 3 rfl rfl)
theorem dX1_votesFor_2_4 : decode cX1_votesFor_2 4 = .ok (.iload_n 3, 1) := dk_29 (dk_at dksX1_votesFor_2_0 4 rfl rfl)
theorem dX1_votesFor_2_5 : decode cX1_votesFor_2 5 = .ok (.iconst 3, 1) := dk_6 (dk_at dksX1_votesFor_2_0 5 rfl rfl)
theorem dX1_votesFor_2_6 : decode cX1_votesFor_2 6 = .ok (.if_icmp .ge 28, 3) := dk_162 0 28 (dk_at dksX1_votesFor_2_0 6 rfl rfl)
theorem dX1_votesFor_2_9 : decode cX1_votesFor_2 9 = .ok (.iload_n 2, 1) := dk_28 (dk_at dksX1_votesFor_2_0 9 rfl rfl)
theorem dX1_votesFor_2_10 : decode cX1_votesFor_2 10 = .ok (.aload_n 0, 1) := dk_42 (dk_at dksX1_votesFor_2_0 10 rfl rfl)
theorem dX1_votesFor_2_11 : decode cX1_votesFor_2 11 = .ok (.getfield 136, 3) := dk_180 0 136 (dk_at dksX1_votesFor_2_0 11 rfl rfl)
theorem dX1_votesFor_2_14 : decode cX1_votesFor_2 14 = .ok (.getfield 139, 3) := dk_180 0 139 (dk_at dksX1_votesFor_2_0 14 rfl rfl)
theorem dX1_votesFor_2_17 : decode cX1_votesFor_2 17 = .ok (.iload_n 3, 1) := dk_29 (dk_at dksX1_votesFor_2_0 17 rfl rfl)
theorem dX1_votesFor_2_18 : decode cX1_votesFor_2 18 = .ok (.aload_n 1, 1) := dk_43 (dk_at dksX1_votesFor_2_0 18 rfl rfl)
theorem dX1_votesFor_2_19 : decode cX1_votesFor_2 19 = .ok (.getfield 264, 3) := dk_180 1 8 (dk_at dksX1_votesFor_2_0 19 rfl rfl)
theorem dX1_votesFor_2_22 : decode cX1_votesFor_2 22 = .ok (.invokestatic 312, 3) := dk_184 1 56 (dk_at dksX1_votesFor_2_1 0 rfl rfl)
theorem dX1_votesFor_2_25 : decode cX1_votesFor_2 25 = .ok (.iaload, 1) := dk_46 (dk_at dksX1_votesFor_2_1 3 rfl rfl)
theorem dX1_votesFor_2_26 : decode cX1_votesFor_2 26 = .ok (.iadd, 1) := dk_96 (dk_at dksX1_votesFor_2_1 4 rfl rfl)
theorem dX1_votesFor_2_27 : decode cX1_votesFor_2 27 = .ok (.istore_n 2, 1) := dk_61 (dk_at dksX1_votesFor_2_1 5 rfl rfl)
theorem dX1_votesFor_2_28 : decode cX1_votesFor_2 28 = .ok (.iinc 3 1, 3) := dk_132 3 1 (dk_at dksX1_votesFor_2_1 6 rfl rfl)
theorem dX1_votesFor_2_31 : decode cX1_votesFor_2 31 = .ok (.goto (-27), 3) := dk_167 255 229 (dk_at dksX1_votesFor_2_1 9 rfl rfl)
theorem dX1_votesFor_2_34 : decode cX1_votesFor_2 34 = .ok (.iload_n 2, 1) := dk_28 (dk_at dksX1_votesFor_2_1 12 rfl rfl)
theorem dX1_votesFor_2_35 : decode cX1_votesFor_2 35 = .ok (.ireturn, 1) := dk_172 (dk_at dksX1_votesFor_2_1 13 rfl rfl)
abbrev rm_X1_votesFor_2 : Room := { frames := 1, cells := 0, slots := 0, locals := 21 }
def w_X1_votesFor_2_4 (P : Int32 → AH → Prop) (x0 : Option Nat) (x1 : Option Nat) (x2 : Int32) (x3 : Int32) (h : AH) : Prop :=
  ∀ Z4 : Int32 → Int32 → AH → Prop, (∀ x2 x3 h, (
      ((3 ≤ x3 →
        P x2 h) ∧
       (¬ 3 ≤ x3 →
        g_q h x0 2 1 fun y11 =>
        g_q h y11 1 0 fun y14 =>
        g_iS h x1 0 fun y19 =>
        w_X1_votesField x3 y19 h (fun y22 h22 =>
        l_i h22 y14 0 y22 fun y25 =>
        Z4 (x2 + y25) (x3 + 1) h22))))
      → Z4 x2 x3 h) → Z4 x2 x3 h
def w_X1_votesFor_2 (a0 : Option Nat) (a1 : Option Nat) (h : AH) (P : Int32 → AH → Prop) : Prop :=
  w_X1_votesFor_2_4 P a0 a1 0 0 h
theorem wk_X1_votesFor_2_4 {x : CX} (X : Ok x cX1_votesFor_2 RX1 rm_X1_votesFor_2 4) (er : xrt x = (Option.some Jvm.ClassFile.FieldType.int)) (en : xnm x = yX1_votesFor_2.name) {P : Int32 → AH → Prop} (hQ : xr_i x P) (x0 : Option Nat) (x1 : Option Nat) (x2 : Int32) (x3 : Int32) (h : AH) (hw : w_X1_votesFor_2_4 P x0 x1 x2 x3 h) : J x h 0 0 4 [(0, vR x0), (1, vR x1), (2, vI x2), (3, vI x3)] [] := by
  refine hw (fun x2 x3 h => J x h 0 0 4 [(0, vR x0), (1, vR x1), (2, vI x2), (3, vI x3)] []) (fun x2 x3 h hw => ?_)
  refine j_iload_n X (pc := 4) 3 dX1_votesFor_2_4 rfl rfl ?_
  refine j_iconst X (pc := 5) 3 dX1_votesFor_2_5 (by decide) ?_
  refine j_icmp_ge X (pc := 6) 34 dX1_votesFor_2_6 (by decide) hw (fun hw => ?_) (fun hw => ?_)
  · refine j_iload_n X (pc := 34) 2 dX1_votesFor_2_34 rfl rfl ?_
    exact j_iret X (pc := 35) hQ er (Nat.le_of_ble_eq_true rfl) (Nat.le_of_ble_eq_true rfl) dX1_votesFor_2_35 hw
  · refine j_iload_n X (pc := 9) 2 dX1_votesFor_2_9 rfl rfl ?_
    refine j_aload_n X (pc := 10) 0 dX1_votesFor_2_10 rfl rfl ?_
    refine j_getqN (ci := 2) X (pc := 11) in_X3 rfl (by decide) 1 (by decide) q210 (Or.inl rfl) dX1_votesFor_2_11 hw (fun y11 hw => ?_)
    refine j_getqN (ci := 1) X (pc := 14) in_X2 rfl (by decide) 0 (by decide) q168 (Or.inl rfl) dX1_votesFor_2_14 hw (fun y14 hw => ?_)
    refine j_iload_n X (pc := 17) 3 dX1_votesFor_2_17 rfl rfl ?_
    refine j_aload_n X (pc := 18) 1 dX1_votesFor_2_18 rfl rfl ?_
    refine j_getiSN X (pc := 19) 0 (by decide) q578 dX1_votesFor_2_19 hw (fun y19 hw => ?_)
    refine j_calli (j_runS (n8 := 2) (As := [vI x3, vI y19]) (rest := [vR y14, vI x2]) X (pc := 22) (met_X1_votesField (xl x) X.hl (xG x) h x3 y19 _ hw) q1329 q1330 q71 q1331 (by decide +kernel) dX1_votesFor_2_22 rfl ⟨Nat.le_of_ble_eq_true rfl, Nat.le_of_ble_eq_true rfl⟩ (Nat.le_of_ble_eq_true rfl) ⟨Nat.le_of_ble_eq_true rfl, Nat.le_of_ble_eq_true rfl⟩) (fun y22 h22 hw => ?_)
    refine j_iald X (pc := 25) 0 rfl dX1_votesFor_2_25 hw (fun y25 hw => ?_)
    refine j_iadd X (pc := 26) dX1_votesFor_2_26 ?_
    refine j_istore_n X (pc := 27) [(2, vI (x2 + y25)), (0, vR x0), (1, vR x1), (3, vI x3)] dX1_votesFor_2_27 rfl (Nat.le_of_ble_eq_true rfl) rfl ?_
    refine j_iinc X (pc := 28) 3 (x3 + 1) [(3, vI (x3 + 1)), (2, vI (x2 + y25)), (0, vR x0), (1, vR x1)] dX1_votesFor_2_28 rfl rfl (Nat.le_of_ble_eq_true rfl) rfl ?_
    refine j_goto X (pc := 31) 4 dX1_votesFor_2_31 (by decide) ?_
    refine j_lv [(0, vR x0), (1, vR x1), (2, vI (x2 + y25)), (3, vI (x3 + 1))] [2, 3, 1, 0] rfl ?_
    refine j_cs (u' := 0) (v' := 0) (Nat.le_of_ble_eq_true rfl) (Nat.le_of_ble_eq_true rfl) ?_
    exact hw
theorem met_X1_votesFor_2 (l : Launch) (hlt : l.stackTraces = false) (G : GG) (h : AH) (a0 : Option Nat) (a1 : Option Nat) (P : Int32 → AH → Prop) (hw : w_X1_votesFor_2 a0 a1 h P) : ct_i l yX1_votesFor_2 (ws_ yX1_votesFor_2 cX1_votesFor_2 4 (Option.some Jvm.ClassFile.FieldType.int)) rm_X1_votesFor_2 G h [vR a0, vR a1] P := by
  refine j_starti hlt [(0, vR a0), (1, vR a1)] (plainFor_of_name (by decide)) rfl rfl (fun x X eG er en hQ => ?_)
  subst eG
  refine j_iconst X (pc := 0) 0 dX1_votesFor_2_0 (by decide) ?_
  refine j_istore_n X (pc := 1) [(2, vI 0), (0, vR a0), (1, vR a1)] dX1_votesFor_2_1 rfl (Nat.le_of_ble_eq_true rfl) rfl ?_
  refine j_iconst X (pc := 2) 0 dX1_votesFor_2_2 (by decide) ?_
  refine j_istore_n X (pc := 3) [(3, vI 0), (2, vI 0), (0, vR a0), (1, vR a1)] dX1_votesFor_2_3 rfl (Nat.le_of_ble_eq_true rfl) rfl ?_
  refine j_lv [(0, vR a0), (1, vR a1), (2, vI 0), (3, vI 0)] [2, 3, 1, 0] rfl ?_
  refine j_cs (u' := 0) (v' := 0) (Nat.le_of_ble_eq_true rfl) (Nat.le_of_ble_eq_true rfl) ?_
  exact wk_X1_votesFor_2_4 X er en hQ a0 a1 0 0 h hw
abbrev cX1_votesFor : ByteArray := prog_1_method_76_code
def yX1_votesFor : MethodName := ⟨RX1, "votesFor", "(II)I"⟩
def dkwX1_votesFor_1 : List UInt8 := [184, 1, 175, 172]
abbrev dktX1_votesFor_1 : List UInt8 := dkwX1_votesFor_1 ++ []
def dkwX1_votesFor_0 : List UInt8 := [42, 27, 182, 0, 199, 78, 42, 45, 28, 182, 0, 241, 58, 4, 45, 184, 1, 60, 184, 0, 232, 45, 25, 4]
abbrev dktX1_votesFor_0 : List UInt8 := dkwX1_votesFor_0 ++ dktX1_votesFor_1
theorem dksX1_votesFor_0 : cX1_votesFor.data.toList.drop 0 = dktX1_votesFor_0 := by decide +kernel
theorem dksX1_votesFor_1 : cX1_votesFor.data.toList.drop 24 = dktX1_votesFor_1 := dk_seg dksX1_votesFor_0 24 rfl rfl
theorem dX1_votesFor_0 : decode cX1_votesFor 0 = .ok (.aload_n 0, 1) := dk_42 (dk_at dksX1_votesFor_0 0 rfl rfl)
theorem dX1_votesFor_1 : decode cX1_votesFor 1 = .ok (.iload_n 1, 1) := dk_27 (dk_at dksX1_votesFor_0 1 rfl rfl)
theorem dX1_votesFor_2 : decode cX1_votesFor 2 = .ok (.invokevirtual 199, 3) := dk_182 0 199 (dk_at dksX1_votesFor_0 2 rfl rfl)
theorem dX1_votesFor_5 : decode cX1_votesFor 5 = .ok (.astore_n 3, 1) := dk_78 (dk_at dksX1_votesFor_0 5 rfl rfl)
theorem dX1_votesFor_6 : decode cX1_votesFor 6 = .ok (.aload_n 0, 1) := dk_42 (dk_at dksX1_votesFor_0 6 rfl rfl)
theorem dX1_votesFor_7 : decode cX1_votesFor 7 = .ok (.aload_n 3, 1) := dk_45 (dk_at dksX1_votesFor_0 7 rfl rfl)
theorem dX1_votesFor_8 : decode cX1_votesFor 8 = .ok (.iload_n 2, 1) := dk_28 (dk_at dksX1_votesFor_0 8 rfl rfl)
theorem dX1_votesFor_9 : decode cX1_votesFor 9 = .ok (.invokevirtual 241, 3) := dk_182 0 241 (dk_at dksX1_votesFor_0 9 rfl rfl)
theorem dX1_votesFor_12 : decode cX1_votesFor 12 = .ok (.astore 4, 2) := dk_58 4 (dk_at dksX1_votesFor_0 12 rfl rfl)
theorem dX1_votesFor_14 : decode cX1_votesFor 14 = .ok (.aload_n 3, 1) := dk_45 (dk_at dksX1_votesFor_0 14 rfl rfl)
theorem dX1_votesFor_15 : decode cX1_votesFor 15 = .ok (.invokestatic 316, 3) := dk_184 1 60 (dk_at dksX1_votesFor_0 15 rfl rfl)
theorem dX1_votesFor_18 : decode cX1_votesFor 18 = .ok (.invokestatic 232, 3) := dk_184 0 232 (dk_at dksX1_votesFor_0 18 rfl rfl)
theorem dX1_votesFor_21 : decode cX1_votesFor 21 = .ok (.aload_n 3, 1) := dk_45 (dk_at dksX1_votesFor_0 21 rfl rfl)
theorem dX1_votesFor_22 : decode cX1_votesFor 22 = .ok (.aload 4, 2) := dk_25 4 (dk_at dksX1_votesFor_0 22 rfl rfl)
theorem dX1_votesFor_24 : decode cX1_votesFor 24 = .ok (.invokestatic 431, 3) := dk_184 1 175 (dk_at dksX1_votesFor_1 0 rfl rfl)
theorem dX1_votesFor_27 : decode cX1_votesFor 27 = .ok (.ireturn, 1) := dk_172 (dk_at dksX1_votesFor_1 3 rfl rfl)
theorem q1602 : (Jvm.Cond.methodLink "Plugboard" (431 : Nat) ({ cls := "Plugboard", name := "votesFor", desc := "(LPlugboard$Board;LPlugboard$Shape;)I" } : Jvm.MethodName)) ∈ lw_all := lw_g (lw_at lw_m7 92 rfl) rfl
theorem q1603 : (Jvm.Cond.static ({ cls := "Plugboard", name := "votesFor", desc := "(LPlugboard$Board;LPlugboard$Shape;)I" } : Jvm.MethodName)) ∈ lw_all := lw_g (lw_at lw_m7 93 rfl) rfl
theorem q1604 : (Jvm.Cond.code ({ cls := "Plugboard", name := "votesFor", desc := "(LPlugboard$Board;LPlugboard$Shape;)I" } : Jvm.MethodName) prog_1_method_75_code (4 : Nat) (Option.some Jvm.ClassFile.FieldType.int)) ∈ lw_all := lw_g (lw_at lw_m7 94 rfl) rfl
abbrev rm_X1_votesFor : Room := { frames := 9, cells := 4, slots := 19, locals := 146 }
def w_X1_votesFor (a0 : Option Nat) (a1 : Int32) (a2 : Int32) (h : AH) (P : Int32 → AH → Prop) (PX : String → AH → Prop) : Prop :=
  is_c h a0 [0] (
  w_X1_board a0 a1 h (fun y2 h2 =>
  is_c h2 a0 [0] (
  w_X1_shape a0 y2 a2 h2 (fun y9 h9 =>
  w_X1_areShown y2 h9 (fun y15 h15 =>
  w_X1_requireSupported y15 h15 (fun h18 =>
  w_X1_votesFor_2 y2 y9 h18 (fun y24 h24 =>
  P y24 h24)) PX)) PX)) PX)
theorem met_X1_votesFor (l : Launch) (hlt : l.stackTraces = false) (G : GG) (h : AH) (a0 : Option Nat) (a1 : Int32) (a2 : Int32) (P : Int32 → AH → Prop) (PX : String → AH → Prop) (hw : w_X1_votesFor a0 a1 a2 h P PX) : cx_i l yX1_votesFor (ws_ yX1_votesFor cX1_votesFor 5 (Option.some Jvm.ClassFile.FieldType.int)) rm_X1_votesFor G h [vR a0, vI a1, vI a2] P PX := by
  refine j_startXi hlt [(0, vR a0), (1, vI a1), (2, vI a2)] (by decide) rfl rfl (fun x X eG er en hQ hT hex => ?_)
  subst eG
  refine j_aload_n X (pc := 0) 0 dX1_votesFor_0 rfl rfl ?_
  refine j_iload_n X (pc := 1) 1 dX1_votesFor_1 rfl rfl ?_
  obtain ⟨b9, c9, f9, hr9, ho9, hc9, hw⟩ := hw
  obtain rfl := List.mem_singleton.mp hc9
  refine j_callXq (j_runVX (n8 := 1) (As := [vI a1]) (rest := []) X (pc := 2) hr9 (met_X1_board (xl x) X.hl (xG x) h a0 a1 _ _ hw) ho9 (by decide) rfl q297 q299 qs0 q71 q300 (by decide +kernel) dX1_votesFor_2 rfl ⟨Nat.le_of_ble_eq_true rfl, Nat.le_of_ble_eq_true rfl⟩ (Nat.le_of_ble_eq_true rfl) ⟨Nat.le_of_ble_eq_true rfl, Nat.le_of_ble_eq_true rfl⟩) (fun E h9 hx => j_out X hT hex (Nat.le_of_ble_eq_true rfl) (Nat.le_of_ble_eq_true rfl) hx) (fun y2 h2 hw => ?_)
  refine j_astore_n X (pc := 5) [(3, vR y2), (0, vR a0), (1, vI a1), (2, vI a2)] dX1_votesFor_5 rfl (Nat.le_of_ble_eq_true rfl) rfl ?_
  refine j_aload_n X (pc := 6) 1 dX1_votesFor_6 rfl rfl ?_
  refine j_aload_n X (pc := 7) 0 dX1_votesFor_7 rfl rfl ?_
  refine j_iload_n X (pc := 8) 3 dX1_votesFor_8 rfl rfl ?_
  obtain ⟨b9, c9, f9, hr9, ho9, hc9, hw⟩ := hw
  obtain rfl := List.mem_singleton.mp hc9
  refine j_callXq (j_runVX (n8 := 2) (As := [vR y2, vI a2]) (rest := []) X (pc := 9) hr9 (met_X1_shape (xl x) X.hl (xG x) h2 a0 y2 a2 _ _ hw) ho9 (by decide) rfl q1075 q1077 qs9 q71 q1078 (by decide +kernel) dX1_votesFor_9 rfl ⟨Nat.le_of_ble_eq_true rfl, Nat.le_of_ble_eq_true rfl⟩ (Nat.le_of_ble_eq_true rfl) ⟨Nat.le_of_ble_eq_true rfl, Nat.le_of_ble_eq_true rfl⟩) (fun E h9 hx => j_out X hT hex (Nat.le_of_ble_eq_true rfl) (Nat.le_of_ble_eq_true rfl) hx) (fun y9 h9 hw => ?_)
  refine j_astore X (pc := 12) [(4, vR y9), (3, vR y2), (0, vR a0), (1, vI a1), (2, vI a2)] dX1_votesFor_12 (Nat.le_of_ble_eq_true rfl) rfl ?_
  refine j_aload_n X (pc := 14) 1 dX1_votesFor_14 rfl rfl ?_
  refine j_calli (j_runS (n8 := 1) (As := [vR y2]) (rest := []) X (pc := 15) (met_X1_areShown (xl x) X.hl (xG x) h9 y2 _ hw) q1332 q1333 q71 q1334 (by decide +kernel) dX1_votesFor_15 rfl ⟨Nat.le_of_ble_eq_true rfl, Nat.le_of_ble_eq_true rfl⟩ (Nat.le_of_ble_eq_true rfl) ⟨Nat.le_of_ble_eq_true rfl, Nat.le_of_ble_eq_true rfl⟩) (fun y15 h15 hw => ?_)
  refine j_callXv (j_runSX (n8 := 1) (As := [vI y15]) (rest := []) X (pc := 18) (met_X1_requireSupported (xl x) X.hl (xG x) h15 y15 _ _ hw) q1097 q1098 q71 q1099 (by decide +kernel) dX1_votesFor_18 rfl ⟨Nat.le_of_ble_eq_true rfl, Nat.le_of_ble_eq_true rfl⟩ (Nat.le_of_ble_eq_true rfl) ⟨Nat.le_of_ble_eq_true rfl, Nat.le_of_ble_eq_true rfl⟩) (fun E h9 hx => j_out X hT hex (Nat.le_of_ble_eq_true rfl) (Nat.le_of_ble_eq_true rfl) hx) (fun h18 hw => ?_)
  refine j_aload_n X (pc := 21) 1 dX1_votesFor_21 rfl rfl ?_
  refine j_aload X (pc := 22) 0 dX1_votesFor_22 rfl ?_
  refine j_calli (j_runS (n8 := 2) (As := [vR y2, vR y9]) (rest := []) X (pc := 24) (met_X1_votesFor_2 (xl x) X.hl (xG x) h18 y2 y9 _ hw) q1602 q1603 q71 q1604 (by decide +kernel) dX1_votesFor_24 rfl ⟨Nat.le_of_ble_eq_true rfl, Nat.le_of_ble_eq_true rfl⟩ (Nat.le_of_ble_eq_true rfl) ⟨Nat.le_of_ble_eq_true rfl, Nat.le_of_ble_eq_true rfl⟩) (fun y24 h24 hw => ?_)
  exact j_iret X (pc := 27) hQ er (Nat.le_of_ble_eq_true rfl) (Nat.le_of_ble_eq_true rfl) dX1_votesFor_27 hw
abbrev cX0_votesFor : ByteArray := method_38_code
def yX0_votesFor : MethodName := ⟨RX0, "votesFor", "(LPlugboard;II[J)I"⟩
def dkwX0_votesFor_1 : List UInt8 := [172, 3, 172]
abbrev dktX0_votesFor_1 : List UInt8 := dkwX0_votesFor_1 ++ []
def dkwX0_votesFor_0 : List UInt8 := [45, 3, 42, 27, 28, 182, 0, 133, 133, 80, 167, 0, 15, 58, 4, 4, 172, 58, 4, 5, 172, 58, 4, 6]
abbrev dktX0_votesFor_0 : List UInt8 := dkwX0_votesFor_0 ++ dktX0_votesFor_1
theorem dksX0_votesFor_0 : cX0_votesFor.data.toList.drop 0 = dktX0_votesFor_0 := by decide +kernel
theorem dksX0_votesFor_1 : cX0_votesFor.data.toList.drop 24 = dktX0_votesFor_1 := dk_seg dksX0_votesFor_0 24 rfl rfl
theorem dX0_votesFor_0 : decode cX0_votesFor 0 = .ok (.aload_n 3, 1) := dk_45 (dk_at dksX0_votesFor_0 0 rfl rfl)
theorem dX0_votesFor_1 : decode cX0_votesFor 1 = .ok (.iconst 0, 1) := dk_3 (dk_at dksX0_votesFor_0 1 rfl rfl)
theorem dX0_votesFor_2 : decode cX0_votesFor 2 = .ok (.aload_n 0, 1) := dk_42 (dk_at dksX0_votesFor_0 2 rfl rfl)
theorem dX0_votesFor_3 : decode cX0_votesFor 3 = .ok (.iload_n 1, 1) := dk_27 (dk_at dksX0_votesFor_0 3 rfl rfl)
theorem dX0_votesFor_4 : decode cX0_votesFor 4 = .ok (.iload_n 2, 1) := dk_28 (dk_at dksX0_votesFor_0 4 rfl rfl)
theorem dX0_votesFor_5 : decode cX0_votesFor 5 = .ok (.invokevirtual 133, 3) := dk_182 0 133 (dk_at dksX0_votesFor_0 5 rfl rfl)
theorem dX0_votesFor_8 : decode cX0_votesFor 8 = .ok (.i2l, 1) := dk_133 (dk_at dksX0_votesFor_0 8 rfl rfl)
theorem dX0_votesFor_9 : decode cX0_votesFor 9 = .ok (.lastore, 1) := dk_80 (dk_at dksX0_votesFor_0 9 rfl rfl)
theorem dX0_votesFor_10 : decode cX0_votesFor 10 = .ok (.goto 15, 3) := dk_167 0 15 (dk_at dksX0_votesFor_0 10 rfl rfl)
theorem dX0_votesFor_13 : decode cX0_votesFor 13 = .ok (.astore 4, 2) := dk_58 4 (dk_at dksX0_votesFor_0 13 rfl rfl)
theorem dX0_votesFor_15 : decode cX0_votesFor 15 = .ok (.iconst 1, 1) := dk_4 (dk_at dksX0_votesFor_0 15 rfl rfl)
theorem dX0_votesFor_16 : decode cX0_votesFor 16 = .ok (.ireturn, 1) := dk_172 (dk_at dksX0_votesFor_0 16 rfl rfl)
theorem dX0_votesFor_17 : decode cX0_votesFor 17 = .ok (.astore 4, 2) := dk_58 4 (dk_at dksX0_votesFor_0 17 rfl rfl)
theorem dX0_votesFor_19 : decode cX0_votesFor 19 = .ok (.iconst 2, 1) := dk_5 (dk_at dksX0_votesFor_0 19 rfl rfl)
theorem dX0_votesFor_20 : decode cX0_votesFor 20 = .ok (.ireturn, 1) := dk_172 (dk_at dksX0_votesFor_0 20 rfl rfl)
theorem dX0_votesFor_21 : decode cX0_votesFor 21 = .ok (.astore 4, 2) := dk_58 4 (dk_at dksX0_votesFor_0 21 rfl rfl)
theorem dX0_votesFor_23 : decode cX0_votesFor 23 = .ok (.iconst 3, 1) := dk_6 (dk_at dksX0_votesFor_0 23 rfl rfl)
theorem dX0_votesFor_24 : decode cX0_votesFor 24 = .ok (.ireturn, 1) := dk_172 (dk_at dksX0_votesFor_1 0 rfl rfl)
theorem dX0_votesFor_25 : decode cX0_votesFor 25 = .ok (.iconst 0, 1) := dk_3 (dk_at dksX0_votesFor_1 1 rfl rfl)
theorem dX0_votesFor_26 : decode cX0_votesFor 26 = .ok (.ireturn, 1) := dk_172 (dk_at dksX0_votesFor_1 2 rfl rfl)
theorem q1598 : (Jvm.Cond.methodLink "PlugboardLaw" (133 : Nat) ({ cls := "Plugboard", name := "votesFor", desc := "(II)I" } : Jvm.MethodName)) ∈ lw_all := lw_g (lw_at lw_m7 88 rfl) rfl
theorem q1599 : (Jvm.Cond.instanceMethod ({ cls := "Plugboard", name := "votesFor", desc := "(II)I" } : Jvm.MethodName)) ∈ lw_all := lw_g (lw_at lw_m7 89 rfl) rfl
theorem q1600 : (Jvm.Cond.selects "Plugboard" ({ cls := "Plugboard", name := "votesFor", desc := "(II)I" } : Jvm.MethodName) ({ cls := "Plugboard", name := "votesFor", desc := "(II)I" } : Jvm.MethodName)) ∈ lw_all := lw_g (lw_at lw_m7 90 rfl) rfl
theorem q1601 : (Jvm.Cond.code ({ cls := "Plugboard", name := "votesFor", desc := "(II)I" } : Jvm.MethodName) prog_1_method_76_code (5 : Nat) (Option.some Jvm.ClassFile.FieldType.int)) ∈ lw_all := lw_g (lw_at lw_m7 91 rfl) rfl
abbrev rm_X0_votesFor : Room := { frames := 10, cells := 4, slots := 19, locals := 170 }
def w_X0_votesFor (a0 : Option Nat) (a1 : Int32) (a2 : Int32) (a3 : Option Nat) (h : AH) (P : Int32 → AH → Prop) : Prop :=
  is_c h a0 [0] (
  w_X1_votesFor a0 a1 a2 h (fun y5 h5 =>
  s_L h5 a3 0 (Int32.toInt64 y5) fun h9 =>
  P 0 h9)
    (fun E9 h9 => (E9 = "java/lang/IllegalArgumentException" ∧ ∀ q9 : Nat,
    P 1 h9) ∨
    (E9 = "java/util/NoSuchElementException" ∧ ∀ q9 : Nat,
    P 2 h9) ∨
    (E9 = "java/lang/UnsupportedOperationException" ∧ ∀ q9 : Nat,
    P 3 h9)))
theorem met_X0_votesFor (l : Launch) (hlt : l.stackTraces = false) (G : GG) (h : AH) (a0 : Option Nat) (a1 : Int32) (a2 : Int32) (a3 : Option Nat) (P : Int32 → AH → Prop) (hw : w_X0_votesFor a0 a1 a2 a3 h P) : ct_i l yX0_votesFor (wsW_ yX0_votesFor cX0_votesFor 5 (Option.some Jvm.ClassFile.FieldType.int) [((0 : Nat), (10 : Nat), (13 : Nat), (13 : Nat)), ((0 : Nat), (10 : Nat), (17 : Nat), (21 : Nat)), ((0 : Nat), (10 : Nat), (21 : Nat), (23 : Nat))]) rm_X0_votesFor G h [vR a0, vI a1, vI a2, vR a3] P := by
  refine j_startWi hlt [(0, vR a0), (1, vI a1), (2, vI a2), (3, vR a3)] (by decide) rfl rfl (fun x X eG er en hQ hex => ?_)
  subst eG
  refine j_aload_n X (pc := 0) 3 dX0_votesFor_0 rfl rfl ?_
  refine j_iconst X (pc := 1) 0 dX0_votesFor_1 (by decide) ?_
  refine j_aload_n X (pc := 2) 0 dX0_votesFor_2 rfl rfl ?_
  refine j_iload_n X (pc := 3) 1 dX0_votesFor_3 rfl rfl ?_
  refine j_iload_n X (pc := 4) 2 dX0_votesFor_4 rfl rfl ?_
  obtain ⟨b9, c9, f9, hr9, ho9, hc9, hw⟩ := hw
  obtain rfl := List.mem_singleton.mp hc9
  refine j_callXi (j_runVX (n8 := 2) (As := [vI a1, vI a2]) (rest := [vI 0, vR a3]) X (pc := 5) hr9 (met_X1_votesFor (xl x) X.hl (xG x) h a0 a1 a2 _ _ hw) ho9 (by decide) rfl q1598 q1599 q1600 q71 q1601 (by decide +kernel) dX0_votesFor_5 rfl ⟨Nat.le_of_ble_eq_true rfl, Nat.le_of_ble_eq_true rfl⟩ (Nat.le_of_ble_eq_true rfl) ⟨Nat.le_of_ble_eq_true rfl, Nat.le_of_ble_eq_true rfl⟩) ?_ (fun y5 h5 hw => ?_)
  · intro E9 h9 hx
    rcases hx with ⟨rfl, hw⟩ | ⟨rfl, hw⟩ | ⟨rfl, hw⟩
    · refine j_catch X (pc := 5) "java/lang/IllegalArgumentException" hex [] [⟨0, 10, 17, 21⟩, ⟨0, 10, 21, 23⟩] ⟨0, 10, 13, 13⟩ rfl (by intro y hy; cases hy) (by decide) (by decide) q291 q312 (fun q9 => ?_)
      have hw := hw q9
      refine j_astore X (pc := 13) [(4, vR (some q9)), (0, vR a0), (1, vI a1), (2, vI a2), (3, vR a3)] dX0_votesFor_13 (Nat.le_of_ble_eq_true rfl) rfl ?_
      refine j_iconst X (pc := 15) 1 dX0_votesFor_15 (by decide) ?_
      exact j_iret X (pc := 16) hQ er (Nat.le_of_ble_eq_true rfl) (Nat.le_of_ble_eq_true rfl) dX0_votesFor_16 hw
    · refine j_catch X (pc := 5) "java/util/NoSuchElementException" hex [⟨0, 10, 13, 13⟩] [⟨0, 10, 21, 23⟩] ⟨0, 10, 17, 21⟩ rfl (by intro y hy; simp only [List.mem_cons, List.not_mem_nil, or_false] at hy; subst hy; exact Or.inr ⟨by decide, "java/lang/IllegalArgumentException", q291, by decide +kernel⟩) (by decide) (by decide) q1068 q537 (fun q9 => ?_)
      have hw := hw q9
      refine j_astore X (pc := 17) [(4, vR (some q9)), (0, vR a0), (1, vI a1), (2, vI a2), (3, vR a3)] dX0_votesFor_17 (Nat.le_of_ble_eq_true rfl) rfl ?_
      refine j_iconst X (pc := 19) 2 dX0_votesFor_19 (by decide) ?_
      exact j_iret X (pc := 20) hQ er (Nat.le_of_ble_eq_true rfl) (Nat.le_of_ble_eq_true rfl) dX0_votesFor_20 hw
    · refine j_catch X (pc := 5) "java/lang/UnsupportedOperationException" hex [⟨0, 10, 13, 13⟩, ⟨0, 10, 17, 21⟩] [] ⟨0, 10, 21, 23⟩ rfl (by intro y hy; simp only [List.mem_cons, List.not_mem_nil, or_false] at hy; rcases hy with rfl | rfl <;> first | exact Or.inr ⟨by decide, "java/lang/IllegalArgumentException", q291, by decide +kernel⟩ | exact Or.inr ⟨by decide, "java/util/NoSuchElementException", q1068, by decide +kernel⟩) (by decide) (by decide) q1069 q1102 (fun q9 => ?_)
      have hw := hw q9
      refine j_astore X (pc := 21) [(4, vR (some q9)), (0, vR a0), (1, vI a1), (2, vI a2), (3, vR a3)] dX0_votesFor_21 (Nat.le_of_ble_eq_true rfl) rfl ?_
      refine j_iconst X (pc := 23) 3 dX0_votesFor_23 (by decide) ?_
      exact j_iret X (pc := 24) hQ er (Nat.le_of_ble_eq_true rfl) (Nat.le_of_ble_eq_true rfl) dX0_votesFor_24 hw
  refine j_i2l X (pc := 8) dX0_votesFor_8 ?_
  refine j_last X (pc := 9) dX0_votesFor_9 hw (fun h9 hw => ?_)
  refine j_goto X (pc := 10) 25 dX0_votesFor_10 (by decide) ?_
  refine j_iconst X (pc := 25) 0 dX0_votesFor_25 (by decide) ?_
  exact j_iret X (pc := 26) hQ er (Nat.le_of_ble_eq_true rfl) (Nat.le_of_ble_eq_true rfl) dX0_votesFor_26 hw
abbrev cX5_votes : ByteArray := prog_19_method_79_code
def yX5_votes : MethodName := ⟨RX5, "votes", "(I)I"⟩
def dkwX5_votes_1 : List UInt8 := [96, 61, 132, 3, 1, 167, 255, 231, 28, 172]
abbrev dktX5_votes_1 : List UInt8 := dkwX5_votes_1 ++ []
def dkwX5_votes_0 : List UInt8 := [3, 61, 3, 62, 29, 6, 162, 0, 26, 28, 42, 180, 0, 67, 16, 56, 16, 12, 29, 104, 96, 27, 96, 46]
abbrev dktX5_votes_0 : List UInt8 := dkwX5_votes_0 ++ dktX5_votes_1
theorem dksX5_votes_0 : cX5_votes.data.toList.drop 0 = dktX5_votes_0 := by decide +kernel
theorem dksX5_votes_1 : cX5_votes.data.toList.drop 24 = dktX5_votes_1 := dk_seg dksX5_votes_0 24 rfl rfl
theorem dX5_votes_0 : decode cX5_votes 0 = .ok (.iconst 0, 1) := dk_3 (dk_at dksX5_votes_0 0 rfl rfl)
theorem dX5_votes_1 : decode cX5_votes 1 = .ok (.istore_n 2, 1) := dk_61 (dk_at dksX5_votes_0 1 rfl rfl)
theorem dX5_votes_2 : decode cX5_votes 2 = .ok (.iconst 0, 1) := dk_3 (dk_at dksX5_votes_0 2 rfl rfl)
theorem dX5_votes_3 : decode cX5_votes 3 = .ok (.istore_n 3, 1) := dk_62 (dk_at dksX5_votes_0 3 rfl rfl)
theorem dX5_votes_4 : decode cX5_votes 4 = .ok (.iload_n 3, 1) := dk_29 (dk_at dksX5_votes_0 4 rfl rfl)
theorem dX5_votes_5 : decode cX5_votes 5 = .ok (.iconst 3, 1) := dk_6 (dk_at dksX5_votes_0 5 rfl rfl)
theorem dX5_votes_6 : decode cX5_votes 6 = .ok (.if_icmp .ge 26, 3) := dk_162 0 26 (dk_at dksX5_votes_0 6 rfl rfl)
theorem dX5_votes_9 : decode cX5_votes 9 = .ok (.iload_n 2, 1) := dk_28 (dk_at dksX5_votes_0 9 rfl rfl)
theorem dX5_votes_10 : decode cX5_votes 10 = .ok (.aload_n 0, 1) := dk_42 (dk_at dksX5_votes_0 10 rfl rfl)
theorem dX5_votes_11 : decode cX5_votes 11 = .ok (.getfield 67, 3) := dk_180 0 67 (dk_at dksX5_votes_0 11 rfl rfl)
theorem dX5_votes_14 : decode cX5_votes 14 = .ok (.bipush 56, 2) := dk_16 56 (dk_at dksX5_votes_0 14 rfl rfl)
theorem dX5_votes_16 : decode cX5_votes 16 = .ok (.bipush 12, 2) := dk_16 12 (dk_at dksX5_votes_0 16 rfl rfl)
theorem dX5_votes_18 : decode cX5_votes 18 = .ok (.iload_n 3, 1) := dk_29 (dk_at dksX5_votes_0 18 rfl rfl)
theorem dX5_votes_19 : decode cX5_votes 19 = .ok (.imul, 1) := dk_104 (dk_at dksX5_votes_0 19 rfl rfl)
theorem dX5_votes_20 : decode cX5_votes 20 = .ok (.iadd, 1) := dk_96 (dk_at dksX5_votes_0 20 rfl rfl)
theorem dX5_votes_21 : decode cX5_votes 21 = .ok (.iload_n 1, 1) := dk_27 (dk_at dksX5_votes_0 21 rfl rfl)
theorem dX5_votes_22 : decode cX5_votes 22 = .ok (.iadd, 1) := dk_96 (dk_at dksX5_votes_0 22 rfl rfl)
theorem dX5_votes_23 : decode cX5_votes 23 = .ok (.iaload, 1) := dk_46 (dk_at dksX5_votes_0 23 rfl rfl)
theorem dX5_votes_24 : decode cX5_votes 24 = .ok (.iadd, 1) := dk_96 (dk_at dksX5_votes_1 0 rfl rfl)
theorem dX5_votes_25 : decode cX5_votes 25 = .ok (.istore_n 2, 1) := dk_61 (dk_at dksX5_votes_1 1 rfl rfl)
theorem dX5_votes_26 : decode cX5_votes 26 = .ok (.iinc 3 1, 3) := dk_132 3 1 (dk_at dksX5_votes_1 2 rfl rfl)
theorem dX5_votes_29 : decode cX5_votes 29 = .ok (.goto (-25), 3) := dk_167 255 231 (dk_at dksX5_votes_1 5 rfl rfl)
theorem dX5_votes_32 : decode cX5_votes 32 = .ok (.iload_n 2, 1) := dk_28 (dk_at dksX5_votes_1 8 rfl rfl)
theorem dX5_votes_33 : decode cX5_votes 33 = .ok (.ireturn, 1) := dk_172 (dk_at dksX5_votes_1 9 rfl rfl)
abbrev rm_X5_votes : Room := { frames := 0, cells := 0, slots := 0, locals := 0 }
def w_X5_votes_4 (P : Int32 → AH → Prop) (x0 : Option Nat) (x1 : Int32) (x2 : Int32) (x3 : Int32) (h : AH) : Prop :=
  ∀ Z4 : Int32 → Int32 → Prop, (∀ x2 x3, (
      ((3 ≤ x3 →
        P x2 h) ∧
       (¬ 3 ≤ x3 →
        g_q h x0 4 21 fun y11 =>
        l_i h y11 0 ((56 + (12 * x3)) + x1) fun y23 =>
        Z4 (x2 + y23) (x3 + 1))))
      → Z4 x2 x3) → Z4 x2 x3
def w_X5_votes (a0 : Option Nat) (a1 : Int32) (h : AH) (P : Int32 → AH → Prop) : Prop :=
  w_X5_votes_4 P a0 a1 0 0 h
theorem wk_X5_votes_4 {x : CX} (X : Ok x cX5_votes RX5 rm_X5_votes 4) (er : xrt x = (Option.some Jvm.ClassFile.FieldType.int)) (en : xnm x = yX5_votes.name) {P : Int32 → AH → Prop} (hQ : xr_i x P) (x0 : Option Nat) (x1 : Int32) (x2 : Int32) (x3 : Int32) (h : AH) (hw : w_X5_votes_4 P x0 x1 x2 x3 h) : J x h 0 0 4 [(0, vR x0), (1, vI x1), (2, vI x2), (3, vI x3)] [] := by
  refine hw (fun x2 x3 => J x h 0 0 4 [(0, vR x0), (1, vI x1), (2, vI x2), (3, vI x3)] []) (fun x2 x3 hw => ?_)
  refine j_iload_n X (pc := 4) 3 dX5_votes_4 rfl rfl ?_
  refine j_iconst X (pc := 5) 3 dX5_votes_5 (by decide) ?_
  refine j_icmp_ge X (pc := 6) 32 dX5_votes_6 (by decide) hw (fun hw => ?_) (fun hw => ?_)
  · refine j_iload_n X (pc := 32) 2 dX5_votes_32 rfl rfl ?_
    exact j_iret X (pc := 33) hQ er (Nat.le_of_ble_eq_true rfl) (Nat.le_of_ble_eq_true rfl) dX5_votes_33 hw
  · refine j_iload_n X (pc := 9) 2 dX5_votes_9 rfl rfl ?_
    refine j_aload_n X (pc := 10) 0 dX5_votes_10 rfl rfl ?_
    refine j_getq (ci := 4) X (pc := 11) in_X5 rfl (by decide) 21 (by decide) q1893 (Or.inl rfl) dX5_votes_11 hw (fun y11 hw => ?_)
    refine j_bipush X (pc := 14) 56 dX5_votes_14 (by decide) ?_
    refine j_bipush X (pc := 16) 12 dX5_votes_16 (by decide) ?_
    refine j_iload_n X (pc := 18) 3 dX5_votes_18 rfl rfl ?_
    refine j_imul X (pc := 19) dX5_votes_19 ?_
    refine j_iadd X (pc := 20) dX5_votes_20 ?_
    refine j_iload_n X (pc := 21) 1 dX5_votes_21 rfl rfl ?_
    refine j_iadd X (pc := 22) dX5_votes_22 ?_
    refine j_iald X (pc := 23) 0 rfl dX5_votes_23 hw (fun y23 hw => ?_)
    refine j_iadd X (pc := 24) dX5_votes_24 ?_
    refine j_istore_n X (pc := 25) [(2, vI (x2 + y23)), (0, vR x0), (1, vI x1), (3, vI x3)] dX5_votes_25 rfl (Nat.le_of_ble_eq_true rfl) rfl ?_
    refine j_iinc X (pc := 26) 3 (x3 + 1) [(3, vI (x3 + 1)), (2, vI (x2 + y23)), (0, vR x0), (1, vI x1)] dX5_votes_26 rfl rfl (Nat.le_of_ble_eq_true rfl) rfl ?_
    refine j_goto X (pc := 29) 4 dX5_votes_29 (by decide) ?_
    refine j_lv [(0, vR x0), (1, vI x1), (2, vI (x2 + y23)), (3, vI (x3 + 1))] [2, 3, 1, 0] rfl ?_
    refine j_cs (u' := 0) (v' := 0) (Nat.le_of_ble_eq_true rfl) (Nat.le_of_ble_eq_true rfl) ?_
    exact hw
theorem met_X5_votes (l : Launch) (hlt : l.stackTraces = false) (G : GG) (h : AH) (a0 : Option Nat) (a1 : Int32) (P : Int32 → AH → Prop) (hw : w_X5_votes a0 a1 h P) : ct_i l yX5_votes (ws_ yX5_votes cX5_votes 4 (Option.some Jvm.ClassFile.FieldType.int)) rm_X5_votes G h [vR a0, vI a1] P := by
  refine j_starti hlt [(0, vR a0), (1, vI a1)] (plainFor_of_name (by decide)) rfl rfl (fun x X eG er en hQ => ?_)
  subst eG
  refine j_iconst X (pc := 0) 0 dX5_votes_0 (by decide) ?_
  refine j_istore_n X (pc := 1) [(2, vI 0), (0, vR a0), (1, vI a1)] dX5_votes_1 rfl (Nat.le_of_ble_eq_true rfl) rfl ?_
  refine j_iconst X (pc := 2) 0 dX5_votes_2 (by decide) ?_
  refine j_istore_n X (pc := 3) [(3, vI 0), (2, vI 0), (0, vR a0), (1, vI a1)] dX5_votes_3 rfl (Nat.le_of_ble_eq_true rfl) rfl ?_
  refine j_lv [(0, vR a0), (1, vI a1), (2, vI 0), (3, vI 0)] [2, 3, 1, 0] rfl ?_
  refine j_cs (u' := 0) (v' := 0) (Nat.le_of_ble_eq_true rfl) (Nat.le_of_ble_eq_true rfl) ?_
  exact wk_X5_votes_4 X er en hQ a0 a1 0 0 h hw
abbrev cX5_votesFor : ByteArray := prog_19_method_80_code
def yX5_votesFor : MethodName := ⟨RX5, "votesFor", "(II)I"⟩
def dkwX5_votesFor_1 : List UInt8 := [182, 1, 14, 167, 0, 8, 42, 6, 182, 0, 172, 172]
abbrev dktX5_votesFor_1 : List UInt8 := dkwX5_votesFor_1 ++ []
def dkwX5_votesFor_0 : List UInt8 := [42, 27, 28, 182, 0, 231, 153, 0, 5, 3, 172, 42, 180, 0, 67, 16, 92, 46, 4, 160, 0, 11, 42, 28]
abbrev dktX5_votesFor_0 : List UInt8 := dkwX5_votesFor_0 ++ dktX5_votesFor_1
theorem dksX5_votesFor_0 : cX5_votesFor.data.toList.drop 0 = dktX5_votesFor_0 := by decide +kernel
theorem dksX5_votesFor_1 : cX5_votesFor.data.toList.drop 24 = dktX5_votesFor_1 := dk_seg dksX5_votesFor_0 24 rfl rfl
theorem dX5_votesFor_0 : decode cX5_votesFor 0 = .ok (.aload_n 0, 1) := dk_42 (dk_at dksX5_votesFor_0 0 rfl rfl)
theorem dX5_votesFor_1 : decode cX5_votesFor 1 = .ok (.iload_n 1, 1) := dk_27 (dk_at dksX5_votesFor_0 1 rfl rfl)
theorem dX5_votesFor_2 : decode cX5_votesFor 2 = .ok (.iload_n 2, 1) := dk_28 (dk_at dksX5_votesFor_0 2 rfl rfl)
theorem dX5_votesFor_3 : decode cX5_votesFor 3 = .ok (.invokevirtual 231, 3) := dk_182 0 231 (dk_at dksX5_votesFor_0 3 rfl rfl)
theorem dX5_votesFor_6 : decode cX5_votesFor 6 = .ok (.ifCond .eq 5, 3) := dk_153 0 5 (dk_at dksX5_votesFor_0 6 rfl rfl)
theorem dX5_votesFor_9 : decode cX5_votesFor 9 = .ok (.iconst 0, 1) := dk_3 (dk_at dksX5_votesFor_0 9 rfl rfl)
theorem dX5_votesFor_10 : decode cX5_votesFor 10 = .ok (.ireturn, 1) := dk_172 (dk_at dksX5_votesFor_0 10 rfl rfl)
theorem dX5_votesFor_11 : decode cX5_votesFor 11 = .ok (.aload_n 0, 1) := dk_42 (dk_at dksX5_votesFor_0 11 rfl rfl)
theorem dX5_votesFor_12 : decode cX5_votesFor 12 = .ok (.getfield 67, 3) := dk_180 0 67 (dk_at dksX5_votesFor_0 12 rfl rfl)
theorem dX5_votesFor_15 : decode cX5_votesFor 15 = .ok (.bipush 92, 2) := dk_16 92 (dk_at dksX5_votesFor_0 15 rfl rfl)
theorem dX5_votesFor_17 : decode cX5_votesFor 17 = .ok (.iaload, 1) := dk_46 (dk_at dksX5_votesFor_0 17 rfl rfl)
theorem dX5_votesFor_18 : decode cX5_votesFor 18 = .ok (.iconst 1, 1) := dk_4 (dk_at dksX5_votesFor_0 18 rfl rfl)
theorem dX5_votesFor_19 : decode cX5_votesFor 19 = .ok (.if_icmp .ne 11, 3) := dk_160 0 11 (dk_at dksX5_votesFor_0 19 rfl rfl)
theorem dX5_votesFor_22 : decode cX5_votesFor 22 = .ok (.aload_n 0, 1) := dk_42 (dk_at dksX5_votesFor_0 22 rfl rfl)
theorem dX5_votesFor_23 : decode cX5_votesFor 23 = .ok (.iload_n 2, 1) := dk_28 (dk_at dksX5_votesFor_0 23 rfl rfl)
theorem dX5_votesFor_24 : decode cX5_votesFor 24 = .ok (.invokevirtual 270, 3) := dk_182 1 14 (dk_at dksX5_votesFor_1 0 rfl rfl)
theorem dX5_votesFor_27 : decode cX5_votesFor 27 = .ok (.goto 8, 3) := dk_167 0 8 (dk_at dksX5_votesFor_1 3 rfl rfl)
theorem dX5_votesFor_30 : decode cX5_votesFor 30 = .ok (.aload_n 0, 1) := dk_42 (dk_at dksX5_votesFor_1 6 rfl rfl)
theorem dX5_votesFor_31 : decode cX5_votesFor 31 = .ok (.iconst 3, 1) := dk_6 (dk_at dksX5_votesFor_1 7 rfl rfl)
theorem dX5_votesFor_32 : decode cX5_votesFor 32 = .ok (.invokevirtual 172, 3) := dk_182 0 172 (dk_at dksX5_votesFor_1 8 rfl rfl)
theorem dX5_votesFor_35 : decode cX5_votesFor 35 = .ok (.ireturn, 1) := dk_172 (dk_at dksX5_votesFor_1 11 rfl rfl)
theorem q2284 : (Jvm.Cond.methodLink "PlugboardModel" (270 : Nat) ({ cls := "PlugboardModel", name := "votes", desc := "(I)I" } : Jvm.MethodName)) ∈ lw_all := lw_g (lw_at lw_m10 54 rfl) rfl
theorem q2286 : (Jvm.Cond.instanceMethod ({ cls := "PlugboardModel", name := "votes", desc := "(I)I" } : Jvm.MethodName)) ∈ lw_all := lw_g (lw_at lw_m10 56 rfl) rfl
theorem q2287 : (Jvm.Cond.code ({ cls := "PlugboardModel", name := "votes", desc := "(I)I" } : Jvm.MethodName) prog_19_method_79_code (4 : Nat) (Option.some Jvm.ClassFile.FieldType.int)) ∈ lw_all := lw_g (lw_at lw_m10 57 rfl) rfl
abbrev rm_X5_votesFor : Room := { frames := 5, cells := 0, slots := 0, locals := 109 }
def w_X5_votesFor (a0 : Option Nat) (a1 : Int32) (a2 : Int32) (h : AH) (P : Int32 → AH → Prop) : Prop :=
  is_c h a0 [4] (
  w_X5_isUnseen a0 a1 a2 h (fun y3 h3 =>
  ((y3 = 0 →
    g_q h3 a0 4 21 fun y12 =>
    l_i h3 y12 0 92 fun y17 =>
    ((y17 = 1 →
      is_c h3 a0 [4] (
      w_X5_votes a0 a2 h3 (fun y24 h24 =>
      P y24 h24))) ∧
     (¬ y17 = 1 →
      is_c h3 a0 [4] (
      w_X5_fails a0 3 h3 (fun y32 h32 =>
      P y32 h32))))) ∧
   (¬ y3 = 0 →
    P 0 h3))))
theorem met_X5_votesFor (l : Launch) (hlt : l.stackTraces = false) (G : GG) (h : AH) (a0 : Option Nat) (a1 : Int32) (a2 : Int32) (P : Int32 → AH → Prop) (hw : w_X5_votesFor a0 a1 a2 h P) : ct_i l yX5_votesFor (ws_ yX5_votesFor cX5_votesFor 3 (Option.some Jvm.ClassFile.FieldType.int)) rm_X5_votesFor G h [vR a0, vI a1, vI a2] P := by
  refine j_starti hlt [(0, vR a0), (1, vI a1), (2, vI a2)] (plainFor_of_name (by decide)) rfl rfl (fun x X eG er en hQ => ?_)
  subst eG
  refine j_aload_n X (pc := 0) 0 dX5_votesFor_0 rfl rfl ?_
  refine j_iload_n X (pc := 1) 1 dX5_votesFor_1 rfl rfl ?_
  refine j_iload_n X (pc := 2) 2 dX5_votesFor_2 rfl rfl ?_
  obtain ⟨b9, c9, f9, hr9, ho9, hc9, hw⟩ := hw
  obtain rfl := List.mem_singleton.mp hc9
  refine j_calli (j_runV (n8 := 2) (As := [vI a1, vI a2]) (rest := []) X (pc := 3) hr9 (met_X5_isUnseen (xl x) X.hl (xG x) h a0 a1 a2 _ hw) ho9 (by decide) rfl q2182 q2184 qs59 q78 q2185 (by decide +kernel) dX5_votesFor_3 rfl ⟨Nat.le_of_ble_eq_true rfl, Nat.le_of_ble_eq_true rfl⟩ (Nat.le_of_ble_eq_true rfl) ⟨Nat.le_of_ble_eq_true rfl, Nat.le_of_ble_eq_true rfl⟩) (fun y3 h3 hw => ?_)
  refine j_if_eq X (pc := 6) 11 dX5_votesFor_6 (by decide) hw (fun hw => ?_) (fun hw => ?_)
  · refine j_aload_n X (pc := 11) 0 dX5_votesFor_11 rfl rfl ?_
    refine j_getq (ci := 4) X (pc := 12) in_X5 rfl (by decide) 21 (by decide) q1893 (Or.inl rfl) dX5_votesFor_12 hw (fun y12 hw => ?_)
    refine j_bipush X (pc := 15) 92 dX5_votesFor_15 (by decide) ?_
    refine j_iald X (pc := 17) 0 rfl dX5_votesFor_17 hw (fun y17 hw => ?_)
    refine j_iconst X (pc := 18) 1 dX5_votesFor_18 (by decide) ?_
    refine j_icmp_ne X (pc := 19) 30 dX5_votesFor_19 (by decide) hw (fun hw => ?_) (fun hw => ?_)
    · refine j_aload_n X (pc := 22) 0 dX5_votesFor_22 rfl rfl ?_
      refine j_iload_n X (pc := 23) 2 dX5_votesFor_23 rfl rfl ?_
      obtain ⟨b9, c9, f9, hr9, ho9, hc9, hw⟩ := hw
      obtain rfl := List.mem_singleton.mp hc9
      refine j_calli (j_runV (n8 := 1) (As := [vI a2]) (rest := []) X (pc := 24) hr9 (met_X5_votes (xl x) X.hl (xG x) h3 a0 a2 _ hw) ho9 (by decide) rfl q2284 q2286 qs67 q78 q2287 (by decide +kernel) dX5_votesFor_24 rfl ⟨Nat.le_of_ble_eq_true rfl, Nat.le_of_ble_eq_true rfl⟩ (Nat.le_of_ble_eq_true rfl) ⟨Nat.le_of_ble_eq_true rfl, Nat.le_of_ble_eq_true rfl⟩) (fun y24 h24 hw => ?_)
      refine j_goto X (pc := 27) 35 dX5_votesFor_27 (by decide) ?_
      exact j_iret X (pc := 35) hQ er (Nat.le_of_ble_eq_true rfl) (Nat.le_of_ble_eq_true rfl) dX5_votesFor_35 hw
    · refine j_aload_n X (pc := 30) 0 dX5_votesFor_30 rfl rfl ?_
      refine j_iconst X (pc := 31) 3 dX5_votesFor_31 (by decide) ?_
      obtain ⟨b9, c9, f9, hr9, ho9, hc9, hw⟩ := hw
      obtain rfl := List.mem_singleton.mp hc9
      refine j_calli (j_runV (n8 := 1) (As := [vI 3]) (rest := []) X (pc := 32) hr9 (met_X5_fails (xl x) X.hl (xG x) h3 a0 3 _ hw) ho9 (by decide) rfl q1988 q1990 qs33 q78 q1991 (by decide +kernel) dX5_votesFor_32 rfl ⟨Nat.le_of_ble_eq_true rfl, Nat.le_of_ble_eq_true rfl⟩ (Nat.le_of_ble_eq_true rfl) ⟨Nat.le_of_ble_eq_true rfl, Nat.le_of_ble_eq_true rfl⟩) (fun y32 h32 hw => ?_)
      exact j_iret X (pc := 35) hQ er (Nat.le_of_ble_eq_true rfl) (Nat.le_of_ble_eq_true rfl) dX5_votesFor_35 hw
  · refine j_iconst X (pc := 9) 0 dX5_votesFor_9 (by decide) ?_
    exact j_iret X (pc := 10) hQ er (Nat.le_of_ble_eq_true rfl) (Nat.le_of_ble_eq_true rfl) dX5_votesFor_10 hw
