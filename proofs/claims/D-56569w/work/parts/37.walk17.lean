/-! walks (printed): Plugboard, Plugboard.Board, PlugboardLaw, PlugboardModel -/
set_option maxRecDepth 100000
abbrev cX0_bendsByRounds : ByteArray := method_35_code
def yX0_bendsByRounds : MethodName := ⟨RX0, "bendsByRounds", "(LPlugboard;II[J)I"⟩
def dkwX0_bendsByRounds_1 : List UInt8 := [172, 3, 172]
abbrev dktX0_bendsByRounds_1 : List UInt8 := dkwX0_bendsByRounds_1 ++ []
def dkwX0_bendsByRounds_0 : List UInt8 := [45, 3, 42, 27, 28, 182, 0, 124, 133, 80, 167, 0, 15, 58, 4, 4, 172, 58, 4, 5, 172, 58, 4, 6]
abbrev dktX0_bendsByRounds_0 : List UInt8 := dkwX0_bendsByRounds_0 ++ dktX0_bendsByRounds_1
theorem dksX0_bendsByRounds_0 : cX0_bendsByRounds.data.toList.drop 0 = dktX0_bendsByRounds_0 := by decide +kernel
theorem dksX0_bendsByRounds_1 : cX0_bendsByRounds.data.toList.drop 24 = dktX0_bendsByRounds_1 := dk_seg dksX0_bendsByRounds_0 24 rfl rfl
theorem dX0_bendsByRounds_0 : decode cX0_bendsByRounds 0 = .ok (.aload_n 3, 1) := dk_45 (dk_at dksX0_bendsByRounds_0 0 rfl rfl)
theorem dX0_bendsByRounds_1 : decode cX0_bendsByRounds 1 = .ok (.iconst 0, 1) := dk_3 (dk_at dksX0_bendsByRounds_0 1 rfl rfl)
theorem dX0_bendsByRounds_2 : decode cX0_bendsByRounds 2 = .ok (.aload_n 0, 1) := dk_42 (dk_at dksX0_bendsByRounds_0 2 rfl rfl)
theorem dX0_bendsByRounds_3 : decode cX0_bendsByRounds 3 = .ok (.iload_n 1, 1) := dk_27 (dk_at dksX0_bendsByRounds_0 3 rfl rfl)
theorem dX0_bendsByRounds_4 : decode cX0_bendsByRounds 4 = .ok (.iload_n 2, 1) := dk_28 (dk_at dksX0_bendsByRounds_0 4 rfl rfl)
theorem dX0_bendsByRounds_5 : decode cX0_bendsByRounds 5 = .ok (.invokevirtual 124, 3) := dk_182 0 124 (dk_at dksX0_bendsByRounds_0 5 rfl rfl)
theorem dX0_bendsByRounds_8 : decode cX0_bendsByRounds 8 = .ok (.i2l, 1) := dk_133 (dk_at dksX0_bendsByRounds_0 8 rfl rfl)
theorem dX0_bendsByRounds_9 : decode cX0_bendsByRounds 9 = .ok (.lastore, 1) := dk_80 (dk_at dksX0_bendsByRounds_0 9 rfl rfl)
theorem dX0_bendsByRounds_10 : decode cX0_bendsByRounds 10 = .ok (.goto 15, 3) := dk_167 0 15 (dk_at dksX0_bendsByRounds_0 10 rfl rfl)
theorem dX0_bendsByRounds_13 : decode cX0_bendsByRounds 13 = .ok (.astore 4, 2) := dk_58 4 (dk_at dksX0_bendsByRounds_0 13 rfl rfl)
theorem dX0_bendsByRounds_15 : decode cX0_bendsByRounds 15 = .ok (.iconst 1, 1) := dk_4 (dk_at dksX0_bendsByRounds_0 15 rfl rfl)
theorem dX0_bendsByRounds_16 : decode cX0_bendsByRounds 16 = .ok (.ireturn, 1) := dk_172 (dk_at dksX0_bendsByRounds_0 16 rfl rfl)
theorem dX0_bendsByRounds_17 : decode cX0_bendsByRounds 17 = .ok (.astore 4, 2) := dk_58 4 (dk_at dksX0_bendsByRounds_0 17 rfl rfl)
theorem dX0_bendsByRounds_19 : decode cX0_bendsByRounds 19 = .ok (.iconst 2, 1) := dk_5 (dk_at dksX0_bendsByRounds_0 19 rfl rfl)
theorem dX0_bendsByRounds_20 : decode cX0_bendsByRounds 20 = .ok (.ireturn, 1) := dk_172 (dk_at dksX0_bendsByRounds_0 20 rfl rfl)
theorem dX0_bendsByRounds_21 : decode cX0_bendsByRounds 21 = .ok (.astore 4, 2) := dk_58 4 (dk_at dksX0_bendsByRounds_0 21 rfl rfl)
theorem dX0_bendsByRounds_23 : decode cX0_bendsByRounds 23 = .ok (.iconst 3, 1) := dk_6 (dk_at dksX0_bendsByRounds_0 23 rfl rfl)
theorem dX0_bendsByRounds_24 : decode cX0_bendsByRounds 24 = .ok (.ireturn, 1) := dk_172 (dk_at dksX0_bendsByRounds_1 0 rfl rfl)
theorem dX0_bendsByRounds_25 : decode cX0_bendsByRounds 25 = .ok (.iconst 0, 1) := dk_3 (dk_at dksX0_bendsByRounds_1 1 rfl rfl)
theorem dX0_bendsByRounds_26 : decode cX0_bendsByRounds 26 = .ok (.ireturn, 1) := dk_172 (dk_at dksX0_bendsByRounds_1 2 rfl rfl)
theorem q1573 : (Jvm.Cond.methodLink "PlugboardLaw" (124 : Nat) ({ cls := "Plugboard", name := "bendsByRounds", desc := "(II)I" } : Jvm.MethodName)) ∈ lw_all := lw_g (lw_at lw_m7 63 rfl) rfl
theorem q1574 : (Jvm.Cond.instanceMethod ({ cls := "Plugboard", name := "bendsByRounds", desc := "(II)I" } : Jvm.MethodName)) ∈ lw_all := lw_g (lw_at lw_m7 64 rfl) rfl
theorem q1575 : (Jvm.Cond.selects "Plugboard" ({ cls := "Plugboard", name := "bendsByRounds", desc := "(II)I" } : Jvm.MethodName) ({ cls := "Plugboard", name := "bendsByRounds", desc := "(II)I" } : Jvm.MethodName)) ∈ lw_all := lw_g (lw_at lw_m7 65 rfl) rfl
theorem q1576 : (Jvm.Cond.code ({ cls := "Plugboard", name := "bendsByRounds", desc := "(II)I" } : Jvm.MethodName) prog_1_method_72_code (4 : Nat) (Option.some Jvm.ClassFile.FieldType.int)) ∈ lw_all := lw_g (lw_at lw_m7 66 rfl) rfl
abbrev rm_X0_bendsByRounds : Room := { frames := 10, cells := 4, slots := 19, locals := 169 }
def w_X0_bendsByRounds (a0 : Option Nat) (a1 : Int32) (a2 : Int32) (a3 : Option Nat) (h : AH) (P : Int32 → AH → Prop) : Prop :=
  is_c h a0 [0] (
  w_X1_bendsByRounds a0 a1 a2 h (fun y5 h5 =>
  s_L h5 a3 0 (Int32.toInt64 y5) fun h9 =>
  P 0 h9)
    (fun E9 h9 => (E9 = "java/lang/IllegalArgumentException" ∧ ∀ q9 : Nat,
    P 1 h9) ∨
    (E9 = "java/util/NoSuchElementException" ∧ ∀ q9 : Nat,
    P 2 h9) ∨
    (E9 = "java/lang/UnsupportedOperationException" ∧ ∀ q9 : Nat,
    P 3 h9)))
theorem met_X0_bendsByRounds (l : Launch) (hlt : l.stackTraces = false) (G : GG) (h : AH) (a0 : Option Nat) (a1 : Int32) (a2 : Int32) (a3 : Option Nat) (P : Int32 → AH → Prop) (hw : w_X0_bendsByRounds a0 a1 a2 a3 h P) : ct_i l yX0_bendsByRounds (wsW_ yX0_bendsByRounds cX0_bendsByRounds 5 (Option.some Jvm.ClassFile.FieldType.int) [((0 : Nat), (10 : Nat), (13 : Nat), (13 : Nat)), ((0 : Nat), (10 : Nat), (17 : Nat), (21 : Nat)), ((0 : Nat), (10 : Nat), (21 : Nat), (23 : Nat))]) rm_X0_bendsByRounds G h [vR a0, vI a1, vI a2, vR a3] P := by
  refine j_startWi hlt [(0, vR a0), (1, vI a1), (2, vI a2), (3, vR a3)] (by decide) rfl rfl (fun x X eG er en hQ hex => ?_)
  subst eG
  refine j_aload_n X (pc := 0) 3 dX0_bendsByRounds_0 rfl rfl ?_
  refine j_iconst X (pc := 1) 0 dX0_bendsByRounds_1 (by decide) ?_
  refine j_aload_n X (pc := 2) 0 dX0_bendsByRounds_2 rfl rfl ?_
  refine j_iload_n X (pc := 3) 1 dX0_bendsByRounds_3 rfl rfl ?_
  refine j_iload_n X (pc := 4) 2 dX0_bendsByRounds_4 rfl rfl ?_
  obtain ⟨b9, c9, f9, hr9, ho9, hc9, hw⟩ := hw
  obtain rfl := List.mem_singleton.mp hc9
  refine j_callXi (j_runVX (n8 := 2) (As := [vI a1, vI a2]) (rest := [vI 0, vR a3]) X (pc := 5) hr9 (met_X1_bendsByRounds (xl x) X.hl (xG x) h a0 a1 a2 _ _ hw) ho9 (by decide) rfl q1573 q1574 q1575 q71 q1576 (by decide +kernel) dX0_bendsByRounds_5 rfl ⟨Nat.le_of_ble_eq_true rfl, Nat.le_of_ble_eq_true rfl⟩ (Nat.le_of_ble_eq_true rfl) ⟨Nat.le_of_ble_eq_true rfl, Nat.le_of_ble_eq_true rfl⟩) ?_ (fun y5 h5 hw => ?_)
  · intro E9 h9 hx
    rcases hx with ⟨rfl, hw⟩ | ⟨rfl, hw⟩ | ⟨rfl, hw⟩
    · refine j_catch X (pc := 5) "java/lang/IllegalArgumentException" hex [] [⟨0, 10, 17, 21⟩, ⟨0, 10, 21, 23⟩] ⟨0, 10, 13, 13⟩ rfl (by intro y hy; cases hy) (by decide) (by decide) q291 q312 (fun q9 => ?_)
      have hw := hw q9
      refine j_astore X (pc := 13) [(4, vR (some q9)), (0, vR a0), (1, vI a1), (2, vI a2), (3, vR a3)] dX0_bendsByRounds_13 (Nat.le_of_ble_eq_true rfl) rfl ?_
      refine j_iconst X (pc := 15) 1 dX0_bendsByRounds_15 (by decide) ?_
      exact j_iret X (pc := 16) hQ er (Nat.le_of_ble_eq_true rfl) (Nat.le_of_ble_eq_true rfl) dX0_bendsByRounds_16 hw
    · refine j_catch X (pc := 5) "java/util/NoSuchElementException" hex [⟨0, 10, 13, 13⟩] [⟨0, 10, 21, 23⟩] ⟨0, 10, 17, 21⟩ rfl (by intro y hy; simp only [List.mem_cons, List.not_mem_nil, or_false] at hy; subst hy; exact Or.inr ⟨by decide, "java/lang/IllegalArgumentException", q291, by decide +kernel⟩) (by decide) (by decide) q1068 q537 (fun q9 => ?_)
      have hw := hw q9
      refine j_astore X (pc := 17) [(4, vR (some q9)), (0, vR a0), (1, vI a1), (2, vI a2), (3, vR a3)] dX0_bendsByRounds_17 (Nat.le_of_ble_eq_true rfl) rfl ?_
      refine j_iconst X (pc := 19) 2 dX0_bendsByRounds_19 (by decide) ?_
      exact j_iret X (pc := 20) hQ er (Nat.le_of_ble_eq_true rfl) (Nat.le_of_ble_eq_true rfl) dX0_bendsByRounds_20 hw
    · refine j_catch X (pc := 5) "java/lang/UnsupportedOperationException" hex [⟨0, 10, 13, 13⟩, ⟨0, 10, 17, 21⟩] [] ⟨0, 10, 21, 23⟩ rfl (by intro y hy; simp only [List.mem_cons, List.not_mem_nil, or_false] at hy; rcases hy with rfl | rfl <;> first | exact Or.inr ⟨by decide, "java/lang/IllegalArgumentException", q291, by decide +kernel⟩ | exact Or.inr ⟨by decide, "java/util/NoSuchElementException", q1068, by decide +kernel⟩) (by decide) (by decide) q1069 q1102 (fun q9 => ?_)
      have hw := hw q9
      refine j_astore X (pc := 21) [(4, vR (some q9)), (0, vR a0), (1, vI a1), (2, vI a2), (3, vR a3)] dX0_bendsByRounds_21 (Nat.le_of_ble_eq_true rfl) rfl ?_
      refine j_iconst X (pc := 23) 3 dX0_bendsByRounds_23 (by decide) ?_
      exact j_iret X (pc := 24) hQ er (Nat.le_of_ble_eq_true rfl) (Nat.le_of_ble_eq_true rfl) dX0_bendsByRounds_24 hw
  refine j_i2l X (pc := 8) dX0_bendsByRounds_8 ?_
  refine j_last X (pc := 9) dX0_bendsByRounds_9 hw (fun h9 hw => ?_)
  refine j_goto X (pc := 10) 25 dX0_bendsByRounds_10 (by decide) ?_
  refine j_iconst X (pc := 25) 0 dX0_bendsByRounds_25 (by decide) ?_
  exact j_iret X (pc := 26) hQ er (Nat.le_of_ble_eq_true rfl) (Nat.le_of_ble_eq_true rfl) dX0_bendsByRounds_26 hw
abbrev cX5_bendsByRounds : ByteArray := prog_19_method_76_code
def yX5_bendsByRounds : MethodName := ⟨RX5, "bendsByRounds", "(II)I"⟩
def dkwX5_bendsByRounds_0 : List UInt8 := [42, 27, 28, 182, 1, 11, 172]
abbrev dktX5_bendsByRounds_0 : List UInt8 := dkwX5_bendsByRounds_0 ++ []
theorem dksX5_bendsByRounds_0 : cX5_bendsByRounds.data.toList.drop 0 = dktX5_bendsByRounds_0 := by decide +kernel
theorem dX5_bendsByRounds_0 : decode cX5_bendsByRounds 0 = .ok (.aload_n 0, 1) := dk_42 (dk_at dksX5_bendsByRounds_0 0 rfl rfl)
theorem dX5_bendsByRounds_1 : decode cX5_bendsByRounds 1 = .ok (.iload_n 1, 1) := dk_27 (dk_at dksX5_bendsByRounds_0 1 rfl rfl)
theorem dX5_bendsByRounds_2 : decode cX5_bendsByRounds 2 = .ok (.iload_n 2, 1) := dk_28 (dk_at dksX5_bendsByRounds_0 2 rfl rfl)
theorem dX5_bendsByRounds_3 : decode cX5_bendsByRounds 3 = .ok (.invokevirtual 267, 3) := dk_182 1 11 (dk_at dksX5_bendsByRounds_0 3 rfl rfl)
theorem dX5_bendsByRounds_6 : decode cX5_bendsByRounds 6 = .ok (.ireturn, 1) := dk_172 (dk_at dksX5_bendsByRounds_0 6 rfl rfl)
theorem q2232 : (Jvm.Cond.instanceMethod ({ cls := "PlugboardModel", name := "bends", desc := "(II)I" } : Jvm.MethodName)) ∈ lw_all := lw_g (lw_at lw_m10 2 rfl) rfl
theorem q2233 : (Jvm.Cond.selects "PlugboardModel" ({ cls := "PlugboardModel", name := "bends", desc := "(II)I" } : Jvm.MethodName) ({ cls := "PlugboardModel", name := "bends", desc := "(II)I" } : Jvm.MethodName)) ∈ lw_all := lw_g (lw_at lw_m10 3 rfl) rfl
theorem q2234 : (Jvm.Cond.code ({ cls := "PlugboardModel", name := "bends", desc := "(II)I" } : Jvm.MethodName) prog_19_method_75_code (3 : Nat) (Option.some Jvm.ClassFile.FieldType.int)) ∈ lw_all := lw_g (lw_at lw_m10 4 rfl) rfl
theorem q2271 : (Jvm.Cond.methodLink "PlugboardModel" (267 : Nat) ({ cls := "PlugboardModel", name := "bends", desc := "(II)I" } : Jvm.MethodName)) ∈ lw_all := lw_g (lw_at lw_m10 41 rfl) rfl
abbrev rm_X5_bendsByRounds : Room := { frames := 6, cells := 0, slots := 0, locals := 148 }
def w_X5_bendsByRounds (a0 : Option Nat) (a1 : Int32) (a2 : Int32) (h : AH) (P : Int32 → AH → Prop) : Prop :=
  is_c h a0 [4] (
  w_X5_bends a0 a1 a2 h (fun y3 h3 =>
  P y3 h3))
theorem met_X5_bendsByRounds (l : Launch) (hlt : l.stackTraces = false) (G : GG) (h : AH) (a0 : Option Nat) (a1 : Int32) (a2 : Int32) (P : Int32 → AH → Prop) (hw : w_X5_bendsByRounds a0 a1 a2 h P) : ct_i l yX5_bendsByRounds (ws_ yX5_bendsByRounds cX5_bendsByRounds 3 (Option.some Jvm.ClassFile.FieldType.int)) rm_X5_bendsByRounds G h [vR a0, vI a1, vI a2] P := by
  refine j_starti hlt [(0, vR a0), (1, vI a1), (2, vI a2)] (plainFor_of_name (by decide)) rfl rfl (fun x X eG er en hQ => ?_)
  subst eG
  refine j_aload_n X (pc := 0) 0 dX5_bendsByRounds_0 rfl rfl ?_
  refine j_iload_n X (pc := 1) 1 dX5_bendsByRounds_1 rfl rfl ?_
  refine j_iload_n X (pc := 2) 2 dX5_bendsByRounds_2 rfl rfl ?_
  obtain ⟨b9, c9, f9, hr9, ho9, hc9, hw⟩ := hw
  obtain rfl := List.mem_singleton.mp hc9
  refine j_calli (j_runV (n8 := 2) (As := [vI a1, vI a2]) (rest := []) X (pc := 3) hr9 (met_X5_bends (xl x) X.hl (xG x) h a0 a1 a2 _ hw) ho9 (by decide) rfl q2271 q2232 q2233 q78 q2234 (by decide +kernel) dX5_bendsByRounds_3 rfl ⟨Nat.le_of_ble_eq_true rfl, Nat.le_of_ble_eq_true rfl⟩ (Nat.le_of_ble_eq_true rfl) ⟨Nat.le_of_ble_eq_true rfl, Nat.le_of_ble_eq_true rfl⟩) (fun y3 h3 hw => ?_)
  exact j_iret X (pc := 6) hQ er (Nat.le_of_ble_eq_true rfl) (Nat.le_of_ble_eq_true rfl) dX5_bendsByRounds_6 hw
abbrev cX1_routeLength : ByteArray := prog_1_method_73_code
def yX1_routeLength : MethodName := ⟨RX1, "routeLength", "(II)I"⟩
def dkwX1_routeLength_1 : List UInt8 := [112, 172]
abbrev dktX1_routeLength_1 : List UInt8 := dkwX1_routeLength_1 ++ []
def dkwX1_routeLength_0 : List UInt8 := [42, 27, 182, 0, 199, 78, 42, 42, 45, 42, 45, 28, 182, 1, 46, 182, 1, 165, 182, 1, 169, 17, 3, 232]
abbrev dktX1_routeLength_0 : List UInt8 := dkwX1_routeLength_0 ++ dktX1_routeLength_1
theorem dksX1_routeLength_0 : cX1_routeLength.data.toList.drop 0 = dktX1_routeLength_0 := by decide +kernel
theorem dksX1_routeLength_1 : cX1_routeLength.data.toList.drop 24 = dktX1_routeLength_1 := dk_seg dksX1_routeLength_0 24 rfl rfl
theorem dX1_routeLength_0 : decode cX1_routeLength 0 = .ok (.aload_n 0, 1) := dk_42 (dk_at dksX1_routeLength_0 0 rfl rfl)
theorem dX1_routeLength_1 : decode cX1_routeLength 1 = .ok (.iload_n 1, 1) := dk_27 (dk_at dksX1_routeLength_0 1 rfl rfl)
theorem dX1_routeLength_2 : decode cX1_routeLength 2 = .ok (.invokevirtual 199, 3) := dk_182 0 199 (dk_at dksX1_routeLength_0 2 rfl rfl)
theorem dX1_routeLength_5 : decode cX1_routeLength 5 = .ok (.astore_n 3, 1) := dk_78 (dk_at dksX1_routeLength_0 5 rfl rfl)
theorem dX1_routeLength_6 : decode cX1_routeLength 6 = .ok (.aload_n 0, 1) := dk_42 (dk_at dksX1_routeLength_0 6 rfl rfl)
theorem dX1_routeLength_7 : decode cX1_routeLength 7 = .ok (.aload_n 0, 1) := dk_42 (dk_at dksX1_routeLength_0 7 rfl rfl)
theorem dX1_routeLength_8 : decode cX1_routeLength 8 = .ok (.aload_n 3, 1) := dk_45 (dk_at dksX1_routeLength_0 8 rfl rfl)
theorem dX1_routeLength_9 : decode cX1_routeLength 9 = .ok (.aload_n 0, 1) := dk_42 (dk_at dksX1_routeLength_0 9 rfl rfl)
theorem dX1_routeLength_10 : decode cX1_routeLength 10 = .ok (.aload_n 3, 1) := dk_45 (dk_at dksX1_routeLength_0 10 rfl rfl)
theorem dX1_routeLength_11 : decode cX1_routeLength 11 = .ok (.iload_n 2, 1) := dk_28 (dk_at dksX1_routeLength_0 11 rfl rfl)
theorem dX1_routeLength_12 : decode cX1_routeLength 12 = .ok (.invokevirtual 302, 3) := dk_182 1 46 (dk_at dksX1_routeLength_0 12 rfl rfl)
theorem dX1_routeLength_15 : decode cX1_routeLength 15 = .ok (.invokevirtual 421, 3) := dk_182 1 165 (dk_at dksX1_routeLength_0 15 rfl rfl)
theorem dX1_routeLength_18 : decode cX1_routeLength 18 = .ok (.invokevirtual 425, 3) := dk_182 1 169 (dk_at dksX1_routeLength_0 18 rfl rfl)
theorem dX1_routeLength_21 : decode cX1_routeLength 21 = .ok (.sipush 1000, 3) := dk_17 3 232 (dk_at dksX1_routeLength_0 21 rfl rfl)
theorem dX1_routeLength_24 : decode cX1_routeLength 24 = .ok (.irem, 1) := dk_112 (dk_at dksX1_routeLength_1 0 rfl rfl)
theorem dX1_routeLength_25 : decode cX1_routeLength 25 = .ok (.ireturn, 1) := dk_172 (dk_at dksX1_routeLength_1 1 rfl rfl)
abbrev rm_X1_routeLength : Room := { frames := 9, cells := 4, slots := 19, locals := 146 }
def w_X1_routeLength (a0 : Option Nat) (a1 : Int32) (a2 : Int32) (h : AH) (P : Int32 → AH → Prop) (PX : String → AH → Prop) : Prop :=
  is_c h a0 [0] (
  w_X1_board a0 a1 h (fun y2 h2 =>
  is_c h2 a0 [0] (
  w_X1_connector a0 y2 a2 h2 (fun y12 h12 =>
  is_c h12 a0 [0] (
  w_X1_route a0 y2 y12 h12 (fun y15 h15 =>
  is_c h15 a0 [0] (
  w_X1_requireWay a0 y15 h15 (fun y18 h18 =>
  ¬ (1000 : Int32) = 0 ∧
  P (y18 - y18 / 1000 * 1000) h18) PX)))) PX)) PX)
theorem met_X1_routeLength (l : Launch) (hlt : l.stackTraces = false) (G : GG) (h : AH) (a0 : Option Nat) (a1 : Int32) (a2 : Int32) (P : Int32 → AH → Prop) (PX : String → AH → Prop) (hw : w_X1_routeLength a0 a1 a2 h P PX) : cx_i l yX1_routeLength (ws_ yX1_routeLength cX1_routeLength 4 (Option.some Jvm.ClassFile.FieldType.int)) rm_X1_routeLength G h [vR a0, vI a1, vI a2] P PX := by
  refine j_startXi hlt [(0, vR a0), (1, vI a1), (2, vI a2)] (by decide) rfl rfl (fun x X eG er en hQ hT hex => ?_)
  subst eG
  refine j_aload_n X (pc := 0) 0 dX1_routeLength_0 rfl rfl ?_
  refine j_iload_n X (pc := 1) 1 dX1_routeLength_1 rfl rfl ?_
  obtain ⟨b9, c9, f9, hr9, ho9, hc9, hw⟩ := hw
  obtain rfl := List.mem_singleton.mp hc9
  refine j_callXq (j_runVX (n8 := 1) (As := [vI a1]) (rest := []) X (pc := 2) hr9 (met_X1_board (xl x) X.hl (xG x) h a0 a1 _ _ hw) ho9 (by decide) rfl q297 q299 qs0 q71 q300 (by decide +kernel) dX1_routeLength_2 rfl ⟨Nat.le_of_ble_eq_true rfl, Nat.le_of_ble_eq_true rfl⟩ (Nat.le_of_ble_eq_true rfl) ⟨Nat.le_of_ble_eq_true rfl, Nat.le_of_ble_eq_true rfl⟩) (fun E h9 hx => j_out X hT hex (Nat.le_of_ble_eq_true rfl) (Nat.le_of_ble_eq_true rfl) hx) (fun y2 h2 hw => ?_)
  refine j_astore_n X (pc := 5) [(3, vR y2), (0, vR a0), (1, vI a1), (2, vI a2)] dX1_routeLength_5 rfl (Nat.le_of_ble_eq_true rfl) rfl ?_
  refine j_aload_n X (pc := 6) 1 dX1_routeLength_6 rfl rfl ?_
  refine j_aload_n X (pc := 7) 1 dX1_routeLength_7 rfl rfl ?_
  refine j_aload_n X (pc := 8) 0 dX1_routeLength_8 rfl rfl ?_
  refine j_aload_n X (pc := 9) 1 dX1_routeLength_9 rfl rfl ?_
  refine j_aload_n X (pc := 10) 0 dX1_routeLength_10 rfl rfl ?_
  refine j_iload_n X (pc := 11) 3 dX1_routeLength_11 rfl rfl ?_
  obtain ⟨b9, c9, f9, hr9, ho9, hc9, hw⟩ := hw
  obtain rfl := List.mem_singleton.mp hc9
  refine j_callXq (j_runVX (n8 := 2) (As := [vR y2, vI a2]) (rest := [vR y2, vR a0, vR a0]) X (pc := 12) hr9 (met_X1_connector (xl x) X.hl (xG x) h2 a0 y2 a2 _ _ hw) ho9 (by decide) rfl q1293 q1295 qs14 q71 q1296 (by decide +kernel) dX1_routeLength_12 rfl ⟨Nat.le_of_ble_eq_true rfl, Nat.le_of_ble_eq_true rfl⟩ (Nat.le_of_ble_eq_true rfl) ⟨Nat.le_of_ble_eq_true rfl, Nat.le_of_ble_eq_true rfl⟩) (fun E h9 hx => j_out X hT hex (Nat.le_of_ble_eq_true rfl) (Nat.le_of_ble_eq_true rfl) hx) (fun y12 h12 hw => ?_)
  obtain ⟨b9, c9, f9, hr9, ho9, hc9, hw⟩ := hw
  obtain rfl := List.mem_singleton.mp hc9
  refine j_calli (j_runV (n8 := 2) (As := [vR y2, vR y12]) (rest := [vR a0]) X (pc := 15) hr9 (met_X1_route (xl x) X.hl (xG x) h12 a0 y2 y12 _ hw) ho9 (by decide) rfl q1527 q1529 qs19 q71 q1530 (by decide +kernel) dX1_routeLength_15 rfl ⟨Nat.le_of_ble_eq_true rfl, Nat.le_of_ble_eq_true rfl⟩ (Nat.le_of_ble_eq_true rfl) ⟨Nat.le_of_ble_eq_true rfl, Nat.le_of_ble_eq_true rfl⟩) (fun y15 h15 hw => ?_)
  obtain ⟨b9, c9, f9, hr9, ho9, hc9, hw⟩ := hw
  obtain rfl := List.mem_singleton.mp hc9
  refine j_callXi (j_runVX (n8 := 1) (As := [vI y15]) (rest := []) X (pc := 18) hr9 (met_X1_requireWay (xl x) X.hl (xG x) h15 a0 y15 _ _ hw) ho9 (by decide) rfl q1566 q1568 qs25 q71 q1569 (by decide +kernel) dX1_routeLength_18 rfl ⟨Nat.le_of_ble_eq_true rfl, Nat.le_of_ble_eq_true rfl⟩ (Nat.le_of_ble_eq_true rfl) ⟨Nat.le_of_ble_eq_true rfl, Nat.le_of_ble_eq_true rfl⟩) (fun E h9 hx => j_out X hT hex (Nat.le_of_ble_eq_true rfl) (Nat.le_of_ble_eq_true rfl) hx) (fun y18 h18 hw => ?_)
  refine j_sipush X (pc := 21) 1000 dX1_routeLength_21 (by decide) ?_
  refine j_irem X (pc := 24) dX1_routeLength_24 hw (fun hw => ?_)
  exact j_iret X (pc := 25) hQ er (Nat.le_of_ble_eq_true rfl) (Nat.le_of_ble_eq_true rfl) dX1_routeLength_25 hw
abbrev cX0_routeLength : ByteArray := method_36_code
def yX0_routeLength : MethodName := ⟨RX0, "routeLength", "(LPlugboard;II[J)I"⟩
def dkwX0_routeLength_1 : List UInt8 := [172, 3, 172]
abbrev dktX0_routeLength_1 : List UInt8 := dkwX0_routeLength_1 ++ []
def dkwX0_routeLength_0 : List UInt8 := [45, 3, 42, 27, 28, 182, 0, 127, 133, 80, 167, 0, 15, 58, 4, 4, 172, 58, 4, 5, 172, 58, 4, 6]
abbrev dktX0_routeLength_0 : List UInt8 := dkwX0_routeLength_0 ++ dktX0_routeLength_1
theorem dksX0_routeLength_0 : cX0_routeLength.data.toList.drop 0 = dktX0_routeLength_0 := by decide +kernel
theorem dksX0_routeLength_1 : cX0_routeLength.data.toList.drop 24 = dktX0_routeLength_1 := dk_seg dksX0_routeLength_0 24 rfl rfl
theorem dX0_routeLength_0 : decode cX0_routeLength 0 = .ok (.aload_n 3, 1) := dk_45 (dk_at dksX0_routeLength_0 0 rfl rfl)
theorem dX0_routeLength_1 : decode cX0_routeLength 1 = .ok (.iconst 0, 1) := dk_3 (dk_at dksX0_routeLength_0 1 rfl rfl)
theorem dX0_routeLength_2 : decode cX0_routeLength 2 = .ok (.aload_n 0, 1) := dk_42 (dk_at dksX0_routeLength_0 2 rfl rfl)
theorem dX0_routeLength_3 : decode cX0_routeLength 3 = .ok (.iload_n 1, 1) := dk_27 (dk_at dksX0_routeLength_0 3 rfl rfl)
theorem dX0_routeLength_4 : decode cX0_routeLength 4 = .ok (.iload_n 2, 1) := dk_28 (dk_at dksX0_routeLength_0 4 rfl rfl)
theorem dX0_routeLength_5 : decode cX0_routeLength 5 = .ok (.invokevirtual 127, 3) := dk_182 0 127 (dk_at dksX0_routeLength_0 5 rfl rfl)
theorem dX0_routeLength_8 : decode cX0_routeLength 8 = .ok (.i2l, 1) := dk_133 (dk_at dksX0_routeLength_0 8 rfl rfl)
theorem dX0_routeLength_9 : decode cX0_routeLength 9 = .ok (.lastore, 1) := dk_80 (dk_at dksX0_routeLength_0 9 rfl rfl)
theorem dX0_routeLength_10 : decode cX0_routeLength 10 = .ok (.goto 15, 3) := dk_167 0 15 (dk_at dksX0_routeLength_0 10 rfl rfl)
theorem dX0_routeLength_13 : decode cX0_routeLength 13 = .ok (.astore 4, 2) := dk_58 4 (dk_at dksX0_routeLength_0 13 rfl rfl)
theorem dX0_routeLength_15 : decode cX0_routeLength 15 = .ok (.iconst 1, 1) := dk_4 (dk_at dksX0_routeLength_0 15 rfl rfl)
theorem dX0_routeLength_16 : decode cX0_routeLength 16 = .ok (.ireturn, 1) := dk_172 (dk_at dksX0_routeLength_0 16 rfl rfl)
theorem dX0_routeLength_17 : decode cX0_routeLength 17 = .ok (.astore 4, 2) := dk_58 4 (dk_at dksX0_routeLength_0 17 rfl rfl)
theorem dX0_routeLength_19 : decode cX0_routeLength 19 = .ok (.iconst 2, 1) := dk_5 (dk_at dksX0_routeLength_0 19 rfl rfl)
theorem dX0_routeLength_20 : decode cX0_routeLength 20 = .ok (.ireturn, 1) := dk_172 (dk_at dksX0_routeLength_0 20 rfl rfl)
theorem dX0_routeLength_21 : decode cX0_routeLength 21 = .ok (.astore 4, 2) := dk_58 4 (dk_at dksX0_routeLength_0 21 rfl rfl)
theorem dX0_routeLength_23 : decode cX0_routeLength 23 = .ok (.iconst 3, 1) := dk_6 (dk_at dksX0_routeLength_0 23 rfl rfl)
theorem dX0_routeLength_24 : decode cX0_routeLength 24 = .ok (.ireturn, 1) := dk_172 (dk_at dksX0_routeLength_1 0 rfl rfl)
theorem dX0_routeLength_25 : decode cX0_routeLength 25 = .ok (.iconst 0, 1) := dk_3 (dk_at dksX0_routeLength_1 1 rfl rfl)
theorem dX0_routeLength_26 : decode cX0_routeLength 26 = .ok (.ireturn, 1) := dk_172 (dk_at dksX0_routeLength_1 2 rfl rfl)
theorem q1584 : (Jvm.Cond.methodLink "PlugboardLaw" (127 : Nat) ({ cls := "Plugboard", name := "routeLength", desc := "(II)I" } : Jvm.MethodName)) ∈ lw_all := lw_g (lw_at lw_m7 74 rfl) rfl
theorem q1585 : (Jvm.Cond.instanceMethod ({ cls := "Plugboard", name := "routeLength", desc := "(II)I" } : Jvm.MethodName)) ∈ lw_all := lw_g (lw_at lw_m7 75 rfl) rfl
theorem q1586 : (Jvm.Cond.selects "Plugboard" ({ cls := "Plugboard", name := "routeLength", desc := "(II)I" } : Jvm.MethodName) ({ cls := "Plugboard", name := "routeLength", desc := "(II)I" } : Jvm.MethodName)) ∈ lw_all := lw_g (lw_at lw_m7 76 rfl) rfl
theorem q1587 : (Jvm.Cond.code ({ cls := "Plugboard", name := "routeLength", desc := "(II)I" } : Jvm.MethodName) prog_1_method_73_code (4 : Nat) (Option.some Jvm.ClassFile.FieldType.int)) ∈ lw_all := lw_g (lw_at lw_m7 77 rfl) rfl
abbrev rm_X0_routeLength : Room := { frames := 10, cells := 4, slots := 19, locals := 169 }
def w_X0_routeLength (a0 : Option Nat) (a1 : Int32) (a2 : Int32) (a3 : Option Nat) (h : AH) (P : Int32 → AH → Prop) : Prop :=
  is_c h a0 [0] (
  w_X1_routeLength a0 a1 a2 h (fun y5 h5 =>
  s_L h5 a3 0 (Int32.toInt64 y5) fun h9 =>
  P 0 h9)
    (fun E9 h9 => (E9 = "java/lang/IllegalArgumentException" ∧ ∀ q9 : Nat,
    P 1 h9) ∨
    (E9 = "java/util/NoSuchElementException" ∧ ∀ q9 : Nat,
    P 2 h9) ∨
    (E9 = "java/lang/UnsupportedOperationException" ∧ ∀ q9 : Nat,
    P 3 h9)))
theorem met_X0_routeLength (l : Launch) (hlt : l.stackTraces = false) (G : GG) (h : AH) (a0 : Option Nat) (a1 : Int32) (a2 : Int32) (a3 : Option Nat) (P : Int32 → AH → Prop) (hw : w_X0_routeLength a0 a1 a2 a3 h P) : ct_i l yX0_routeLength (wsW_ yX0_routeLength cX0_routeLength 5 (Option.some Jvm.ClassFile.FieldType.int) [((0 : Nat), (10 : Nat), (13 : Nat), (13 : Nat)), ((0 : Nat), (10 : Nat), (17 : Nat), (21 : Nat)), ((0 : Nat), (10 : Nat), (21 : Nat), (23 : Nat))]) rm_X0_routeLength G h [vR a0, vI a1, vI a2, vR a3] P := by
  refine j_startWi hlt [(0, vR a0), (1, vI a1), (2, vI a2), (3, vR a3)] (by decide) rfl rfl (fun x X eG er en hQ hex => ?_)
  subst eG
  refine j_aload_n X (pc := 0) 3 dX0_routeLength_0 rfl rfl ?_
  refine j_iconst X (pc := 1) 0 dX0_routeLength_1 (by decide) ?_
  refine j_aload_n X (pc := 2) 0 dX0_routeLength_2 rfl rfl ?_
  refine j_iload_n X (pc := 3) 1 dX0_routeLength_3 rfl rfl ?_
  refine j_iload_n X (pc := 4) 2 dX0_routeLength_4 rfl rfl ?_
  obtain ⟨b9, c9, f9, hr9, ho9, hc9, hw⟩ := hw
  obtain rfl := List.mem_singleton.mp hc9
  refine j_callXi (j_runVX (n8 := 2) (As := [vI a1, vI a2]) (rest := [vI 0, vR a3]) X (pc := 5) hr9 (met_X1_routeLength (xl x) X.hl (xG x) h a0 a1 a2 _ _ hw) ho9 (by decide) rfl q1584 q1585 q1586 q71 q1587 (by decide +kernel) dX0_routeLength_5 rfl ⟨Nat.le_of_ble_eq_true rfl, Nat.le_of_ble_eq_true rfl⟩ (Nat.le_of_ble_eq_true rfl) ⟨Nat.le_of_ble_eq_true rfl, Nat.le_of_ble_eq_true rfl⟩) ?_ (fun y5 h5 hw => ?_)
  · intro E9 h9 hx
    rcases hx with ⟨rfl, hw⟩ | ⟨rfl, hw⟩ | ⟨rfl, hw⟩
    · refine j_catch X (pc := 5) "java/lang/IllegalArgumentException" hex [] [⟨0, 10, 17, 21⟩, ⟨0, 10, 21, 23⟩] ⟨0, 10, 13, 13⟩ rfl (by intro y hy; cases hy) (by decide) (by decide) q291 q312 (fun q9 => ?_)
      have hw := hw q9
      refine j_astore X (pc := 13) [(4, vR (some q9)), (0, vR a0), (1, vI a1), (2, vI a2), (3, vR a3)] dX0_routeLength_13 (Nat.le_of_ble_eq_true rfl) rfl ?_
      refine j_iconst X (pc := 15) 1 dX0_routeLength_15 (by decide) ?_
      exact j_iret X (pc := 16) hQ er (Nat.le_of_ble_eq_true rfl) (Nat.le_of_ble_eq_true rfl) dX0_routeLength_16 hw
    · refine j_catch X (pc := 5) "java/util/NoSuchElementException" hex [⟨0, 10, 13, 13⟩] [⟨0, 10, 21, 23⟩] ⟨0, 10, 17, 21⟩ rfl (by intro y hy; simp only [List.mem_cons, List.not_mem_nil, or_false] at hy; subst hy; exact Or.inr ⟨by decide, "java/lang/IllegalArgumentException", q291, by decide +kernel⟩) (by decide) (by decide) q1068 q537 (fun q9 => ?_)
      have hw := hw q9
      refine j_astore X (pc := 17) [(4, vR (some q9)), (0, vR a0), (1, vI a1), (2, vI a2), (3, vR a3)] dX0_routeLength_17 (Nat.le_of_ble_eq_true rfl) rfl ?_
      refine j_iconst X (pc := 19) 2 dX0_routeLength_19 (by decide) ?_
      exact j_iret X (pc := 20) hQ er (Nat.le_of_ble_eq_true rfl) (Nat.le_of_ble_eq_true rfl) dX0_routeLength_20 hw
    · refine j_catch X (pc := 5) "java/lang/UnsupportedOperationException" hex [⟨0, 10, 13, 13⟩, ⟨0, 10, 17, 21⟩] [] ⟨0, 10, 21, 23⟩ rfl (by intro y hy; simp only [List.mem_cons, List.not_mem_nil, or_false] at hy; rcases hy with rfl | rfl <;> first | exact Or.inr ⟨by decide, "java/lang/IllegalArgumentException", q291, by decide +kernel⟩ | exact Or.inr ⟨by decide, "java/util/NoSuchElementException", q1068, by decide +kernel⟩) (by decide) (by decide) q1069 q1102 (fun q9 => ?_)
      have hw := hw q9
      refine j_astore X (pc := 21) [(4, vR (some q9)), (0, vR a0), (1, vI a1), (2, vI a2), (3, vR a3)] dX0_routeLength_21 (Nat.le_of_ble_eq_true rfl) rfl ?_
      refine j_iconst X (pc := 23) 3 dX0_routeLength_23 (by decide) ?_
      exact j_iret X (pc := 24) hQ er (Nat.le_of_ble_eq_true rfl) (Nat.le_of_ble_eq_true rfl) dX0_routeLength_24 hw
  refine j_i2l X (pc := 8) dX0_routeLength_8 ?_
  refine j_last X (pc := 9) dX0_routeLength_9 hw (fun h9 hw => ?_)
  refine j_goto X (pc := 10) 25 dX0_routeLength_10 (by decide) ?_
  refine j_iconst X (pc := 25) 0 dX0_routeLength_25 (by decide) ?_
  exact j_iret X (pc := 26) hQ er (Nat.le_of_ble_eq_true rfl) (Nat.le_of_ble_eq_true rfl) dX0_routeLength_26 hw
abbrev cX5_routeLength : ByteArray := prog_19_method_77_code
def yX5_routeLength : MethodName := ⟨RX5, "routeLength", "(II)I"⟩
def dkwX5_routeLength_0 : List UInt8 := [42, 27, 28, 182, 1, 8, 17, 3, 232, 112, 172]
abbrev dktX5_routeLength_0 : List UInt8 := dkwX5_routeLength_0 ++ []
theorem dksX5_routeLength_0 : cX5_routeLength.data.toList.drop 0 = dktX5_routeLength_0 := by decide +kernel
theorem dX5_routeLength_0 : decode cX5_routeLength 0 = .ok (.aload_n 0, 1) := dk_42 (dk_at dksX5_routeLength_0 0 rfl rfl)
theorem dX5_routeLength_1 : decode cX5_routeLength 1 = .ok (.iload_n 1, 1) := dk_27 (dk_at dksX5_routeLength_0 1 rfl rfl)
theorem dX5_routeLength_2 : decode cX5_routeLength 2 = .ok (.iload_n 2, 1) := dk_28 (dk_at dksX5_routeLength_0 2 rfl rfl)
theorem dX5_routeLength_3 : decode cX5_routeLength 3 = .ok (.invokevirtual 264, 3) := dk_182 1 8 (dk_at dksX5_routeLength_0 3 rfl rfl)
theorem dX5_routeLength_6 : decode cX5_routeLength 6 = .ok (.sipush 1000, 3) := dk_17 3 232 (dk_at dksX5_routeLength_0 6 rfl rfl)
theorem dX5_routeLength_9 : decode cX5_routeLength 9 = .ok (.irem, 1) := dk_112 (dk_at dksX5_routeLength_0 9 rfl rfl)
theorem dX5_routeLength_10 : decode cX5_routeLength 10 = .ok (.ireturn, 1) := dk_172 (dk_at dksX5_routeLength_0 10 rfl rfl)
abbrev rm_X5_routeLength : Room := { frames := 5, cells := 0, slots := 0, locals := 126 }
def w_X5_routeLength (a0 : Option Nat) (a1 : Int32) (a2 : Int32) (h : AH) (P : Int32 → AH → Prop) : Prop :=
  is_c h a0 [4] (
  w_X5_asked a0 a1 a2 h (fun y3 h3 =>
  ¬ (1000 : Int32) = 0 ∧
  P (y3 - y3 / 1000 * 1000) h3))
theorem met_X5_routeLength (l : Launch) (hlt : l.stackTraces = false) (G : GG) (h : AH) (a0 : Option Nat) (a1 : Int32) (a2 : Int32) (P : Int32 → AH → Prop) (hw : w_X5_routeLength a0 a1 a2 h P) : ct_i l yX5_routeLength (ws_ yX5_routeLength cX5_routeLength 3 (Option.some Jvm.ClassFile.FieldType.int)) rm_X5_routeLength G h [vR a0, vI a1, vI a2] P := by
  refine j_starti hlt [(0, vR a0), (1, vI a1), (2, vI a2)] (plainFor_of_name (by decide)) rfl rfl (fun x X eG er en hQ => ?_)
  subst eG
  refine j_aload_n X (pc := 0) 0 dX5_routeLength_0 rfl rfl ?_
  refine j_iload_n X (pc := 1) 1 dX5_routeLength_1 rfl rfl ?_
  refine j_iload_n X (pc := 2) 2 dX5_routeLength_2 rfl rfl ?_
  obtain ⟨b9, c9, f9, hr9, ho9, hc9, hw⟩ := hw
  obtain rfl := List.mem_singleton.mp hc9
  refine j_calli (j_runV (n8 := 2) (As := [vI a1, vI a2]) (rest := []) X (pc := 3) hr9 (met_X5_asked (xl x) X.hl (xG x) h a0 a1 a2 _ hw) ho9 (by decide) rfl q2235 q2237 qs61 q78 q2238 (by decide +kernel) dX5_routeLength_3 rfl ⟨Nat.le_of_ble_eq_true rfl, Nat.le_of_ble_eq_true rfl⟩ (Nat.le_of_ble_eq_true rfl) ⟨Nat.le_of_ble_eq_true rfl, Nat.le_of_ble_eq_true rfl⟩) (fun y3 h3 hw => ?_)
  refine j_sipush X (pc := 6) 1000 dX5_routeLength_6 (by decide) ?_
  refine j_irem X (pc := 9) dX5_routeLength_9 hw (fun hw => ?_)
  exact j_iret X (pc := 10) hQ er (Nat.le_of_ble_eq_true rfl) (Nat.le_of_ble_eq_true rfl) dX5_routeLength_10 hw
abbrev cX1_ownVotes : ByteArray := prog_1_method_74_code
def yX1_ownVotes : MethodName := ⟨RX1, "ownVotes", "(II)I"⟩
def dkwX1_ownVotes_1 : List UInt8 := [184, 1, 56, 46, 172]
abbrev dktX1_ownVotes_1 : List UInt8 := dkwX1_ownVotes_1 ++ []
def dkwX1_ownVotes_0 : List UInt8 := [42, 27, 182, 0, 199, 78, 45, 180, 0, 136, 180, 0, 139, 27, 42, 45, 28, 182, 0, 241, 180, 1, 8]
abbrev dktX1_ownVotes_0 : List UInt8 := dkwX1_ownVotes_0 ++ dktX1_ownVotes_1
theorem dksX1_ownVotes_0 : cX1_ownVotes.data.toList.drop 0 = dktX1_ownVotes_0 := by decide +kernel
theorem dksX1_ownVotes_1 : cX1_ownVotes.data.toList.drop 23 = dktX1_ownVotes_1 := dk_seg dksX1_ownVotes_0 23 rfl rfl
theorem dX1_ownVotes_0 : decode cX1_ownVotes 0 = .ok (.aload_n 0, 1) := dk_42 (dk_at dksX1_ownVotes_0 0 rfl rfl)
theorem dX1_ownVotes_1 : decode cX1_ownVotes 1 = .ok (.iload_n 1, 1) := dk_27 (dk_at dksX1_ownVotes_0 1 rfl rfl)
theorem dX1_ownVotes_2 : decode cX1_ownVotes 2 = .ok (.invokevirtual 199, 3) := dk_182 0 199 (dk_at dksX1_ownVotes_0 2 rfl rfl)
theorem dX1_ownVotes_5 : decode cX1_ownVotes 5 = .ok (.astore_n 3, 1) := dk_78 (dk_at dksX1_ownVotes_0 5 rfl rfl)
theorem dX1_ownVotes_6 : decode cX1_ownVotes 6 = .ok (.aload_n 3, 1) := dk_45 (dk_at dksX1_ownVotes_0 6 rfl rfl)
theorem dX1_ownVotes_7 : decode cX1_ownVotes 7 = .ok (.getfield 136, 3) := dk_180 0 136 (dk_at dksX1_ownVotes_0 7 rfl rfl)
theorem dX1_ownVotes_10 : decode cX1_ownVotes 10 = .ok (.getfield 139, 3) := dk_180 0 139 (dk_at dksX1_ownVotes_0 10 rfl rfl)
theorem dX1_ownVotes_13 : decode cX1_ownVotes 13 = .ok (.iload_n 1, 1) := dk_27 (dk_at dksX1_ownVotes_0 13 rfl rfl)
theorem dX1_ownVotes_14 : decode cX1_ownVotes 14 = .ok (.aload_n 0, 1) := dk_42 (dk_at dksX1_ownVotes_0 14 rfl rfl)
theorem dX1_ownVotes_15 : decode cX1_ownVotes 15 = .ok (.aload_n 3, 1) := dk_45 (dk_at dksX1_ownVotes_0 15 rfl rfl)
theorem dX1_ownVotes_16 : decode cX1_ownVotes 16 = .ok (.iload_n 2, 1) := dk_28 (dk_at dksX1_ownVotes_0 16 rfl rfl)
theorem dX1_ownVotes_17 : decode cX1_ownVotes 17 = .ok (.invokevirtual 241, 3) := dk_182 0 241 (dk_at dksX1_ownVotes_0 17 rfl rfl)
theorem dX1_ownVotes_20 : decode cX1_ownVotes 20 = .ok (.getfield 264, 3) := dk_180 1 8 (dk_at dksX1_ownVotes_0 20 rfl rfl)
theorem dX1_ownVotes_23 : decode cX1_ownVotes 23 = .ok (.invokestatic 312, 3) := dk_184 1 56 (dk_at dksX1_ownVotes_1 0 rfl rfl)
theorem dX1_ownVotes_26 : decode cX1_ownVotes 26 = .ok (.iaload, 1) := dk_46 (dk_at dksX1_ownVotes_1 3 rfl rfl)
theorem dX1_ownVotes_27 : decode cX1_ownVotes 27 = .ok (.ireturn, 1) := dk_172 (dk_at dksX1_ownVotes_1 4 rfl rfl)
abbrev rm_X1_ownVotes : Room := { frames := 9, cells := 3, slots := 13, locals := 146 }
def w_X1_ownVotes (a0 : Option Nat) (a1 : Int32) (a2 : Int32) (h : AH) (P : Int32 → AH → Prop) (PX : String → AH → Prop) : Prop :=
  is_c h a0 [0] (
  w_X1_board a0 a1 h (fun y2 h2 =>
  g_q h2 y2 2 1 fun y7 =>
  g_q h2 y7 1 0 fun y10 =>
  is_c h2 a0 [0] (
  w_X1_shape a0 y2 a2 h2 (fun y17 h17 =>
  g_iS h17 y17 0 fun y20 =>
  w_X1_votesField a1 y20 h17 (fun y23 h23 =>
  l_i h23 y10 0 y23 fun y26 =>
  P y26 h23)) PX)) PX)
theorem met_X1_ownVotes (l : Launch) (hlt : l.stackTraces = false) (G : GG) (h : AH) (a0 : Option Nat) (a1 : Int32) (a2 : Int32) (P : Int32 → AH → Prop) (PX : String → AH → Prop) (hw : w_X1_ownVotes a0 a1 a2 h P PX) : cx_i l yX1_ownVotes (ws_ yX1_ownVotes cX1_ownVotes 4 (Option.some Jvm.ClassFile.FieldType.int)) rm_X1_ownVotes G h [vR a0, vI a1, vI a2] P PX := by
  refine j_startXi hlt [(0, vR a0), (1, vI a1), (2, vI a2)] (by decide) rfl rfl (fun x X eG er en hQ hT hex => ?_)
  subst eG
  refine j_aload_n X (pc := 0) 0 dX1_ownVotes_0 rfl rfl ?_
  refine j_iload_n X (pc := 1) 1 dX1_ownVotes_1 rfl rfl ?_
  obtain ⟨b9, c9, f9, hr9, ho9, hc9, hw⟩ := hw
  obtain rfl := List.mem_singleton.mp hc9
  refine j_callXq (j_runVX (n8 := 1) (As := [vI a1]) (rest := []) X (pc := 2) hr9 (met_X1_board (xl x) X.hl (xG x) h a0 a1 _ _ hw) ho9 (by decide) rfl q297 q299 qs0 q71 q300 (by decide +kernel) dX1_ownVotes_2 rfl ⟨Nat.le_of_ble_eq_true rfl, Nat.le_of_ble_eq_true rfl⟩ (Nat.le_of_ble_eq_true rfl) ⟨Nat.le_of_ble_eq_true rfl, Nat.le_of_ble_eq_true rfl⟩) (fun E h9 hx => j_out X hT hex (Nat.le_of_ble_eq_true rfl) (Nat.le_of_ble_eq_true rfl) hx) (fun y2 h2 hw => ?_)
  refine j_astore_n X (pc := 5) [(3, vR y2), (0, vR a0), (1, vI a1), (2, vI a2)] dX1_ownVotes_5 rfl (Nat.le_of_ble_eq_true rfl) rfl ?_
  refine j_aload_n X (pc := 6) 0 dX1_ownVotes_6 rfl rfl ?_
  refine j_getqN (ci := 2) X (pc := 7) in_X3 rfl (by decide) 1 (by decide) q210 (Or.inl rfl) dX1_ownVotes_7 hw (fun y7 hw => ?_)
  refine j_getqN (ci := 1) X (pc := 10) in_X2 rfl (by decide) 0 (by decide) q168 (Or.inl rfl) dX1_ownVotes_10 hw (fun y10 hw => ?_)
  refine j_iload_n X (pc := 13) 2 dX1_ownVotes_13 rfl rfl ?_
  refine j_aload_n X (pc := 14) 1 dX1_ownVotes_14 rfl rfl ?_
  refine j_aload_n X (pc := 15) 0 dX1_ownVotes_15 rfl rfl ?_
  refine j_iload_n X (pc := 16) 3 dX1_ownVotes_16 rfl rfl ?_
  obtain ⟨b9, c9, f9, hr9, ho9, hc9, hw⟩ := hw
  obtain rfl := List.mem_singleton.mp hc9
  refine j_callXq (j_runVX (n8 := 2) (As := [vR y2, vI a2]) (rest := [vI a1, vR y10]) X (pc := 17) hr9 (met_X1_shape (xl x) X.hl (xG x) h2 a0 y2 a2 _ _ hw) ho9 (by decide) rfl q1075 q1077 qs9 q71 q1078 (by decide +kernel) dX1_ownVotes_17 rfl ⟨Nat.le_of_ble_eq_true rfl, Nat.le_of_ble_eq_true rfl⟩ (Nat.le_of_ble_eq_true rfl) ⟨Nat.le_of_ble_eq_true rfl, Nat.le_of_ble_eq_true rfl⟩) (fun E h9 hx => j_out X hT hex (Nat.le_of_ble_eq_true rfl) (Nat.le_of_ble_eq_true rfl) hx) (fun y17 h17 hw => ?_)
  refine j_getiSN X (pc := 20) 0 (by decide) q578 dX1_ownVotes_20 hw (fun y20 hw => ?_)
  refine j_calli (j_runS (n8 := 2) (As := [vI a1, vI y20]) (rest := [vR y10]) X (pc := 23) (met_X1_votesField (xl x) X.hl (xG x) h17 a1 y20 _ hw) q1329 q1330 q71 q1331 (by decide +kernel) dX1_ownVotes_23 rfl ⟨Nat.le_of_ble_eq_true rfl, Nat.le_of_ble_eq_true rfl⟩ (Nat.le_of_ble_eq_true rfl) ⟨Nat.le_of_ble_eq_true rfl, Nat.le_of_ble_eq_true rfl⟩) (fun y23 h23 hw => ?_)
  refine j_iald X (pc := 26) 0 rfl dX1_ownVotes_26 hw (fun y26 hw => ?_)
  exact j_iret X (pc := 27) hQ er (Nat.le_of_ble_eq_true rfl) (Nat.le_of_ble_eq_true rfl) dX1_ownVotes_27 hw
abbrev cX0_ownVotes : ByteArray := method_37_code
def yX0_ownVotes : MethodName := ⟨RX0, "ownVotes", "(LPlugboard;II[J)I"⟩
def dkwX0_ownVotes_0 : List UInt8 := [45, 3, 42, 27, 28, 182, 0, 130, 133, 80, 167, 0, 11, 58, 4, 4, 172, 58, 4, 5, 172, 3, 172]
abbrev dktX0_ownVotes_0 : List UInt8 := dkwX0_ownVotes_0 ++ []
theorem dksX0_ownVotes_0 : cX0_ownVotes.data.toList.drop 0 = dktX0_ownVotes_0 := by decide +kernel
theorem dX0_ownVotes_0 : decode cX0_ownVotes 0 = .ok (.aload_n 3, 1) := dk_45 (dk_at dksX0_ownVotes_0 0 rfl rfl)
theorem dX0_ownVotes_1 : decode cX0_ownVotes 1 = .ok (.iconst 0, 1) := dk_3 (dk_at dksX0_ownVotes_0 1 rfl rfl)
theorem dX0_ownVotes_2 : decode cX0_ownVotes 2 = .ok (.aload_n 0, 1) := dk_42 (dk_at dksX0_ownVotes_0 2 rfl rfl)
theorem dX0_ownVotes_3 : decode cX0_ownVotes 3 = .ok (.iload_n 1, 1) := dk_27 (dk_at dksX0_ownVotes_0 3 rfl rfl)
theorem dX0_ownVotes_4 : decode cX0_ownVotes 4 = .ok (.iload_n 2, 1) := dk_28 (dk_at dksX0_ownVotes_0 4 rfl rfl)
theorem dX0_ownVotes_5 : decode cX0_ownVotes 5 = .ok (.invokevirtual 130, 3) := dk_182 0 130 (dk_at dksX0_ownVotes_0 5 rfl rfl)
theorem dX0_ownVotes_8 : decode cX0_ownVotes 8 = .ok (.i2l, 1) := dk_133 (dk_at dksX0_ownVotes_0 8 rfl rfl)
theorem dX0_ownVotes_9 : decode cX0_ownVotes 9 = .ok (.lastore, 1) := dk_80 (dk_at dksX0_ownVotes_0 9 rfl rfl)
theorem dX0_ownVotes_10 : decode cX0_ownVotes 10 = .ok (.goto 11, 3) := dk_167 0 11 (dk_at dksX0_ownVotes_0 10 rfl rfl)
theorem dX0_ownVotes_13 : decode cX0_ownVotes 13 = .ok (.astore 4, 2) := dk_58 4 (dk_at dksX0_ownVotes_0 13 rfl rfl)
theorem dX0_ownVotes_15 : decode cX0_ownVotes 15 = .ok (.iconst 1, 1) := dk_4 (dk_at dksX0_ownVotes_0 15 rfl rfl)
theorem dX0_ownVotes_16 : decode cX0_ownVotes 16 = .ok (.ireturn, 1) := dk_172 (dk_at dksX0_ownVotes_0 16 rfl rfl)
theorem dX0_ownVotes_17 : decode cX0_ownVotes 17 = .ok (.astore 4, 2) := dk_58 4 (dk_at dksX0_ownVotes_0 17 rfl rfl)
theorem dX0_ownVotes_19 : decode cX0_ownVotes 19 = .ok (.iconst 2, 1) := dk_5 (dk_at dksX0_ownVotes_0 19 rfl rfl)
theorem dX0_ownVotes_20 : decode cX0_ownVotes 20 = .ok (.ireturn, 1) := dk_172 (dk_at dksX0_ownVotes_0 20 rfl rfl)
theorem dX0_ownVotes_21 : decode cX0_ownVotes 21 = .ok (.iconst 0, 1) := dk_3 (dk_at dksX0_ownVotes_0 21 rfl rfl)
theorem dX0_ownVotes_22 : decode cX0_ownVotes 22 = .ok (.ireturn, 1) := dk_172 (dk_at dksX0_ownVotes_0 22 rfl rfl)
theorem q1591 : (Jvm.Cond.methodLink "PlugboardLaw" (130 : Nat) ({ cls := "Plugboard", name := "ownVotes", desc := "(II)I" } : Jvm.MethodName)) ∈ lw_all := lw_g (lw_at lw_m7 81 rfl) rfl
theorem q1592 : (Jvm.Cond.instanceMethod ({ cls := "Plugboard", name := "ownVotes", desc := "(II)I" } : Jvm.MethodName)) ∈ lw_all := lw_g (lw_at lw_m7 82 rfl) rfl
theorem q1593 : (Jvm.Cond.selects "Plugboard" ({ cls := "Plugboard", name := "ownVotes", desc := "(II)I" } : Jvm.MethodName) ({ cls := "Plugboard", name := "ownVotes", desc := "(II)I" } : Jvm.MethodName)) ∈ lw_all := lw_g (lw_at lw_m7 83 rfl) rfl
theorem q1594 : (Jvm.Cond.code ({ cls := "Plugboard", name := "ownVotes", desc := "(II)I" } : Jvm.MethodName) prog_1_method_74_code (4 : Nat) (Option.some Jvm.ClassFile.FieldType.int)) ∈ lw_all := lw_g (lw_at lw_m7 84 rfl) rfl
abbrev rm_X0_ownVotes : Room := { frames := 10, cells := 3, slots := 13, locals := 169 }
def w_X0_ownVotes (a0 : Option Nat) (a1 : Int32) (a2 : Int32) (a3 : Option Nat) (h : AH) (P : Int32 → AH → Prop) : Prop :=
  is_c h a0 [0] (
  w_X1_ownVotes a0 a1 a2 h (fun y5 h5 =>
  s_L h5 a3 0 (Int32.toInt64 y5) fun h9 =>
  P 0 h9)
    (fun E9 h9 => (E9 = "java/lang/IllegalArgumentException" ∧ ∀ q9 : Nat,
    P 1 h9) ∨
    (E9 = "java/util/NoSuchElementException" ∧ ∀ q9 : Nat,
    P 2 h9)))
theorem met_X0_ownVotes (l : Launch) (hlt : l.stackTraces = false) (G : GG) (h : AH) (a0 : Option Nat) (a1 : Int32) (a2 : Int32) (a3 : Option Nat) (P : Int32 → AH → Prop) (hw : w_X0_ownVotes a0 a1 a2 a3 h P) : ct_i l yX0_ownVotes (wsW_ yX0_ownVotes cX0_ownVotes 5 (Option.some Jvm.ClassFile.FieldType.int) [((0 : Nat), (10 : Nat), (13 : Nat), (13 : Nat)), ((0 : Nat), (10 : Nat), (17 : Nat), (21 : Nat))]) rm_X0_ownVotes G h [vR a0, vI a1, vI a2, vR a3] P := by
  refine j_startWi hlt [(0, vR a0), (1, vI a1), (2, vI a2), (3, vR a3)] (by decide) rfl rfl (fun x X eG er en hQ hex => ?_)
  subst eG
  refine j_aload_n X (pc := 0) 3 dX0_ownVotes_0 rfl rfl ?_
  refine j_iconst X (pc := 1) 0 dX0_ownVotes_1 (by decide) ?_
  refine j_aload_n X (pc := 2) 0 dX0_ownVotes_2 rfl rfl ?_
  refine j_iload_n X (pc := 3) 1 dX0_ownVotes_3 rfl rfl ?_
  refine j_iload_n X (pc := 4) 2 dX0_ownVotes_4 rfl rfl ?_
  obtain ⟨b9, c9, f9, hr9, ho9, hc9, hw⟩ := hw
  obtain rfl := List.mem_singleton.mp hc9
  refine j_callXi (j_runVX (n8 := 2) (As := [vI a1, vI a2]) (rest := [vI 0, vR a3]) X (pc := 5) hr9 (met_X1_ownVotes (xl x) X.hl (xG x) h a0 a1 a2 _ _ hw) ho9 (by decide) rfl q1591 q1592 q1593 q71 q1594 (by decide +kernel) dX0_ownVotes_5 rfl ⟨Nat.le_of_ble_eq_true rfl, Nat.le_of_ble_eq_true rfl⟩ (Nat.le_of_ble_eq_true rfl) ⟨Nat.le_of_ble_eq_true rfl, Nat.le_of_ble_eq_true rfl⟩) ?_ (fun y5 h5 hw => ?_)
  · intro E9 h9 hx
    rcases hx with ⟨rfl, hw⟩ | ⟨rfl, hw⟩
    · refine j_catch X (pc := 5) "java/lang/IllegalArgumentException" hex [] [⟨0, 10, 17, 21⟩] ⟨0, 10, 13, 13⟩ rfl (by intro y hy; cases hy) (by decide) (by decide) q291 q312 (fun q9 => ?_)
      have hw := hw q9
      refine j_astore X (pc := 13) [(4, vR (some q9)), (0, vR a0), (1, vI a1), (2, vI a2), (3, vR a3)] dX0_ownVotes_13 (Nat.le_of_ble_eq_true rfl) rfl ?_
      refine j_iconst X (pc := 15) 1 dX0_ownVotes_15 (by decide) ?_
      exact j_iret X (pc := 16) hQ er (Nat.le_of_ble_eq_true rfl) (Nat.le_of_ble_eq_true rfl) dX0_ownVotes_16 hw
    · refine j_catch X (pc := 5) "java/util/NoSuchElementException" hex [⟨0, 10, 13, 13⟩] [] ⟨0, 10, 17, 21⟩ rfl (by intro y hy; simp only [List.mem_cons, List.not_mem_nil, or_false] at hy; subst hy; exact Or.inr ⟨by decide, "java/lang/IllegalArgumentException", q291, by decide +kernel⟩) (by decide) (by decide) q1068 q537 (fun q9 => ?_)
      have hw := hw q9
      refine j_astore X (pc := 17) [(4, vR (some q9)), (0, vR a0), (1, vI a1), (2, vI a2), (3, vR a3)] dX0_ownVotes_17 (Nat.le_of_ble_eq_true rfl) rfl ?_
      refine j_iconst X (pc := 19) 2 dX0_ownVotes_19 (by decide) ?_
      exact j_iret X (pc := 20) hQ er (Nat.le_of_ble_eq_true rfl) (Nat.le_of_ble_eq_true rfl) dX0_ownVotes_20 hw
  refine j_i2l X (pc := 8) dX0_ownVotes_8 ?_
  refine j_last X (pc := 9) dX0_ownVotes_9 hw (fun h9 hw => ?_)
  refine j_goto X (pc := 10) 21 dX0_ownVotes_10 (by decide) ?_
  refine j_iconst X (pc := 21) 0 dX0_ownVotes_21 (by decide) ?_
  exact j_iret X (pc := 22) hQ er (Nat.le_of_ble_eq_true rfl) (Nat.le_of_ble_eq_true rfl) dX0_ownVotes_22 hw
abbrev cX5_ownVotes : ByteArray := prog_19_method_78_code
def yX5_ownVotes : MethodName := ⟨RX5, "ownVotes", "(II)I"⟩
def dkwX5_ownVotes_1 : List UInt8 := [28, 96, 46, 172]
abbrev dktX5_ownVotes_1 : List UInt8 := dkwX5_ownVotes_1 ++ []
def dkwX5_ownVotes_0 : List UInt8 := [42, 27, 28, 182, 0, 231, 153, 0, 7, 3, 167, 0, 17, 42, 180, 0, 67, 16, 56, 16, 12, 27, 104, 96]
abbrev dktX5_ownVotes_0 : List UInt8 := dkwX5_ownVotes_0 ++ dktX5_ownVotes_1
theorem dksX5_ownVotes_0 : cX5_ownVotes.data.toList.drop 0 = dktX5_ownVotes_0 := by decide +kernel
theorem dksX5_ownVotes_1 : cX5_ownVotes.data.toList.drop 24 = dktX5_ownVotes_1 := dk_seg dksX5_ownVotes_0 24 rfl rfl
theorem dX5_ownVotes_0 : decode cX5_ownVotes 0 = .ok (.aload_n 0, 1) := dk_42 (dk_at dksX5_ownVotes_0 0 rfl rfl)
theorem dX5_ownVotes_1 : decode cX5_ownVotes 1 = .ok (.iload_n 1, 1) := dk_27 (dk_at dksX5_ownVotes_0 1 rfl rfl)
theorem dX5_ownVotes_2 : decode cX5_ownVotes 2 = .ok (.iload_n 2, 1) := dk_28 (dk_at dksX5_ownVotes_0 2 rfl rfl)
theorem dX5_ownVotes_3 : decode cX5_ownVotes 3 = .ok (.invokevirtual 231, 3) := dk_182 0 231 (dk_at dksX5_ownVotes_0 3 rfl rfl)
theorem dX5_ownVotes_6 : decode cX5_ownVotes 6 = .ok (.ifCond .eq 7, 3) := dk_153 0 7 (dk_at dksX5_ownVotes_0 6 rfl rfl)
theorem dX5_ownVotes_9 : decode cX5_ownVotes 9 = .ok (.iconst 0, 1) := dk_3 (dk_at dksX5_ownVotes_0 9 rfl rfl)
theorem dX5_ownVotes_10 : decode cX5_ownVotes 10 = .ok (.goto 17, 3) := dk_167 0 17 (dk_at dksX5_ownVotes_0 10 rfl rfl)
theorem dX5_ownVotes_13 : decode cX5_ownVotes 13 = .ok (.aload_n 0, 1) := dk_42 (dk_at dksX5_ownVotes_0 13 rfl rfl)
theorem dX5_ownVotes_14 : decode cX5_ownVotes 14 = .ok (.getfield 67, 3) := dk_180 0 67 (dk_at dksX5_ownVotes_0 14 rfl rfl)
theorem dX5_ownVotes_17 : decode cX5_ownVotes 17 = .ok (.bipush 56, 2) := dk_16 56 (dk_at dksX5_ownVotes_0 17 rfl rfl)
theorem dX5_ownVotes_19 : decode cX5_ownVotes 19 = .ok (.bipush 12, 2) := dk_16 12 (dk_at dksX5_ownVotes_0 19 rfl rfl)
theorem dX5_ownVotes_21 : decode cX5_ownVotes 21 = .ok (.iload_n 1, 1) := dk_27 (dk_at dksX5_ownVotes_0 21 rfl rfl)
theorem dX5_ownVotes_22 : decode cX5_ownVotes 22 = .ok (.imul, 1) := dk_104 (dk_at dksX5_ownVotes_0 22 rfl rfl)
theorem dX5_ownVotes_23 : decode cX5_ownVotes 23 = .ok (.iadd, 1) := dk_96 (dk_at dksX5_ownVotes_0 23 rfl rfl)
theorem dX5_ownVotes_24 : decode cX5_ownVotes 24 = .ok (.iload_n 2, 1) := dk_28 (dk_at dksX5_ownVotes_1 0 rfl rfl)
theorem dX5_ownVotes_25 : decode cX5_ownVotes 25 = .ok (.iadd, 1) := dk_96 (dk_at dksX5_ownVotes_1 1 rfl rfl)
theorem dX5_ownVotes_26 : decode cX5_ownVotes 26 = .ok (.iaload, 1) := dk_46 (dk_at dksX5_ownVotes_1 2 rfl rfl)
theorem dX5_ownVotes_27 : decode cX5_ownVotes 27 = .ok (.ireturn, 1) := dk_172 (dk_at dksX5_ownVotes_1 3 rfl rfl)
abbrev rm_X5_ownVotes : Room := { frames := 5, cells := 0, slots := 0, locals := 109 }
def w_X5_ownVotes (a0 : Option Nat) (a1 : Int32) (a2 : Int32) (h : AH) (P : Int32 → AH → Prop) : Prop :=
  is_c h a0 [4] (
  w_X5_isUnseen a0 a1 a2 h (fun y3 h3 =>
  ((y3 = 0 →
    g_q h3 a0 4 21 fun y14 =>
    l_i h3 y14 0 ((56 + (12 * a1)) + a2) fun y26 =>
    P y26 h3) ∧
   (¬ y3 = 0 →
    P 0 h3))))
theorem met_X5_ownVotes (l : Launch) (hlt : l.stackTraces = false) (G : GG) (h : AH) (a0 : Option Nat) (a1 : Int32) (a2 : Int32) (P : Int32 → AH → Prop) (hw : w_X5_ownVotes a0 a1 a2 h P) : ct_i l yX5_ownVotes (ws_ yX5_ownVotes cX5_ownVotes 3 (Option.some Jvm.ClassFile.FieldType.int)) rm_X5_ownVotes G h [vR a0, vI a1, vI a2] P := by
  refine j_starti hlt [(0, vR a0), (1, vI a1), (2, vI a2)] (plainFor_of_name (by decide)) rfl rfl (fun x X eG er en hQ => ?_)
  subst eG
  refine j_aload_n X (pc := 0) 0 dX5_ownVotes_0 rfl rfl ?_
  refine j_iload_n X (pc := 1) 1 dX5_ownVotes_1 rfl rfl ?_
  refine j_iload_n X (pc := 2) 2 dX5_ownVotes_2 rfl rfl ?_
  obtain ⟨b9, c9, f9, hr9, ho9, hc9, hw⟩ := hw
  obtain rfl := List.mem_singleton.mp hc9
  refine j_calli (j_runV (n8 := 2) (As := [vI a1, vI a2]) (rest := []) X (pc := 3) hr9 (met_X5_isUnseen (xl x) X.hl (xG x) h a0 a1 a2 _ hw) ho9 (by decide) rfl q2182 q2184 qs59 q78 q2185 (by decide +kernel) dX5_ownVotes_3 rfl ⟨Nat.le_of_ble_eq_true rfl, Nat.le_of_ble_eq_true rfl⟩ (Nat.le_of_ble_eq_true rfl) ⟨Nat.le_of_ble_eq_true rfl, Nat.le_of_ble_eq_true rfl⟩) (fun y3 h3 hw => ?_)
  refine j_if_eq X (pc := 6) 13 dX5_ownVotes_6 (by decide) hw (fun hw => ?_) (fun hw => ?_)
  · refine j_aload_n X (pc := 13) 0 dX5_ownVotes_13 rfl rfl ?_
    refine j_getq (ci := 4) X (pc := 14) in_X5 rfl (by decide) 21 (by decide) q1893 (Or.inl rfl) dX5_ownVotes_14 hw (fun y14 hw => ?_)
    refine j_bipush X (pc := 17) 56 dX5_ownVotes_17 (by decide) ?_
    refine j_bipush X (pc := 19) 12 dX5_ownVotes_19 (by decide) ?_
    refine j_iload_n X (pc := 21) 1 dX5_ownVotes_21 rfl rfl ?_
    refine j_imul X (pc := 22) dX5_ownVotes_22 ?_
    refine j_iadd X (pc := 23) dX5_ownVotes_23 ?_
    refine j_iload_n X (pc := 24) 2 dX5_ownVotes_24 rfl rfl ?_
    refine j_iadd X (pc := 25) dX5_ownVotes_25 ?_
    refine j_iald X (pc := 26) 0 rfl dX5_ownVotes_26 hw (fun y26 hw => ?_)
    exact j_iret X (pc := 27) hQ er (Nat.le_of_ble_eq_true rfl) (Nat.le_of_ble_eq_true rfl) dX5_ownVotes_27 hw
  · refine j_iconst X (pc := 9) 0 dX5_ownVotes_9 (by decide) ?_
    refine j_goto X (pc := 10) 27 dX5_ownVotes_10 (by decide) ?_
    exact j_iret X (pc := 27) hQ er (Nat.le_of_ble_eq_true rfl) (Nat.le_of_ble_eq_true rfl) dX5_ownVotes_27 hw
abbrev cX1_votesFor_2 : ByteArray := prog_1_method_75_code
def yX1_votesFor_2 : MethodName := ⟨RX1, "votesFor", "(LPlugboard$Board;LPlugboard$Shape;)I"⟩
def dkwX1_votesFor_2_1 : List UInt8 := [184, 1, 56, 46, 96, 61, 132, 3, 1, 167, 255, 229, 28, 172]
abbrev dktX1_votesFor_2_1 : List UInt8 := dkwX1_votesFor_2_1 ++ []
def dkwX1_votesFor_2_0 : List UInt8 := [3, 61, 3, 62, 29, 6, 162, 0, 28, 28, 42, 180, 0, 136, 180, 0, 139, 29, 43, 180, 1, 8]
abbrev dktX1_votesFor_2_0 : List UInt8 := dkwX1_votesFor_2_0 ++ dktX1_votesFor_2_1
theorem dksX1_votesFor_2_0 : cX1_votesFor_2.data.toList.drop 0 = dktX1_votesFor_2_0 := by decide +kernel
theorem dksX1_votesFor_2_1 : cX1_votesFor_2.data.toList.drop 22 = dktX1_votesFor_2_1 := dk_seg dksX1_votesFor_2_0 22 rfl rfl
theorem dX1_votesFor_2_0 : decode cX1_votesFor_2 0 = .ok (.iconst 0, 1) := dk_3 (dk_at dksX1_votesFor_2_0 0 rfl rfl)
theorem dX1_votesFor_2_1 : decode cX1_votesFor_2 1 = .ok (.istore_n 2, 1) := dk_61 (dk_at dksX1_votesFor_2_0 1 rfl rfl)
theorem dX1_votesFor_2_2 : decode cX1_votesFor_2 2 = .ok (.iconst 0, 1) := dk_3 (dk_at dksX1_votesFor_2_0 2 rfl rfl)
theorem dX1_votesFor_2_3 : decode cX1_votesFor_2 3 = .ok (.istore_n 3, 1) := dk_62 (dk_at dksX1_votesFor_2_0 3 rfl rfl)
theorem dX1_votesFor_2_4 : decode cX1_votesFor_2 4 = .ok (.iload_n 3, 1) := dk_29 (dk_at dksX1_votesFor_2_0 4 rfl rfl)
theorem dX1_votesFor_2_5 : decode cX1_votesFor_2 5 = .ok (.iconst 3, 1) := dk_6 (dk_at dksX1_votesFor_2_0 5 rfl rfl)
theorem dX1_votesFor_2_6 : decode cX1_votesFor_2 6 = .ok (.if_icmp .ge 28, 3) := dk_162 0 28 (dk_at dksX1_votesFor_2_0 6 rfl rfl)
theorem dX1_votesFor_2_9 : decode cX1_votesFor_2 9 = .ok (.iload_n 2, 1) := dk_28 (dk_at dksX1_votesFor_2_0 9 rfl rfl)
theorem dX1_votesFor_2_10 : decode cX1_votesFor_2 10 = .ok (.aload_n 0, 1) := dk_42 (dk_at dksX1_votesFor_2_0 10 rfl rfl)
theorem dX1_votesFor_2_11 : decode cX1_votesFor_2 11 = .ok (.getfield 136, 3) := dk_180 0 136 (dk_at dksX1_votesFor_2_0 11 rfl rfl)
theorem dX1_votesFor_2_14 : decode cX1_votesFor_2 14 = .ok (.getfield 139, 3) := dk_180 0 139 (dk_at dksX1_votesFor_2_0 14 rfl rfl)
theorem dX1_votesFor_2_17 : decode cX1_votesFor_2 17 = .ok (.iload_n 3, 1) := dk_29 (dk_at dksX1_votesFor_2_0 17 rfl rfl)
theorem dX1_votesFor_2_18 : decode cX1_votesFor_2 18 = .ok (.aload_n 1, 1) := dk_43 (dk_at dksX1_votesFor_2_0 18 rfl rfl)
theorem dX1_votesFor_2_19 : decode cX1_votesFor_2 19 = .ok (.getfield 264, 3) := dk_180 1 8 (dk_at dksX1_votesFor_2_0 19 rfl rfl)
theorem dX1_votesFor_2_22 : decode cX1_votesFor_2 22 = .ok (.invokestatic 312, 3) := dk_184 1 56 (dk_at dksX1_votesFor_2_1 0 rfl rfl)
theorem dX1_votesFor_2_25 : decode cX1_votesFor_2 25 = .ok (.iaload, 1) := dk_46 (dk_at dksX1_votesFor_2_1 3 rfl rfl)
theorem dX1_votesFor_2_26 : decode cX1_votesFor_2 26 = .ok (.iadd, 1) := dk_96 (dk_at dksX1_votesFor_2_1 4 rfl rfl)
theorem dX1_votesFor_2_27 : decode cX1_votesFor_2 27 = .ok (.istore_n 2, 1) := dk_61 (dk_at dksX1_votesFor_2_1 5 rfl rfl)
theorem dX1_votesFor_2_28 : decode cX1_votesFor_2 28 = .ok (.iinc 3 1, 3) := dk_132 3 1 (dk_at dksX1_votesFor_2_1 6 rfl rfl)
theorem dX1_votesFor_2_31 : decode cX1_votesFor_2 31 = .ok (.goto (-27), 3) := dk_167 255 229 (dk_at dksX1_votesFor_2_1 9 rfl rfl)
theorem dX1_votesFor_2_34 : decode cX1_votesFor_2 34 = .ok (.iload_n 2, 1) := dk_28 (dk_at dksX1_votesFor_2_1 12 rfl rfl)
theorem dX1_votesFor_2_35 : decode cX1_votesFor_2 35 = .ok (.ireturn, 1) := dk_172 (dk_at dksX1_votesFor_2_1 13 rfl rfl)
abbrev rm_X1_votesFor_2 : Room := { frames := 1, cells := 0, slots := 0, locals := 21 }
def w_X1_votesFor_2_4 (P : Int32 → AH → Prop) (x0 : Option Nat) (x1 : Option Nat) (x2 : Int32) (x3 : Int32) (h : AH) : Prop :=
  ∀ Z4 : Int32 → Int32 → AH → Prop, (∀ x2 x3 h, (
      ((3 ≤ x3 →
        P x2 h) ∧
       (¬ 3 ≤ x3 →
        g_q h x0 2 1 fun y11 =>
        g_q h y11 1 0 fun y14 =>
        g_iS h x1 0 fun y19 =>
        w_X1_votesField x3 y19 h (fun y22 h22 =>
        l_i h22 y14 0 y22 fun y25 =>
        Z4 (x2 + y25) (x3 + 1) h22))))
      → Z4 x2 x3 h) → Z4 x2 x3 h
def w_X1_votesFor_2 (a0 : Option Nat) (a1 : Option Nat) (h : AH) (P : Int32 → AH → Prop) : Prop :=
  w_X1_votesFor_2_4 P a0 a1 0 0 h
theorem wk_X1_votesFor_2_4 {x : CX} (X : Ok x cX1_votesFor_2 RX1 rm_X1_votesFor_2 4) (er : xrt x = (Option.some Jvm.ClassFile.FieldType.int)) (en : xnm x = yX1_votesFor_2.name) {P : Int32 → AH → Prop} (hQ : xr_i x P) (x0 : Option Nat) (x1 : Option Nat) (x2 : Int32) (x3 : Int32) (h : AH) (hw : w_X1_votesFor_2_4 P x0 x1 x2 x3 h) : J x h 0 0 4 [(0, vR x0), (1, vR x1), (2, vI x2), (3, vI x3)] [] := by
  refine hw (fun x2 x3 h => J x h 0 0 4 [(0, vR x0), (1, vR x1), (2, vI x2), (3, vI x3)] []) (fun x2 x3 h hw => ?_)
  refine j_iload_n X (pc := 4) 3 dX1_votesFor_2_4 rfl rfl ?_
  refine j_iconst X (pc := 5) 3 dX1_votesFor_2_5 (by decide) ?_
  refine j_icmp_ge X (pc := 6) 34 dX1_votesFor_2_6 (by decide) hw (fun hw => ?_) (fun hw => ?_)
  · refine j_iload_n X (pc := 34) 2 dX1_votesFor_2_34 rfl rfl ?_
    exact j_iret X (pc := 35) hQ er (Nat.le_of_ble_eq_true rfl) (Nat.le_of_ble_eq_true rfl) dX1_votesFor_2_35 hw
  · refine j_iload_n X (pc := 9) 2 dX1_votesFor_2_9 rfl rfl ?_
    refine j_aload_n X (pc := 10) 0 dX1_votesFor_2_10 rfl rfl ?_
    refine j_getqN (ci := 2) X (pc := 11) in_X3 rfl (by decide) 1 (by decide) q210 (Or.inl rfl) dX1_votesFor_2_11 hw (fun y11 hw => ?_)
    refine j_getqN (ci := 1) X (pc := 14) in_X2 rfl (by decide) 0 (by decide) q168 (Or.inl rfl) dX1_votesFor_2_14 hw (fun y14 hw => ?_)
    refine j_iload_n X (pc := 17) 3 dX1_votesFor_2_17 rfl rfl ?_
    refine j_aload_n X (pc := 18) 1 dX1_votesFor_2_18 rfl rfl ?_
    refine j_getiSN X (pc := 19) 0 (by decide) q578 dX1_votesFor_2_19 hw (fun y19 hw => ?_)
    refine j_calli (j_runS (n8 := 2) (As := [vI x3, vI y19]) (rest := [vR y14, vI x2]) X (pc := 22) (met_X1_votesField (xl x) X.hl (xG x) h x3 y19 _ hw) q1329 q1330 q71 q1331 (by decide +kernel) dX1_votesFor_2_22 rfl ⟨Nat.le_of_ble_eq_true rfl, Nat.le_of_ble_eq_true rfl⟩ (Nat.le_of_ble_eq_true rfl) ⟨Nat.le_of_ble_eq_true rfl, Nat.le_of_ble_eq_true rfl⟩) (fun y22 h22 hw => ?_)
    refine j_iald X (pc := 25) 0 rfl dX1_votesFor_2_25 hw (fun y25 hw => ?_)
    refine j_iadd X (pc := 26) dX1_votesFor_2_26 ?_
    refine j_istore_n X (pc := 27) [(2, vI (x2 + y25)), (0, vR x0), (1, vR x1), (3, vI x3)] dX1_votesFor_2_27 rfl (Nat.le_of_ble_eq_true rfl) rfl ?_
    refine j_iinc X (pc := 28) 3 (x3 + 1) [(3, vI (x3 + 1)), (2, vI (x2 + y25)), (0, vR x0), (1, vR x1)] dX1_votesFor_2_28 rfl rfl (Nat.le_of_ble_eq_true rfl) rfl ?_
    refine j_goto X (pc := 31) 4 dX1_votesFor_2_31 (by decide) ?_
    refine j_lv [(0, vR x0), (1, vR x1), (2, vI (x2 + y25)), (3, vI (x3 + 1))] [2, 3, 1, 0] rfl ?_
    refine j_cs (u' := 0) (v' := 0) (Nat.le_of_ble_eq_true rfl) (Nat.le_of_ble_eq_true rfl) ?_
    exact hw
theorem met_X1_votesFor_2 (l : Launch) (hlt : l.stackTraces = false) (G : GG) (h : AH) (a0 : Option Nat) (a1 : Option Nat) (P : Int32 → AH → Prop) (hw : w_X1_votesFor_2 a0 a1 h P) : ct_i l yX1_votesFor_2 (ws_ yX1_votesFor_2 cX1_votesFor_2 4 (Option.some Jvm.ClassFile.FieldType.int)) rm_X1_votesFor_2 G h [vR a0, vR a1] P := by
  refine j_starti hlt [(0, vR a0), (1, vR a1)] (plainFor_of_name (by decide)) rfl rfl (fun x X eG er en hQ => ?_)
  subst eG
  refine j_iconst X (pc := 0) 0 dX1_votesFor_2_0 (by decide) ?_
  refine j_istore_n X (pc := 1) [(2, vI 0), (0, vR a0), (1, vR a1)] dX1_votesFor_2_1 rfl (Nat.le_of_ble_eq_true rfl) rfl ?_
  refine j_iconst X (pc := 2) 0 dX1_votesFor_2_2 (by decide) ?_
  refine j_istore_n X (pc := 3) [(3, vI 0), (2, vI 0), (0, vR a0), (1, vR a1)] dX1_votesFor_2_3 rfl (Nat.le_of_ble_eq_true rfl) rfl ?_
  refine j_lv [(0, vR a0), (1, vR a1), (2, vI 0), (3, vI 0)] [2, 3, 1, 0] rfl ?_
  refine j_cs (u' := 0) (v' := 0) (Nat.le_of_ble_eq_true rfl) (Nat.le_of_ble_eq_true rfl) ?_
  exact wk_X1_votesFor_2_4 X er en hQ a0 a1 0 0 h hw
abbrev cX1_votesFor : ByteArray := prog_1_method_76_code
def yX1_votesFor : MethodName := ⟨RX1, "votesFor", "(II)I"⟩
def dkwX1_votesFor_1 : List UInt8 := [184, 1, 175, 172]
abbrev dktX1_votesFor_1 : List UInt8 := dkwX1_votesFor_1 ++ []
def dkwX1_votesFor_0 : List UInt8 := [42, 27, 182, 0, 199, 78, 42, 45, 28, 182, 0, 241, 58, 4, 45, 184, 1, 60, 184, 0, 232, 45, 25, 4]
abbrev dktX1_votesFor_0 : List UInt8 := dkwX1_votesFor_0 ++ dktX1_votesFor_1
theorem dksX1_votesFor_0 : cX1_votesFor.data.toList.drop 0 = dktX1_votesFor_0 := by decide +kernel
theorem dksX1_votesFor_1 : cX1_votesFor.data.toList.drop 24 = dktX1_votesFor_1 := dk_seg dksX1_votesFor_0 24 rfl rfl
theorem dX1_votesFor_0 : decode cX1_votesFor 0 = .ok (.aload_n 0, 1) := dk_42 (dk_at dksX1_votesFor_0 0 rfl rfl)
theorem dX1_votesFor_1 : decode cX1_votesFor 1 = .ok (.iload_n 1, 1) := dk_27 (dk_at dksX1_votesFor_0 1 rfl rfl)
theorem dX1_votesFor_2 : decode cX1_votesFor 2 = .ok (.invokevirtual 199, 3) := dk_182 0 199 (dk_at dksX1_votesFor_0 2 rfl rfl)
theorem dX1_votesFor_5 : decode cX1_votesFor 5 = .ok (.astore_n 3, 1) := dk_78 (dk_at dksX1_votesFor_0 5 rfl rfl)
theorem dX1_votesFor_6 : decode cX1_votesFor 6 = .ok (.aload_n 0, 1) := dk_42 (dk_at dksX1_votesFor_0 6 rfl rfl)
theorem dX1_votesFor_7 : decode cX1_votesFor 7 = .ok (.aload_n 3, 1) := dk_45 (dk_at dksX1_votesFor_0 7 rfl rfl)
theorem dX1_votesFor_8 : decode cX1_votesFor 8 = .ok (.iload_n 2, 1) := dk_28 (dk_at dksX1_votesFor_0 8 rfl rfl)
theorem dX1_votesFor_9 : decode cX1_votesFor 9 = .ok (.invokevirtual 241, 3) := dk_182 0 241 (dk_at dksX1_votesFor_0 9 rfl rfl)
theorem dX1_votesFor_12 : decode cX1_votesFor 12 = .ok (.astore 4, 2) := dk_58 4 (dk_at dksX1_votesFor_0 12 rfl rfl)
theorem dX1_votesFor_14 : decode cX1_votesFor 14 = .ok (.aload_n 3, 1) := dk_45 (dk_at dksX1_votesFor_0 14 rfl rfl)
theorem dX1_votesFor_15 : decode cX1_votesFor 15 = .ok (.invokestatic 316, 3) := dk_184 1 60 (dk_at dksX1_votesFor_0 15 rfl rfl)
theorem dX1_votesFor_18 : decode cX1_votesFor 18 = .ok (.invokestatic 232, 3) := dk_184 0 232 (dk_at dksX1_votesFor_0 18 rfl rfl)
theorem dX1_votesFor_21 : decode cX1_votesFor 21 = .ok (.aload_n 3, 1) := dk_45 (dk_at dksX1_votesFor_0 21 rfl rfl)
theorem dX1_votesFor_22 : decode cX1_votesFor 22 = .ok (.aload 4, 2) := dk_25 4 (dk_at dksX1_votesFor_0 22 rfl rfl)
theorem dX1_votesFor_24 : decode cX1_votesFor 24 = .ok (.invokestatic 431, 3) := dk_184 1 175 (dk_at dksX1_votesFor_1 0 rfl rfl)
theorem dX1_votesFor_27 : decode cX1_votesFor 27 = .ok (.ireturn, 1) := dk_172 (dk_at dksX1_votesFor_1 3 rfl rfl)
theorem q1602 : (Jvm.Cond.methodLink "Plugboard" (431 : Nat) ({ cls := "Plugboard", name := "votesFor", desc := "(LPlugboard$Board;LPlugboard$Shape;)I" } : Jvm.MethodName)) ∈ lw_all := lw_g (lw_at lw_m7 92 rfl) rfl
theorem q1603 : (Jvm.Cond.static ({ cls := "Plugboard", name := "votesFor", desc := "(LPlugboard$Board;LPlugboard$Shape;)I" } : Jvm.MethodName)) ∈ lw_all := lw_g (lw_at lw_m7 93 rfl) rfl
theorem q1604 : (Jvm.Cond.code ({ cls := "Plugboard", name := "votesFor", desc := "(LPlugboard$Board;LPlugboard$Shape;)I" } : Jvm.MethodName) prog_1_method_75_code (4 : Nat) (Option.some Jvm.ClassFile.FieldType.int)) ∈ lw_all := lw_g (lw_at lw_m7 94 rfl) rfl
abbrev rm_X1_votesFor : Room := { frames := 9, cells := 4, slots := 19, locals := 146 }
def w_X1_votesFor (a0 : Option Nat) (a1 : Int32) (a2 : Int32) (h : AH) (P : Int32 → AH → Prop) (PX : String → AH → Prop) : Prop :=
  is_c h a0 [0] (
  w_X1_board a0 a1 h (fun y2 h2 =>
  is_c h2 a0 [0] (
  w_X1_shape a0 y2 a2 h2 (fun y9 h9 =>
  w_X1_areShown y2 h9 (fun y15 h15 =>
  w_X1_requireSupported y15 h15 (fun h18 =>
  w_X1_votesFor_2 y2 y9 h18 (fun y24 h24 =>
  P y24 h24)) PX)) PX)) PX)
theorem met_X1_votesFor (l : Launch) (hlt : l.stackTraces = false) (G : GG) (h : AH) (a0 : Option Nat) (a1 : Int32) (a2 : Int32) (P : Int32 → AH → Prop) (PX : String → AH → Prop) (hw : w_X1_votesFor a0 a1 a2 h P PX) : cx_i l yX1_votesFor (ws_ yX1_votesFor cX1_votesFor 5 (Option.some Jvm.ClassFile.FieldType.int)) rm_X1_votesFor G h [vR a0, vI a1, vI a2] P PX := by
  refine j_startXi hlt [(0, vR a0), (1, vI a1), (2, vI a2)] (by decide) rfl rfl (fun x X eG er en hQ hT hex => ?_)
  subst eG
  refine j_aload_n X (pc := 0) 0 dX1_votesFor_0 rfl rfl ?_
  refine j_iload_n X (pc := 1) 1 dX1_votesFor_1 rfl rfl ?_
  obtain ⟨b9, c9, f9, hr9, ho9, hc9, hw⟩ := hw
  obtain rfl := List.mem_singleton.mp hc9
  refine j_callXq (j_runVX (n8 := 1) (As := [vI a1]) (rest := []) X (pc := 2) hr9 (met_X1_board (xl x) X.hl (xG x) h a0 a1 _ _ hw) ho9 (by decide) rfl q297 q299 qs0 q71 q300 (by decide +kernel) dX1_votesFor_2 rfl ⟨Nat.le_of_ble_eq_true rfl, Nat.le_of_ble_eq_true rfl⟩ (Nat.le_of_ble_eq_true rfl) ⟨Nat.le_of_ble_eq_true rfl, Nat.le_of_ble_eq_true rfl⟩) (fun E h9 hx => j_out X hT hex (Nat.le_of_ble_eq_true rfl) (Nat.le_of_ble_eq_true rfl) hx) (fun y2 h2 hw => ?_)
  refine j_astore_n X (pc := 5) [(3, vR y2), (0, vR a0), (1, vI a1), (2, vI a2)] dX1_votesFor_5 rfl (Nat.le_of_ble_eq_true rfl) rfl ?_
  refine j_aload_n X (pc := 6) 1 dX1_votesFor_6 rfl rfl ?_
  refine j_aload_n X (pc := 7) 0 dX1_votesFor_7 rfl rfl ?_
  refine j_iload_n X (pc := 8) 3 dX1_votesFor_8 rfl rfl ?_
  obtain ⟨b9, c9, f9, hr9, ho9, hc9, hw⟩ := hw
  obtain rfl := List.mem_singleton.mp hc9
  refine j_callXq (j_runVX (n8 := 2) (As := [vR y2, vI a2]) (rest := []) X (pc := 9) hr9 (met_X1_shape (xl x) X.hl (xG x) h2 a0 y2 a2 _ _ hw) ho9 (by decide) rfl q1075 q1077 qs9 q71 q1078 (by decide +kernel) dX1_votesFor_9 rfl ⟨Nat.le_of_ble_eq_true rfl, Nat.le_of_ble_eq_true rfl⟩ (Nat.le_of_ble_eq_true rfl) ⟨Nat.le_of_ble_eq_true rfl, Nat.le_of_ble_eq_true rfl⟩) (fun E h9 hx => j_out X hT hex (Nat.le_of_ble_eq_true rfl) (Nat.le_of_ble_eq_true rfl) hx) (fun y9 h9 hw => ?_)
  refine j_astore X (pc := 12) [(4, vR y9), (3, vR y2), (0, vR a0), (1, vI a1), (2, vI a2)] dX1_votesFor_12 (Nat.le_of_ble_eq_true rfl) rfl ?_
  refine j_aload_n X (pc := 14) 1 dX1_votesFor_14 rfl rfl ?_
  refine j_calli (j_runS (n8 := 1) (As := [vR y2]) (rest := []) X (pc := 15) (met_X1_areShown (xl x) X.hl (xG x) h9 y2 _ hw) q1332 q1333 q71 q1334 (by decide +kernel) dX1_votesFor_15 rfl ⟨Nat.le_of_ble_eq_true rfl, Nat.le_of_ble_eq_true rfl⟩ (Nat.le_of_ble_eq_true rfl) ⟨Nat.le_of_ble_eq_true rfl, Nat.le_of_ble_eq_true rfl⟩) (fun y15 h15 hw => ?_)
  refine j_callXv (j_runSX (n8 := 1) (As := [vI y15]) (rest := []) X (pc := 18) (met_X1_requireSupported (xl x) X.hl (xG x) h15 y15 _ _ hw) q1097 q1098 q71 q1099 (by decide +kernel) dX1_votesFor_18 rfl ⟨Nat.le_of_ble_eq_true rfl, Nat.le_of_ble_eq_true rfl⟩ (Nat.le_of_ble_eq_true rfl) ⟨Nat.le_of_ble_eq_true rfl, Nat.le_of_ble_eq_true rfl⟩) (fun E h9 hx => j_out X hT hex (Nat.le_of_ble_eq_true rfl) (Nat.le_of_ble_eq_true rfl) hx) (fun h18 hw => ?_)
  refine j_aload_n X (pc := 21) 1 dX1_votesFor_21 rfl rfl ?_
  refine j_aload X (pc := 22) 0 dX1_votesFor_22 rfl ?_
  refine j_calli (j_runS (n8 := 2) (As := [vR y2, vR y9]) (rest := []) X (pc := 24) (met_X1_votesFor_2 (xl x) X.hl (xG x) h18 y2 y9 _ hw) q1602 q1603 q71 q1604 (by decide +kernel) dX1_votesFor_24 rfl ⟨Nat.le_of_ble_eq_true rfl, Nat.le_of_ble_eq_true rfl⟩ (Nat.le_of_ble_eq_true rfl) ⟨Nat.le_of_ble_eq_true rfl, Nat.le_of_ble_eq_true rfl⟩) (fun y24 h24 hw => ?_)
  exact j_iret X (pc := 27) hQ er (Nat.le_of_ble_eq_true rfl) (Nat.le_of_ble_eq_true rfl) dX1_votesFor_27 hw
abbrev cX0_votesFor : ByteArray := method_38_code
def yX0_votesFor : MethodName := ⟨RX0, "votesFor", "(LPlugboard;II[J)I"⟩
def dkwX0_votesFor_1 : List UInt8 := [172, 3, 172]
abbrev dktX0_votesFor_1 : List UInt8 := dkwX0_votesFor_1 ++ []
def dkwX0_votesFor_0 : List UInt8 := [45, 3, 42, 27, 28, 182, 0, 133, 133, 80, 167, 0, 15, 58, 4, 4, 172, 58, 4, 5, 172, 58, 4, 6]
abbrev dktX0_votesFor_0 : List UInt8 := dkwX0_votesFor_0 ++ dktX0_votesFor_1
theorem dksX0_votesFor_0 : cX0_votesFor.data.toList.drop 0 = dktX0_votesFor_0 := by decide +kernel
theorem dksX0_votesFor_1 : cX0_votesFor.data.toList.drop 24 = dktX0_votesFor_1 := dk_seg dksX0_votesFor_0 24 rfl rfl
theorem dX0_votesFor_0 : decode cX0_votesFor 0 = .ok (.aload_n 3, 1) := dk_45 (dk_at dksX0_votesFor_0 0 rfl rfl)
theorem dX0_votesFor_1 : decode cX0_votesFor 1 = .ok (.iconst 0, 1) := dk_3 (dk_at dksX0_votesFor_0 1 rfl rfl)
theorem dX0_votesFor_2 : decode cX0_votesFor 2 = .ok (.aload_n 0, 1) := dk_42 (dk_at dksX0_votesFor_0 2 rfl rfl)
theorem dX0_votesFor_3 : decode cX0_votesFor 3 = .ok (.iload_n 1, 1) := dk_27 (dk_at dksX0_votesFor_0 3 rfl rfl)
theorem dX0_votesFor_4 : decode cX0_votesFor 4 = .ok (.iload_n 2, 1) := dk_28 (dk_at dksX0_votesFor_0 4 rfl rfl)
theorem dX0_votesFor_5 : decode cX0_votesFor 5 = .ok (.invokevirtual 133, 3) := dk_182 0 133 (dk_at dksX0_votesFor_0 5 rfl rfl)
theorem dX0_votesFor_8 : decode cX0_votesFor 8 = .ok (.i2l, 1) := dk_133 (dk_at dksX0_votesFor_0 8 rfl rfl)
theorem dX0_votesFor_9 : decode cX0_votesFor 9 = .ok (.lastore, 1) := dk_80 (dk_at dksX0_votesFor_0 9 rfl rfl)
theorem dX0_votesFor_10 : decode cX0_votesFor 10 = .ok (.goto 15, 3) := dk_167 0 15 (dk_at dksX0_votesFor_0 10 rfl rfl)
theorem dX0_votesFor_13 : decode cX0_votesFor 13 = .ok (.astore 4, 2) := dk_58 4 (dk_at dksX0_votesFor_0 13 rfl rfl)
theorem dX0_votesFor_15 : decode cX0_votesFor 15 = .ok (.iconst 1, 1) := dk_4 (dk_at dksX0_votesFor_0 15 rfl rfl)
theorem dX0_votesFor_16 : decode cX0_votesFor 16 = .ok (.ireturn, 1) := dk_172 (dk_at dksX0_votesFor_0 16 rfl rfl)
theorem dX0_votesFor_17 : decode cX0_votesFor 17 = .ok (.astore 4, 2) := dk_58 4 (dk_at dksX0_votesFor_0 17 rfl rfl)
theorem dX0_votesFor_19 : decode cX0_votesFor 19 = .ok (.iconst 2, 1) := dk_5 (dk_at dksX0_votesFor_0 19 rfl rfl)
theorem dX0_votesFor_20 : decode cX0_votesFor 20 = .ok (.ireturn, 1) := dk_172 (dk_at dksX0_votesFor_0 20 rfl rfl)
theorem dX0_votesFor_21 : decode cX0_votesFor 21 = .ok (.astore 4, 2) := dk_58 4 (dk_at dksX0_votesFor_0 21 rfl rfl)
theorem dX0_votesFor_23 : decode cX0_votesFor 23 = .ok (.iconst 3, 1) := dk_6 (dk_at dksX0_votesFor_0 23 rfl rfl)
theorem dX0_votesFor_24 : decode cX0_votesFor 24 = .ok (.ireturn, 1) := dk_172 (dk_at dksX0_votesFor_1 0 rfl rfl)
theorem dX0_votesFor_25 : decode cX0_votesFor 25 = .ok (.iconst 0, 1) := dk_3 (dk_at dksX0_votesFor_1 1 rfl rfl)
theorem dX0_votesFor_26 : decode cX0_votesFor 26 = .ok (.ireturn, 1) := dk_172 (dk_at dksX0_votesFor_1 2 rfl rfl)
theorem q1598 : (Jvm.Cond.methodLink "PlugboardLaw" (133 : Nat) ({ cls := "Plugboard", name := "votesFor", desc := "(II)I" } : Jvm.MethodName)) ∈ lw_all := lw_g (lw_at lw_m7 88 rfl) rfl
theorem q1599 : (Jvm.Cond.instanceMethod ({ cls := "Plugboard", name := "votesFor", desc := "(II)I" } : Jvm.MethodName)) ∈ lw_all := lw_g (lw_at lw_m7 89 rfl) rfl
theorem q1600 : (Jvm.Cond.selects "Plugboard" ({ cls := "Plugboard", name := "votesFor", desc := "(II)I" } : Jvm.MethodName) ({ cls := "Plugboard", name := "votesFor", desc := "(II)I" } : Jvm.MethodName)) ∈ lw_all := lw_g (lw_at lw_m7 90 rfl) rfl
theorem q1601 : (Jvm.Cond.code ({ cls := "Plugboard", name := "votesFor", desc := "(II)I" } : Jvm.MethodName) prog_1_method_76_code (5 : Nat) (Option.some Jvm.ClassFile.FieldType.int)) ∈ lw_all := lw_g (lw_at lw_m7 91 rfl) rfl
abbrev rm_X0_votesFor : Room := { frames := 10, cells := 4, slots := 19, locals := 170 }
def w_X0_votesFor (a0 : Option Nat) (a1 : Int32) (a2 : Int32) (a3 : Option Nat) (h : AH) (P : Int32 → AH → Prop) : Prop :=
  is_c h a0 [0] (
  w_X1_votesFor a0 a1 a2 h (fun y5 h5 =>
  s_L h5 a3 0 (Int32.toInt64 y5) fun h9 =>
  P 0 h9)
    (fun E9 h9 => (E9 = "java/lang/IllegalArgumentException" ∧ ∀ q9 : Nat,
    P 1 h9) ∨
    (E9 = "java/util/NoSuchElementException" ∧ ∀ q9 : Nat,
    P 2 h9) ∨
    (E9 = "java/lang/UnsupportedOperationException" ∧ ∀ q9 : Nat,
    P 3 h9)))
theorem met_X0_votesFor (l : Launch) (hlt : l.stackTraces = false) (G : GG) (h : AH) (a0 : Option Nat) (a1 : Int32) (a2 : Int32) (a3 : Option Nat) (P : Int32 → AH → Prop) (hw : w_X0_votesFor a0 a1 a2 a3 h P) : ct_i l yX0_votesFor (wsW_ yX0_votesFor cX0_votesFor 5 (Option.some Jvm.ClassFile.FieldType.int) [((0 : Nat), (10 : Nat), (13 : Nat), (13 : Nat)), ((0 : Nat), (10 : Nat), (17 : Nat), (21 : Nat)), ((0 : Nat), (10 : Nat), (21 : Nat), (23 : Nat))]) rm_X0_votesFor G h [vR a0, vI a1, vI a2, vR a3] P := by
  refine j_startWi hlt [(0, vR a0), (1, vI a1), (2, vI a2), (3, vR a3)] (by decide) rfl rfl (fun x X eG er en hQ hex => ?_)
  subst eG
  refine j_aload_n X (pc := 0) 3 dX0_votesFor_0 rfl rfl ?_
  refine j_iconst X (pc := 1) 0 dX0_votesFor_1 (by decide) ?_
  refine j_aload_n X (pc := 2) 0 dX0_votesFor_2 rfl rfl ?_
  refine j_iload_n X (pc := 3) 1 dX0_votesFor_3 rfl rfl ?_
  refine j_iload_n X (pc := 4) 2 dX0_votesFor_4 rfl rfl ?_
  obtain ⟨b9, c9, f9, hr9, ho9, hc9, hw⟩ := hw
  obtain rfl := List.mem_singleton.mp hc9
  refine j_callXi (j_runVX (n8 := 2) (As := [vI a1, vI a2]) (rest := [vI 0, vR a3]) X (pc := 5) hr9 (met_X1_votesFor (xl x) X.hl (xG x) h a0 a1 a2 _ _ hw) ho9 (by decide) rfl q1598 q1599 q1600 q71 q1601 (by decide +kernel) dX0_votesFor_5 rfl ⟨Nat.le_of_ble_eq_true rfl, Nat.le_of_ble_eq_true rfl⟩ (Nat.le_of_ble_eq_true rfl) ⟨Nat.le_of_ble_eq_true rfl, Nat.le_of_ble_eq_true rfl⟩) ?_ (fun y5 h5 hw => ?_)
  · intro E9 h9 hx
    rcases hx with ⟨rfl, hw⟩ | ⟨rfl, hw⟩ | ⟨rfl, hw⟩
    · refine j_catch X (pc := 5) "java/lang/IllegalArgumentException" hex [] [⟨0, 10, 17, 21⟩, ⟨0, 10, 21, 23⟩] ⟨0, 10, 13, 13⟩ rfl (by intro y hy; cases hy) (by decide) (by decide) q291 q312 (fun q9 => ?_)
      have hw := hw q9
      refine j_astore X (pc := 13) [(4, vR (some q9)), (0, vR a0), (1, vI a1), (2, vI a2), (3, vR a3)] dX0_votesFor_13 (Nat.le_of_ble_eq_true rfl) rfl ?_
      refine j_iconst X (pc := 15) 1 dX0_votesFor_15 (by decide) ?_
      exact j_iret X (pc := 16) hQ er (Nat.le_of_ble_eq_true rfl) (Nat.le_of_ble_eq_true rfl) dX0_votesFor_16 hw
    · refine j_catch X (pc := 5) "java/util/NoSuchElementException" hex [⟨0, 10, 13, 13⟩] [⟨0, 10, 21, 23⟩] ⟨0, 10, 17, 21⟩ rfl (by intro y hy; simp only [List.mem_cons, List.not_mem_nil, or_false] at hy; subst hy; exact Or.inr ⟨by decide, "java/lang/IllegalArgumentException", q291, by decide +kernel⟩) (by decide) (by decide) q1068 q537 (fun q9 => ?_)
      have hw := hw q9
      refine j_astore X (pc := 17) [(4, vR (some q9)), (0, vR a0), (1, vI a1), (2, vI a2), (3, vR a3)] dX0_votesFor_17 (Nat.le_of_ble_eq_true rfl) rfl ?_
      refine j_iconst X (pc := 19) 2 dX0_votesFor_19 (by decide) ?_
      exact j_iret X (pc := 20) hQ er (Nat.le_of_ble_eq_true rfl) (Nat.le_of_ble_eq_true rfl) dX0_votesFor_20 hw
    · refine j_catch X (pc := 5) "java/lang/UnsupportedOperationException" hex [⟨0, 10, 13, 13⟩, ⟨0, 10, 17, 21⟩] [] ⟨0, 10, 21, 23⟩ rfl (by intro y hy; simp only [List.mem_cons, List.not_mem_nil, or_false] at hy; rcases hy with rfl | rfl <;> first | exact Or.inr ⟨by decide, "java/lang/IllegalArgumentException", q291, by decide +kernel⟩ | exact Or.inr ⟨by decide, "java/util/NoSuchElementException", q1068, by decide +kernel⟩) (by decide) (by decide) q1069 q1102 (fun q9 => ?_)
      have hw := hw q9
      refine j_astore X (pc := 21) [(4, vR (some q9)), (0, vR a0), (1, vI a1), (2, vI a2), (3, vR a3)] dX0_votesFor_21 (Nat.le_of_ble_eq_true rfl) rfl ?_
      refine j_iconst X (pc := 23) 3 dX0_votesFor_23 (by decide) ?_
      exact j_iret X (pc := 24) hQ er (Nat.le_of_ble_eq_true rfl) (Nat.le_of_ble_eq_true rfl) dX0_votesFor_24 hw
  refine j_i2l X (pc := 8) dX0_votesFor_8 ?_
  refine j_last X (pc := 9) dX0_votesFor_9 hw (fun h9 hw => ?_)
  refine j_goto X (pc := 10) 25 dX0_votesFor_10 (by decide) ?_
  refine j_iconst X (pc := 25) 0 dX0_votesFor_25 (by decide) ?_
  exact j_iret X (pc := 26) hQ er (Nat.le_of_ble_eq_true rfl) (Nat.le_of_ble_eq_true rfl) dX0_votesFor_26 hw
abbrev cX5_votes : ByteArray := prog_19_method_79_code
def yX5_votes : MethodName := ⟨RX5, "votes", "(I)I"⟩
def dkwX5_votes_1 : List UInt8 := [96, 61, 132, 3, 1, 167, 255, 231, 28, 172]
abbrev dktX5_votes_1 : List UInt8 := dkwX5_votes_1 ++ []
def dkwX5_votes_0 : List UInt8 := [3, 61, 3, 62, 29, 6, 162, 0, 26, 28, 42, 180, 0, 67, 16, 56, 16, 12, 29, 104, 96, 27, 96, 46]
abbrev dktX5_votes_0 : List UInt8 := dkwX5_votes_0 ++ dktX5_votes_1
theorem dksX5_votes_0 : cX5_votes.data.toList.drop 0 = dktX5_votes_0 := by decide +kernel
theorem dksX5_votes_1 : cX5_votes.data.toList.drop 24 = dktX5_votes_1 := dk_seg dksX5_votes_0 24 rfl rfl
theorem dX5_votes_0 : decode cX5_votes 0 = .ok (.iconst 0, 1) := dk_3 (dk_at dksX5_votes_0 0 rfl rfl)
theorem dX5_votes_1 : decode cX5_votes 1 = .ok (.istore_n 2, 1) := dk_61 (dk_at dksX5_votes_0 1 rfl rfl)
theorem dX5_votes_2 : decode cX5_votes 2 = .ok (.iconst 0, 1) := dk_3 (dk_at dksX5_votes_0 2 rfl rfl)
theorem dX5_votes_3 : decode cX5_votes 3 = .ok (.istore_n 3, 1) := dk_62 (dk_at dksX5_votes_0 3 rfl rfl)
theorem dX5_votes_4 : decode cX5_votes 4 = .ok (.iload_n 3, 1) := dk_29 (dk_at dksX5_votes_0 4 rfl rfl)
theorem dX5_votes_5 : decode cX5_votes 5 = .ok (.iconst 3, 1) := dk_6 (dk_at dksX5_votes_0 5 rfl rfl)
theorem dX5_votes_6 : decode cX5_votes 6 = .ok (.if_icmp .ge 26, 3) := dk_162 0 26 (dk_at dksX5_votes_0 6 rfl rfl)
theorem dX5_votes_9 : decode cX5_votes 9 = .ok (.iload_n 2, 1) := dk_28 (dk_at dksX5_votes_0 9 rfl rfl)
theorem dX5_votes_10 : decode cX5_votes 10 = .ok (.aload_n 0, 1) := dk_42 (dk_at dksX5_votes_0 10 rfl rfl)
theorem dX5_votes_11 : decode cX5_votes 11 = .ok (.getfield 67, 3) := dk_180 0 67 (dk_at dksX5_votes_0 11 rfl rfl)
theorem dX5_votes_14 : decode cX5_votes 14 = .ok (.bipush 56, 2) := dk_16 56 (dk_at dksX5_votes_0 14 rfl rfl)
theorem dX5_votes_16 : decode cX5_votes 16 = .ok (.bipush 12, 2) := dk_16 12 (dk_at dksX5_votes_0 16 rfl rfl)
theorem dX5_votes_18 : decode cX5_votes 18 = .ok (.iload_n 3, 1) := dk_29 (dk_at dksX5_votes_0 18 rfl rfl)
theorem dX5_votes_19 : decode cX5_votes 19 = .ok (.imul, 1) := dk_104 (dk_at dksX5_votes_0 19 rfl rfl)
theorem dX5_votes_20 : decode cX5_votes 20 = .ok (.iadd, 1) := dk_96 (dk_at dksX5_votes_0 20 rfl rfl)
theorem dX5_votes_21 : decode cX5_votes 21 = .ok (.iload_n 1, 1) := dk_27 (dk_at dksX5_votes_0 21 rfl rfl)
theorem dX5_votes_22 : decode cX5_votes 22 = .ok (.iadd, 1) := dk_96 (dk_at dksX5_votes_0 22 rfl rfl)
theorem dX5_votes_23 : decode cX5_votes 23 = .ok (.iaload, 1) := dk_46 (dk_at dksX5_votes_0 23 rfl rfl)
theorem dX5_votes_24 : decode cX5_votes 24 = .ok (.iadd, 1) := dk_96 (dk_at dksX5_votes_1 0 rfl rfl)
theorem dX5_votes_25 : decode cX5_votes 25 = .ok (.istore_n 2, 1) := dk_61 (dk_at dksX5_votes_1 1 rfl rfl)
theorem dX5_votes_26 : decode cX5_votes 26 = .ok (.iinc 3 1, 3) := dk_132 3 1 (dk_at dksX5_votes_1 2 rfl rfl)
theorem dX5_votes_29 : decode cX5_votes 29 = .ok (.goto (-25), 3) := dk_167 255 231 (dk_at dksX5_votes_1 5 rfl rfl)
theorem dX5_votes_32 : decode cX5_votes 32 = .ok (.iload_n 2, 1) := dk_28 (dk_at dksX5_votes_1 8 rfl rfl)
theorem dX5_votes_33 : decode cX5_votes 33 = .ok (.ireturn, 1) := dk_172 (dk_at dksX5_votes_1 9 rfl rfl)
abbrev rm_X5_votes : Room := { frames := 0, cells := 0, slots := 0, locals := 0 }
def w_X5_votes_4 (P : Int32 → AH → Prop) (x0 : Option Nat) (x1 : Int32) (x2 : Int32) (x3 : Int32) (h : AH) : Prop :=
  ∀ Z4 : Int32 → Int32 → Prop, (∀ x2 x3, (
      ((3 ≤ x3 →
        P x2 h) ∧
       (¬ 3 ≤ x3 →
        g_q h x0 4 21 fun y11 =>
        l_i h y11 0 ((56 + (12 * x3)) + x1) fun y23 =>
        Z4 (x2 + y23) (x3 + 1))))
      → Z4 x2 x3) → Z4 x2 x3
def w_X5_votes (a0 : Option Nat) (a1 : Int32) (h : AH) (P : Int32 → AH → Prop) : Prop :=
  w_X5_votes_4 P a0 a1 0 0 h
theorem wk_X5_votes_4 {x : CX} (X : Ok x cX5_votes RX5 rm_X5_votes 4) (er : xrt x = (Option.some Jvm.ClassFile.FieldType.int)) (en : xnm x = yX5_votes.name) {P : Int32 → AH → Prop} (hQ : xr_i x P) (x0 : Option Nat) (x1 : Int32) (x2 : Int32) (x3 : Int32) (h : AH) (hw : w_X5_votes_4 P x0 x1 x2 x3 h) : J x h 0 0 4 [(0, vR x0), (1, vI x1), (2, vI x2), (3, vI x3)] [] := by
  refine hw (fun x2 x3 => J x h 0 0 4 [(0, vR x0), (1, vI x1), (2, vI x2), (3, vI x3)] []) (fun x2 x3 hw => ?_)
  refine j_iload_n X (pc := 4) 3 dX5_votes_4 rfl rfl ?_
  refine j_iconst X (pc := 5) 3 dX5_votes_5 (by decide) ?_
  refine j_icmp_ge X (pc := 6) 32 dX5_votes_6 (by decide) hw (fun hw => ?_) (fun hw => ?_)
  · refine j_iload_n X (pc := 32) 2 dX5_votes_32 rfl rfl ?_
    exact j_iret X (pc := 33) hQ er (Nat.le_of_ble_eq_true rfl) (Nat.le_of_ble_eq_true rfl) dX5_votes_33 hw
  · refine j_iload_n X (pc := 9) 2 dX5_votes_9 rfl rfl ?_
    refine j_aload_n X (pc := 10) 0 dX5_votes_10 rfl rfl ?_
    refine j_getq (ci := 4) X (pc := 11) in_X5 rfl (by decide) 21 (by decide) q1893 (Or.inl rfl) dX5_votes_11 hw (fun y11 hw => ?_)
    refine j_bipush X (pc := 14) 56 dX5_votes_14 (by decide) ?_
    refine j_bipush X (pc := 16) 12 dX5_votes_16 (by decide) ?_
    refine j_iload_n X (pc := 18) 3 dX5_votes_18 rfl rfl ?_
    refine j_imul X (pc := 19) dX5_votes_19 ?_
    refine j_iadd X (pc := 20) dX5_votes_20 ?_
    refine j_iload_n X (pc := 21) 1 dX5_votes_21 rfl rfl ?_
    refine j_iadd X (pc := 22) dX5_votes_22 ?_
    refine j_iald X (pc := 23) 0 rfl dX5_votes_23 hw (fun y23 hw => ?_)
    refine j_iadd X (pc := 24) dX5_votes_24 ?_
    refine j_istore_n X (pc := 25) [(2, vI (x2 + y23)), (0, vR x0), (1, vI x1), (3, vI x3)] dX5_votes_25 rfl (Nat.le_of_ble_eq_true rfl) rfl ?_
    refine j_iinc X (pc := 26) 3 (x3 + 1) [(3, vI (x3 + 1)), (2, vI (x2 + y23)), (0, vR x0), (1, vI x1)] dX5_votes_26 rfl rfl (Nat.le_of_ble_eq_true rfl) rfl ?_
    refine j_goto X (pc := 29) 4 dX5_votes_29 (by decide) ?_
    refine j_lv [(0, vR x0), (1, vI x1), (2, vI (x2 + y23)), (3, vI (x3 + 1))] [2, 3, 1, 0] rfl ?_
    refine j_cs (u' := 0) (v' := 0) (Nat.le_of_ble_eq_true rfl) (Nat.le_of_ble_eq_true rfl) ?_
    exact hw
theorem met_X5_votes (l : Launch) (hlt : l.stackTraces = false) (G : GG) (h : AH) (a0 : Option Nat) (a1 : Int32) (P : Int32 → AH → Prop) (hw : w_X5_votes a0 a1 h P) : ct_i l yX5_votes (ws_ yX5_votes cX5_votes 4 (Option.some Jvm.ClassFile.FieldType.int)) rm_X5_votes G h [vR a0, vI a1] P := by
  refine j_starti hlt [(0, vR a0), (1, vI a1)] (plainFor_of_name (by decide)) rfl rfl (fun x X eG er en hQ => ?_)
  subst eG
  refine j_iconst X (pc := 0) 0 dX5_votes_0 (by decide) ?_
  refine j_istore_n X (pc := 1) [(2, vI 0), (0, vR a0), (1, vI a1)] dX5_votes_1 rfl (Nat.le_of_ble_eq_true rfl) rfl ?_
  refine j_iconst X (pc := 2) 0 dX5_votes_2 (by decide) ?_
  refine j_istore_n X (pc := 3) [(3, vI 0), (2, vI 0), (0, vR a0), (1, vI a1)] dX5_votes_3 rfl (Nat.le_of_ble_eq_true rfl) rfl ?_
  refine j_lv [(0, vR a0), (1, vI a1), (2, vI 0), (3, vI 0)] [2, 3, 1, 0] rfl ?_
  refine j_cs (u' := 0) (v' := 0) (Nat.le_of_ble_eq_true rfl) (Nat.le_of_ble_eq_true rfl) ?_
  exact wk_X5_votes_4 X er en hQ a0 a1 0 0 h hw
abbrev cX5_votesFor : ByteArray := prog_19_method_80_code
def yX5_votesFor : MethodName := ⟨RX5, "votesFor", "(II)I"⟩
def dkwX5_votesFor_1 : List UInt8 := [182, 1, 14, 167, 0, 8, 42, 6, 182, 0, 172, 172]
abbrev dktX5_votesFor_1 : List UInt8 := dkwX5_votesFor_1 ++ []
def dkwX5_votesFor_0 : List UInt8 := [42, 27, 28, 182, 0, 231, 153, 0, 5, 3, 172, 42, 180, 0, 67, 16, 92, 46, 4, 160, 0, 11, 42, 28]
abbrev dktX5_votesFor_0 : List UInt8 := dkwX5_votesFor_0 ++ dktX5_votesFor_1
theorem dksX5_votesFor_0 : cX5_votesFor.data.toList.drop 0 = dktX5_votesFor_0 := by decide +kernel
theorem dksX5_votesFor_1 : cX5_votesFor.data.toList.drop 24 = dktX5_votesFor_1 := dk_seg dksX5_votesFor_0 24 rfl rfl
theorem dX5_votesFor_0 : decode cX5_votesFor 0 = .ok (.aload_n 0, 1) := dk_42 (dk_at dksX5_votesFor_0 0 rfl rfl)
theorem dX5_votesFor_1 : decode cX5_votesFor 1 = .ok (.iload_n 1, 1) := dk_27 (dk_at dksX5_votesFor_0 1 rfl rfl)
theorem dX5_votesFor_2 : decode cX5_votesFor 2 = .ok (.iload_n 2, 1) := dk_28 (dk_at dksX5_votesFor_0 2 rfl rfl)
theorem dX5_votesFor_3 : decode cX5_votesFor 3 = .ok (.invokevirtual 231, 3) := dk_182 0 231 (dk_at dksX5_votesFor_0 3 rfl rfl)
theorem dX5_votesFor_6 : decode cX5_votesFor 6 = .ok (.ifCond .eq 5, 3) := dk_153 0 5 (dk_at dksX5_votesFor_0 6 rfl rfl)
theorem dX5_votesFor_9 : decode cX5_votesFor 9 = .ok (.iconst 0, 1) := dk_3 (dk_at dksX5_votesFor_0 9 rfl rfl)
theorem dX5_votesFor_10 : decode cX5_votesFor 10 = .ok (.ireturn, 1) := dk_172 (dk_at dksX5_votesFor_0 10 rfl rfl)
theorem dX5_votesFor_11 : decode cX5_votesFor 11 = .ok (.aload_n 0, 1) := dk_42 (dk_at dksX5_votesFor_0 11 rfl rfl)
theorem dX5_votesFor_12 : decode cX5_votesFor 12 = .ok (.getfield 67, 3) := dk_180 0 67 (dk_at dksX5_votesFor_0 12 rfl rfl)
theorem dX5_votesFor_15 : decode cX5_votesFor 15 = .ok (.bipush 92, 2) := dk_16 92 (dk_at dksX5_votesFor_0 15 rfl rfl)
theorem dX5_votesFor_17 : decode cX5_votesFor 17 = .ok (.iaload, 1) := dk_46 (dk_at dksX5_votesFor_0 17 rfl rfl)
theorem dX5_votesFor_18 : decode cX5_votesFor 18 = .ok (.iconst 1, 1) := dk_4 (dk_at dksX5_votesFor_0 18 rfl rfl)
theorem dX5_votesFor_19 : decode cX5_votesFor 19 = .ok (.if_icmp .ne 11, 3) := dk_160 0 11 (dk_at dksX5_votesFor_0 19 rfl rfl)
theorem dX5_votesFor_22 : decode cX5_votesFor 22 = .ok (.aload_n 0, 1) := dk_42 (dk_at dksX5_votesFor_0 22 rfl rfl)
theorem dX5_votesFor_23 : decode cX5_votesFor 23 = .ok (.iload_n 2, 1) := dk_28 (dk_at dksX5_votesFor_0 23 rfl rfl)
theorem dX5_votesFor_24 : decode cX5_votesFor 24 = .ok (.invokevirtual 270, 3) := dk_182 1 14 (dk_at dksX5_votesFor_1 0 rfl rfl)
theorem dX5_votesFor_27 : decode cX5_votesFor 27 = .ok (.goto 8, 3) := dk_167 0 8 (dk_at dksX5_votesFor_1 3 rfl rfl)
theorem dX5_votesFor_30 : decode cX5_votesFor 30 = .ok (.aload_n 0, 1) := dk_42 (dk_at dksX5_votesFor_1 6 rfl rfl)
theorem dX5_votesFor_31 : decode cX5_votesFor 31 = .ok (.iconst 3, 1) := dk_6 (dk_at dksX5_votesFor_1 7 rfl rfl)
theorem dX5_votesFor_32 : decode cX5_votesFor 32 = .ok (.invokevirtual 172, 3) := dk_182 0 172 (dk_at dksX5_votesFor_1 8 rfl rfl)
theorem dX5_votesFor_35 : decode cX5_votesFor 35 = .ok (.ireturn, 1) := dk_172 (dk_at dksX5_votesFor_1 11 rfl rfl)
theorem q2284 : (Jvm.Cond.methodLink "PlugboardModel" (270 : Nat) ({ cls := "PlugboardModel", name := "votes", desc := "(I)I" } : Jvm.MethodName)) ∈ lw_all := lw_g (lw_at lw_m10 54 rfl) rfl
theorem q2286 : (Jvm.Cond.instanceMethod ({ cls := "PlugboardModel", name := "votes", desc := "(I)I" } : Jvm.MethodName)) ∈ lw_all := lw_g (lw_at lw_m10 56 rfl) rfl
theorem q2287 : (Jvm.Cond.code ({ cls := "PlugboardModel", name := "votes", desc := "(I)I" } : Jvm.MethodName) prog_19_method_79_code (4 : Nat) (Option.some Jvm.ClassFile.FieldType.int)) ∈ lw_all := lw_g (lw_at lw_m10 57 rfl) rfl
abbrev rm_X5_votesFor : Room := { frames := 5, cells := 0, slots := 0, locals := 109 }
def w_X5_votesFor (a0 : Option Nat) (a1 : Int32) (a2 : Int32) (h : AH) (P : Int32 → AH → Prop) : Prop :=
  is_c h a0 [4] (
  w_X5_isUnseen a0 a1 a2 h (fun y3 h3 =>
  ((y3 = 0 →
    g_q h3 a0 4 21 fun y12 =>
    l_i h3 y12 0 92 fun y17 =>
    ((y17 = 1 →
      is_c h3 a0 [4] (
      w_X5_votes a0 a2 h3 (fun y24 h24 =>
      P y24 h24))) ∧
     (¬ y17 = 1 →
      is_c h3 a0 [4] (
      w_X5_fails a0 3 h3 (fun y32 h32 =>
      P y32 h32))))) ∧
   (¬ y3 = 0 →
    P 0 h3))))
theorem met_X5_votesFor (l : Launch) (hlt : l.stackTraces = false) (G : GG) (h : AH) (a0 : Option Nat) (a1 : Int32) (a2 : Int32) (P : Int32 → AH → Prop) (hw : w_X5_votesFor a0 a1 a2 h P) : ct_i l yX5_votesFor (ws_ yX5_votesFor cX5_votesFor 3 (Option.some Jvm.ClassFile.FieldType.int)) rm_X5_votesFor G h [vR a0, vI a1, vI a2] P := by
  refine j_starti hlt [(0, vR a0), (1, vI a1), (2, vI a2)] (plainFor_of_name (by decide)) rfl rfl (fun x X eG er en hQ => ?_)
  subst eG
  refine j_aload_n X (pc := 0) 0 dX5_votesFor_0 rfl rfl ?_
  refine j_iload_n X (pc := 1) 1 dX5_votesFor_1 rfl rfl ?_
  refine j_iload_n X (pc := 2) 2 dX5_votesFor_2 rfl rfl ?_
  obtain ⟨b9, c9, f9, hr9, ho9, hc9, hw⟩ := hw
  obtain rfl := List.mem_singleton.mp hc9
  refine j_calli (j_runV (n8 := 2) (As := [vI a1, vI a2]) (rest := []) X (pc := 3) hr9 (met_X5_isUnseen (xl x) X.hl (xG x) h a0 a1 a2 _ hw) ho9 (by decide) rfl q2182 q2184 qs59 q78 q2185 (by decide +kernel) dX5_votesFor_3 rfl ⟨Nat.le_of_ble_eq_true rfl, Nat.le_of_ble_eq_true rfl⟩ (Nat.le_of_ble_eq_true rfl) ⟨Nat.le_of_ble_eq_true rfl, Nat.le_of_ble_eq_true rfl⟩) (fun y3 h3 hw => ?_)
  refine j_if_eq X (pc := 6) 11 dX5_votesFor_6 (by decide) hw (fun hw => ?_) (fun hw => ?_)
  · refine j_aload_n X (pc := 11) 0 dX5_votesFor_11 rfl rfl ?_
    refine j_getq (ci := 4) X (pc := 12) in_X5 rfl (by decide) 21 (by decide) q1893 (Or.inl rfl) dX5_votesFor_12 hw (fun y12 hw => ?_)
    refine j_bipush X (pc := 15) 92 dX5_votesFor_15 (by decide) ?_
    refine j_iald X (pc := 17) 0 rfl dX5_votesFor_17 hw (fun y17 hw => ?_)
    refine j_iconst X (pc := 18) 1 dX5_votesFor_18 (by decide) ?_
    refine j_icmp_ne X (pc := 19) 30 dX5_votesFor_19 (by decide) hw (fun hw => ?_) (fun hw => ?_)
    · refine j_aload_n X (pc := 22) 0 dX5_votesFor_22 rfl rfl ?_
      refine j_iload_n X (pc := 23) 2 dX5_votesFor_23 rfl rfl ?_
      obtain ⟨b9, c9, f9, hr9, ho9, hc9, hw⟩ := hw
      obtain rfl := List.mem_singleton.mp hc9
      refine j_calli (j_runV (n8 := 1) (As := [vI a2]) (rest := []) X (pc := 24) hr9 (met_X5_votes (xl x) X.hl (xG x) h3 a0 a2 _ hw) ho9 (by decide) rfl q2284 q2286 qs67 q78 q2287 (by decide +kernel) dX5_votesFor_24 rfl ⟨Nat.le_of_ble_eq_true rfl, Nat.le_of_ble_eq_true rfl⟩ (Nat.le_of_ble_eq_true rfl) ⟨Nat.le_of_ble_eq_true rfl, Nat.le_of_ble_eq_true rfl⟩) (fun y24 h24 hw => ?_)
      refine j_goto X (pc := 27) 35 dX5_votesFor_27 (by decide) ?_
      exact j_iret X (pc := 35) hQ er (Nat.le_of_ble_eq_true rfl) (Nat.le_of_ble_eq_true rfl) dX5_votesFor_35 hw
    · refine j_aload_n X (pc := 30) 0 dX5_votesFor_30 rfl rfl ?_
      refine j_iconst X (pc := 31) 3 dX5_votesFor_31 (by decide) ?_
      obtain ⟨b9, c9, f9, hr9, ho9, hc9, hw⟩ := hw
      obtain rfl := List.mem_singleton.mp hc9
      refine j_calli (j_runV (n8 := 1) (As := [vI 3]) (rest := []) X (pc := 32) hr9 (met_X5_fails (xl x) X.hl (xG x) h3 a0 3 _ hw) ho9 (by decide) rfl q1988 q1990 qs33 q78 q1991 (by decide +kernel) dX5_votesFor_32 rfl ⟨Nat.le_of_ble_eq_true rfl, Nat.le_of_ble_eq_true rfl⟩ (Nat.le_of_ble_eq_true rfl) ⟨Nat.le_of_ble_eq_true rfl, Nat.le_of_ble_eq_true rfl⟩) (fun y32 h32 hw => ?_)
      exact j_iret X (pc := 35) hQ er (Nat.le_of_ble_eq_true rfl) (Nat.le_of_ble_eq_true rfl) dX5_votesFor_35 hw
  · refine j_iconst X (pc := 9) 0 dX5_votesFor_9 (by decide) ?_
    exact j_iret X (pc := 10) hQ er (Nat.le_of_ble_eq_true rfl) (Nat.le_of_ble_eq_true rfl) dX5_votesFor_10 hw
abbrev cX1_winner : ByteArray := prog_1_method_77_code
def yX1_winner : MethodName := ⟨RX1, "winner", "(I)I"⟩
def dkwX1_winner_4 : List UInt8 := [167, 0, 4, 3, 184, 0, 117, 45, 180, 1, 8, 172]
abbrev dktX1_winner_4 : List UInt8 := dkwX1_winner_4 ++ []
def dkwX1_winner_3 : List UInt8 := [167, 0, 4, 45, 78, 21, 4, 21, 7, 184, 1, 179, 54, 4, 167, 255, 203, 45, 198, 0, 7, 4]
abbrev dktX1_winner_3 : List UInt8 := dkwX1_winner_3 ++ dktX1_winner_4
def dkwX1_winner_2 : List UInt8 := [192, 0, 124, 58, 6, 44, 25, 6, 184, 1, 175, 54, 7, 21, 7, 21, 4, 164, 0, 8, 25, 6]
abbrev dktX1_winner_2 : List UInt8 := dkwX1_winner_2 ++ dktX1_winner_3
def dkwX1_winner_1 : List UInt8 := [185, 0, 173, 1, 0, 58, 5, 25, 5, 185, 0, 179, 1, 0, 153, 0, 49, 25, 5, 185, 0, 185, 1, 0]
abbrev dktX1_winner_1 : List UInt8 := dkwX1_winner_1 ++ dktX1_winner_2
def dkwX1_winner_0 : List UInt8 := [42, 27, 182, 0, 199, 77, 44, 184, 1, 60, 184, 0, 232, 1, 78, 3, 54, 4, 44, 182, 0, 169]
abbrev dktX1_winner_0 : List UInt8 := dkwX1_winner_0 ++ dktX1_winner_1
theorem dksX1_winner_0 : cX1_winner.data.toList.drop 0 = dktX1_winner_0 := by decide +kernel
theorem dksX1_winner_1 : cX1_winner.data.toList.drop 22 = dktX1_winner_1 := dk_seg dksX1_winner_0 22 rfl rfl
theorem dksX1_winner_2 : cX1_winner.data.toList.drop 46 = dktX1_winner_2 := dk_seg dksX1_winner_1 24 rfl rfl
theorem dksX1_winner_3 : cX1_winner.data.toList.drop 68 = dktX1_winner_3 := dk_seg dksX1_winner_2 22 rfl rfl
theorem dksX1_winner_4 : cX1_winner.data.toList.drop 90 = dktX1_winner_4 := dk_seg dksX1_winner_3 22 rfl rfl
theorem dX1_winner_0 : decode cX1_winner 0 = .ok (.aload_n 0, 1) := dk_42 (dk_at dksX1_winner_0 0 rfl rfl)
theorem dX1_winner_1 : decode cX1_winner 1 = .ok (.iload_n 1, 1) := dk_27 (dk_at dksX1_winner_0 1 rfl rfl)
theorem dX1_winner_2 : decode cX1_winner 2 = .ok (.invokevirtual 199, 3) := dk_182 0 199 (dk_at dksX1_winner_0 2 rfl rfl)
theorem dX1_winner_5 : decode cX1_winner 5 = .ok (.astore_n 2, 1) := dk_77 (dk_at dksX1_winner_0 5 rfl rfl)
theorem dX1_winner_6 : decode cX1_winner 6 = .ok (.aload_n 2, 1) := dk_44 (dk_at dksX1_winner_0 6 rfl rfl)
theorem dX1_winner_7 : decode cX1_winner 7 = .ok (.invokestatic 316, 3) := dk_184 1 60 (dk_at dksX1_winner_0 7 rfl rfl)
theorem dX1_winner_10 : decode cX1_winner 10 = .ok (.invokestatic 232, 3) := dk_184 0 232 (dk_at dksX1_winner_0 10 rfl rfl)
theorem dX1_winner_13 : decode cX1_winner 13 = .ok (.aconst_null, 1) := dk_1 (dk_at dksX1_winner_0 13 rfl rfl)
theorem dX1_winner_14 : decode cX1_winner 14 = .ok (.astore_n 3, 1) := dk_78 (dk_at dksX1_winner_0 14 rfl rfl)
theorem dX1_winner_15 : decode cX1_winner 15 = .ok (.iconst 0, 1) := dk_3 (dk_at dksX1_winner_0 15 rfl rfl)
theorem dX1_winner_16 : decode cX1_winner 16 = .ok (.istore 4, 2) := dk_54 4 (dk_at dksX1_winner_0 16 rfl rfl)
theorem dX1_winner_18 : decode cX1_winner 18 = .ok (.aload_n 2, 1) := dk_44 (dk_at dksX1_winner_0 18 rfl rfl)
theorem dX1_winner_19 : decode cX1_winner 19 = .ok (.invokevirtual 169, 3) := dk_182 0 169 (dk_at dksX1_winner_0 19 rfl rfl)
theorem dX1_winner_22 : decode cX1_winner 22 = .ok (.invokeinterface 173 1, 5) := by decide +kernel
theorem dX1_winner_27 : decode cX1_winner 27 = .ok (.astore 5, 2) := dk_58 5 (dk_at dksX1_winner_1 5 rfl rfl)
theorem dX1_winner_29 : decode cX1_winner 29 = .ok (.aload 5, 2) := dk_25 5 (dk_at dksX1_winner_1 7 rfl rfl)
theorem dX1_winner_31 : decode cX1_winner 31 = .ok (.invokeinterface 179 1, 5) := by decide +kernel
theorem dX1_winner_36 : decode cX1_winner 36 = .ok (.ifCond .eq 49, 3) := dk_153 0 49 (dk_at dksX1_winner_1 14 rfl rfl)
theorem dX1_winner_39 : decode cX1_winner 39 = .ok (.aload 5, 2) := dk_25 5 (dk_at dksX1_winner_1 17 rfl rfl)
theorem dX1_winner_41 : decode cX1_winner 41 = .ok (.invokeinterface 185 1, 5) := by decide +kernel
theorem dX1_winner_46 : decode cX1_winner 46 = .ok (.checkcast 124, 3) := dk_192 0 124 (dk_at dksX1_winner_2 0 rfl rfl)
theorem dX1_winner_49 : decode cX1_winner 49 = .ok (.astore 6, 2) := dk_58 6 (dk_at dksX1_winner_2 3 rfl rfl)
theorem dX1_winner_51 : decode cX1_winner 51 = .ok (.aload_n 2, 1) := dk_44 (dk_at dksX1_winner_2 5 rfl rfl)
theorem dX1_winner_52 : decode cX1_winner 52 = .ok (.aload 6, 2) := dk_25 6 (dk_at dksX1_winner_2 6 rfl rfl)
theorem dX1_winner_54 : decode cX1_winner 54 = .ok (.invokestatic 431, 3) := dk_184 1 175 (dk_at dksX1_winner_2 8 rfl rfl)
theorem dX1_winner_57 : decode cX1_winner 57 = .ok (.istore 7, 2) := dk_54 7 (dk_at dksX1_winner_2 11 rfl rfl)
theorem dX1_winner_59 : decode cX1_winner 59 = .ok (.iload 7, 2) := dk_21 7 (dk_at dksX1_winner_2 13 rfl rfl)
theorem dX1_winner_61 : decode cX1_winner 61 = .ok (.iload 4, 2) := dk_21 4 (dk_at dksX1_winner_2 15 rfl rfl)
theorem dX1_winner_63 : decode cX1_winner 63 = .ok (.if_icmp .le 8, 3) := dk_164 0 8 (dk_at dksX1_winner_2 17 rfl rfl)
theorem dX1_winner_66 : decode cX1_winner 66 = .ok (.aload 6, 2) := dk_25 6 (dk_at dksX1_winner_2 20 rfl rfl)
theorem dX1_winner_68 : decode cX1_winner 68 = .ok (.goto 4, 3) := dk_167 0 4 (dk_at dksX1_winner_3 0 rfl rfl)
theorem dX1_winner_71 : decode cX1_winner 71 = .ok (.aload_n 3, 1) := dk_45 (dk_at dksX1_winner_3 3 rfl rfl)
theorem dX1_winner_72 : decode cX1_winner 72 = .ok (.astore_n 3, 1) := dk_78 (dk_at dksX1_winner_3 4 rfl rfl)
theorem dX1_winner_73 : decode cX1_winner 73 = .ok (.iload 4, 2) := dk_21 4 (dk_at dksX1_winner_3 5 rfl rfl)
theorem dX1_winner_75 : decode cX1_winner 75 = .ok (.iload 7, 2) := dk_21 7 (dk_at dksX1_winner_3 7 rfl rfl)
theorem dX1_winner_77 : decode cX1_winner 77 = .ok (.invokestatic 435, 3) := dk_184 1 179 (dk_at dksX1_winner_3 9 rfl rfl)
theorem dX1_winner_80 : decode cX1_winner 80 = .ok (.istore 4, 2) := dk_54 4 (dk_at dksX1_winner_3 12 rfl rfl)
theorem dX1_winner_82 : decode cX1_winner 82 = .ok (.goto (-53), 3) := dk_167 255 203 (dk_at dksX1_winner_3 14 rfl rfl)
theorem dX1_winner_85 : decode cX1_winner 85 = .ok (.aload_n 3, 1) := dk_45 (dk_at dksX1_winner_3 17 rfl rfl)
theorem dX1_winner_86 : decode cX1_winner 86 = .ok (.ifnull 7, 3) := dk_198 0 7 (dk_at dksX1_winner_3 18 rfl rfl)
theorem dX1_winner_89 : decode cX1_winner 89 = .ok (.iconst 1, 1) := dk_4 (dk_at dksX1_winner_3 21 rfl rfl)
theorem dX1_winner_90 : decode cX1_winner 90 = .ok (.goto 4, 3) := dk_167 0 4 (dk_at dksX1_winner_4 0 rfl rfl)
theorem dX1_winner_93 : decode cX1_winner 93 = .ok (.iconst 0, 1) := dk_3 (dk_at dksX1_winner_4 3 rfl rfl)
theorem dX1_winner_94 : decode cX1_winner 94 = .ok (.invokestatic 117, 3) := dk_184 0 117 (dk_at dksX1_winner_4 4 rfl rfl)
theorem dX1_winner_97 : decode cX1_winner 97 = .ok (.aload_n 3, 1) := dk_45 (dk_at dksX1_winner_4 7 rfl rfl)
theorem dX1_winner_98 : decode cX1_winner 98 = .ok (.getfield 264, 3) := dk_180 1 8 (dk_at dksX1_winner_4 8 rfl rfl)
theorem dX1_winner_101 : decode cX1_winner 101 = .ok (.ireturn, 1) := dk_172 (dk_at dksX1_winner_4 11 rfl rfl)
theorem q1612 : (Jvm.Cond.methodLink "Plugboard" (435 : Nat) ({ cls := "java/lang/Math", name := "max", desc := "(II)I" } : Jvm.MethodName)) ∈ lw_all := lw_g (lw_at lw_m7 102 rfl) rfl
abbrev rm_X1_winner : Room := { frames := 9, cells := 6, slots := 22, locals := 146 }
def w_X1_winner_29 (P : Int32 → AH → Prop) (PX : String → AH → Prop) (x2 : Option Nat) (x3 : Option Nat) (x4 : Int32) (x5 : Option Nat) (h : AH) : Prop :=
  ∀ Z29 : Option Nat → Int32 → AH → Prop, (∀ x3 x4 h, (
      is_c h x5 [6] (
      w_X7_hasNext x5 h (fun y31 h31 =>
      ((y31 = 0 →
        ((x3 = (none : Option Nat) →
          w_X1_requireElement 0 h31 (fun h94 =>
          g_iS h94 x3 0 fun y98 =>
          P y98 h94) PX) ∧
         (¬ x3 = (none : Option Nat) →
          w_X1_requireElement 1 h31 (fun h94 =>
          g_iS h94 x3 0 fun y98 =>
          P y98 h94) PX))) ∧
       (¬ y31 = 0 →
        is_c h31 x5 [6] (
        w_X7_next x5 h31 (fun y41 h41 =>
        is_c h41 y41 [7, 8] (
        w_X1_votesFor_2 x2 y41 h41 (fun y54 h54 =>
        ((y54 ≤ x4 →
          w_J14_max_2 x4 y54 h54 (fun y77 h77 =>
          Z29 x3 y77 h77)) ∧
         (¬ y54 ≤ x4 →
          w_J14_max_2 x4 y54 h54 (fun y77 h77 =>
          Z29 y41 y77 h77))))))))))))
      → Z29 x3 x4 h) → Z29 x3 x4 h
def w_X1_winner (a0 : Option Nat) (a1 : Int32) (h : AH) (P : Int32 → AH → Prop) (PX : String → AH → Prop) : Prop :=
  is_c h a0 [0] (
  w_X1_board a0 a1 h (fun y2 h2 =>
  w_X1_areShown y2 h2 (fun y7 h7 =>
  w_X1_requireSupported y7 h7 (fun h10 =>
  is_c h10 y2 [2] (
  w_X3_seen y2 h10 (fun y19 h19 =>
  is_c h19 y19 [5] (
  w_X6_iterator y19 h19 (fun y22 h22 =>
  w_X1_winner_29 P PX y2 none 0 y22 h22))))) PX)) PX)
theorem wk_X1_winner_29 {x : CX} (X : Ok x cX1_winner RX1 rm_X1_winner 8) (er : xrt x = (Option.some Jvm.ClassFile.FieldType.int)) (en : xnm x = yX1_winner.name) {P : Int32 → AH → Prop} {PX : String → AH → Prop} (hQ : xr_i x P) (hT : xt_ x PX) (hex : ∀ z ∈ x.2.2.2.2.2.2.2.2.2.1.exceptionTable.toList, False) (x2 : Option Nat) (x3 : Option Nat) (x4 : Int32) (x5 : Option Nat) (h : AH) (hw : w_X1_winner_29 P PX x2 x3 x4 x5 h) : J x h 5 16 29 [(2, vR x2), (3, vR x3), (4, vI x4), (5, vR x5)] [] := by
  refine hw (fun x3 x4 h => J x h 5 16 29 [(2, vR x2), (3, vR x3), (4, vI x4), (5, vR x5)] []) (fun x3 x4 h hw => ?_)
  refine j_aload X (pc := 29) 3 dX1_winner_29 rfl ?_
  obtain ⟨b9, c9, f9, hr9, ho9, hc9, hw⟩ := hw
  obtain rfl := List.mem_singleton.mp hc9
  refine j_call5i (j_runF (n8 := 0) (As := []) (rest := []) X (pc := 31) hr9 (met_X7_hasNext (xl x) X.hl (xG x) h x5 _ hw) ho9 (by decide) rfl q481 q485 q487 q85 q489 (fun U hU => kt_F2 hU) (by decide +kernel) dX1_winner_31 rfl ⟨Nat.le_of_ble_eq_true rfl, Nat.le_of_ble_eq_true rfl⟩ (Nat.le_of_ble_eq_true rfl) ⟨Nat.le_of_ble_eq_true rfl, Nat.le_of_ble_eq_true rfl⟩) (fun y31 h31 hw => ?_)
  refine j_if_eq X (pc := 36) 85 dX1_winner_36 (by decide) hw (fun hw => ?_) (fun hw => ?_)
  · refine j_aload_n X (pc := 85) 1 dX1_winner_85 rfl rfl ?_
    refine j_ifnull X (pc := 86) 93 dX1_winner_86 (by decide) hw (fun hw => ?_) (fun hw => ?_)
    · refine j_iconst X (pc := 93) 0 dX1_winner_93 (by decide) ?_
      refine j_callXv (j_runSX (n8 := 1) (As := [vI 0]) (rest := []) X (pc := 94) (met_X1_requireElement (xl x) X.hl (xG x) h31 0 _ _ hw) q1080 q1081 q71 q1082 (by decide +kernel) dX1_winner_94 rfl ⟨Nat.le_of_ble_eq_true rfl, Nat.le_of_ble_eq_true rfl⟩ (Nat.le_of_ble_eq_true rfl) ⟨Nat.le_of_ble_eq_true rfl, Nat.le_of_ble_eq_true rfl⟩) (fun E h9 hx => j_out X hT hex (Nat.le_of_ble_eq_true rfl) (Nat.le_of_ble_eq_true rfl) hx) (fun h94 hw => ?_)
      refine j_aload_n X (pc := 97) 1 dX1_winner_97 rfl rfl ?_
      refine j_getiSN X (pc := 98) 0 (by decide) q578 dX1_winner_98 hw (fun y98 hw => ?_)
      exact j_iret X (pc := 101) hQ er (Nat.le_of_ble_eq_true rfl) (Nat.le_of_ble_eq_true rfl) dX1_winner_101 hw
    · refine j_iconst X (pc := 89) 1 dX1_winner_89 (by decide) ?_
      refine j_goto X (pc := 90) 94 dX1_winner_90 (by decide) ?_
      refine j_callXv (j_runSX (n8 := 1) (As := [vI 1]) (rest := []) X (pc := 94) (met_X1_requireElement (xl x) X.hl (xG x) h31 1 _ _ hw) q1080 q1081 q71 q1082 (by decide +kernel) dX1_winner_94 rfl ⟨Nat.le_of_ble_eq_true rfl, Nat.le_of_ble_eq_true rfl⟩ (Nat.le_of_ble_eq_true rfl) ⟨Nat.le_of_ble_eq_true rfl, Nat.le_of_ble_eq_true rfl⟩) (fun E h9 hx => j_out X hT hex (Nat.le_of_ble_eq_true rfl) (Nat.le_of_ble_eq_true rfl) hx) (fun h94 hw => ?_)
      refine j_aload_n X (pc := 97) 1 dX1_winner_97 rfl rfl ?_
      refine j_getiSN X (pc := 98) 0 (by decide) q578 dX1_winner_98 hw (fun y98 hw => ?_)
      exact j_iret X (pc := 101) hQ er (Nat.le_of_ble_eq_true rfl) (Nat.le_of_ble_eq_true rfl) dX1_winner_101 hw
  · refine j_aload X (pc := 39) 3 dX1_winner_39 rfl ?_
    obtain ⟨b9, c9, f9, hr9, ho9, hc9, hw⟩ := hw
    obtain rfl := List.mem_singleton.mp hc9
    refine j_call5q (j_runF (n8 := 0) (As := []) (rest := []) X (pc := 41) hr9 (met_X7_next (xl x) X.hl (xG x) h31 x5 _ hw) ho9 (by decide) rfl q499 q502 q504 q85 q506 (fun U hU => kt_F3 hU) (by decide +kernel) dX1_winner_41 rfl ⟨Nat.le_of_ble_eq_true rfl, Nat.le_of_ble_eq_true rfl⟩ (Nat.le_of_ble_eq_true rfl) ⟨Nat.le_of_ble_eq_true rfl, Nat.le_of_ble_eq_true rfl⟩) (fun y41 h41 hw => ?_)
    refine j_chk X (pc := 46) (L := [7, 8]) q550 (by intro ci hci; simp only [List.mem_cons, List.not_mem_nil, or_false] at hci; rcases hci with rfl | rfl <;> first | exact ⟨by decide, _, _, _, rfl, Or.inr q2343⟩ | exact ⟨by decide, _, _, _, rfl, Or.inr q2344⟩) dX1_winner_46 hw (fun hw => ?_)
    refine j_astore X (pc := 49) [(6, vR y41), (2, vR x2), (3, vR x3), (4, vI x4), (5, vR x5)] dX1_winner_49 (Nat.le_of_ble_eq_true rfl) rfl ?_
    refine j_aload_n X (pc := 51) 1 dX1_winner_51 rfl rfl ?_
    refine j_aload X (pc := 52) 0 dX1_winner_52 rfl ?_
    refine j_calli (j_runS (n8 := 2) (As := [vR x2, vR y41]) (rest := []) X (pc := 54) (met_X1_votesFor_2 (xl x) X.hl (xG x) h41 x2 y41 _ hw) q1602 q1603 q71 q1604 (by decide +kernel) dX1_winner_54 rfl ⟨Nat.le_of_ble_eq_true rfl, Nat.le_of_ble_eq_true rfl⟩ (Nat.le_of_ble_eq_true rfl) ⟨Nat.le_of_ble_eq_true rfl, Nat.le_of_ble_eq_true rfl⟩) (fun y54 h54 hw => ?_)
    refine j_istore X (pc := 57) [(7, vI y54), (6, vR y41), (2, vR x2), (3, vR x3), (4, vI x4), (5, vR x5)] dX1_winner_57 (Nat.le_of_ble_eq_true rfl) rfl ?_
    refine j_iload X (pc := 59) 0 dX1_winner_59 rfl ?_
    refine j_iload X (pc := 61) 4 dX1_winner_61 rfl ?_
    refine j_icmp_le X (pc := 63) 71 dX1_winner_63 (by decide) hw (fun hw => ?_) (fun hw => ?_)
    · refine j_aload_n X (pc := 71) 3 dX1_winner_71 rfl rfl ?_
      refine j_astore_n X (pc := 72) [(3, vR x3), (7, vI y54), (6, vR y41), (2, vR x2), (4, vI x4), (5, vR x5)] dX1_winner_72 rfl (Nat.le_of_ble_eq_true rfl) rfl ?_
      refine j_iload X (pc := 73) 4 dX1_winner_73 rfl ?_
      refine j_iload X (pc := 75) 1 dX1_winner_75 rfl ?_
      refine j_calli (j_runS (n8 := 2) (As := [vI x4, vI y54]) (rest := []) X (pc := 77) (met_J14_max_2 (xl x) X.hl (xG x) h54 x4 y54 _ hw) q1612 q622 q92 q623 (by decide +kernel) dX1_winner_77 rfl ⟨Nat.le_of_ble_eq_true rfl, Nat.le_of_ble_eq_true rfl⟩ (Nat.le_of_ble_eq_true rfl) ⟨Nat.le_of_ble_eq_true rfl, Nat.le_of_ble_eq_true rfl⟩) (fun y77 h77 hw => ?_)
      refine j_istore X (pc := 80) [(4, vI y77), (3, vR x3), (7, vI y54), (6, vR y41), (2, vR x2), (5, vR x5)] dX1_winner_80 (Nat.le_of_ble_eq_true rfl) rfl ?_
      refine j_goto X (pc := 82) 29 dX1_winner_82 (by decide) ?_
      refine j_lv [(2, vR x2), (3, vR x3), (4, vI y77), (5, vR x5)] [4, 1, 0, 5] rfl ?_
      refine j_cs (u' := 5) (v' := 16) (Nat.le_of_ble_eq_true rfl) (Nat.le_of_ble_eq_true rfl) ?_
      exact hw
    · refine j_aload X (pc := 66) 1 dX1_winner_66 rfl ?_
      refine j_goto X (pc := 68) 72 dX1_winner_68 (by decide) ?_
      refine j_astore_n X (pc := 72) [(3, vR y41), (7, vI y54), (6, vR y41), (2, vR x2), (4, vI x4), (5, vR x5)] dX1_winner_72 rfl (Nat.le_of_ble_eq_true rfl) rfl ?_
      refine j_iload X (pc := 73) 4 dX1_winner_73 rfl ?_
      refine j_iload X (pc := 75) 1 dX1_winner_75 rfl ?_
      refine j_calli (j_runS (n8 := 2) (As := [vI x4, vI y54]) (rest := []) X (pc := 77) (met_J14_max_2 (xl x) X.hl (xG x) h54 x4 y54 _ hw) q1612 q622 q92 q623 (by decide +kernel) dX1_winner_77 rfl ⟨Nat.le_of_ble_eq_true rfl, Nat.le_of_ble_eq_true rfl⟩ (Nat.le_of_ble_eq_true rfl) ⟨Nat.le_of_ble_eq_true rfl, Nat.le_of_ble_eq_true rfl⟩) (fun y77 h77 hw => ?_)
      refine j_istore X (pc := 80) [(4, vI y77), (3, vR y41), (7, vI y54), (6, vR y41), (2, vR x2), (5, vR x5)] dX1_winner_80 (Nat.le_of_ble_eq_true rfl) rfl ?_
      refine j_goto X (pc := 82) 29 dX1_winner_82 (by decide) ?_
      refine j_lv [(2, vR x2), (3, vR y41), (4, vI y77), (5, vR x5)] [4, 1, 0, 5] rfl ?_
      refine j_cs (u' := 5) (v' := 16) (Nat.le_of_ble_eq_true rfl) (Nat.le_of_ble_eq_true rfl) ?_
      exact hw
theorem met_X1_winner (l : Launch) (hlt : l.stackTraces = false) (G : GG) (h : AH) (a0 : Option Nat) (a1 : Int32) (P : Int32 → AH → Prop) (PX : String → AH → Prop) (hw : w_X1_winner a0 a1 h P PX) : cx_i l yX1_winner (ws_ yX1_winner cX1_winner 8 (Option.some Jvm.ClassFile.FieldType.int)) rm_X1_winner G h [vR a0, vI a1] P PX := by
  refine j_startXi hlt [(0, vR a0), (1, vI a1)] (by decide) rfl rfl (fun x X eG er en hQ hT hex => ?_)
  subst eG
  refine j_aload_n X (pc := 0) 0 dX1_winner_0 rfl rfl ?_
  refine j_iload_n X (pc := 1) 1 dX1_winner_1 rfl rfl ?_
  obtain ⟨b9, c9, f9, hr9, ho9, hc9, hw⟩ := hw
  obtain rfl := List.mem_singleton.mp hc9
  refine j_callXq (j_runVX (n8 := 1) (As := [vI a1]) (rest := []) X (pc := 2) hr9 (met_X1_board (xl x) X.hl (xG x) h a0 a1 _ _ hw) ho9 (by decide) rfl q297 q299 qs0 q71 q300 (by decide +kernel) dX1_winner_2 rfl ⟨Nat.le_of_ble_eq_true rfl, Nat.le_of_ble_eq_true rfl⟩ (Nat.le_of_ble_eq_true rfl) ⟨Nat.le_of_ble_eq_true rfl, Nat.le_of_ble_eq_true rfl⟩) (fun E h9 hx => j_out X hT hex (Nat.le_of_ble_eq_true rfl) (Nat.le_of_ble_eq_true rfl) hx) (fun y2 h2 hw => ?_)
  refine j_astore_n X (pc := 5) [(2, vR y2), (0, vR a0), (1, vI a1)] dX1_winner_5 rfl (Nat.le_of_ble_eq_true rfl) rfl ?_
  refine j_aload_n X (pc := 6) 0 dX1_winner_6 rfl rfl ?_
  refine j_calli (j_runS (n8 := 1) (As := [vR y2]) (rest := []) X (pc := 7) (met_X1_areShown (xl x) X.hl (xG x) h2 y2 _ hw) q1332 q1333 q71 q1334 (by decide +kernel) dX1_winner_7 rfl ⟨Nat.le_of_ble_eq_true rfl, Nat.le_of_ble_eq_true rfl⟩ (Nat.le_of_ble_eq_true rfl) ⟨Nat.le_of_ble_eq_true rfl, Nat.le_of_ble_eq_true rfl⟩) (fun y7 h7 hw => ?_)
  refine j_callXv (j_runSX (n8 := 1) (As := [vI y7]) (rest := []) X (pc := 10) (met_X1_requireSupported (xl x) X.hl (xG x) h7 y7 _ _ hw) q1097 q1098 q71 q1099 (by decide +kernel) dX1_winner_10 rfl ⟨Nat.le_of_ble_eq_true rfl, Nat.le_of_ble_eq_true rfl⟩ (Nat.le_of_ble_eq_true rfl) ⟨Nat.le_of_ble_eq_true rfl, Nat.le_of_ble_eq_true rfl⟩) (fun E h9 hx => j_out X hT hex (Nat.le_of_ble_eq_true rfl) (Nat.le_of_ble_eq_true rfl) hx) (fun h10 hw => ?_)
  refine j_null X (pc := 13) dX1_winner_13 ?_
  refine j_astore_n X (pc := 14) [(3, vR none), (2, vR y2), (0, vR a0), (1, vI a1)] dX1_winner_14 rfl (Nat.le_of_ble_eq_true rfl) rfl ?_
  refine j_iconst X (pc := 15) 0 dX1_winner_15 (by decide) ?_
  refine j_istore X (pc := 16) [(4, vI 0), (3, vR none), (2, vR y2), (0, vR a0), (1, vI a1)] dX1_winner_16 (Nat.le_of_ble_eq_true rfl) rfl ?_
  refine j_aload_n X (pc := 18) 2 dX1_winner_18 rfl rfl ?_
  obtain ⟨b9, c9, f9, hr9, ho9, hc9, hw⟩ := hw
  obtain rfl := List.mem_singleton.mp hc9
  refine j_callq (j_runV (n8 := 0) (As := []) (rest := []) X (pc := 19) hr9 (met_X3_seen (xl x) X.hl (xG x) h10 y2 _ hw) ho9 (by decide) rfl q418 q419 q420 q76 q421 (by decide +kernel) dX1_winner_19 rfl ⟨Nat.le_of_ble_eq_true rfl, Nat.le_of_ble_eq_true rfl⟩ (Nat.le_of_ble_eq_true rfl) ⟨Nat.le_of_ble_eq_true rfl, Nat.le_of_ble_eq_true rfl⟩) (fun y19 h19 hw => ?_)
  obtain ⟨b9, c9, f9, hr9, ho9, hc9, hw⟩ := hw
  obtain rfl := List.mem_singleton.mp hc9
  refine j_call5q (j_runF (n8 := 0) (As := []) (rest := []) X (pc := 22) hr9 (met_X6_iterator (xl x) X.hl (xG x) h19 y19 _ hw) ho9 (by decide) rfl q433 q437 q439 q84 q441 (fun U hU => kt_F1 hU) (by decide +kernel) dX1_winner_22 rfl ⟨Nat.le_of_ble_eq_true rfl, Nat.le_of_ble_eq_true rfl⟩ (Nat.le_of_ble_eq_true rfl) ⟨Nat.le_of_ble_eq_true rfl, Nat.le_of_ble_eq_true rfl⟩) (fun y22 h22 hw => ?_)
  refine j_astore X (pc := 27) [(5, vR y22), (4, vI 0), (3, vR none), (2, vR y2), (0, vR a0), (1, vI a1)] dX1_winner_27 (Nat.le_of_ble_eq_true rfl) rfl ?_
  refine j_lv [(2, vR y2), (3, vR none), (4, vI 0), (5, vR y22)] [3, 2, 1, 0] rfl ?_
  refine j_cs (u' := 5) (v' := 16) (Nat.le_of_ble_eq_true rfl) (Nat.le_of_ble_eq_true rfl) ?_
  exact wk_X1_winner_29 X er en hQ hT hex y2 none 0 y22 h22 hw
abbrev cX0_winner : ByteArray := method_39_code
def yX0_winner : MethodName := ⟨RX0, "winner", "(LPlugboard;I[J)I"⟩
def dkwX0_winner_0 : List UInt8 := [44, 3, 42, 27, 182, 0, 136, 133, 80, 167, 0, 12, 78, 4, 172, 78, 5, 172, 78, 6, 172, 3, 172]
abbrev dktX0_winner_0 : List UInt8 := dkwX0_winner_0 ++ []
theorem dksX0_winner_0 : cX0_winner.data.toList.drop 0 = dktX0_winner_0 := by decide +kernel
theorem dX0_winner_0 : decode cX0_winner 0 = .ok (.aload_n 2, 1) := dk_44 (dk_at dksX0_winner_0 0 rfl rfl)
theorem dX0_winner_1 : decode cX0_winner 1 = .ok (.iconst 0, 1) := dk_3 (dk_at dksX0_winner_0 1 rfl rfl)
theorem dX0_winner_2 : decode cX0_winner 2 = .ok (.aload_n 0, 1) := dk_42 (dk_at dksX0_winner_0 2 rfl rfl)
theorem dX0_winner_3 : decode cX0_winner 3 = .ok (.iload_n 1, 1) := dk_27 (dk_at dksX0_winner_0 3 rfl rfl)
theorem dX0_winner_4 : decode cX0_winner 4 = .ok (.invokevirtual 136, 3) := dk_182 0 136 (dk_at dksX0_winner_0 4 rfl rfl)
theorem dX0_winner_7 : decode cX0_winner 7 = .ok (.i2l, 1) := dk_133 (dk_at dksX0_winner_0 7 rfl rfl)
theorem dX0_winner_8 : decode cX0_winner 8 = .ok (.lastore, 1) := dk_80 (dk_at dksX0_winner_0 8 rfl rfl)
theorem dX0_winner_9 : decode cX0_winner 9 = .ok (.goto 12, 3) := dk_167 0 12 (dk_at dksX0_winner_0 9 rfl rfl)
theorem dX0_winner_12 : decode cX0_winner 12 = .ok (.astore_n 3, 1) := dk_78 (dk_at dksX0_winner_0 12 rfl rfl)
theorem dX0_winner_13 : decode cX0_winner 13 = .ok (.iconst 1, 1) := dk_4 (dk_at dksX0_winner_0 13 rfl rfl)
theorem dX0_winner_14 : decode cX0_winner 14 = .ok (.ireturn, 1) := dk_172 (dk_at dksX0_winner_0 14 rfl rfl)
theorem dX0_winner_15 : decode cX0_winner 15 = .ok (.astore_n 3, 1) := dk_78 (dk_at dksX0_winner_0 15 rfl rfl)
theorem dX0_winner_16 : decode cX0_winner 16 = .ok (.iconst 2, 1) := dk_5 (dk_at dksX0_winner_0 16 rfl rfl)
theorem dX0_winner_17 : decode cX0_winner 17 = .ok (.ireturn, 1) := dk_172 (dk_at dksX0_winner_0 17 rfl rfl)
theorem dX0_winner_18 : decode cX0_winner 18 = .ok (.astore_n 3, 1) := dk_78 (dk_at dksX0_winner_0 18 rfl rfl)
theorem dX0_winner_19 : decode cX0_winner 19 = .ok (.iconst 3, 1) := dk_6 (dk_at dksX0_winner_0 19 rfl rfl)
theorem dX0_winner_20 : decode cX0_winner 20 = .ok (.ireturn, 1) := dk_172 (dk_at dksX0_winner_0 20 rfl rfl)
theorem dX0_winner_21 : decode cX0_winner 21 = .ok (.iconst 0, 1) := dk_3 (dk_at dksX0_winner_0 21 rfl rfl)
theorem dX0_winner_22 : decode cX0_winner 22 = .ok (.ireturn, 1) := dk_172 (dk_at dksX0_winner_0 22 rfl rfl)
theorem q1608 : (Jvm.Cond.methodLink "PlugboardLaw" (136 : Nat) ({ cls := "Plugboard", name := "winner", desc := "(I)I" } : Jvm.MethodName)) ∈ lw_all := lw_g (lw_at lw_m7 98 rfl) rfl
theorem q1609 : (Jvm.Cond.instanceMethod ({ cls := "Plugboard", name := "winner", desc := "(I)I" } : Jvm.MethodName)) ∈ lw_all := lw_g (lw_at lw_m7 99 rfl) rfl
theorem q1610 : (Jvm.Cond.selects "Plugboard" ({ cls := "Plugboard", name := "winner", desc := "(I)I" } : Jvm.MethodName) ({ cls := "Plugboard", name := "winner", desc := "(I)I" } : Jvm.MethodName)) ∈ lw_all := lw_g (lw_at lw_m7 100 rfl) rfl
theorem q1611 : (Jvm.Cond.code ({ cls := "Plugboard", name := "winner", desc := "(I)I" } : Jvm.MethodName) prog_1_method_77_code (8 : Nat) (Option.some Jvm.ClassFile.FieldType.int)) ∈ lw_all := lw_g (lw_at lw_m7 101 rfl) rfl
abbrev rm_X0_winner : Room := { frames := 10, cells := 6, slots := 22, locals := 173 }
def w_X0_winner (a0 : Option Nat) (a1 : Int32) (a2 : Option Nat) (h : AH) (P : Int32 → AH → Prop) : Prop :=
  is_c h a0 [0] (
  w_X1_winner a0 a1 h (fun y4 h4 =>
  s_L h4 a2 0 (Int32.toInt64 y4) fun h8 =>
  P 0 h8)
    (fun E9 h9 => (E9 = "java/lang/IllegalArgumentException" ∧ ∀ q9 : Nat,
    P 1 h9) ∨
    (E9 = "java/lang/UnsupportedOperationException" ∧ ∀ q9 : Nat,
    P 2 h9) ∨
    (E9 = "java/util/NoSuchElementException" ∧ ∀ q9 : Nat,
    P 3 h9)))
theorem met_X0_winner (l : Launch) (hlt : l.stackTraces = false) (G : GG) (h : AH) (a0 : Option Nat) (a1 : Int32) (a2 : Option Nat) (P : Int32 → AH → Prop) (hw : w_X0_winner a0 a1 a2 h P) : ct_i l yX0_winner (wsW_ yX0_winner cX0_winner 4 (Option.some Jvm.ClassFile.FieldType.int) [((0 : Nat), (9 : Nat), (12 : Nat), (13 : Nat)), ((0 : Nat), (9 : Nat), (15 : Nat), (23 : Nat)), ((0 : Nat), (9 : Nat), (18 : Nat), (21 : Nat))]) rm_X0_winner G h [vR a0, vI a1, vR a2] P := by
  refine j_startWi hlt [(0, vR a0), (1, vI a1), (2, vR a2)] (by decide) rfl rfl (fun x X eG er en hQ hex => ?_)
  subst eG
  refine j_aload_n X (pc := 0) 2 dX0_winner_0 rfl rfl ?_
  refine j_iconst X (pc := 1) 0 dX0_winner_1 (by decide) ?_
  refine j_aload_n X (pc := 2) 0 dX0_winner_2 rfl rfl ?_
  refine j_iload_n X (pc := 3) 1 dX0_winner_3 rfl rfl ?_
  obtain ⟨b9, c9, f9, hr9, ho9, hc9, hw⟩ := hw
  obtain rfl := List.mem_singleton.mp hc9
  refine j_callXi (j_runVX (n8 := 1) (As := [vI a1]) (rest := [vI 0, vR a2]) X (pc := 4) hr9 (met_X1_winner (xl x) X.hl (xG x) h a0 a1 _ _ hw) ho9 (by decide) rfl q1608 q1609 q1610 q71 q1611 (by decide +kernel) dX0_winner_4 rfl ⟨Nat.le_of_ble_eq_true rfl, Nat.le_of_ble_eq_true rfl⟩ (Nat.le_of_ble_eq_true rfl) ⟨Nat.le_of_ble_eq_true rfl, Nat.le_of_ble_eq_true rfl⟩) ?_ (fun y4 h4 hw => ?_)
  · intro E9 h9 hx
    rcases hx with ⟨rfl, hw⟩ | ⟨rfl, hw⟩ | ⟨rfl, hw⟩
    · refine j_catch X (pc := 4) "java/lang/IllegalArgumentException" hex [] [⟨0, 9, 15, 23⟩, ⟨0, 9, 18, 21⟩] ⟨0, 9, 12, 13⟩ rfl (by intro y hy; cases hy) (by decide) (by decide) q291 q312 (fun q9 => ?_)
      have hw := hw q9
      refine j_astore_n X (pc := 12) [(3, vR (some q9)), (0, vR a0), (1, vI a1), (2, vR a2)] dX0_winner_12 rfl (Nat.le_of_ble_eq_true rfl) rfl ?_
      refine j_iconst X (pc := 13) 1 dX0_winner_13 (by decide) ?_
      exact j_iret X (pc := 14) hQ er (Nat.le_of_ble_eq_true rfl) (Nat.le_of_ble_eq_true rfl) dX0_winner_14 hw
    · refine j_catch X (pc := 4) "java/lang/UnsupportedOperationException" hex [⟨0, 9, 12, 13⟩] [⟨0, 9, 18, 21⟩] ⟨0, 9, 15, 23⟩ rfl (by intro y hy; simp only [List.mem_cons, List.not_mem_nil, or_false] at hy; subst hy; exact Or.inr ⟨by decide, "java/lang/IllegalArgumentException", q291, by decide +kernel⟩) (by decide) (by decide) q1069 q1102 (fun q9 => ?_)
      have hw := hw q9
      refine j_astore_n X (pc := 15) [(3, vR (some q9)), (0, vR a0), (1, vI a1), (2, vR a2)] dX0_winner_15 rfl (Nat.le_of_ble_eq_true rfl) rfl ?_
      refine j_iconst X (pc := 16) 2 dX0_winner_16 (by decide) ?_
      exact j_iret X (pc := 17) hQ er (Nat.le_of_ble_eq_true rfl) (Nat.le_of_ble_eq_true rfl) dX0_winner_17 hw
    · refine j_catch X (pc := 4) "java/util/NoSuchElementException" hex [⟨0, 9, 12, 13⟩, ⟨0, 9, 15, 23⟩] [] ⟨0, 9, 18, 21⟩ rfl (by intro y hy; simp only [List.mem_cons, List.not_mem_nil, or_false] at hy; rcases hy with rfl | rfl <;> first | exact Or.inr ⟨by decide, "java/lang/IllegalArgumentException", q291, by decide +kernel⟩ | exact Or.inr ⟨by decide, "java/lang/UnsupportedOperationException", q1069, by decide +kernel⟩) (by decide) (by decide) q1068 q537 (fun q9 => ?_)
      have hw := hw q9
      refine j_astore_n X (pc := 18) [(3, vR (some q9)), (0, vR a0), (1, vI a1), (2, vR a2)] dX0_winner_18 rfl (Nat.le_of_ble_eq_true rfl) rfl ?_
      refine j_iconst X (pc := 19) 3 dX0_winner_19 (by decide) ?_
      exact j_iret X (pc := 20) hQ er (Nat.le_of_ble_eq_true rfl) (Nat.le_of_ble_eq_true rfl) dX0_winner_20 hw
  refine j_i2l X (pc := 7) dX0_winner_7 ?_
  refine j_last X (pc := 8) dX0_winner_8 hw (fun h8 hw => ?_)
  refine j_goto X (pc := 9) 21 dX0_winner_9 (by decide) ?_
  refine j_iconst X (pc := 21) 0 dX0_winner_21 (by decide) ?_
  exact j_iret X (pc := 22) hQ er (Nat.le_of_ble_eq_true rfl) (Nat.le_of_ble_eq_true rfl) dX0_winner_22 hw
abbrev cX5_winner : ByteArray := prog_19_method_81_code
def yX5_winner : MethodName := ⟨RX5, "winner", "(I)I"⟩
def dkwX5_winner_4 : List UInt8 := [172]
abbrev dktX5_winner_4 : List UInt8 := dkwX5_winner_4 ++ []
def dkwX5_winner_3 : List UInt8 := [167, 0, 4, 28, 61, 132, 3, 1, 167, 255, 210, 28, 156, 0, 11, 42, 6, 182, 0, 172, 167, 0, 4, 28]
abbrev dktX5_winner_3 : List UInt8 := dkwX5_winner_3 ++ dktX5_winner_4
def dkwX5_winner_2 : List UInt8 := [42, 29, 182, 1, 14, 28, 156, 0, 7, 3, 167, 0, 8, 42, 28, 182, 1, 14, 164, 0, 7, 29]
abbrev dktX5_winner_2 : List UInt8 := dkwX5_winner_2 ++ dktX5_winner_3
def dkwX5_winner_1 : List UInt8 := [182, 0, 172, 172, 2, 61, 3, 62, 29, 42, 180, 0, 119, 162, 0, 44, 42, 29, 182, 0, 125, 153, 0, 28]
abbrev dktX5_winner_1 : List UInt8 := dkwX5_winner_1 ++ dktX5_winner_2
def dkwX5_winner_0 : List UInt8 := [42, 27, 182, 0, 228, 153, 0, 5, 3, 172, 42, 180, 0, 67, 16, 92, 46, 154, 0, 9, 42, 5]
abbrev dktX5_winner_0 : List UInt8 := dkwX5_winner_0 ++ dktX5_winner_1
theorem dksX5_winner_0 : cX5_winner.data.toList.drop 0 = dktX5_winner_0 := by decide +kernel
theorem dksX5_winner_1 : cX5_winner.data.toList.drop 22 = dktX5_winner_1 := dk_seg dksX5_winner_0 22 rfl rfl
theorem dksX5_winner_2 : cX5_winner.data.toList.drop 46 = dktX5_winner_2 := dk_seg dksX5_winner_1 24 rfl rfl
theorem dksX5_winner_3 : cX5_winner.data.toList.drop 68 = dktX5_winner_3 := dk_seg dksX5_winner_2 22 rfl rfl
theorem dksX5_winner_4 : cX5_winner.data.toList.drop 92 = dktX5_winner_4 := dk_seg dksX5_winner_3 24 rfl rfl
theorem dX5_winner_0 : decode cX5_winner 0 = .ok (.aload_n 0, 1) := dk_42 (dk_at dksX5_winner_0 0 rfl rfl)
theorem dX5_winner_1 : decode cX5_winner 1 = .ok (.iload_n 1, 1) := dk_27 (dk_at dksX5_winner_0 1 rfl rfl)
theorem dX5_winner_2 : decode cX5_winner 2 = .ok (.invokevirtual 228, 3) := dk_182 0 228 (dk_at dksX5_winner_0 2 rfl rfl)
theorem dX5_winner_5 : decode cX5_winner 5 = .ok (.ifCond .eq 5, 3) := dk_153 0 5 (dk_at dksX5_winner_0 5 rfl rfl)
theorem dX5_winner_8 : decode cX5_winner 8 = .ok (.iconst 0, 1) := dk_3 (dk_at dksX5_winner_0 8 rfl rfl)
theorem dX5_winner_9 : decode cX5_winner 9 = .ok (.ireturn, 1) := dk_172 (dk_at dksX5_winner_0 9 rfl rfl)
theorem dX5_winner_10 : decode cX5_winner 10 = .ok (.aload_n 0, 1) := dk_42 (dk_at dksX5_winner_0 10 rfl rfl)
theorem dX5_winner_11 : decode cX5_winner 11 = .ok (.getfield 67, 3) := dk_180 0 67 (dk_at dksX5_winner_0 11 rfl rfl)
theorem dX5_winner_14 : decode cX5_winner 14 = .ok (.bipush 92, 2) := dk_16 92 (dk_at dksX5_winner_0 14 rfl rfl)
theorem dX5_winner_16 : decode cX5_winner 16 = .ok (.iaload, 1) := dk_46 (dk_at dksX5_winner_0 16 rfl rfl)
theorem dX5_winner_17 : decode cX5_winner 17 = .ok (.ifCond .ne 9, 3) := dk_154 0 9 (dk_at dksX5_winner_0 17 rfl rfl)
theorem dX5_winner_20 : decode cX5_winner 20 = .ok (.aload_n 0, 1) := dk_42 (dk_at dksX5_winner_0 20 rfl rfl)
theorem dX5_winner_21 : decode cX5_winner 21 = .ok (.iconst 2, 1) := dk_5 (dk_at dksX5_winner_0 21 rfl rfl)
theorem dX5_winner_22 : decode cX5_winner 22 = .ok (.invokevirtual 172, 3) := dk_182 0 172 (dk_at dksX5_winner_1 0 rfl rfl)
theorem dX5_winner_25 : decode cX5_winner 25 = .ok (.ireturn, 1) := dk_172 (dk_at dksX5_winner_1 3 rfl rfl)
theorem dX5_winner_26 : decode cX5_winner 26 = .ok (.iconst (-1), 1) := dk_2 (dk_at dksX5_winner_1 4 rfl rfl)
theorem dX5_winner_27 : decode cX5_winner 27 = .ok (.istore_n 2, 1) := dk_61 (dk_at dksX5_winner_1 5 rfl rfl)
theorem dX5_winner_28 : decode cX5_winner 28 = .ok (.iconst 0, 1) := dk_3 (dk_at dksX5_winner_1 6 rfl rfl)
theorem dX5_winner_29 : decode cX5_winner 29 = .ok (.istore_n 3, 1) := dk_62 (dk_at dksX5_winner_1 7 rfl rfl)
theorem dX5_winner_30 : decode cX5_winner 30 = .ok (.iload_n 3, 1) := dk_29 (dk_at dksX5_winner_1 8 rfl rfl)
theorem dX5_winner_31 : decode cX5_winner 31 = .ok (.aload_n 0, 1) := dk_42 (dk_at dksX5_winner_1 9 rfl rfl)
theorem dX5_winner_32 : decode cX5_winner 32 = .ok (.getfield 119, 3) := dk_180 0 119 (dk_at dksX5_winner_1 10 rfl rfl)
theorem dX5_winner_35 : decode cX5_winner 35 = .ok (.if_icmp .ge 44, 3) := dk_162 0 44 (dk_at dksX5_winner_1 13 rfl rfl)
theorem dX5_winner_38 : decode cX5_winner 38 = .ok (.aload_n 0, 1) := dk_42 (dk_at dksX5_winner_1 16 rfl rfl)
theorem dX5_winner_39 : decode cX5_winner 39 = .ok (.iload_n 3, 1) := dk_29 (dk_at dksX5_winner_1 17 rfl rfl)
theorem dX5_winner_40 : decode cX5_winner 40 = .ok (.invokevirtual 125, 3) := dk_182 0 125 (dk_at dksX5_winner_1 18 rfl rfl)
theorem dX5_winner_43 : decode cX5_winner 43 = .ok (.ifCond .eq 28, 3) := dk_153 0 28 (dk_at dksX5_winner_1 21 rfl rfl)
theorem dX5_winner_46 : decode cX5_winner 46 = .ok (.aload_n 0, 1) := dk_42 (dk_at dksX5_winner_2 0 rfl rfl)
theorem dX5_winner_47 : decode cX5_winner 47 = .ok (.iload_n 3, 1) := dk_29 (dk_at dksX5_winner_2 1 rfl rfl)
theorem dX5_winner_48 : decode cX5_winner 48 = .ok (.invokevirtual 270, 3) := dk_182 1 14 (dk_at dksX5_winner_2 2 rfl rfl)
theorem dX5_winner_51 : decode cX5_winner 51 = .ok (.iload_n 2, 1) := dk_28 (dk_at dksX5_winner_2 5 rfl rfl)
theorem dX5_winner_52 : decode cX5_winner 52 = .ok (.ifCond .ge 7, 3) := dk_156 0 7 (dk_at dksX5_winner_2 6 rfl rfl)
theorem dX5_winner_55 : decode cX5_winner 55 = .ok (.iconst 0, 1) := dk_3 (dk_at dksX5_winner_2 9 rfl rfl)
theorem dX5_winner_56 : decode cX5_winner 56 = .ok (.goto 8, 3) := dk_167 0 8 (dk_at dksX5_winner_2 10 rfl rfl)
theorem dX5_winner_59 : decode cX5_winner 59 = .ok (.aload_n 0, 1) := dk_42 (dk_at dksX5_winner_2 13 rfl rfl)
theorem dX5_winner_60 : decode cX5_winner 60 = .ok (.iload_n 2, 1) := dk_28 (dk_at dksX5_winner_2 14 rfl rfl)
theorem dX5_winner_61 : decode cX5_winner 61 = .ok (.invokevirtual 270, 3) := dk_182 1 14 (dk_at dksX5_winner_2 15 rfl rfl)
theorem dX5_winner_64 : decode cX5_winner 64 = .ok (.if_icmp .le 7, 3) := dk_164 0 7 (dk_at dksX5_winner_2 18 rfl rfl)
theorem dX5_winner_67 : decode cX5_winner 67 = .ok (.iload_n 3, 1) := dk_29 (dk_at dksX5_winner_2 21 rfl rfl)
theorem dX5_winner_68 : decode cX5_winner 68 = .ok (.goto 4, 3) := dk_167 0 4 (dk_at dksX5_winner_3 0 rfl rfl)
theorem dX5_winner_71 : decode cX5_winner 71 = .ok (.iload_n 2, 1) := dk_28 (dk_at dksX5_winner_3 3 rfl rfl)
theorem dX5_winner_72 : decode cX5_winner 72 = .ok (.istore_n 2, 1) := dk_61 (dk_at dksX5_winner_3 4 rfl rfl)
theorem dX5_winner_73 : decode cX5_winner 73 = .ok (.iinc 3 1, 3) := dk_132 3 1 (dk_at dksX5_winner_3 5 rfl rfl)
theorem dX5_winner_76 : decode cX5_winner 76 = .ok (.goto (-46), 3) := dk_167 255 210 (dk_at dksX5_winner_3 8 rfl rfl)
theorem dX5_winner_79 : decode cX5_winner 79 = .ok (.iload_n 2, 1) := dk_28 (dk_at dksX5_winner_3 11 rfl rfl)
theorem dX5_winner_80 : decode cX5_winner 80 = .ok (.ifCond .ge 11, 3) := dk_156 0 11 (dk_at dksX5_winner_3 12 rfl rfl)
theorem dX5_winner_83 : decode cX5_winner 83 = .ok (.aload_n 0, 1) := dk_42 (dk_at dksX5_winner_3 15 rfl rfl)
theorem dX5_winner_84 : decode cX5_winner 84 = .ok (.iconst 3, 1) := dk_6 (dk_at dksX5_winner_3 16 rfl rfl)
theorem dX5_winner_85 : decode cX5_winner 85 = .ok (.invokevirtual 172, 3) := dk_182 0 172 (dk_at dksX5_winner_3 17 rfl rfl)
theorem dX5_winner_88 : decode cX5_winner 88 = .ok (.goto 4, 3) := dk_167 0 4 (dk_at dksX5_winner_3 20 rfl rfl)
theorem dX5_winner_91 : decode cX5_winner 91 = .ok (.iload_n 2, 1) := dk_28 (dk_at dksX5_winner_3 23 rfl rfl)
theorem dX5_winner_92 : decode cX5_winner 92 = .ok (.ireturn, 1) := dk_172 (dk_at dksX5_winner_4 0 rfl rfl)
abbrev rm_X5_winner : Room := { frames := 4, cells := 0, slots := 0, locals := 87 }
def w_X5_winner_64 (P : Int32 → AH → Prop) (Z30 : Int32 → Int32 → AH → Prop) (x0 : Option Nat) (x2 : Int32) (x3 : Int32) (t0 : Int32) (t1 : Int32) (h : AH) : Prop :=
  ((t1 ≤ t0 →
    Z30 x2 (x3 + 1) h) ∧
   (¬ t1 ≤ t0 →
    Z30 x3 (x3 + 1) h))
def w_X5_winner_30 (P : Int32 → AH → Prop) (x0 : Option Nat) (x2 : Int32) (x3 : Int32) (h : AH) : Prop :=
  ∀ Z30 : Int32 → Int32 → AH → Prop, (∀ x2 x3 h, (
      g_i h x0 4 8 fun y32 =>
      ((y32 ≤ x3 →
        ((0 ≤ x2 →
          P x2 h) ∧
         (¬ 0 ≤ x2 →
          is_c h x0 [4] (
          w_X5_fails x0 3 h (fun y85 h85 =>
          P y85 h85))))) ∧
       (¬ y32 ≤ x3 →
        is_c h x0 [4] (
        w_X5_isSeen x0 x3 h (fun y40 h40 =>
        ((y40 = 0 →
          Z30 x2 (x3 + 1) h40) ∧
         (¬ y40 = 0 →
          is_c h40 x0 [4] (
          w_X5_votes x0 x3 h40 (fun y48 h48 =>
          ((0 ≤ x2 →
            is_c h48 x0 [4] (
            w_X5_votes x0 x2 h48 (fun y61 h61 =>
            w_X5_winner_64 P Z30 x0 x2 x3 y61 y48 h61))) ∧
           (¬ 0 ≤ x2 →
            w_X5_winner_64 P Z30 x0 x2 x3 0 y48 h48)))))))))))
      → Z30 x2 x3 h) → Z30 x2 x3 h
def w_X5_winner (a0 : Option Nat) (a1 : Int32) (h : AH) (P : Int32 → AH → Prop) : Prop :=
  is_c h a0 [4] (
  w_X5_isNobody a0 a1 h (fun y2 h2 =>
  ((y2 = 0 →
    g_q h2 a0 4 21 fun y11 =>
    l_i h2 y11 0 92 fun y16 =>
    ((y16 = 0 →
      is_c h2 a0 [4] (
      w_X5_fails a0 2 h2 (fun y22 h22 =>
      P y22 h22))) ∧
     (¬ y16 = 0 →
      w_X5_winner_30 P a0 (-1) 0 h2))) ∧
   (¬ y2 = 0 →
    P 0 h2))))
theorem wk_X5_winner_64 {x : CX} (X : Ok x cX5_winner RX5 rm_X5_winner 4) (er : xrt x = (Option.some Jvm.ClassFile.FieldType.int)) (en : xnm x = yX5_winner.name) {P : Int32 → AH → Prop} (hQ : xr_i x P) (Z30 : Int32 → Int32 → AH → Prop) (x0 : Option Nat) (x2 : Int32) (x3 : Int32) (t0 : Int32) (t1 : Int32) (h : AH) (hZ30 : ∀ x2 x3 h, Z30 x2 x3 h → J x h 0 0 30 [(0, vR x0), (2, vI x2), (3, vI x3)] []) (hw : w_X5_winner_64 P Z30 x0 x2 x3 t0 t1 h) : J x h 0 0 64 [(0, vR x0), (2, vI x2), (3, vI x3)] [vI t0, vI t1] := by
  refine j_icmp_le X (pc := 64) 71 dX5_winner_64 (by decide) hw (fun hw => ?_) (fun hw => ?_)
  · refine j_iload_n X (pc := 71) 1 dX5_winner_71 rfl rfl ?_
    refine j_istore_n X (pc := 72) [(2, vI x2), (0, vR x0), (3, vI x3)] dX5_winner_72 rfl (Nat.le_of_ble_eq_true rfl) rfl ?_
    refine j_iinc X (pc := 73) 2 (x3 + 1) [(3, vI (x3 + 1)), (2, vI x2), (0, vR x0)] dX5_winner_73 rfl rfl (Nat.le_of_ble_eq_true rfl) rfl ?_
    refine j_goto X (pc := 76) 30 dX5_winner_76 (by decide) ?_
    refine j_lv [(0, vR x0), (2, vI x2), (3, vI (x3 + 1))] [2, 1, 0] rfl ?_
    refine j_cs (u' := 0) (v' := 0) (Nat.le_of_ble_eq_true rfl) (Nat.le_of_ble_eq_true rfl) ?_
    exact hZ30 x2 (x3 + 1) h hw
  · refine j_iload_n X (pc := 67) 2 dX5_winner_67 rfl rfl ?_
    refine j_goto X (pc := 68) 72 dX5_winner_68 (by decide) ?_
    refine j_istore_n X (pc := 72) [(2, vI x3), (0, vR x0), (3, vI x3)] dX5_winner_72 rfl (Nat.le_of_ble_eq_true rfl) rfl ?_
    refine j_iinc X (pc := 73) 2 (x3 + 1) [(3, vI (x3 + 1)), (2, vI x3), (0, vR x0)] dX5_winner_73 rfl rfl (Nat.le_of_ble_eq_true rfl) rfl ?_
    refine j_goto X (pc := 76) 30 dX5_winner_76 (by decide) ?_
    refine j_lv [(0, vR x0), (2, vI x3), (3, vI (x3 + 1))] [2, 1, 0] rfl ?_
    refine j_cs (u' := 0) (v' := 0) (Nat.le_of_ble_eq_true rfl) (Nat.le_of_ble_eq_true rfl) ?_
    exact hZ30 x3 (x3 + 1) h hw
theorem wk_X5_winner_30 {x : CX} (X : Ok x cX5_winner RX5 rm_X5_winner 4) (er : xrt x = (Option.some Jvm.ClassFile.FieldType.int)) (en : xnm x = yX5_winner.name) {P : Int32 → AH → Prop} (hQ : xr_i x P) (x0 : Option Nat) (x2 : Int32) (x3 : Int32) (h : AH) (hw : w_X5_winner_30 P x0 x2 x3 h) : J x h 0 0 30 [(0, vR x0), (2, vI x2), (3, vI x3)] [] := by
  refine hw (fun x2 x3 h => J x h 0 0 30 [(0, vR x0), (2, vI x2), (3, vI x3)] []) (fun x2 x3 h hw => ?_)
  refine j_iload_n X (pc := 30) 2 dX5_winner_30 rfl rfl ?_
  refine j_aload_n X (pc := 31) 0 dX5_winner_31 rfl rfl ?_
  refine j_geti (ci := 4) X (pc := 32) in_X5 rfl (by decide) 8 (by decide) q1880 (Or.inl rfl) dX5_winner_32 hw (fun y32 hw => ?_)
  refine j_icmp_ge X (pc := 35) 79 dX5_winner_35 (by decide) hw (fun hw => ?_) (fun hw => ?_)
  · refine j_iload_n X (pc := 79) 1 dX5_winner_79 rfl rfl ?_
    refine j_if_ge X (pc := 80) 91 dX5_winner_80 (by decide) hw (fun hw => ?_) (fun hw => ?_)
    · refine j_iload_n X (pc := 91) 1 dX5_winner_91 rfl rfl ?_
      exact j_iret X (pc := 92) hQ er (Nat.le_of_ble_eq_true rfl) (Nat.le_of_ble_eq_true rfl) dX5_winner_92 hw
    · refine j_aload_n X (pc := 83) 0 dX5_winner_83 rfl rfl ?_
      refine j_iconst X (pc := 84) 3 dX5_winner_84 (by decide) ?_
      obtain ⟨b9, c9, f9, hr9, ho9, hc9, hw⟩ := hw
      obtain rfl := List.mem_singleton.mp hc9
      refine j_calli (j_runV (n8 := 1) (As := [vI 3]) (rest := []) X (pc := 85) hr9 (met_X5_fails (xl x) X.hl (xG x) h x0 3 _ hw) ho9 (by decide) rfl q1988 q1990 qs33 q78 q1991 (by decide +kernel) dX5_winner_85 rfl ⟨Nat.le_of_ble_eq_true rfl, Nat.le_of_ble_eq_true rfl⟩ (Nat.le_of_ble_eq_true rfl) ⟨Nat.le_of_ble_eq_true rfl, Nat.le_of_ble_eq_true rfl⟩) (fun y85 h85 hw => ?_)
      refine j_goto X (pc := 88) 92 dX5_winner_88 (by decide) ?_
      exact j_iret X (pc := 92) hQ er (Nat.le_of_ble_eq_true rfl) (Nat.le_of_ble_eq_true rfl) dX5_winner_92 hw
  · refine j_aload_n X (pc := 38) 0 dX5_winner_38 rfl rfl ?_
    refine j_iload_n X (pc := 39) 2 dX5_winner_39 rfl rfl ?_
    obtain ⟨b9, c9, f9, hr9, ho9, hc9, hw⟩ := hw
    obtain rfl := List.mem_singleton.mp hc9
    refine j_calli (j_runV (n8 := 1) (As := [vI x3]) (rest := []) X (pc := 40) hr9 (met_X5_isSeen (xl x) X.hl (xG x) h x0 x3 _ hw) ho9 (by decide) rfl q2012 q2014 qs39 q78 q2015 (by decide +kernel) dX5_winner_40 rfl ⟨Nat.le_of_ble_eq_true rfl, Nat.le_of_ble_eq_true rfl⟩ (Nat.le_of_ble_eq_true rfl) ⟨Nat.le_of_ble_eq_true rfl, Nat.le_of_ble_eq_true rfl⟩) (fun y40 h40 hw => ?_)
    refine j_if_eq X (pc := 43) 71 dX5_winner_43 (by decide) hw (fun hw => ?_) (fun hw => ?_)
    · refine j_iload_n X (pc := 71) 1 dX5_winner_71 rfl rfl ?_
      refine j_istore_n X (pc := 72) [(2, vI x2), (0, vR x0), (3, vI x3)] dX5_winner_72 rfl (Nat.le_of_ble_eq_true rfl) rfl ?_
      refine j_iinc X (pc := 73) 2 (x3 + 1) [(3, vI (x3 + 1)), (2, vI x2), (0, vR x0)] dX5_winner_73 rfl rfl (Nat.le_of_ble_eq_true rfl) rfl ?_
      refine j_goto X (pc := 76) 30 dX5_winner_76 (by decide) ?_
      refine j_lv [(0, vR x0), (2, vI x2), (3, vI (x3 + 1))] [2, 1, 0] rfl ?_
      refine j_cs (u' := 0) (v' := 0) (Nat.le_of_ble_eq_true rfl) (Nat.le_of_ble_eq_true rfl) ?_
      exact hw
    · refine j_aload_n X (pc := 46) 0 dX5_winner_46 rfl rfl ?_
      refine j_iload_n X (pc := 47) 2 dX5_winner_47 rfl rfl ?_
      obtain ⟨b9, c9, f9, hr9, ho9, hc9, hw⟩ := hw
      obtain rfl := List.mem_singleton.mp hc9
      refine j_calli (j_runV (n8 := 1) (As := [vI x3]) (rest := []) X (pc := 48) hr9 (met_X5_votes (xl x) X.hl (xG x) h40 x0 x3 _ hw) ho9 (by decide) rfl q2284 q2286 qs67 q78 q2287 (by decide +kernel) dX5_winner_48 rfl ⟨Nat.le_of_ble_eq_true rfl, Nat.le_of_ble_eq_true rfl⟩ (Nat.le_of_ble_eq_true rfl) ⟨Nat.le_of_ble_eq_true rfl, Nat.le_of_ble_eq_true rfl⟩) (fun y48 h48 hw => ?_)
      refine j_iload_n X (pc := 51) 1 dX5_winner_51 rfl rfl ?_
      refine j_if_ge X (pc := 52) 59 dX5_winner_52 (by decide) hw (fun hw => ?_) (fun hw => ?_)
      · refine j_aload_n X (pc := 59) 0 dX5_winner_59 rfl rfl ?_
        refine j_iload_n X (pc := 60) 1 dX5_winner_60 rfl rfl ?_
        obtain ⟨b9, c9, f9, hr9, ho9, hc9, hw⟩ := hw
        obtain rfl := List.mem_singleton.mp hc9
        refine j_calli (j_runV (n8 := 1) (As := [vI x2]) (rest := [vI y48]) X (pc := 61) hr9 (met_X5_votes (xl x) X.hl (xG x) h48 x0 x2 _ hw) ho9 (by decide) rfl q2284 q2286 qs67 q78 q2287 (by decide +kernel) dX5_winner_61 rfl ⟨Nat.le_of_ble_eq_true rfl, Nat.le_of_ble_eq_true rfl⟩ (Nat.le_of_ble_eq_true rfl) ⟨Nat.le_of_ble_eq_true rfl, Nat.le_of_ble_eq_true rfl⟩) (fun y61 h61 hw => ?_)
        refine j_cs (u' := 0) (v' := 0) (Nat.le_of_ble_eq_true rfl) (Nat.le_of_ble_eq_true rfl) ?_
        exact wk_X5_winner_64 X er en hQ _ x0 x2 x3 y61 y48 h61 (fun x2_ x3_ h_ hz => hz) hw
      · refine j_iconst X (pc := 55) 0 dX5_winner_55 (by decide) ?_
        refine j_goto X (pc := 56) 64 dX5_winner_56 (by decide) ?_
        refine j_cs (u' := 0) (v' := 0) (Nat.le_of_ble_eq_true rfl) (Nat.le_of_ble_eq_true rfl) ?_
        exact wk_X5_winner_64 X er en hQ _ x0 x2 x3 0 y48 h48 (fun x2_ x3_ h_ hz => hz) hw
theorem met_X5_winner (l : Launch) (hlt : l.stackTraces = false) (G : GG) (h : AH) (a0 : Option Nat) (a1 : Int32) (P : Int32 → AH → Prop) (hw : w_X5_winner a0 a1 h P) : ct_i l yX5_winner (ws_ yX5_winner cX5_winner 4 (Option.some Jvm.ClassFile.FieldType.int)) rm_X5_winner G h [vR a0, vI a1] P := by
  refine j_starti hlt [(0, vR a0), (1, vI a1)] (plainFor_of_name (by decide)) rfl rfl (fun x X eG er en hQ => ?_)
  subst eG
  refine j_aload_n X (pc := 0) 0 dX5_winner_0 rfl rfl ?_
  refine j_iload_n X (pc := 1) 1 dX5_winner_1 rfl rfl ?_
  obtain ⟨b9, c9, f9, hr9, ho9, hc9, hw⟩ := hw
  obtain rfl := List.mem_singleton.mp hc9
  refine j_calli (j_runV (n8 := 1) (As := [vI a1]) (rest := []) X (pc := 2) hr9 (met_X5_isNobody (xl x) X.hl (xG x) h a0 a1 _ hw) ho9 (by decide) rfl q2170 q2172 qs58 q78 q2173 (by decide +kernel) dX5_winner_2 rfl ⟨Nat.le_of_ble_eq_true rfl, Nat.le_of_ble_eq_true rfl⟩ (Nat.le_of_ble_eq_true rfl) ⟨Nat.le_of_ble_eq_true rfl, Nat.le_of_ble_eq_true rfl⟩) (fun y2 h2 hw => ?_)
  refine j_if_eq X (pc := 5) 10 dX5_winner_5 (by decide) hw (fun hw => ?_) (fun hw => ?_)
  · refine j_aload_n X (pc := 10) 0 dX5_winner_10 rfl rfl ?_
    refine j_getq (ci := 4) X (pc := 11) in_X5 rfl (by decide) 21 (by decide) q1893 (Or.inl rfl) dX5_winner_11 hw (fun y11 hw => ?_)
    refine j_bipush X (pc := 14) 92 dX5_winner_14 (by decide) ?_
    refine j_iald X (pc := 16) 0 rfl dX5_winner_16 hw (fun y16 hw => ?_)
    refine j_if_ne X (pc := 17) 26 dX5_winner_17 (by decide) hw (fun hw => ?_) (fun hw => ?_)
    · refine j_aload_n X (pc := 20) 0 dX5_winner_20 rfl rfl ?_
      refine j_iconst X (pc := 21) 2 dX5_winner_21 (by decide) ?_
      obtain ⟨b9, c9, f9, hr9, ho9, hc9, hw⟩ := hw
      obtain rfl := List.mem_singleton.mp hc9
      refine j_calli (j_runV (n8 := 1) (As := [vI 2]) (rest := []) X (pc := 22) hr9 (met_X5_fails (xl x) X.hl (xG x) h2 a0 2 _ hw) ho9 (by decide) rfl q1988 q1990 qs33 q78 q1991 (by decide +kernel) dX5_winner_22 rfl ⟨Nat.le_of_ble_eq_true rfl, Nat.le_of_ble_eq_true rfl⟩ (Nat.le_of_ble_eq_true rfl) ⟨Nat.le_of_ble_eq_true rfl, Nat.le_of_ble_eq_true rfl⟩) (fun y22 h22 hw => ?_)
      exact j_iret X (pc := 25) hQ er (Nat.le_of_ble_eq_true rfl) (Nat.le_of_ble_eq_true rfl) dX5_winner_25 hw
    · refine j_iconst X (pc := 26) (-1) dX5_winner_26 (by decide) ?_
      refine j_istore_n X (pc := 27) [(2, vI (-1)), (0, vR a0), (1, vI a1)] dX5_winner_27 rfl (Nat.le_of_ble_eq_true rfl) rfl ?_
      refine j_iconst X (pc := 28) 0 dX5_winner_28 (by decide) ?_
      refine j_istore_n X (pc := 29) [(3, vI 0), (2, vI (-1)), (0, vR a0), (1, vI a1)] dX5_winner_29 rfl (Nat.le_of_ble_eq_true rfl) rfl ?_
      refine j_lv [(0, vR a0), (2, vI (-1)), (3, vI 0)] [2, 1, 0] rfl ?_
      refine j_cs (u' := 0) (v' := 0) (Nat.le_of_ble_eq_true rfl) (Nat.le_of_ble_eq_true rfl) ?_
      exact wk_X5_winner_30 X er en hQ a0 (-1) 0 h2 hw
  · refine j_iconst X (pc := 8) 0 dX5_winner_8 (by decide) ?_
    exact j_iret X (pc := 9) hQ er (Nat.le_of_ble_eq_true rfl) (Nat.le_of_ble_eq_true rfl) dX5_winner_9 hw
abbrev cX3_lambda_outcome_0 : ByteArray := prog_3_method_20_code
def yX3_lambda_outcome_0 : MethodName := ⟨RX3, "lambda$outcome$0", "(LPlugboard$Shape;)I"⟩
theorem dX3_lambda_outcome_0_0 : decode cX3_lambda_outcome_0 0 = .ok (.aload_n 0, 1) := by decide +kernel
theorem dX3_lambda_outcome_0_1 : decode cX3_lambda_outcome_0 1 = .ok (.getfield 103, 3) := by decide +kernel
theorem dX3_lambda_outcome_0_4 : decode cX3_lambda_outcome_0 4 = .ok (.ireturn, 1) := by decide +kernel
abbrev rm_X3_lambda_outcome_0 : Room := { frames := 0, cells := 0, slots := 0, locals := 0 }
def w_X3_lambda_outcome_0 (a0 : Option Nat) (h : AH) (P : Int32 → AH → Prop) : Prop :=
  g_iS h a0 0 fun y1 =>
  P y1 h
theorem met_X3_lambda_outcome_0 (l : Launch) (hlt : l.stackTraces = false) (G : GG) (h : AH) (a0 : Option Nat) (P : Int32 → AH → Prop) (hw : w_X3_lambda_outcome_0 a0 h P) : ct_i l yX3_lambda_outcome_0 (ws_ yX3_lambda_outcome_0 cX3_lambda_outcome_0 1 (Option.some Jvm.ClassFile.FieldType.int)) rm_X3_lambda_outcome_0 G h [vR a0] P := by
  refine j_starti hlt [(0, vR a0)] (plainFor_of_name (by decide)) rfl rfl (fun x X eG er en hQ => ?_)
  subst eG
  refine j_aload_n X (pc := 0) 0 dX3_lambda_outcome_0_0 rfl rfl ?_
  refine j_getiSN X (pc := 1) 0 (by decide) q577 dX3_lambda_outcome_0_1 hw (fun y1 hw => ?_)
  exact j_iret X (pc := 4) hQ er (Nat.le_of_ble_eq_true rfl) (Nat.le_of_ble_eq_true rfl) dX3_lambda_outcome_0_4 hw
abbrev cX3_lambda_outcome_1 : ByteArray := prog_3_method_19_code
def yX3_lambda_outcome_1 : MethodName := ⟨RX3, "lambda$outcome$1", "(LPlugboard$Shape;)I"⟩
def dkwX3_lambda_outcome_1_0 : List UInt8 := [42, 43, 182, 0, 123, 172]
abbrev dktX3_lambda_outcome_1_0 : List UInt8 := dkwX3_lambda_outcome_1_0 ++ []
theorem dksX3_lambda_outcome_1_0 : cX3_lambda_outcome_1.data.toList.drop 0 = dktX3_lambda_outcome_1_0 := by decide +kernel
theorem dX3_lambda_outcome_1_0 : decode cX3_lambda_outcome_1 0 = .ok (.aload_n 0, 1) := dk_42 (dk_at dksX3_lambda_outcome_1_0 0 rfl rfl)
theorem dX3_lambda_outcome_1_1 : decode cX3_lambda_outcome_1 1 = .ok (.aload_n 1, 1) := dk_43 (dk_at dksX3_lambda_outcome_1_0 1 rfl rfl)
theorem dX3_lambda_outcome_1_2 : decode cX3_lambda_outcome_1 2 = .ok (.invokevirtual 123, 3) := dk_182 0 123 (dk_at dksX3_lambda_outcome_1_0 2 rfl rfl)
theorem dX3_lambda_outcome_1_5 : decode cX3_lambda_outcome_1 5 = .ok (.ireturn, 1) := dk_172 (dk_at dksX3_lambda_outcome_1_0 5 rfl rfl)
abbrev rm_X3_lambda_outcome_1 : Room := { frames := 1, cells := 0, slots := 0, locals := 21 }
def w_X3_lambda_outcome_1 (a0 : Option Nat) (a1 : Option Nat) (h : AH) (P : Int32 → AH → Prop) : Prop :=
  is_c h a0 [2] (
  w_X3_columnOf a0 a1 h (fun y2 h2 =>
  P y2 h2))
theorem met_X3_lambda_outcome_1 (l : Launch) (hlt : l.stackTraces = false) (G : GG) (h : AH) (a0 : Option Nat) (a1 : Option Nat) (P : Int32 → AH → Prop) (hw : w_X3_lambda_outcome_1 a0 a1 h P) : ct_i l yX3_lambda_outcome_1 (ws_ yX3_lambda_outcome_1 cX3_lambda_outcome_1 2 (Option.some Jvm.ClassFile.FieldType.int)) rm_X3_lambda_outcome_1 G h [vR a0, vR a1] P := by
  refine j_starti hlt [(0, vR a0), (1, vR a1)] (plainFor_of_name (by decide)) rfl rfl (fun x X eG er en hQ => ?_)
  subst eG
  refine j_aload_n X (pc := 0) 0 dX3_lambda_outcome_1_0 rfl rfl ?_
  refine j_aload_n X (pc := 1) 1 dX3_lambda_outcome_1_1 rfl rfl ?_
  obtain ⟨b9, c9, f9, hr9, ho9, hc9, hw⟩ := hw
  obtain rfl := List.mem_singleton.mp hc9
  refine j_calli (j_runV (n8 := 1) (As := [vR a1]) (rest := []) X (pc := 2) hr9 (met_X3_columnOf (xl x) X.hl (xG x) h a0 a1 _ hw) ho9 (by decide) rfl q1150 q1116 q1117 q76 q1118 (by decide +kernel) dX3_lambda_outcome_1_2 rfl ⟨Nat.le_of_ble_eq_true rfl, Nat.le_of_ble_eq_true rfl⟩ (Nat.le_of_ble_eq_true rfl) ⟨Nat.le_of_ble_eq_true rfl, Nat.le_of_ble_eq_true rfl⟩) (fun y2 h2 hw => ?_)
  exact j_iret X (pc := 5) hQ er (Nat.le_of_ble_eq_true rfl) (Nat.le_of_ble_eq_true rfl) dX3_lambda_outcome_1_5 hw
abbrev cX3_lambda_outcome_2 : ByteArray := prog_3_method_18_code
def yX3_lambda_outcome_2 : MethodName := ⟨RX3, "lambda$outcome$2", "(LPlugboard$Shape;)I"⟩
def dkwX3_lambda_outcome_2_0 : List UInt8 := [42, 43, 182, 0, 129, 172]
abbrev dktX3_lambda_outcome_2_0 : List UInt8 := dkwX3_lambda_outcome_2_0 ++ []
theorem dksX3_lambda_outcome_2_0 : cX3_lambda_outcome_2.data.toList.drop 0 = dktX3_lambda_outcome_2_0 := by decide +kernel
theorem dX3_lambda_outcome_2_0 : decode cX3_lambda_outcome_2 0 = .ok (.aload_n 0, 1) := dk_42 (dk_at dksX3_lambda_outcome_2_0 0 rfl rfl)
theorem dX3_lambda_outcome_2_1 : decode cX3_lambda_outcome_2 1 = .ok (.aload_n 1, 1) := dk_43 (dk_at dksX3_lambda_outcome_2_0 1 rfl rfl)
theorem dX3_lambda_outcome_2_2 : decode cX3_lambda_outcome_2 2 = .ok (.invokevirtual 129, 3) := dk_182 0 129 (dk_at dksX3_lambda_outcome_2_0 2 rfl rfl)
theorem dX3_lambda_outcome_2_5 : decode cX3_lambda_outcome_2 5 = .ok (.ireturn, 1) := dk_172 (dk_at dksX3_lambda_outcome_2_0 5 rfl rfl)
abbrev rm_X3_lambda_outcome_2 : Room := { frames := 1, cells := 0, slots := 0, locals := 21 }
def w_X3_lambda_outcome_2 (a0 : Option Nat) (a1 : Option Nat) (h : AH) (P : Int32 → AH → Prop) : Prop :=
  is_c h a0 [2] (
  w_X3_rowOf a0 a1 h (fun y2 h2 =>
  P y2 h2))
theorem met_X3_lambda_outcome_2 (l : Launch) (hlt : l.stackTraces = false) (G : GG) (h : AH) (a0 : Option Nat) (a1 : Option Nat) (P : Int32 → AH → Prop) (hw : w_X3_lambda_outcome_2 a0 a1 h P) : ct_i l yX3_lambda_outcome_2 (ws_ yX3_lambda_outcome_2 cX3_lambda_outcome_2 2 (Option.some Jvm.ClassFile.FieldType.int)) rm_X3_lambda_outcome_2 G h [vR a0, vR a1] P := by
  refine j_starti hlt [(0, vR a0), (1, vR a1)] (plainFor_of_name (by decide)) rfl rfl (fun x X eG er en hQ => ?_)
  subst eG
  refine j_aload_n X (pc := 0) 0 dX3_lambda_outcome_2_0 rfl rfl ?_
  refine j_aload_n X (pc := 1) 1 dX3_lambda_outcome_2_1 rfl rfl ?_
  obtain ⟨b9, c9, f9, hr9, ho9, hc9, hw⟩ := hw
  obtain rfl := List.mem_singleton.mp hc9
  refine j_calli (j_runV (n8 := 1) (As := [vR a1]) (rest := []) X (pc := 2) hr9 (met_X3_rowOf (xl x) X.hl (xG x) h a0 a1 _ hw) ho9 (by decide) rfl q1151 q1120 q1121 q76 q1122 (by decide +kernel) dX3_lambda_outcome_2_2 rfl ⟨Nat.le_of_ble_eq_true rfl, Nat.le_of_ble_eq_true rfl⟩ (Nat.le_of_ble_eq_true rfl) ⟨Nat.le_of_ble_eq_true rfl, Nat.le_of_ble_eq_true rfl⟩) (fun y2 h2 hw => ?_)
  exact j_iret X (pc := 5) hQ er (Nat.le_of_ble_eq_true rfl) (Nat.le_of_ble_eq_true rfl) dX3_lambda_outcome_2_5 hw
abbrev cX3_lambda_outcome_3 : ByteArray := prog_3_method_17_code
def yX3_lambda_outcome_3 : MethodName := ⟨RX3, "lambda$outcome$3", "(LPlugboard$Shape;)I"⟩
def dkwX3_lambda_outcome_3_0 : List UInt8 := [42, 43, 182, 0, 186, 172]
abbrev dktX3_lambda_outcome_3_0 : List UInt8 := dkwX3_lambda_outcome_3_0 ++ []
theorem dksX3_lambda_outcome_3_0 : cX3_lambda_outcome_3.data.toList.drop 0 = dktX3_lambda_outcome_3_0 := by decide +kernel
theorem dX3_lambda_outcome_3_0 : decode cX3_lambda_outcome_3 0 = .ok (.aload_n 0, 1) := dk_42 (dk_at dksX3_lambda_outcome_3_0 0 rfl rfl)
theorem dX3_lambda_outcome_3_1 : decode cX3_lambda_outcome_3 1 = .ok (.aload_n 1, 1) := dk_43 (dk_at dksX3_lambda_outcome_3_0 1 rfl rfl)
theorem dX3_lambda_outcome_3_2 : decode cX3_lambda_outcome_3 2 = .ok (.invokevirtual 186, 3) := dk_182 0 186 (dk_at dksX3_lambda_outcome_3_0 2 rfl rfl)
theorem dX3_lambda_outcome_3_5 : decode cX3_lambda_outcome_3 5 = .ok (.ireturn, 1) := dk_172 (dk_at dksX3_lambda_outcome_3_0 5 rfl rfl)
theorem q1637 : (Jvm.Cond.methodLink "Plugboard$Board" (186 : Nat) ({ cls := "Plugboard$Board", name := "rankOf", desc := "(LPlugboard$Shape;)I" } : Jvm.MethodName)) ∈ lw_all := lw_g (lw_at lw_m7 127 rfl) rfl
abbrev rm_X3_lambda_outcome_3 : Room := { frames := 4, cells := 0, slots := 0, locals := 87 }
def w_X3_lambda_outcome_3 (a0 : Option Nat) (a1 : Option Nat) (h : AH) (P : Int32 → AH → Prop) : Prop :=
  is_c h a0 [2] (
  w_X3_rankOf a0 a1 h (fun y2 h2 =>
  P y2 h2))
theorem met_X3_lambda_outcome_3 (l : Launch) (hlt : l.stackTraces = false) (G : GG) (h : AH) (a0 : Option Nat) (a1 : Option Nat) (P : Int32 → AH → Prop) (hw : w_X3_lambda_outcome_3 a0 a1 h P) : ct_i l yX3_lambda_outcome_3 (ws_ yX3_lambda_outcome_3 cX3_lambda_outcome_3 2 (Option.some Jvm.ClassFile.FieldType.int)) rm_X3_lambda_outcome_3 G h [vR a0, vR a1] P := by
  refine j_starti hlt [(0, vR a0), (1, vR a1)] (plainFor_of_name (by decide)) rfl rfl (fun x X eG er en hQ => ?_)
  subst eG
  refine j_aload_n X (pc := 0) 0 dX3_lambda_outcome_3_0 rfl rfl ?_
  refine j_aload_n X (pc := 1) 1 dX3_lambda_outcome_3_1 rfl rfl ?_
  obtain ⟨b9, c9, f9, hr9, ho9, hc9, hw⟩ := hw
  obtain rfl := List.mem_singleton.mp hc9
  refine j_calli (j_runV (n8 := 1) (As := [vR a1]) (rest := []) X (pc := 2) hr9 (met_X3_rankOf (xl x) X.hl (xG x) h a0 a1 _ hw) ho9 (by decide) rfl q1637 q1194 q1195 q76 q1196 (by decide +kernel) dX3_lambda_outcome_3_2 rfl ⟨Nat.le_of_ble_eq_true rfl, Nat.le_of_ble_eq_true rfl⟩ (Nat.le_of_ble_eq_true rfl) ⟨Nat.le_of_ble_eq_true rfl, Nat.le_of_ble_eq_true rfl⟩) (fun y2 h2 hw => ?_)
  exact j_iret X (pc := 5) hQ er (Nat.le_of_ble_eq_true rfl) (Nat.le_of_ble_eq_true rfl) dX3_lambda_outcome_3_5 hw
abbrev cX5_joins : ByteArray := prog_19_method_82_code
def yX5_joins : MethodName := ⟨RX5, "joins", "(II)I"⟩
def dkwX5_joins_0 : List UInt8 := [16, 31, 27, 104, 28, 96, 4, 96, 19, 1, 17, 112, 172]
abbrev dktX5_joins_0 : List UInt8 := dkwX5_joins_0 ++ []
theorem dksX5_joins_0 : cX5_joins.data.toList.drop 0 = dktX5_joins_0 := by decide +kernel
theorem dX5_joins_0 : decode cX5_joins 0 = .ok (.bipush 31, 2) := dk_16 31 (dk_at dksX5_joins_0 0 rfl rfl)
theorem dX5_joins_2 : decode cX5_joins 2 = .ok (.iload_n 1, 1) := dk_27 (dk_at dksX5_joins_0 2 rfl rfl)
theorem dX5_joins_3 : decode cX5_joins 3 = .ok (.imul, 1) := dk_104 (dk_at dksX5_joins_0 3 rfl rfl)
theorem dX5_joins_4 : decode cX5_joins 4 = .ok (.iload_n 2, 1) := dk_28 (dk_at dksX5_joins_0 4 rfl rfl)
theorem dX5_joins_5 : decode cX5_joins 5 = .ok (.iadd, 1) := dk_96 (dk_at dksX5_joins_0 5 rfl rfl)
theorem dX5_joins_6 : decode cX5_joins 6 = .ok (.iconst 1, 1) := dk_4 (dk_at dksX5_joins_0 6 rfl rfl)
theorem dX5_joins_7 : decode cX5_joins 7 = .ok (.iadd, 1) := dk_96 (dk_at dksX5_joins_0 7 rfl rfl)
theorem dX5_joins_8 : decode cX5_joins 8 = .ok (.ldc_w 273, 3) := dk_19 1 17 (dk_at dksX5_joins_0 8 rfl rfl)
theorem dX5_joins_11 : decode cX5_joins 11 = .ok (.irem, 1) := dk_112 (dk_at dksX5_joins_0 11 rfl rfl)
theorem dX5_joins_12 : decode cX5_joins 12 = .ok (.ireturn, 1) := dk_172 (dk_at dksX5_joins_0 12 rfl rfl)
theorem q2304 : (Jvm.Cond.constant "PlugboardModel" (273 : Nat) (1000003 : Int32)) ∈ lw_all := lw_g (lw_at lw_m10 74 rfl) rfl
abbrev rm_X5_joins : Room := { frames := 0, cells := 0, slots := 0, locals := 0 }
def w_X5_joins (a0 : Option Nat) (a1 : Int32) (a2 : Int32) (h : AH) (P : Int32 → AH → Prop) : Prop :=
  ¬ (1000003 : Int32) = 0 ∧
  P ((((31 * a1) + a2) + 1) - (((31 * a1) + a2) + 1) / 1000003 * 1000003) h
theorem met_X5_joins (l : Launch) (hlt : l.stackTraces = false) (G : GG) (h : AH) (a0 : Option Nat) (a1 : Int32) (a2 : Int32) (P : Int32 → AH → Prop) (hw : w_X5_joins a0 a1 a2 h P) : ct_i l yX5_joins (ws_ yX5_joins cX5_joins 3 (Option.some Jvm.ClassFile.FieldType.int)) rm_X5_joins G h [vR a0, vI a1, vI a2] P := by
  refine j_starti hlt [(0, vR a0), (1, vI a1), (2, vI a2)] (plainFor_of_name (by decide)) rfl rfl (fun x X eG er en hQ => ?_)
  subst eG
  refine j_bipush X (pc := 0) 31 dX5_joins_0 (by decide) ?_
  refine j_iload_n X (pc := 2) 1 dX5_joins_2 rfl rfl ?_
  refine j_imul X (pc := 3) dX5_joins_3 ?_
  refine j_iload_n X (pc := 4) 2 dX5_joins_4 rfl rfl ?_
  refine j_iadd X (pc := 5) dX5_joins_5 ?_
  refine j_iconst X (pc := 6) 1 dX5_joins_6 (by decide) ?_
  refine j_iadd X (pc := 7) dX5_joins_7 ?_
  refine j_ldcw X (pc := 8) dX5_joins_8 q2304 ?_
  refine j_irem X (pc := 11) dX5_joins_11 hw (fun hw => ?_)
  exact j_iret X (pc := 12) hQ er (Nat.le_of_ble_eq_true rfl) (Nat.le_of_ble_eq_true rfl) dX5_joins_12 hw
