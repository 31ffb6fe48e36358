/-! walks (printed): Plugboard, PlugboardLaw, PlugboardModel -/
set_option maxRecDepth 100000
abbrev cX1_userOf : ByteArray := prog_1_method_44_code
def yX1_userOf : MethodName := ⟨RX1, "userOf", "(I)I"⟩
def dkwX1_userOf_0 : List UInt8 := [42, 27, 182, 1, 90, 180, 1, 68, 172]
abbrev dktX1_userOf_0 : List UInt8 := dkwX1_userOf_0 ++ []
theorem dksX1_userOf_0 : cX1_userOf.data.toList.drop 0 = dktX1_userOf_0 := by decide +kernel
theorem dX1_userOf_0 : decode cX1_userOf 0 = .ok (.aload_n 0, 1) := dk_42 (dk_at dksX1_userOf_0 0 rfl rfl)
theorem dX1_userOf_1 : decode cX1_userOf 1 = .ok (.iload_n 1, 1) := dk_27 (dk_at dksX1_userOf_0 1 rfl rfl)
theorem dX1_userOf_2 : decode cX1_userOf 2 = .ok (.invokevirtual 346, 3) := dk_182 1 90 (dk_at dksX1_userOf_0 2 rfl rfl)
theorem dX1_userOf_5 : decode cX1_userOf 5 = .ok (.getfield 324, 3) := dk_180 1 68 (dk_at dksX1_userOf_0 5 rfl rfl)
theorem dX1_userOf_8 : decode cX1_userOf 8 = .ok (.ireturn, 1) := dk_172 (dk_at dksX1_userOf_0 8 rfl rfl)
abbrev rm_X1_userOf : Room := { frames := 8, cells := 1, slots := 6, locals := 122 }
def w_X1_userOf (a0 : Option Nat) (a1 : Int32) (h : AH) (P : Int32 → AH → Prop) (PX : String → AH → Prop) : Prop :=
  is_c h a0 [0] (
  w_X1_operation a0 a1 h (fun y2 h2 =>
  g_i h2 y2 9 1 fun y5 =>
  P y5 h2) PX)
theorem met_X1_userOf (l : Launch) (hlt : l.stackTraces = false) (G : GG) (h : AH) (a0 : Option Nat) (a1 : Int32) (P : Int32 → AH → Prop) (PX : String → AH → Prop) (hw : w_X1_userOf a0 a1 h P PX) : cx_i l yX1_userOf (ws_ yX1_userOf cX1_userOf 2 (Option.some Jvm.ClassFile.FieldType.int)) rm_X1_userOf G h [vR a0, vI a1] P PX := by
  refine j_startXi hlt [(0, vR a0), (1, vI a1)] (by decide) rfl rfl (fun x X eG er en hQ hT hex => ?_)
  subst eG
  refine j_aload_n X (pc := 0) 0 dX1_userOf_0 rfl rfl ?_
  refine j_iload_n X (pc := 1) 1 dX1_userOf_1 rfl rfl ?_
  obtain ⟨b9, c9, f9, hr9, ho9, hc9, hw⟩ := hw
  obtain rfl := List.mem_singleton.mp hc9
  refine j_callXq (j_runVX (n8 := 1) (As := [vI a1]) (rest := []) X (pc := 2) hr9 (met_X1_operation (xl x) X.hl (xG x) h a0 a1 _ _ hw) ho9 (by decide) rfl q1364 q1366 qs17 q71 q1367 (by decide +kernel) dX1_userOf_2 rfl ⟨Nat.le_of_ble_eq_true rfl, Nat.le_of_ble_eq_true rfl⟩ (Nat.le_of_ble_eq_true rfl) ⟨Nat.le_of_ble_eq_true rfl, Nat.le_of_ble_eq_true rfl⟩) (fun E h9 hx => j_out X hT hex (Nat.le_of_ble_eq_true rfl) (Nat.le_of_ble_eq_true rfl) hx) (fun y2 h2 hw => ?_)
  refine j_getiN (ci := 9) X (pc := 5) in_X11 rfl (by decide) 1 (by decide) q702 (Or.inl rfl) dX1_userOf_5 hw (fun y5 hw => ?_)
  exact j_iret X (pc := 8) hQ er (Nat.le_of_ble_eq_true rfl) (Nat.le_of_ble_eq_true rfl) dX1_userOf_8 hw
abbrev cX0_userOf : ByteArray := method_18_code
def yX0_userOf : MethodName := ⟨RX0, "userOf", "(LPlugboard;I[J)I"⟩
def dkwX0_userOf_0 : List UInt8 := [44, 3, 42, 27, 182, 0, 69, 133, 80, 167, 0, 6, 78, 4, 172, 3, 172]
abbrev dktX0_userOf_0 : List UInt8 := dkwX0_userOf_0 ++ []
theorem dksX0_userOf_0 : cX0_userOf.data.toList.drop 0 = dktX0_userOf_0 := by decide +kernel
theorem dX0_userOf_0 : decode cX0_userOf 0 = .ok (.aload_n 2, 1) := dk_44 (dk_at dksX0_userOf_0 0 rfl rfl)
theorem dX0_userOf_1 : decode cX0_userOf 1 = .ok (.iconst 0, 1) := dk_3 (dk_at dksX0_userOf_0 1 rfl rfl)
theorem dX0_userOf_2 : decode cX0_userOf 2 = .ok (.aload_n 0, 1) := dk_42 (dk_at dksX0_userOf_0 2 rfl rfl)
theorem dX0_userOf_3 : decode cX0_userOf 3 = .ok (.iload_n 1, 1) := dk_27 (dk_at dksX0_userOf_0 3 rfl rfl)
theorem dX0_userOf_4 : decode cX0_userOf 4 = .ok (.invokevirtual 69, 3) := dk_182 0 69 (dk_at dksX0_userOf_0 4 rfl rfl)
theorem dX0_userOf_7 : decode cX0_userOf 7 = .ok (.i2l, 1) := dk_133 (dk_at dksX0_userOf_0 7 rfl rfl)
theorem dX0_userOf_8 : decode cX0_userOf 8 = .ok (.lastore, 1) := dk_80 (dk_at dksX0_userOf_0 8 rfl rfl)
theorem dX0_userOf_9 : decode cX0_userOf 9 = .ok (.goto 6, 3) := dk_167 0 6 (dk_at dksX0_userOf_0 9 rfl rfl)
theorem dX0_userOf_12 : decode cX0_userOf 12 = .ok (.astore_n 3, 1) := dk_78 (dk_at dksX0_userOf_0 12 rfl rfl)
theorem dX0_userOf_13 : decode cX0_userOf 13 = .ok (.iconst 1, 1) := dk_4 (dk_at dksX0_userOf_0 13 rfl rfl)
theorem dX0_userOf_14 : decode cX0_userOf 14 = .ok (.ireturn, 1) := dk_172 (dk_at dksX0_userOf_0 14 rfl rfl)
theorem dX0_userOf_15 : decode cX0_userOf 15 = .ok (.iconst 0, 1) := dk_3 (dk_at dksX0_userOf_0 15 rfl rfl)
theorem dX0_userOf_16 : decode cX0_userOf 16 = .ok (.ireturn, 1) := dk_172 (dk_at dksX0_userOf_0 16 rfl rfl)
theorem q1378 : (Jvm.Cond.methodLink "PlugboardLaw" (69 : Nat) ({ cls := "Plugboard", name := "userOf", desc := "(I)I" } : Jvm.MethodName)) ∈ lw_all := lw_g (lw_at lw_m6 108 rfl) rfl
theorem q1379 : (Jvm.Cond.instanceMethod ({ cls := "Plugboard", name := "userOf", desc := "(I)I" } : Jvm.MethodName)) ∈ lw_all := lw_g (lw_at lw_m6 109 rfl) rfl
theorem q1380 : (Jvm.Cond.selects "Plugboard" ({ cls := "Plugboard", name := "userOf", desc := "(I)I" } : Jvm.MethodName) ({ cls := "Plugboard", name := "userOf", desc := "(I)I" } : Jvm.MethodName)) ∈ lw_all := lw_g (lw_at lw_m6 110 rfl) rfl
theorem q1381 : (Jvm.Cond.code ({ cls := "Plugboard", name := "userOf", desc := "(I)I" } : Jvm.MethodName) prog_1_method_44_code (2 : Nat) (Option.some Jvm.ClassFile.FieldType.int)) ∈ lw_all := lw_g (lw_at lw_m6 111 rfl) rfl
abbrev rm_X0_userOf : Room := { frames := 9, cells := 1, slots := 6, locals := 143 }
def w_X0_userOf (a0 : Option Nat) (a1 : Int32) (a2 : Option Nat) (h : AH) (P : Int32 → AH → Prop) : Prop :=
  is_c h a0 [0] (
  w_X1_userOf a0 a1 h (fun y4 h4 =>
  s_L h4 a2 0 (Int32.toInt64 y4) fun h8 =>
  P 0 h8)
    (fun E9 h9 => (E9 = "java/util/NoSuchElementException" ∧ ∀ q9 : Nat,
    P 1 h9)))
theorem met_X0_userOf (l : Launch) (hlt : l.stackTraces = false) (G : GG) (h : AH) (a0 : Option Nat) (a1 : Int32) (a2 : Option Nat) (P : Int32 → AH → Prop) (hw : w_X0_userOf a0 a1 a2 h P) : ct_i l yX0_userOf (wsW_ yX0_userOf cX0_userOf 4 (Option.some Jvm.ClassFile.FieldType.int) [((0 : Nat), (9 : Nat), (12 : Nat), (21 : Nat))]) rm_X0_userOf G h [vR a0, vI a1, vR a2] P := by
  refine j_startWi hlt [(0, vR a0), (1, vI a1), (2, vR a2)] (by decide) rfl rfl (fun x X eG er en hQ hex => ?_)
  subst eG
  refine j_aload_n X (pc := 0) 2 dX0_userOf_0 rfl rfl ?_
  refine j_iconst X (pc := 1) 0 dX0_userOf_1 (by decide) ?_
  refine j_aload_n X (pc := 2) 0 dX0_userOf_2 rfl rfl ?_
  refine j_iload_n X (pc := 3) 1 dX0_userOf_3 rfl rfl ?_
  obtain ⟨b9, c9, f9, hr9, ho9, hc9, hw⟩ := hw
  obtain rfl := List.mem_singleton.mp hc9
  refine j_callXi (j_runVX (n8 := 1) (As := [vI a1]) (rest := [vI 0, vR a2]) X (pc := 4) hr9 (met_X1_userOf (xl x) X.hl (xG x) h a0 a1 _ _ hw) ho9 (by decide) rfl q1378 q1379 q1380 q71 q1381 (by decide +kernel) dX0_userOf_4 rfl ⟨Nat.le_of_ble_eq_true rfl, Nat.le_of_ble_eq_true rfl⟩ (Nat.le_of_ble_eq_true rfl) ⟨Nat.le_of_ble_eq_true rfl, Nat.le_of_ble_eq_true rfl⟩) ?_ (fun y4 h4 hw => ?_)
  · intro E9 h9 hx
    obtain ⟨rfl, hw⟩ := hx
    refine j_catch X (pc := 4) "java/util/NoSuchElementException" hex [] [] ⟨0, 9, 12, 21⟩ rfl (by intro y hy; cases hy) (by decide) (by decide) q1068 q537 (fun q9 => ?_)
    have hw := hw q9
    refine j_astore_n X (pc := 12) [(3, vR (some q9)), (0, vR a0), (1, vI a1), (2, vR a2)] dX0_userOf_12 rfl (Nat.le_of_ble_eq_true rfl) rfl ?_
    refine j_iconst X (pc := 13) 1 dX0_userOf_13 (by decide) ?_
    exact j_iret X (pc := 14) hQ er (Nat.le_of_ble_eq_true rfl) (Nat.le_of_ble_eq_true rfl) dX0_userOf_14 hw
  refine j_i2l X (pc := 7) dX0_userOf_7 ?_
  refine j_last X (pc := 8) dX0_userOf_8 hw (fun h8 hw => ?_)
  refine j_goto X (pc := 9) 15 dX0_userOf_9 (by decide) ?_
  refine j_iconst X (pc := 15) 0 dX0_userOf_15 (by decide) ?_
  exact j_iret X (pc := 16) hQ er (Nat.le_of_ble_eq_true rfl) (Nat.le_of_ble_eq_true rfl) dX0_userOf_16 hw
abbrev cX5_userOf : ByteArray := prog_19_method_48_code
def yX5_userOf : MethodName := ⟨RX5, "userOf", "(I)I"⟩
def dkwX5_userOf_1 : List UInt8 := [182, 0, 172, 172]
abbrev dktX5_userOf_1 : List UInt8 := dkwX5_userOf_1 ++ []
def dkwX5_userOf_0 : List UInt8 := [42, 3, 181, 0, 97, 42, 27, 182, 0, 222, 153, 0, 12, 42, 180, 0, 33, 27, 46, 167, 0, 8, 42, 4]
abbrev dktX5_userOf_0 : List UInt8 := dkwX5_userOf_0 ++ dktX5_userOf_1
theorem dksX5_userOf_0 : cX5_userOf.data.toList.drop 0 = dktX5_userOf_0 := by decide +kernel
theorem dksX5_userOf_1 : cX5_userOf.data.toList.drop 24 = dktX5_userOf_1 := dk_seg dksX5_userOf_0 24 rfl rfl
theorem dX5_userOf_0 : decode cX5_userOf 0 = .ok (.aload_n 0, 1) := dk_42 (dk_at dksX5_userOf_0 0 rfl rfl)
theorem dX5_userOf_1 : decode cX5_userOf 1 = .ok (.iconst 0, 1) := dk_3 (dk_at dksX5_userOf_0 1 rfl rfl)
theorem dX5_userOf_2 : decode cX5_userOf 2 = .ok (.putfield 97, 3) := dk_181 0 97 (dk_at dksX5_userOf_0 2 rfl rfl)
theorem dX5_userOf_5 : decode cX5_userOf 5 = .ok (.aload_n 0, 1) := dk_42 (dk_at dksX5_userOf_0 5 rfl rfl)
theorem dX5_userOf_6 : decode cX5_userOf 6 = .ok (.iload_n 1, 1) := dk_27 (dk_at dksX5_userOf_0 6 rfl rfl)
theorem dX5_userOf_7 : decode cX5_userOf 7 = .ok (.invokevirtual 222, 3) := dk_182 0 222 (dk_at dksX5_userOf_0 7 rfl rfl)
theorem dX5_userOf_10 : decode cX5_userOf 10 = .ok (.ifCond .eq 12, 3) := dk_153 0 12 (dk_at dksX5_userOf_0 10 rfl rfl)
theorem dX5_userOf_13 : decode cX5_userOf 13 = .ok (.aload_n 0, 1) := dk_42 (dk_at dksX5_userOf_0 13 rfl rfl)
theorem dX5_userOf_14 : decode cX5_userOf 14 = .ok (.getfield 33, 3) := dk_180 0 33 (dk_at dksX5_userOf_0 14 rfl rfl)
theorem dX5_userOf_17 : decode cX5_userOf 17 = .ok (.iload_n 1, 1) := dk_27 (dk_at dksX5_userOf_0 17 rfl rfl)
theorem dX5_userOf_18 : decode cX5_userOf 18 = .ok (.iaload, 1) := dk_46 (dk_at dksX5_userOf_0 18 rfl rfl)
theorem dX5_userOf_19 : decode cX5_userOf 19 = .ok (.goto 8, 3) := dk_167 0 8 (dk_at dksX5_userOf_0 19 rfl rfl)
theorem dX5_userOf_22 : decode cX5_userOf 22 = .ok (.aload_n 0, 1) := dk_42 (dk_at dksX5_userOf_0 22 rfl rfl)
theorem dX5_userOf_23 : decode cX5_userOf 23 = .ok (.iconst 1, 1) := dk_4 (dk_at dksX5_userOf_0 23 rfl rfl)
theorem dX5_userOf_24 : decode cX5_userOf 24 = .ok (.invokevirtual 172, 3) := dk_182 0 172 (dk_at dksX5_userOf_1 0 rfl rfl)
theorem dX5_userOf_27 : decode cX5_userOf 27 = .ok (.ireturn, 1) := dk_172 (dk_at dksX5_userOf_1 3 rfl rfl)
abbrev rm_X5_userOf : Room := { frames := 2, cells := 0, slots := 0, locals := 43 }
def w_X5_userOf (a0 : Option Nat) (a1 : Int32) (h : AH) (P : Int32 → AH → Prop) : Prop :=
  p_v h a0 4 0 (vI 0) fun h2 =>
  is_c h2 a0 [4] (
  w_X5_isOperation a0 a1 h2 (fun y7 h7 =>
  ((y7 = 0 →
    is_c h7 a0 [4] (
    w_X5_fails a0 1 h7 (fun y24 h24 =>
    P y24 h24))) ∧
   (¬ y7 = 0 →
    g_q h7 a0 4 10 fun y14 =>
    l_i h7 y14 0 a1 fun y18 =>
    P y18 h7))))
theorem met_X5_userOf (l : Launch) (hlt : l.stackTraces = false) (G : GG) (h : AH) (a0 : Option Nat) (a1 : Int32) (P : Int32 → AH → Prop) (hw : w_X5_userOf a0 a1 h P) : ct_i l yX5_userOf (ws_ yX5_userOf cX5_userOf 2 (Option.some Jvm.ClassFile.FieldType.int)) rm_X5_userOf G h [vR a0, vI a1] P := by
  refine j_starti hlt [(0, vR a0), (1, vI a1)] (plainFor_of_name (by decide)) rfl rfl (fun x X eG er en hQ => ?_)
  subst eG
  refine j_aload_n X (pc := 0) 0 dX5_userOf_0 rfl rfl ?_
  refine j_iconst X (pc := 1) 0 dX5_userOf_1 (by decide) ?_
  refine j_put (ci := 4) X (pc := 2) in_X5 rfl (by decide) 0 (by decide) q1872 (Or.inl rfl) tyX5 tyX5_ok nmX5 rfl rfl (ty := .int) (tyX5_ok 0 (by decide)) rfl rfl dX5_userOf_2 hw (fun h2 hw => ?_)
  refine j_aload_n X (pc := 5) 0 dX5_userOf_5 rfl rfl ?_
  refine j_iload_n X (pc := 6) 1 dX5_userOf_6 rfl rfl ?_
  obtain ⟨b9, c9, f9, hr9, ho9, hc9, hw⟩ := hw
  obtain rfl := List.mem_singleton.mp hc9
  refine j_calli (j_runV (n8 := 1) (As := [vI a1]) (rest := []) X (pc := 7) hr9 (met_X5_isOperation (xl x) X.hl (xG x) h2 a0 a1 _ hw) ho9 (by decide) rfl q2138 q2140 qs56 q78 q2141 (by decide +kernel) dX5_userOf_7 rfl ⟨Nat.le_of_ble_eq_true rfl, Nat.le_of_ble_eq_true rfl⟩ (Nat.le_of_ble_eq_true rfl) ⟨Nat.le_of_ble_eq_true rfl, Nat.le_of_ble_eq_true rfl⟩) (fun y7 h7 hw => ?_)
  refine j_if_eq X (pc := 10) 22 dX5_userOf_10 (by decide) hw (fun hw => ?_) (fun hw => ?_)
  · refine j_aload_n X (pc := 22) 0 dX5_userOf_22 rfl rfl ?_
    refine j_iconst X (pc := 23) 1 dX5_userOf_23 (by decide) ?_
    obtain ⟨b9, c9, f9, hr9, ho9, hc9, hw⟩ := hw
    obtain rfl := List.mem_singleton.mp hc9
    refine j_calli (j_runV (n8 := 1) (As := [vI 1]) (rest := []) X (pc := 24) hr9 (met_X5_fails (xl x) X.hl (xG x) h7 a0 1 _ hw) ho9 (by decide) rfl q1988 q1990 qs33 q78 q1991 (by decide +kernel) dX5_userOf_24 rfl ⟨Nat.le_of_ble_eq_true rfl, Nat.le_of_ble_eq_true rfl⟩ (Nat.le_of_ble_eq_true rfl) ⟨Nat.le_of_ble_eq_true rfl, Nat.le_of_ble_eq_true rfl⟩) (fun y24 h24 hw => ?_)
    exact j_iret X (pc := 27) hQ er (Nat.le_of_ble_eq_true rfl) (Nat.le_of_ble_eq_true rfl) dX5_userOf_27 hw
  · refine j_aload_n X (pc := 13) 0 dX5_userOf_13 rfl rfl ?_
    refine j_getq (ci := 4) X (pc := 14) in_X5 rfl (by decide) 10 (by decide) q1882 (Or.inl rfl) dX5_userOf_14 hw (fun y14 hw => ?_)
    refine j_iload_n X (pc := 17) 1 dX5_userOf_17 rfl rfl ?_
    refine j_iald X (pc := 18) 0 rfl dX5_userOf_18 hw (fun y18 hw => ?_)
    refine j_goto X (pc := 19) 27 dX5_userOf_19 (by decide) ?_
    exact j_iret X (pc := 27) hQ er (Nat.le_of_ble_eq_true rfl) (Nat.le_of_ble_eq_true rfl) dX5_userOf_27 hw
abbrev cX1_clockOf : ByteArray := prog_1_method_45_code
def yX1_clockOf : MethodName := ⟨RX1, "clockOf", "(I)I"⟩
def dkwX1_clockOf_0 : List UInt8 := [42, 27, 182, 1, 90, 180, 1, 100, 172]
abbrev dktX1_clockOf_0 : List UInt8 := dkwX1_clockOf_0 ++ []
theorem dksX1_clockOf_0 : cX1_clockOf.data.toList.drop 0 = dktX1_clockOf_0 := by decide +kernel
theorem dX1_clockOf_0 : decode cX1_clockOf 0 = .ok (.aload_n 0, 1) := dk_42 (dk_at dksX1_clockOf_0 0 rfl rfl)
theorem dX1_clockOf_1 : decode cX1_clockOf 1 = .ok (.iload_n 1, 1) := dk_27 (dk_at dksX1_clockOf_0 1 rfl rfl)
theorem dX1_clockOf_2 : decode cX1_clockOf 2 = .ok (.invokevirtual 346, 3) := dk_182 1 90 (dk_at dksX1_clockOf_0 2 rfl rfl)
theorem dX1_clockOf_5 : decode cX1_clockOf 5 = .ok (.getfield 356, 3) := dk_180 1 100 (dk_at dksX1_clockOf_0 5 rfl rfl)
theorem dX1_clockOf_8 : decode cX1_clockOf 8 = .ok (.ireturn, 1) := dk_172 (dk_at dksX1_clockOf_0 8 rfl rfl)
theorem q705 : (Jvm.Cond.fieldLinkNest "Plugboard" (356 : Nat) "Plugboard$Operation" "clock" "I" "Plugboard") ∈ lw_tbl := lw_at lw_m3 155 rfl
abbrev rm_X1_clockOf : Room := { frames := 8, cells := 1, slots := 6, locals := 122 }
def w_X1_clockOf (a0 : Option Nat) (a1 : Int32) (h : AH) (P : Int32 → AH → Prop) (PX : String → AH → Prop) : Prop :=
  is_c h a0 [0] (
  w_X1_operation a0 a1 h (fun y2 h2 =>
  g_i h2 y2 9 2 fun y5 =>
  P y5 h2) PX)
theorem met_X1_clockOf (l : Launch) (hlt : l.stackTraces = false) (G : GG) (h : AH) (a0 : Option Nat) (a1 : Int32) (P : Int32 → AH → Prop) (PX : String → AH → Prop) (hw : w_X1_clockOf a0 a1 h P PX) : cx_i l yX1_clockOf (ws_ yX1_clockOf cX1_clockOf 2 (Option.some Jvm.ClassFile.FieldType.int)) rm_X1_clockOf G h [vR a0, vI a1] P PX := by
  refine j_startXi hlt [(0, vR a0), (1, vI a1)] (by decide) rfl rfl (fun x X eG er en hQ hT hex => ?_)
  subst eG
  refine j_aload_n X (pc := 0) 0 dX1_clockOf_0 rfl rfl ?_
  refine j_iload_n X (pc := 1) 1 dX1_clockOf_1 rfl rfl ?_
  obtain ⟨b9, c9, f9, hr9, ho9, hc9, hw⟩ := hw
  obtain rfl := List.mem_singleton.mp hc9
  refine j_callXq (j_runVX (n8 := 1) (As := [vI a1]) (rest := []) X (pc := 2) hr9 (met_X1_operation (xl x) X.hl (xG x) h a0 a1 _ _ hw) ho9 (by decide) rfl q1364 q1366 qs17 q71 q1367 (by decide +kernel) dX1_clockOf_2 rfl ⟨Nat.le_of_ble_eq_true rfl, Nat.le_of_ble_eq_true rfl⟩ (Nat.le_of_ble_eq_true rfl) ⟨Nat.le_of_ble_eq_true rfl, Nat.le_of_ble_eq_true rfl⟩) (fun E h9 hx => j_out X hT hex (Nat.le_of_ble_eq_true rfl) (Nat.le_of_ble_eq_true rfl) hx) (fun y2 h2 hw => ?_)
  refine j_getiN (ci := 9) X (pc := 5) in_X11 rfl (by decide) 2 (by decide) q705 (Or.inl rfl) dX1_clockOf_5 hw (fun y5 hw => ?_)
  exact j_iret X (pc := 8) hQ er (Nat.le_of_ble_eq_true rfl) (Nat.le_of_ble_eq_true rfl) dX1_clockOf_8 hw
abbrev cX0_clockOf : ByteArray := method_19_code
def yX0_clockOf : MethodName := ⟨RX0, "clockOf", "(LPlugboard;I[J)I"⟩
def dkwX0_clockOf_0 : List UInt8 := [44, 3, 42, 27, 182, 0, 72, 133, 80, 167, 0, 6, 78, 4, 172, 3, 172]
abbrev dktX0_clockOf_0 : List UInt8 := dkwX0_clockOf_0 ++ []
theorem dksX0_clockOf_0 : cX0_clockOf.data.toList.drop 0 = dktX0_clockOf_0 := by decide +kernel
theorem dX0_clockOf_0 : decode cX0_clockOf 0 = .ok (.aload_n 2, 1) := dk_44 (dk_at dksX0_clockOf_0 0 rfl rfl)
theorem dX0_clockOf_1 : decode cX0_clockOf 1 = .ok (.iconst 0, 1) := dk_3 (dk_at dksX0_clockOf_0 1 rfl rfl)
theorem dX0_clockOf_2 : decode cX0_clockOf 2 = .ok (.aload_n 0, 1) := dk_42 (dk_at dksX0_clockOf_0 2 rfl rfl)
theorem dX0_clockOf_3 : decode cX0_clockOf 3 = .ok (.iload_n 1, 1) := dk_27 (dk_at dksX0_clockOf_0 3 rfl rfl)
theorem dX0_clockOf_4 : decode cX0_clockOf 4 = .ok (.invokevirtual 72, 3) := dk_182 0 72 (dk_at dksX0_clockOf_0 4 rfl rfl)
theorem dX0_clockOf_7 : decode cX0_clockOf 7 = .ok (.i2l, 1) := dk_133 (dk_at dksX0_clockOf_0 7 rfl rfl)
theorem dX0_clockOf_8 : decode cX0_clockOf 8 = .ok (.lastore, 1) := dk_80 (dk_at dksX0_clockOf_0 8 rfl rfl)
theorem dX0_clockOf_9 : decode cX0_clockOf 9 = .ok (.goto 6, 3) := dk_167 0 6 (dk_at dksX0_clockOf_0 9 rfl rfl)
theorem dX0_clockOf_12 : decode cX0_clockOf 12 = .ok (.astore_n 3, 1) := dk_78 (dk_at dksX0_clockOf_0 12 rfl rfl)
theorem dX0_clockOf_13 : decode cX0_clockOf 13 = .ok (.iconst 1, 1) := dk_4 (dk_at dksX0_clockOf_0 13 rfl rfl)
theorem dX0_clockOf_14 : decode cX0_clockOf 14 = .ok (.ireturn, 1) := dk_172 (dk_at dksX0_clockOf_0 14 rfl rfl)
theorem dX0_clockOf_15 : decode cX0_clockOf 15 = .ok (.iconst 0, 1) := dk_3 (dk_at dksX0_clockOf_0 15 rfl rfl)
theorem dX0_clockOf_16 : decode cX0_clockOf 16 = .ok (.ireturn, 1) := dk_172 (dk_at dksX0_clockOf_0 16 rfl rfl)
theorem q1385 : (Jvm.Cond.methodLink "PlugboardLaw" (72 : Nat) ({ cls := "Plugboard", name := "clockOf", desc := "(I)I" } : Jvm.MethodName)) ∈ lw_all := lw_g (lw_at lw_m6 115 rfl) rfl
theorem q1386 : (Jvm.Cond.instanceMethod ({ cls := "Plugboard", name := "clockOf", desc := "(I)I" } : Jvm.MethodName)) ∈ lw_all := lw_g (lw_at lw_m6 116 rfl) rfl
theorem q1387 : (Jvm.Cond.selects "Plugboard" ({ cls := "Plugboard", name := "clockOf", desc := "(I)I" } : Jvm.MethodName) ({ cls := "Plugboard", name := "clockOf", desc := "(I)I" } : Jvm.MethodName)) ∈ lw_all := lw_g (lw_at lw_m6 117 rfl) rfl
theorem q1388 : (Jvm.Cond.code ({ cls := "Plugboard", name := "clockOf", desc := "(I)I" } : Jvm.MethodName) prog_1_method_45_code (2 : Nat) (Option.some Jvm.ClassFile.FieldType.int)) ∈ lw_all := lw_g (lw_at lw_m6 118 rfl) rfl
abbrev rm_X0_clockOf : Room := { frames := 9, cells := 1, slots := 6, locals := 143 }
def w_X0_clockOf (a0 : Option Nat) (a1 : Int32) (a2 : Option Nat) (h : AH) (P : Int32 → AH → Prop) : Prop :=
  is_c h a0 [0] (
  w_X1_clockOf a0 a1 h (fun y4 h4 =>
  s_L h4 a2 0 (Int32.toInt64 y4) fun h8 =>
  P 0 h8)
    (fun E9 h9 => (E9 = "java/util/NoSuchElementException" ∧ ∀ q9 : Nat,
    P 1 h9)))
theorem met_X0_clockOf (l : Launch) (hlt : l.stackTraces = false) (G : GG) (h : AH) (a0 : Option Nat) (a1 : Int32) (a2 : Option Nat) (P : Int32 → AH → Prop) (hw : w_X0_clockOf a0 a1 a2 h P) : ct_i l yX0_clockOf (wsW_ yX0_clockOf cX0_clockOf 4 (Option.some Jvm.ClassFile.FieldType.int) [((0 : Nat), (9 : Nat), (12 : Nat), (21 : Nat))]) rm_X0_clockOf G h [vR a0, vI a1, vR a2] P := by
  refine j_startWi hlt [(0, vR a0), (1, vI a1), (2, vR a2)] (by decide) rfl rfl (fun x X eG er en hQ hex => ?_)
  subst eG
  refine j_aload_n X (pc := 0) 2 dX0_clockOf_0 rfl rfl ?_
  refine j_iconst X (pc := 1) 0 dX0_clockOf_1 (by decide) ?_
  refine j_aload_n X (pc := 2) 0 dX0_clockOf_2 rfl rfl ?_
  refine j_iload_n X (pc := 3) 1 dX0_clockOf_3 rfl rfl ?_
  obtain ⟨b9, c9, f9, hr9, ho9, hc9, hw⟩ := hw
  obtain rfl := List.mem_singleton.mp hc9
  refine j_callXi (j_runVX (n8 := 1) (As := [vI a1]) (rest := [vI 0, vR a2]) X (pc := 4) hr9 (met_X1_clockOf (xl x) X.hl (xG x) h a0 a1 _ _ hw) ho9 (by decide) rfl q1385 q1386 q1387 q71 q1388 (by decide +kernel) dX0_clockOf_4 rfl ⟨Nat.le_of_ble_eq_true rfl, Nat.le_of_ble_eq_true rfl⟩ (Nat.le_of_ble_eq_true rfl) ⟨Nat.le_of_ble_eq_true rfl, Nat.le_of_ble_eq_true rfl⟩) ?_ (fun y4 h4 hw => ?_)
  · intro E9 h9 hx
    obtain ⟨rfl, hw⟩ := hx
    refine j_catch X (pc := 4) "java/util/NoSuchElementException" hex [] [] ⟨0, 9, 12, 21⟩ rfl (by intro y hy; cases hy) (by decide) (by decide) q1068 q537 (fun q9 => ?_)
    have hw := hw q9
    refine j_astore_n X (pc := 12) [(3, vR (some q9)), (0, vR a0), (1, vI a1), (2, vR a2)] dX0_clockOf_12 rfl (Nat.le_of_ble_eq_true rfl) rfl ?_
    refine j_iconst X (pc := 13) 1 dX0_clockOf_13 (by decide) ?_
    exact j_iret X (pc := 14) hQ er (Nat.le_of_ble_eq_true rfl) (Nat.le_of_ble_eq_true rfl) dX0_clockOf_14 hw
  refine j_i2l X (pc := 7) dX0_clockOf_7 ?_
  refine j_last X (pc := 8) dX0_clockOf_8 hw (fun h8 hw => ?_)
  refine j_goto X (pc := 9) 15 dX0_clockOf_9 (by decide) ?_
  refine j_iconst X (pc := 15) 0 dX0_clockOf_15 (by decide) ?_
  exact j_iret X (pc := 16) hQ er (Nat.le_of_ble_eq_true rfl) (Nat.le_of_ble_eq_true rfl) dX0_clockOf_16 hw
abbrev cX5_clockOf : ByteArray := prog_19_method_49_code
def yX5_clockOf : MethodName := ⟨RX5, "clockOf", "(I)I"⟩
def dkwX5_clockOf_1 : List UInt8 := [182, 0, 172, 172]
abbrev dktX5_clockOf_1 : List UInt8 := dkwX5_clockOf_1 ++ []
def dkwX5_clockOf_0 : List UInt8 := [42, 3, 181, 0, 97, 42, 27, 182, 0, 222, 153, 0, 12, 42, 180, 0, 36, 27, 46, 167, 0, 8, 42, 4]
abbrev dktX5_clockOf_0 : List UInt8 := dkwX5_clockOf_0 ++ dktX5_clockOf_1
theorem dksX5_clockOf_0 : cX5_clockOf.data.toList.drop 0 = dktX5_clockOf_0 := by decide +kernel
theorem dksX5_clockOf_1 : cX5_clockOf.data.toList.drop 24 = dktX5_clockOf_1 := dk_seg dksX5_clockOf_0 24 rfl rfl
theorem dX5_clockOf_0 : decode cX5_clockOf 0 = .ok (.aload_n 0, 1) := dk_42 (dk_at dksX5_clockOf_0 0 rfl rfl)
theorem dX5_clockOf_1 : decode cX5_clockOf 1 = .ok (.iconst 0, 1) := dk_3 (dk_at dksX5_clockOf_0 1 rfl rfl)
theorem dX5_clockOf_2 : decode cX5_clockOf 2 = .ok (.putfield 97, 3) := dk_181 0 97 (dk_at dksX5_clockOf_0 2 rfl rfl)
theorem dX5_clockOf_5 : decode cX5_clockOf 5 = .ok (.aload_n 0, 1) := dk_42 (dk_at dksX5_clockOf_0 5 rfl rfl)
theorem dX5_clockOf_6 : decode cX5_clockOf 6 = .ok (.iload_n 1, 1) := dk_27 (dk_at dksX5_clockOf_0 6 rfl rfl)
theorem dX5_clockOf_7 : decode cX5_clockOf 7 = .ok (.invokevirtual 222, 3) := dk_182 0 222 (dk_at dksX5_clockOf_0 7 rfl rfl)
theorem dX5_clockOf_10 : decode cX5_clockOf 10 = .ok (.ifCond .eq 12, 3) := dk_153 0 12 (dk_at dksX5_clockOf_0 10 rfl rfl)
theorem dX5_clockOf_13 : decode cX5_clockOf 13 = .ok (.aload_n 0, 1) := dk_42 (dk_at dksX5_clockOf_0 13 rfl rfl)
theorem dX5_clockOf_14 : decode cX5_clockOf 14 = .ok (.getfield 36, 3) := dk_180 0 36 (dk_at dksX5_clockOf_0 14 rfl rfl)
theorem dX5_clockOf_17 : decode cX5_clockOf 17 = .ok (.iload_n 1, 1) := dk_27 (dk_at dksX5_clockOf_0 17 rfl rfl)
theorem dX5_clockOf_18 : decode cX5_clockOf 18 = .ok (.iaload, 1) := dk_46 (dk_at dksX5_clockOf_0 18 rfl rfl)
theorem dX5_clockOf_19 : decode cX5_clockOf 19 = .ok (.goto 8, 3) := dk_167 0 8 (dk_at dksX5_clockOf_0 19 rfl rfl)
theorem dX5_clockOf_22 : decode cX5_clockOf 22 = .ok (.aload_n 0, 1) := dk_42 (dk_at dksX5_clockOf_0 22 rfl rfl)
theorem dX5_clockOf_23 : decode cX5_clockOf 23 = .ok (.iconst 1, 1) := dk_4 (dk_at dksX5_clockOf_0 23 rfl rfl)
theorem dX5_clockOf_24 : decode cX5_clockOf 24 = .ok (.invokevirtual 172, 3) := dk_182 0 172 (dk_at dksX5_clockOf_1 0 rfl rfl)
theorem dX5_clockOf_27 : decode cX5_clockOf 27 = .ok (.ireturn, 1) := dk_172 (dk_at dksX5_clockOf_1 3 rfl rfl)
abbrev rm_X5_clockOf : Room := { frames := 2, cells := 0, slots := 0, locals := 43 }
def w_X5_clockOf (a0 : Option Nat) (a1 : Int32) (h : AH) (P : Int32 → AH → Prop) : Prop :=
  p_v h a0 4 0 (vI 0) fun h2 =>
  is_c h2 a0 [4] (
  w_X5_isOperation a0 a1 h2 (fun y7 h7 =>
  ((y7 = 0 →
    is_c h7 a0 [4] (
    w_X5_fails a0 1 h7 (fun y24 h24 =>
    P y24 h24))) ∧
   (¬ y7 = 0 →
    g_q h7 a0 4 11 fun y14 =>
    l_i h7 y14 0 a1 fun y18 =>
    P y18 h7))))
theorem met_X5_clockOf (l : Launch) (hlt : l.stackTraces = false) (G : GG) (h : AH) (a0 : Option Nat) (a1 : Int32) (P : Int32 → AH → Prop) (hw : w_X5_clockOf a0 a1 h P) : ct_i l yX5_clockOf (ws_ yX5_clockOf cX5_clockOf 2 (Option.some Jvm.ClassFile.FieldType.int)) rm_X5_clockOf G h [vR a0, vI a1] P := by
  refine j_starti hlt [(0, vR a0), (1, vI a1)] (plainFor_of_name (by decide)) rfl rfl (fun x X eG er en hQ => ?_)
  subst eG
  refine j_aload_n X (pc := 0) 0 dX5_clockOf_0 rfl rfl ?_
  refine j_iconst X (pc := 1) 0 dX5_clockOf_1 (by decide) ?_
  refine j_put (ci := 4) X (pc := 2) in_X5 rfl (by decide) 0 (by decide) q1872 (Or.inl rfl) tyX5 tyX5_ok nmX5 rfl rfl (ty := .int) (tyX5_ok 0 (by decide)) rfl rfl dX5_clockOf_2 hw (fun h2 hw => ?_)
  refine j_aload_n X (pc := 5) 0 dX5_clockOf_5 rfl rfl ?_
  refine j_iload_n X (pc := 6) 1 dX5_clockOf_6 rfl rfl ?_
  obtain ⟨b9, c9, f9, hr9, ho9, hc9, hw⟩ := hw
  obtain rfl := List.mem_singleton.mp hc9
  refine j_calli (j_runV (n8 := 1) (As := [vI a1]) (rest := []) X (pc := 7) hr9 (met_X5_isOperation (xl x) X.hl (xG x) h2 a0 a1 _ hw) ho9 (by decide) rfl q2138 q2140 qs56 q78 q2141 (by decide +kernel) dX5_clockOf_7 rfl ⟨Nat.le_of_ble_eq_true rfl, Nat.le_of_ble_eq_true rfl⟩ (Nat.le_of_ble_eq_true rfl) ⟨Nat.le_of_ble_eq_true rfl, Nat.le_of_ble_eq_true rfl⟩) (fun y7 h7 hw => ?_)
  refine j_if_eq X (pc := 10) 22 dX5_clockOf_10 (by decide) hw (fun hw => ?_) (fun hw => ?_)
  · refine j_aload_n X (pc := 22) 0 dX5_clockOf_22 rfl rfl ?_
    refine j_iconst X (pc := 23) 1 dX5_clockOf_23 (by decide) ?_
    obtain ⟨b9, c9, f9, hr9, ho9, hc9, hw⟩ := hw
    obtain rfl := List.mem_singleton.mp hc9
    refine j_calli (j_runV (n8 := 1) (As := [vI 1]) (rest := []) X (pc := 24) hr9 (met_X5_fails (xl x) X.hl (xG x) h7 a0 1 _ hw) ho9 (by decide) rfl q1988 q1990 qs33 q78 q1991 (by decide +kernel) dX5_clockOf_24 rfl ⟨Nat.le_of_ble_eq_true rfl, Nat.le_of_ble_eq_true rfl⟩ (Nat.le_of_ble_eq_true rfl) ⟨Nat.le_of_ble_eq_true rfl, Nat.le_of_ble_eq_true rfl⟩) (fun y24 h24 hw => ?_)
    exact j_iret X (pc := 27) hQ er (Nat.le_of_ble_eq_true rfl) (Nat.le_of_ble_eq_true rfl) dX5_clockOf_27 hw
  · refine j_aload_n X (pc := 13) 0 dX5_clockOf_13 rfl rfl ?_
    refine j_getq (ci := 4) X (pc := 14) in_X5 rfl (by decide) 11 (by decide) q1883 (Or.inl rfl) dX5_clockOf_14 hw (fun y14 hw => ?_)
    refine j_iload_n X (pc := 17) 1 dX5_clockOf_17 rfl rfl ?_
    refine j_iald X (pc := 18) 0 rfl dX5_clockOf_18 hw (fun y18 hw => ?_)
    refine j_goto X (pc := 19) 27 dX5_clockOf_19 (by decide) ?_
    exact j_iret X (pc := 27) hQ er (Nat.le_of_ble_eq_true rfl) (Nat.le_of_ble_eq_true rfl) dX5_clockOf_27 hw
abbrev cX1_knows : ByteArray := prog_1_method_46_code
def yX1_knows : MethodName := ⟨RX1, "knows", "(II)Z"⟩
def dkwX1_knows_0 : List UInt8 := [42, 27, 182, 0, 199, 78, 45, 180, 1, 97, 42, 28, 182, 1, 90, 180, 1, 82, 51, 172]
abbrev dktX1_knows_0 : List UInt8 := dkwX1_knows_0 ++ []
theorem dksX1_knows_0 : cX1_knows.data.toList.drop 0 = dktX1_knows_0 := by decide +kernel
theorem dX1_knows_0 : decode cX1_knows 0 = .ok (.aload_n 0, 1) := dk_42 (dk_at dksX1_knows_0 0 rfl rfl)
theorem dX1_knows_1 : decode cX1_knows 1 = .ok (.iload_n 1, 1) := dk_27 (dk_at dksX1_knows_0 1 rfl rfl)
theorem dX1_knows_2 : decode cX1_knows 2 = .ok (.invokevirtual 199, 3) := dk_182 0 199 (dk_at dksX1_knows_0 2 rfl rfl)
theorem dX1_knows_5 : decode cX1_knows 5 = .ok (.astore_n 3, 1) := dk_78 (dk_at dksX1_knows_0 5 rfl rfl)
theorem dX1_knows_6 : decode cX1_knows 6 = .ok (.aload_n 3, 1) := dk_45 (dk_at dksX1_knows_0 6 rfl rfl)
theorem dX1_knows_7 : decode cX1_knows 7 = .ok (.getfield 353, 3) := dk_180 1 97 (dk_at dksX1_knows_0 7 rfl rfl)
theorem dX1_knows_10 : decode cX1_knows 10 = .ok (.aload_n 0, 1) := dk_42 (dk_at dksX1_knows_0 10 rfl rfl)
theorem dX1_knows_11 : decode cX1_knows 11 = .ok (.iload_n 2, 1) := dk_28 (dk_at dksX1_knows_0 11 rfl rfl)
theorem dX1_knows_12 : decode cX1_knows 12 = .ok (.invokevirtual 346, 3) := dk_182 1 90 (dk_at dksX1_knows_0 12 rfl rfl)
theorem dX1_knows_15 : decode cX1_knows 15 = .ok (.getfield 338, 3) := dk_180 1 82 (dk_at dksX1_knows_0 15 rfl rfl)
theorem dX1_knows_18 : decode cX1_knows 18 = .ok (.baload, 1) := dk_51 (dk_at dksX1_knows_0 18 rfl rfl)
theorem dX1_knows_19 : decode cX1_knows 19 = .ok (.ireturn, 1) := dk_172 (dk_at dksX1_knows_0 19 rfl rfl)
theorem q215 : (Jvm.Cond.fieldLinkNest "Plugboard" (353 : Nat) "Plugboard$Board" "areKnown" "[Z" "Plugboard") ∈ lw_tbl := lw_at lw_m1 145 rfl
abbrev rm_X1_knows : Room := { frames := 9, cells := 3, slots := 13, locals := 146 }
def w_X1_knows (a0 : Option Nat) (a1 : Int32) (a2 : Int32) (h : AH) (P : Int32 → AH → Prop) (PX : String → AH → Prop) : Prop :=
  is_c h a0 [0] (
  w_X1_board a0 a1 h (fun y2 h2 =>
  g_q h2 y2 2 3 fun y7 =>
  is_c h2 a0 [0] (
  w_X1_operation a0 a2 h2 (fun y12 h12 =>
  g_i h12 y12 9 0 fun y15 =>
  l_i h12 y7 1 y15 fun y18 =>
  nrw .boolean y18 ∧
  P y18 h12) PX)) PX)
theorem met_X1_knows (l : Launch) (hlt : l.stackTraces = false) (G : GG) (h : AH) (a0 : Option Nat) (a1 : Int32) (a2 : Int32) (P : Int32 → AH → Prop) (PX : String → AH → Prop) (hw : w_X1_knows a0 a1 a2 h P PX) : cx_i l yX1_knows (ws_ yX1_knows cX1_knows 4 (Option.some Jvm.ClassFile.FieldType.boolean)) rm_X1_knows G h [vR a0, vI a1, vI a2] P PX := by
  refine j_startXi hlt [(0, vR a0), (1, vI a1), (2, vI a2)] (by decide) rfl rfl (fun x X eG er en hQ hT hex => ?_)
  subst eG
  refine j_aload_n X (pc := 0) 0 dX1_knows_0 rfl rfl ?_
  refine j_iload_n X (pc := 1) 1 dX1_knows_1 rfl rfl ?_
  obtain ⟨b9, c9, f9, hr9, ho9, hc9, hw⟩ := hw
  obtain rfl := List.mem_singleton.mp hc9
  refine j_callXq (j_runVX (n8 := 1) (As := [vI a1]) (rest := []) X (pc := 2) hr9 (met_X1_board (xl x) X.hl (xG x) h a0 a1 _ _ hw) ho9 (by decide) rfl q297 q299 qs0 q71 q300 (by decide +kernel) dX1_knows_2 rfl ⟨Nat.le_of_ble_eq_true rfl, Nat.le_of_ble_eq_true rfl⟩ (Nat.le_of_ble_eq_true rfl) ⟨Nat.le_of_ble_eq_true rfl, Nat.le_of_ble_eq_true rfl⟩) (fun E h9 hx => j_out X hT hex (Nat.le_of_ble_eq_true rfl) (Nat.le_of_ble_eq_true rfl) hx) (fun y2 h2 hw => ?_)
  refine j_astore_n X (pc := 5) [(3, vR y2), (0, vR a0), (1, vI a1), (2, vI a2)] dX1_knows_5 rfl (Nat.le_of_ble_eq_true rfl) rfl ?_
  refine j_aload_n X (pc := 6) 0 dX1_knows_6 rfl rfl ?_
  refine j_getqN (ci := 2) X (pc := 7) in_X3 rfl (by decide) 3 (by decide) q215 (Or.inl rfl) dX1_knows_7 hw (fun y7 hw => ?_)
  refine j_aload_n X (pc := 10) 1 dX1_knows_10 rfl rfl ?_
  refine j_iload_n X (pc := 11) 3 dX1_knows_11 rfl rfl ?_
  obtain ⟨b9, c9, f9, hr9, ho9, hc9, hw⟩ := hw
  obtain rfl := List.mem_singleton.mp hc9
  refine j_callXq (j_runVX (n8 := 1) (As := [vI a2]) (rest := [vR y7]) X (pc := 12) hr9 (met_X1_operation (xl x) X.hl (xG x) h2 a0 a2 _ _ hw) ho9 (by decide) rfl q1364 q1366 qs17 q71 q1367 (by decide +kernel) dX1_knows_12 rfl ⟨Nat.le_of_ble_eq_true rfl, Nat.le_of_ble_eq_true rfl⟩ (Nat.le_of_ble_eq_true rfl) ⟨Nat.le_of_ble_eq_true rfl, Nat.le_of_ble_eq_true rfl⟩) (fun E h9 hx => j_out X hT hex (Nat.le_of_ble_eq_true rfl) (Nat.le_of_ble_eq_true rfl) hx) (fun y12 h12 hw => ?_)
  refine j_getiN (ci := 9) X (pc := 15) in_X11 rfl (by decide) 0 (by decide) q700 (Or.inl rfl) dX1_knows_15 hw (fun y15 hw => ?_)
  refine j_zald X (pc := 18) 1 rfl dX1_knows_18 hw (fun y18 hw => ?_)
  exact j_zret X (pc := 19) (ty := .boolean) hQ er hw.1.1 (Nat.le_of_ble_eq_true rfl) (Nat.le_of_ble_eq_true rfl) dX1_knows_19 hw.2
abbrev cX0_knows : ByteArray := method_20_code
def yX0_knows : MethodName := ⟨RX0, "knows", "(LPlugboard;II[J)I"⟩
def dkwX0_knows_1 : List UInt8 := [58, 4, 5, 172, 3, 172]
abbrev dktX0_knows_1 : List UInt8 := dkwX0_knows_1 ++ []
def dkwX0_knows_0 : List UInt8 := [45, 3, 42, 27, 28, 182, 0, 75, 153, 0, 7, 10, 167, 0, 4, 9, 80, 167, 0, 11, 58, 4, 4, 172]
abbrev dktX0_knows_0 : List UInt8 := dkwX0_knows_0 ++ dktX0_knows_1
theorem dksX0_knows_0 : cX0_knows.data.toList.drop 0 = dktX0_knows_0 := by decide +kernel
theorem dksX0_knows_1 : cX0_knows.data.toList.drop 24 = dktX0_knows_1 := dk_seg dksX0_knows_0 24 rfl rfl
theorem dX0_knows_0 : decode cX0_knows 0 = .ok (.aload_n 3, 1) := dk_45 (dk_at dksX0_knows_0 0 rfl rfl)
theorem dX0_knows_1 : decode cX0_knows 1 = .ok (.iconst 0, 1) := dk_3 (dk_at dksX0_knows_0 1 rfl rfl)
theorem dX0_knows_2 : decode cX0_knows 2 = .ok (.aload_n 0, 1) := dk_42 (dk_at dksX0_knows_0 2 rfl rfl)
theorem dX0_knows_3 : decode cX0_knows 3 = .ok (.iload_n 1, 1) := dk_27 (dk_at dksX0_knows_0 3 rfl rfl)
theorem dX0_knows_4 : decode cX0_knows 4 = .ok (.iload_n 2, 1) := dk_28 (dk_at dksX0_knows_0 4 rfl rfl)
theorem dX0_knows_5 : decode cX0_knows 5 = .ok (.invokevirtual 75, 3) := dk_182 0 75 (dk_at dksX0_knows_0 5 rfl rfl)
theorem dX0_knows_8 : decode cX0_knows 8 = .ok (.ifCond .eq 7, 3) := dk_153 0 7 (dk_at dksX0_knows_0 8 rfl rfl)
theorem dX0_knows_11 : decode cX0_knows 11 = .ok (.lconst 1, 1) := dk_10 (dk_at dksX0_knows_0 11 rfl rfl)
theorem dX0_knows_12 : decode cX0_knows 12 = .ok (.goto 4, 3) := dk_167 0 4 (dk_at dksX0_knows_0 12 rfl rfl)
theorem dX0_knows_15 : decode cX0_knows 15 = .ok (.lconst 0, 1) := dk_9 (dk_at dksX0_knows_0 15 rfl rfl)
theorem dX0_knows_16 : decode cX0_knows 16 = .ok (.lastore, 1) := dk_80 (dk_at dksX0_knows_0 16 rfl rfl)
theorem dX0_knows_17 : decode cX0_knows 17 = .ok (.goto 11, 3) := dk_167 0 11 (dk_at dksX0_knows_0 17 rfl rfl)
theorem dX0_knows_20 : decode cX0_knows 20 = .ok (.astore 4, 2) := dk_58 4 (dk_at dksX0_knows_0 20 rfl rfl)
theorem dX0_knows_22 : decode cX0_knows 22 = .ok (.iconst 1, 1) := dk_4 (dk_at dksX0_knows_0 22 rfl rfl)
theorem dX0_knows_23 : decode cX0_knows 23 = .ok (.ireturn, 1) := dk_172 (dk_at dksX0_knows_0 23 rfl rfl)
theorem dX0_knows_24 : decode cX0_knows 24 = .ok (.astore 4, 2) := dk_58 4 (dk_at dksX0_knows_1 0 rfl rfl)
theorem dX0_knows_26 : decode cX0_knows 26 = .ok (.iconst 2, 1) := dk_5 (dk_at dksX0_knows_1 2 rfl rfl)
theorem dX0_knows_27 : decode cX0_knows 27 = .ok (.ireturn, 1) := dk_172 (dk_at dksX0_knows_1 3 rfl rfl)
theorem dX0_knows_28 : decode cX0_knows 28 = .ok (.iconst 0, 1) := dk_3 (dk_at dksX0_knows_1 4 rfl rfl)
theorem dX0_knows_29 : decode cX0_knows 29 = .ok (.ireturn, 1) := dk_172 (dk_at dksX0_knows_1 5 rfl rfl)
theorem q1392 : (Jvm.Cond.methodLink "PlugboardLaw" (75 : Nat) ({ cls := "Plugboard", name := "knows", desc := "(II)Z" } : Jvm.MethodName)) ∈ lw_all := lw_g (lw_at lw_m6 122 rfl) rfl
theorem q1393 : (Jvm.Cond.instanceMethod ({ cls := "Plugboard", name := "knows", desc := "(II)Z" } : Jvm.MethodName)) ∈ lw_all := lw_g (lw_at lw_m6 123 rfl) rfl
theorem q1394 : (Jvm.Cond.selects "Plugboard" ({ cls := "Plugboard", name := "knows", desc := "(II)Z" } : Jvm.MethodName) ({ cls := "Plugboard", name := "knows", desc := "(II)Z" } : Jvm.MethodName)) ∈ lw_all := lw_g (lw_at lw_m6 124 rfl) rfl
theorem q1395 : (Jvm.Cond.code ({ cls := "Plugboard", name := "knows", desc := "(II)Z" } : Jvm.MethodName) prog_1_method_46_code (4 : Nat) (Option.some Jvm.ClassFile.FieldType.boolean)) ∈ lw_all := lw_g (lw_at lw_m6 125 rfl) rfl
abbrev rm_X0_knows : Room := { frames := 10, cells := 3, slots := 13, locals := 169 }
def w_X0_knows (a0 : Option Nat) (a1 : Int32) (a2 : Int32) (a3 : Option Nat) (h : AH) (P : Int32 → AH → Prop) : Prop :=
  is_c h a0 [0] (
  w_X1_knows a0 a1 a2 h (fun y5 h5 =>
  ((y5 = 0 →
    s_L h5 a3 0 0 fun h16 =>
    P 0 h16) ∧
   (¬ y5 = 0 →
    s_L h5 a3 0 1 fun h16 =>
    P 0 h16)))
    (fun E9 h9 => (E9 = "java/lang/IllegalArgumentException" ∧ ∀ q9 : Nat,
    P 1 h9) ∨
    (E9 = "java/util/NoSuchElementException" ∧ ∀ q9 : Nat,
    P 2 h9)))
theorem met_X0_knows (l : Launch) (hlt : l.stackTraces = false) (G : GG) (h : AH) (a0 : Option Nat) (a1 : Int32) (a2 : Int32) (a3 : Option Nat) (P : Int32 → AH → Prop) (hw : w_X0_knows a0 a1 a2 a3 h P) : ct_i l yX0_knows (wsW_ yX0_knows cX0_knows 5 (Option.some Jvm.ClassFile.FieldType.int) [((0 : Nat), (17 : Nat), (20 : Nat), (13 : Nat)), ((0 : Nat), (17 : Nat), (24 : Nat), (21 : Nat))]) rm_X0_knows G h [vR a0, vI a1, vI a2, vR a3] P := by
  refine j_startWi hlt [(0, vR a0), (1, vI a1), (2, vI a2), (3, vR a3)] (by decide) rfl rfl (fun x X eG er en hQ hex => ?_)
  subst eG
  refine j_aload_n X (pc := 0) 3 dX0_knows_0 rfl rfl ?_
  refine j_iconst X (pc := 1) 0 dX0_knows_1 (by decide) ?_
  refine j_aload_n X (pc := 2) 0 dX0_knows_2 rfl rfl ?_
  refine j_iload_n X (pc := 3) 1 dX0_knows_3 rfl rfl ?_
  refine j_iload_n X (pc := 4) 2 dX0_knows_4 rfl rfl ?_
  obtain ⟨b9, c9, f9, hr9, ho9, hc9, hw⟩ := hw
  obtain rfl := List.mem_singleton.mp hc9
  refine j_callXi (j_runVX (n8 := 2) (As := [vI a1, vI a2]) (rest := [vI 0, vR a3]) X (pc := 5) hr9 (met_X1_knows (xl x) X.hl (xG x) h a0 a1 a2 _ _ hw) ho9 (by decide) rfl q1392 q1393 q1394 q71 q1395 (by decide +kernel) dX0_knows_5 rfl ⟨Nat.le_of_ble_eq_true rfl, Nat.le_of_ble_eq_true rfl⟩ (Nat.le_of_ble_eq_true rfl) ⟨Nat.le_of_ble_eq_true rfl, Nat.le_of_ble_eq_true rfl⟩) ?_ (fun y5 h5 hw => ?_)
  · intro E9 h9 hx
    rcases hx with ⟨rfl, hw⟩ | ⟨rfl, hw⟩
    · refine j_catch X (pc := 5) "java/lang/IllegalArgumentException" hex [] [⟨0, 17, 24, 21⟩] ⟨0, 17, 20, 13⟩ rfl (by intro y hy; cases hy) (by decide) (by decide) q291 q312 (fun q9 => ?_)
      have hw := hw q9
      refine j_astore X (pc := 20) [(4, vR (some q9)), (0, vR a0), (1, vI a1), (2, vI a2), (3, vR a3)] dX0_knows_20 (Nat.le_of_ble_eq_true rfl) rfl ?_
      refine j_iconst X (pc := 22) 1 dX0_knows_22 (by decide) ?_
      exact j_iret X (pc := 23) hQ er (Nat.le_of_ble_eq_true rfl) (Nat.le_of_ble_eq_true rfl) dX0_knows_23 hw
    · refine j_catch X (pc := 5) "java/util/NoSuchElementException" hex [⟨0, 17, 20, 13⟩] [] ⟨0, 17, 24, 21⟩ rfl (by intro y hy; simp only [List.mem_cons, List.not_mem_nil, or_false] at hy; subst hy; exact Or.inr ⟨by decide, "java/lang/IllegalArgumentException", q291, by decide +kernel⟩) (by decide) (by decide) q1068 q537 (fun q9 => ?_)
      have hw := hw q9
      refine j_astore X (pc := 24) [(4, vR (some q9)), (0, vR a0), (1, vI a1), (2, vI a2), (3, vR a3)] dX0_knows_24 (Nat.le_of_ble_eq_true rfl) rfl ?_
      refine j_iconst X (pc := 26) 2 dX0_knows_26 (by decide) ?_
      exact j_iret X (pc := 27) hQ er (Nat.le_of_ble_eq_true rfl) (Nat.le_of_ble_eq_true rfl) dX0_knows_27 hw
  refine j_if_eq X (pc := 8) 15 dX0_knows_8 (by decide) hw (fun hw => ?_) (fun hw => ?_)
  · refine j_lconst X (pc := 15) 0 dX0_knows_15 (by decide) ?_
    refine j_last X (pc := 16) dX0_knows_16 hw (fun h16 hw => ?_)
    refine j_goto X (pc := 17) 28 dX0_knows_17 (by decide) ?_
    refine j_iconst X (pc := 28) 0 dX0_knows_28 (by decide) ?_
    exact j_iret X (pc := 29) hQ er (Nat.le_of_ble_eq_true rfl) (Nat.le_of_ble_eq_true rfl) dX0_knows_29 hw
  · refine j_lconst X (pc := 11) 1 dX0_knows_11 (by decide) ?_
    refine j_goto X (pc := 12) 16 dX0_knows_12 (by decide) ?_
    refine j_last X (pc := 16) dX0_knows_16 hw (fun h16 hw => ?_)
    refine j_goto X (pc := 17) 28 dX0_knows_17 (by decide) ?_
    refine j_iconst X (pc := 28) 0 dX0_knows_28 (by decide) ?_
    exact j_iret X (pc := 29) hQ er (Nat.le_of_ble_eq_true rfl) (Nat.le_of_ble_eq_true rfl) dX0_knows_29 hw
abbrev cX5_knows : ByteArray := prog_19_method_50_code
def yX5_knows : MethodName := ⟨RX5, "knows", "(II)Z"⟩
def dkwX5_knows_1 : List UInt8 := [153, 0, 14, 42, 180, 0, 64, 27, 50, 28, 51, 167, 0, 8, 42, 5, 182, 0, 219, 172]
abbrev dktX5_knows_1 : List UInt8 := dkwX5_knows_1 ++ []
def dkwX5_knows_0 : List UInt8 := [42, 3, 181, 0, 97, 27, 184, 0, 165, 154, 0, 9, 42, 4, 182, 0, 219, 172, 42, 28, 182, 0, 222]
abbrev dktX5_knows_0 : List UInt8 := dkwX5_knows_0 ++ dktX5_knows_1
theorem dksX5_knows_0 : cX5_knows.data.toList.drop 0 = dktX5_knows_0 := by decide +kernel
theorem dksX5_knows_1 : cX5_knows.data.toList.drop 23 = dktX5_knows_1 := dk_seg dksX5_knows_0 23 rfl rfl
theorem dX5_knows_0 : decode cX5_knows 0 = .ok (.aload_n 0, 1) := dk_42 (dk_at dksX5_knows_0 0 rfl rfl)
theorem dX5_knows_1 : decode cX5_knows 1 = .ok (.iconst 0, 1) := dk_3 (dk_at dksX5_knows_0 1 rfl rfl)
theorem dX5_knows_2 : decode cX5_knows 2 = .ok (.putfield 97, 3) := dk_181 0 97 (dk_at dksX5_knows_0 2 rfl rfl)
theorem dX5_knows_5 : decode cX5_knows 5 = .ok (.iload_n 1, 1) := dk_27 (dk_at dksX5_knows_0 5 rfl rfl)
theorem dX5_knows_6 : decode cX5_knows 6 = .ok (.invokestatic 165, 3) := dk_184 0 165 (dk_at dksX5_knows_0 6 rfl rfl)
theorem dX5_knows_9 : decode cX5_knows 9 = .ok (.ifCond .ne 9, 3) := dk_154 0 9 (dk_at dksX5_knows_0 9 rfl rfl)
theorem dX5_knows_12 : decode cX5_knows 12 = .ok (.aload_n 0, 1) := dk_42 (dk_at dksX5_knows_0 12 rfl rfl)
theorem dX5_knows_13 : decode cX5_knows 13 = .ok (.iconst 1, 1) := dk_4 (dk_at dksX5_knows_0 13 rfl rfl)
theorem dX5_knows_14 : decode cX5_knows 14 = .ok (.invokevirtual 219, 3) := dk_182 0 219 (dk_at dksX5_knows_0 14 rfl rfl)
theorem dX5_knows_17 : decode cX5_knows 17 = .ok (.ireturn, 1) := dk_172 (dk_at dksX5_knows_0 17 rfl rfl)
theorem dX5_knows_18 : decode cX5_knows 18 = .ok (.aload_n 0, 1) := dk_42 (dk_at dksX5_knows_0 18 rfl rfl)
theorem dX5_knows_19 : decode cX5_knows 19 = .ok (.iload_n 2, 1) := dk_28 (dk_at dksX5_knows_0 19 rfl rfl)
theorem dX5_knows_20 : decode cX5_knows 20 = .ok (.invokevirtual 222, 3) := dk_182 0 222 (dk_at dksX5_knows_0 20 rfl rfl)
theorem dX5_knows_23 : decode cX5_knows 23 = .ok (.ifCond .eq 14, 3) := dk_153 0 14 (dk_at dksX5_knows_1 0 rfl rfl)
theorem dX5_knows_26 : decode cX5_knows 26 = .ok (.aload_n 0, 1) := dk_42 (dk_at dksX5_knows_1 3 rfl rfl)
theorem dX5_knows_27 : decode cX5_knows 27 = .ok (.getfield 64, 3) := dk_180 0 64 (dk_at dksX5_knows_1 4 rfl rfl)
theorem dX5_knows_30 : decode cX5_knows 30 = .ok (.iload_n 1, 1) := dk_27 (dk_at dksX5_knows_1 7 rfl rfl)
theorem dX5_knows_31 : decode cX5_knows 31 = .ok (.aaload, 1) := dk_50 (dk_at dksX5_knows_1 8 rfl rfl)
theorem dX5_knows_32 : decode cX5_knows 32 = .ok (.iload_n 2, 1) := dk_28 (dk_at dksX5_knows_1 9 rfl rfl)
theorem dX5_knows_33 : decode cX5_knows 33 = .ok (.baload, 1) := dk_51 (dk_at dksX5_knows_1 10 rfl rfl)
theorem dX5_knows_34 : decode cX5_knows 34 = .ok (.goto 8, 3) := dk_167 0 8 (dk_at dksX5_knows_1 11 rfl rfl)
theorem dX5_knows_37 : decode cX5_knows 37 = .ok (.aload_n 0, 1) := dk_42 (dk_at dksX5_knows_1 14 rfl rfl)
theorem dX5_knows_38 : decode cX5_knows 38 = .ok (.iconst 2, 1) := dk_5 (dk_at dksX5_knows_1 15 rfl rfl)
theorem dX5_knows_39 : decode cX5_knows 39 = .ok (.invokevirtual 219, 3) := dk_182 0 219 (dk_at dksX5_knows_1 16 rfl rfl)
theorem dX5_knows_42 : decode cX5_knows 42 = .ok (.ireturn, 1) := dk_172 (dk_at dksX5_knows_1 19 rfl rfl)
abbrev rm_X5_knows : Room := { frames := 2, cells := 0, slots := 0, locals := 43 }
def w_X5_knows (a0 : Option Nat) (a1 : Int32) (a2 : Int32) (h : AH) (P : Int32 → AH → Prop) : Prop :=
  p_v h a0 4 0 (vI 0) fun h2 =>
  w_X5_isUser a1 h2 (fun y6 h6 =>
  ((y6 = 0 →
    is_c h6 a0 [4] (
    w_X5_isWrong a0 1 h6 (fun y14 h14 =>
    nrw .boolean y14 ∧
    P y14 h14))) ∧
   (¬ y6 = 0 →
    is_c h6 a0 [4] (
    w_X5_isOperation a0 a2 h6 (fun y20 h20 =>
    ((y20 = 0 →
      is_c h20 a0 [4] (
      w_X5_isWrong a0 2 h20 (fun y39 h39 =>
      nrw .boolean y39 ∧
      P y39 h39))) ∧
     (¬ y20 = 0 →
      g_q h20 a0 4 19 fun y27 =>
      l_q h20 y27 a1 fun y31 =>
      l_i h20 y31 1 a2 fun y33 =>
      nrw .boolean y33 ∧
      P y33 h20)))))))
theorem met_X5_knows (l : Launch) (hlt : l.stackTraces = false) (G : GG) (h : AH) (a0 : Option Nat) (a1 : Int32) (a2 : Int32) (P : Int32 → AH → Prop) (hw : w_X5_knows a0 a1 a2 h P) : ct_i l yX5_knows (ws_ yX5_knows cX5_knows 3 (Option.some Jvm.ClassFile.FieldType.boolean)) rm_X5_knows G h [vR a0, vI a1, vI a2] P := by
  refine j_starti hlt [(0, vR a0), (1, vI a1), (2, vI a2)] (plainFor_of_name (by decide)) rfl rfl (fun x X eG er en hQ => ?_)
  subst eG
  refine j_aload_n X (pc := 0) 0 dX5_knows_0 rfl rfl ?_
  refine j_iconst X (pc := 1) 0 dX5_knows_1 (by decide) ?_
  refine j_put (ci := 4) X (pc := 2) in_X5 rfl (by decide) 0 (by decide) q1872 (Or.inl rfl) tyX5 tyX5_ok nmX5 rfl rfl (ty := .int) (tyX5_ok 0 (by decide)) rfl rfl dX5_knows_2 hw (fun h2 hw => ?_)
  refine j_iload_n X (pc := 5) 1 dX5_knows_5 rfl rfl ?_
  refine j_calli (j_runS (n8 := 1) (As := [vI a1]) (rest := []) X (pc := 6) (met_X5_isUser (xl x) X.hl (xG x) h2 a1 _ hw) q1978 q1979 q78 q1980 (by decide +kernel) dX5_knows_6 rfl ⟨Nat.le_of_ble_eq_true rfl, Nat.le_of_ble_eq_true rfl⟩ (Nat.le_of_ble_eq_true rfl) ⟨Nat.le_of_ble_eq_true rfl, Nat.le_of_ble_eq_true rfl⟩) (fun y6 h6 hw => ?_)
  refine j_if_ne X (pc := 9) 18 dX5_knows_9 (by decide) hw (fun hw => ?_) (fun hw => ?_)
  · refine j_aload_n X (pc := 12) 0 dX5_knows_12 rfl rfl ?_
    refine j_iconst X (pc := 13) 1 dX5_knows_13 (by decide) ?_
    obtain ⟨b9, c9, f9, hr9, ho9, hc9, hw⟩ := hw
    obtain rfl := List.mem_singleton.mp hc9
    refine j_calli (j_runV (n8 := 1) (As := [vI 1]) (rest := []) X (pc := 14) hr9 (met_X5_isWrong (xl x) X.hl (xG x) h6 a0 1 _ hw) ho9 (by decide) rfl q2126 q2128 qs55 q78 q2129 (by decide +kernel) dX5_knows_14 rfl ⟨Nat.le_of_ble_eq_true rfl, Nat.le_of_ble_eq_true rfl⟩ (Nat.le_of_ble_eq_true rfl) ⟨Nat.le_of_ble_eq_true rfl, Nat.le_of_ble_eq_true rfl⟩) (fun y14 h14 hw => ?_)
    exact j_zret X (pc := 17) (ty := .boolean) hQ er hw.1.1 (Nat.le_of_ble_eq_true rfl) (Nat.le_of_ble_eq_true rfl) dX5_knows_17 hw.2
  · refine j_aload_n X (pc := 18) 0 dX5_knows_18 rfl rfl ?_
    refine j_iload_n X (pc := 19) 2 dX5_knows_19 rfl rfl ?_
    obtain ⟨b9, c9, f9, hr9, ho9, hc9, hw⟩ := hw
    obtain rfl := List.mem_singleton.mp hc9
    refine j_calli (j_runV (n8 := 1) (As := [vI a2]) (rest := []) X (pc := 20) hr9 (met_X5_isOperation (xl x) X.hl (xG x) h6 a0 a2 _ hw) ho9 (by decide) rfl q2138 q2140 qs56 q78 q2141 (by decide +kernel) dX5_knows_20 rfl ⟨Nat.le_of_ble_eq_true rfl, Nat.le_of_ble_eq_true rfl⟩ (Nat.le_of_ble_eq_true rfl) ⟨Nat.le_of_ble_eq_true rfl, Nat.le_of_ble_eq_true rfl⟩) (fun y20 h20 hw => ?_)
    refine j_if_eq X (pc := 23) 37 dX5_knows_23 (by decide) hw (fun hw => ?_) (fun hw => ?_)
    · refine j_aload_n X (pc := 37) 0 dX5_knows_37 rfl rfl ?_
      refine j_iconst X (pc := 38) 2 dX5_knows_38 (by decide) ?_
      obtain ⟨b9, c9, f9, hr9, ho9, hc9, hw⟩ := hw
      obtain rfl := List.mem_singleton.mp hc9
      refine j_calli (j_runV (n8 := 1) (As := [vI 2]) (rest := []) X (pc := 39) hr9 (met_X5_isWrong (xl x) X.hl (xG x) h20 a0 2 _ hw) ho9 (by decide) rfl q2126 q2128 qs55 q78 q2129 (by decide +kernel) dX5_knows_39 rfl ⟨Nat.le_of_ble_eq_true rfl, Nat.le_of_ble_eq_true rfl⟩ (Nat.le_of_ble_eq_true rfl) ⟨Nat.le_of_ble_eq_true rfl, Nat.le_of_ble_eq_true rfl⟩) (fun y39 h39 hw => ?_)
      exact j_zret X (pc := 42) (ty := .boolean) hQ er hw.1.1 (Nat.le_of_ble_eq_true rfl) (Nat.le_of_ble_eq_true rfl) dX5_knows_42 hw.2
    · refine j_aload_n X (pc := 26) 0 dX5_knows_26 rfl rfl ?_
      refine j_getq (ci := 4) X (pc := 27) in_X5 rfl (by decide) 19 (by decide) q1891 (Or.inl rfl) dX5_knows_27 hw (fun y27 hw => ?_)
      refine j_iload_n X (pc := 30) 1 dX5_knows_30 rfl rfl ?_
      refine j_aald X (pc := 31) dX5_knows_31 hw (fun y31 hw => ?_)
      refine j_iload_n X (pc := 32) 2 dX5_knows_32 rfl rfl ?_
      refine j_zald X (pc := 33) 1 rfl dX5_knows_33 hw (fun y33 hw => ?_)
      refine j_goto X (pc := 34) 42 dX5_knows_34 (by decide) ?_
      exact j_zret X (pc := 42) (ty := .boolean) hQ er hw.1.1 (Nat.le_of_ble_eq_true rfl) (Nat.le_of_ble_eq_true rfl) dX5_knows_42 hw.2
abbrev cX1_shapes : ByteArray := prog_1_method_47_code
def yX1_shapes : MethodName := ⟨RX1, "shapes", "(I)I"⟩
def dkwX1_shapes_0 : List UInt8 := [42, 27, 182, 0, 199, 182, 0, 210, 172]
abbrev dktX1_shapes_0 : List UInt8 := dkwX1_shapes_0 ++ []
theorem dksX1_shapes_0 : cX1_shapes.data.toList.drop 0 = dktX1_shapes_0 := by decide +kernel
theorem dX1_shapes_0 : decode cX1_shapes 0 = .ok (.aload_n 0, 1) := dk_42 (dk_at dksX1_shapes_0 0 rfl rfl)
theorem dX1_shapes_1 : decode cX1_shapes 1 = .ok (.iload_n 1, 1) := dk_27 (dk_at dksX1_shapes_0 1 rfl rfl)
theorem dX1_shapes_2 : decode cX1_shapes 2 = .ok (.invokevirtual 199, 3) := dk_182 0 199 (dk_at dksX1_shapes_0 2 rfl rfl)
theorem dX1_shapes_5 : decode cX1_shapes 5 = .ok (.invokevirtual 210, 3) := dk_182 0 210 (dk_at dksX1_shapes_0 5 rfl rfl)
theorem dX1_shapes_8 : decode cX1_shapes 8 = .ok (.ireturn, 1) := dk_172 (dk_at dksX1_shapes_0 8 rfl rfl)
abbrev rm_X1_shapes : Room := { frames := 9, cells := 2, slots := 7, locals := 146 }
def w_X1_shapes (a0 : Option Nat) (a1 : Int32) (h : AH) (P : Int32 → AH → Prop) (PX : String → AH → Prop) : Prop :=
  is_c h a0 [0] (
  w_X1_board a0 a1 h (fun y2 h2 =>
  is_c h2 y2 [2] (
  w_X3_countSeen y2 h2 (fun y5 h5 =>
  P y5 h5))) PX)
theorem met_X1_shapes (l : Launch) (hlt : l.stackTraces = false) (G : GG) (h : AH) (a0 : Option Nat) (a1 : Int32) (P : Int32 → AH → Prop) (PX : String → AH → Prop) (hw : w_X1_shapes a0 a1 h P PX) : cx_i l yX1_shapes (ws_ yX1_shapes cX1_shapes 2 (Option.some Jvm.ClassFile.FieldType.int)) rm_X1_shapes G h [vR a0, vI a1] P PX := by
  refine j_startXi hlt [(0, vR a0), (1, vI a1)] (by decide) rfl rfl (fun x X eG er en hQ hT hex => ?_)
  subst eG
  refine j_aload_n X (pc := 0) 0 dX1_shapes_0 rfl rfl ?_
  refine j_iload_n X (pc := 1) 1 dX1_shapes_1 rfl rfl ?_
  obtain ⟨b9, c9, f9, hr9, ho9, hc9, hw⟩ := hw
  obtain rfl := List.mem_singleton.mp hc9
  refine j_callXq (j_runVX (n8 := 1) (As := [vI a1]) (rest := []) X (pc := 2) hr9 (met_X1_board (xl x) X.hl (xG x) h a0 a1 _ _ hw) ho9 (by decide) rfl q297 q299 qs0 q71 q300 (by decide +kernel) dX1_shapes_2 rfl ⟨Nat.le_of_ble_eq_true rfl, Nat.le_of_ble_eq_true rfl⟩ (Nat.le_of_ble_eq_true rfl) ⟨Nat.le_of_ble_eq_true rfl, Nat.le_of_ble_eq_true rfl⟩) (fun E h9 hx => j_out X hT hex (Nat.le_of_ble_eq_true rfl) (Nat.le_of_ble_eq_true rfl) hx) (fun y2 h2 hw => ?_)
  obtain ⟨b9, c9, f9, hr9, ho9, hc9, hw⟩ := hw
  obtain rfl := List.mem_singleton.mp hc9
  refine j_calli (j_runV (n8 := 0) (As := []) (rest := []) X (pc := 5) hr9 (met_X3_countSeen (xl x) X.hl (xG x) h2 y2 _ hw) ho9 (by decide) rfl q404 q405 q406 q76 q407 (by decide +kernel) dX1_shapes_5 rfl ⟨Nat.le_of_ble_eq_true rfl, Nat.le_of_ble_eq_true rfl⟩ (Nat.le_of_ble_eq_true rfl) ⟨Nat.le_of_ble_eq_true rfl, Nat.le_of_ble_eq_true rfl⟩) (fun y5 h5 hw => ?_)
  exact j_iret X (pc := 8) hQ er (Nat.le_of_ble_eq_true rfl) (Nat.le_of_ble_eq_true rfl) dX1_shapes_8 hw
abbrev cX0_shapes : ByteArray := method_21_code
def yX0_shapes : MethodName := ⟨RX0, "shapes", "(LPlugboard;I[J)I"⟩
def dkwX0_shapes_0 : List UInt8 := [44, 3, 42, 27, 182, 0, 79, 133, 80, 167, 0, 6, 78, 4, 172, 3, 172]
abbrev dktX0_shapes_0 : List UInt8 := dkwX0_shapes_0 ++ []
theorem dksX0_shapes_0 : cX0_shapes.data.toList.drop 0 = dktX0_shapes_0 := by decide +kernel
theorem dX0_shapes_0 : decode cX0_shapes 0 = .ok (.aload_n 2, 1) := dk_44 (dk_at dksX0_shapes_0 0 rfl rfl)
theorem dX0_shapes_1 : decode cX0_shapes 1 = .ok (.iconst 0, 1) := dk_3 (dk_at dksX0_shapes_0 1 rfl rfl)
theorem dX0_shapes_2 : decode cX0_shapes 2 = .ok (.aload_n 0, 1) := dk_42 (dk_at dksX0_shapes_0 2 rfl rfl)
theorem dX0_shapes_3 : decode cX0_shapes 3 = .ok (.iload_n 1, 1) := dk_27 (dk_at dksX0_shapes_0 3 rfl rfl)
theorem dX0_shapes_4 : decode cX0_shapes 4 = .ok (.invokevirtual 79, 3) := dk_182 0 79 (dk_at dksX0_shapes_0 4 rfl rfl)
theorem dX0_shapes_7 : decode cX0_shapes 7 = .ok (.i2l, 1) := dk_133 (dk_at dksX0_shapes_0 7 rfl rfl)
theorem dX0_shapes_8 : decode cX0_shapes 8 = .ok (.lastore, 1) := dk_80 (dk_at dksX0_shapes_0 8 rfl rfl)
theorem dX0_shapes_9 : decode cX0_shapes 9 = .ok (.goto 6, 3) := dk_167 0 6 (dk_at dksX0_shapes_0 9 rfl rfl)
theorem dX0_shapes_12 : decode cX0_shapes 12 = .ok (.astore_n 3, 1) := dk_78 (dk_at dksX0_shapes_0 12 rfl rfl)
theorem dX0_shapes_13 : decode cX0_shapes 13 = .ok (.iconst 1, 1) := dk_4 (dk_at dksX0_shapes_0 13 rfl rfl)
theorem dX0_shapes_14 : decode cX0_shapes 14 = .ok (.ireturn, 1) := dk_172 (dk_at dksX0_shapes_0 14 rfl rfl)
theorem dX0_shapes_15 : decode cX0_shapes 15 = .ok (.iconst 0, 1) := dk_3 (dk_at dksX0_shapes_0 15 rfl rfl)
theorem dX0_shapes_16 : decode cX0_shapes 16 = .ok (.ireturn, 1) := dk_172 (dk_at dksX0_shapes_0 16 rfl rfl)
theorem q1399 : (Jvm.Cond.methodLink "PlugboardLaw" (79 : Nat) ({ cls := "Plugboard", name := "shapes", desc := "(I)I" } : Jvm.MethodName)) ∈ lw_all := lw_g (lw_at lw_m6 129 rfl) rfl
theorem q1400 : (Jvm.Cond.instanceMethod ({ cls := "Plugboard", name := "shapes", desc := "(I)I" } : Jvm.MethodName)) ∈ lw_all := lw_g (lw_at lw_m6 130 rfl) rfl
theorem q1401 : (Jvm.Cond.selects "Plugboard" ({ cls := "Plugboard", name := "shapes", desc := "(I)I" } : Jvm.MethodName) ({ cls := "Plugboard", name := "shapes", desc := "(I)I" } : Jvm.MethodName)) ∈ lw_all := lw_g (lw_at lw_m6 131 rfl) rfl
theorem q1402 : (Jvm.Cond.code ({ cls := "Plugboard", name := "shapes", desc := "(I)I" } : Jvm.MethodName) prog_1_method_47_code (2 : Nat) (Option.some Jvm.ClassFile.FieldType.int)) ∈ lw_all := lw_g (lw_at lw_m6 132 rfl) rfl
abbrev rm_X0_shapes : Room := { frames := 10, cells := 2, slots := 7, locals := 167 }
def w_X0_shapes (a0 : Option Nat) (a1 : Int32) (a2 : Option Nat) (h : AH) (P : Int32 → AH → Prop) : Prop :=
  is_c h a0 [0] (
  w_X1_shapes a0 a1 h (fun y4 h4 =>
  s_L h4 a2 0 (Int32.toInt64 y4) fun h8 =>
  P 0 h8)
    (fun E9 h9 => (E9 = "java/lang/IllegalArgumentException" ∧ ∀ q9 : Nat,
    P 1 h9)))
theorem met_X0_shapes (l : Launch) (hlt : l.stackTraces = false) (G : GG) (h : AH) (a0 : Option Nat) (a1 : Int32) (a2 : Option Nat) (P : Int32 → AH → Prop) (hw : w_X0_shapes a0 a1 a2 h P) : ct_i l yX0_shapes (wsW_ yX0_shapes cX0_shapes 4 (Option.some Jvm.ClassFile.FieldType.int) [((0 : Nat), (9 : Nat), (12 : Nat), (13 : Nat))]) rm_X0_shapes G h [vR a0, vI a1, vR a2] P := by
  refine j_startWi hlt [(0, vR a0), (1, vI a1), (2, vR a2)] (by decide) rfl rfl (fun x X eG er en hQ hex => ?_)
  subst eG
  refine j_aload_n X (pc := 0) 2 dX0_shapes_0 rfl rfl ?_
  refine j_iconst X (pc := 1) 0 dX0_shapes_1 (by decide) ?_
  refine j_aload_n X (pc := 2) 0 dX0_shapes_2 rfl rfl ?_
  refine j_iload_n X (pc := 3) 1 dX0_shapes_3 rfl rfl ?_
  obtain ⟨b9, c9, f9, hr9, ho9, hc9, hw⟩ := hw
  obtain rfl := List.mem_singleton.mp hc9
  refine j_callXi (j_runVX (n8 := 1) (As := [vI a1]) (rest := [vI 0, vR a2]) X (pc := 4) hr9 (met_X1_shapes (xl x) X.hl (xG x) h a0 a1 _ _ hw) ho9 (by decide) rfl q1399 q1400 q1401 q71 q1402 (by decide +kernel) dX0_shapes_4 rfl ⟨Nat.le_of_ble_eq_true rfl, Nat.le_of_ble_eq_true rfl⟩ (Nat.le_of_ble_eq_true rfl) ⟨Nat.le_of_ble_eq_true rfl, Nat.le_of_ble_eq_true rfl⟩) ?_ (fun y4 h4 hw => ?_)
  · intro E9 h9 hx
    obtain ⟨rfl, hw⟩ := hx
    refine j_catch X (pc := 4) "java/lang/IllegalArgumentException" hex [] [] ⟨0, 9, 12, 13⟩ rfl (by intro y hy; cases hy) (by decide) (by decide) q291 q312 (fun q9 => ?_)
    have hw := hw q9
    refine j_astore_n X (pc := 12) [(3, vR (some q9)), (0, vR a0), (1, vI a1), (2, vR a2)] dX0_shapes_12 rfl (Nat.le_of_ble_eq_true rfl) rfl ?_
    refine j_iconst X (pc := 13) 1 dX0_shapes_13 (by decide) ?_
    exact j_iret X (pc := 14) hQ er (Nat.le_of_ble_eq_true rfl) (Nat.le_of_ble_eq_true rfl) dX0_shapes_14 hw
  refine j_i2l X (pc := 7) dX0_shapes_7 ?_
  refine j_last X (pc := 8) dX0_shapes_8 hw (fun h8 hw => ?_)
  refine j_goto X (pc := 9) 15 dX0_shapes_9 (by decide) ?_
  refine j_iconst X (pc := 15) 0 dX0_shapes_15 (by decide) ?_
  exact j_iret X (pc := 16) hQ er (Nat.le_of_ble_eq_true rfl) (Nat.le_of_ble_eq_true rfl) dX0_shapes_16 hw
abbrev cX5_isNobody : ByteArray := prog_19_method_51_code
def yX5_isNobody : MethodName := ⟨RX5, "isNobody", "(I)Z"⟩
def dkwX5_isNobody_1 : List UInt8 := [27, 182, 0, 161, 42, 180, 0, 97, 158, 0, 7, 4, 167, 0, 4, 3, 172]
abbrev dktX5_isNobody_1 : List UInt8 := dkwX5_isNobody_1 ++ []
def dkwX5_isNobody_0 : List UInt8 := [42, 27, 184, 0, 165, 153, 0, 7, 3, 167, 0, 4, 4, 181, 0, 97, 42, 180, 0, 97, 154, 0, 8, 42]
abbrev dktX5_isNobody_0 : List UInt8 := dkwX5_isNobody_0 ++ dktX5_isNobody_1
theorem dksX5_isNobody_0 : cX5_isNobody.data.toList.drop 0 = dktX5_isNobody_0 := by decide +kernel
theorem dksX5_isNobody_1 : cX5_isNobody.data.toList.drop 24 = dktX5_isNobody_1 := dk_seg dksX5_isNobody_0 24 rfl rfl
theorem dX5_isNobody_0 : decode cX5_isNobody 0 = .ok (.aload_n 0, 1) := dk_42 (dk_at dksX5_isNobody_0 0 rfl rfl)
theorem dX5_isNobody_1 : decode cX5_isNobody 1 = .ok (.iload_n 1, 1) := dk_27 (dk_at dksX5_isNobody_0 1 rfl rfl)
theorem dX5_isNobody_2 : decode cX5_isNobody 2 = .ok (.invokestatic 165, 3) := dk_184 0 165 (dk_at dksX5_isNobody_0 2 rfl rfl)
theorem dX5_isNobody_5 : decode cX5_isNobody 5 = .ok (.ifCond .eq 7, 3) := dk_153 0 7 (dk_at dksX5_isNobody_0 5 rfl rfl)
theorem dX5_isNobody_8 : decode cX5_isNobody 8 = .ok (.iconst 0, 1) := dk_3 (dk_at dksX5_isNobody_0 8 rfl rfl)
theorem dX5_isNobody_9 : decode cX5_isNobody 9 = .ok (.goto 4, 3) := dk_167 0 4 (dk_at dksX5_isNobody_0 9 rfl rfl)
theorem dX5_isNobody_12 : decode cX5_isNobody 12 = .ok (.iconst 1, 1) := dk_4 (dk_at dksX5_isNobody_0 12 rfl rfl)
theorem dX5_isNobody_13 : decode cX5_isNobody 13 = .ok (.putfield 97, 3) := dk_181 0 97 (dk_at dksX5_isNobody_0 13 rfl rfl)
theorem dX5_isNobody_16 : decode cX5_isNobody 16 = .ok (.aload_n 0, 1) := dk_42 (dk_at dksX5_isNobody_0 16 rfl rfl)
theorem dX5_isNobody_17 : decode cX5_isNobody 17 = .ok (.getfield 97, 3) := dk_180 0 97 (dk_at dksX5_isNobody_0 17 rfl rfl)
theorem dX5_isNobody_20 : decode cX5_isNobody 20 = .ok (.ifCond .ne 8, 3) := dk_154 0 8 (dk_at dksX5_isNobody_0 20 rfl rfl)
theorem dX5_isNobody_23 : decode cX5_isNobody 23 = .ok (.aload_n 0, 1) := dk_42 (dk_at dksX5_isNobody_0 23 rfl rfl)
theorem dX5_isNobody_24 : decode cX5_isNobody 24 = .ok (.iload_n 1, 1) := dk_27 (dk_at dksX5_isNobody_1 0 rfl rfl)
theorem dX5_isNobody_25 : decode cX5_isNobody 25 = .ok (.invokevirtual 161, 3) := dk_182 0 161 (dk_at dksX5_isNobody_1 1 rfl rfl)
theorem dX5_isNobody_28 : decode cX5_isNobody 28 = .ok (.aload_n 0, 1) := dk_42 (dk_at dksX5_isNobody_1 4 rfl rfl)
theorem dX5_isNobody_29 : decode cX5_isNobody 29 = .ok (.getfield 97, 3) := dk_180 0 97 (dk_at dksX5_isNobody_1 5 rfl rfl)
theorem dX5_isNobody_32 : decode cX5_isNobody 32 = .ok (.ifCond .le 7, 3) := dk_158 0 7 (dk_at dksX5_isNobody_1 8 rfl rfl)
theorem dX5_isNobody_35 : decode cX5_isNobody 35 = .ok (.iconst 1, 1) := dk_4 (dk_at dksX5_isNobody_1 11 rfl rfl)
theorem dX5_isNobody_36 : decode cX5_isNobody 36 = .ok (.goto 4, 3) := dk_167 0 4 (dk_at dksX5_isNobody_1 12 rfl rfl)
theorem dX5_isNobody_39 : decode cX5_isNobody 39 = .ok (.iconst 0, 1) := dk_3 (dk_at dksX5_isNobody_1 15 rfl rfl)
theorem dX5_isNobody_40 : decode cX5_isNobody 40 = .ok (.ireturn, 1) := dk_172 (dk_at dksX5_isNobody_1 16 rfl rfl)
abbrev rm_X5_isNobody : Room := { frames := 3, cells := 0, slots := 0, locals := 66 }
def w_X5_isNobody_28 (P : Int32 → AH → Prop) (x0 : Option Nat) (h : AH) : Prop :=
  g_i h x0 4 0 fun y29 =>
  ((y29 ≤ 0 →
    P 0 h) ∧
   (¬ y29 ≤ 0 →
    P 1 h))
def w_X5_isNobody_13 (P : Int32 → AH → Prop) (x0 : Option Nat) (x1 : Int32) (t0 : Int32) (t1 : Option Nat) (h : AH) : Prop :=
  p_v h t1 4 0 (vI t0) fun h13 =>
  g_i h13 x0 4 0 fun y17 =>
  ((y17 = 0 →
    is_c h13 x0 [4] (
    w_X5_builds x0 x1 h13 (fun h25 =>
    w_X5_isNobody_28 P x0 h25))) ∧
   (¬ y17 = 0 →
    w_X5_isNobody_28 P x0 h13))
def w_X5_isNobody (a0 : Option Nat) (a1 : Int32) (h : AH) (P : Int32 → AH → Prop) : Prop :=
  w_X5_isUser a1 h (fun y2 h2 =>
  ((y2 = 0 →
    w_X5_isNobody_13 P a0 a1 1 a0 h2) ∧
   (¬ y2 = 0 →
    w_X5_isNobody_13 P a0 a1 0 a0 h2)))
theorem wk_X5_isNobody_28 {x : CX} (X : Ok x cX5_isNobody RX5 rm_X5_isNobody 2) (er : xrt x = (Option.some Jvm.ClassFile.FieldType.boolean)) (en : xnm x = yX5_isNobody.name) {P : Int32 → AH → Prop} (hQ : xr_i x P) (x0 : Option Nat) (h : AH) (hw : w_X5_isNobody_28 P x0 h) : J x h 0 0 28 [(0, vR x0)] [] := by
  refine j_aload_n X (pc := 28) 0 dX5_isNobody_28 rfl rfl ?_
  refine j_geti (ci := 4) X (pc := 29) in_X5 rfl (by decide) 0 (by decide) q1872 (Or.inl rfl) dX5_isNobody_29 hw (fun y29 hw => ?_)
  refine j_if_le X (pc := 32) 39 dX5_isNobody_32 (by decide) hw (fun hw => ?_) (fun hw => ?_)
  · refine j_iconst X (pc := 39) 0 dX5_isNobody_39 (by decide) ?_
    exact j_zret X (pc := 40) (ty := .boolean) hQ er rfl (Nat.le_of_ble_eq_true rfl) (Nat.le_of_ble_eq_true rfl) dX5_isNobody_40 hw
  · refine j_iconst X (pc := 35) 1 dX5_isNobody_35 (by decide) ?_
    refine j_goto X (pc := 36) 40 dX5_isNobody_36 (by decide) ?_
    exact j_zret X (pc := 40) (ty := .boolean) hQ er rfl (Nat.le_of_ble_eq_true rfl) (Nat.le_of_ble_eq_true rfl) dX5_isNobody_40 hw
theorem wk_X5_isNobody_13 {x : CX} (X : Ok x cX5_isNobody RX5 rm_X5_isNobody 2) (er : xrt x = (Option.some Jvm.ClassFile.FieldType.boolean)) (en : xnm x = yX5_isNobody.name) {P : Int32 → AH → Prop} (hQ : xr_i x P) (x0 : Option Nat) (x1 : Int32) (t0 : Int32) (t1 : Option Nat) (h : AH) (hw : w_X5_isNobody_13 P x0 x1 t0 t1 h) : J x h 0 0 13 [(0, vR x0), (1, vI x1)] [vI t0, vR t1] := by
  refine j_put (ci := 4) X (pc := 13) in_X5 rfl (by decide) 0 (by decide) q1872 (Or.inl rfl) tyX5 tyX5_ok nmX5 rfl rfl (ty := .int) (tyX5_ok 0 (by decide)) rfl rfl dX5_isNobody_13 hw (fun h13 hw => ?_)
  refine j_aload_n X (pc := 16) 0 dX5_isNobody_16 rfl rfl ?_
  refine j_geti (ci := 4) X (pc := 17) in_X5 rfl (by decide) 0 (by decide) q1872 (Or.inl rfl) dX5_isNobody_17 hw (fun y17 hw => ?_)
  refine j_if_ne X (pc := 20) 28 dX5_isNobody_20 (by decide) hw (fun hw => ?_) (fun hw => ?_)
  · refine j_aload_n X (pc := 23) 0 dX5_isNobody_23 rfl rfl ?_
    refine j_iload_n X (pc := 24) 1 dX5_isNobody_24 rfl rfl ?_
    obtain ⟨b9, c9, f9, hr9, ho9, hc9, hw⟩ := hw
    obtain rfl := List.mem_singleton.mp hc9
    refine j_callv (j_runV (n8 := 1) (As := [vI x1]) (rest := []) X (pc := 25) hr9 (met_X5_builds (xl x) X.hl (xG x) h13 x0 x1 _ hw) ho9 (by decide) rfl q1992 q1994 qs34 q78 q1995 (by decide +kernel) dX5_isNobody_25 rfl ⟨Nat.le_of_ble_eq_true rfl, Nat.le_of_ble_eq_true rfl⟩ (Nat.le_of_ble_eq_true rfl) ⟨Nat.le_of_ble_eq_true rfl, Nat.le_of_ble_eq_true rfl⟩) (fun h25 hw => ?_)
    refine j_lv [(0, vR x0)] [0] rfl ?_
    refine j_cs (u' := 0) (v' := 0) (Nat.le_of_ble_eq_true rfl) (Nat.le_of_ble_eq_true rfl) ?_
    exact wk_X5_isNobody_28 X er en hQ x0 h25 hw
  · refine j_lv [(0, vR x0)] [0] rfl ?_
    refine j_cs (u' := 0) (v' := 0) (Nat.le_of_ble_eq_true rfl) (Nat.le_of_ble_eq_true rfl) ?_
    exact wk_X5_isNobody_28 X er en hQ x0 h13 hw
theorem met_X5_isNobody (l : Launch) (hlt : l.stackTraces = false) (G : GG) (h : AH) (a0 : Option Nat) (a1 : Int32) (P : Int32 → AH → Prop) (hw : w_X5_isNobody a0 a1 h P) : ct_i l yX5_isNobody (ws_ yX5_isNobody cX5_isNobody 2 (Option.some Jvm.ClassFile.FieldType.boolean)) rm_X5_isNobody G h [vR a0, vI a1] P := by
  refine j_starti hlt [(0, vR a0), (1, vI a1)] (plainFor_of_name (by decide)) rfl rfl (fun x X eG er en hQ => ?_)
  subst eG
  refine j_aload_n X (pc := 0) 0 dX5_isNobody_0 rfl rfl ?_
  refine j_iload_n X (pc := 1) 1 dX5_isNobody_1 rfl rfl ?_
  refine j_calli (j_runS (n8 := 1) (As := [vI a1]) (rest := [vR a0]) X (pc := 2) (met_X5_isUser (xl x) X.hl (xG x) h a1 _ hw) q1978 q1979 q78 q1980 (by decide +kernel) dX5_isNobody_2 rfl ⟨Nat.le_of_ble_eq_true rfl, Nat.le_of_ble_eq_true rfl⟩ (Nat.le_of_ble_eq_true rfl) ⟨Nat.le_of_ble_eq_true rfl, Nat.le_of_ble_eq_true rfl⟩) (fun y2 h2 hw => ?_)
  refine j_if_eq X (pc := 5) 12 dX5_isNobody_5 (by decide) hw (fun hw => ?_) (fun hw => ?_)
  · refine j_iconst X (pc := 12) 1 dX5_isNobody_12 (by decide) ?_
    refine j_cs (u' := 0) (v' := 0) (Nat.le_of_ble_eq_true rfl) (Nat.le_of_ble_eq_true rfl) ?_
    exact wk_X5_isNobody_13 X er en hQ a0 a1 1 a0 h2 hw
  · refine j_iconst X (pc := 8) 0 dX5_isNobody_8 (by decide) ?_
    refine j_goto X (pc := 9) 13 dX5_isNobody_9 (by decide) ?_
    refine j_cs (u' := 0) (v' := 0) (Nat.le_of_ble_eq_true rfl) (Nat.le_of_ble_eq_true rfl) ?_
    exact wk_X5_isNobody_13 X er en hQ a0 a1 0 a0 h2 hw
abbrev cX5_shapes : ByteArray := prog_19_method_53_code
def yX5_shapes : MethodName := ⟨RX5, "shapes", "(I)I"⟩
def dkwX5_shapes_0 : List UInt8 := [42, 27, 182, 0, 228, 153, 0, 7, 3, 167, 0, 7, 42, 182, 0, 209, 172]
abbrev dktX5_shapes_0 : List UInt8 := dkwX5_shapes_0 ++ []
theorem dksX5_shapes_0 : cX5_shapes.data.toList.drop 0 = dktX5_shapes_0 := by decide +kernel
theorem dX5_shapes_0 : decode cX5_shapes 0 = .ok (.aload_n 0, 1) := dk_42 (dk_at dksX5_shapes_0 0 rfl rfl)
theorem dX5_shapes_1 : decode cX5_shapes 1 = .ok (.iload_n 1, 1) := dk_27 (dk_at dksX5_shapes_0 1 rfl rfl)
theorem dX5_shapes_2 : decode cX5_shapes 2 = .ok (.invokevirtual 228, 3) := dk_182 0 228 (dk_at dksX5_shapes_0 2 rfl rfl)
theorem dX5_shapes_5 : decode cX5_shapes 5 = .ok (.ifCond .eq 7, 3) := dk_153 0 7 (dk_at dksX5_shapes_0 5 rfl rfl)
theorem dX5_shapes_8 : decode cX5_shapes 8 = .ok (.iconst 0, 1) := dk_3 (dk_at dksX5_shapes_0 8 rfl rfl)
theorem dX5_shapes_9 : decode cX5_shapes 9 = .ok (.goto 7, 3) := dk_167 0 7 (dk_at dksX5_shapes_0 9 rfl rfl)
theorem dX5_shapes_12 : decode cX5_shapes 12 = .ok (.aload_n 0, 1) := dk_42 (dk_at dksX5_shapes_0 12 rfl rfl)
theorem dX5_shapes_13 : decode cX5_shapes 13 = .ok (.invokevirtual 209, 3) := dk_182 0 209 (dk_at dksX5_shapes_0 13 rfl rfl)
theorem dX5_shapes_16 : decode cX5_shapes 16 = .ok (.ireturn, 1) := dk_172 (dk_at dksX5_shapes_0 16 rfl rfl)
theorem q2170 : (Jvm.Cond.methodLink "PlugboardModel" (228 : Nat) ({ cls := "PlugboardModel", name := "isNobody", desc := "(I)Z" } : Jvm.MethodName)) ∈ lw_all := lw_g (lw_at lw_m9 180 rfl) rfl
theorem q2172 : (Jvm.Cond.instanceMethod ({ cls := "PlugboardModel", name := "isNobody", desc := "(I)Z" } : Jvm.MethodName)) ∈ lw_all := lw_g (lw_at lw_m9 182 rfl) rfl
theorem q2173 : (Jvm.Cond.code ({ cls := "PlugboardModel", name := "isNobody", desc := "(I)Z" } : Jvm.MethodName) prog_19_method_51_code (2 : Nat) (Option.some Jvm.ClassFile.FieldType.boolean)) ∈ lw_all := lw_g (lw_at lw_m9 183 rfl) rfl
abbrev rm_X5_shapes : Room := { frames := 4, cells := 0, slots := 0, locals := 87 }
def w_X5_shapes (a0 : Option Nat) (a1 : Int32) (h : AH) (P : Int32 → AH → Prop) : Prop :=
  is_c h a0 [4] (
  w_X5_isNobody a0 a1 h (fun y2 h2 =>
  ((y2 = 0 →
    is_c h2 a0 [4] (
    w_X5_seenMany a0 h2 (fun y13 h13 =>
    P y13 h13))) ∧
   (¬ y2 = 0 →
    P 0 h2))))
theorem met_X5_shapes (l : Launch) (hlt : l.stackTraces = false) (G : GG) (h : AH) (a0 : Option Nat) (a1 : Int32) (P : Int32 → AH → Prop) (hw : w_X5_shapes a0 a1 h P) : ct_i l yX5_shapes (ws_ yX5_shapes cX5_shapes 2 (Option.some Jvm.ClassFile.FieldType.int)) rm_X5_shapes G h [vR a0, vI a1] P := by
  refine j_starti hlt [(0, vR a0), (1, vI a1)] (plainFor_of_name (by decide)) rfl rfl (fun x X eG er en hQ => ?_)
  subst eG
  refine j_aload_n X (pc := 0) 0 dX5_shapes_0 rfl rfl ?_
  refine j_iload_n X (pc := 1) 1 dX5_shapes_1 rfl rfl ?_
  obtain ⟨b9, c9, f9, hr9, ho9, hc9, hw⟩ := hw
  obtain rfl := List.mem_singleton.mp hc9
  refine j_calli (j_runV (n8 := 1) (As := [vI a1]) (rest := []) X (pc := 2) hr9 (met_X5_isNobody (xl x) X.hl (xG x) h a0 a1 _ hw) ho9 (by decide) rfl q2170 q2172 qs58 q78 q2173 (by decide +kernel) dX5_shapes_2 rfl ⟨Nat.le_of_ble_eq_true rfl, Nat.le_of_ble_eq_true rfl⟩ (Nat.le_of_ble_eq_true rfl) ⟨Nat.le_of_ble_eq_true rfl, Nat.le_of_ble_eq_true rfl⟩) (fun y2 h2 hw => ?_)
  refine j_if_eq X (pc := 5) 12 dX5_shapes_5 (by decide) hw (fun hw => ?_) (fun hw => ?_)
  · refine j_aload_n X (pc := 12) 0 dX5_shapes_12 rfl rfl ?_
    obtain ⟨b9, c9, f9, hr9, ho9, hc9, hw⟩ := hw
    obtain rfl := List.mem_singleton.mp hc9
    refine j_calli (j_runV (n8 := 0) (As := []) (rest := []) X (pc := 13) hr9 (met_X5_seenMany (xl x) X.hl (xG x) h2 a0 _ hw) ho9 (by decide) rfl q2087 q2089 qs52 q78 q2090 (by decide +kernel) dX5_shapes_13 rfl ⟨Nat.le_of_ble_eq_true rfl, Nat.le_of_ble_eq_true rfl⟩ (Nat.le_of_ble_eq_true rfl) ⟨Nat.le_of_ble_eq_true rfl, Nat.le_of_ble_eq_true rfl⟩) (fun y13 h13 hw => ?_)
    exact j_iret X (pc := 16) hQ er (Nat.le_of_ble_eq_true rfl) (Nat.le_of_ble_eq_true rfl) dX5_shapes_16 hw
  · refine j_iconst X (pc := 8) 0 dX5_shapes_8 (by decide) ?_
    refine j_goto X (pc := 9) 16 dX5_shapes_9 (by decide) ?_
    exact j_iret X (pc := 16) hQ er (Nat.le_of_ble_eq_true rfl) (Nat.le_of_ble_eq_true rfl) dX5_shapes_16 hw
abbrev cX1_sees : ByteArray := prog_1_method_48_code
def yX1_sees : MethodName := ⟨RX1, "sees", "(II)Z"⟩
def dkwX1_sees_0 : List UInt8 := [42, 27, 182, 0, 199, 28, 182, 0, 113, 172]
abbrev dktX1_sees_0 : List UInt8 := dkwX1_sees_0 ++ []
theorem dksX1_sees_0 : cX1_sees.data.toList.drop 0 = dktX1_sees_0 := by decide +kernel
theorem dX1_sees_0 : decode cX1_sees 0 = .ok (.aload_n 0, 1) := dk_42 (dk_at dksX1_sees_0 0 rfl rfl)
theorem dX1_sees_1 : decode cX1_sees 1 = .ok (.iload_n 1, 1) := dk_27 (dk_at dksX1_sees_0 1 rfl rfl)
theorem dX1_sees_2 : decode cX1_sees 2 = .ok (.invokevirtual 199, 3) := dk_182 0 199 (dk_at dksX1_sees_0 2 rfl rfl)
theorem dX1_sees_5 : decode cX1_sees 5 = .ok (.iload_n 2, 1) := dk_28 (dk_at dksX1_sees_0 5 rfl rfl)
theorem dX1_sees_6 : decode cX1_sees 6 = .ok (.invokevirtual 113, 3) := dk_182 0 113 (dk_at dksX1_sees_0 6 rfl rfl)
theorem dX1_sees_9 : decode cX1_sees 9 = .ok (.ireturn, 1) := dk_172 (dk_at dksX1_sees_0 9 rfl rfl)
abbrev rm_X1_sees : Room := { frames := 9, cells := 2, slots := 7, locals := 146 }
def w_X1_sees (a0 : Option Nat) (a1 : Int32) (a2 : Int32) (h : AH) (P : Int32 → AH → Prop) (PX : String → AH → Prop) : Prop :=
  is_c h a0 [0] (
  w_X1_board a0 a1 h (fun y2 h2 =>
  is_c h2 y2 [2] (
  w_X3_sees y2 a2 h2 (fun y6 h6 =>
  nrw .boolean y6 ∧
  P y6 h6))) PX)
theorem met_X1_sees (l : Launch) (hlt : l.stackTraces = false) (G : GG) (h : AH) (a0 : Option Nat) (a1 : Int32) (a2 : Int32) (P : Int32 → AH → Prop) (PX : String → AH → Prop) (hw : w_X1_sees a0 a1 a2 h P PX) : cx_i l yX1_sees (ws_ yX1_sees cX1_sees 3 (Option.some Jvm.ClassFile.FieldType.boolean)) rm_X1_sees G h [vR a0, vI a1, vI a2] P PX := by
  refine j_startXi hlt [(0, vR a0), (1, vI a1), (2, vI a2)] (by decide) rfl rfl (fun x X eG er en hQ hT hex => ?_)
  subst eG
  refine j_aload_n X (pc := 0) 0 dX1_sees_0 rfl rfl ?_
  refine j_iload_n X (pc := 1) 1 dX1_sees_1 rfl rfl ?_
  obtain ⟨b9, c9, f9, hr9, ho9, hc9, hw⟩ := hw
  obtain rfl := List.mem_singleton.mp hc9
  refine j_callXq (j_runVX (n8 := 1) (As := [vI a1]) (rest := []) X (pc := 2) hr9 (met_X1_board (xl x) X.hl (xG x) h a0 a1 _ _ hw) ho9 (by decide) rfl q297 q299 qs0 q71 q300 (by decide +kernel) dX1_sees_2 rfl ⟨Nat.le_of_ble_eq_true rfl, Nat.le_of_ble_eq_true rfl⟩ (Nat.le_of_ble_eq_true rfl) ⟨Nat.le_of_ble_eq_true rfl, Nat.le_of_ble_eq_true rfl⟩) (fun E h9 hx => j_out X hT hex (Nat.le_of_ble_eq_true rfl) (Nat.le_of_ble_eq_true rfl) hx) (fun y2 h2 hw => ?_)
  refine j_iload_n X (pc := 5) 2 dX1_sees_5 rfl rfl ?_
  obtain ⟨b9, c9, f9, hr9, ho9, hc9, hw⟩ := hw
  obtain rfl := List.mem_singleton.mp hc9
  refine j_calli (j_runV (n8 := 1) (As := [vI a2]) (rest := []) X (pc := 6) hr9 (met_X3_sees (xl x) X.hl (xG x) h2 y2 a2 _ hw) ho9 (by decide) rfl q1079 q410 q411 q76 q412 (by decide +kernel) dX1_sees_6 rfl ⟨Nat.le_of_ble_eq_true rfl, Nat.le_of_ble_eq_true rfl⟩ (Nat.le_of_ble_eq_true rfl) ⟨Nat.le_of_ble_eq_true rfl, Nat.le_of_ble_eq_true rfl⟩) (fun y6 h6 hw => ?_)
  exact j_zret X (pc := 9) (ty := .boolean) hQ er hw.1.1 (Nat.le_of_ble_eq_true rfl) (Nat.le_of_ble_eq_true rfl) dX1_sees_9 hw.2
abbrev cX0_sees : ByteArray := method_22_code
def yX0_sees : MethodName := ⟨RX0, "sees", "(LPlugboard;II[J)I"⟩
def dkwX0_sees_1 : List UInt8 := [3, 172]
abbrev dktX0_sees_1 : List UInt8 := dkwX0_sees_1 ++ []
def dkwX0_sees_0 : List UInt8 := [45, 3, 42, 27, 28, 182, 0, 82, 153, 0, 7, 10, 167, 0, 4, 9, 80, 167, 0, 7, 58, 4, 4, 172]
abbrev dktX0_sees_0 : List UInt8 := dkwX0_sees_0 ++ dktX0_sees_1
theorem dksX0_sees_0 : cX0_sees.data.toList.drop 0 = dktX0_sees_0 := by decide +kernel
theorem dksX0_sees_1 : cX0_sees.data.toList.drop 24 = dktX0_sees_1 := dk_seg dksX0_sees_0 24 rfl rfl
theorem dX0_sees_0 : decode cX0_sees 0 = .ok (.aload_n 3, 1) := dk_45 (dk_at dksX0_sees_0 0 rfl rfl)
theorem dX0_sees_1 : decode cX0_sees 1 = .ok (.iconst 0, 1) := dk_3 (dk_at dksX0_sees_0 1 rfl rfl)
theorem dX0_sees_2 : decode cX0_sees 2 = .ok (.aload_n 0, 1) := dk_42 (dk_at dksX0_sees_0 2 rfl rfl)
theorem dX0_sees_3 : decode cX0_sees 3 = .ok (.iload_n 1, 1) := dk_27 (dk_at dksX0_sees_0 3 rfl rfl)
theorem dX0_sees_4 : decode cX0_sees 4 = .ok (.iload_n 2, 1) := dk_28 (dk_at dksX0_sees_0 4 rfl rfl)
theorem dX0_sees_5 : decode cX0_sees 5 = .ok (.invokevirtual 82, 3) := dk_182 0 82 (dk_at dksX0_sees_0 5 rfl rfl)
theorem dX0_sees_8 : decode cX0_sees 8 = .ok (.ifCond .eq 7, 3) := dk_153 0 7 (dk_at dksX0_sees_0 8 rfl rfl)
theorem dX0_sees_11 : decode cX0_sees 11 = .ok (.lconst 1, 1) := dk_10 (dk_at dksX0_sees_0 11 rfl rfl)
theorem dX0_sees_12 : decode cX0_sees 12 = .ok (.goto 4, 3) := dk_167 0 4 (dk_at dksX0_sees_0 12 rfl rfl)
theorem dX0_sees_15 : decode cX0_sees 15 = .ok (.lconst 0, 1) := dk_9 (dk_at dksX0_sees_0 15 rfl rfl)
theorem dX0_sees_16 : decode cX0_sees 16 = .ok (.lastore, 1) := dk_80 (dk_at dksX0_sees_0 16 rfl rfl)
theorem dX0_sees_17 : decode cX0_sees 17 = .ok (.goto 7, 3) := dk_167 0 7 (dk_at dksX0_sees_0 17 rfl rfl)
theorem dX0_sees_20 : decode cX0_sees 20 = .ok (.astore 4, 2) := dk_58 4 (dk_at dksX0_sees_0 20 rfl rfl)
theorem dX0_sees_22 : decode cX0_sees 22 = .ok (.iconst 1, 1) := dk_4 (dk_at dksX0_sees_0 22 rfl rfl)
theorem dX0_sees_23 : decode cX0_sees 23 = .ok (.ireturn, 1) := dk_172 (dk_at dksX0_sees_0 23 rfl rfl)
theorem dX0_sees_24 : decode cX0_sees 24 = .ok (.iconst 0, 1) := dk_3 (dk_at dksX0_sees_1 0 rfl rfl)
theorem dX0_sees_25 : decode cX0_sees 25 = .ok (.ireturn, 1) := dk_172 (dk_at dksX0_sees_1 1 rfl rfl)
theorem q1406 : (Jvm.Cond.methodLink "PlugboardLaw" (82 : Nat) ({ cls := "Plugboard", name := "sees", desc := "(II)Z" } : Jvm.MethodName)) ∈ lw_all := lw_g (lw_at lw_m6 136 rfl) rfl
theorem q1407 : (Jvm.Cond.instanceMethod ({ cls := "Plugboard", name := "sees", desc := "(II)Z" } : Jvm.MethodName)) ∈ lw_all := lw_g (lw_at lw_m6 137 rfl) rfl
theorem q1408 : (Jvm.Cond.selects "Plugboard" ({ cls := "Plugboard", name := "sees", desc := "(II)Z" } : Jvm.MethodName) ({ cls := "Plugboard", name := "sees", desc := "(II)Z" } : Jvm.MethodName)) ∈ lw_all := lw_g (lw_at lw_m6 138 rfl) rfl
theorem q1409 : (Jvm.Cond.code ({ cls := "Plugboard", name := "sees", desc := "(II)Z" } : Jvm.MethodName) prog_1_method_48_code (3 : Nat) (Option.some Jvm.ClassFile.FieldType.boolean)) ∈ lw_all := lw_g (lw_at lw_m6 139 rfl) rfl
abbrev rm_X0_sees : Room := { frames := 10, cells := 2, slots := 7, locals := 168 }
def w_X0_sees (a0 : Option Nat) (a1 : Int32) (a2 : Int32) (a3 : Option Nat) (h : AH) (P : Int32 → AH → Prop) : Prop :=
  is_c h a0 [0] (
  w_X1_sees a0 a1 a2 h (fun y5 h5 =>
  ((y5 = 0 →
    s_L h5 a3 0 0 fun h16 =>
    P 0 h16) ∧
   (¬ y5 = 0 →
    s_L h5 a3 0 1 fun h16 =>
    P 0 h16)))
    (fun E9 h9 => (E9 = "java/lang/IllegalArgumentException" ∧ ∀ q9 : Nat,
    P 1 h9)))
theorem met_X0_sees (l : Launch) (hlt : l.stackTraces = false) (G : GG) (h : AH) (a0 : Option Nat) (a1 : Int32) (a2 : Int32) (a3 : Option Nat) (P : Int32 → AH → Prop) (hw : w_X0_sees a0 a1 a2 a3 h P) : ct_i l yX0_sees (wsW_ yX0_sees cX0_sees 5 (Option.some Jvm.ClassFile.FieldType.int) [((0 : Nat), (17 : Nat), (20 : Nat), (13 : Nat))]) rm_X0_sees G h [vR a0, vI a1, vI a2, vR a3] P := by
  refine j_startWi hlt [(0, vR a0), (1, vI a1), (2, vI a2), (3, vR a3)] (by decide) rfl rfl (fun x X eG er en hQ hex => ?_)
  subst eG
  refine j_aload_n X (pc := 0) 3 dX0_sees_0 rfl rfl ?_
  refine j_iconst X (pc := 1) 0 dX0_sees_1 (by decide) ?_
  refine j_aload_n X (pc := 2) 0 dX0_sees_2 rfl rfl ?_
  refine j_iload_n X (pc := 3) 1 dX0_sees_3 rfl rfl ?_
  refine j_iload_n X (pc := 4) 2 dX0_sees_4 rfl rfl ?_
  obtain ⟨b9, c9, f9, hr9, ho9, hc9, hw⟩ := hw
  obtain rfl := List.mem_singleton.mp hc9
  refine j_callXi (j_runVX (n8 := 2) (As := [vI a1, vI a2]) (rest := [vI 0, vR a3]) X (pc := 5) hr9 (met_X1_sees (xl x) X.hl (xG x) h a0 a1 a2 _ _ hw) ho9 (by decide) rfl q1406 q1407 q1408 q71 q1409 (by decide +kernel) dX0_sees_5 rfl ⟨Nat.le_of_ble_eq_true rfl, Nat.le_of_ble_eq_true rfl⟩ (Nat.le_of_ble_eq_true rfl) ⟨Nat.le_of_ble_eq_true rfl, Nat.le_of_ble_eq_true rfl⟩) ?_ (fun y5 h5 hw => ?_)
  · intro E9 h9 hx
    obtain ⟨rfl, hw⟩ := hx
    refine j_catch X (pc := 5) "java/lang/IllegalArgumentException" hex [] [] ⟨0, 17, 20, 13⟩ rfl (by intro y hy; cases hy) (by decide) (by decide) q291 q312 (fun q9 => ?_)
    have hw := hw q9
    refine j_astore X (pc := 20) [(4, vR (some q9)), (0, vR a0), (1, vI a1), (2, vI a2), (3, vR a3)] dX0_sees_20 (Nat.le_of_ble_eq_true rfl) rfl ?_
    refine j_iconst X (pc := 22) 1 dX0_sees_22 (by decide) ?_
    exact j_iret X (pc := 23) hQ er (Nat.le_of_ble_eq_true rfl) (Nat.le_of_ble_eq_true rfl) dX0_sees_23 hw
  refine j_if_eq X (pc := 8) 15 dX0_sees_8 (by decide) hw (fun hw => ?_) (fun hw => ?_)
  · refine j_lconst X (pc := 15) 0 dX0_sees_15 (by decide) ?_
    refine j_last X (pc := 16) dX0_sees_16 hw (fun h16 hw => ?_)
    refine j_goto X (pc := 17) 24 dX0_sees_17 (by decide) ?_
    refine j_iconst X (pc := 24) 0 dX0_sees_24 (by decide) ?_
    exact j_iret X (pc := 25) hQ er (Nat.le_of_ble_eq_true rfl) (Nat.le_of_ble_eq_true rfl) dX0_sees_25 hw
  · refine j_lconst X (pc := 11) 1 dX0_sees_11 (by decide) ?_
    refine j_goto X (pc := 12) 16 dX0_sees_12 (by decide) ?_
    refine j_last X (pc := 16) dX0_sees_16 hw (fun h16 hw => ?_)
    refine j_goto X (pc := 17) 24 dX0_sees_17 (by decide) ?_
    refine j_iconst X (pc := 24) 0 dX0_sees_24 (by decide) ?_
    exact j_iret X (pc := 25) hQ er (Nat.le_of_ble_eq_true rfl) (Nat.le_of_ble_eq_true rfl) dX0_sees_25 hw
abbrev cX5_sees : ByteArray := prog_19_method_54_code
def yX5_sees : MethodName := ⟨RX5, "sees", "(II)Z"⟩
def dkwX5_sees_0 : List UInt8 := [42, 27, 182, 0, 228, 154, 0, 15, 42, 28, 182, 0, 125, 153, 0, 7, 4, 167, 0, 4, 3, 172]
abbrev dktX5_sees_0 : List UInt8 := dkwX5_sees_0 ++ []
theorem dksX5_sees_0 : cX5_sees.data.toList.drop 0 = dktX5_sees_0 := by decide +kernel
theorem dX5_sees_0 : decode cX5_sees 0 = .ok (.aload_n 0, 1) := dk_42 (dk_at dksX5_sees_0 0 rfl rfl)
theorem dX5_sees_1 : decode cX5_sees 1 = .ok (.iload_n 1, 1) := dk_27 (dk_at dksX5_sees_0 1 rfl rfl)
theorem dX5_sees_2 : decode cX5_sees 2 = .ok (.invokevirtual 228, 3) := dk_182 0 228 (dk_at dksX5_sees_0 2 rfl rfl)
theorem dX5_sees_5 : decode cX5_sees 5 = .ok (.ifCond .ne 15, 3) := dk_154 0 15 (dk_at dksX5_sees_0 5 rfl rfl)
theorem dX5_sees_8 : decode cX5_sees 8 = .ok (.aload_n 0, 1) := dk_42 (dk_at dksX5_sees_0 8 rfl rfl)
theorem dX5_sees_9 : decode cX5_sees 9 = .ok (.iload_n 2, 1) := dk_28 (dk_at dksX5_sees_0 9 rfl rfl)
theorem dX5_sees_10 : decode cX5_sees 10 = .ok (.invokevirtual 125, 3) := dk_182 0 125 (dk_at dksX5_sees_0 10 rfl rfl)
theorem dX5_sees_13 : decode cX5_sees 13 = .ok (.ifCond .eq 7, 3) := dk_153 0 7 (dk_at dksX5_sees_0 13 rfl rfl)
theorem dX5_sees_16 : decode cX5_sees 16 = .ok (.iconst 1, 1) := dk_4 (dk_at dksX5_sees_0 16 rfl rfl)
theorem dX5_sees_17 : decode cX5_sees 17 = .ok (.goto 4, 3) := dk_167 0 4 (dk_at dksX5_sees_0 17 rfl rfl)
theorem dX5_sees_20 : decode cX5_sees 20 = .ok (.iconst 0, 1) := dk_3 (dk_at dksX5_sees_0 20 rfl rfl)
theorem dX5_sees_21 : decode cX5_sees 21 = .ok (.ireturn, 1) := dk_172 (dk_at dksX5_sees_0 21 rfl rfl)
abbrev rm_X5_sees : Room := { frames := 4, cells := 0, slots := 0, locals := 87 }
def w_X5_sees (a0 : Option Nat) (a1 : Int32) (a2 : Int32) (h : AH) (P : Int32 → AH → Prop) : Prop :=
  is_c h a0 [4] (
  w_X5_isNobody a0 a1 h (fun y2 h2 =>
  ((y2 = 0 →
    is_c h2 a0 [4] (
    w_X5_isSeen a0 a2 h2 (fun y10 h10 =>
    ((y10 = 0 →
      P 0 h10) ∧
     (¬ y10 = 0 →
      P 1 h10))))) ∧
   (¬ y2 = 0 →
    P 0 h2))))
theorem met_X5_sees (l : Launch) (hlt : l.stackTraces = false) (G : GG) (h : AH) (a0 : Option Nat) (a1 : Int32) (a2 : Int32) (P : Int32 → AH → Prop) (hw : w_X5_sees a0 a1 a2 h P) : ct_i l yX5_sees (ws_ yX5_sees cX5_sees 3 (Option.some Jvm.ClassFile.FieldType.boolean)) rm_X5_sees G h [vR a0, vI a1, vI a2] P := by
  refine j_starti hlt [(0, vR a0), (1, vI a1), (2, vI a2)] (plainFor_of_name (by decide)) rfl rfl (fun x X eG er en hQ => ?_)
  subst eG
  refine j_aload_n X (pc := 0) 0 dX5_sees_0 rfl rfl ?_
  refine j_iload_n X (pc := 1) 1 dX5_sees_1 rfl rfl ?_
  obtain ⟨b9, c9, f9, hr9, ho9, hc9, hw⟩ := hw
  obtain rfl := List.mem_singleton.mp hc9
  refine j_calli (j_runV (n8 := 1) (As := [vI a1]) (rest := []) X (pc := 2) hr9 (met_X5_isNobody (xl x) X.hl (xG x) h a0 a1 _ hw) ho9 (by decide) rfl q2170 q2172 qs58 q78 q2173 (by decide +kernel) dX5_sees_2 rfl ⟨Nat.le_of_ble_eq_true rfl, Nat.le_of_ble_eq_true rfl⟩ (Nat.le_of_ble_eq_true rfl) ⟨Nat.le_of_ble_eq_true rfl, Nat.le_of_ble_eq_true rfl⟩) (fun y2 h2 hw => ?_)
  refine j_if_ne X (pc := 5) 20 dX5_sees_5 (by decide) hw (fun hw => ?_) (fun hw => ?_)
  · refine j_aload_n X (pc := 8) 0 dX5_sees_8 rfl rfl ?_
    refine j_iload_n X (pc := 9) 2 dX5_sees_9 rfl rfl ?_
    obtain ⟨b9, c9, f9, hr9, ho9, hc9, hw⟩ := hw
    obtain rfl := List.mem_singleton.mp hc9
    refine j_calli (j_runV (n8 := 1) (As := [vI a2]) (rest := []) X (pc := 10) hr9 (met_X5_isSeen (xl x) X.hl (xG x) h2 a0 a2 _ hw) ho9 (by decide) rfl q2012 q2014 qs39 q78 q2015 (by decide +kernel) dX5_sees_10 rfl ⟨Nat.le_of_ble_eq_true rfl, Nat.le_of_ble_eq_true rfl⟩ (Nat.le_of_ble_eq_true rfl) ⟨Nat.le_of_ble_eq_true rfl, Nat.le_of_ble_eq_true rfl⟩) (fun y10 h10 hw => ?_)
    refine j_if_eq X (pc := 13) 20 dX5_sees_13 (by decide) hw (fun hw => ?_) (fun hw => ?_)
    · refine j_iconst X (pc := 20) 0 dX5_sees_20 (by decide) ?_
      exact j_zret X (pc := 21) (ty := .boolean) hQ er rfl (Nat.le_of_ble_eq_true rfl) (Nat.le_of_ble_eq_true rfl) dX5_sees_21 hw
    · refine j_iconst X (pc := 16) 1 dX5_sees_16 (by decide) ?_
      refine j_goto X (pc := 17) 21 dX5_sees_17 (by decide) ?_
      exact j_zret X (pc := 21) (ty := .boolean) hQ er rfl (Nat.le_of_ble_eq_true rfl) (Nat.le_of_ble_eq_true rfl) dX5_sees_21 hw
  · refine j_iconst X (pc := 20) 0 dX5_sees_20 (by decide) ?_
    exact j_zret X (pc := 21) (ty := .boolean) hQ er rfl (Nat.le_of_ble_eq_true rfl) (Nat.le_of_ble_eq_true rfl) dX5_sees_21 hw
abbrev cX1_columnOf : ByteArray := prog_1_method_49_code
def yX1_columnOf : MethodName := ⟨RX1, "columnOf", "(II)I"⟩
def dkwX1_columnOf_0 : List UInt8 := [42, 27, 182, 0, 199, 78, 45, 42, 45, 28, 182, 0, 241, 182, 0, 249, 172]
abbrev dktX1_columnOf_0 : List UInt8 := dkwX1_columnOf_0 ++ []
theorem dksX1_columnOf_0 : cX1_columnOf.data.toList.drop 0 = dktX1_columnOf_0 := by decide +kernel
theorem dX1_columnOf_0 : decode cX1_columnOf 0 = .ok (.aload_n 0, 1) := dk_42 (dk_at dksX1_columnOf_0 0 rfl rfl)
theorem dX1_columnOf_1 : decode cX1_columnOf 1 = .ok (.iload_n 1, 1) := dk_27 (dk_at dksX1_columnOf_0 1 rfl rfl)
theorem dX1_columnOf_2 : decode cX1_columnOf 2 = .ok (.invokevirtual 199, 3) := dk_182 0 199 (dk_at dksX1_columnOf_0 2 rfl rfl)
theorem dX1_columnOf_5 : decode cX1_columnOf 5 = .ok (.astore_n 3, 1) := dk_78 (dk_at dksX1_columnOf_0 5 rfl rfl)
theorem dX1_columnOf_6 : decode cX1_columnOf 6 = .ok (.aload_n 3, 1) := dk_45 (dk_at dksX1_columnOf_0 6 rfl rfl)
theorem dX1_columnOf_7 : decode cX1_columnOf 7 = .ok (.aload_n 0, 1) := dk_42 (dk_at dksX1_columnOf_0 7 rfl rfl)
theorem dX1_columnOf_8 : decode cX1_columnOf 8 = .ok (.aload_n 3, 1) := dk_45 (dk_at dksX1_columnOf_0 8 rfl rfl)
theorem dX1_columnOf_9 : decode cX1_columnOf 9 = .ok (.iload_n 2, 1) := dk_28 (dk_at dksX1_columnOf_0 9 rfl rfl)
theorem dX1_columnOf_10 : decode cX1_columnOf 10 = .ok (.invokevirtual 241, 3) := dk_182 0 241 (dk_at dksX1_columnOf_0 10 rfl rfl)
theorem dX1_columnOf_13 : decode cX1_columnOf 13 = .ok (.invokevirtual 249, 3) := dk_182 0 249 (dk_at dksX1_columnOf_0 13 rfl rfl)
theorem dX1_columnOf_16 : decode cX1_columnOf 16 = .ok (.ireturn, 1) := dk_172 (dk_at dksX1_columnOf_0 16 rfl rfl)
abbrev rm_X1_columnOf : Room := { frames := 9, cells := 3, slots := 13, locals := 146 }
def w_X1_columnOf (a0 : Option Nat) (a1 : Int32) (a2 : Int32) (h : AH) (P : Int32 → AH → Prop) (PX : String → AH → Prop) : Prop :=
  is_c h a0 [0] (
  w_X1_board a0 a1 h (fun y2 h2 =>
  is_c h2 a0 [0] (
  w_X1_shape a0 y2 a2 h2 (fun y10 h10 =>
  is_c h10 y2 [2] (
  w_X3_columnOf y2 y10 h10 (fun y13 h13 =>
  P y13 h13))) PX)) PX)
theorem met_X1_columnOf (l : Launch) (hlt : l.stackTraces = false) (G : GG) (h : AH) (a0 : Option Nat) (a1 : Int32) (a2 : Int32) (P : Int32 → AH → Prop) (PX : String → AH → Prop) (hw : w_X1_columnOf a0 a1 a2 h P PX) : cx_i l yX1_columnOf (ws_ yX1_columnOf cX1_columnOf 4 (Option.some Jvm.ClassFile.FieldType.int)) rm_X1_columnOf G h [vR a0, vI a1, vI a2] P PX := by
  refine j_startXi hlt [(0, vR a0), (1, vI a1), (2, vI a2)] (by decide) rfl rfl (fun x X eG er en hQ hT hex => ?_)
  subst eG
  refine j_aload_n X (pc := 0) 0 dX1_columnOf_0 rfl rfl ?_
  refine j_iload_n X (pc := 1) 1 dX1_columnOf_1 rfl rfl ?_
  obtain ⟨b9, c9, f9, hr9, ho9, hc9, hw⟩ := hw
  obtain rfl := List.mem_singleton.mp hc9
  refine j_callXq (j_runVX (n8 := 1) (As := [vI a1]) (rest := []) X (pc := 2) hr9 (met_X1_board (xl x) X.hl (xG x) h a0 a1 _ _ hw) ho9 (by decide) rfl q297 q299 qs0 q71 q300 (by decide +kernel) dX1_columnOf_2 rfl ⟨Nat.le_of_ble_eq_true rfl, Nat.le_of_ble_eq_true rfl⟩ (Nat.le_of_ble_eq_true rfl) ⟨Nat.le_of_ble_eq_true rfl, Nat.le_of_ble_eq_true rfl⟩) (fun E h9 hx => j_out X hT hex (Nat.le_of_ble_eq_true rfl) (Nat.le_of_ble_eq_true rfl) hx) (fun y2 h2 hw => ?_)
  refine j_astore_n X (pc := 5) [(3, vR y2), (0, vR a0), (1, vI a1), (2, vI a2)] dX1_columnOf_5 rfl (Nat.le_of_ble_eq_true rfl) rfl ?_
  refine j_aload_n X (pc := 6) 0 dX1_columnOf_6 rfl rfl ?_
  refine j_aload_n X (pc := 7) 1 dX1_columnOf_7 rfl rfl ?_
  refine j_aload_n X (pc := 8) 0 dX1_columnOf_8 rfl rfl ?_
  refine j_iload_n X (pc := 9) 3 dX1_columnOf_9 rfl rfl ?_
  obtain ⟨b9, c9, f9, hr9, ho9, hc9, hw⟩ := hw
  obtain rfl := List.mem_singleton.mp hc9
  refine j_callXq (j_runVX (n8 := 2) (As := [vR y2, vI a2]) (rest := [vR y2]) X (pc := 10) hr9 (met_X1_shape (xl x) X.hl (xG x) h2 a0 y2 a2 _ _ hw) ho9 (by decide) rfl q1075 q1077 qs9 q71 q1078 (by decide +kernel) dX1_columnOf_10 rfl ⟨Nat.le_of_ble_eq_true rfl, Nat.le_of_ble_eq_true rfl⟩ (Nat.le_of_ble_eq_true rfl) ⟨Nat.le_of_ble_eq_true rfl, Nat.le_of_ble_eq_true rfl⟩) (fun E h9 hx => j_out X hT hex (Nat.le_of_ble_eq_true rfl) (Nat.le_of_ble_eq_true rfl) hx) (fun y10 h10 hw => ?_)
  obtain ⟨b9, c9, f9, hr9, ho9, hc9, hw⟩ := hw
  obtain rfl := List.mem_singleton.mp hc9
  refine j_calli (j_runV (n8 := 1) (As := [vR y10]) (rest := []) X (pc := 13) hr9 (met_X3_columnOf (xl x) X.hl (xG x) h10 y2 y10 _ hw) ho9 (by decide) rfl q1115 q1116 q1117 q76 q1118 (by decide +kernel) dX1_columnOf_13 rfl ⟨Nat.le_of_ble_eq_true rfl, Nat.le_of_ble_eq_true rfl⟩ (Nat.le_of_ble_eq_true rfl) ⟨Nat.le_of_ble_eq_true rfl, Nat.le_of_ble_eq_true rfl⟩) (fun y13 h13 hw => ?_)
  exact j_iret X (pc := 16) hQ er (Nat.le_of_ble_eq_true rfl) (Nat.le_of_ble_eq_true rfl) dX1_columnOf_16 hw
abbrev cX0_columnOf : ByteArray := method_23_code
def yX0_columnOf : MethodName := ⟨RX0, "columnOf", "(LPlugboard;II[J)I"⟩
def dkwX0_columnOf_0 : List UInt8 := [45, 3, 42, 27, 28, 182, 0, 85, 133, 80, 167, 0, 11, 58, 4, 4, 172, 58, 4, 5, 172, 3, 172]
abbrev dktX0_columnOf_0 : List UInt8 := dkwX0_columnOf_0 ++ []
theorem dksX0_columnOf_0 : cX0_columnOf.data.toList.drop 0 = dktX0_columnOf_0 := by decide +kernel
theorem dX0_columnOf_0 : decode cX0_columnOf 0 = .ok (.aload_n 3, 1) := dk_45 (dk_at dksX0_columnOf_0 0 rfl rfl)
theorem dX0_columnOf_1 : decode cX0_columnOf 1 = .ok (.iconst 0, 1) := dk_3 (dk_at dksX0_columnOf_0 1 rfl rfl)
theorem dX0_columnOf_2 : decode cX0_columnOf 2 = .ok (.aload_n 0, 1) := dk_42 (dk_at dksX0_columnOf_0 2 rfl rfl)
theorem dX0_columnOf_3 : decode cX0_columnOf 3 = .ok (.iload_n 1, 1) := dk_27 (dk_at dksX0_columnOf_0 3 rfl rfl)
theorem dX0_columnOf_4 : decode cX0_columnOf 4 = .ok (.iload_n 2, 1) := dk_28 (dk_at dksX0_columnOf_0 4 rfl rfl)
theorem dX0_columnOf_5 : decode cX0_columnOf 5 = .ok (.invokevirtual 85, 3) := dk_182 0 85 (dk_at dksX0_columnOf_0 5 rfl rfl)
theorem dX0_columnOf_8 : decode cX0_columnOf 8 = .ok (.i2l, 1) := dk_133 (dk_at dksX0_columnOf_0 8 rfl rfl)
theorem dX0_columnOf_9 : decode cX0_columnOf 9 = .ok (.lastore, 1) := dk_80 (dk_at dksX0_columnOf_0 9 rfl rfl)
theorem dX0_columnOf_10 : decode cX0_columnOf 10 = .ok (.goto 11, 3) := dk_167 0 11 (dk_at dksX0_columnOf_0 10 rfl rfl)
theorem dX0_columnOf_13 : decode cX0_columnOf 13 = .ok (.astore 4, 2) := dk_58 4 (dk_at dksX0_columnOf_0 13 rfl rfl)
theorem dX0_columnOf_15 : decode cX0_columnOf 15 = .ok (.iconst 1, 1) := dk_4 (dk_at dksX0_columnOf_0 15 rfl rfl)
theorem dX0_columnOf_16 : decode cX0_columnOf 16 = .ok (.ireturn, 1) := dk_172 (dk_at dksX0_columnOf_0 16 rfl rfl)
theorem dX0_columnOf_17 : decode cX0_columnOf 17 = .ok (.astore 4, 2) := dk_58 4 (dk_at dksX0_columnOf_0 17 rfl rfl)
theorem dX0_columnOf_19 : decode cX0_columnOf 19 = .ok (.iconst 2, 1) := dk_5 (dk_at dksX0_columnOf_0 19 rfl rfl)
theorem dX0_columnOf_20 : decode cX0_columnOf 20 = .ok (.ireturn, 1) := dk_172 (dk_at dksX0_columnOf_0 20 rfl rfl)
theorem dX0_columnOf_21 : decode cX0_columnOf 21 = .ok (.iconst 0, 1) := dk_3 (dk_at dksX0_columnOf_0 21 rfl rfl)
theorem dX0_columnOf_22 : decode cX0_columnOf 22 = .ok (.ireturn, 1) := dk_172 (dk_at dksX0_columnOf_0 22 rfl rfl)
theorem q1413 : (Jvm.Cond.methodLink "PlugboardLaw" (85 : Nat) ({ cls := "Plugboard", name := "columnOf", desc := "(II)I" } : Jvm.MethodName)) ∈ lw_all := lw_g (lw_at lw_m6 143 rfl) rfl
theorem q1414 : (Jvm.Cond.instanceMethod ({ cls := "Plugboard", name := "columnOf", desc := "(II)I" } : Jvm.MethodName)) ∈ lw_all := lw_g (lw_at lw_m6 144 rfl) rfl
theorem q1415 : (Jvm.Cond.selects "Plugboard" ({ cls := "Plugboard", name := "columnOf", desc := "(II)I" } : Jvm.MethodName) ({ cls := "Plugboard", name := "columnOf", desc := "(II)I" } : Jvm.MethodName)) ∈ lw_all := lw_g (lw_at lw_m6 145 rfl) rfl
theorem q1416 : (Jvm.Cond.code ({ cls := "Plugboard", name := "columnOf", desc := "(II)I" } : Jvm.MethodName) prog_1_method_49_code (4 : Nat) (Option.some Jvm.ClassFile.FieldType.int)) ∈ lw_all := lw_g (lw_at lw_m6 146 rfl) rfl
abbrev rm_X0_columnOf : Room := { frames := 10, cells := 3, slots := 13, locals := 169 }
def w_X0_columnOf (a0 : Option Nat) (a1 : Int32) (a2 : Int32) (a3 : Option Nat) (h : AH) (P : Int32 → AH → Prop) : Prop :=
  is_c h a0 [0] (
  w_X1_columnOf a0 a1 a2 h (fun y5 h5 =>
  s_L h5 a3 0 (Int32.toInt64 y5) fun h9 =>
  P 0 h9)
    (fun E9 h9 => (E9 = "java/lang/IllegalArgumentException" ∧ ∀ q9 : Nat,
    P 1 h9) ∨
    (E9 = "java/util/NoSuchElementException" ∧ ∀ q9 : Nat,
    P 2 h9)))
theorem met_X0_columnOf (l : Launch) (hlt : l.stackTraces = false) (G : GG) (h : AH) (a0 : Option Nat) (a1 : Int32) (a2 : Int32) (a3 : Option Nat) (P : Int32 → AH → Prop) (hw : w_X0_columnOf a0 a1 a2 a3 h P) : ct_i l yX0_columnOf (wsW_ yX0_columnOf cX0_columnOf 5 (Option.some Jvm.ClassFile.FieldType.int) [((0 : Nat), (10 : Nat), (13 : Nat), (13 : Nat)), ((0 : Nat), (10 : Nat), (17 : Nat), (21 : Nat))]) rm_X0_columnOf G h [vR a0, vI a1, vI a2, vR a3] P := by
  refine j_startWi hlt [(0, vR a0), (1, vI a1), (2, vI a2), (3, vR a3)] (by decide) rfl rfl (fun x X eG er en hQ hex => ?_)
  subst eG
  refine j_aload_n X (pc := 0) 3 dX0_columnOf_0 rfl rfl ?_
  refine j_iconst X (pc := 1) 0 dX0_columnOf_1 (by decide) ?_
  refine j_aload_n X (pc := 2) 0 dX0_columnOf_2 rfl rfl ?_
  refine j_iload_n X (pc := 3) 1 dX0_columnOf_3 rfl rfl ?_
  refine j_iload_n X (pc := 4) 2 dX0_columnOf_4 rfl rfl ?_
  obtain ⟨b9, c9, f9, hr9, ho9, hc9, hw⟩ := hw
  obtain rfl := List.mem_singleton.mp hc9
  refine j_callXi (j_runVX (n8 := 2) (As := [vI a1, vI a2]) (rest := [vI 0, vR a3]) X (pc := 5) hr9 (met_X1_columnOf (xl x) X.hl (xG x) h a0 a1 a2 _ _ hw) ho9 (by decide) rfl q1413 q1414 q1415 q71 q1416 (by decide +kernel) dX0_columnOf_5 rfl ⟨Nat.le_of_ble_eq_true rfl, Nat.le_of_ble_eq_true rfl⟩ (Nat.le_of_ble_eq_true rfl) ⟨Nat.le_of_ble_eq_true rfl, Nat.le_of_ble_eq_true rfl⟩) ?_ (fun y5 h5 hw => ?_)
  · intro E9 h9 hx
    rcases hx with ⟨rfl, hw⟩ | ⟨rfl, hw⟩
    · refine j_catch X (pc := 5) "java/lang/IllegalArgumentException" hex [] [⟨0, 10, 17, 21⟩] ⟨0, 10, 13, 13⟩ rfl (by intro y hy; cases hy) (by decide) (by decide) q291 q312 (fun q9 => ?_)
      have hw := hw q9
      refine j_astore X (pc := 13) [(4, vR (some q9)), (0, vR a0), (1, vI a1), (2, vI a2), (3, vR a3)] dX0_columnOf_13 (Nat.le_of_ble_eq_true rfl) rfl ?_
      refine j_iconst X (pc := 15) 1 dX0_columnOf_15 (by decide) ?_
      exact j_iret X (pc := 16) hQ er (Nat.le_of_ble_eq_true rfl) (Nat.le_of_ble_eq_true rfl) dX0_columnOf_16 hw
    · refine j_catch X (pc := 5) "java/util/NoSuchElementException" hex [⟨0, 10, 13, 13⟩] [] ⟨0, 10, 17, 21⟩ rfl (by intro y hy; simp only [List.mem_cons, List.not_mem_nil, or_false] at hy; subst hy; exact Or.inr ⟨by decide, "java/lang/IllegalArgumentException", q291, by decide +kernel⟩) (by decide) (by decide) q1068 q537 (fun q9 => ?_)
      have hw := hw q9
      refine j_astore X (pc := 17) [(4, vR (some q9)), (0, vR a0), (1, vI a1), (2, vI a2), (3, vR a3)] dX0_columnOf_17 (Nat.le_of_ble_eq_true rfl) rfl ?_
      refine j_iconst X (pc := 19) 2 dX0_columnOf_19 (by decide) ?_
      exact j_iret X (pc := 20) hQ er (Nat.le_of_ble_eq_true rfl) (Nat.le_of_ble_eq_true rfl) dX0_columnOf_20 hw
  refine j_i2l X (pc := 8) dX0_columnOf_8 ?_
  refine j_last X (pc := 9) dX0_columnOf_9 hw (fun h9 hw => ?_)
  refine j_goto X (pc := 10) 21 dX0_columnOf_10 (by decide) ?_
  refine j_iconst X (pc := 21) 0 dX0_columnOf_21 (by decide) ?_
  exact j_iret X (pc := 22) hQ er (Nat.le_of_ble_eq_true rfl) (Nat.le_of_ble_eq_true rfl) dX0_columnOf_22 hw
abbrev cX5_isUnseen : ByteArray := prog_19_method_52_code
def yX5_isUnseen : MethodName := ⟨RX5, "isUnseen", "(II)Z"⟩
def dkwX5_isUnseen_1 : List UInt8 := [180, 0, 97, 158, 0, 7, 4, 167, 0, 4, 3, 172]
abbrev dktX5_isUnseen_1 : List UInt8 := dkwX5_isUnseen_1 ++ []
def dkwX5_isUnseen_0 : List UInt8 := [42, 27, 182, 0, 228, 154, 0, 16, 42, 28, 182, 0, 125, 154, 0, 8, 42, 5, 181, 0, 97, 42]
abbrev dktX5_isUnseen_0 : List UInt8 := dkwX5_isUnseen_0 ++ dktX5_isUnseen_1
theorem dksX5_isUnseen_0 : cX5_isUnseen.data.toList.drop 0 = dktX5_isUnseen_0 := by decide +kernel
theorem dksX5_isUnseen_1 : cX5_isUnseen.data.toList.drop 22 = dktX5_isUnseen_1 := dk_seg dksX5_isUnseen_0 22 rfl rfl
theorem dX5_isUnseen_0 : decode cX5_isUnseen 0 = .ok (.aload_n 0, 1) := dk_42 (dk_at dksX5_isUnseen_0 0 rfl rfl)
theorem dX5_isUnseen_1 : decode cX5_isUnseen 1 = .ok (.iload_n 1, 1) := dk_27 (dk_at dksX5_isUnseen_0 1 rfl rfl)
theorem dX5_isUnseen_2 : decode cX5_isUnseen 2 = .ok (.invokevirtual 228, 3) := dk_182 0 228 (dk_at dksX5_isUnseen_0 2 rfl rfl)
theorem dX5_isUnseen_5 : decode cX5_isUnseen 5 = .ok (.ifCond .ne 16, 3) := dk_154 0 16 (dk_at dksX5_isUnseen_0 5 rfl rfl)
theorem dX5_isUnseen_8 : decode cX5_isUnseen 8 = .ok (.aload_n 0, 1) := dk_42 (dk_at dksX5_isUnseen_0 8 rfl rfl)
theorem dX5_isUnseen_9 : decode cX5_isUnseen 9 = .ok (.iload_n 2, 1) := dk_28 (dk_at dksX5_isUnseen_0 9 rfl rfl)
theorem dX5_isUnseen_10 : decode cX5_isUnseen 10 = .ok (.invokevirtual 125, 3) := dk_182 0 125 (dk_at dksX5_isUnseen_0 10 rfl rfl)
theorem dX5_isUnseen_13 : decode cX5_isUnseen 13 = .ok (.ifCond .ne 8, 3) := dk_154 0 8 (dk_at dksX5_isUnseen_0 13 rfl rfl)
theorem dX5_isUnseen_16 : decode cX5_isUnseen 16 = .ok (.aload_n 0, 1) := dk_42 (dk_at dksX5_isUnseen_0 16 rfl rfl)
theorem dX5_isUnseen_17 : decode cX5_isUnseen 17 = .ok (.iconst 2, 1) := dk_5 (dk_at dksX5_isUnseen_0 17 rfl rfl)
theorem dX5_isUnseen_18 : decode cX5_isUnseen 18 = .ok (.putfield 97, 3) := dk_181 0 97 (dk_at dksX5_isUnseen_0 18 rfl rfl)
theorem dX5_isUnseen_21 : decode cX5_isUnseen 21 = .ok (.aload_n 0, 1) := dk_42 (dk_at dksX5_isUnseen_0 21 rfl rfl)
theorem dX5_isUnseen_22 : decode cX5_isUnseen 22 = .ok (.getfield 97, 3) := dk_180 0 97 (dk_at dksX5_isUnseen_1 0 rfl rfl)
theorem dX5_isUnseen_25 : decode cX5_isUnseen 25 = .ok (.ifCond .le 7, 3) := dk_158 0 7 (dk_at dksX5_isUnseen_1 3 rfl rfl)
theorem dX5_isUnseen_28 : decode cX5_isUnseen 28 = .ok (.iconst 1, 1) := dk_4 (dk_at dksX5_isUnseen_1 6 rfl rfl)
theorem dX5_isUnseen_29 : decode cX5_isUnseen 29 = .ok (.goto 4, 3) := dk_167 0 4 (dk_at dksX5_isUnseen_1 7 rfl rfl)
theorem dX5_isUnseen_32 : decode cX5_isUnseen 32 = .ok (.iconst 0, 1) := dk_3 (dk_at dksX5_isUnseen_1 10 rfl rfl)
theorem dX5_isUnseen_33 : decode cX5_isUnseen 33 = .ok (.ireturn, 1) := dk_172 (dk_at dksX5_isUnseen_1 11 rfl rfl)
abbrev rm_X5_isUnseen : Room := { frames := 4, cells := 0, slots := 0, locals := 87 }
def w_X5_isUnseen_21 (P : Int32 → AH → Prop) (x0 : Option Nat) (h : AH) : Prop :=
  g_i h x0 4 0 fun y22 =>
  ((y22 ≤ 0 →
    P 0 h) ∧
   (¬ y22 ≤ 0 →
    P 1 h))
def w_X5_isUnseen (a0 : Option Nat) (a1 : Int32) (a2 : Int32) (h : AH) (P : Int32 → AH → Prop) : Prop :=
  is_c h a0 [4] (
  w_X5_isNobody a0 a1 h (fun y2 h2 =>
  ((y2 = 0 →
    is_c h2 a0 [4] (
    w_X5_isSeen a0 a2 h2 (fun y10 h10 =>
    ((y10 = 0 →
      p_v h10 a0 4 0 (vI 2) fun h18 =>
      w_X5_isUnseen_21 P a0 h18) ∧
     (¬ y10 = 0 →
      w_X5_isUnseen_21 P a0 h10))))) ∧
   (¬ y2 = 0 →
    w_X5_isUnseen_21 P a0 h2))))
theorem wk_X5_isUnseen_21 {x : CX} (X : Ok x cX5_isUnseen RX5 rm_X5_isUnseen 3) (er : xrt x = (Option.some Jvm.ClassFile.FieldType.boolean)) (en : xnm x = yX5_isUnseen.name) {P : Int32 → AH → Prop} (hQ : xr_i x P) (x0 : Option Nat) (h : AH) (hw : w_X5_isUnseen_21 P x0 h) : J x h 0 0 21 [(0, vR x0)] [] := by
  refine j_aload_n X (pc := 21) 0 dX5_isUnseen_21 rfl rfl ?_
  refine j_geti (ci := 4) X (pc := 22) in_X5 rfl (by decide) 0 (by decide) q1872 (Or.inl rfl) dX5_isUnseen_22 hw (fun y22 hw => ?_)
  refine j_if_le X (pc := 25) 32 dX5_isUnseen_25 (by decide) hw (fun hw => ?_) (fun hw => ?_)
  · refine j_iconst X (pc := 32) 0 dX5_isUnseen_32 (by decide) ?_
    exact j_zret X (pc := 33) (ty := .boolean) hQ er rfl (Nat.le_of_ble_eq_true rfl) (Nat.le_of_ble_eq_true rfl) dX5_isUnseen_33 hw
  · refine j_iconst X (pc := 28) 1 dX5_isUnseen_28 (by decide) ?_
    refine j_goto X (pc := 29) 33 dX5_isUnseen_29 (by decide) ?_
    exact j_zret X (pc := 33) (ty := .boolean) hQ er rfl (Nat.le_of_ble_eq_true rfl) (Nat.le_of_ble_eq_true rfl) dX5_isUnseen_33 hw
theorem met_X5_isUnseen (l : Launch) (hlt : l.stackTraces = false) (G : GG) (h : AH) (a0 : Option Nat) (a1 : Int32) (a2 : Int32) (P : Int32 → AH → Prop) (hw : w_X5_isUnseen a0 a1 a2 h P) : ct_i l yX5_isUnseen (ws_ yX5_isUnseen cX5_isUnseen 3 (Option.some Jvm.ClassFile.FieldType.boolean)) rm_X5_isUnseen G h [vR a0, vI a1, vI a2] P := by
  refine j_starti hlt [(0, vR a0), (1, vI a1), (2, vI a2)] (plainFor_of_name (by decide)) rfl rfl (fun x X eG er en hQ => ?_)
  subst eG
  refine j_aload_n X (pc := 0) 0 dX5_isUnseen_0 rfl rfl ?_
  refine j_iload_n X (pc := 1) 1 dX5_isUnseen_1 rfl rfl ?_
  obtain ⟨b9, c9, f9, hr9, ho9, hc9, hw⟩ := hw
  obtain rfl := List.mem_singleton.mp hc9
  refine j_calli (j_runV (n8 := 1) (As := [vI a1]) (rest := []) X (pc := 2) hr9 (met_X5_isNobody (xl x) X.hl (xG x) h a0 a1 _ hw) ho9 (by decide) rfl q2170 q2172 qs58 q78 q2173 (by decide +kernel) dX5_isUnseen_2 rfl ⟨Nat.le_of_ble_eq_true rfl, Nat.le_of_ble_eq_true rfl⟩ (Nat.le_of_ble_eq_true rfl) ⟨Nat.le_of_ble_eq_true rfl, Nat.le_of_ble_eq_true rfl⟩) (fun y2 h2 hw => ?_)
  refine j_if_ne X (pc := 5) 21 dX5_isUnseen_5 (by decide) hw (fun hw => ?_) (fun hw => ?_)
  · refine j_aload_n X (pc := 8) 0 dX5_isUnseen_8 rfl rfl ?_
    refine j_iload_n X (pc := 9) 2 dX5_isUnseen_9 rfl rfl ?_
    obtain ⟨b9, c9, f9, hr9, ho9, hc9, hw⟩ := hw
    obtain rfl := List.mem_singleton.mp hc9
    refine j_calli (j_runV (n8 := 1) (As := [vI a2]) (rest := []) X (pc := 10) hr9 (met_X5_isSeen (xl x) X.hl (xG x) h2 a0 a2 _ hw) ho9 (by decide) rfl q2012 q2014 qs39 q78 q2015 (by decide +kernel) dX5_isUnseen_10 rfl ⟨Nat.le_of_ble_eq_true rfl, Nat.le_of_ble_eq_true rfl⟩ (Nat.le_of_ble_eq_true rfl) ⟨Nat.le_of_ble_eq_true rfl, Nat.le_of_ble_eq_true rfl⟩) (fun y10 h10 hw => ?_)
    refine j_if_ne X (pc := 13) 21 dX5_isUnseen_13 (by decide) hw (fun hw => ?_) (fun hw => ?_)
    · refine j_aload_n X (pc := 16) 0 dX5_isUnseen_16 rfl rfl ?_
      refine j_iconst X (pc := 17) 2 dX5_isUnseen_17 (by decide) ?_
      refine j_put (ci := 4) X (pc := 18) in_X5 rfl (by decide) 0 (by decide) q1872 (Or.inl rfl) tyX5 tyX5_ok nmX5 rfl rfl (ty := .int) (tyX5_ok 0 (by decide)) rfl rfl dX5_isUnseen_18 hw (fun h18 hw => ?_)
      refine j_lv [(0, vR a0)] [0] rfl ?_
      refine j_cs (u' := 0) (v' := 0) (Nat.le_of_ble_eq_true rfl) (Nat.le_of_ble_eq_true rfl) ?_
      exact wk_X5_isUnseen_21 X er en hQ a0 h18 hw
    · refine j_lv [(0, vR a0)] [0] rfl ?_
      refine j_cs (u' := 0) (v' := 0) (Nat.le_of_ble_eq_true rfl) (Nat.le_of_ble_eq_true rfl) ?_
      exact wk_X5_isUnseen_21 X er en hQ a0 h10 hw
  · refine j_lv [(0, vR a0)] [0] rfl ?_
    refine j_cs (u' := 0) (v' := 0) (Nat.le_of_ble_eq_true rfl) (Nat.le_of_ble_eq_true rfl) ?_
    exact wk_X5_isUnseen_21 X er en hQ a0 h2 hw
abbrev cX5_columnOf : ByteArray := prog_19_method_55_code
def yX5_columnOf : MethodName := ⟨RX5, "columnOf", "(II)I"⟩
def dkwX5_columnOf_0 : List UInt8 := [42, 27, 28, 182, 0, 231, 153, 0, 7, 3, 167, 0, 8, 42, 28, 182, 0, 141, 172]
abbrev dktX5_columnOf_0 : List UInt8 := dkwX5_columnOf_0 ++ []
theorem dksX5_columnOf_0 : cX5_columnOf.data.toList.drop 0 = dktX5_columnOf_0 := by decide +kernel
theorem dX5_columnOf_0 : decode cX5_columnOf 0 = .ok (.aload_n 0, 1) := dk_42 (dk_at dksX5_columnOf_0 0 rfl rfl)
theorem dX5_columnOf_1 : decode cX5_columnOf 1 = .ok (.iload_n 1, 1) := dk_27 (dk_at dksX5_columnOf_0 1 rfl rfl)
theorem dX5_columnOf_2 : decode cX5_columnOf 2 = .ok (.iload_n 2, 1) := dk_28 (dk_at dksX5_columnOf_0 2 rfl rfl)
theorem dX5_columnOf_3 : decode cX5_columnOf 3 = .ok (.invokevirtual 231, 3) := dk_182 0 231 (dk_at dksX5_columnOf_0 3 rfl rfl)
theorem dX5_columnOf_6 : decode cX5_columnOf 6 = .ok (.ifCond .eq 7, 3) := dk_153 0 7 (dk_at dksX5_columnOf_0 6 rfl rfl)
theorem dX5_columnOf_9 : decode cX5_columnOf 9 = .ok (.iconst 0, 1) := dk_3 (dk_at dksX5_columnOf_0 9 rfl rfl)
theorem dX5_columnOf_10 : decode cX5_columnOf 10 = .ok (.goto 8, 3) := dk_167 0 8 (dk_at dksX5_columnOf_0 10 rfl rfl)
theorem dX5_columnOf_13 : decode cX5_columnOf 13 = .ok (.aload_n 0, 1) := dk_42 (dk_at dksX5_columnOf_0 13 rfl rfl)
theorem dX5_columnOf_14 : decode cX5_columnOf 14 = .ok (.iload_n 2, 1) := dk_28 (dk_at dksX5_columnOf_0 14 rfl rfl)
theorem dX5_columnOf_15 : decode cX5_columnOf 15 = .ok (.invokevirtual 141, 3) := dk_182 0 141 (dk_at dksX5_columnOf_0 15 rfl rfl)
theorem dX5_columnOf_18 : decode cX5_columnOf 18 = .ok (.ireturn, 1) := dk_172 (dk_at dksX5_columnOf_0 18 rfl rfl)
theorem q2182 : (Jvm.Cond.methodLink "PlugboardModel" (231 : Nat) ({ cls := "PlugboardModel", name := "isUnseen", desc := "(II)Z" } : Jvm.MethodName)) ∈ lw_all := lw_g (lw_at lw_m9 192 rfl) rfl
theorem q2184 : (Jvm.Cond.instanceMethod ({ cls := "PlugboardModel", name := "isUnseen", desc := "(II)Z" } : Jvm.MethodName)) ∈ lw_all := lw_g (lw_at lw_m9 194 rfl) rfl
theorem q2185 : (Jvm.Cond.code ({ cls := "PlugboardModel", name := "isUnseen", desc := "(II)Z" } : Jvm.MethodName) prog_19_method_52_code (3 : Nat) (Option.some Jvm.ClassFile.FieldType.boolean)) ∈ lw_all := lw_g (lw_at lw_m9 195 rfl) rfl
abbrev rm_X5_columnOf : Room := { frames := 5, cells := 0, slots := 0, locals := 109 }
def w_X5_columnOf (a0 : Option Nat) (a1 : Int32) (a2 : Int32) (h : AH) (P : Int32 → AH → Prop) : Prop :=
  is_c h a0 [4] (
  w_X5_isUnseen a0 a1 a2 h (fun y3 h3 =>
  ((y3 = 0 →
    is_c h3 a0 [4] (
    w_X5_column a0 a2 h3 (fun y15 h15 =>
    P y15 h15))) ∧
   (¬ y3 = 0 →
    P 0 h3))))
theorem met_X5_columnOf (l : Launch) (hlt : l.stackTraces = false) (G : GG) (h : AH) (a0 : Option Nat) (a1 : Int32) (a2 : Int32) (P : Int32 → AH → Prop) (hw : w_X5_columnOf a0 a1 a2 h P) : ct_i l yX5_columnOf (ws_ yX5_columnOf cX5_columnOf 3 (Option.some Jvm.ClassFile.FieldType.int)) rm_X5_columnOf G h [vR a0, vI a1, vI a2] P := by
  refine j_starti hlt [(0, vR a0), (1, vI a1), (2, vI a2)] (plainFor_of_name (by decide)) rfl rfl (fun x X eG er en hQ => ?_)
  subst eG
  refine j_aload_n X (pc := 0) 0 dX5_columnOf_0 rfl rfl ?_
  refine j_iload_n X (pc := 1) 1 dX5_columnOf_1 rfl rfl ?_
  refine j_iload_n X (pc := 2) 2 dX5_columnOf_2 rfl rfl ?_
  obtain ⟨b9, c9, f9, hr9, ho9, hc9, hw⟩ := hw
  obtain rfl := List.mem_singleton.mp hc9
  refine j_calli (j_runV (n8 := 2) (As := [vI a1, vI a2]) (rest := []) X (pc := 3) hr9 (met_X5_isUnseen (xl x) X.hl (xG x) h a0 a1 a2 _ hw) ho9 (by decide) rfl q2182 q2184 qs59 q78 q2185 (by decide +kernel) dX5_columnOf_3 rfl ⟨Nat.le_of_ble_eq_true rfl, Nat.le_of_ble_eq_true rfl⟩ (Nat.le_of_ble_eq_true rfl) ⟨Nat.le_of_ble_eq_true rfl, Nat.le_of_ble_eq_true rfl⟩) (fun y3 h3 hw => ?_)
  refine j_if_eq X (pc := 6) 13 dX5_columnOf_6 (by decide) hw (fun hw => ?_) (fun hw => ?_)
  · refine j_aload_n X (pc := 13) 0 dX5_columnOf_13 rfl rfl ?_
    refine j_iload_n X (pc := 14) 2 dX5_columnOf_14 rfl rfl ?_
    obtain ⟨b9, c9, f9, hr9, ho9, hc9, hw⟩ := hw
    obtain rfl := List.mem_singleton.mp hc9
    refine j_calli (j_runV (n8 := 1) (As := [vI a2]) (rest := []) X (pc := 15) hr9 (met_X5_column (xl x) X.hl (xG x) h3 a0 a2 _ hw) ho9 (by decide) rfl q2047 q2049 qs46 q78 q2050 (by decide +kernel) dX5_columnOf_15 rfl ⟨Nat.le_of_ble_eq_true rfl, Nat.le_of_ble_eq_true rfl⟩ (Nat.le_of_ble_eq_true rfl) ⟨Nat.le_of_ble_eq_true rfl, Nat.le_of_ble_eq_true rfl⟩) (fun y15 h15 hw => ?_)
    exact j_iret X (pc := 18) hQ er (Nat.le_of_ble_eq_true rfl) (Nat.le_of_ble_eq_true rfl) dX5_columnOf_18 hw
  · refine j_iconst X (pc := 9) 0 dX5_columnOf_9 (by decide) ?_
    refine j_goto X (pc := 10) 18 dX5_columnOf_10 (by decide) ?_
    exact j_iret X (pc := 18) hQ er (Nat.le_of_ble_eq_true rfl) (Nat.le_of_ble_eq_true rfl) dX5_columnOf_18 hw
abbrev cX1_rowOf : ByteArray := prog_1_method_50_code
def yX1_rowOf : MethodName := ⟨RX1, "rowOf", "(II)I"⟩
def dkwX1_rowOf_0 : List UInt8 := [42, 27, 182, 0, 199, 78, 45, 42, 45, 28, 182, 0, 241, 182, 0, 253, 172]
abbrev dktX1_rowOf_0 : List UInt8 := dkwX1_rowOf_0 ++ []
theorem dksX1_rowOf_0 : cX1_rowOf.data.toList.drop 0 = dktX1_rowOf_0 := by decide +kernel
theorem dX1_rowOf_0 : decode cX1_rowOf 0 = .ok (.aload_n 0, 1) := dk_42 (dk_at dksX1_rowOf_0 0 rfl rfl)
theorem dX1_rowOf_1 : decode cX1_rowOf 1 = .ok (.iload_n 1, 1) := dk_27 (dk_at dksX1_rowOf_0 1 rfl rfl)
theorem dX1_rowOf_2 : decode cX1_rowOf 2 = .ok (.invokevirtual 199, 3) := dk_182 0 199 (dk_at dksX1_rowOf_0 2 rfl rfl)
theorem dX1_rowOf_5 : decode cX1_rowOf 5 = .ok (.astore_n 3, 1) := dk_78 (dk_at dksX1_rowOf_0 5 rfl rfl)
theorem dX1_rowOf_6 : decode cX1_rowOf 6 = .ok (.aload_n 3, 1) := dk_45 (dk_at dksX1_rowOf_0 6 rfl rfl)
theorem dX1_rowOf_7 : decode cX1_rowOf 7 = .ok (.aload_n 0, 1) := dk_42 (dk_at dksX1_rowOf_0 7 rfl rfl)
theorem dX1_rowOf_8 : decode cX1_rowOf 8 = .ok (.aload_n 3, 1) := dk_45 (dk_at dksX1_rowOf_0 8 rfl rfl)
theorem dX1_rowOf_9 : decode cX1_rowOf 9 = .ok (.iload_n 2, 1) := dk_28 (dk_at dksX1_rowOf_0 9 rfl rfl)
theorem dX1_rowOf_10 : decode cX1_rowOf 10 = .ok (.invokevirtual 241, 3) := dk_182 0 241 (dk_at dksX1_rowOf_0 10 rfl rfl)
theorem dX1_rowOf_13 : decode cX1_rowOf 13 = .ok (.invokevirtual 253, 3) := dk_182 0 253 (dk_at dksX1_rowOf_0 13 rfl rfl)
theorem dX1_rowOf_16 : decode cX1_rowOf 16 = .ok (.ireturn, 1) := dk_172 (dk_at dksX1_rowOf_0 16 rfl rfl)
abbrev rm_X1_rowOf : Room := { frames := 9, cells := 3, slots := 13, locals := 146 }
def w_X1_rowOf (a0 : Option Nat) (a1 : Int32) (a2 : Int32) (h : AH) (P : Int32 → AH → Prop) (PX : String → AH → Prop) : Prop :=
  is_c h a0 [0] (
  w_X1_board a0 a1 h (fun y2 h2 =>
  is_c h2 a0 [0] (
  w_X1_shape a0 y2 a2 h2 (fun y10 h10 =>
  is_c h10 y2 [2] (
  w_X3_rowOf y2 y10 h10 (fun y13 h13 =>
  P y13 h13))) PX)) PX)
theorem met_X1_rowOf (l : Launch) (hlt : l.stackTraces = false) (G : GG) (h : AH) (a0 : Option Nat) (a1 : Int32) (a2 : Int32) (P : Int32 → AH → Prop) (PX : String → AH → Prop) (hw : w_X1_rowOf a0 a1 a2 h P PX) : cx_i l yX1_rowOf (ws_ yX1_rowOf cX1_rowOf 4 (Option.some Jvm.ClassFile.FieldType.int)) rm_X1_rowOf G h [vR a0, vI a1, vI a2] P PX := by
  refine j_startXi hlt [(0, vR a0), (1, vI a1), (2, vI a2)] (by decide) rfl rfl (fun x X eG er en hQ hT hex => ?_)
  subst eG
  refine j_aload_n X (pc := 0) 0 dX1_rowOf_0 rfl rfl ?_
  refine j_iload_n X (pc := 1) 1 dX1_rowOf_1 rfl rfl ?_
  obtain ⟨b9, c9, f9, hr9, ho9, hc9, hw⟩ := hw
  obtain rfl := List.mem_singleton.mp hc9
  refine j_callXq (j_runVX (n8 := 1) (As := [vI a1]) (rest := []) X (pc := 2) hr9 (met_X1_board (xl x) X.hl (xG x) h a0 a1 _ _ hw) ho9 (by decide) rfl q297 q299 qs0 q71 q300 (by decide +kernel) dX1_rowOf_2 rfl ⟨Nat.le_of_ble_eq_true rfl, Nat.le_of_ble_eq_true rfl⟩ (Nat.le_of_ble_eq_true rfl) ⟨Nat.le_of_ble_eq_true rfl, Nat.le_of_ble_eq_true rfl⟩) (fun E h9 hx => j_out X hT hex (Nat.le_of_ble_eq_true rfl) (Nat.le_of_ble_eq_true rfl) hx) (fun y2 h2 hw => ?_)
  refine j_astore_n X (pc := 5) [(3, vR y2), (0, vR a0), (1, vI a1), (2, vI a2)] dX1_rowOf_5 rfl (Nat.le_of_ble_eq_true rfl) rfl ?_
  refine j_aload_n X (pc := 6) 0 dX1_rowOf_6 rfl rfl ?_
  refine j_aload_n X (pc := 7) 1 dX1_rowOf_7 rfl rfl ?_
  refine j_aload_n X (pc := 8) 0 dX1_rowOf_8 rfl rfl ?_
  refine j_iload_n X (pc := 9) 3 dX1_rowOf_9 rfl rfl ?_
  obtain ⟨b9, c9, f9, hr9, ho9, hc9, hw⟩ := hw
  obtain rfl := List.mem_singleton.mp hc9
  refine j_callXq (j_runVX (n8 := 2) (As := [vR y2, vI a2]) (rest := [vR y2]) X (pc := 10) hr9 (met_X1_shape (xl x) X.hl (xG x) h2 a0 y2 a2 _ _ hw) ho9 (by decide) rfl q1075 q1077 qs9 q71 q1078 (by decide +kernel) dX1_rowOf_10 rfl ⟨Nat.le_of_ble_eq_true rfl, Nat.le_of_ble_eq_true rfl⟩ (Nat.le_of_ble_eq_true rfl) ⟨Nat.le_of_ble_eq_true rfl, Nat.le_of_ble_eq_true rfl⟩) (fun E h9 hx => j_out X hT hex (Nat.le_of_ble_eq_true rfl) (Nat.le_of_ble_eq_true rfl) hx) (fun y10 h10 hw => ?_)
  obtain ⟨b9, c9, f9, hr9, ho9, hc9, hw⟩ := hw
  obtain rfl := List.mem_singleton.mp hc9
  refine j_calli (j_runV (n8 := 1) (As := [vR y10]) (rest := []) X (pc := 13) hr9 (met_X3_rowOf (xl x) X.hl (xG x) h10 y2 y10 _ hw) ho9 (by decide) rfl q1119 q1120 q1121 q76 q1122 (by decide +kernel) dX1_rowOf_13 rfl ⟨Nat.le_of_ble_eq_true rfl, Nat.le_of_ble_eq_true rfl⟩ (Nat.le_of_ble_eq_true rfl) ⟨Nat.le_of_ble_eq_true rfl, Nat.le_of_ble_eq_true rfl⟩) (fun y13 h13 hw => ?_)
  exact j_iret X (pc := 16) hQ er (Nat.le_of_ble_eq_true rfl) (Nat.le_of_ble_eq_true rfl) dX1_rowOf_16 hw
abbrev cX0_rowOf : ByteArray := method_24_code
def yX0_rowOf : MethodName := ⟨RX0, "rowOf", "(LPlugboard;II[J)I"⟩
def dkwX0_rowOf_0 : List UInt8 := [45, 3, 42, 27, 28, 182, 0, 88, 133, 80, 167, 0, 11, 58, 4, 4, 172, 58, 4, 5, 172, 3, 172]
abbrev dktX0_rowOf_0 : List UInt8 := dkwX0_rowOf_0 ++ []
theorem dksX0_rowOf_0 : cX0_rowOf.data.toList.drop 0 = dktX0_rowOf_0 := by decide +kernel
theorem dX0_rowOf_0 : decode cX0_rowOf 0 = .ok (.aload_n 3, 1) := dk_45 (dk_at dksX0_rowOf_0 0 rfl rfl)
theorem dX0_rowOf_1 : decode cX0_rowOf 1 = .ok (.iconst 0, 1) := dk_3 (dk_at dksX0_rowOf_0 1 rfl rfl)
theorem dX0_rowOf_2 : decode cX0_rowOf 2 = .ok (.aload_n 0, 1) := dk_42 (dk_at dksX0_rowOf_0 2 rfl rfl)
theorem dX0_rowOf_3 : decode cX0_rowOf 3 = .ok (.iload_n 1, 1) := dk_27 (dk_at dksX0_rowOf_0 3 rfl rfl)
theorem dX0_rowOf_4 : decode cX0_rowOf 4 = .ok (.iload_n 2, 1) := dk_28 (dk_at dksX0_rowOf_0 4 rfl rfl)
theorem dX0_rowOf_5 : decode cX0_rowOf 5 = .ok (.invokevirtual 88, 3) := dk_182 0 88 (dk_at dksX0_rowOf_0 5 rfl rfl)
theorem dX0_rowOf_8 : decode cX0_rowOf 8 = .ok (.i2l, 1) := dk_133 (dk_at dksX0_rowOf_0 8 rfl rfl)
theorem dX0_rowOf_9 : decode cX0_rowOf 9 = .ok (.lastore, 1) := dk_80 (dk_at dksX0_rowOf_0 9 rfl rfl)
theorem dX0_rowOf_10 : decode cX0_rowOf 10 = .ok (.goto 11, 3) := dk_167 0 11 (dk_at dksX0_rowOf_0 10 rfl rfl)
theorem dX0_rowOf_13 : decode cX0_rowOf 13 = .ok (.astore 4, 2) := dk_58 4 (dk_at dksX0_rowOf_0 13 rfl rfl)
theorem dX0_rowOf_15 : decode cX0_rowOf 15 = .ok (.iconst 1, 1) := dk_4 (dk_at dksX0_rowOf_0 15 rfl rfl)
theorem dX0_rowOf_16 : decode cX0_rowOf 16 = .ok (.ireturn, 1) := dk_172 (dk_at dksX0_rowOf_0 16 rfl rfl)
theorem dX0_rowOf_17 : decode cX0_rowOf 17 = .ok (.astore 4, 2) := dk_58 4 (dk_at dksX0_rowOf_0 17 rfl rfl)
theorem dX0_rowOf_19 : decode cX0_rowOf 19 = .ok (.iconst 2, 1) := dk_5 (dk_at dksX0_rowOf_0 19 rfl rfl)
theorem dX0_rowOf_20 : decode cX0_rowOf 20 = .ok (.ireturn, 1) := dk_172 (dk_at dksX0_rowOf_0 20 rfl rfl)
theorem dX0_rowOf_21 : decode cX0_rowOf 21 = .ok (.iconst 0, 1) := dk_3 (dk_at dksX0_rowOf_0 21 rfl rfl)
theorem dX0_rowOf_22 : decode cX0_rowOf 22 = .ok (.ireturn, 1) := dk_172 (dk_at dksX0_rowOf_0 22 rfl rfl)
theorem q1420 : (Jvm.Cond.methodLink "PlugboardLaw" (88 : Nat) ({ cls := "Plugboard", name := "rowOf", desc := "(II)I" } : Jvm.MethodName)) ∈ lw_all := lw_g (lw_at lw_m6 150 rfl) rfl
theorem q1421 : (Jvm.Cond.instanceMethod ({ cls := "Plugboard", name := "rowOf", desc := "(II)I" } : Jvm.MethodName)) ∈ lw_all := lw_g (lw_at lw_m6 151 rfl) rfl
theorem q1422 : (Jvm.Cond.selects "Plugboard" ({ cls := "Plugboard", name := "rowOf", desc := "(II)I" } : Jvm.MethodName) ({ cls := "Plugboard", name := "rowOf", desc := "(II)I" } : Jvm.MethodName)) ∈ lw_all := lw_g (lw_at lw_m6 152 rfl) rfl
theorem q1423 : (Jvm.Cond.code ({ cls := "Plugboard", name := "rowOf", desc := "(II)I" } : Jvm.MethodName) prog_1_method_50_code (4 : Nat) (Option.some Jvm.ClassFile.FieldType.int)) ∈ lw_all := lw_g (lw_at lw_m6 153 rfl) rfl
abbrev rm_X0_rowOf : Room := { frames := 10, cells := 3, slots := 13, locals := 169 }
def w_X0_rowOf (a0 : Option Nat) (a1 : Int32) (a2 : Int32) (a3 : Option Nat) (h : AH) (P : Int32 → AH → Prop) : Prop :=
  is_c h a0 [0] (
  w_X1_rowOf a0 a1 a2 h (fun y5 h5 =>
  s_L h5 a3 0 (Int32.toInt64 y5) fun h9 =>
  P 0 h9)
    (fun E9 h9 => (E9 = "java/lang/IllegalArgumentException" ∧ ∀ q9 : Nat,
    P 1 h9) ∨
    (E9 = "java/util/NoSuchElementException" ∧ ∀ q9 : Nat,
    P 2 h9)))
theorem met_X0_rowOf (l : Launch) (hlt : l.stackTraces = false) (G : GG) (h : AH) (a0 : Option Nat) (a1 : Int32) (a2 : Int32) (a3 : Option Nat) (P : Int32 → AH → Prop) (hw : w_X0_rowOf a0 a1 a2 a3 h P) : ct_i l yX0_rowOf (wsW_ yX0_rowOf cX0_rowOf 5 (Option.some Jvm.ClassFile.FieldType.int) [((0 : Nat), (10 : Nat), (13 : Nat), (13 : Nat)), ((0 : Nat), (10 : Nat), (17 : Nat), (21 : Nat))]) rm_X0_rowOf G h [vR a0, vI a1, vI a2, vR a3] P := by
  refine j_startWi hlt [(0, vR a0), (1, vI a1), (2, vI a2), (3, vR a3)] (by decide) rfl rfl (fun x X eG er en hQ hex => ?_)
  subst eG
  refine j_aload_n X (pc := 0) 3 dX0_rowOf_0 rfl rfl ?_
  refine j_iconst X (pc := 1) 0 dX0_rowOf_1 (by decide) ?_
  refine j_aload_n X (pc := 2) 0 dX0_rowOf_2 rfl rfl ?_
  refine j_iload_n X (pc := 3) 1 dX0_rowOf_3 rfl rfl ?_
  refine j_iload_n X (pc := 4) 2 dX0_rowOf_4 rfl rfl ?_
  obtain ⟨b9, c9, f9, hr9, ho9, hc9, hw⟩ := hw
  obtain rfl := List.mem_singleton.mp hc9
  refine j_callXi (j_runVX (n8 := 2) (As := [vI a1, vI a2]) (rest := [vI 0, vR a3]) X (pc := 5) hr9 (met_X1_rowOf (xl x) X.hl (xG x) h a0 a1 a2 _ _ hw) ho9 (by decide) rfl q1420 q1421 q1422 q71 q1423 (by decide +kernel) dX0_rowOf_5 rfl ⟨Nat.le_of_ble_eq_true rfl, Nat.le_of_ble_eq_true rfl⟩ (Nat.le_of_ble_eq_true rfl) ⟨Nat.le_of_ble_eq_true rfl, Nat.le_of_ble_eq_true rfl⟩) ?_ (fun y5 h5 hw => ?_)
  · intro E9 h9 hx
    rcases hx with ⟨rfl, hw⟩ | ⟨rfl, hw⟩
    · refine j_catch X (pc := 5) "java/lang/IllegalArgumentException" hex [] [⟨0, 10, 17, 21⟩] ⟨0, 10, 13, 13⟩ rfl (by intro y hy; cases hy) (by decide) (by decide) q291 q312 (fun q9 => ?_)
      have hw := hw q9
      refine j_astore X (pc := 13) [(4, vR (some q9)), (0, vR a0), (1, vI a1), (2, vI a2), (3, vR a3)] dX0_rowOf_13 (Nat.le_of_ble_eq_true rfl) rfl ?_
      refine j_iconst X (pc := 15) 1 dX0_rowOf_15 (by decide) ?_
      exact j_iret X (pc := 16) hQ er (Nat.le_of_ble_eq_true rfl) (Nat.le_of_ble_eq_true rfl) dX0_rowOf_16 hw
    · refine j_catch X (pc := 5) "java/util/NoSuchElementException" hex [⟨0, 10, 13, 13⟩] [] ⟨0, 10, 17, 21⟩ rfl (by intro y hy; simp only [List.mem_cons, List.not_mem_nil, or_false] at hy; subst hy; exact Or.inr ⟨by decide, "java/lang/IllegalArgumentException", q291, by decide +kernel⟩) (by decide) (by decide) q1068 q537 (fun q9 => ?_)
      have hw := hw q9
      refine j_astore X (pc := 17) [(4, vR (some q9)), (0, vR a0), (1, vI a1), (2, vI a2), (3, vR a3)] dX0_rowOf_17 (Nat.le_of_ble_eq_true rfl) rfl ?_
      refine j_iconst X (pc := 19) 2 dX0_rowOf_19 (by decide) ?_
      exact j_iret X (pc := 20) hQ er (Nat.le_of_ble_eq_true rfl) (Nat.le_of_ble_eq_true rfl) dX0_rowOf_20 hw
  refine j_i2l X (pc := 8) dX0_rowOf_8 ?_
  refine j_last X (pc := 9) dX0_rowOf_9 hw (fun h9 hw => ?_)
  refine j_goto X (pc := 10) 21 dX0_rowOf_10 (by decide) ?_
  refine j_iconst X (pc := 21) 0 dX0_rowOf_21 (by decide) ?_
  exact j_iret X (pc := 22) hQ er (Nat.le_of_ble_eq_true rfl) (Nat.le_of_ble_eq_true rfl) dX0_rowOf_22 hw
abbrev cX5_rowOf : ByteArray := prog_19_method_56_code
def yX5_rowOf : MethodName := ⟨RX5, "rowOf", "(II)I"⟩
def dkwX5_rowOf_0 : List UInt8 := [42, 27, 28, 182, 0, 231, 153, 0, 7, 3, 167, 0, 8, 42, 28, 182, 0, 145, 172]
abbrev dktX5_rowOf_0 : List UInt8 := dkwX5_rowOf_0 ++ []
theorem dksX5_rowOf_0 : cX5_rowOf.data.toList.drop 0 = dktX5_rowOf_0 := by decide +kernel
theorem dX5_rowOf_0 : decode cX5_rowOf 0 = .ok (.aload_n 0, 1) := dk_42 (dk_at dksX5_rowOf_0 0 rfl rfl)
theorem dX5_rowOf_1 : decode cX5_rowOf 1 = .ok (.iload_n 1, 1) := dk_27 (dk_at dksX5_rowOf_0 1 rfl rfl)
theorem dX5_rowOf_2 : decode cX5_rowOf 2 = .ok (.iload_n 2, 1) := dk_28 (dk_at dksX5_rowOf_0 2 rfl rfl)
theorem dX5_rowOf_3 : decode cX5_rowOf 3 = .ok (.invokevirtual 231, 3) := dk_182 0 231 (dk_at dksX5_rowOf_0 3 rfl rfl)
theorem dX5_rowOf_6 : decode cX5_rowOf 6 = .ok (.ifCond .eq 7, 3) := dk_153 0 7 (dk_at dksX5_rowOf_0 6 rfl rfl)
theorem dX5_rowOf_9 : decode cX5_rowOf 9 = .ok (.iconst 0, 1) := dk_3 (dk_at dksX5_rowOf_0 9 rfl rfl)
theorem dX5_rowOf_10 : decode cX5_rowOf 10 = .ok (.goto 8, 3) := dk_167 0 8 (dk_at dksX5_rowOf_0 10 rfl rfl)
theorem dX5_rowOf_13 : decode cX5_rowOf 13 = .ok (.aload_n 0, 1) := dk_42 (dk_at dksX5_rowOf_0 13 rfl rfl)
theorem dX5_rowOf_14 : decode cX5_rowOf 14 = .ok (.iload_n 2, 1) := dk_28 (dk_at dksX5_rowOf_0 14 rfl rfl)
theorem dX5_rowOf_15 : decode cX5_rowOf 15 = .ok (.invokevirtual 145, 3) := dk_182 0 145 (dk_at dksX5_rowOf_0 15 rfl rfl)
theorem dX5_rowOf_18 : decode cX5_rowOf 18 = .ok (.ireturn, 1) := dk_172 (dk_at dksX5_rowOf_0 18 rfl rfl)
abbrev rm_X5_rowOf : Room := { frames := 5, cells := 0, slots := 0, locals := 109 }
def w_X5_rowOf (a0 : Option Nat) (a1 : Int32) (a2 : Int32) (h : AH) (P : Int32 → AH → Prop) : Prop :=
  is_c h a0 [4] (
  w_X5_isUnseen a0 a1 a2 h (fun y3 h3 =>
  ((y3 = 0 →
    is_c h3 a0 [4] (
    w_X5_row a0 a2 h3 (fun y15 h15 =>
    P y15 h15))) ∧
   (¬ y3 = 0 →
    P 0 h3))))
theorem met_X5_rowOf (l : Launch) (hlt : l.stackTraces = false) (G : GG) (h : AH) (a0 : Option Nat) (a1 : Int32) (a2 : Int32) (P : Int32 → AH → Prop) (hw : w_X5_rowOf a0 a1 a2 h P) : ct_i l yX5_rowOf (ws_ yX5_rowOf cX5_rowOf 3 (Option.some Jvm.ClassFile.FieldType.int)) rm_X5_rowOf G h [vR a0, vI a1, vI a2] P := by
  refine j_starti hlt [(0, vR a0), (1, vI a1), (2, vI a2)] (plainFor_of_name (by decide)) rfl rfl (fun x X eG er en hQ => ?_)
  subst eG
  refine j_aload_n X (pc := 0) 0 dX5_rowOf_0 rfl rfl ?_
  refine j_iload_n X (pc := 1) 1 dX5_rowOf_1 rfl rfl ?_
  refine j_iload_n X (pc := 2) 2 dX5_rowOf_2 rfl rfl ?_
  obtain ⟨b9, c9, f9, hr9, ho9, hc9, hw⟩ := hw
  obtain rfl := List.mem_singleton.mp hc9
  refine j_calli (j_runV (n8 := 2) (As := [vI a1, vI a2]) (rest := []) X (pc := 3) hr9 (met_X5_isUnseen (xl x) X.hl (xG x) h a0 a1 a2 _ hw) ho9 (by decide) rfl q2182 q2184 qs59 q78 q2185 (by decide +kernel) dX5_rowOf_3 rfl ⟨Nat.le_of_ble_eq_true rfl, Nat.le_of_ble_eq_true rfl⟩ (Nat.le_of_ble_eq_true rfl) ⟨Nat.le_of_ble_eq_true rfl, Nat.le_of_ble_eq_true rfl⟩) (fun y3 h3 hw => ?_)
  refine j_if_eq X (pc := 6) 13 dX5_rowOf_6 (by decide) hw (fun hw => ?_) (fun hw => ?_)
  · refine j_aload_n X (pc := 13) 0 dX5_rowOf_13 rfl rfl ?_
    refine j_iload_n X (pc := 14) 2 dX5_rowOf_14 rfl rfl ?_
    obtain ⟨b9, c9, f9, hr9, ho9, hc9, hw⟩ := hw
    obtain rfl := List.mem_singleton.mp hc9
    refine j_calli (j_runV (n8 := 1) (As := [vI a2]) (rest := []) X (pc := 15) hr9 (met_X5_row (xl x) X.hl (xG x) h3 a0 a2 _ hw) ho9 (by decide) rfl q2051 q2053 qs47 q78 q2054 (by decide +kernel) dX5_rowOf_15 rfl ⟨Nat.le_of_ble_eq_true rfl, Nat.le_of_ble_eq_true rfl⟩ (Nat.le_of_ble_eq_true rfl) ⟨Nat.le_of_ble_eq_true rfl, Nat.le_of_ble_eq_true rfl⟩) (fun y15 h15 hw => ?_)
    exact j_iret X (pc := 18) hQ er (Nat.le_of_ble_eq_true rfl) (Nat.le_of_ble_eq_true rfl) dX5_rowOf_18 hw
  · refine j_iconst X (pc := 9) 0 dX5_rowOf_9 (by decide) ?_
    refine j_goto X (pc := 10) 18 dX5_rowOf_10 (by decide) ?_
    exact j_iret X (pc := 18) hQ er (Nat.le_of_ble_eq_true rfl) (Nat.le_of_ble_eq_true rfl) dX5_rowOf_18 hw
abbrev cX1_rankOf : ByteArray := prog_1_method_51_code
def yX1_rankOf : MethodName := ⟨RX1, "rankOf", "(II)I"⟩
def dkwX1_rankOf_0 : List UInt8 := [42, 27, 182, 0, 199, 78, 45, 42, 45, 28, 182, 0, 241, 182, 1, 15, 172]
abbrev dktX1_rankOf_0 : List UInt8 := dkwX1_rankOf_0 ++ []
theorem dksX1_rankOf_0 : cX1_rankOf.data.toList.drop 0 = dktX1_rankOf_0 := by decide +kernel
theorem dX1_rankOf_0 : decode cX1_rankOf 0 = .ok (.aload_n 0, 1) := dk_42 (dk_at dksX1_rankOf_0 0 rfl rfl)
theorem dX1_rankOf_1 : decode cX1_rankOf 1 = .ok (.iload_n 1, 1) := dk_27 (dk_at dksX1_rankOf_0 1 rfl rfl)
theorem dX1_rankOf_2 : decode cX1_rankOf 2 = .ok (.invokevirtual 199, 3) := dk_182 0 199 (dk_at dksX1_rankOf_0 2 rfl rfl)
theorem dX1_rankOf_5 : decode cX1_rankOf 5 = .ok (.astore_n 3, 1) := dk_78 (dk_at dksX1_rankOf_0 5 rfl rfl)
theorem dX1_rankOf_6 : decode cX1_rankOf 6 = .ok (.aload_n 3, 1) := dk_45 (dk_at dksX1_rankOf_0 6 rfl rfl)
theorem dX1_rankOf_7 : decode cX1_rankOf 7 = .ok (.aload_n 0, 1) := dk_42 (dk_at dksX1_rankOf_0 7 rfl rfl)
theorem dX1_rankOf_8 : decode cX1_rankOf 8 = .ok (.aload_n 3, 1) := dk_45 (dk_at dksX1_rankOf_0 8 rfl rfl)
theorem dX1_rankOf_9 : decode cX1_rankOf 9 = .ok (.iload_n 2, 1) := dk_28 (dk_at dksX1_rankOf_0 9 rfl rfl)
theorem dX1_rankOf_10 : decode cX1_rankOf 10 = .ok (.invokevirtual 241, 3) := dk_182 0 241 (dk_at dksX1_rankOf_0 10 rfl rfl)
theorem dX1_rankOf_13 : decode cX1_rankOf 13 = .ok (.invokevirtual 271, 3) := dk_182 1 15 (dk_at dksX1_rankOf_0 13 rfl rfl)
theorem dX1_rankOf_16 : decode cX1_rankOf 16 = .ok (.ireturn, 1) := dk_172 (dk_at dksX1_rankOf_0 16 rfl rfl)
abbrev rm_X1_rankOf : Room := { frames := 9, cells := 3, slots := 13, locals := 146 }
def w_X1_rankOf (a0 : Option Nat) (a1 : Int32) (a2 : Int32) (h : AH) (P : Int32 → AH → Prop) (PX : String → AH → Prop) : Prop :=
  is_c h a0 [0] (
  w_X1_board a0 a1 h (fun y2 h2 =>
  is_c h2 a0 [0] (
  w_X1_shape a0 y2 a2 h2 (fun y10 h10 =>
  is_c h10 y2 [2] (
  w_X3_rankOf y2 y10 h10 (fun y13 h13 =>
  P y13 h13))) PX)) PX)
theorem met_X1_rankOf (l : Launch) (hlt : l.stackTraces = false) (G : GG) (h : AH) (a0 : Option Nat) (a1 : Int32) (a2 : Int32) (P : Int32 → AH → Prop) (PX : String → AH → Prop) (hw : w_X1_rankOf a0 a1 a2 h P PX) : cx_i l yX1_rankOf (ws_ yX1_rankOf cX1_rankOf 4 (Option.some Jvm.ClassFile.FieldType.int)) rm_X1_rankOf G h [vR a0, vI a1, vI a2] P PX := by
  refine j_startXi hlt [(0, vR a0), (1, vI a1), (2, vI a2)] (by decide) rfl rfl (fun x X eG er en hQ hT hex => ?_)
  subst eG
  refine j_aload_n X (pc := 0) 0 dX1_rankOf_0 rfl rfl ?_
  refine j_iload_n X (pc := 1) 1 dX1_rankOf_1 rfl rfl ?_
  obtain ⟨b9, c9, f9, hr9, ho9, hc9, hw⟩ := hw
  obtain rfl := List.mem_singleton.mp hc9
  refine j_callXq (j_runVX (n8 := 1) (As := [vI a1]) (rest := []) X (pc := 2) hr9 (met_X1_board (xl x) X.hl (xG x) h a0 a1 _ _ hw) ho9 (by decide) rfl q297 q299 qs0 q71 q300 (by decide +kernel) dX1_rankOf_2 rfl ⟨Nat.le_of_ble_eq_true rfl, Nat.le_of_ble_eq_true rfl⟩ (Nat.le_of_ble_eq_true rfl) ⟨Nat.le_of_ble_eq_true rfl, Nat.le_of_ble_eq_true rfl⟩) (fun E h9 hx => j_out X hT hex (Nat.le_of_ble_eq_true rfl) (Nat.le_of_ble_eq_true rfl) hx) (fun y2 h2 hw => ?_)
  refine j_astore_n X (pc := 5) [(3, vR y2), (0, vR a0), (1, vI a1), (2, vI a2)] dX1_rankOf_5 rfl (Nat.le_of_ble_eq_true rfl) rfl ?_
  refine j_aload_n X (pc := 6) 0 dX1_rankOf_6 rfl rfl ?_
  refine j_aload_n X (pc := 7) 1 dX1_rankOf_7 rfl rfl ?_
  refine j_aload_n X (pc := 8) 0 dX1_rankOf_8 rfl rfl ?_
  refine j_iload_n X (pc := 9) 3 dX1_rankOf_9 rfl rfl ?_
  obtain ⟨b9, c9, f9, hr9, ho9, hc9, hw⟩ := hw
  obtain rfl := List.mem_singleton.mp hc9
  refine j_callXq (j_runVX (n8 := 2) (As := [vR y2, vI a2]) (rest := [vR y2]) X (pc := 10) hr9 (met_X1_shape (xl x) X.hl (xG x) h2 a0 y2 a2 _ _ hw) ho9 (by decide) rfl q1075 q1077 qs9 q71 q1078 (by decide +kernel) dX1_rankOf_10 rfl ⟨Nat.le_of_ble_eq_true rfl, Nat.le_of_ble_eq_true rfl⟩ (Nat.le_of_ble_eq_true rfl) ⟨Nat.le_of_ble_eq_true rfl, Nat.le_of_ble_eq_true rfl⟩) (fun E h9 hx => j_out X hT hex (Nat.le_of_ble_eq_true rfl) (Nat.le_of_ble_eq_true rfl) hx) (fun y10 h10 hw => ?_)
  obtain ⟨b9, c9, f9, hr9, ho9, hc9, hw⟩ := hw
  obtain rfl := List.mem_singleton.mp hc9
  refine j_calli (j_runV (n8 := 1) (As := [vR y10]) (rest := []) X (pc := 13) hr9 (met_X3_rankOf (xl x) X.hl (xG x) h10 y2 y10 _ hw) ho9 (by decide) rfl q1193 q1194 q1195 q76 q1196 (by decide +kernel) dX1_rankOf_13 rfl ⟨Nat.le_of_ble_eq_true rfl, Nat.le_of_ble_eq_true rfl⟩ (Nat.le_of_ble_eq_true rfl) ⟨Nat.le_of_ble_eq_true rfl, Nat.le_of_ble_eq_true rfl⟩) (fun y13 h13 hw => ?_)
  exact j_iret X (pc := 16) hQ er (Nat.le_of_ble_eq_true rfl) (Nat.le_of_ble_eq_true rfl) dX1_rankOf_16 hw
abbrev cX0_rankOf : ByteArray := method_25_code
def yX0_rankOf : MethodName := ⟨RX0, "rankOf", "(LPlugboard;II[J)I"⟩
def dkwX0_rankOf_0 : List UInt8 := [45, 3, 42, 27, 28, 182, 0, 91, 133, 80, 167, 0, 11, 58, 4, 4, 172, 58, 4, 5, 172, 3, 172]
abbrev dktX0_rankOf_0 : List UInt8 := dkwX0_rankOf_0 ++ []
theorem dksX0_rankOf_0 : cX0_rankOf.data.toList.drop 0 = dktX0_rankOf_0 := by decide +kernel
theorem dX0_rankOf_0 : decode cX0_rankOf 0 = .ok (.aload_n 3, 1) := dk_45 (dk_at dksX0_rankOf_0 0 rfl rfl)
theorem dX0_rankOf_1 : decode cX0_rankOf 1 = .ok (.iconst 0, 1) := dk_3 (dk_at dksX0_rankOf_0 1 rfl rfl)
theorem dX0_rankOf_2 : decode cX0_rankOf 2 = .ok (.aload_n 0, 1) := dk_42 (dk_at dksX0_rankOf_0 2 rfl rfl)
theorem dX0_rankOf_3 : decode cX0_rankOf 3 = .ok (.iload_n 1, 1) := dk_27 (dk_at dksX0_rankOf_0 3 rfl rfl)
theorem dX0_rankOf_4 : decode cX0_rankOf 4 = .ok (.iload_n 2, 1) := dk_28 (dk_at dksX0_rankOf_0 4 rfl rfl)
theorem dX0_rankOf_5 : decode cX0_rankOf 5 = .ok (.invokevirtual 91, 3) := dk_182 0 91 (dk_at dksX0_rankOf_0 5 rfl rfl)
theorem dX0_rankOf_8 : decode cX0_rankOf 8 = .ok (.i2l, 1) := dk_133 (dk_at dksX0_rankOf_0 8 rfl rfl)
theorem dX0_rankOf_9 : decode cX0_rankOf 9 = .ok (.lastore, 1) := dk_80 (dk_at dksX0_rankOf_0 9 rfl rfl)
theorem dX0_rankOf_10 : decode cX0_rankOf 10 = .ok (.goto 11, 3) := dk_167 0 11 (dk_at dksX0_rankOf_0 10 rfl rfl)
theorem dX0_rankOf_13 : decode cX0_rankOf 13 = .ok (.astore 4, 2) := dk_58 4 (dk_at dksX0_rankOf_0 13 rfl rfl)
theorem dX0_rankOf_15 : decode cX0_rankOf 15 = .ok (.iconst 1, 1) := dk_4 (dk_at dksX0_rankOf_0 15 rfl rfl)
theorem dX0_rankOf_16 : decode cX0_rankOf 16 = .ok (.ireturn, 1) := dk_172 (dk_at dksX0_rankOf_0 16 rfl rfl)
theorem dX0_rankOf_17 : decode cX0_rankOf 17 = .ok (.astore 4, 2) := dk_58 4 (dk_at dksX0_rankOf_0 17 rfl rfl)
theorem dX0_rankOf_19 : decode cX0_rankOf 19 = .ok (.iconst 2, 1) := dk_5 (dk_at dksX0_rankOf_0 19 rfl rfl)
theorem dX0_rankOf_20 : decode cX0_rankOf 20 = .ok (.ireturn, 1) := dk_172 (dk_at dksX0_rankOf_0 20 rfl rfl)
theorem dX0_rankOf_21 : decode cX0_rankOf 21 = .ok (.iconst 0, 1) := dk_3 (dk_at dksX0_rankOf_0 21 rfl rfl)
theorem dX0_rankOf_22 : decode cX0_rankOf 22 = .ok (.ireturn, 1) := dk_172 (dk_at dksX0_rankOf_0 22 rfl rfl)
theorem q1427 : (Jvm.Cond.methodLink "PlugboardLaw" (91 : Nat) ({ cls := "Plugboard", name := "rankOf", desc := "(II)I" } : Jvm.MethodName)) ∈ lw_all := lw_g (lw_at lw_m6 157 rfl) rfl
theorem q1428 : (Jvm.Cond.instanceMethod ({ cls := "Plugboard", name := "rankOf", desc := "(II)I" } : Jvm.MethodName)) ∈ lw_all := lw_g (lw_at lw_m6 158 rfl) rfl
theorem q1429 : (Jvm.Cond.selects "Plugboard" ({ cls := "Plugboard", name := "rankOf", desc := "(II)I" } : Jvm.MethodName) ({ cls := "Plugboard", name := "rankOf", desc := "(II)I" } : Jvm.MethodName)) ∈ lw_all := lw_g (lw_at lw_m6 159 rfl) rfl
theorem q1430 : (Jvm.Cond.code ({ cls := "Plugboard", name := "rankOf", desc := "(II)I" } : Jvm.MethodName) prog_1_method_51_code (4 : Nat) (Option.some Jvm.ClassFile.FieldType.int)) ∈ lw_all := lw_g (lw_at lw_m6 160 rfl) rfl
abbrev rm_X0_rankOf : Room := { frames := 10, cells := 3, slots := 13, locals := 169 }
def w_X0_rankOf (a0 : Option Nat) (a1 : Int32) (a2 : Int32) (a3 : Option Nat) (h : AH) (P : Int32 → AH → Prop) : Prop :=
  is_c h a0 [0] (
  w_X1_rankOf a0 a1 a2 h (fun y5 h5 =>
  s_L h5 a3 0 (Int32.toInt64 y5) fun h9 =>
  P 0 h9)
    (fun E9 h9 => (E9 = "java/lang/IllegalArgumentException" ∧ ∀ q9 : Nat,
    P 1 h9) ∨
    (E9 = "java/util/NoSuchElementException" ∧ ∀ q9 : Nat,
    P 2 h9)))
theorem met_X0_rankOf (l : Launch) (hlt : l.stackTraces = false) (G : GG) (h : AH) (a0 : Option Nat) (a1 : Int32) (a2 : Int32) (a3 : Option Nat) (P : Int32 → AH → Prop) (hw : w_X0_rankOf a0 a1 a2 a3 h P) : ct_i l yX0_rankOf (wsW_ yX0_rankOf cX0_rankOf 5 (Option.some Jvm.ClassFile.FieldType.int) [((0 : Nat), (10 : Nat), (13 : Nat), (13 : Nat)), ((0 : Nat), (10 : Nat), (17 : Nat), (21 : Nat))]) rm_X0_rankOf G h [vR a0, vI a1, vI a2, vR a3] P := by
  refine j_startWi hlt [(0, vR a0), (1, vI a1), (2, vI a2), (3, vR a3)] (by decide) rfl rfl (fun x X eG er en hQ hex => ?_)
  subst eG
  refine j_aload_n X (pc := 0) 3 dX0_rankOf_0 rfl rfl ?_
  refine j_iconst X (pc := 1) 0 dX0_rankOf_1 (by decide) ?_
  refine j_aload_n X (pc := 2) 0 dX0_rankOf_2 rfl rfl ?_
  refine j_iload_n X (pc := 3) 1 dX0_rankOf_3 rfl rfl ?_
  refine j_iload_n X (pc := 4) 2 dX0_rankOf_4 rfl rfl ?_
  obtain ⟨b9, c9, f9, hr9, ho9, hc9, hw⟩ := hw
  obtain rfl := List.mem_singleton.mp hc9
  refine j_callXi (j_runVX (n8 := 2) (As := [vI a1, vI a2]) (rest := [vI 0, vR a3]) X (pc := 5) hr9 (met_X1_rankOf (xl x) X.hl (xG x) h a0 a1 a2 _ _ hw) ho9 (by decide) rfl q1427 q1428 q1429 q71 q1430 (by decide +kernel) dX0_rankOf_5 rfl ⟨Nat.le_of_ble_eq_true rfl, Nat.le_of_ble_eq_true rfl⟩ (Nat.le_of_ble_eq_true rfl) ⟨Nat.le_of_ble_eq_true rfl, Nat.le_of_ble_eq_true rfl⟩) ?_ (fun y5 h5 hw => ?_)
  · intro E9 h9 hx
    rcases hx with ⟨rfl, hw⟩ | ⟨rfl, hw⟩
    · refine j_catch X (pc := 5) "java/lang/IllegalArgumentException" hex [] [⟨0, 10, 17, 21⟩] ⟨0, 10, 13, 13⟩ rfl (by intro y hy; cases hy) (by decide) (by decide) q291 q312 (fun q9 => ?_)
      have hw := hw q9
      refine j_astore X (pc := 13) [(4, vR (some q9)), (0, vR a0), (1, vI a1), (2, vI a2), (3, vR a3)] dX0_rankOf_13 (Nat.le_of_ble_eq_true rfl) rfl ?_
      refine j_iconst X (pc := 15) 1 dX0_rankOf_15 (by decide) ?_
      exact j_iret X (pc := 16) hQ er (Nat.le_of_ble_eq_true rfl) (Nat.le_of_ble_eq_true rfl) dX0_rankOf_16 hw
    · refine j_catch X (pc := 5) "java/util/NoSuchElementException" hex [⟨0, 10, 13, 13⟩] [] ⟨0, 10, 17, 21⟩ rfl (by intro y hy; simp only [List.mem_cons, List.not_mem_nil, or_false] at hy; subst hy; exact Or.inr ⟨by decide, "java/lang/IllegalArgumentException", q291, by decide +kernel⟩) (by decide) (by decide) q1068 q537 (fun q9 => ?_)
      have hw := hw q9
      refine j_astore X (pc := 17) [(4, vR (some q9)), (0, vR a0), (1, vI a1), (2, vI a2), (3, vR a3)] dX0_rankOf_17 (Nat.le_of_ble_eq_true rfl) rfl ?_
      refine j_iconst X (pc := 19) 2 dX0_rankOf_19 (by decide) ?_
      exact j_iret X (pc := 20) hQ er (Nat.le_of_ble_eq_true rfl) (Nat.le_of_ble_eq_true rfl) dX0_rankOf_20 hw
  refine j_i2l X (pc := 8) dX0_rankOf_8 ?_
  refine j_last X (pc := 9) dX0_rankOf_9 hw (fun h9 hw => ?_)
  refine j_goto X (pc := 10) 21 dX0_rankOf_10 (by decide) ?_
  refine j_iconst X (pc := 21) 0 dX0_rankOf_21 (by decide) ?_
  exact j_iret X (pc := 22) hQ er (Nat.le_of_ble_eq_true rfl) (Nat.le_of_ble_eq_true rfl) dX0_rankOf_22 hw
abbrev cX5_rankOf : ByteArray := prog_19_method_57_code
def yX5_rankOf : MethodName := ⟨RX5, "rankOf", "(II)I"⟩
def dkwX5_rankOf_0 : List UInt8 := [42, 27, 28, 182, 0, 231, 153, 0, 7, 3, 167, 0, 8, 42, 28, 182, 0, 199, 172]
abbrev dktX5_rankOf_0 : List UInt8 := dkwX5_rankOf_0 ++ []
theorem dksX5_rankOf_0 : cX5_rankOf.data.toList.drop 0 = dktX5_rankOf_0 := by decide +kernel
theorem dX5_rankOf_0 : decode cX5_rankOf 0 = .ok (.aload_n 0, 1) := dk_42 (dk_at dksX5_rankOf_0 0 rfl rfl)
theorem dX5_rankOf_1 : decode cX5_rankOf 1 = .ok (.iload_n 1, 1) := dk_27 (dk_at dksX5_rankOf_0 1 rfl rfl)
theorem dX5_rankOf_2 : decode cX5_rankOf 2 = .ok (.iload_n 2, 1) := dk_28 (dk_at dksX5_rankOf_0 2 rfl rfl)
theorem dX5_rankOf_3 : decode cX5_rankOf 3 = .ok (.invokevirtual 231, 3) := dk_182 0 231 (dk_at dksX5_rankOf_0 3 rfl rfl)
theorem dX5_rankOf_6 : decode cX5_rankOf 6 = .ok (.ifCond .eq 7, 3) := dk_153 0 7 (dk_at dksX5_rankOf_0 6 rfl rfl)
theorem dX5_rankOf_9 : decode cX5_rankOf 9 = .ok (.iconst 0, 1) := dk_3 (dk_at dksX5_rankOf_0 9 rfl rfl)
theorem dX5_rankOf_10 : decode cX5_rankOf 10 = .ok (.goto 8, 3) := dk_167 0 8 (dk_at dksX5_rankOf_0 10 rfl rfl)
theorem dX5_rankOf_13 : decode cX5_rankOf 13 = .ok (.aload_n 0, 1) := dk_42 (dk_at dksX5_rankOf_0 13 rfl rfl)
theorem dX5_rankOf_14 : decode cX5_rankOf 14 = .ok (.iload_n 2, 1) := dk_28 (dk_at dksX5_rankOf_0 14 rfl rfl)
theorem dX5_rankOf_15 : decode cX5_rankOf 15 = .ok (.invokevirtual 199, 3) := dk_182 0 199 (dk_at dksX5_rankOf_0 15 rfl rfl)
theorem dX5_rankOf_18 : decode cX5_rankOf 18 = .ok (.ireturn, 1) := dk_172 (dk_at dksX5_rankOf_0 18 rfl rfl)
abbrev rm_X5_rankOf : Room := { frames := 5, cells := 0, slots := 0, locals := 109 }
def w_X5_rankOf (a0 : Option Nat) (a1 : Int32) (a2 : Int32) (h : AH) (P : Int32 → AH → Prop) : Prop :=
  is_c h a0 [4] (
  w_X5_isUnseen a0 a1 a2 h (fun y3 h3 =>
  ((y3 = 0 →
    is_c h3 a0 [4] (
    w_X5_rank a0 a2 h3 (fun y15 h15 =>
    P y15 h15))) ∧
   (¬ y3 = 0 →
    P 0 h3))))
theorem met_X5_rankOf (l : Launch) (hlt : l.stackTraces = false) (G : GG) (h : AH) (a0 : Option Nat) (a1 : Int32) (a2 : Int32) (P : Int32 → AH → Prop) (hw : w_X5_rankOf a0 a1 a2 h P) : ct_i l yX5_rankOf (ws_ yX5_rankOf cX5_rankOf 3 (Option.some Jvm.ClassFile.FieldType.int)) rm_X5_rankOf G h [vR a0, vI a1, vI a2] P := by
  refine j_starti hlt [(0, vR a0), (1, vI a1), (2, vI a2)] (plainFor_of_name (by decide)) rfl rfl (fun x X eG er en hQ => ?_)
  subst eG
  refine j_aload_n X (pc := 0) 0 dX5_rankOf_0 rfl rfl ?_
  refine j_iload_n X (pc := 1) 1 dX5_rankOf_1 rfl rfl ?_
  refine j_iload_n X (pc := 2) 2 dX5_rankOf_2 rfl rfl ?_
  obtain ⟨b9, c9, f9, hr9, ho9, hc9, hw⟩ := hw
  obtain rfl := List.mem_singleton.mp hc9
  refine j_calli (j_runV (n8 := 2) (As := [vI a1, vI a2]) (rest := []) X (pc := 3) hr9 (met_X5_isUnseen (xl x) X.hl (xG x) h a0 a1 a2 _ hw) ho9 (by decide) rfl q2182 q2184 qs59 q78 q2185 (by decide +kernel) dX5_rankOf_3 rfl ⟨Nat.le_of_ble_eq_true rfl, Nat.le_of_ble_eq_true rfl⟩ (Nat.le_of_ble_eq_true rfl) ⟨Nat.le_of_ble_eq_true rfl, Nat.le_of_ble_eq_true rfl⟩) (fun y3 h3 hw => ?_)
  refine j_if_eq X (pc := 6) 13 dX5_rankOf_6 (by decide) hw (fun hw => ?_) (fun hw => ?_)
  · refine j_aload_n X (pc := 13) 0 dX5_rankOf_13 rfl rfl ?_
    refine j_iload_n X (pc := 14) 2 dX5_rankOf_14 rfl rfl ?_
    obtain ⟨b9, c9, f9, hr9, ho9, hc9, hw⟩ := hw
    obtain rfl := List.mem_singleton.mp hc9
    refine j_calli (j_runV (n8 := 1) (As := [vI a2]) (rest := []) X (pc := 15) hr9 (met_X5_rank (xl x) X.hl (xG x) h3 a0 a2 _ hw) ho9 (by decide) rfl q2067 q2069 qs50 q78 q2070 (by decide +kernel) dX5_rankOf_15 rfl ⟨Nat.le_of_ble_eq_true rfl, Nat.le_of_ble_eq_true rfl⟩ (Nat.le_of_ble_eq_true rfl) ⟨Nat.le_of_ble_eq_true rfl, Nat.le_of_ble_eq_true rfl⟩) (fun y15 h15 hw => ?_)
    exact j_iret X (pc := 18) hQ er (Nat.le_of_ble_eq_true rfl) (Nat.le_of_ble_eq_true rfl) dX5_rankOf_18 hw
  · refine j_iconst X (pc := 9) 0 dX5_rankOf_9 (by decide) ?_
    refine j_goto X (pc := 10) 18 dX5_rankOf_10 (by decide) ?_
    exact j_iret X (pc := 18) hQ er (Nat.le_of_ble_eq_true rfl) (Nat.le_of_ble_eq_true rfl) dX5_rankOf_18 hw
abbrev cX1_requireIndex : ByteArray := prog_1_method_6_code
def yX1_requireIndex : MethodName := ⟨RX1, "requireIndex", "(II)V"⟩
def dkwX1_requireIndex_0 : List UInt8 := [26, 155, 0, 8, 26, 27, 161, 0, 11, 187, 0, 18, 89, 183, 0, 20, 191, 177]
abbrev dktX1_requireIndex_0 : List UInt8 := dkwX1_requireIndex_0 ++ []
theorem dksX1_requireIndex_0 : cX1_requireIndex.data.toList.drop 0 = dktX1_requireIndex_0 := by decide +kernel
theorem dX1_requireIndex_0 : decode cX1_requireIndex 0 = .ok (.iload_n 0, 1) := dk_26 (dk_at dksX1_requireIndex_0 0 rfl rfl)
theorem dX1_requireIndex_1 : decode cX1_requireIndex 1 = .ok (.ifCond .lt 8, 3) := dk_155 0 8 (dk_at dksX1_requireIndex_0 1 rfl rfl)
theorem dX1_requireIndex_4 : decode cX1_requireIndex 4 = .ok (.iload_n 0, 1) := dk_26 (dk_at dksX1_requireIndex_0 4 rfl rfl)
theorem dX1_requireIndex_5 : decode cX1_requireIndex 5 = .ok (.iload_n 1, 1) := dk_27 (dk_at dksX1_requireIndex_0 5 rfl rfl)
theorem dX1_requireIndex_6 : decode cX1_requireIndex 6 = .ok (.if_icmp .lt 11, 3) := dk_161 0 11 (dk_at dksX1_requireIndex_0 6 rfl rfl)
theorem dX1_requireIndex_9 : decode cX1_requireIndex 9 = .ok (.new 18, 3) := dk_187 0 18 (dk_at dksX1_requireIndex_0 9 rfl rfl)
theorem dX1_requireIndex_12 : decode cX1_requireIndex 12 = .ok (.dup, 1) := dk_89 (dk_at dksX1_requireIndex_0 12 rfl rfl)
theorem dX1_requireIndex_13 : decode cX1_requireIndex 13 = .ok (.invokespecial 20, 3) := dk_183 0 20 (dk_at dksX1_requireIndex_0 13 rfl rfl)
theorem dX1_requireIndex_16 : decode cX1_requireIndex 16 = .ok (.athrow, 1) := dk_191 (dk_at dksX1_requireIndex_0 16 rfl rfl)
theorem dX1_requireIndex_17 : decode cX1_requireIndex 17 = .ok (.return_, 1) := dk_177 (dk_at dksX1_requireIndex_0 17 rfl rfl)
theorem q102 : (Jvm.Cond.initialized "java/lang/IndexOutOfBoundsException") ∈ lw_all := lw_g (lw_at lw_m1 32 rfl) rfl
theorem q1457 : (Jvm.Cond.classLink "Plugboard" (18 : Nat) "java/lang/IndexOutOfBoundsException") ∈ lw_all := lw_g (lw_at lw_m6 187 rfl) rfl
abbrev rm_X1_requireIndex : Room := { frames := 6, cells := 1, slots := 6, locals := 81 }
theorem at_X1_requireIndex_9 : ∀ w ∈ vx_at0 RX1 20 "java/lang/IndexOutOfBoundsException" ["java/lang/RuntimeException", "java/lang/Exception"], w ∈ lw_tbl := ah_in _ [79, 332, 341, 350, 353, 355, 333, 334, 125, 126, 335, 340, 351, 368, 322, 369, 324, 370, 326, 336, 338, 328, 1459, 1460, 1461, 360, 313, 360, 361, 362, 363, 315, 363, 364, 365, 333, 317, 1458, 798, 799, 800, 347, 801, 802, 803, 804, 366, 330, 805] (by decide +kernel)
def w_X1_requireIndex (a0 : Int32) (a1 : Int32) (h : AH) (P : AH → Prop) (PX : String → AH → Prop) : Prop :=
  ((a0 < 0 →
    PX "java/lang/IndexOutOfBoundsException" h) ∧
   (¬ a0 < 0 →
    ((a0 < a1 →
      P h) ∧
     (¬ a0 < a1 →
      PX "java/lang/IndexOutOfBoundsException" h))))
theorem met_X1_requireIndex (l : Launch) (hlt : l.stackTraces = false) (G : GG) (h : AH) (a0 : Int32) (a1 : Int32) (P : AH → Prop) (PX : String → AH → Prop) (hw : w_X1_requireIndex a0 a1 h P PX) : cx_v l yX1_requireIndex (ws_ yX1_requireIndex cX1_requireIndex 2 (Option.none : Option Jvm.ClassFile.FieldType)) rm_X1_requireIndex G h [vI a0, vI a1] P PX := by
  refine j_startXv hlt [(0, vI a0), (1, vI a1)] (by decide) rfl rfl (fun x X eG er en hQ hT hex => ?_)
  subst eG
  refine j_iload_n X (pc := 0) 0 dX1_requireIndex_0 rfl rfl ?_
  refine j_if_lt X (pc := 1) 9 dX1_requireIndex_1 (by decide) hw (fun hw => ?_) (fun hw => ?_)
  · exact j_throw X (pc := 9) (names := ["java/lang/RuntimeException", "java/lang/Exception"]) hT hex (by decide +kernel) (by decide +kernel) q1457 q102 at_X1_requireIndex_9 (by decide +kernel) dX1_requireIndex_9 dX1_requireIndex_12 dX1_requireIndex_13 dX1_requireIndex_16 ⟨Nat.le_of_ble_eq_true rfl, Nat.le_of_ble_eq_true rfl⟩ (Nat.le_of_ble_eq_true rfl) (Nat.le_of_ble_eq_true rfl) hw
  · refine j_iload_n X (pc := 4) 0 dX1_requireIndex_4 rfl rfl ?_
    refine j_iload_n X (pc := 5) 1 dX1_requireIndex_5 rfl rfl ?_
    refine j_icmp_lt X (pc := 6) 17 dX1_requireIndex_6 (by decide) hw (fun hw => ?_) (fun hw => ?_)
    · exact j_vret X (pc := 17) hQ er (Nat.le_of_ble_eq_true rfl) (Nat.le_of_ble_eq_true rfl) dX1_requireIndex_17 hw
    · exact j_throw X (pc := 9) (names := ["java/lang/RuntimeException", "java/lang/Exception"]) hT hex (by decide +kernel) (by decide +kernel) q1457 q102 at_X1_requireIndex_9 (by decide +kernel) dX1_requireIndex_9 dX1_requireIndex_12 dX1_requireIndex_13 dX1_requireIndex_16 ⟨Nat.le_of_ble_eq_true rfl, Nat.le_of_ble_eq_true rfl⟩ (Nat.le_of_ble_eq_true rfl) (Nat.le_of_ble_eq_true rfl) hw
