/-! walks (printed): Plugboard, PlugboardLaw, PlugboardModel -/
set_option maxRecDepth 100000
abbrev cX0_columnOf : ByteArray := method_23_code
def yX0_columnOf : MethodName := ⟨RX0, "columnOf", "(LPlugboard;II[J)I"⟩
def dkwX0_columnOf_0 : List UInt8 := [45, 3, 42, 27, 28, 182, 0, 85, 133, 80, 167, 0, 11, 58, 4, 4, 172, 58, 4, 5, 172, 3, 172]
abbrev dktX0_columnOf_0 : List UInt8 := dkwX0_columnOf_0 ++ []
theorem dksX0_columnOf_0 : cX0_columnOf.data.toList.drop 0 = dktX0_columnOf_0 := by decide +kernel
theorem dX0_columnOf_0 : decode cX0_columnOf 0 = .ok (.aload_n 3, 1) := dk_45 (dk_at dksX0_columnOf_0 0 rfl rfl)
theorem dX0_columnOf_1 : decode cX0_columnOf 1 = .ok (.iconst 0, 1) := dk_3 (dk_at dksX0_columnOf_0 1 rfl rfl)
theorem dX0_columnOf_2 : decode cX0_columnOf 2 = .ok (.aload_n 0, 1) := dk_42 (dk_at dksX0_columnOf_0 2 rfl rfl)
theorem dX0_columnOf_3 : decode cX0_columnOf 3 = .ok (.iload_n 1, 1) := dk_27 (dk_at dksX0_columnOf_0 3 rfl rfl)
theorem dX0_columnOf_4 : decode cX0_columnOf 4 = .ok (.iload_n 2, 1) := dk_28 (dk_at dksX0_columnOf_0 4 rfl rfl)
theorem dX0_columnOf_5 : decode cX0_columnOf 5 = .ok (.invokevirtual 85, 3) := dk_182 0 85 (dk_at dksX0_columnOf_0 5 rfl rfl)
theorem dX0_columnOf_8 : decode cX0_columnOf 8 = .ok (.i2l, 1) := dk_133 (dk_at dksX0_columnOf_0 8 rfl rfl)
theorem dX0_columnOf_9 : decode cX0_columnOf 9 = .ok (.lastore, 1) := dk_80 (dk_at dksX0_columnOf_0 9 rfl rfl)
theorem dX0_columnOf_10 : decode cX0_columnOf 10 = .ok (.goto 11, 3) := dk_167 0 11 (dk_at dksX0_columnOf_0 10 rfl rfl)
theorem dX0_columnOf_13 : decode cX0_columnOf 13 = .ok (.astore 4, 2) := dk_58 4 (dk_at dksX0_columnOf_0 13 rfl rfl)
theorem dX0_columnOf_15 : decode cX0_columnOf 15 = .ok (.iconst 1, 1) := dk_4 (dk_at dksX0_columnOf_0 15 rfl rfl)
theorem dX0_columnOf_16 : decode cX0_columnOf 16 = .ok (.ireturn, 1) := dk_172 (dk_at dksX0_columnOf_0 16 rfl rfl)
theorem dX0_columnOf_17 : decode cX0_columnOf 17 = .ok (.astore 4, 2) := dk_58 4 (dk_at dksX0_columnOf_0 17 rfl rfl)
theorem dX0_columnOf_19 : decode cX0_columnOf 19 = .ok (.iconst 2, 1) := dk_5 (dk_at dksX0_columnOf_0 19 rfl rfl)
theorem dX0_columnOf_20 : decode cX0_columnOf 20 = .ok (.ireturn, 1) := dk_172 (dk_at dksX0_columnOf_0 20 rfl rfl)
theorem dX0_columnOf_21 : decode cX0_columnOf 21 = .ok (.iconst 0, 1) := dk_3 (dk_at dksX0_columnOf_0 21 rfl rfl)
theorem dX0_columnOf_22 : decode cX0_columnOf 22 = .ok (.ireturn, 1) := dk_172 (dk_at dksX0_columnOf_0 22 rfl rfl)
theorem q1413 : (Jvm.Cond.methodLink "PlugboardLaw" (85 : Nat) ({ cls := "Plugboard", name := "columnOf", desc := "(II)I" } : Jvm.MethodName)) ∈ lw_all := lw_g (lw_at lw_m6 143 rfl) rfl
theorem q1414 : (Jvm.Cond.instanceMethod ({ cls := "Plugboard", name := "columnOf", desc := "(II)I" } : Jvm.MethodName)) ∈ lw_all := lw_g (lw_at lw_m6 144 rfl) rfl
theorem q1415 : (Jvm.Cond.selects "Plugboard" ({ cls := "Plugboard", name := "columnOf", desc := "(II)I" } : Jvm.MethodName) ({ cls := "Plugboard", name := "columnOf", desc := "(II)I" } : Jvm.MethodName)) ∈ lw_all := lw_g (lw_at lw_m6 145 rfl) rfl
theorem q1416 : (Jvm.Cond.code ({ cls := "Plugboard", name := "columnOf", desc := "(II)I" } : Jvm.MethodName) prog_1_method_49_code (4 : Nat) (Option.some Jvm.ClassFile.FieldType.int)) ∈ lw_all := lw_g (lw_at lw_m6 146 rfl) rfl
abbrev rm_X0_columnOf : Room := { frames := 10, cells := 3, slots := 13, locals := 169 }
def w_X0_columnOf (a0 : Option Nat) (a1 : Int32) (a2 : Int32) (a3 : Option Nat) (h : AH) (P : Int32 → AH → Prop) : Prop :=
  is_c h a0 [0] (
  w_X1_columnOf a0 a1 a2 h (fun y5 h5 =>
  s_L h5 a3 0 (Int32.toInt64 y5) fun h9 =>
  P 0 h9)
    (fun E9 h9 => (E9 = "java/lang/IllegalArgumentException" ∧ ∀ q9 : Nat,
    P 1 h9) ∨
    (E9 = "java/util/NoSuchElementException" ∧ ∀ q9 : Nat,
    P 2 h9)))
theorem met_X0_columnOf (l : Launch) (hlt : l.stackTraces = false) (G : GG) (h : AH) (a0 : Option Nat) (a1 : Int32) (a2 : Int32) (a3 : Option Nat) (P : Int32 → AH → Prop) (hw : w_X0_columnOf a0 a1 a2 a3 h P) : ct_i l yX0_columnOf (wsW_ yX0_columnOf cX0_columnOf 5 (Option.some Jvm.ClassFile.FieldType.int) [((0 : Nat), (10 : Nat), (13 : Nat), (13 : Nat)), ((0 : Nat), (10 : Nat), (17 : Nat), (21 : Nat))]) rm_X0_columnOf G h [vR a0, vI a1, vI a2, vR a3] P := by
  refine j_startWi hlt [(0, vR a0), (1, vI a1), (2, vI a2), (3, vR a3)] (by decide) rfl rfl (fun x X eG er en hQ hex => ?_)
  subst eG
  refine j_aload_n X (pc := 0) 3 dX0_columnOf_0 rfl rfl ?_
  refine j_iconst X (pc := 1) 0 dX0_columnOf_1 (by decide) ?_
  refine j_aload_n X (pc := 2) 0 dX0_columnOf_2 rfl rfl ?_
  refine j_iload_n X (pc := 3) 1 dX0_columnOf_3 rfl rfl ?_
  refine j_iload_n X (pc := 4) 2 dX0_columnOf_4 rfl rfl ?_
  obtain ⟨b9, c9, f9, hr9, ho9, hc9, hw⟩ := hw
  obtain rfl := List.mem_singleton.mp hc9
  refine j_callXi (j_runVX (n8 := 2) (As := [vI a1, vI a2]) (rest := [vI 0, vR a3]) X (pc := 5) hr9 (met_X1_columnOf (xl x) X.hl (xG x) h a0 a1 a2 _ _ hw) ho9 (by decide) rfl q1413 q1414 q1415 q71 q1416 (by decide +kernel) dX0_columnOf_5 rfl ⟨Nat.le_of_ble_eq_true rfl, Nat.le_of_ble_eq_true rfl⟩ (Nat.le_of_ble_eq_true rfl) ⟨Nat.le_of_ble_eq_true rfl, Nat.le_of_ble_eq_true rfl⟩) ?_ (fun y5 h5 hw => ?_)
  · intro E9 h9 hx
    rcases hx with ⟨rfl, hw⟩ | ⟨rfl, hw⟩
    · refine j_catch X (pc := 5) "java/lang/IllegalArgumentException" hex [] [⟨0, 10, 17, 21⟩] ⟨0, 10, 13, 13⟩ rfl (by intro y hy; cases hy) (by decide) (by decide) q291 q312 (fun q9 => ?_)
      have hw := hw q9
      refine j_astore X (pc := 13) [(4, vR (some q9)), (0, vR a0), (1, vI a1), (2, vI a2), (3, vR a3)] dX0_columnOf_13 (Nat.le_of_ble_eq_true rfl) rfl ?_
      refine j_iconst X (pc := 15) 1 dX0_columnOf_15 (by decide) ?_
      exact j_iret X (pc := 16) hQ er (Nat.le_of_ble_eq_true rfl) (Nat.le_of_ble_eq_true rfl) dX0_columnOf_16 hw
    · refine j_catch X (pc := 5) "java/util/NoSuchElementException" hex [⟨0, 10, 13, 13⟩] [] ⟨0, 10, 17, 21⟩ rfl (by intro y hy; simp only [List.mem_cons, List.not_mem_nil, or_false] at hy; subst hy; exact Or.inr ⟨by decide, "java/lang/IllegalArgumentException", q291, by decide +kernel⟩) (by decide) (by decide) q1068 q537 (fun q9 => ?_)
      have hw := hw q9
      refine j_astore X (pc := 17) [(4, vR (some q9)), (0, vR a0), (1, vI a1), (2, vI a2), (3, vR a3)] dX0_columnOf_17 (Nat.le_of_ble_eq_true rfl) rfl ?_
      refine j_iconst X (pc := 19) 2 dX0_columnOf_19 (by decide) ?_
      exact j_iret X (pc := 20) hQ er (Nat.le_of_ble_eq_true rfl) (Nat.le_of_ble_eq_true rfl) dX0_columnOf_20 hw
  refine j_i2l X (pc := 8) dX0_columnOf_8 ?_
  refine j_last X (pc := 9) dX0_columnOf_9 hw (fun h9 hw => ?_)
  refine j_goto X (pc := 10) 21 dX0_columnOf_10 (by decide) ?_
  refine j_iconst X (pc := 21) 0 dX0_columnOf_21 (by decide) ?_
  exact j_iret X (pc := 22) hQ er (Nat.le_of_ble_eq_true rfl) (Nat.le_of_ble_eq_true rfl) dX0_columnOf_22 hw
abbrev cX5_isUnseen : ByteArray := prog_19_method_52_code
def yX5_isUnseen : MethodName := ⟨RX5, "isUnseen", "(II)Z"⟩
def dkwX5_isUnseen_1 : List UInt8 := [180, 0, 97, 158, 0, 7, 4, 167, 0, 4, 3, 172]
abbrev dktX5_isUnseen_1 : List UInt8 := dkwX5_isUnseen_1 ++ []
def dkwX5_isUnseen_0 : List UInt8 := [42, 27, 182, 0, 228, 154, 0, 16, 42, 28, 182, 0, 125, 154, 0, 8, 42, 5, 181, 0, 97, 42]
abbrev dktX5_isUnseen_0 : List UInt8 := dkwX5_isUnseen_0 ++ dktX5_isUnseen_1
theorem dksX5_isUnseen_0 : cX5_isUnseen.data.toList.drop 0 = dktX5_isUnseen_0 := by decide +kernel
theorem dksX5_isUnseen_1 : cX5_isUnseen.data.toList.drop 22 = dktX5_isUnseen_1 := dk_seg dksX5_isUnseen_0 22 rfl rfl
theorem dX5_isUnseen_0 : decode cX5_isUnseen 0 = .ok (.aload_n 0, 1) := dk_42 (dk_at dksX5_isUnseen_0 0 rfl rfl)
theorem dX5_isUnseen_1 : decode cX5_isUnseen 1 = .ok (.iload_n 1, 1) := dk_27 (dk_at dksX5_isUnseen_0 1 rfl rfl)
theorem dX5_isUnseen_2 : decode cX5_isUnseen 2 = .ok (.invokevirtual 228, 3) := dk_182 0 228 (dk_at dksX5_isUnseen_0 2 rfl rfl)
theorem dX5_isUnseen_5 : decode cX5_isUnseen 5 = .ok (.ifCond .ne 16, 3) := dk_154 0 16 (dk_at dksX5_isUnseen_0 5 rfl rfl)
theorem dX5_isUnseen_8 : decode cX5_isUnseen 8 = .ok (.aload_n 0, 1) := dk_42 (dk_at dksX5_isUnseen_0 8 rfl rfl)
theorem dX5_isUnseen_9 : decode cX5_isUnseen 9 = .ok (.iload_n 2, 1) := dk_28 (dk_at dksX5_isUnseen_0 9 rfl rfl)
theorem dX5_isUnseen_10 : decode cX5_isUnseen 10 = .ok (.invokevirtual 125, 3) := dk_182 0 125 (dk_at dksX5_isUnseen_0 10 rfl rfl)
theorem dX5_isUnseen_13 : decode cX5_isUnseen 13 = .ok (.ifCond .ne 8, 3) := dk_154 0 8 (dk_at dksX5_isUnseen_0 13 rfl rfl)
theorem dX5_isUnseen_16 : decode cX5_isUnseen 16 = .ok (.aload_n 0, 1) := dk_42 (dk_at dksX5_isUnseen_0 16 rfl rfl)
theorem dX5_isUnseen_17 : decode cX5_isUnseen 17 = .ok (.iconst 2, 1) := dk_5 (dk_at dksX5_isUnseen_0 17 rfl rfl)
theorem dX5_isUnseen_18 : decode cX5_isUnseen 18 = .ok (.putfield 97, 3) := dk_181 0 97 (dk_at dksX5_isUnseen_0 18 rfl rfl)
theorem dX5_isUnseen_21 : decode cX5_isUnseen 21 = .ok (.aload_n 0, 1) := dk_42 (dk_at dksX5_isUnseen_0 21 rfl rfl)
theorem dX5_isUnseen_22 : decode cX5_isUnseen 22 = .ok (.getfield 97, 3) := dk_180 0 97 (dk_at dksX5_isUnseen_1 0 rfl rfl)
theorem dX5_isUnseen_25 : decode cX5_isUnseen 25 = .ok (.ifCond .le 7, 3) := dk_158 0 7 (dk_at dksX5_isUnseen_1 3 rfl rfl)
theorem dX5_isUnseen_28 : decode cX5_isUnseen 28 = .ok (.iconst 1, 1) := dk_4 (dk_at dksX5_isUnseen_1 6 rfl rfl)
theorem dX5_isUnseen_29 : decode cX5_isUnseen 29 = .ok (.goto 4, 3) := dk_167 0 4 (dk_at dksX5_isUnseen_1 7 rfl rfl)
theorem dX5_isUnseen_32 : decode cX5_isUnseen 32 = .ok (.iconst 0, 1) := dk_3 (dk_at dksX5_isUnseen_1 10 rfl rfl)
theorem dX5_isUnseen_33 : decode cX5_isUnseen 33 = .ok (.ireturn, 1) := dk_172 (dk_at dksX5_isUnseen_1 11 rfl rfl)
abbrev rm_X5_isUnseen : Room := { frames := 4, cells := 0, slots := 0, locals := 87 }
def w_X5_isUnseen_21 (P : Int32 → AH → Prop) (x0 : Option Nat) (h : AH) : Prop :=
  g_i h x0 4 0 fun y22 =>
  ((y22 ≤ 0 →
    P 0 h) ∧
   (¬ y22 ≤ 0 →
    P 1 h))
def w_X5_isUnseen (a0 : Option Nat) (a1 : Int32) (a2 : Int32) (h : AH) (P : Int32 → AH → Prop) : Prop :=
  is_c h a0 [4] (
  w_X5_isNobody a0 a1 h (fun y2 h2 =>
  ((y2 = 0 →
    is_c h2 a0 [4] (
    w_X5_isSeen a0 a2 h2 (fun y10 h10 =>
    ((y10 = 0 →
      p_v h10 a0 4 0 (vI 2) fun h18 =>
      w_X5_isUnseen_21 P a0 h18) ∧
     (¬ y10 = 0 →
      w_X5_isUnseen_21 P a0 h10))))) ∧
   (¬ y2 = 0 →
    w_X5_isUnseen_21 P a0 h2))))
theorem wk_X5_isUnseen_21 {x : CX} (X : Ok x cX5_isUnseen RX5 rm_X5_isUnseen 3) (er : xrt x = (Option.some Jvm.ClassFile.FieldType.boolean)) (en : xnm x = yX5_isUnseen.name) {P : Int32 → AH → Prop} (hQ : xr_i x P) (x0 : Option Nat) (h : AH) (hw : w_X5_isUnseen_21 P x0 h) : J x h 0 0 21 [(0, vR x0)] [] := by
  refine j_aload_n X (pc := 21) 0 dX5_isUnseen_21 rfl rfl ?_
  refine j_geti (ci := 4) X (pc := 22) in_X5 rfl (by decide) 0 (by decide) q1872 (Or.inl rfl) dX5_isUnseen_22 hw (fun y22 hw => ?_)
  refine j_if_le X (pc := 25) 32 dX5_isUnseen_25 (by decide) hw (fun hw => ?_) (fun hw => ?_)
  · refine j_iconst X (pc := 32) 0 dX5_isUnseen_32 (by decide) ?_
    exact j_zret X (pc := 33) (ty := .boolean) hQ er rfl (Nat.le_of_ble_eq_true rfl) (Nat.le_of_ble_eq_true rfl) dX5_isUnseen_33 hw
  · refine j_iconst X (pc := 28) 1 dX5_isUnseen_28 (by decide) ?_
    refine j_goto X (pc := 29) 33 dX5_isUnseen_29 (by decide) ?_
    exact j_zret X (pc := 33) (ty := .boolean) hQ er rfl (Nat.le_of_ble_eq_true rfl) (Nat.le_of_ble_eq_true rfl) dX5_isUnseen_33 hw
theorem met_X5_isUnseen (l : Launch) (hlt : l.stackTraces = false) (G : GG) (h : AH) (a0 : Option Nat) (a1 : Int32) (a2 : Int32) (P : Int32 → AH → Prop) (hw : w_X5_isUnseen a0 a1 a2 h P) : ct_i l yX5_isUnseen (ws_ yX5_isUnseen cX5_isUnseen 3 (Option.some Jvm.ClassFile.FieldType.boolean)) rm_X5_isUnseen G h [vR a0, vI a1, vI a2] P := by
  refine j_starti hlt [(0, vR a0), (1, vI a1), (2, vI a2)] (plainFor_of_name (by decide)) rfl rfl (fun x X eG er en hQ => ?_)
  subst eG
  refine j_aload_n X (pc := 0) 0 dX5_isUnseen_0 rfl rfl ?_
  refine j_iload_n X (pc := 1) 1 dX5_isUnseen_1 rfl rfl ?_
  obtain ⟨b9, c9, f9, hr9, ho9, hc9, hw⟩ := hw
  obtain rfl := List.mem_singleton.mp hc9
  refine j_calli (j_runV (n8 := 1) (As := [vI a1]) (rest := []) X (pc := 2) hr9 (met_X5_isNobody (xl x) X.hl (xG x) h a0 a1 _ hw) ho9 (by decide) rfl q2170 q2172 qs58 q78 q2173 (by decide +kernel) dX5_isUnseen_2 rfl ⟨Nat.le_of_ble_eq_true rfl, Nat.le_of_ble_eq_true rfl⟩ (Nat.le_of_ble_eq_true rfl) ⟨Nat.le_of_ble_eq_true rfl, Nat.le_of_ble_eq_true rfl⟩) (fun y2 h2 hw => ?_)
  refine j_if_ne X (pc := 5) 21 dX5_isUnseen_5 (by decide) hw (fun hw => ?_) (fun hw => ?_)
  · refine j_aload_n X (pc := 8) 0 dX5_isUnseen_8 rfl rfl ?_
    refine j_iload_n X (pc := 9) 2 dX5_isUnseen_9 rfl rfl ?_
    obtain ⟨b9, c9, f9, hr9, ho9, hc9, hw⟩ := hw
    obtain rfl := List.mem_singleton.mp hc9
    refine j_calli (j_runV (n8 := 1) (As := [vI a2]) (rest := []) X (pc := 10) hr9 (met_X5_isSeen (xl x) X.hl (xG x) h2 a0 a2 _ hw) ho9 (by decide) rfl q2012 q2014 qs39 q78 q2015 (by decide +kernel) dX5_isUnseen_10 rfl ⟨Nat.le_of_ble_eq_true rfl, Nat.le_of_ble_eq_true rfl⟩ (Nat.le_of_ble_eq_true rfl) ⟨Nat.le_of_ble_eq_true rfl, Nat.le_of_ble_eq_true rfl⟩) (fun y10 h10 hw => ?_)
    refine j_if_ne X (pc := 13) 21 dX5_isUnseen_13 (by decide) hw (fun hw => ?_) (fun hw => ?_)
    · refine j_aload_n X (pc := 16) 0 dX5_isUnseen_16 rfl rfl ?_
      refine j_iconst X (pc := 17) 2 dX5_isUnseen_17 (by decide) ?_
      refine j_put (ci := 4) X (pc := 18) in_X5 rfl (by decide) 0 (by decide) q1872 (Or.inl rfl) tyX5 tyX5_ok nmX5 rfl rfl (ty := .int) (tyX5_ok 0 (by decide)) rfl rfl dX5_isUnseen_18 hw (fun h18 hw => ?_)
      refine j_lv [(0, vR a0)] [0] rfl ?_
      refine j_cs (u' := 0) (v' := 0) (Nat.le_of_ble_eq_true rfl) (Nat.le_of_ble_eq_true rfl) ?_
      exact wk_X5_isUnseen_21 X er en hQ a0 h18 hw
    · refine j_lv [(0, vR a0)] [0] rfl ?_
      refine j_cs (u' := 0) (v' := 0) (Nat.le_of_ble_eq_true rfl) (Nat.le_of_ble_eq_true rfl) ?_
      exact wk_X5_isUnseen_21 X er en hQ a0 h10 hw
  · refine j_lv [(0, vR a0)] [0] rfl ?_
    refine j_cs (u' := 0) (v' := 0) (Nat.le_of_ble_eq_true rfl) (Nat.le_of_ble_eq_true rfl) ?_
    exact wk_X5_isUnseen_21 X er en hQ a0 h2 hw
abbrev cX5_columnOf : ByteArray := prog_19_method_55_code
def yX5_columnOf : MethodName := ⟨RX5, "columnOf", "(II)I"⟩
def dkwX5_columnOf_0 : List UInt8 := [42, 27, 28, 182, 0, 231, 153, 0, 7, 3, 167, 0, 8, 42, 28, 182, 0, 141, 172]
abbrev dktX5_columnOf_0 : List UInt8 := dkwX5_columnOf_0 ++ []
theorem dksX5_columnOf_0 : cX5_columnOf.data.toList.drop 0 = dktX5_columnOf_0 := by decide +kernel
theorem dX5_columnOf_0 : decode cX5_columnOf 0 = .ok (.aload_n 0, 1) := dk_42 (dk_at dksX5_columnOf_0 0 rfl rfl)
theorem dX5_columnOf_1 : decode cX5_columnOf 1 = .ok (.iload_n 1, 1) := dk_27 (dk_at dksX5_columnOf_0 1 rfl rfl)
theorem dX5_columnOf_2 : decode cX5_columnOf 2 = .ok (.iload_n 2, 1) := dk_28 (dk_at dksX5_columnOf_0 2 rfl rfl)
theorem dX5_columnOf_3 : decode cX5_columnOf 3 = .ok (.invokevirtual 231, 3) := dk_182 0 231 (dk_at dksX5_columnOf_0 3 rfl rfl)
theorem dX5_columnOf_6 : decode cX5_columnOf 6 = .ok (.ifCond .eq 7, 3) := dk_153 0 7 (dk_at dksX5_columnOf_0 6 rfl rfl)
theorem dX5_columnOf_9 : decode cX5_columnOf 9 = .ok (.iconst 0, 1) := dk_3 (dk_at dksX5_columnOf_0 9 rfl rfl)
theorem dX5_columnOf_10 : decode cX5_columnOf 10 = .ok (.goto 8, 3) := dk_167 0 8 (dk_at dksX5_columnOf_0 10 rfl rfl)
theorem dX5_columnOf_13 : decode cX5_columnOf 13 = .ok (.aload_n 0, 1) := dk_42 (dk_at dksX5_columnOf_0 13 rfl rfl)
theorem dX5_columnOf_14 : decode cX5_columnOf 14 = .ok (.iload_n 2, 1) := dk_28 (dk_at dksX5_columnOf_0 14 rfl rfl)
theorem dX5_columnOf_15 : decode cX5_columnOf 15 = .ok (.invokevirtual 141, 3) := dk_182 0 141 (dk_at dksX5_columnOf_0 15 rfl rfl)
theorem dX5_columnOf_18 : decode cX5_columnOf 18 = .ok (.ireturn, 1) := dk_172 (dk_at dksX5_columnOf_0 18 rfl rfl)
theorem q2182 : (Jvm.Cond.methodLink "PlugboardModel" (231 : Nat) ({ cls := "PlugboardModel", name := "isUnseen", desc := "(II)Z" } : Jvm.MethodName)) ∈ lw_all := lw_g (lw_at lw_m9 192 rfl) rfl
theorem q2184 : (Jvm.Cond.instanceMethod ({ cls := "PlugboardModel", name := "isUnseen", desc := "(II)Z" } : Jvm.MethodName)) ∈ lw_all := lw_g (lw_at lw_m9 194 rfl) rfl
theorem q2185 : (Jvm.Cond.code ({ cls := "PlugboardModel", name := "isUnseen", desc := "(II)Z" } : Jvm.MethodName) prog_19_method_52_code (3 : Nat) (Option.some Jvm.ClassFile.FieldType.boolean)) ∈ lw_all := lw_g (lw_at lw_m9 195 rfl) rfl
abbrev rm_X5_columnOf : Room := { frames := 5, cells := 0, slots := 0, locals := 109 }
def w_X5_columnOf (a0 : Option Nat) (a1 : Int32) (a2 : Int32) (h : AH) (P : Int32 → AH → Prop) : Prop :=
  is_c h a0 [4] (
  w_X5_isUnseen a0 a1 a2 h (fun y3 h3 =>
  ((y3 = 0 →
    is_c h3 a0 [4] (
    w_X5_column a0 a2 h3 (fun y15 h15 =>
    P y15 h15))) ∧
   (¬ y3 = 0 →
    P 0 h3))))
theorem met_X5_columnOf (l : Launch) (hlt : l.stackTraces = false) (G : GG) (h : AH) (a0 : Option Nat) (a1 : Int32) (a2 : Int32) (P : Int32 → AH → Prop) (hw : w_X5_columnOf a0 a1 a2 h P) : ct_i l yX5_columnOf (ws_ yX5_columnOf cX5_columnOf 3 (Option.some Jvm.ClassFile.FieldType.int)) rm_X5_columnOf G h [vR a0, vI a1, vI a2] P := by
  refine j_starti hlt [(0, vR a0), (1, vI a1), (2, vI a2)] (plainFor_of_name (by decide)) rfl rfl (fun x X eG er en hQ => ?_)
  subst eG
  refine j_aload_n X (pc := 0) 0 dX5_columnOf_0 rfl rfl ?_
  refine j_iload_n X (pc := 1) 1 dX5_columnOf_1 rfl rfl ?_
  refine j_iload_n X (pc := 2) 2 dX5_columnOf_2 rfl rfl ?_
  obtain ⟨b9, c9, f9, hr9, ho9, hc9, hw⟩ := hw
  obtain rfl := List.mem_singleton.mp hc9
  refine j_calli (j_runV (n8 := 2) (As := [vI a1, vI a2]) (rest := []) X (pc := 3) hr9 (met_X5_isUnseen (xl x) X.hl (xG x) h a0 a1 a2 _ hw) ho9 (by decide) rfl q2182 q2184 qs59 q78 q2185 (by decide +kernel) dX5_columnOf_3 rfl ⟨Nat.le_of_ble_eq_true rfl, Nat.le_of_ble_eq_true rfl⟩ (Nat.le_of_ble_eq_true rfl) ⟨Nat.le_of_ble_eq_true rfl, Nat.le_of_ble_eq_true rfl⟩) (fun y3 h3 hw => ?_)
  refine j_if_eq X (pc := 6) 13 dX5_columnOf_6 (by decide) hw (fun hw => ?_) (fun hw => ?_)
  · refine j_aload_n X (pc := 13) 0 dX5_columnOf_13 rfl rfl ?_
    refine j_iload_n X (pc := 14) 2 dX5_columnOf_14 rfl rfl ?_
    obtain ⟨b9, c9, f9, hr9, ho9, hc9, hw⟩ := hw
    obtain rfl := List.mem_singleton.mp hc9
    refine j_calli (j_runV (n8 := 1) (As := [vI a2]) (rest := []) X (pc := 15) hr9 (met_X5_column (xl x) X.hl (xG x) h3 a0 a2 _ hw) ho9 (by decide) rfl q2047 q2049 qs46 q78 q2050 (by decide +kernel) dX5_columnOf_15 rfl ⟨Nat.le_of_ble_eq_true rfl, Nat.le_of_ble_eq_true rfl⟩ (Nat.le_of_ble_eq_true rfl) ⟨Nat.le_of_ble_eq_true rfl, Nat.le_of_ble_eq_true rfl⟩) (fun y15 h15 hw => ?_)
    exact j_iret X (pc := 18) hQ er (Nat.le_of_ble_eq_true rfl) (Nat.le_of_ble_eq_true rfl) dX5_columnOf_18 hw
  · refine j_iconst X (pc := 9) 0 dX5_columnOf_9 (by decide) ?_
    refine j_goto X (pc := 10) 18 dX5_columnOf_10 (by decide) ?_
    exact j_iret X (pc := 18) hQ er (Nat.le_of_ble_eq_true rfl) (Nat.le_of_ble_eq_true rfl) dX5_columnOf_18 hw
abbrev cX1_rowOf : ByteArray := prog_1_method_50_code
def yX1_rowOf : MethodName := ⟨RX1, "rowOf", "(II)I"⟩
def dkwX1_rowOf_0 : List UInt8 := [42, 27, 182, 0, 199, 78, 45, 42, 45, 28, 182, 0, 241, 182, 0, 253, 172]
abbrev dktX1_rowOf_0 : List UInt8 := dkwX1_rowOf_0 ++ []
theorem dksX1_rowOf_0 : cX1_rowOf.data.toList.drop 0 = dktX1_rowOf_0 := by decide +kernel
theorem dX1_rowOf_0 : decode cX1_rowOf 0 = .ok (.aload_n 0, 1) := dk_42 (dk_at dksX1_rowOf_0 0 rfl rfl)
theorem dX1_rowOf_1 : decode cX1_rowOf 1 = .ok (.iload_n 1, 1) := dk_27 (dk_at dksX1_rowOf_0 1 rfl rfl)
theorem dX1_rowOf_2 : decode cX1_rowOf 2 = .ok (.invokevirtual 199, 3) := dk_182 0 199 (dk_at dksX1_rowOf_0 2 rfl rfl)
theorem dX1_rowOf_5 : decode cX1_rowOf 5 = .ok (.astore_n 3, 1) := dk_78 (dk_at dksX1_rowOf_0 5 rfl rfl)
theorem dX1_rowOf_6 : decode cX1_rowOf 6 = .ok (.aload_n 3, 1) := dk_45 (dk_at dksX1_rowOf_0 6 rfl rfl)
theorem dX1_rowOf_7 : decode cX1_rowOf 7 = .ok (.aload_n 0, 1) := dk_42 (dk_at dksX1_rowOf_0 7 rfl rfl)
theorem dX1_rowOf_8 : decode cX1_rowOf 8 = .ok (.aload_n 3, 1) := dk_45 (dk_at dksX1_rowOf_0 8 rfl rfl)
theorem dX1_rowOf_9 : decode cX1_rowOf 9 = .ok (.iload_n 2, 1) := dk_28 (dk_at dksX1_rowOf_0 9 rfl rfl)
theorem dX1_rowOf_10 : decode cX1_rowOf 10 = .ok (.invokevirtual 241, 3) := dk_182 0 241 (dk_at dksX1_rowOf_0 10 rfl rfl)
theorem dX1_rowOf_13 : decode cX1_rowOf 13 = .ok (.invokevirtual 253, 3) := dk_182 0 253 (dk_at dksX1_rowOf_0 13 rfl rfl)
theorem dX1_rowOf_16 : decode cX1_rowOf 16 = .ok (.ireturn, 1) := dk_172 (dk_at dksX1_rowOf_0 16 rfl rfl)
abbrev rm_X1_rowOf : Room := { frames := 9, cells := 3, slots := 13, locals := 146 }
def w_X1_rowOf (a0 : Option Nat) (a1 : Int32) (a2 : Int32) (h : AH) (P : Int32 → AH → Prop) (PX : String → AH → Prop) : Prop :=
  is_c h a0 [0] (
  w_X1_board a0 a1 h (fun y2 h2 =>
  is_c h2 a0 [0] (
  w_X1_shape a0 y2 a2 h2 (fun y10 h10 =>
  is_c h10 y2 [2] (
  w_X3_rowOf y2 y10 h10 (fun y13 h13 =>
  P y13 h13))) PX)) PX)
theorem met_X1_rowOf (l : Launch) (hlt : l.stackTraces = false) (G : GG) (h : AH) (a0 : Option Nat) (a1 : Int32) (a2 : Int32) (P : Int32 → AH → Prop) (PX : String → AH → Prop) (hw : w_X1_rowOf a0 a1 a2 h P PX) : cx_i l yX1_rowOf (ws_ yX1_rowOf cX1_rowOf 4 (Option.some Jvm.ClassFile.FieldType.int)) rm_X1_rowOf G h [vR a0, vI a1, vI a2] P PX := by
  refine j_startXi hlt [(0, vR a0), (1, vI a1), (2, vI a2)] (by decide) rfl rfl (fun x X eG er en hQ hT hex => ?_)
  subst eG
  refine j_aload_n X (pc := 0) 0 dX1_rowOf_0 rfl rfl ?_
  refine j_iload_n X (pc := 1) 1 dX1_rowOf_1 rfl rfl ?_
  obtain ⟨b9, c9, f9, hr9, ho9, hc9, hw⟩ := hw
  obtain rfl := List.mem_singleton.mp hc9
  refine j_callXq (j_runVX (n8 := 1) (As := [vI a1]) (rest := []) X (pc := 2) hr9 (met_X1_board (xl x) X.hl (xG x) h a0 a1 _ _ hw) ho9 (by decide) rfl q297 q299 qs0 q71 q300 (by decide +kernel) dX1_rowOf_2 rfl ⟨Nat.le_of_ble_eq_true rfl, Nat.le_of_ble_eq_true rfl⟩ (Nat.le_of_ble_eq_true rfl) ⟨Nat.le_of_ble_eq_true rfl, Nat.le_of_ble_eq_true rfl⟩) (fun E h9 hx => j_out X hT hex (Nat.le_of_ble_eq_true rfl) (Nat.le_of_ble_eq_true rfl) hx) (fun y2 h2 hw => ?_)
  refine j_astore_n X (pc := 5) [(3, vR y2), (0, vR a0), (1, vI a1), (2, vI a2)] dX1_rowOf_5 rfl (Nat.le_of_ble_eq_true rfl) rfl ?_
  refine j_aload_n X (pc := 6) 0 dX1_rowOf_6 rfl rfl ?_
  refine j_aload_n X (pc := 7) 1 dX1_rowOf_7 rfl rfl ?_
  refine j_aload_n X (pc := 8) 0 dX1_rowOf_8 rfl rfl ?_
  refine j_iload_n X (pc := 9) 3 dX1_rowOf_9 rfl rfl ?_
  obtain ⟨b9, c9, f9, hr9, ho9, hc9, hw⟩ := hw
  obtain rfl := List.mem_singleton.mp hc9
  refine j_callXq (j_runVX (n8 := 2) (As := [vR y2, vI a2]) (rest := [vR y2]) X (pc := 10) hr9 (met_X1_shape (xl x) X.hl (xG x) h2 a0 y2 a2 _ _ hw) ho9 (by decide) rfl q1075 q1077 qs9 q71 q1078 (by decide +kernel) dX1_rowOf_10 rfl ⟨Nat.le_of_ble_eq_true rfl, Nat.le_of_ble_eq_true rfl⟩ (Nat.le_of_ble_eq_true rfl) ⟨Nat.le_of_ble_eq_true rfl, Nat.le_of_ble_eq_true rfl⟩) (fun E h9 hx => j_out X hT hex (Nat.le_of_ble_eq_true rfl) (Nat.le_of_ble_eq_true rfl) hx) (fun y10 h10 hw => ?_)
  obtain ⟨b9, c9, f9, hr9, ho9, hc9, hw⟩ := hw
  obtain rfl := List.mem_singleton.mp hc9
  refine j_calli (j_runV (n8 := 1) (As := [vR y10]) (rest := []) X (pc := 13) hr9 (met_X3_rowOf (xl x) X.hl (xG x) h10 y2 y10 _ hw) ho9 (by decide) rfl q1119 q1120 q1121 q76 q1122 (by decide +kernel) dX1_rowOf_13 rfl ⟨Nat.le_of_ble_eq_true rfl, Nat.le_of_ble_eq_true rfl⟩ (Nat.le_of_ble_eq_true rfl) ⟨Nat.le_of_ble_eq_true rfl, Nat.le_of_ble_eq_true rfl⟩) (fun y13 h13 hw => ?_)
  exact j_iret X (pc := 16) hQ er (Nat.le_of_ble_eq_true rfl) (Nat.le_of_ble_eq_true rfl) dX1_rowOf_16 hw
abbrev cX0_rowOf : ByteArray := method_24_code
def yX0_rowOf : MethodName := ⟨RX0, "rowOf", "(LPlugboard;II[J)I"⟩
def dkwX0_rowOf_0 : List UInt8 := [45, 3, 42, 27, 28, 182, 0, 88, 133, 80, 167, 0, 11, 58, 4, 4, 172, 58, 4, 5, 172, 3, 172]
abbrev dktX0_rowOf_0 : List UInt8 := dkwX0_rowOf_0 ++ []
theorem dksX0_rowOf_0 : cX0_rowOf.data.toList.drop 0 = dktX0_rowOf_0 := by decide +kernel
theorem dX0_rowOf_0 : decode cX0_rowOf 0 = .ok (.aload_n 3, 1) := dk_45 (dk_at dksX0_rowOf_0 0 rfl rfl)
theorem dX0_rowOf_1 : decode cX0_rowOf 1 = .ok (.iconst 0, 1) := dk_3 (dk_at dksX0_rowOf_0 1 rfl rfl)
theorem dX0_rowOf_2 : decode cX0_rowOf 2 = .ok (.aload_n 0, 1) := dk_42 (dk_at dksX0_rowOf_0 2 rfl rfl)
theorem dX0_rowOf_3 : decode cX0_rowOf 3 = .ok (.iload_n 1, 1) := dk_27 (dk_at dksX0_rowOf_0 3 rfl rfl)
theorem dX0_rowOf_4 : decode cX0_rowOf 4 = .ok (.iload_n 2, 1) := dk_28 (dk_at dksX0_rowOf_0 4 rfl rfl)
theorem dX0_rowOf_5 : decode cX0_rowOf 5 = .ok (.invokevirtual 88, 3) := dk_182 0 88 (dk_at dksX0_rowOf_0 5 rfl rfl)
theorem dX0_rowOf_8 : decode cX0_rowOf 8 = .ok (.i2l, 1) := dk_133 (dk_at dksX0_rowOf_0 8 rfl rfl)
theorem dX0_rowOf_9 : decode cX0_rowOf 9 = .ok (.lastore, 1) := dk_80 (dk_at dksX0_rowOf_0 9 rfl rfl)
theorem dX0_rowOf_10 : decode cX0_rowOf 10 = .ok (.goto 11, 3) := dk_167 0 11 (dk_at dksX0_rowOf_0 10 rfl rfl)
theorem dX0_rowOf_13 : decode cX0_rowOf 13 = .ok (.astore 4, 2) := dk_58 4 (dk_at dksX0_rowOf_0 13 rfl rfl)
theorem dX0_rowOf_15 : decode cX0_rowOf 15 = .ok (.iconst 1, 1) := dk_4 (dk_at dksX0_rowOf_0 15 rfl rfl)
theorem dX0_rowOf_16 : decode cX0_rowOf 16 = .ok (.ireturn, 1) := dk_172 (dk_at dksX0_rowOf_0 16 rfl rfl)
theorem dX0_rowOf_17 : decode cX0_rowOf 17 = .ok (.astore 4, 2) := dk_58 4 (dk_at dksX0_rowOf_0 17 rfl rfl)
theorem dX0_rowOf_19 : decode cX0_rowOf 19 = .ok (.iconst 2, 1) := dk_5 (dk_at dksX0_rowOf_0 19 rfl rfl)
theorem dX0_rowOf_20 : decode cX0_rowOf 20 = .ok (.ireturn, 1) := dk_172 (dk_at dksX0_rowOf_0 20 rfl rfl)
theorem dX0_rowOf_21 : decode cX0_rowOf 21 = .ok (.iconst 0, 1) := dk_3 (dk_at dksX0_rowOf_0 21 rfl rfl)
theorem dX0_rowOf_22 : decode cX0_rowOf 22 = .ok (.ireturn, 1) := dk_172 (dk_at dksX0_rowOf_0 22 rfl rfl)
theorem q1420 : (Jvm.Cond.methodLink "PlugboardLaw" (88 : Nat) ({ cls := "Plugboard", name := "rowOf", desc := "(II)I" } : Jvm.MethodName)) ∈ lw_all := lw_g (lw_at lw_m6 150 rfl) rfl
theorem q1421 : (Jvm.Cond.instanceMethod ({ cls := "Plugboard", name := "rowOf", desc := "(II)I" } : Jvm.MethodName)) ∈ lw_all := lw_g (lw_at lw_m6 151 rfl) rfl
theorem q1422 : (Jvm.Cond.selects "Plugboard" ({ cls := "Plugboard", name := "rowOf", desc := "(II)I" } : Jvm.MethodName) ({ cls := "Plugboard", name := "rowOf", desc := "(II)I" } : Jvm.MethodName)) ∈ lw_all := lw_g (lw_at lw_m6 152 rfl) rfl
theorem q1423 : (Jvm.Cond.code ({ cls := "Plugboard", name := "rowOf", desc := "(II)I" } : Jvm.MethodName) prog_1_method_50_code (4 : Nat) (Option.some Jvm.ClassFile.FieldType.int)) ∈ lw_all := lw_g (lw_at lw_m6 153 rfl) rfl
abbrev rm_X0_rowOf : Room := { frames := 10, cells := 3, slots := 13, locals := 169 }
def w_X0_rowOf (a0 : Option Nat) (a1 : Int32) (a2 : Int32) (a3 : Option Nat) (h : AH) (P : Int32 → AH → Prop) : Prop :=
  is_c h a0 [0] (
  w_X1_rowOf a0 a1 a2 h (fun y5 h5 =>
  s_L h5 a3 0 (Int32.toInt64 y5) fun h9 =>
  P 0 h9)
    (fun E9 h9 => (E9 = "java/lang/IllegalArgumentException" ∧ ∀ q9 : Nat,
    P 1 h9) ∨
    (E9 = "java/util/NoSuchElementException" ∧ ∀ q9 : Nat,
    P 2 h9)))
theorem met_X0_rowOf (l : Launch) (hlt : l.stackTraces = false) (G : GG) (h : AH) (a0 : Option Nat) (a1 : Int32) (a2 : Int32) (a3 : Option Nat) (P : Int32 → AH → Prop) (hw : w_X0_rowOf a0 a1 a2 a3 h P) : ct_i l yX0_rowOf (wsW_ yX0_rowOf cX0_rowOf 5 (Option.some Jvm.ClassFile.FieldType.int) [((0 : Nat), (10 : Nat), (13 : Nat), (13 : Nat)), ((0 : Nat), (10 : Nat), (17 : Nat), (21 : Nat))]) rm_X0_rowOf G h [vR a0, vI a1, vI a2, vR a3] P := by
  refine j_startWi hlt [(0, vR a0), (1, vI a1), (2, vI a2), (3, vR a3)] (by decide) rfl rfl (fun x X eG er en hQ hex => ?_)
  subst eG
  refine j_aload_n X (pc := 0) 3 dX0_rowOf_0 rfl rfl ?_
  refine j_iconst X (pc := 1) 0 dX0_rowOf_1 (by decide) ?_
  refine j_aload_n X (pc := 2) 0 dX0_rowOf_2 rfl rfl ?_
  refine j_iload_n X (pc := 3) 1 dX0_rowOf_3 rfl rfl ?_
  refine j_iload_n X (pc := 4) 2 dX0_rowOf_4 rfl rfl ?_
  obtain ⟨b9, c9, f9, hr9, ho9, hc9, hw⟩ := hw
  obtain rfl := List.mem_singleton.mp hc9
  refine j_callXi (j_runVX (n8 := 2) (As := [vI a1, vI a2]) (rest := [vI 0, vR a3]) X (pc := 5) hr9 (met_X1_rowOf (xl x) X.hl (xG x) h a0 a1 a2 _ _ hw) ho9 (by decide) rfl q1420 q1421 q1422 q71 q1423 (by decide +kernel) dX0_rowOf_5 rfl ⟨Nat.le_of_ble_eq_true rfl, Nat.le_of_ble_eq_true rfl⟩ (Nat.le_of_ble_eq_true rfl) ⟨Nat.le_of_ble_eq_true rfl, Nat.le_of_ble_eq_true rfl⟩) ?_ (fun y5 h5 hw => ?_)
  · intro E9 h9 hx
    rcases hx with ⟨rfl, hw⟩ | ⟨rfl, hw⟩
    · refine j_catch X (pc := 5) "java/lang/IllegalArgumentException" hex [] [⟨0, 10, 17, 21⟩] ⟨0, 10, 13, 13⟩ rfl (by intro y hy; cases hy) (by decide) (by decide) q291 q312 (fun q9 => ?_)
      have hw := hw q9
      refine j_astore X (pc := 13) [(4, vR (some q9)), (0, vR a0), (1, vI a1), (2, vI a2), (3, vR a3)] dX0_rowOf_13 (Nat.le_of_ble_eq_true rfl) rfl ?_
      refine j_iconst X (pc := 15) 1 dX0_rowOf_15 (by decide) ?_
      exact j_iret X (pc := 16) hQ er (Nat.le_of_ble_eq_true rfl) (Nat.le_of_ble_eq_true rfl) dX0_rowOf_16 hw
    · refine j_catch X (pc := 5) "java/util/NoSuchElementException" hex [⟨0, 10, 13, 13⟩] [] ⟨0, 10, 17, 21⟩ rfl (by intro y hy; simp only [List.mem_cons, List.not_mem_nil, or_false] at hy; subst hy; exact Or.inr ⟨by decide, "java/lang/IllegalArgumentException", q291, by decide +kernel⟩) (by decide) (by decide) q1068 q537 (fun q9 => ?_)
      have hw := hw q9
      refine j_astore X (pc := 17) [(4, vR (some q9)), (0, vR a0), (1, vI a1), (2, vI a2), (3, vR a3)] dX0_rowOf_17 (Nat.le_of_ble_eq_true rfl) rfl ?_
      refine j_iconst X (pc := 19) 2 dX0_rowOf_19 (by decide) ?_
      exact j_iret X (pc := 20) hQ er (Nat.le_of_ble_eq_true rfl) (Nat.le_of_ble_eq_true rfl) dX0_rowOf_20 hw
  refine j_i2l X (pc := 8) dX0_rowOf_8 ?_
  refine j_last X (pc := 9) dX0_rowOf_9 hw (fun h9 hw => ?_)
  refine j_goto X (pc := 10) 21 dX0_rowOf_10 (by decide) ?_
  refine j_iconst X (pc := 21) 0 dX0_rowOf_21 (by decide) ?_
  exact j_iret X (pc := 22) hQ er (Nat.le_of_ble_eq_true rfl) (Nat.le_of_ble_eq_true rfl) dX0_rowOf_22 hw
abbrev cX5_rowOf : ByteArray := prog_19_method_56_code
def yX5_rowOf : MethodName := ⟨RX5, "rowOf", "(II)I"⟩
def dkwX5_rowOf_0 : List UInt8 := [42, 27, 28, 182, 0, 231, 153, 0, 7, 3, 167, 0, 8, 42, 28, 182, 0, 145, 172]
abbrev dktX5_rowOf_0 : List UInt8 := dkwX5_rowOf_0 ++ []
theorem dksX5_rowOf_0 : cX5_rowOf.data.toList.drop 0 = dktX5_rowOf_0 := by decide +kernel
theorem dX5_rowOf_0 : decode cX5_rowOf 0 = .ok (.aload_n 0, 1) := dk_42 (dk_at dksX5_rowOf_0 0 rfl rfl)
theorem dX5_rowOf_1 : decode cX5_rowOf 1 = .ok (.iload_n 1, 1) := dk_27 (dk_at dksX5_rowOf_0 1 rfl rfl)
theorem dX5_rowOf_2 : decode cX5_rowOf 2 = .ok (.iload_n 2, 1) := dk_28 (dk_at dksX5_rowOf_0 2 rfl rfl)
theorem dX5_rowOf_3 : decode cX5_rowOf 3 = .ok (.invokevirtual 231, 3) := dk_182 0 231 (dk_at dksX5_rowOf_0 3 rfl rfl)
theorem dX5_rowOf_6 : decode cX5_rowOf 6 = .ok (.ifCond .eq 7, 3) := dk_153 0 7 (dk_at dksX5_rowOf_0 6 rfl rfl)
theorem dX5_rowOf_9 : decode cX5_rowOf 9 = .ok (.iconst 0, 1) := dk_3 (dk_at dksX5_rowOf_0 9 rfl rfl)
theorem dX5_rowOf_10 : decode cX5_rowOf 10 = .ok (.goto 8, 3) := dk_167 0 8 (dk_at dksX5_rowOf_0 10 rfl rfl)
theorem dX5_rowOf_13 : decode cX5_rowOf 13 = .ok (.aload_n 0, 1) := dk_42 (dk_at dksX5_rowOf_0 13 rfl rfl)
theorem dX5_rowOf_14 : decode cX5_rowOf 14 = .ok (.iload_n 2, 1) := dk_28 (dk_at dksX5_rowOf_0 14 rfl rfl)
theorem dX5_rowOf_15 : decode cX5_rowOf 15 = .ok (.invokevirtual 145, 3) := dk_182 0 145 (dk_at dksX5_rowOf_0 15 rfl rfl)
theorem dX5_rowOf_18 : decode cX5_rowOf 18 = .ok (.ireturn, 1) := dk_172 (dk_at dksX5_rowOf_0 18 rfl rfl)
abbrev rm_X5_rowOf : Room := { frames := 5, cells := 0, slots := 0, locals := 109 }
def w_X5_rowOf (a0 : Option Nat) (a1 : Int32) (a2 : Int32) (h : AH) (P : Int32 → AH → Prop) : Prop :=
  is_c h a0 [4] (
  w_X5_isUnseen a0 a1 a2 h (fun y3 h3 =>
  ((y3 = 0 →
    is_c h3 a0 [4] (
    w_X5_row a0 a2 h3 (fun y15 h15 =>
    P y15 h15))) ∧
   (¬ y3 = 0 →
    P 0 h3))))
theorem met_X5_rowOf (l : Launch) (hlt : l.stackTraces = false) (G : GG) (h : AH) (a0 : Option Nat) (a1 : Int32) (a2 : Int32) (P : Int32 → AH → Prop) (hw : w_X5_rowOf a0 a1 a2 h P) : ct_i l yX5_rowOf (ws_ yX5_rowOf cX5_rowOf 3 (Option.some Jvm.ClassFile.FieldType.int)) rm_X5_rowOf G h [vR a0, vI a1, vI a2] P := by
  refine j_starti hlt [(0, vR a0), (1, vI a1), (2, vI a2)] (plainFor_of_name (by decide)) rfl rfl (fun x X eG er en hQ => ?_)
  subst eG
  refine j_aload_n X (pc := 0) 0 dX5_rowOf_0 rfl rfl ?_
  refine j_iload_n X (pc := 1) 1 dX5_rowOf_1 rfl rfl ?_
  refine j_iload_n X (pc := 2) 2 dX5_rowOf_2 rfl rfl ?_
  obtain ⟨b9, c9, f9, hr9, ho9, hc9, hw⟩ := hw
  obtain rfl := List.mem_singleton.mp hc9
  refine j_calli (j_runV (n8 := 2) (As := [vI a1, vI a2]) (rest := []) X (pc := 3) hr9 (met_X5_isUnseen (xl x) X.hl (xG x) h a0 a1 a2 _ hw) ho9 (by decide) rfl q2182 q2184 qs59 q78 q2185 (by decide +kernel) dX5_rowOf_3 rfl ⟨Nat.le_of_ble_eq_true rfl, Nat.le_of_ble_eq_true rfl⟩ (Nat.le_of_ble_eq_true rfl) ⟨Nat.le_of_ble_eq_true rfl, Nat.le_of_ble_eq_true rfl⟩) (fun y3 h3 hw => ?_)
  refine j_if_eq X (pc := 6) 13 dX5_rowOf_6 (by decide) hw (fun hw => ?_) (fun hw => ?_)
  · refine j_aload_n X (pc := 13) 0 dX5_rowOf_13 rfl rfl ?_
    refine j_iload_n X (pc := 14) 2 dX5_rowOf_14 rfl rfl ?_
    obtain ⟨b9, c9, f9, hr9, ho9, hc9, hw⟩ := hw
    obtain rfl := List.mem_singleton.mp hc9
    refine j_calli (j_runV (n8 := 1) (As := [vI a2]) (rest := []) X (pc := 15) hr9 (met_X5_row (xl x) X.hl (xG x) h3 a0 a2 _ hw) ho9 (by decide) rfl q2051 q2053 qs47 q78 q2054 (by decide +kernel) dX5_rowOf_15 rfl ⟨Nat.le_of_ble_eq_true rfl, Nat.le_of_ble_eq_true rfl⟩ (Nat.le_of_ble_eq_true rfl) ⟨Nat.le_of_ble_eq_true rfl, Nat.le_of_ble_eq_true rfl⟩) (fun y15 h15 hw => ?_)
    exact j_iret X (pc := 18) hQ er (Nat.le_of_ble_eq_true rfl) (Nat.le_of_ble_eq_true rfl) dX5_rowOf_18 hw
  · refine j_iconst X (pc := 9) 0 dX5_rowOf_9 (by decide) ?_
    refine j_goto X (pc := 10) 18 dX5_rowOf_10 (by decide) ?_
    exact j_iret X (pc := 18) hQ er (Nat.le_of_ble_eq_true rfl) (Nat.le_of_ble_eq_true rfl) dX5_rowOf_18 hw
abbrev cX1_rankOf : ByteArray := prog_1_method_51_code
def yX1_rankOf : MethodName := ⟨RX1, "rankOf", "(II)I"⟩
def dkwX1_rankOf_0 : List UInt8 := [42, 27, 182, 0, 199, 78, 45, 42, 45, 28, 182, 0, 241, 182, 1, 15, 172]
abbrev dktX1_rankOf_0 : List UInt8 := dkwX1_rankOf_0 ++ []
theorem dksX1_rankOf_0 : cX1_rankOf.data.toList.drop 0 = dktX1_rankOf_0 := by decide +kernel
theorem dX1_rankOf_0 : decode cX1_rankOf 0 = .ok (.aload_n 0, 1) := dk_42 (dk_at dksX1_rankOf_0 0 rfl rfl)
theorem dX1_rankOf_1 : decode cX1_rankOf 1 = .ok (.iload_n 1, 1) := dk_27 (dk_at dksX1_rankOf_0 1 rfl rfl)
theorem dX1_rankOf_2 : decode cX1_rankOf 2 = .ok (.invokevirtual 199, 3) := dk_182 0 199 (dk_at dksX1_rankOf_0 2 rfl rfl)
theorem dX1_rankOf_5 : decode cX1_rankOf 5 = .ok (.astore_n 3, 1) := dk_78 (dk_at dksX1_rankOf_0 5 rfl rfl)
theorem dX1_rankOf_6 : decode cX1_rankOf 6 = .ok (.aload_n 3, 1) := dk_45 (dk_at dksX1_rankOf_0 6 rfl rfl)
theorem dX1_rankOf_7 : decode cX1_rankOf 7 = .ok (.aload_n 0, 1) := dk_42 (dk_at dksX1_rankOf_0 7 rfl rfl)
theorem dX1_rankOf_8 : decode cX1_rankOf 8 = .ok (.aload_n 3, 1) := dk_45 (dk_at dksX1_rankOf_0 8 rfl rfl)
theorem dX1_rankOf_9 : decode cX1_rankOf 9 = .ok (.iload_n 2, 1) := dk_28 (dk_at dksX1_rankOf_0 9 rfl rfl)
theorem dX1_rankOf_10 : decode cX1_rankOf 10 = .ok (.invokevirtual 241, 3) := dk_182 0 241 (dk_at dksX1_rankOf_0 10 rfl rfl)
theorem dX1_rankOf_13 : decode cX1_rankOf 13 = .ok (.invokevirtual 271, 3) := dk_182 1 15 (dk_at dksX1_rankOf_0 13 rfl rfl)
theorem dX1_rankOf_16 : decode cX1_rankOf 16 = .ok (.ireturn, 1) := dk_172 (dk_at dksX1_rankOf_0 16 rfl rfl)
abbrev rm_X1_rankOf : Room := { frames := 9, cells := 3, slots := 13, locals := 146 }
def w_X1_rankOf (a0 : Option Nat) (a1 : Int32) (a2 : Int32) (h : AH) (P : Int32 → AH → Prop) (PX : String → AH → Prop) : Prop :=
  is_c h a0 [0] (
  w_X1_board a0 a1 h (fun y2 h2 =>
  is_c h2 a0 [0] (
  w_X1_shape a0 y2 a2 h2 (fun y10 h10 =>
  is_c h10 y2 [2] (
  w_X3_rankOf y2 y10 h10 (fun y13 h13 =>
  P y13 h13))) PX)) PX)
theorem met_X1_rankOf (l : Launch) (hlt : l.stackTraces = false) (G : GG) (h : AH) (a0 : Option Nat) (a1 : Int32) (a2 : Int32) (P : Int32 → AH → Prop) (PX : String → AH → Prop) (hw : w_X1_rankOf a0 a1 a2 h P PX) : cx_i l yX1_rankOf (ws_ yX1_rankOf cX1_rankOf 4 (Option.some Jvm.ClassFile.FieldType.int)) rm_X1_rankOf G h [vR a0, vI a1, vI a2] P PX := by
  refine j_startXi hlt [(0, vR a0), (1, vI a1), (2, vI a2)] (by decide) rfl rfl (fun x X eG er en hQ hT hex => ?_)
  subst eG
  refine j_aload_n X (pc := 0) 0 dX1_rankOf_0 rfl rfl ?_
  refine j_iload_n X (pc := 1) 1 dX1_rankOf_1 rfl rfl ?_
  obtain ⟨b9, c9, f9, hr9, ho9, hc9, hw⟩ := hw
  obtain rfl := List.mem_singleton.mp hc9
  refine j_callXq (j_runVX (n8 := 1) (As := [vI a1]) (rest := []) X (pc := 2) hr9 (met_X1_board (xl x) X.hl (xG x) h a0 a1 _ _ hw) ho9 (by decide) rfl q297 q299 qs0 q71 q300 (by decide +kernel) dX1_rankOf_2 rfl ⟨Nat.le_of_ble_eq_true rfl, Nat.le_of_ble_eq_true rfl⟩ (Nat.le_of_ble_eq_true rfl) ⟨Nat.le_of_ble_eq_true rfl, Nat.le_of_ble_eq_true rfl⟩) (fun E h9 hx => j_out X hT hex (Nat.le_of_ble_eq_true rfl) (Nat.le_of_ble_eq_true rfl) hx) (fun y2 h2 hw => ?_)
  refine j_astore_n X (pc := 5) [(3, vR y2), (0, vR a0), (1, vI a1), (2, vI a2)] dX1_rankOf_5 rfl (Nat.le_of_ble_eq_true rfl) rfl ?_
  refine j_aload_n X (pc := 6) 0 dX1_rankOf_6 rfl rfl ?_
  refine j_aload_n X (pc := 7) 1 dX1_rankOf_7 rfl rfl ?_
  refine j_aload_n X (pc := 8) 0 dX1_rankOf_8 rfl rfl ?_
  refine j_iload_n X (pc := 9) 3 dX1_rankOf_9 rfl rfl ?_
  obtain ⟨b9, c9, f9, hr9, ho9, hc9, hw⟩ := hw
  obtain rfl := List.mem_singleton.mp hc9
  refine j_callXq (j_runVX (n8 := 2) (As := [vR y2, vI a2]) (rest := [vR y2]) X (pc := 10) hr9 (met_X1_shape (xl x) X.hl (xG x) h2 a0 y2 a2 _ _ hw) ho9 (by decide) rfl q1075 q1077 qs9 q71 q1078 (by decide +kernel) dX1_rankOf_10 rfl ⟨Nat.le_of_ble_eq_true rfl, Nat.le_of_ble_eq_true rfl⟩ (Nat.le_of_ble_eq_true rfl) ⟨Nat.le_of_ble_eq_true rfl, Nat.le_of_ble_eq_true rfl⟩) (fun E h9 hx => j_out X hT hex (Nat.le_of_ble_eq_true rfl) (Nat.le_of_ble_eq_true rfl) hx) (fun y10 h10 hw => ?_)
  obtain ⟨b9, c9, f9, hr9, ho9, hc9, hw⟩ := hw
  obtain rfl := List.mem_singleton.mp hc9
  refine j_calli (j_runV (n8 := 1) (As := [vR y10]) (rest := []) X (pc := 13) hr9 (met_X3_rankOf (xl x) X.hl (xG x) h10 y2 y10 _ hw) ho9 (by decide) rfl q1193 q1194 q1195 q76 q1196 (by decide +kernel) dX1_rankOf_13 rfl ⟨Nat.le_of_ble_eq_true rfl, Nat.le_of_ble_eq_true rfl⟩ (Nat.le_of_ble_eq_true rfl) ⟨Nat.le_of_ble_eq_true rfl, Nat.le_of_ble_eq_true rfl⟩) (fun y13 h13 hw => ?_)
  exact j_iret X (pc := 16) hQ er (Nat.le_of_ble_eq_true rfl) (Nat.le_of_ble_eq_true rfl) dX1_rankOf_16 hw
abbrev cX0_rankOf : ByteArray := method_25_code
def yX0_rankOf : MethodName := ⟨RX0, "rankOf", "(LPlugboard;II[J)I"⟩
def dkwX0_rankOf_0 : List UInt8 := [45, 3, 42, 27, 28, 182, 0, 91, 133, 80, 167, 0, 11, 58, 4, 4, 172, 58, 4, 5, 172, 3, 172]
abbrev dktX0_rankOf_0 : List UInt8 := dkwX0_rankOf_0 ++ []
theorem dksX0_rankOf_0 : cX0_rankOf.data.toList.drop 0 = dktX0_rankOf_0 := by decide +kernel
theorem dX0_rankOf_0 : decode cX0_rankOf 0 = .ok (.aload_n 3, 1) := dk_45 (dk_at dksX0_rankOf_0 0 rfl rfl)
theorem dX0_rankOf_1 : decode cX0_rankOf 1 = .ok (.iconst 0, 1) := dk_3 (dk_at dksX0_rankOf_0 1 rfl rfl)
theorem dX0_rankOf_2 : decode cX0_rankOf 2 = .ok (.aload_n 0, 1) := dk_42 (dk_at dksX0_rankOf_0 2 rfl rfl)
theorem dX0_rankOf_3 : decode cX0_rankOf 3 = .ok (.iload_n 1, 1) := dk_27 (dk_at dksX0_rankOf_0 3 rfl rfl)
theorem dX0_rankOf_4 : decode cX0_rankOf 4 = .ok (.iload_n 2, 1) := dk_28 (dk_at dksX0_rankOf_0 4 rfl rfl)
theorem dX0_rankOf_5 : decode cX0_rankOf 5 = .ok (.invokevirtual 91, 3) := dk_182 0 91 (dk_at dksX0_rankOf_0 5 rfl rfl)
theorem dX0_rankOf_8 : decode cX0_rankOf 8 = .ok (.i2l, 1) := dk_133 (dk_at dksX0_rankOf_0 8 rfl rfl)
theorem dX0_rankOf_9 : decode cX0_rankOf 9 = .ok (.lastore, 1) := dk_80 (dk_at dksX0_rankOf_0 9 rfl rfl)
theorem dX0_rankOf_10 : decode cX0_rankOf 10 = .ok (.goto 11, 3) := dk_167 0 11 (dk_at dksX0_rankOf_0 10 rfl rfl)
theorem dX0_rankOf_13 : decode cX0_rankOf 13 = .ok (.astore 4, 2) := dk_58 4 (dk_at dksX0_rankOf_0 13 rfl rfl)
theorem dX0_rankOf_15 : decode cX0_rankOf 15 = .ok (.iconst 1, 1) := dk_4 (dk_at dksX0_rankOf_0 15 rfl rfl)
theorem dX0_rankOf_16 : decode cX0_rankOf 16 = .ok (.ireturn, 1) := dk_172 (dk_at dksX0_rankOf_0 16 rfl rfl)
theorem dX0_rankOf_17 : decode cX0_rankOf 17 = .ok (.astore 4, 2) := dk_58 4 (dk_at dksX0_rankOf_0 17 rfl rfl)
theorem dX0_rankOf_19 : decode cX0_rankOf 19 = .ok (.iconst 2, 1) := dk_5 (dk_at dksX0_rankOf_0 19 rfl rfl)
theorem dX0_rankOf_20 : decode cX0_rankOf 20 = .ok (.ireturn, 1) := dk_172 (dk_at dksX0_rankOf_0 20 rfl rfl)
theorem dX0_rankOf_21 : decode cX0_rankOf 21 = .ok (.iconst 0, 1) := dk_3 (dk_at dksX0_rankOf_0 21 rfl rfl)
theorem dX0_rankOf_22 : decode cX0_rankOf 22 = .ok (.ireturn, 1) := dk_172 (dk_at dksX0_rankOf_0 22 rfl rfl)
theorem q1427 : (Jvm.Cond.methodLink "PlugboardLaw" (91 : Nat) ({ cls := "Plugboard", name := "rankOf", desc := "(II)I" } : Jvm.MethodName)) ∈ lw_all := lw_g (lw_at lw_m6 157 rfl) rfl
theorem q1428 : (Jvm.Cond.instanceMethod ({ cls := "Plugboard", name := "rankOf", desc := "(II)I" } : Jvm.MethodName)) ∈ lw_all := lw_g (lw_at lw_m6 158 rfl) rfl
theorem q1429 : (Jvm.Cond.selects "Plugboard" ({ cls := "Plugboard", name := "rankOf", desc := "(II)I" } : Jvm.MethodName) ({ cls := "Plugboard", name := "rankOf", desc := "(II)I" } : Jvm.MethodName)) ∈ lw_all := lw_g (lw_at lw_m6 159 rfl) rfl
theorem q1430 : (Jvm.Cond.code ({ cls := "Plugboard", name := "rankOf", desc := "(II)I" } : Jvm.MethodName) prog_1_method_51_code (4 : Nat) (Option.some Jvm.ClassFile.FieldType.int)) ∈ lw_all := lw_g (lw_at lw_m6 160 rfl) rfl
abbrev rm_X0_rankOf : Room := { frames := 10, cells := 3, slots := 13, locals := 169 }
def w_X0_rankOf (a0 : Option Nat) (a1 : Int32) (a2 : Int32) (a3 : Option Nat) (h : AH) (P : Int32 → AH → Prop) : Prop :=
  is_c h a0 [0] (
  w_X1_rankOf a0 a1 a2 h (fun y5 h5 =>
  s_L h5 a3 0 (Int32.toInt64 y5) fun h9 =>
  P 0 h9)
    (fun E9 h9 => (E9 = "java/lang/IllegalArgumentException" ∧ ∀ q9 : Nat,
    P 1 h9) ∨
    (E9 = "java/util/NoSuchElementException" ∧ ∀ q9 : Nat,
    P 2 h9)))
theorem met_X0_rankOf (l : Launch) (hlt : l.stackTraces = false) (G : GG) (h : AH) (a0 : Option Nat) (a1 : Int32) (a2 : Int32) (a3 : Option Nat) (P : Int32 → AH → Prop) (hw : w_X0_rankOf a0 a1 a2 a3 h P) : ct_i l yX0_rankOf (wsW_ yX0_rankOf cX0_rankOf 5 (Option.some Jvm.ClassFile.FieldType.int) [((0 : Nat), (10 : Nat), (13 : Nat), (13 : Nat)), ((0 : Nat), (10 : Nat), (17 : Nat), (21 : Nat))]) rm_X0_rankOf G h [vR a0, vI a1, vI a2, vR a3] P := by
  refine j_startWi hlt [(0, vR a0), (1, vI a1), (2, vI a2), (3, vR a3)] (by decide) rfl rfl (fun x X eG er en hQ hex => ?_)
  subst eG
  refine j_aload_n X (pc := 0) 3 dX0_rankOf_0 rfl rfl ?_
  refine j_iconst X (pc := 1) 0 dX0_rankOf_1 (by decide) ?_
  refine j_aload_n X (pc := 2) 0 dX0_rankOf_2 rfl rfl ?_
  refine j_iload_n X (pc := 3) 1 dX0_rankOf_3 rfl rfl ?_
  refine j_iload_n X (pc := 4) 2 dX0_rankOf_4 rfl rfl ?_
  obtain ⟨b9, c9, f9, hr9, ho9, hc9, hw⟩ := hw
  obtain rfl := List.mem_singleton.mp hc9
  refine j_callXi (j_runVX (n8 := 2) (As := [vI a1, vI a2]) (rest := [vI 0, vR a3]) X (pc := 5) hr9 (met_X1_rankOf (xl x) X.hl (xG x) h a0 a1 a2 _ _ hw) ho9 (by decide) rfl q1427 q1428 q1429 q71 q1430 (by decide +kernel) dX0_rankOf_5 rfl ⟨Nat.le_of_ble_eq_true rfl, Nat.le_of_ble_eq_true rfl⟩ (Nat.le_of_ble_eq_true rfl) ⟨Nat.le_of_ble_eq_true rfl, Nat.le_of_ble_eq_true rfl⟩) ?_ (fun y5 h5 hw => ?_)
  · intro E9 h9 hx
    rcases hx with ⟨rfl, hw⟩ | ⟨rfl, hw⟩
    · refine j_catch X (pc := 5) "java/lang/IllegalArgumentException" hex [] [⟨0, 10, 17, 21⟩] ⟨0, 10, 13, 13⟩ rfl (by intro y hy; cases hy) (by decide) (by decide) q291 q312 (fun q9 => ?_)
      have hw := hw q9
      refine j_astore X (pc := 13) [(4, vR (some q9)), (0, vR a0), (1, vI a1), (2, vI a2), (3, vR a3)] dX0_rankOf_13 (Nat.le_of_ble_eq_true rfl) rfl ?_
      refine j_iconst X (pc := 15) 1 dX0_rankOf_15 (by decide) ?_
      exact j_iret X (pc := 16) hQ er (Nat.le_of_ble_eq_true rfl) (Nat.le_of_ble_eq_true rfl) dX0_rankOf_16 hw
    · refine j_catch X (pc := 5) "java/util/NoSuchElementException" hex [⟨0, 10, 13, 13⟩] [] ⟨0, 10, 17, 21⟩ rfl (by intro y hy; simp only [List.mem_cons, List.not_mem_nil, or_false] at hy; subst hy; exact Or.inr ⟨by decide, "java/lang/IllegalArgumentException", q291, by decide +kernel⟩) (by decide) (by decide) q1068 q537 (fun q9 => ?_)
      have hw := hw q9
      refine j_astore X (pc := 17) [(4, vR (some q9)), (0, vR a0), (1, vI a1), (2, vI a2), (3, vR a3)] dX0_rankOf_17 (Nat.le_of_ble_eq_true rfl) rfl ?_
      refine j_iconst X (pc := 19) 2 dX0_rankOf_19 (by decide) ?_
      exact j_iret X (pc := 20) hQ er (Nat.le_of_ble_eq_true rfl) (Nat.le_of_ble_eq_true rfl) dX0_rankOf_20 hw
  refine j_i2l X (pc := 8) dX0_rankOf_8 ?_
  refine j_last X (pc := 9) dX0_rankOf_9 hw (fun h9 hw => ?_)
  refine j_goto X (pc := 10) 21 dX0_rankOf_10 (by decide) ?_
  refine j_iconst X (pc := 21) 0 dX0_rankOf_21 (by decide) ?_
  exact j_iret X (pc := 22) hQ er (Nat.le_of_ble_eq_true rfl) (Nat.le_of_ble_eq_true rfl) dX0_rankOf_22 hw
abbrev cX5_rankOf : ByteArray := prog_19_method_57_code
def yX5_rankOf : MethodName := ⟨RX5, "rankOf", "(II)I"⟩
def dkwX5_rankOf_0 : List UInt8 := [42, 27, 28, 182, 0, 231, 153, 0, 7, 3, 167, 0, 8, 42, 28, 182, 0, 199, 172]
abbrev dktX5_rankOf_0 : List UInt8 := dkwX5_rankOf_0 ++ []
theorem dksX5_rankOf_0 : cX5_rankOf.data.toList.drop 0 = dktX5_rankOf_0 := by decide +kernel
theorem dX5_rankOf_0 : decode cX5_rankOf 0 = .ok (.aload_n 0, 1) := dk_42 (dk_at dksX5_rankOf_0 0 rfl rfl)
theorem dX5_rankOf_1 : decode cX5_rankOf 1 = .ok (.iload_n 1, 1) := dk_27 (dk_at dksX5_rankOf_0 1 rfl rfl)
theorem dX5_rankOf_2 : decode cX5_rankOf 2 = .ok (.iload_n 2, 1) := dk_28 (dk_at dksX5_rankOf_0 2 rfl rfl)
theorem dX5_rankOf_3 : decode cX5_rankOf 3 = .ok (.invokevirtual 231, 3) := dk_182 0 231 (dk_at dksX5_rankOf_0 3 rfl rfl)
theorem dX5_rankOf_6 : decode cX5_rankOf 6 = .ok (.ifCond .eq 7, 3) := dk_153 0 7 (dk_at dksX5_rankOf_0 6 rfl rfl)
theorem dX5_rankOf_9 : decode cX5_rankOf 9 = .ok (.iconst 0, 1) := dk_3 (dk_at dksX5_rankOf_0 9 rfl rfl)
theorem dX5_rankOf_10 : decode cX5_rankOf 10 = .ok (.goto 8, 3) := dk_167 0 8 (dk_at dksX5_rankOf_0 10 rfl rfl)
theorem dX5_rankOf_13 : decode cX5_rankOf 13 = .ok (.aload_n 0, 1) := dk_42 (dk_at dksX5_rankOf_0 13 rfl rfl)
theorem dX5_rankOf_14 : decode cX5_rankOf 14 = .ok (.iload_n 2, 1) := dk_28 (dk_at dksX5_rankOf_0 14 rfl rfl)
theorem dX5_rankOf_15 : decode cX5_rankOf 15 = .ok (.invokevirtual 199, 3) := dk_182 0 199 (dk_at dksX5_rankOf_0 15 rfl rfl)
theorem dX5_rankOf_18 : decode cX5_rankOf 18 = .ok (.ireturn, 1) := dk_172 (dk_at dksX5_rankOf_0 18 rfl rfl)
abbrev rm_X5_rankOf : Room := { frames := 5, cells := 0, slots := 0, locals := 109 }
def w_X5_rankOf (a0 : Option Nat) (a1 : Int32) (a2 : Int32) (h : AH) (P : Int32 → AH → Prop) : Prop :=
  is_c h a0 [4] (
  w_X5_isUnseen a0 a1 a2 h (fun y3 h3 =>
  ((y3 = 0 →
    is_c h3 a0 [4] (
    w_X5_rank a0 a2 h3 (fun y15 h15 =>
    P y15 h15))) ∧
   (¬ y3 = 0 →
    P 0 h3))))
theorem met_X5_rankOf (l : Launch) (hlt : l.stackTraces = false) (G : GG) (h : AH) (a0 : Option Nat) (a1 : Int32) (a2 : Int32) (P : Int32 → AH → Prop) (hw : w_X5_rankOf a0 a1 a2 h P) : ct_i l yX5_rankOf (ws_ yX5_rankOf cX5_rankOf 3 (Option.some Jvm.ClassFile.FieldType.int)) rm_X5_rankOf G h [vR a0, vI a1, vI a2] P := by
  refine j_starti hlt [(0, vR a0), (1, vI a1), (2, vI a2)] (plainFor_of_name (by decide)) rfl rfl (fun x X eG er en hQ => ?_)
  subst eG
  refine j_aload_n X (pc := 0) 0 dX5_rankOf_0 rfl rfl ?_
  refine j_iload_n X (pc := 1) 1 dX5_rankOf_1 rfl rfl ?_
  refine j_iload_n X (pc := 2) 2 dX5_rankOf_2 rfl rfl ?_
  obtain ⟨b9, c9, f9, hr9, ho9, hc9, hw⟩ := hw
  obtain rfl := List.mem_singleton.mp hc9
  refine j_calli (j_runV (n8 := 2) (As := [vI a1, vI a2]) (rest := []) X (pc := 3) hr9 (met_X5_isUnseen (xl x) X.hl (xG x) h a0 a1 a2 _ hw) ho9 (by decide) rfl q2182 q2184 qs59 q78 q2185 (by decide +kernel) dX5_rankOf_3 rfl ⟨Nat.le_of_ble_eq_true rfl, Nat.le_of_ble_eq_true rfl⟩ (Nat.le_of_ble_eq_true rfl) ⟨Nat.le_of_ble_eq_true rfl, Nat.le_of_ble_eq_true rfl⟩) (fun y3 h3 hw => ?_)
  refine j_if_eq X (pc := 6) 13 dX5_rankOf_6 (by decide) hw (fun hw => ?_) (fun hw => ?_)
  · refine j_aload_n X (pc := 13) 0 dX5_rankOf_13 rfl rfl ?_
    refine j_iload_n X (pc := 14) 2 dX5_rankOf_14 rfl rfl ?_
    obtain ⟨b9, c9, f9, hr9, ho9, hc9, hw⟩ := hw
    obtain rfl := List.mem_singleton.mp hc9
    refine j_calli (j_runV (n8 := 1) (As := [vI a2]) (rest := []) X (pc := 15) hr9 (met_X5_rank (xl x) X.hl (xG x) h3 a0 a2 _ hw) ho9 (by decide) rfl q2067 q2069 qs50 q78 q2070 (by decide +kernel) dX5_rankOf_15 rfl ⟨Nat.le_of_ble_eq_true rfl, Nat.le_of_ble_eq_true rfl⟩ (Nat.le_of_ble_eq_true rfl) ⟨Nat.le_of_ble_eq_true rfl, Nat.le_of_ble_eq_true rfl⟩) (fun y15 h15 hw => ?_)
    exact j_iret X (pc := 18) hQ er (Nat.le_of_ble_eq_true rfl) (Nat.le_of_ble_eq_true rfl) dX5_rankOf_18 hw
  · refine j_iconst X (pc := 9) 0 dX5_rankOf_9 (by decide) ?_
    refine j_goto X (pc := 10) 18 dX5_rankOf_10 (by decide) ?_
    exact j_iret X (pc := 18) hQ er (Nat.le_of_ble_eq_true rfl) (Nat.le_of_ble_eq_true rfl) dX5_rankOf_18 hw
abbrev cX1_requireIndex : ByteArray := prog_1_method_6_code
def yX1_requireIndex : MethodName := ⟨RX1, "requireIndex", "(II)V"⟩
def dkwX1_requireIndex_0 : List UInt8 := [26, 155, 0, 8, 26, 27, 161, 0, 11, 187, 0, 18, 89, 183, 0, 20, 191, 177]
abbrev dktX1_requireIndex_0 : List UInt8 := dkwX1_requireIndex_0 ++ []
theorem dksX1_requireIndex_0 : cX1_requireIndex.data.toList.drop 0 = dktX1_requireIndex_0 := by decide +kernel
theorem dX1_requireIndex_0 : decode cX1_requireIndex 0 = .ok (.iload_n 0, 1) := dk_26 (dk_at dksX1_requireIndex_0 0 rfl rfl)
theorem dX1_requireIndex_1 : decode cX1_requireIndex 1 = .ok (.ifCond .lt 8, 3) := dk_155 0 8 (dk_at dksX1_requireIndex_0 1 rfl rfl)
theorem dX1_requireIndex_4 : decode cX1_requireIndex 4 = .ok (.iload_n 0, 1) := dk_26 (dk_at dksX1_requireIndex_0 4 rfl rfl)
theorem dX1_requireIndex_5 : decode cX1_requireIndex 5 = .ok (.iload_n 1, 1) := dk_27 (dk_at dksX1_requireIndex_0 5 rfl rfl)
theorem dX1_requireIndex_6 : decode cX1_requireIndex 6 = .ok (.if_icmp .lt 11, 3) := dk_161 0 11 (dk_at dksX1_requireIndex_0 6 rfl rfl)
theorem dX1_requireIndex_9 : decode cX1_requireIndex 9 = .ok (.new 18, 3) := dk_187 0 18 (dk_at dksX1_requireIndex_0 9 rfl rfl)
theorem dX1_requireIndex_12 : decode cX1_requireIndex 12 = .ok (.dup, 1) := dk_89 (dk_at dksX1_requireIndex_0 12 rfl rfl)
theorem dX1_requireIndex_13 : decode cX1_requireIndex 13 = .ok (.invokespecial 20, 3) := dk_183 0 20 (dk_at dksX1_requireIndex_0 13 rfl rfl)
theorem dX1_requireIndex_16 : decode cX1_requireIndex 16 = .ok (.athrow, 1) := dk_191 (dk_at dksX1_requireIndex_0 16 rfl rfl)
theorem dX1_requireIndex_17 : decode cX1_requireIndex 17 = .ok (.return_, 1) := dk_177 (dk_at dksX1_requireIndex_0 17 rfl rfl)
theorem q102 : (Jvm.Cond.initialized "java/lang/IndexOutOfBoundsException") ∈ lw_all := lw_g (lw_at lw_m1 32 rfl) rfl
theorem q1457 : (Jvm.Cond.classLink "Plugboard" (18 : Nat) "java/lang/IndexOutOfBoundsException") ∈ lw_all := lw_g (lw_at lw_m6 187 rfl) rfl
abbrev rm_X1_requireIndex : Room := { frames := 6, cells := 1, slots := 6, locals := 81 }
theorem at_X1_requireIndex_9 : ∀ w ∈ vx_at0 RX1 20 "java/lang/IndexOutOfBoundsException" ["java/lang/RuntimeException", "java/lang/Exception"], w ∈ lw_tbl := ah_in _ [79, 332, 341, 350, 353, 355, 333, 334, 125, 126, 335, 340, 351, 368, 322, 369, 324, 370, 326, 336, 338, 328, 1459, 1460, 1461, 360, 313, 360, 361, 362, 363, 315, 363, 364, 365, 333, 317, 1458, 798, 799, 800, 347, 801, 802, 803, 804, 366, 330, 805] (by decide +kernel)
def w_X1_requireIndex (a0 : Int32) (a1 : Int32) (h : AH) (P : AH → Prop) (PX : String → AH → Prop) : Prop :=
  ((a0 < 0 →
    PX "java/lang/IndexOutOfBoundsException" h) ∧
   (¬ a0 < 0 →
    ((a0 < a1 →
      P h) ∧
     (¬ a0 < a1 →
      PX "java/lang/IndexOutOfBoundsException" h))))
theorem met_X1_requireIndex (l : Launch) (hlt : l.stackTraces = false) (G : GG) (h : AH) (a0 : Int32) (a1 : Int32) (P : AH → Prop) (PX : String → AH → Prop) (hw : w_X1_requireIndex a0 a1 h P PX) : cx_v l yX1_requireIndex (ws_ yX1_requireIndex cX1_requireIndex 2 (Option.none : Option Jvm.ClassFile.FieldType)) rm_X1_requireIndex G h [vI a0, vI a1] P PX := by
  refine j_startXv hlt [(0, vI a0), (1, vI a1)] (by decide) rfl rfl (fun x X eG er en hQ hT hex => ?_)
  subst eG
  refine j_iload_n X (pc := 0) 0 dX1_requireIndex_0 rfl rfl ?_
  refine j_if_lt X (pc := 1) 9 dX1_requireIndex_1 (by decide) hw (fun hw => ?_) (fun hw => ?_)
  · exact j_throw X (pc := 9) (names := ["java/lang/RuntimeException", "java/lang/Exception"]) hT hex (by decide +kernel) (by decide +kernel) q1457 q102 at_X1_requireIndex_9 (by decide +kernel) dX1_requireIndex_9 dX1_requireIndex_12 dX1_requireIndex_13 dX1_requireIndex_16 ⟨Nat.le_of_ble_eq_true rfl, Nat.le_of_ble_eq_true rfl⟩ (Nat.le_of_ble_eq_true rfl) (Nat.le_of_ble_eq_true rfl) hw
  · refine j_iload_n X (pc := 4) 0 dX1_requireIndex_4 rfl rfl ?_
    refine j_iload_n X (pc := 5) 1 dX1_requireIndex_5 rfl rfl ?_
    refine j_icmp_lt X (pc := 6) 17 dX1_requireIndex_6 (by decide) hw (fun hw => ?_) (fun hw => ?_)
    · exact j_vret X (pc := 17) hQ er (Nat.le_of_ble_eq_true rfl) (Nat.le_of_ble_eq_true rfl) dX1_requireIndex_17 hw
    · exact j_throw X (pc := 9) (names := ["java/lang/RuntimeException", "java/lang/Exception"]) hT hex (by decide +kernel) (by decide +kernel) q1457 q102 at_X1_requireIndex_9 (by decide +kernel) dX1_requireIndex_9 dX1_requireIndex_12 dX1_requireIndex_13 dX1_requireIndex_16 ⟨Nat.le_of_ble_eq_true rfl, Nat.le_of_ble_eq_true rfl⟩ (Nat.le_of_ble_eq_true rfl) (Nat.le_of_ble_eq_true rfl) hw
abbrev cX1_shapeAt : ByteArray := prog_1_method_52_code
def yX1_shapeAt : MethodName := ⟨RX1, "shapeAt", "(II)I"⟩
def dkwX1_shapeAt_3 : List UInt8 := [21, 4, 54, 4, 167, 255, 212, 21, 4, 172]
abbrev dktX1_shapeAt_3 : List UInt8 := dkwX1_shapeAt_3 ++ []
def dkwX1_shapeAt_2 : List UInt8 := [192, 0, 124, 58, 6, 45, 25, 6, 182, 1, 15, 28, 160, 0, 11, 25, 6, 180, 1, 8, 167, 0, 5]
abbrev dktX1_shapeAt_2 : List UInt8 := dkwX1_shapeAt_2 ++ dktX1_shapeAt_3
def dkwX1_shapeAt_1 : List UInt8 := [185, 0, 173, 1, 0, 58, 5, 25, 5, 185, 0, 179, 1, 0, 153, 0, 40, 25, 5, 185, 0, 185, 1, 0]
abbrev dktX1_shapeAt_1 : List UInt8 := dkwX1_shapeAt_1 ++ dktX1_shapeAt_2
def dkwX1_shapeAt_0 : List UInt8 := [42, 27, 182, 0, 199, 78, 28, 45, 182, 0, 210, 184, 1, 101, 2, 54, 4, 45, 182, 0, 169]
abbrev dktX1_shapeAt_0 : List UInt8 := dkwX1_shapeAt_0 ++ dktX1_shapeAt_1
theorem dksX1_shapeAt_0 : cX1_shapeAt.data.toList.drop 0 = dktX1_shapeAt_0 := by decide +kernel
theorem dksX1_shapeAt_1 : cX1_shapeAt.data.toList.drop 21 = dktX1_shapeAt_1 := dk_seg dksX1_shapeAt_0 21 rfl rfl
theorem dksX1_shapeAt_2 : cX1_shapeAt.data.toList.drop 45 = dktX1_shapeAt_2 := dk_seg dksX1_shapeAt_1 24 rfl rfl
theorem dksX1_shapeAt_3 : cX1_shapeAt.data.toList.drop 68 = dktX1_shapeAt_3 := dk_seg dksX1_shapeAt_2 23 rfl rfl
theorem dX1_shapeAt_0 : decode cX1_shapeAt 0 = .ok (.aload_n 0, 1) := dk_42 (dk_at dksX1_shapeAt_0 0 rfl rfl)
theorem dX1_shapeAt_1 : decode cX1_shapeAt 1 = .ok (.iload_n 1, 1) := dk_27 (dk_at dksX1_shapeAt_0 1 rfl rfl)
theorem dX1_shapeAt_2 : decode cX1_shapeAt 2 = .ok (.invokevirtual 199, 3) := dk_182 0 199 (dk_at dksX1_shapeAt_0 2 rfl rfl)
theorem dX1_shapeAt_5 : decode cX1_shapeAt 5 = .ok (.astore_n 3, 1) := dk_78 (dk_at dksX1_shapeAt_0 5 rfl rfl)
theorem dX1_shapeAt_6 : decode cX1_shapeAt 6 = .ok (.iload_n 2, 1) := dk_28 (dk_at dksX1_shapeAt_0 6 rfl rfl)
theorem dX1_shapeAt_7 : decode cX1_shapeAt 7 = .ok (.aload_n 3, 1) := dk_45 (dk_at dksX1_shapeAt_0 7 rfl rfl)
theorem dX1_shapeAt_8 : decode cX1_shapeAt 8 = .ok (.invokevirtual 210, 3) := dk_182 0 210 (dk_at dksX1_shapeAt_0 8 rfl rfl)
theorem dX1_shapeAt_11 : decode cX1_shapeAt 11 = .ok (.invokestatic 357, 3) := dk_184 1 101 (dk_at dksX1_shapeAt_0 11 rfl rfl)
theorem dX1_shapeAt_14 : decode cX1_shapeAt 14 = .ok (.iconst (-1), 1) := dk_2 (dk_at dksX1_shapeAt_0 14 rfl rfl)
theorem dX1_shapeAt_15 : decode cX1_shapeAt 15 = .ok (.istore 4, 2) := dk_54 4 (dk_at dksX1_shapeAt_0 15 rfl rfl)
theorem dX1_shapeAt_17 : decode cX1_shapeAt 17 = .ok (.aload_n 3, 1) := dk_45 (dk_at dksX1_shapeAt_0 17 rfl rfl)
theorem dX1_shapeAt_18 : decode cX1_shapeAt 18 = .ok (.invokevirtual 169, 3) := dk_182 0 169 (dk_at dksX1_shapeAt_0 18 rfl rfl)
theorem dX1_shapeAt_21 : decode cX1_shapeAt 21 = .ok (.invokeinterface 173 1, 5) := by decide +kernel
theorem dX1_shapeAt_26 : decode cX1_shapeAt 26 = .ok (.astore 5, 2) := dk_58 5 (dk_at dksX1_shapeAt_1 5 rfl rfl)
theorem dX1_shapeAt_28 : decode cX1_shapeAt 28 = .ok (.aload 5, 2) := dk_25 5 (dk_at dksX1_shapeAt_1 7 rfl rfl)
theorem dX1_shapeAt_30 : decode cX1_shapeAt 30 = .ok (.invokeinterface 179 1, 5) := by decide +kernel
theorem dX1_shapeAt_35 : decode cX1_shapeAt 35 = .ok (.ifCond .eq 40, 3) := dk_153 0 40 (dk_at dksX1_shapeAt_1 14 rfl rfl)
theorem dX1_shapeAt_38 : decode cX1_shapeAt 38 = .ok (.aload 5, 2) := dk_25 5 (dk_at dksX1_shapeAt_1 17 rfl rfl)
theorem dX1_shapeAt_40 : decode cX1_shapeAt 40 = .ok (.invokeinterface 185 1, 5) := by decide +kernel
theorem dX1_shapeAt_45 : decode cX1_shapeAt 45 = .ok (.checkcast 124, 3) := dk_192 0 124 (dk_at dksX1_shapeAt_2 0 rfl rfl)
theorem dX1_shapeAt_48 : decode cX1_shapeAt 48 = .ok (.astore 6, 2) := dk_58 6 (dk_at dksX1_shapeAt_2 3 rfl rfl)
theorem dX1_shapeAt_50 : decode cX1_shapeAt 50 = .ok (.aload_n 3, 1) := dk_45 (dk_at dksX1_shapeAt_2 5 rfl rfl)
theorem dX1_shapeAt_51 : decode cX1_shapeAt 51 = .ok (.aload 6, 2) := dk_25 6 (dk_at dksX1_shapeAt_2 6 rfl rfl)
theorem dX1_shapeAt_53 : decode cX1_shapeAt 53 = .ok (.invokevirtual 271, 3) := dk_182 1 15 (dk_at dksX1_shapeAt_2 8 rfl rfl)
theorem dX1_shapeAt_56 : decode cX1_shapeAt 56 = .ok (.iload_n 2, 1) := dk_28 (dk_at dksX1_shapeAt_2 11 rfl rfl)
theorem dX1_shapeAt_57 : decode cX1_shapeAt 57 = .ok (.if_icmp .ne 11, 3) := dk_160 0 11 (dk_at dksX1_shapeAt_2 12 rfl rfl)
theorem dX1_shapeAt_60 : decode cX1_shapeAt 60 = .ok (.aload 6, 2) := dk_25 6 (dk_at dksX1_shapeAt_2 15 rfl rfl)
theorem dX1_shapeAt_62 : decode cX1_shapeAt 62 = .ok (.getfield 264, 3) := dk_180 1 8 (dk_at dksX1_shapeAt_2 17 rfl rfl)
theorem dX1_shapeAt_65 : decode cX1_shapeAt 65 = .ok (.goto 5, 3) := dk_167 0 5 (dk_at dksX1_shapeAt_2 20 rfl rfl)
theorem dX1_shapeAt_68 : decode cX1_shapeAt 68 = .ok (.iload 4, 2) := dk_21 4 (dk_at dksX1_shapeAt_3 0 rfl rfl)
theorem dX1_shapeAt_70 : decode cX1_shapeAt 70 = .ok (.istore 4, 2) := dk_54 4 (dk_at dksX1_shapeAt_3 2 rfl rfl)
theorem dX1_shapeAt_72 : decode cX1_shapeAt 72 = .ok (.goto (-44), 3) := dk_167 255 212 (dk_at dksX1_shapeAt_3 4 rfl rfl)
theorem dX1_shapeAt_75 : decode cX1_shapeAt 75 = .ok (.iload 4, 2) := dk_21 4 (dk_at dksX1_shapeAt_3 7 rfl rfl)
theorem dX1_shapeAt_77 : decode cX1_shapeAt 77 = .ok (.ireturn, 1) := dk_172 (dk_at dksX1_shapeAt_3 9 rfl rfl)
theorem q1454 : (Jvm.Cond.methodLink "Plugboard" (357 : Nat) ({ cls := "Plugboard", name := "requireIndex", desc := "(II)V" } : Jvm.MethodName)) ∈ lw_all := lw_g (lw_at lw_m6 184 rfl) rfl
theorem q1455 : (Jvm.Cond.static ({ cls := "Plugboard", name := "requireIndex", desc := "(II)V" } : Jvm.MethodName)) ∈ lw_all := lw_g (lw_at lw_m6 185 rfl) rfl
theorem q1456 : (Jvm.Cond.code ({ cls := "Plugboard", name := "requireIndex", desc := "(II)V" } : Jvm.MethodName) prog_1_method_6_code (2 : Nat) (Option.none : Option Jvm.ClassFile.FieldType)) ∈ lw_all := lw_g (lw_at lw_m6 186 rfl) rfl
abbrev rm_X1_shapeAt : Room := { frames := 9, cells := 5, slots := 16, locals := 146 }
def w_X1_shapeAt_28 (P : Int32 → AH → Prop) (PX : String → AH → Prop) (x2 : Int32) (x3 : Option Nat) (x4 : Int32) (x5 : Option Nat) (h : AH) : Prop :=
  ∀ Z28 : Int32 → AH → Prop, (∀ x4 h, (
      is_c h x5 [6] (
      w_X7_hasNext x5 h (fun y30 h30 =>
      ((y30 = 0 →
        P x4 h30) ∧
       (¬ y30 = 0 →
        is_c h30 x5 [6] (
        w_X7_next x5 h30 (fun y40 h40 =>
        is_c h40 y40 [7, 8] (
        is_c h40 x3 [2] (
        w_X3_rankOf x3 y40 h40 (fun y53 h53 =>
        ((y53 = x2 →
          g_iS h53 y40 0 fun y62 =>
          Z28 y62 h53) ∧
         (¬ y53 = x2 →
          Z28 x4 h53))))))))))))
      → Z28 x4 h) → Z28 x4 h
def w_X1_shapeAt (a0 : Option Nat) (a1 : Int32) (a2 : Int32) (h : AH) (P : Int32 → AH → Prop) (PX : String → AH → Prop) : Prop :=
  is_c h a0 [0] (
  w_X1_board a0 a1 h (fun y2 h2 =>
  is_c h2 y2 [2] (
  w_X3_countSeen y2 h2 (fun y8 h8 =>
  w_X1_requireIndex a2 y8 h8 (fun h11 =>
  is_c h11 y2 [2] (
  w_X3_seen y2 h11 (fun y18 h18 =>
  is_c h18 y18 [5] (
  w_X6_iterator y18 h18 (fun y21 h21 =>
  w_X1_shapeAt_28 P PX a2 y2 (-1) y21 h21))))) PX))) PX)
theorem wk_X1_shapeAt_28 {x : CX} (X : Ok x cX1_shapeAt RX1 rm_X1_shapeAt 7) (er : xrt x = (Option.some Jvm.ClassFile.FieldType.int)) (en : xnm x = yX1_shapeAt.name) {P : Int32 → AH → Prop} {PX : String → AH → Prop} (hQ : xr_i x P) (hT : xt_ x PX) (hex : ∀ z ∈ x.2.2.2.2.2.2.2.2.2.1.exceptionTable.toList, False) (x2 : Int32) (x3 : Option Nat) (x4 : Int32) (x5 : Option Nat) (h : AH) (hw : w_X1_shapeAt_28 P PX x2 x3 x4 x5 h) : J x h 5 16 28 [(2, vI x2), (3, vR x3), (4, vI x4), (5, vR x5)] [] := by
  refine hw (fun x4 h => J x h 5 16 28 [(2, vI x2), (3, vR x3), (4, vI x4), (5, vR x5)] []) (fun x4 h hw => ?_)
  refine j_aload X (pc := 28) 3 dX1_shapeAt_28 rfl ?_
  obtain ⟨b9, c9, f9, hr9, ho9, hc9, hw⟩ := hw
  obtain rfl := List.mem_singleton.mp hc9
  refine j_call5i (j_runF (n8 := 0) (As := []) (rest := []) X (pc := 30) hr9 (met_X7_hasNext (xl x) X.hl (xG x) h x5 _ hw) ho9 (by decide) rfl q481 q485 q487 q85 q489 (fun U hU => kt_F2 hU) (by decide +kernel) dX1_shapeAt_30 rfl ⟨Nat.le_of_ble_eq_true rfl, Nat.le_of_ble_eq_true rfl⟩ (Nat.le_of_ble_eq_true rfl) ⟨Nat.le_of_ble_eq_true rfl, Nat.le_of_ble_eq_true rfl⟩) (fun y30 h30 hw => ?_)
  refine j_if_eq X (pc := 35) 75 dX1_shapeAt_35 (by decide) hw (fun hw => ?_) (fun hw => ?_)
  · refine j_iload X (pc := 75) 2 dX1_shapeAt_75 rfl ?_
    exact j_iret X (pc := 77) hQ er (Nat.le_of_ble_eq_true rfl) (Nat.le_of_ble_eq_true rfl) dX1_shapeAt_77 hw
  · refine j_aload X (pc := 38) 3 dX1_shapeAt_38 rfl ?_
    obtain ⟨b9, c9, f9, hr9, ho9, hc9, hw⟩ := hw
    obtain rfl := List.mem_singleton.mp hc9
    refine j_call5q (j_runF (n8 := 0) (As := []) (rest := []) X (pc := 40) hr9 (met_X7_next (xl x) X.hl (xG x) h30 x5 _ hw) ho9 (by decide) rfl q499 q502 q504 q85 q506 (fun U hU => kt_F3 hU) (by decide +kernel) dX1_shapeAt_40 rfl ⟨Nat.le_of_ble_eq_true rfl, Nat.le_of_ble_eq_true rfl⟩ (Nat.le_of_ble_eq_true rfl) ⟨Nat.le_of_ble_eq_true rfl, Nat.le_of_ble_eq_true rfl⟩) (fun y40 h40 hw => ?_)
    refine j_chk X (pc := 45) (L := [7, 8]) q550 (by intro ci hci; simp only [List.mem_cons, List.not_mem_nil, or_false] at hci; rcases hci with rfl | rfl <;> first | exact ⟨by decide, _, _, _, rfl, Or.inr q2343⟩ | exact ⟨by decide, _, _, _, rfl, Or.inr q2344⟩) dX1_shapeAt_45 hw (fun hw => ?_)
    refine j_astore X (pc := 48) [(6, vR y40), (2, vI x2), (3, vR x3), (4, vI x4), (5, vR x5)] dX1_shapeAt_48 (Nat.le_of_ble_eq_true rfl) rfl ?_
    refine j_aload_n X (pc := 50) 2 dX1_shapeAt_50 rfl rfl ?_
    refine j_aload X (pc := 51) 0 dX1_shapeAt_51 rfl ?_
    obtain ⟨b9, c9, f9, hr9, ho9, hc9, hw⟩ := hw
    obtain rfl := List.mem_singleton.mp hc9
    refine j_calli (j_runV (n8 := 1) (As := [vR y40]) (rest := []) X (pc := 53) hr9 (met_X3_rankOf (xl x) X.hl (xG x) h40 x3 y40 _ hw) ho9 (by decide) rfl q1193 q1194 q1195 q76 q1196 (by decide +kernel) dX1_shapeAt_53 rfl ⟨Nat.le_of_ble_eq_true rfl, Nat.le_of_ble_eq_true rfl⟩ (Nat.le_of_ble_eq_true rfl) ⟨Nat.le_of_ble_eq_true rfl, Nat.le_of_ble_eq_true rfl⟩) (fun y53 h53 hw => ?_)
    refine j_iload_n X (pc := 56) 1 dX1_shapeAt_56 rfl rfl ?_
    refine j_icmp_ne X (pc := 57) 68 dX1_shapeAt_57 (by decide) hw (fun hw => ?_) (fun hw => ?_)
    · refine j_aload X (pc := 60) 0 dX1_shapeAt_60 rfl ?_
      refine j_getiSN X (pc := 62) 0 (by decide) q578 dX1_shapeAt_62 hw (fun y62 hw => ?_)
      refine j_goto X (pc := 65) 70 dX1_shapeAt_65 (by decide) ?_
      refine j_istore X (pc := 70) [(4, vI y62), (6, vR y40), (2, vI x2), (3, vR x3), (5, vR x5)] dX1_shapeAt_70 (Nat.le_of_ble_eq_true rfl) rfl ?_
      refine j_goto X (pc := 72) 28 dX1_shapeAt_72 (by decide) ?_
      refine j_lv [(2, vI x2), (3, vR x3), (4, vI y62), (5, vR x5)] [2, 3, 0, 4] rfl ?_
      refine j_cs (u' := 5) (v' := 16) (Nat.le_of_ble_eq_true rfl) (Nat.le_of_ble_eq_true rfl) ?_
      exact hw
    · refine j_iload X (pc := 68) 3 dX1_shapeAt_68 rfl ?_
      refine j_istore X (pc := 70) [(4, vI x4), (6, vR y40), (2, vI x2), (3, vR x3), (5, vR x5)] dX1_shapeAt_70 (Nat.le_of_ble_eq_true rfl) rfl ?_
      refine j_goto X (pc := 72) 28 dX1_shapeAt_72 (by decide) ?_
      refine j_lv [(2, vI x2), (3, vR x3), (4, vI x4), (5, vR x5)] [2, 3, 0, 4] rfl ?_
      refine j_cs (u' := 5) (v' := 16) (Nat.le_of_ble_eq_true rfl) (Nat.le_of_ble_eq_true rfl) ?_
      exact hw
theorem met_X1_shapeAt (l : Launch) (hlt : l.stackTraces = false) (G : GG) (h : AH) (a0 : Option Nat) (a1 : Int32) (a2 : Int32) (P : Int32 → AH → Prop) (PX : String → AH → Prop) (hw : w_X1_shapeAt a0 a1 a2 h P PX) : cx_i l yX1_shapeAt (ws_ yX1_shapeAt cX1_shapeAt 7 (Option.some Jvm.ClassFile.FieldType.int)) rm_X1_shapeAt G h [vR a0, vI a1, vI a2] P PX := by
  refine j_startXi hlt [(0, vR a0), (1, vI a1), (2, vI a2)] (by decide) rfl rfl (fun x X eG er en hQ hT hex => ?_)
  subst eG
  refine j_aload_n X (pc := 0) 0 dX1_shapeAt_0 rfl rfl ?_
  refine j_iload_n X (pc := 1) 1 dX1_shapeAt_1 rfl rfl ?_
  obtain ⟨b9, c9, f9, hr9, ho9, hc9, hw⟩ := hw
  obtain rfl := List.mem_singleton.mp hc9
  refine j_callXq (j_runVX (n8 := 1) (As := [vI a1]) (rest := []) X (pc := 2) hr9 (met_X1_board (xl x) X.hl (xG x) h a0 a1 _ _ hw) ho9 (by decide) rfl q297 q299 qs0 q71 q300 (by decide +kernel) dX1_shapeAt_2 rfl ⟨Nat.le_of_ble_eq_true rfl, Nat.le_of_ble_eq_true rfl⟩ (Nat.le_of_ble_eq_true rfl) ⟨Nat.le_of_ble_eq_true rfl, Nat.le_of_ble_eq_true rfl⟩) (fun E h9 hx => j_out X hT hex (Nat.le_of_ble_eq_true rfl) (Nat.le_of_ble_eq_true rfl) hx) (fun y2 h2 hw => ?_)
  refine j_astore_n X (pc := 5) [(3, vR y2), (0, vR a0), (1, vI a1), (2, vI a2)] dX1_shapeAt_5 rfl (Nat.le_of_ble_eq_true rfl) rfl ?_
  refine j_iload_n X (pc := 6) 3 dX1_shapeAt_6 rfl rfl ?_
  refine j_aload_n X (pc := 7) 0 dX1_shapeAt_7 rfl rfl ?_
  obtain ⟨b9, c9, f9, hr9, ho9, hc9, hw⟩ := hw
  obtain rfl := List.mem_singleton.mp hc9
  refine j_calli (j_runV (n8 := 0) (As := []) (rest := [vI a2]) X (pc := 8) hr9 (met_X3_countSeen (xl x) X.hl (xG x) h2 y2 _ hw) ho9 (by decide) rfl q404 q405 q406 q76 q407 (by decide +kernel) dX1_shapeAt_8 rfl ⟨Nat.le_of_ble_eq_true rfl, Nat.le_of_ble_eq_true rfl⟩ (Nat.le_of_ble_eq_true rfl) ⟨Nat.le_of_ble_eq_true rfl, Nat.le_of_ble_eq_true rfl⟩) (fun y8 h8 hw => ?_)
  refine j_callXv (j_runSX (n8 := 2) (As := [vI a2, vI y8]) (rest := []) X (pc := 11) (met_X1_requireIndex (xl x) X.hl (xG x) h8 a2 y8 _ _ hw) q1454 q1455 q71 q1456 (by decide +kernel) dX1_shapeAt_11 rfl ⟨Nat.le_of_ble_eq_true rfl, Nat.le_of_ble_eq_true rfl⟩ (Nat.le_of_ble_eq_true rfl) ⟨Nat.le_of_ble_eq_true rfl, Nat.le_of_ble_eq_true rfl⟩) (fun E h9 hx => j_out X hT hex (Nat.le_of_ble_eq_true rfl) (Nat.le_of_ble_eq_true rfl) hx) (fun h11 hw => ?_)
  refine j_iconst X (pc := 14) (-1) dX1_shapeAt_14 (by decide) ?_
  refine j_istore X (pc := 15) [(4, vI (-1)), (3, vR y2), (0, vR a0), (1, vI a1), (2, vI a2)] dX1_shapeAt_15 (Nat.le_of_ble_eq_true rfl) rfl ?_
  refine j_aload_n X (pc := 17) 1 dX1_shapeAt_17 rfl rfl ?_
  obtain ⟨b9, c9, f9, hr9, ho9, hc9, hw⟩ := hw
  obtain rfl := List.mem_singleton.mp hc9
  refine j_callq (j_runV (n8 := 0) (As := []) (rest := []) X (pc := 18) hr9 (met_X3_seen (xl x) X.hl (xG x) h11 y2 _ hw) ho9 (by decide) rfl q418 q419 q420 q76 q421 (by decide +kernel) dX1_shapeAt_18 rfl ⟨Nat.le_of_ble_eq_true rfl, Nat.le_of_ble_eq_true rfl⟩ (Nat.le_of_ble_eq_true rfl) ⟨Nat.le_of_ble_eq_true rfl, Nat.le_of_ble_eq_true rfl⟩) (fun y18 h18 hw => ?_)
  obtain ⟨b9, c9, f9, hr9, ho9, hc9, hw⟩ := hw
  obtain rfl := List.mem_singleton.mp hc9
  refine j_call5q (j_runF (n8 := 0) (As := []) (rest := []) X (pc := 21) hr9 (met_X6_iterator (xl x) X.hl (xG x) h18 y18 _ hw) ho9 (by decide) rfl q433 q437 q439 q84 q441 (fun U hU => kt_F1 hU) (by decide +kernel) dX1_shapeAt_21 rfl ⟨Nat.le_of_ble_eq_true rfl, Nat.le_of_ble_eq_true rfl⟩ (Nat.le_of_ble_eq_true rfl) ⟨Nat.le_of_ble_eq_true rfl, Nat.le_of_ble_eq_true rfl⟩) (fun y21 h21 hw => ?_)
  refine j_astore X (pc := 26) [(5, vR y21), (4, vI (-1)), (3, vR y2), (0, vR a0), (1, vI a1), (2, vI a2)] dX1_shapeAt_26 (Nat.le_of_ble_eq_true rfl) rfl ?_
  refine j_lv [(2, vI a2), (3, vR y2), (4, vI (-1)), (5, vR y21)] [5, 2, 1, 0] rfl ?_
  refine j_cs (u' := 5) (v' := 16) (Nat.le_of_ble_eq_true rfl) (Nat.le_of_ble_eq_true rfl) ?_
  exact wk_X1_shapeAt_28 X er en hQ hT hex a2 y2 (-1) y21 h21 hw
abbrev cX0_shapeAt : ByteArray := method_26_code
def yX0_shapeAt : MethodName := ⟨RX0, "shapeAt", "(LPlugboard;II[J)I"⟩
def dkwX0_shapeAt_0 : List UInt8 := [45, 3, 42, 27, 28, 182, 0, 94, 133, 80, 167, 0, 11, 58, 4, 4, 172, 58, 4, 5, 172, 3, 172]
abbrev dktX0_shapeAt_0 : List UInt8 := dkwX0_shapeAt_0 ++ []
theorem dksX0_shapeAt_0 : cX0_shapeAt.data.toList.drop 0 = dktX0_shapeAt_0 := by decide +kernel
theorem dX0_shapeAt_0 : decode cX0_shapeAt 0 = .ok (.aload_n 3, 1) := dk_45 (dk_at dksX0_shapeAt_0 0 rfl rfl)
theorem dX0_shapeAt_1 : decode cX0_shapeAt 1 = .ok (.iconst 0, 1) := dk_3 (dk_at dksX0_shapeAt_0 1 rfl rfl)
theorem dX0_shapeAt_2 : decode cX0_shapeAt 2 = .ok (.aload_n 0, 1) := dk_42 (dk_at dksX0_shapeAt_0 2 rfl rfl)
theorem dX0_shapeAt_3 : decode cX0_shapeAt 3 = .ok (.iload_n 1, 1) := dk_27 (dk_at dksX0_shapeAt_0 3 rfl rfl)
theorem dX0_shapeAt_4 : decode cX0_shapeAt 4 = .ok (.iload_n 2, 1) := dk_28 (dk_at dksX0_shapeAt_0 4 rfl rfl)
theorem dX0_shapeAt_5 : decode cX0_shapeAt 5 = .ok (.invokevirtual 94, 3) := dk_182 0 94 (dk_at dksX0_shapeAt_0 5 rfl rfl)
theorem dX0_shapeAt_8 : decode cX0_shapeAt 8 = .ok (.i2l, 1) := dk_133 (dk_at dksX0_shapeAt_0 8 rfl rfl)
theorem dX0_shapeAt_9 : decode cX0_shapeAt 9 = .ok (.lastore, 1) := dk_80 (dk_at dksX0_shapeAt_0 9 rfl rfl)
theorem dX0_shapeAt_10 : decode cX0_shapeAt 10 = .ok (.goto 11, 3) := dk_167 0 11 (dk_at dksX0_shapeAt_0 10 rfl rfl)
theorem dX0_shapeAt_13 : decode cX0_shapeAt 13 = .ok (.astore 4, 2) := dk_58 4 (dk_at dksX0_shapeAt_0 13 rfl rfl)
theorem dX0_shapeAt_15 : decode cX0_shapeAt 15 = .ok (.iconst 1, 1) := dk_4 (dk_at dksX0_shapeAt_0 15 rfl rfl)
theorem dX0_shapeAt_16 : decode cX0_shapeAt 16 = .ok (.ireturn, 1) := dk_172 (dk_at dksX0_shapeAt_0 16 rfl rfl)
theorem dX0_shapeAt_17 : decode cX0_shapeAt 17 = .ok (.astore 4, 2) := dk_58 4 (dk_at dksX0_shapeAt_0 17 rfl rfl)
theorem dX0_shapeAt_19 : decode cX0_shapeAt 19 = .ok (.iconst 2, 1) := dk_5 (dk_at dksX0_shapeAt_0 19 rfl rfl)
theorem dX0_shapeAt_20 : decode cX0_shapeAt 20 = .ok (.ireturn, 1) := dk_172 (dk_at dksX0_shapeAt_0 20 rfl rfl)
theorem dX0_shapeAt_21 : decode cX0_shapeAt 21 = .ok (.iconst 0, 1) := dk_3 (dk_at dksX0_shapeAt_0 21 rfl rfl)
theorem dX0_shapeAt_22 : decode cX0_shapeAt 22 = .ok (.ireturn, 1) := dk_172 (dk_at dksX0_shapeAt_0 22 rfl rfl)
theorem q799 : (Jvm.Cond.castable "java/lang/IndexOutOfBoundsException" "java/lang/IndexOutOfBoundsException") ∈ lw_tbl := lw_at lw_m4 9 rfl
theorem q1434 : (Jvm.Cond.classLink "PlugboardLaw" (97 : Nat) "java/lang/IndexOutOfBoundsException") ∈ lw_all := lw_g (lw_at lw_m6 164 rfl) rfl
theorem q1450 : (Jvm.Cond.methodLink "PlugboardLaw" (94 : Nat) ({ cls := "Plugboard", name := "shapeAt", desc := "(II)I" } : Jvm.MethodName)) ∈ lw_all := lw_g (lw_at lw_m6 180 rfl) rfl
theorem q1451 : (Jvm.Cond.instanceMethod ({ cls := "Plugboard", name := "shapeAt", desc := "(II)I" } : Jvm.MethodName)) ∈ lw_all := lw_g (lw_at lw_m6 181 rfl) rfl
theorem q1452 : (Jvm.Cond.selects "Plugboard" ({ cls := "Plugboard", name := "shapeAt", desc := "(II)I" } : Jvm.MethodName) ({ cls := "Plugboard", name := "shapeAt", desc := "(II)I" } : Jvm.MethodName)) ∈ lw_all := lw_g (lw_at lw_m6 182 rfl) rfl
theorem q1453 : (Jvm.Cond.code ({ cls := "Plugboard", name := "shapeAt", desc := "(II)I" } : Jvm.MethodName) prog_1_method_52_code (7 : Nat) (Option.some Jvm.ClassFile.FieldType.int)) ∈ lw_all := lw_g (lw_at lw_m6 183 rfl) rfl
abbrev rm_X0_shapeAt : Room := { frames := 10, cells := 5, slots := 16, locals := 172 }
def w_X0_shapeAt (a0 : Option Nat) (a1 : Int32) (a2 : Int32) (a3 : Option Nat) (h : AH) (P : Int32 → AH → Prop) : Prop :=
  is_c h a0 [0] (
  w_X1_shapeAt a0 a1 a2 h (fun y5 h5 =>
  s_L h5 a3 0 (Int32.toInt64 y5) fun h9 =>
  P 0 h9)
    (fun E9 h9 => (E9 = "java/lang/IllegalArgumentException" ∧ ∀ q9 : Nat,
    P 1 h9) ∨
    (E9 = "java/lang/IndexOutOfBoundsException" ∧ ∀ q9 : Nat,
    P 2 h9)))
theorem met_X0_shapeAt (l : Launch) (hlt : l.stackTraces = false) (G : GG) (h : AH) (a0 : Option Nat) (a1 : Int32) (a2 : Int32) (a3 : Option Nat) (P : Int32 → AH → Prop) (hw : w_X0_shapeAt a0 a1 a2 a3 h P) : ct_i l yX0_shapeAt (wsW_ yX0_shapeAt cX0_shapeAt 5 (Option.some Jvm.ClassFile.FieldType.int) [((0 : Nat), (10 : Nat), (13 : Nat), (13 : Nat)), ((0 : Nat), (10 : Nat), (17 : Nat), (97 : Nat))]) rm_X0_shapeAt G h [vR a0, vI a1, vI a2, vR a3] P := by
  refine j_startWi hlt [(0, vR a0), (1, vI a1), (2, vI a2), (3, vR a3)] (by decide) rfl rfl (fun x X eG er en hQ hex => ?_)
  subst eG
  refine j_aload_n X (pc := 0) 3 dX0_shapeAt_0 rfl rfl ?_
  refine j_iconst X (pc := 1) 0 dX0_shapeAt_1 (by decide) ?_
  refine j_aload_n X (pc := 2) 0 dX0_shapeAt_2 rfl rfl ?_
  refine j_iload_n X (pc := 3) 1 dX0_shapeAt_3 rfl rfl ?_
  refine j_iload_n X (pc := 4) 2 dX0_shapeAt_4 rfl rfl ?_
  obtain ⟨b9, c9, f9, hr9, ho9, hc9, hw⟩ := hw
  obtain rfl := List.mem_singleton.mp hc9
  refine j_callXi (j_runVX (n8 := 2) (As := [vI a1, vI a2]) (rest := [vI 0, vR a3]) X (pc := 5) hr9 (met_X1_shapeAt (xl x) X.hl (xG x) h a0 a1 a2 _ _ hw) ho9 (by decide) rfl q1450 q1451 q1452 q71 q1453 (by decide +kernel) dX0_shapeAt_5 rfl ⟨Nat.le_of_ble_eq_true rfl, Nat.le_of_ble_eq_true rfl⟩ (Nat.le_of_ble_eq_true rfl) ⟨Nat.le_of_ble_eq_true rfl, Nat.le_of_ble_eq_true rfl⟩) ?_ (fun y5 h5 hw => ?_)
  · intro E9 h9 hx
    rcases hx with ⟨rfl, hw⟩ | ⟨rfl, hw⟩
    · refine j_catch X (pc := 5) "java/lang/IllegalArgumentException" hex [] [⟨0, 10, 17, 97⟩] ⟨0, 10, 13, 13⟩ rfl (by intro y hy; cases hy) (by decide) (by decide) q291 q312 (fun q9 => ?_)
      have hw := hw q9
      refine j_astore X (pc := 13) [(4, vR (some q9)), (0, vR a0), (1, vI a1), (2, vI a2), (3, vR a3)] dX0_shapeAt_13 (Nat.le_of_ble_eq_true rfl) rfl ?_
      refine j_iconst X (pc := 15) 1 dX0_shapeAt_15 (by decide) ?_
      exact j_iret X (pc := 16) hQ er (Nat.le_of_ble_eq_true rfl) (Nat.le_of_ble_eq_true rfl) dX0_shapeAt_16 hw
    · refine j_catch X (pc := 5) "java/lang/IndexOutOfBoundsException" hex [⟨0, 10, 13, 13⟩] [] ⟨0, 10, 17, 97⟩ rfl (by intro y hy; simp only [List.mem_cons, List.not_mem_nil, or_false] at hy; subst hy; exact Or.inr ⟨by decide, "java/lang/IllegalArgumentException", q291, by decide +kernel⟩) (by decide) (by decide) q1434 q799 (fun q9 => ?_)
      have hw := hw q9
      refine j_astore X (pc := 17) [(4, vR (some q9)), (0, vR a0), (1, vI a1), (2, vI a2), (3, vR a3)] dX0_shapeAt_17 (Nat.le_of_ble_eq_true rfl) rfl ?_
      refine j_iconst X (pc := 19) 2 dX0_shapeAt_19 (by decide) ?_
      exact j_iret X (pc := 20) hQ er (Nat.le_of_ble_eq_true rfl) (Nat.le_of_ble_eq_true rfl) dX0_shapeAt_20 hw
  refine j_i2l X (pc := 8) dX0_shapeAt_8 ?_
  refine j_last X (pc := 9) dX0_shapeAt_9 hw (fun h9 hw => ?_)
  refine j_goto X (pc := 10) 21 dX0_shapeAt_10 (by decide) ?_
  refine j_iconst X (pc := 21) 0 dX0_shapeAt_21 (by decide) ?_
  exact j_iret X (pc := 22) hQ er (Nat.le_of_ble_eq_true rfl) (Nat.le_of_ble_eq_true rfl) dX0_shapeAt_22 hw
abbrev cX5_shapeAt : ByteArray := prog_19_method_58_code
def yX5_shapeAt : MethodName := ⟨RX5, "shapeAt", "(II)I"⟩
def dkwX5_shapeAt_2 : List UInt8 := [5, 182, 0, 172, 172]
abbrev dktX5_shapeAt_2 : List UInt8 := dkwX5_shapeAt_2 ++ []
def dkwX5_shapeAt_1 : List UInt8 := [182, 0, 125, 153, 0, 14, 42, 29, 182, 0, 199, 28, 160, 0, 5, 29, 172, 132, 3, 1, 167, 255, 226, 42]
abbrev dktX5_shapeAt_1 : List UInt8 := dkwX5_shapeAt_1 ++ dktX5_shapeAt_2
def dkwX5_shapeAt_0 : List UInt8 := [42, 27, 182, 0, 228, 153, 0, 5, 3, 172, 3, 62, 29, 42, 180, 0, 119, 162, 0, 28, 42, 29]
abbrev dktX5_shapeAt_0 : List UInt8 := dkwX5_shapeAt_0 ++ dktX5_shapeAt_1
theorem dksX5_shapeAt_0 : cX5_shapeAt.data.toList.drop 0 = dktX5_shapeAt_0 := by decide +kernel
theorem dksX5_shapeAt_1 : cX5_shapeAt.data.toList.drop 22 = dktX5_shapeAt_1 := dk_seg dksX5_shapeAt_0 22 rfl rfl
theorem dksX5_shapeAt_2 : cX5_shapeAt.data.toList.drop 46 = dktX5_shapeAt_2 := dk_seg dksX5_shapeAt_1 24 rfl rfl
theorem dX5_shapeAt_0 : decode cX5_shapeAt 0 = .ok (.aload_n 0, 1) := dk_42 (dk_at dksX5_shapeAt_0 0 rfl rfl)
theorem dX5_shapeAt_1 : decode cX5_shapeAt 1 = .ok (.iload_n 1, 1) := dk_27 (dk_at dksX5_shapeAt_0 1 rfl rfl)
theorem dX5_shapeAt_2 : decode cX5_shapeAt 2 = .ok (.invokevirtual 228, 3) := dk_182 0 228 (dk_at dksX5_shapeAt_0 2 rfl rfl)
theorem dX5_shapeAt_5 : decode cX5_shapeAt 5 = .ok (.ifCond .eq 5, 3) := dk_153 0 5 (dk_at dksX5_shapeAt_0 5 rfl rfl)
theorem dX5_shapeAt_8 : decode cX5_shapeAt 8 = .ok (.iconst 0, 1) := dk_3 (dk_at dksX5_shapeAt_0 8 rfl rfl)
theorem dX5_shapeAt_9 : decode cX5_shapeAt 9 = .ok (.ireturn, 1) := dk_172 (dk_at dksX5_shapeAt_0 9 rfl rfl)
theorem dX5_shapeAt_10 : decode cX5_shapeAt 10 = .ok (.iconst 0, 1) := dk_3 (dk_at dksX5_shapeAt_0 10 rfl rfl)
theorem dX5_shapeAt_11 : decode cX5_shapeAt 11 = .ok (.istore_n 3, 1) := dk_62 (dk_at dksX5_shapeAt_0 11 rfl rfl)
theorem dX5_shapeAt_12 : decode cX5_shapeAt 12 = .ok (.iload_n 3, 1) := dk_29 (dk_at dksX5_shapeAt_0 12 rfl rfl)
theorem dX5_shapeAt_13 : decode cX5_shapeAt 13 = .ok (.aload_n 0, 1) := dk_42 (dk_at dksX5_shapeAt_0 13 rfl rfl)
theorem dX5_shapeAt_14 : decode cX5_shapeAt 14 = .ok (.getfield 119, 3) := dk_180 0 119 (dk_at dksX5_shapeAt_0 14 rfl rfl)
theorem dX5_shapeAt_17 : decode cX5_shapeAt 17 = .ok (.if_icmp .ge 28, 3) := dk_162 0 28 (dk_at dksX5_shapeAt_0 17 rfl rfl)
theorem dX5_shapeAt_20 : decode cX5_shapeAt 20 = .ok (.aload_n 0, 1) := dk_42 (dk_at dksX5_shapeAt_0 20 rfl rfl)
theorem dX5_shapeAt_21 : decode cX5_shapeAt 21 = .ok (.iload_n 3, 1) := dk_29 (dk_at dksX5_shapeAt_0 21 rfl rfl)
theorem dX5_shapeAt_22 : decode cX5_shapeAt 22 = .ok (.invokevirtual 125, 3) := dk_182 0 125 (dk_at dksX5_shapeAt_1 0 rfl rfl)
theorem dX5_shapeAt_25 : decode cX5_shapeAt 25 = .ok (.ifCond .eq 14, 3) := dk_153 0 14 (dk_at dksX5_shapeAt_1 3 rfl rfl)
theorem dX5_shapeAt_28 : decode cX5_shapeAt 28 = .ok (.aload_n 0, 1) := dk_42 (dk_at dksX5_shapeAt_1 6 rfl rfl)
theorem dX5_shapeAt_29 : decode cX5_shapeAt 29 = .ok (.iload_n 3, 1) := dk_29 (dk_at dksX5_shapeAt_1 7 rfl rfl)
theorem dX5_shapeAt_30 : decode cX5_shapeAt 30 = .ok (.invokevirtual 199, 3) := dk_182 0 199 (dk_at dksX5_shapeAt_1 8 rfl rfl)
theorem dX5_shapeAt_33 : decode cX5_shapeAt 33 = .ok (.iload_n 2, 1) := dk_28 (dk_at dksX5_shapeAt_1 11 rfl rfl)
theorem dX5_shapeAt_34 : decode cX5_shapeAt 34 = .ok (.if_icmp .ne 5, 3) := dk_160 0 5 (dk_at dksX5_shapeAt_1 12 rfl rfl)
theorem dX5_shapeAt_37 : decode cX5_shapeAt 37 = .ok (.iload_n 3, 1) := dk_29 (dk_at dksX5_shapeAt_1 15 rfl rfl)
theorem dX5_shapeAt_38 : decode cX5_shapeAt 38 = .ok (.ireturn, 1) := dk_172 (dk_at dksX5_shapeAt_1 16 rfl rfl)
theorem dX5_shapeAt_39 : decode cX5_shapeAt 39 = .ok (.iinc 3 1, 3) := dk_132 3 1 (dk_at dksX5_shapeAt_1 17 rfl rfl)
theorem dX5_shapeAt_42 : decode cX5_shapeAt 42 = .ok (.goto (-30), 3) := dk_167 255 226 (dk_at dksX5_shapeAt_1 20 rfl rfl)
theorem dX5_shapeAt_45 : decode cX5_shapeAt 45 = .ok (.aload_n 0, 1) := dk_42 (dk_at dksX5_shapeAt_1 23 rfl rfl)
theorem dX5_shapeAt_46 : decode cX5_shapeAt 46 = .ok (.iconst 2, 1) := dk_5 (dk_at dksX5_shapeAt_2 0 rfl rfl)
theorem dX5_shapeAt_47 : decode cX5_shapeAt 47 = .ok (.invokevirtual 172, 3) := dk_182 0 172 (dk_at dksX5_shapeAt_2 1 rfl rfl)
theorem dX5_shapeAt_50 : decode cX5_shapeAt 50 = .ok (.ireturn, 1) := dk_172 (dk_at dksX5_shapeAt_2 4 rfl rfl)
abbrev rm_X5_shapeAt : Room := { frames := 4, cells := 0, slots := 0, locals := 87 }
def w_X5_shapeAt_12 (P : Int32 → AH → Prop) (x0 : Option Nat) (x2 : Int32) (x3 : Int32) (h : AH) : Prop :=
  ∀ Z12 : Int32 → AH → Prop, (∀ x3 h, (
      g_i h x0 4 8 fun y14 =>
      ((y14 ≤ x3 →
        is_c h x0 [4] (
        w_X5_fails x0 2 h (fun y47 h47 =>
        P y47 h47))) ∧
       (¬ y14 ≤ x3 →
        is_c h x0 [4] (
        w_X5_isSeen x0 x3 h (fun y22 h22 =>
        ((y22 = 0 →
          Z12 (x3 + 1) h22) ∧
         (¬ y22 = 0 →
          is_c h22 x0 [4] (
          w_X5_rank x0 x3 h22 (fun y30 h30 =>
          ((y30 = x2 →
            P x3 h30) ∧
           (¬ y30 = x2 →
            Z12 (x3 + 1) h30)))))))))))
      → Z12 x3 h) → Z12 x3 h
def w_X5_shapeAt (a0 : Option Nat) (a1 : Int32) (a2 : Int32) (h : AH) (P : Int32 → AH → Prop) : Prop :=
  is_c h a0 [4] (
  w_X5_isNobody a0 a1 h (fun y2 h2 =>
  ((y2 = 0 →
    w_X5_shapeAt_12 P a0 a2 0 h2) ∧
   (¬ y2 = 0 →
    P 0 h2))))
theorem wk_X5_shapeAt_12 {x : CX} (X : Ok x cX5_shapeAt RX5 rm_X5_shapeAt 4) (er : xrt x = (Option.some Jvm.ClassFile.FieldType.int)) (en : xnm x = yX5_shapeAt.name) {P : Int32 → AH → Prop} (hQ : xr_i x P) (x0 : Option Nat) (x2 : Int32) (x3 : Int32) (h : AH) (hw : w_X5_shapeAt_12 P x0 x2 x3 h) : J x h 0 0 12 [(0, vR x0), (2, vI x2), (3, vI x3)] [] := by
  refine hw (fun x3 h => J x h 0 0 12 [(0, vR x0), (2, vI x2), (3, vI x3)] []) (fun x3 h hw => ?_)
  refine j_iload_n X (pc := 12) 2 dX5_shapeAt_12 rfl rfl ?_
  refine j_aload_n X (pc := 13) 0 dX5_shapeAt_13 rfl rfl ?_
  refine j_geti (ci := 4) X (pc := 14) in_X5 rfl (by decide) 8 (by decide) q1880 (Or.inl rfl) dX5_shapeAt_14 hw (fun y14 hw => ?_)
  refine j_icmp_ge X (pc := 17) 45 dX5_shapeAt_17 (by decide) hw (fun hw => ?_) (fun hw => ?_)
  · refine j_aload_n X (pc := 45) 0 dX5_shapeAt_45 rfl rfl ?_
    refine j_iconst X (pc := 46) 2 dX5_shapeAt_46 (by decide) ?_
    obtain ⟨b9, c9, f9, hr9, ho9, hc9, hw⟩ := hw
    obtain rfl := List.mem_singleton.mp hc9
    refine j_calli (j_runV (n8 := 1) (As := [vI 2]) (rest := []) X (pc := 47) hr9 (met_X5_fails (xl x) X.hl (xG x) h x0 2 _ hw) ho9 (by decide) rfl q1988 q1990 qs33 q78 q1991 (by decide +kernel) dX5_shapeAt_47 rfl ⟨Nat.le_of_ble_eq_true rfl, Nat.le_of_ble_eq_true rfl⟩ (Nat.le_of_ble_eq_true rfl) ⟨Nat.le_of_ble_eq_true rfl, Nat.le_of_ble_eq_true rfl⟩) (fun y47 h47 hw => ?_)
    exact j_iret X (pc := 50) hQ er (Nat.le_of_ble_eq_true rfl) (Nat.le_of_ble_eq_true rfl) dX5_shapeAt_50 hw
  · refine j_aload_n X (pc := 20) 0 dX5_shapeAt_20 rfl rfl ?_
    refine j_iload_n X (pc := 21) 2 dX5_shapeAt_21 rfl rfl ?_
    obtain ⟨b9, c9, f9, hr9, ho9, hc9, hw⟩ := hw
    obtain rfl := List.mem_singleton.mp hc9
    refine j_calli (j_runV (n8 := 1) (As := [vI x3]) (rest := []) X (pc := 22) hr9 (met_X5_isSeen (xl x) X.hl (xG x) h x0 x3 _ hw) ho9 (by decide) rfl q2012 q2014 qs39 q78 q2015 (by decide +kernel) dX5_shapeAt_22 rfl ⟨Nat.le_of_ble_eq_true rfl, Nat.le_of_ble_eq_true rfl⟩ (Nat.le_of_ble_eq_true rfl) ⟨Nat.le_of_ble_eq_true rfl, Nat.le_of_ble_eq_true rfl⟩) (fun y22 h22 hw => ?_)
    refine j_if_eq X (pc := 25) 39 dX5_shapeAt_25 (by decide) hw (fun hw => ?_) (fun hw => ?_)
    · refine j_iinc X (pc := 39) 2 (x3 + 1) [(3, vI (x3 + 1)), (0, vR x0), (2, vI x2)] dX5_shapeAt_39 rfl rfl (Nat.le_of_ble_eq_true rfl) rfl ?_
      refine j_goto X (pc := 42) 12 dX5_shapeAt_42 (by decide) ?_
      refine j_lv [(0, vR x0), (2, vI x2), (3, vI (x3 + 1))] [1, 2, 0] rfl ?_
      refine j_cs (u' := 0) (v' := 0) (Nat.le_of_ble_eq_true rfl) (Nat.le_of_ble_eq_true rfl) ?_
      exact hw
    · refine j_aload_n X (pc := 28) 0 dX5_shapeAt_28 rfl rfl ?_
      refine j_iload_n X (pc := 29) 2 dX5_shapeAt_29 rfl rfl ?_
      obtain ⟨b9, c9, f9, hr9, ho9, hc9, hw⟩ := hw
      obtain rfl := List.mem_singleton.mp hc9
      refine j_calli (j_runV (n8 := 1) (As := [vI x3]) (rest := []) X (pc := 30) hr9 (met_X5_rank (xl x) X.hl (xG x) h22 x0 x3 _ hw) ho9 (by decide) rfl q2067 q2069 qs50 q78 q2070 (by decide +kernel) dX5_shapeAt_30 rfl ⟨Nat.le_of_ble_eq_true rfl, Nat.le_of_ble_eq_true rfl⟩ (Nat.le_of_ble_eq_true rfl) ⟨Nat.le_of_ble_eq_true rfl, Nat.le_of_ble_eq_true rfl⟩) (fun y30 h30 hw => ?_)
      refine j_iload_n X (pc := 33) 1 dX5_shapeAt_33 rfl rfl ?_
      refine j_icmp_ne X (pc := 34) 39 dX5_shapeAt_34 (by decide) hw (fun hw => ?_) (fun hw => ?_)
      · refine j_iload_n X (pc := 37) 2 dX5_shapeAt_37 rfl rfl ?_
        exact j_iret X (pc := 38) hQ er (Nat.le_of_ble_eq_true rfl) (Nat.le_of_ble_eq_true rfl) dX5_shapeAt_38 hw
      · refine j_iinc X (pc := 39) 2 (x3 + 1) [(3, vI (x3 + 1)), (0, vR x0), (2, vI x2)] dX5_shapeAt_39 rfl rfl (Nat.le_of_ble_eq_true rfl) rfl ?_
        refine j_goto X (pc := 42) 12 dX5_shapeAt_42 (by decide) ?_
        refine j_lv [(0, vR x0), (2, vI x2), (3, vI (x3 + 1))] [1, 2, 0] rfl ?_
        refine j_cs (u' := 0) (v' := 0) (Nat.le_of_ble_eq_true rfl) (Nat.le_of_ble_eq_true rfl) ?_
        exact hw
theorem met_X5_shapeAt (l : Launch) (hlt : l.stackTraces = false) (G : GG) (h : AH) (a0 : Option Nat) (a1 : Int32) (a2 : Int32) (P : Int32 → AH → Prop) (hw : w_X5_shapeAt a0 a1 a2 h P) : ct_i l yX5_shapeAt (ws_ yX5_shapeAt cX5_shapeAt 4 (Option.some Jvm.ClassFile.FieldType.int)) rm_X5_shapeAt G h [vR a0, vI a1, vI a2] P := by
  refine j_starti hlt [(0, vR a0), (1, vI a1), (2, vI a2)] (plainFor_of_name (by decide)) rfl rfl (fun x X eG er en hQ => ?_)
  subst eG
  refine j_aload_n X (pc := 0) 0 dX5_shapeAt_0 rfl rfl ?_
  refine j_iload_n X (pc := 1) 1 dX5_shapeAt_1 rfl rfl ?_
  obtain ⟨b9, c9, f9, hr9, ho9, hc9, hw⟩ := hw
  obtain rfl := List.mem_singleton.mp hc9
  refine j_calli (j_runV (n8 := 1) (As := [vI a1]) (rest := []) X (pc := 2) hr9 (met_X5_isNobody (xl x) X.hl (xG x) h a0 a1 _ hw) ho9 (by decide) rfl q2170 q2172 qs58 q78 q2173 (by decide +kernel) dX5_shapeAt_2 rfl ⟨Nat.le_of_ble_eq_true rfl, Nat.le_of_ble_eq_true rfl⟩ (Nat.le_of_ble_eq_true rfl) ⟨Nat.le_of_ble_eq_true rfl, Nat.le_of_ble_eq_true rfl⟩) (fun y2 h2 hw => ?_)
  refine j_if_eq X (pc := 5) 10 dX5_shapeAt_5 (by decide) hw (fun hw => ?_) (fun hw => ?_)
  · refine j_iconst X (pc := 10) 0 dX5_shapeAt_10 (by decide) ?_
    refine j_istore_n X (pc := 11) [(3, vI 0), (0, vR a0), (1, vI a1), (2, vI a2)] dX5_shapeAt_11 rfl (Nat.le_of_ble_eq_true rfl) rfl ?_
    refine j_lv [(0, vR a0), (2, vI a2), (3, vI 0)] [1, 3, 0] rfl ?_
    refine j_cs (u' := 0) (v' := 0) (Nat.le_of_ble_eq_true rfl) (Nat.le_of_ble_eq_true rfl) ?_
    exact wk_X5_shapeAt_12 X er en hQ a0 a2 0 h2 hw
  · refine j_iconst X (pc := 8) 0 dX5_shapeAt_8 (by decide) ?_
    exact j_iret X (pc := 9) hQ er (Nat.le_of_ble_eq_true rfl) (Nat.le_of_ble_eq_true rfl) dX5_shapeAt_9 hw
abbrev cX1_keyOf : ByteArray := prog_1_method_53_code
def yX1_keyOf : MethodName := ⟨RX1, "keyOf", "(II)F"⟩
def dkwX1_keyOf_0 : List UInt8 := [42, 27, 182, 0, 199, 78, 45, 42, 45, 28, 182, 0, 241, 182, 0, 189, 174]
abbrev dktX1_keyOf_0 : List UInt8 := dkwX1_keyOf_0 ++ []
theorem dksX1_keyOf_0 : cX1_keyOf.data.toList.drop 0 = dktX1_keyOf_0 := by decide +kernel
theorem dX1_keyOf_0 : decode cX1_keyOf 0 = .ok (.aload_n 0, 1) := dk_42 (dk_at dksX1_keyOf_0 0 rfl rfl)
theorem dX1_keyOf_1 : decode cX1_keyOf 1 = .ok (.iload_n 1, 1) := dk_27 (dk_at dksX1_keyOf_0 1 rfl rfl)
theorem dX1_keyOf_2 : decode cX1_keyOf 2 = .ok (.invokevirtual 199, 3) := dk_182 0 199 (dk_at dksX1_keyOf_0 2 rfl rfl)
theorem dX1_keyOf_5 : decode cX1_keyOf 5 = .ok (.astore_n 3, 1) := dk_78 (dk_at dksX1_keyOf_0 5 rfl rfl)
theorem dX1_keyOf_6 : decode cX1_keyOf 6 = .ok (.aload_n 3, 1) := dk_45 (dk_at dksX1_keyOf_0 6 rfl rfl)
theorem dX1_keyOf_7 : decode cX1_keyOf 7 = .ok (.aload_n 0, 1) := dk_42 (dk_at dksX1_keyOf_0 7 rfl rfl)
theorem dX1_keyOf_8 : decode cX1_keyOf 8 = .ok (.aload_n 3, 1) := dk_45 (dk_at dksX1_keyOf_0 8 rfl rfl)
theorem dX1_keyOf_9 : decode cX1_keyOf 9 = .ok (.iload_n 2, 1) := dk_28 (dk_at dksX1_keyOf_0 9 rfl rfl)
theorem dX1_keyOf_10 : decode cX1_keyOf 10 = .ok (.invokevirtual 241, 3) := dk_182 0 241 (dk_at dksX1_keyOf_0 10 rfl rfl)
theorem dX1_keyOf_13 : decode cX1_keyOf 13 = .ok (.invokevirtual 189, 3) := dk_182 0 189 (dk_at dksX1_keyOf_0 13 rfl rfl)
theorem dX1_keyOf_16 : decode cX1_keyOf 16 = .ok (.freturn, 1) := dk_174 (dk_at dksX1_keyOf_0 16 rfl rfl)
abbrev rm_X1_keyOf : Room := { frames := 9, cells := 3, slots := 13, locals := 146 }
def w_X1_keyOf (a0 : Option Nat) (a1 : Int32) (a2 : Int32) (h : AH) (P : UInt32 → AH → Prop) (PX : String → AH → Prop) : Prop :=
  is_c h a0 [0] (
  w_X1_board a0 a1 h (fun y2 h2 =>
  is_c h2 a0 [0] (
  w_X1_shape a0 y2 a2 h2 (fun y10 h10 =>
  is_c h10 y2 [2] (
  w_X3_keyOf y2 y10 h10 (fun y13 h13 =>
  P y13 h13))) PX)) PX)
theorem met_X1_keyOf (l : Launch) (hlt : l.stackTraces = false) (G : GG) (h : AH) (a0 : Option Nat) (a1 : Int32) (a2 : Int32) (P : UInt32 → AH → Prop) (PX : String → AH → Prop) (hw : w_X1_keyOf a0 a1 a2 h P PX) : cx_f l yX1_keyOf (ws_ yX1_keyOf cX1_keyOf 4 (Option.some Jvm.ClassFile.FieldType.float)) rm_X1_keyOf G h [vR a0, vI a1, vI a2] P PX := by
  refine j_startXf hlt [(0, vR a0), (1, vI a1), (2, vI a2)] (by decide) rfl rfl (fun x X eG er en hQ hT hex => ?_)
  subst eG
  refine j_aload_n X (pc := 0) 0 dX1_keyOf_0 rfl rfl ?_
  refine j_iload_n X (pc := 1) 1 dX1_keyOf_1 rfl rfl ?_
  obtain ⟨b9, c9, f9, hr9, ho9, hc9, hw⟩ := hw
  obtain rfl := List.mem_singleton.mp hc9
  refine j_callXq (j_runVX (n8 := 1) (As := [vI a1]) (rest := []) X (pc := 2) hr9 (met_X1_board (xl x) X.hl (xG x) h a0 a1 _ _ hw) ho9 (by decide) rfl q297 q299 qs0 q71 q300 (by decide +kernel) dX1_keyOf_2 rfl ⟨Nat.le_of_ble_eq_true rfl, Nat.le_of_ble_eq_true rfl⟩ (Nat.le_of_ble_eq_true rfl) ⟨Nat.le_of_ble_eq_true rfl, Nat.le_of_ble_eq_true rfl⟩) (fun E h9 hx => j_out X hT hex (Nat.le_of_ble_eq_true rfl) (Nat.le_of_ble_eq_true rfl) hx) (fun y2 h2 hw => ?_)
  refine j_astore_n X (pc := 5) [(3, vR y2), (0, vR a0), (1, vI a1), (2, vI a2)] dX1_keyOf_5 rfl (Nat.le_of_ble_eq_true rfl) rfl ?_
  refine j_aload_n X (pc := 6) 0 dX1_keyOf_6 rfl rfl ?_
  refine j_aload_n X (pc := 7) 1 dX1_keyOf_7 rfl rfl ?_
  refine j_aload_n X (pc := 8) 0 dX1_keyOf_8 rfl rfl ?_
  refine j_iload_n X (pc := 9) 3 dX1_keyOf_9 rfl rfl ?_
  obtain ⟨b9, c9, f9, hr9, ho9, hc9, hw⟩ := hw
  obtain rfl := List.mem_singleton.mp hc9
  refine j_callXq (j_runVX (n8 := 2) (As := [vR y2, vI a2]) (rest := [vR y2]) X (pc := 10) hr9 (met_X1_shape (xl x) X.hl (xG x) h2 a0 y2 a2 _ _ hw) ho9 (by decide) rfl q1075 q1077 qs9 q71 q1078 (by decide +kernel) dX1_keyOf_10 rfl ⟨Nat.le_of_ble_eq_true rfl, Nat.le_of_ble_eq_true rfl⟩ (Nat.le_of_ble_eq_true rfl) ⟨Nat.le_of_ble_eq_true rfl, Nat.le_of_ble_eq_true rfl⟩) (fun E h9 hx => j_out X hT hex (Nat.le_of_ble_eq_true rfl) (Nat.le_of_ble_eq_true rfl) hx) (fun y10 h10 hw => ?_)
  obtain ⟨b9, c9, f9, hr9, ho9, hc9, hw⟩ := hw
  obtain rfl := List.mem_singleton.mp hc9
  refine j_callf (j_runV (n8 := 1) (As := [vR y10]) (rest := []) X (pc := 13) hr9 (met_X3_keyOf (xl x) X.hl (xG x) h10 y2 y10 _ hw) ho9 (by decide) rfl q551 q552 q553 q76 q554 (by decide +kernel) dX1_keyOf_13 rfl ⟨Nat.le_of_ble_eq_true rfl, Nat.le_of_ble_eq_true rfl⟩ (Nat.le_of_ble_eq_true rfl) ⟨Nat.le_of_ble_eq_true rfl, Nat.le_of_ble_eq_true rfl⟩) (fun y13 h13 hw => ?_)
  exact j_fret X (pc := 16) hQ er (Nat.le_of_ble_eq_true rfl) (Nat.le_of_ble_eq_true rfl) dX1_keyOf_16 hw
abbrev cX0_keyOf : ByteArray := method_27_code
def yX0_keyOf : MethodName := ⟨RX0, "keyOf", "(LPlugboard;II[D)I"⟩
def dkwX0_keyOf_0 : List UInt8 := [45, 3, 42, 27, 28, 182, 0, 99, 141, 82, 167, 0, 11, 58, 4, 4, 172, 58, 4, 5, 172, 3, 172]
abbrev dktX0_keyOf_0 : List UInt8 := dkwX0_keyOf_0 ++ []
theorem dksX0_keyOf_0 : cX0_keyOf.data.toList.drop 0 = dktX0_keyOf_0 := by decide +kernel
theorem dX0_keyOf_0 : decode cX0_keyOf 0 = .ok (.aload_n 3, 1) := dk_45 (dk_at dksX0_keyOf_0 0 rfl rfl)
theorem dX0_keyOf_1 : decode cX0_keyOf 1 = .ok (.iconst 0, 1) := dk_3 (dk_at dksX0_keyOf_0 1 rfl rfl)
theorem dX0_keyOf_2 : decode cX0_keyOf 2 = .ok (.aload_n 0, 1) := dk_42 (dk_at dksX0_keyOf_0 2 rfl rfl)
theorem dX0_keyOf_3 : decode cX0_keyOf 3 = .ok (.iload_n 1, 1) := dk_27 (dk_at dksX0_keyOf_0 3 rfl rfl)
theorem dX0_keyOf_4 : decode cX0_keyOf 4 = .ok (.iload_n 2, 1) := dk_28 (dk_at dksX0_keyOf_0 4 rfl rfl)
theorem dX0_keyOf_5 : decode cX0_keyOf 5 = .ok (.invokevirtual 99, 3) := dk_182 0 99 (dk_at dksX0_keyOf_0 5 rfl rfl)
theorem dX0_keyOf_8 : decode cX0_keyOf 8 = .ok (.f2d, 1) := dk_141 (dk_at dksX0_keyOf_0 8 rfl rfl)
theorem dX0_keyOf_9 : decode cX0_keyOf 9 = .ok (.dastore, 1) := dk_82 (dk_at dksX0_keyOf_0 9 rfl rfl)
theorem dX0_keyOf_10 : decode cX0_keyOf 10 = .ok (.goto 11, 3) := dk_167 0 11 (dk_at dksX0_keyOf_0 10 rfl rfl)
theorem dX0_keyOf_13 : decode cX0_keyOf 13 = .ok (.astore 4, 2) := dk_58 4 (dk_at dksX0_keyOf_0 13 rfl rfl)
theorem dX0_keyOf_15 : decode cX0_keyOf 15 = .ok (.iconst 1, 1) := dk_4 (dk_at dksX0_keyOf_0 15 rfl rfl)
theorem dX0_keyOf_16 : decode cX0_keyOf 16 = .ok (.ireturn, 1) := dk_172 (dk_at dksX0_keyOf_0 16 rfl rfl)
theorem dX0_keyOf_17 : decode cX0_keyOf 17 = .ok (.astore 4, 2) := dk_58 4 (dk_at dksX0_keyOf_0 17 rfl rfl)
theorem dX0_keyOf_19 : decode cX0_keyOf 19 = .ok (.iconst 2, 1) := dk_5 (dk_at dksX0_keyOf_0 19 rfl rfl)
theorem dX0_keyOf_20 : decode cX0_keyOf 20 = .ok (.ireturn, 1) := dk_172 (dk_at dksX0_keyOf_0 20 rfl rfl)
theorem dX0_keyOf_21 : decode cX0_keyOf 21 = .ok (.iconst 0, 1) := dk_3 (dk_at dksX0_keyOf_0 21 rfl rfl)
theorem dX0_keyOf_22 : decode cX0_keyOf 22 = .ok (.ireturn, 1) := dk_172 (dk_at dksX0_keyOf_0 22 rfl rfl)
theorem q1465 : (Jvm.Cond.methodLink "PlugboardLaw" (99 : Nat) ({ cls := "Plugboard", name := "keyOf", desc := "(II)F" } : Jvm.MethodName)) ∈ lw_all := lw_g (lw_at lw_m6 195 rfl) rfl
theorem q1466 : (Jvm.Cond.instanceMethod ({ cls := "Plugboard", name := "keyOf", desc := "(II)F" } : Jvm.MethodName)) ∈ lw_all := lw_g (lw_at lw_m6 196 rfl) rfl
theorem q1467 : (Jvm.Cond.selects "Plugboard" ({ cls := "Plugboard", name := "keyOf", desc := "(II)F" } : Jvm.MethodName) ({ cls := "Plugboard", name := "keyOf", desc := "(II)F" } : Jvm.MethodName)) ∈ lw_all := lw_g (lw_at lw_m6 197 rfl) rfl
theorem q1468 : (Jvm.Cond.code ({ cls := "Plugboard", name := "keyOf", desc := "(II)F" } : Jvm.MethodName) prog_1_method_53_code (4 : Nat) (Option.some Jvm.ClassFile.FieldType.float)) ∈ lw_all := lw_g (lw_at lw_m6 198 rfl) rfl
abbrev rm_X0_keyOf : Room := { frames := 10, cells := 3, slots := 13, locals := 169 }
def w_X0_keyOf (a0 : Option Nat) (a1 : Int32) (a2 : Int32) (a3 : Option Nat) (h : AH) (P : Int32 → AH → Prop) : Prop :=
  is_c h a0 [0] (
  w_X1_keyOf a0 a1 a2 h (fun y5 h5 =>
  vf_n64 (FP.f2d y5) ∧
  s_D h5 a3 0 (FP.f2d y5) fun h9 =>
  P 0 h9)
    (fun E9 h9 => (E9 = "java/lang/IllegalArgumentException" ∧ ∀ q9 : Nat,
    P 1 h9) ∨
    (E9 = "java/util/NoSuchElementException" ∧ ∀ q9 : Nat,
    P 2 h9)))
theorem met_X0_keyOf (l : Launch) (hlt : l.stackTraces = false) (G : GG) (h : AH) (a0 : Option Nat) (a1 : Int32) (a2 : Int32) (a3 : Option Nat) (P : Int32 → AH → Prop) (hw : w_X0_keyOf a0 a1 a2 a3 h P) : ct_i l yX0_keyOf (wsW_ yX0_keyOf cX0_keyOf 5 (Option.some Jvm.ClassFile.FieldType.int) [((0 : Nat), (10 : Nat), (13 : Nat), (13 : Nat)), ((0 : Nat), (10 : Nat), (17 : Nat), (21 : Nat))]) rm_X0_keyOf G h [vR a0, vI a1, vI a2, vR a3] P := by
  refine j_startWi hlt [(0, vR a0), (1, vI a1), (2, vI a2), (3, vR a3)] (by decide) rfl rfl (fun x X eG er en hQ hex => ?_)
  subst eG
  refine j_aload_n X (pc := 0) 3 dX0_keyOf_0 rfl rfl ?_
  refine j_iconst X (pc := 1) 0 dX0_keyOf_1 (by decide) ?_
  refine j_aload_n X (pc := 2) 0 dX0_keyOf_2 rfl rfl ?_
  refine j_iload_n X (pc := 3) 1 dX0_keyOf_3 rfl rfl ?_
  refine j_iload_n X (pc := 4) 2 dX0_keyOf_4 rfl rfl ?_
  obtain ⟨b9, c9, f9, hr9, ho9, hc9, hw⟩ := hw
  obtain rfl := List.mem_singleton.mp hc9
  refine j_callXf (j_runVX (n8 := 2) (As := [vI a1, vI a2]) (rest := [vI 0, vR a3]) X (pc := 5) hr9 (met_X1_keyOf (xl x) X.hl (xG x) h a0 a1 a2 _ _ hw) ho9 (by decide) rfl q1465 q1466 q1467 q71 q1468 (by decide +kernel) dX0_keyOf_5 rfl ⟨Nat.le_of_ble_eq_true rfl, Nat.le_of_ble_eq_true rfl⟩ (Nat.le_of_ble_eq_true rfl) ⟨Nat.le_of_ble_eq_true rfl, Nat.le_of_ble_eq_true rfl⟩) ?_ (fun y5 h5 hw => ?_)
  · intro E9 h9 hx
    rcases hx with ⟨rfl, hw⟩ | ⟨rfl, hw⟩
    · refine j_catch X (pc := 5) "java/lang/IllegalArgumentException" hex [] [⟨0, 10, 17, 21⟩] ⟨0, 10, 13, 13⟩ rfl (by intro y hy; cases hy) (by decide) (by decide) q291 q312 (fun q9 => ?_)
      have hw := hw q9
      refine j_astore X (pc := 13) [(4, vR (some q9)), (0, vR a0), (1, vI a1), (2, vI a2), (3, vR a3)] dX0_keyOf_13 (Nat.le_of_ble_eq_true rfl) rfl ?_
      refine j_iconst X (pc := 15) 1 dX0_keyOf_15 (by decide) ?_
      exact j_iret X (pc := 16) hQ er (Nat.le_of_ble_eq_true rfl) (Nat.le_of_ble_eq_true rfl) dX0_keyOf_16 hw
    · refine j_catch X (pc := 5) "java/util/NoSuchElementException" hex [⟨0, 10, 13, 13⟩] [] ⟨0, 10, 17, 21⟩ rfl (by intro y hy; simp only [List.mem_cons, List.not_mem_nil, or_false] at hy; subst hy; exact Or.inr ⟨by decide, "java/lang/IllegalArgumentException", q291, by decide +kernel⟩) (by decide) (by decide) q1068 q537 (fun q9 => ?_)
      have hw := hw q9
      refine j_astore X (pc := 17) [(4, vR (some q9)), (0, vR a0), (1, vI a1), (2, vI a2), (3, vR a3)] dX0_keyOf_17 (Nat.le_of_ble_eq_true rfl) rfl ?_
      refine j_iconst X (pc := 19) 2 dX0_keyOf_19 (by decide) ?_
      exact j_iret X (pc := 20) hQ er (Nat.le_of_ble_eq_true rfl) (Nat.le_of_ble_eq_true rfl) dX0_keyOf_20 hw
  refine j_f2d X (pc := 8) dX0_keyOf_8 hw (fun hw => ?_)
  refine j_dast X (pc := 9) dX0_keyOf_9 hw (fun h9 hw => ?_)
  refine j_goto X (pc := 10) 21 dX0_keyOf_10 (by decide) ?_
  refine j_iconst X (pc := 21) 0 dX0_keyOf_21 (by decide) ?_
  exact j_iret X (pc := 22) hQ er (Nat.le_of_ble_eq_true rfl) (Nat.le_of_ble_eq_true rfl) dX0_keyOf_22 hw
abbrev cX5_keyOf : ByteArray := prog_19_method_59_code
def yX5_keyOf : MethodName := ⟨RX5, "keyOf", "(II)F"⟩
def dkwX5_keyOf_0 : List UInt8 := [42, 27, 28, 182, 0, 231, 153, 0, 7, 11, 167, 0, 8, 42, 28, 182, 0, 138, 174]
abbrev dktX5_keyOf_0 : List UInt8 := dkwX5_keyOf_0 ++ []
theorem dksX5_keyOf_0 : cX5_keyOf.data.toList.drop 0 = dktX5_keyOf_0 := by decide +kernel
theorem dX5_keyOf_0 : decode cX5_keyOf 0 = .ok (.aload_n 0, 1) := dk_42 (dk_at dksX5_keyOf_0 0 rfl rfl)
theorem dX5_keyOf_1 : decode cX5_keyOf 1 = .ok (.iload_n 1, 1) := dk_27 (dk_at dksX5_keyOf_0 1 rfl rfl)
theorem dX5_keyOf_2 : decode cX5_keyOf 2 = .ok (.iload_n 2, 1) := dk_28 (dk_at dksX5_keyOf_0 2 rfl rfl)
theorem dX5_keyOf_3 : decode cX5_keyOf 3 = .ok (.invokevirtual 231, 3) := dk_182 0 231 (dk_at dksX5_keyOf_0 3 rfl rfl)
theorem dX5_keyOf_6 : decode cX5_keyOf 6 = .ok (.ifCond .eq 7, 3) := dk_153 0 7 (dk_at dksX5_keyOf_0 6 rfl rfl)
theorem dX5_keyOf_9 : decode cX5_keyOf 9 = .ok (.fconst 0, 1) := dk_11 (dk_at dksX5_keyOf_0 9 rfl rfl)
theorem dX5_keyOf_10 : decode cX5_keyOf 10 = .ok (.goto 8, 3) := dk_167 0 8 (dk_at dksX5_keyOf_0 10 rfl rfl)
theorem dX5_keyOf_13 : decode cX5_keyOf 13 = .ok (.aload_n 0, 1) := dk_42 (dk_at dksX5_keyOf_0 13 rfl rfl)
theorem dX5_keyOf_14 : decode cX5_keyOf 14 = .ok (.iload_n 2, 1) := dk_28 (dk_at dksX5_keyOf_0 14 rfl rfl)
theorem dX5_keyOf_15 : decode cX5_keyOf 15 = .ok (.invokevirtual 138, 3) := dk_182 0 138 (dk_at dksX5_keyOf_0 15 rfl rfl)
theorem dX5_keyOf_18 : decode cX5_keyOf 18 = .ok (.freturn, 1) := dk_174 (dk_at dksX5_keyOf_0 18 rfl rfl)
abbrev rm_X5_keyOf : Room := { frames := 5, cells := 0, slots := 0, locals := 109 }
def w_X5_keyOf (a0 : Option Nat) (a1 : Int32) (a2 : Int32) (h : AH) (P : UInt32 → AH → Prop) : Prop :=
  is_c h a0 [4] (
  w_X5_isUnseen a0 a1 a2 h (fun y3 h3 =>
  ((y3 = 0 →
    is_c h3 a0 [4] (
    w_X5_key a0 a2 h3 (fun y15 h15 =>
    P y15 h15))) ∧
   (¬ y3 = 0 →
    P FP.fconst0 h3))))
theorem met_X5_keyOf (l : Launch) (hlt : l.stackTraces = false) (G : GG) (h : AH) (a0 : Option Nat) (a1 : Int32) (a2 : Int32) (P : UInt32 → AH → Prop) (hw : w_X5_keyOf a0 a1 a2 h P) : ct_f l yX5_keyOf (ws_ yX5_keyOf cX5_keyOf 3 (Option.some Jvm.ClassFile.FieldType.float)) rm_X5_keyOf G h [vR a0, vI a1, vI a2] P := by
  refine j_startf hlt [(0, vR a0), (1, vI a1), (2, vI a2)] (plainFor_of_name (by decide)) rfl rfl (fun x X eG er en hQ => ?_)
  subst eG
  refine j_aload_n X (pc := 0) 0 dX5_keyOf_0 rfl rfl ?_
  refine j_iload_n X (pc := 1) 1 dX5_keyOf_1 rfl rfl ?_
  refine j_iload_n X (pc := 2) 2 dX5_keyOf_2 rfl rfl ?_
  obtain ⟨b9, c9, f9, hr9, ho9, hc9, hw⟩ := hw
  obtain rfl := List.mem_singleton.mp hc9
  refine j_calli (j_runV (n8 := 2) (As := [vI a1, vI a2]) (rest := []) X (pc := 3) hr9 (met_X5_isUnseen (xl x) X.hl (xG x) h a0 a1 a2 _ hw) ho9 (by decide) rfl q2182 q2184 qs59 q78 q2185 (by decide +kernel) dX5_keyOf_3 rfl ⟨Nat.le_of_ble_eq_true rfl, Nat.le_of_ble_eq_true rfl⟩ (Nat.le_of_ble_eq_true rfl) ⟨Nat.le_of_ble_eq_true rfl, Nat.le_of_ble_eq_true rfl⟩) (fun y3 h3 hw => ?_)
  refine j_if_eq X (pc := 6) 13 dX5_keyOf_6 (by decide) hw (fun hw => ?_) (fun hw => ?_)
  · refine j_aload_n X (pc := 13) 0 dX5_keyOf_13 rfl rfl ?_
    refine j_iload_n X (pc := 14) 2 dX5_keyOf_14 rfl rfl ?_
    obtain ⟨b9, c9, f9, hr9, ho9, hc9, hw⟩ := hw
    obtain rfl := List.mem_singleton.mp hc9
    refine j_callf (j_runV (n8 := 1) (As := [vI a2]) (rest := []) X (pc := 15) hr9 (met_X5_key (xl x) X.hl (xG x) h3 a0 a2 _ hw) ho9 (by decide) rfl q2016 q2018 qs40 q78 q2019 (by decide +kernel) dX5_keyOf_15 rfl ⟨Nat.le_of_ble_eq_true rfl, Nat.le_of_ble_eq_true rfl⟩ (Nat.le_of_ble_eq_true rfl) ⟨Nat.le_of_ble_eq_true rfl, Nat.le_of_ble_eq_true rfl⟩) (fun y15 h15 hw => ?_)
    exact j_fret X (pc := 18) hQ er (Nat.le_of_ble_eq_true rfl) (Nat.le_of_ble_eq_true rfl) dX5_keyOf_18 hw
  · refine j_fconst0 X (pc := 9) dX5_keyOf_9 ?_
    refine j_goto X (pc := 10) 18 dX5_keyOf_10 (by decide) ?_
    exact j_fret X (pc := 18) hQ er (Nat.le_of_ble_eq_true rfl) (Nat.le_of_ble_eq_true rfl) dX5_keyOf_18 hw
abbrev cX1_keyBits_2 : ByteArray := prog_1_method_54_code
def yX1_keyBits_2 : MethodName := ⟨RX1, "keyBits", "(II)I"⟩
def dkwX1_keyBits_2_0 : List UInt8 := [42, 27, 182, 0, 199, 78, 45, 42, 45, 28, 182, 0, 241, 182, 0, 189, 184, 0, 225, 172]
abbrev dktX1_keyBits_2_0 : List UInt8 := dkwX1_keyBits_2_0 ++ []
theorem dksX1_keyBits_2_0 : cX1_keyBits_2.data.toList.drop 0 = dktX1_keyBits_2_0 := by decide +kernel
theorem dX1_keyBits_2_0 : decode cX1_keyBits_2 0 = .ok (.aload_n 0, 1) := dk_42 (dk_at dksX1_keyBits_2_0 0 rfl rfl)
theorem dX1_keyBits_2_1 : decode cX1_keyBits_2 1 = .ok (.iload_n 1, 1) := dk_27 (dk_at dksX1_keyBits_2_0 1 rfl rfl)
theorem dX1_keyBits_2_2 : decode cX1_keyBits_2 2 = .ok (.invokevirtual 199, 3) := dk_182 0 199 (dk_at dksX1_keyBits_2_0 2 rfl rfl)
theorem dX1_keyBits_2_5 : decode cX1_keyBits_2 5 = .ok (.astore_n 3, 1) := dk_78 (dk_at dksX1_keyBits_2_0 5 rfl rfl)
theorem dX1_keyBits_2_6 : decode cX1_keyBits_2 6 = .ok (.aload_n 3, 1) := dk_45 (dk_at dksX1_keyBits_2_0 6 rfl rfl)
theorem dX1_keyBits_2_7 : decode cX1_keyBits_2 7 = .ok (.aload_n 0, 1) := dk_42 (dk_at dksX1_keyBits_2_0 7 rfl rfl)
theorem dX1_keyBits_2_8 : decode cX1_keyBits_2 8 = .ok (.aload_n 3, 1) := dk_45 (dk_at dksX1_keyBits_2_0 8 rfl rfl)
theorem dX1_keyBits_2_9 : decode cX1_keyBits_2 9 = .ok (.iload_n 2, 1) := dk_28 (dk_at dksX1_keyBits_2_0 9 rfl rfl)
theorem dX1_keyBits_2_10 : decode cX1_keyBits_2 10 = .ok (.invokevirtual 241, 3) := dk_182 0 241 (dk_at dksX1_keyBits_2_0 10 rfl rfl)
theorem dX1_keyBits_2_13 : decode cX1_keyBits_2 13 = .ok (.invokevirtual 189, 3) := dk_182 0 189 (dk_at dksX1_keyBits_2_0 13 rfl rfl)
theorem dX1_keyBits_2_16 : decode cX1_keyBits_2 16 = .ok (.invokestatic 225, 3) := dk_184 0 225 (dk_at dksX1_keyBits_2_0 16 rfl rfl)
theorem dX1_keyBits_2_19 : decode cX1_keyBits_2 19 = .ok (.ireturn, 1) := dk_172 (dk_at dksX1_keyBits_2_0 19 rfl rfl)
abbrev rm_X1_keyBits_2 : Room := { frames := 9, cells := 3, slots := 13, locals := 146 }
def w_X1_keyBits_2 (a0 : Option Nat) (a1 : Int32) (a2 : Int32) (h : AH) (P : Int32 → AH → Prop) (PX : String → AH → Prop) : Prop :=
  is_c h a0 [0] (
  w_X1_board a0 a1 h (fun y2 h2 =>
  is_c h2 a0 [0] (
  w_X1_shape a0 y2 a2 h2 (fun y10 h10 =>
  is_c h10 y2 [2] (
  w_X3_keyOf y2 y10 h10 (fun y13 h13 =>
  w_X1_keyBits y13 h13 (fun y16 h16 =>
  P y16 h16)))) PX)) PX)
theorem met_X1_keyBits_2 (l : Launch) (hlt : l.stackTraces = false) (G : GG) (h : AH) (a0 : Option Nat) (a1 : Int32) (a2 : Int32) (P : Int32 → AH → Prop) (PX : String → AH → Prop) (hw : w_X1_keyBits_2 a0 a1 a2 h P PX) : cx_i l yX1_keyBits_2 (ws_ yX1_keyBits_2 cX1_keyBits_2 4 (Option.some Jvm.ClassFile.FieldType.int)) rm_X1_keyBits_2 G h [vR a0, vI a1, vI a2] P PX := by
  refine j_startXi hlt [(0, vR a0), (1, vI a1), (2, vI a2)] (by decide) rfl rfl (fun x X eG er en hQ hT hex => ?_)
  subst eG
  refine j_aload_n X (pc := 0) 0 dX1_keyBits_2_0 rfl rfl ?_
  refine j_iload_n X (pc := 1) 1 dX1_keyBits_2_1 rfl rfl ?_
  obtain ⟨b9, c9, f9, hr9, ho9, hc9, hw⟩ := hw
  obtain rfl := List.mem_singleton.mp hc9
  refine j_callXq (j_runVX (n8 := 1) (As := [vI a1]) (rest := []) X (pc := 2) hr9 (met_X1_board (xl x) X.hl (xG x) h a0 a1 _ _ hw) ho9 (by decide) rfl q297 q299 qs0 q71 q300 (by decide +kernel) dX1_keyBits_2_2 rfl ⟨Nat.le_of_ble_eq_true rfl, Nat.le_of_ble_eq_true rfl⟩ (Nat.le_of_ble_eq_true rfl) ⟨Nat.le_of_ble_eq_true rfl, Nat.le_of_ble_eq_true rfl⟩) (fun E h9 hx => j_out X hT hex (Nat.le_of_ble_eq_true rfl) (Nat.le_of_ble_eq_true rfl) hx) (fun y2 h2 hw => ?_)
  refine j_astore_n X (pc := 5) [(3, vR y2), (0, vR a0), (1, vI a1), (2, vI a2)] dX1_keyBits_2_5 rfl (Nat.le_of_ble_eq_true rfl) rfl ?_
  refine j_aload_n X (pc := 6) 0 dX1_keyBits_2_6 rfl rfl ?_
  refine j_aload_n X (pc := 7) 1 dX1_keyBits_2_7 rfl rfl ?_
  refine j_aload_n X (pc := 8) 0 dX1_keyBits_2_8 rfl rfl ?_
  refine j_iload_n X (pc := 9) 3 dX1_keyBits_2_9 rfl rfl ?_
  obtain ⟨b9, c9, f9, hr9, ho9, hc9, hw⟩ := hw
  obtain rfl := List.mem_singleton.mp hc9
  refine j_callXq (j_runVX (n8 := 2) (As := [vR y2, vI a2]) (rest := [vR y2]) X (pc := 10) hr9 (met_X1_shape (xl x) X.hl (xG x) h2 a0 y2 a2 _ _ hw) ho9 (by decide) rfl q1075 q1077 qs9 q71 q1078 (by decide +kernel) dX1_keyBits_2_10 rfl ⟨Nat.le_of_ble_eq_true rfl, Nat.le_of_ble_eq_true rfl⟩ (Nat.le_of_ble_eq_true rfl) ⟨Nat.le_of_ble_eq_true rfl, Nat.le_of_ble_eq_true rfl⟩) (fun E h9 hx => j_out X hT hex (Nat.le_of_ble_eq_true rfl) (Nat.le_of_ble_eq_true rfl) hx) (fun y10 h10 hw => ?_)
  obtain ⟨b9, c9, f9, hr9, ho9, hc9, hw⟩ := hw
  obtain rfl := List.mem_singleton.mp hc9
  refine j_callf (j_runV (n8 := 1) (As := [vR y10]) (rest := []) X (pc := 13) hr9 (met_X3_keyOf (xl x) X.hl (xG x) h10 y2 y10 _ hw) ho9 (by decide) rfl q551 q552 q553 q76 q554 (by decide +kernel) dX1_keyBits_2_13 rfl ⟨Nat.le_of_ble_eq_true rfl, Nat.le_of_ble_eq_true rfl⟩ (Nat.le_of_ble_eq_true rfl) ⟨Nat.le_of_ble_eq_true rfl, Nat.le_of_ble_eq_true rfl⟩) (fun y13 h13 hw => ?_)
  refine j_calli (j_runS (n8 := 1) (As := [vF y13]) (rest := []) X (pc := 16) (met_X1_keyBits (xl x) X.hl (xG x) h13 y13 _ hw) q677 q678 q71 q679 (by decide +kernel) dX1_keyBits_2_16 rfl ⟨Nat.le_of_ble_eq_true rfl, Nat.le_of_ble_eq_true rfl⟩ (Nat.le_of_ble_eq_true rfl) ⟨Nat.le_of_ble_eq_true rfl, Nat.le_of_ble_eq_true rfl⟩) (fun y16 h16 hw => ?_)
  exact j_iret X (pc := 19) hQ er (Nat.le_of_ble_eq_true rfl) (Nat.le_of_ble_eq_true rfl) dX1_keyBits_2_19 hw
abbrev cX0_keyBits : ByteArray := method_28_code
def yX0_keyBits : MethodName := ⟨RX0, "keyBits", "(LPlugboard;II[J)I"⟩
def dkwX0_keyBits_0 : List UInt8 := [45, 3, 42, 27, 28, 182, 0, 103, 133, 80, 167, 0, 11, 58, 4, 4, 172, 58, 4, 5, 172, 3, 172]
abbrev dktX0_keyBits_0 : List UInt8 := dkwX0_keyBits_0 ++ []
theorem dksX0_keyBits_0 : cX0_keyBits.data.toList.drop 0 = dktX0_keyBits_0 := by decide +kernel
theorem dX0_keyBits_0 : decode cX0_keyBits 0 = .ok (.aload_n 3, 1) := dk_45 (dk_at dksX0_keyBits_0 0 rfl rfl)
theorem dX0_keyBits_1 : decode cX0_keyBits 1 = .ok (.iconst 0, 1) := dk_3 (dk_at dksX0_keyBits_0 1 rfl rfl)
theorem dX0_keyBits_2 : decode cX0_keyBits 2 = .ok (.aload_n 0, 1) := dk_42 (dk_at dksX0_keyBits_0 2 rfl rfl)
theorem dX0_keyBits_3 : decode cX0_keyBits 3 = .ok (.iload_n 1, 1) := dk_27 (dk_at dksX0_keyBits_0 3 rfl rfl)
theorem dX0_keyBits_4 : decode cX0_keyBits 4 = .ok (.iload_n 2, 1) := dk_28 (dk_at dksX0_keyBits_0 4 rfl rfl)
theorem dX0_keyBits_5 : decode cX0_keyBits 5 = .ok (.invokevirtual 103, 3) := dk_182 0 103 (dk_at dksX0_keyBits_0 5 rfl rfl)
theorem dX0_keyBits_8 : decode cX0_keyBits 8 = .ok (.i2l, 1) := dk_133 (dk_at dksX0_keyBits_0 8 rfl rfl)
theorem dX0_keyBits_9 : decode cX0_keyBits 9 = .ok (.lastore, 1) := dk_80 (dk_at dksX0_keyBits_0 9 rfl rfl)
theorem dX0_keyBits_10 : decode cX0_keyBits 10 = .ok (.goto 11, 3) := dk_167 0 11 (dk_at dksX0_keyBits_0 10 rfl rfl)
theorem dX0_keyBits_13 : decode cX0_keyBits 13 = .ok (.astore 4, 2) := dk_58 4 (dk_at dksX0_keyBits_0 13 rfl rfl)
theorem dX0_keyBits_15 : decode cX0_keyBits 15 = .ok (.iconst 1, 1) := dk_4 (dk_at dksX0_keyBits_0 15 rfl rfl)
theorem dX0_keyBits_16 : decode cX0_keyBits 16 = .ok (.ireturn, 1) := dk_172 (dk_at dksX0_keyBits_0 16 rfl rfl)
theorem dX0_keyBits_17 : decode cX0_keyBits 17 = .ok (.astore 4, 2) := dk_58 4 (dk_at dksX0_keyBits_0 17 rfl rfl)
theorem dX0_keyBits_19 : decode cX0_keyBits 19 = .ok (.iconst 2, 1) := dk_5 (dk_at dksX0_keyBits_0 19 rfl rfl)
theorem dX0_keyBits_20 : decode cX0_keyBits 20 = .ok (.ireturn, 1) := dk_172 (dk_at dksX0_keyBits_0 20 rfl rfl)
theorem dX0_keyBits_21 : decode cX0_keyBits 21 = .ok (.iconst 0, 1) := dk_3 (dk_at dksX0_keyBits_0 21 rfl rfl)
theorem dX0_keyBits_22 : decode cX0_keyBits 22 = .ok (.ireturn, 1) := dk_172 (dk_at dksX0_keyBits_0 22 rfl rfl)
theorem q1472 : (Jvm.Cond.methodLink "PlugboardLaw" (103 : Nat) ({ cls := "Plugboard", name := "keyBits", desc := "(II)I" } : Jvm.MethodName)) ∈ lw_all := lw_g (lw_at lw_m6 202 rfl) rfl
theorem q1473 : (Jvm.Cond.instanceMethod ({ cls := "Plugboard", name := "keyBits", desc := "(II)I" } : Jvm.MethodName)) ∈ lw_all := lw_g (lw_at lw_m6 203 rfl) rfl
theorem q1474 : (Jvm.Cond.selects "Plugboard" ({ cls := "Plugboard", name := "keyBits", desc := "(II)I" } : Jvm.MethodName) ({ cls := "Plugboard", name := "keyBits", desc := "(II)I" } : Jvm.MethodName)) ∈ lw_all := lw_g (lw_at lw_m6 204 rfl) rfl
theorem q1475 : (Jvm.Cond.code ({ cls := "Plugboard", name := "keyBits", desc := "(II)I" } : Jvm.MethodName) prog_1_method_54_code (4 : Nat) (Option.some Jvm.ClassFile.FieldType.int)) ∈ lw_all := lw_g (lw_at lw_m6 205 rfl) rfl
abbrev rm_X0_keyBits : Room := { frames := 10, cells := 3, slots := 13, locals := 169 }
def w_X0_keyBits (a0 : Option Nat) (a1 : Int32) (a2 : Int32) (a3 : Option Nat) (h : AH) (P : Int32 → AH → Prop) : Prop :=
  is_c h a0 [0] (
  w_X1_keyBits_2 a0 a1 a2 h (fun y5 h5 =>
  s_L h5 a3 0 (Int32.toInt64 y5) fun h9 =>
  P 0 h9)
    (fun E9 h9 => (E9 = "java/lang/IllegalArgumentException" ∧ ∀ q9 : Nat,
    P 1 h9) ∨
    (E9 = "java/util/NoSuchElementException" ∧ ∀ q9 : Nat,
    P 2 h9)))
theorem met_X0_keyBits (l : Launch) (hlt : l.stackTraces = false) (G : GG) (h : AH) (a0 : Option Nat) (a1 : Int32) (a2 : Int32) (a3 : Option Nat) (P : Int32 → AH → Prop) (hw : w_X0_keyBits a0 a1 a2 a3 h P) : ct_i l yX0_keyBits (wsW_ yX0_keyBits cX0_keyBits 5 (Option.some Jvm.ClassFile.FieldType.int) [((0 : Nat), (10 : Nat), (13 : Nat), (13 : Nat)), ((0 : Nat), (10 : Nat), (17 : Nat), (21 : Nat))]) rm_X0_keyBits G h [vR a0, vI a1, vI a2, vR a3] P := by
  refine j_startWi hlt [(0, vR a0), (1, vI a1), (2, vI a2), (3, vR a3)] (by decide) rfl rfl (fun x X eG er en hQ hex => ?_)
  subst eG
  refine j_aload_n X (pc := 0) 3 dX0_keyBits_0 rfl rfl ?_
  refine j_iconst X (pc := 1) 0 dX0_keyBits_1 (by decide) ?_
  refine j_aload_n X (pc := 2) 0 dX0_keyBits_2 rfl rfl ?_
  refine j_iload_n X (pc := 3) 1 dX0_keyBits_3 rfl rfl ?_
  refine j_iload_n X (pc := 4) 2 dX0_keyBits_4 rfl rfl ?_
  obtain ⟨b9, c9, f9, hr9, ho9, hc9, hw⟩ := hw
  obtain rfl := List.mem_singleton.mp hc9
  refine j_callXi (j_runVX (n8 := 2) (As := [vI a1, vI a2]) (rest := [vI 0, vR a3]) X (pc := 5) hr9 (met_X1_keyBits_2 (xl x) X.hl (xG x) h a0 a1 a2 _ _ hw) ho9 (by decide) rfl q1472 q1473 q1474 q71 q1475 (by decide +kernel) dX0_keyBits_5 rfl ⟨Nat.le_of_ble_eq_true rfl, Nat.le_of_ble_eq_true rfl⟩ (Nat.le_of_ble_eq_true rfl) ⟨Nat.le_of_ble_eq_true rfl, Nat.le_of_ble_eq_true rfl⟩) ?_ (fun y5 h5 hw => ?_)
  · intro E9 h9 hx
    rcases hx with ⟨rfl, hw⟩ | ⟨rfl, hw⟩
    · refine j_catch X (pc := 5) "java/lang/IllegalArgumentException" hex [] [⟨0, 10, 17, 21⟩] ⟨0, 10, 13, 13⟩ rfl (by intro y hy; cases hy) (by decide) (by decide) q291 q312 (fun q9 => ?_)
      have hw := hw q9
      refine j_astore X (pc := 13) [(4, vR (some q9)), (0, vR a0), (1, vI a1), (2, vI a2), (3, vR a3)] dX0_keyBits_13 (Nat.le_of_ble_eq_true rfl) rfl ?_
      refine j_iconst X (pc := 15) 1 dX0_keyBits_15 (by decide) ?_
      exact j_iret X (pc := 16) hQ er (Nat.le_of_ble_eq_true rfl) (Nat.le_of_ble_eq_true rfl) dX0_keyBits_16 hw
    · refine j_catch X (pc := 5) "java/util/NoSuchElementException" hex [⟨0, 10, 13, 13⟩] [] ⟨0, 10, 17, 21⟩ rfl (by intro y hy; simp only [List.mem_cons, List.not_mem_nil, or_false] at hy; subst hy; exact Or.inr ⟨by decide, "java/lang/IllegalArgumentException", q291, by decide +kernel⟩) (by decide) (by decide) q1068 q537 (fun q9 => ?_)
      have hw := hw q9
      refine j_astore X (pc := 17) [(4, vR (some q9)), (0, vR a0), (1, vI a1), (2, vI a2), (3, vR a3)] dX0_keyBits_17 (Nat.le_of_ble_eq_true rfl) rfl ?_
      refine j_iconst X (pc := 19) 2 dX0_keyBits_19 (by decide) ?_
      exact j_iret X (pc := 20) hQ er (Nat.le_of_ble_eq_true rfl) (Nat.le_of_ble_eq_true rfl) dX0_keyBits_20 hw
  refine j_i2l X (pc := 8) dX0_keyBits_8 ?_
  refine j_last X (pc := 9) dX0_keyBits_9 hw (fun h9 hw => ?_)
  refine j_goto X (pc := 10) 21 dX0_keyBits_10 (by decide) ?_
  refine j_iconst X (pc := 21) 0 dX0_keyBits_21 (by decide) ?_
  exact j_iret X (pc := 22) hQ er (Nat.le_of_ble_eq_true rfl) (Nat.le_of_ble_eq_true rfl) dX0_keyBits_22 hw
abbrev cX5_keyBits : ByteArray := prog_19_method_60_code
def yX5_keyBits : MethodName := ⟨RX5, "keyBits", "(II)I"⟩
def dkwX5_keyBits_0 : List UInt8 := [42, 27, 28, 182, 0, 231, 153, 0, 7, 3, 167, 0, 11, 42, 28, 182, 0, 138, 184, 0, 182, 172]
abbrev dktX5_keyBits_0 : List UInt8 := dkwX5_keyBits_0 ++ []
theorem dksX5_keyBits_0 : cX5_keyBits.data.toList.drop 0 = dktX5_keyBits_0 := by decide +kernel
theorem dX5_keyBits_0 : decode cX5_keyBits 0 = .ok (.aload_n 0, 1) := dk_42 (dk_at dksX5_keyBits_0 0 rfl rfl)
theorem dX5_keyBits_1 : decode cX5_keyBits 1 = .ok (.iload_n 1, 1) := dk_27 (dk_at dksX5_keyBits_0 1 rfl rfl)
theorem dX5_keyBits_2 : decode cX5_keyBits 2 = .ok (.iload_n 2, 1) := dk_28 (dk_at dksX5_keyBits_0 2 rfl rfl)
theorem dX5_keyBits_3 : decode cX5_keyBits 3 = .ok (.invokevirtual 231, 3) := dk_182 0 231 (dk_at dksX5_keyBits_0 3 rfl rfl)
theorem dX5_keyBits_6 : decode cX5_keyBits 6 = .ok (.ifCond .eq 7, 3) := dk_153 0 7 (dk_at dksX5_keyBits_0 6 rfl rfl)
theorem dX5_keyBits_9 : decode cX5_keyBits 9 = .ok (.iconst 0, 1) := dk_3 (dk_at dksX5_keyBits_0 9 rfl rfl)
theorem dX5_keyBits_10 : decode cX5_keyBits 10 = .ok (.goto 11, 3) := dk_167 0 11 (dk_at dksX5_keyBits_0 10 rfl rfl)
theorem dX5_keyBits_13 : decode cX5_keyBits 13 = .ok (.aload_n 0, 1) := dk_42 (dk_at dksX5_keyBits_0 13 rfl rfl)
theorem dX5_keyBits_14 : decode cX5_keyBits 14 = .ok (.iload_n 2, 1) := dk_28 (dk_at dksX5_keyBits_0 14 rfl rfl)
theorem dX5_keyBits_15 : decode cX5_keyBits 15 = .ok (.invokevirtual 138, 3) := dk_182 0 138 (dk_at dksX5_keyBits_0 15 rfl rfl)
theorem dX5_keyBits_18 : decode cX5_keyBits 18 = .ok (.invokestatic 182, 3) := dk_184 0 182 (dk_at dksX5_keyBits_0 18 rfl rfl)
theorem dX5_keyBits_21 : decode cX5_keyBits 21 = .ok (.ireturn, 1) := dk_172 (dk_at dksX5_keyBits_0 21 rfl rfl)
abbrev rm_X5_keyBits : Room := { frames := 5, cells := 0, slots := 0, locals := 109 }
def w_X5_keyBits (a0 : Option Nat) (a1 : Int32) (a2 : Int32) (h : AH) (P : Int32 → AH → Prop) : Prop :=
  is_c h a0 [4] (
  w_X5_isUnseen a0 a1 a2 h (fun y3 h3 =>
  ((y3 = 0 →
    is_c h3 a0 [4] (
    w_X5_key a0 a2 h3 (fun y15 h15 =>
    w_J13_floatToIntBits y15 h15 (fun y18 h18 =>
    P y18 h18)))) ∧
   (¬ y3 = 0 →
    P 0 h3))))
theorem met_X5_keyBits (l : Launch) (hlt : l.stackTraces = false) (G : GG) (h : AH) (a0 : Option Nat) (a1 : Int32) (a2 : Int32) (P : Int32 → AH → Prop) (hw : w_X5_keyBits a0 a1 a2 h P) : ct_i l yX5_keyBits (ws_ yX5_keyBits cX5_keyBits 3 (Option.some Jvm.ClassFile.FieldType.int)) rm_X5_keyBits G h [vR a0, vI a1, vI a2] P := by
  refine j_starti hlt [(0, vR a0), (1, vI a1), (2, vI a2)] (plainFor_of_name (by decide)) rfl rfl (fun x X eG er en hQ => ?_)
  subst eG
  refine j_aload_n X (pc := 0) 0 dX5_keyBits_0 rfl rfl ?_
  refine j_iload_n X (pc := 1) 1 dX5_keyBits_1 rfl rfl ?_
  refine j_iload_n X (pc := 2) 2 dX5_keyBits_2 rfl rfl ?_
  obtain ⟨b9, c9, f9, hr9, ho9, hc9, hw⟩ := hw
  obtain rfl := List.mem_singleton.mp hc9
  refine j_calli (j_runV (n8 := 2) (As := [vI a1, vI a2]) (rest := []) X (pc := 3) hr9 (met_X5_isUnseen (xl x) X.hl (xG x) h a0 a1 a2 _ hw) ho9 (by decide) rfl q2182 q2184 qs59 q78 q2185 (by decide +kernel) dX5_keyBits_3 rfl ⟨Nat.le_of_ble_eq_true rfl, Nat.le_of_ble_eq_true rfl⟩ (Nat.le_of_ble_eq_true rfl) ⟨Nat.le_of_ble_eq_true rfl, Nat.le_of_ble_eq_true rfl⟩) (fun y3 h3 hw => ?_)
  refine j_if_eq X (pc := 6) 13 dX5_keyBits_6 (by decide) hw (fun hw => ?_) (fun hw => ?_)
  · refine j_aload_n X (pc := 13) 0 dX5_keyBits_13 rfl rfl ?_
    refine j_iload_n X (pc := 14) 2 dX5_keyBits_14 rfl rfl ?_
    obtain ⟨b9, c9, f9, hr9, ho9, hc9, hw⟩ := hw
    obtain rfl := List.mem_singleton.mp hc9
    refine j_callf (j_runV (n8 := 1) (As := [vI a2]) (rest := []) X (pc := 15) hr9 (met_X5_key (xl x) X.hl (xG x) h3 a0 a2 _ hw) ho9 (by decide) rfl q2016 q2018 qs40 q78 q2019 (by decide +kernel) dX5_keyBits_15 rfl ⟨Nat.le_of_ble_eq_true rfl, Nat.le_of_ble_eq_true rfl⟩ (Nat.le_of_ble_eq_true rfl) ⟨Nat.le_of_ble_eq_true rfl, Nat.le_of_ble_eq_true rfl⟩) (fun y15 h15 hw => ?_)
    refine j_calli (j_runS (n8 := 1) (As := [vF y15]) (rest := []) X (pc := 18) (met_J13_floatToIntBits (xl x) X.hl (xG x) h15 y15 _ hw) q2029 q681 q91 q682 (by decide +kernel) dX5_keyBits_18 rfl ⟨Nat.le_of_ble_eq_true rfl, Nat.le_of_ble_eq_true rfl⟩ (Nat.le_of_ble_eq_true rfl) ⟨Nat.le_of_ble_eq_true rfl, Nat.le_of_ble_eq_true rfl⟩) (fun y18 h18 hw => ?_)
    exact j_iret X (pc := 21) hQ er (Nat.le_of_ble_eq_true rfl) (Nat.le_of_ble_eq_true rfl) dX5_keyBits_21 hw
  · refine j_iconst X (pc := 9) 0 dX5_keyBits_9 (by decide) ?_
    refine j_goto X (pc := 10) 21 dX5_keyBits_10 (by decide) ?_
    exact j_iret X (pc := 21) hQ er (Nat.le_of_ble_eq_true rfl) (Nat.le_of_ble_eq_true rfl) dX5_keyBits_21 hw
abbrev cX1_keyCut : ByteArray := prog_1_method_55_code
def yX1_keyCut : MethodName := ⟨RX1, "keyCut", "(II)I"⟩
def dkwX1_keyCut_0 : List UInt8 := [42, 27, 182, 0, 199, 78, 45, 42, 45, 28, 182, 0, 241, 182, 0, 189, 19, 1, 105, 106, 139, 172]
abbrev dktX1_keyCut_0 : List UInt8 := dkwX1_keyCut_0 ++ []
theorem dksX1_keyCut_0 : cX1_keyCut.data.toList.drop 0 = dktX1_keyCut_0 := by decide +kernel
theorem dX1_keyCut_0 : decode cX1_keyCut 0 = .ok (.aload_n 0, 1) := dk_42 (dk_at dksX1_keyCut_0 0 rfl rfl)
theorem dX1_keyCut_1 : decode cX1_keyCut 1 = .ok (.iload_n 1, 1) := dk_27 (dk_at dksX1_keyCut_0 1 rfl rfl)
theorem dX1_keyCut_2 : decode cX1_keyCut 2 = .ok (.invokevirtual 199, 3) := dk_182 0 199 (dk_at dksX1_keyCut_0 2 rfl rfl)
theorem dX1_keyCut_5 : decode cX1_keyCut 5 = .ok (.astore_n 3, 1) := dk_78 (dk_at dksX1_keyCut_0 5 rfl rfl)
theorem dX1_keyCut_6 : decode cX1_keyCut 6 = .ok (.aload_n 3, 1) := dk_45 (dk_at dksX1_keyCut_0 6 rfl rfl)
theorem dX1_keyCut_7 : decode cX1_keyCut 7 = .ok (.aload_n 0, 1) := dk_42 (dk_at dksX1_keyCut_0 7 rfl rfl)
theorem dX1_keyCut_8 : decode cX1_keyCut 8 = .ok (.aload_n 3, 1) := dk_45 (dk_at dksX1_keyCut_0 8 rfl rfl)
theorem dX1_keyCut_9 : decode cX1_keyCut 9 = .ok (.iload_n 2, 1) := dk_28 (dk_at dksX1_keyCut_0 9 rfl rfl)
theorem dX1_keyCut_10 : decode cX1_keyCut 10 = .ok (.invokevirtual 241, 3) := dk_182 0 241 (dk_at dksX1_keyCut_0 10 rfl rfl)
theorem dX1_keyCut_13 : decode cX1_keyCut 13 = .ok (.invokevirtual 189, 3) := dk_182 0 189 (dk_at dksX1_keyCut_0 13 rfl rfl)
theorem dX1_keyCut_16 : decode cX1_keyCut 16 = .ok (.ldc_w 361, 3) := dk_19 1 105 (dk_at dksX1_keyCut_0 16 rfl rfl)
theorem dX1_keyCut_19 : decode cX1_keyCut 19 = .ok (.fmul, 1) := dk_106 (dk_at dksX1_keyCut_0 19 rfl rfl)
theorem dX1_keyCut_20 : decode cX1_keyCut 20 = .ok (.f2i, 1) := dk_139 (dk_at dksX1_keyCut_0 20 rfl rfl)
theorem dX1_keyCut_21 : decode cX1_keyCut 21 = .ok (.ireturn, 1) := dk_172 (dk_at dksX1_keyCut_0 21 rfl rfl)
theorem q1483 : (Jvm.Cond.constantFloat "Plugboard" (361 : Nat) (1090519040 : UInt32)) ∈ lw_all := lw_g (lw_at lw_m6 213 rfl) rfl
abbrev rm_X1_keyCut : Room := { frames := 9, cells := 3, slots := 13, locals := 146 }
def w_X1_keyCut (a0 : Option Nat) (a1 : Int32) (a2 : Int32) (h : AH) (P : Int32 → AH → Prop) (PX : String → AH → Prop) : Prop :=
  is_c h a0 [0] (
  w_X1_board a0 a1 h (fun y2 h2 =>
  is_c h2 a0 [0] (
  w_X1_shape a0 y2 a2 h2 (fun y10 h10 =>
  is_c h10 y2 [2] (
  w_X3_keyOf y2 y10 h10 (fun y13 h13 =>
  vf_n32 (FP.fmul y13 (1090519040 : UInt32)) ∧
  P (FP.f2i (FP.fmul y13 (1090519040 : UInt32))) h13))) PX)) PX)
theorem met_X1_keyCut (l : Launch) (hlt : l.stackTraces = false) (G : GG) (h : AH) (a0 : Option Nat) (a1 : Int32) (a2 : Int32) (P : Int32 → AH → Prop) (PX : String → AH → Prop) (hw : w_X1_keyCut a0 a1 a2 h P PX) : cx_i l yX1_keyCut (ws_ yX1_keyCut cX1_keyCut 4 (Option.some Jvm.ClassFile.FieldType.int)) rm_X1_keyCut G h [vR a0, vI a1, vI a2] P PX := by
  refine j_startXi hlt [(0, vR a0), (1, vI a1), (2, vI a2)] (by decide) rfl rfl (fun x X eG er en hQ hT hex => ?_)
  subst eG
  refine j_aload_n X (pc := 0) 0 dX1_keyCut_0 rfl rfl ?_
  refine j_iload_n X (pc := 1) 1 dX1_keyCut_1 rfl rfl ?_
  obtain ⟨b9, c9, f9, hr9, ho9, hc9, hw⟩ := hw
  obtain rfl := List.mem_singleton.mp hc9
  refine j_callXq (j_runVX (n8 := 1) (As := [vI a1]) (rest := []) X (pc := 2) hr9 (met_X1_board (xl x) X.hl (xG x) h a0 a1 _ _ hw) ho9 (by decide) rfl q297 q299 qs0 q71 q300 (by decide +kernel) dX1_keyCut_2 rfl ⟨Nat.le_of_ble_eq_true rfl, Nat.le_of_ble_eq_true rfl⟩ (Nat.le_of_ble_eq_true rfl) ⟨Nat.le_of_ble_eq_true rfl, Nat.le_of_ble_eq_true rfl⟩) (fun E h9 hx => j_out X hT hex (Nat.le_of_ble_eq_true rfl) (Nat.le_of_ble_eq_true rfl) hx) (fun y2 h2 hw => ?_)
  refine j_astore_n X (pc := 5) [(3, vR y2), (0, vR a0), (1, vI a1), (2, vI a2)] dX1_keyCut_5 rfl (Nat.le_of_ble_eq_true rfl) rfl ?_
  refine j_aload_n X (pc := 6) 0 dX1_keyCut_6 rfl rfl ?_
  refine j_aload_n X (pc := 7) 1 dX1_keyCut_7 rfl rfl ?_
  refine j_aload_n X (pc := 8) 0 dX1_keyCut_8 rfl rfl ?_
  refine j_iload_n X (pc := 9) 3 dX1_keyCut_9 rfl rfl ?_
  obtain ⟨b9, c9, f9, hr9, ho9, hc9, hw⟩ := hw
  obtain rfl := List.mem_singleton.mp hc9
  refine j_callXq (j_runVX (n8 := 2) (As := [vR y2, vI a2]) (rest := [vR y2]) X (pc := 10) hr9 (met_X1_shape (xl x) X.hl (xG x) h2 a0 y2 a2 _ _ hw) ho9 (by decide) rfl q1075 q1077 qs9 q71 q1078 (by decide +kernel) dX1_keyCut_10 rfl ⟨Nat.le_of_ble_eq_true rfl, Nat.le_of_ble_eq_true rfl⟩ (Nat.le_of_ble_eq_true rfl) ⟨Nat.le_of_ble_eq_true rfl, Nat.le_of_ble_eq_true rfl⟩) (fun E h9 hx => j_out X hT hex (Nat.le_of_ble_eq_true rfl) (Nat.le_of_ble_eq_true rfl) hx) (fun y10 h10 hw => ?_)
  obtain ⟨b9, c9, f9, hr9, ho9, hc9, hw⟩ := hw
  obtain rfl := List.mem_singleton.mp hc9
  refine j_callf (j_runV (n8 := 1) (As := [vR y10]) (rest := []) X (pc := 13) hr9 (met_X3_keyOf (xl x) X.hl (xG x) h10 y2 y10 _ hw) ho9 (by decide) rfl q551 q552 q553 q76 q554 (by decide +kernel) dX1_keyCut_13 rfl ⟨Nat.le_of_ble_eq_true rfl, Nat.le_of_ble_eq_true rfl⟩ (Nat.le_of_ble_eq_true rfl) ⟨Nat.le_of_ble_eq_true rfl, Nat.le_of_ble_eq_true rfl⟩) (fun y13 h13 hw => ?_)
  refine j_ldcwf X (pc := 16) dX1_keyCut_16 q1483 ?_
  refine j_fmul X (pc := 19) dX1_keyCut_19 hw (fun hw => ?_)
  refine j_f2i X (pc := 20) dX1_keyCut_20 ?_
  exact j_iret X (pc := 21) hQ er (Nat.le_of_ble_eq_true rfl) (Nat.le_of_ble_eq_true rfl) dX1_keyCut_21 hw
abbrev cX0_keyCut : ByteArray := method_29_code
def yX0_keyCut : MethodName := ⟨RX0, "keyCut", "(LPlugboard;II[J)I"⟩
def dkwX0_keyCut_0 : List UInt8 := [45, 3, 42, 27, 28, 182, 0, 106, 133, 80, 167, 0, 11, 58, 4, 4, 172, 58, 4, 5, 172, 3, 172]
abbrev dktX0_keyCut_0 : List UInt8 := dkwX0_keyCut_0 ++ []
theorem dksX0_keyCut_0 : cX0_keyCut.data.toList.drop 0 = dktX0_keyCut_0 := by decide +kernel
theorem dX0_keyCut_0 : decode cX0_keyCut 0 = .ok (.aload_n 3, 1) := dk_45 (dk_at dksX0_keyCut_0 0 rfl rfl)
theorem dX0_keyCut_1 : decode cX0_keyCut 1 = .ok (.iconst 0, 1) := dk_3 (dk_at dksX0_keyCut_0 1 rfl rfl)
theorem dX0_keyCut_2 : decode cX0_keyCut 2 = .ok (.aload_n 0, 1) := dk_42 (dk_at dksX0_keyCut_0 2 rfl rfl)
theorem dX0_keyCut_3 : decode cX0_keyCut 3 = .ok (.iload_n 1, 1) := dk_27 (dk_at dksX0_keyCut_0 3 rfl rfl)
theorem dX0_keyCut_4 : decode cX0_keyCut 4 = .ok (.iload_n 2, 1) := dk_28 (dk_at dksX0_keyCut_0 4 rfl rfl)
theorem dX0_keyCut_5 : decode cX0_keyCut 5 = .ok (.invokevirtual 106, 3) := dk_182 0 106 (dk_at dksX0_keyCut_0 5 rfl rfl)
theorem dX0_keyCut_8 : decode cX0_keyCut 8 = .ok (.i2l, 1) := dk_133 (dk_at dksX0_keyCut_0 8 rfl rfl)
theorem dX0_keyCut_9 : decode cX0_keyCut 9 = .ok (.lastore, 1) := dk_80 (dk_at dksX0_keyCut_0 9 rfl rfl)
theorem dX0_keyCut_10 : decode cX0_keyCut 10 = .ok (.goto 11, 3) := dk_167 0 11 (dk_at dksX0_keyCut_0 10 rfl rfl)
theorem dX0_keyCut_13 : decode cX0_keyCut 13 = .ok (.astore 4, 2) := dk_58 4 (dk_at dksX0_keyCut_0 13 rfl rfl)
theorem dX0_keyCut_15 : decode cX0_keyCut 15 = .ok (.iconst 1, 1) := dk_4 (dk_at dksX0_keyCut_0 15 rfl rfl)
theorem dX0_keyCut_16 : decode cX0_keyCut 16 = .ok (.ireturn, 1) := dk_172 (dk_at dksX0_keyCut_0 16 rfl rfl)
theorem dX0_keyCut_17 : decode cX0_keyCut 17 = .ok (.astore 4, 2) := dk_58 4 (dk_at dksX0_keyCut_0 17 rfl rfl)
theorem dX0_keyCut_19 : decode cX0_keyCut 19 = .ok (.iconst 2, 1) := dk_5 (dk_at dksX0_keyCut_0 19 rfl rfl)
theorem dX0_keyCut_20 : decode cX0_keyCut 20 = .ok (.ireturn, 1) := dk_172 (dk_at dksX0_keyCut_0 20 rfl rfl)
theorem dX0_keyCut_21 : decode cX0_keyCut 21 = .ok (.iconst 0, 1) := dk_3 (dk_at dksX0_keyCut_0 21 rfl rfl)
theorem dX0_keyCut_22 : decode cX0_keyCut 22 = .ok (.ireturn, 1) := dk_172 (dk_at dksX0_keyCut_0 22 rfl rfl)
theorem q1479 : (Jvm.Cond.methodLink "PlugboardLaw" (106 : Nat) ({ cls := "Plugboard", name := "keyCut", desc := "(II)I" } : Jvm.MethodName)) ∈ lw_all := lw_g (lw_at lw_m6 209 rfl) rfl
theorem q1480 : (Jvm.Cond.instanceMethod ({ cls := "Plugboard", name := "keyCut", desc := "(II)I" } : Jvm.MethodName)) ∈ lw_all := lw_g (lw_at lw_m6 210 rfl) rfl
theorem q1481 : (Jvm.Cond.selects "Plugboard" ({ cls := "Plugboard", name := "keyCut", desc := "(II)I" } : Jvm.MethodName) ({ cls := "Plugboard", name := "keyCut", desc := "(II)I" } : Jvm.MethodName)) ∈ lw_all := lw_g (lw_at lw_m6 211 rfl) rfl
theorem q1482 : (Jvm.Cond.code ({ cls := "Plugboard", name := "keyCut", desc := "(II)I" } : Jvm.MethodName) prog_1_method_55_code (4 : Nat) (Option.some Jvm.ClassFile.FieldType.int)) ∈ lw_all := lw_g (lw_at lw_m6 212 rfl) rfl
abbrev rm_X0_keyCut : Room := { frames := 10, cells := 3, slots := 13, locals := 169 }
def w_X0_keyCut (a0 : Option Nat) (a1 : Int32) (a2 : Int32) (a3 : Option Nat) (h : AH) (P : Int32 → AH → Prop) : Prop :=
  is_c h a0 [0] (
  w_X1_keyCut a0 a1 a2 h (fun y5 h5 =>
  s_L h5 a3 0 (Int32.toInt64 y5) fun h9 =>
  P 0 h9)
    (fun E9 h9 => (E9 = "java/lang/IllegalArgumentException" ∧ ∀ q9 : Nat,
    P 1 h9) ∨
    (E9 = "java/util/NoSuchElementException" ∧ ∀ q9 : Nat,
    P 2 h9)))
theorem met_X0_keyCut (l : Launch) (hlt : l.stackTraces = false) (G : GG) (h : AH) (a0 : Option Nat) (a1 : Int32) (a2 : Int32) (a3 : Option Nat) (P : Int32 → AH → Prop) (hw : w_X0_keyCut a0 a1 a2 a3 h P) : ct_i l yX0_keyCut (wsW_ yX0_keyCut cX0_keyCut 5 (Option.some Jvm.ClassFile.FieldType.int) [((0 : Nat), (10 : Nat), (13 : Nat), (13 : Nat)), ((0 : Nat), (10 : Nat), (17 : Nat), (21 : Nat))]) rm_X0_keyCut G h [vR a0, vI a1, vI a2, vR a3] P := by
  refine j_startWi hlt [(0, vR a0), (1, vI a1), (2, vI a2), (3, vR a3)] (by decide) rfl rfl (fun x X eG er en hQ hex => ?_)
  subst eG
  refine j_aload_n X (pc := 0) 3 dX0_keyCut_0 rfl rfl ?_
  refine j_iconst X (pc := 1) 0 dX0_keyCut_1 (by decide) ?_
  refine j_aload_n X (pc := 2) 0 dX0_keyCut_2 rfl rfl ?_
  refine j_iload_n X (pc := 3) 1 dX0_keyCut_3 rfl rfl ?_
  refine j_iload_n X (pc := 4) 2 dX0_keyCut_4 rfl rfl ?_
  obtain ⟨b9, c9, f9, hr9, ho9, hc9, hw⟩ := hw
  obtain rfl := List.mem_singleton.mp hc9
  refine j_callXi (j_runVX (n8 := 2) (As := [vI a1, vI a2]) (rest := [vI 0, vR a3]) X (pc := 5) hr9 (met_X1_keyCut (xl x) X.hl (xG x) h a0 a1 a2 _ _ hw) ho9 (by decide) rfl q1479 q1480 q1481 q71 q1482 (by decide +kernel) dX0_keyCut_5 rfl ⟨Nat.le_of_ble_eq_true rfl, Nat.le_of_ble_eq_true rfl⟩ (Nat.le_of_ble_eq_true rfl) ⟨Nat.le_of_ble_eq_true rfl, Nat.le_of_ble_eq_true rfl⟩) ?_ (fun y5 h5 hw => ?_)
  · intro E9 h9 hx
    rcases hx with ⟨rfl, hw⟩ | ⟨rfl, hw⟩
    · refine j_catch X (pc := 5) "java/lang/IllegalArgumentException" hex [] [⟨0, 10, 17, 21⟩] ⟨0, 10, 13, 13⟩ rfl (by intro y hy; cases hy) (by decide) (by decide) q291 q312 (fun q9 => ?_)
      have hw := hw q9
      refine j_astore X (pc := 13) [(4, vR (some q9)), (0, vR a0), (1, vI a1), (2, vI a2), (3, vR a3)] dX0_keyCut_13 (Nat.le_of_ble_eq_true rfl) rfl ?_
      refine j_iconst X (pc := 15) 1 dX0_keyCut_15 (by decide) ?_
      exact j_iret X (pc := 16) hQ er (Nat.le_of_ble_eq_true rfl) (Nat.le_of_ble_eq_true rfl) dX0_keyCut_16 hw
    · refine j_catch X (pc := 5) "java/util/NoSuchElementException" hex [⟨0, 10, 13, 13⟩] [] ⟨0, 10, 17, 21⟩ rfl (by intro y hy; simp only [List.mem_cons, List.not_mem_nil, or_false] at hy; subst hy; exact Or.inr ⟨by decide, "java/lang/IllegalArgumentException", q291, by decide +kernel⟩) (by decide) (by decide) q1068 q537 (fun q9 => ?_)
      have hw := hw q9
      refine j_astore X (pc := 17) [(4, vR (some q9)), (0, vR a0), (1, vI a1), (2, vI a2), (3, vR a3)] dX0_keyCut_17 (Nat.le_of_ble_eq_true rfl) rfl ?_
      refine j_iconst X (pc := 19) 2 dX0_keyCut_19 (by decide) ?_
      exact j_iret X (pc := 20) hQ er (Nat.le_of_ble_eq_true rfl) (Nat.le_of_ble_eq_true rfl) dX0_keyCut_20 hw
  refine j_i2l X (pc := 8) dX0_keyCut_8 ?_
  refine j_last X (pc := 9) dX0_keyCut_9 hw (fun h9 hw => ?_)
  refine j_goto X (pc := 10) 21 dX0_keyCut_10 (by decide) ?_
  refine j_iconst X (pc := 21) 0 dX0_keyCut_21 (by decide) ?_
  exact j_iret X (pc := 22) hQ er (Nat.le_of_ble_eq_true rfl) (Nat.le_of_ble_eq_true rfl) dX0_keyCut_22 hw
abbrev cX5_keyCut : ByteArray := prog_19_method_61_code
def yX5_keyCut : MethodName := ⟨RX5, "keyCut", "(II)I"⟩
def dkwX5_keyCut_0 : List UInt8 := [42, 27, 28, 182, 0, 231, 153, 0, 7, 3, 167, 0, 12, 42, 28, 182, 0, 138, 18, 234, 106, 139, 172]
abbrev dktX5_keyCut_0 : List UInt8 := dkwX5_keyCut_0 ++ []
theorem dksX5_keyCut_0 : cX5_keyCut.data.toList.drop 0 = dktX5_keyCut_0 := by decide +kernel
theorem dX5_keyCut_0 : decode cX5_keyCut 0 = .ok (.aload_n 0, 1) := dk_42 (dk_at dksX5_keyCut_0 0 rfl rfl)
theorem dX5_keyCut_1 : decode cX5_keyCut 1 = .ok (.iload_n 1, 1) := dk_27 (dk_at dksX5_keyCut_0 1 rfl rfl)
theorem dX5_keyCut_2 : decode cX5_keyCut 2 = .ok (.iload_n 2, 1) := dk_28 (dk_at dksX5_keyCut_0 2 rfl rfl)
theorem dX5_keyCut_3 : decode cX5_keyCut 3 = .ok (.invokevirtual 231, 3) := dk_182 0 231 (dk_at dksX5_keyCut_0 3 rfl rfl)
theorem dX5_keyCut_6 : decode cX5_keyCut 6 = .ok (.ifCond .eq 7, 3) := dk_153 0 7 (dk_at dksX5_keyCut_0 6 rfl rfl)
theorem dX5_keyCut_9 : decode cX5_keyCut 9 = .ok (.iconst 0, 1) := dk_3 (dk_at dksX5_keyCut_0 9 rfl rfl)
theorem dX5_keyCut_10 : decode cX5_keyCut 10 = .ok (.goto 12, 3) := dk_167 0 12 (dk_at dksX5_keyCut_0 10 rfl rfl)
theorem dX5_keyCut_13 : decode cX5_keyCut 13 = .ok (.aload_n 0, 1) := dk_42 (dk_at dksX5_keyCut_0 13 rfl rfl)
theorem dX5_keyCut_14 : decode cX5_keyCut 14 = .ok (.iload_n 2, 1) := dk_28 (dk_at dksX5_keyCut_0 14 rfl rfl)
theorem dX5_keyCut_15 : decode cX5_keyCut 15 = .ok (.invokevirtual 138, 3) := dk_182 0 138 (dk_at dksX5_keyCut_0 15 rfl rfl)
theorem dX5_keyCut_18 : decode cX5_keyCut 18 = .ok (.ldc 234, 2) := dk_18 234 (dk_at dksX5_keyCut_0 18 rfl rfl)
theorem dX5_keyCut_20 : decode cX5_keyCut 20 = .ok (.fmul, 1) := dk_106 (dk_at dksX5_keyCut_0 20 rfl rfl)
theorem dX5_keyCut_21 : decode cX5_keyCut 21 = .ok (.f2i, 1) := dk_139 (dk_at dksX5_keyCut_0 21 rfl rfl)
theorem dX5_keyCut_22 : decode cX5_keyCut 22 = .ok (.ireturn, 1) := dk_172 (dk_at dksX5_keyCut_0 22 rfl rfl)
theorem q2210 : (Jvm.Cond.constantFloat "PlugboardModel" (234 : Nat) (1090519040 : UInt32)) ∈ lw_all := lw_g (lw_at lw_m9 220 rfl) rfl
abbrev rm_X5_keyCut : Room := { frames := 5, cells := 0, slots := 0, locals := 109 }
def w_X5_keyCut (a0 : Option Nat) (a1 : Int32) (a2 : Int32) (h : AH) (P : Int32 → AH → Prop) : Prop :=
  is_c h a0 [4] (
  w_X5_isUnseen a0 a1 a2 h (fun y3 h3 =>
  ((y3 = 0 →
    is_c h3 a0 [4] (
    w_X5_key a0 a2 h3 (fun y15 h15 =>
    vf_n32 (FP.fmul y15 (1090519040 : UInt32)) ∧
    P (FP.f2i (FP.fmul y15 (1090519040 : UInt32))) h15))) ∧
   (¬ y3 = 0 →
    P 0 h3))))
theorem met_X5_keyCut (l : Launch) (hlt : l.stackTraces = false) (G : GG) (h : AH) (a0 : Option Nat) (a1 : Int32) (a2 : Int32) (P : Int32 → AH → Prop) (hw : w_X5_keyCut a0 a1 a2 h P) : ct_i l yX5_keyCut (ws_ yX5_keyCut cX5_keyCut 3 (Option.some Jvm.ClassFile.FieldType.int)) rm_X5_keyCut G h [vR a0, vI a1, vI a2] P := by
  refine j_starti hlt [(0, vR a0), (1, vI a1), (2, vI a2)] (plainFor_of_name (by decide)) rfl rfl (fun x X eG er en hQ => ?_)
  subst eG
  refine j_aload_n X (pc := 0) 0 dX5_keyCut_0 rfl rfl ?_
  refine j_iload_n X (pc := 1) 1 dX5_keyCut_1 rfl rfl ?_
  refine j_iload_n X (pc := 2) 2 dX5_keyCut_2 rfl rfl ?_
  obtain ⟨b9, c9, f9, hr9, ho9, hc9, hw⟩ := hw
  obtain rfl := List.mem_singleton.mp hc9
  refine j_calli (j_runV (n8 := 2) (As := [vI a1, vI a2]) (rest := []) X (pc := 3) hr9 (met_X5_isUnseen (xl x) X.hl (xG x) h a0 a1 a2 _ hw) ho9 (by decide) rfl q2182 q2184 qs59 q78 q2185 (by decide +kernel) dX5_keyCut_3 rfl ⟨Nat.le_of_ble_eq_true rfl, Nat.le_of_ble_eq_true rfl⟩ (Nat.le_of_ble_eq_true rfl) ⟨Nat.le_of_ble_eq_true rfl, Nat.le_of_ble_eq_true rfl⟩) (fun y3 h3 hw => ?_)
  refine j_if_eq X (pc := 6) 13 dX5_keyCut_6 (by decide) hw (fun hw => ?_) (fun hw => ?_)
  · refine j_aload_n X (pc := 13) 0 dX5_keyCut_13 rfl rfl ?_
    refine j_iload_n X (pc := 14) 2 dX5_keyCut_14 rfl rfl ?_
    obtain ⟨b9, c9, f9, hr9, ho9, hc9, hw⟩ := hw
    obtain rfl := List.mem_singleton.mp hc9
    refine j_callf (j_runV (n8 := 1) (As := [vI a2]) (rest := []) X (pc := 15) hr9 (met_X5_key (xl x) X.hl (xG x) h3 a0 a2 _ hw) ho9 (by decide) rfl q2016 q2018 qs40 q78 q2019 (by decide +kernel) dX5_keyCut_15 rfl ⟨Nat.le_of_ble_eq_true rfl, Nat.le_of_ble_eq_true rfl⟩ (Nat.le_of_ble_eq_true rfl) ⟨Nat.le_of_ble_eq_true rfl, Nat.le_of_ble_eq_true rfl⟩) (fun y15 h15 hw => ?_)
    refine j_ldcf X (pc := 18) dX5_keyCut_18 q2210 ?_
    refine j_fmul X (pc := 20) dX5_keyCut_20 hw (fun hw => ?_)
    refine j_f2i X (pc := 21) dX5_keyCut_21 ?_
    exact j_iret X (pc := 22) hQ er (Nat.le_of_ble_eq_true rfl) (Nat.le_of_ble_eq_true rfl) dX5_keyCut_22 hw
  · refine j_iconst X (pc := 9) 0 dX5_keyCut_9 (by decide) ?_
    refine j_goto X (pc := 10) 22 dX5_keyCut_10 (by decide) ?_
    exact j_iret X (pc := 22) hQ er (Nat.le_of_ble_eq_true rfl) (Nat.le_of_ble_eq_true rfl) dX5_keyCut_22 hw
