/-! walks (printed): Plugboard, PlugboardLaw, PlugboardModel -/
set_option maxRecDepth 100000
abbrev cX0_lower : ByteArray := method_6_code
def yX0_lower : MethodName := ⟨RX0, "lower", "(LPlugboard;II[J)I"⟩
def dkwX0_lower_1 : List UInt8 := [172, 58, 4, 7, 172, 3, 172]
abbrev dktX0_lower_1 : List UInt8 := dkwX0_lower_1 ++ []
def dkwX0_lower_0 : List UInt8 := [45, 3, 42, 27, 28, 182, 0, 29, 133, 80, 167, 0, 19, 58, 4, 4, 172, 58, 4, 5, 172, 58, 4, 6]
abbrev dktX0_lower_0 : List UInt8 := dkwX0_lower_0 ++ dktX0_lower_1
theorem dksX0_lower_0 : cX0_lower.data.toList.drop 0 = dktX0_lower_0 := by decide +kernel
theorem dksX0_lower_1 : cX0_lower.data.toList.drop 24 = dktX0_lower_1 := dk_seg dksX0_lower_0 24 rfl rfl
theorem dX0_lower_0 : decode cX0_lower 0 = .ok (.aload_n 3, 1) := dk_45 (dk_at dksX0_lower_0 0 rfl rfl)
theorem dX0_lower_1 : decode cX0_lower 1 = .ok (.iconst 0, 1) := dk_3 (dk_at dksX0_lower_0 1 rfl rfl)
theorem dX0_lower_2 : decode cX0_lower 2 = .ok (.aload_n 0, 1) := dk_42 (dk_at dksX0_lower_0 2 rfl rfl)
theorem dX0_lower_3 : decode cX0_lower 3 = .ok (.iload_n 1, 1) := dk_27 (dk_at dksX0_lower_0 3 rfl rfl)
theorem dX0_lower_4 : decode cX0_lower 4 = .ok (.iload_n 2, 1) := dk_28 (dk_at dksX0_lower_0 4 rfl rfl)
theorem dX0_lower_5 : decode cX0_lower 5 = .ok (.invokevirtual 29, 3) := dk_182 0 29 (dk_at dksX0_lower_0 5 rfl rfl)
theorem dX0_lower_8 : decode cX0_lower 8 = .ok (.i2l, 1) := dk_133 (dk_at dksX0_lower_0 8 rfl rfl)
theorem dX0_lower_9 : decode cX0_lower 9 = .ok (.lastore, 1) := dk_80 (dk_at dksX0_lower_0 9 rfl rfl)
theorem dX0_lower_10 : decode cX0_lower 10 = .ok (.goto 19, 3) := dk_167 0 19 (dk_at dksX0_lower_0 10 rfl rfl)
theorem dX0_lower_13 : decode cX0_lower 13 = .ok (.astore 4, 2) := dk_58 4 (dk_at dksX0_lower_0 13 rfl rfl)
theorem dX0_lower_15 : decode cX0_lower 15 = .ok (.iconst 1, 1) := dk_4 (dk_at dksX0_lower_0 15 rfl rfl)
theorem dX0_lower_16 : decode cX0_lower 16 = .ok (.ireturn, 1) := dk_172 (dk_at dksX0_lower_0 16 rfl rfl)
theorem dX0_lower_17 : decode cX0_lower 17 = .ok (.astore 4, 2) := dk_58 4 (dk_at dksX0_lower_0 17 rfl rfl)
theorem dX0_lower_19 : decode cX0_lower 19 = .ok (.iconst 2, 1) := dk_5 (dk_at dksX0_lower_0 19 rfl rfl)
theorem dX0_lower_20 : decode cX0_lower 20 = .ok (.ireturn, 1) := dk_172 (dk_at dksX0_lower_0 20 rfl rfl)
theorem dX0_lower_21 : decode cX0_lower 21 = .ok (.astore 4, 2) := dk_58 4 (dk_at dksX0_lower_0 21 rfl rfl)
theorem dX0_lower_23 : decode cX0_lower 23 = .ok (.iconst 3, 1) := dk_6 (dk_at dksX0_lower_0 23 rfl rfl)
theorem dX0_lower_24 : decode cX0_lower 24 = .ok (.ireturn, 1) := dk_172 (dk_at dksX0_lower_1 0 rfl rfl)
theorem dX0_lower_25 : decode cX0_lower 25 = .ok (.astore 4, 2) := dk_58 4 (dk_at dksX0_lower_1 1 rfl rfl)
theorem dX0_lower_27 : decode cX0_lower 27 = .ok (.iconst 4, 1) := dk_7 (dk_at dksX0_lower_1 3 rfl rfl)
theorem dX0_lower_28 : decode cX0_lower 28 = .ok (.ireturn, 1) := dk_172 (dk_at dksX0_lower_1 4 rfl rfl)
theorem dX0_lower_29 : decode cX0_lower 29 = .ok (.iconst 0, 1) := dk_3 (dk_at dksX0_lower_1 5 rfl rfl)
theorem dX0_lower_30 : decode cX0_lower 30 = .ok (.ireturn, 1) := dk_172 (dk_at dksX0_lower_1 6 rfl rfl)
theorem q1207 : (Jvm.Cond.methodLink "PlugboardLaw" (29 : Nat) ({ cls := "Plugboard", name := "lower", desc := "(II)I" } : Jvm.MethodName)) ∈ lw_all := lw_g (lw_at lw_m5 177 rfl) rfl
theorem q1208 : (Jvm.Cond.instanceMethod ({ cls := "Plugboard", name := "lower", desc := "(II)I" } : Jvm.MethodName)) ∈ lw_all := lw_g (lw_at lw_m5 178 rfl) rfl
theorem q1209 : (Jvm.Cond.selects "Plugboard" ({ cls := "Plugboard", name := "lower", desc := "(II)I" } : Jvm.MethodName) ({ cls := "Plugboard", name := "lower", desc := "(II)I" } : Jvm.MethodName)) ∈ lw_all := lw_g (lw_at lw_m5 179 rfl) rfl
theorem q1210 : (Jvm.Cond.code ({ cls := "Plugboard", name := "lower", desc := "(II)I" } : Jvm.MethodName) prog_1_method_23_code (8 : Nat) (Option.some Jvm.ClassFile.FieldType.int)) ∈ lw_all := lw_g (lw_at lw_m5 180 rfl) rfl
abbrev rm_X0_lower : Room := { frames := 13, cells := 17, slots := 221, locals := 320 }
def w_X0_lower (a0 : Option Nat) (a1 : Int32) (a2 : Int32) (a3 : Option Nat) (h : AH) (P : Int32 → AH → Prop) : Prop :=
  is_c h a0 [0] (
  w_X1_lower a0 a1 a2 h (fun y5 h5 =>
  s_L h5 a3 0 (Int32.toInt64 y5) fun h9 =>
  P 0 h9)
    (fun E9 h9 => (E9 = "java/lang/IllegalArgumentException" ∧ ∀ q9 : Nat,
    P 1 h9) ∨
    (E9 = "java/util/NoSuchElementException" ∧ ∀ q9 : Nat,
    P 2 h9) ∨
    (E9 = "java/lang/UnsupportedOperationException" ∧ ∀ q9 : Nat,
    P 3 h9) ∨
    (E9 = "java/lang/IllegalStateException" ∧ ∀ q9 : Nat,
    P 4 h9)))
theorem met_X0_lower (l : Launch) (hlt : l.stackTraces = false) (G : GG) (h : AH) (a0 : Option Nat) (a1 : Int32) (a2 : Int32) (a3 : Option Nat) (P : Int32 → AH → Prop) (hw : w_X0_lower a0 a1 a2 a3 h P) : ct_i l yX0_lower (wsW_ yX0_lower cX0_lower 5 (Option.some Jvm.ClassFile.FieldType.int) [((0 : Nat), (10 : Nat), (13 : Nat), (13 : Nat)), ((0 : Nat), (10 : Nat), (17 : Nat), (21 : Nat)), ((0 : Nat), (10 : Nat), (21 : Nat), (23 : Nat)), ((0 : Nat), (10 : Nat), (25 : Nat), (15 : Nat))]) rm_X0_lower G h [vR a0, vI a1, vI a2, vR a3] P := by
  refine j_startWi hlt [(0, vR a0), (1, vI a1), (2, vI a2), (3, vR a3)] (by decide) rfl rfl (fun x X eG er en hQ hex => ?_)
  subst eG
  refine j_aload_n X (pc := 0) 3 dX0_lower_0 rfl rfl ?_
  refine j_iconst X (pc := 1) 0 dX0_lower_1 (by decide) ?_
  refine j_aload_n X (pc := 2) 0 dX0_lower_2 rfl rfl ?_
  refine j_iload_n X (pc := 3) 1 dX0_lower_3 rfl rfl ?_
  refine j_iload_n X (pc := 4) 2 dX0_lower_4 rfl rfl ?_
  obtain ⟨b9, c9, f9, hr9, ho9, hc9, hw⟩ := hw
  obtain rfl := List.mem_singleton.mp hc9
  refine j_callXi (j_runVX (n8 := 2) (As := [vI a1, vI a2]) (rest := [vI 0, vR a3]) X (pc := 5) hr9 (met_X1_lower (xl x) X.hl (xG x) h a0 a1 a2 _ _ hw) ho9 (by decide) rfl q1207 q1208 q1209 q71 q1210 (by decide +kernel) dX0_lower_5 rfl ⟨Nat.le_of_ble_eq_true rfl, Nat.le_of_ble_eq_true rfl⟩ (Nat.le_of_ble_eq_true rfl) ⟨Nat.le_of_ble_eq_true rfl, Nat.le_of_ble_eq_true rfl⟩) ?_ (fun y5 h5 hw => ?_)
  · intro E9 h9 hx
    rcases hx with ⟨rfl, hw⟩ | ⟨rfl, hw⟩ | ⟨rfl, hw⟩ | ⟨rfl, hw⟩
    · refine j_catch X (pc := 5) "java/lang/IllegalArgumentException" hex [] [⟨0, 10, 17, 21⟩, ⟨0, 10, 21, 23⟩, ⟨0, 10, 25, 15⟩] ⟨0, 10, 13, 13⟩ rfl (by intro y hy; cases hy) (by decide) (by decide) q291 q312 (fun q9 => ?_)
      have hw := hw q9
      refine j_astore X (pc := 13) [(4, vR (some q9)), (0, vR a0), (1, vI a1), (2, vI a2), (3, vR a3)] dX0_lower_13 (Nat.le_of_ble_eq_true rfl) rfl ?_
      refine j_iconst X (pc := 15) 1 dX0_lower_15 (by decide) ?_
      exact j_iret X (pc := 16) hQ er (Nat.le_of_ble_eq_true rfl) (Nat.le_of_ble_eq_true rfl) dX0_lower_16 hw
    · refine j_catch X (pc := 5) "java/util/NoSuchElementException" hex [⟨0, 10, 13, 13⟩] [⟨0, 10, 21, 23⟩, ⟨0, 10, 25, 15⟩] ⟨0, 10, 17, 21⟩ rfl (by intro y hy; simp only [List.mem_cons, List.not_mem_nil, or_false] at hy; subst hy; exact Or.inr ⟨by decide, "java/lang/IllegalArgumentException", q291, by decide +kernel⟩) (by decide) (by decide) q1068 q537 (fun q9 => ?_)
      have hw := hw q9
      refine j_astore X (pc := 17) [(4, vR (some q9)), (0, vR a0), (1, vI a1), (2, vI a2), (3, vR a3)] dX0_lower_17 (Nat.le_of_ble_eq_true rfl) rfl ?_
      refine j_iconst X (pc := 19) 2 dX0_lower_19 (by decide) ?_
      exact j_iret X (pc := 20) hQ er (Nat.le_of_ble_eq_true rfl) (Nat.le_of_ble_eq_true rfl) dX0_lower_20 hw
    · refine j_catch X (pc := 5) "java/lang/UnsupportedOperationException" hex [⟨0, 10, 13, 13⟩, ⟨0, 10, 17, 21⟩] [⟨0, 10, 25, 15⟩] ⟨0, 10, 21, 23⟩ rfl (by intro y hy; simp only [List.mem_cons, List.not_mem_nil, or_false] at hy; rcases hy with rfl | rfl <;> first | exact Or.inr ⟨by decide, "java/lang/IllegalArgumentException", q291, by decide +kernel⟩ | exact Or.inr ⟨by decide, "java/util/NoSuchElementException", q1068, by decide +kernel⟩) (by decide) (by decide) q1069 q1102 (fun q9 => ?_)
      have hw := hw q9
      refine j_astore X (pc := 21) [(4, vR (some q9)), (0, vR a0), (1, vI a1), (2, vI a2), (3, vR a3)] dX0_lower_21 (Nat.le_of_ble_eq_true rfl) rfl ?_
      refine j_iconst X (pc := 23) 3 dX0_lower_23 (by decide) ?_
      exact j_iret X (pc := 24) hQ er (Nat.le_of_ble_eq_true rfl) (Nat.le_of_ble_eq_true rfl) dX0_lower_24 hw
    · refine j_catch X (pc := 5) "java/lang/IllegalStateException" hex [⟨0, 10, 13, 13⟩, ⟨0, 10, 17, 21⟩, ⟨0, 10, 21, 23⟩] [] ⟨0, 10, 25, 15⟩ rfl (by intro y hy; simp only [List.mem_cons, List.not_mem_nil, or_false] at hy; rcases hy with rfl | rfl | rfl <;> first | exact Or.inr ⟨by decide, "java/lang/IllegalArgumentException", q291, by decide +kernel⟩ | exact Or.inr ⟨by decide, "java/util/NoSuchElementException", q1068, by decide +kernel⟩ | exact Or.inr ⟨by decide, "java/lang/UnsupportedOperationException", q1069, by decide +kernel⟩) (by decide) (by decide) q292 q387 (fun q9 => ?_)
      have hw := hw q9
      refine j_astore X (pc := 25) [(4, vR (some q9)), (0, vR a0), (1, vI a1), (2, vI a2), (3, vR a3)] dX0_lower_25 (Nat.le_of_ble_eq_true rfl) rfl ?_
      refine j_iconst X (pc := 27) 4 dX0_lower_27 (by decide) ?_
      exact j_iret X (pc := 28) hQ er (Nat.le_of_ble_eq_true rfl) (Nat.le_of_ble_eq_true rfl) dX0_lower_28 hw
  refine j_i2l X (pc := 8) dX0_lower_8 ?_
  refine j_last X (pc := 9) dX0_lower_9 hw (fun h9 hw => ?_)
  refine j_goto X (pc := 10) 29 dX0_lower_10 (by decide) ?_
  refine j_iconst X (pc := 29) 0 dX0_lower_29 (by decide) ?_
  exact j_iret X (pc := 30) hQ er (Nat.le_of_ble_eq_true rfl) (Nat.le_of_ble_eq_true rfl) dX0_lower_30 hw
abbrev cX5_lowest : ByteArray := prog_19_method_20_code
def yX5_lowest : MethodName := ⟨RX5, "lowest", "()I"⟩
def dkwX5_lowest_2 : List UInt8 := [167, 255, 213, 27, 172]
abbrev dktX5_lowest_2 : List UInt8 := dkwX5_lowest_2 ++ []
def dkwX5_lowest_1 : List UInt8 := [42, 28, 182, 0, 138, 42, 27, 182, 0, 138, 150, 156, 0, 7, 28, 167, 0, 4, 27, 60, 132, 2, 1]
abbrev dktX5_lowest_1 : List UInt8 := dkwX5_lowest_1 ++ dktX5_lowest_2
def dkwX5_lowest_0 : List UInt8 := [2, 60, 3, 61, 28, 42, 180, 0, 119, 162, 0, 41, 42, 28, 182, 0, 125, 153, 0, 25, 27, 155, 0, 17]
abbrev dktX5_lowest_0 : List UInt8 := dkwX5_lowest_0 ++ dktX5_lowest_1
theorem dksX5_lowest_0 : cX5_lowest.data.toList.drop 0 = dktX5_lowest_0 := by decide +kernel
theorem dksX5_lowest_1 : cX5_lowest.data.toList.drop 24 = dktX5_lowest_1 := dk_seg dksX5_lowest_0 24 rfl rfl
theorem dksX5_lowest_2 : cX5_lowest.data.toList.drop 47 = dktX5_lowest_2 := dk_seg dksX5_lowest_1 23 rfl rfl
theorem dX5_lowest_0 : decode cX5_lowest 0 = .ok (.iconst (-1), 1) := dk_2 (dk_at dksX5_lowest_0 0 rfl rfl)
theorem dX5_lowest_1 : decode cX5_lowest 1 = .ok (.istore_n 1, 1) := dk_60 (dk_at dksX5_lowest_0 1 rfl rfl)
theorem dX5_lowest_2 : decode cX5_lowest 2 = .ok (.iconst 0, 1) := dk_3 (dk_at dksX5_lowest_0 2 rfl rfl)
theorem dX5_lowest_3 : decode cX5_lowest 3 = .ok (.istore_n 2, 1) := dk_61 (dk_at dksX5_lowest_0 3 rfl rfl)
theorem dX5_lowest_4 : decode cX5_lowest 4 = .ok (.iload_n 2, 1) := dk_28 (dk_at dksX5_lowest_0 4 rfl rfl)
theorem dX5_lowest_5 : decode cX5_lowest 5 = .ok (.aload_n 0, 1) := dk_42 (dk_at dksX5_lowest_0 5 rfl rfl)
theorem dX5_lowest_6 : decode cX5_lowest 6 = .ok (.getfield 119, 3) := dk_180 0 119 (dk_at dksX5_lowest_0 6 rfl rfl)
theorem dX5_lowest_9 : decode cX5_lowest 9 = .ok (.if_icmp .ge 41, 3) := dk_162 0 41 (dk_at dksX5_lowest_0 9 rfl rfl)
theorem dX5_lowest_12 : decode cX5_lowest 12 = .ok (.aload_n 0, 1) := dk_42 (dk_at dksX5_lowest_0 12 rfl rfl)
theorem dX5_lowest_13 : decode cX5_lowest 13 = .ok (.iload_n 2, 1) := dk_28 (dk_at dksX5_lowest_0 13 rfl rfl)
theorem dX5_lowest_14 : decode cX5_lowest 14 = .ok (.invokevirtual 125, 3) := dk_182 0 125 (dk_at dksX5_lowest_0 14 rfl rfl)
theorem dX5_lowest_17 : decode cX5_lowest 17 = .ok (.ifCond .eq 25, 3) := dk_153 0 25 (dk_at dksX5_lowest_0 17 rfl rfl)
theorem dX5_lowest_20 : decode cX5_lowest 20 = .ok (.iload_n 1, 1) := dk_27 (dk_at dksX5_lowest_0 20 rfl rfl)
theorem dX5_lowest_21 : decode cX5_lowest 21 = .ok (.ifCond .lt 17, 3) := dk_155 0 17 (dk_at dksX5_lowest_0 21 rfl rfl)
theorem dX5_lowest_24 : decode cX5_lowest 24 = .ok (.aload_n 0, 1) := dk_42 (dk_at dksX5_lowest_1 0 rfl rfl)
theorem dX5_lowest_25 : decode cX5_lowest 25 = .ok (.iload_n 2, 1) := dk_28 (dk_at dksX5_lowest_1 1 rfl rfl)
theorem dX5_lowest_26 : decode cX5_lowest 26 = .ok (.invokevirtual 138, 3) := dk_182 0 138 (dk_at dksX5_lowest_1 2 rfl rfl)
theorem dX5_lowest_29 : decode cX5_lowest 29 = .ok (.aload_n 0, 1) := dk_42 (dk_at dksX5_lowest_1 5 rfl rfl)
theorem dX5_lowest_30 : decode cX5_lowest 30 = .ok (.iload_n 1, 1) := dk_27 (dk_at dksX5_lowest_1 6 rfl rfl)
theorem dX5_lowest_31 : decode cX5_lowest 31 = .ok (.invokevirtual 138, 3) := dk_182 0 138 (dk_at dksX5_lowest_1 7 rfl rfl)
theorem dX5_lowest_34 : decode cX5_lowest 34 = .ok (.fcmp .g, 1) := dk_150 (dk_at dksX5_lowest_1 10 rfl rfl)
theorem dX5_lowest_35 : decode cX5_lowest 35 = .ok (.ifCond .ge 7, 3) := dk_156 0 7 (dk_at dksX5_lowest_1 11 rfl rfl)
theorem dX5_lowest_38 : decode cX5_lowest 38 = .ok (.iload_n 2, 1) := dk_28 (dk_at dksX5_lowest_1 14 rfl rfl)
theorem dX5_lowest_39 : decode cX5_lowest 39 = .ok (.goto 4, 3) := dk_167 0 4 (dk_at dksX5_lowest_1 15 rfl rfl)
theorem dX5_lowest_42 : decode cX5_lowest 42 = .ok (.iload_n 1, 1) := dk_27 (dk_at dksX5_lowest_1 18 rfl rfl)
theorem dX5_lowest_43 : decode cX5_lowest 43 = .ok (.istore_n 1, 1) := dk_60 (dk_at dksX5_lowest_1 19 rfl rfl)
theorem dX5_lowest_44 : decode cX5_lowest 44 = .ok (.iinc 2 1, 3) := dk_132 2 1 (dk_at dksX5_lowest_1 20 rfl rfl)
theorem dX5_lowest_47 : decode cX5_lowest 47 = .ok (.goto (-43), 3) := dk_167 255 213 (dk_at dksX5_lowest_2 0 rfl rfl)
theorem dX5_lowest_50 : decode cX5_lowest 50 = .ok (.iload_n 1, 1) := dk_27 (dk_at dksX5_lowest_2 3 rfl rfl)
theorem dX5_lowest_51 : decode cX5_lowest 51 = .ok (.ireturn, 1) := dk_172 (dk_at dksX5_lowest_2 4 rfl rfl)
abbrev rm_X5_lowest : Room := { frames := 2, cells := 0, slots := 0, locals := 43 }
def w_X5_lowest_4 (P : Int32 → AH → Prop) (x0 : Option Nat) (x1 : Int32) (x2 : Int32) (h : AH) : Prop :=
  ∀ Z4 : Int32 → Int32 → AH → Prop, (∀ x1 x2 h, (
      g_i h x0 4 8 fun y6 =>
      ((y6 ≤ x2 →
        P x1 h) ∧
       (¬ y6 ≤ x2 →
        is_c h x0 [4] (
        w_X5_isSeen x0 x2 h (fun y14 h14 =>
        ((y14 = 0 →
          Z4 x1 (x2 + 1) h14) ∧
         (¬ y14 = 0 →
          ((x1 < 0 →
            Z4 x2 (x2 + 1) h14) ∧
           (¬ x1 < 0 →
            is_c h14 x0 [4] (
            w_X5_key x0 x2 h14 (fun y26 h26 =>
            is_c h26 x0 [4] (
            w_X5_key x0 x1 h26 (fun y31 h31 =>
            ((0 ≤ (Op.cmpValue (FP.fcmp y26 y31) .g) →
              Z4 x1 (x2 + 1) h31) ∧
             (¬ 0 ≤ (Op.cmpValue (FP.fcmp y26 y31) .g) →
              Z4 x2 (x2 + 1) h31)))))))))))))))
      → Z4 x1 x2 h) → Z4 x1 x2 h
def w_X5_lowest (a0 : Option Nat) (h : AH) (P : Int32 → AH → Prop) : Prop :=
  w_X5_lowest_4 P a0 (-1) 0 h
theorem wk_X5_lowest_4 {x : CX} (X : Ok x cX5_lowest RX5 rm_X5_lowest 3) (er : xrt x = (Option.some Jvm.ClassFile.FieldType.int)) (en : xnm x = yX5_lowest.name) {P : Int32 → AH → Prop} (hQ : xr_i x P) (x0 : Option Nat) (x1 : Int32) (x2 : Int32) (h : AH) (hw : w_X5_lowest_4 P x0 x1 x2 h) : J x h 0 0 4 [(0, vR x0), (1, vI x1), (2, vI x2)] [] := by
  refine hw (fun x1 x2 h => J x h 0 0 4 [(0, vR x0), (1, vI x1), (2, vI x2)] []) (fun x1 x2 h hw => ?_)
  refine j_iload_n X (pc := 4) 2 dX5_lowest_4 rfl rfl ?_
  refine j_aload_n X (pc := 5) 0 dX5_lowest_5 rfl rfl ?_
  refine j_geti (ci := 4) X (pc := 6) in_X5 rfl (by decide) 8 (by decide) q1880 (Or.inl rfl) dX5_lowest_6 hw (fun y6 hw => ?_)
  refine j_icmp_ge X (pc := 9) 50 dX5_lowest_9 (by decide) hw (fun hw => ?_) (fun hw => ?_)
  · refine j_iload_n X (pc := 50) 1 dX5_lowest_50 rfl rfl ?_
    exact j_iret X (pc := 51) hQ er (Nat.le_of_ble_eq_true rfl) (Nat.le_of_ble_eq_true rfl) dX5_lowest_51 hw
  · refine j_aload_n X (pc := 12) 0 dX5_lowest_12 rfl rfl ?_
    refine j_iload_n X (pc := 13) 2 dX5_lowest_13 rfl rfl ?_
    obtain ⟨b9, c9, f9, hr9, ho9, hc9, hw⟩ := hw
    obtain rfl := List.mem_singleton.mp hc9
    refine j_calli (j_runV (n8 := 1) (As := [vI x2]) (rest := []) X (pc := 14) hr9 (met_X5_isSeen (xl x) X.hl (xG x) h x0 x2 _ hw) ho9 (by decide) rfl q2012 q2014 qs39 q78 q2015 (by decide +kernel) dX5_lowest_14 rfl ⟨Nat.le_of_ble_eq_true rfl, Nat.le_of_ble_eq_true rfl⟩ (Nat.le_of_ble_eq_true rfl) ⟨Nat.le_of_ble_eq_true rfl, Nat.le_of_ble_eq_true rfl⟩) (fun y14 h14 hw => ?_)
    refine j_if_eq X (pc := 17) 42 dX5_lowest_17 (by decide) hw (fun hw => ?_) (fun hw => ?_)
    · refine j_iload_n X (pc := 42) 1 dX5_lowest_42 rfl rfl ?_
      refine j_istore_n X (pc := 43) [(1, vI x1), (0, vR x0), (2, vI x2)] dX5_lowest_43 rfl (Nat.le_of_ble_eq_true rfl) rfl ?_
      refine j_iinc X (pc := 44) 2 (x2 + 1) [(2, vI (x2 + 1)), (1, vI x1), (0, vR x0)] dX5_lowest_44 rfl rfl (Nat.le_of_ble_eq_true rfl) rfl ?_
      refine j_goto X (pc := 47) 4 dX5_lowest_47 (by decide) ?_
      refine j_lv [(0, vR x0), (1, vI x1), (2, vI (x2 + 1))] [2, 1, 0] rfl ?_
      refine j_cs (u' := 0) (v' := 0) (Nat.le_of_ble_eq_true rfl) (Nat.le_of_ble_eq_true rfl) ?_
      exact hw
    · refine j_iload_n X (pc := 20) 1 dX5_lowest_20 rfl rfl ?_
      refine j_if_lt X (pc := 21) 38 dX5_lowest_21 (by decide) hw (fun hw => ?_) (fun hw => ?_)
      · refine j_iload_n X (pc := 38) 2 dX5_lowest_38 rfl rfl ?_
        refine j_goto X (pc := 39) 43 dX5_lowest_39 (by decide) ?_
        refine j_istore_n X (pc := 43) [(1, vI x2), (0, vR x0), (2, vI x2)] dX5_lowest_43 rfl (Nat.le_of_ble_eq_true rfl) rfl ?_
        refine j_iinc X (pc := 44) 2 (x2 + 1) [(2, vI (x2 + 1)), (1, vI x2), (0, vR x0)] dX5_lowest_44 rfl rfl (Nat.le_of_ble_eq_true rfl) rfl ?_
        refine j_goto X (pc := 47) 4 dX5_lowest_47 (by decide) ?_
        refine j_lv [(0, vR x0), (1, vI x2), (2, vI (x2 + 1))] [2, 1, 0] rfl ?_
        refine j_cs (u' := 0) (v' := 0) (Nat.le_of_ble_eq_true rfl) (Nat.le_of_ble_eq_true rfl) ?_
        exact hw
      · refine j_aload_n X (pc := 24) 0 dX5_lowest_24 rfl rfl ?_
        refine j_iload_n X (pc := 25) 2 dX5_lowest_25 rfl rfl ?_
        obtain ⟨b9, c9, f9, hr9, ho9, hc9, hw⟩ := hw
        obtain rfl := List.mem_singleton.mp hc9
        refine j_callf (j_runV (n8 := 1) (As := [vI x2]) (rest := []) X (pc := 26) hr9 (met_X5_key (xl x) X.hl (xG x) h14 x0 x2 _ hw) ho9 (by decide) rfl q2016 q2018 qs40 q78 q2019 (by decide +kernel) dX5_lowest_26 rfl ⟨Nat.le_of_ble_eq_true rfl, Nat.le_of_ble_eq_true rfl⟩ (Nat.le_of_ble_eq_true rfl) ⟨Nat.le_of_ble_eq_true rfl, Nat.le_of_ble_eq_true rfl⟩) (fun y26 h26 hw => ?_)
        refine j_aload_n X (pc := 29) 0 dX5_lowest_29 rfl rfl ?_
        refine j_iload_n X (pc := 30) 1 dX5_lowest_30 rfl rfl ?_
        obtain ⟨b9, c9, f9, hr9, ho9, hc9, hw⟩ := hw
        obtain rfl := List.mem_singleton.mp hc9
        refine j_callf (j_runV (n8 := 1) (As := [vI x1]) (rest := [vF y26]) X (pc := 31) hr9 (met_X5_key (xl x) X.hl (xG x) h26 x0 x1 _ hw) ho9 (by decide) rfl q2016 q2018 qs40 q78 q2019 (by decide +kernel) dX5_lowest_31 rfl ⟨Nat.le_of_ble_eq_true rfl, Nat.le_of_ble_eq_true rfl⟩ (Nat.le_of_ble_eq_true rfl) ⟨Nat.le_of_ble_eq_true rfl, Nat.le_of_ble_eq_true rfl⟩) (fun y31 h31 hw => ?_)
        refine j_fcmp X (pc := 34) dX5_lowest_34 ?_
        refine j_if_ge X (pc := 35) 42 dX5_lowest_35 (by decide) hw (fun hw => ?_) (fun hw => ?_)
        · refine j_iload_n X (pc := 42) 1 dX5_lowest_42 rfl rfl ?_
          refine j_istore_n X (pc := 43) [(1, vI x1), (0, vR x0), (2, vI x2)] dX5_lowest_43 rfl (Nat.le_of_ble_eq_true rfl) rfl ?_
          refine j_iinc X (pc := 44) 2 (x2 + 1) [(2, vI (x2 + 1)), (1, vI x1), (0, vR x0)] dX5_lowest_44 rfl rfl (Nat.le_of_ble_eq_true rfl) rfl ?_
          refine j_goto X (pc := 47) 4 dX5_lowest_47 (by decide) ?_
          refine j_lv [(0, vR x0), (1, vI x1), (2, vI (x2 + 1))] [2, 1, 0] rfl ?_
          refine j_cs (u' := 0) (v' := 0) (Nat.le_of_ble_eq_true rfl) (Nat.le_of_ble_eq_true rfl) ?_
          exact hw
        · refine j_iload_n X (pc := 38) 2 dX5_lowest_38 rfl rfl ?_
          refine j_goto X (pc := 39) 43 dX5_lowest_39 (by decide) ?_
          refine j_istore_n X (pc := 43) [(1, vI x2), (0, vR x0), (2, vI x2)] dX5_lowest_43 rfl (Nat.le_of_ble_eq_true rfl) rfl ?_
          refine j_iinc X (pc := 44) 2 (x2 + 1) [(2, vI (x2 + 1)), (1, vI x2), (0, vR x0)] dX5_lowest_44 rfl rfl (Nat.le_of_ble_eq_true rfl) rfl ?_
          refine j_goto X (pc := 47) 4 dX5_lowest_47 (by decide) ?_
          refine j_lv [(0, vR x0), (1, vI x2), (2, vI (x2 + 1))] [2, 1, 0] rfl ?_
          refine j_cs (u' := 0) (v' := 0) (Nat.le_of_ble_eq_true rfl) (Nat.le_of_ble_eq_true rfl) ?_
          exact hw
theorem met_X5_lowest (l : Launch) (hlt : l.stackTraces = false) (G : GG) (h : AH) (a0 : Option Nat) (P : Int32 → AH → Prop) (hw : w_X5_lowest a0 h P) : ct_i l yX5_lowest (ws_ yX5_lowest cX5_lowest 3 (Option.some Jvm.ClassFile.FieldType.int)) rm_X5_lowest G h [vR a0] P := by
  refine j_starti hlt [(0, vR a0)] (plainFor_of_name (by decide)) rfl rfl (fun x X eG er en hQ => ?_)
  subst eG
  refine j_iconst X (pc := 0) (-1) dX5_lowest_0 (by decide) ?_
  refine j_istore_n X (pc := 1) [(1, vI (-1)), (0, vR a0)] dX5_lowest_1 rfl (Nat.le_of_ble_eq_true rfl) rfl ?_
  refine j_iconst X (pc := 2) 0 dX5_lowest_2 (by decide) ?_
  refine j_istore_n X (pc := 3) [(2, vI 0), (1, vI (-1)), (0, vR a0)] dX5_lowest_3 rfl (Nat.le_of_ble_eq_true rfl) rfl ?_
  refine j_lv [(0, vR a0), (1, vI (-1)), (2, vI 0)] [2, 1, 0] rfl ?_
  refine j_cs (u' := 0) (v' := 0) (Nat.le_of_ble_eq_true rfl) (Nat.le_of_ble_eq_true rfl) ?_
  exact wk_X5_lowest_4 X er en hQ a0 (-1) 0 h hw
abbrev cX5_lower : ByteArray := prog_19_method_32_code
def yX5_lower : MethodName := ⟨RX5, "lower", "(II)I"⟩
def dkwX5_lower_2 : List UInt8 := [182, 0, 202, 172]
abbrev dktX5_lower_2 : List UInt8 := dkwX5_lower_2 ++ []
def dkwX5_lower_1 : List UInt8 := [180, 0, 97, 158, 0, 7, 3, 167, 0, 19, 42, 27, 28, 42, 42, 182, 0, 206, 182, 0, 138, 12, 102]
abbrev dktX5_lower_1 : List UInt8 := dkwX5_lower_1 ++ dktX5_lower_2
def dkwX5_lower_0 : List UInt8 := [42, 27, 184, 0, 165, 153, 0, 12, 42, 27, 28, 182, 0, 193, 167, 0, 4, 4, 181, 0, 97, 42]
abbrev dktX5_lower_0 : List UInt8 := dkwX5_lower_0 ++ dktX5_lower_1
theorem dksX5_lower_0 : cX5_lower.data.toList.drop 0 = dktX5_lower_0 := by decide +kernel
theorem dksX5_lower_1 : cX5_lower.data.toList.drop 22 = dktX5_lower_1 := dk_seg dksX5_lower_0 22 rfl rfl
theorem dksX5_lower_2 : cX5_lower.data.toList.drop 45 = dktX5_lower_2 := dk_seg dksX5_lower_1 23 rfl rfl
theorem dX5_lower_0 : decode cX5_lower 0 = .ok (.aload_n 0, 1) := dk_42 (dk_at dksX5_lower_0 0 rfl rfl)
theorem dX5_lower_1 : decode cX5_lower 1 = .ok (.iload_n 1, 1) := dk_27 (dk_at dksX5_lower_0 1 rfl rfl)
theorem dX5_lower_2 : decode cX5_lower 2 = .ok (.invokestatic 165, 3) := dk_184 0 165 (dk_at dksX5_lower_0 2 rfl rfl)
theorem dX5_lower_5 : decode cX5_lower 5 = .ok (.ifCond .eq 12, 3) := dk_153 0 12 (dk_at dksX5_lower_0 5 rfl rfl)
theorem dX5_lower_8 : decode cX5_lower 8 = .ok (.aload_n 0, 1) := dk_42 (dk_at dksX5_lower_0 8 rfl rfl)
theorem dX5_lower_9 : decode cX5_lower 9 = .ok (.iload_n 1, 1) := dk_27 (dk_at dksX5_lower_0 9 rfl rfl)
theorem dX5_lower_10 : decode cX5_lower 10 = .ok (.iload_n 2, 1) := dk_28 (dk_at dksX5_lower_0 10 rfl rfl)
theorem dX5_lower_11 : decode cX5_lower 11 = .ok (.invokevirtual 193, 3) := dk_182 0 193 (dk_at dksX5_lower_0 11 rfl rfl)
theorem dX5_lower_14 : decode cX5_lower 14 = .ok (.goto 4, 3) := dk_167 0 4 (dk_at dksX5_lower_0 14 rfl rfl)
theorem dX5_lower_17 : decode cX5_lower 17 = .ok (.iconst 1, 1) := dk_4 (dk_at dksX5_lower_0 17 rfl rfl)
theorem dX5_lower_18 : decode cX5_lower 18 = .ok (.putfield 97, 3) := dk_181 0 97 (dk_at dksX5_lower_0 18 rfl rfl)
theorem dX5_lower_21 : decode cX5_lower 21 = .ok (.aload_n 0, 1) := dk_42 (dk_at dksX5_lower_0 21 rfl rfl)
theorem dX5_lower_22 : decode cX5_lower 22 = .ok (.getfield 97, 3) := dk_180 0 97 (dk_at dksX5_lower_1 0 rfl rfl)
theorem dX5_lower_25 : decode cX5_lower 25 = .ok (.ifCond .le 7, 3) := dk_158 0 7 (dk_at dksX5_lower_1 3 rfl rfl)
theorem dX5_lower_28 : decode cX5_lower 28 = .ok (.iconst 0, 1) := dk_3 (dk_at dksX5_lower_1 6 rfl rfl)
theorem dX5_lower_29 : decode cX5_lower 29 = .ok (.goto 19, 3) := dk_167 0 19 (dk_at dksX5_lower_1 7 rfl rfl)
theorem dX5_lower_32 : decode cX5_lower 32 = .ok (.aload_n 0, 1) := dk_42 (dk_at dksX5_lower_1 10 rfl rfl)
theorem dX5_lower_33 : decode cX5_lower 33 = .ok (.iload_n 1, 1) := dk_27 (dk_at dksX5_lower_1 11 rfl rfl)
theorem dX5_lower_34 : decode cX5_lower 34 = .ok (.iload_n 2, 1) := dk_28 (dk_at dksX5_lower_1 12 rfl rfl)
theorem dX5_lower_35 : decode cX5_lower 35 = .ok (.aload_n 0, 1) := dk_42 (dk_at dksX5_lower_1 13 rfl rfl)
theorem dX5_lower_36 : decode cX5_lower 36 = .ok (.aload_n 0, 1) := dk_42 (dk_at dksX5_lower_1 14 rfl rfl)
theorem dX5_lower_37 : decode cX5_lower 37 = .ok (.invokevirtual 206, 3) := dk_182 0 206 (dk_at dksX5_lower_1 15 rfl rfl)
theorem dX5_lower_40 : decode cX5_lower 40 = .ok (.invokevirtual 138, 3) := dk_182 0 138 (dk_at dksX5_lower_1 18 rfl rfl)
theorem dX5_lower_43 : decode cX5_lower 43 = .ok (.fconst 1, 1) := dk_12 (dk_at dksX5_lower_1 21 rfl rfl)
theorem dX5_lower_44 : decode cX5_lower 44 = .ok (.fsub, 1) := dk_102 (dk_at dksX5_lower_1 22 rfl rfl)
theorem dX5_lower_45 : decode cX5_lower 45 = .ok (.invokevirtual 202, 3) := dk_182 0 202 (dk_at dksX5_lower_2 0 rfl rfl)
theorem dX5_lower_48 : decode cX5_lower 48 = .ok (.ireturn, 1) := dk_172 (dk_at dksX5_lower_2 3 rfl rfl)
theorem q2075 : (Jvm.Cond.methodLink "PlugboardModel" (206 : Nat) ({ cls := "PlugboardModel", name := "lowest", desc := "()I" } : Jvm.MethodName)) ∈ lw_all := lw_g (lw_at lw_m9 85 rfl) rfl
theorem q2077 : (Jvm.Cond.instanceMethod ({ cls := "PlugboardModel", name := "lowest", desc := "()I" } : Jvm.MethodName)) ∈ lw_all := lw_g (lw_at lw_m9 87 rfl) rfl
theorem q2078 : (Jvm.Cond.code ({ cls := "PlugboardModel", name := "lowest", desc := "()I" } : Jvm.MethodName) prog_19_method_20_code (3 : Nat) (Option.some Jvm.ClassFile.FieldType.int)) ∈ lw_all := lw_g (lw_at lw_m9 88 rfl) rfl
abbrev rm_X5_lower : Room := { frames := 5, cells := 0, slots := 0, locals := 113 }
def w_X5_lower_18 (P : Int32 → AH → Prop) (x0 : Option Nat) (x1 : Int32) (x2 : Int32) (t0 : Int32) (t1 : Option Nat) (h : AH) : Prop :=
  p_v h t1 4 0 (vI t0) fun h18 =>
  g_i h18 x0 4 0 fun y22 =>
  ((y22 ≤ 0 →
    is_c h18 x0 [4] (
    w_X5_lowest x0 h18 (fun y37 h37 =>
    is_c h37 x0 [4] (
    w_X5_key x0 y37 h37 (fun y40 h40 =>
    vf_n32 (FP.fsub y40 FP.fconst1) ∧
    is_c h40 x0 [4] (
    w_X5_keys x0 x1 x2 (FP.fsub y40 FP.fconst1) h40 (fun y45 h45 =>
    P y45 h45))))))) ∧
   (¬ y22 ≤ 0 →
    P 0 h18))
def w_X5_lower (a0 : Option Nat) (a1 : Int32) (a2 : Int32) (h : AH) (P : Int32 → AH → Prop) : Prop :=
  w_X5_isUser a1 h (fun y2 h2 =>
  ((y2 = 0 →
    w_X5_lower_18 P a0 a1 a2 1 a0 h2) ∧
   (¬ y2 = 0 →
    is_c h2 a0 [4] (
    w_X5_bar a0 a1 a2 h2 (fun y11 h11 =>
    w_X5_lower_18 P a0 a1 a2 y11 a0 h11)))))
theorem wk_X5_lower_18 {x : CX} (X : Ok x cX5_lower RX5 rm_X5_lower 3) (er : xrt x = (Option.some Jvm.ClassFile.FieldType.int)) (en : xnm x = yX5_lower.name) {P : Int32 → AH → Prop} (hQ : xr_i x P) (x0 : Option Nat) (x1 : Int32) (x2 : Int32) (t0 : Int32) (t1 : Option Nat) (h : AH) (hw : w_X5_lower_18 P x0 x1 x2 t0 t1 h) : J x h 0 0 18 [(0, vR x0), (1, vI x1), (2, vI x2)] [vI t0, vR t1] := by
  refine j_put (ci := 4) X (pc := 18) in_X5 rfl (by decide) 0 (by decide) q1872 (Or.inl rfl) tyX5 tyX5_ok nmX5 rfl rfl (ty := .int) (tyX5_ok 0 (by decide)) rfl rfl dX5_lower_18 hw (fun h18 hw => ?_)
  refine j_aload_n X (pc := 21) 0 dX5_lower_21 rfl rfl ?_
  refine j_geti (ci := 4) X (pc := 22) in_X5 rfl (by decide) 0 (by decide) q1872 (Or.inl rfl) dX5_lower_22 hw (fun y22 hw => ?_)
  refine j_if_le X (pc := 25) 32 dX5_lower_25 (by decide) hw (fun hw => ?_) (fun hw => ?_)
  · refine j_aload_n X (pc := 32) 0 dX5_lower_32 rfl rfl ?_
    refine j_iload_n X (pc := 33) 1 dX5_lower_33 rfl rfl ?_
    refine j_iload_n X (pc := 34) 2 dX5_lower_34 rfl rfl ?_
    refine j_aload_n X (pc := 35) 0 dX5_lower_35 rfl rfl ?_
    refine j_aload_n X (pc := 36) 0 dX5_lower_36 rfl rfl ?_
    obtain ⟨b9, c9, f9, hr9, ho9, hc9, hw⟩ := hw
    obtain rfl := List.mem_singleton.mp hc9
    refine j_calli (j_runV (n8 := 0) (As := []) (rest := [vR x0, vI x2, vI x1, vR x0]) X (pc := 37) hr9 (met_X5_lowest (xl x) X.hl (xG x) h18 x0 _ hw) ho9 (by decide) rfl q2075 q2077 qs51 q78 q2078 (by decide +kernel) dX5_lower_37 rfl ⟨Nat.le_of_ble_eq_true rfl, Nat.le_of_ble_eq_true rfl⟩ (Nat.le_of_ble_eq_true rfl) ⟨Nat.le_of_ble_eq_true rfl, Nat.le_of_ble_eq_true rfl⟩) (fun y37 h37 hw => ?_)
    obtain ⟨b9, c9, f9, hr9, ho9, hc9, hw⟩ := hw
    obtain rfl := List.mem_singleton.mp hc9
    refine j_callf (j_runV (n8 := 1) (As := [vI y37]) (rest := [vI x2, vI x1, vR x0]) X (pc := 40) hr9 (met_X5_key (xl x) X.hl (xG x) h37 x0 y37 _ hw) ho9 (by decide) rfl q2016 q2018 qs40 q78 q2019 (by decide +kernel) dX5_lower_40 rfl ⟨Nat.le_of_ble_eq_true rfl, Nat.le_of_ble_eq_true rfl⟩ (Nat.le_of_ble_eq_true rfl) ⟨Nat.le_of_ble_eq_true rfl, Nat.le_of_ble_eq_true rfl⟩) (fun y40 h40 hw => ?_)
    refine j_fconst1 X (pc := 43) dX5_lower_43 ?_
    refine j_fsub X (pc := 44) dX5_lower_44 hw (fun hw => ?_)
    obtain ⟨b9, c9, f9, hr9, ho9, hc9, hw⟩ := hw
    obtain rfl := List.mem_singleton.mp hc9
    refine j_calli (j_runV (n8 := 3) (As := [vI x1, vI x2, vF (FP.fsub y40 FP.fconst1)]) (rest := []) X (pc := 45) hr9 (met_X5_keys (xl x) X.hl (xG x) h40 x0 x1 x2 (FP.fsub y40 FP.fconst1) _ hw) ho9 (by decide) rfl q2063 q2065 qs49 q78 q2066 (by decide +kernel) dX5_lower_45 rfl ⟨Nat.le_of_ble_eq_true rfl, Nat.le_of_ble_eq_true rfl⟩ (Nat.le_of_ble_eq_true rfl) ⟨Nat.le_of_ble_eq_true rfl, Nat.le_of_ble_eq_true rfl⟩) (fun y45 h45 hw => ?_)
    exact j_iret X (pc := 48) hQ er (Nat.le_of_ble_eq_true rfl) (Nat.le_of_ble_eq_true rfl) dX5_lower_48 hw
  · refine j_iconst X (pc := 28) 0 dX5_lower_28 (by decide) ?_
    refine j_goto X (pc := 29) 48 dX5_lower_29 (by decide) ?_
    exact j_iret X (pc := 48) hQ er (Nat.le_of_ble_eq_true rfl) (Nat.le_of_ble_eq_true rfl) dX5_lower_48 hw
theorem met_X5_lower (l : Launch) (hlt : l.stackTraces = false) (G : GG) (h : AH) (a0 : Option Nat) (a1 : Int32) (a2 : Int32) (P : Int32 → AH → Prop) (hw : w_X5_lower a0 a1 a2 h P) : ct_i l yX5_lower (ws_ yX5_lower cX5_lower 3 (Option.some Jvm.ClassFile.FieldType.int)) rm_X5_lower G h [vR a0, vI a1, vI a2] P := by
  refine j_starti hlt [(0, vR a0), (1, vI a1), (2, vI a2)] (plainFor_of_name (by decide)) rfl rfl (fun x X eG er en hQ => ?_)
  subst eG
  refine j_aload_n X (pc := 0) 0 dX5_lower_0 rfl rfl ?_
  refine j_iload_n X (pc := 1) 1 dX5_lower_1 rfl rfl ?_
  refine j_calli (j_runS (n8 := 1) (As := [vI a1]) (rest := [vR a0]) X (pc := 2) (met_X5_isUser (xl x) X.hl (xG x) h a1 _ hw) q1978 q1979 q78 q1980 (by decide +kernel) dX5_lower_2 rfl ⟨Nat.le_of_ble_eq_true rfl, Nat.le_of_ble_eq_true rfl⟩ (Nat.le_of_ble_eq_true rfl) ⟨Nat.le_of_ble_eq_true rfl, Nat.le_of_ble_eq_true rfl⟩) (fun y2 h2 hw => ?_)
  refine j_if_eq X (pc := 5) 17 dX5_lower_5 (by decide) hw (fun hw => ?_) (fun hw => ?_)
  · refine j_iconst X (pc := 17) 1 dX5_lower_17 (by decide) ?_
    refine j_cs (u' := 0) (v' := 0) (Nat.le_of_ble_eq_true rfl) (Nat.le_of_ble_eq_true rfl) ?_
    exact wk_X5_lower_18 X er en hQ a0 a1 a2 1 a0 h2 hw
  · refine j_aload_n X (pc := 8) 0 dX5_lower_8 rfl rfl ?_
    refine j_iload_n X (pc := 9) 1 dX5_lower_9 rfl rfl ?_
    refine j_iload_n X (pc := 10) 2 dX5_lower_10 rfl rfl ?_
    obtain ⟨b9, c9, f9, hr9, ho9, hc9, hw⟩ := hw
    obtain rfl := List.mem_singleton.mp hc9
    refine j_calli (j_runV (n8 := 2) (As := [vI a1, vI a2]) (rest := [vR a0]) X (pc := 11) hr9 (met_X5_bar (xl x) X.hl (xG x) h2 a0 a1 a2 _ hw) ho9 (by decide) rfl q2039 q2041 qs44 q78 q2042 (by decide +kernel) dX5_lower_11 rfl ⟨Nat.le_of_ble_eq_true rfl, Nat.le_of_ble_eq_true rfl⟩ (Nat.le_of_ble_eq_true rfl) ⟨Nat.le_of_ble_eq_true rfl, Nat.le_of_ble_eq_true rfl⟩) (fun y11 h11 hw => ?_)
    refine j_goto X (pc := 14) 18 dX5_lower_14 (by decide) ?_
    refine j_cs (u' := 0) (v' := 0) (Nat.le_of_ble_eq_true rfl) (Nat.le_of_ble_eq_true rfl) ?_
    exact wk_X5_lower_18 X er en hQ a0 a1 a2 y11 a0 h11 hw
abbrev cX1_putAbove : ByteArray := prog_1_method_24_code
def yX1_putAbove : MethodName := ⟨RX1, "putAbove", "(III)I"⟩
def dkwX1_putAbove_9 : List UInt8 := [182, 1, 18, 172]
abbrev dktX1_putAbove_9 : List UInt8 := dkwX1_putAbove_9 ++ []
def dkwX1_putAbove_8 : List UInt8 := [153, 0, 7, 4, 167, 0, 4, 3, 184, 0, 232, 42, 182, 0, 207, 42, 25, 4, 25, 5, 23, 9]
abbrev dktX1_putAbove_8 : List UInt8 := dkwX1_putAbove_8 ++ dktX1_putAbove_9
def dkwX1_putAbove_7 : List UInt8 := [25, 5, 182, 0, 245, 21, 8, 154, 0, 19, 23, 9, 23, 6, 149, 153, 0, 15, 23, 9, 23, 7, 149]
abbrev dktX1_putAbove_7 : List UInt8 := dkwX1_putAbove_7 ++ dktX1_putAbove_8
def dkwX1_putAbove_6 : List UInt8 := [21, 8, 153, 0, 10, 23, 6, 12, 98, 167, 0, 10, 23, 6, 23, 7, 98, 13, 110, 56, 9, 42, 25, 4]
abbrev dktX1_putAbove_6 : List UInt8 := dkwX1_putAbove_6 ++ dktX1_putAbove_7
def dkwX1_putAbove_5 : List UInt8 := [23, 7, 56, 7, 167, 255, 202, 23, 7, 19, 1, 22, 149, 154, 0, 7, 4, 167, 0, 4, 3, 54, 8]
abbrev dktX1_putAbove_5 : List UInt8 := dkwX1_putAbove_5 ++ dktX1_putAbove_6
def dkwX1_putAbove_4 : List UInt8 := [182, 0, 189, 23, 6, 149, 158, 0, 18, 23, 7, 25, 4, 25, 9, 182, 0, 189, 184, 1, 23, 167, 0, 5]
abbrev dktX1_putAbove_4 : List UInt8 := dkwX1_putAbove_4 ++ dktX1_putAbove_5
def dkwX1_putAbove_3 : List UInt8 := [185, 0, 179, 1, 0, 153, 0, 50, 25, 8, 185, 0, 185, 1, 0, 192, 0, 124, 58, 9, 25, 4, 25, 9]
abbrev dktX1_putAbove_3 : List UInt8 := dkwX1_putAbove_3 ++ dktX1_putAbove_4
def dkwX1_putAbove_2 : List UInt8 := [56, 6, 19, 1, 22, 56, 7, 25, 4, 182, 0, 169, 185, 0, 173, 1, 0, 58, 8, 25, 8]
abbrev dktX1_putAbove_2 : List UInt8 := dkwX1_putAbove_2 ++ dktX1_putAbove_3
def dkwX1_putAbove_1 : List UInt8 := [184, 0, 25, 42, 25, 4, 28, 182, 0, 241, 58, 5, 25, 4, 42, 25, 4, 29, 182, 0, 241, 182, 0, 189]
abbrev dktX1_putAbove_1 : List UInt8 := dkwX1_putAbove_1 ++ dktX1_putAbove_2
def dkwX1_putAbove_0 : List UInt8 := [42, 27, 182, 0, 199, 58, 4, 4, 188, 4, 89, 3, 28, 29, 159, 0, 7, 4, 167, 0, 4, 3, 84]
abbrev dktX1_putAbove_0 : List UInt8 := dkwX1_putAbove_0 ++ dktX1_putAbove_1
theorem dksX1_putAbove_0 : cX1_putAbove.data.toList.drop 0 = dktX1_putAbove_0 := by decide +kernel
theorem dksX1_putAbove_1 : cX1_putAbove.data.toList.drop 23 = dktX1_putAbove_1 := dk_seg dksX1_putAbove_0 23 rfl rfl
theorem dksX1_putAbove_2 : cX1_putAbove.data.toList.drop 47 = dktX1_putAbove_2 := dk_seg dksX1_putAbove_1 24 rfl rfl
theorem dksX1_putAbove_3 : cX1_putAbove.data.toList.drop 68 = dktX1_putAbove_3 := dk_seg dksX1_putAbove_2 21 rfl rfl
theorem dksX1_putAbove_4 : cX1_putAbove.data.toList.drop 92 = dktX1_putAbove_4 := dk_seg dksX1_putAbove_3 24 rfl rfl
theorem dksX1_putAbove_5 : cX1_putAbove.data.toList.drop 116 = dktX1_putAbove_5 := dk_seg dksX1_putAbove_4 24 rfl rfl
theorem dksX1_putAbove_6 : cX1_putAbove.data.toList.drop 139 = dktX1_putAbove_6 := dk_seg dksX1_putAbove_5 23 rfl rfl
theorem dksX1_putAbove_7 : cX1_putAbove.data.toList.drop 163 = dktX1_putAbove_7 := dk_seg dksX1_putAbove_6 24 rfl rfl
theorem dksX1_putAbove_8 : cX1_putAbove.data.toList.drop 186 = dktX1_putAbove_8 := dk_seg dksX1_putAbove_7 23 rfl rfl
theorem dksX1_putAbove_9 : cX1_putAbove.data.toList.drop 208 = dktX1_putAbove_9 := dk_seg dksX1_putAbove_8 22 rfl rfl
theorem dX1_putAbove_0 : decode cX1_putAbove 0 = .ok (.aload_n 0, 1) := dk_42 (dk_at dksX1_putAbove_0 0 rfl rfl)
theorem dX1_putAbove_1 : decode cX1_putAbove 1 = .ok (.iload_n 1, 1) := dk_27 (dk_at dksX1_putAbove_0 1 rfl rfl)
theorem dX1_putAbove_2 : decode cX1_putAbove 2 = .ok (.invokevirtual 199, 3) := dk_182 0 199 (dk_at dksX1_putAbove_0 2 rfl rfl)
theorem dX1_putAbove_5 : decode cX1_putAbove 5 = .ok (.astore 4, 2) := dk_58 4 (dk_at dksX1_putAbove_0 5 rfl rfl)
theorem dX1_putAbove_7 : decode cX1_putAbove 7 = .ok (.iconst 1, 1) := dk_4 (dk_at dksX1_putAbove_0 7 rfl rfl)
theorem dX1_putAbove_8 : decode cX1_putAbove 8 = .ok (.newarray .boolean, 2) := dk_188_4 (dk_at dksX1_putAbove_0 8 rfl rfl)
theorem dX1_putAbove_10 : decode cX1_putAbove 10 = .ok (.dup, 1) := dk_89 (dk_at dksX1_putAbove_0 10 rfl rfl)
theorem dX1_putAbove_11 : decode cX1_putAbove 11 = .ok (.iconst 0, 1) := dk_3 (dk_at dksX1_putAbove_0 11 rfl rfl)
theorem dX1_putAbove_12 : decode cX1_putAbove 12 = .ok (.iload_n 2, 1) := dk_28 (dk_at dksX1_putAbove_0 12 rfl rfl)
theorem dX1_putAbove_13 : decode cX1_putAbove 13 = .ok (.iload_n 3, 1) := dk_29 (dk_at dksX1_putAbove_0 13 rfl rfl)
theorem dX1_putAbove_14 : decode cX1_putAbove 14 = .ok (.if_icmp .eq 7, 3) := dk_159 0 7 (dk_at dksX1_putAbove_0 14 rfl rfl)
theorem dX1_putAbove_17 : decode cX1_putAbove 17 = .ok (.iconst 1, 1) := dk_4 (dk_at dksX1_putAbove_0 17 rfl rfl)
theorem dX1_putAbove_18 : decode cX1_putAbove 18 = .ok (.goto 4, 3) := dk_167 0 4 (dk_at dksX1_putAbove_0 18 rfl rfl)
theorem dX1_putAbove_21 : decode cX1_putAbove 21 = .ok (.iconst 0, 1) := dk_3 (dk_at dksX1_putAbove_0 21 rfl rfl)
theorem dX1_putAbove_22 : decode cX1_putAbove 22 = .ok (.bastore, 1) := dk_84 (dk_at dksX1_putAbove_0 22 rfl rfl)
theorem dX1_putAbove_23 : decode cX1_putAbove 23 = .ok (.invokestatic 25, 3) := dk_184 0 25 (dk_at dksX1_putAbove_1 0 rfl rfl)
theorem dX1_putAbove_26 : decode cX1_putAbove 26 = .ok (.aload_n 0, 1) := dk_42 (dk_at dksX1_putAbove_1 3 rfl rfl)
theorem dX1_putAbove_27 : decode cX1_putAbove 27 = .ok (.aload 4, 2) := dk_25 4 (dk_at dksX1_putAbove_1 4 rfl rfl)
theorem dX1_putAbove_29 : decode cX1_putAbove 29 = .ok (.iload_n 2, 1) := dk_28 (dk_at dksX1_putAbove_1 6 rfl rfl)
theorem dX1_putAbove_30 : decode cX1_putAbove 30 = .ok (.invokevirtual 241, 3) := dk_182 0 241 (dk_at dksX1_putAbove_1 7 rfl rfl)
theorem dX1_putAbove_33 : decode cX1_putAbove 33 = .ok (.astore 5, 2) := dk_58 5 (dk_at dksX1_putAbove_1 10 rfl rfl)
theorem dX1_putAbove_35 : decode cX1_putAbove 35 = .ok (.aload 4, 2) := dk_25 4 (dk_at dksX1_putAbove_1 12 rfl rfl)
theorem dX1_putAbove_37 : decode cX1_putAbove 37 = .ok (.aload_n 0, 1) := dk_42 (dk_at dksX1_putAbove_1 14 rfl rfl)
theorem dX1_putAbove_38 : decode cX1_putAbove 38 = .ok (.aload 4, 2) := dk_25 4 (dk_at dksX1_putAbove_1 15 rfl rfl)
theorem dX1_putAbove_40 : decode cX1_putAbove 40 = .ok (.iload_n 3, 1) := dk_29 (dk_at dksX1_putAbove_1 17 rfl rfl)
theorem dX1_putAbove_41 : decode cX1_putAbove 41 = .ok (.invokevirtual 241, 3) := dk_182 0 241 (dk_at dksX1_putAbove_1 18 rfl rfl)
theorem dX1_putAbove_44 : decode cX1_putAbove 44 = .ok (.invokevirtual 189, 3) := dk_182 0 189 (dk_at dksX1_putAbove_1 21 rfl rfl)
theorem dX1_putAbove_47 : decode cX1_putAbove 47 = .ok (.fstore 6, 2) := dk_56 6 (dk_at dksX1_putAbove_2 0 rfl rfl)
theorem dX1_putAbove_49 : decode cX1_putAbove 49 = .ok (.ldc_w 278, 3) := dk_19 1 22 (dk_at dksX1_putAbove_2 2 rfl rfl)
theorem dX1_putAbove_52 : decode cX1_putAbove 52 = .ok (.fstore 7, 2) := dk_56 7 (dk_at dksX1_putAbove_2 5 rfl rfl)
theorem dX1_putAbove_54 : decode cX1_putAbove 54 = .ok (.aload 4, 2) := dk_25 4 (dk_at dksX1_putAbove_2 7 rfl rfl)
theorem dX1_putAbove_56 : decode cX1_putAbove 56 = .ok (.invokevirtual 169, 3) := dk_182 0 169 (dk_at dksX1_putAbove_2 9 rfl rfl)
theorem dX1_putAbove_59 : decode cX1_putAbove 59 = .ok (.invokeinterface 173 1, 5) := by decide +kernel
theorem dX1_putAbove_64 : decode cX1_putAbove 64 = .ok (.astore 8, 2) := dk_58 8 (dk_at dksX1_putAbove_2 17 rfl rfl)
theorem dX1_putAbove_66 : decode cX1_putAbove 66 = .ok (.aload 8, 2) := dk_25 8 (dk_at dksX1_putAbove_2 19 rfl rfl)
theorem dX1_putAbove_68 : decode cX1_putAbove 68 = .ok (.invokeinterface 179 1, 5) := by decide +kernel
theorem dX1_putAbove_73 : decode cX1_putAbove 73 = .ok (.ifCond .eq 50, 3) := dk_153 0 50 (dk_at dksX1_putAbove_3 5 rfl rfl)
theorem dX1_putAbove_76 : decode cX1_putAbove 76 = .ok (.aload 8, 2) := dk_25 8 (dk_at dksX1_putAbove_3 8 rfl rfl)
theorem dX1_putAbove_78 : decode cX1_putAbove 78 = .ok (.invokeinterface 185 1, 5) := by decide +kernel
theorem dX1_putAbove_83 : decode cX1_putAbove 83 = .ok (.checkcast 124, 3) := dk_192 0 124 (dk_at dksX1_putAbove_3 15 rfl rfl)
theorem dX1_putAbove_86 : decode cX1_putAbove 86 = .ok (.astore 9, 2) := dk_58 9 (dk_at dksX1_putAbove_3 18 rfl rfl)
theorem dX1_putAbove_88 : decode cX1_putAbove 88 = .ok (.aload 4, 2) := dk_25 4 (dk_at dksX1_putAbove_3 20 rfl rfl)
theorem dX1_putAbove_90 : decode cX1_putAbove 90 = .ok (.aload 9, 2) := dk_25 9 (dk_at dksX1_putAbove_3 22 rfl rfl)
theorem dX1_putAbove_92 : decode cX1_putAbove 92 = .ok (.invokevirtual 189, 3) := dk_182 0 189 (dk_at dksX1_putAbove_4 0 rfl rfl)
theorem dX1_putAbove_95 : decode cX1_putAbove 95 = .ok (.fload 6, 2) := dk_23 6 (dk_at dksX1_putAbove_4 3 rfl rfl)
theorem dX1_putAbove_97 : decode cX1_putAbove 97 = .ok (.fcmp .l, 1) := dk_149 (dk_at dksX1_putAbove_4 5 rfl rfl)
theorem dX1_putAbove_98 : decode cX1_putAbove 98 = .ok (.ifCond .le 18, 3) := dk_158 0 18 (dk_at dksX1_putAbove_4 6 rfl rfl)
theorem dX1_putAbove_101 : decode cX1_putAbove 101 = .ok (.fload 7, 2) := dk_23 7 (dk_at dksX1_putAbove_4 9 rfl rfl)
theorem dX1_putAbove_103 : decode cX1_putAbove 103 = .ok (.aload 4, 2) := dk_25 4 (dk_at dksX1_putAbove_4 11 rfl rfl)
theorem dX1_putAbove_105 : decode cX1_putAbove 105 = .ok (.aload 9, 2) := dk_25 9 (dk_at dksX1_putAbove_4 13 rfl rfl)
theorem dX1_putAbove_107 : decode cX1_putAbove 107 = .ok (.invokevirtual 189, 3) := dk_182 0 189 (dk_at dksX1_putAbove_4 15 rfl rfl)
theorem dX1_putAbove_110 : decode cX1_putAbove 110 = .ok (.invokestatic 279, 3) := dk_184 1 23 (dk_at dksX1_putAbove_4 18 rfl rfl)
theorem dX1_putAbove_113 : decode cX1_putAbove 113 = .ok (.goto 5, 3) := dk_167 0 5 (dk_at dksX1_putAbove_4 21 rfl rfl)
theorem dX1_putAbove_116 : decode cX1_putAbove 116 = .ok (.fload 7, 2) := dk_23 7 (dk_at dksX1_putAbove_5 0 rfl rfl)
theorem dX1_putAbove_118 : decode cX1_putAbove 118 = .ok (.fstore 7, 2) := dk_56 7 (dk_at dksX1_putAbove_5 2 rfl rfl)
theorem dX1_putAbove_120 : decode cX1_putAbove 120 = .ok (.goto (-54), 3) := dk_167 255 202 (dk_at dksX1_putAbove_5 4 rfl rfl)
theorem dX1_putAbove_123 : decode cX1_putAbove 123 = .ok (.fload 7, 2) := dk_23 7 (dk_at dksX1_putAbove_5 7 rfl rfl)
theorem dX1_putAbove_125 : decode cX1_putAbove 125 = .ok (.ldc_w 278, 3) := dk_19 1 22 (dk_at dksX1_putAbove_5 9 rfl rfl)
theorem dX1_putAbove_128 : decode cX1_putAbove 128 = .ok (.fcmp .l, 1) := dk_149 (dk_at dksX1_putAbove_5 12 rfl rfl)
theorem dX1_putAbove_129 : decode cX1_putAbove 129 = .ok (.ifCond .ne 7, 3) := dk_154 0 7 (dk_at dksX1_putAbove_5 13 rfl rfl)
theorem dX1_putAbove_132 : decode cX1_putAbove 132 = .ok (.iconst 1, 1) := dk_4 (dk_at dksX1_putAbove_5 16 rfl rfl)
theorem dX1_putAbove_133 : decode cX1_putAbove 133 = .ok (.goto 4, 3) := dk_167 0 4 (dk_at dksX1_putAbove_5 17 rfl rfl)
theorem dX1_putAbove_136 : decode cX1_putAbove 136 = .ok (.iconst 0, 1) := dk_3 (dk_at dksX1_putAbove_5 20 rfl rfl)
theorem dX1_putAbove_137 : decode cX1_putAbove 137 = .ok (.istore 8, 2) := dk_54 8 (dk_at dksX1_putAbove_5 21 rfl rfl)
theorem dX1_putAbove_139 : decode cX1_putAbove 139 = .ok (.iload 8, 2) := dk_21 8 (dk_at dksX1_putAbove_6 0 rfl rfl)
theorem dX1_putAbove_141 : decode cX1_putAbove 141 = .ok (.ifCond .eq 10, 3) := dk_153 0 10 (dk_at dksX1_putAbove_6 2 rfl rfl)
theorem dX1_putAbove_144 : decode cX1_putAbove 144 = .ok (.fload 6, 2) := dk_23 6 (dk_at dksX1_putAbove_6 5 rfl rfl)
theorem dX1_putAbove_146 : decode cX1_putAbove 146 = .ok (.fconst 1, 1) := dk_12 (dk_at dksX1_putAbove_6 7 rfl rfl)
theorem dX1_putAbove_147 : decode cX1_putAbove 147 = .ok (.fadd, 1) := dk_98 (dk_at dksX1_putAbove_6 8 rfl rfl)
theorem dX1_putAbove_148 : decode cX1_putAbove 148 = .ok (.goto 10, 3) := dk_167 0 10 (dk_at dksX1_putAbove_6 9 rfl rfl)
theorem dX1_putAbove_151 : decode cX1_putAbove 151 = .ok (.fload 6, 2) := dk_23 6 (dk_at dksX1_putAbove_6 12 rfl rfl)
theorem dX1_putAbove_153 : decode cX1_putAbove 153 = .ok (.fload 7, 2) := dk_23 7 (dk_at dksX1_putAbove_6 14 rfl rfl)
theorem dX1_putAbove_155 : decode cX1_putAbove 155 = .ok (.fadd, 1) := dk_98 (dk_at dksX1_putAbove_6 16 rfl rfl)
theorem dX1_putAbove_156 : decode cX1_putAbove 156 = .ok (.fconst 2, 1) := dk_13 (dk_at dksX1_putAbove_6 17 rfl rfl)
theorem dX1_putAbove_157 : decode cX1_putAbove 157 = .ok (.fdiv, 1) := dk_110 (dk_at dksX1_putAbove_6 18 rfl rfl)
theorem dX1_putAbove_158 : decode cX1_putAbove 158 = .ok (.fstore 9, 2) := dk_56 9 (dk_at dksX1_putAbove_6 19 rfl rfl)
theorem dX1_putAbove_160 : decode cX1_putAbove 160 = .ok (.aload_n 0, 1) := dk_42 (dk_at dksX1_putAbove_6 21 rfl rfl)
theorem dX1_putAbove_161 : decode cX1_putAbove 161 = .ok (.aload 4, 2) := dk_25 4 (dk_at dksX1_putAbove_6 22 rfl rfl)
theorem dX1_putAbove_163 : decode cX1_putAbove 163 = .ok (.aload 5, 2) := dk_25 5 (dk_at dksX1_putAbove_7 0 rfl rfl)
theorem dX1_putAbove_165 : decode cX1_putAbove 165 = .ok (.invokevirtual 245, 3) := dk_182 0 245 (dk_at dksX1_putAbove_7 2 rfl rfl)
theorem dX1_putAbove_168 : decode cX1_putAbove 168 = .ok (.iload 8, 2) := dk_21 8 (dk_at dksX1_putAbove_7 5 rfl rfl)
theorem dX1_putAbove_170 : decode cX1_putAbove 170 = .ok (.ifCond .ne 19, 3) := dk_154 0 19 (dk_at dksX1_putAbove_7 7 rfl rfl)
theorem dX1_putAbove_173 : decode cX1_putAbove 173 = .ok (.fload 9, 2) := dk_23 9 (dk_at dksX1_putAbove_7 10 rfl rfl)
theorem dX1_putAbove_175 : decode cX1_putAbove 175 = .ok (.fload 6, 2) := dk_23 6 (dk_at dksX1_putAbove_7 12 rfl rfl)
theorem dX1_putAbove_177 : decode cX1_putAbove 177 = .ok (.fcmp .l, 1) := dk_149 (dk_at dksX1_putAbove_7 14 rfl rfl)
theorem dX1_putAbove_178 : decode cX1_putAbove 178 = .ok (.ifCond .eq 15, 3) := dk_153 0 15 (dk_at dksX1_putAbove_7 15 rfl rfl)
theorem dX1_putAbove_181 : decode cX1_putAbove 181 = .ok (.fload 9, 2) := dk_23 9 (dk_at dksX1_putAbove_7 18 rfl rfl)
theorem dX1_putAbove_183 : decode cX1_putAbove 183 = .ok (.fload 7, 2) := dk_23 7 (dk_at dksX1_putAbove_7 20 rfl rfl)
theorem dX1_putAbove_185 : decode cX1_putAbove 185 = .ok (.fcmp .l, 1) := dk_149 (dk_at dksX1_putAbove_7 22 rfl rfl)
theorem dX1_putAbove_186 : decode cX1_putAbove 186 = .ok (.ifCond .eq 7, 3) := dk_153 0 7 (dk_at dksX1_putAbove_8 0 rfl rfl)
theorem dX1_putAbove_189 : decode cX1_putAbove 189 = .ok (.iconst 1, 1) := dk_4 (dk_at dksX1_putAbove_8 3 rfl rfl)
theorem dX1_putAbove_190 : decode cX1_putAbove 190 = .ok (.goto 4, 3) := dk_167 0 4 (dk_at dksX1_putAbove_8 4 rfl rfl)
theorem dX1_putAbove_193 : decode cX1_putAbove 193 = .ok (.iconst 0, 1) := dk_3 (dk_at dksX1_putAbove_8 7 rfl rfl)
theorem dX1_putAbove_194 : decode cX1_putAbove 194 = .ok (.invokestatic 232, 3) := dk_184 0 232 (dk_at dksX1_putAbove_8 8 rfl rfl)
theorem dX1_putAbove_197 : decode cX1_putAbove 197 = .ok (.aload_n 0, 1) := dk_42 (dk_at dksX1_putAbove_8 11 rfl rfl)
theorem dX1_putAbove_198 : decode cX1_putAbove 198 = .ok (.invokevirtual 207, 3) := dk_182 0 207 (dk_at dksX1_putAbove_8 12 rfl rfl)
theorem dX1_putAbove_201 : decode cX1_putAbove 201 = .ok (.aload_n 0, 1) := dk_42 (dk_at dksX1_putAbove_8 15 rfl rfl)
theorem dX1_putAbove_202 : decode cX1_putAbove 202 = .ok (.aload 4, 2) := dk_25 4 (dk_at dksX1_putAbove_8 16 rfl rfl)
theorem dX1_putAbove_204 : decode cX1_putAbove 204 = .ok (.aload 5, 2) := dk_25 5 (dk_at dksX1_putAbove_8 18 rfl rfl)
theorem dX1_putAbove_206 : decode cX1_putAbove 206 = .ok (.fload 9, 2) := dk_23 9 (dk_at dksX1_putAbove_8 20 rfl rfl)
theorem dX1_putAbove_208 : decode cX1_putAbove 208 = .ok (.invokevirtual 274, 3) := dk_182 1 18 (dk_at dksX1_putAbove_9 0 rfl rfl)
theorem dX1_putAbove_211 : decode cX1_putAbove 211 = .ok (.ireturn, 1) := dk_172 (dk_at dksX1_putAbove_9 3 rfl rfl)
abbrev rm_X1_putAbove : Room := { frames := 12, cells := 21, slots := 240, locals := 293 }
def w_X1_putAbove_194 (P : Int32 → AH → Prop) (PX : String → AH → Prop) (x0 : Option Nat) (x4 : Option Nat) (x5 : Option Nat) (x9 : UInt32) (t0 : Int32) (h : AH) : Prop :=
  w_X1_requireSupported t0 h (fun h194 =>
  is_c h194 x0 [0] (
  w_X1_requireRoom x0 h194 (fun h198 =>
  is_c h198 x0 [0] (
  w_X1_giveKey x0 x4 x5 x9 h198 (fun y208 h208 =>
  P y208 h208))) PX)) PX
def w_X1_putAbove_158 (P : Int32 → AH → Prop) (PX : String → AH → Prop) (x0 : Option Nat) (x4 : Option Nat) (x5 : Option Nat) (x6 : UInt32) (x7 : UInt32) (x8 : Int32) (t0 : UInt32) (h : AH) : Prop :=
  is_c h x0 [0] (
  w_X1_requireUnlocked x0 x4 x5 h (fun h165 =>
  ((x8 = 0 →
    (((Op.cmpValue (FP.fcmp t0 x6) .l) = 0 →
      w_X1_putAbove_194 P PX x0 x4 x5 t0 0 h165) ∧
     (¬ (Op.cmpValue (FP.fcmp t0 x6) .l) = 0 →
      (((Op.cmpValue (FP.fcmp t0 x7) .l) = 0 →
        w_X1_putAbove_194 P PX x0 x4 x5 t0 0 h165) ∧
       (¬ (Op.cmpValue (FP.fcmp t0 x7) .l) = 0 →
        w_X1_putAbove_194 P PX x0 x4 x5 t0 1 h165))))) ∧
   (¬ x8 = 0 →
    w_X1_putAbove_194 P PX x0 x4 x5 t0 1 h165))) PX)
def w_X1_putAbove_137 (P : Int32 → AH → Prop) (PX : String → AH → Prop) (x0 : Option Nat) (x4 : Option Nat) (x5 : Option Nat) (x6 : UInt32) (x7 : UInt32) (t0 : Int32) (h : AH) : Prop :=
  ((t0 = 0 →
    vf_n32 (FP.fadd x6 x7) ∧
    vf_n32 (FP.fdiv (FP.fadd x6 x7) FP.fconst2) ∧
    w_X1_putAbove_158 P PX x0 x4 x5 x6 x7 t0 (FP.fdiv (FP.fadd x6 x7) FP.fconst2) h) ∧
   (¬ t0 = 0 →
    vf_n32 (FP.fadd x6 FP.fconst1) ∧
    w_X1_putAbove_158 P PX x0 x4 x5 x6 x7 t0 (FP.fadd x6 FP.fconst1) h))
def w_X1_putAbove_66 (P : Int32 → AH → Prop) (PX : String → AH → Prop) (x0 : Option Nat) (x4 : Option Nat) (x5 : Option Nat) (x6 : UInt32) (x7 : UInt32) (x8 : Option Nat) (h : AH) : Prop :=
  ∀ Z66 : UInt32 → AH → Prop, (∀ x7 h, (
      is_c h x8 [6] (
      w_X7_hasNext x8 h (fun y68 h68 =>
      ((y68 = 0 →
        (((Op.cmpValue (FP.fcmp x7 (2139095040 : UInt32)) .l) = 0 →
          w_X1_putAbove_137 P PX x0 x4 x5 x6 x7 1 h68) ∧
         (¬ (Op.cmpValue (FP.fcmp x7 (2139095040 : UInt32)) .l) = 0 →
          w_X1_putAbove_137 P PX x0 x4 x5 x6 x7 0 h68))) ∧
       (¬ y68 = 0 →
        is_c h68 x8 [6] (
        w_X7_next x8 h68 (fun y78 h78 =>
        is_c h78 y78 [7, 8] (
        is_c h78 x4 [2] (
        w_X3_keyOf x4 y78 h78 (fun y92 h92 =>
        (((Op.cmpValue (FP.fcmp y92 x6) .l) ≤ 0 →
          Z66 x7 h92) ∧
         (¬ (Op.cmpValue (FP.fcmp y92 x6) .l) ≤ 0 →
          is_c h92 x4 [2] (
          w_X3_keyOf x4 y78 h92 (fun y107 h107 =>
          (FP.fIsNaN x7 = false ∧ FP.fIsNaN y107 = false) ∧
          Z66 (ni_pick x7 y107) h107))))))))))))))
      → Z66 x7 h) → Z66 x7 h
def w_X1_putAbove_22 (P : Int32 → AH → Prop) (PX : String → AH → Prop) (x0 : Option Nat) (x2 : Int32) (x3 : Int32) (x4 : Option Nat) (t0 : Int32) (t1 : Int32) (t2 : Option Nat) (t3 : Option Nat) (h : AH) : Prop :=
  nrw .boolean t0 ∧
  s_i h t2 1 t1 t0 fun h22 =>
  w_X1_require t3 h22 (fun h23 =>
  is_c h23 x0 [0] (
  w_X1_shape x0 x4 x2 h23 (fun y30 h30 =>
  is_c h30 x0 [0] (
  w_X1_shape x0 x4 x3 h30 (fun y41 h41 =>
  is_c h41 x4 [2] (
  w_X3_keyOf x4 y41 h41 (fun y44 h44 =>
  is_c h44 x4 [2] (
  w_X3_seen x4 h44 (fun y56 h56 =>
  is_c h56 y56 [5] (
  w_X6_iterator y56 h56 (fun y59 h59 =>
  w_X1_putAbove_66 P PX x0 x4 y30 y44 (2139095040 : UInt32) y59 h59))))))) PX)) PX)) PX
def w_X1_putAbove (a0 : Option Nat) (a1 : Int32) (a2 : Int32) (a3 : Int32) (h : AH) (P : Int32 → AH → Prop) (PX : String → AH → Prop) : Prop :=
  is_c h a0 [0] (
  w_X1_board a0 a1 h (fun y2 h2 =>
  mk_i h2 1 1 1 fun q8 h8 =>
  ((a2 = a3 →
    w_X1_putAbove_22 P PX a0 a2 a3 y2 0 0 (some q8) (some q8) h8) ∧
   (¬ a2 = a3 →
    w_X1_putAbove_22 P PX a0 a2 a3 y2 1 0 (some q8) (some q8) h8))) PX)
theorem wk_X1_putAbove_194 {x : CX} (X : Ok x cX1_putAbove RX1 rm_X1_putAbove 10) (er : xrt x = (Option.some Jvm.ClassFile.FieldType.int)) (en : xnm x = yX1_putAbove.name) {P : Int32 → AH → Prop} {PX : String → AH → Prop} (hQ : xr_i x P) (hT : xt_ x PX) (hex : ∀ z ∈ x.2.2.2.2.2.2.2.2.2.1.exceptionTable.toList, False) (x0 : Option Nat) (x4 : Option Nat) (x5 : Option Nat) (x9 : UInt32) (t0 : Int32) (h : AH) (hw : w_X1_putAbove_194 P PX x0 x4 x5 x9 t0 h) : J x h 9 35 194 [(0, vR x0), (4, vR x4), (5, vR x5), (9, vF x9)] [vI t0] := by
  refine j_callXv (j_runSX (n8 := 1) (As := [vI t0]) (rest := []) X (pc := 194) (met_X1_requireSupported (xl x) X.hl (xG x) h t0 _ _ hw) q1097 q1098 q71 q1099 (by decide +kernel) dX1_putAbove_194 rfl ⟨Nat.le_of_ble_eq_true rfl, Nat.le_of_ble_eq_true rfl⟩ (Nat.le_of_ble_eq_true rfl) ⟨Nat.le_of_ble_eq_true rfl, Nat.le_of_ble_eq_true rfl⟩) (fun E h9 hx => j_out X hT hex (Nat.le_of_ble_eq_true rfl) (Nat.le_of_ble_eq_true rfl) hx) (fun h194 hw => ?_)
  refine j_aload_n X (pc := 197) 0 dX1_putAbove_197 rfl rfl ?_
  obtain ⟨b9, c9, f9, hr9, ho9, hc9, hw⟩ := hw
  obtain rfl := List.mem_singleton.mp hc9
  refine j_callXv (j_runVX (n8 := 0) (As := []) (rest := []) X (pc := 198) hr9 (met_X1_requireRoom (xl x) X.hl (xG x) h194 x0 _ _ hw) ho9 (by decide) rfl q400 q402 qs2 q71 q403 (by decide +kernel) dX1_putAbove_198 rfl ⟨Nat.le_of_ble_eq_true rfl, Nat.le_of_ble_eq_true rfl⟩ (Nat.le_of_ble_eq_true rfl) ⟨Nat.le_of_ble_eq_true rfl, Nat.le_of_ble_eq_true rfl⟩) (fun E h9 hx => j_out X hT hex (Nat.le_of_ble_eq_true rfl) (Nat.le_of_ble_eq_true rfl) hx) (fun h198 hw => ?_)
  refine j_aload_n X (pc := 201) 0 dX1_putAbove_201 rfl rfl ?_
  refine j_aload X (pc := 202) 1 dX1_putAbove_202 rfl ?_
  refine j_aload X (pc := 204) 2 dX1_putAbove_204 rfl ?_
  refine j_fload X (pc := 206) 3 dX1_putAbove_206 rfl ?_
  obtain ⟨b9, c9, f9, hr9, ho9, hc9, hw⟩ := hw
  obtain rfl := List.mem_singleton.mp hc9
  refine j_calli (j_runV (n8 := 3) (As := [vR x4, vR x5, vF x9]) (rest := []) X (pc := 208) hr9 (met_X1_giveKey (xl x) X.hl (xG x) h198 x0 x4 x5 x9 _ hw) ho9 (by decide) rfl q1185 q1187 qs11 q71 q1188 (by decide +kernel) dX1_putAbove_208 rfl ⟨Nat.le_of_ble_eq_true rfl, Nat.le_of_ble_eq_true rfl⟩ (Nat.le_of_ble_eq_true rfl) ⟨Nat.le_of_ble_eq_true rfl, Nat.le_of_ble_eq_true rfl⟩) (fun y208 h208 hw => ?_)
  exact j_iret X (pc := 211) hQ er (Nat.le_of_ble_eq_true rfl) (Nat.le_of_ble_eq_true rfl) dX1_putAbove_211 hw
theorem wk_X1_putAbove_158 {x : CX} (X : Ok x cX1_putAbove RX1 rm_X1_putAbove 10) (er : xrt x = (Option.some Jvm.ClassFile.FieldType.int)) (en : xnm x = yX1_putAbove.name) {P : Int32 → AH → Prop} {PX : String → AH → Prop} (hQ : xr_i x P) (hT : xt_ x PX) (hex : ∀ z ∈ x.2.2.2.2.2.2.2.2.2.1.exceptionTable.toList, False) (x0 : Option Nat) (x4 : Option Nat) (x5 : Option Nat) (x6 : UInt32) (x7 : UInt32) (x8 : Int32) (t0 : UInt32) (h : AH) (hw : w_X1_putAbove_158 P PX x0 x4 x5 x6 x7 x8 t0 h) : J x h 8 29 158 [(0, vR x0), (4, vR x4), (5, vR x5), (6, vF x6), (7, vF x7), (8, vI x8)] [vF t0] := by
  refine j_fstore X (pc := 158) [(9, vF t0), (0, vR x0), (4, vR x4), (5, vR x5), (6, vF x6), (7, vF x7), (8, vI x8)] dX1_putAbove_158 (Nat.le_of_ble_eq_true rfl) rfl ?_
  refine j_aload_n X (pc := 160) 1 dX1_putAbove_160 rfl rfl ?_
  refine j_aload X (pc := 161) 2 dX1_putAbove_161 rfl ?_
  refine j_aload X (pc := 163) 3 dX1_putAbove_163 rfl ?_
  obtain ⟨b9, c9, f9, hr9, ho9, hc9, hw⟩ := hw
  obtain rfl := List.mem_singleton.mp hc9
  refine j_callXv (j_runVX (n8 := 2) (As := [vR x4, vR x5]) (rest := []) X (pc := 165) hr9 (met_X1_requireUnlocked (xl x) X.hl (xG x) h x0 x4 x5 _ _ hw) ho9 (by decide) rfl q1085 q1087 qs10 q71 q1088 (by decide +kernel) dX1_putAbove_165 rfl ⟨Nat.le_of_ble_eq_true rfl, Nat.le_of_ble_eq_true rfl⟩ (Nat.le_of_ble_eq_true rfl) ⟨Nat.le_of_ble_eq_true rfl, Nat.le_of_ble_eq_true rfl⟩) (fun E h9 hx => j_out X hT hex (Nat.le_of_ble_eq_true rfl) (Nat.le_of_ble_eq_true rfl) hx) (fun h165 hw => ?_)
  refine j_iload X (pc := 168) 6 dX1_putAbove_168 rfl ?_
  refine j_if_ne X (pc := 170) 189 dX1_putAbove_170 (by decide) hw (fun hw => ?_) (fun hw => ?_)
  · refine j_fload X (pc := 173) 0 dX1_putAbove_173 rfl ?_
    refine j_fload X (pc := 175) 4 dX1_putAbove_175 rfl ?_
    refine j_fcmp X (pc := 177) dX1_putAbove_177 ?_
    refine j_if_eq X (pc := 178) 193 dX1_putAbove_178 (by decide) hw (fun hw => ?_) (fun hw => ?_)
    · refine j_iconst X (pc := 193) 0 dX1_putAbove_193 (by decide) ?_
      refine j_lv [(0, vR x0), (4, vR x4), (5, vR x5), (9, vF t0)] [1, 2, 3, 0] rfl ?_
      refine j_cs (u' := 9) (v' := 35) (Nat.le_of_ble_eq_true rfl) (Nat.le_of_ble_eq_true rfl) ?_
      exact wk_X1_putAbove_194 X er en hQ hT hex x0 x4 x5 t0 0 h165 hw
    · refine j_fload X (pc := 181) 0 dX1_putAbove_181 rfl ?_
      refine j_fload X (pc := 183) 5 dX1_putAbove_183 rfl ?_
      refine j_fcmp X (pc := 185) dX1_putAbove_185 ?_
      refine j_if_eq X (pc := 186) 193 dX1_putAbove_186 (by decide) hw (fun hw => ?_) (fun hw => ?_)
      · refine j_iconst X (pc := 193) 0 dX1_putAbove_193 (by decide) ?_
        refine j_lv [(0, vR x0), (4, vR x4), (5, vR x5), (9, vF t0)] [1, 2, 3, 0] rfl ?_
        refine j_cs (u' := 9) (v' := 35) (Nat.le_of_ble_eq_true rfl) (Nat.le_of_ble_eq_true rfl) ?_
        exact wk_X1_putAbove_194 X er en hQ hT hex x0 x4 x5 t0 0 h165 hw
      · refine j_iconst X (pc := 189) 1 dX1_putAbove_189 (by decide) ?_
        refine j_goto X (pc := 190) 194 dX1_putAbove_190 (by decide) ?_
        refine j_lv [(0, vR x0), (4, vR x4), (5, vR x5), (9, vF t0)] [1, 2, 3, 0] rfl ?_
        refine j_cs (u' := 9) (v' := 35) (Nat.le_of_ble_eq_true rfl) (Nat.le_of_ble_eq_true rfl) ?_
        exact wk_X1_putAbove_194 X er en hQ hT hex x0 x4 x5 t0 1 h165 hw
  · refine j_iconst X (pc := 189) 1 dX1_putAbove_189 (by decide) ?_
    refine j_goto X (pc := 190) 194 dX1_putAbove_190 (by decide) ?_
    refine j_lv [(0, vR x0), (4, vR x4), (5, vR x5), (9, vF t0)] [1, 2, 3, 0] rfl ?_
    refine j_cs (u' := 9) (v' := 35) (Nat.le_of_ble_eq_true rfl) (Nat.le_of_ble_eq_true rfl) ?_
    exact wk_X1_putAbove_194 X er en hQ hT hex x0 x4 x5 t0 1 h165 hw
theorem wk_X1_putAbove_137 {x : CX} (X : Ok x cX1_putAbove RX1 rm_X1_putAbove 10) (er : xrt x = (Option.some Jvm.ClassFile.FieldType.int)) (en : xnm x = yX1_putAbove.name) {P : Int32 → AH → Prop} {PX : String → AH → Prop} (hQ : xr_i x P) (hT : xt_ x PX) (hex : ∀ z ∈ x.2.2.2.2.2.2.2.2.2.1.exceptionTable.toList, False) (x0 : Option Nat) (x4 : Option Nat) (x5 : Option Nat) (x6 : UInt32) (x7 : UInt32) (t0 : Int32) (h : AH) (hw : w_X1_putAbove_137 P PX x0 x4 x5 x6 x7 t0 h) : J x h 8 29 137 [(0, vR x0), (4, vR x4), (5, vR x5), (6, vF x6), (7, vF x7)] [vI t0] := by
  refine j_istore X (pc := 137) [(8, vI t0), (0, vR x0), (4, vR x4), (5, vR x5), (6, vF x6), (7, vF x7)] dX1_putAbove_137 (Nat.le_of_ble_eq_true rfl) rfl ?_
  refine j_iload X (pc := 139) 0 dX1_putAbove_139 rfl ?_
  refine j_if_eq X (pc := 141) 151 dX1_putAbove_141 (by decide) hw (fun hw => ?_) (fun hw => ?_)
  · refine j_fload X (pc := 151) 4 dX1_putAbove_151 rfl ?_
    refine j_fload X (pc := 153) 5 dX1_putAbove_153 rfl ?_
    refine j_fadd X (pc := 155) dX1_putAbove_155 hw (fun hw => ?_)
    refine j_fconst2 X (pc := 156) dX1_putAbove_156 ?_
    refine j_fdiv X (pc := 157) dX1_putAbove_157 hw (fun hw => ?_)
    refine j_lv [(0, vR x0), (4, vR x4), (5, vR x5), (6, vF x6), (7, vF x7), (8, vI t0)] [1, 2, 3, 4, 5, 0] rfl ?_
    refine j_cs (u' := 8) (v' := 29) (Nat.le_of_ble_eq_true rfl) (Nat.le_of_ble_eq_true rfl) ?_
    exact wk_X1_putAbove_158 X er en hQ hT hex x0 x4 x5 x6 x7 t0 (FP.fdiv (FP.fadd x6 x7) FP.fconst2) h hw
  · refine j_fload X (pc := 144) 4 dX1_putAbove_144 rfl ?_
    refine j_fconst1 X (pc := 146) dX1_putAbove_146 ?_
    refine j_fadd X (pc := 147) dX1_putAbove_147 hw (fun hw => ?_)
    refine j_goto X (pc := 148) 158 dX1_putAbove_148 (by decide) ?_
    refine j_lv [(0, vR x0), (4, vR x4), (5, vR x5), (6, vF x6), (7, vF x7), (8, vI t0)] [1, 2, 3, 4, 5, 0] rfl ?_
    refine j_cs (u' := 8) (v' := 29) (Nat.le_of_ble_eq_true rfl) (Nat.le_of_ble_eq_true rfl) ?_
    exact wk_X1_putAbove_158 X er en hQ hT hex x0 x4 x5 x6 x7 t0 (FP.fadd x6 FP.fconst1) h hw
theorem wk_X1_putAbove_66 {x : CX} (X : Ok x cX1_putAbove RX1 rm_X1_putAbove 10) (er : xrt x = (Option.some Jvm.ClassFile.FieldType.int)) (en : xnm x = yX1_putAbove.name) {P : Int32 → AH → Prop} {PX : String → AH → Prop} (hQ : xr_i x P) (hT : xt_ x PX) (hex : ∀ z ∈ x.2.2.2.2.2.2.2.2.2.1.exceptionTable.toList, False) (x0 : Option Nat) (x4 : Option Nat) (x5 : Option Nat) (x6 : UInt32) (x7 : UInt32) (x8 : Option Nat) (h : AH) (hw : w_X1_putAbove_66 P PX x0 x4 x5 x6 x7 x8 h) : J x h 8 29 66 [(0, vR x0), (4, vR x4), (5, vR x5), (6, vF x6), (7, vF x7), (8, vR x8)] [] := by
  refine hw (fun x7 h => J x h 8 29 66 [(0, vR x0), (4, vR x4), (5, vR x5), (6, vF x6), (7, vF x7), (8, vR x8)] []) (fun x7 h hw => ?_)
  refine j_aload X (pc := 66) 5 dX1_putAbove_66 rfl ?_
  obtain ⟨b9, c9, f9, hr9, ho9, hc9, hw⟩ := hw
  obtain rfl := List.mem_singleton.mp hc9
  refine j_call5i (j_runF (n8 := 0) (As := []) (rest := []) X (pc := 68) hr9 (met_X7_hasNext (xl x) X.hl (xG x) h x8 _ hw) ho9 (by decide) rfl q481 q485 q487 q85 q489 (fun U hU => kt_F2 hU) (by decide +kernel) dX1_putAbove_68 rfl ⟨Nat.le_of_ble_eq_true rfl, Nat.le_of_ble_eq_true rfl⟩ (Nat.le_of_ble_eq_true rfl) ⟨Nat.le_of_ble_eq_true rfl, Nat.le_of_ble_eq_true rfl⟩) (fun y68 h68 hw => ?_)
  refine j_if_eq X (pc := 73) 123 dX1_putAbove_73 (by decide) hw (fun hw => ?_) (fun hw => ?_)
  · refine j_fload X (pc := 123) 4 dX1_putAbove_123 rfl ?_
    refine j_ldcwf X (pc := 125) dX1_putAbove_125 q1211 ?_
    refine j_fcmp X (pc := 128) dX1_putAbove_128 ?_
    refine j_if_ne X (pc := 129) 136 dX1_putAbove_129 (by decide) hw (fun hw => ?_) (fun hw => ?_)
    · refine j_iconst X (pc := 132) 1 dX1_putAbove_132 (by decide) ?_
      refine j_goto X (pc := 133) 137 dX1_putAbove_133 (by decide) ?_
      refine j_lv [(0, vR x0), (4, vR x4), (5, vR x5), (6, vF x6), (7, vF x7)] [0, 1, 2, 3, 4] rfl ?_
      refine j_cs (u' := 8) (v' := 29) (Nat.le_of_ble_eq_true rfl) (Nat.le_of_ble_eq_true rfl) ?_
      exact wk_X1_putAbove_137 X er en hQ hT hex x0 x4 x5 x6 x7 1 h68 hw
    · refine j_iconst X (pc := 136) 0 dX1_putAbove_136 (by decide) ?_
      refine j_lv [(0, vR x0), (4, vR x4), (5, vR x5), (6, vF x6), (7, vF x7)] [0, 1, 2, 3, 4] rfl ?_
      refine j_cs (u' := 8) (v' := 29) (Nat.le_of_ble_eq_true rfl) (Nat.le_of_ble_eq_true rfl) ?_
      exact wk_X1_putAbove_137 X er en hQ hT hex x0 x4 x5 x6 x7 0 h68 hw
  · refine j_aload X (pc := 76) 5 dX1_putAbove_76 rfl ?_
    obtain ⟨b9, c9, f9, hr9, ho9, hc9, hw⟩ := hw
    obtain rfl := List.mem_singleton.mp hc9
    refine j_call5q (j_runF (n8 := 0) (As := []) (rest := []) X (pc := 78) hr9 (met_X7_next (xl x) X.hl (xG x) h68 x8 _ hw) ho9 (by decide) rfl q499 q502 q504 q85 q506 (fun U hU => kt_F3 hU) (by decide +kernel) dX1_putAbove_78 rfl ⟨Nat.le_of_ble_eq_true rfl, Nat.le_of_ble_eq_true rfl⟩ (Nat.le_of_ble_eq_true rfl) ⟨Nat.le_of_ble_eq_true rfl, Nat.le_of_ble_eq_true rfl⟩) (fun y78 h78 hw => ?_)
    refine j_chk X (pc := 83) (L := [7, 8]) q550 (by intro ci hci; simp only [List.mem_cons, List.not_mem_nil, or_false] at hci; rcases hci with rfl | rfl <;> first | exact ⟨by decide, _, _, _, rfl, Or.inr q2343⟩ | exact ⟨by decide, _, _, _, rfl, Or.inr q2344⟩) dX1_putAbove_83 hw (fun hw => ?_)
    refine j_astore X (pc := 86) [(9, vR y78), (0, vR x0), (4, vR x4), (5, vR x5), (6, vF x6), (7, vF x7), (8, vR x8)] dX1_putAbove_86 (Nat.le_of_ble_eq_true rfl) rfl ?_
    refine j_aload X (pc := 88) 2 dX1_putAbove_88 rfl ?_
    refine j_aload X (pc := 90) 0 dX1_putAbove_90 rfl ?_
    obtain ⟨b9, c9, f9, hr9, ho9, hc9, hw⟩ := hw
    obtain rfl := List.mem_singleton.mp hc9
    refine j_callf (j_runV (n8 := 1) (As := [vR y78]) (rest := []) X (pc := 92) hr9 (met_X3_keyOf (xl x) X.hl (xG x) h78 x4 y78 _ hw) ho9 (by decide) rfl q551 q552 q553 q76 q554 (by decide +kernel) dX1_putAbove_92 rfl ⟨Nat.le_of_ble_eq_true rfl, Nat.le_of_ble_eq_true rfl⟩ (Nat.le_of_ble_eq_true rfl) ⟨Nat.le_of_ble_eq_true rfl, Nat.le_of_ble_eq_true rfl⟩) (fun y92 h92 hw => ?_)
    refine j_fload X (pc := 95) 4 dX1_putAbove_95 rfl ?_
    refine j_fcmp X (pc := 97) dX1_putAbove_97 ?_
    refine j_if_le X (pc := 98) 116 dX1_putAbove_98 (by decide) hw (fun hw => ?_) (fun hw => ?_)
    · refine j_fload X (pc := 116) 5 dX1_putAbove_116 rfl ?_
      refine j_fstore X (pc := 118) [(7, vF x7), (9, vR y78), (0, vR x0), (4, vR x4), (5, vR x5), (6, vF x6), (8, vR x8)] dX1_putAbove_118 (Nat.le_of_ble_eq_true rfl) rfl ?_
      refine j_goto X (pc := 120) 66 dX1_putAbove_120 (by decide) ?_
      refine j_lv [(0, vR x0), (4, vR x4), (5, vR x5), (6, vF x6), (7, vF x7), (8, vR x8)] [2, 3, 4, 5, 0, 6] rfl ?_
      refine j_cs (u' := 8) (v' := 29) (Nat.le_of_ble_eq_true rfl) (Nat.le_of_ble_eq_true rfl) ?_
      exact hw
    · refine j_fload X (pc := 101) 5 dX1_putAbove_101 rfl ?_
      refine j_aload X (pc := 103) 2 dX1_putAbove_103 rfl ?_
      refine j_aload X (pc := 105) 0 dX1_putAbove_105 rfl ?_
      obtain ⟨b9, c9, f9, hr9, ho9, hc9, hw⟩ := hw
      obtain rfl := List.mem_singleton.mp hc9
      refine j_callf (j_runV (n8 := 1) (As := [vR y78]) (rest := [vF x7]) X (pc := 107) hr9 (met_X3_keyOf (xl x) X.hl (xG x) h92 x4 y78 _ hw) ho9 (by decide) rfl q551 q552 q553 q76 q554 (by decide +kernel) dX1_putAbove_107 rfl ⟨Nat.le_of_ble_eq_true rfl, Nat.le_of_ble_eq_true rfl⟩ (Nat.le_of_ble_eq_true rfl) ⟨Nat.le_of_ble_eq_true rfl, Nat.le_of_ble_eq_true rfl⟩) (fun y107 h107 hw => ?_)
      refine j_mminF X (pc := 110) q1212 q1213 q92 q1214 ⟨Nat.le_of_ble_eq_true rfl, Nat.le_of_ble_eq_true rfl⟩ dX1_putAbove_110 hw (fun hw => ?_)
      refine j_goto X (pc := 113) 118 dX1_putAbove_113 (by decide) ?_
      refine j_fstore X (pc := 118) [(7, vF (ni_pick x7 y107)), (9, vR y78), (0, vR x0), (4, vR x4), (5, vR x5), (6, vF x6), (8, vR x8)] dX1_putAbove_118 (Nat.le_of_ble_eq_true rfl) rfl ?_
      refine j_goto X (pc := 120) 66 dX1_putAbove_120 (by decide) ?_
      refine j_lv [(0, vR x0), (4, vR x4), (5, vR x5), (6, vF x6), (7, vF (ni_pick x7 y107)), (8, vR x8)] [2, 3, 4, 5, 0, 6] rfl ?_
      refine j_cs (u' := 8) (v' := 29) (Nat.le_of_ble_eq_true rfl) (Nat.le_of_ble_eq_true rfl) ?_
      exact hw
theorem wk_X1_putAbove_22 {x : CX} (X : Ok x cX1_putAbove RX1 rm_X1_putAbove 10) (er : xrt x = (Option.some Jvm.ClassFile.FieldType.int)) (en : xnm x = yX1_putAbove.name) {P : Int32 → AH → Prop} {PX : String → AH → Prop} (hQ : xr_i x P) (hT : xt_ x PX) (hex : ∀ z ∈ x.2.2.2.2.2.2.2.2.2.1.exceptionTable.toList, False) (x0 : Option Nat) (x2 : Int32) (x3 : Int32) (x4 : Option Nat) (t0 : Int32) (t1 : Int32) (t2 : Option Nat) (t3 : Option Nat) (h : AH) (hw : w_X1_putAbove_22 P PX x0 x2 x3 x4 t0 t1 t2 t3 h) : J x h 3 8 22 [(0, vR x0), (2, vI x2), (3, vI x3), (4, vR x4)] [vI t0, vI t1, vR t2, vR t3] := by
  have hnr := hw.1
  have hw := hw.2
  refine j_zast X (pc := 22) 1 rfl rfl hnr dX1_putAbove_22 hw (fun h22 hw => ?_)
  refine j_callXv (j_runSX (n8 := 1) (As := [vR t3]) (rest := []) X (pc := 23) (met_X1_require (xl x) X.hl (xG x) h22 t3 _ _ hw) q307 q308 q71 q309 (by decide +kernel) dX1_putAbove_23 rfl ⟨Nat.le_of_ble_eq_true rfl, Nat.le_of_ble_eq_true rfl⟩ (Nat.le_of_ble_eq_true rfl) ⟨Nat.le_of_ble_eq_true rfl, Nat.le_of_ble_eq_true rfl⟩) (fun E h9 hx => j_out X hT hex (Nat.le_of_ble_eq_true rfl) (Nat.le_of_ble_eq_true rfl) hx) (fun h23 hw => ?_)
  refine j_aload_n X (pc := 26) 0 dX1_putAbove_26 rfl rfl ?_
  refine j_aload X (pc := 27) 3 dX1_putAbove_27 rfl ?_
  refine j_iload_n X (pc := 29) 1 dX1_putAbove_29 rfl rfl ?_
  obtain ⟨b9, c9, f9, hr9, ho9, hc9, hw⟩ := hw
  obtain rfl := List.mem_singleton.mp hc9
  refine j_callXq (j_runVX (n8 := 2) (As := [vR x4, vI x2]) (rest := []) X (pc := 30) hr9 (met_X1_shape (xl x) X.hl (xG x) h23 x0 x4 x2 _ _ hw) ho9 (by decide) rfl q1075 q1077 qs9 q71 q1078 (by decide +kernel) dX1_putAbove_30 rfl ⟨Nat.le_of_ble_eq_true rfl, Nat.le_of_ble_eq_true rfl⟩ (Nat.le_of_ble_eq_true rfl) ⟨Nat.le_of_ble_eq_true rfl, Nat.le_of_ble_eq_true rfl⟩) (fun E h9 hx => j_out X hT hex (Nat.le_of_ble_eq_true rfl) (Nat.le_of_ble_eq_true rfl) hx) (fun y30 h30 hw => ?_)
  refine j_astore X (pc := 33) [(5, vR y30), (0, vR x0), (2, vI x2), (3, vI x3), (4, vR x4)] dX1_putAbove_33 (Nat.le_of_ble_eq_true rfl) rfl ?_
  refine j_aload X (pc := 35) 4 dX1_putAbove_35 rfl ?_
  refine j_aload_n X (pc := 37) 1 dX1_putAbove_37 rfl rfl ?_
  refine j_aload X (pc := 38) 4 dX1_putAbove_38 rfl ?_
  refine j_iload_n X (pc := 40) 3 dX1_putAbove_40 rfl rfl ?_
  obtain ⟨b9, c9, f9, hr9, ho9, hc9, hw⟩ := hw
  obtain rfl := List.mem_singleton.mp hc9
  refine j_callXq (j_runVX (n8 := 2) (As := [vR x4, vI x3]) (rest := [vR x4]) X (pc := 41) hr9 (met_X1_shape (xl x) X.hl (xG x) h30 x0 x4 x3 _ _ hw) ho9 (by decide) rfl q1075 q1077 qs9 q71 q1078 (by decide +kernel) dX1_putAbove_41 rfl ⟨Nat.le_of_ble_eq_true rfl, Nat.le_of_ble_eq_true rfl⟩ (Nat.le_of_ble_eq_true rfl) ⟨Nat.le_of_ble_eq_true rfl, Nat.le_of_ble_eq_true rfl⟩) (fun E h9 hx => j_out X hT hex (Nat.le_of_ble_eq_true rfl) (Nat.le_of_ble_eq_true rfl) hx) (fun y41 h41 hw => ?_)
  obtain ⟨b9, c9, f9, hr9, ho9, hc9, hw⟩ := hw
  obtain rfl := List.mem_singleton.mp hc9
  refine j_callf (j_runV (n8 := 1) (As := [vR y41]) (rest := []) X (pc := 44) hr9 (met_X3_keyOf (xl x) X.hl (xG x) h41 x4 y41 _ hw) ho9 (by decide) rfl q551 q552 q553 q76 q554 (by decide +kernel) dX1_putAbove_44 rfl ⟨Nat.le_of_ble_eq_true rfl, Nat.le_of_ble_eq_true rfl⟩ (Nat.le_of_ble_eq_true rfl) ⟨Nat.le_of_ble_eq_true rfl, Nat.le_of_ble_eq_true rfl⟩) (fun y44 h44 hw => ?_)
  refine j_fstore X (pc := 47) [(6, vF y44), (5, vR y30), (0, vR x0), (2, vI x2), (3, vI x3), (4, vR x4)] dX1_putAbove_47 (Nat.le_of_ble_eq_true rfl) rfl ?_
  refine j_ldcwf X (pc := 49) dX1_putAbove_49 q1211 ?_
  refine j_fstore X (pc := 52) [(7, vF (2139095040 : UInt32)), (6, vF y44), (5, vR y30), (0, vR x0), (2, vI x2), (3, vI x3), (4, vR x4)] dX1_putAbove_52 (Nat.le_of_ble_eq_true rfl) rfl ?_
  refine j_aload X (pc := 54) 6 dX1_putAbove_54 rfl ?_
  obtain ⟨b9, c9, f9, hr9, ho9, hc9, hw⟩ := hw
  obtain rfl := List.mem_singleton.mp hc9
  refine j_callq (j_runV (n8 := 0) (As := []) (rest := []) X (pc := 56) hr9 (met_X3_seen (xl x) X.hl (xG x) h44 x4 _ hw) ho9 (by decide) rfl q418 q419 q420 q76 q421 (by decide +kernel) dX1_putAbove_56 rfl ⟨Nat.le_of_ble_eq_true rfl, Nat.le_of_ble_eq_true rfl⟩ (Nat.le_of_ble_eq_true rfl) ⟨Nat.le_of_ble_eq_true rfl, Nat.le_of_ble_eq_true rfl⟩) (fun y56 h56 hw => ?_)
  obtain ⟨b9, c9, f9, hr9, ho9, hc9, hw⟩ := hw
  obtain rfl := List.mem_singleton.mp hc9
  refine j_call5q (j_runF (n8 := 0) (As := []) (rest := []) X (pc := 59) hr9 (met_X6_iterator (xl x) X.hl (xG x) h56 y56 _ hw) ho9 (by decide) rfl q433 q437 q439 q84 q441 (fun U hU => kt_F1 hU) (by decide +kernel) dX1_putAbove_59 rfl ⟨Nat.le_of_ble_eq_true rfl, Nat.le_of_ble_eq_true rfl⟩ (Nat.le_of_ble_eq_true rfl) ⟨Nat.le_of_ble_eq_true rfl, Nat.le_of_ble_eq_true rfl⟩) (fun y59 h59 hw => ?_)
  refine j_astore X (pc := 64) [(8, vR y59), (7, vF (2139095040 : UInt32)), (6, vF y44), (5, vR y30), (0, vR x0), (2, vI x2), (3, vI x3), (4, vR x4)] dX1_putAbove_64 (Nat.le_of_ble_eq_true rfl) rfl ?_
  refine j_lv [(0, vR x0), (4, vR x4), (5, vR y30), (6, vF y44), (7, vF (2139095040 : UInt32)), (8, vR y59)] [4, 7, 3, 2, 1, 0] rfl ?_
  refine j_cs (u' := 8) (v' := 29) (Nat.le_of_ble_eq_true rfl) (Nat.le_of_ble_eq_true rfl) ?_
  exact wk_X1_putAbove_66 X er en hQ hT hex x0 x4 y30 y44 (2139095040 : UInt32) y59 h59 hw
theorem met_X1_putAbove (l : Launch) (hlt : l.stackTraces = false) (G : GG) (h : AH) (a0 : Option Nat) (a1 : Int32) (a2 : Int32) (a3 : Int32) (P : Int32 → AH → Prop) (PX : String → AH → Prop) (hw : w_X1_putAbove a0 a1 a2 a3 h P PX) : cx_i l yX1_putAbove (ws_ yX1_putAbove cX1_putAbove 10 (Option.some Jvm.ClassFile.FieldType.int)) rm_X1_putAbove G h [vR a0, vI a1, vI a2, vI a3] P PX := by
  refine j_startXi hlt [(0, vR a0), (1, vI a1), (2, vI a2), (3, vI a3)] (by decide) rfl rfl (fun x X eG er en hQ hT hex => ?_)
  subst eG
  refine j_aload_n X (pc := 0) 0 dX1_putAbove_0 rfl rfl ?_
  refine j_iload_n X (pc := 1) 1 dX1_putAbove_1 rfl rfl ?_
  obtain ⟨b9, c9, f9, hr9, ho9, hc9, hw⟩ := hw
  obtain rfl := List.mem_singleton.mp hc9
  refine j_callXq (j_runVX (n8 := 1) (As := [vI a1]) (rest := []) X (pc := 2) hr9 (met_X1_board (xl x) X.hl (xG x) h a0 a1 _ _ hw) ho9 (by decide) rfl q297 q299 qs0 q71 q300 (by decide +kernel) dX1_putAbove_2 rfl ⟨Nat.le_of_ble_eq_true rfl, Nat.le_of_ble_eq_true rfl⟩ (Nat.le_of_ble_eq_true rfl) ⟨Nat.le_of_ble_eq_true rfl, Nat.le_of_ble_eq_true rfl⟩) (fun E h9 hx => j_out X hT hex (Nat.le_of_ble_eq_true rfl) (Nat.le_of_ble_eq_true rfl) hx) (fun y2 h2 hw => ?_)
  refine j_astore X (pc := 5) [(4, vR y2), (0, vR a0), (1, vI a1), (2, vI a2), (3, vI a3)] dX1_putAbove_5 (Nat.le_of_ble_eq_true rfl) rfl ?_
  refine j_iconst X (pc := 7) 1 dX1_putAbove_7 (by decide) ?_
  refine j_newZ X (pc := 8) 1 dX1_putAbove_8 q233 (by decide) (Nat.le_of_ble_eq_true rfl) (Nat.le_of_ble_eq_true rfl) hw (fun q8 h8 hw => ?_)
  refine j_dup X (pc := 10) dX1_putAbove_10 rfl ?_
  refine j_iconst X (pc := 11) 0 dX1_putAbove_11 (by decide) ?_
  refine j_iload_n X (pc := 12) 3 dX1_putAbove_12 rfl rfl ?_
  refine j_iload_n X (pc := 13) 4 dX1_putAbove_13 rfl rfl ?_
  refine j_icmp_eq X (pc := 14) 21 dX1_putAbove_14 (by decide) hw (fun hw => ?_) (fun hw => ?_)
  · refine j_iconst X (pc := 21) 0 dX1_putAbove_21 (by decide) ?_
    refine j_lv [(0, vR a0), (2, vI a2), (3, vI a3), (4, vR y2)] [1, 3, 4, 0] rfl ?_
    refine j_cs (u' := 3) (v' := 8) (Nat.le_of_ble_eq_true rfl) (Nat.le_of_ble_eq_true rfl) ?_
    exact wk_X1_putAbove_22 X er en hQ hT hex a0 a2 a3 y2 0 0 (some q8) (some q8) h8 hw
  · refine j_iconst X (pc := 17) 1 dX1_putAbove_17 (by decide) ?_
    refine j_goto X (pc := 18) 22 dX1_putAbove_18 (by decide) ?_
    refine j_lv [(0, vR a0), (2, vI a2), (3, vI a3), (4, vR y2)] [1, 3, 4, 0] rfl ?_
    refine j_cs (u' := 3) (v' := 8) (Nat.le_of_ble_eq_true rfl) (Nat.le_of_ble_eq_true rfl) ?_
    exact wk_X1_putAbove_22 X er en hQ hT hex a0 a2 a3 y2 1 0 (some q8) (some q8) h8 hw
abbrev cX0_putAbove : ByteArray := method_7_code
def yX0_putAbove : MethodName := ⟨RX0, "putAbove", "(LPlugboard;III[J)I"⟩
def dkwX0_putAbove_1 : List UInt8 := [58, 5, 6, 172, 58, 5, 7, 172, 3, 172]
abbrev dktX0_putAbove_1 : List UInt8 := dkwX0_putAbove_1 ++ []
def dkwX0_putAbove_0 : List UInt8 := [25, 4, 3, 42, 27, 28, 29, 182, 0, 32, 133, 80, 167, 0, 19, 58, 5, 4, 172, 58, 5, 5, 172]
abbrev dktX0_putAbove_0 : List UInt8 := dkwX0_putAbove_0 ++ dktX0_putAbove_1
theorem dksX0_putAbove_0 : cX0_putAbove.data.toList.drop 0 = dktX0_putAbove_0 := by decide +kernel
theorem dksX0_putAbove_1 : cX0_putAbove.data.toList.drop 23 = dktX0_putAbove_1 := dk_seg dksX0_putAbove_0 23 rfl rfl
theorem dX0_putAbove_0 : decode cX0_putAbove 0 = .ok (.aload 4, 2) := dk_25 4 (dk_at dksX0_putAbove_0 0 rfl rfl)
theorem dX0_putAbove_2 : decode cX0_putAbove 2 = .ok (.iconst 0, 1) := dk_3 (dk_at dksX0_putAbove_0 2 rfl rfl)
theorem dX0_putAbove_3 : decode cX0_putAbove 3 = .ok (.aload_n 0, 1) := dk_42 (dk_at dksX0_putAbove_0 3 rfl rfl)
theorem dX0_putAbove_4 : decode cX0_putAbove 4 = .ok (.iload_n 1, 1) := dk_27 (dk_at dksX0_putAbove_0 4 rfl rfl)
theorem dX0_putAbove_5 : decode cX0_putAbove 5 = .ok (.iload_n 2, 1) := dk_28 (dk_at dksX0_putAbove_0 5 rfl rfl)
theorem dX0_putAbove_6 : decode cX0_putAbove 6 = .ok (.iload_n 3, 1) := dk_29 (dk_at dksX0_putAbove_0 6 rfl rfl)
theorem dX0_putAbove_7 : decode cX0_putAbove 7 = .ok (.invokevirtual 32, 3) := dk_182 0 32 (dk_at dksX0_putAbove_0 7 rfl rfl)
theorem dX0_putAbove_10 : decode cX0_putAbove 10 = .ok (.i2l, 1) := dk_133 (dk_at dksX0_putAbove_0 10 rfl rfl)
theorem dX0_putAbove_11 : decode cX0_putAbove 11 = .ok (.lastore, 1) := dk_80 (dk_at dksX0_putAbove_0 11 rfl rfl)
theorem dX0_putAbove_12 : decode cX0_putAbove 12 = .ok (.goto 19, 3) := dk_167 0 19 (dk_at dksX0_putAbove_0 12 rfl rfl)
theorem dX0_putAbove_15 : decode cX0_putAbove 15 = .ok (.astore 5, 2) := dk_58 5 (dk_at dksX0_putAbove_0 15 rfl rfl)
theorem dX0_putAbove_17 : decode cX0_putAbove 17 = .ok (.iconst 1, 1) := dk_4 (dk_at dksX0_putAbove_0 17 rfl rfl)
theorem dX0_putAbove_18 : decode cX0_putAbove 18 = .ok (.ireturn, 1) := dk_172 (dk_at dksX0_putAbove_0 18 rfl rfl)
theorem dX0_putAbove_19 : decode cX0_putAbove 19 = .ok (.astore 5, 2) := dk_58 5 (dk_at dksX0_putAbove_0 19 rfl rfl)
theorem dX0_putAbove_21 : decode cX0_putAbove 21 = .ok (.iconst 2, 1) := dk_5 (dk_at dksX0_putAbove_0 21 rfl rfl)
theorem dX0_putAbove_22 : decode cX0_putAbove 22 = .ok (.ireturn, 1) := dk_172 (dk_at dksX0_putAbove_0 22 rfl rfl)
theorem dX0_putAbove_23 : decode cX0_putAbove 23 = .ok (.astore 5, 2) := dk_58 5 (dk_at dksX0_putAbove_1 0 rfl rfl)
theorem dX0_putAbove_25 : decode cX0_putAbove 25 = .ok (.iconst 3, 1) := dk_6 (dk_at dksX0_putAbove_1 2 rfl rfl)
theorem dX0_putAbove_26 : decode cX0_putAbove 26 = .ok (.ireturn, 1) := dk_172 (dk_at dksX0_putAbove_1 3 rfl rfl)
theorem dX0_putAbove_27 : decode cX0_putAbove 27 = .ok (.astore 5, 2) := dk_58 5 (dk_at dksX0_putAbove_1 4 rfl rfl)
theorem dX0_putAbove_29 : decode cX0_putAbove 29 = .ok (.iconst 4, 1) := dk_7 (dk_at dksX0_putAbove_1 6 rfl rfl)
theorem dX0_putAbove_30 : decode cX0_putAbove 30 = .ok (.ireturn, 1) := dk_172 (dk_at dksX0_putAbove_1 7 rfl rfl)
theorem dX0_putAbove_31 : decode cX0_putAbove 31 = .ok (.iconst 0, 1) := dk_3 (dk_at dksX0_putAbove_1 8 rfl rfl)
theorem dX0_putAbove_32 : decode cX0_putAbove 32 = .ok (.ireturn, 1) := dk_172 (dk_at dksX0_putAbove_1 9 rfl rfl)
theorem q1218 : (Jvm.Cond.methodLink "PlugboardLaw" (32 : Nat) ({ cls := "Plugboard", name := "putAbove", desc := "(III)I" } : Jvm.MethodName)) ∈ lw_all := lw_g (lw_at lw_m5 188 rfl) rfl
theorem q1219 : (Jvm.Cond.instanceMethod ({ cls := "Plugboard", name := "putAbove", desc := "(III)I" } : Jvm.MethodName)) ∈ lw_all := lw_g (lw_at lw_m5 189 rfl) rfl
theorem q1220 : (Jvm.Cond.selects "Plugboard" ({ cls := "Plugboard", name := "putAbove", desc := "(III)I" } : Jvm.MethodName) ({ cls := "Plugboard", name := "putAbove", desc := "(III)I" } : Jvm.MethodName)) ∈ lw_all := lw_g (lw_at lw_m5 190 rfl) rfl
theorem q1221 : (Jvm.Cond.code ({ cls := "Plugboard", name := "putAbove", desc := "(III)I" } : Jvm.MethodName) prog_1_method_24_code (10 : Nat) (Option.some Jvm.ClassFile.FieldType.int)) ∈ lw_all := lw_g (lw_at lw_m5 191 rfl) rfl
abbrev rm_X0_putAbove : Room := { frames := 13, cells := 21, slots := 240, locals := 322 }
def w_X0_putAbove (a0 : Option Nat) (a1 : Int32) (a2 : Int32) (a3 : Int32) (a4 : Option Nat) (h : AH) (P : Int32 → AH → Prop) : Prop :=
  is_c h a0 [0] (
  w_X1_putAbove a0 a1 a2 a3 h (fun y7 h7 =>
  s_L h7 a4 0 (Int32.toInt64 y7) fun h11 =>
  P 0 h11)
    (fun E9 h9 => (E9 = "java/lang/IllegalArgumentException" ∧ ∀ q9 : Nat,
    P 1 h9) ∨
    (E9 = "java/util/NoSuchElementException" ∧ ∀ q9 : Nat,
    P 2 h9) ∨
    (E9 = "java/lang/UnsupportedOperationException" ∧ ∀ q9 : Nat,
    P 3 h9) ∨
    (E9 = "java/lang/IllegalStateException" ∧ ∀ q9 : Nat,
    P 4 h9)))
theorem met_X0_putAbove (l : Launch) (hlt : l.stackTraces = false) (G : GG) (h : AH) (a0 : Option Nat) (a1 : Int32) (a2 : Int32) (a3 : Int32) (a4 : Option Nat) (P : Int32 → AH → Prop) (hw : w_X0_putAbove a0 a1 a2 a3 a4 h P) : ct_i l yX0_putAbove (wsW_ yX0_putAbove cX0_putAbove 6 (Option.some Jvm.ClassFile.FieldType.int) [((0 : Nat), (12 : Nat), (15 : Nat), (13 : Nat)), ((0 : Nat), (12 : Nat), (19 : Nat), (21 : Nat)), ((0 : Nat), (12 : Nat), (23 : Nat), (23 : Nat)), ((0 : Nat), (12 : Nat), (27 : Nat), (15 : Nat))]) rm_X0_putAbove G h [vR a0, vI a1, vI a2, vI a3, vR a4] P := by
  refine j_startWi hlt [(0, vR a0), (1, vI a1), (2, vI a2), (3, vI a3), (4, vR a4)] (by decide) rfl rfl (fun x X eG er en hQ hex => ?_)
  subst eG
  refine j_aload X (pc := 0) 4 dX0_putAbove_0 rfl ?_
  refine j_iconst X (pc := 2) 0 dX0_putAbove_2 (by decide) ?_
  refine j_aload_n X (pc := 3) 0 dX0_putAbove_3 rfl rfl ?_
  refine j_iload_n X (pc := 4) 1 dX0_putAbove_4 rfl rfl ?_
  refine j_iload_n X (pc := 5) 2 dX0_putAbove_5 rfl rfl ?_
  refine j_iload_n X (pc := 6) 3 dX0_putAbove_6 rfl rfl ?_
  obtain ⟨b9, c9, f9, hr9, ho9, hc9, hw⟩ := hw
  obtain rfl := List.mem_singleton.mp hc9
  refine j_callXi (j_runVX (n8 := 3) (As := [vI a1, vI a2, vI a3]) (rest := [vI 0, vR a4]) X (pc := 7) hr9 (met_X1_putAbove (xl x) X.hl (xG x) h a0 a1 a2 a3 _ _ hw) ho9 (by decide) rfl q1218 q1219 q1220 q71 q1221 (by decide +kernel) dX0_putAbove_7 rfl ⟨Nat.le_of_ble_eq_true rfl, Nat.le_of_ble_eq_true rfl⟩ (Nat.le_of_ble_eq_true rfl) ⟨Nat.le_of_ble_eq_true rfl, Nat.le_of_ble_eq_true rfl⟩) ?_ (fun y7 h7 hw => ?_)
  · intro E9 h9 hx
    rcases hx with ⟨rfl, hw⟩ | ⟨rfl, hw⟩ | ⟨rfl, hw⟩ | ⟨rfl, hw⟩
    · refine j_catch X (pc := 7) "java/lang/IllegalArgumentException" hex [] [⟨0, 12, 19, 21⟩, ⟨0, 12, 23, 23⟩, ⟨0, 12, 27, 15⟩] ⟨0, 12, 15, 13⟩ rfl (by intro y hy; cases hy) (by decide) (by decide) q291 q312 (fun q9 => ?_)
      have hw := hw q9
      refine j_astore X (pc := 15) [(5, vR (some q9)), (0, vR a0), (1, vI a1), (2, vI a2), (3, vI a3), (4, vR a4)] dX0_putAbove_15 (Nat.le_of_ble_eq_true rfl) rfl ?_
      refine j_iconst X (pc := 17) 1 dX0_putAbove_17 (by decide) ?_
      exact j_iret X (pc := 18) hQ er (Nat.le_of_ble_eq_true rfl) (Nat.le_of_ble_eq_true rfl) dX0_putAbove_18 hw
    · refine j_catch X (pc := 7) "java/util/NoSuchElementException" hex [⟨0, 12, 15, 13⟩] [⟨0, 12, 23, 23⟩, ⟨0, 12, 27, 15⟩] ⟨0, 12, 19, 21⟩ rfl (by intro y hy; simp only [List.mem_cons, List.not_mem_nil, or_false] at hy; subst hy; exact Or.inr ⟨by decide, "java/lang/IllegalArgumentException", q291, by decide +kernel⟩) (by decide) (by decide) q1068 q537 (fun q9 => ?_)
      have hw := hw q9
      refine j_astore X (pc := 19) [(5, vR (some q9)), (0, vR a0), (1, vI a1), (2, vI a2), (3, vI a3), (4, vR a4)] dX0_putAbove_19 (Nat.le_of_ble_eq_true rfl) rfl ?_
      refine j_iconst X (pc := 21) 2 dX0_putAbove_21 (by decide) ?_
      exact j_iret X (pc := 22) hQ er (Nat.le_of_ble_eq_true rfl) (Nat.le_of_ble_eq_true rfl) dX0_putAbove_22 hw
    · refine j_catch X (pc := 7) "java/lang/UnsupportedOperationException" hex [⟨0, 12, 15, 13⟩, ⟨0, 12, 19, 21⟩] [⟨0, 12, 27, 15⟩] ⟨0, 12, 23, 23⟩ rfl (by intro y hy; simp only [List.mem_cons, List.not_mem_nil, or_false] at hy; rcases hy with rfl | rfl <;> first | exact Or.inr ⟨by decide, "java/lang/IllegalArgumentException", q291, by decide +kernel⟩ | exact Or.inr ⟨by decide, "java/util/NoSuchElementException", q1068, by decide +kernel⟩) (by decide) (by decide) q1069 q1102 (fun q9 => ?_)
      have hw := hw q9
      refine j_astore X (pc := 23) [(5, vR (some q9)), (0, vR a0), (1, vI a1), (2, vI a2), (3, vI a3), (4, vR a4)] dX0_putAbove_23 (Nat.le_of_ble_eq_true rfl) rfl ?_
      refine j_iconst X (pc := 25) 3 dX0_putAbove_25 (by decide) ?_
      exact j_iret X (pc := 26) hQ er (Nat.le_of_ble_eq_true rfl) (Nat.le_of_ble_eq_true rfl) dX0_putAbove_26 hw
    · refine j_catch X (pc := 7) "java/lang/IllegalStateException" hex [⟨0, 12, 15, 13⟩, ⟨0, 12, 19, 21⟩, ⟨0, 12, 23, 23⟩] [] ⟨0, 12, 27, 15⟩ rfl (by intro y hy; simp only [List.mem_cons, List.not_mem_nil, or_false] at hy; rcases hy with rfl | rfl | rfl <;> first | exact Or.inr ⟨by decide, "java/lang/IllegalArgumentException", q291, by decide +kernel⟩ | exact Or.inr ⟨by decide, "java/util/NoSuchElementException", q1068, by decide +kernel⟩ | exact Or.inr ⟨by decide, "java/lang/UnsupportedOperationException", q1069, by decide +kernel⟩) (by decide) (by decide) q292 q387 (fun q9 => ?_)
      have hw := hw q9
      refine j_astore X (pc := 27) [(5, vR (some q9)), (0, vR a0), (1, vI a1), (2, vI a2), (3, vI a3), (4, vR a4)] dX0_putAbove_27 (Nat.le_of_ble_eq_true rfl) rfl ?_
      refine j_iconst X (pc := 29) 4 dX0_putAbove_29 (by decide) ?_
      exact j_iret X (pc := 30) hQ er (Nat.le_of_ble_eq_true rfl) (Nat.le_of_ble_eq_true rfl) dX0_putAbove_30 hw
  refine j_i2l X (pc := 10) dX0_putAbove_10 ?_
  refine j_last X (pc := 11) dX0_putAbove_11 hw (fun h11 hw => ?_)
  refine j_goto X (pc := 12) 31 dX0_putAbove_12 (by decide) ?_
  refine j_iconst X (pc := 31) 0 dX0_putAbove_31 (by decide) ?_
  exact j_iret X (pc := 32) hQ er (Nat.le_of_ble_eq_true rfl) (Nat.le_of_ble_eq_true rfl) dX0_putAbove_32 hw
abbrev cX5_putAbove : ByteArray := prog_19_method_33_code
def yX5_putAbove : MethodName := ⟨RX5, "putAbove", "(III)I"⟩
def dkwX5_putAbove_9 : List UInt8 := [160, 0, 11, 42, 7, 182, 0, 172, 167, 0, 11, 42, 27, 28, 23, 5, 182, 0, 202, 172]
abbrev dktX5_putAbove_9 : List UInt8 := dkwX5_putAbove_9 ++ []
def dkwX5_putAbove_8 : List UInt8 := [42, 21, 4, 182, 0, 138, 149, 154, 0, 9, 42, 6, 182, 0, 172, 172, 42, 180, 0, 108, 17, 0, 250]
abbrev dktX5_putAbove_8 : List UInt8 := dkwX5_putAbove_8 ++ dktX5_putAbove_9
def dkwX5_putAbove_7 : List UInt8 := [182, 0, 190, 154, 0, 31, 23, 5, 42, 29, 182, 0, 138, 149, 153, 0, 20, 21, 4, 155, 0, 21, 23, 5]
abbrev dktX5_putAbove_7 : List UInt8 := dkwX5_putAbove_7 ++ dktX5_putAbove_8
def dkwX5_putAbove_6 : List UInt8 := [167, 0, 17, 42, 29, 182, 0, 138, 42, 21, 4, 182, 0, 138, 98, 13, 110, 56, 5, 42, 27, 28]
abbrev dktX5_putAbove_6 : List UInt8 := dkwX5_putAbove_6 ++ dktX5_putAbove_7
def dkwX5_putAbove_5 : List UInt8 := [21, 4, 54, 4, 132, 5, 1, 167, 255, 190, 21, 4, 156, 0, 13, 42, 29, 182, 0, 138, 12, 98]
abbrev dktX5_putAbove_5 : List UInt8 := dkwX5_putAbove_5 ++ dktX5_putAbove_6
def dkwX5_putAbove_4 : List UInt8 := [155, 0, 19, 42, 21, 5, 182, 0, 138, 42, 21, 4, 182, 0, 138, 150, 156, 0, 8, 21, 5, 167, 0, 5]
abbrev dktX5_putAbove_4 : List UInt8 := dkwX5_putAbove_4 ++ dktX5_putAbove_5
def dkwX5_putAbove_3 : List UInt8 := [182, 0, 125, 153, 0, 44, 42, 21, 5, 182, 0, 138, 42, 29, 182, 0, 138, 149, 158, 0, 29, 21, 4]
abbrev dktX5_putAbove_3 : List UInt8 := dkwX5_putAbove_3 ++ dktX5_putAbove_4
def dkwX5_putAbove_2 : List UInt8 := [182, 0, 172, 172, 2, 54, 4, 3, 54, 5, 21, 5, 42, 180, 0, 119, 162, 0, 63, 42, 21, 5]
abbrev dktX5_putAbove_2 : List UInt8 := dkwX5_putAbove_2 ++ dktX5_putAbove_3
def dkwX5_putAbove_1 : List UInt8 := [27, 182, 0, 161, 42, 28, 182, 0, 125, 153, 0, 11, 42, 29, 182, 0, 125, 154, 0, 9, 42, 5]
abbrev dktX5_putAbove_1 : List UInt8 := dkwX5_putAbove_1 ++ dktX5_putAbove_2
def dkwX5_putAbove_0 : List UInt8 := [42, 3, 181, 0, 97, 27, 184, 0, 165, 153, 0, 8, 28, 29, 160, 0, 9, 42, 4, 182, 0, 172, 172, 42]
abbrev dktX5_putAbove_0 : List UInt8 := dkwX5_putAbove_0 ++ dktX5_putAbove_1
theorem dksX5_putAbove_0 : cX5_putAbove.data.toList.drop 0 = dktX5_putAbove_0 := by decide +kernel
theorem dksX5_putAbove_1 : cX5_putAbove.data.toList.drop 24 = dktX5_putAbove_1 := dk_seg dksX5_putAbove_0 24 rfl rfl
theorem dksX5_putAbove_2 : cX5_putAbove.data.toList.drop 46 = dktX5_putAbove_2 := dk_seg dksX5_putAbove_1 22 rfl rfl
theorem dksX5_putAbove_3 : cX5_putAbove.data.toList.drop 68 = dktX5_putAbove_3 := dk_seg dksX5_putAbove_2 22 rfl rfl
theorem dksX5_putAbove_4 : cX5_putAbove.data.toList.drop 91 = dktX5_putAbove_4 := dk_seg dksX5_putAbove_3 23 rfl rfl
theorem dksX5_putAbove_5 : cX5_putAbove.data.toList.drop 115 = dktX5_putAbove_5 := dk_seg dksX5_putAbove_4 24 rfl rfl
theorem dksX5_putAbove_6 : cX5_putAbove.data.toList.drop 137 = dktX5_putAbove_6 := dk_seg dksX5_putAbove_5 22 rfl rfl
theorem dksX5_putAbove_7 : cX5_putAbove.data.toList.drop 159 = dktX5_putAbove_7 := dk_seg dksX5_putAbove_6 22 rfl rfl
theorem dksX5_putAbove_8 : cX5_putAbove.data.toList.drop 183 = dktX5_putAbove_8 := dk_seg dksX5_putAbove_7 24 rfl rfl
theorem dksX5_putAbove_9 : cX5_putAbove.data.toList.drop 206 = dktX5_putAbove_9 := dk_seg dksX5_putAbove_8 23 rfl rfl
theorem dX5_putAbove_0 : decode cX5_putAbove 0 = .ok (.aload_n 0, 1) := dk_42 (dk_at dksX5_putAbove_0 0 rfl rfl)
theorem dX5_putAbove_1 : decode cX5_putAbove 1 = .ok (.iconst 0, 1) := dk_3 (dk_at dksX5_putAbove_0 1 rfl rfl)
theorem dX5_putAbove_2 : decode cX5_putAbove 2 = .ok (.putfield 97, 3) := dk_181 0 97 (dk_at dksX5_putAbove_0 2 rfl rfl)
theorem dX5_putAbove_5 : decode cX5_putAbove 5 = .ok (.iload_n 1, 1) := dk_27 (dk_at dksX5_putAbove_0 5 rfl rfl)
theorem dX5_putAbove_6 : decode cX5_putAbove 6 = .ok (.invokestatic 165, 3) := dk_184 0 165 (dk_at dksX5_putAbove_0 6 rfl rfl)
theorem dX5_putAbove_9 : decode cX5_putAbove 9 = .ok (.ifCond .eq 8, 3) := dk_153 0 8 (dk_at dksX5_putAbove_0 9 rfl rfl)
theorem dX5_putAbove_12 : decode cX5_putAbove 12 = .ok (.iload_n 2, 1) := dk_28 (dk_at dksX5_putAbove_0 12 rfl rfl)
theorem dX5_putAbove_13 : decode cX5_putAbove 13 = .ok (.iload_n 3, 1) := dk_29 (dk_at dksX5_putAbove_0 13 rfl rfl)
theorem dX5_putAbove_14 : decode cX5_putAbove 14 = .ok (.if_icmp .ne 9, 3) := dk_160 0 9 (dk_at dksX5_putAbove_0 14 rfl rfl)
theorem dX5_putAbove_17 : decode cX5_putAbove 17 = .ok (.aload_n 0, 1) := dk_42 (dk_at dksX5_putAbove_0 17 rfl rfl)
theorem dX5_putAbove_18 : decode cX5_putAbove 18 = .ok (.iconst 1, 1) := dk_4 (dk_at dksX5_putAbove_0 18 rfl rfl)
theorem dX5_putAbove_19 : decode cX5_putAbove 19 = .ok (.invokevirtual 172, 3) := dk_182 0 172 (dk_at dksX5_putAbove_0 19 rfl rfl)
theorem dX5_putAbove_22 : decode cX5_putAbove 22 = .ok (.ireturn, 1) := dk_172 (dk_at dksX5_putAbove_0 22 rfl rfl)
theorem dX5_putAbove_23 : decode cX5_putAbove 23 = .ok (.aload_n 0, 1) := dk_42 (dk_at dksX5_putAbove_0 23 rfl rfl)
theorem dX5_putAbove_24 : decode cX5_putAbove 24 = .ok (.iload_n 1, 1) := dk_27 (dk_at dksX5_putAbove_1 0 rfl rfl)
theorem dX5_putAbove_25 : decode cX5_putAbove 25 = .ok (.invokevirtual 161, 3) := dk_182 0 161 (dk_at dksX5_putAbove_1 1 rfl rfl)
theorem dX5_putAbove_28 : decode cX5_putAbove 28 = .ok (.aload_n 0, 1) := dk_42 (dk_at dksX5_putAbove_1 4 rfl rfl)
theorem dX5_putAbove_29 : decode cX5_putAbove 29 = .ok (.iload_n 2, 1) := dk_28 (dk_at dksX5_putAbove_1 5 rfl rfl)
theorem dX5_putAbove_30 : decode cX5_putAbove 30 = .ok (.invokevirtual 125, 3) := dk_182 0 125 (dk_at dksX5_putAbove_1 6 rfl rfl)
theorem dX5_putAbove_33 : decode cX5_putAbove 33 = .ok (.ifCond .eq 11, 3) := dk_153 0 11 (dk_at dksX5_putAbove_1 9 rfl rfl)
theorem dX5_putAbove_36 : decode cX5_putAbove 36 = .ok (.aload_n 0, 1) := dk_42 (dk_at dksX5_putAbove_1 12 rfl rfl)
theorem dX5_putAbove_37 : decode cX5_putAbove 37 = .ok (.iload_n 3, 1) := dk_29 (dk_at dksX5_putAbove_1 13 rfl rfl)
theorem dX5_putAbove_38 : decode cX5_putAbove 38 = .ok (.invokevirtual 125, 3) := dk_182 0 125 (dk_at dksX5_putAbove_1 14 rfl rfl)
theorem dX5_putAbove_41 : decode cX5_putAbove 41 = .ok (.ifCond .ne 9, 3) := dk_154 0 9 (dk_at dksX5_putAbove_1 17 rfl rfl)
theorem dX5_putAbove_44 : decode cX5_putAbove 44 = .ok (.aload_n 0, 1) := dk_42 (dk_at dksX5_putAbove_1 20 rfl rfl)
theorem dX5_putAbove_45 : decode cX5_putAbove 45 = .ok (.iconst 2, 1) := dk_5 (dk_at dksX5_putAbove_1 21 rfl rfl)
theorem dX5_putAbove_46 : decode cX5_putAbove 46 = .ok (.invokevirtual 172, 3) := dk_182 0 172 (dk_at dksX5_putAbove_2 0 rfl rfl)
theorem dX5_putAbove_49 : decode cX5_putAbove 49 = .ok (.ireturn, 1) := dk_172 (dk_at dksX5_putAbove_2 3 rfl rfl)
theorem dX5_putAbove_50 : decode cX5_putAbove 50 = .ok (.iconst (-1), 1) := dk_2 (dk_at dksX5_putAbove_2 4 rfl rfl)
theorem dX5_putAbove_51 : decode cX5_putAbove 51 = .ok (.istore 4, 2) := dk_54 4 (dk_at dksX5_putAbove_2 5 rfl rfl)
theorem dX5_putAbove_53 : decode cX5_putAbove 53 = .ok (.iconst 0, 1) := dk_3 (dk_at dksX5_putAbove_2 7 rfl rfl)
theorem dX5_putAbove_54 : decode cX5_putAbove 54 = .ok (.istore 5, 2) := dk_54 5 (dk_at dksX5_putAbove_2 8 rfl rfl)
theorem dX5_putAbove_56 : decode cX5_putAbove 56 = .ok (.iload 5, 2) := dk_21 5 (dk_at dksX5_putAbove_2 10 rfl rfl)
theorem dX5_putAbove_58 : decode cX5_putAbove 58 = .ok (.aload_n 0, 1) := dk_42 (dk_at dksX5_putAbove_2 12 rfl rfl)
theorem dX5_putAbove_59 : decode cX5_putAbove 59 = .ok (.getfield 119, 3) := dk_180 0 119 (dk_at dksX5_putAbove_2 13 rfl rfl)
theorem dX5_putAbove_62 : decode cX5_putAbove 62 = .ok (.if_icmp .ge 63, 3) := dk_162 0 63 (dk_at dksX5_putAbove_2 16 rfl rfl)
theorem dX5_putAbove_65 : decode cX5_putAbove 65 = .ok (.aload_n 0, 1) := dk_42 (dk_at dksX5_putAbove_2 19 rfl rfl)
theorem dX5_putAbove_66 : decode cX5_putAbove 66 = .ok (.iload 5, 2) := dk_21 5 (dk_at dksX5_putAbove_2 20 rfl rfl)
theorem dX5_putAbove_68 : decode cX5_putAbove 68 = .ok (.invokevirtual 125, 3) := dk_182 0 125 (dk_at dksX5_putAbove_3 0 rfl rfl)
theorem dX5_putAbove_71 : decode cX5_putAbove 71 = .ok (.ifCond .eq 44, 3) := dk_153 0 44 (dk_at dksX5_putAbove_3 3 rfl rfl)
theorem dX5_putAbove_74 : decode cX5_putAbove 74 = .ok (.aload_n 0, 1) := dk_42 (dk_at dksX5_putAbove_3 6 rfl rfl)
theorem dX5_putAbove_75 : decode cX5_putAbove 75 = .ok (.iload 5, 2) := dk_21 5 (dk_at dksX5_putAbove_3 7 rfl rfl)
theorem dX5_putAbove_77 : decode cX5_putAbove 77 = .ok (.invokevirtual 138, 3) := dk_182 0 138 (dk_at dksX5_putAbove_3 9 rfl rfl)
theorem dX5_putAbove_80 : decode cX5_putAbove 80 = .ok (.aload_n 0, 1) := dk_42 (dk_at dksX5_putAbove_3 12 rfl rfl)
theorem dX5_putAbove_81 : decode cX5_putAbove 81 = .ok (.iload_n 3, 1) := dk_29 (dk_at dksX5_putAbove_3 13 rfl rfl)
theorem dX5_putAbove_82 : decode cX5_putAbove 82 = .ok (.invokevirtual 138, 3) := dk_182 0 138 (dk_at dksX5_putAbove_3 14 rfl rfl)
theorem dX5_putAbove_85 : decode cX5_putAbove 85 = .ok (.fcmp .l, 1) := dk_149 (dk_at dksX5_putAbove_3 17 rfl rfl)
theorem dX5_putAbove_86 : decode cX5_putAbove 86 = .ok (.ifCond .le 29, 3) := dk_158 0 29 (dk_at dksX5_putAbove_3 18 rfl rfl)
theorem dX5_putAbove_89 : decode cX5_putAbove 89 = .ok (.iload 4, 2) := dk_21 4 (dk_at dksX5_putAbove_3 21 rfl rfl)
theorem dX5_putAbove_91 : decode cX5_putAbove 91 = .ok (.ifCond .lt 19, 3) := dk_155 0 19 (dk_at dksX5_putAbove_4 0 rfl rfl)
theorem dX5_putAbove_94 : decode cX5_putAbove 94 = .ok (.aload_n 0, 1) := dk_42 (dk_at dksX5_putAbove_4 3 rfl rfl)
theorem dX5_putAbove_95 : decode cX5_putAbove 95 = .ok (.iload 5, 2) := dk_21 5 (dk_at dksX5_putAbove_4 4 rfl rfl)
theorem dX5_putAbove_97 : decode cX5_putAbove 97 = .ok (.invokevirtual 138, 3) := dk_182 0 138 (dk_at dksX5_putAbove_4 6 rfl rfl)
theorem dX5_putAbove_100 : decode cX5_putAbove 100 = .ok (.aload_n 0, 1) := dk_42 (dk_at dksX5_putAbove_4 9 rfl rfl)
theorem dX5_putAbove_101 : decode cX5_putAbove 101 = .ok (.iload 4, 2) := dk_21 4 (dk_at dksX5_putAbove_4 10 rfl rfl)
theorem dX5_putAbove_103 : decode cX5_putAbove 103 = .ok (.invokevirtual 138, 3) := dk_182 0 138 (dk_at dksX5_putAbove_4 12 rfl rfl)
theorem dX5_putAbove_106 : decode cX5_putAbove 106 = .ok (.fcmp .g, 1) := dk_150 (dk_at dksX5_putAbove_4 15 rfl rfl)
theorem dX5_putAbove_107 : decode cX5_putAbove 107 = .ok (.ifCond .ge 8, 3) := dk_156 0 8 (dk_at dksX5_putAbove_4 16 rfl rfl)
theorem dX5_putAbove_110 : decode cX5_putAbove 110 = .ok (.iload 5, 2) := dk_21 5 (dk_at dksX5_putAbove_4 19 rfl rfl)
theorem dX5_putAbove_112 : decode cX5_putAbove 112 = .ok (.goto 5, 3) := dk_167 0 5 (dk_at dksX5_putAbove_4 21 rfl rfl)
theorem dX5_putAbove_115 : decode cX5_putAbove 115 = .ok (.iload 4, 2) := dk_21 4 (dk_at dksX5_putAbove_5 0 rfl rfl)
theorem dX5_putAbove_117 : decode cX5_putAbove 117 = .ok (.istore 4, 2) := dk_54 4 (dk_at dksX5_putAbove_5 2 rfl rfl)
theorem dX5_putAbove_119 : decode cX5_putAbove 119 = .ok (.iinc 5 1, 3) := dk_132 5 1 (dk_at dksX5_putAbove_5 4 rfl rfl)
theorem dX5_putAbove_122 : decode cX5_putAbove 122 = .ok (.goto (-66), 3) := dk_167 255 190 (dk_at dksX5_putAbove_5 7 rfl rfl)
theorem dX5_putAbove_125 : decode cX5_putAbove 125 = .ok (.iload 4, 2) := dk_21 4 (dk_at dksX5_putAbove_5 10 rfl rfl)
theorem dX5_putAbove_127 : decode cX5_putAbove 127 = .ok (.ifCond .ge 13, 3) := dk_156 0 13 (dk_at dksX5_putAbove_5 12 rfl rfl)
theorem dX5_putAbove_130 : decode cX5_putAbove 130 = .ok (.aload_n 0, 1) := dk_42 (dk_at dksX5_putAbove_5 15 rfl rfl)
theorem dX5_putAbove_131 : decode cX5_putAbove 131 = .ok (.iload_n 3, 1) := dk_29 (dk_at dksX5_putAbove_5 16 rfl rfl)
theorem dX5_putAbove_132 : decode cX5_putAbove 132 = .ok (.invokevirtual 138, 3) := dk_182 0 138 (dk_at dksX5_putAbove_5 17 rfl rfl)
theorem dX5_putAbove_135 : decode cX5_putAbove 135 = .ok (.fconst 1, 1) := dk_12 (dk_at dksX5_putAbove_5 20 rfl rfl)
theorem dX5_putAbove_136 : decode cX5_putAbove 136 = .ok (.fadd, 1) := dk_98 (dk_at dksX5_putAbove_5 21 rfl rfl)
theorem dX5_putAbove_137 : decode cX5_putAbove 137 = .ok (.goto 17, 3) := dk_167 0 17 (dk_at dksX5_putAbove_6 0 rfl rfl)
theorem dX5_putAbove_140 : decode cX5_putAbove 140 = .ok (.aload_n 0, 1) := dk_42 (dk_at dksX5_putAbove_6 3 rfl rfl)
theorem dX5_putAbove_141 : decode cX5_putAbove 141 = .ok (.iload_n 3, 1) := dk_29 (dk_at dksX5_putAbove_6 4 rfl rfl)
theorem dX5_putAbove_142 : decode cX5_putAbove 142 = .ok (.invokevirtual 138, 3) := dk_182 0 138 (dk_at dksX5_putAbove_6 5 rfl rfl)
theorem dX5_putAbove_145 : decode cX5_putAbove 145 = .ok (.aload_n 0, 1) := dk_42 (dk_at dksX5_putAbove_6 8 rfl rfl)
theorem dX5_putAbove_146 : decode cX5_putAbove 146 = .ok (.iload 4, 2) := dk_21 4 (dk_at dksX5_putAbove_6 9 rfl rfl)
theorem dX5_putAbove_148 : decode cX5_putAbove 148 = .ok (.invokevirtual 138, 3) := dk_182 0 138 (dk_at dksX5_putAbove_6 11 rfl rfl)
theorem dX5_putAbove_151 : decode cX5_putAbove 151 = .ok (.fadd, 1) := dk_98 (dk_at dksX5_putAbove_6 14 rfl rfl)
theorem dX5_putAbove_152 : decode cX5_putAbove 152 = .ok (.fconst 2, 1) := dk_13 (dk_at dksX5_putAbove_6 15 rfl rfl)
theorem dX5_putAbove_153 : decode cX5_putAbove 153 = .ok (.fdiv, 1) := dk_110 (dk_at dksX5_putAbove_6 16 rfl rfl)
theorem dX5_putAbove_154 : decode cX5_putAbove 154 = .ok (.fstore 5, 2) := dk_56 5 (dk_at dksX5_putAbove_6 17 rfl rfl)
theorem dX5_putAbove_156 : decode cX5_putAbove 156 = .ok (.aload_n 0, 1) := dk_42 (dk_at dksX5_putAbove_6 19 rfl rfl)
theorem dX5_putAbove_157 : decode cX5_putAbove 157 = .ok (.iload_n 1, 1) := dk_27 (dk_at dksX5_putAbove_6 20 rfl rfl)
theorem dX5_putAbove_158 : decode cX5_putAbove 158 = .ok (.iload_n 2, 1) := dk_28 (dk_at dksX5_putAbove_6 21 rfl rfl)
theorem dX5_putAbove_159 : decode cX5_putAbove 159 = .ok (.invokevirtual 190, 3) := dk_182 0 190 (dk_at dksX5_putAbove_7 0 rfl rfl)
theorem dX5_putAbove_162 : decode cX5_putAbove 162 = .ok (.ifCond .ne 31, 3) := dk_154 0 31 (dk_at dksX5_putAbove_7 3 rfl rfl)
theorem dX5_putAbove_165 : decode cX5_putAbove 165 = .ok (.fload 5, 2) := dk_23 5 (dk_at dksX5_putAbove_7 6 rfl rfl)
theorem dX5_putAbove_167 : decode cX5_putAbove 167 = .ok (.aload_n 0, 1) := dk_42 (dk_at dksX5_putAbove_7 8 rfl rfl)
theorem dX5_putAbove_168 : decode cX5_putAbove 168 = .ok (.iload_n 3, 1) := dk_29 (dk_at dksX5_putAbove_7 9 rfl rfl)
theorem dX5_putAbove_169 : decode cX5_putAbove 169 = .ok (.invokevirtual 138, 3) := dk_182 0 138 (dk_at dksX5_putAbove_7 10 rfl rfl)
theorem dX5_putAbove_172 : decode cX5_putAbove 172 = .ok (.fcmp .l, 1) := dk_149 (dk_at dksX5_putAbove_7 13 rfl rfl)
theorem dX5_putAbove_173 : decode cX5_putAbove 173 = .ok (.ifCond .eq 20, 3) := dk_153 0 20 (dk_at dksX5_putAbove_7 14 rfl rfl)
theorem dX5_putAbove_176 : decode cX5_putAbove 176 = .ok (.iload 4, 2) := dk_21 4 (dk_at dksX5_putAbove_7 17 rfl rfl)
theorem dX5_putAbove_178 : decode cX5_putAbove 178 = .ok (.ifCond .lt 21, 3) := dk_155 0 21 (dk_at dksX5_putAbove_7 19 rfl rfl)
theorem dX5_putAbove_181 : decode cX5_putAbove 181 = .ok (.fload 5, 2) := dk_23 5 (dk_at dksX5_putAbove_7 22 rfl rfl)
theorem dX5_putAbove_183 : decode cX5_putAbove 183 = .ok (.aload_n 0, 1) := dk_42 (dk_at dksX5_putAbove_8 0 rfl rfl)
theorem dX5_putAbove_184 : decode cX5_putAbove 184 = .ok (.iload 4, 2) := dk_21 4 (dk_at dksX5_putAbove_8 1 rfl rfl)
theorem dX5_putAbove_186 : decode cX5_putAbove 186 = .ok (.invokevirtual 138, 3) := dk_182 0 138 (dk_at dksX5_putAbove_8 3 rfl rfl)
theorem dX5_putAbove_189 : decode cX5_putAbove 189 = .ok (.fcmp .l, 1) := dk_149 (dk_at dksX5_putAbove_8 6 rfl rfl)
theorem dX5_putAbove_190 : decode cX5_putAbove 190 = .ok (.ifCond .ne 9, 3) := dk_154 0 9 (dk_at dksX5_putAbove_8 7 rfl rfl)
theorem dX5_putAbove_193 : decode cX5_putAbove 193 = .ok (.aload_n 0, 1) := dk_42 (dk_at dksX5_putAbove_8 10 rfl rfl)
theorem dX5_putAbove_194 : decode cX5_putAbove 194 = .ok (.iconst 3, 1) := dk_6 (dk_at dksX5_putAbove_8 11 rfl rfl)
theorem dX5_putAbove_195 : decode cX5_putAbove 195 = .ok (.invokevirtual 172, 3) := dk_182 0 172 (dk_at dksX5_putAbove_8 12 rfl rfl)
theorem dX5_putAbove_198 : decode cX5_putAbove 198 = .ok (.ireturn, 1) := dk_172 (dk_at dksX5_putAbove_8 15 rfl rfl)
theorem dX5_putAbove_199 : decode cX5_putAbove 199 = .ok (.aload_n 0, 1) := dk_42 (dk_at dksX5_putAbove_8 16 rfl rfl)
theorem dX5_putAbove_200 : decode cX5_putAbove 200 = .ok (.getfield 108, 3) := dk_180 0 108 (dk_at dksX5_putAbove_8 17 rfl rfl)
theorem dX5_putAbove_203 : decode cX5_putAbove 203 = .ok (.sipush 250, 3) := dk_17 0 250 (dk_at dksX5_putAbove_8 20 rfl rfl)
theorem dX5_putAbove_206 : decode cX5_putAbove 206 = .ok (.if_icmp .ne 11, 3) := dk_160 0 11 (dk_at dksX5_putAbove_9 0 rfl rfl)
theorem dX5_putAbove_209 : decode cX5_putAbove 209 = .ok (.aload_n 0, 1) := dk_42 (dk_at dksX5_putAbove_9 3 rfl rfl)
theorem dX5_putAbove_210 : decode cX5_putAbove 210 = .ok (.iconst 4, 1) := dk_7 (dk_at dksX5_putAbove_9 4 rfl rfl)
theorem dX5_putAbove_211 : decode cX5_putAbove 211 = .ok (.invokevirtual 172, 3) := dk_182 0 172 (dk_at dksX5_putAbove_9 5 rfl rfl)
theorem dX5_putAbove_214 : decode cX5_putAbove 214 = .ok (.goto 11, 3) := dk_167 0 11 (dk_at dksX5_putAbove_9 8 rfl rfl)
theorem dX5_putAbove_217 : decode cX5_putAbove 217 = .ok (.aload_n 0, 1) := dk_42 (dk_at dksX5_putAbove_9 11 rfl rfl)
theorem dX5_putAbove_218 : decode cX5_putAbove 218 = .ok (.iload_n 1, 1) := dk_27 (dk_at dksX5_putAbove_9 12 rfl rfl)
theorem dX5_putAbove_219 : decode cX5_putAbove 219 = .ok (.iload_n 2, 1) := dk_28 (dk_at dksX5_putAbove_9 13 rfl rfl)
theorem dX5_putAbove_220 : decode cX5_putAbove 220 = .ok (.fload 5, 2) := dk_23 5 (dk_at dksX5_putAbove_9 14 rfl rfl)
theorem dX5_putAbove_222 : decode cX5_putAbove 222 = .ok (.invokevirtual 202, 3) := dk_182 0 202 (dk_at dksX5_putAbove_9 16 rfl rfl)
theorem dX5_putAbove_225 : decode cX5_putAbove 225 = .ok (.ireturn, 1) := dk_172 (dk_at dksX5_putAbove_9 19 rfl rfl)
abbrev rm_X5_putAbove : Room := { frames := 5, cells := 0, slots := 0, locals := 113 }
def w_X5_putAbove_199 (P : Int32 → AH → Prop) (x0 : Option Nat) (x1 : Int32) (x2 : Int32) (x5 : UInt32) (h : AH) : Prop :=
  g_i h x0 4 20 fun y200 =>
  ((y200 = 250 →
    is_c h x0 [4] (
    w_X5_fails x0 4 h (fun y211 h211 =>
    P y211 h211))) ∧
   (¬ y200 = 250 →
    is_c h x0 [4] (
    w_X5_keys x0 x1 x2 x5 h (fun y222 h222 =>
    P y222 h222))))
def w_X5_putAbove_154 (P : Int32 → AH → Prop) (x0 : Option Nat) (x1 : Int32) (x2 : Int32) (x3 : Int32) (x4 : Int32) (t0 : UInt32) (h : AH) : Prop :=
  is_c h x0 [4] (
  w_X5_isBarred x0 x1 x2 h (fun y159 h159 =>
  ((y159 = 0 →
    is_c h159 x0 [4] (
    w_X5_key x0 x3 h159 (fun y169 h169 =>
    (((Op.cmpValue (FP.fcmp t0 y169) .l) = 0 →
      is_c h169 x0 [4] (
      w_X5_fails x0 3 h169 (fun y195 h195 =>
      P y195 h195))) ∧
     (¬ (Op.cmpValue (FP.fcmp t0 y169) .l) = 0 →
      ((x4 < 0 →
        w_X5_putAbove_199 P x0 x1 x2 t0 h169) ∧
       (¬ x4 < 0 →
        is_c h169 x0 [4] (
        w_X5_key x0 x4 h169 (fun y186 h186 =>
        (((Op.cmpValue (FP.fcmp t0 y186) .l) = 0 →
          is_c h186 x0 [4] (
          w_X5_fails x0 3 h186 (fun y195 h195 =>
          P y195 h195))) ∧
         (¬ (Op.cmpValue (FP.fcmp t0 y186) .l) = 0 →
          w_X5_putAbove_199 P x0 x1 x2 t0 h186))))))))))) ∧
   (¬ y159 = 0 →
    is_c h159 x0 [4] (
    w_X5_fails x0 3 h159 (fun y195 h195 =>
    P y195 h195))))))
def w_X5_putAbove_56 (P : Int32 → AH → Prop) (x0 : Option Nat) (x1 : Int32) (x2 : Int32) (x3 : Int32) (x4 : Int32) (x5 : Int32) (h : AH) : Prop :=
  ∀ Z56 : Int32 → Int32 → AH → Prop, (∀ x4 x5 h, (
      g_i h x0 4 8 fun y59 =>
      ((y59 ≤ x5 →
        ((0 ≤ x4 →
          is_c h x0 [4] (
          w_X5_key x0 x3 h (fun y142 h142 =>
          is_c h142 x0 [4] (
          w_X5_key x0 x4 h142 (fun y148 h148 =>
          vf_n32 (FP.fadd y142 y148) ∧
          vf_n32 (FP.fdiv (FP.fadd y142 y148) FP.fconst2) ∧
          w_X5_putAbove_154 P x0 x1 x2 x3 x4 (FP.fdiv (FP.fadd y142 y148) FP.fconst2) h148))))) ∧
         (¬ 0 ≤ x4 →
          is_c h x0 [4] (
          w_X5_key x0 x3 h (fun y132 h132 =>
          vf_n32 (FP.fadd y132 FP.fconst1) ∧
          w_X5_putAbove_154 P x0 x1 x2 x3 x4 (FP.fadd y132 FP.fconst1) h132))))) ∧
       (¬ y59 ≤ x5 →
        is_c h x0 [4] (
        w_X5_isSeen x0 x5 h (fun y68 h68 =>
        ((y68 = 0 →
          Z56 x4 (x5 + 1) h68) ∧
         (¬ y68 = 0 →
          is_c h68 x0 [4] (
          w_X5_key x0 x5 h68 (fun y77 h77 =>
          is_c h77 x0 [4] (
          w_X5_key x0 x3 h77 (fun y82 h82 =>
          (((Op.cmpValue (FP.fcmp y77 y82) .l) ≤ 0 →
            Z56 x4 (x5 + 1) h82) ∧
           (¬ (Op.cmpValue (FP.fcmp y77 y82) .l) ≤ 0 →
            ((x4 < 0 →
              Z56 x5 (x5 + 1) h82) ∧
             (¬ x4 < 0 →
              is_c h82 x0 [4] (
              w_X5_key x0 x5 h82 (fun y97 h97 =>
              is_c h97 x0 [4] (
              w_X5_key x0 x4 h97 (fun y103 h103 =>
              ((0 ≤ (Op.cmpValue (FP.fcmp y97 y103) .g) →
                Z56 x4 (x5 + 1) h103) ∧
               (¬ 0 ≤ (Op.cmpValue (FP.fcmp y97 y103) .g) →
                Z56 x5 (x5 + 1) h103)))))))))))))))))))))
      → Z56 x4 x5 h) → Z56 x4 x5 h
def w_X5_putAbove (a0 : Option Nat) (a1 : Int32) (a2 : Int32) (a3 : Int32) (h : AH) (P : Int32 → AH → Prop) : Prop :=
  p_v h a0 4 0 (vI 0) fun h2 =>
  w_X5_isUser a1 h2 (fun y6 h6 =>
  ((y6 = 0 →
    is_c h6 a0 [4] (
    w_X5_fails a0 1 h6 (fun y19 h19 =>
    P y19 h19))) ∧
   (¬ y6 = 0 →
    ((a2 = a3 →
      is_c h6 a0 [4] (
      w_X5_fails a0 1 h6 (fun y19 h19 =>
      P y19 h19))) ∧
     (¬ a2 = a3 →
      is_c h6 a0 [4] (
      w_X5_builds a0 a1 h6 (fun h25 =>
      is_c h25 a0 [4] (
      w_X5_isSeen a0 a2 h25 (fun y30 h30 =>
      ((y30 = 0 →
        is_c h30 a0 [4] (
        w_X5_fails a0 2 h30 (fun y46 h46 =>
        P y46 h46))) ∧
       (¬ y30 = 0 →
        is_c h30 a0 [4] (
        w_X5_isSeen a0 a3 h30 (fun y38 h38 =>
        ((y38 = 0 →
          is_c h38 a0 [4] (
          w_X5_fails a0 2 h38 (fun y46 h46 =>
          P y46 h46))) ∧
         (¬ y38 = 0 →
          w_X5_putAbove_56 P a0 a1 a2 a3 (-1) 0 h38)))))))))))))))
theorem wk_X5_putAbove_199 {x : CX} (X : Ok x cX5_putAbove RX5 rm_X5_putAbove 6) (er : xrt x = (Option.some Jvm.ClassFile.FieldType.int)) (en : xnm x = yX5_putAbove.name) {P : Int32 → AH → Prop} (hQ : xr_i x P) (x0 : Option Nat) (x1 : Int32) (x2 : Int32) (x5 : UInt32) (h : AH) (hw : w_X5_putAbove_199 P x0 x1 x2 x5 h) : J x h 0 0 199 [(0, vR x0), (1, vI x1), (2, vI x2), (5, vF x5)] [] := by
  refine j_aload_n X (pc := 199) 0 dX5_putAbove_199 rfl rfl ?_
  refine j_geti (ci := 4) X (pc := 200) in_X5 rfl (by decide) 20 (by decide) q1892 (Or.inl rfl) dX5_putAbove_200 hw (fun y200 hw => ?_)
  refine j_sipush X (pc := 203) 250 dX5_putAbove_203 (by decide) ?_
  refine j_icmp_ne X (pc := 206) 217 dX5_putAbove_206 (by decide) hw (fun hw => ?_) (fun hw => ?_)
  · refine j_aload_n X (pc := 209) 0 dX5_putAbove_209 rfl rfl ?_
    refine j_iconst X (pc := 210) 4 dX5_putAbove_210 (by decide) ?_
    obtain ⟨b9, c9, f9, hr9, ho9, hc9, hw⟩ := hw
    obtain rfl := List.mem_singleton.mp hc9
    refine j_calli (j_runV (n8 := 1) (As := [vI 4]) (rest := []) X (pc := 211) hr9 (met_X5_fails (xl x) X.hl (xG x) h x0 4 _ hw) ho9 (by decide) rfl q1988 q1990 qs33 q78 q1991 (by decide +kernel) dX5_putAbove_211 rfl ⟨Nat.le_of_ble_eq_true rfl, Nat.le_of_ble_eq_true rfl⟩ (Nat.le_of_ble_eq_true rfl) ⟨Nat.le_of_ble_eq_true rfl, Nat.le_of_ble_eq_true rfl⟩) (fun y211 h211 hw => ?_)
    refine j_goto X (pc := 214) 225 dX5_putAbove_214 (by decide) ?_
    exact j_iret X (pc := 225) hQ er (Nat.le_of_ble_eq_true rfl) (Nat.le_of_ble_eq_true rfl) dX5_putAbove_225 hw
  · refine j_aload_n X (pc := 217) 0 dX5_putAbove_217 rfl rfl ?_
    refine j_iload_n X (pc := 218) 1 dX5_putAbove_218 rfl rfl ?_
    refine j_iload_n X (pc := 219) 2 dX5_putAbove_219 rfl rfl ?_
    refine j_fload X (pc := 220) 3 dX5_putAbove_220 rfl ?_
    obtain ⟨b9, c9, f9, hr9, ho9, hc9, hw⟩ := hw
    obtain rfl := List.mem_singleton.mp hc9
    refine j_calli (j_runV (n8 := 3) (As := [vI x1, vI x2, vF x5]) (rest := []) X (pc := 222) hr9 (met_X5_keys (xl x) X.hl (xG x) h x0 x1 x2 x5 _ hw) ho9 (by decide) rfl q2063 q2065 qs49 q78 q2066 (by decide +kernel) dX5_putAbove_222 rfl ⟨Nat.le_of_ble_eq_true rfl, Nat.le_of_ble_eq_true rfl⟩ (Nat.le_of_ble_eq_true rfl) ⟨Nat.le_of_ble_eq_true rfl, Nat.le_of_ble_eq_true rfl⟩) (fun y222 h222 hw => ?_)
    exact j_iret X (pc := 225) hQ er (Nat.le_of_ble_eq_true rfl) (Nat.le_of_ble_eq_true rfl) dX5_putAbove_225 hw
theorem wk_X5_putAbove_154 {x : CX} (X : Ok x cX5_putAbove RX5 rm_X5_putAbove 6) (er : xrt x = (Option.some Jvm.ClassFile.FieldType.int)) (en : xnm x = yX5_putAbove.name) {P : Int32 → AH → Prop} (hQ : xr_i x P) (x0 : Option Nat) (x1 : Int32) (x2 : Int32) (x3 : Int32) (x4 : Int32) (t0 : UInt32) (h : AH) (hw : w_X5_putAbove_154 P x0 x1 x2 x3 x4 t0 h) : J x h 0 0 154 [(0, vR x0), (1, vI x1), (2, vI x2), (3, vI x3), (4, vI x4)] [vF t0] := by
  refine j_fstore X (pc := 154) [(5, vF t0), (0, vR x0), (1, vI x1), (2, vI x2), (3, vI x3), (4, vI x4)] dX5_putAbove_154 (Nat.le_of_ble_eq_true rfl) rfl ?_
  refine j_aload_n X (pc := 156) 1 dX5_putAbove_156 rfl rfl ?_
  refine j_iload_n X (pc := 157) 2 dX5_putAbove_157 rfl rfl ?_
  refine j_iload_n X (pc := 158) 3 dX5_putAbove_158 rfl rfl ?_
  obtain ⟨b9, c9, f9, hr9, ho9, hc9, hw⟩ := hw
  obtain rfl := List.mem_singleton.mp hc9
  refine j_calli (j_runV (n8 := 2) (As := [vI x1, vI x2]) (rest := []) X (pc := 159) hr9 (met_X5_isBarred (xl x) X.hl (xG x) h x0 x1 x2 _ hw) ho9 (by decide) rfl q2043 q2045 qs45 q78 q2046 (by decide +kernel) dX5_putAbove_159 rfl ⟨Nat.le_of_ble_eq_true rfl, Nat.le_of_ble_eq_true rfl⟩ (Nat.le_of_ble_eq_true rfl) ⟨Nat.le_of_ble_eq_true rfl, Nat.le_of_ble_eq_true rfl⟩) (fun y159 h159 hw => ?_)
  refine j_if_ne X (pc := 162) 193 dX5_putAbove_162 (by decide) hw (fun hw => ?_) (fun hw => ?_)
  · refine j_fload X (pc := 165) 0 dX5_putAbove_165 rfl ?_
    refine j_aload_n X (pc := 167) 1 dX5_putAbove_167 rfl rfl ?_
    refine j_iload_n X (pc := 168) 4 dX5_putAbove_168 rfl rfl ?_
    obtain ⟨b9, c9, f9, hr9, ho9, hc9, hw⟩ := hw
    obtain rfl := List.mem_singleton.mp hc9
    refine j_callf (j_runV (n8 := 1) (As := [vI x3]) (rest := [vF t0]) X (pc := 169) hr9 (met_X5_key (xl x) X.hl (xG x) h159 x0 x3 _ hw) ho9 (by decide) rfl q2016 q2018 qs40 q78 q2019 (by decide +kernel) dX5_putAbove_169 rfl ⟨Nat.le_of_ble_eq_true rfl, Nat.le_of_ble_eq_true rfl⟩ (Nat.le_of_ble_eq_true rfl) ⟨Nat.le_of_ble_eq_true rfl, Nat.le_of_ble_eq_true rfl⟩) (fun y169 h169 hw => ?_)
    refine j_fcmp X (pc := 172) dX5_putAbove_172 ?_
    refine j_if_eq X (pc := 173) 193 dX5_putAbove_173 (by decide) hw (fun hw => ?_) (fun hw => ?_)
    · refine j_aload_n X (pc := 193) 1 dX5_putAbove_193 rfl rfl ?_
      refine j_iconst X (pc := 194) 3 dX5_putAbove_194 (by decide) ?_
      obtain ⟨b9, c9, f9, hr9, ho9, hc9, hw⟩ := hw
      obtain rfl := List.mem_singleton.mp hc9
      refine j_calli (j_runV (n8 := 1) (As := [vI 3]) (rest := []) X (pc := 195) hr9 (met_X5_fails (xl x) X.hl (xG x) h169 x0 3 _ hw) ho9 (by decide) rfl q1988 q1990 qs33 q78 q1991 (by decide +kernel) dX5_putAbove_195 rfl ⟨Nat.le_of_ble_eq_true rfl, Nat.le_of_ble_eq_true rfl⟩ (Nat.le_of_ble_eq_true rfl) ⟨Nat.le_of_ble_eq_true rfl, Nat.le_of_ble_eq_true rfl⟩) (fun y195 h195 hw => ?_)
      exact j_iret X (pc := 198) hQ er (Nat.le_of_ble_eq_true rfl) (Nat.le_of_ble_eq_true rfl) dX5_putAbove_198 hw
    · refine j_iload X (pc := 176) 5 dX5_putAbove_176 rfl ?_
      refine j_if_lt X (pc := 178) 199 dX5_putAbove_178 (by decide) hw (fun hw => ?_) (fun hw => ?_)
      · refine j_lv [(0, vR x0), (1, vI x1), (2, vI x2), (5, vF t0)] [1, 2, 3, 0] rfl ?_
        refine j_cs (u' := 0) (v' := 0) (Nat.le_of_ble_eq_true rfl) (Nat.le_of_ble_eq_true rfl) ?_
        exact wk_X5_putAbove_199 X er en hQ x0 x1 x2 t0 h169 hw
      · refine j_fload X (pc := 181) 0 dX5_putAbove_181 rfl ?_
        refine j_aload_n X (pc := 183) 1 dX5_putAbove_183 rfl rfl ?_
        refine j_iload X (pc := 184) 5 dX5_putAbove_184 rfl ?_
        obtain ⟨b9, c9, f9, hr9, ho9, hc9, hw⟩ := hw
        obtain rfl := List.mem_singleton.mp hc9
        refine j_callf (j_runV (n8 := 1) (As := [vI x4]) (rest := [vF t0]) X (pc := 186) hr9 (met_X5_key (xl x) X.hl (xG x) h169 x0 x4 _ hw) ho9 (by decide) rfl q2016 q2018 qs40 q78 q2019 (by decide +kernel) dX5_putAbove_186 rfl ⟨Nat.le_of_ble_eq_true rfl, Nat.le_of_ble_eq_true rfl⟩ (Nat.le_of_ble_eq_true rfl) ⟨Nat.le_of_ble_eq_true rfl, Nat.le_of_ble_eq_true rfl⟩) (fun y186 h186 hw => ?_)
        refine j_fcmp X (pc := 189) dX5_putAbove_189 ?_
        refine j_if_ne X (pc := 190) 199 dX5_putAbove_190 (by decide) hw (fun hw => ?_) (fun hw => ?_)
        · refine j_aload_n X (pc := 193) 1 dX5_putAbove_193 rfl rfl ?_
          refine j_iconst X (pc := 194) 3 dX5_putAbove_194 (by decide) ?_
          obtain ⟨b9, c9, f9, hr9, ho9, hc9, hw⟩ := hw
          obtain rfl := List.mem_singleton.mp hc9
          refine j_calli (j_runV (n8 := 1) (As := [vI 3]) (rest := []) X (pc := 195) hr9 (met_X5_fails (xl x) X.hl (xG x) h186 x0 3 _ hw) ho9 (by decide) rfl q1988 q1990 qs33 q78 q1991 (by decide +kernel) dX5_putAbove_195 rfl ⟨Nat.le_of_ble_eq_true rfl, Nat.le_of_ble_eq_true rfl⟩ (Nat.le_of_ble_eq_true rfl) ⟨Nat.le_of_ble_eq_true rfl, Nat.le_of_ble_eq_true rfl⟩) (fun y195 h195 hw => ?_)
          exact j_iret X (pc := 198) hQ er (Nat.le_of_ble_eq_true rfl) (Nat.le_of_ble_eq_true rfl) dX5_putAbove_198 hw
        · refine j_lv [(0, vR x0), (1, vI x1), (2, vI x2), (5, vF t0)] [1, 2, 3, 0] rfl ?_
          refine j_cs (u' := 0) (v' := 0) (Nat.le_of_ble_eq_true rfl) (Nat.le_of_ble_eq_true rfl) ?_
          exact wk_X5_putAbove_199 X er en hQ x0 x1 x2 t0 h186 hw
  · refine j_aload_n X (pc := 193) 1 dX5_putAbove_193 rfl rfl ?_
    refine j_iconst X (pc := 194) 3 dX5_putAbove_194 (by decide) ?_
    obtain ⟨b9, c9, f9, hr9, ho9, hc9, hw⟩ := hw
    obtain rfl := List.mem_singleton.mp hc9
    refine j_calli (j_runV (n8 := 1) (As := [vI 3]) (rest := []) X (pc := 195) hr9 (met_X5_fails (xl x) X.hl (xG x) h159 x0 3 _ hw) ho9 (by decide) rfl q1988 q1990 qs33 q78 q1991 (by decide +kernel) dX5_putAbove_195 rfl ⟨Nat.le_of_ble_eq_true rfl, Nat.le_of_ble_eq_true rfl⟩ (Nat.le_of_ble_eq_true rfl) ⟨Nat.le_of_ble_eq_true rfl, Nat.le_of_ble_eq_true rfl⟩) (fun y195 h195 hw => ?_)
    exact j_iret X (pc := 198) hQ er (Nat.le_of_ble_eq_true rfl) (Nat.le_of_ble_eq_true rfl) dX5_putAbove_198 hw
theorem wk_X5_putAbove_56 {x : CX} (X : Ok x cX5_putAbove RX5 rm_X5_putAbove 6) (er : xrt x = (Option.some Jvm.ClassFile.FieldType.int)) (en : xnm x = yX5_putAbove.name) {P : Int32 → AH → Prop} (hQ : xr_i x P) (x0 : Option Nat) (x1 : Int32) (x2 : Int32) (x3 : Int32) (x4 : Int32) (x5 : Int32) (h : AH) (hw : w_X5_putAbove_56 P x0 x1 x2 x3 x4 x5 h) : J x h 0 0 56 [(0, vR x0), (1, vI x1), (2, vI x2), (3, vI x3), (4, vI x4), (5, vI x5)] [] := by
  refine hw (fun x4 x5 h => J x h 0 0 56 [(0, vR x0), (1, vI x1), (2, vI x2), (3, vI x3), (4, vI x4), (5, vI x5)] []) (fun x4 x5 h hw => ?_)
  refine j_iload X (pc := 56) 5 dX5_putAbove_56 rfl ?_
  refine j_aload_n X (pc := 58) 0 dX5_putAbove_58 rfl rfl ?_
  refine j_geti (ci := 4) X (pc := 59) in_X5 rfl (by decide) 8 (by decide) q1880 (Or.inl rfl) dX5_putAbove_59 hw (fun y59 hw => ?_)
  refine j_icmp_ge X (pc := 62) 125 dX5_putAbove_62 (by decide) hw (fun hw => ?_) (fun hw => ?_)
  · refine j_iload X (pc := 125) 4 dX5_putAbove_125 rfl ?_
    refine j_if_ge X (pc := 127) 140 dX5_putAbove_127 (by decide) hw (fun hw => ?_) (fun hw => ?_)
    · refine j_aload_n X (pc := 140) 0 dX5_putAbove_140 rfl rfl ?_
      refine j_iload_n X (pc := 141) 3 dX5_putAbove_141 rfl rfl ?_
      obtain ⟨b9, c9, f9, hr9, ho9, hc9, hw⟩ := hw
      obtain rfl := List.mem_singleton.mp hc9
      refine j_callf (j_runV (n8 := 1) (As := [vI x3]) (rest := []) X (pc := 142) hr9 (met_X5_key (xl x) X.hl (xG x) h x0 x3 _ hw) ho9 (by decide) rfl q2016 q2018 qs40 q78 q2019 (by decide +kernel) dX5_putAbove_142 rfl ⟨Nat.le_of_ble_eq_true rfl, Nat.le_of_ble_eq_true rfl⟩ (Nat.le_of_ble_eq_true rfl) ⟨Nat.le_of_ble_eq_true rfl, Nat.le_of_ble_eq_true rfl⟩) (fun y142 h142 hw => ?_)
      refine j_aload_n X (pc := 145) 0 dX5_putAbove_145 rfl rfl ?_
      refine j_iload X (pc := 146) 4 dX5_putAbove_146 rfl ?_
      obtain ⟨b9, c9, f9, hr9, ho9, hc9, hw⟩ := hw
      obtain rfl := List.mem_singleton.mp hc9
      refine j_callf (j_runV (n8 := 1) (As := [vI x4]) (rest := [vF y142]) X (pc := 148) hr9 (met_X5_key (xl x) X.hl (xG x) h142 x0 x4 _ hw) ho9 (by decide) rfl q2016 q2018 qs40 q78 q2019 (by decide +kernel) dX5_putAbove_148 rfl ⟨Nat.le_of_ble_eq_true rfl, Nat.le_of_ble_eq_true rfl⟩ (Nat.le_of_ble_eq_true rfl) ⟨Nat.le_of_ble_eq_true rfl, Nat.le_of_ble_eq_true rfl⟩) (fun y148 h148 hw => ?_)
      refine j_fadd X (pc := 151) dX5_putAbove_151 hw (fun hw => ?_)
      refine j_fconst2 X (pc := 152) dX5_putAbove_152 ?_
      refine j_fdiv X (pc := 153) dX5_putAbove_153 hw (fun hw => ?_)
      refine j_lv [(0, vR x0), (1, vI x1), (2, vI x2), (3, vI x3), (4, vI x4)] [0, 1, 2, 3, 4] rfl ?_
      refine j_cs (u' := 0) (v' := 0) (Nat.le_of_ble_eq_true rfl) (Nat.le_of_ble_eq_true rfl) ?_
      exact wk_X5_putAbove_154 X er en hQ x0 x1 x2 x3 x4 (FP.fdiv (FP.fadd y142 y148) FP.fconst2) h148 hw
    · refine j_aload_n X (pc := 130) 0 dX5_putAbove_130 rfl rfl ?_
      refine j_iload_n X (pc := 131) 3 dX5_putAbove_131 rfl rfl ?_
      obtain ⟨b9, c9, f9, hr9, ho9, hc9, hw⟩ := hw
      obtain rfl := List.mem_singleton.mp hc9
      refine j_callf (j_runV (n8 := 1) (As := [vI x3]) (rest := []) X (pc := 132) hr9 (met_X5_key (xl x) X.hl (xG x) h x0 x3 _ hw) ho9 (by decide) rfl q2016 q2018 qs40 q78 q2019 (by decide +kernel) dX5_putAbove_132 rfl ⟨Nat.le_of_ble_eq_true rfl, Nat.le_of_ble_eq_true rfl⟩ (Nat.le_of_ble_eq_true rfl) ⟨Nat.le_of_ble_eq_true rfl, Nat.le_of_ble_eq_true rfl⟩) (fun y132 h132 hw => ?_)
      refine j_fconst1 X (pc := 135) dX5_putAbove_135 ?_
      refine j_fadd X (pc := 136) dX5_putAbove_136 hw (fun hw => ?_)
      refine j_goto X (pc := 137) 154 dX5_putAbove_137 (by decide) ?_
      refine j_lv [(0, vR x0), (1, vI x1), (2, vI x2), (3, vI x3), (4, vI x4)] [0, 1, 2, 3, 4] rfl ?_
      refine j_cs (u' := 0) (v' := 0) (Nat.le_of_ble_eq_true rfl) (Nat.le_of_ble_eq_true rfl) ?_
      exact wk_X5_putAbove_154 X er en hQ x0 x1 x2 x3 x4 (FP.fadd y132 FP.fconst1) h132 hw
  · refine j_aload_n X (pc := 65) 0 dX5_putAbove_65 rfl rfl ?_
    refine j_iload X (pc := 66) 5 dX5_putAbove_66 rfl ?_
    obtain ⟨b9, c9, f9, hr9, ho9, hc9, hw⟩ := hw
    obtain rfl := List.mem_singleton.mp hc9
    refine j_calli (j_runV (n8 := 1) (As := [vI x5]) (rest := []) X (pc := 68) hr9 (met_X5_isSeen (xl x) X.hl (xG x) h x0 x5 _ hw) ho9 (by decide) rfl q2012 q2014 qs39 q78 q2015 (by decide +kernel) dX5_putAbove_68 rfl ⟨Nat.le_of_ble_eq_true rfl, Nat.le_of_ble_eq_true rfl⟩ (Nat.le_of_ble_eq_true rfl) ⟨Nat.le_of_ble_eq_true rfl, Nat.le_of_ble_eq_true rfl⟩) (fun y68 h68 hw => ?_)
    refine j_if_eq X (pc := 71) 115 dX5_putAbove_71 (by decide) hw (fun hw => ?_) (fun hw => ?_)
    · refine j_iload X (pc := 115) 4 dX5_putAbove_115 rfl ?_
      refine j_istore X (pc := 117) [(4, vI x4), (0, vR x0), (1, vI x1), (2, vI x2), (3, vI x3), (5, vI x5)] dX5_putAbove_117 (Nat.le_of_ble_eq_true rfl) rfl ?_
      refine j_iinc X (pc := 119) 5 (x5 + 1) [(5, vI (x5 + 1)), (4, vI x4), (0, vR x0), (1, vI x1), (2, vI x2), (3, vI x3)] dX5_putAbove_119 rfl rfl (Nat.le_of_ble_eq_true rfl) rfl ?_
      refine j_goto X (pc := 122) 56 dX5_putAbove_122 (by decide) ?_
      refine j_lv [(0, vR x0), (1, vI x1), (2, vI x2), (3, vI x3), (4, vI x4), (5, vI (x5 + 1))] [2, 3, 4, 5, 1, 0] rfl ?_
      refine j_cs (u' := 0) (v' := 0) (Nat.le_of_ble_eq_true rfl) (Nat.le_of_ble_eq_true rfl) ?_
      exact hw
    · refine j_aload_n X (pc := 74) 0 dX5_putAbove_74 rfl rfl ?_
      refine j_iload X (pc := 75) 5 dX5_putAbove_75 rfl ?_
      obtain ⟨b9, c9, f9, hr9, ho9, hc9, hw⟩ := hw
      obtain rfl := List.mem_singleton.mp hc9
      refine j_callf (j_runV (n8 := 1) (As := [vI x5]) (rest := []) X (pc := 77) hr9 (met_X5_key (xl x) X.hl (xG x) h68 x0 x5 _ hw) ho9 (by decide) rfl q2016 q2018 qs40 q78 q2019 (by decide +kernel) dX5_putAbove_77 rfl ⟨Nat.le_of_ble_eq_true rfl, Nat.le_of_ble_eq_true rfl⟩ (Nat.le_of_ble_eq_true rfl) ⟨Nat.le_of_ble_eq_true rfl, Nat.le_of_ble_eq_true rfl⟩) (fun y77 h77 hw => ?_)
      refine j_aload_n X (pc := 80) 0 dX5_putAbove_80 rfl rfl ?_
      refine j_iload_n X (pc := 81) 3 dX5_putAbove_81 rfl rfl ?_
      obtain ⟨b9, c9, f9, hr9, ho9, hc9, hw⟩ := hw
      obtain rfl := List.mem_singleton.mp hc9
      refine j_callf (j_runV (n8 := 1) (As := [vI x3]) (rest := [vF y77]) X (pc := 82) hr9 (met_X5_key (xl x) X.hl (xG x) h77 x0 x3 _ hw) ho9 (by decide) rfl q2016 q2018 qs40 q78 q2019 (by decide +kernel) dX5_putAbove_82 rfl ⟨Nat.le_of_ble_eq_true rfl, Nat.le_of_ble_eq_true rfl⟩ (Nat.le_of_ble_eq_true rfl) ⟨Nat.le_of_ble_eq_true rfl, Nat.le_of_ble_eq_true rfl⟩) (fun y82 h82 hw => ?_)
      refine j_fcmp X (pc := 85) dX5_putAbove_85 ?_
      refine j_if_le X (pc := 86) 115 dX5_putAbove_86 (by decide) hw (fun hw => ?_) (fun hw => ?_)
      · refine j_iload X (pc := 115) 4 dX5_putAbove_115 rfl ?_
        refine j_istore X (pc := 117) [(4, vI x4), (0, vR x0), (1, vI x1), (2, vI x2), (3, vI x3), (5, vI x5)] dX5_putAbove_117 (Nat.le_of_ble_eq_true rfl) rfl ?_
        refine j_iinc X (pc := 119) 5 (x5 + 1) [(5, vI (x5 + 1)), (4, vI x4), (0, vR x0), (1, vI x1), (2, vI x2), (3, vI x3)] dX5_putAbove_119 rfl rfl (Nat.le_of_ble_eq_true rfl) rfl ?_
        refine j_goto X (pc := 122) 56 dX5_putAbove_122 (by decide) ?_
        refine j_lv [(0, vR x0), (1, vI x1), (2, vI x2), (3, vI x3), (4, vI x4), (5, vI (x5 + 1))] [2, 3, 4, 5, 1, 0] rfl ?_
        refine j_cs (u' := 0) (v' := 0) (Nat.le_of_ble_eq_true rfl) (Nat.le_of_ble_eq_true rfl) ?_
        exact hw
      · refine j_iload X (pc := 89) 4 dX5_putAbove_89 rfl ?_
        refine j_if_lt X (pc := 91) 110 dX5_putAbove_91 (by decide) hw (fun hw => ?_) (fun hw => ?_)
        · refine j_iload X (pc := 110) 5 dX5_putAbove_110 rfl ?_
          refine j_goto X (pc := 112) 117 dX5_putAbove_112 (by decide) ?_
          refine j_istore X (pc := 117) [(4, vI x5), (0, vR x0), (1, vI x1), (2, vI x2), (3, vI x3), (5, vI x5)] dX5_putAbove_117 (Nat.le_of_ble_eq_true rfl) rfl ?_
          refine j_iinc X (pc := 119) 5 (x5 + 1) [(5, vI (x5 + 1)), (4, vI x5), (0, vR x0), (1, vI x1), (2, vI x2), (3, vI x3)] dX5_putAbove_119 rfl rfl (Nat.le_of_ble_eq_true rfl) rfl ?_
          refine j_goto X (pc := 122) 56 dX5_putAbove_122 (by decide) ?_
          refine j_lv [(0, vR x0), (1, vI x1), (2, vI x2), (3, vI x3), (4, vI x5), (5, vI (x5 + 1))] [2, 3, 4, 5, 1, 0] rfl ?_
          refine j_cs (u' := 0) (v' := 0) (Nat.le_of_ble_eq_true rfl) (Nat.le_of_ble_eq_true rfl) ?_
          exact hw
        · refine j_aload_n X (pc := 94) 0 dX5_putAbove_94 rfl rfl ?_
          refine j_iload X (pc := 95) 5 dX5_putAbove_95 rfl ?_
          obtain ⟨b9, c9, f9, hr9, ho9, hc9, hw⟩ := hw
          obtain rfl := List.mem_singleton.mp hc9
          refine j_callf (j_runV (n8 := 1) (As := [vI x5]) (rest := []) X (pc := 97) hr9 (met_X5_key (xl x) X.hl (xG x) h82 x0 x5 _ hw) ho9 (by decide) rfl q2016 q2018 qs40 q78 q2019 (by decide +kernel) dX5_putAbove_97 rfl ⟨Nat.le_of_ble_eq_true rfl, Nat.le_of_ble_eq_true rfl⟩ (Nat.le_of_ble_eq_true rfl) ⟨Nat.le_of_ble_eq_true rfl, Nat.le_of_ble_eq_true rfl⟩) (fun y97 h97 hw => ?_)
          refine j_aload_n X (pc := 100) 0 dX5_putAbove_100 rfl rfl ?_
          refine j_iload X (pc := 101) 4 dX5_putAbove_101 rfl ?_
          obtain ⟨b9, c9, f9, hr9, ho9, hc9, hw⟩ := hw
          obtain rfl := List.mem_singleton.mp hc9
          refine j_callf (j_runV (n8 := 1) (As := [vI x4]) (rest := [vF y97]) X (pc := 103) hr9 (met_X5_key (xl x) X.hl (xG x) h97 x0 x4 _ hw) ho9 (by decide) rfl q2016 q2018 qs40 q78 q2019 (by decide +kernel) dX5_putAbove_103 rfl ⟨Nat.le_of_ble_eq_true rfl, Nat.le_of_ble_eq_true rfl⟩ (Nat.le_of_ble_eq_true rfl) ⟨Nat.le_of_ble_eq_true rfl, Nat.le_of_ble_eq_true rfl⟩) (fun y103 h103 hw => ?_)
          refine j_fcmp X (pc := 106) dX5_putAbove_106 ?_
          refine j_if_ge X (pc := 107) 115 dX5_putAbove_107 (by decide) hw (fun hw => ?_) (fun hw => ?_)
          · refine j_iload X (pc := 115) 4 dX5_putAbove_115 rfl ?_
            refine j_istore X (pc := 117) [(4, vI x4), (0, vR x0), (1, vI x1), (2, vI x2), (3, vI x3), (5, vI x5)] dX5_putAbove_117 (Nat.le_of_ble_eq_true rfl) rfl ?_
            refine j_iinc X (pc := 119) 5 (x5 + 1) [(5, vI (x5 + 1)), (4, vI x4), (0, vR x0), (1, vI x1), (2, vI x2), (3, vI x3)] dX5_putAbove_119 rfl rfl (Nat.le_of_ble_eq_true rfl) rfl ?_
            refine j_goto X (pc := 122) 56 dX5_putAbove_122 (by decide) ?_
            refine j_lv [(0, vR x0), (1, vI x1), (2, vI x2), (3, vI x3), (4, vI x4), (5, vI (x5 + 1))] [2, 3, 4, 5, 1, 0] rfl ?_
            refine j_cs (u' := 0) (v' := 0) (Nat.le_of_ble_eq_true rfl) (Nat.le_of_ble_eq_true rfl) ?_
            exact hw
          · refine j_iload X (pc := 110) 5 dX5_putAbove_110 rfl ?_
            refine j_goto X (pc := 112) 117 dX5_putAbove_112 (by decide) ?_
            refine j_istore X (pc := 117) [(4, vI x5), (0, vR x0), (1, vI x1), (2, vI x2), (3, vI x3), (5, vI x5)] dX5_putAbove_117 (Nat.le_of_ble_eq_true rfl) rfl ?_
            refine j_iinc X (pc := 119) 5 (x5 + 1) [(5, vI (x5 + 1)), (4, vI x5), (0, vR x0), (1, vI x1), (2, vI x2), (3, vI x3)] dX5_putAbove_119 rfl rfl (Nat.le_of_ble_eq_true rfl) rfl ?_
            refine j_goto X (pc := 122) 56 dX5_putAbove_122 (by decide) ?_
            refine j_lv [(0, vR x0), (1, vI x1), (2, vI x2), (3, vI x3), (4, vI x5), (5, vI (x5 + 1))] [2, 3, 4, 5, 1, 0] rfl ?_
            refine j_cs (u' := 0) (v' := 0) (Nat.le_of_ble_eq_true rfl) (Nat.le_of_ble_eq_true rfl) ?_
            exact hw
theorem met_X5_putAbove (l : Launch) (hlt : l.stackTraces = false) (G : GG) (h : AH) (a0 : Option Nat) (a1 : Int32) (a2 : Int32) (a3 : Int32) (P : Int32 → AH → Prop) (hw : w_X5_putAbove a0 a1 a2 a3 h P) : ct_i l yX5_putAbove (ws_ yX5_putAbove cX5_putAbove 6 (Option.some Jvm.ClassFile.FieldType.int)) rm_X5_putAbove G h [vR a0, vI a1, vI a2, vI a3] P := by
  refine j_starti hlt [(0, vR a0), (1, vI a1), (2, vI a2), (3, vI a3)] (plainFor_of_name (by decide)) rfl rfl (fun x X eG er en hQ => ?_)
  subst eG
  refine j_aload_n X (pc := 0) 0 dX5_putAbove_0 rfl rfl ?_
  refine j_iconst X (pc := 1) 0 dX5_putAbove_1 (by decide) ?_
  refine j_put (ci := 4) X (pc := 2) in_X5 rfl (by decide) 0 (by decide) q1872 (Or.inl rfl) tyX5 tyX5_ok nmX5 rfl rfl (ty := .int) (tyX5_ok 0 (by decide)) rfl rfl dX5_putAbove_2 hw (fun h2 hw => ?_)
  refine j_iload_n X (pc := 5) 1 dX5_putAbove_5 rfl rfl ?_
  refine j_calli (j_runS (n8 := 1) (As := [vI a1]) (rest := []) X (pc := 6) (met_X5_isUser (xl x) X.hl (xG x) h2 a1 _ hw) q1978 q1979 q78 q1980 (by decide +kernel) dX5_putAbove_6 rfl ⟨Nat.le_of_ble_eq_true rfl, Nat.le_of_ble_eq_true rfl⟩ (Nat.le_of_ble_eq_true rfl) ⟨Nat.le_of_ble_eq_true rfl, Nat.le_of_ble_eq_true rfl⟩) (fun y6 h6 hw => ?_)
  refine j_if_eq X (pc := 9) 17 dX5_putAbove_9 (by decide) hw (fun hw => ?_) (fun hw => ?_)
  · refine j_aload_n X (pc := 17) 0 dX5_putAbove_17 rfl rfl ?_
    refine j_iconst X (pc := 18) 1 dX5_putAbove_18 (by decide) ?_
    obtain ⟨b9, c9, f9, hr9, ho9, hc9, hw⟩ := hw
    obtain rfl := List.mem_singleton.mp hc9
    refine j_calli (j_runV (n8 := 1) (As := [vI 1]) (rest := []) X (pc := 19) hr9 (met_X5_fails (xl x) X.hl (xG x) h6 a0 1 _ hw) ho9 (by decide) rfl q1988 q1990 qs33 q78 q1991 (by decide +kernel) dX5_putAbove_19 rfl ⟨Nat.le_of_ble_eq_true rfl, Nat.le_of_ble_eq_true rfl⟩ (Nat.le_of_ble_eq_true rfl) ⟨Nat.le_of_ble_eq_true rfl, Nat.le_of_ble_eq_true rfl⟩) (fun y19 h19 hw => ?_)
    exact j_iret X (pc := 22) hQ er (Nat.le_of_ble_eq_true rfl) (Nat.le_of_ble_eq_true rfl) dX5_putAbove_22 hw
  · refine j_iload_n X (pc := 12) 2 dX5_putAbove_12 rfl rfl ?_
    refine j_iload_n X (pc := 13) 3 dX5_putAbove_13 rfl rfl ?_
    refine j_icmp_ne X (pc := 14) 23 dX5_putAbove_14 (by decide) hw (fun hw => ?_) (fun hw => ?_)
    · refine j_aload_n X (pc := 17) 0 dX5_putAbove_17 rfl rfl ?_
      refine j_iconst X (pc := 18) 1 dX5_putAbove_18 (by decide) ?_
      obtain ⟨b9, c9, f9, hr9, ho9, hc9, hw⟩ := hw
      obtain rfl := List.mem_singleton.mp hc9
      refine j_calli (j_runV (n8 := 1) (As := [vI 1]) (rest := []) X (pc := 19) hr9 (met_X5_fails (xl x) X.hl (xG x) h6 a0 1 _ hw) ho9 (by decide) rfl q1988 q1990 qs33 q78 q1991 (by decide +kernel) dX5_putAbove_19 rfl ⟨Nat.le_of_ble_eq_true rfl, Nat.le_of_ble_eq_true rfl⟩ (Nat.le_of_ble_eq_true rfl) ⟨Nat.le_of_ble_eq_true rfl, Nat.le_of_ble_eq_true rfl⟩) (fun y19 h19 hw => ?_)
      exact j_iret X (pc := 22) hQ er (Nat.le_of_ble_eq_true rfl) (Nat.le_of_ble_eq_true rfl) dX5_putAbove_22 hw
    · refine j_aload_n X (pc := 23) 0 dX5_putAbove_23 rfl rfl ?_
      refine j_iload_n X (pc := 24) 1 dX5_putAbove_24 rfl rfl ?_
      obtain ⟨b9, c9, f9, hr9, ho9, hc9, hw⟩ := hw
      obtain rfl := List.mem_singleton.mp hc9
      refine j_callv (j_runV (n8 := 1) (As := [vI a1]) (rest := []) X (pc := 25) hr9 (met_X5_builds (xl x) X.hl (xG x) h6 a0 a1 _ hw) ho9 (by decide) rfl q1992 q1994 qs34 q78 q1995 (by decide +kernel) dX5_putAbove_25 rfl ⟨Nat.le_of_ble_eq_true rfl, Nat.le_of_ble_eq_true rfl⟩ (Nat.le_of_ble_eq_true rfl) ⟨Nat.le_of_ble_eq_true rfl, Nat.le_of_ble_eq_true rfl⟩) (fun h25 hw => ?_)
      refine j_aload_n X (pc := 28) 0 dX5_putAbove_28 rfl rfl ?_
      refine j_iload_n X (pc := 29) 2 dX5_putAbove_29 rfl rfl ?_
      obtain ⟨b9, c9, f9, hr9, ho9, hc9, hw⟩ := hw
      obtain rfl := List.mem_singleton.mp hc9
      refine j_calli (j_runV (n8 := 1) (As := [vI a2]) (rest := []) X (pc := 30) hr9 (met_X5_isSeen (xl x) X.hl (xG x) h25 a0 a2 _ hw) ho9 (by decide) rfl q2012 q2014 qs39 q78 q2015 (by decide +kernel) dX5_putAbove_30 rfl ⟨Nat.le_of_ble_eq_true rfl, Nat.le_of_ble_eq_true rfl⟩ (Nat.le_of_ble_eq_true rfl) ⟨Nat.le_of_ble_eq_true rfl, Nat.le_of_ble_eq_true rfl⟩) (fun y30 h30 hw => ?_)
      refine j_if_eq X (pc := 33) 44 dX5_putAbove_33 (by decide) hw (fun hw => ?_) (fun hw => ?_)
      · refine j_aload_n X (pc := 44) 0 dX5_putAbove_44 rfl rfl ?_
        refine j_iconst X (pc := 45) 2 dX5_putAbove_45 (by decide) ?_
        obtain ⟨b9, c9, f9, hr9, ho9, hc9, hw⟩ := hw
        obtain rfl := List.mem_singleton.mp hc9
        refine j_calli (j_runV (n8 := 1) (As := [vI 2]) (rest := []) X (pc := 46) hr9 (met_X5_fails (xl x) X.hl (xG x) h30 a0 2 _ hw) ho9 (by decide) rfl q1988 q1990 qs33 q78 q1991 (by decide +kernel) dX5_putAbove_46 rfl ⟨Nat.le_of_ble_eq_true rfl, Nat.le_of_ble_eq_true rfl⟩ (Nat.le_of_ble_eq_true rfl) ⟨Nat.le_of_ble_eq_true rfl, Nat.le_of_ble_eq_true rfl⟩) (fun y46 h46 hw => ?_)
        exact j_iret X (pc := 49) hQ er (Nat.le_of_ble_eq_true rfl) (Nat.le_of_ble_eq_true rfl) dX5_putAbove_49 hw
      · refine j_aload_n X (pc := 36) 0 dX5_putAbove_36 rfl rfl ?_
        refine j_iload_n X (pc := 37) 3 dX5_putAbove_37 rfl rfl ?_
        obtain ⟨b9, c9, f9, hr9, ho9, hc9, hw⟩ := hw
        obtain rfl := List.mem_singleton.mp hc9
        refine j_calli (j_runV (n8 := 1) (As := [vI a3]) (rest := []) X (pc := 38) hr9 (met_X5_isSeen (xl x) X.hl (xG x) h30 a0 a3 _ hw) ho9 (by decide) rfl q2012 q2014 qs39 q78 q2015 (by decide +kernel) dX5_putAbove_38 rfl ⟨Nat.le_of_ble_eq_true rfl, Nat.le_of_ble_eq_true rfl⟩ (Nat.le_of_ble_eq_true rfl) ⟨Nat.le_of_ble_eq_true rfl, Nat.le_of_ble_eq_true rfl⟩) (fun y38 h38 hw => ?_)
        refine j_if_ne X (pc := 41) 50 dX5_putAbove_41 (by decide) hw (fun hw => ?_) (fun hw => ?_)
        · refine j_aload_n X (pc := 44) 0 dX5_putAbove_44 rfl rfl ?_
          refine j_iconst X (pc := 45) 2 dX5_putAbove_45 (by decide) ?_
          obtain ⟨b9, c9, f9, hr9, ho9, hc9, hw⟩ := hw
          obtain rfl := List.mem_singleton.mp hc9
          refine j_calli (j_runV (n8 := 1) (As := [vI 2]) (rest := []) X (pc := 46) hr9 (met_X5_fails (xl x) X.hl (xG x) h38 a0 2 _ hw) ho9 (by decide) rfl q1988 q1990 qs33 q78 q1991 (by decide +kernel) dX5_putAbove_46 rfl ⟨Nat.le_of_ble_eq_true rfl, Nat.le_of_ble_eq_true rfl⟩ (Nat.le_of_ble_eq_true rfl) ⟨Nat.le_of_ble_eq_true rfl, Nat.le_of_ble_eq_true rfl⟩) (fun y46 h46 hw => ?_)
          exact j_iret X (pc := 49) hQ er (Nat.le_of_ble_eq_true rfl) (Nat.le_of_ble_eq_true rfl) dX5_putAbove_49 hw
        · refine j_iconst X (pc := 50) (-1) dX5_putAbove_50 (by decide) ?_
          refine j_istore X (pc := 51) [(4, vI (-1)), (0, vR a0), (1, vI a1), (2, vI a2), (3, vI a3)] dX5_putAbove_51 (Nat.le_of_ble_eq_true rfl) rfl ?_
          refine j_iconst X (pc := 53) 0 dX5_putAbove_53 (by decide) ?_
          refine j_istore X (pc := 54) [(5, vI 0), (4, vI (-1)), (0, vR a0), (1, vI a1), (2, vI a2), (3, vI a3)] dX5_putAbove_54 (Nat.le_of_ble_eq_true rfl) rfl ?_
          refine j_lv [(0, vR a0), (1, vI a1), (2, vI a2), (3, vI a3), (4, vI (-1)), (5, vI 0)] [2, 3, 4, 5, 1, 0] rfl ?_
          refine j_cs (u' := 0) (v' := 0) (Nat.le_of_ble_eq_true rfl) (Nat.le_of_ble_eq_true rfl) ?_
          exact wk_X5_putAbove_56 X er en hQ a0 a1 a2 a3 (-1) 0 h38 hw
abbrev cX1_remove : ByteArray := prog_1_method_25_code
def yX1_remove : MethodName := ⟨RX1, "remove", "(II)I"⟩
def dkwX1_remove_1 : List UInt8 := [182, 0, 207, 42, 45, 3, 28, 96, 3, 182, 1, 11, 45, 182, 0, 210, 172]
abbrev dktX1_remove_1 : List UInt8 := dkwX1_remove_1 ++ []
def dkwX1_remove_0 : List UInt8 := [42, 27, 182, 0, 199, 78, 42, 45, 28, 182, 0, 241, 58, 4, 42, 45, 25, 4, 182, 0, 245, 42]
abbrev dktX1_remove_0 : List UInt8 := dkwX1_remove_0 ++ dktX1_remove_1
theorem dksX1_remove_0 : cX1_remove.data.toList.drop 0 = dktX1_remove_0 := by decide +kernel
theorem dksX1_remove_1 : cX1_remove.data.toList.drop 22 = dktX1_remove_1 := dk_seg dksX1_remove_0 22 rfl rfl
theorem dX1_remove_0 : decode cX1_remove 0 = .ok (.aload_n 0, 1) := dk_42 (dk_at dksX1_remove_0 0 rfl rfl)
theorem dX1_remove_1 : decode cX1_remove 1 = .ok (.iload_n 1, 1) := dk_27 (dk_at dksX1_remove_0 1 rfl rfl)
theorem dX1_remove_2 : decode cX1_remove 2 = .ok (.invokevirtual 199, 3) := dk_182 0 199 (dk_at dksX1_remove_0 2 rfl rfl)
theorem dX1_remove_5 : decode cX1_remove 5 = .ok (.astore_n 3, 1) := dk_78 (dk_at dksX1_remove_0 5 rfl rfl)
theorem dX1_remove_6 : decode cX1_remove 6 = .ok (.aload_n 0, 1) := dk_42 (dk_at dksX1_remove_0 6 rfl rfl)
theorem dX1_remove_7 : decode cX1_remove 7 = .ok (.aload_n 3, 1) := dk_45 (dk_at dksX1_remove_0 7 rfl rfl)
theorem dX1_remove_8 : decode cX1_remove 8 = .ok (.iload_n 2, 1) := dk_28 (dk_at dksX1_remove_0 8 rfl rfl)
theorem dX1_remove_9 : decode cX1_remove 9 = .ok (.invokevirtual 241, 3) := dk_182 0 241 (dk_at dksX1_remove_0 9 rfl rfl)
theorem dX1_remove_12 : decode cX1_remove 12 = .ok (.astore 4, 2) := dk_58 4 (dk_at dksX1_remove_0 12 rfl rfl)
theorem dX1_remove_14 : decode cX1_remove 14 = .ok (.aload_n 0, 1) := dk_42 (dk_at dksX1_remove_0 14 rfl rfl)
theorem dX1_remove_15 : decode cX1_remove 15 = .ok (.aload_n 3, 1) := dk_45 (dk_at dksX1_remove_0 15 rfl rfl)
theorem dX1_remove_16 : decode cX1_remove 16 = .ok (.aload 4, 2) := dk_25 4 (dk_at dksX1_remove_0 16 rfl rfl)
theorem dX1_remove_18 : decode cX1_remove 18 = .ok (.invokevirtual 245, 3) := dk_182 0 245 (dk_at dksX1_remove_0 18 rfl rfl)
theorem dX1_remove_21 : decode cX1_remove 21 = .ok (.aload_n 0, 1) := dk_42 (dk_at dksX1_remove_0 21 rfl rfl)
theorem dX1_remove_22 : decode cX1_remove 22 = .ok (.invokevirtual 207, 3) := dk_182 0 207 (dk_at dksX1_remove_1 0 rfl rfl)
theorem dX1_remove_25 : decode cX1_remove 25 = .ok (.aload_n 0, 1) := dk_42 (dk_at dksX1_remove_1 3 rfl rfl)
theorem dX1_remove_26 : decode cX1_remove 26 = .ok (.aload_n 3, 1) := dk_45 (dk_at dksX1_remove_1 4 rfl rfl)
theorem dX1_remove_27 : decode cX1_remove 27 = .ok (.iconst 0, 1) := dk_3 (dk_at dksX1_remove_1 5 rfl rfl)
theorem dX1_remove_28 : decode cX1_remove 28 = .ok (.iload_n 2, 1) := dk_28 (dk_at dksX1_remove_1 6 rfl rfl)
theorem dX1_remove_29 : decode cX1_remove 29 = .ok (.iadd, 1) := dk_96 (dk_at dksX1_remove_1 7 rfl rfl)
theorem dX1_remove_30 : decode cX1_remove 30 = .ok (.iconst 0, 1) := dk_3 (dk_at dksX1_remove_1 8 rfl rfl)
theorem dX1_remove_31 : decode cX1_remove 31 = .ok (.invokevirtual 267, 3) := dk_182 1 11 (dk_at dksX1_remove_1 9 rfl rfl)
theorem dX1_remove_34 : decode cX1_remove 34 = .ok (.aload_n 3, 1) := dk_45 (dk_at dksX1_remove_1 12 rfl rfl)
theorem dX1_remove_35 : decode cX1_remove 35 = .ok (.invokevirtual 210, 3) := dk_182 0 210 (dk_at dksX1_remove_1 13 rfl rfl)
theorem dX1_remove_38 : decode cX1_remove 38 = .ok (.ireturn, 1) := dk_172 (dk_at dksX1_remove_1 16 rfl rfl)
abbrev rm_X1_remove : Room := { frames := 11, cells := 15, slots := 218, locals := 270 }
def w_X1_remove (a0 : Option Nat) (a1 : Int32) (a2 : Int32) (h : AH) (P : Int32 → AH → Prop) (PX : String → AH → Prop) : Prop :=
  is_c h a0 [0] (
  w_X1_board a0 a1 h (fun y2 h2 =>
  is_c h2 a0 [0] (
  w_X1_shape a0 y2 a2 h2 (fun y9 h9 =>
  is_c h9 a0 [0] (
  w_X1_requireUnlocked a0 y2 y9 h9 (fun h18 =>
  is_c h18 a0 [0] (
  w_X1_requireRoom a0 h18 (fun h22 =>
  is_c h22 a0 [0] (
  w_X1_write a0 y2 (0 + a2) 0 h22 (fun h31 =>
  is_c h31 y2 [2] (
  w_X3_countSeen y2 h31 (fun y35 h35 =>
  P y35 h35))))) PX)) PX)) PX)) PX)
theorem met_X1_remove (l : Launch) (hlt : l.stackTraces = false) (G : GG) (h : AH) (a0 : Option Nat) (a1 : Int32) (a2 : Int32) (P : Int32 → AH → Prop) (PX : String → AH → Prop) (hw : w_X1_remove a0 a1 a2 h P PX) : cx_i l yX1_remove (ws_ yX1_remove cX1_remove 5 (Option.some Jvm.ClassFile.FieldType.int)) rm_X1_remove G h [vR a0, vI a1, vI a2] P PX := by
  refine j_startXi hlt [(0, vR a0), (1, vI a1), (2, vI a2)] (by decide) rfl rfl (fun x X eG er en hQ hT hex => ?_)
  subst eG
  refine j_aload_n X (pc := 0) 0 dX1_remove_0 rfl rfl ?_
  refine j_iload_n X (pc := 1) 1 dX1_remove_1 rfl rfl ?_
  obtain ⟨b9, c9, f9, hr9, ho9, hc9, hw⟩ := hw
  obtain rfl := List.mem_singleton.mp hc9
  refine j_callXq (j_runVX (n8 := 1) (As := [vI a1]) (rest := []) X (pc := 2) hr9 (met_X1_board (xl x) X.hl (xG x) h a0 a1 _ _ hw) ho9 (by decide) rfl q297 q299 qs0 q71 q300 (by decide +kernel) dX1_remove_2 rfl ⟨Nat.le_of_ble_eq_true rfl, Nat.le_of_ble_eq_true rfl⟩ (Nat.le_of_ble_eq_true rfl) ⟨Nat.le_of_ble_eq_true rfl, Nat.le_of_ble_eq_true rfl⟩) (fun E h9 hx => j_out X hT hex (Nat.le_of_ble_eq_true rfl) (Nat.le_of_ble_eq_true rfl) hx) (fun y2 h2 hw => ?_)
  refine j_astore_n X (pc := 5) [(3, vR y2), (0, vR a0), (1, vI a1), (2, vI a2)] dX1_remove_5 rfl (Nat.le_of_ble_eq_true rfl) rfl ?_
  refine j_aload_n X (pc := 6) 1 dX1_remove_6 rfl rfl ?_
  refine j_aload_n X (pc := 7) 0 dX1_remove_7 rfl rfl ?_
  refine j_iload_n X (pc := 8) 3 dX1_remove_8 rfl rfl ?_
  obtain ⟨b9, c9, f9, hr9, ho9, hc9, hw⟩ := hw
  obtain rfl := List.mem_singleton.mp hc9
  refine j_callXq (j_runVX (n8 := 2) (As := [vR y2, vI a2]) (rest := []) X (pc := 9) hr9 (met_X1_shape (xl x) X.hl (xG x) h2 a0 y2 a2 _ _ hw) ho9 (by decide) rfl q1075 q1077 qs9 q71 q1078 (by decide +kernel) dX1_remove_9 rfl ⟨Nat.le_of_ble_eq_true rfl, Nat.le_of_ble_eq_true rfl⟩ (Nat.le_of_ble_eq_true rfl) ⟨Nat.le_of_ble_eq_true rfl, Nat.le_of_ble_eq_true rfl⟩) (fun E h9 hx => j_out X hT hex (Nat.le_of_ble_eq_true rfl) (Nat.le_of_ble_eq_true rfl) hx) (fun y9 h9 hw => ?_)
  refine j_astore X (pc := 12) [(4, vR y9), (3, vR y2), (0, vR a0), (1, vI a1), (2, vI a2)] dX1_remove_12 (Nat.le_of_ble_eq_true rfl) rfl ?_
  refine j_aload_n X (pc := 14) 2 dX1_remove_14 rfl rfl ?_
  refine j_aload_n X (pc := 15) 1 dX1_remove_15 rfl rfl ?_
  refine j_aload X (pc := 16) 0 dX1_remove_16 rfl ?_
  obtain ⟨b9, c9, f9, hr9, ho9, hc9, hw⟩ := hw
  obtain rfl := List.mem_singleton.mp hc9
  refine j_callXv (j_runVX (n8 := 2) (As := [vR y2, vR y9]) (rest := []) X (pc := 18) hr9 (met_X1_requireUnlocked (xl x) X.hl (xG x) h9 a0 y2 y9 _ _ hw) ho9 (by decide) rfl q1085 q1087 qs10 q71 q1088 (by decide +kernel) dX1_remove_18 rfl ⟨Nat.le_of_ble_eq_true rfl, Nat.le_of_ble_eq_true rfl⟩ (Nat.le_of_ble_eq_true rfl) ⟨Nat.le_of_ble_eq_true rfl, Nat.le_of_ble_eq_true rfl⟩) (fun E h9 hx => j_out X hT hex (Nat.le_of_ble_eq_true rfl) (Nat.le_of_ble_eq_true rfl) hx) (fun h18 hw => ?_)
  refine j_aload_n X (pc := 21) 2 dX1_remove_21 rfl rfl ?_
  obtain ⟨b9, c9, f9, hr9, ho9, hc9, hw⟩ := hw
  obtain rfl := List.mem_singleton.mp hc9
  refine j_callXv (j_runVX (n8 := 0) (As := []) (rest := []) X (pc := 22) hr9 (met_X1_requireRoom (xl x) X.hl (xG x) h18 a0 _ _ hw) ho9 (by decide) rfl q400 q402 qs2 q71 q403 (by decide +kernel) dX1_remove_22 rfl ⟨Nat.le_of_ble_eq_true rfl, Nat.le_of_ble_eq_true rfl⟩ (Nat.le_of_ble_eq_true rfl) ⟨Nat.le_of_ble_eq_true rfl, Nat.le_of_ble_eq_true rfl⟩) (fun E h9 hx => j_out X hT hex (Nat.le_of_ble_eq_true rfl) (Nat.le_of_ble_eq_true rfl) hx) (fun h22 hw => ?_)
  refine j_aload_n X (pc := 25) 2 dX1_remove_25 rfl rfl ?_
  refine j_aload_n X (pc := 26) 1 dX1_remove_26 rfl rfl ?_
  refine j_iconst X (pc := 27) 0 dX1_remove_27 (by decide) ?_
  refine j_iload_n X (pc := 28) 4 dX1_remove_28 rfl rfl ?_
  refine j_iadd X (pc := 29) dX1_remove_29 ?_
  refine j_iconst X (pc := 30) 0 dX1_remove_30 (by decide) ?_
  obtain ⟨b9, c9, f9, hr9, ho9, hc9, hw⟩ := hw
  obtain rfl := List.mem_singleton.mp hc9
  refine j_callv (j_runV (n8 := 3) (As := [vR y2, vI (0 + a2), vI 0]) (rest := []) X (pc := 31) hr9 (met_X1_write (xl x) X.hl (xG x) h22 a0 y2 (0 + a2) 0 _ hw) ho9 (by decide) rfl q1189 q1191 qs12 q71 q1192 (by decide +kernel) dX1_remove_31 rfl ⟨Nat.le_of_ble_eq_true rfl, Nat.le_of_ble_eq_true rfl⟩ (Nat.le_of_ble_eq_true rfl) ⟨Nat.le_of_ble_eq_true rfl, Nat.le_of_ble_eq_true rfl⟩) (fun h31 hw => ?_)
  refine j_aload_n X (pc := 34) 1 dX1_remove_34 rfl rfl ?_
  obtain ⟨b9, c9, f9, hr9, ho9, hc9, hw⟩ := hw
  obtain rfl := List.mem_singleton.mp hc9
  refine j_calli (j_runV (n8 := 0) (As := []) (rest := []) X (pc := 35) hr9 (met_X3_countSeen (xl x) X.hl (xG x) h31 y2 _ hw) ho9 (by decide) rfl q404 q405 q406 q76 q407 (by decide +kernel) dX1_remove_35 rfl ⟨Nat.le_of_ble_eq_true rfl, Nat.le_of_ble_eq_true rfl⟩ (Nat.le_of_ble_eq_true rfl) ⟨Nat.le_of_ble_eq_true rfl, Nat.le_of_ble_eq_true rfl⟩) (fun y35 h35 hw => ?_)
  exact j_iret X (pc := 38) hQ er (Nat.le_of_ble_eq_true rfl) (Nat.le_of_ble_eq_true rfl) dX1_remove_38 hw
abbrev cX0_remove : ByteArray := method_8_code
def yX0_remove : MethodName := ⟨RX0, "remove", "(LPlugboard;II[J)I"⟩
def dkwX0_remove_1 : List UInt8 := [172, 58, 4, 7, 172, 3, 172]
abbrev dktX0_remove_1 : List UInt8 := dkwX0_remove_1 ++ []
def dkwX0_remove_0 : List UInt8 := [45, 3, 42, 27, 28, 182, 0, 36, 133, 80, 167, 0, 19, 58, 4, 4, 172, 58, 4, 5, 172, 58, 4, 6]
abbrev dktX0_remove_0 : List UInt8 := dkwX0_remove_0 ++ dktX0_remove_1
theorem dksX0_remove_0 : cX0_remove.data.toList.drop 0 = dktX0_remove_0 := by decide +kernel
theorem dksX0_remove_1 : cX0_remove.data.toList.drop 24 = dktX0_remove_1 := dk_seg dksX0_remove_0 24 rfl rfl
theorem dX0_remove_0 : decode cX0_remove 0 = .ok (.aload_n 3, 1) := dk_45 (dk_at dksX0_remove_0 0 rfl rfl)
theorem dX0_remove_1 : decode cX0_remove 1 = .ok (.iconst 0, 1) := dk_3 (dk_at dksX0_remove_0 1 rfl rfl)
theorem dX0_remove_2 : decode cX0_remove 2 = .ok (.aload_n 0, 1) := dk_42 (dk_at dksX0_remove_0 2 rfl rfl)
theorem dX0_remove_3 : decode cX0_remove 3 = .ok (.iload_n 1, 1) := dk_27 (dk_at dksX0_remove_0 3 rfl rfl)
theorem dX0_remove_4 : decode cX0_remove 4 = .ok (.iload_n 2, 1) := dk_28 (dk_at dksX0_remove_0 4 rfl rfl)
theorem dX0_remove_5 : decode cX0_remove 5 = .ok (.invokevirtual 36, 3) := dk_182 0 36 (dk_at dksX0_remove_0 5 rfl rfl)
theorem dX0_remove_8 : decode cX0_remove 8 = .ok (.i2l, 1) := dk_133 (dk_at dksX0_remove_0 8 rfl rfl)
theorem dX0_remove_9 : decode cX0_remove 9 = .ok (.lastore, 1) := dk_80 (dk_at dksX0_remove_0 9 rfl rfl)
theorem dX0_remove_10 : decode cX0_remove 10 = .ok (.goto 19, 3) := dk_167 0 19 (dk_at dksX0_remove_0 10 rfl rfl)
theorem dX0_remove_13 : decode cX0_remove 13 = .ok (.astore 4, 2) := dk_58 4 (dk_at dksX0_remove_0 13 rfl rfl)
theorem dX0_remove_15 : decode cX0_remove 15 = .ok (.iconst 1, 1) := dk_4 (dk_at dksX0_remove_0 15 rfl rfl)
theorem dX0_remove_16 : decode cX0_remove 16 = .ok (.ireturn, 1) := dk_172 (dk_at dksX0_remove_0 16 rfl rfl)
theorem dX0_remove_17 : decode cX0_remove 17 = .ok (.astore 4, 2) := dk_58 4 (dk_at dksX0_remove_0 17 rfl rfl)
theorem dX0_remove_19 : decode cX0_remove 19 = .ok (.iconst 2, 1) := dk_5 (dk_at dksX0_remove_0 19 rfl rfl)
theorem dX0_remove_20 : decode cX0_remove 20 = .ok (.ireturn, 1) := dk_172 (dk_at dksX0_remove_0 20 rfl rfl)
theorem dX0_remove_21 : decode cX0_remove 21 = .ok (.astore 4, 2) := dk_58 4 (dk_at dksX0_remove_0 21 rfl rfl)
theorem dX0_remove_23 : decode cX0_remove 23 = .ok (.iconst 3, 1) := dk_6 (dk_at dksX0_remove_0 23 rfl rfl)
theorem dX0_remove_24 : decode cX0_remove 24 = .ok (.ireturn, 1) := dk_172 (dk_at dksX0_remove_1 0 rfl rfl)
theorem dX0_remove_25 : decode cX0_remove 25 = .ok (.astore 4, 2) := dk_58 4 (dk_at dksX0_remove_1 1 rfl rfl)
theorem dX0_remove_27 : decode cX0_remove 27 = .ok (.iconst 4, 1) := dk_7 (dk_at dksX0_remove_1 3 rfl rfl)
theorem dX0_remove_28 : decode cX0_remove 28 = .ok (.ireturn, 1) := dk_172 (dk_at dksX0_remove_1 4 rfl rfl)
theorem dX0_remove_29 : decode cX0_remove 29 = .ok (.iconst 0, 1) := dk_3 (dk_at dksX0_remove_1 5 rfl rfl)
theorem dX0_remove_30 : decode cX0_remove 30 = .ok (.ireturn, 1) := dk_172 (dk_at dksX0_remove_1 6 rfl rfl)
theorem q1225 : (Jvm.Cond.methodLink "PlugboardLaw" (36 : Nat) ({ cls := "Plugboard", name := "remove", desc := "(II)I" } : Jvm.MethodName)) ∈ lw_all := lw_g (lw_at lw_m5 195 rfl) rfl
theorem q1226 : (Jvm.Cond.instanceMethod ({ cls := "Plugboard", name := "remove", desc := "(II)I" } : Jvm.MethodName)) ∈ lw_all := lw_g (lw_at lw_m5 196 rfl) rfl
theorem q1227 : (Jvm.Cond.selects "Plugboard" ({ cls := "Plugboard", name := "remove", desc := "(II)I" } : Jvm.MethodName) ({ cls := "Plugboard", name := "remove", desc := "(II)I" } : Jvm.MethodName)) ∈ lw_all := lw_g (lw_at lw_m5 197 rfl) rfl
theorem q1228 : (Jvm.Cond.code ({ cls := "Plugboard", name := "remove", desc := "(II)I" } : Jvm.MethodName) prog_1_method_25_code (5 : Nat) (Option.some Jvm.ClassFile.FieldType.int)) ∈ lw_all := lw_g (lw_at lw_m5 198 rfl) rfl
abbrev rm_X0_remove : Room := { frames := 12, cells := 15, slots := 218, locals := 294 }
def w_X0_remove (a0 : Option Nat) (a1 : Int32) (a2 : Int32) (a3 : Option Nat) (h : AH) (P : Int32 → AH → Prop) : Prop :=
  is_c h a0 [0] (
  w_X1_remove a0 a1 a2 h (fun y5 h5 =>
  s_L h5 a3 0 (Int32.toInt64 y5) fun h9 =>
  P 0 h9)
    (fun E9 h9 => (E9 = "java/lang/IllegalArgumentException" ∧ ∀ q9 : Nat,
    P 1 h9) ∨
    (E9 = "java/util/NoSuchElementException" ∧ ∀ q9 : Nat,
    P 2 h9) ∨
    (E9 = "java/lang/UnsupportedOperationException" ∧ ∀ q9 : Nat,
    P 3 h9) ∨
    (E9 = "java/lang/IllegalStateException" ∧ ∀ q9 : Nat,
    P 4 h9)))
theorem met_X0_remove (l : Launch) (hlt : l.stackTraces = false) (G : GG) (h : AH) (a0 : Option Nat) (a1 : Int32) (a2 : Int32) (a3 : Option Nat) (P : Int32 → AH → Prop) (hw : w_X0_remove a0 a1 a2 a3 h P) : ct_i l yX0_remove (wsW_ yX0_remove cX0_remove 5 (Option.some Jvm.ClassFile.FieldType.int) [((0 : Nat), (10 : Nat), (13 : Nat), (13 : Nat)), ((0 : Nat), (10 : Nat), (17 : Nat), (21 : Nat)), ((0 : Nat), (10 : Nat), (21 : Nat), (23 : Nat)), ((0 : Nat), (10 : Nat), (25 : Nat), (15 : Nat))]) rm_X0_remove G h [vR a0, vI a1, vI a2, vR a3] P := by
  refine j_startWi hlt [(0, vR a0), (1, vI a1), (2, vI a2), (3, vR a3)] (by decide) rfl rfl (fun x X eG er en hQ hex => ?_)
  subst eG
  refine j_aload_n X (pc := 0) 3 dX0_remove_0 rfl rfl ?_
  refine j_iconst X (pc := 1) 0 dX0_remove_1 (by decide) ?_
  refine j_aload_n X (pc := 2) 0 dX0_remove_2 rfl rfl ?_
  refine j_iload_n X (pc := 3) 1 dX0_remove_3 rfl rfl ?_
  refine j_iload_n X (pc := 4) 2 dX0_remove_4 rfl rfl ?_
  obtain ⟨b9, c9, f9, hr9, ho9, hc9, hw⟩ := hw
  obtain rfl := List.mem_singleton.mp hc9
  refine j_callXi (j_runVX (n8 := 2) (As := [vI a1, vI a2]) (rest := [vI 0, vR a3]) X (pc := 5) hr9 (met_X1_remove (xl x) X.hl (xG x) h a0 a1 a2 _ _ hw) ho9 (by decide) rfl q1225 q1226 q1227 q71 q1228 (by decide +kernel) dX0_remove_5 rfl ⟨Nat.le_of_ble_eq_true rfl, Nat.le_of_ble_eq_true rfl⟩ (Nat.le_of_ble_eq_true rfl) ⟨Nat.le_of_ble_eq_true rfl, Nat.le_of_ble_eq_true rfl⟩) ?_ (fun y5 h5 hw => ?_)
  · intro E9 h9 hx
    rcases hx with ⟨rfl, hw⟩ | ⟨rfl, hw⟩ | ⟨rfl, hw⟩ | ⟨rfl, hw⟩
    · refine j_catch X (pc := 5) "java/lang/IllegalArgumentException" hex [] [⟨0, 10, 17, 21⟩, ⟨0, 10, 21, 23⟩, ⟨0, 10, 25, 15⟩] ⟨0, 10, 13, 13⟩ rfl (by intro y hy; cases hy) (by decide) (by decide) q291 q312 (fun q9 => ?_)
      have hw := hw q9
      refine j_astore X (pc := 13) [(4, vR (some q9)), (0, vR a0), (1, vI a1), (2, vI a2), (3, vR a3)] dX0_remove_13 (Nat.le_of_ble_eq_true rfl) rfl ?_
      refine j_iconst X (pc := 15) 1 dX0_remove_15 (by decide) ?_
      exact j_iret X (pc := 16) hQ er (Nat.le_of_ble_eq_true rfl) (Nat.le_of_ble_eq_true rfl) dX0_remove_16 hw
    · refine j_catch X (pc := 5) "java/util/NoSuchElementException" hex [⟨0, 10, 13, 13⟩] [⟨0, 10, 21, 23⟩, ⟨0, 10, 25, 15⟩] ⟨0, 10, 17, 21⟩ rfl (by intro y hy; simp only [List.mem_cons, List.not_mem_nil, or_false] at hy; subst hy; exact Or.inr ⟨by decide, "java/lang/IllegalArgumentException", q291, by decide +kernel⟩) (by decide) (by decide) q1068 q537 (fun q9 => ?_)
      have hw := hw q9
      refine j_astore X (pc := 17) [(4, vR (some q9)), (0, vR a0), (1, vI a1), (2, vI a2), (3, vR a3)] dX0_remove_17 (Nat.le_of_ble_eq_true rfl) rfl ?_
      refine j_iconst X (pc := 19) 2 dX0_remove_19 (by decide) ?_
      exact j_iret X (pc := 20) hQ er (Nat.le_of_ble_eq_true rfl) (Nat.le_of_ble_eq_true rfl) dX0_remove_20 hw
    · refine j_catch X (pc := 5) "java/lang/UnsupportedOperationException" hex [⟨0, 10, 13, 13⟩, ⟨0, 10, 17, 21⟩] [⟨0, 10, 25, 15⟩] ⟨0, 10, 21, 23⟩ rfl (by intro y hy; simp only [List.mem_cons, List.not_mem_nil, or_false] at hy; rcases hy with rfl | rfl <;> first | exact Or.inr ⟨by decide, "java/lang/IllegalArgumentException", q291, by decide +kernel⟩ | exact Or.inr ⟨by decide, "java/util/NoSuchElementException", q1068, by decide +kernel⟩) (by decide) (by decide) q1069 q1102 (fun q9 => ?_)
      have hw := hw q9
      refine j_astore X (pc := 21) [(4, vR (some q9)), (0, vR a0), (1, vI a1), (2, vI a2), (3, vR a3)] dX0_remove_21 (Nat.le_of_ble_eq_true rfl) rfl ?_
      refine j_iconst X (pc := 23) 3 dX0_remove_23 (by decide) ?_
      exact j_iret X (pc := 24) hQ er (Nat.le_of_ble_eq_true rfl) (Nat.le_of_ble_eq_true rfl) dX0_remove_24 hw
    · refine j_catch X (pc := 5) "java/lang/IllegalStateException" hex [⟨0, 10, 13, 13⟩, ⟨0, 10, 17, 21⟩, ⟨0, 10, 21, 23⟩] [] ⟨0, 10, 25, 15⟩ rfl (by intro y hy; simp only [List.mem_cons, List.not_mem_nil, or_false] at hy; rcases hy with rfl | rfl | rfl <;> first | exact Or.inr ⟨by decide, "java/lang/IllegalArgumentException", q291, by decide +kernel⟩ | exact Or.inr ⟨by decide, "java/util/NoSuchElementException", q1068, by decide +kernel⟩ | exact Or.inr ⟨by decide, "java/lang/UnsupportedOperationException", q1069, by decide +kernel⟩) (by decide) (by decide) q292 q387 (fun q9 => ?_)
      have hw := hw q9
      refine j_astore X (pc := 25) [(4, vR (some q9)), (0, vR a0), (1, vI a1), (2, vI a2), (3, vR a3)] dX0_remove_25 (Nat.le_of_ble_eq_true rfl) rfl ?_
      refine j_iconst X (pc := 27) 4 dX0_remove_27 (by decide) ?_
      exact j_iret X (pc := 28) hQ er (Nat.le_of_ble_eq_true rfl) (Nat.le_of_ble_eq_true rfl) dX0_remove_28 hw
  refine j_i2l X (pc := 8) dX0_remove_8 ?_
  refine j_last X (pc := 9) dX0_remove_9 hw (fun h9 hw => ?_)
  refine j_goto X (pc := 10) 29 dX0_remove_10 (by decide) ?_
  refine j_iconst X (pc := 29) 0 dX0_remove_29 (by decide) ?_
  exact j_iret X (pc := 30) hQ er (Nat.le_of_ble_eq_true rfl) (Nat.le_of_ble_eq_true rfl) dX0_remove_30 hw
