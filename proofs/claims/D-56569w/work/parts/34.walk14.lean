/-! walks (printed): Plugboard, PlugboardLaw, PlugboardModel -/
set_option maxRecDepth 100000
abbrev cX1_top : ByteArray := prog_1_method_56_code
def yX1_top : MethodName := ⟨RX1, "top", "(LPlugboard$Board;II)LPlugboard$Shape;"⟩
def dkwX1_top_4 : List UInt8 := [25, 4, 58, 4, 132, 5, 1, 167, 255, 162, 25, 4, 176]
abbrev dktX1_top_4 : List UInt8 := dkwX1_top_4 ++ []
def dkwX1_top_3 : List UInt8 := [153, 0, 24, 25, 4, 198, 0, 14, 43, 25, 4, 25, 6, 182, 1, 113, 153, 0, 8, 25, 6, 167, 0, 5]
abbrev dktX1_top_3 : List UInt8 := dkwX1_top_3 ++ dktX1_top_4
def dkwX1_top_2 : List UInt8 := [154, 0, 18, 43, 25, 6, 28, 29, 182, 1, 109, 153, 0, 7, 4, 167, 0, 4, 3, 54, 7, 21, 7]
abbrev dktX1_top_2 : List UInt8 := dkwX1_top_2 ++ dktX1_top_3
def dkwX1_top_1 : List UInt8 := [182, 0, 121, 192, 0, 124, 58, 6, 43, 21, 5, 182, 0, 113, 153, 0, 26, 25, 6, 182, 1, 106]
abbrev dktX1_top_1 : List UInt8 := dkwX1_top_1 ++ dktX1_top_2
def dkwX1_top_0 : List UInt8 := [1, 58, 4, 3, 54, 5, 21, 5, 42, 180, 0, 55, 182, 0, 126, 162, 0, 88, 42, 180, 0, 55, 21, 5]
abbrev dktX1_top_0 : List UInt8 := dkwX1_top_0 ++ dktX1_top_1
theorem dksX1_top_0 : cX1_top.data.toList.drop 0 = dktX1_top_0 := by decide +kernel
theorem dksX1_top_1 : cX1_top.data.toList.drop 24 = dktX1_top_1 := dk_seg dksX1_top_0 24 rfl rfl
theorem dksX1_top_2 : cX1_top.data.toList.drop 46 = dktX1_top_2 := dk_seg dksX1_top_1 22 rfl rfl
theorem dksX1_top_3 : cX1_top.data.toList.drop 69 = dktX1_top_3 := dk_seg dksX1_top_2 23 rfl rfl
theorem dksX1_top_4 : cX1_top.data.toList.drop 93 = dktX1_top_4 := dk_seg dksX1_top_3 24 rfl rfl
theorem dX1_top_0 : decode cX1_top 0 = .ok (.aconst_null, 1) := dk_1 (dk_at dksX1_top_0 0 rfl rfl)
theorem dX1_top_1 : decode cX1_top 1 = .ok (.astore 4, 2) := dk_58 4 (dk_at dksX1_top_0 1 rfl rfl)
theorem dX1_top_3 : decode cX1_top 3 = .ok (.iconst 0, 1) := dk_3 (dk_at dksX1_top_0 3 rfl rfl)
theorem dX1_top_4 : decode cX1_top 4 = .ok (.istore 5, 2) := dk_54 5 (dk_at dksX1_top_0 4 rfl rfl)
theorem dX1_top_6 : decode cX1_top 6 = .ok (.iload 5, 2) := dk_21 5 (dk_at dksX1_top_0 6 rfl rfl)
theorem dX1_top_8 : decode cX1_top 8 = .ok (.aload_n 0, 1) := dk_42 (dk_at dksX1_top_0 8 rfl rfl)
theorem dX1_top_9 : decode cX1_top 9 = .ok (.getfield 55, 3) := dk_180 0 55 (dk_at dksX1_top_0 9 rfl rfl)
theorem dX1_top_12 : decode cX1_top 12 = .ok (.invokevirtual 126, 3) := dk_182 0 126 (dk_at dksX1_top_0 12 rfl rfl)
theorem dX1_top_15 : decode cX1_top 15 = .ok (.if_icmp .ge 88, 3) := dk_162 0 88 (dk_at dksX1_top_0 15 rfl rfl)
theorem dX1_top_18 : decode cX1_top 18 = .ok (.aload_n 0, 1) := dk_42 (dk_at dksX1_top_0 18 rfl rfl)
theorem dX1_top_19 : decode cX1_top 19 = .ok (.getfield 55, 3) := dk_180 0 55 (dk_at dksX1_top_0 19 rfl rfl)
theorem dX1_top_22 : decode cX1_top 22 = .ok (.iload 5, 2) := dk_21 5 (dk_at dksX1_top_0 22 rfl rfl)
theorem dX1_top_24 : decode cX1_top 24 = .ok (.invokevirtual 121, 3) := dk_182 0 121 (dk_at dksX1_top_1 0 rfl rfl)
theorem dX1_top_27 : decode cX1_top 27 = .ok (.checkcast 124, 3) := dk_192 0 124 (dk_at dksX1_top_1 3 rfl rfl)
theorem dX1_top_30 : decode cX1_top 30 = .ok (.astore 6, 2) := dk_58 6 (dk_at dksX1_top_1 6 rfl rfl)
theorem dX1_top_32 : decode cX1_top 32 = .ok (.aload_n 1, 1) := dk_43 (dk_at dksX1_top_1 8 rfl rfl)
theorem dX1_top_33 : decode cX1_top 33 = .ok (.iload 5, 2) := dk_21 5 (dk_at dksX1_top_1 9 rfl rfl)
theorem dX1_top_35 : decode cX1_top 35 = .ok (.invokevirtual 113, 3) := dk_182 0 113 (dk_at dksX1_top_1 11 rfl rfl)
theorem dX1_top_38 : decode cX1_top 38 = .ok (.ifCond .eq 26, 3) := dk_153 0 26 (dk_at dksX1_top_1 14 rfl rfl)
theorem dX1_top_41 : decode cX1_top 41 = .ok (.aload 6, 2) := dk_25 6 (dk_at dksX1_top_1 17 rfl rfl)
theorem dX1_top_43 : decode cX1_top 43 = .ok (.invokevirtual 362, 3) := dk_182 1 106 (dk_at dksX1_top_1 19 rfl rfl)
theorem dX1_top_46 : decode cX1_top 46 = .ok (.ifCond .ne 18, 3) := dk_154 0 18 (dk_at dksX1_top_2 0 rfl rfl)
theorem dX1_top_49 : decode cX1_top 49 = .ok (.aload_n 1, 1) := dk_43 (dk_at dksX1_top_2 3 rfl rfl)
theorem dX1_top_50 : decode cX1_top 50 = .ok (.aload 6, 2) := dk_25 6 (dk_at dksX1_top_2 4 rfl rfl)
theorem dX1_top_52 : decode cX1_top 52 = .ok (.iload_n 2, 1) := dk_28 (dk_at dksX1_top_2 6 rfl rfl)
theorem dX1_top_53 : decode cX1_top 53 = .ok (.iload_n 3, 1) := dk_29 (dk_at dksX1_top_2 7 rfl rfl)
theorem dX1_top_54 : decode cX1_top 54 = .ok (.invokevirtual 365, 3) := dk_182 1 109 (dk_at dksX1_top_2 8 rfl rfl)
theorem dX1_top_57 : decode cX1_top 57 = .ok (.ifCond .eq 7, 3) := dk_153 0 7 (dk_at dksX1_top_2 11 rfl rfl)
theorem dX1_top_60 : decode cX1_top 60 = .ok (.iconst 1, 1) := dk_4 (dk_at dksX1_top_2 14 rfl rfl)
theorem dX1_top_61 : decode cX1_top 61 = .ok (.goto 4, 3) := dk_167 0 4 (dk_at dksX1_top_2 15 rfl rfl)
theorem dX1_top_64 : decode cX1_top 64 = .ok (.iconst 0, 1) := dk_3 (dk_at dksX1_top_2 18 rfl rfl)
theorem dX1_top_65 : decode cX1_top 65 = .ok (.istore 7, 2) := dk_54 7 (dk_at dksX1_top_2 19 rfl rfl)
theorem dX1_top_67 : decode cX1_top 67 = .ok (.iload 7, 2) := dk_21 7 (dk_at dksX1_top_2 21 rfl rfl)
theorem dX1_top_69 : decode cX1_top 69 = .ok (.ifCond .eq 24, 3) := dk_153 0 24 (dk_at dksX1_top_3 0 rfl rfl)
theorem dX1_top_72 : decode cX1_top 72 = .ok (.aload 4, 2) := dk_25 4 (dk_at dksX1_top_3 3 rfl rfl)
theorem dX1_top_74 : decode cX1_top 74 = .ok (.ifnull 14, 3) := dk_198 0 14 (dk_at dksX1_top_3 5 rfl rfl)
theorem dX1_top_77 : decode cX1_top 77 = .ok (.aload_n 1, 1) := dk_43 (dk_at dksX1_top_3 8 rfl rfl)
theorem dX1_top_78 : decode cX1_top 78 = .ok (.aload 4, 2) := dk_25 4 (dk_at dksX1_top_3 9 rfl rfl)
theorem dX1_top_80 : decode cX1_top 80 = .ok (.aload 6, 2) := dk_25 6 (dk_at dksX1_top_3 11 rfl rfl)
theorem dX1_top_82 : decode cX1_top 82 = .ok (.invokevirtual 369, 3) := dk_182 1 113 (dk_at dksX1_top_3 13 rfl rfl)
theorem dX1_top_85 : decode cX1_top 85 = .ok (.ifCond .eq 8, 3) := dk_153 0 8 (dk_at dksX1_top_3 16 rfl rfl)
theorem dX1_top_88 : decode cX1_top 88 = .ok (.aload 6, 2) := dk_25 6 (dk_at dksX1_top_3 19 rfl rfl)
theorem dX1_top_90 : decode cX1_top 90 = .ok (.goto 5, 3) := dk_167 0 5 (dk_at dksX1_top_3 21 rfl rfl)
theorem dX1_top_93 : decode cX1_top 93 = .ok (.aload 4, 2) := dk_25 4 (dk_at dksX1_top_4 0 rfl rfl)
theorem dX1_top_95 : decode cX1_top 95 = .ok (.astore 4, 2) := dk_58 4 (dk_at dksX1_top_4 2 rfl rfl)
theorem dX1_top_97 : decode cX1_top 97 = .ok (.iinc 5 1, 3) := dk_132 5 1 (dk_at dksX1_top_4 4 rfl rfl)
theorem dX1_top_100 : decode cX1_top 100 = .ok (.goto (-94), 3) := dk_167 255 162 (dk_at dksX1_top_4 7 rfl rfl)
theorem dX1_top_103 : decode cX1_top 103 = .ok (.aload 4, 2) := dk_25 4 (dk_at dksX1_top_4 10 rfl rfl)
theorem dX1_top_105 : decode cX1_top 105 = .ok (.areturn, 1) := dk_176 (dk_at dksX1_top_4 12 rfl rfl)
theorem q1495 : (Jvm.Cond.methodLink "Plugboard" (362 : Nat) ({ cls := "Plugboard$Shape", name := "isFrame", desc := "()Z" } : Jvm.MethodName)) ∈ lw_all := lw_g (lw_at lw_m6 225 rfl) rfl
theorem q1496 : (Jvm.Cond.methodLink "Plugboard" (365 : Nat) ({ cls := "Plugboard$Board", name := "covers", desc := "(LPlugboard$Shape;II)Z" } : Jvm.MethodName)) ∈ lw_all := lw_g (lw_at lw_m6 226 rfl) rfl
theorem q1497 : (Jvm.Cond.methodLinkNest "Plugboard" (369 : Nat) ({ cls := "Plugboard$Board", name := "isBelow", desc := "(LPlugboard$Shape;LPlugboard$Shape;)Z" } : Jvm.MethodName) "Plugboard") ∈ lw_tbl := lw_at lw_m6 227 rfl
abbrev rm_X1_top : Room := { frames := 3, cells := 0, slots := 0, locals := 64 }
def w_X1_top_65 (P : Option Nat → AH → Prop) (Z6 : Option Nat → Int32 → AH → Prop) (x0 : Option Nat) (x1 : Option Nat) (x2 : Int32) (x3 : Int32) (x4 : Option Nat) (x5 : Int32) (x6 : Option Nat) (t0 : Int32) (h : AH) : Prop :=
  ((t0 = 0 →
    Z6 x4 (x5 + 1) h) ∧
   (¬ t0 = 0 →
    ((x4 = (none : Option Nat) →
      Z6 x6 (x5 + 1) h) ∧
     (¬ x4 = (none : Option Nat) →
      is_c h x1 [2] (
      w_X3_isBelow x1 x4 x6 h (fun y82 h82 =>
      ((y82 = 0 →
        Z6 x4 (x5 + 1) h82) ∧
       (¬ y82 = 0 →
        Z6 x6 (x5 + 1) h82))))))))
def w_X1_top_6 (P : Option Nat → AH → Prop) (x0 : Option Nat) (x1 : Option Nat) (x2 : Int32) (x3 : Int32) (x4 : Option Nat) (x5 : Int32) (h : AH) : Prop :=
  ∀ Z6 : Option Nat → Int32 → AH → Prop, (∀ x4 x5 h, (
      g_q h x0 0 0 fun y9 =>
      is_c h y9 [15] (
      w_J2_size y9 h (fun y12 h12 =>
      ((y12 ≤ x5 →
        P x4 h12) ∧
       (¬ y12 ≤ x5 →
        g_q h12 x0 0 0 fun y19 =>
        is_c h12 y19 [15] (
        w_J2_get y19 x5 h12 (fun y24 h24 =>
        is_c h24 y24 [7, 8] (
        is_c h24 x1 [2] (
        w_X3_sees x1 x5 h24 (fun y35 h35 =>
        ((y35 = 0 →
          w_X1_top_65 P Z6 x0 x1 x2 x3 x4 x5 y24 0 h35) ∧
         (¬ y35 = 0 →
          c_fr h35 y24 fun y43 =>
          ((y43 = 0 →
            is_c h35 x1 [2] (
            w_X3_covers_2 x1 y24 x2 x3 h35 (fun y54 h54 =>
            ((y54 = 0 →
              w_X1_top_65 P Z6 x0 x1 x2 x3 x4 x5 y24 0 h54) ∧
             (¬ y54 = 0 →
              w_X1_top_65 P Z6 x0 x1 x2 x3 x4 x5 y24 1 h54))))) ∧
           (¬ y43 = 0 →
            w_X1_top_65 P Z6 x0 x1 x2 x3 x4 x5 y24 0 h35))))))))))))))
      → Z6 x4 x5 h) → Z6 x4 x5 h
def w_X1_top (a0 : Option Nat) (a1 : Option Nat) (a2 : Int32) (a3 : Int32) (h : AH) (P : Option Nat → AH → Prop) : Prop :=
  w_X1_top_6 P a0 a1 a2 a3 none 0 h
theorem wk_X1_top_65 {x : CX} (X : Ok x cX1_top RX1 rm_X1_top 8) (er : xrt x = (Option.some (Jvm.ClassFile.FieldType.object "Plugboard$Shape"))) (en : xnm x = yX1_top.name) {P : Option Nat → AH → Prop} (hQ : xr_q x P) (Z6 : Option Nat → Int32 → AH → Prop) (x0 : Option Nat) (x1 : Option Nat) (x2 : Int32) (x3 : Int32) (x4 : Option Nat) (x5 : Int32) (x6 : Option Nat) (t0 : Int32) (h : AH) (hZ6 : ∀ x4 x5 h, Z6 x4 x5 h → J x h 0 0 6 [(0, vR x0), (1, vR x1), (2, vI x2), (3, vI x3), (4, vR x4), (5, vI x5)] []) (hw : w_X1_top_65 P Z6 x0 x1 x2 x3 x4 x5 x6 t0 h) : J x h 0 0 65 [(0, vR x0), (1, vR x1), (2, vI x2), (3, vI x3), (4, vR x4), (5, vI x5), (6, vR x6)] [vI t0] := by
  refine j_istore X (pc := 65) [(7, vI t0), (0, vR x0), (1, vR x1), (2, vI x2), (3, vI x3), (4, vR x4), (5, vI x5), (6, vR x6)] dX1_top_65 (Nat.le_of_ble_eq_true rfl) rfl ?_
  refine j_iload X (pc := 67) 0 dX1_top_67 rfl ?_
  refine j_if_eq X (pc := 69) 93 dX1_top_69 (by decide) hw (fun hw => ?_) (fun hw => ?_)
  · refine j_aload X (pc := 93) 5 dX1_top_93 rfl ?_
    refine j_astore X (pc := 95) [(4, vR x4), (7, vI t0), (0, vR x0), (1, vR x1), (2, vI x2), (3, vI x3), (5, vI x5), (6, vR x6)] dX1_top_95 (Nat.le_of_ble_eq_true rfl) rfl ?_
    refine j_iinc X (pc := 97) 6 (x5 + 1) [(5, vI (x5 + 1)), (4, vR x4), (7, vI t0), (0, vR x0), (1, vR x1), (2, vI x2), (3, vI x3), (6, vR x6)] dX1_top_97 rfl rfl (Nat.le_of_ble_eq_true rfl) rfl ?_
    refine j_goto X (pc := 100) 6 dX1_top_100 (by decide) ?_
    refine j_lv [(0, vR x0), (1, vR x1), (2, vI x2), (3, vI x3), (4, vR x4), (5, vI (x5 + 1))] [3, 4, 5, 6, 1, 0] rfl ?_
    refine j_cs (u' := 0) (v' := 0) (Nat.le_of_ble_eq_true rfl) (Nat.le_of_ble_eq_true rfl) ?_
    exact hZ6 x4 (x5 + 1) h hw
  · refine j_aload X (pc := 72) 5 dX1_top_72 rfl ?_
    refine j_ifnull X (pc := 74) 88 dX1_top_74 (by decide) hw (fun hw => ?_) (fun hw => ?_)
    · refine j_aload X (pc := 88) 7 dX1_top_88 rfl ?_
      refine j_goto X (pc := 90) 95 dX1_top_90 (by decide) ?_
      refine j_astore X (pc := 95) [(4, vR x6), (7, vI t0), (0, vR x0), (1, vR x1), (2, vI x2), (3, vI x3), (5, vI x5), (6, vR x6)] dX1_top_95 (Nat.le_of_ble_eq_true rfl) rfl ?_
      refine j_iinc X (pc := 97) 6 (x5 + 1) [(5, vI (x5 + 1)), (4, vR x6), (7, vI t0), (0, vR x0), (1, vR x1), (2, vI x2), (3, vI x3), (6, vR x6)] dX1_top_97 rfl rfl (Nat.le_of_ble_eq_true rfl) rfl ?_
      refine j_goto X (pc := 100) 6 dX1_top_100 (by decide) ?_
      refine j_lv [(0, vR x0), (1, vR x1), (2, vI x2), (3, vI x3), (4, vR x6), (5, vI (x5 + 1))] [3, 4, 5, 6, 1, 0] rfl ?_
      refine j_cs (u' := 0) (v' := 0) (Nat.le_of_ble_eq_true rfl) (Nat.le_of_ble_eq_true rfl) ?_
      exact hZ6 x6 (x5 + 1) h hw
    · refine j_aload_n X (pc := 77) 2 dX1_top_77 rfl rfl ?_
      refine j_aload X (pc := 78) 5 dX1_top_78 rfl ?_
      refine j_aload X (pc := 80) 7 dX1_top_80 rfl ?_
      obtain ⟨b9, c9, f9, hr9, ho9, hc9, hw⟩ := hw
      obtain rfl := List.mem_singleton.mp hc9
      refine j_calli (j_runVN (n8 := 2) (As := [vR x4, vR x6]) (rest := []) X (pc := 82) hr9 (met_X3_isBelow (xl x) X.hl (xG x) h x1 x4 x6 _ hw) ho9 (by decide) rfl q1497 q1201 qs13 q76 q1202 (by decide +kernel) dX1_top_82 rfl ⟨Nat.le_of_ble_eq_true rfl, Nat.le_of_ble_eq_true rfl⟩ (Nat.le_of_ble_eq_true rfl) ⟨Nat.le_of_ble_eq_true rfl, Nat.le_of_ble_eq_true rfl⟩) (fun y82 h82 hw => ?_)
      refine j_if_eq X (pc := 85) 93 dX1_top_85 (by decide) hw (fun hw => ?_) (fun hw => ?_)
      · refine j_aload X (pc := 93) 5 dX1_top_93 rfl ?_
        refine j_astore X (pc := 95) [(4, vR x4), (7, vI t0), (0, vR x0), (1, vR x1), (2, vI x2), (3, vI x3), (5, vI x5), (6, vR x6)] dX1_top_95 (Nat.le_of_ble_eq_true rfl) rfl ?_
        refine j_iinc X (pc := 97) 6 (x5 + 1) [(5, vI (x5 + 1)), (4, vR x4), (7, vI t0), (0, vR x0), (1, vR x1), (2, vI x2), (3, vI x3), (6, vR x6)] dX1_top_97 rfl rfl (Nat.le_of_ble_eq_true rfl) rfl ?_
        refine j_goto X (pc := 100) 6 dX1_top_100 (by decide) ?_
        refine j_lv [(0, vR x0), (1, vR x1), (2, vI x2), (3, vI x3), (4, vR x4), (5, vI (x5 + 1))] [3, 4, 5, 6, 1, 0] rfl ?_
        refine j_cs (u' := 0) (v' := 0) (Nat.le_of_ble_eq_true rfl) (Nat.le_of_ble_eq_true rfl) ?_
        exact hZ6 x4 (x5 + 1) h82 hw
      · refine j_aload X (pc := 88) 7 dX1_top_88 rfl ?_
        refine j_goto X (pc := 90) 95 dX1_top_90 (by decide) ?_
        refine j_astore X (pc := 95) [(4, vR x6), (7, vI t0), (0, vR x0), (1, vR x1), (2, vI x2), (3, vI x3), (5, vI x5), (6, vR x6)] dX1_top_95 (Nat.le_of_ble_eq_true rfl) rfl ?_
        refine j_iinc X (pc := 97) 6 (x5 + 1) [(5, vI (x5 + 1)), (4, vR x6), (7, vI t0), (0, vR x0), (1, vR x1), (2, vI x2), (3, vI x3), (6, vR x6)] dX1_top_97 rfl rfl (Nat.le_of_ble_eq_true rfl) rfl ?_
        refine j_goto X (pc := 100) 6 dX1_top_100 (by decide) ?_
        refine j_lv [(0, vR x0), (1, vR x1), (2, vI x2), (3, vI x3), (4, vR x6), (5, vI (x5 + 1))] [3, 4, 5, 6, 1, 0] rfl ?_
        refine j_cs (u' := 0) (v' := 0) (Nat.le_of_ble_eq_true rfl) (Nat.le_of_ble_eq_true rfl) ?_
        exact hZ6 x6 (x5 + 1) h82 hw
theorem wk_X1_top_6 {x : CX} (X : Ok x cX1_top RX1 rm_X1_top 8) (er : xrt x = (Option.some (Jvm.ClassFile.FieldType.object "Plugboard$Shape"))) (en : xnm x = yX1_top.name) {P : Option Nat → AH → Prop} (hQ : xr_q x P) (x0 : Option Nat) (x1 : Option Nat) (x2 : Int32) (x3 : Int32) (x4 : Option Nat) (x5 : Int32) (h : AH) (hw : w_X1_top_6 P x0 x1 x2 x3 x4 x5 h) : J x h 0 0 6 [(0, vR x0), (1, vR x1), (2, vI x2), (3, vI x3), (4, vR x4), (5, vI x5)] [] := by
  refine hw (fun x4 x5 h => J x h 0 0 6 [(0, vR x0), (1, vR x1), (2, vI x2), (3, vI x3), (4, vR x4), (5, vI x5)] []) (fun x4 x5 h hw => ?_)
  refine j_iload X (pc := 6) 5 dX1_top_6 rfl ?_
  refine j_aload_n X (pc := 8) 0 dX1_top_8 rfl rfl ?_
  refine j_getq (ci := 0) X (pc := 9) in_X1 rfl (by decide) 0 (by decide) q240 (Or.inl rfl) dX1_top_9 hw (fun y9 hw => ?_)
  obtain ⟨b9, c9, f9, hr9, ho9, hc9, hw⟩ := hw
  obtain rfl := List.mem_singleton.mp hc9
  refine j_calli (j_runV (n8 := 0) (As := []) (rest := [vI x5]) X (pc := 12) hr9 (met_J2_size (xl x) X.hl (xG x) h y9 _ hw) ho9 (by decide) rfl q284 q285 q286 q74 q287 (by decide +kernel) dX1_top_12 rfl ⟨Nat.le_of_ble_eq_true rfl, Nat.le_of_ble_eq_true rfl⟩ (Nat.le_of_ble_eq_true rfl) ⟨Nat.le_of_ble_eq_true rfl, Nat.le_of_ble_eq_true rfl⟩) (fun y12 h12 hw => ?_)
  refine j_icmp_ge X (pc := 15) 103 dX1_top_15 (by decide) hw (fun hw => ?_) (fun hw => ?_)
  · refine j_aload X (pc := 103) 4 dX1_top_103 rfl ?_
    exact j_aret X (pc := 105) (ty := (.object "Plugboard$Shape")) hQ er (Or.inl ⟨_, rfl⟩) (Nat.le_of_ble_eq_true rfl) (Nat.le_of_ble_eq_true rfl) dX1_top_105 hw
  · refine j_aload_n X (pc := 18) 0 dX1_top_18 rfl rfl ?_
    refine j_getq (ci := 0) X (pc := 19) in_X1 rfl (by decide) 0 (by decide) q240 (Or.inl rfl) dX1_top_19 hw (fun y19 hw => ?_)
    refine j_iload X (pc := 22) 5 dX1_top_22 rfl ?_
    obtain ⟨b9, c9, f9, hr9, ho9, hc9, hw⟩ := hw
    obtain rfl := List.mem_singleton.mp hc9
    refine j_callq (j_runV (n8 := 1) (As := [vI x5]) (rest := []) X (pc := 24) hr9 (met_J2_get (xl x) X.hl (xG x) h12 y19 x5 _ hw) ho9 (by decide) rfl q1074 q512 q513 q74 q514 (by decide +kernel) dX1_top_24 rfl ⟨Nat.le_of_ble_eq_true rfl, Nat.le_of_ble_eq_true rfl⟩ (Nat.le_of_ble_eq_true rfl) ⟨Nat.le_of_ble_eq_true rfl, Nat.le_of_ble_eq_true rfl⟩) (fun y24 h24 hw => ?_)
    refine j_chk X (pc := 27) (L := [7, 8]) q550 (by intro ci hci; simp only [List.mem_cons, List.not_mem_nil, or_false] at hci; rcases hci with rfl | rfl <;> first | exact ⟨by decide, _, _, _, rfl, Or.inr q2343⟩ | exact ⟨by decide, _, _, _, rfl, Or.inr q2344⟩) dX1_top_27 hw (fun hw => ?_)
    refine j_astore X (pc := 30) [(6, vR y24), (0, vR x0), (1, vR x1), (2, vI x2), (3, vI x3), (4, vR x4), (5, vI x5)] dX1_top_30 (Nat.le_of_ble_eq_true rfl) rfl ?_
    refine j_aload_n X (pc := 32) 2 dX1_top_32 rfl rfl ?_
    refine j_iload X (pc := 33) 6 dX1_top_33 rfl ?_
    obtain ⟨b9, c9, f9, hr9, ho9, hc9, hw⟩ := hw
    obtain rfl := List.mem_singleton.mp hc9
    refine j_calli (j_runV (n8 := 1) (As := [vI x5]) (rest := []) X (pc := 35) hr9 (met_X3_sees (xl x) X.hl (xG x) h24 x1 x5 _ hw) ho9 (by decide) rfl q1079 q410 q411 q76 q412 (by decide +kernel) dX1_top_35 rfl ⟨Nat.le_of_ble_eq_true rfl, Nat.le_of_ble_eq_true rfl⟩ (Nat.le_of_ble_eq_true rfl) ⟨Nat.le_of_ble_eq_true rfl, Nat.le_of_ble_eq_true rfl⟩) (fun y35 h35 hw => ?_)
    refine j_if_eq X (pc := 38) 64 dX1_top_38 (by decide) hw (fun hw => ?_) (fun hw => ?_)
    · refine j_iconst X (pc := 64) 0 dX1_top_64 (by decide) ?_
      refine j_lv [(0, vR x0), (1, vR x1), (2, vI x2), (3, vI x3), (4, vR x4), (5, vI x5), (6, vR y24)] [1, 2, 3, 4, 5, 6, 0] rfl ?_
      refine j_cs (u' := 0) (v' := 0) (Nat.le_of_ble_eq_true rfl) (Nat.le_of_ble_eq_true rfl) ?_
      exact wk_X1_top_65 X er en hQ _ x0 x1 x2 x3 x4 x5 y24 0 h35 (fun x4_ x5_ h_ hz => hz) hw
    · refine j_aload X (pc := 41) 0 dX1_top_41 rfl ?_
      refine j_isFrame (rest := []) X (pc := 43) q1495 dX1_top_43 ⟨Nat.le_of_ble_eq_true rfl, Nat.le_of_ble_eq_true rfl⟩ (Nat.le_of_ble_eq_true rfl) (Nat.le_of_ble_eq_true rfl) (Nat.le_of_ble_eq_true rfl) hw (fun y43 hw => ?_)
      refine j_if_ne X (pc := 46) 64 dX1_top_46 (by decide) hw (fun hw => ?_) (fun hw => ?_)
      · refine j_aload_n X (pc := 49) 2 dX1_top_49 rfl rfl ?_
        refine j_aload X (pc := 50) 0 dX1_top_50 rfl ?_
        refine j_iload_n X (pc := 52) 3 dX1_top_52 rfl rfl ?_
        refine j_iload_n X (pc := 53) 4 dX1_top_53 rfl rfl ?_
        obtain ⟨b9, c9, f9, hr9, ho9, hc9, hw⟩ := hw
        obtain rfl := List.mem_singleton.mp hc9
        refine j_calli (j_runV (n8 := 3) (As := [vR y24, vI x2, vI x3]) (rest := []) X (pc := 54) hr9 (met_X3_covers_2 (xl x) X.hl (xG x) h35 x1 y24 x2 x3 _ hw) ho9 (by decide) rfl q1496 q1153 q1154 q76 q1155 (by decide +kernel) dX1_top_54 rfl ⟨Nat.le_of_ble_eq_true rfl, Nat.le_of_ble_eq_true rfl⟩ (Nat.le_of_ble_eq_true rfl) ⟨Nat.le_of_ble_eq_true rfl, Nat.le_of_ble_eq_true rfl⟩) (fun y54 h54 hw => ?_)
        refine j_if_eq X (pc := 57) 64 dX1_top_57 (by decide) hw (fun hw => ?_) (fun hw => ?_)
        · refine j_iconst X (pc := 64) 0 dX1_top_64 (by decide) ?_
          refine j_lv [(0, vR x0), (1, vR x1), (2, vI x2), (3, vI x3), (4, vR x4), (5, vI x5), (6, vR y24)] [1, 2, 3, 4, 5, 6, 0] rfl ?_
          refine j_cs (u' := 0) (v' := 0) (Nat.le_of_ble_eq_true rfl) (Nat.le_of_ble_eq_true rfl) ?_
          exact wk_X1_top_65 X er en hQ _ x0 x1 x2 x3 x4 x5 y24 0 h54 (fun x4_ x5_ h_ hz => hz) hw
        · refine j_iconst X (pc := 60) 1 dX1_top_60 (by decide) ?_
          refine j_goto X (pc := 61) 65 dX1_top_61 (by decide) ?_
          refine j_lv [(0, vR x0), (1, vR x1), (2, vI x2), (3, vI x3), (4, vR x4), (5, vI x5), (6, vR y24)] [1, 2, 3, 4, 5, 6, 0] rfl ?_
          refine j_cs (u' := 0) (v' := 0) (Nat.le_of_ble_eq_true rfl) (Nat.le_of_ble_eq_true rfl) ?_
          exact wk_X1_top_65 X er en hQ _ x0 x1 x2 x3 x4 x5 y24 1 h54 (fun x4_ x5_ h_ hz => hz) hw
      · refine j_iconst X (pc := 64) 0 dX1_top_64 (by decide) ?_
        refine j_lv [(0, vR x0), (1, vR x1), (2, vI x2), (3, vI x3), (4, vR x4), (5, vI x5), (6, vR y24)] [1, 2, 3, 4, 5, 6, 0] rfl ?_
        refine j_cs (u' := 0) (v' := 0) (Nat.le_of_ble_eq_true rfl) (Nat.le_of_ble_eq_true rfl) ?_
        exact wk_X1_top_65 X er en hQ _ x0 x1 x2 x3 x4 x5 y24 0 h35 (fun x4_ x5_ h_ hz => hz) hw
theorem met_X1_top (l : Launch) (hlt : l.stackTraces = false) (G : GG) (h : AH) (a0 : Option Nat) (a1 : Option Nat) (a2 : Int32) (a3 : Int32) (P : Option Nat → AH → Prop) (hw : w_X1_top a0 a1 a2 a3 h P) : ct_q l yX1_top (ws_ yX1_top cX1_top 8 (Option.some (Jvm.ClassFile.FieldType.object "Plugboard$Shape"))) rm_X1_top G h [vR a0, vR a1, vI a2, vI a3] P := by
  refine j_startq hlt [(0, vR a0), (1, vR a1), (2, vI a2), (3, vI a3)] (plainFor_of_name (by decide)) rfl rfl (fun x X eG er en hQ => ?_)
  subst eG
  refine j_null X (pc := 0) dX1_top_0 ?_
  refine j_astore X (pc := 1) [(4, vR none), (0, vR a0), (1, vR a1), (2, vI a2), (3, vI a3)] dX1_top_1 (Nat.le_of_ble_eq_true rfl) rfl ?_
  refine j_iconst X (pc := 3) 0 dX1_top_3 (by decide) ?_
  refine j_istore X (pc := 4) [(5, vI 0), (4, vR none), (0, vR a0), (1, vR a1), (2, vI a2), (3, vI a3)] dX1_top_4 (Nat.le_of_ble_eq_true rfl) rfl ?_
  refine j_lv [(0, vR a0), (1, vR a1), (2, vI a2), (3, vI a3), (4, vR none), (5, vI 0)] [2, 3, 4, 5, 1, 0] rfl ?_
  refine j_cs (u' := 0) (v' := 0) (Nat.le_of_ble_eq_true rfl) (Nat.le_of_ble_eq_true rfl) ?_
  exact wk_X1_top_6 X er en hQ a0 a1 a2 a3 none 0 h hw
abbrev cX1_topAt : ByteArray := prog_1_method_57_code
def yX1_topAt : MethodName := ⟨RX1, "topAt", "(III)I"⟩
def dkwX1_topAt_2 : List UInt8 := [180, 1, 8, 172]
abbrev dktX1_topAt_2 : List UInt8 := dkwX1_topAt_2 ++ []
def dkwX1_topAt_1 : List UInt8 := [25, 4, 28, 29, 182, 1, 117, 58, 5, 25, 5, 198, 0, 7, 4, 167, 0, 4, 3, 184, 0, 117, 25, 5]
abbrev dktX1_topAt_1 : List UInt8 := dkwX1_topAt_1 ++ dktX1_topAt_2
def dkwX1_topAt_0 : List UInt8 := [42, 27, 182, 0, 199, 58, 4, 4, 188, 4, 89, 3, 28, 29, 4, 4, 184, 0, 203, 84, 184, 0, 25, 42]
abbrev dktX1_topAt_0 : List UInt8 := dkwX1_topAt_0 ++ dktX1_topAt_1
theorem dksX1_topAt_0 : cX1_topAt.data.toList.drop 0 = dktX1_topAt_0 := by decide +kernel
theorem dksX1_topAt_1 : cX1_topAt.data.toList.drop 24 = dktX1_topAt_1 := dk_seg dksX1_topAt_0 24 rfl rfl
theorem dksX1_topAt_2 : cX1_topAt.data.toList.drop 48 = dktX1_topAt_2 := dk_seg dksX1_topAt_1 24 rfl rfl
theorem dX1_topAt_0 : decode cX1_topAt 0 = .ok (.aload_n 0, 1) := dk_42 (dk_at dksX1_topAt_0 0 rfl rfl)
theorem dX1_topAt_1 : decode cX1_topAt 1 = .ok (.iload_n 1, 1) := dk_27 (dk_at dksX1_topAt_0 1 rfl rfl)
theorem dX1_topAt_2 : decode cX1_topAt 2 = .ok (.invokevirtual 199, 3) := dk_182 0 199 (dk_at dksX1_topAt_0 2 rfl rfl)
theorem dX1_topAt_5 : decode cX1_topAt 5 = .ok (.astore 4, 2) := dk_58 4 (dk_at dksX1_topAt_0 5 rfl rfl)
theorem dX1_topAt_7 : decode cX1_topAt 7 = .ok (.iconst 1, 1) := dk_4 (dk_at dksX1_topAt_0 7 rfl rfl)
theorem dX1_topAt_8 : decode cX1_topAt 8 = .ok (.newarray .boolean, 2) := dk_188_4 (dk_at dksX1_topAt_0 8 rfl rfl)
theorem dX1_topAt_10 : decode cX1_topAt 10 = .ok (.dup, 1) := dk_89 (dk_at dksX1_topAt_0 10 rfl rfl)
theorem dX1_topAt_11 : decode cX1_topAt 11 = .ok (.iconst 0, 1) := dk_3 (dk_at dksX1_topAt_0 11 rfl rfl)
theorem dX1_topAt_12 : decode cX1_topAt 12 = .ok (.iload_n 2, 1) := dk_28 (dk_at dksX1_topAt_0 12 rfl rfl)
theorem dX1_topAt_13 : decode cX1_topAt 13 = .ok (.iload_n 3, 1) := dk_29 (dk_at dksX1_topAt_0 13 rfl rfl)
theorem dX1_topAt_14 : decode cX1_topAt 14 = .ok (.iconst 1, 1) := dk_4 (dk_at dksX1_topAt_0 14 rfl rfl)
theorem dX1_topAt_15 : decode cX1_topAt 15 = .ok (.iconst 1, 1) := dk_4 (dk_at dksX1_topAt_0 15 rfl rfl)
theorem dX1_topAt_16 : decode cX1_topAt 16 = .ok (.invokestatic 203, 3) := dk_184 0 203 (dk_at dksX1_topAt_0 16 rfl rfl)
theorem dX1_topAt_19 : decode cX1_topAt 19 = .ok (.bastore, 1) := dk_84 (dk_at dksX1_topAt_0 19 rfl rfl)
theorem dX1_topAt_20 : decode cX1_topAt 20 = .ok (.invokestatic 25, 3) := dk_184 0 25 (dk_at dksX1_topAt_0 20 rfl rfl)
theorem dX1_topAt_23 : decode cX1_topAt 23 = .ok (.aload_n 0, 1) := dk_42 (dk_at dksX1_topAt_0 23 rfl rfl)
theorem dX1_topAt_24 : decode cX1_topAt 24 = .ok (.aload 4, 2) := dk_25 4 (dk_at dksX1_topAt_1 0 rfl rfl)
theorem dX1_topAt_26 : decode cX1_topAt 26 = .ok (.iload_n 2, 1) := dk_28 (dk_at dksX1_topAt_1 2 rfl rfl)
theorem dX1_topAt_27 : decode cX1_topAt 27 = .ok (.iload_n 3, 1) := dk_29 (dk_at dksX1_topAt_1 3 rfl rfl)
theorem dX1_topAt_28 : decode cX1_topAt 28 = .ok (.invokevirtual 373, 3) := dk_182 1 117 (dk_at dksX1_topAt_1 4 rfl rfl)
theorem dX1_topAt_31 : decode cX1_topAt 31 = .ok (.astore 5, 2) := dk_58 5 (dk_at dksX1_topAt_1 7 rfl rfl)
theorem dX1_topAt_33 : decode cX1_topAt 33 = .ok (.aload 5, 2) := dk_25 5 (dk_at dksX1_topAt_1 9 rfl rfl)
theorem dX1_topAt_35 : decode cX1_topAt 35 = .ok (.ifnull 7, 3) := dk_198 0 7 (dk_at dksX1_topAt_1 11 rfl rfl)
theorem dX1_topAt_38 : decode cX1_topAt 38 = .ok (.iconst 1, 1) := dk_4 (dk_at dksX1_topAt_1 14 rfl rfl)
theorem dX1_topAt_39 : decode cX1_topAt 39 = .ok (.goto 4, 3) := dk_167 0 4 (dk_at dksX1_topAt_1 15 rfl rfl)
theorem dX1_topAt_42 : decode cX1_topAt 42 = .ok (.iconst 0, 1) := dk_3 (dk_at dksX1_topAt_1 18 rfl rfl)
theorem dX1_topAt_43 : decode cX1_topAt 43 = .ok (.invokestatic 117, 3) := dk_184 0 117 (dk_at dksX1_topAt_1 19 rfl rfl)
theorem dX1_topAt_46 : decode cX1_topAt 46 = .ok (.aload 5, 2) := dk_25 5 (dk_at dksX1_topAt_1 22 rfl rfl)
theorem dX1_topAt_48 : decode cX1_topAt 48 = .ok (.getfield 264, 3) := dk_180 1 8 (dk_at dksX1_topAt_2 0 rfl rfl)
theorem dX1_topAt_51 : decode cX1_topAt 51 = .ok (.ireturn, 1) := dk_172 (dk_at dksX1_topAt_2 3 rfl rfl)
theorem q1491 : (Jvm.Cond.methodLink "Plugboard" (373 : Nat) ({ cls := "Plugboard", name := "top", desc := "(LPlugboard$Board;II)LPlugboard$Shape;" } : Jvm.MethodName)) ∈ lw_all := lw_g (lw_at lw_m6 221 rfl) rfl
theorem q1493 : (Jvm.Cond.instanceMethod ({ cls := "Plugboard", name := "top", desc := "(LPlugboard$Board;II)LPlugboard$Shape;" } : Jvm.MethodName)) ∈ lw_all := lw_g (lw_at lw_m6 223 rfl) rfl
theorem q1494 : (Jvm.Cond.code ({ cls := "Plugboard", name := "top", desc := "(LPlugboard$Board;II)LPlugboard$Shape;" } : Jvm.MethodName) prog_1_method_56_code (8 : Nat) (Option.some (Jvm.ClassFile.FieldType.object "Plugboard$Shape"))) ∈ lw_all := lw_g (lw_at lw_m6 224 rfl) rfl
abbrev rm_X1_topAt : Room := { frames := 9, cells := 5, slots := 20, locals := 146 }
def w_X1_topAt (a0 : Option Nat) (a1 : Int32) (a2 : Int32) (a3 : Int32) (h : AH) (P : Int32 → AH → Prop) (PX : String → AH → Prop) : Prop :=
  is_c h a0 [0] (
  w_X1_board a0 a1 h (fun y2 h2 =>
  mk_i h2 1 1 1 fun q8 h8 =>
  w_X1_isOnBoard a2 a3 1 1 h8 (fun y16 h16 =>
  nrw .boolean y16 ∧
  s_i h16 (some q8) 1 0 y16 fun h19 =>
  w_X1_require (some q8) h19 (fun h20 =>
  is_c h20 a0 [0] (
  w_X1_top a0 y2 a2 a3 h20 (fun y28 h28 =>
  ((y28 = (none : Option Nat) →
    w_X1_requireElement 0 h28 (fun h43 =>
    g_iS h43 y28 0 fun y48 =>
    P y48 h43) PX) ∧
   (¬ y28 = (none : Option Nat) →
    w_X1_requireElement 1 h28 (fun h43 =>
    g_iS h43 y28 0 fun y48 =>
    P y48 h43) PX))))) PX)) PX)
theorem met_X1_topAt (l : Launch) (hlt : l.stackTraces = false) (G : GG) (h : AH) (a0 : Option Nat) (a1 : Int32) (a2 : Int32) (a3 : Int32) (P : Int32 → AH → Prop) (PX : String → AH → Prop) (hw : w_X1_topAt a0 a1 a2 a3 h P PX) : cx_i l yX1_topAt (ws_ yX1_topAt cX1_topAt 6 (Option.some Jvm.ClassFile.FieldType.int)) rm_X1_topAt G h [vR a0, vI a1, vI a2, vI a3] P PX := by
  refine j_startXi hlt [(0, vR a0), (1, vI a1), (2, vI a2), (3, vI a3)] (by decide) rfl rfl (fun x X eG er en hQ hT hex => ?_)
  subst eG
  refine j_aload_n X (pc := 0) 0 dX1_topAt_0 rfl rfl ?_
  refine j_iload_n X (pc := 1) 1 dX1_topAt_1 rfl rfl ?_
  obtain ⟨b9, c9, f9, hr9, ho9, hc9, hw⟩ := hw
  obtain rfl := List.mem_singleton.mp hc9
  refine j_callXq (j_runVX (n8 := 1) (As := [vI a1]) (rest := []) X (pc := 2) hr9 (met_X1_board (xl x) X.hl (xG x) h a0 a1 _ _ hw) ho9 (by decide) rfl q297 q299 qs0 q71 q300 (by decide +kernel) dX1_topAt_2 rfl ⟨Nat.le_of_ble_eq_true rfl, Nat.le_of_ble_eq_true rfl⟩ (Nat.le_of_ble_eq_true rfl) ⟨Nat.le_of_ble_eq_true rfl, Nat.le_of_ble_eq_true rfl⟩) (fun E h9 hx => j_out X hT hex (Nat.le_of_ble_eq_true rfl) (Nat.le_of_ble_eq_true rfl) hx) (fun y2 h2 hw => ?_)
  refine j_astore X (pc := 5) [(4, vR y2), (0, vR a0), (1, vI a1), (2, vI a2), (3, vI a3)] dX1_topAt_5 (Nat.le_of_ble_eq_true rfl) rfl ?_
  refine j_iconst X (pc := 7) 1 dX1_topAt_7 (by decide) ?_
  refine j_newZ X (pc := 8) 1 dX1_topAt_8 q233 (by decide) (Nat.le_of_ble_eq_true rfl) (Nat.le_of_ble_eq_true rfl) hw (fun q8 h8 hw => ?_)
  refine j_dup X (pc := 10) dX1_topAt_10 rfl ?_
  refine j_iconst X (pc := 11) 0 dX1_topAt_11 (by decide) ?_
  refine j_iload_n X (pc := 12) 3 dX1_topAt_12 rfl rfl ?_
  refine j_iload_n X (pc := 13) 4 dX1_topAt_13 rfl rfl ?_
  refine j_iconst X (pc := 14) 1 dX1_topAt_14 (by decide) ?_
  refine j_iconst X (pc := 15) 1 dX1_topAt_15 (by decide) ?_
  refine j_calli (j_runS (n8 := 4) (As := [vI a2, vI a3, vI 1, vI 1]) (rest := [vI 0, vR (some q8), vR (some q8)]) X (pc := 16) (met_X1_isOnBoard (xl x) X.hl (xG x) h8 a2 a3 1 1 _ hw) q379 q380 q71 q381 (by decide +kernel) dX1_topAt_16 rfl ⟨Nat.le_of_ble_eq_true rfl, Nat.le_of_ble_eq_true rfl⟩ (Nat.le_of_ble_eq_true rfl) ⟨Nat.le_of_ble_eq_true rfl, Nat.le_of_ble_eq_true rfl⟩) (fun y16 h16 hw => ?_)
  have hnr := hw.1
  have hw := hw.2
  refine j_zast X (pc := 19) 1 rfl rfl hnr dX1_topAt_19 hw (fun h19 hw => ?_)
  refine j_callXv (j_runSX (n8 := 1) (As := [vR (some q8)]) (rest := []) X (pc := 20) (met_X1_require (xl x) X.hl (xG x) h19 (some q8) _ _ hw) q307 q308 q71 q309 (by decide +kernel) dX1_topAt_20 rfl ⟨Nat.le_of_ble_eq_true rfl, Nat.le_of_ble_eq_true rfl⟩ (Nat.le_of_ble_eq_true rfl) ⟨Nat.le_of_ble_eq_true rfl, Nat.le_of_ble_eq_true rfl⟩) (fun E h9 hx => j_out X hT hex (Nat.le_of_ble_eq_true rfl) (Nat.le_of_ble_eq_true rfl) hx) (fun h20 hw => ?_)
  refine j_aload_n X (pc := 23) 1 dX1_topAt_23 rfl rfl ?_
  refine j_aload X (pc := 24) 0 dX1_topAt_24 rfl ?_
  refine j_iload_n X (pc := 26) 3 dX1_topAt_26 rfl rfl ?_
  refine j_iload_n X (pc := 27) 4 dX1_topAt_27 rfl rfl ?_
  obtain ⟨b9, c9, f9, hr9, ho9, hc9, hw⟩ := hw
  obtain rfl := List.mem_singleton.mp hc9
  refine j_callq (j_runV (n8 := 3) (As := [vR y2, vI a2, vI a3]) (rest := []) X (pc := 28) hr9 (met_X1_top (xl x) X.hl (xG x) h20 a0 y2 a2 a3 _ hw) ho9 (by decide) rfl q1491 q1493 qs18 q71 q1494 (by decide +kernel) dX1_topAt_28 rfl ⟨Nat.le_of_ble_eq_true rfl, Nat.le_of_ble_eq_true rfl⟩ (Nat.le_of_ble_eq_true rfl) ⟨Nat.le_of_ble_eq_true rfl, Nat.le_of_ble_eq_true rfl⟩) (fun y28 h28 hw => ?_)
  refine j_astore X (pc := 31) [(5, vR y28), (4, vR y2), (0, vR a0), (1, vI a1), (2, vI a2), (3, vI a3)] dX1_topAt_31 (Nat.le_of_ble_eq_true rfl) rfl ?_
  refine j_aload X (pc := 33) 0 dX1_topAt_33 rfl ?_
  refine j_ifnull X (pc := 35) 42 dX1_topAt_35 (by decide) hw (fun hw => ?_) (fun hw => ?_)
  · refine j_iconst X (pc := 42) 0 dX1_topAt_42 (by decide) ?_
    refine j_callXv (j_runSX (n8 := 1) (As := [vI 0]) (rest := []) X (pc := 43) (met_X1_requireElement (xl x) X.hl (xG x) h28 0 _ _ hw) q1080 q1081 q71 q1082 (by decide +kernel) dX1_topAt_43 rfl ⟨Nat.le_of_ble_eq_true rfl, Nat.le_of_ble_eq_true rfl⟩ (Nat.le_of_ble_eq_true rfl) ⟨Nat.le_of_ble_eq_true rfl, Nat.le_of_ble_eq_true rfl⟩) (fun E h9 hx => j_out X hT hex (Nat.le_of_ble_eq_true rfl) (Nat.le_of_ble_eq_true rfl) hx) (fun h43 hw => ?_)
    refine j_aload X (pc := 46) 0 dX1_topAt_46 rfl ?_
    refine j_getiSN X (pc := 48) 0 (by decide) q578 dX1_topAt_48 hw (fun y48 hw => ?_)
    exact j_iret X (pc := 51) hQ er (Nat.le_of_ble_eq_true rfl) (Nat.le_of_ble_eq_true rfl) dX1_topAt_51 hw
  · refine j_iconst X (pc := 38) 1 dX1_topAt_38 (by decide) ?_
    refine j_goto X (pc := 39) 43 dX1_topAt_39 (by decide) ?_
    refine j_callXv (j_runSX (n8 := 1) (As := [vI 1]) (rest := []) X (pc := 43) (met_X1_requireElement (xl x) X.hl (xG x) h28 1 _ _ hw) q1080 q1081 q71 q1082 (by decide +kernel) dX1_topAt_43 rfl ⟨Nat.le_of_ble_eq_true rfl, Nat.le_of_ble_eq_true rfl⟩ (Nat.le_of_ble_eq_true rfl) ⟨Nat.le_of_ble_eq_true rfl, Nat.le_of_ble_eq_true rfl⟩) (fun E h9 hx => j_out X hT hex (Nat.le_of_ble_eq_true rfl) (Nat.le_of_ble_eq_true rfl) hx) (fun h43 hw => ?_)
    refine j_aload X (pc := 46) 0 dX1_topAt_46 rfl ?_
    refine j_getiSN X (pc := 48) 0 (by decide) q578 dX1_topAt_48 hw (fun y48 hw => ?_)
    exact j_iret X (pc := 51) hQ er (Nat.le_of_ble_eq_true rfl) (Nat.le_of_ble_eq_true rfl) dX1_topAt_51 hw
abbrev cX0_topAt : ByteArray := method_30_code
def yX0_topAt : MethodName := ⟨RX0, "topAt", "(LPlugboard;III[J)I"⟩
def dkwX0_topAt_1 : List UInt8 := [172]
abbrev dktX0_topAt_1 : List UInt8 := dkwX0_topAt_1 ++ []
def dkwX0_topAt_0 : List UInt8 := [25, 4, 3, 42, 27, 28, 29, 182, 0, 109, 133, 80, 167, 0, 11, 58, 5, 4, 172, 58, 5, 5, 172, 3]
abbrev dktX0_topAt_0 : List UInt8 := dkwX0_topAt_0 ++ dktX0_topAt_1
theorem dksX0_topAt_0 : cX0_topAt.data.toList.drop 0 = dktX0_topAt_0 := by decide +kernel
theorem dksX0_topAt_1 : cX0_topAt.data.toList.drop 24 = dktX0_topAt_1 := dk_seg dksX0_topAt_0 24 rfl rfl
theorem dX0_topAt_0 : decode cX0_topAt 0 = .ok (.aload 4, 2) := dk_25 4 (dk_at dksX0_topAt_0 0 rfl rfl)
theorem dX0_topAt_2 : decode cX0_topAt 2 = .ok (.iconst 0, 1) := dk_3 (dk_at dksX0_topAt_0 2 rfl rfl)
theorem dX0_topAt_3 : decode cX0_topAt 3 = .ok (.aload_n 0, 1) := dk_42 (dk_at dksX0_topAt_0 3 rfl rfl)
theorem dX0_topAt_4 : decode cX0_topAt 4 = .ok (.iload_n 1, 1) := dk_27 (dk_at dksX0_topAt_0 4 rfl rfl)
theorem dX0_topAt_5 : decode cX0_topAt 5 = .ok (.iload_n 2, 1) := dk_28 (dk_at dksX0_topAt_0 5 rfl rfl)
theorem dX0_topAt_6 : decode cX0_topAt 6 = .ok (.iload_n 3, 1) := dk_29 (dk_at dksX0_topAt_0 6 rfl rfl)
theorem dX0_topAt_7 : decode cX0_topAt 7 = .ok (.invokevirtual 109, 3) := dk_182 0 109 (dk_at dksX0_topAt_0 7 rfl rfl)
theorem dX0_topAt_10 : decode cX0_topAt 10 = .ok (.i2l, 1) := dk_133 (dk_at dksX0_topAt_0 10 rfl rfl)
theorem dX0_topAt_11 : decode cX0_topAt 11 = .ok (.lastore, 1) := dk_80 (dk_at dksX0_topAt_0 11 rfl rfl)
theorem dX0_topAt_12 : decode cX0_topAt 12 = .ok (.goto 11, 3) := dk_167 0 11 (dk_at dksX0_topAt_0 12 rfl rfl)
theorem dX0_topAt_15 : decode cX0_topAt 15 = .ok (.astore 5, 2) := dk_58 5 (dk_at dksX0_topAt_0 15 rfl rfl)
theorem dX0_topAt_17 : decode cX0_topAt 17 = .ok (.iconst 1, 1) := dk_4 (dk_at dksX0_topAt_0 17 rfl rfl)
theorem dX0_topAt_18 : decode cX0_topAt 18 = .ok (.ireturn, 1) := dk_172 (dk_at dksX0_topAt_0 18 rfl rfl)
theorem dX0_topAt_19 : decode cX0_topAt 19 = .ok (.astore 5, 2) := dk_58 5 (dk_at dksX0_topAt_0 19 rfl rfl)
theorem dX0_topAt_21 : decode cX0_topAt 21 = .ok (.iconst 2, 1) := dk_5 (dk_at dksX0_topAt_0 21 rfl rfl)
theorem dX0_topAt_22 : decode cX0_topAt 22 = .ok (.ireturn, 1) := dk_172 (dk_at dksX0_topAt_0 22 rfl rfl)
theorem dX0_topAt_23 : decode cX0_topAt 23 = .ok (.iconst 0, 1) := dk_3 (dk_at dksX0_topAt_0 23 rfl rfl)
theorem dX0_topAt_24 : decode cX0_topAt 24 = .ok (.ireturn, 1) := dk_172 (dk_at dksX0_topAt_1 0 rfl rfl)
theorem q1487 : (Jvm.Cond.methodLink "PlugboardLaw" (109 : Nat) ({ cls := "Plugboard", name := "topAt", desc := "(III)I" } : Jvm.MethodName)) ∈ lw_all := lw_g (lw_at lw_m6 217 rfl) rfl
theorem q1488 : (Jvm.Cond.instanceMethod ({ cls := "Plugboard", name := "topAt", desc := "(III)I" } : Jvm.MethodName)) ∈ lw_all := lw_g (lw_at lw_m6 218 rfl) rfl
theorem q1489 : (Jvm.Cond.selects "Plugboard" ({ cls := "Plugboard", name := "topAt", desc := "(III)I" } : Jvm.MethodName) ({ cls := "Plugboard", name := "topAt", desc := "(III)I" } : Jvm.MethodName)) ∈ lw_all := lw_g (lw_at lw_m6 219 rfl) rfl
theorem q1490 : (Jvm.Cond.code ({ cls := "Plugboard", name := "topAt", desc := "(III)I" } : Jvm.MethodName) prog_1_method_57_code (6 : Nat) (Option.some Jvm.ClassFile.FieldType.int)) ∈ lw_all := lw_g (lw_at lw_m6 220 rfl) rfl
abbrev rm_X0_topAt : Room := { frames := 10, cells := 5, slots := 20, locals := 171 }
def w_X0_topAt (a0 : Option Nat) (a1 : Int32) (a2 : Int32) (a3 : Int32) (a4 : Option Nat) (h : AH) (P : Int32 → AH → Prop) : Prop :=
  is_c h a0 [0] (
  w_X1_topAt a0 a1 a2 a3 h (fun y7 h7 =>
  s_L h7 a4 0 (Int32.toInt64 y7) fun h11 =>
  P 0 h11)
    (fun E9 h9 => (E9 = "java/lang/IllegalArgumentException" ∧ ∀ q9 : Nat,
    P 1 h9) ∨
    (E9 = "java/util/NoSuchElementException" ∧ ∀ q9 : Nat,
    P 2 h9)))
theorem met_X0_topAt (l : Launch) (hlt : l.stackTraces = false) (G : GG) (h : AH) (a0 : Option Nat) (a1 : Int32) (a2 : Int32) (a3 : Int32) (a4 : Option Nat) (P : Int32 → AH → Prop) (hw : w_X0_topAt a0 a1 a2 a3 a4 h P) : ct_i l yX0_topAt (wsW_ yX0_topAt cX0_topAt 6 (Option.some Jvm.ClassFile.FieldType.int) [((0 : Nat), (12 : Nat), (15 : Nat), (13 : Nat)), ((0 : Nat), (12 : Nat), (19 : Nat), (21 : Nat))]) rm_X0_topAt G h [vR a0, vI a1, vI a2, vI a3, vR a4] P := by
  refine j_startWi hlt [(0, vR a0), (1, vI a1), (2, vI a2), (3, vI a3), (4, vR a4)] (by decide) rfl rfl (fun x X eG er en hQ hex => ?_)
  subst eG
  refine j_aload X (pc := 0) 4 dX0_topAt_0 rfl ?_
  refine j_iconst X (pc := 2) 0 dX0_topAt_2 (by decide) ?_
  refine j_aload_n X (pc := 3) 0 dX0_topAt_3 rfl rfl ?_
  refine j_iload_n X (pc := 4) 1 dX0_topAt_4 rfl rfl ?_
  refine j_iload_n X (pc := 5) 2 dX0_topAt_5 rfl rfl ?_
  refine j_iload_n X (pc := 6) 3 dX0_topAt_6 rfl rfl ?_
  obtain ⟨b9, c9, f9, hr9, ho9, hc9, hw⟩ := hw
  obtain rfl := List.mem_singleton.mp hc9
  refine j_callXi (j_runVX (n8 := 3) (As := [vI a1, vI a2, vI a3]) (rest := [vI 0, vR a4]) X (pc := 7) hr9 (met_X1_topAt (xl x) X.hl (xG x) h a0 a1 a2 a3 _ _ hw) ho9 (by decide) rfl q1487 q1488 q1489 q71 q1490 (by decide +kernel) dX0_topAt_7 rfl ⟨Nat.le_of_ble_eq_true rfl, Nat.le_of_ble_eq_true rfl⟩ (Nat.le_of_ble_eq_true rfl) ⟨Nat.le_of_ble_eq_true rfl, Nat.le_of_ble_eq_true rfl⟩) ?_ (fun y7 h7 hw => ?_)
  · intro E9 h9 hx
    rcases hx with ⟨rfl, hw⟩ | ⟨rfl, hw⟩
    · refine j_catch X (pc := 7) "java/lang/IllegalArgumentException" hex [] [⟨0, 12, 19, 21⟩] ⟨0, 12, 15, 13⟩ rfl (by intro y hy; cases hy) (by decide) (by decide) q291 q312 (fun q9 => ?_)
      have hw := hw q9
      refine j_astore X (pc := 15) [(5, vR (some q9)), (0, vR a0), (1, vI a1), (2, vI a2), (3, vI a3), (4, vR a4)] dX0_topAt_15 (Nat.le_of_ble_eq_true rfl) rfl ?_
      refine j_iconst X (pc := 17) 1 dX0_topAt_17 (by decide) ?_
      exact j_iret X (pc := 18) hQ er (Nat.le_of_ble_eq_true rfl) (Nat.le_of_ble_eq_true rfl) dX0_topAt_18 hw
    · refine j_catch X (pc := 7) "java/util/NoSuchElementException" hex [⟨0, 12, 15, 13⟩] [] ⟨0, 12, 19, 21⟩ rfl (by intro y hy; simp only [List.mem_cons, List.not_mem_nil, or_false] at hy; subst hy; exact Or.inr ⟨by decide, "java/lang/IllegalArgumentException", q291, by decide +kernel⟩) (by decide) (by decide) q1068 q537 (fun q9 => ?_)
      have hw := hw q9
      refine j_astore X (pc := 19) [(5, vR (some q9)), (0, vR a0), (1, vI a1), (2, vI a2), (3, vI a3), (4, vR a4)] dX0_topAt_19 (Nat.le_of_ble_eq_true rfl) rfl ?_
      refine j_iconst X (pc := 21) 2 dX0_topAt_21 (by decide) ?_
      exact j_iret X (pc := 22) hQ er (Nat.le_of_ble_eq_true rfl) (Nat.le_of_ble_eq_true rfl) dX0_topAt_22 hw
  refine j_i2l X (pc := 10) dX0_topAt_10 ?_
  refine j_last X (pc := 11) dX0_topAt_11 hw (fun h11 hw => ?_)
  refine j_goto X (pc := 12) 23 dX0_topAt_12 (by decide) ?_
  refine j_iconst X (pc := 23) 0 dX0_topAt_23 (by decide) ?_
  exact j_iret X (pc := 24) hQ er (Nat.le_of_ble_eq_true rfl) (Nat.le_of_ble_eq_true rfl) dX0_topAt_24 hw
abbrev cX5_isCovering : ByteArray := prog_19_method_62_code
def yX5_isCovering : MethodName := ⟨RX5, "isCovering", "(III)Z"⟩
def dkwX5_isCovering_2 : List UInt8 := [184, 0, 101, 153, 0, 7, 4, 167, 0, 4, 3, 172]
abbrev dktX5_isCovering_2 : List UInt8 := dkwX5_isCovering_2 ++ []
def dkwX5_isCovering_1 : List UInt8 := [153, 0, 33, 29, 42, 27, 182, 0, 145, 42, 27, 182, 0, 145, 42, 180, 0, 13, 27, 46, 96, 4, 100]
abbrev dktX5_isCovering_1 : List UInt8 := dkwX5_isCovering_1 ++ dktX5_isCovering_2
def dkwX5_isCovering_0 : List UInt8 := [28, 42, 27, 182, 0, 141, 42, 27, 182, 0, 141, 42, 180, 0, 9, 27, 46, 96, 4, 100, 184, 0, 101]
abbrev dktX5_isCovering_0 : List UInt8 := dkwX5_isCovering_0 ++ dktX5_isCovering_1
theorem dksX5_isCovering_0 : cX5_isCovering.data.toList.drop 0 = dktX5_isCovering_0 := by decide +kernel
theorem dksX5_isCovering_1 : cX5_isCovering.data.toList.drop 23 = dktX5_isCovering_1 := dk_seg dksX5_isCovering_0 23 rfl rfl
theorem dksX5_isCovering_2 : cX5_isCovering.data.toList.drop 46 = dktX5_isCovering_2 := dk_seg dksX5_isCovering_1 23 rfl rfl
theorem dX5_isCovering_0 : decode cX5_isCovering 0 = .ok (.iload_n 2, 1) := dk_28 (dk_at dksX5_isCovering_0 0 rfl rfl)
theorem dX5_isCovering_1 : decode cX5_isCovering 1 = .ok (.aload_n 0, 1) := dk_42 (dk_at dksX5_isCovering_0 1 rfl rfl)
theorem dX5_isCovering_2 : decode cX5_isCovering 2 = .ok (.iload_n 1, 1) := dk_27 (dk_at dksX5_isCovering_0 2 rfl rfl)
theorem dX5_isCovering_3 : decode cX5_isCovering 3 = .ok (.invokevirtual 141, 3) := dk_182 0 141 (dk_at dksX5_isCovering_0 3 rfl rfl)
theorem dX5_isCovering_6 : decode cX5_isCovering 6 = .ok (.aload_n 0, 1) := dk_42 (dk_at dksX5_isCovering_0 6 rfl rfl)
theorem dX5_isCovering_7 : decode cX5_isCovering 7 = .ok (.iload_n 1, 1) := dk_27 (dk_at dksX5_isCovering_0 7 rfl rfl)
theorem dX5_isCovering_8 : decode cX5_isCovering 8 = .ok (.invokevirtual 141, 3) := dk_182 0 141 (dk_at dksX5_isCovering_0 8 rfl rfl)
theorem dX5_isCovering_11 : decode cX5_isCovering 11 = .ok (.aload_n 0, 1) := dk_42 (dk_at dksX5_isCovering_0 11 rfl rfl)
theorem dX5_isCovering_12 : decode cX5_isCovering 12 = .ok (.getfield 9, 3) := dk_180 0 9 (dk_at dksX5_isCovering_0 12 rfl rfl)
theorem dX5_isCovering_15 : decode cX5_isCovering 15 = .ok (.iload_n 1, 1) := dk_27 (dk_at dksX5_isCovering_0 15 rfl rfl)
theorem dX5_isCovering_16 : decode cX5_isCovering 16 = .ok (.iaload, 1) := dk_46 (dk_at dksX5_isCovering_0 16 rfl rfl)
theorem dX5_isCovering_17 : decode cX5_isCovering 17 = .ok (.iadd, 1) := dk_96 (dk_at dksX5_isCovering_0 17 rfl rfl)
theorem dX5_isCovering_18 : decode cX5_isCovering 18 = .ok (.iconst 1, 1) := dk_4 (dk_at dksX5_isCovering_0 18 rfl rfl)
theorem dX5_isCovering_19 : decode cX5_isCovering 19 = .ok (.isub, 1) := dk_100 (dk_at dksX5_isCovering_0 19 rfl rfl)
theorem dX5_isCovering_20 : decode cX5_isCovering 20 = .ok (.invokestatic 101, 3) := dk_184 0 101 (dk_at dksX5_isCovering_0 20 rfl rfl)
theorem dX5_isCovering_23 : decode cX5_isCovering 23 = .ok (.ifCond .eq 33, 3) := dk_153 0 33 (dk_at dksX5_isCovering_1 0 rfl rfl)
theorem dX5_isCovering_26 : decode cX5_isCovering 26 = .ok (.iload_n 3, 1) := dk_29 (dk_at dksX5_isCovering_1 3 rfl rfl)
theorem dX5_isCovering_27 : decode cX5_isCovering 27 = .ok (.aload_n 0, 1) := dk_42 (dk_at dksX5_isCovering_1 4 rfl rfl)
theorem dX5_isCovering_28 : decode cX5_isCovering 28 = .ok (.iload_n 1, 1) := dk_27 (dk_at dksX5_isCovering_1 5 rfl rfl)
theorem dX5_isCovering_29 : decode cX5_isCovering 29 = .ok (.invokevirtual 145, 3) := dk_182 0 145 (dk_at dksX5_isCovering_1 6 rfl rfl)
theorem dX5_isCovering_32 : decode cX5_isCovering 32 = .ok (.aload_n 0, 1) := dk_42 (dk_at dksX5_isCovering_1 9 rfl rfl)
theorem dX5_isCovering_33 : decode cX5_isCovering 33 = .ok (.iload_n 1, 1) := dk_27 (dk_at dksX5_isCovering_1 10 rfl rfl)
theorem dX5_isCovering_34 : decode cX5_isCovering 34 = .ok (.invokevirtual 145, 3) := dk_182 0 145 (dk_at dksX5_isCovering_1 11 rfl rfl)
theorem dX5_isCovering_37 : decode cX5_isCovering 37 = .ok (.aload_n 0, 1) := dk_42 (dk_at dksX5_isCovering_1 14 rfl rfl)
theorem dX5_isCovering_38 : decode cX5_isCovering 38 = .ok (.getfield 13, 3) := dk_180 0 13 (dk_at dksX5_isCovering_1 15 rfl rfl)
theorem dX5_isCovering_41 : decode cX5_isCovering 41 = .ok (.iload_n 1, 1) := dk_27 (dk_at dksX5_isCovering_1 18 rfl rfl)
theorem dX5_isCovering_42 : decode cX5_isCovering 42 = .ok (.iaload, 1) := dk_46 (dk_at dksX5_isCovering_1 19 rfl rfl)
theorem dX5_isCovering_43 : decode cX5_isCovering 43 = .ok (.iadd, 1) := dk_96 (dk_at dksX5_isCovering_1 20 rfl rfl)
theorem dX5_isCovering_44 : decode cX5_isCovering 44 = .ok (.iconst 1, 1) := dk_4 (dk_at dksX5_isCovering_1 21 rfl rfl)
theorem dX5_isCovering_45 : decode cX5_isCovering 45 = .ok (.isub, 1) := dk_100 (dk_at dksX5_isCovering_1 22 rfl rfl)
theorem dX5_isCovering_46 : decode cX5_isCovering 46 = .ok (.invokestatic 101, 3) := dk_184 0 101 (dk_at dksX5_isCovering_2 0 rfl rfl)
theorem dX5_isCovering_49 : decode cX5_isCovering 49 = .ok (.ifCond .eq 7, 3) := dk_153 0 7 (dk_at dksX5_isCovering_2 3 rfl rfl)
theorem dX5_isCovering_52 : decode cX5_isCovering 52 = .ok (.iconst 1, 1) := dk_4 (dk_at dksX5_isCovering_2 6 rfl rfl)
theorem dX5_isCovering_53 : decode cX5_isCovering 53 = .ok (.goto 4, 3) := dk_167 0 4 (dk_at dksX5_isCovering_2 7 rfl rfl)
theorem dX5_isCovering_56 : decode cX5_isCovering 56 = .ok (.iconst 0, 1) := dk_3 (dk_at dksX5_isCovering_2 10 rfl rfl)
theorem dX5_isCovering_57 : decode cX5_isCovering 57 = .ok (.ireturn, 1) := dk_172 (dk_at dksX5_isCovering_2 11 rfl rfl)
abbrev rm_X5_isCovering : Room := { frames := 1, cells := 0, slots := 0, locals := 22 }
def w_X5_isCovering (a0 : Option Nat) (a1 : Int32) (a2 : Int32) (a3 : Int32) (h : AH) (P : Int32 → AH → Prop) : Prop :=
  is_c h a0 [4] (
  w_X5_column a0 a1 h (fun y3 h3 =>
  is_c h3 a0 [4] (
  w_X5_column a0 a1 h3 (fun y8 h8 =>
  g_q h8 a0 4 1 fun y12 =>
  l_i h8 y12 0 a1 fun y16 =>
  w_X5_isBetween a2 y3 ((y8 + y16) - 1) h8 (fun y20 h20 =>
  ((y20 = 0 →
    P 0 h20) ∧
   (¬ y20 = 0 →
    is_c h20 a0 [4] (
    w_X5_row a0 a1 h20 (fun y29 h29 =>
    is_c h29 a0 [4] (
    w_X5_row a0 a1 h29 (fun y34 h34 =>
    g_q h34 a0 4 2 fun y38 =>
    l_i h34 y38 0 a1 fun y42 =>
    w_X5_isBetween a3 y29 ((y34 + y42) - 1) h34 (fun y46 h46 =>
    ((y46 = 0 →
      P 0 h46) ∧
     (¬ y46 = 0 →
      P 1 h46))))))))))))))
theorem met_X5_isCovering (l : Launch) (hlt : l.stackTraces = false) (G : GG) (h : AH) (a0 : Option Nat) (a1 : Int32) (a2 : Int32) (a3 : Int32) (P : Int32 → AH → Prop) (hw : w_X5_isCovering a0 a1 a2 a3 h P) : ct_i l yX5_isCovering (ws_ yX5_isCovering cX5_isCovering 4 (Option.some Jvm.ClassFile.FieldType.boolean)) rm_X5_isCovering G h [vR a0, vI a1, vI a2, vI a3] P := by
  refine j_starti hlt [(0, vR a0), (1, vI a1), (2, vI a2), (3, vI a3)] (plainFor_of_name (by decide)) rfl rfl (fun x X eG er en hQ => ?_)
  subst eG
  refine j_iload_n X (pc := 0) 2 dX5_isCovering_0 rfl rfl ?_
  refine j_aload_n X (pc := 1) 0 dX5_isCovering_1 rfl rfl ?_
  refine j_iload_n X (pc := 2) 1 dX5_isCovering_2 rfl rfl ?_
  obtain ⟨b9, c9, f9, hr9, ho9, hc9, hw⟩ := hw
  obtain rfl := List.mem_singleton.mp hc9
  refine j_calli (j_runV (n8 := 1) (As := [vI a1]) (rest := [vI a2]) X (pc := 3) hr9 (met_X5_column (xl x) X.hl (xG x) h a0 a1 _ hw) ho9 (by decide) rfl q2047 q2049 qs46 q78 q2050 (by decide +kernel) dX5_isCovering_3 rfl ⟨Nat.le_of_ble_eq_true rfl, Nat.le_of_ble_eq_true rfl⟩ (Nat.le_of_ble_eq_true rfl) ⟨Nat.le_of_ble_eq_true rfl, Nat.le_of_ble_eq_true rfl⟩) (fun y3 h3 hw => ?_)
  refine j_aload_n X (pc := 6) 0 dX5_isCovering_6 rfl rfl ?_
  refine j_iload_n X (pc := 7) 1 dX5_isCovering_7 rfl rfl ?_
  obtain ⟨b9, c9, f9, hr9, ho9, hc9, hw⟩ := hw
  obtain rfl := List.mem_singleton.mp hc9
  refine j_calli (j_runV (n8 := 1) (As := [vI a1]) (rest := [vI y3, vI a2]) X (pc := 8) hr9 (met_X5_column (xl x) X.hl (xG x) h3 a0 a1 _ hw) ho9 (by decide) rfl q2047 q2049 qs46 q78 q2050 (by decide +kernel) dX5_isCovering_8 rfl ⟨Nat.le_of_ble_eq_true rfl, Nat.le_of_ble_eq_true rfl⟩ (Nat.le_of_ble_eq_true rfl) ⟨Nat.le_of_ble_eq_true rfl, Nat.le_of_ble_eq_true rfl⟩) (fun y8 h8 hw => ?_)
  refine j_aload_n X (pc := 11) 0 dX5_isCovering_11 rfl rfl ?_
  refine j_getq (ci := 4) X (pc := 12) in_X5 rfl (by decide) 1 (by decide) q1873 (Or.inl rfl) dX5_isCovering_12 hw (fun y12 hw => ?_)
  refine j_iload_n X (pc := 15) 1 dX5_isCovering_15 rfl rfl ?_
  refine j_iald X (pc := 16) 0 rfl dX5_isCovering_16 hw (fun y16 hw => ?_)
  refine j_iadd X (pc := 17) dX5_isCovering_17 ?_
  refine j_iconst X (pc := 18) 1 dX5_isCovering_18 (by decide) ?_
  refine j_isub X (pc := 19) dX5_isCovering_19 ?_
  refine j_calli (j_runS (n8 := 3) (As := [vI a2, vI y3, vI ((y8 + y16) - 1)]) (rest := []) X (pc := 20) (met_X5_isBetween (xl x) X.hl (xG x) h8 a2 y3 ((y8 + y16) - 1) _ hw) q1981 q1982 q78 q1983 (by decide +kernel) dX5_isCovering_20 rfl ⟨Nat.le_of_ble_eq_true rfl, Nat.le_of_ble_eq_true rfl⟩ (Nat.le_of_ble_eq_true rfl) ⟨Nat.le_of_ble_eq_true rfl, Nat.le_of_ble_eq_true rfl⟩) (fun y20 h20 hw => ?_)
  refine j_if_eq X (pc := 23) 56 dX5_isCovering_23 (by decide) hw (fun hw => ?_) (fun hw => ?_)
  · refine j_iconst X (pc := 56) 0 dX5_isCovering_56 (by decide) ?_
    exact j_zret X (pc := 57) (ty := .boolean) hQ er rfl (Nat.le_of_ble_eq_true rfl) (Nat.le_of_ble_eq_true rfl) dX5_isCovering_57 hw
  · refine j_iload_n X (pc := 26) 3 dX5_isCovering_26 rfl rfl ?_
    refine j_aload_n X (pc := 27) 0 dX5_isCovering_27 rfl rfl ?_
    refine j_iload_n X (pc := 28) 1 dX5_isCovering_28 rfl rfl ?_
    obtain ⟨b9, c9, f9, hr9, ho9, hc9, hw⟩ := hw
    obtain rfl := List.mem_singleton.mp hc9
    refine j_calli (j_runV (n8 := 1) (As := [vI a1]) (rest := [vI a3]) X (pc := 29) hr9 (met_X5_row (xl x) X.hl (xG x) h20 a0 a1 _ hw) ho9 (by decide) rfl q2051 q2053 qs47 q78 q2054 (by decide +kernel) dX5_isCovering_29 rfl ⟨Nat.le_of_ble_eq_true rfl, Nat.le_of_ble_eq_true rfl⟩ (Nat.le_of_ble_eq_true rfl) ⟨Nat.le_of_ble_eq_true rfl, Nat.le_of_ble_eq_true rfl⟩) (fun y29 h29 hw => ?_)
    refine j_aload_n X (pc := 32) 0 dX5_isCovering_32 rfl rfl ?_
    refine j_iload_n X (pc := 33) 1 dX5_isCovering_33 rfl rfl ?_
    obtain ⟨b9, c9, f9, hr9, ho9, hc9, hw⟩ := hw
    obtain rfl := List.mem_singleton.mp hc9
    refine j_calli (j_runV (n8 := 1) (As := [vI a1]) (rest := [vI y29, vI a3]) X (pc := 34) hr9 (met_X5_row (xl x) X.hl (xG x) h29 a0 a1 _ hw) ho9 (by decide) rfl q2051 q2053 qs47 q78 q2054 (by decide +kernel) dX5_isCovering_34 rfl ⟨Nat.le_of_ble_eq_true rfl, Nat.le_of_ble_eq_true rfl⟩ (Nat.le_of_ble_eq_true rfl) ⟨Nat.le_of_ble_eq_true rfl, Nat.le_of_ble_eq_true rfl⟩) (fun y34 h34 hw => ?_)
    refine j_aload_n X (pc := 37) 0 dX5_isCovering_37 rfl rfl ?_
    refine j_getq (ci := 4) X (pc := 38) in_X5 rfl (by decide) 2 (by decide) q1874 (Or.inl rfl) dX5_isCovering_38 hw (fun y38 hw => ?_)
    refine j_iload_n X (pc := 41) 1 dX5_isCovering_41 rfl rfl ?_
    refine j_iald X (pc := 42) 0 rfl dX5_isCovering_42 hw (fun y42 hw => ?_)
    refine j_iadd X (pc := 43) dX5_isCovering_43 ?_
    refine j_iconst X (pc := 44) 1 dX5_isCovering_44 (by decide) ?_
    refine j_isub X (pc := 45) dX5_isCovering_45 ?_
    refine j_calli (j_runS (n8 := 3) (As := [vI a3, vI y29, vI ((y34 + y42) - 1)]) (rest := []) X (pc := 46) (met_X5_isBetween (xl x) X.hl (xG x) h34 a3 y29 ((y34 + y42) - 1) _ hw) q1981 q1982 q78 q1983 (by decide +kernel) dX5_isCovering_46 rfl ⟨Nat.le_of_ble_eq_true rfl, Nat.le_of_ble_eq_true rfl⟩ (Nat.le_of_ble_eq_true rfl) ⟨Nat.le_of_ble_eq_true rfl, Nat.le_of_ble_eq_true rfl⟩) (fun y46 h46 hw => ?_)
    refine j_if_eq X (pc := 49) 56 dX5_isCovering_49 (by decide) hw (fun hw => ?_) (fun hw => ?_)
    · refine j_iconst X (pc := 56) 0 dX5_isCovering_56 (by decide) ?_
      exact j_zret X (pc := 57) (ty := .boolean) hQ er rfl (Nat.le_of_ble_eq_true rfl) (Nat.le_of_ble_eq_true rfl) dX5_isCovering_57 hw
    · refine j_iconst X (pc := 52) 1 dX5_isCovering_52 (by decide) ?_
      refine j_goto X (pc := 53) 57 dX5_isCovering_53 (by decide) ?_
      exact j_zret X (pc := 57) (ty := .boolean) hQ er rfl (Nat.le_of_ble_eq_true rfl) (Nat.le_of_ble_eq_true rfl) dX5_isCovering_57 hw
abbrev cX5_topAt : ByteArray := prog_19_method_63_code
def yX5_topAt : MethodName := ⟨RX5, "topAt", "(III)I"⟩
def dkwX5_topAt_5 : List UInt8 := [182, 0, 172, 167, 0, 5, 21, 4, 172]
abbrev dktX5_topAt_5 : List UInt8 := dkwX5_topAt_5 ++ []
def dkwX5_topAt_4 : List UInt8 := [182, 0, 199, 164, 0, 7, 21, 5, 54, 4, 132, 5, 1, 167, 255, 190, 21, 4, 156, 0, 11, 42, 5]
abbrev dktX5_topAt_4 : List UInt8 := dkwX5_topAt_4 ++ dktX5_topAt_5
def dkwX5_topAt_3 : List UInt8 := [21, 5, 28, 29, 182, 0, 235, 153, 0, 27, 21, 4, 155, 0, 18, 42, 21, 5, 182, 0, 199, 42, 21, 4]
abbrev dktX5_topAt_3 : List UInt8 := dkwX5_topAt_3 ++ dktX5_topAt_4
def dkwX5_topAt_2 : List UInt8 := [162, 0, 63, 42, 21, 5, 182, 0, 125, 153, 0, 48, 42, 180, 0, 22, 21, 5, 51, 154, 0, 38, 42]
abbrev dktX5_topAt_2 : List UInt8 := dkwX5_topAt_2 ++ dktX5_topAt_3
def dkwX5_topAt_1 : List UInt8 := [4, 182, 0, 172, 172, 42, 27, 182, 0, 161, 2, 54, 4, 3, 54, 5, 21, 5, 42, 180, 0, 119]
abbrev dktX5_topAt_1 : List UInt8 := dkwX5_topAt_1 ++ dktX5_topAt_2
def dkwX5_topAt_0 : List UInt8 := [42, 3, 181, 0, 97, 27, 184, 0, 165, 153, 0, 14, 42, 28, 29, 4, 4, 182, 0, 168, 154, 0, 9, 42]
abbrev dktX5_topAt_0 : List UInt8 := dkwX5_topAt_0 ++ dktX5_topAt_1
theorem dksX5_topAt_0 : cX5_topAt.data.toList.drop 0 = dktX5_topAt_0 := by decide +kernel
theorem dksX5_topAt_1 : cX5_topAt.data.toList.drop 24 = dktX5_topAt_1 := dk_seg dksX5_topAt_0 24 rfl rfl
theorem dksX5_topAt_2 : cX5_topAt.data.toList.drop 46 = dktX5_topAt_2 := dk_seg dksX5_topAt_1 22 rfl rfl
theorem dksX5_topAt_3 : cX5_topAt.data.toList.drop 69 = dktX5_topAt_3 := dk_seg dksX5_topAt_2 23 rfl rfl
theorem dksX5_topAt_4 : cX5_topAt.data.toList.drop 93 = dktX5_topAt_4 := dk_seg dksX5_topAt_3 24 rfl rfl
theorem dksX5_topAt_5 : cX5_topAt.data.toList.drop 116 = dktX5_topAt_5 := dk_seg dksX5_topAt_4 23 rfl rfl
theorem dX5_topAt_0 : decode cX5_topAt 0 = .ok (.aload_n 0, 1) := dk_42 (dk_at dksX5_topAt_0 0 rfl rfl)
theorem dX5_topAt_1 : decode cX5_topAt 1 = .ok (.iconst 0, 1) := dk_3 (dk_at dksX5_topAt_0 1 rfl rfl)
theorem dX5_topAt_2 : decode cX5_topAt 2 = .ok (.putfield 97, 3) := dk_181 0 97 (dk_at dksX5_topAt_0 2 rfl rfl)
theorem dX5_topAt_5 : decode cX5_topAt 5 = .ok (.iload_n 1, 1) := dk_27 (dk_at dksX5_topAt_0 5 rfl rfl)
theorem dX5_topAt_6 : decode cX5_topAt 6 = .ok (.invokestatic 165, 3) := dk_184 0 165 (dk_at dksX5_topAt_0 6 rfl rfl)
theorem dX5_topAt_9 : decode cX5_topAt 9 = .ok (.ifCond .eq 14, 3) := dk_153 0 14 (dk_at dksX5_topAt_0 9 rfl rfl)
theorem dX5_topAt_12 : decode cX5_topAt 12 = .ok (.aload_n 0, 1) := dk_42 (dk_at dksX5_topAt_0 12 rfl rfl)
theorem dX5_topAt_13 : decode cX5_topAt 13 = .ok (.iload_n 2, 1) := dk_28 (dk_at dksX5_topAt_0 13 rfl rfl)
theorem dX5_topAt_14 : decode cX5_topAt 14 = .ok (.iload_n 3, 1) := dk_29 (dk_at dksX5_topAt_0 14 rfl rfl)
theorem dX5_topAt_15 : decode cX5_topAt 15 = .ok (.iconst 1, 1) := dk_4 (dk_at dksX5_topAt_0 15 rfl rfl)
theorem dX5_topAt_16 : decode cX5_topAt 16 = .ok (.iconst 1, 1) := dk_4 (dk_at dksX5_topAt_0 16 rfl rfl)
theorem dX5_topAt_17 : decode cX5_topAt 17 = .ok (.invokevirtual 168, 3) := dk_182 0 168 (dk_at dksX5_topAt_0 17 rfl rfl)
theorem dX5_topAt_20 : decode cX5_topAt 20 = .ok (.ifCond .ne 9, 3) := dk_154 0 9 (dk_at dksX5_topAt_0 20 rfl rfl)
theorem dX5_topAt_23 : decode cX5_topAt 23 = .ok (.aload_n 0, 1) := dk_42 (dk_at dksX5_topAt_0 23 rfl rfl)
theorem dX5_topAt_24 : decode cX5_topAt 24 = .ok (.iconst 1, 1) := dk_4 (dk_at dksX5_topAt_1 0 rfl rfl)
theorem dX5_topAt_25 : decode cX5_topAt 25 = .ok (.invokevirtual 172, 3) := dk_182 0 172 (dk_at dksX5_topAt_1 1 rfl rfl)
theorem dX5_topAt_28 : decode cX5_topAt 28 = .ok (.ireturn, 1) := dk_172 (dk_at dksX5_topAt_1 4 rfl rfl)
theorem dX5_topAt_29 : decode cX5_topAt 29 = .ok (.aload_n 0, 1) := dk_42 (dk_at dksX5_topAt_1 5 rfl rfl)
theorem dX5_topAt_30 : decode cX5_topAt 30 = .ok (.iload_n 1, 1) := dk_27 (dk_at dksX5_topAt_1 6 rfl rfl)
theorem dX5_topAt_31 : decode cX5_topAt 31 = .ok (.invokevirtual 161, 3) := dk_182 0 161 (dk_at dksX5_topAt_1 7 rfl rfl)
theorem dX5_topAt_34 : decode cX5_topAt 34 = .ok (.iconst (-1), 1) := dk_2 (dk_at dksX5_topAt_1 10 rfl rfl)
theorem dX5_topAt_35 : decode cX5_topAt 35 = .ok (.istore 4, 2) := dk_54 4 (dk_at dksX5_topAt_1 11 rfl rfl)
theorem dX5_topAt_37 : decode cX5_topAt 37 = .ok (.iconst 0, 1) := dk_3 (dk_at dksX5_topAt_1 13 rfl rfl)
theorem dX5_topAt_38 : decode cX5_topAt 38 = .ok (.istore 5, 2) := dk_54 5 (dk_at dksX5_topAt_1 14 rfl rfl)
theorem dX5_topAt_40 : decode cX5_topAt 40 = .ok (.iload 5, 2) := dk_21 5 (dk_at dksX5_topAt_1 16 rfl rfl)
theorem dX5_topAt_42 : decode cX5_topAt 42 = .ok (.aload_n 0, 1) := dk_42 (dk_at dksX5_topAt_1 18 rfl rfl)
theorem dX5_topAt_43 : decode cX5_topAt 43 = .ok (.getfield 119, 3) := dk_180 0 119 (dk_at dksX5_topAt_1 19 rfl rfl)
theorem dX5_topAt_46 : decode cX5_topAt 46 = .ok (.if_icmp .ge 63, 3) := dk_162 0 63 (dk_at dksX5_topAt_2 0 rfl rfl)
theorem dX5_topAt_49 : decode cX5_topAt 49 = .ok (.aload_n 0, 1) := dk_42 (dk_at dksX5_topAt_2 3 rfl rfl)
theorem dX5_topAt_50 : decode cX5_topAt 50 = .ok (.iload 5, 2) := dk_21 5 (dk_at dksX5_topAt_2 4 rfl rfl)
theorem dX5_topAt_52 : decode cX5_topAt 52 = .ok (.invokevirtual 125, 3) := dk_182 0 125 (dk_at dksX5_topAt_2 6 rfl rfl)
theorem dX5_topAt_55 : decode cX5_topAt 55 = .ok (.ifCond .eq 48, 3) := dk_153 0 48 (dk_at dksX5_topAt_2 9 rfl rfl)
theorem dX5_topAt_58 : decode cX5_topAt 58 = .ok (.aload_n 0, 1) := dk_42 (dk_at dksX5_topAt_2 12 rfl rfl)
theorem dX5_topAt_59 : decode cX5_topAt 59 = .ok (.getfield 22, 3) := dk_180 0 22 (dk_at dksX5_topAt_2 13 rfl rfl)
theorem dX5_topAt_62 : decode cX5_topAt 62 = .ok (.iload 5, 2) := dk_21 5 (dk_at dksX5_topAt_2 16 rfl rfl)
theorem dX5_topAt_64 : decode cX5_topAt 64 = .ok (.baload, 1) := dk_51 (dk_at dksX5_topAt_2 18 rfl rfl)
theorem dX5_topAt_65 : decode cX5_topAt 65 = .ok (.ifCond .ne 38, 3) := dk_154 0 38 (dk_at dksX5_topAt_2 19 rfl rfl)
theorem dX5_topAt_68 : decode cX5_topAt 68 = .ok (.aload_n 0, 1) := dk_42 (dk_at dksX5_topAt_2 22 rfl rfl)
theorem dX5_topAt_69 : decode cX5_topAt 69 = .ok (.iload 5, 2) := dk_21 5 (dk_at dksX5_topAt_3 0 rfl rfl)
theorem dX5_topAt_71 : decode cX5_topAt 71 = .ok (.iload_n 2, 1) := dk_28 (dk_at dksX5_topAt_3 2 rfl rfl)
theorem dX5_topAt_72 : decode cX5_topAt 72 = .ok (.iload_n 3, 1) := dk_29 (dk_at dksX5_topAt_3 3 rfl rfl)
theorem dX5_topAt_73 : decode cX5_topAt 73 = .ok (.invokevirtual 235, 3) := dk_182 0 235 (dk_at dksX5_topAt_3 4 rfl rfl)
theorem dX5_topAt_76 : decode cX5_topAt 76 = .ok (.ifCond .eq 27, 3) := dk_153 0 27 (dk_at dksX5_topAt_3 7 rfl rfl)
theorem dX5_topAt_79 : decode cX5_topAt 79 = .ok (.iload 4, 2) := dk_21 4 (dk_at dksX5_topAt_3 10 rfl rfl)
theorem dX5_topAt_81 : decode cX5_topAt 81 = .ok (.ifCond .lt 18, 3) := dk_155 0 18 (dk_at dksX5_topAt_3 12 rfl rfl)
theorem dX5_topAt_84 : decode cX5_topAt 84 = .ok (.aload_n 0, 1) := dk_42 (dk_at dksX5_topAt_3 15 rfl rfl)
theorem dX5_topAt_85 : decode cX5_topAt 85 = .ok (.iload 5, 2) := dk_21 5 (dk_at dksX5_topAt_3 16 rfl rfl)
theorem dX5_topAt_87 : decode cX5_topAt 87 = .ok (.invokevirtual 199, 3) := dk_182 0 199 (dk_at dksX5_topAt_3 18 rfl rfl)
theorem dX5_topAt_90 : decode cX5_topAt 90 = .ok (.aload_n 0, 1) := dk_42 (dk_at dksX5_topAt_3 21 rfl rfl)
theorem dX5_topAt_91 : decode cX5_topAt 91 = .ok (.iload 4, 2) := dk_21 4 (dk_at dksX5_topAt_3 22 rfl rfl)
theorem dX5_topAt_93 : decode cX5_topAt 93 = .ok (.invokevirtual 199, 3) := dk_182 0 199 (dk_at dksX5_topAt_4 0 rfl rfl)
theorem dX5_topAt_96 : decode cX5_topAt 96 = .ok (.if_icmp .le 7, 3) := dk_164 0 7 (dk_at dksX5_topAt_4 3 rfl rfl)
theorem dX5_topAt_99 : decode cX5_topAt 99 = .ok (.iload 5, 2) := dk_21 5 (dk_at dksX5_topAt_4 6 rfl rfl)
theorem dX5_topAt_101 : decode cX5_topAt 101 = .ok (.istore 4, 2) := dk_54 4 (dk_at dksX5_topAt_4 8 rfl rfl)
theorem dX5_topAt_103 : decode cX5_topAt 103 = .ok (.iinc 5 1, 3) := dk_132 5 1 (dk_at dksX5_topAt_4 10 rfl rfl)
theorem dX5_topAt_106 : decode cX5_topAt 106 = .ok (.goto (-66), 3) := dk_167 255 190 (dk_at dksX5_topAt_4 13 rfl rfl)
theorem dX5_topAt_109 : decode cX5_topAt 109 = .ok (.iload 4, 2) := dk_21 4 (dk_at dksX5_topAt_4 16 rfl rfl)
theorem dX5_topAt_111 : decode cX5_topAt 111 = .ok (.ifCond .ge 11, 3) := dk_156 0 11 (dk_at dksX5_topAt_4 18 rfl rfl)
theorem dX5_topAt_114 : decode cX5_topAt 114 = .ok (.aload_n 0, 1) := dk_42 (dk_at dksX5_topAt_4 21 rfl rfl)
theorem dX5_topAt_115 : decode cX5_topAt 115 = .ok (.iconst 2, 1) := dk_5 (dk_at dksX5_topAt_4 22 rfl rfl)
theorem dX5_topAt_116 : decode cX5_topAt 116 = .ok (.invokevirtual 172, 3) := dk_182 0 172 (dk_at dksX5_topAt_5 0 rfl rfl)
theorem dX5_topAt_119 : decode cX5_topAt 119 = .ok (.goto 5, 3) := dk_167 0 5 (dk_at dksX5_topAt_5 3 rfl rfl)
theorem dX5_topAt_122 : decode cX5_topAt 122 = .ok (.iload 4, 2) := dk_21 4 (dk_at dksX5_topAt_5 6 rfl rfl)
theorem dX5_topAt_124 : decode cX5_topAt 124 = .ok (.ireturn, 1) := dk_172 (dk_at dksX5_topAt_5 8 rfl rfl)
theorem q2215 : (Jvm.Cond.methodLink "PlugboardModel" (235 : Nat) ({ cls := "PlugboardModel", name := "isCovering", desc := "(III)Z" } : Jvm.MethodName)) ∈ lw_all := lw_g (lw_at lw_m9 225 rfl) rfl
theorem q2217 : (Jvm.Cond.instanceMethod ({ cls := "PlugboardModel", name := "isCovering", desc := "(III)Z" } : Jvm.MethodName)) ∈ lw_all := lw_g (lw_at lw_m9 227 rfl) rfl
theorem q2218 : (Jvm.Cond.code ({ cls := "PlugboardModel", name := "isCovering", desc := "(III)Z" } : Jvm.MethodName) prog_19_method_62_code (4 : Nat) (Option.some Jvm.ClassFile.FieldType.boolean)) ∈ lw_all := lw_g (lw_at lw_m9 228 rfl) rfl
abbrev rm_X5_topAt : Room := { frames := 3, cells := 0, slots := 0, locals := 66 }
def w_X5_topAt_40 (P : Int32 → AH → Prop) (x0 : Option Nat) (x2 : Int32) (x3 : Int32) (x4 : Int32) (x5 : Int32) (h : AH) : Prop :=
  ∀ Z40 : Int32 → Int32 → AH → Prop, (∀ x4 x5 h, (
      g_i h x0 4 8 fun y43 =>
      ((y43 ≤ x5 →
        ((0 ≤ x4 →
          P x4 h) ∧
         (¬ 0 ≤ x4 →
          is_c h x0 [4] (
          w_X5_fails x0 2 h (fun y116 h116 =>
          P y116 h116))))) ∧
       (¬ y43 ≤ x5 →
        is_c h x0 [4] (
        w_X5_isSeen x0 x5 h (fun y52 h52 =>
        ((y52 = 0 →
          Z40 x4 (x5 + 1) h52) ∧
         (¬ y52 = 0 →
          g_q h52 x0 4 5 fun y59 =>
          l_i h52 y59 1 x5 fun y64 =>
          ((y64 = 0 →
            is_c h52 x0 [4] (
            w_X5_isCovering x0 x5 x2 x3 h52 (fun y73 h73 =>
            ((y73 = 0 →
              Z40 x4 (x5 + 1) h73) ∧
             (¬ y73 = 0 →
              ((x4 < 0 →
                Z40 x5 (x5 + 1) h73) ∧
               (¬ x4 < 0 →
                is_c h73 x0 [4] (
                w_X5_rank x0 x5 h73 (fun y87 h87 =>
                is_c h87 x0 [4] (
                w_X5_rank x0 x4 h87 (fun y93 h93 =>
                ((y87 ≤ y93 →
                  Z40 x4 (x5 + 1) h93) ∧
                 (¬ y87 ≤ y93 →
                  Z40 x5 (x5 + 1) h93))))))))))))) ∧
           (¬ y64 = 0 →
            Z40 x4 (x5 + 1) h52)))))))))
      → Z40 x4 x5 h) → Z40 x4 x5 h
def w_X5_topAt (a0 : Option Nat) (a1 : Int32) (a2 : Int32) (a3 : Int32) (h : AH) (P : Int32 → AH → Prop) : Prop :=
  p_v h a0 4 0 (vI 0) fun h2 =>
  w_X5_isUser a1 h2 (fun y6 h6 =>
  ((y6 = 0 →
    is_c h6 a0 [4] (
    w_X5_fails a0 1 h6 (fun y25 h25 =>
    P y25 h25))) ∧
   (¬ y6 = 0 →
    is_c h6 a0 [4] (
    w_X5_isOnBoard a0 a2 a3 1 1 h6 (fun y17 h17 =>
    ((y17 = 0 →
      is_c h17 a0 [4] (
      w_X5_fails a0 1 h17 (fun y25 h25 =>
      P y25 h25))) ∧
     (¬ y17 = 0 →
      is_c h17 a0 [4] (
      w_X5_builds a0 a1 h17 (fun h31 =>
      w_X5_topAt_40 P a0 a2 a3 (-1) 0 h31)))))))))
theorem wk_X5_topAt_40 {x : CX} (X : Ok x cX5_topAt RX5 rm_X5_topAt 6) (er : xrt x = (Option.some Jvm.ClassFile.FieldType.int)) (en : xnm x = yX5_topAt.name) {P : Int32 → AH → Prop} (hQ : xr_i x P) (x0 : Option Nat) (x2 : Int32) (x3 : Int32) (x4 : Int32) (x5 : Int32) (h : AH) (hw : w_X5_topAt_40 P x0 x2 x3 x4 x5 h) : J x h 0 0 40 [(0, vR x0), (2, vI x2), (3, vI x3), (4, vI x4), (5, vI x5)] [] := by
  refine hw (fun x4 x5 h => J x h 0 0 40 [(0, vR x0), (2, vI x2), (3, vI x3), (4, vI x4), (5, vI x5)] []) (fun x4 x5 h hw => ?_)
  refine j_iload X (pc := 40) 4 dX5_topAt_40 rfl ?_
  refine j_aload_n X (pc := 42) 0 dX5_topAt_42 rfl rfl ?_
  refine j_geti (ci := 4) X (pc := 43) in_X5 rfl (by decide) 8 (by decide) q1880 (Or.inl rfl) dX5_topAt_43 hw (fun y43 hw => ?_)
  refine j_icmp_ge X (pc := 46) 109 dX5_topAt_46 (by decide) hw (fun hw => ?_) (fun hw => ?_)
  · refine j_iload X (pc := 109) 3 dX5_topAt_109 rfl ?_
    refine j_if_ge X (pc := 111) 122 dX5_topAt_111 (by decide) hw (fun hw => ?_) (fun hw => ?_)
    · refine j_iload X (pc := 122) 3 dX5_topAt_122 rfl ?_
      exact j_iret X (pc := 124) hQ er (Nat.le_of_ble_eq_true rfl) (Nat.le_of_ble_eq_true rfl) dX5_topAt_124 hw
    · refine j_aload_n X (pc := 114) 0 dX5_topAt_114 rfl rfl ?_
      refine j_iconst X (pc := 115) 2 dX5_topAt_115 (by decide) ?_
      obtain ⟨b9, c9, f9, hr9, ho9, hc9, hw⟩ := hw
      obtain rfl := List.mem_singleton.mp hc9
      refine j_calli (j_runV (n8 := 1) (As := [vI 2]) (rest := []) X (pc := 116) hr9 (met_X5_fails (xl x) X.hl (xG x) h x0 2 _ hw) ho9 (by decide) rfl q1988 q1990 qs33 q78 q1991 (by decide +kernel) dX5_topAt_116 rfl ⟨Nat.le_of_ble_eq_true rfl, Nat.le_of_ble_eq_true rfl⟩ (Nat.le_of_ble_eq_true rfl) ⟨Nat.le_of_ble_eq_true rfl, Nat.le_of_ble_eq_true rfl⟩) (fun y116 h116 hw => ?_)
      refine j_goto X (pc := 119) 124 dX5_topAt_119 (by decide) ?_
      exact j_iret X (pc := 124) hQ er (Nat.le_of_ble_eq_true rfl) (Nat.le_of_ble_eq_true rfl) dX5_topAt_124 hw
  · refine j_aload_n X (pc := 49) 0 dX5_topAt_49 rfl rfl ?_
    refine j_iload X (pc := 50) 4 dX5_topAt_50 rfl ?_
    obtain ⟨b9, c9, f9, hr9, ho9, hc9, hw⟩ := hw
    obtain rfl := List.mem_singleton.mp hc9
    refine j_calli (j_runV (n8 := 1) (As := [vI x5]) (rest := []) X (pc := 52) hr9 (met_X5_isSeen (xl x) X.hl (xG x) h x0 x5 _ hw) ho9 (by decide) rfl q2012 q2014 qs39 q78 q2015 (by decide +kernel) dX5_topAt_52 rfl ⟨Nat.le_of_ble_eq_true rfl, Nat.le_of_ble_eq_true rfl⟩ (Nat.le_of_ble_eq_true rfl) ⟨Nat.le_of_ble_eq_true rfl, Nat.le_of_ble_eq_true rfl⟩) (fun y52 h52 hw => ?_)
    refine j_if_eq X (pc := 55) 103 dX5_topAt_55 (by decide) hw (fun hw => ?_) (fun hw => ?_)
    · refine j_iinc X (pc := 103) 4 (x5 + 1) [(5, vI (x5 + 1)), (0, vR x0), (2, vI x2), (3, vI x3), (4, vI x4)] dX5_topAt_103 rfl rfl (Nat.le_of_ble_eq_true rfl) rfl ?_
      refine j_goto X (pc := 106) 40 dX5_topAt_106 (by decide) ?_
      refine j_lv [(0, vR x0), (2, vI x2), (3, vI x3), (4, vI x4), (5, vI (x5 + 1))] [1, 2, 3, 4, 0] rfl ?_
      refine j_cs (u' := 0) (v' := 0) (Nat.le_of_ble_eq_true rfl) (Nat.le_of_ble_eq_true rfl) ?_
      exact hw
    · refine j_aload_n X (pc := 58) 0 dX5_topAt_58 rfl rfl ?_
      refine j_getq (ci := 4) X (pc := 59) in_X5 rfl (by decide) 5 (by decide) q1877 (Or.inl rfl) dX5_topAt_59 hw (fun y59 hw => ?_)
      refine j_iload X (pc := 62) 4 dX5_topAt_62 rfl ?_
      refine j_zald X (pc := 64) 1 rfl dX5_topAt_64 hw (fun y64 hw => ?_)
      refine j_if_ne X (pc := 65) 103 dX5_topAt_65 (by decide) hw (fun hw => ?_) (fun hw => ?_)
      · refine j_aload_n X (pc := 68) 0 dX5_topAt_68 rfl rfl ?_
        refine j_iload X (pc := 69) 4 dX5_topAt_69 rfl ?_
        refine j_iload_n X (pc := 71) 1 dX5_topAt_71 rfl rfl ?_
        refine j_iload_n X (pc := 72) 2 dX5_topAt_72 rfl rfl ?_
        obtain ⟨b9, c9, f9, hr9, ho9, hc9, hw⟩ := hw
        obtain rfl := List.mem_singleton.mp hc9
        refine j_calli (j_runV (n8 := 3) (As := [vI x5, vI x2, vI x3]) (rest := []) X (pc := 73) hr9 (met_X5_isCovering (xl x) X.hl (xG x) h52 x0 x5 x2 x3 _ hw) ho9 (by decide) rfl q2215 q2217 qs60 q78 q2218 (by decide +kernel) dX5_topAt_73 rfl ⟨Nat.le_of_ble_eq_true rfl, Nat.le_of_ble_eq_true rfl⟩ (Nat.le_of_ble_eq_true rfl) ⟨Nat.le_of_ble_eq_true rfl, Nat.le_of_ble_eq_true rfl⟩) (fun y73 h73 hw => ?_)
        refine j_if_eq X (pc := 76) 103 dX5_topAt_76 (by decide) hw (fun hw => ?_) (fun hw => ?_)
        · refine j_iinc X (pc := 103) 4 (x5 + 1) [(5, vI (x5 + 1)), (0, vR x0), (2, vI x2), (3, vI x3), (4, vI x4)] dX5_topAt_103 rfl rfl (Nat.le_of_ble_eq_true rfl) rfl ?_
          refine j_goto X (pc := 106) 40 dX5_topAt_106 (by decide) ?_
          refine j_lv [(0, vR x0), (2, vI x2), (3, vI x3), (4, vI x4), (5, vI (x5 + 1))] [1, 2, 3, 4, 0] rfl ?_
          refine j_cs (u' := 0) (v' := 0) (Nat.le_of_ble_eq_true rfl) (Nat.le_of_ble_eq_true rfl) ?_
          exact hw
        · refine j_iload X (pc := 79) 3 dX5_topAt_79 rfl ?_
          refine j_if_lt X (pc := 81) 99 dX5_topAt_81 (by decide) hw (fun hw => ?_) (fun hw => ?_)
          · refine j_iload X (pc := 99) 4 dX5_topAt_99 rfl ?_
            refine j_istore X (pc := 101) [(4, vI x5), (0, vR x0), (2, vI x2), (3, vI x3), (5, vI x5)] dX5_topAt_101 (Nat.le_of_ble_eq_true rfl) rfl ?_
            refine j_iinc X (pc := 103) 4 (x5 + 1) [(5, vI (x5 + 1)), (4, vI x5), (0, vR x0), (2, vI x2), (3, vI x3)] dX5_topAt_103 rfl rfl (Nat.le_of_ble_eq_true rfl) rfl ?_
            refine j_goto X (pc := 106) 40 dX5_topAt_106 (by decide) ?_
            refine j_lv [(0, vR x0), (2, vI x2), (3, vI x3), (4, vI x5), (5, vI (x5 + 1))] [2, 3, 4, 1, 0] rfl ?_
            refine j_cs (u' := 0) (v' := 0) (Nat.le_of_ble_eq_true rfl) (Nat.le_of_ble_eq_true rfl) ?_
            exact hw
          · refine j_aload_n X (pc := 84) 0 dX5_topAt_84 rfl rfl ?_
            refine j_iload X (pc := 85) 4 dX5_topAt_85 rfl ?_
            obtain ⟨b9, c9, f9, hr9, ho9, hc9, hw⟩ := hw
            obtain rfl := List.mem_singleton.mp hc9
            refine j_calli (j_runV (n8 := 1) (As := [vI x5]) (rest := []) X (pc := 87) hr9 (met_X5_rank (xl x) X.hl (xG x) h73 x0 x5 _ hw) ho9 (by decide) rfl q2067 q2069 qs50 q78 q2070 (by decide +kernel) dX5_topAt_87 rfl ⟨Nat.le_of_ble_eq_true rfl, Nat.le_of_ble_eq_true rfl⟩ (Nat.le_of_ble_eq_true rfl) ⟨Nat.le_of_ble_eq_true rfl, Nat.le_of_ble_eq_true rfl⟩) (fun y87 h87 hw => ?_)
            refine j_aload_n X (pc := 90) 0 dX5_topAt_90 rfl rfl ?_
            refine j_iload X (pc := 91) 3 dX5_topAt_91 rfl ?_
            obtain ⟨b9, c9, f9, hr9, ho9, hc9, hw⟩ := hw
            obtain rfl := List.mem_singleton.mp hc9
            refine j_calli (j_runV (n8 := 1) (As := [vI x4]) (rest := [vI y87]) X (pc := 93) hr9 (met_X5_rank (xl x) X.hl (xG x) h87 x0 x4 _ hw) ho9 (by decide) rfl q2067 q2069 qs50 q78 q2070 (by decide +kernel) dX5_topAt_93 rfl ⟨Nat.le_of_ble_eq_true rfl, Nat.le_of_ble_eq_true rfl⟩ (Nat.le_of_ble_eq_true rfl) ⟨Nat.le_of_ble_eq_true rfl, Nat.le_of_ble_eq_true rfl⟩) (fun y93 h93 hw => ?_)
            refine j_icmp_le X (pc := 96) 103 dX5_topAt_96 (by decide) hw (fun hw => ?_) (fun hw => ?_)
            · refine j_iinc X (pc := 103) 4 (x5 + 1) [(5, vI (x5 + 1)), (0, vR x0), (2, vI x2), (3, vI x3), (4, vI x4)] dX5_topAt_103 rfl rfl (Nat.le_of_ble_eq_true rfl) rfl ?_
              refine j_goto X (pc := 106) 40 dX5_topAt_106 (by decide) ?_
              refine j_lv [(0, vR x0), (2, vI x2), (3, vI x3), (4, vI x4), (5, vI (x5 + 1))] [1, 2, 3, 4, 0] rfl ?_
              refine j_cs (u' := 0) (v' := 0) (Nat.le_of_ble_eq_true rfl) (Nat.le_of_ble_eq_true rfl) ?_
              exact hw
            · refine j_iload X (pc := 99) 4 dX5_topAt_99 rfl ?_
              refine j_istore X (pc := 101) [(4, vI x5), (0, vR x0), (2, vI x2), (3, vI x3), (5, vI x5)] dX5_topAt_101 (Nat.le_of_ble_eq_true rfl) rfl ?_
              refine j_iinc X (pc := 103) 4 (x5 + 1) [(5, vI (x5 + 1)), (4, vI x5), (0, vR x0), (2, vI x2), (3, vI x3)] dX5_topAt_103 rfl rfl (Nat.le_of_ble_eq_true rfl) rfl ?_
              refine j_goto X (pc := 106) 40 dX5_topAt_106 (by decide) ?_
              refine j_lv [(0, vR x0), (2, vI x2), (3, vI x3), (4, vI x5), (5, vI (x5 + 1))] [2, 3, 4, 1, 0] rfl ?_
              refine j_cs (u' := 0) (v' := 0) (Nat.le_of_ble_eq_true rfl) (Nat.le_of_ble_eq_true rfl) ?_
              exact hw
      · refine j_iinc X (pc := 103) 4 (x5 + 1) [(5, vI (x5 + 1)), (0, vR x0), (2, vI x2), (3, vI x3), (4, vI x4)] dX5_topAt_103 rfl rfl (Nat.le_of_ble_eq_true rfl) rfl ?_
        refine j_goto X (pc := 106) 40 dX5_topAt_106 (by decide) ?_
        refine j_lv [(0, vR x0), (2, vI x2), (3, vI x3), (4, vI x4), (5, vI (x5 + 1))] [1, 2, 3, 4, 0] rfl ?_
        refine j_cs (u' := 0) (v' := 0) (Nat.le_of_ble_eq_true rfl) (Nat.le_of_ble_eq_true rfl) ?_
        exact hw
theorem met_X5_topAt (l : Launch) (hlt : l.stackTraces = false) (G : GG) (h : AH) (a0 : Option Nat) (a1 : Int32) (a2 : Int32) (a3 : Int32) (P : Int32 → AH → Prop) (hw : w_X5_topAt a0 a1 a2 a3 h P) : ct_i l yX5_topAt (ws_ yX5_topAt cX5_topAt 6 (Option.some Jvm.ClassFile.FieldType.int)) rm_X5_topAt G h [vR a0, vI a1, vI a2, vI a3] P := by
  refine j_starti hlt [(0, vR a0), (1, vI a1), (2, vI a2), (3, vI a3)] (plainFor_of_name (by decide)) rfl rfl (fun x X eG er en hQ => ?_)
  subst eG
  refine j_aload_n X (pc := 0) 0 dX5_topAt_0 rfl rfl ?_
  refine j_iconst X (pc := 1) 0 dX5_topAt_1 (by decide) ?_
  refine j_put (ci := 4) X (pc := 2) in_X5 rfl (by decide) 0 (by decide) q1872 (Or.inl rfl) tyX5 tyX5_ok nmX5 rfl rfl (ty := .int) (tyX5_ok 0 (by decide)) rfl rfl dX5_topAt_2 hw (fun h2 hw => ?_)
  refine j_iload_n X (pc := 5) 1 dX5_topAt_5 rfl rfl ?_
  refine j_calli (j_runS (n8 := 1) (As := [vI a1]) (rest := []) X (pc := 6) (met_X5_isUser (xl x) X.hl (xG x) h2 a1 _ hw) q1978 q1979 q78 q1980 (by decide +kernel) dX5_topAt_6 rfl ⟨Nat.le_of_ble_eq_true rfl, Nat.le_of_ble_eq_true rfl⟩ (Nat.le_of_ble_eq_true rfl) ⟨Nat.le_of_ble_eq_true rfl, Nat.le_of_ble_eq_true rfl⟩) (fun y6 h6 hw => ?_)
  refine j_if_eq X (pc := 9) 23 dX5_topAt_9 (by decide) hw (fun hw => ?_) (fun hw => ?_)
  · refine j_aload_n X (pc := 23) 0 dX5_topAt_23 rfl rfl ?_
    refine j_iconst X (pc := 24) 1 dX5_topAt_24 (by decide) ?_
    obtain ⟨b9, c9, f9, hr9, ho9, hc9, hw⟩ := hw
    obtain rfl := List.mem_singleton.mp hc9
    refine j_calli (j_runV (n8 := 1) (As := [vI 1]) (rest := []) X (pc := 25) hr9 (met_X5_fails (xl x) X.hl (xG x) h6 a0 1 _ hw) ho9 (by decide) rfl q1988 q1990 qs33 q78 q1991 (by decide +kernel) dX5_topAt_25 rfl ⟨Nat.le_of_ble_eq_true rfl, Nat.le_of_ble_eq_true rfl⟩ (Nat.le_of_ble_eq_true rfl) ⟨Nat.le_of_ble_eq_true rfl, Nat.le_of_ble_eq_true rfl⟩) (fun y25 h25 hw => ?_)
    exact j_iret X (pc := 28) hQ er (Nat.le_of_ble_eq_true rfl) (Nat.le_of_ble_eq_true rfl) dX5_topAt_28 hw
  · refine j_aload_n X (pc := 12) 0 dX5_topAt_12 rfl rfl ?_
    refine j_iload_n X (pc := 13) 2 dX5_topAt_13 rfl rfl ?_
    refine j_iload_n X (pc := 14) 3 dX5_topAt_14 rfl rfl ?_
    refine j_iconst X (pc := 15) 1 dX5_topAt_15 (by decide) ?_
    refine j_iconst X (pc := 16) 1 dX5_topAt_16 (by decide) ?_
    obtain ⟨b9, c9, f9, hr9, ho9, hc9, hw⟩ := hw
    obtain rfl := List.mem_singleton.mp hc9
    refine j_calli (j_runV (n8 := 4) (As := [vI a2, vI a3, vI 1, vI 1]) (rest := []) X (pc := 17) hr9 (met_X5_isOnBoard (xl x) X.hl (xG x) h6 a0 a2 a3 1 1 _ hw) ho9 (by decide) rfl q1984 q1986 qs32 q78 q1987 (by decide +kernel) dX5_topAt_17 rfl ⟨Nat.le_of_ble_eq_true rfl, Nat.le_of_ble_eq_true rfl⟩ (Nat.le_of_ble_eq_true rfl) ⟨Nat.le_of_ble_eq_true rfl, Nat.le_of_ble_eq_true rfl⟩) (fun y17 h17 hw => ?_)
    refine j_if_ne X (pc := 20) 29 dX5_topAt_20 (by decide) hw (fun hw => ?_) (fun hw => ?_)
    · refine j_aload_n X (pc := 23) 0 dX5_topAt_23 rfl rfl ?_
      refine j_iconst X (pc := 24) 1 dX5_topAt_24 (by decide) ?_
      obtain ⟨b9, c9, f9, hr9, ho9, hc9, hw⟩ := hw
      obtain rfl := List.mem_singleton.mp hc9
      refine j_calli (j_runV (n8 := 1) (As := [vI 1]) (rest := []) X (pc := 25) hr9 (met_X5_fails (xl x) X.hl (xG x) h17 a0 1 _ hw) ho9 (by decide) rfl q1988 q1990 qs33 q78 q1991 (by decide +kernel) dX5_topAt_25 rfl ⟨Nat.le_of_ble_eq_true rfl, Nat.le_of_ble_eq_true rfl⟩ (Nat.le_of_ble_eq_true rfl) ⟨Nat.le_of_ble_eq_true rfl, Nat.le_of_ble_eq_true rfl⟩) (fun y25 h25 hw => ?_)
      exact j_iret X (pc := 28) hQ er (Nat.le_of_ble_eq_true rfl) (Nat.le_of_ble_eq_true rfl) dX5_topAt_28 hw
    · refine j_aload_n X (pc := 29) 0 dX5_topAt_29 rfl rfl ?_
      refine j_iload_n X (pc := 30) 1 dX5_topAt_30 rfl rfl ?_
      obtain ⟨b9, c9, f9, hr9, ho9, hc9, hw⟩ := hw
      obtain rfl := List.mem_singleton.mp hc9
      refine j_callv (j_runV (n8 := 1) (As := [vI a1]) (rest := []) X (pc := 31) hr9 (met_X5_builds (xl x) X.hl (xG x) h17 a0 a1 _ hw) ho9 (by decide) rfl q1992 q1994 qs34 q78 q1995 (by decide +kernel) dX5_topAt_31 rfl ⟨Nat.le_of_ble_eq_true rfl, Nat.le_of_ble_eq_true rfl⟩ (Nat.le_of_ble_eq_true rfl) ⟨Nat.le_of_ble_eq_true rfl, Nat.le_of_ble_eq_true rfl⟩) (fun h31 hw => ?_)
      refine j_iconst X (pc := 34) (-1) dX5_topAt_34 (by decide) ?_
      refine j_istore X (pc := 35) [(4, vI (-1)), (0, vR a0), (1, vI a1), (2, vI a2), (3, vI a3)] dX5_topAt_35 (Nat.le_of_ble_eq_true rfl) rfl ?_
      refine j_iconst X (pc := 37) 0 dX5_topAt_37 (by decide) ?_
      refine j_istore X (pc := 38) [(5, vI 0), (4, vI (-1)), (0, vR a0), (1, vI a1), (2, vI a2), (3, vI a3)] dX5_topAt_38 (Nat.le_of_ble_eq_true rfl) rfl ?_
      refine j_lv [(0, vR a0), (2, vI a2), (3, vI a3), (4, vI (-1)), (5, vI 0)] [2, 4, 5, 1, 0] rfl ?_
      refine j_cs (u' := 0) (v' := 0) (Nat.le_of_ble_eq_true rfl) (Nat.le_of_ble_eq_true rfl) ?_
      exact wk_X5_topAt_40 X er en hQ a0 a2 a3 (-1) 0 h31 hw
abbrev cX1_lockedBy : ByteArray := prog_1_method_58_code
def yX1_lockedBy : MethodName := ⟨RX1, "lockedBy", "(II)I"⟩
def dkwX1_lockedBy_0 : List UInt8 := [42, 27, 182, 0, 199, 78, 45, 42, 45, 28, 182, 0, 241, 182, 1, 26, 172]
abbrev dktX1_lockedBy_0 : List UInt8 := dkwX1_lockedBy_0 ++ []
theorem dksX1_lockedBy_0 : cX1_lockedBy.data.toList.drop 0 = dktX1_lockedBy_0 := by decide +kernel
theorem dX1_lockedBy_0 : decode cX1_lockedBy 0 = .ok (.aload_n 0, 1) := dk_42 (dk_at dksX1_lockedBy_0 0 rfl rfl)
theorem dX1_lockedBy_1 : decode cX1_lockedBy 1 = .ok (.iload_n 1, 1) := dk_27 (dk_at dksX1_lockedBy_0 1 rfl rfl)
theorem dX1_lockedBy_2 : decode cX1_lockedBy 2 = .ok (.invokevirtual 199, 3) := dk_182 0 199 (dk_at dksX1_lockedBy_0 2 rfl rfl)
theorem dX1_lockedBy_5 : decode cX1_lockedBy 5 = .ok (.astore_n 3, 1) := dk_78 (dk_at dksX1_lockedBy_0 5 rfl rfl)
theorem dX1_lockedBy_6 : decode cX1_lockedBy 6 = .ok (.aload_n 3, 1) := dk_45 (dk_at dksX1_lockedBy_0 6 rfl rfl)
theorem dX1_lockedBy_7 : decode cX1_lockedBy 7 = .ok (.aload_n 0, 1) := dk_42 (dk_at dksX1_lockedBy_0 7 rfl rfl)
theorem dX1_lockedBy_8 : decode cX1_lockedBy 8 = .ok (.aload_n 3, 1) := dk_45 (dk_at dksX1_lockedBy_0 8 rfl rfl)
theorem dX1_lockedBy_9 : decode cX1_lockedBy 9 = .ok (.iload_n 2, 1) := dk_28 (dk_at dksX1_lockedBy_0 9 rfl rfl)
theorem dX1_lockedBy_10 : decode cX1_lockedBy 10 = .ok (.invokevirtual 241, 3) := dk_182 0 241 (dk_at dksX1_lockedBy_0 10 rfl rfl)
theorem dX1_lockedBy_13 : decode cX1_lockedBy 13 = .ok (.invokevirtual 282, 3) := dk_182 1 26 (dk_at dksX1_lockedBy_0 13 rfl rfl)
theorem dX1_lockedBy_16 : decode cX1_lockedBy 16 = .ok (.ireturn, 1) := dk_172 (dk_at dksX1_lockedBy_0 16 rfl rfl)
abbrev rm_X1_lockedBy : Room := { frames := 9, cells := 3, slots := 13, locals := 146 }
def w_X1_lockedBy (a0 : Option Nat) (a1 : Int32) (a2 : Int32) (h : AH) (P : Int32 → AH → Prop) (PX : String → AH → Prop) : Prop :=
  is_c h a0 [0] (
  w_X1_board a0 a1 h (fun y2 h2 =>
  is_c h2 a0 [0] (
  w_X1_shape a0 y2 a2 h2 (fun y10 h10 =>
  is_c h10 y2 [2] (
  w_X3_lockerOf y2 y10 h10 (fun y13 h13 =>
  P y13 h13))) PX)) PX)
theorem met_X1_lockedBy (l : Launch) (hlt : l.stackTraces = false) (G : GG) (h : AH) (a0 : Option Nat) (a1 : Int32) (a2 : Int32) (P : Int32 → AH → Prop) (PX : String → AH → Prop) (hw : w_X1_lockedBy a0 a1 a2 h P PX) : cx_i l yX1_lockedBy (ws_ yX1_lockedBy cX1_lockedBy 4 (Option.some Jvm.ClassFile.FieldType.int)) rm_X1_lockedBy G h [vR a0, vI a1, vI a2] P PX := by
  refine j_startXi hlt [(0, vR a0), (1, vI a1), (2, vI a2)] (by decide) rfl rfl (fun x X eG er en hQ hT hex => ?_)
  subst eG
  refine j_aload_n X (pc := 0) 0 dX1_lockedBy_0 rfl rfl ?_
  refine j_iload_n X (pc := 1) 1 dX1_lockedBy_1 rfl rfl ?_
  obtain ⟨b9, c9, f9, hr9, ho9, hc9, hw⟩ := hw
  obtain rfl := List.mem_singleton.mp hc9
  refine j_callXq (j_runVX (n8 := 1) (As := [vI a1]) (rest := []) X (pc := 2) hr9 (met_X1_board (xl x) X.hl (xG x) h a0 a1 _ _ hw) ho9 (by decide) rfl q297 q299 qs0 q71 q300 (by decide +kernel) dX1_lockedBy_2 rfl ⟨Nat.le_of_ble_eq_true rfl, Nat.le_of_ble_eq_true rfl⟩ (Nat.le_of_ble_eq_true rfl) ⟨Nat.le_of_ble_eq_true rfl, Nat.le_of_ble_eq_true rfl⟩) (fun E h9 hx => j_out X hT hex (Nat.le_of_ble_eq_true rfl) (Nat.le_of_ble_eq_true rfl) hx) (fun y2 h2 hw => ?_)
  refine j_astore_n X (pc := 5) [(3, vR y2), (0, vR a0), (1, vI a1), (2, vI a2)] dX1_lockedBy_5 rfl (Nat.le_of_ble_eq_true rfl) rfl ?_
  refine j_aload_n X (pc := 6) 0 dX1_lockedBy_6 rfl rfl ?_
  refine j_aload_n X (pc := 7) 1 dX1_lockedBy_7 rfl rfl ?_
  refine j_aload_n X (pc := 8) 0 dX1_lockedBy_8 rfl rfl ?_
  refine j_iload_n X (pc := 9) 3 dX1_lockedBy_9 rfl rfl ?_
  obtain ⟨b9, c9, f9, hr9, ho9, hc9, hw⟩ := hw
  obtain rfl := List.mem_singleton.mp hc9
  refine j_callXq (j_runVX (n8 := 2) (As := [vR y2, vI a2]) (rest := [vR y2]) X (pc := 10) hr9 (met_X1_shape (xl x) X.hl (xG x) h2 a0 y2 a2 _ _ hw) ho9 (by decide) rfl q1075 q1077 qs9 q71 q1078 (by decide +kernel) dX1_lockedBy_10 rfl ⟨Nat.le_of_ble_eq_true rfl, Nat.le_of_ble_eq_true rfl⟩ (Nat.le_of_ble_eq_true rfl) ⟨Nat.le_of_ble_eq_true rfl, Nat.le_of_ble_eq_true rfl⟩) (fun E h9 hx => j_out X hT hex (Nat.le_of_ble_eq_true rfl) (Nat.le_of_ble_eq_true rfl) hx) (fun y10 h10 hw => ?_)
  obtain ⟨b9, c9, f9, hr9, ho9, hc9, hw⟩ := hw
  obtain rfl := List.mem_singleton.mp hc9
  refine j_calli (j_runV (n8 := 1) (As := [vR y10]) (rest := []) X (pc := 13) hr9 (met_X3_lockerOf (xl x) X.hl (xG x) h10 y2 y10 _ hw) ho9 (by decide) rfl q1236 q1094 q1095 q76 q1096 (by decide +kernel) dX1_lockedBy_13 rfl ⟨Nat.le_of_ble_eq_true rfl, Nat.le_of_ble_eq_true rfl⟩ (Nat.le_of_ble_eq_true rfl) ⟨Nat.le_of_ble_eq_true rfl, Nat.le_of_ble_eq_true rfl⟩) (fun y13 h13 hw => ?_)
  exact j_iret X (pc := 16) hQ er (Nat.le_of_ble_eq_true rfl) (Nat.le_of_ble_eq_true rfl) dX1_lockedBy_16 hw
abbrev cX0_lockedBy : ByteArray := method_31_code
def yX0_lockedBy : MethodName := ⟨RX0, "lockedBy", "(LPlugboard;II[J)I"⟩
def dkwX0_lockedBy_0 : List UInt8 := [45, 3, 42, 27, 28, 182, 0, 112, 133, 80, 167, 0, 11, 58, 4, 4, 172, 58, 4, 5, 172, 3, 172]
abbrev dktX0_lockedBy_0 : List UInt8 := dkwX0_lockedBy_0 ++ []
theorem dksX0_lockedBy_0 : cX0_lockedBy.data.toList.drop 0 = dktX0_lockedBy_0 := by decide +kernel
theorem dX0_lockedBy_0 : decode cX0_lockedBy 0 = .ok (.aload_n 3, 1) := dk_45 (dk_at dksX0_lockedBy_0 0 rfl rfl)
theorem dX0_lockedBy_1 : decode cX0_lockedBy 1 = .ok (.iconst 0, 1) := dk_3 (dk_at dksX0_lockedBy_0 1 rfl rfl)
theorem dX0_lockedBy_2 : decode cX0_lockedBy 2 = .ok (.aload_n 0, 1) := dk_42 (dk_at dksX0_lockedBy_0 2 rfl rfl)
theorem dX0_lockedBy_3 : decode cX0_lockedBy 3 = .ok (.iload_n 1, 1) := dk_27 (dk_at dksX0_lockedBy_0 3 rfl rfl)
theorem dX0_lockedBy_4 : decode cX0_lockedBy 4 = .ok (.iload_n 2, 1) := dk_28 (dk_at dksX0_lockedBy_0 4 rfl rfl)
theorem dX0_lockedBy_5 : decode cX0_lockedBy 5 = .ok (.invokevirtual 112, 3) := dk_182 0 112 (dk_at dksX0_lockedBy_0 5 rfl rfl)
theorem dX0_lockedBy_8 : decode cX0_lockedBy 8 = .ok (.i2l, 1) := dk_133 (dk_at dksX0_lockedBy_0 8 rfl rfl)
theorem dX0_lockedBy_9 : decode cX0_lockedBy 9 = .ok (.lastore, 1) := dk_80 (dk_at dksX0_lockedBy_0 9 rfl rfl)
theorem dX0_lockedBy_10 : decode cX0_lockedBy 10 = .ok (.goto 11, 3) := dk_167 0 11 (dk_at dksX0_lockedBy_0 10 rfl rfl)
theorem dX0_lockedBy_13 : decode cX0_lockedBy 13 = .ok (.astore 4, 2) := dk_58 4 (dk_at dksX0_lockedBy_0 13 rfl rfl)
theorem dX0_lockedBy_15 : decode cX0_lockedBy 15 = .ok (.iconst 1, 1) := dk_4 (dk_at dksX0_lockedBy_0 15 rfl rfl)
theorem dX0_lockedBy_16 : decode cX0_lockedBy 16 = .ok (.ireturn, 1) := dk_172 (dk_at dksX0_lockedBy_0 16 rfl rfl)
theorem dX0_lockedBy_17 : decode cX0_lockedBy 17 = .ok (.astore 4, 2) := dk_58 4 (dk_at dksX0_lockedBy_0 17 rfl rfl)
theorem dX0_lockedBy_19 : decode cX0_lockedBy 19 = .ok (.iconst 2, 1) := dk_5 (dk_at dksX0_lockedBy_0 19 rfl rfl)
theorem dX0_lockedBy_20 : decode cX0_lockedBy 20 = .ok (.ireturn, 1) := dk_172 (dk_at dksX0_lockedBy_0 20 rfl rfl)
theorem dX0_lockedBy_21 : decode cX0_lockedBy 21 = .ok (.iconst 0, 1) := dk_3 (dk_at dksX0_lockedBy_0 21 rfl rfl)
theorem dX0_lockedBy_22 : decode cX0_lockedBy 22 = .ok (.ireturn, 1) := dk_172 (dk_at dksX0_lockedBy_0 22 rfl rfl)
theorem q1501 : (Jvm.Cond.methodLink "PlugboardLaw" (112 : Nat) ({ cls := "Plugboard", name := "lockedBy", desc := "(II)I" } : Jvm.MethodName)) ∈ lw_all := lw_g (lw_at lw_m6 231 rfl) rfl
theorem q1502 : (Jvm.Cond.instanceMethod ({ cls := "Plugboard", name := "lockedBy", desc := "(II)I" } : Jvm.MethodName)) ∈ lw_all := lw_g (lw_at lw_m6 232 rfl) rfl
theorem q1503 : (Jvm.Cond.selects "Plugboard" ({ cls := "Plugboard", name := "lockedBy", desc := "(II)I" } : Jvm.MethodName) ({ cls := "Plugboard", name := "lockedBy", desc := "(II)I" } : Jvm.MethodName)) ∈ lw_all := lw_g (lw_at lw_m6 233 rfl) rfl
theorem q1504 : (Jvm.Cond.code ({ cls := "Plugboard", name := "lockedBy", desc := "(II)I" } : Jvm.MethodName) prog_1_method_58_code (4 : Nat) (Option.some Jvm.ClassFile.FieldType.int)) ∈ lw_all := lw_g (lw_at lw_m6 234 rfl) rfl
abbrev rm_X0_lockedBy : Room := { frames := 10, cells := 3, slots := 13, locals := 169 }
def w_X0_lockedBy (a0 : Option Nat) (a1 : Int32) (a2 : Int32) (a3 : Option Nat) (h : AH) (P : Int32 → AH → Prop) : Prop :=
  is_c h a0 [0] (
  w_X1_lockedBy a0 a1 a2 h (fun y5 h5 =>
  s_L h5 a3 0 (Int32.toInt64 y5) fun h9 =>
  P 0 h9)
    (fun E9 h9 => (E9 = "java/lang/IllegalArgumentException" ∧ ∀ q9 : Nat,
    P 1 h9) ∨
    (E9 = "java/util/NoSuchElementException" ∧ ∀ q9 : Nat,
    P 2 h9)))
theorem met_X0_lockedBy (l : Launch) (hlt : l.stackTraces = false) (G : GG) (h : AH) (a0 : Option Nat) (a1 : Int32) (a2 : Int32) (a3 : Option Nat) (P : Int32 → AH → Prop) (hw : w_X0_lockedBy a0 a1 a2 a3 h P) : ct_i l yX0_lockedBy (wsW_ yX0_lockedBy cX0_lockedBy 5 (Option.some Jvm.ClassFile.FieldType.int) [((0 : Nat), (10 : Nat), (13 : Nat), (13 : Nat)), ((0 : Nat), (10 : Nat), (17 : Nat), (21 : Nat))]) rm_X0_lockedBy G h [vR a0, vI a1, vI a2, vR a3] P := by
  refine j_startWi hlt [(0, vR a0), (1, vI a1), (2, vI a2), (3, vR a3)] (by decide) rfl rfl (fun x X eG er en hQ hex => ?_)
  subst eG
  refine j_aload_n X (pc := 0) 3 dX0_lockedBy_0 rfl rfl ?_
  refine j_iconst X (pc := 1) 0 dX0_lockedBy_1 (by decide) ?_
  refine j_aload_n X (pc := 2) 0 dX0_lockedBy_2 rfl rfl ?_
  refine j_iload_n X (pc := 3) 1 dX0_lockedBy_3 rfl rfl ?_
  refine j_iload_n X (pc := 4) 2 dX0_lockedBy_4 rfl rfl ?_
  obtain ⟨b9, c9, f9, hr9, ho9, hc9, hw⟩ := hw
  obtain rfl := List.mem_singleton.mp hc9
  refine j_callXi (j_runVX (n8 := 2) (As := [vI a1, vI a2]) (rest := [vI 0, vR a3]) X (pc := 5) hr9 (met_X1_lockedBy (xl x) X.hl (xG x) h a0 a1 a2 _ _ hw) ho9 (by decide) rfl q1501 q1502 q1503 q71 q1504 (by decide +kernel) dX0_lockedBy_5 rfl ⟨Nat.le_of_ble_eq_true rfl, Nat.le_of_ble_eq_true rfl⟩ (Nat.le_of_ble_eq_true rfl) ⟨Nat.le_of_ble_eq_true rfl, Nat.le_of_ble_eq_true rfl⟩) ?_ (fun y5 h5 hw => ?_)
  · intro E9 h9 hx
    rcases hx with ⟨rfl, hw⟩ | ⟨rfl, hw⟩
    · refine j_catch X (pc := 5) "java/lang/IllegalArgumentException" hex [] [⟨0, 10, 17, 21⟩] ⟨0, 10, 13, 13⟩ rfl (by intro y hy; cases hy) (by decide) (by decide) q291 q312 (fun q9 => ?_)
      have hw := hw q9
      refine j_astore X (pc := 13) [(4, vR (some q9)), (0, vR a0), (1, vI a1), (2, vI a2), (3, vR a3)] dX0_lockedBy_13 (Nat.le_of_ble_eq_true rfl) rfl ?_
      refine j_iconst X (pc := 15) 1 dX0_lockedBy_15 (by decide) ?_
      exact j_iret X (pc := 16) hQ er (Nat.le_of_ble_eq_true rfl) (Nat.le_of_ble_eq_true rfl) dX0_lockedBy_16 hw
    · refine j_catch X (pc := 5) "java/util/NoSuchElementException" hex [⟨0, 10, 13, 13⟩] [] ⟨0, 10, 17, 21⟩ rfl (by intro y hy; simp only [List.mem_cons, List.not_mem_nil, or_false] at hy; subst hy; exact Or.inr ⟨by decide, "java/lang/IllegalArgumentException", q291, by decide +kernel⟩) (by decide) (by decide) q1068 q537 (fun q9 => ?_)
      have hw := hw q9
      refine j_astore X (pc := 17) [(4, vR (some q9)), (0, vR a0), (1, vI a1), (2, vI a2), (3, vR a3)] dX0_lockedBy_17 (Nat.le_of_ble_eq_true rfl) rfl ?_
      refine j_iconst X (pc := 19) 2 dX0_lockedBy_19 (by decide) ?_
      exact j_iret X (pc := 20) hQ er (Nat.le_of_ble_eq_true rfl) (Nat.le_of_ble_eq_true rfl) dX0_lockedBy_20 hw
  refine j_i2l X (pc := 8) dX0_lockedBy_8 ?_
  refine j_last X (pc := 9) dX0_lockedBy_9 hw (fun h9 hw => ?_)
  refine j_goto X (pc := 10) 21 dX0_lockedBy_10 (by decide) ?_
  refine j_iconst X (pc := 21) 0 dX0_lockedBy_21 (by decide) ?_
  exact j_iret X (pc := 22) hQ er (Nat.le_of_ble_eq_true rfl) (Nat.le_of_ble_eq_true rfl) dX0_lockedBy_22 hw
abbrev cX5_lockedBy : ByteArray := prog_19_method_64_code
def yX5_lockedBy : MethodName := ⟨RX5, "lockedBy", "(II)I"⟩
def dkwX5_lockedBy_0 : List UInt8 := [42, 27, 28, 182, 0, 231, 153, 0, 7, 3, 167, 0, 12, 42, 180, 0, 67, 16, 36, 28, 96, 46, 172]
abbrev dktX5_lockedBy_0 : List UInt8 := dkwX5_lockedBy_0 ++ []
theorem dksX5_lockedBy_0 : cX5_lockedBy.data.toList.drop 0 = dktX5_lockedBy_0 := by decide +kernel
theorem dX5_lockedBy_0 : decode cX5_lockedBy 0 = .ok (.aload_n 0, 1) := dk_42 (dk_at dksX5_lockedBy_0 0 rfl rfl)
theorem dX5_lockedBy_1 : decode cX5_lockedBy 1 = .ok (.iload_n 1, 1) := dk_27 (dk_at dksX5_lockedBy_0 1 rfl rfl)
theorem dX5_lockedBy_2 : decode cX5_lockedBy 2 = .ok (.iload_n 2, 1) := dk_28 (dk_at dksX5_lockedBy_0 2 rfl rfl)
theorem dX5_lockedBy_3 : decode cX5_lockedBy 3 = .ok (.invokevirtual 231, 3) := dk_182 0 231 (dk_at dksX5_lockedBy_0 3 rfl rfl)
theorem dX5_lockedBy_6 : decode cX5_lockedBy 6 = .ok (.ifCond .eq 7, 3) := dk_153 0 7 (dk_at dksX5_lockedBy_0 6 rfl rfl)
theorem dX5_lockedBy_9 : decode cX5_lockedBy 9 = .ok (.iconst 0, 1) := dk_3 (dk_at dksX5_lockedBy_0 9 rfl rfl)
theorem dX5_lockedBy_10 : decode cX5_lockedBy 10 = .ok (.goto 12, 3) := dk_167 0 12 (dk_at dksX5_lockedBy_0 10 rfl rfl)
theorem dX5_lockedBy_13 : decode cX5_lockedBy 13 = .ok (.aload_n 0, 1) := dk_42 (dk_at dksX5_lockedBy_0 13 rfl rfl)
theorem dX5_lockedBy_14 : decode cX5_lockedBy 14 = .ok (.getfield 67, 3) := dk_180 0 67 (dk_at dksX5_lockedBy_0 14 rfl rfl)
theorem dX5_lockedBy_17 : decode cX5_lockedBy 17 = .ok (.bipush 36, 2) := dk_16 36 (dk_at dksX5_lockedBy_0 17 rfl rfl)
theorem dX5_lockedBy_19 : decode cX5_lockedBy 19 = .ok (.iload_n 2, 1) := dk_28 (dk_at dksX5_lockedBy_0 19 rfl rfl)
theorem dX5_lockedBy_20 : decode cX5_lockedBy 20 = .ok (.iadd, 1) := dk_96 (dk_at dksX5_lockedBy_0 20 rfl rfl)
theorem dX5_lockedBy_21 : decode cX5_lockedBy 21 = .ok (.iaload, 1) := dk_46 (dk_at dksX5_lockedBy_0 21 rfl rfl)
theorem dX5_lockedBy_22 : decode cX5_lockedBy 22 = .ok (.ireturn, 1) := dk_172 (dk_at dksX5_lockedBy_0 22 rfl rfl)
abbrev rm_X5_lockedBy : Room := { frames := 5, cells := 0, slots := 0, locals := 109 }
def w_X5_lockedBy (a0 : Option Nat) (a1 : Int32) (a2 : Int32) (h : AH) (P : Int32 → AH → Prop) : Prop :=
  is_c h a0 [4] (
  w_X5_isUnseen a0 a1 a2 h (fun y3 h3 =>
  ((y3 = 0 →
    g_q h3 a0 4 21 fun y14 =>
    l_i h3 y14 0 (36 + a2) fun y21 =>
    P y21 h3) ∧
   (¬ y3 = 0 →
    P 0 h3))))
theorem met_X5_lockedBy (l : Launch) (hlt : l.stackTraces = false) (G : GG) (h : AH) (a0 : Option Nat) (a1 : Int32) (a2 : Int32) (P : Int32 → AH → Prop) (hw : w_X5_lockedBy a0 a1 a2 h P) : ct_i l yX5_lockedBy (ws_ yX5_lockedBy cX5_lockedBy 3 (Option.some Jvm.ClassFile.FieldType.int)) rm_X5_lockedBy G h [vR a0, vI a1, vI a2] P := by
  refine j_starti hlt [(0, vR a0), (1, vI a1), (2, vI a2)] (plainFor_of_name (by decide)) rfl rfl (fun x X eG er en hQ => ?_)
  subst eG
  refine j_aload_n X (pc := 0) 0 dX5_lockedBy_0 rfl rfl ?_
  refine j_iload_n X (pc := 1) 1 dX5_lockedBy_1 rfl rfl ?_
  refine j_iload_n X (pc := 2) 2 dX5_lockedBy_2 rfl rfl ?_
  obtain ⟨b9, c9, f9, hr9, ho9, hc9, hw⟩ := hw
  obtain rfl := List.mem_singleton.mp hc9
  refine j_calli (j_runV (n8 := 2) (As := [vI a1, vI a2]) (rest := []) X (pc := 3) hr9 (met_X5_isUnseen (xl x) X.hl (xG x) h a0 a1 a2 _ hw) ho9 (by decide) rfl q2182 q2184 qs59 q78 q2185 (by decide +kernel) dX5_lockedBy_3 rfl ⟨Nat.le_of_ble_eq_true rfl, Nat.le_of_ble_eq_true rfl⟩ (Nat.le_of_ble_eq_true rfl) ⟨Nat.le_of_ble_eq_true rfl, Nat.le_of_ble_eq_true rfl⟩) (fun y3 h3 hw => ?_)
  refine j_if_eq X (pc := 6) 13 dX5_lockedBy_6 (by decide) hw (fun hw => ?_) (fun hw => ?_)
  · refine j_aload_n X (pc := 13) 0 dX5_lockedBy_13 rfl rfl ?_
    refine j_getq (ci := 4) X (pc := 14) in_X5 rfl (by decide) 21 (by decide) q1893 (Or.inl rfl) dX5_lockedBy_14 hw (fun y14 hw => ?_)
    refine j_bipush X (pc := 17) 36 dX5_lockedBy_17 (by decide) ?_
    refine j_iload_n X (pc := 19) 2 dX5_lockedBy_19 rfl rfl ?_
    refine j_iadd X (pc := 20) dX5_lockedBy_20 ?_
    refine j_iald X (pc := 21) 0 rfl dX5_lockedBy_21 hw (fun y21 hw => ?_)
    exact j_iret X (pc := 22) hQ er (Nat.le_of_ble_eq_true rfl) (Nat.le_of_ble_eq_true rfl) dX5_lockedBy_22 hw
  · refine j_iconst X (pc := 9) 0 dX5_lockedBy_9 (by decide) ?_
    refine j_goto X (pc := 10) 22 dX5_lockedBy_10 (by decide) ?_
    exact j_iret X (pc := 22) hQ er (Nat.le_of_ble_eq_true rfl) (Nat.le_of_ble_eq_true rfl) dX5_lockedBy_22 hw
abbrev cX1_inside : ByteArray := prog_1_method_59_code
def yX1_inside : MethodName := ⟨RX1, "inside", "(II)I"⟩
def dkwX1_inside_3 : List UInt8 := [153, 0, 7, 4, 167, 0, 4, 3, 96, 54, 5, 167, 255, 206, 21, 5, 172]
abbrev dktX1_inside_3 : List UInt8 := dkwX1_inside_3 ++ []
def dkwX1_inside_2 : List UInt8 := [192, 0, 124, 58, 7, 21, 5, 25, 7, 25, 4, 165, 0, 18, 45, 25, 4, 25, 7, 182, 1, 121]
abbrev dktX1_inside_2 : List UInt8 := dkwX1_inside_2 ++ dktX1_inside_3
def dkwX1_inside_1 : List UInt8 := [185, 0, 173, 1, 0, 58, 6, 25, 6, 185, 0, 179, 1, 0, 153, 0, 46, 25, 6, 185, 0, 185, 1, 0]
abbrev dktX1_inside_1 : List UInt8 := dkwX1_inside_1 ++ dktX1_inside_2
def dkwX1_inside_0 : List UInt8 := [42, 27, 182, 0, 199, 78, 42, 45, 28, 182, 0, 241, 58, 4, 3, 54, 5, 45, 182, 0, 169]
abbrev dktX1_inside_0 : List UInt8 := dkwX1_inside_0 ++ dktX1_inside_1
theorem dksX1_inside_0 : cX1_inside.data.toList.drop 0 = dktX1_inside_0 := by decide +kernel
theorem dksX1_inside_1 : cX1_inside.data.toList.drop 21 = dktX1_inside_1 := dk_seg dksX1_inside_0 21 rfl rfl
theorem dksX1_inside_2 : cX1_inside.data.toList.drop 45 = dktX1_inside_2 := dk_seg dksX1_inside_1 24 rfl rfl
theorem dksX1_inside_3 : cX1_inside.data.toList.drop 67 = dktX1_inside_3 := dk_seg dksX1_inside_2 22 rfl rfl
theorem dX1_inside_0 : decode cX1_inside 0 = .ok (.aload_n 0, 1) := dk_42 (dk_at dksX1_inside_0 0 rfl rfl)
theorem dX1_inside_1 : decode cX1_inside 1 = .ok (.iload_n 1, 1) := dk_27 (dk_at dksX1_inside_0 1 rfl rfl)
theorem dX1_inside_2 : decode cX1_inside 2 = .ok (.invokevirtual 199, 3) := dk_182 0 199 (dk_at dksX1_inside_0 2 rfl rfl)
theorem dX1_inside_5 : decode cX1_inside 5 = .ok (.astore_n 3, 1) := dk_78 (dk_at dksX1_inside_0 5 rfl rfl)
theorem dX1_inside_6 : decode cX1_inside 6 = .ok (.aload_n 0, 1) := dk_42 (dk_at dksX1_inside_0 6 rfl rfl)
theorem dX1_inside_7 : decode cX1_inside 7 = .ok (.aload_n 3, 1) := dk_45 (dk_at dksX1_inside_0 7 rfl rfl)
theorem dX1_inside_8 : decode cX1_inside 8 = .ok (.iload_n 2, 1) := dk_28 (dk_at dksX1_inside_0 8 rfl rfl)
theorem dX1_inside_9 : decode cX1_inside 9 = .ok (.invokevirtual 241, 3) := dk_182 0 241 (dk_at dksX1_inside_0 9 rfl rfl)
theorem dX1_inside_12 : decode cX1_inside 12 = .ok (.astore 4, 2) := dk_58 4 (dk_at dksX1_inside_0 12 rfl rfl)
theorem dX1_inside_14 : decode cX1_inside 14 = .ok (.iconst 0, 1) := dk_3 (dk_at dksX1_inside_0 14 rfl rfl)
theorem dX1_inside_15 : decode cX1_inside 15 = .ok (.istore 5, 2) := dk_54 5 (dk_at dksX1_inside_0 15 rfl rfl)
theorem dX1_inside_17 : decode cX1_inside 17 = .ok (.aload_n 3, 1) := dk_45 (dk_at dksX1_inside_0 17 rfl rfl)
theorem dX1_inside_18 : decode cX1_inside 18 = .ok (.invokevirtual 169, 3) := dk_182 0 169 (dk_at dksX1_inside_0 18 rfl rfl)
theorem dX1_inside_21 : decode cX1_inside 21 = .ok (.invokeinterface 173 1, 5) := by decide +kernel
theorem dX1_inside_26 : decode cX1_inside 26 = .ok (.astore 6, 2) := dk_58 6 (dk_at dksX1_inside_1 5 rfl rfl)
theorem dX1_inside_28 : decode cX1_inside 28 = .ok (.aload 6, 2) := dk_25 6 (dk_at dksX1_inside_1 7 rfl rfl)
theorem dX1_inside_30 : decode cX1_inside 30 = .ok (.invokeinterface 179 1, 5) := by decide +kernel
theorem dX1_inside_35 : decode cX1_inside 35 = .ok (.ifCond .eq 46, 3) := dk_153 0 46 (dk_at dksX1_inside_1 14 rfl rfl)
theorem dX1_inside_38 : decode cX1_inside 38 = .ok (.aload 6, 2) := dk_25 6 (dk_at dksX1_inside_1 17 rfl rfl)
theorem dX1_inside_40 : decode cX1_inside 40 = .ok (.invokeinterface 185 1, 5) := by decide +kernel
theorem dX1_inside_45 : decode cX1_inside 45 = .ok (.checkcast 124, 3) := dk_192 0 124 (dk_at dksX1_inside_2 0 rfl rfl)
theorem dX1_inside_48 : decode cX1_inside 48 = .ok (.astore 7, 2) := dk_58 7 (dk_at dksX1_inside_2 3 rfl rfl)
theorem dX1_inside_50 : decode cX1_inside 50 = .ok (.iload 5, 2) := dk_21 5 (dk_at dksX1_inside_2 5 rfl rfl)
theorem dX1_inside_52 : decode cX1_inside 52 = .ok (.aload 7, 2) := dk_25 7 (dk_at dksX1_inside_2 7 rfl rfl)
theorem dX1_inside_54 : decode cX1_inside 54 = .ok (.aload 4, 2) := dk_25 4 (dk_at dksX1_inside_2 9 rfl rfl)
theorem dX1_inside_56 : decode cX1_inside 56 = .ok (.if_acmp .eq 18, 3) := dk_165 0 18 (dk_at dksX1_inside_2 11 rfl rfl)
theorem dX1_inside_59 : decode cX1_inside 59 = .ok (.aload_n 3, 1) := dk_45 (dk_at dksX1_inside_2 14 rfl rfl)
theorem dX1_inside_60 : decode cX1_inside 60 = .ok (.aload 4, 2) := dk_25 4 (dk_at dksX1_inside_2 15 rfl rfl)
theorem dX1_inside_62 : decode cX1_inside 62 = .ok (.aload 7, 2) := dk_25 7 (dk_at dksX1_inside_2 17 rfl rfl)
theorem dX1_inside_64 : decode cX1_inside 64 = .ok (.invokevirtual 377, 3) := dk_182 1 121 (dk_at dksX1_inside_2 19 rfl rfl)
theorem dX1_inside_67 : decode cX1_inside 67 = .ok (.ifCond .eq 7, 3) := dk_153 0 7 (dk_at dksX1_inside_3 0 rfl rfl)
theorem dX1_inside_70 : decode cX1_inside 70 = .ok (.iconst 1, 1) := dk_4 (dk_at dksX1_inside_3 3 rfl rfl)
theorem dX1_inside_71 : decode cX1_inside 71 = .ok (.goto 4, 3) := dk_167 0 4 (dk_at dksX1_inside_3 4 rfl rfl)
theorem dX1_inside_74 : decode cX1_inside 74 = .ok (.iconst 0, 1) := dk_3 (dk_at dksX1_inside_3 7 rfl rfl)
theorem dX1_inside_75 : decode cX1_inside 75 = .ok (.iadd, 1) := dk_96 (dk_at dksX1_inside_3 8 rfl rfl)
theorem dX1_inside_76 : decode cX1_inside 76 = .ok (.istore 5, 2) := dk_54 5 (dk_at dksX1_inside_3 9 rfl rfl)
theorem dX1_inside_78 : decode cX1_inside 78 = .ok (.goto (-50), 3) := dk_167 255 206 (dk_at dksX1_inside_3 11 rfl rfl)
theorem dX1_inside_81 : decode cX1_inside 81 = .ok (.iload 5, 2) := dk_21 5 (dk_at dksX1_inside_3 14 rfl rfl)
theorem dX1_inside_83 : decode cX1_inside 83 = .ok (.ireturn, 1) := dk_172 (dk_at dksX1_inside_3 16 rfl rfl)
theorem q1512 : (Jvm.Cond.methodLink "Plugboard" (377 : Nat) ({ cls := "Plugboard$Board", name := "covers", desc := "(LPlugboard$Shape;LPlugboard$Shape;)Z" } : Jvm.MethodName)) ∈ lw_all := lw_g (lw_at lw_m7 2 rfl) rfl
abbrev rm_X1_inside : Room := { frames := 9, cells := 5, slots := 16, locals := 146 }
def w_X1_inside_28 (P : Int32 → AH → Prop) (PX : String → AH → Prop) (x3 : Option Nat) (x4 : Option Nat) (x5 : Int32) (x6 : Option Nat) (h : AH) : Prop :=
  ∀ Z28 : Int32 → AH → Prop, (∀ x5 h, (
      is_c h x6 [6] (
      w_X7_hasNext x6 h (fun y30 h30 =>
      ((y30 = 0 →
        P x5 h30) ∧
       (¬ y30 = 0 →
        is_c h30 x6 [6] (
        w_X7_next x6 h30 (fun y40 h40 =>
        is_c h40 y40 [7, 8] (
        ((y40 = x4 →
          Z28 (x5 + 0) h40) ∧
         (¬ y40 = x4 →
          is_c h40 x3 [2] (
          w_X3_covers x3 x4 y40 h40 (fun y64 h64 =>
          ((y64 = 0 →
            Z28 (x5 + 0) h64) ∧
           (¬ y64 = 0 →
            Z28 (x5 + 1) h64))))))))))))))
      → Z28 x5 h) → Z28 x5 h
def w_X1_inside (a0 : Option Nat) (a1 : Int32) (a2 : Int32) (h : AH) (P : Int32 → AH → Prop) (PX : String → AH → Prop) : Prop :=
  is_c h a0 [0] (
  w_X1_board a0 a1 h (fun y2 h2 =>
  is_c h2 a0 [0] (
  w_X1_shape a0 y2 a2 h2 (fun y9 h9 =>
  is_c h9 y2 [2] (
  w_X3_seen y2 h9 (fun y18 h18 =>
  is_c h18 y18 [5] (
  w_X6_iterator y18 h18 (fun y21 h21 =>
  w_X1_inside_28 P PX y2 y9 0 y21 h21))))) PX)) PX)
theorem wk_X1_inside_28 {x : CX} (X : Ok x cX1_inside RX1 rm_X1_inside 8) (er : xrt x = (Option.some Jvm.ClassFile.FieldType.int)) (en : xnm x = yX1_inside.name) {P : Int32 → AH → Prop} {PX : String → AH → Prop} (hQ : xr_i x P) (hT : xt_ x PX) (hex : ∀ z ∈ x.2.2.2.2.2.2.2.2.2.1.exceptionTable.toList, False) (x3 : Option Nat) (x4 : Option Nat) (x5 : Int32) (x6 : Option Nat) (h : AH) (hw : w_X1_inside_28 P PX x3 x4 x5 x6 h) : J x h 5 16 28 [(3, vR x3), (4, vR x4), (5, vI x5), (6, vR x6)] [] := by
  refine hw (fun x5 h => J x h 5 16 28 [(3, vR x3), (4, vR x4), (5, vI x5), (6, vR x6)] []) (fun x5 h hw => ?_)
  refine j_aload X (pc := 28) 3 dX1_inside_28 rfl ?_
  obtain ⟨b9, c9, f9, hr9, ho9, hc9, hw⟩ := hw
  obtain rfl := List.mem_singleton.mp hc9
  refine j_call5i (j_runF (n8 := 0) (As := []) (rest := []) X (pc := 30) hr9 (met_X7_hasNext (xl x) X.hl (xG x) h x6 _ hw) ho9 (by decide) rfl q481 q485 q487 q85 q489 (fun U hU => kt_F2 hU) (by decide +kernel) dX1_inside_30 rfl ⟨Nat.le_of_ble_eq_true rfl, Nat.le_of_ble_eq_true rfl⟩ (Nat.le_of_ble_eq_true rfl) ⟨Nat.le_of_ble_eq_true rfl, Nat.le_of_ble_eq_true rfl⟩) (fun y30 h30 hw => ?_)
  refine j_if_eq X (pc := 35) 81 dX1_inside_35 (by decide) hw (fun hw => ?_) (fun hw => ?_)
  · refine j_iload X (pc := 81) 2 dX1_inside_81 rfl ?_
    exact j_iret X (pc := 83) hQ er (Nat.le_of_ble_eq_true rfl) (Nat.le_of_ble_eq_true rfl) dX1_inside_83 hw
  · refine j_aload X (pc := 38) 3 dX1_inside_38 rfl ?_
    obtain ⟨b9, c9, f9, hr9, ho9, hc9, hw⟩ := hw
    obtain rfl := List.mem_singleton.mp hc9
    refine j_call5q (j_runF (n8 := 0) (As := []) (rest := []) X (pc := 40) hr9 (met_X7_next (xl x) X.hl (xG x) h30 x6 _ hw) ho9 (by decide) rfl q499 q502 q504 q85 q506 (fun U hU => kt_F3 hU) (by decide +kernel) dX1_inside_40 rfl ⟨Nat.le_of_ble_eq_true rfl, Nat.le_of_ble_eq_true rfl⟩ (Nat.le_of_ble_eq_true rfl) ⟨Nat.le_of_ble_eq_true rfl, Nat.le_of_ble_eq_true rfl⟩) (fun y40 h40 hw => ?_)
    refine j_chk X (pc := 45) (L := [7, 8]) q550 (by intro ci hci; simp only [List.mem_cons, List.not_mem_nil, or_false] at hci; rcases hci with rfl | rfl <;> first | exact ⟨by decide, _, _, _, rfl, Or.inr q2343⟩ | exact ⟨by decide, _, _, _, rfl, Or.inr q2344⟩) dX1_inside_45 hw (fun hw => ?_)
    refine j_astore X (pc := 48) [(7, vR y40), (3, vR x3), (4, vR x4), (5, vI x5), (6, vR x6)] dX1_inside_48 (Nat.le_of_ble_eq_true rfl) rfl ?_
    refine j_iload X (pc := 50) 3 dX1_inside_50 rfl ?_
    refine j_aload X (pc := 52) 0 dX1_inside_52 rfl ?_
    refine j_aload X (pc := 54) 2 dX1_inside_54 rfl ?_
    refine j_acmp_eq X (pc := 56) 74 dX1_inside_56 (by decide) hw (fun hw => ?_) (fun hw => ?_)
    · refine j_iconst X (pc := 74) 0 dX1_inside_74 (by decide) ?_
      refine j_iadd X (pc := 75) dX1_inside_75 ?_
      refine j_istore X (pc := 76) [(5, vI (x5 + 0)), (7, vR y40), (3, vR x3), (4, vR x4), (6, vR x6)] dX1_inside_76 (Nat.le_of_ble_eq_true rfl) rfl ?_
      refine j_goto X (pc := 78) 28 dX1_inside_78 (by decide) ?_
      refine j_lv [(3, vR x3), (4, vR x4), (5, vI (x5 + 0)), (6, vR x6)] [2, 3, 0, 4] rfl ?_
      refine j_cs (u' := 5) (v' := 16) (Nat.le_of_ble_eq_true rfl) (Nat.le_of_ble_eq_true rfl) ?_
      exact hw
    · refine j_aload_n X (pc := 59) 1 dX1_inside_59 rfl rfl ?_
      refine j_aload X (pc := 60) 2 dX1_inside_60 rfl ?_
      refine j_aload X (pc := 62) 0 dX1_inside_62 rfl ?_
      obtain ⟨b9, c9, f9, hr9, ho9, hc9, hw⟩ := hw
      obtain rfl := List.mem_singleton.mp hc9
      refine j_calli (j_runV (n8 := 2) (As := [vR x4, vR y40]) (rest := [vI x5]) X (pc := 64) hr9 (met_X3_covers (xl x) X.hl (xG x) h40 x3 x4 y40 _ hw) ho9 (by decide) rfl q1512 q1147 q1148 q76 q1149 (by decide +kernel) dX1_inside_64 rfl ⟨Nat.le_of_ble_eq_true rfl, Nat.le_of_ble_eq_true rfl⟩ (Nat.le_of_ble_eq_true rfl) ⟨Nat.le_of_ble_eq_true rfl, Nat.le_of_ble_eq_true rfl⟩) (fun y64 h64 hw => ?_)
      refine j_if_eq X (pc := 67) 74 dX1_inside_67 (by decide) hw (fun hw => ?_) (fun hw => ?_)
      · refine j_iconst X (pc := 74) 0 dX1_inside_74 (by decide) ?_
        refine j_iadd X (pc := 75) dX1_inside_75 ?_
        refine j_istore X (pc := 76) [(5, vI (x5 + 0)), (7, vR y40), (3, vR x3), (4, vR x4), (6, vR x6)] dX1_inside_76 (Nat.le_of_ble_eq_true rfl) rfl ?_
        refine j_goto X (pc := 78) 28 dX1_inside_78 (by decide) ?_
        refine j_lv [(3, vR x3), (4, vR x4), (5, vI (x5 + 0)), (6, vR x6)] [2, 3, 0, 4] rfl ?_
        refine j_cs (u' := 5) (v' := 16) (Nat.le_of_ble_eq_true rfl) (Nat.le_of_ble_eq_true rfl) ?_
        exact hw
      · refine j_iconst X (pc := 70) 1 dX1_inside_70 (by decide) ?_
        refine j_goto X (pc := 71) 75 dX1_inside_71 (by decide) ?_
        refine j_iadd X (pc := 75) dX1_inside_75 ?_
        refine j_istore X (pc := 76) [(5, vI (x5 + 1)), (7, vR y40), (3, vR x3), (4, vR x4), (6, vR x6)] dX1_inside_76 (Nat.le_of_ble_eq_true rfl) rfl ?_
        refine j_goto X (pc := 78) 28 dX1_inside_78 (by decide) ?_
        refine j_lv [(3, vR x3), (4, vR x4), (5, vI (x5 + 1)), (6, vR x6)] [2, 3, 0, 4] rfl ?_
        refine j_cs (u' := 5) (v' := 16) (Nat.le_of_ble_eq_true rfl) (Nat.le_of_ble_eq_true rfl) ?_
        exact hw
theorem met_X1_inside (l : Launch) (hlt : l.stackTraces = false) (G : GG) (h : AH) (a0 : Option Nat) (a1 : Int32) (a2 : Int32) (P : Int32 → AH → Prop) (PX : String → AH → Prop) (hw : w_X1_inside a0 a1 a2 h P PX) : cx_i l yX1_inside (ws_ yX1_inside cX1_inside 8 (Option.some Jvm.ClassFile.FieldType.int)) rm_X1_inside G h [vR a0, vI a1, vI a2] P PX := by
  refine j_startXi hlt [(0, vR a0), (1, vI a1), (2, vI a2)] (by decide) rfl rfl (fun x X eG er en hQ hT hex => ?_)
  subst eG
  refine j_aload_n X (pc := 0) 0 dX1_inside_0 rfl rfl ?_
  refine j_iload_n X (pc := 1) 1 dX1_inside_1 rfl rfl ?_
  obtain ⟨b9, c9, f9, hr9, ho9, hc9, hw⟩ := hw
  obtain rfl := List.mem_singleton.mp hc9
  refine j_callXq (j_runVX (n8 := 1) (As := [vI a1]) (rest := []) X (pc := 2) hr9 (met_X1_board (xl x) X.hl (xG x) h a0 a1 _ _ hw) ho9 (by decide) rfl q297 q299 qs0 q71 q300 (by decide +kernel) dX1_inside_2 rfl ⟨Nat.le_of_ble_eq_true rfl, Nat.le_of_ble_eq_true rfl⟩ (Nat.le_of_ble_eq_true rfl) ⟨Nat.le_of_ble_eq_true rfl, Nat.le_of_ble_eq_true rfl⟩) (fun E h9 hx => j_out X hT hex (Nat.le_of_ble_eq_true rfl) (Nat.le_of_ble_eq_true rfl) hx) (fun y2 h2 hw => ?_)
  refine j_astore_n X (pc := 5) [(3, vR y2), (0, vR a0), (1, vI a1), (2, vI a2)] dX1_inside_5 rfl (Nat.le_of_ble_eq_true rfl) rfl ?_
  refine j_aload_n X (pc := 6) 1 dX1_inside_6 rfl rfl ?_
  refine j_aload_n X (pc := 7) 0 dX1_inside_7 rfl rfl ?_
  refine j_iload_n X (pc := 8) 3 dX1_inside_8 rfl rfl ?_
  obtain ⟨b9, c9, f9, hr9, ho9, hc9, hw⟩ := hw
  obtain rfl := List.mem_singleton.mp hc9
  refine j_callXq (j_runVX (n8 := 2) (As := [vR y2, vI a2]) (rest := []) X (pc := 9) hr9 (met_X1_shape (xl x) X.hl (xG x) h2 a0 y2 a2 _ _ hw) ho9 (by decide) rfl q1075 q1077 qs9 q71 q1078 (by decide +kernel) dX1_inside_9 rfl ⟨Nat.le_of_ble_eq_true rfl, Nat.le_of_ble_eq_true rfl⟩ (Nat.le_of_ble_eq_true rfl) ⟨Nat.le_of_ble_eq_true rfl, Nat.le_of_ble_eq_true rfl⟩) (fun E h9 hx => j_out X hT hex (Nat.le_of_ble_eq_true rfl) (Nat.le_of_ble_eq_true rfl) hx) (fun y9 h9 hw => ?_)
  refine j_astore X (pc := 12) [(4, vR y9), (3, vR y2), (0, vR a0), (1, vI a1), (2, vI a2)] dX1_inside_12 (Nat.le_of_ble_eq_true rfl) rfl ?_
  refine j_iconst X (pc := 14) 0 dX1_inside_14 (by decide) ?_
  refine j_istore X (pc := 15) [(5, vI 0), (4, vR y9), (3, vR y2), (0, vR a0), (1, vI a1), (2, vI a2)] dX1_inside_15 (Nat.le_of_ble_eq_true rfl) rfl ?_
  refine j_aload_n X (pc := 17) 2 dX1_inside_17 rfl rfl ?_
  obtain ⟨b9, c9, f9, hr9, ho9, hc9, hw⟩ := hw
  obtain rfl := List.mem_singleton.mp hc9
  refine j_callq (j_runV (n8 := 0) (As := []) (rest := []) X (pc := 18) hr9 (met_X3_seen (xl x) X.hl (xG x) h9 y2 _ hw) ho9 (by decide) rfl q418 q419 q420 q76 q421 (by decide +kernel) dX1_inside_18 rfl ⟨Nat.le_of_ble_eq_true rfl, Nat.le_of_ble_eq_true rfl⟩ (Nat.le_of_ble_eq_true rfl) ⟨Nat.le_of_ble_eq_true rfl, Nat.le_of_ble_eq_true rfl⟩) (fun y18 h18 hw => ?_)
  obtain ⟨b9, c9, f9, hr9, ho9, hc9, hw⟩ := hw
  obtain rfl := List.mem_singleton.mp hc9
  refine j_call5q (j_runF (n8 := 0) (As := []) (rest := []) X (pc := 21) hr9 (met_X6_iterator (xl x) X.hl (xG x) h18 y18 _ hw) ho9 (by decide) rfl q433 q437 q439 q84 q441 (fun U hU => kt_F1 hU) (by decide +kernel) dX1_inside_21 rfl ⟨Nat.le_of_ble_eq_true rfl, Nat.le_of_ble_eq_true rfl⟩ (Nat.le_of_ble_eq_true rfl) ⟨Nat.le_of_ble_eq_true rfl, Nat.le_of_ble_eq_true rfl⟩) (fun y21 h21 hw => ?_)
  refine j_astore X (pc := 26) [(6, vR y21), (5, vI 0), (4, vR y9), (3, vR y2), (0, vR a0), (1, vI a1), (2, vI a2)] dX1_inside_26 (Nat.le_of_ble_eq_true rfl) rfl ?_
  refine j_lv [(3, vR y2), (4, vR y9), (5, vI 0), (6, vR y21)] [3, 2, 1, 0] rfl ?_
  refine j_cs (u' := 5) (v' := 16) (Nat.le_of_ble_eq_true rfl) (Nat.le_of_ble_eq_true rfl) ?_
  exact wk_X1_inside_28 X er en hQ hT hex y2 y9 0 y21 h21 hw
abbrev cX0_inside : ByteArray := method_32_code
def yX0_inside : MethodName := ⟨RX0, "inside", "(LPlugboard;II[J)I"⟩
def dkwX0_inside_0 : List UInt8 := [45, 3, 42, 27, 28, 182, 0, 115, 133, 80, 167, 0, 11, 58, 4, 4, 172, 58, 4, 5, 172, 3, 172]
abbrev dktX0_inside_0 : List UInt8 := dkwX0_inside_0 ++ []
theorem dksX0_inside_0 : cX0_inside.data.toList.drop 0 = dktX0_inside_0 := by decide +kernel
theorem dX0_inside_0 : decode cX0_inside 0 = .ok (.aload_n 3, 1) := dk_45 (dk_at dksX0_inside_0 0 rfl rfl)
theorem dX0_inside_1 : decode cX0_inside 1 = .ok (.iconst 0, 1) := dk_3 (dk_at dksX0_inside_0 1 rfl rfl)
theorem dX0_inside_2 : decode cX0_inside 2 = .ok (.aload_n 0, 1) := dk_42 (dk_at dksX0_inside_0 2 rfl rfl)
theorem dX0_inside_3 : decode cX0_inside 3 = .ok (.iload_n 1, 1) := dk_27 (dk_at dksX0_inside_0 3 rfl rfl)
theorem dX0_inside_4 : decode cX0_inside 4 = .ok (.iload_n 2, 1) := dk_28 (dk_at dksX0_inside_0 4 rfl rfl)
theorem dX0_inside_5 : decode cX0_inside 5 = .ok (.invokevirtual 115, 3) := dk_182 0 115 (dk_at dksX0_inside_0 5 rfl rfl)
theorem dX0_inside_8 : decode cX0_inside 8 = .ok (.i2l, 1) := dk_133 (dk_at dksX0_inside_0 8 rfl rfl)
theorem dX0_inside_9 : decode cX0_inside 9 = .ok (.lastore, 1) := dk_80 (dk_at dksX0_inside_0 9 rfl rfl)
theorem dX0_inside_10 : decode cX0_inside 10 = .ok (.goto 11, 3) := dk_167 0 11 (dk_at dksX0_inside_0 10 rfl rfl)
theorem dX0_inside_13 : decode cX0_inside 13 = .ok (.astore 4, 2) := dk_58 4 (dk_at dksX0_inside_0 13 rfl rfl)
theorem dX0_inside_15 : decode cX0_inside 15 = .ok (.iconst 1, 1) := dk_4 (dk_at dksX0_inside_0 15 rfl rfl)
theorem dX0_inside_16 : decode cX0_inside 16 = .ok (.ireturn, 1) := dk_172 (dk_at dksX0_inside_0 16 rfl rfl)
theorem dX0_inside_17 : decode cX0_inside 17 = .ok (.astore 4, 2) := dk_58 4 (dk_at dksX0_inside_0 17 rfl rfl)
theorem dX0_inside_19 : decode cX0_inside 19 = .ok (.iconst 2, 1) := dk_5 (dk_at dksX0_inside_0 19 rfl rfl)
theorem dX0_inside_20 : decode cX0_inside 20 = .ok (.ireturn, 1) := dk_172 (dk_at dksX0_inside_0 20 rfl rfl)
theorem dX0_inside_21 : decode cX0_inside 21 = .ok (.iconst 0, 1) := dk_3 (dk_at dksX0_inside_0 21 rfl rfl)
theorem dX0_inside_22 : decode cX0_inside 22 = .ok (.ireturn, 1) := dk_172 (dk_at dksX0_inside_0 22 rfl rfl)
theorem q1508 : (Jvm.Cond.methodLink "PlugboardLaw" (115 : Nat) ({ cls := "Plugboard", name := "inside", desc := "(II)I" } : Jvm.MethodName)) ∈ lw_all := lw_g (lw_at lw_m6 238 rfl) rfl
theorem q1509 : (Jvm.Cond.instanceMethod ({ cls := "Plugboard", name := "inside", desc := "(II)I" } : Jvm.MethodName)) ∈ lw_all := lw_g (lw_at lw_m6 239 rfl) rfl
theorem q1510 : (Jvm.Cond.selects "Plugboard" ({ cls := "Plugboard", name := "inside", desc := "(II)I" } : Jvm.MethodName) ({ cls := "Plugboard", name := "inside", desc := "(II)I" } : Jvm.MethodName)) ∈ lw_all := lw_g (lw_at lw_m7 0 rfl) rfl
theorem q1511 : (Jvm.Cond.code ({ cls := "Plugboard", name := "inside", desc := "(II)I" } : Jvm.MethodName) prog_1_method_59_code (8 : Nat) (Option.some Jvm.ClassFile.FieldType.int)) ∈ lw_all := lw_g (lw_at lw_m7 1 rfl) rfl
abbrev rm_X0_inside : Room := { frames := 10, cells := 5, slots := 16, locals := 173 }
def w_X0_inside (a0 : Option Nat) (a1 : Int32) (a2 : Int32) (a3 : Option Nat) (h : AH) (P : Int32 → AH → Prop) : Prop :=
  is_c h a0 [0] (
  w_X1_inside a0 a1 a2 h (fun y5 h5 =>
  s_L h5 a3 0 (Int32.toInt64 y5) fun h9 =>
  P 0 h9)
    (fun E9 h9 => (E9 = "java/lang/IllegalArgumentException" ∧ ∀ q9 : Nat,
    P 1 h9) ∨
    (E9 = "java/util/NoSuchElementException" ∧ ∀ q9 : Nat,
    P 2 h9)))
theorem met_X0_inside (l : Launch) (hlt : l.stackTraces = false) (G : GG) (h : AH) (a0 : Option Nat) (a1 : Int32) (a2 : Int32) (a3 : Option Nat) (P : Int32 → AH → Prop) (hw : w_X0_inside a0 a1 a2 a3 h P) : ct_i l yX0_inside (wsW_ yX0_inside cX0_inside 5 (Option.some Jvm.ClassFile.FieldType.int) [((0 : Nat), (10 : Nat), (13 : Nat), (13 : Nat)), ((0 : Nat), (10 : Nat), (17 : Nat), (21 : Nat))]) rm_X0_inside G h [vR a0, vI a1, vI a2, vR a3] P := by
  refine j_startWi hlt [(0, vR a0), (1, vI a1), (2, vI a2), (3, vR a3)] (by decide) rfl rfl (fun x X eG er en hQ hex => ?_)
  subst eG
  refine j_aload_n X (pc := 0) 3 dX0_inside_0 rfl rfl ?_
  refine j_iconst X (pc := 1) 0 dX0_inside_1 (by decide) ?_
  refine j_aload_n X (pc := 2) 0 dX0_inside_2 rfl rfl ?_
  refine j_iload_n X (pc := 3) 1 dX0_inside_3 rfl rfl ?_
  refine j_iload_n X (pc := 4) 2 dX0_inside_4 rfl rfl ?_
  obtain ⟨b9, c9, f9, hr9, ho9, hc9, hw⟩ := hw
  obtain rfl := List.mem_singleton.mp hc9
  refine j_callXi (j_runVX (n8 := 2) (As := [vI a1, vI a2]) (rest := [vI 0, vR a3]) X (pc := 5) hr9 (met_X1_inside (xl x) X.hl (xG x) h a0 a1 a2 _ _ hw) ho9 (by decide) rfl q1508 q1509 q1510 q71 q1511 (by decide +kernel) dX0_inside_5 rfl ⟨Nat.le_of_ble_eq_true rfl, Nat.le_of_ble_eq_true rfl⟩ (Nat.le_of_ble_eq_true rfl) ⟨Nat.le_of_ble_eq_true rfl, Nat.le_of_ble_eq_true rfl⟩) ?_ (fun y5 h5 hw => ?_)
  · intro E9 h9 hx
    rcases hx with ⟨rfl, hw⟩ | ⟨rfl, hw⟩
    · refine j_catch X (pc := 5) "java/lang/IllegalArgumentException" hex [] [⟨0, 10, 17, 21⟩] ⟨0, 10, 13, 13⟩ rfl (by intro y hy; cases hy) (by decide) (by decide) q291 q312 (fun q9 => ?_)
      have hw := hw q9
      refine j_astore X (pc := 13) [(4, vR (some q9)), (0, vR a0), (1, vI a1), (2, vI a2), (3, vR a3)] dX0_inside_13 (Nat.le_of_ble_eq_true rfl) rfl ?_
      refine j_iconst X (pc := 15) 1 dX0_inside_15 (by decide) ?_
      exact j_iret X (pc := 16) hQ er (Nat.le_of_ble_eq_true rfl) (Nat.le_of_ble_eq_true rfl) dX0_inside_16 hw
    · refine j_catch X (pc := 5) "java/util/NoSuchElementException" hex [⟨0, 10, 13, 13⟩] [] ⟨0, 10, 17, 21⟩ rfl (by intro y hy; simp only [List.mem_cons, List.not_mem_nil, or_false] at hy; subst hy; exact Or.inr ⟨by decide, "java/lang/IllegalArgumentException", q291, by decide +kernel⟩) (by decide) (by decide) q1068 q537 (fun q9 => ?_)
      have hw := hw q9
      refine j_astore X (pc := 17) [(4, vR (some q9)), (0, vR a0), (1, vI a1), (2, vI a2), (3, vR a3)] dX0_inside_17 (Nat.le_of_ble_eq_true rfl) rfl ?_
      refine j_iconst X (pc := 19) 2 dX0_inside_19 (by decide) ?_
      exact j_iret X (pc := 20) hQ er (Nat.le_of_ble_eq_true rfl) (Nat.le_of_ble_eq_true rfl) dX0_inside_20 hw
  refine j_i2l X (pc := 8) dX0_inside_8 ?_
  refine j_last X (pc := 9) dX0_inside_9 hw (fun h9 hw => ?_)
  refine j_goto X (pc := 10) 21 dX0_inside_10 (by decide) ?_
  refine j_iconst X (pc := 21) 0 dX0_inside_21 (by decide) ?_
  exact j_iret X (pc := 22) hQ er (Nat.le_of_ble_eq_true rfl) (Nat.le_of_ble_eq_true rfl) dX0_inside_22 hw
abbrev cX5_inside : ByteArray := prog_19_method_65_code
def yX5_inside : MethodName := ⟨RX5, "inside", "(II)I"⟩
def dkwX5_inside_2 : List UInt8 := [182, 0, 196, 153, 0, 7, 4, 167, 0, 4, 3, 96, 62, 132, 4, 1, 167, 255, 211, 29, 172]
abbrev dktX5_inside_2 : List UInt8 := dkwX5_inside_2 ++ []
def dkwX5_inside_1 : List UInt8 := [162, 0, 42, 29, 21, 4, 28, 159, 0, 26, 42, 21, 4, 182, 0, 125, 153, 0, 17, 42, 21, 4, 28]
abbrev dktX5_inside_1 : List UInt8 := dkwX5_inside_1 ++ dktX5_inside_2
def dkwX5_inside_0 : List UInt8 := [42, 27, 28, 182, 0, 231, 153, 0, 5, 3, 172, 3, 62, 3, 54, 4, 21, 4, 42, 180, 0, 119]
abbrev dktX5_inside_0 : List UInt8 := dkwX5_inside_0 ++ dktX5_inside_1
theorem dksX5_inside_0 : cX5_inside.data.toList.drop 0 = dktX5_inside_0 := by decide +kernel
theorem dksX5_inside_1 : cX5_inside.data.toList.drop 22 = dktX5_inside_1 := dk_seg dksX5_inside_0 22 rfl rfl
theorem dksX5_inside_2 : cX5_inside.data.toList.drop 45 = dktX5_inside_2 := dk_seg dksX5_inside_1 23 rfl rfl
theorem dX5_inside_0 : decode cX5_inside 0 = .ok (.aload_n 0, 1) := dk_42 (dk_at dksX5_inside_0 0 rfl rfl)
theorem dX5_inside_1 : decode cX5_inside 1 = .ok (.iload_n 1, 1) := dk_27 (dk_at dksX5_inside_0 1 rfl rfl)
theorem dX5_inside_2 : decode cX5_inside 2 = .ok (.iload_n 2, 1) := dk_28 (dk_at dksX5_inside_0 2 rfl rfl)
theorem dX5_inside_3 : decode cX5_inside 3 = .ok (.invokevirtual 231, 3) := dk_182 0 231 (dk_at dksX5_inside_0 3 rfl rfl)
theorem dX5_inside_6 : decode cX5_inside 6 = .ok (.ifCond .eq 5, 3) := dk_153 0 5 (dk_at dksX5_inside_0 6 rfl rfl)
theorem dX5_inside_9 : decode cX5_inside 9 = .ok (.iconst 0, 1) := dk_3 (dk_at dksX5_inside_0 9 rfl rfl)
theorem dX5_inside_10 : decode cX5_inside 10 = .ok (.ireturn, 1) := dk_172 (dk_at dksX5_inside_0 10 rfl rfl)
theorem dX5_inside_11 : decode cX5_inside 11 = .ok (.iconst 0, 1) := dk_3 (dk_at dksX5_inside_0 11 rfl rfl)
theorem dX5_inside_12 : decode cX5_inside 12 = .ok (.istore_n 3, 1) := dk_62 (dk_at dksX5_inside_0 12 rfl rfl)
theorem dX5_inside_13 : decode cX5_inside 13 = .ok (.iconst 0, 1) := dk_3 (dk_at dksX5_inside_0 13 rfl rfl)
theorem dX5_inside_14 : decode cX5_inside 14 = .ok (.istore 4, 2) := dk_54 4 (dk_at dksX5_inside_0 14 rfl rfl)
theorem dX5_inside_16 : decode cX5_inside 16 = .ok (.iload 4, 2) := dk_21 4 (dk_at dksX5_inside_0 16 rfl rfl)
theorem dX5_inside_18 : decode cX5_inside 18 = .ok (.aload_n 0, 1) := dk_42 (dk_at dksX5_inside_0 18 rfl rfl)
theorem dX5_inside_19 : decode cX5_inside 19 = .ok (.getfield 119, 3) := dk_180 0 119 (dk_at dksX5_inside_0 19 rfl rfl)
theorem dX5_inside_22 : decode cX5_inside 22 = .ok (.if_icmp .ge 42, 3) := dk_162 0 42 (dk_at dksX5_inside_1 0 rfl rfl)
theorem dX5_inside_25 : decode cX5_inside 25 = .ok (.iload_n 3, 1) := dk_29 (dk_at dksX5_inside_1 3 rfl rfl)
theorem dX5_inside_26 : decode cX5_inside 26 = .ok (.iload 4, 2) := dk_21 4 (dk_at dksX5_inside_1 4 rfl rfl)
theorem dX5_inside_28 : decode cX5_inside 28 = .ok (.iload_n 2, 1) := dk_28 (dk_at dksX5_inside_1 6 rfl rfl)
theorem dX5_inside_29 : decode cX5_inside 29 = .ok (.if_icmp .eq 26, 3) := dk_159 0 26 (dk_at dksX5_inside_1 7 rfl rfl)
theorem dX5_inside_32 : decode cX5_inside 32 = .ok (.aload_n 0, 1) := dk_42 (dk_at dksX5_inside_1 10 rfl rfl)
theorem dX5_inside_33 : decode cX5_inside 33 = .ok (.iload 4, 2) := dk_21 4 (dk_at dksX5_inside_1 11 rfl rfl)
theorem dX5_inside_35 : decode cX5_inside 35 = .ok (.invokevirtual 125, 3) := dk_182 0 125 (dk_at dksX5_inside_1 13 rfl rfl)
theorem dX5_inside_38 : decode cX5_inside 38 = .ok (.ifCond .eq 17, 3) := dk_153 0 17 (dk_at dksX5_inside_1 16 rfl rfl)
theorem dX5_inside_41 : decode cX5_inside 41 = .ok (.aload_n 0, 1) := dk_42 (dk_at dksX5_inside_1 19 rfl rfl)
theorem dX5_inside_42 : decode cX5_inside 42 = .ok (.iload 4, 2) := dk_21 4 (dk_at dksX5_inside_1 20 rfl rfl)
theorem dX5_inside_44 : decode cX5_inside 44 = .ok (.iload_n 2, 1) := dk_28 (dk_at dksX5_inside_1 22 rfl rfl)
theorem dX5_inside_45 : decode cX5_inside 45 = .ok (.invokevirtual 196, 3) := dk_182 0 196 (dk_at dksX5_inside_2 0 rfl rfl)
theorem dX5_inside_48 : decode cX5_inside 48 = .ok (.ifCond .eq 7, 3) := dk_153 0 7 (dk_at dksX5_inside_2 3 rfl rfl)
theorem dX5_inside_51 : decode cX5_inside 51 = .ok (.iconst 1, 1) := dk_4 (dk_at dksX5_inside_2 6 rfl rfl)
theorem dX5_inside_52 : decode cX5_inside 52 = .ok (.goto 4, 3) := dk_167 0 4 (dk_at dksX5_inside_2 7 rfl rfl)
theorem dX5_inside_55 : decode cX5_inside 55 = .ok (.iconst 0, 1) := dk_3 (dk_at dksX5_inside_2 10 rfl rfl)
theorem dX5_inside_56 : decode cX5_inside 56 = .ok (.iadd, 1) := dk_96 (dk_at dksX5_inside_2 11 rfl rfl)
theorem dX5_inside_57 : decode cX5_inside 57 = .ok (.istore_n 3, 1) := dk_62 (dk_at dksX5_inside_2 12 rfl rfl)
theorem dX5_inside_58 : decode cX5_inside 58 = .ok (.iinc 4 1, 3) := dk_132 4 1 (dk_at dksX5_inside_2 13 rfl rfl)
theorem dX5_inside_61 : decode cX5_inside 61 = .ok (.goto (-45), 3) := dk_167 255 211 (dk_at dksX5_inside_2 16 rfl rfl)
theorem dX5_inside_64 : decode cX5_inside 64 = .ok (.iload_n 3, 1) := dk_29 (dk_at dksX5_inside_2 19 rfl rfl)
theorem dX5_inside_65 : decode cX5_inside 65 = .ok (.ireturn, 1) := dk_172 (dk_at dksX5_inside_2 20 rfl rfl)
abbrev rm_X5_inside : Room := { frames := 5, cells := 0, slots := 0, locals := 109 }
def w_X5_inside_16 (P : Int32 → AH → Prop) (x0 : Option Nat) (x2 : Int32) (x3 : Int32) (x4 : Int32) (h : AH) : Prop :=
  ∀ Z16 : Int32 → Int32 → AH → Prop, (∀ x3 x4 h, (
      g_i h x0 4 8 fun y19 =>
      ((y19 ≤ x4 →
        P x3 h) ∧
       (¬ y19 ≤ x4 →
        ((x4 = x2 →
          Z16 (x3 + 0) (x4 + 1) h) ∧
         (¬ x4 = x2 →
          is_c h x0 [4] (
          w_X5_isSeen x0 x4 h (fun y35 h35 =>
          ((y35 = 0 →
            Z16 (x3 + 0) (x4 + 1) h35) ∧
           (¬ y35 = 0 →
            is_c h35 x0 [4] (
            w_X5_isInside x0 x4 x2 h35 (fun y45 h45 =>
            ((y45 = 0 →
              Z16 (x3 + 0) (x4 + 1) h45) ∧
             (¬ y45 = 0 →
              Z16 (x3 + 1) (x4 + 1) h45)))))))))))))
      → Z16 x3 x4 h) → Z16 x3 x4 h
def w_X5_inside (a0 : Option Nat) (a1 : Int32) (a2 : Int32) (h : AH) (P : Int32 → AH → Prop) : Prop :=
  is_c h a0 [4] (
  w_X5_isUnseen a0 a1 a2 h (fun y3 h3 =>
  ((y3 = 0 →
    w_X5_inside_16 P a0 a2 0 0 h3) ∧
   (¬ y3 = 0 →
    P 0 h3))))
theorem wk_X5_inside_16 {x : CX} (X : Ok x cX5_inside RX5 rm_X5_inside 5) (er : xrt x = (Option.some Jvm.ClassFile.FieldType.int)) (en : xnm x = yX5_inside.name) {P : Int32 → AH → Prop} (hQ : xr_i x P) (x0 : Option Nat) (x2 : Int32) (x3 : Int32) (x4 : Int32) (h : AH) (hw : w_X5_inside_16 P x0 x2 x3 x4 h) : J x h 0 0 16 [(0, vR x0), (2, vI x2), (3, vI x3), (4, vI x4)] [] := by
  refine hw (fun x3 x4 h => J x h 0 0 16 [(0, vR x0), (2, vI x2), (3, vI x3), (4, vI x4)] []) (fun x3 x4 h hw => ?_)
  refine j_iload X (pc := 16) 3 dX5_inside_16 rfl ?_
  refine j_aload_n X (pc := 18) 0 dX5_inside_18 rfl rfl ?_
  refine j_geti (ci := 4) X (pc := 19) in_X5 rfl (by decide) 8 (by decide) q1880 (Or.inl rfl) dX5_inside_19 hw (fun y19 hw => ?_)
  refine j_icmp_ge X (pc := 22) 64 dX5_inside_22 (by decide) hw (fun hw => ?_) (fun hw => ?_)
  · refine j_iload_n X (pc := 64) 2 dX5_inside_64 rfl rfl ?_
    exact j_iret X (pc := 65) hQ er (Nat.le_of_ble_eq_true rfl) (Nat.le_of_ble_eq_true rfl) dX5_inside_65 hw
  · refine j_iload_n X (pc := 25) 2 dX5_inside_25 rfl rfl ?_
    refine j_iload X (pc := 26) 3 dX5_inside_26 rfl ?_
    refine j_iload_n X (pc := 28) 1 dX5_inside_28 rfl rfl ?_
    refine j_icmp_eq X (pc := 29) 55 dX5_inside_29 (by decide) hw (fun hw => ?_) (fun hw => ?_)
    · refine j_iconst X (pc := 55) 0 dX5_inside_55 (by decide) ?_
      refine j_iadd X (pc := 56) dX5_inside_56 ?_
      refine j_istore_n X (pc := 57) [(3, vI (x3 + 0)), (0, vR x0), (2, vI x2), (4, vI x4)] dX5_inside_57 rfl (Nat.le_of_ble_eq_true rfl) rfl ?_
      refine j_iinc X (pc := 58) 3 (x4 + 1) [(4, vI (x4 + 1)), (3, vI (x3 + 0)), (0, vR x0), (2, vI x2)] dX5_inside_58 rfl rfl (Nat.le_of_ble_eq_true rfl) rfl ?_
      refine j_goto X (pc := 61) 16 dX5_inside_61 (by decide) ?_
      refine j_lv [(0, vR x0), (2, vI x2), (3, vI (x3 + 0)), (4, vI (x4 + 1))] [2, 3, 1, 0] rfl ?_
      refine j_cs (u' := 0) (v' := 0) (Nat.le_of_ble_eq_true rfl) (Nat.le_of_ble_eq_true rfl) ?_
      exact hw
    · refine j_aload_n X (pc := 32) 0 dX5_inside_32 rfl rfl ?_
      refine j_iload X (pc := 33) 3 dX5_inside_33 rfl ?_
      obtain ⟨b9, c9, f9, hr9, ho9, hc9, hw⟩ := hw
      obtain rfl := List.mem_singleton.mp hc9
      refine j_calli (j_runV (n8 := 1) (As := [vI x4]) (rest := [vI x3]) X (pc := 35) hr9 (met_X5_isSeen (xl x) X.hl (xG x) h x0 x4 _ hw) ho9 (by decide) rfl q2012 q2014 qs39 q78 q2015 (by decide +kernel) dX5_inside_35 rfl ⟨Nat.le_of_ble_eq_true rfl, Nat.le_of_ble_eq_true rfl⟩ (Nat.le_of_ble_eq_true rfl) ⟨Nat.le_of_ble_eq_true rfl, Nat.le_of_ble_eq_true rfl⟩) (fun y35 h35 hw => ?_)
      refine j_if_eq X (pc := 38) 55 dX5_inside_38 (by decide) hw (fun hw => ?_) (fun hw => ?_)
      · refine j_iconst X (pc := 55) 0 dX5_inside_55 (by decide) ?_
        refine j_iadd X (pc := 56) dX5_inside_56 ?_
        refine j_istore_n X (pc := 57) [(3, vI (x3 + 0)), (0, vR x0), (2, vI x2), (4, vI x4)] dX5_inside_57 rfl (Nat.le_of_ble_eq_true rfl) rfl ?_
        refine j_iinc X (pc := 58) 3 (x4 + 1) [(4, vI (x4 + 1)), (3, vI (x3 + 0)), (0, vR x0), (2, vI x2)] dX5_inside_58 rfl rfl (Nat.le_of_ble_eq_true rfl) rfl ?_
        refine j_goto X (pc := 61) 16 dX5_inside_61 (by decide) ?_
        refine j_lv [(0, vR x0), (2, vI x2), (3, vI (x3 + 0)), (4, vI (x4 + 1))] [2, 3, 1, 0] rfl ?_
        refine j_cs (u' := 0) (v' := 0) (Nat.le_of_ble_eq_true rfl) (Nat.le_of_ble_eq_true rfl) ?_
        exact hw
      · refine j_aload_n X (pc := 41) 0 dX5_inside_41 rfl rfl ?_
        refine j_iload X (pc := 42) 3 dX5_inside_42 rfl ?_
        refine j_iload_n X (pc := 44) 1 dX5_inside_44 rfl rfl ?_
        obtain ⟨b9, c9, f9, hr9, ho9, hc9, hw⟩ := hw
        obtain rfl := List.mem_singleton.mp hc9
        refine j_calli (j_runV (n8 := 2) (As := [vI x4, vI x2]) (rest := [vI x3]) X (pc := 45) hr9 (met_X5_isInside (xl x) X.hl (xG x) h35 x0 x4 x2 _ hw) ho9 (by decide) rfl q2055 q2057 qs48 q78 q2058 (by decide +kernel) dX5_inside_45 rfl ⟨Nat.le_of_ble_eq_true rfl, Nat.le_of_ble_eq_true rfl⟩ (Nat.le_of_ble_eq_true rfl) ⟨Nat.le_of_ble_eq_true rfl, Nat.le_of_ble_eq_true rfl⟩) (fun y45 h45 hw => ?_)
        refine j_if_eq X (pc := 48) 55 dX5_inside_48 (by decide) hw (fun hw => ?_) (fun hw => ?_)
        · refine j_iconst X (pc := 55) 0 dX5_inside_55 (by decide) ?_
          refine j_iadd X (pc := 56) dX5_inside_56 ?_
          refine j_istore_n X (pc := 57) [(3, vI (x3 + 0)), (0, vR x0), (2, vI x2), (4, vI x4)] dX5_inside_57 rfl (Nat.le_of_ble_eq_true rfl) rfl ?_
          refine j_iinc X (pc := 58) 3 (x4 + 1) [(4, vI (x4 + 1)), (3, vI (x3 + 0)), (0, vR x0), (2, vI x2)] dX5_inside_58 rfl rfl (Nat.le_of_ble_eq_true rfl) rfl ?_
          refine j_goto X (pc := 61) 16 dX5_inside_61 (by decide) ?_
          refine j_lv [(0, vR x0), (2, vI x2), (3, vI (x3 + 0)), (4, vI (x4 + 1))] [2, 3, 1, 0] rfl ?_
          refine j_cs (u' := 0) (v' := 0) (Nat.le_of_ble_eq_true rfl) (Nat.le_of_ble_eq_true rfl) ?_
          exact hw
        · refine j_iconst X (pc := 51) 1 dX5_inside_51 (by decide) ?_
          refine j_goto X (pc := 52) 56 dX5_inside_52 (by decide) ?_
          refine j_iadd X (pc := 56) dX5_inside_56 ?_
          refine j_istore_n X (pc := 57) [(3, vI (x3 + 1)), (0, vR x0), (2, vI x2), (4, vI x4)] dX5_inside_57 rfl (Nat.le_of_ble_eq_true rfl) rfl ?_
          refine j_iinc X (pc := 58) 3 (x4 + 1) [(4, vI (x4 + 1)), (3, vI (x3 + 1)), (0, vR x0), (2, vI x2)] dX5_inside_58 rfl rfl (Nat.le_of_ble_eq_true rfl) rfl ?_
          refine j_goto X (pc := 61) 16 dX5_inside_61 (by decide) ?_
          refine j_lv [(0, vR x0), (2, vI x2), (3, vI (x3 + 1)), (4, vI (x4 + 1))] [2, 3, 1, 0] rfl ?_
          refine j_cs (u' := 0) (v' := 0) (Nat.le_of_ble_eq_true rfl) (Nat.le_of_ble_eq_true rfl) ?_
          exact hw
theorem met_X5_inside (l : Launch) (hlt : l.stackTraces = false) (G : GG) (h : AH) (a0 : Option Nat) (a1 : Int32) (a2 : Int32) (P : Int32 → AH → Prop) (hw : w_X5_inside a0 a1 a2 h P) : ct_i l yX5_inside (ws_ yX5_inside cX5_inside 5 (Option.some Jvm.ClassFile.FieldType.int)) rm_X5_inside G h [vR a0, vI a1, vI a2] P := by
  refine j_starti hlt [(0, vR a0), (1, vI a1), (2, vI a2)] (plainFor_of_name (by decide)) rfl rfl (fun x X eG er en hQ => ?_)
  subst eG
  refine j_aload_n X (pc := 0) 0 dX5_inside_0 rfl rfl ?_
  refine j_iload_n X (pc := 1) 1 dX5_inside_1 rfl rfl ?_
  refine j_iload_n X (pc := 2) 2 dX5_inside_2 rfl rfl ?_
  obtain ⟨b9, c9, f9, hr9, ho9, hc9, hw⟩ := hw
  obtain rfl := List.mem_singleton.mp hc9
  refine j_calli (j_runV (n8 := 2) (As := [vI a1, vI a2]) (rest := []) X (pc := 3) hr9 (met_X5_isUnseen (xl x) X.hl (xG x) h a0 a1 a2 _ hw) ho9 (by decide) rfl q2182 q2184 qs59 q78 q2185 (by decide +kernel) dX5_inside_3 rfl ⟨Nat.le_of_ble_eq_true rfl, Nat.le_of_ble_eq_true rfl⟩ (Nat.le_of_ble_eq_true rfl) ⟨Nat.le_of_ble_eq_true rfl, Nat.le_of_ble_eq_true rfl⟩) (fun y3 h3 hw => ?_)
  refine j_if_eq X (pc := 6) 11 dX5_inside_6 (by decide) hw (fun hw => ?_) (fun hw => ?_)
  · refine j_iconst X (pc := 11) 0 dX5_inside_11 (by decide) ?_
    refine j_istore_n X (pc := 12) [(3, vI 0), (0, vR a0), (1, vI a1), (2, vI a2)] dX5_inside_12 rfl (Nat.le_of_ble_eq_true rfl) rfl ?_
    refine j_iconst X (pc := 13) 0 dX5_inside_13 (by decide) ?_
    refine j_istore X (pc := 14) [(4, vI 0), (3, vI 0), (0, vR a0), (1, vI a1), (2, vI a2)] dX5_inside_14 (Nat.le_of_ble_eq_true rfl) rfl ?_
    refine j_lv [(0, vR a0), (2, vI a2), (3, vI 0), (4, vI 0)] [2, 4, 1, 0] rfl ?_
    refine j_cs (u' := 0) (v' := 0) (Nat.le_of_ble_eq_true rfl) (Nat.le_of_ble_eq_true rfl) ?_
    exact wk_X5_inside_16 X er en hQ a0 a2 0 0 h3 hw
  · refine j_iconst X (pc := 9) 0 dX5_inside_9 (by decide) ?_
    exact j_iret X (pc := 10) hQ er (Nat.le_of_ble_eq_true rfl) (Nat.le_of_ble_eq_true rfl) dX5_inside_10 hw
abbrev cX1_connectors : ByteArray := prog_1_method_60_code
def yX1_connectors : MethodName := ⟨RX1, "connectors", "(I)I"⟩
def dkwX1_connectors_0 : List UInt8 := [42, 42, 27, 182, 0, 199, 182, 1, 52, 172]
abbrev dktX1_connectors_0 : List UInt8 := dkwX1_connectors_0 ++ []
theorem dksX1_connectors_0 : cX1_connectors.data.toList.drop 0 = dktX1_connectors_0 := by decide +kernel
theorem dX1_connectors_0 : decode cX1_connectors 0 = .ok (.aload_n 0, 1) := dk_42 (dk_at dksX1_connectors_0 0 rfl rfl)
theorem dX1_connectors_1 : decode cX1_connectors 1 = .ok (.aload_n 0, 1) := dk_42 (dk_at dksX1_connectors_0 1 rfl rfl)
theorem dX1_connectors_2 : decode cX1_connectors 2 = .ok (.iload_n 1, 1) := dk_27 (dk_at dksX1_connectors_0 2 rfl rfl)
theorem dX1_connectors_3 : decode cX1_connectors 3 = .ok (.invokevirtual 199, 3) := dk_182 0 199 (dk_at dksX1_connectors_0 3 rfl rfl)
theorem dX1_connectors_6 : decode cX1_connectors 6 = .ok (.invokevirtual 308, 3) := dk_182 1 52 (dk_at dksX1_connectors_0 6 rfl rfl)
theorem dX1_connectors_9 : decode cX1_connectors 9 = .ok (.ireturn, 1) := dk_172 (dk_at dksX1_connectors_0 9 rfl rfl)
abbrev rm_X1_connectors : Room := { frames := 9, cells := 2, slots := 7, locals := 146 }
def w_X1_connectors (a0 : Option Nat) (a1 : Int32) (h : AH) (P : Int32 → AH → Prop) (PX : String → AH → Prop) : Prop :=
  is_c h a0 [0] (
  w_X1_board a0 a1 h (fun y3 h3 =>
  is_c h3 a0 [0] (
  w_X1_countConnectors a0 y3 h3 (fun y6 h6 =>
  P y6 h6))) PX)
theorem met_X1_connectors (l : Launch) (hlt : l.stackTraces = false) (G : GG) (h : AH) (a0 : Option Nat) (a1 : Int32) (P : Int32 → AH → Prop) (PX : String → AH → Prop) (hw : w_X1_connectors a0 a1 h P PX) : cx_i l yX1_connectors (ws_ yX1_connectors cX1_connectors 2 (Option.some Jvm.ClassFile.FieldType.int)) rm_X1_connectors G h [vR a0, vI a1] P PX := by
  refine j_startXi hlt [(0, vR a0), (1, vI a1)] (by decide) rfl rfl (fun x X eG er en hQ hT hex => ?_)
  subst eG
  refine j_aload_n X (pc := 0) 0 dX1_connectors_0 rfl rfl ?_
  refine j_aload_n X (pc := 1) 0 dX1_connectors_1 rfl rfl ?_
  refine j_iload_n X (pc := 2) 1 dX1_connectors_2 rfl rfl ?_
  obtain ⟨b9, c9, f9, hr9, ho9, hc9, hw⟩ := hw
  obtain rfl := List.mem_singleton.mp hc9
  refine j_callXq (j_runVX (n8 := 1) (As := [vI a1]) (rest := [vR a0]) X (pc := 3) hr9 (met_X1_board (xl x) X.hl (xG x) h a0 a1 _ _ hw) ho9 (by decide) rfl q297 q299 qs0 q71 q300 (by decide +kernel) dX1_connectors_3 rfl ⟨Nat.le_of_ble_eq_true rfl, Nat.le_of_ble_eq_true rfl⟩ (Nat.le_of_ble_eq_true rfl) ⟨Nat.le_of_ble_eq_true rfl, Nat.le_of_ble_eq_true rfl⟩) (fun E h9 hx => j_out X hT hex (Nat.le_of_ble_eq_true rfl) (Nat.le_of_ble_eq_true rfl) hx) (fun y3 h3 hw => ?_)
  obtain ⟨b9, c9, f9, hr9, ho9, hc9, hw⟩ := hw
  obtain rfl := List.mem_singleton.mp hc9
  refine j_calli (j_runV (n8 := 1) (As := [vR y3]) (rest := []) X (pc := 6) hr9 (met_X1_countConnectors (xl x) X.hl (xG x) h3 a0 y3 _ hw) ho9 (by decide) rfl q1318 q1320 qs15 q71 q1321 (by decide +kernel) dX1_connectors_6 rfl ⟨Nat.le_of_ble_eq_true rfl, Nat.le_of_ble_eq_true rfl⟩ (Nat.le_of_ble_eq_true rfl) ⟨Nat.le_of_ble_eq_true rfl, Nat.le_of_ble_eq_true rfl⟩) (fun y6 h6 hw => ?_)
  exact j_iret X (pc := 9) hQ er (Nat.le_of_ble_eq_true rfl) (Nat.le_of_ble_eq_true rfl) dX1_connectors_9 hw
abbrev cX0_connectors : ByteArray := method_33_code
def yX0_connectors : MethodName := ⟨RX0, "connectors", "(LPlugboard;I[J)I"⟩
def dkwX0_connectors_0 : List UInt8 := [44, 3, 42, 27, 182, 0, 118, 133, 80, 167, 0, 6, 78, 4, 172, 3, 172]
abbrev dktX0_connectors_0 : List UInt8 := dkwX0_connectors_0 ++ []
theorem dksX0_connectors_0 : cX0_connectors.data.toList.drop 0 = dktX0_connectors_0 := by decide +kernel
theorem dX0_connectors_0 : decode cX0_connectors 0 = .ok (.aload_n 2, 1) := dk_44 (dk_at dksX0_connectors_0 0 rfl rfl)
theorem dX0_connectors_1 : decode cX0_connectors 1 = .ok (.iconst 0, 1) := dk_3 (dk_at dksX0_connectors_0 1 rfl rfl)
theorem dX0_connectors_2 : decode cX0_connectors 2 = .ok (.aload_n 0, 1) := dk_42 (dk_at dksX0_connectors_0 2 rfl rfl)
theorem dX0_connectors_3 : decode cX0_connectors 3 = .ok (.iload_n 1, 1) := dk_27 (dk_at dksX0_connectors_0 3 rfl rfl)
theorem dX0_connectors_4 : decode cX0_connectors 4 = .ok (.invokevirtual 118, 3) := dk_182 0 118 (dk_at dksX0_connectors_0 4 rfl rfl)
theorem dX0_connectors_7 : decode cX0_connectors 7 = .ok (.i2l, 1) := dk_133 (dk_at dksX0_connectors_0 7 rfl rfl)
theorem dX0_connectors_8 : decode cX0_connectors 8 = .ok (.lastore, 1) := dk_80 (dk_at dksX0_connectors_0 8 rfl rfl)
theorem dX0_connectors_9 : decode cX0_connectors 9 = .ok (.goto 6, 3) := dk_167 0 6 (dk_at dksX0_connectors_0 9 rfl rfl)
theorem dX0_connectors_12 : decode cX0_connectors 12 = .ok (.astore_n 3, 1) := dk_78 (dk_at dksX0_connectors_0 12 rfl rfl)
theorem dX0_connectors_13 : decode cX0_connectors 13 = .ok (.iconst 1, 1) := dk_4 (dk_at dksX0_connectors_0 13 rfl rfl)
theorem dX0_connectors_14 : decode cX0_connectors 14 = .ok (.ireturn, 1) := dk_172 (dk_at dksX0_connectors_0 14 rfl rfl)
theorem dX0_connectors_15 : decode cX0_connectors 15 = .ok (.iconst 0, 1) := dk_3 (dk_at dksX0_connectors_0 15 rfl rfl)
theorem dX0_connectors_16 : decode cX0_connectors 16 = .ok (.ireturn, 1) := dk_172 (dk_at dksX0_connectors_0 16 rfl rfl)
theorem q1516 : (Jvm.Cond.methodLink "PlugboardLaw" (118 : Nat) ({ cls := "Plugboard", name := "connectors", desc := "(I)I" } : Jvm.MethodName)) ∈ lw_all := lw_g (lw_at lw_m7 6 rfl) rfl
theorem q1517 : (Jvm.Cond.instanceMethod ({ cls := "Plugboard", name := "connectors", desc := "(I)I" } : Jvm.MethodName)) ∈ lw_all := lw_g (lw_at lw_m7 7 rfl) rfl
theorem q1518 : (Jvm.Cond.selects "Plugboard" ({ cls := "Plugboard", name := "connectors", desc := "(I)I" } : Jvm.MethodName) ({ cls := "Plugboard", name := "connectors", desc := "(I)I" } : Jvm.MethodName)) ∈ lw_all := lw_g (lw_at lw_m7 8 rfl) rfl
theorem q1519 : (Jvm.Cond.code ({ cls := "Plugboard", name := "connectors", desc := "(I)I" } : Jvm.MethodName) prog_1_method_60_code (2 : Nat) (Option.some Jvm.ClassFile.FieldType.int)) ∈ lw_all := lw_g (lw_at lw_m7 9 rfl) rfl
abbrev rm_X0_connectors : Room := { frames := 10, cells := 2, slots := 7, locals := 167 }
def w_X0_connectors (a0 : Option Nat) (a1 : Int32) (a2 : Option Nat) (h : AH) (P : Int32 → AH → Prop) : Prop :=
  is_c h a0 [0] (
  w_X1_connectors a0 a1 h (fun y4 h4 =>
  s_L h4 a2 0 (Int32.toInt64 y4) fun h8 =>
  P 0 h8)
    (fun E9 h9 => (E9 = "java/lang/IllegalArgumentException" ∧ ∀ q9 : Nat,
    P 1 h9)))
theorem met_X0_connectors (l : Launch) (hlt : l.stackTraces = false) (G : GG) (h : AH) (a0 : Option Nat) (a1 : Int32) (a2 : Option Nat) (P : Int32 → AH → Prop) (hw : w_X0_connectors a0 a1 a2 h P) : ct_i l yX0_connectors (wsW_ yX0_connectors cX0_connectors 4 (Option.some Jvm.ClassFile.FieldType.int) [((0 : Nat), (9 : Nat), (12 : Nat), (13 : Nat))]) rm_X0_connectors G h [vR a0, vI a1, vR a2] P := by
  refine j_startWi hlt [(0, vR a0), (1, vI a1), (2, vR a2)] (by decide) rfl rfl (fun x X eG er en hQ hex => ?_)
  subst eG
  refine j_aload_n X (pc := 0) 2 dX0_connectors_0 rfl rfl ?_
  refine j_iconst X (pc := 1) 0 dX0_connectors_1 (by decide) ?_
  refine j_aload_n X (pc := 2) 0 dX0_connectors_2 rfl rfl ?_
  refine j_iload_n X (pc := 3) 1 dX0_connectors_3 rfl rfl ?_
  obtain ⟨b9, c9, f9, hr9, ho9, hc9, hw⟩ := hw
  obtain rfl := List.mem_singleton.mp hc9
  refine j_callXi (j_runVX (n8 := 1) (As := [vI a1]) (rest := [vI 0, vR a2]) X (pc := 4) hr9 (met_X1_connectors (xl x) X.hl (xG x) h a0 a1 _ _ hw) ho9 (by decide) rfl q1516 q1517 q1518 q71 q1519 (by decide +kernel) dX0_connectors_4 rfl ⟨Nat.le_of_ble_eq_true rfl, Nat.le_of_ble_eq_true rfl⟩ (Nat.le_of_ble_eq_true rfl) ⟨Nat.le_of_ble_eq_true rfl, Nat.le_of_ble_eq_true rfl⟩) ?_ (fun y4 h4 hw => ?_)
  · intro E9 h9 hx
    obtain ⟨rfl, hw⟩ := hx
    refine j_catch X (pc := 4) "java/lang/IllegalArgumentException" hex [] [] ⟨0, 9, 12, 13⟩ rfl (by intro y hy; cases hy) (by decide) (by decide) q291 q312 (fun q9 => ?_)
    have hw := hw q9
    refine j_astore_n X (pc := 12) [(3, vR (some q9)), (0, vR a0), (1, vI a1), (2, vR a2)] dX0_connectors_12 rfl (Nat.le_of_ble_eq_true rfl) rfl ?_
    refine j_iconst X (pc := 13) 1 dX0_connectors_13 (by decide) ?_
    exact j_iret X (pc := 14) hQ er (Nat.le_of_ble_eq_true rfl) (Nat.le_of_ble_eq_true rfl) dX0_connectors_14 hw
  refine j_i2l X (pc := 7) dX0_connectors_7 ?_
  refine j_last X (pc := 8) dX0_connectors_8 hw (fun h8 hw => ?_)
  refine j_goto X (pc := 9) 15 dX0_connectors_9 (by decide) ?_
  refine j_iconst X (pc := 15) 0 dX0_connectors_15 (by decide) ?_
  exact j_iret X (pc := 16) hQ er (Nat.le_of_ble_eq_true rfl) (Nat.le_of_ble_eq_true rfl) dX0_connectors_16 hw
abbrev cX5_connectors : ByteArray := prog_19_method_66_code
def yX5_connectors : MethodName := ⟨RX5, "connectors", "(I)I"⟩
def dkwX5_connectors_0 : List UInt8 := [42, 27, 182, 0, 228, 153, 0, 7, 3, 167, 0, 7, 42, 182, 0, 216, 172]
abbrev dktX5_connectors_0 : List UInt8 := dkwX5_connectors_0 ++ []
theorem dksX5_connectors_0 : cX5_connectors.data.toList.drop 0 = dktX5_connectors_0 := by decide +kernel
theorem dX5_connectors_0 : decode cX5_connectors 0 = .ok (.aload_n 0, 1) := dk_42 (dk_at dksX5_connectors_0 0 rfl rfl)
theorem dX5_connectors_1 : decode cX5_connectors 1 = .ok (.iload_n 1, 1) := dk_27 (dk_at dksX5_connectors_0 1 rfl rfl)
theorem dX5_connectors_2 : decode cX5_connectors 2 = .ok (.invokevirtual 228, 3) := dk_182 0 228 (dk_at dksX5_connectors_0 2 rfl rfl)
theorem dX5_connectors_5 : decode cX5_connectors 5 = .ok (.ifCond .eq 7, 3) := dk_153 0 7 (dk_at dksX5_connectors_0 5 rfl rfl)
theorem dX5_connectors_8 : decode cX5_connectors 8 = .ok (.iconst 0, 1) := dk_3 (dk_at dksX5_connectors_0 8 rfl rfl)
theorem dX5_connectors_9 : decode cX5_connectors 9 = .ok (.goto 7, 3) := dk_167 0 7 (dk_at dksX5_connectors_0 9 rfl rfl)
theorem dX5_connectors_12 : decode cX5_connectors 12 = .ok (.aload_n 0, 1) := dk_42 (dk_at dksX5_connectors_0 12 rfl rfl)
theorem dX5_connectors_13 : decode cX5_connectors 13 = .ok (.invokevirtual 216, 3) := dk_182 0 216 (dk_at dksX5_connectors_0 13 rfl rfl)
theorem dX5_connectors_16 : decode cX5_connectors 16 = .ok (.ireturn, 1) := dk_172 (dk_at dksX5_connectors_0 16 rfl rfl)
abbrev rm_X5_connectors : Room := { frames := 4, cells := 0, slots := 0, locals := 87 }
def w_X5_connectors (a0 : Option Nat) (a1 : Int32) (h : AH) (P : Int32 → AH → Prop) : Prop :=
  is_c h a0 [4] (
  w_X5_isNobody a0 a1 h (fun y2 h2 =>
  ((y2 = 0 →
    is_c h2 a0 [4] (
    w_X5_joinedMany a0 h2 (fun y13 h13 =>
    P y13 h13))) ∧
   (¬ y2 = 0 →
    P 0 h2))))
theorem met_X5_connectors (l : Launch) (hlt : l.stackTraces = false) (G : GG) (h : AH) (a0 : Option Nat) (a1 : Int32) (P : Int32 → AH → Prop) (hw : w_X5_connectors a0 a1 h P) : ct_i l yX5_connectors (ws_ yX5_connectors cX5_connectors 2 (Option.some Jvm.ClassFile.FieldType.int)) rm_X5_connectors G h [vR a0, vI a1] P := by
  refine j_starti hlt [(0, vR a0), (1, vI a1)] (plainFor_of_name (by decide)) rfl rfl (fun x X eG er en hQ => ?_)
  subst eG
  refine j_aload_n X (pc := 0) 0 dX5_connectors_0 rfl rfl ?_
  refine j_iload_n X (pc := 1) 1 dX5_connectors_1 rfl rfl ?_
  obtain ⟨b9, c9, f9, hr9, ho9, hc9, hw⟩ := hw
  obtain rfl := List.mem_singleton.mp hc9
  refine j_calli (j_runV (n8 := 1) (As := [vI a1]) (rest := []) X (pc := 2) hr9 (met_X5_isNobody (xl x) X.hl (xG x) h a0 a1 _ hw) ho9 (by decide) rfl q2170 q2172 qs58 q78 q2173 (by decide +kernel) dX5_connectors_2 rfl ⟨Nat.le_of_ble_eq_true rfl, Nat.le_of_ble_eq_true rfl⟩ (Nat.le_of_ble_eq_true rfl) ⟨Nat.le_of_ble_eq_true rfl, Nat.le_of_ble_eq_true rfl⟩) (fun y2 h2 hw => ?_)
  refine j_if_eq X (pc := 5) 12 dX5_connectors_5 (by decide) hw (fun hw => ?_) (fun hw => ?_)
  · refine j_aload_n X (pc := 12) 0 dX5_connectors_12 rfl rfl ?_
    obtain ⟨b9, c9, f9, hr9, ho9, hc9, hw⟩ := hw
    obtain rfl := List.mem_singleton.mp hc9
    refine j_calli (j_runV (n8 := 0) (As := []) (rest := []) X (pc := 13) hr9 (met_X5_joinedMany (xl x) X.hl (xG x) h2 a0 _ hw) ho9 (by decide) rfl q2114 q2116 qs54 q78 q2117 (by decide +kernel) dX5_connectors_13 rfl ⟨Nat.le_of_ble_eq_true rfl, Nat.le_of_ble_eq_true rfl⟩ (Nat.le_of_ble_eq_true rfl) ⟨Nat.le_of_ble_eq_true rfl, Nat.le_of_ble_eq_true rfl⟩) (fun y13 h13 hw => ?_)
    exact j_iret X (pc := 16) hQ er (Nat.le_of_ble_eq_true rfl) (Nat.le_of_ble_eq_true rfl) dX5_connectors_16 hw
  · refine j_iconst X (pc := 8) 0 dX5_connectors_8 (by decide) ?_
    refine j_goto X (pc := 9) 16 dX5_connectors_9 (by decide) ?_
    exact j_iret X (pc := 16) hQ er (Nat.le_of_ble_eq_true rfl) (Nat.le_of_ble_eq_true rfl) dX5_connectors_16 hw
